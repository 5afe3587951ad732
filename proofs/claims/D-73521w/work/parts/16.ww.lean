set_option maxRecDepth 100000
theorem gW_X2_111_0 {l : Launch} {D : va_G} {dA : Nat → ClassId} {A : Nat → Prop} {b : Bool} {lc : Nat → Nat → Nat} {s : tt_St} {cc : ByteArray} {nl : Nat} {rt : Option FieldType} {rm : Room} {tn : tt_Tn} {Q : tt_Fin} {pc : Nat} {lv : List (Nat × Value)} {rest : List Value} {ck cn : Nat} (d : decode cc pc = .ok (.getfield 111, 3)) (kk : tt_V (XW l D dA A b) cc (RX2, nl, rt, rm, tn) Q (pc + 3) lv (.int (rdI s 0 0 17) :: rest) lc s ck cn) : tt_V (XW l D dA A b) cc (RX2, nl, rt, rm, tn) Q pc lv (.ref (lc 0 0) :: rest) lc s ck cn := v_get (p := 17) lvW_0 oW_0 rfl in_X2 (by decide) q753 (.inl rfl) rfl d kk
def fW_isLacking (s : tt_St) (x1 : Int32) : Option (Int32) :=
  if (((rdI s 0 0 17) >>> (x1 &&& 31)) &&& (1 : Int32)) = (1 : Int32) then some (1 : Int32) else some (0 : Int32)
abbrev rmW_isLacking : Room := { frames := 0, cells := 0, slots := 0, locals := 0 }
set_option maxHeartbeats 4000000 in
theorem mW_isLacking (l : Launch) (D : va_G) (dA : Nat → ClassId) (A : Nat → Prop) (b : Bool) (lc : Nat → Nat → Nat) (s : tt_St) (x1 : Int32) {Q : Option Value → (Nat → Nat → Nat) → tt_St → Prop} (h : Ok (fW_isLacking s x1) (fun r => zB r → Q (some (.int r)) lc s)) : tt_Sp (XW l D dA A b) yX2_isLacking cX2_isLacking 2 (some .boolean) rmW_isLacking [.ref (lc 0 0), .int x1] lc s Q := by
  refine tt_Sp.ofV plX2 kokW (Nat.le_of_ble_eq_true rfl) ?_
  show tt_V (XW l D dA A b) cX2_isLacking (RX2, 2, (some .boolean), rmW_isLacking, tt_nt) (tt_fn (XW l D dA A b) (RX2, 2, (some .boolean), rmW_isLacking, tt_nt) Q) 0 [(0, .ref (lc 0 0)), (1, .int x1)] [] lc s 0 0
  unfold fW_isLacking at h
  refine v_aload_n 0 dX2_isLacking_0 rfl ?_
  refine gW_X2_111_0 dX2_isLacking_1 ?_
  refine v_iload_n 1 dX2_isLacking_4 rfl ?_
  refine v_ishr dX2_isLacking_5 ?_
  refine v_iconst dX2_isLacking_6 ic_1 ?_
  refine v_iand dX2_isLacking_7 ?_
  refine v_iconst dX2_isLacking_8 ic_1 ?_
  refine v_icmp_ne (tgt := 16) dX2_isLacking_9 rfl (fun c1 => ?_) (fun c1 => ?_)
  · have h := Ok.neg h c1
    refine v_iconst dX2_isLacking_16 ic_0 ?_
    have h := Ok.ret h
    exact v_zret rfl zB_0 (Nat.zero_le _) (Nat.zero_le _) dX2_isLacking_17 (h zB_0)
  · have h := Ok.pos h c1
    refine v_iconst dX2_isLacking_12 ic_1 ?_
    refine v_goto (tgt := 17) dX2_isLacking_13 rfl ?_
    have h := Ok.ret h
    exact v_zret rfl zB_1 (Nat.zero_le _) (Nat.zero_le _) dX2_isLacking_17 (h zB_1)
theorem gW_X2_28_0 {l : Launch} {D : va_G} {dA : Nat → ClassId} {A : Nat → Prop} {b : Bool} {lc : Nat → Nat → Nat} {s : tt_St} {cc : ByteArray} {nl : Nat} {rt : Option FieldType} {rm : Room} {tn : tt_Tn} {Q : tt_Fin} {pc : Nat} {lv : List (Nat × Value)} {rest : List Value} {ck cn : Nat} (d : decode cc pc = .ok (.getfield 28, 3)) (kk : tt_V (XW l D dA A b) cc (RX2, nl, rt, rm, tn) Q (pc + 3) lv (.ref (lc 23 0) :: rest) lc s ck cn) : tt_V (XW l D dA A b) cc (RX2, nl, rt, rm, tn) Q pc lv (.ref (lc 0 0) :: rest) lc s ck cn := v_get (p := 3) lvW_0 oW_0 rfl in_X2 (by decide) q732 (.inl rfl) rfl d kk
def fW_isGap (s : tt_St) (x1 : Int32) : Option (Int32) :=
  if inB x1 12 then if (rdI s 23 0 x1.toNatClampNeg) = 0 then some (1 : Int32) else some (0 : Int32) else none
abbrev rmW_isGap : Room := { frames := 0, cells := 0, slots := 0, locals := 0 }
set_option maxHeartbeats 4000000 in
theorem mW_isGap (l : Launch) (D : va_G) (dA : Nat → ClassId) (A : Nat → Prop) (b : Bool) (lc : Nat → Nat → Nat) (s : tt_St) (x1 : Int32) {Q : Option Value → (Nat → Nat → Nat) → tt_St → Prop} (h : Ok (fW_isGap s x1) (fun r => zB r → Q (some (.int r)) lc s)) : tt_Sp (XW l D dA A b) yX2_isGap cX2_isGap 2 (some .boolean) rmW_isGap [.ref (lc 0 0), .int x1] lc s Q := by
  refine tt_Sp.ofV plX2 kokW (Nat.le_of_ble_eq_true rfl) ?_
  show tt_V (XW l D dA A b) cX2_isGap (RX2, 2, (some .boolean), rmW_isGap, tt_nt) (tt_fn (XW l D dA A b) (RX2, 2, (some .boolean), rmW_isGap, tt_nt) Q) 0 [(0, .ref (lc 0 0)), (1, .int x1)] [] lc s 0 0
  unfold fW_isGap at h
  refine v_aload_n 0 dX2_isGap_0 rfl ?_
  refine gW_X2_28_0 dX2_isGap_1 ?_
  refine v_iload_n 1 dX2_isGap_4 rfl ?_
  obtain ⟨g1, h⟩ := Ok.guard h
  refine lW_23 g1 dX2_isGap_5 ?_
  refine v_if_ne (tgt := 13) dX2_isGap_6 rfl (fun c2 => ?_) (fun c2 => ?_)
  · have h := Ok.neg h c2
    refine v_iconst dX2_isGap_13 ic_0 ?_
    have h := Ok.ret h
    exact v_zret rfl zB_0 (Nat.zero_le _) (Nat.zero_le _) dX2_isGap_14 (h zB_0)
  · have h := Ok.pos h c2
    refine v_iconst dX2_isGap_9 ic_1 ?_
    refine v_goto (tgt := 14) dX2_isGap_10 rfl ?_
    have h := Ok.ret h
    exact v_zret rfl zB_1 (Nat.zero_le _) (Nat.zero_le _) dX2_isGap_14 (h zB_1)
theorem gW_X2_11_0 {l : Launch} {D : va_G} {dA : Nat → ClassId} {A : Nat → Prop} {b : Bool} {lc : Nat → Nat → Nat} {s : tt_St} {cc : ByteArray} {nl : Nat} {rt : Option FieldType} {rm : Room} {tn : tt_Tn} {Q : tt_Fin} {pc : Nat} {lv : List (Nat × Value)} {rest : List Value} {ck cn : Nat} (d : decode cc pc = .ok (.getfield 11, 3)) (kk : tt_V (XW l D dA A b) cc (RX2, nl, rt, rm, tn) Q (pc + 3) lv (.ref (lc 1 0) :: rest) lc s ck cn) : tt_V (XW l D dA A b) cc (RX2, nl, rt, rm, tn) Q pc lv (.ref (lc 0 0) :: rest) lc s ck cn := v_get (p := 0) lvW_0 oW_0 rfl in_X2 (by decide) q726 (.inl rfl) rfl d kk
theorem pW_X6_26_2 {l : Launch} {D : va_G} {dA : Nat → ClassId} {A : Nat → Prop} {b : Bool} {lc : Nat → Nat → Nat} {s : tt_St} {cc : ByteArray} {nl : Nat} {rt : Option FieldType} {rm : Room} {tn : tt_Tn} {Q : tt_Fin} {pc : Nat} {lv : List (Nat × Value)} {rest : List Value} {ck cn : Nat} {i : Nat} (hv : i < 40) {x : Int32} (z : zB x) (zf : fits .boolean (.int x) = true) (d : decode cc pc = .ok (.putfield 26, 3)) (kk : tt_V (XW l D dA A b) cc (RX6, nl, rt, rm, tn) Q (pc + 3) lv rest lc (wrI s 2 i 10 x) ck cn) : tt_V (XW l D dA A b) cc (RX6, nl, rt, rm, tn) Q pc lv (.int x :: .ref (lc 2 i) :: rest) lc s ck cn := v_put (p := 10) (lvW_2 hv) oW_2 (uW_2_10 ..) (fun _ _ h => tt_ent_wrI eW h) (fun _ _ h => h) rfl in_X6 tyX6 tyX6_ok nmX6 (by decide) q367 (.inl rfl) rfl z zf (Nat.le_of_ble_eq_true rfl) d kk
theorem pW_X6_30_2 {l : Launch} {D : va_G} {dA : Nat → ClassId} {A : Nat → Prop} {b : Bool} {lc : Nat → Nat → Nat} {s : tt_St} {cc : ByteArray} {nl : Nat} {rt : Option FieldType} {rm : Room} {tn : tt_Tn} {Q : tt_Fin} {pc : Nat} {lv : List (Nat × Value)} {rest : List Value} {ck cn : Nat} {i : Nat} (hv : i < 40) {x : Int64} (d : decode cc pc = .ok (.putfield 30, 3)) (kk : tt_V (XW l D dA A b) cc (RX6, nl, rt, rm, tn) Q (pc + 3) lv rest lc (wrL s 2 i 9 x) ck cn) : tt_V (XW l D dA A b) cc (RX6, nl, rt, rm, tn) Q pc lv (.long x :: .ref (lc 2 i) :: rest) lc s ck cn := v_put (p := 9) (lvW_2 hv) oW_2 (uW_2_9 ..) (fun _ _ h => tt_ent_wrL eW h) (fun _ _ h => h) rfl in_X6 tyX6 tyX6_ok nmX6 (by decide) q364 (.inl rfl) rfl rfl rfl (Nat.le_of_ble_eq_true rfl) d kk
theorem pW_X6_34_2 {l : Launch} {D : va_G} {dA : Nat → ClassId} {A : Nat → Prop} {b : Bool} {lc : Nat → Nat → Nat} {s : tt_St} {cc : ByteArray} {nl : Nat} {rt : Option FieldType} {rm : Room} {tn : tt_Tn} {Q : tt_Fin} {pc : Nat} {lv : List (Nat × Value)} {rest : List Value} {ck cn : Nat} {i : Nat} (hv : i < 40) {x : Int32} (d : decode cc pc = .ok (.putfield 34, 3)) (kk : tt_V (XW l D dA A b) cc (RX6, nl, rt, rm, tn) Q (pc + 3) lv rest lc (wrI s 2 i 8 x) ck cn) : tt_V (XW l D dA A b) cc (RX6, nl, rt, rm, tn) Q pc lv (.int x :: .ref (lc 2 i) :: rest) lc s ck cn := v_put (p := 8) (lvW_2 hv) oW_2 (uW_2_8 ..) (fun _ _ h => tt_ent_wrI eW h) (fun _ _ h => h) rfl in_X6 tyX6 tyX6_ok nmX6 (by decide) q361 (.inl rfl) rfl rfl rfl (Nat.le_of_ble_eq_true rfl) d kk
def fY_begins (s : tt_St) (x0 : Nat) : Option (tt_St) :=
  nm (wrI s 2 x0 10 (0 : Int32)) fun s1 => nm (wrL s1 2 x0 9 (0 : Int64)) fun s2 => nm (wrI s2 2 x0 8 (0 : Int32)) fun s3 => some s3
abbrev rmY_begins : Room := { frames := 0, cells := 0, slots := 0, locals := 0 }
set_option maxHeartbeats 4000000 in
theorem mY_begins (l : Launch) (D : va_G) (dA : Nat → ClassId) (A : Nat → Prop) (b : Bool) (lc : Nat → Nat → Nat) (s : tt_St) (x0 : Nat) (hx0 : x0 < 40) {Q : Option Value → (Nat → Nat → Nat) → tt_St → Prop} (h : Ok (fY_begins s x0) (fun r => Q none lc r)) : tt_Sp (XW l D dA A b) yX6_begins cX6_begins 1 none rmY_begins [.ref (lc 2 x0)] lc s Q := by
  refine tt_Sp.ofV plX6 kokW (Nat.le_of_ble_eq_true rfl) ?_
  show tt_V (XW l D dA A b) cX6_begins (RX6, 1, none, rmY_begins, tt_nt) (tt_fn (XW l D dA A b) (RX6, 1, none, rmY_begins, tt_nt) Q) 0 [(0, .ref (lc 2 x0))] [] lc s 0 0
  unfold fY_begins at h
  refine v_aload_n 0 dX6_begins_0 rfl ?_
  refine v_iconst dX6_begins_1 ic_0 ?_
  refine pW_X6_26_2 hx0 zB_0 zF_0 dX6_begins_2 ?_
  refine v_nmS (fun s1 e_s1 => ?_)
  have h := Ok.nm h e_s1
  refine v_aload_n 0 dX6_begins_5 rfl ?_
  refine v_lconst dX6_begins_6 kl_0 ?_
  refine pW_X6_30_2 hx0 dX6_begins_7 ?_
  refine v_nmS (fun s2 e_s2 => ?_)
  have h := Ok.nm h e_s2
  refine v_aload_n 0 dX6_begins_10 rfl ?_
  refine v_iconst dX6_begins_11 ic_0 ?_
  refine pW_X6_34_2 hx0 dX6_begins_12 ?_
  refine v_nmS (fun s3 e_s3 => ?_)
  have h := Ok.nm h e_s3
  have h := Ok.ret h
  exact v_vret rfl (Nat.zero_le _) (Nat.zero_le _) dX6_begins_15 h
theorem cW_X2_107_2 {l : Launch} {D : va_G} {dA : Nat → ClassId} {A : Nat → Prop} {b : Bool} {lc : Nat → Nat → Nat} {s : tt_St} {cc : ByteArray} {nl : Nat} {rt : Option FieldType} {rm : Room} {tn : tt_Tn} {Q : tt_Fin} {pc : Nat} {lv : List (Nat × Value)} {rest : List Value} {ck cn : Nat} {x0 : Nat} (hx0 : x0 < 40) {K : tt_St → Prop} (h : Ok (fY_begins s x0) K) (hR : 0 + 1 ≤ rm.frames ∧ 8 + (1 + 11) + 0 ≤ rm.locals) (hW : (rest.map fun v => v.category).sum ≤ 8) (d : decode cc pc = .ok (.invokevirtual 107, 3)) (kk : ∀ r, K r → tt_V (XW l D dA A b) cc (RX2, nl, rt, rm, tn) Q (pc + 3) lv rest lc r ck cn) (hf : ck ≤ rm.cells ∧ cn ≤ rm.slots := by exact ⟨Nat.zero_le _, Nat.zero_le _⟩) : tt_V (XW l D dA A b) cc (RX2, nl, rt, rm, tn) Q pc lv (.ref (lc 2 x0) :: rest) lc s ck cn :=
  v_callV (kd := 2) (i := x0) (nA := 0) (As := []) (lvW_2 hx0) oW_2 rfl (mY_begins l D dA A b lc s x0 hx0 (Q := (fun v lc' s' => ∃ r, K r ∧ v = none ∧ lc' = lc ∧ s' = r)) (h.mono (fun r hr => ⟨r, hr, rfl, rfl, rfl⟩))) (lw_V q873 q874 q875 q139 q876) (by decide +kernel) rfl hR hW hf d rfl (fun v lc' s' q => by obtain ⟨r, hr, e1, e2, e3⟩ := q; rw [e1, e2, e3]; exact kk r hr)
theorem gW_X2_19_0 {l : Launch} {D : va_G} {dA : Nat → ClassId} {A : Nat → Prop} {b : Bool} {lc : Nat → Nat → Nat} {s : tt_St} {cc : ByteArray} {nl : Nat} {rt : Option FieldType} {rm : Room} {tn : tt_Tn} {Q : tt_Fin} {pc : Nat} {lv : List (Nat × Value)} {rest : List Value} {ck cn : Nat} (d : decode cc pc = .ok (.getfield 19, 3)) (kk : tt_V (XW l D dA A b) cc (RX2, nl, rt, rm, tn) Q (pc + 3) lv (.ref (lc 6 0) :: rest) lc s ck cn) : tt_V (XW l D dA A b) cc (RX2, nl, rt, rm, tn) Q pc lv (.ref (lc 0 0) :: rest) lc s ck cn := v_get (p := 1) lvW_0 oW_0 rfl in_X2 (by decide) q728 (.inl rfl) rfl d kk
theorem gW_X4_9_7 {l : Launch} {D : va_G} {dA : Nat → ClassId} {A : Nat → Prop} {b : Bool} {lc : Nat → Nat → Nat} {s : tt_St} {cc : ByteArray} {nl : Nat} {rt : Option FieldType} {rm : Room} {tn : tt_Tn} {Q : tt_Fin} {pc : Nat} {lv : List (Nat × Value)} {rest : List Value} {ck cn : Nat} {i : Nat} (hv : lvH b i) (d : decode cc pc = .ok (.getfield 9, 3)) (kk : tt_V (XW l D dA A b) cc (RX4, nl, rt, rm, tn) Q (pc + 3) lv (.ref (lc 8 i) :: rest) lc s ck cn) : tt_V (XW l D dA A b) cc (RX4, nl, rt, rm, tn) Q pc lv (.ref (lc 7 i) :: rest) lc s ck cn := v_get (p := 0) (lvW_7 hv) oW_7 rfl in_X7 (by decide) q311 (.inl rfl) rfl d kk
theorem gW_X4_15_7 {l : Launch} {D : va_G} {dA : Nat → ClassId} {A : Nat → Prop} {b : Bool} {lc : Nat → Nat → Nat} {s : tt_St} {cc : ByteArray} {nl : Nat} {rt : Option FieldType} {rm : Room} {tn : tt_Tn} {Q : tt_Fin} {pc : Nat} {lv : List (Nat × Value)} {rest : List Value} {ck cn : Nat} {i : Nat} (hv : lvH b i) (d : decode cc pc = .ok (.getfield 15, 3)) (kk : tt_V (XW l D dA A b) cc (RX4, nl, rt, rm, tn) Q (pc + 3) lv (.ref (lc 9 i) :: rest) lc s ck cn) : tt_V (XW l D dA A b) cc (RX4, nl, rt, rm, tn) Q pc lv (.ref (lc 7 i) :: rest) lc s ck cn := v_get (p := 1) (lvW_7 hv) oW_7 rfl in_X7 (by decide) q314 (.inl rfl) rfl d kk
def fB_begins_L23 (x0 : Nat) (a6 : Int32 × tt_St) : Option ((Int32 × tt_St) ⊕ (Int32 × tt_St)) :=
  if (7 : Int32) ≤ a6.1 then some (.inr (a6.1, a6.2)) else if inB a6.1 7 then nm (wrL a6.2 9 x0 a6.1.toNatClampNeg (0 : Int64)) fun s10 => some (.inl ((a6.1 + 1 : Int32), s10)) else none
def fB_begins_L2 (x0 : Nat) (a1 : Int32 × tt_St) : Option ((Int32 × tt_St) ⊕ (Int32 × tt_St)) :=
  if (10 : Int32) ≤ a1.1 then some (.inr (a1.1, a1.2)) else if inB a1.1 10 then nm (wrL a1.2 8 x0 a1.1.toNatClampNeg (0 : Int64)) fun s5 => some (.inl ((a1.1 + 1 : Int32), s5)) else none
def fB_begins (s : tt_St) (x0 : Nat) : Option (tt_St) :=
  (itr (fB_begins_L2 x0) tt_fuel ((0 : Int32), s)).bind fun b2 => (itr (fB_begins_L23 x0) tt_fuel ((0 : Int32), b2.2)).bind fun b7 => some b7.2
abbrev rmB_begins_7 : Room := { frames := 0, cells := 0, slots := 0, locals := 0 }
set_option maxHeartbeats 4000000 in
theorem mB_begins_7 (l : Launch) (D : va_G) (dA : Nat → ClassId) (A : Nat → Prop) (b : Bool) (lc : Nat → Nat → Nat) (s : tt_St) (x0 : Nat) (hx0 : lvH b x0) {Q : Option Value → (Nat → Nat → Nat) → tt_St → Prop} (h : Ok (fB_begins s x0) (fun r => Q none lc r)) : tt_Sp (XW l D dA A b) yX4_begins cX4_begins 2 none rmB_begins_7 [.ref (lc 7 x0)] lc s Q := by
  refine tt_Sp.ofV plX4 kokW (Nat.le_of_ble_eq_true rfl) ?_
  show tt_V (XW l D dA A b) cX4_begins (RX4, 2, none, rmB_begins_7, tt_nt) (tt_fn (XW l D dA A b) (RX4, 2, none, rmB_begins_7, tt_nt) Q) 0 [(0, .ref (lc 7 x0))] [] lc s 0 0
  unfold fB_begins at h
  refine v_iconst dX4_begins_0 ic_0 ?_
  refine v_istore_n [(1, .int (0 : Int32)), (0, .ref (lc 7 x0))] dX4_begins_1 (Nat.le_of_ble_eq_true rfl) rfl ?_
  refine v_sub [1, 0] rfl ?_
  refine itr_loop (P := fun a1 : Int32 × tt_St => tt_V (XW l D dA A b) cX4_begins (RX4, 2, none, rmB_begins_7, tt_nt) (tt_fn (XW l D dA A b) (RX4, 2, none, rmB_begins_7, tt_nt) Q) 2 [(0, .ref (lc 7 x0)), (1, .int a1.1)] [] lc a1.2 0 0) (PE := fun b2 : Int32 × tt_St => tt_V (XW l D dA A b) cX4_begins (RX4, 2, none, rmB_begins_7, tt_nt) (tt_fn (XW l D dA A b) (RX4, 2, none, rmB_begins_7, tt_nt) Q) 21 [(0, .ref (lc 7 x0)), (1, .int b2.1)] [] lc b2.2 0 0) h (fun b2 h => ?_) (fun a1 h => ?_)
  · refine v_iconst dX4_begins_21 ic_0 ?_
    refine v_istore_n [(1, .int (0 : Int32)), (0, .ref (lc 7 x0))] dX4_begins_22 (Nat.le_of_ble_eq_true rfl) rfl ?_
    refine v_sub [1, 0] rfl ?_
    refine itr_loop (P := fun a6 : Int32 × tt_St => tt_V (XW l D dA A b) cX4_begins (RX4, 2, none, rmB_begins_7, tt_nt) (tt_fn (XW l D dA A b) (RX4, 2, none, rmB_begins_7, tt_nt) Q) 23 [(0, .ref (lc 7 x0)), (1, .int a6.1)] [] lc a6.2 0 0) (PE := fun b7 : Int32 × tt_St => tt_V (XW l D dA A b) cX4_begins (RX4, 2, none, rmB_begins_7, tt_nt) (tt_fn (XW l D dA A b) (RX4, 2, none, rmB_begins_7, tt_nt) Q) 42 [(0, .ref (lc 7 x0)), (1, .int b7.1)] [] lc b7.2 0 0) h (fun b7 h => ?_) (fun a6 h => ?_)
    · have h := Ok.ret h
      exact v_vret rfl (Nat.zero_le _) (Nat.zero_le _) dX4_begins_42 h
    · have h : Ok (fB_begins_L23 x0 a6) _ := h
      unfold fB_begins_L23 at h
      refine v_iload_n 1 dX4_begins_23 rfl ?_
      refine v_bipush dX4_begins_24 kb_7 ?_
      refine v_icmp_ge (tgt := 42) dX4_begins_26 rfl (fun c8 => ?_) (fun c8 => ?_)
      · have h := Ok.pos h c8
        have h := Ok.ret h
        exact h
      · have h := Ok.neg h c8
        refine v_aload_n 0 dX4_begins_29 rfl ?_
        refine gW_X4_15_7 hx0 dX4_begins_30 ?_
        refine v_iload_n 1 dX4_begins_33 rfl ?_
        refine v_lconst dX4_begins_34 kl_0 ?_
        obtain ⟨g9, h⟩ := Ok.guard h
        refine sW_9 (.inl hx0) g9 dX4_begins_35 ?_
        refine v_nmS (fun s10 e_s10 => ?_)
        have h := Ok.nm h e_s10
        refine v_iinc (v := (a6.1 + 1 : Int32)) 1 [(1, .int (a6.1 + 1 : Int32)), (0, .ref (lc 7 x0))] dX4_begins_36 rfl (by rw [ic_1]) (Nat.le_of_ble_eq_true rfl) rfl ?_
        refine v_goto (tgt := 23) dX4_begins_39 rfl ?_
        refine v_sub [1, 0] rfl ?_
        have h := Ok.ret h
        exact h
  · have h : Ok (fB_begins_L2 x0 a1) _ := h
    unfold fB_begins_L2 at h
    refine v_iload_n 1 dX4_begins_2 rfl ?_
    refine v_bipush dX4_begins_3 kb_10 ?_
    refine v_icmp_ge (tgt := 21) dX4_begins_5 rfl (fun c3 => ?_) (fun c3 => ?_)
    · have h := Ok.pos h c3
      have h := Ok.ret h
      exact h
    · have h := Ok.neg h c3
      refine v_aload_n 0 dX4_begins_8 rfl ?_
      refine gW_X4_9_7 hx0 dX4_begins_9 ?_
      refine v_iload_n 1 dX4_begins_12 rfl ?_
      refine v_lconst dX4_begins_13 kl_0 ?_
      obtain ⟨g4, h⟩ := Ok.guard h
      refine sW_8 (.inl hx0) g4 dX4_begins_14 ?_
      refine v_nmS (fun s5 e_s5 => ?_)
      have h := Ok.nm h e_s5
      refine v_iinc (v := (a1.1 + 1 : Int32)) 1 [(1, .int (a1.1 + 1 : Int32)), (0, .ref (lc 7 x0))] dX4_begins_15 rfl (by rw [ic_1]) (Nat.le_of_ble_eq_true rfl) rfl ?_
      refine v_goto (tgt := 2) dX4_begins_18 rfl ?_
      refine v_sub [1, 0] rfl ?_
      have h := Ok.ret h
      exact h
theorem cW_X5_24_7 {l : Launch} {D : va_G} {dA : Nat → ClassId} {A : Nat → Prop} {b : Bool} {lc : Nat → Nat → Nat} {s : tt_St} {cc : ByteArray} {nl : Nat} {rt : Option FieldType} {rm : Room} {tn : tt_Tn} {Q : tt_Fin} {pc : Nat} {lv : List (Nat × Value)} {rest : List Value} {ck cn : Nat} {x0 : Nat} (hx0 : lvH b x0) {K : tt_St → Prop} (h : Ok (fB_begins s x0) K) (hR : 0 + 1 ≤ rm.frames ∧ 8 + (2 + 11) + 0 ≤ rm.locals) (hW : (rest.map fun v => v.category).sum ≤ 8) (d : decode cc pc = .ok (.invokespecial 24, 3)) (kk : ∀ r, K r → tt_V (XW l D dA A b) cc (RX5, nl, rt, rm, tn) Q (pc + 3) lv rest lc r ck cn) (hf : ck ≤ rm.cells ∧ cn ≤ rm.slots := by exact ⟨Nat.zero_le _, Nat.zero_le _⟩) : tt_V (XW l D dA A b) cc (RX5, nl, rt, rm, tn) Q pc lv (.ref (lc 7 x0) :: rest) lc s ck cn :=
  v_callSU (kd := 7) (i := x0) (nA := 0) (As := []) (lvW_7 hx0) oW_7 rfl (mB_begins_7 l D dA A b lc s x0 hx0 (Q := (fun v lc' s' => ∃ r, K r ∧ v = none ∧ lc' = lc ∧ s' = r)) (h.mono (fun r hr => ⟨r, hr, rfl, rfl, rfl⟩))) (lw_SU q713 q2458 q332 q714 q137 q715) (by decide +kernel) rfl hR hW hf d rfl (fun v lc' s' q => by obtain ⟨r, hr, e1, e2, e3⟩ := q; rw [e1, e2, e3]; exact kk r hr)
theorem gW_X5_9_7 {l : Launch} {D : va_G} {dA : Nat → ClassId} {A : Nat → Prop} {b : Bool} {lc : Nat → Nat → Nat} {s : tt_St} {cc : ByteArray} {nl : Nat} {rt : Option FieldType} {rm : Room} {tn : tt_Tn} {Q : tt_Fin} {pc : Nat} {lv : List (Nat × Value)} {rest : List Value} {ck cn : Nat} {i : Nat} (hv : lvH b i) (d : decode cc pc = .ok (.getfield 9, 3)) (kk : tt_V (XW l D dA A b) cc (RX5, nl, rt, rm, tn) Q (pc + 3) lv (.ref (lc 10 i) :: rest) lc s ck cn) : tt_V (XW l D dA A b) cc (RX5, nl, rt, rm, tn) Q pc lv (.ref (lc 7 i) :: rest) lc s ck cn := v_get (p := 2) (lvW_7 hv) oW_7 rfl in_X7 (by decide) q294 (.inl rfl) rfl d kk
theorem gW_X5_15_7 {l : Launch} {D : va_G} {dA : Nat → ClassId} {A : Nat → Prop} {b : Bool} {lc : Nat → Nat → Nat} {s : tt_St} {cc : ByteArray} {nl : Nat} {rt : Option FieldType} {rm : Room} {tn : tt_Tn} {Q : tt_Fin} {pc : Nat} {lv : List (Nat × Value)} {rest : List Value} {ck cn : Nat} {i : Nat} (hv : lvH b i) (d : decode cc pc = .ok (.getfield 15, 3)) (kk : tt_V (XW l D dA A b) cc (RX5, nl, rt, rm, tn) Q (pc + 3) lv (.ref (lc 11 i) :: rest) lc s ck cn) : tt_V (XW l D dA A b) cc (RX5, nl, rt, rm, tn) Q pc lv (.ref (lc 7 i) :: rest) lc s ck cn := v_get (p := 3) (lvW_7 hv) oW_7 rfl in_X7 (by decide) q300 (.inl rfl) rfl d kk
theorem gW_X5_18_7 {l : Launch} {D : va_G} {dA : Nat → ClassId} {A : Nat → Prop} {b : Bool} {lc : Nat → Nat → Nat} {s : tt_St} {cc : ByteArray} {nl : Nat} {rt : Option FieldType} {rm : Room} {tn : tt_Tn} {Q : tt_Fin} {pc : Nat} {lv : List (Nat × Value)} {rest : List Value} {ck cn : Nat} {i : Nat} (hv : lvH b i) (d : decode cc pc = .ok (.getfield 18, 3)) (kk : tt_V (XW l D dA A b) cc (RX5, nl, rt, rm, tn) Q (pc + 3) lv (.ref (lc 12 i) :: rest) lc s ck cn) : tt_V (XW l D dA A b) cc (RX5, nl, rt, rm, tn) Q pc lv (.ref (lc 7 i) :: rest) lc s ck cn := v_get (p := 4) (lvW_7 hv) oW_7 rfl in_X7 (by decide) q305 (.inl rfl) rfl d kk
theorem gW_X5_21_7 {l : Launch} {D : va_G} {dA : Nat → ClassId} {A : Nat → Prop} {b : Bool} {lc : Nat → Nat → Nat} {s : tt_St} {cc : ByteArray} {nl : Nat} {rt : Option FieldType} {rm : Room} {tn : tt_Tn} {Q : tt_Fin} {pc : Nat} {lv : List (Nat × Value)} {rest : List Value} {ck cn : Nat} {i : Nat} (hv : lvH b i) (d : decode cc pc = .ok (.getfield 21, 3)) (kk : tt_V (XW l D dA A b) cc (RX5, nl, rt, rm, tn) Q (pc + 3) lv (.ref (lc 13 i) :: rest) lc s ck cn) : tt_V (XW l D dA A b) cc (RX5, nl, rt, rm, tn) Q pc lv (.ref (lc 7 i) :: rest) lc s ck cn := v_get (p := 5) (lvW_7 hv) oW_7 rfl in_X7 (by decide) q309 (.inl rfl) rfl d kk
def fF_begins_L41 (x0 : Nat) (a9 : Int32 × tt_St) : Option ((Int32 × tt_St) ⊕ (Int32 × tt_St)) :=
  if (160 : Int32) ≤ a9.1 then some (.inr (a9.1, a9.2)) else if inB a9.1 160 then nm (wrL a9.2 13 x0 a9.1.toNatClampNeg (0 : Int64)) fun s13 => some (.inl ((a9.1 + 1 : Int32), s13)) else none
def fF_begins_L6 (x0 : Nat) (a2 : Int32 × tt_St) : Option ((Int32 × tt_St) ⊕ (Int32 × tt_St)) :=
  if (40 : Int32) ≤ a2.1 then some (.inr (a2.1, a2.2)) else if inB a2.1 40 then nm (wrL a2.2 10 x0 a2.1.toNatClampNeg (0 : Int64)) fun s6 => nm (wrL s6 11 x0 a2.1.toNatClampNeg (0 : Int64)) fun s7 => nm (wrL s7 12 x0 a2.1.toNatClampNeg (0 : Int64)) fun s8 => some (.inl ((a2.1 + 1 : Int32), s8)) else none
def fF_begins (s : tt_St) (x0 : Nat) : Option (tt_St) :=
  (fB_begins s x0).bind fun r1 => (itr (fF_begins_L6 x0) tt_fuel ((0 : Int32), r1)).bind fun b3 => (itr (fF_begins_L41 x0) tt_fuel ((0 : Int32), b3.2)).bind fun b10 => some b10.2
abbrev rmF_begins_7 : Room := { frames := 1, cells := 0, slots := 0, locals := 21 }
set_option maxHeartbeats 4000000 in
theorem mF_begins_7 (l : Launch) (D : va_G) (dA : Nat → ClassId) (A : Nat → Prop) (b : Bool) (lc : Nat → Nat → Nat) (s : tt_St) (x0 : Nat) (hx0 : lvH b x0) {Q : Option Value → (Nat → Nat → Nat) → tt_St → Prop} (h : Ok (fF_begins s x0) (fun r => Q none lc r)) : tt_Sp (XW l D dA A b) yX5_begins cX5_begins 2 none rmF_begins_7 [.ref (lc 7 x0)] lc s Q := by
  refine tt_Sp.ofV plX5 kokW (Nat.le_of_ble_eq_true rfl) ?_
  show tt_V (XW l D dA A b) cX5_begins (RX5, 2, none, rmF_begins_7, tt_nt) (tt_fn (XW l D dA A b) (RX5, 2, none, rmF_begins_7, tt_nt) Q) 0 [(0, .ref (lc 7 x0))] [] lc s 0 0
  unfold fF_begins at h
  refine v_aload_n 0 dX5_begins_0 rfl ?_
  refine cW_X5_24_7 hx0 (Ok.bind h) ⟨Nat.le_of_ble_eq_true rfl, Nat.le_of_ble_eq_true rfl⟩ (Nat.le_of_ble_eq_true rfl) dX5_begins_1 (fun r1 h => ?_)
  refine v_iconst dX5_begins_4 ic_0 ?_
  refine v_istore_n [(1, .int (0 : Int32)), (0, .ref (lc 7 x0))] dX5_begins_5 (Nat.le_of_ble_eq_true rfl) rfl ?_
  refine v_sub [1, 0] rfl ?_
  refine itr_loop (P := fun a2 : Int32 × tt_St => tt_V (XW l D dA A b) cX5_begins (RX5, 2, none, rmF_begins_7, tt_nt) (tt_fn (XW l D dA A b) (RX5, 2, none, rmF_begins_7, tt_nt) Q) 6 [(0, .ref (lc 7 x0)), (1, .int a2.1)] [] lc a2.2 0 0) (PE := fun b3 : Int32 × tt_St => tt_V (XW l D dA A b) cX5_begins (RX5, 2, none, rmF_begins_7, tt_nt) (tt_fn (XW l D dA A b) (RX5, 2, none, rmF_begins_7, tt_nt) Q) 39 [(0, .ref (lc 7 x0)), (1, .int b3.1)] [] lc b3.2 0 0) h (fun b3 h => ?_) (fun a2 h => ?_)
  · refine v_iconst dX5_begins_39 ic_0 ?_
    refine v_istore_n [(1, .int (0 : Int32)), (0, .ref (lc 7 x0))] dX5_begins_40 (Nat.le_of_ble_eq_true rfl) rfl ?_
    refine v_sub [1, 0] rfl ?_
    refine itr_loop (P := fun a9 : Int32 × tt_St => tt_V (XW l D dA A b) cX5_begins (RX5, 2, none, rmF_begins_7, tt_nt) (tt_fn (XW l D dA A b) (RX5, 2, none, rmF_begins_7, tt_nt) Q) 41 [(0, .ref (lc 7 x0)), (1, .int a9.1)] [] lc a9.2 0 0) (PE := fun b10 : Int32 × tt_St => tt_V (XW l D dA A b) cX5_begins (RX5, 2, none, rmF_begins_7, tt_nt) (tt_fn (XW l D dA A b) (RX5, 2, none, rmF_begins_7, tt_nt) Q) 63 [(0, .ref (lc 7 x0)), (1, .int b10.1)] [] lc b10.2 0 0) h (fun b10 h => ?_) (fun a9 h => ?_)
    · have h := Ok.ret h
      exact v_vret rfl (Nat.zero_le _) (Nat.zero_le _) dX5_begins_63 h
    · have h : Ok (fF_begins_L41 x0 a9) _ := h
      unfold fF_begins_L41 at h
      refine v_iload_n 1 dX5_begins_41 rfl ?_
      refine v_aload_n 0 dX5_begins_42 rfl ?_
      refine gW_X5_21_7 hx0 dX5_begins_43 ?_
      refine nW_13 (.inl hx0) dX5_begins_46 ?_
      refine v_icmp_ge (tgt := 63) dX5_begins_47 rfl (fun c11 => ?_) (fun c11 => ?_)
      · have h := Ok.pos h c11
        have h := Ok.ret h
        exact h
      · have h := Ok.neg h c11
        refine v_aload_n 0 dX5_begins_50 rfl ?_
        refine gW_X5_21_7 hx0 dX5_begins_51 ?_
        refine v_iload_n 1 dX5_begins_54 rfl ?_
        refine v_lconst dX5_begins_55 kl_0 ?_
        obtain ⟨g12, h⟩ := Ok.guard h
        refine sW_13 (.inl hx0) g12 dX5_begins_56 ?_
        refine v_nmS (fun s13 e_s13 => ?_)
        have h := Ok.nm h e_s13
        refine v_iinc (v := (a9.1 + 1 : Int32)) 1 [(1, .int (a9.1 + 1 : Int32)), (0, .ref (lc 7 x0))] dX5_begins_57 rfl (by rw [ic_1]) (Nat.le_of_ble_eq_true rfl) rfl ?_
        refine v_goto (tgt := 41) dX5_begins_60 rfl ?_
        refine v_sub [1, 0] rfl ?_
        have h := Ok.ret h
        exact h
  · have h : Ok (fF_begins_L6 x0 a2) _ := h
    unfold fF_begins_L6 at h
    refine v_iload_n 1 dX5_begins_6 rfl ?_
    refine v_bipush dX5_begins_7 kb_40 ?_
    refine v_icmp_ge (tgt := 39) dX5_begins_9 rfl (fun c4 => ?_) (fun c4 => ?_)
    · have h := Ok.pos h c4
      have h := Ok.ret h
      exact h
    · have h := Ok.neg h c4
      refine v_aload_n 0 dX5_begins_12 rfl ?_
      refine gW_X5_9_7 hx0 dX5_begins_13 ?_
      refine v_iload_n 1 dX5_begins_16 rfl ?_
      refine v_lconst dX5_begins_17 kl_0 ?_
      obtain ⟨g5, h⟩ := Ok.guard h
      refine sW_10 (.inl hx0) g5 dX5_begins_18 ?_
      refine v_nmS (fun s6 e_s6 => ?_)
      have h := Ok.nm h e_s6
      refine v_aload_n 0 dX5_begins_19 rfl ?_
      refine gW_X5_15_7 hx0 dX5_begins_20 ?_
      refine v_iload_n 1 dX5_begins_23 rfl ?_
      refine v_lconst dX5_begins_24 kl_0 ?_
      refine sW_11 (.inl hx0) g5 dX5_begins_25 ?_
      refine v_nmS (fun s7 e_s7 => ?_)
      have h := Ok.nm h e_s7
      refine v_aload_n 0 dX5_begins_26 rfl ?_
      refine gW_X5_18_7 hx0 dX5_begins_27 ?_
      refine v_iload_n 1 dX5_begins_30 rfl ?_
      refine v_lconst dX5_begins_31 kl_0 ?_
      refine sW_12 (.inl hx0) g5 dX5_begins_32 ?_
      refine v_nmS (fun s8 e_s8 => ?_)
      have h := Ok.nm h e_s8
      refine v_iinc (v := (a2.1 + 1 : Int32)) 1 [(1, .int (a2.1 + 1 : Int32)), (0, .ref (lc 7 x0))] dX5_begins_33 rfl (by rw [ic_1]) (Nat.le_of_ble_eq_true rfl) rfl ?_
      refine v_goto (tgt := 6) dX5_begins_36 rfl ?_
      refine v_sub [1, 0] rfl ?_
      have h := Ok.ret h
      exact h
theorem cW_X7_7_7 {l : Launch} {D : va_G} {dA : Nat → ClassId} {A : Nat → Prop} {b : Bool} {lc : Nat → Nat → Nat} {s : tt_St} {cc : ByteArray} {nl : Nat} {rt : Option FieldType} {rm : Room} {tn : tt_Tn} {Q : tt_Fin} {pc : Nat} {lv : List (Nat × Value)} {rest : List Value} {ck cn : Nat} {x0 : Nat} (hx0 : lvH b x0) {K : tt_St → Prop} (h : Ok (fF_begins s x0) K) (hR : 1 + 1 ≤ rm.frames ∧ 8 + (2 + 11) + 21 ≤ rm.locals) (hW : (rest.map fun v => v.category).sum ≤ 8) (d : decode cc pc = .ok (.invokespecial 7, 3)) (kk : ∀ r, K r → tt_V (XW l D dA A b) cc (RX7, nl, rt, rm, tn) Q (pc + 3) lv rest lc r ck cn) (hf : ck ≤ rm.cells ∧ cn ≤ rm.slots := by exact ⟨Nat.zero_le _, Nat.zero_le _⟩) : tt_V (XW l D dA A b) cc (RX7, nl, rt, rm, tn) Q pc lv (.ref (lc 7 x0) :: rest) lc s ck cn :=
  v_callSU (kd := 7) (i := x0) (nA := 0) (As := []) (lvW_7 hx0) oW_7 rfl (mF_begins_7 l D dA A b lc s x0 hx0 (Q := (fun v lc' s' => ∃ r, K r ∧ v = none ∧ lc' = lc ∧ s' = r)) (h.mono (fun r hr => ⟨r, hr, rfl, rfl, rfl⟩))) (lw_SU q711 q707 q430 q705 q138 q712) (by decide +kernel) rfl hR hW hf d rfl (fun v lc' s' q => by obtain ⟨r, hr, e1, e2, e3⟩ := q; rw [e1, e2, e3]; exact kk r hr)
theorem pW_X7_10_7 {l : Launch} {D : va_G} {dA : Nat → ClassId} {A : Nat → Prop} {b : Bool} {lc : Nat → Nat → Nat} {s : tt_St} {cc : ByteArray} {nl : Nat} {rt : Option FieldType} {rm : Room} {tn : tt_Tn} {Q : tt_Fin} {pc : Nat} {lv : List (Nat × Value)} {rest : List Value} {ck cn : Nat} {i : Nat} (hv : lvH b i) {x : Int32} (z : zB x) (zf : fits .boolean (.int x) = true) (d : decode cc pc = .ok (.putfield 10, 3)) (kk : tt_V (XW l D dA A b) cc (RX7, nl, rt, rm, tn) Q (pc + 3) lv rest lc (wrI s 7 i 11 x) ck cn) : tt_V (XW l D dA A b) cc (RX7, nl, rt, rm, tn) Q pc lv (.int x :: .ref (lc 7 i) :: rest) lc s ck cn := v_put (p := 11) (lvW_7 hv) oW_7 (uW_7_11 ..) (fun _ _ h => tt_ent_wrI eW h) (fun _ _ h => h) rfl in_X7 tyX7 tyX7_ok nmX7 (by decide) q410 (.inl rfl) rfl z zf (Nat.le_of_ble_eq_true rfl) d kk
theorem pW_X7_16_7 {l : Launch} {D : va_G} {dA : Nat → ClassId} {A : Nat → Prop} {b : Bool} {lc : Nat → Nat → Nat} {s : tt_St} {cc : ByteArray} {nl : Nat} {rt : Option FieldType} {rm : Room} {tn : tt_Tn} {Q : tt_Fin} {pc : Nat} {lv : List (Nat × Value)} {rest : List Value} {ck cn : Nat} {i : Nat} (hv : lvH b i) {x : Int64} (d : decode cc pc = .ok (.putfield 16, 3)) (kk : tt_V (XW l D dA A b) cc (RX7, nl, rt, rm, tn) Q (pc + 3) lv rest lc (wrL s 7 i 10 x) ck cn) : tt_V (XW l D dA A b) cc (RX7, nl, rt, rm, tn) Q pc lv (.long x :: .ref (lc 7 i) :: rest) lc s ck cn := v_put (p := 10) (lvW_7 hv) oW_7 (uW_7_10 ..) (fun _ _ h => tt_ent_wrL eW h) (fun _ _ h => h) rfl in_X7 tyX7 tyX7_ok nmX7 (by decide) q407 (.inl rfl) rfl rfl rfl (Nat.le_of_ble_eq_true rfl) d kk
theorem pW_X7_20_7 {l : Launch} {D : va_G} {dA : Nat → ClassId} {A : Nat → Prop} {b : Bool} {lc : Nat → Nat → Nat} {s : tt_St} {cc : ByteArray} {nl : Nat} {rt : Option FieldType} {rm : Room} {tn : tt_Tn} {Q : tt_Fin} {pc : Nat} {lv : List (Nat × Value)} {rest : List Value} {ck cn : Nat} {i : Nat} (hv : lvH b i) {x : Int32} (d : decode cc pc = .ok (.putfield 20, 3)) (kk : tt_V (XW l D dA A b) cc (RX7, nl, rt, rm, tn) Q (pc + 3) lv rest lc (wrI s 7 i 9 x) ck cn) : tt_V (XW l D dA A b) cc (RX7, nl, rt, rm, tn) Q pc lv (.int x :: .ref (lc 7 i) :: rest) lc s ck cn := v_put (p := 9) (lvW_7 hv) oW_7 (uW_7_9 ..) (fun _ _ h => tt_ent_wrI eW h) (fun _ _ h => h) rfl in_X7 tyX7 tyX7_ok nmX7 (by decide) q404 (.inl rfl) rfl rfl rfl (Nat.le_of_ble_eq_true rfl) d kk
def fH_begins (s : tt_St) (x0 : Nat) : Option (tt_St) :=
  (fF_begins s x0).bind fun r1 => nm (wrI r1 7 x0 11 (0 : Int32)) fun s2 => nm (wrL s2 7 x0 10 (0 : Int64)) fun s3 => nm (wrI s3 7 x0 9 (0 : Int32)) fun s4 => some s4
abbrev rmH_begins : Room := { frames := 2, cells := 0, slots := 0, locals := 42 }
set_option maxHeartbeats 4000000 in
theorem mH_begins (l : Launch) (D : va_G) (dA : Nat → ClassId) (A : Nat → Prop) (b : Bool) (lc : Nat → Nat → Nat) (s : tt_St) (x0 : Nat) (hx0 : lvH b x0) {Q : Option Value → (Nat → Nat → Nat) → tt_St → Prop} (h : Ok (fH_begins s x0) (fun r => Q none lc r)) : tt_Sp (XW l D dA A b) yX7_begins cX7_begins 1 none rmH_begins [.ref (lc 7 x0)] lc s Q := by
  refine tt_Sp.ofV plX7 kokW (Nat.le_of_ble_eq_true rfl) ?_
  show tt_V (XW l D dA A b) cX7_begins (RX7, 1, none, rmH_begins, tt_nt) (tt_fn (XW l D dA A b) (RX7, 1, none, rmH_begins, tt_nt) Q) 0 [(0, .ref (lc 7 x0))] [] lc s 0 0
  unfold fH_begins at h
  refine v_aload_n 0 dX7_begins_0 rfl ?_
  refine cW_X7_7_7 hx0 (Ok.bind h) ⟨Nat.le_of_ble_eq_true rfl, Nat.le_of_ble_eq_true rfl⟩ (Nat.le_of_ble_eq_true rfl) dX7_begins_1 (fun r1 h => ?_)
  refine v_aload_n 0 dX7_begins_4 rfl ?_
  refine v_iconst dX7_begins_5 ic_0 ?_
  refine pW_X7_10_7 hx0 zB_0 zF_0 dX7_begins_6 ?_
  refine v_nmS (fun s2 e_s2 => ?_)
  have h := Ok.nm h e_s2
  refine v_aload_n 0 dX7_begins_9 rfl ?_
  refine v_lconst dX7_begins_10 kl_0 ?_
  refine pW_X7_16_7 hx0 dX7_begins_11 ?_
  refine v_nmS (fun s3 e_s3 => ?_)
  have h := Ok.nm h e_s3
  refine v_aload_n 0 dX7_begins_14 rfl ?_
  refine v_iconst dX7_begins_15 ic_0 ?_
  refine pW_X7_20_7 hx0 dX7_begins_16 ?_
  refine v_nmS (fun s4 e_s4 => ?_)
  have h := Ok.nm h e_s4
  have h := Ok.ret h
  exact v_vret rfl (Nat.zero_le _) (Nat.zero_le _) dX7_begins_19 h
theorem cW_X2_110_7 {l : Launch} {D : va_G} {dA : Nat → ClassId} {A : Nat → Prop} {b : Bool} {lc : Nat → Nat → Nat} {s : tt_St} {cc : ByteArray} {nl : Nat} {rt : Option FieldType} {rm : Room} {tn : tt_Tn} {Q : tt_Fin} {pc : Nat} {lv : List (Nat × Value)} {rest : List Value} {ck cn : Nat} {x0 : Nat} (hx0 : lvH b x0) {K : tt_St → Prop} (h : Ok (fH_begins s x0) K) (hR : 2 + 1 ≤ rm.frames ∧ 8 + (1 + 11) + 42 ≤ rm.locals) (hW : (rest.map fun v => v.category).sum ≤ 8) (d : decode cc pc = .ok (.invokevirtual 110, 3)) (kk : ∀ r, K r → tt_V (XW l D dA A b) cc (RX2, nl, rt, rm, tn) Q (pc + 3) lv rest lc r ck cn) (hf : ck ≤ rm.cells ∧ cn ≤ rm.slots := by exact ⟨Nat.zero_le _, Nat.zero_le _⟩) : tt_V (XW l D dA A b) cc (RX2, nl, rt, rm, tn) Q pc lv (.ref (lc 7 x0) :: rest) lc s ck cn :=
  v_callV (kd := 7) (i := x0) (nA := 0) (As := []) (lvW_7 hx0) oW_7 rfl (mH_begins l D dA A b lc s x0 hx0 (Q := (fun v lc' s' => ∃ r, K r ∧ v = none ∧ lc' = lc ∧ s' = r)) (h.mono (fun r hr => ⟨r, hr, rfl, rfl, rfl⟩))) (lw_V q877 q709 q2459 q140 q710) (by decide +kernel) rfl hR hW hf d rfl (fun v lc' s' q => by obtain ⟨r, hr, e1, e2, e3⟩ := q; rw [e1, e2, e3]; exact kk r hr)
theorem gW_X2_32_0 {l : Launch} {D : va_G} {dA : Nat → ClassId} {A : Nat → Prop} {b : Bool} {lc : Nat → Nat → Nat} {s : tt_St} {cc : ByteArray} {nl : Nat} {rt : Option FieldType} {rm : Room} {tn : tt_Tn} {Q : tt_Fin} {pc : Nat} {lv : List (Nat × Value)} {rest : List Value} {ck cn : Nat} (d : decode cc pc = .ok (.getfield 32, 3)) (kk : tt_V (XW l D dA A b) cc (RX2, nl, rt, rm, tn) Q (pc + 3) lv (.ref (lc 24 0) :: rest) lc s ck cn) : tt_V (XW l D dA A b) cc (RX2, nl, rt, rm, tn) Q pc lv (.ref (lc 0 0) :: rest) lc s ck cn := v_get (p := 4) lvW_0 oW_0 rfl in_X2 (by decide) q734 (.inl rfl) rfl d kk
theorem gW_X2_35_0 {l : Launch} {D : va_G} {dA : Nat → ClassId} {A : Nat → Prop} {b : Bool} {lc : Nat → Nat → Nat} {s : tt_St} {cc : ByteArray} {nl : Nat} {rt : Option FieldType} {rm : Room} {tn : tt_Tn} {Q : tt_Fin} {pc : Nat} {lv : List (Nat × Value)} {rest : List Value} {ck cn : Nat} (d : decode cc pc = .ok (.getfield 35, 3)) (kk : tt_V (XW l D dA A b) cc (RX2, nl, rt, rm, tn) Q (pc + 3) lv (.ref (lc 25 0) :: rest) lc s ck cn) : tt_V (XW l D dA A b) cc (RX2, nl, rt, rm, tn) Q pc lv (.ref (lc 0 0) :: rest) lc s ck cn := v_get (p := 5) lvW_0 oW_0 rfl in_X2 (by decide) q736 (.inl rfl) rfl d kk
theorem pW_X2_111_0 {l : Launch} {D : va_G} {dA : Nat → ClassId} {A : Nat → Prop} {b : Bool} {lc : Nat → Nat → Nat} {s : tt_St} {cc : ByteArray} {nl : Nat} {rt : Option FieldType} {rm : Room} {tn : tt_Tn} {Q : tt_Fin} {pc : Nat} {lv : List (Nat × Value)} {rest : List Value} {ck cn : Nat} {x : Int32} (d : decode cc pc = .ok (.putfield 111, 3)) (kk : tt_V (XW l D dA A b) cc (RX2, nl, rt, rm, tn) Q (pc + 3) lv rest lc (wrI s 0 0 17 x) ck cn) : tt_V (XW l D dA A b) cc (RX2, nl, rt, rm, tn) Q pc lv (.int x :: .ref (lc 0 0) :: rest) lc s ck cn := v_put (p := 17) lvW_0 oW_0 (uW_0_17 ..) (fun _ _ h => tt_ent_wrI eW h) (fun _ _ h => h) rfl in_X2 tyX2 tyX2_ok nmX2 (by decide) q753 (.inl rfl) rfl rfl rfl (Nat.le_of_ble_eq_true rfl) d kk
theorem pW_X2_115_0 {l : Launch} {D : va_G} {dA : Nat → ClassId} {A : Nat → Prop} {b : Bool} {lc : Nat → Nat → Nat} {s : tt_St} {cc : ByteArray} {nl : Nat} {rt : Option FieldType} {rm : Room} {tn : tt_Tn} {Q : tt_Fin} {pc : Nat} {lv : List (Nat × Value)} {rest : List Value} {ck cn : Nat} {x : Int32} (d : decode cc pc = .ok (.putfield 115, 3)) (kk : tt_V (XW l D dA A b) cc (RX2, nl, rt, rm, tn) Q (pc + 3) lv rest lc (wrI s 0 0 18 x) ck cn) : tt_V (XW l D dA A b) cc (RX2, nl, rt, rm, tn) Q pc lv (.int x :: .ref (lc 0 0) :: rest) lc s ck cn := v_put (p := 18) lvW_0 oW_0 (uW_0_18 ..) (fun _ _ h => tt_ent_wrI eW h) (fun _ _ h => h) rfl in_X2 tyX2 tyX2_ok nmX2 (by decide) q755 (.inl rfl) rfl rfl rfl (Nat.le_of_ble_eq_true rfl) d kk
theorem pW_X2_118_0 {l : Launch} {D : va_G} {dA : Nat → ClassId} {A : Nat → Prop} {b : Bool} {lc : Nat → Nat → Nat} {s : tt_St} {cc : ByteArray} {nl : Nat} {rt : Option FieldType} {rm : Room} {tn : tt_Tn} {Q : tt_Fin} {pc : Nat} {lv : List (Nat × Value)} {rest : List Value} {ck cn : Nat} {x : Int32} (d : decode cc pc = .ok (.putfield 118, 3)) (kk : tt_V (XW l D dA A b) cc (RX2, nl, rt, rm, tn) Q (pc + 3) lv rest lc (wrI s 0 0 19 x) ck cn) : tt_V (XW l D dA A b) cc (RX2, nl, rt, rm, tn) Q pc lv (.int x :: .ref (lc 0 0) :: rest) lc s ck cn := v_put (p := 19) lvW_0 oW_0 (uW_0_19 ..) (fun _ _ h => tt_ent_wrI eW h) (fun _ _ h => h) rfl in_X2 tyX2 tyX2_ok nmX2 (by decide) q757 (.inl rfl) rfl rfl rfl (Nat.le_of_ble_eq_true rfl) d kk
theorem pW_X2_121_0 {l : Launch} {D : va_G} {dA : Nat → ClassId} {A : Nat → Prop} {b : Bool} {lc : Nat → Nat → Nat} {s : tt_St} {cc : ByteArray} {nl : Nat} {rt : Option FieldType} {rm : Room} {tn : tt_Tn} {Q : tt_Fin} {pc : Nat} {lv : List (Nat × Value)} {rest : List Value} {ck cn : Nat} {x : Int32} (d : decode cc pc = .ok (.putfield 121, 3)) (kk : tt_V (XW l D dA A b) cc (RX2, nl, rt, rm, tn) Q (pc + 3) lv rest lc (wrI s 0 0 20 x) ck cn) : tt_V (XW l D dA A b) cc (RX2, nl, rt, rm, tn) Q pc lv (.int x :: .ref (lc 0 0) :: rest) lc s ck cn := v_put (p := 20) lvW_0 oW_0 (uW_0_20 ..) (fun _ _ h => tt_ent_wrI eW h) (fun _ _ h => h) rfl in_X2 tyX2 tyX2_ok nmX2 (by decide) q759 (.inl rfl) rfl rfl rfl (Nat.le_of_ble_eq_true rfl) d kk
theorem pW_X2_124_0 {l : Launch} {D : va_G} {dA : Nat → ClassId} {A : Nat → Prop} {b : Bool} {lc : Nat → Nat → Nat} {s : tt_St} {cc : ByteArray} {nl : Nat} {rt : Option FieldType} {rm : Room} {tn : tt_Tn} {Q : tt_Fin} {pc : Nat} {lv : List (Nat × Value)} {rest : List Value} {ck cn : Nat} {x : Int32} (d : decode cc pc = .ok (.putfield 124, 3)) (kk : tt_V (XW l D dA A b) cc (RX2, nl, rt, rm, tn) Q (pc + 3) lv rest lc (wrI s 0 0 21 x) ck cn) : tt_V (XW l D dA A b) cc (RX2, nl, rt, rm, tn) Q pc lv (.int x :: .ref (lc 0 0) :: rest) lc s ck cn := v_put (p := 21) lvW_0 oW_0 (uW_0_21 ..) (fun _ _ h => tt_ent_wrI eW h) (fun _ _ h => h) rfl in_X2 tyX2 tyX2_ok nmX2 (by decide) q761 (.inl rfl) rfl rfl rfl (Nat.le_of_ble_eq_true rfl) d kk
theorem pW_X2_127_0 {l : Launch} {D : va_G} {dA : Nat → ClassId} {A : Nat → Prop} {b : Bool} {lc : Nat → Nat → Nat} {s : tt_St} {cc : ByteArray} {nl : Nat} {rt : Option FieldType} {rm : Room} {tn : tt_Tn} {Q : tt_Fin} {pc : Nat} {lv : List (Nat × Value)} {rest : List Value} {ck cn : Nat} {x : Int32} (d : decode cc pc = .ok (.putfield 127, 3)) (kk : tt_V (XW l D dA A b) cc (RX2, nl, rt, rm, tn) Q (pc + 3) lv rest lc (wrI s 0 0 22 x) ck cn) : tt_V (XW l D dA A b) cc (RX2, nl, rt, rm, tn) Q pc lv (.int x :: .ref (lc 0 0) :: rest) lc s ck cn := v_put (p := 22) lvW_0 oW_0 (uW_0_22 ..) (fun _ _ h => tt_ent_wrI eW h) (fun _ _ h => h) rfl in_X2 tyX2 tyX2_ok nmX2 (by decide) q763 (.inl rfl) rfl rfl rfl (Nat.le_of_ble_eq_true rfl) d kk
theorem pW_X2_130_0 {l : Launch} {D : va_G} {dA : Nat → ClassId} {A : Nat → Prop} {b : Bool} {lc : Nat → Nat → Nat} {s : tt_St} {cc : ByteArray} {nl : Nat} {rt : Option FieldType} {rm : Room} {tn : tt_Tn} {Q : tt_Fin} {pc : Nat} {lv : List (Nat × Value)} {rest : List Value} {ck cn : Nat} {x : Int32} (z : zB x) (zf : fits .boolean (.int x) = true) (d : decode cc pc = .ok (.putfield 130, 3)) (kk : tt_V (XW l D dA A b) cc (RX2, nl, rt, rm, tn) Q (pc + 3) lv rest lc (wrI s 0 0 23 x) ck cn) : tt_V (XW l D dA A b) cc (RX2, nl, rt, rm, tn) Q pc lv (.int x :: .ref (lc 0 0) :: rest) lc s ck cn := v_put (p := 23) lvW_0 oW_0 (uW_0_23 ..) (fun _ _ h => tt_ent_wrI eW h) (fun _ _ h => h) rfl in_X2 tyX2 tyX2_ok nmX2 (by decide) q765 (.inl rfl) rfl z zf (Nat.le_of_ble_eq_true rfl) d kk
def fW_begins_L85  (a16 : Int32 × tt_St) : Option ((Int32 × tt_St) ⊕ (Int32 × tt_St)) :=
  if (10 : Int32) ≤ a16.1 then some (.inr (a16.1, a16.2)) else if inB a16.1 10 then nm (wrI a16.2 24 0 a16.1.toNatClampNeg (0 : Int32)) fun s20 => nm (wrL s20 25 0 a16.1.toNatClampNeg (0 : Int64)) fun s21 => some (.inl ((a16.1 + 1 : Int32), s21)) else none
def fW_begins_L64  (a11 : Int32 × tt_St) : Option ((Int32 × tt_St) ⊕ (Int32 × tt_St)) :=
  if (12 : Int32) ≤ a11.1 then some (.inr (a11.1, a11.2)) else if inB a11.1 12 then nm (wrI a11.2 23 0 a11.1.toNatClampNeg (0 : Int32)) fun s15 => some (.inl ((a11.1 + 1 : Int32), s15)) else none
def fW_begins_L41  (a6 : Int32 × tt_St) : Option ((Int32 × tt_St) ⊕ (Int32 × tt_St)) :=
  if (24 : Int32) ≤ a6.1 then some (.inr (a6.1, a6.2)) else if inB a6.1 24 then (fH_begins a6.2 a6.1.toNatClampNeg).bind fun r10 => some (.inl ((a6.1 + 1 : Int32), r10)) else none
def fW_begins_L10  (a1 : Int32 × tt_St) : Option ((Int32 × tt_St) ⊕ (Int32 × tt_St)) :=
  if (40 : Int32) ≤ a1.1 then some (.inr (a1.1, a1.2)) else if inB a1.1 40 then (fY_begins a1.2 a1.1.toNatClampNeg).bind fun r5 => some (.inl ((a1.1 + 1 : Int32), r5)) else none
def fW_begins (s : tt_St) : Option (tt_St) :=
  (itr (fW_begins_L10) tt_fuel ((0 : Int32), s)).bind fun b2 => (itr (fW_begins_L41) tt_fuel ((0 : Int32), b2.2)).bind fun b7 => (itr (fW_begins_L64) tt_fuel ((0 : Int32), b7.2)).bind fun b12 => (itr (fW_begins_L85) tt_fuel ((0 : Int32), b12.2)).bind fun b17 => nm (wrI b17.2 0 0 17 (0 : Int32)) fun s22 => nm (wrI s22 0 0 18 (0 : Int32)) fun s23 => nm (wrI s23 0 0 19 (0 : Int32)) fun s24 => nm (wrI s24 0 0 20 (0 : Int32)) fun s25 => nm (wrI s25 0 0 21 (0 : Int32)) fun s26 => nm (wrI s26 0 0 22 (0 : Int32)) fun s27 => nm (wrI s27 0 0 23 (0 : Int32)) fun s28 => some s28
abbrev rmW_begins : Room := { frames := 3, cells := 0, slots := 0, locals := 62 }
set_option maxHeartbeats 4000000 in
theorem mW_begins (l : Launch) (D : va_G) (dA : Nat → ClassId) (A : Nat → Prop) (b : Bool) (lc : Nat → Nat → Nat) (s : tt_St) {Q : Option Value → (Nat → Nat → Nat) → tt_St → Prop} (h : Ok (fW_begins s) (fun r => Q none lc r)) : tt_Sp (XW l D dA A b) yX2_begins cX2_begins 5 none rmW_begins [.ref (lc 0 0)] lc s Q := by
  refine tt_Sp.ofV plX2 kokW (Nat.le_of_ble_eq_true rfl) ?_
  show tt_V (XW l D dA A b) cX2_begins (RX2, 5, none, rmW_begins, tt_nt) (tt_fn (XW l D dA A b) (RX2, 5, none, rmW_begins, tt_nt) Q) 0 [(0, .ref (lc 0 0))] [] lc s 0 0
  unfold fW_begins at h
  refine v_aload_n 0 dX2_begins_0 rfl ?_
  refine gW_X2_11_0 dX2_begins_1 ?_
  refine v_astore_n [(1, .ref (lc 1 0)), (0, .ref (lc 0 0))] dX2_begins_4 (Nat.le_of_ble_eq_true rfl) rfl ?_
  refine v_aload_n 0 dX2_begins_5 rfl ?_
  refine nW_1 dX2_begins_6 ?_
  refine v_istore_n [(2, .int (40 : Int32)), (1, .ref (lc 1 0)), (0, .ref (lc 0 0))] dX2_begins_7 (Nat.le_of_ble_eq_true rfl) rfl ?_
  refine v_iconst dX2_begins_8 ic_0 ?_
  refine v_istore_n [(3, .int (0 : Int32)), (2, .int (40 : Int32)), (1, .ref (lc 1 0)), (0, .ref (lc 0 0))] dX2_begins_9 (Nat.le_of_ble_eq_true rfl) rfl ?_
  refine v_sub [3, 2, 1, 0] rfl ?_
  refine itr_loop (P := fun a1 : Int32 × tt_St => tt_V (XW l D dA A b) cX2_begins (RX2, 5, none, rmW_begins, tt_nt) (tt_fn (XW l D dA A b) (RX2, 5, none, rmW_begins, tt_nt) Q) 10 [(0, .ref (lc 0 0)), (1, .ref (lc 1 0)), (2, .int (40 : Int32)), (3, .int a1.1)] [] lc a1.2 0 0) (PE := fun b2 : Int32 × tt_St => tt_V (XW l D dA A b) cX2_begins (RX2, 5, none, rmW_begins, tt_nt) (tt_fn (XW l D dA A b) (RX2, 5, none, rmW_begins, tt_nt) Q) 31 [(0, .ref (lc 0 0)), (1, .ref (lc 1 0)), (2, .int (40 : Int32)), (3, .int b2.1)] [] lc b2.2 0 0) h (fun b2 h => ?_) (fun a1 h => ?_)
  · refine v_aload_n 0 dX2_begins_31 rfl ?_
    refine gW_X2_19_0 dX2_begins_32 ?_
    refine v_astore_n [(1, .ref (lc 6 0)), (0, .ref (lc 0 0)), (2, .int (40 : Int32)), (3, .int b2.1)] dX2_begins_35 (Nat.le_of_ble_eq_true rfl) rfl ?_
    refine v_aload_n 0 dX2_begins_36 rfl ?_
    refine nW_6 dX2_begins_37 ?_
    refine v_istore_n [(2, .int (24 : Int32)), (1, .ref (lc 6 0)), (0, .ref (lc 0 0)), (3, .int b2.1)] dX2_begins_38 (Nat.le_of_ble_eq_true rfl) rfl ?_
    refine v_iconst dX2_begins_39 ic_0 ?_
    refine v_istore_n [(3, .int (0 : Int32)), (2, .int (24 : Int32)), (1, .ref (lc 6 0)), (0, .ref (lc 0 0))] dX2_begins_40 (Nat.le_of_ble_eq_true rfl) rfl ?_
    refine v_sub [3, 2, 1, 0] rfl ?_
    refine itr_loop (P := fun a6 : Int32 × tt_St => tt_V (XW l D dA A b) cX2_begins (RX2, 5, none, rmW_begins, tt_nt) (tt_fn (XW l D dA A b) (RX2, 5, none, rmW_begins, tt_nt) Q) 41 [(0, .ref (lc 0 0)), (1, .ref (lc 6 0)), (2, .int (24 : Int32)), (3, .int a6.1)] [] lc a6.2 0 0) (PE := fun b7 : Int32 × tt_St => tt_V (XW l D dA A b) cX2_begins (RX2, 5, none, rmW_begins, tt_nt) (tt_fn (XW l D dA A b) (RX2, 5, none, rmW_begins, tt_nt) Q) 62 [(0, .ref (lc 0 0)), (1, .ref (lc 6 0)), (2, .int (24 : Int32)), (3, .int b7.1)] [] lc b7.2 0 0) h (fun b7 h => ?_) (fun a6 h => ?_)
    · refine v_iconst dX2_begins_62 ic_0 ?_
      refine v_istore_n [(1, .int (0 : Int32)), (0, .ref (lc 0 0)), (2, .int (24 : Int32)), (3, .int b7.1)] dX2_begins_63 (Nat.le_of_ble_eq_true rfl) rfl ?_
      refine v_sub [1, 0] rfl ?_
      refine itr_loop (P := fun a11 : Int32 × tt_St => tt_V (XW l D dA A b) cX2_begins (RX2, 5, none, rmW_begins, tt_nt) (tt_fn (XW l D dA A b) (RX2, 5, none, rmW_begins, tt_nt) Q) 64 [(0, .ref (lc 0 0)), (1, .int a11.1)] [] lc a11.2 0 0) (PE := fun b12 : Int32 × tt_St => tt_V (XW l D dA A b) cX2_begins (RX2, 5, none, rmW_begins, tt_nt) (tt_fn (XW l D dA A b) (RX2, 5, none, rmW_begins, tt_nt) Q) 83 [(0, .ref (lc 0 0)), (1, .int b12.1)] [] lc b12.2 0 0) h (fun b12 h => ?_) (fun a11 h => ?_)
      · refine v_iconst dX2_begins_83 ic_0 ?_
        refine v_istore_n [(1, .int (0 : Int32)), (0, .ref (lc 0 0))] dX2_begins_84 (Nat.le_of_ble_eq_true rfl) rfl ?_
        refine v_sub [1, 0] rfl ?_
        refine itr_loop (P := fun a16 : Int32 × tt_St => tt_V (XW l D dA A b) cX2_begins (RX2, 5, none, rmW_begins, tt_nt) (tt_fn (XW l D dA A b) (RX2, 5, none, rmW_begins, tt_nt) Q) 85 [(0, .ref (lc 0 0)), (1, .int a16.1)] [] lc a16.2 0 0) (PE := fun b17 : Int32 × tt_St => tt_V (XW l D dA A b) cX2_begins (RX2, 5, none, rmW_begins, tt_nt) (tt_fn (XW l D dA A b) (RX2, 5, none, rmW_begins, tt_nt) Q) 111 [(0, .ref (lc 0 0)), (1, .int b17.1)] [] lc b17.2 0 0) h (fun b17 h => ?_) (fun a16 h => ?_)
        · refine v_aload_n 0 dX2_begins_111 rfl ?_
          refine v_iconst dX2_begins_112 ic_0 ?_
          refine pW_X2_111_0 dX2_begins_113 ?_
          refine v_nmS (fun s22 e_s22 => ?_)
          have h := Ok.nm h e_s22
          refine v_aload_n 0 dX2_begins_116 rfl ?_
          refine v_iconst dX2_begins_117 ic_0 ?_
          refine pW_X2_115_0 dX2_begins_118 ?_
          refine v_nmS (fun s23 e_s23 => ?_)
          have h := Ok.nm h e_s23
          refine v_aload_n 0 dX2_begins_121 rfl ?_
          refine v_iconst dX2_begins_122 ic_0 ?_
          refine pW_X2_118_0 dX2_begins_123 ?_
          refine v_nmS (fun s24 e_s24 => ?_)
          have h := Ok.nm h e_s24
          refine v_aload_n 0 dX2_begins_126 rfl ?_
          refine v_iconst dX2_begins_127 ic_0 ?_
          refine pW_X2_121_0 dX2_begins_128 ?_
          refine v_nmS (fun s25 e_s25 => ?_)
          have h := Ok.nm h e_s25
          refine v_aload_n 0 dX2_begins_131 rfl ?_
          refine v_iconst dX2_begins_132 ic_0 ?_
          refine pW_X2_124_0 dX2_begins_133 ?_
          refine v_nmS (fun s26 e_s26 => ?_)
          have h := Ok.nm h e_s26
          refine v_aload_n 0 dX2_begins_136 rfl ?_
          refine v_iconst dX2_begins_137 ic_0 ?_
          refine pW_X2_127_0 dX2_begins_138 ?_
          refine v_nmS (fun s27 e_s27 => ?_)
          have h := Ok.nm h e_s27
          refine v_aload_n 0 dX2_begins_141 rfl ?_
          refine v_iconst dX2_begins_142 ic_0 ?_
          refine pW_X2_130_0 zB_0 zF_0 dX2_begins_143 ?_
          refine v_nmS (fun s28 e_s28 => ?_)
          have h := Ok.nm h e_s28
          have h := Ok.ret h
          exact v_vret rfl (Nat.zero_le _) (Nat.zero_le _) dX2_begins_146 h
        · have h : Ok (fW_begins_L85 a16) _ := h
          unfold fW_begins_L85 at h
          refine v_iload_n 1 dX2_begins_85 rfl ?_
          refine v_bipush dX2_begins_86 kb_10 ?_
          refine v_icmp_ge (tgt := 111) dX2_begins_88 rfl (fun c18 => ?_) (fun c18 => ?_)
          · have h := Ok.pos h c18
            have h := Ok.ret h
            exact h
          · have h := Ok.neg h c18
            refine v_aload_n 0 dX2_begins_91 rfl ?_
            refine gW_X2_32_0 dX2_begins_92 ?_
            refine v_iload_n 1 dX2_begins_95 rfl ?_
            refine v_iconst dX2_begins_96 ic_0 ?_
            obtain ⟨g19, h⟩ := Ok.guard h
            refine sW_24 g19 dX2_begins_97 ?_
            refine v_nmS (fun s20 e_s20 => ?_)
            have h := Ok.nm h e_s20
            refine v_aload_n 0 dX2_begins_98 rfl ?_
            refine gW_X2_35_0 dX2_begins_99 ?_
            refine v_iload_n 1 dX2_begins_102 rfl ?_
            refine v_lconst dX2_begins_103 kl_0 ?_
            refine sW_25 g19 dX2_begins_104 ?_
            refine v_nmS (fun s21 e_s21 => ?_)
            have h := Ok.nm h e_s21
            refine v_iinc (v := (a16.1 + 1 : Int32)) 1 [(1, .int (a16.1 + 1 : Int32)), (0, .ref (lc 0 0))] dX2_begins_105 rfl (by rw [ic_1]) (Nat.le_of_ble_eq_true rfl) rfl ?_
            refine v_goto (tgt := 85) dX2_begins_108 rfl ?_
            refine v_sub [1, 0] rfl ?_
            have h := Ok.ret h
            exact h
      · have h : Ok (fW_begins_L64 a11) _ := h
        unfold fW_begins_L64 at h
        refine v_iload_n 1 dX2_begins_64 rfl ?_
        refine v_bipush dX2_begins_65 kb_12 ?_
        refine v_icmp_ge (tgt := 83) dX2_begins_67 rfl (fun c13 => ?_) (fun c13 => ?_)
        · have h := Ok.pos h c13
          have h := Ok.ret h
          exact h
        · have h := Ok.neg h c13
          refine v_aload_n 0 dX2_begins_70 rfl ?_
          refine gW_X2_28_0 dX2_begins_71 ?_
          refine v_iload_n 1 dX2_begins_74 rfl ?_
          refine v_iconst dX2_begins_75 ic_0 ?_
          obtain ⟨g14, h⟩ := Ok.guard h
          refine sW_23 g14 dX2_begins_76 ?_
          refine v_nmS (fun s15 e_s15 => ?_)
          have h := Ok.nm h e_s15
          refine v_iinc (v := (a11.1 + 1 : Int32)) 1 [(1, .int (a11.1 + 1 : Int32)), (0, .ref (lc 0 0))] dX2_begins_77 rfl (by rw [ic_1]) (Nat.le_of_ble_eq_true rfl) rfl ?_
          refine v_goto (tgt := 64) dX2_begins_80 rfl ?_
          refine v_sub [1, 0] rfl ?_
          have h := Ok.ret h
          exact h
    · have h : Ok (fW_begins_L41 a6) _ := h
      unfold fW_begins_L41 at h
      refine v_iload_n 3 dX2_begins_41 rfl ?_
      refine v_iload_n 2 dX2_begins_42 rfl ?_
      refine v_icmp_ge (tgt := 62) dX2_begins_43 rfl (fun c8 => ?_) (fun c8 => ?_)
      · have h := Ok.pos h c8
        have h := Ok.ret h
        exact h
      · have h := Ok.neg h c8
        refine v_aload_n 1 dX2_begins_46 rfl ?_
        refine v_iload_n 3 dX2_begins_47 rfl ?_
        obtain ⟨g9, h⟩ := Ok.guard h
        refine lW_6 g9 dX2_begins_48 ?_
        refine v_astore [(4, .ref (lc 7 a6.1.toNatClampNeg)), (0, .ref (lc 0 0)), (1, .ref (lc 6 0)), (2, .int (24 : Int32)), (3, .int a6.1)] dX2_begins_49 (Nat.le_of_ble_eq_true rfl) rfl ?_
        refine v_aload 0 dX2_begins_51 rfl ?_
        refine cW_X2_110_7 (.inl (inB_lt g9)) (Ok.bind h) ⟨Nat.le_of_ble_eq_true rfl, Nat.le_of_ble_eq_true rfl⟩ (Nat.le_of_ble_eq_true rfl) dX2_begins_53 (fun r10 h => ?_)
        refine v_iinc (v := (a6.1 + 1 : Int32)) 4 [(3, .int (a6.1 + 1 : Int32)), (4, .ref (lc 7 a6.1.toNatClampNeg)), (0, .ref (lc 0 0)), (1, .ref (lc 6 0)), (2, .int (24 : Int32))] dX2_begins_56 rfl (by rw [ic_1]) (Nat.le_of_ble_eq_true rfl) rfl ?_
        refine v_goto (tgt := 41) dX2_begins_59 rfl ?_
        refine v_sub [2, 3, 4, 0] rfl ?_
        have h := Ok.ret h
        exact h
  · have h : Ok (fW_begins_L10 a1) _ := h
    unfold fW_begins_L10 at h
    refine v_iload_n 3 dX2_begins_10 rfl ?_
    refine v_iload_n 2 dX2_begins_11 rfl ?_
    refine v_icmp_ge (tgt := 31) dX2_begins_12 rfl (fun c3 => ?_) (fun c3 => ?_)
    · have h := Ok.pos h c3
      have h := Ok.ret h
      exact h
    · have h := Ok.neg h c3
      refine v_aload_n 1 dX2_begins_15 rfl ?_
      refine v_iload_n 3 dX2_begins_16 rfl ?_
      obtain ⟨g4, h⟩ := Ok.guard h
      refine lW_1 g4 dX2_begins_17 ?_
      refine v_astore [(4, .ref (lc 2 a1.1.toNatClampNeg)), (0, .ref (lc 0 0)), (1, .ref (lc 1 0)), (2, .int (40 : Int32)), (3, .int a1.1)] dX2_begins_18 (Nat.le_of_ble_eq_true rfl) rfl ?_
      refine v_aload 0 dX2_begins_20 rfl ?_
      refine cW_X2_107_2 (inB_lt g4) (Ok.bind h) ⟨Nat.le_of_ble_eq_true rfl, Nat.le_of_ble_eq_true rfl⟩ (Nat.le_of_ble_eq_true rfl) dX2_begins_22 (fun r5 h => ?_)
      refine v_iinc (v := (a1.1 + 1 : Int32)) 4 [(3, .int (a1.1 + 1 : Int32)), (4, .ref (lc 2 a1.1.toNatClampNeg)), (0, .ref (lc 0 0)), (1, .ref (lc 1 0)), (2, .int (40 : Int32))] dX2_begins_25 rfl (by rw [ic_1]) (Nat.le_of_ble_eq_true rfl) rfl ?_
      refine v_goto (tgt := 10) dX2_begins_28 rfl ?_
      refine v_sub [2, 3, 4, 0] rfl ?_
      have h := Ok.ret h
      exact h
def fW_holdsTo (s : tt_St) (x1 : Int32) (x2 : Int32) (x3 : Int32) : Option (tt_St) :=
  nm (wrI s 0 0 18 x1) fun s1 => nm (wrI s1 0 0 19 x2) fun s2 => nm (wrI s2 0 0 20 x3) fun s3 => nm (wrI s3 0 0 23 (1 : Int32)) fun s4 => some s4
abbrev rmW_holdsTo : Room := { frames := 0, cells := 0, slots := 0, locals := 0 }
set_option maxHeartbeats 4000000 in
theorem mW_holdsTo (l : Launch) (D : va_G) (dA : Nat → ClassId) (A : Nat → Prop) (b : Bool) (lc : Nat → Nat → Nat) (s : tt_St) (x1 : Int32) (x2 : Int32) (x3 : Int32) {Q : Option Value → (Nat → Nat → Nat) → tt_St → Prop} (h : Ok (fW_holdsTo s x1 x2 x3) (fun r => Q none lc r)) : tt_Sp (XW l D dA A b) yX2_holdsTo cX2_holdsTo 4 none rmW_holdsTo [.ref (lc 0 0), .int x1, .int x2, .int x3] lc s Q := by
  refine tt_Sp.ofV plX2 kokW (Nat.le_of_ble_eq_true rfl) ?_
  show tt_V (XW l D dA A b) cX2_holdsTo (RX2, 4, none, rmW_holdsTo, tt_nt) (tt_fn (XW l D dA A b) (RX2, 4, none, rmW_holdsTo, tt_nt) Q) 0 [(0, .ref (lc 0 0)), (1, .int x1), (2, .int x2), (3, .int x3)] [] lc s 0 0
  unfold fW_holdsTo at h
  refine v_aload_n 0 dX2_holdsTo_0 rfl ?_
  refine v_iload_n 1 dX2_holdsTo_1 rfl ?_
  refine pW_X2_115_0 dX2_holdsTo_2 ?_
  refine v_nmS (fun s1 e_s1 => ?_)
  have h := Ok.nm h e_s1
  refine v_aload_n 0 dX2_holdsTo_5 rfl ?_
  refine v_iload_n 2 dX2_holdsTo_6 rfl ?_
  refine pW_X2_118_0 dX2_holdsTo_7 ?_
  refine v_nmS (fun s2 e_s2 => ?_)
  have h := Ok.nm h e_s2
  refine v_aload_n 0 dX2_holdsTo_10 rfl ?_
  refine v_iload_n 3 dX2_holdsTo_11 rfl ?_
  refine pW_X2_121_0 dX2_holdsTo_12 ?_
  refine v_nmS (fun s3 e_s3 => ?_)
  have h := Ok.nm h e_s3
  refine v_aload_n 0 dX2_holdsTo_15 rfl ?_
  refine v_iconst dX2_holdsTo_16 ic_1 ?_
  refine pW_X2_130_0 zB_1 zF_1 dX2_holdsTo_17 ?_
  refine v_nmS (fun s4 e_s4 => ?_)
  have h := Ok.nm h e_s4
  have h := Ok.ret h
  exact v_vret rfl (Nat.zero_le _) (Nat.zero_le _) dX2_holdsTo_20 h
theorem gW_X2_25_0 {l : Launch} {D : va_G} {dA : Nat → ClassId} {A : Nat → Prop} {b : Bool} {lc : Nat → Nat → Nat} {s : tt_St} {cc : ByteArray} {nl : Nat} {rt : Option FieldType} {rm : Room} {tn : tt_Tn} {Q : tt_Fin} {pc : Nat} {lv : List (Nat × Value)} {rest : List Value} {ck cn : Nat} (d : decode cc pc = .ok (.getfield 25, 3)) (kk : tt_V (XW l D dA A b) cc (RX2, nl, rt, rm, tn) Q (pc + 3) lv (.ref (lc 21 0) :: rest) lc s ck cn) : tt_V (XW l D dA A b) cc (RX2, nl, rt, rm, tn) Q pc lv (.ref (lc 0 0) :: rest) lc s ck cn := v_get (p := 2) lvW_0 oW_0 rfl in_X2 (by decide) q730 (.inl rfl) rfl d kk
def fW_layerAt (s : tt_St) (x1 : Int32) (x2 : Int32) : Option (Nat) :=
  if inB x1 12 then if inB x2 6 then if inB (rdI s 22 x1.toNatClampNeg x2.toNatClampNeg) 40 then some ((rdI s 22 x1.toNatClampNeg x2.toNatClampNeg).toNatClampNeg) else none else none else none
abbrev rmW_layerAt : Room := { frames := 0, cells := 0, slots := 0, locals := 0 }
set_option maxHeartbeats 4000000 in
theorem mW_layerAt (l : Launch) (D : va_G) (dA : Nat → ClassId) (A : Nat → Prop) (b : Bool) (lc : Nat → Nat → Nat) (s : tt_St) (x1 : Int32) (x2 : Int32) {Q : Option Value → (Nat → Nat → Nat) → tt_St → Prop} (h : Ok (fW_layerAt s x1 x2) (fun r => r < 40 → Q (some (.ref (lc 2 r))) lc s)) : tt_Sp (XW l D dA A b) yX2_layerAt cX2_layerAt 3 (some (.object "TallTowers$Layer")) rmW_layerAt [.ref (lc 0 0), .int x1, .int x2] lc s Q := by
  refine tt_Sp.ofV plX2 kokW (Nat.le_of_ble_eq_true rfl) ?_
  show tt_V (XW l D dA A b) cX2_layerAt (RX2, 3, (some (.object "TallTowers$Layer")), rmW_layerAt, tt_nt) (tt_fn (XW l D dA A b) (RX2, 3, (some (.object "TallTowers$Layer")), rmW_layerAt, tt_nt) Q) 0 [(0, .ref (lc 0 0)), (1, .int x1), (2, .int x2)] [] lc s 0 0
  unfold fW_layerAt at h
  refine v_aload_n 0 dX2_layerAt_0 rfl ?_
  refine gW_X2_11_0 dX2_layerAt_1 ?_
  refine v_aload_n 0 dX2_layerAt_4 rfl ?_
  refine gW_X2_25_0 dX2_layerAt_5 ?_
  refine v_iload_n 1 dX2_layerAt_8 rfl ?_
  obtain ⟨g1, h⟩ := Ok.guard h
  refine lW_21 g1 dX2_layerAt_9 ?_
  refine v_iload_n 2 dX2_layerAt_10 rfl ?_
  obtain ⟨g2, h⟩ := Ok.guard h
  refine lW_22 (inB_lt g1) g2 dX2_layerAt_11 ?_
  obtain ⟨g3, h⟩ := Ok.guard h
  refine lW_1 g3 dX2_layerAt_12 ?_
  have h := Ok.ret h
  exact v_aret rfl (Nat.zero_le _) (Nat.zero_le _) dX2_layerAt_13 (h (inB_lt g3))
theorem cW_X2_140_0 {l : Launch} {D : va_G} {dA : Nat → ClassId} {A : Nat → Prop} {b : Bool} {lc : Nat → Nat → Nat} {s : tt_St} {cc : ByteArray} {nl : Nat} {rt : Option FieldType} {rm : Room} {tn : tt_Tn} {Q : tt_Fin} {pc : Nat} {lv : List (Nat × Value)} {rest : List Value} {ck cn : Nat} {x1 : Int32} {x2 : Int32} {K : Nat → Prop} (h : Ok (fW_layerAt s x1 x2) K) (hR : 0 + 1 ≤ rm.frames ∧ 8 + (3 + 11) + 0 ≤ rm.locals) (hW : (rest.map fun v => v.category).sum ≤ 8) (d : decode cc pc = .ok (.invokevirtual 140, 3)) (kk : ∀ r, r < 40 → K r → tt_V (XW l D dA A b) cc (RX2, nl, rt, rm, tn) Q (pc + 3) lv (.ref (lc 2 r) :: rest) lc s ck cn) (hf : ck ≤ rm.cells ∧ cn ≤ rm.slots := by exact ⟨Nat.zero_le _, Nat.zero_le _⟩) : tt_V (XW l D dA A b) cc (RX2, nl, rt, rm, tn) Q pc lv (.int x2 :: .int x1 :: .ref (lc 0 0) :: rest) lc s ck cn :=
  v_callV (kd := 0) (i := 0) (nA := 2) (As := [.int x1, .int x2]) lvW_0 oW_0 rfl (mW_layerAt l D dA A b lc s x1 x2 (Q := (fun v lc' s' => ∃ r, r < 40 ∧ K r ∧ v = some (.ref (lc 2 r)) ∧ lc' = lc ∧ s' = s)) (h.mono (fun r hr => fun hz => ⟨r, hz, hr, rfl, rfl, rfl⟩))) (lw_V q488 q489 q490 q128 q491) (by decide +kernel) rfl hR hW hf d rfl (fun v lc' s' q => by obtain ⟨r, hz, hr, e1, e2, e3⟩ := q; rw [e1, e2, e3]; exact kk r hz hr)
theorem gW_X2_144_2 {l : Launch} {D : va_G} {dA : Nat → ClassId} {A : Nat → Prop} {b : Bool} {lc : Nat → Nat → Nat} {s : tt_St} {cc : ByteArray} {nl : Nat} {rt : Option FieldType} {rm : Room} {tn : tt_Tn} {Q : tt_Fin} {pc : Nat} {lv : List (Nat × Value)} {rest : List Value} {ck cn : Nat} {i : Nat} (hv : i < 40) (d : decode cc pc = .ok (.getfield 144, 3)) (kk : tt_V (XW l D dA A b) cc (RX2, nl, rt, rm, tn) Q (pc + 3) lv (.int (rdI s 2 i 5) :: rest) lc s ck cn) : tt_V (XW l D dA A b) cc (RX2, nl, rt, rm, tn) Q pc lv (.ref (lc 2 i) :: rest) lc s ck cn := v_getN (p := 5) knW (lvW_2 hv) oW_2 rfl in_X6 (by decide) q354 (.inl rfl) rfl d kk
theorem gW_X6_40_2 {l : Launch} {D : va_G} {dA : Nat → ClassId} {A : Nat → Prop} {b : Bool} {lc : Nat → Nat → Nat} {s : tt_St} {cc : ByteArray} {nl : Nat} {rt : Option FieldType} {rm : Room} {tn : tt_Tn} {Q : tt_Fin} {pc : Nat} {lv : List (Nat × Value)} {rest : List Value} {ck cn : Nat} {i : Nat} (hv : i < 40) (d : decode cc pc = .ok (.getfield 40, 3)) (kk : tt_V (XW l D dA A b) cc (RX6, nl, rt, rm, tn) Q (pc + 3) lv (.int (rdI s 2 i 5) :: rest) lc s ck cn) : tt_V (XW l D dA A b) cc (RX6, nl, rt, rm, tn) Q pc lv (.ref (lc 2 i) :: rest) lc s ck cn := v_get (p := 5) (lvW_2 hv) oW_2 rfl in_X6 (by decide) q353 (.inl rfl) rfl d kk
theorem gW_X6_43_2 {l : Launch} {D : va_G} {dA : Nat → ClassId} {A : Nat → Prop} {b : Bool} {lc : Nat → Nat → Nat} {s : tt_St} {cc : ByteArray} {nl : Nat} {rt : Option FieldType} {rm : Room} {tn : tt_Tn} {Q : tt_Fin} {pc : Nat} {lv : List (Nat × Value)} {rest : List Value} {ck cn : Nat} {i : Nat} (hv : i < 40) (d : decode cc pc = .ok (.getfield 43, 3)) (kk : tt_V (XW l D dA A b) cc (RX6, nl, rt, rm, tn) Q (pc + 3) lv (.int (rdI s 2 i 6) :: rest) lc s ck cn) : tt_V (XW l D dA A b) cc (RX6, nl, rt, rm, tn) Q pc lv (.ref (lc 2 i) :: rest) lc s ck cn := v_get (p := 6) (lvW_2 hv) oW_2 rfl in_X6 (by decide) q356 (.inl rfl) rfl d kk
def fY_top (s : tt_St) (x0 : Nat) : Option (Int32) :=
  some ((rdI s 2 x0 5) + (rdI s 2 x0 6))
abbrev rmY_top : Room := { frames := 0, cells := 0, slots := 0, locals := 0 }
set_option maxHeartbeats 4000000 in
theorem mY_top (l : Launch) (D : va_G) (dA : Nat → ClassId) (A : Nat → Prop) (b : Bool) (lc : Nat → Nat → Nat) (s : tt_St) (x0 : Nat) (hx0 : x0 < 40) {Q : Option Value → (Nat → Nat → Nat) → tt_St → Prop} (h : Ok (fY_top s x0) (fun r => Q (some (.int r)) lc s)) : tt_Sp (XW l D dA A b) yX6_top cX6_top 1 (some .int) rmY_top [.ref (lc 2 x0)] lc s Q := by
  refine tt_Sp.ofV plX6 kokW (Nat.le_of_ble_eq_true rfl) ?_
  show tt_V (XW l D dA A b) cX6_top (RX6, 1, (some .int), rmY_top, tt_nt) (tt_fn (XW l D dA A b) (RX6, 1, (some .int), rmY_top, tt_nt) Q) 0 [(0, .ref (lc 2 x0))] [] lc s 0 0
  unfold fY_top at h
  refine v_aload_n 0 dX6_top_0 rfl ?_
  refine gW_X6_40_2 hx0 dX6_top_1 ?_
  refine v_aload_n 0 dX6_top_4 rfl ?_
  refine gW_X6_43_2 hx0 dX6_top_5 ?_
  refine v_iadd dX6_top_8 ?_
  have h := Ok.ret h
  exact v_iret rfl (Nat.zero_le _) (Nat.zero_le _) dX6_top_9 h
theorem cW_X2_147_2 {l : Launch} {D : va_G} {dA : Nat → ClassId} {A : Nat → Prop} {b : Bool} {lc : Nat → Nat → Nat} {s : tt_St} {cc : ByteArray} {nl : Nat} {rt : Option FieldType} {rm : Room} {tn : tt_Tn} {Q : tt_Fin} {pc : Nat} {lv : List (Nat × Value)} {rest : List Value} {ck cn : Nat} {x0 : Nat} (hx0 : x0 < 40) {K : Int32 → Prop} (h : Ok (fY_top s x0) K) (hR : 0 + 1 ≤ rm.frames ∧ 8 + (1 + 11) + 0 ≤ rm.locals) (hW : (rest.map fun v => v.category).sum ≤ 8) (d : decode cc pc = .ok (.invokevirtual 147, 3)) (kk : ∀ r, K r → tt_V (XW l D dA A b) cc (RX2, nl, rt, rm, tn) Q (pc + 3) lv (.int r :: rest) lc s ck cn) (hf : ck ≤ rm.cells ∧ cn ≤ rm.slots := by exact ⟨Nat.zero_le _, Nat.zero_le _⟩) : tt_V (XW l D dA A b) cc (RX2, nl, rt, rm, tn) Q pc lv (.ref (lc 2 x0) :: rest) lc s ck cn :=
  v_callV (kd := 2) (i := x0) (nA := 0) (As := []) (lvW_2 hx0) oW_2 rfl (mY_top l D dA A b lc s x0 hx0 (Q := (fun v lc' s' => ∃ r, K r ∧ v = some (.int r) ∧ lc' = lc ∧ s' = s)) (h.mono (fun r hr => ⟨r, hr, rfl, rfl, rfl⟩))) (lw_V q500 q501 q502 q139 q503) (by decide +kernel) rfl hR hW hf d rfl (fun v lc' s' q => by obtain ⟨r, hr, e1, e2, e3⟩ := q; rw [e1, e2, e3]; exact kk r hr)
def fW_holeOf (s : tt_St) (x1 : Int32) (x2 : Int32) : Option (Int32) :=
  (fW_layerAt s x1 x2).bind fun r1 => if x2 = 0 then some ((rdI s 2 r1 5) - (0 : Int32)) else (fW_layerAt s x1 (x2 - (1 : Int32))).bind fun r3 => (fY_top s r3).bind fun r4 => some ((rdI s 2 r1 5) - r4)
abbrev rmW_holeOf : Room := { frames := 1, cells := 0, slots := 0, locals := 22 }
set_option maxHeartbeats 4000000 in
theorem mW_holeOf (l : Launch) (D : va_G) (dA : Nat → ClassId) (A : Nat → Prop) (b : Bool) (lc : Nat → Nat → Nat) (s : tt_St) (x1 : Int32) (x2 : Int32) {Q : Option Value → (Nat → Nat → Nat) → tt_St → Prop} (h : Ok (fW_holeOf s x1 x2) (fun r => Q (some (.int r)) lc s)) : tt_Sp (XW l D dA A b) yX2_holeOf cX2_holeOf 3 (some .int) rmW_holeOf [.ref (lc 0 0), .int x1, .int x2] lc s Q := by
  refine tt_Sp.ofV plX2 kokW (Nat.le_of_ble_eq_true rfl) ?_
  show tt_V (XW l D dA A b) cX2_holeOf (RX2, 3, (some .int), rmW_holeOf, tt_nt) (tt_fn (XW l D dA A b) (RX2, 3, (some .int), rmW_holeOf, tt_nt) Q) 0 [(0, .ref (lc 0 0)), (1, .int x1), (2, .int x2)] [] lc s 0 0
  unfold fW_holeOf at h
  refine v_aload_n 0 dX2_holeOf_0 rfl ?_
  refine v_iload_n 1 dX2_holeOf_1 rfl ?_
  refine v_iload_n 2 dX2_holeOf_2 rfl ?_
  refine cW_X2_140_0 (Ok.bind h) ⟨Nat.le_of_ble_eq_true rfl, Nat.le_of_ble_eq_true rfl⟩ (Nat.le_of_ble_eq_true rfl) dX2_holeOf_3 (fun r1 z_r1 h => ?_)
  refine gW_X2_144_2 z_r1 dX2_holeOf_6 ?_
  refine v_iload_n 2 dX2_holeOf_9 rfl ?_
  refine v_if_ne (tgt := 17) dX2_holeOf_10 rfl (fun c2 => ?_) (fun c2 => ?_)
  · have h := Ok.neg h c2
    refine v_aload_n 0 dX2_holeOf_17 rfl ?_
    refine v_iload_n 1 dX2_holeOf_18 rfl ?_
    refine v_iload_n 2 dX2_holeOf_19 rfl ?_
    refine v_iconst dX2_holeOf_20 ic_1 ?_
    refine v_isub dX2_holeOf_21 ?_
    refine cW_X2_140_0 (Ok.bind h) ⟨Nat.le_of_ble_eq_true rfl, Nat.le_of_ble_eq_true rfl⟩ (Nat.le_of_ble_eq_true rfl) dX2_holeOf_22 (fun r3 z_r3 h => ?_)
    refine cW_X2_147_2 z_r3 (Ok.bind h) ⟨Nat.le_of_ble_eq_true rfl, Nat.le_of_ble_eq_true rfl⟩ (Nat.le_of_ble_eq_true rfl) dX2_holeOf_25 (fun r4 h => ?_)
    refine v_isub dX2_holeOf_28 ?_
    have h := Ok.ret h
    exact v_iret rfl (Nat.zero_le _) (Nat.zero_le _) dX2_holeOf_29 h
  · have h := Ok.pos h c2
    refine v_iconst dX2_holeOf_13 ic_0 ?_
    refine v_goto (tgt := 28) dX2_holeOf_14 rfl ?_
    refine v_isub dX2_holeOf_28 ?_
    have h := Ok.ret h
    exact v_iret rfl (Nat.zero_le _) (Nat.zero_le _) dX2_holeOf_29 h
theorem cW_X2_151_0 {l : Launch} {D : va_G} {dA : Nat → ClassId} {A : Nat → Prop} {b : Bool} {lc : Nat → Nat → Nat} {s : tt_St} {cc : ByteArray} {nl : Nat} {rt : Option FieldType} {rm : Room} {tn : tt_Tn} {Q : tt_Fin} {pc : Nat} {lv : List (Nat × Value)} {rest : List Value} {ck cn : Nat} {x1 : Int32} {K : Int32 → Prop} (h : Ok (fW_isLacking s x1) K) (hR : 0 + 1 ≤ rm.frames ∧ 8 + (2 + 11) + 0 ≤ rm.locals) (hW : (rest.map fun v => v.category).sum ≤ 8) (d : decode cc pc = .ok (.invokevirtual 151, 3)) (kk : ∀ r, zB r → K r → tt_V (XW l D dA A b) cc (RX2, nl, rt, rm, tn) Q (pc + 3) lv (.int r :: rest) lc s ck cn) (hf : ck ≤ rm.cells ∧ cn ≤ rm.slots := by exact ⟨Nat.zero_le _, Nat.zero_le _⟩) : tt_V (XW l D dA A b) cc (RX2, nl, rt, rm, tn) Q pc lv (.int x1 :: .ref (lc 0 0) :: rest) lc s ck cn :=
  v_callV (kd := 0) (i := 0) (nA := 1) (As := [.int x1]) lvW_0 oW_0 rfl (mW_isLacking l D dA A b lc s x1 (Q := (fun v lc' s' => ∃ r, zB r ∧ K r ∧ v = some (.int r) ∧ lc' = lc ∧ s' = s)) (h.mono (fun r hr => fun hz => ⟨r, hz, hr, rfl, rfl, rfl⟩))) (lw_V q469 q470 q471 q128 q472) (by decide +kernel) rfl hR hW hf d rfl (fun v lc' s' q => by obtain ⟨r, hz, hr, e1, e2, e3⟩ := q; rw [e1, e2, e3]; exact kk r hz hr)
theorem gW_X2_124_0 {l : Launch} {D : va_G} {dA : Nat → ClassId} {A : Nat → Prop} {b : Bool} {lc : Nat → Nat → Nat} {s : tt_St} {cc : ByteArray} {nl : Nat} {rt : Option FieldType} {rm : Room} {tn : tt_Tn} {Q : tt_Fin} {pc : Nat} {lv : List (Nat × Value)} {rest : List Value} {ck cn : Nat} (d : decode cc pc = .ok (.getfield 124, 3)) (kk : tt_V (XW l D dA A b) cc (RX2, nl, rt, rm, tn) Q (pc + 3) lv (.int (rdI s 0 0 21) :: rest) lc s ck cn) : tt_V (XW l D dA A b) cc (RX2, nl, rt, rm, tn) Q pc lv (.ref (lc 0 0) :: rest) lc s ck cn := v_get (p := 21) lvW_0 oW_0 rfl in_X2 (by decide) q761 (.inl rfl) rfl d kk
theorem cW_X6_49_2 {l : Launch} {D : va_G} {dA : Nat → ClassId} {A : Nat → Prop} {b : Bool} {lc : Nat → Nat → Nat} {s : tt_St} {cc : ByteArray} {nl : Nat} {rt : Option FieldType} {rm : Room} {tn : tt_Tn} {Q : tt_Fin} {pc : Nat} {lv : List (Nat × Value)} {rest : List Value} {ck cn : Nat} {x0 : Nat} (hx0 : x0 < 40) {K : Int32 → Prop} (h : Ok (fY_top s x0) K) (hR : 0 + 1 ≤ rm.frames ∧ 8 + (1 + 11) + 0 ≤ rm.locals) (hW : (rest.map fun v => v.category).sum ≤ 8) (d : decode cc pc = .ok (.invokevirtual 49, 3)) (kk : ∀ r, K r → tt_V (XW l D dA A b) cc (RX6, nl, rt, rm, tn) Q (pc + 3) lv (.int r :: rest) lc s ck cn) (hf : ck ≤ rm.cells ∧ cn ≤ rm.slots := by exact ⟨Nat.zero_le _, Nat.zero_le _⟩) : tt_V (XW l D dA A b) cc (RX6, nl, rt, rm, tn) Q pc lv (.ref (lc 2 x0) :: rest) lc s ck cn :=
  v_callV (kd := 2) (i := x0) (nA := 0) (As := []) (lvW_2 hx0) oW_2 rfl (mY_top l D dA A b lc s x0 hx0 (Q := (fun v lc' s' => ∃ r, K r ∧ v = some (.int r) ∧ lc' = lc ∧ s' = s)) (h.mono (fun r hr => ⟨r, hr, rfl, rfl, rfl⟩))) (lw_V q968 q501 q502 q139 q503) (by decide +kernel) rfl hR hW hf d rfl (fun v lc' s' q => by obtain ⟨r, hr, e1, e2, e3⟩ := q; rw [e1, e2, e3]; exact kk r hr)
def fY_meets (s : tt_St) (x0 : Nat) (x1 : Int32) (x2 : Int32) : Option (Int32) :=
  if (x1 + x2) ≤ (rdI s 2 x0 5) then some (0 : Int32) else (fY_top s x0).bind fun r2 => if r2 ≤ x1 then some (0 : Int32) else some (1 : Int32)
abbrev rmY_meets : Room := { frames := 1, cells := 0, slots := 0, locals := 20 }
set_option maxHeartbeats 4000000 in
theorem mY_meets (l : Launch) (D : va_G) (dA : Nat → ClassId) (A : Nat → Prop) (b : Bool) (lc : Nat → Nat → Nat) (s : tt_St) (x0 : Nat) (x1 : Int32) (x2 : Int32) (hx0 : x0 < 40) {Q : Option Value → (Nat → Nat → Nat) → tt_St → Prop} (h : Ok (fY_meets s x0 x1 x2) (fun r => zB r → Q (some (.int r)) lc s)) : tt_Sp (XW l D dA A b) yX6_meets cX6_meets 3 (some .boolean) rmY_meets [.ref (lc 2 x0), .int x1, .int x2] lc s Q := by
  refine tt_Sp.ofV plX6 kokW (Nat.le_of_ble_eq_true rfl) ?_
  show tt_V (XW l D dA A b) cX6_meets (RX6, 3, (some .boolean), rmY_meets, tt_nt) (tt_fn (XW l D dA A b) (RX6, 3, (some .boolean), rmY_meets, tt_nt) Q) 0 [(0, .ref (lc 2 x0)), (1, .int x1), (2, .int x2)] [] lc s 0 0
  unfold fY_meets at h
  refine v_aload_n 0 dX6_meets_0 rfl ?_
  refine gW_X6_40_2 hx0 dX6_meets_1 ?_
  refine v_iload_n 1 dX6_meets_4 rfl ?_
  refine v_iload_n 2 dX6_meets_5 rfl ?_
  refine v_iadd dX6_meets_6 ?_
  refine v_icmp_ge (tgt := 22) dX6_meets_7 rfl (fun c1 => ?_) (fun c1 => ?_)
  · have h := Ok.pos h c1
    refine v_iconst dX6_meets_22 ic_0 ?_
    have h := Ok.ret h
    exact v_zret rfl zB_0 (Nat.zero_le _) (Nat.zero_le _) dX6_meets_23 (h zB_0)
  · have h := Ok.neg h c1
    refine v_iload_n 1 dX6_meets_10 rfl ?_
    refine v_aload_n 0 dX6_meets_11 rfl ?_
    refine cW_X6_49_2 hx0 (Ok.bind h) ⟨Nat.le_of_ble_eq_true rfl, Nat.le_of_ble_eq_true rfl⟩ (Nat.le_of_ble_eq_true rfl) dX6_meets_12 (fun r2 h => ?_)
    refine v_icmp_ge (tgt := 22) dX6_meets_15 rfl (fun c3 => ?_) (fun c3 => ?_)
    · have h := Ok.pos h c3
      refine v_iconst dX6_meets_22 ic_0 ?_
      have h := Ok.ret h
      exact v_zret rfl zB_0 (Nat.zero_le _) (Nat.zero_le _) dX6_meets_23 (h zB_0)
    · have h := Ok.neg h c3
      refine v_iconst dX6_meets_18 ic_1 ?_
      refine v_goto (tgt := 23) dX6_meets_19 rfl ?_
      have h := Ok.ret h
      exact v_zret rfl zB_1 (Nat.zero_le _) (Nat.zero_le _) dX6_meets_23 (h zB_1)
theorem cW_X2_155_2 {l : Launch} {D : va_G} {dA : Nat → ClassId} {A : Nat → Prop} {b : Bool} {lc : Nat → Nat → Nat} {s : tt_St} {cc : ByteArray} {nl : Nat} {rt : Option FieldType} {rm : Room} {tn : tt_Tn} {Q : tt_Fin} {pc : Nat} {lv : List (Nat × Value)} {rest : List Value} {ck cn : Nat} {x0 : Nat} {x1 : Int32} {x2 : Int32} (hx0 : x0 < 40) {K : Int32 → Prop} (h : Ok (fY_meets s x0 x1 x2) K) (hR : 1 + 1 ≤ rm.frames ∧ 8 + (3 + 11) + 20 ≤ rm.locals) (hW : (rest.map fun v => v.category).sum ≤ 8) (d : decode cc pc = .ok (.invokevirtual 155, 3)) (kk : ∀ r, zB r → K r → tt_V (XW l D dA A b) cc (RX2, nl, rt, rm, tn) Q (pc + 3) lv (.int r :: rest) lc s ck cn) (hf : ck ≤ rm.cells ∧ cn ≤ rm.slots := by exact ⟨Nat.zero_le _, Nat.zero_le _⟩) : tt_V (XW l D dA A b) cc (RX2, nl, rt, rm, tn) Q pc lv (.int x2 :: .int x1 :: .ref (lc 2 x0) :: rest) lc s ck cn :=
  v_callV (kd := 2) (i := x0) (nA := 2) (As := [.int x1, .int x2]) (lvW_2 hx0) oW_2 rfl (mY_meets l D dA A b lc s x0 x1 x2 hx0 (Q := (fun v lc' s' => ∃ r, zB r ∧ K r ∧ v = some (.int r) ∧ lc' = lc ∧ s' = s)) (h.mono (fun r hr => fun hz => ⟨r, hz, hr, rfl, rfl, rfl⟩))) (lw_V q964 q965 q966 q139 q967) (by decide +kernel) rfl hR hW hf d rfl (fun v lc' s' q => by obtain ⟨r, hz, hr, e1, e2, e3⟩ := q; rw [e1, e2, e3]; exact kk r hz hr)
theorem pW_X6_37_2 {l : Launch} {D : va_G} {dA : Nat → ClassId} {A : Nat → Prop} {b : Bool} {lc : Nat → Nat → Nat} {s : tt_St} {cc : ByteArray} {nl : Nat} {rt : Option FieldType} {rm : Room} {tn : tt_Tn} {Q : tt_Fin} {pc : Nat} {lv : List (Nat × Value)} {rest : List Value} {ck cn : Nat} {i : Nat} (hv : i < 40) {x : Int32} (d : decode cc pc = .ok (.putfield 37, 3)) (kk : tt_V (XW l D dA A b) cc (RX6, nl, rt, rm, tn) Q (pc + 3) lv rest lc (wrI s 2 i 4 x) ck cn) : tt_V (XW l D dA A b) cc (RX6, nl, rt, rm, tn) Q pc lv (.int x :: .ref (lc 2 i) :: rest) lc s ck cn := v_put (p := 4) (lvW_2 hv) oW_2 (uW_2_4 ..) (fun _ _ h => tt_ent_wrI eW h) (fun _ _ h => h) rfl in_X6 tyX6 tyX6_ok nmX6 (by decide) q350 (.inl rfl) rfl rfl rfl (Nat.le_of_ble_eq_true rfl) d kk
theorem pW_X6_40_2 {l : Launch} {D : va_G} {dA : Nat → ClassId} {A : Nat → Prop} {b : Bool} {lc : Nat → Nat → Nat} {s : tt_St} {cc : ByteArray} {nl : Nat} {rt : Option FieldType} {rm : Room} {tn : tt_Tn} {Q : tt_Fin} {pc : Nat} {lv : List (Nat × Value)} {rest : List Value} {ck cn : Nat} {i : Nat} (hv : i < 40) {x : Int32} (d : decode cc pc = .ok (.putfield 40, 3)) (kk : tt_V (XW l D dA A b) cc (RX6, nl, rt, rm, tn) Q (pc + 3) lv rest lc (wrI s 2 i 5 x) ck cn) : tt_V (XW l D dA A b) cc (RX6, nl, rt, rm, tn) Q pc lv (.int x :: .ref (lc 2 i) :: rest) lc s ck cn := v_put (p := 5) (lvW_2 hv) oW_2 (uW_2_5 ..) (fun _ _ h => tt_ent_wrI eW h) (fun _ _ h => h) rfl in_X6 tyX6 tyX6_ok nmX6 (by decide) q353 (.inl rfl) rfl rfl rfl (Nat.le_of_ble_eq_true rfl) d kk
theorem pW_X6_43_2 {l : Launch} {D : va_G} {dA : Nat → ClassId} {A : Nat → Prop} {b : Bool} {lc : Nat → Nat → Nat} {s : tt_St} {cc : ByteArray} {nl : Nat} {rt : Option FieldType} {rm : Room} {tn : tt_Tn} {Q : tt_Fin} {pc : Nat} {lv : List (Nat × Value)} {rest : List Value} {ck cn : Nat} {i : Nat} (hv : i < 40) {x : Int32} (d : decode cc pc = .ok (.putfield 43, 3)) (kk : tt_V (XW l D dA A b) cc (RX6, nl, rt, rm, tn) Q (pc + 3) lv rest lc (wrI s 2 i 6 x) ck cn) : tt_V (XW l D dA A b) cc (RX6, nl, rt, rm, tn) Q pc lv (.int x :: .ref (lc 2 i) :: rest) lc s ck cn := v_put (p := 6) (lvW_2 hv) oW_2 (uW_2_6 ..) (fun _ _ h => tt_ent_wrI eW h) (fun _ _ h => h) rfl in_X6 tyX6 tyX6_ok nmX6 (by decide) q356 (.inl rfl) rfl rfl rfl (Nat.le_of_ble_eq_true rfl) d kk
theorem pW_X6_46_2 {l : Launch} {D : va_G} {dA : Nat → ClassId} {A : Nat → Prop} {b : Bool} {lc : Nat → Nat → Nat} {s : tt_St} {cc : ByteArray} {nl : Nat} {rt : Option FieldType} {rm : Room} {tn : tt_Tn} {Q : tt_Fin} {pc : Nat} {lv : List (Nat × Value)} {rest : List Value} {ck cn : Nat} {i : Nat} (hv : i < 40) {x : Int32} (d : decode cc pc = .ok (.putfield 46, 3)) (kk : tt_V (XW l D dA A b) cc (RX6, nl, rt, rm, tn) Q (pc + 3) lv rest lc (wrI s 2 i 7 x) ck cn) : tt_V (XW l D dA A b) cc (RX6, nl, rt, rm, tn) Q pc lv (.int x :: .ref (lc 2 i) :: rest) lc s ck cn := v_put (p := 7) (lvW_2 hv) oW_2 (uW_2_7 ..) (fun _ _ h => tt_ent_wrI eW h) (fun _ _ h => h) rfl in_X6 tyX6 tyX6_ok nmX6 (by decide) q359 (.inl rfl) rfl rfl rfl (Nat.le_of_ble_eq_true rfl) d kk
def fY_lies (s : tt_St) (x0 : Nat) (x1 : Int32) (x2 : Int32) (x3 : Int32) (x4 : Int32) : Option (tt_St) :=
  nm (wrI s 2 x0 10 (1 : Int32)) fun s1 => nm (wrI s1 2 x0 4 x1) fun s2 => nm (wrI s2 2 x0 5 x2) fun s3 => nm (wrI s3 2 x0 6 x3) fun s4 => nm (wrI s4 2 x0 7 x4) fun s5 => some s5
abbrev rmY_lies : Room := { frames := 0, cells := 0, slots := 0, locals := 0 }
set_option maxHeartbeats 4000000 in
theorem mY_lies (l : Launch) (D : va_G) (dA : Nat → ClassId) (A : Nat → Prop) (b : Bool) (lc : Nat → Nat → Nat) (s : tt_St) (x0 : Nat) (x1 : Int32) (x2 : Int32) (x3 : Int32) (x4 : Int32) (hx0 : x0 < 40) {Q : Option Value → (Nat → Nat → Nat) → tt_St → Prop} (h : Ok (fY_lies s x0 x1 x2 x3 x4) (fun r => Q none lc r)) : tt_Sp (XW l D dA A b) yX6_lies cX6_lies 5 none rmY_lies [.ref (lc 2 x0), .int x1, .int x2, .int x3, .int x4] lc s Q := by
  refine tt_Sp.ofV plX6 kokW (Nat.le_of_ble_eq_true rfl) ?_
  show tt_V (XW l D dA A b) cX6_lies (RX6, 5, none, rmY_lies, tt_nt) (tt_fn (XW l D dA A b) (RX6, 5, none, rmY_lies, tt_nt) Q) 0 [(0, .ref (lc 2 x0)), (1, .int x1), (2, .int x2), (3, .int x3), (4, .int x4)] [] lc s 0 0
  unfold fY_lies at h
  refine v_aload_n 0 dX6_lies_0 rfl ?_
  refine v_iconst dX6_lies_1 ic_1 ?_
  refine pW_X6_26_2 hx0 zB_1 zF_1 dX6_lies_2 ?_
  refine v_nmS (fun s1 e_s1 => ?_)
  have h := Ok.nm h e_s1
  refine v_aload_n 0 dX6_lies_5 rfl ?_
  refine v_iload_n 1 dX6_lies_6 rfl ?_
  refine pW_X6_37_2 hx0 dX6_lies_7 ?_
  refine v_nmS (fun s2 e_s2 => ?_)
  have h := Ok.nm h e_s2
  refine v_aload_n 0 dX6_lies_10 rfl ?_
  refine v_iload_n 2 dX6_lies_11 rfl ?_
  refine pW_X6_40_2 hx0 dX6_lies_12 ?_
  refine v_nmS (fun s3 e_s3 => ?_)
  have h := Ok.nm h e_s3
  refine v_aload_n 0 dX6_lies_15 rfl ?_
  refine v_iload_n 3 dX6_lies_16 rfl ?_
  refine pW_X6_43_2 hx0 dX6_lies_17 ?_
  refine v_nmS (fun s4 e_s4 => ?_)
  have h := Ok.nm h e_s4
  refine v_aload_n 0 dX6_lies_20 rfl ?_
  refine v_iload 4 dX6_lies_21 rfl ?_
  refine pW_X6_46_2 hx0 dX6_lies_23 ?_
  refine v_nmS (fun s5 e_s5 => ?_)
  have h := Ok.nm h e_s5
  have h := Ok.ret h
  exact v_vret rfl (Nat.zero_le _) (Nat.zero_le _) dX6_lies_26 h
theorem cW_X2_159_2 {l : Launch} {D : va_G} {dA : Nat → ClassId} {A : Nat → Prop} {b : Bool} {lc : Nat → Nat → Nat} {s : tt_St} {cc : ByteArray} {nl : Nat} {rt : Option FieldType} {rm : Room} {tn : tt_Tn} {Q : tt_Fin} {pc : Nat} {lv : List (Nat × Value)} {rest : List Value} {ck cn : Nat} {x0 : Nat} {x1 : Int32} {x2 : Int32} {x3 : Int32} {x4 : Int32} (hx0 : x0 < 40) {K : tt_St → Prop} (h : Ok (fY_lies s x0 x1 x2 x3 x4) K) (hR : 0 + 1 ≤ rm.frames ∧ 8 + (5 + 11) + 0 ≤ rm.locals) (hW : (rest.map fun v => v.category).sum ≤ 8) (d : decode cc pc = .ok (.invokevirtual 159, 3)) (kk : ∀ r, K r → tt_V (XW l D dA A b) cc (RX2, nl, rt, rm, tn) Q (pc + 3) lv rest lc r ck cn) (hf : ck ≤ rm.cells ∧ cn ≤ rm.slots := by exact ⟨Nat.zero_le _, Nat.zero_le _⟩) : tt_V (XW l D dA A b) cc (RX2, nl, rt, rm, tn) Q pc lv (.int x4 :: .int x3 :: .int x2 :: .int x1 :: .ref (lc 2 x0) :: rest) lc s ck cn :=
  v_callV (kd := 2) (i := x0) (nA := 4) (As := [.int x1, .int x2, .int x3, .int x4]) (lvW_2 hx0) oW_2 rfl (mY_lies l D dA A b lc s x0 x1 x2 x3 x4 hx0 (Q := (fun v lc' s' => ∃ r, K r ∧ v = none ∧ lc' = lc ∧ s' = r)) (h.mono (fun r hr => ⟨r, hr, rfl, rfl, rfl⟩))) (lw_V q969 q970 q971 q139 q972) (by decide +kernel) rfl hR hW hf d rfl (fun v lc' s' q => by obtain ⟨r, hr, e1, e2, e3⟩ := q; rw [e1, e2, e3]; exact kk r hr)
def fW_places_L81 (x2 : Int32) (x3 : Int32) (a14 : Int32 × tt_St) : Option ((Int32 × tt_St) ⊕ (Int32 × tt_St)) :=
  if a14.1 ≤ 0 then some (.inr (a14.1, a14.2)) else (fW_layerAt a14.2 x2 (a14.1 - (1 : Int32))).bind fun r17 => if (rdI a14.2 2 r17 5) ≤ x3 then some (.inr (a14.1, a14.2)) else if inB (a14.1 - (1 : Int32)) 6 then if inB a14.1 6 then nm (wrI a14.2 22 x2.toNatClampNeg a14.1.toNatClampNeg (rdI a14.2 22 x2.toNatClampNeg (a14.1 - (1 : Int32)).toNatClampNeg)) fun s21 => some (.inl ((a14.1 + (-1) : Int32), s21)) else none else none
def fW_places_L33 (s : tt_St) (x2 : Int32) (x3 : Int32) (x4 : Int32) (a6 : Int32) : Option ((Int32) ⊕ (Int32) ⊕ (Int32 × tt_St)) :=
  if (rdI s 23 0 x2.toNatClampNeg) ≤ a6 then some (.inr (.inl a6)) else (fW_layerAt s x2 a6).bind fun r9 => (fY_meets s r9 x3 x4).bind fun r10 => if r10 = 0 then some (.inl (a6 + 1 : Int32)) else some (.inr (.inr ((0 : Int32), s)))
def fW_places (s : tt_St) (x1 : Int32) (x2 : Int32) (x3 : Int32) (x4 : Int32) (x5 : Int32) : Option (Int32 × tt_St) :=
  (fW_isLacking s x2).bind fun r1 => if r1 = 0 then if inB x2 12 then if (rdI s 23 0 x2.toNatClampNeg) = (6 : Int32) then some ((0 : Int32), s) else if (rdI s 0 0 21) = (40 : Int32) then some ((0 : Int32), s) else (itr (fW_places_L33 s x2 x3 x4) tt_fuel (0 : Int32)).bind fun q_b7 => orRet q_b7 fun b7 => nm (wrI s 23 0 x2.toNatClampNeg ((rdI s 23 0 x2.toNatClampNeg) + (1 : Int32))) fun s12 => nm (rdI s 23 0 x2.toNatClampNeg) fun v13 => (itr (fW_places_L81 x2 x3) tt_fuel (v13, s12)).bind fun b15 => if inB b15.1 6 then nm (wrI b15.2 22 x2.toNatClampNeg b15.1.toNatClampNeg x1) fun s23 => if inB x1 40 then (fY_lies s23 x1.toNatClampNeg x2 x3 x4 x5).bind fun r25 => nm (wrI r25 0 0 21 ((rdI r25 0 0 21) + (1 : Int32))) fun s26 => some ((1 : Int32), s26) else none else none else none else some ((0 : Int32), s)
abbrev rmW_places : Room := { frames := 2, cells := 0, slots := 0, locals := 42 }
set_option maxHeartbeats 4000000 in
theorem mW_places (l : Launch) (D : va_G) (dA : Nat → ClassId) (A : Nat → Prop) (b : Bool) (lc : Nat → Nat → Nat) (s : tt_St) (x1 : Int32) (x2 : Int32) (x3 : Int32) (x4 : Int32) (x5 : Int32) {Q : Option Value → (Nat → Nat → Nat) → tt_St → Prop} (h : Ok (fW_places s x1 x2 x3 x4 x5) (fun r => zB r.1 → Q (some (.int r.1)) lc r.2)) : tt_Sp (XW l D dA A b) yX2_places cX2_places 7 (some .boolean) rmW_places [.ref (lc 0 0), .int x1, .int x2, .int x3, .int x4, .int x5] lc s Q := by
  refine tt_Sp.ofV plX2 kokW (Nat.le_of_ble_eq_true rfl) ?_
  show tt_V (XW l D dA A b) cX2_places (RX2, 7, (some .boolean), rmW_places, tt_nt) (tt_fn (XW l D dA A b) (RX2, 7, (some .boolean), rmW_places, tt_nt) Q) 0 [(0, .ref (lc 0 0)), (1, .int x1), (2, .int x2), (3, .int x3), (4, .int x4), (5, .int x5)] [] lc s 0 0
  unfold fW_places at h
  refine v_aload_n 0 dX2_places_0 rfl ?_
  refine v_iload_n 2 dX2_places_1 rfl ?_
  refine cW_X2_151_0 (Ok.bind h) ⟨Nat.le_of_ble_eq_true rfl, Nat.le_of_ble_eq_true rfl⟩ (Nat.le_of_ble_eq_true rfl) dX2_places_2 (fun r1 z_r1 h => ?_)
  refine v_if_ne (tgt := 28) dX2_places_5 rfl (fun c2 => ?_) (fun c2 => ?_)
  · have h := Ok.neg h c2
    refine v_iconst dX2_places_28 ic_0 ?_
    have h := Ok.ret h
    exact v_zret rfl zB_0 (Nat.zero_le _) (Nat.zero_le _) dX2_places_29 (h zB_0)
  · have h := Ok.pos h c2
    refine v_aload_n 0 dX2_places_8 rfl ?_
    refine gW_X2_28_0 dX2_places_9 ?_
    refine v_iload_n 2 dX2_places_12 rfl ?_
    obtain ⟨g3, h⟩ := Ok.guard h
    refine lW_23 g3 dX2_places_13 ?_
    refine v_bipush dX2_places_14 kb_6 ?_
    refine v_icmp_eq (tgt := 28) dX2_places_16 rfl (fun c4 => ?_) (fun c4 => ?_)
    · have h := Ok.pos h c4
      refine v_iconst dX2_places_28 ic_0 ?_
      have h := Ok.ret h
      exact v_zret rfl zB_0 (Nat.zero_le _) (Nat.zero_le _) dX2_places_29 (h zB_0)
    · have h := Ok.neg h c4
      refine v_aload_n 0 dX2_places_19 rfl ?_
      refine gW_X2_124_0 dX2_places_20 ?_
      refine v_bipush dX2_places_23 kb_40 ?_
      refine v_icmp_ne (tgt := 30) dX2_places_25 rfl (fun c5 => ?_) (fun c5 => ?_)
      · have h := Ok.neg h c5
        refine v_iconst dX2_places_30 ic_0 ?_
        refine v_istore [(6, .int (0 : Int32)), (0, .ref (lc 0 0)), (1, .int x1), (2, .int x2), (3, .int x3), (4, .int x4), (5, .int x5)] dX2_places_31 (Nat.le_of_ble_eq_true rfl) rfl ?_
        refine v_sub [1, 2, 3, 4, 5, 6, 0] rfl ?_
        refine itr_loopR (P := fun a6 : Int32 => tt_V (XW l D dA A b) cX2_places (RX2, 7, (some .boolean), rmW_places, tt_nt) (tt_fn (XW l D dA A b) (RX2, 7, (some .boolean), rmW_places, tt_nt) Q) 33 [(0, .ref (lc 0 0)), (1, .int x1), (2, .int x2), (3, .int x3), (4, .int x4), (5, .int x5), (6, .int a6)] [] lc s 0 0) (PE := fun b7 : Int32 => tt_V (XW l D dA A b) cX2_places (RX2, 7, (some .boolean), rmW_places, tt_nt) (tt_fn (XW l D dA A b) (RX2, 7, (some .boolean), rmW_places, tt_nt) Q) 68 [(0, .ref (lc 0 0)), (1, .int x1), (2, .int x2), (3, .int x3), (4, .int x4), (5, .int x5), (6, .int b7)] [] lc s 0 0) h (fun b7 h => ?_) (fun a6 h => ?_)
        · refine v_aload_n 0 dX2_places_68 rfl ?_
          refine gW_X2_28_0 dX2_places_69 ?_
          refine v_iload_n 2 dX2_places_72 rfl ?_
          refine v_dup2_11 dX2_places_73 rfl rfl ?_
          refine lW_23 g3 dX2_places_74 ?_
          refine v_dup_x2 dX2_places_75 rfl rfl rfl ?_
          refine v_iconst dX2_places_76 ic_1 ?_
          refine v_iadd dX2_places_77 ?_
          refine sW_23 g3 dX2_places_78 ?_
          refine v_nmS (fun s12 e_s12 => ?_)
          have h := Ok.nm h e_s12
          refine v_nmI (fun v13 e_v13 => ?_)
          have h := Ok.nm h e_v13
          refine v_istore [(6, .int v13), (0, .ref (lc 0 0)), (1, .int x1), (2, .int x2), (3, .int x3), (4, .int x4), (5, .int x5)] dX2_places_79 (Nat.le_of_ble_eq_true rfl) rfl ?_
          refine v_sub [1, 2, 3, 4, 5, 6, 0] rfl ?_
          refine itr_loop (P := fun a14 : Int32 × tt_St => tt_V (XW l D dA A b) cX2_places (RX2, 7, (some .boolean), rmW_places, tt_nt) (tt_fn (XW l D dA A b) (RX2, 7, (some .boolean), rmW_places, tt_nt) Q) 81 [(0, .ref (lc 0 0)), (1, .int x1), (2, .int x2), (3, .int x3), (4, .int x4), (5, .int x5), (6, .int a14.1)] [] lc a14.2 0 0) (PE := fun b15 : Int32 × tt_St => tt_V (XW l D dA A b) cX2_places (RX2, 7, (some .boolean), rmW_places, tt_nt) (tt_fn (XW l D dA A b) (RX2, 7, (some .boolean), rmW_places, tt_nt) Q) 128 [(0, .ref (lc 0 0)), (1, .int x1), (2, .int x2), (3, .int x3), (4, .int x4), (5, .int x5), (6, .int b15.1)] [] lc b15.2 0 0) h (fun b15 h => ?_) (fun a14 h => ?_)
          · refine v_aload_n 0 dX2_places_128 rfl ?_
            refine gW_X2_25_0 dX2_places_129 ?_
            refine v_iload_n 2 dX2_places_132 rfl ?_
            refine lW_21 g3 dX2_places_133 ?_
            refine v_iload 6 dX2_places_134 rfl ?_
            refine v_iload_n 1 dX2_places_136 rfl ?_
            obtain ⟨g22, h⟩ := Ok.guard h
            refine sW_22 (inB_lt g3) g22 dX2_places_137 ?_
            refine v_nmS (fun s23 e_s23 => ?_)
            have h := Ok.nm h e_s23
            refine v_aload_n 0 dX2_places_138 rfl ?_
            refine gW_X2_11_0 dX2_places_139 ?_
            refine v_iload_n 1 dX2_places_142 rfl ?_
            obtain ⟨g24, h⟩ := Ok.guard h
            refine lW_1 g24 dX2_places_143 ?_
            refine v_iload_n 2 dX2_places_144 rfl ?_
            refine v_iload_n 3 dX2_places_145 rfl ?_
            refine v_iload 4 dX2_places_146 rfl ?_
            refine v_iload 5 dX2_places_148 rfl ?_
            refine cW_X2_159_2 (inB_lt g24) (Ok.bind h) ⟨Nat.le_of_ble_eq_true rfl, Nat.le_of_ble_eq_true rfl⟩ (Nat.le_of_ble_eq_true rfl) dX2_places_150 (fun r25 h => ?_)
            refine v_aload_n 0 dX2_places_153 rfl ?_
            refine v_dup dX2_places_154 rfl ?_
            refine gW_X2_124_0 dX2_places_155 ?_
            refine v_iconst dX2_places_158 ic_1 ?_
            refine v_iadd dX2_places_159 ?_
            refine pW_X2_124_0 dX2_places_160 ?_
            refine v_nmS (fun s26 e_s26 => ?_)
            have h := Ok.nm h e_s26
            refine v_iconst dX2_places_163 ic_1 ?_
            have h := Ok.ret h
            exact v_zret rfl zB_1 (Nat.zero_le _) (Nat.zero_le _) dX2_places_164 (h zB_1)
          · have h : Ok (fW_places_L81 x2 x3 a14) _ := h
            unfold fW_places_L81 at h
            refine v_iload 6 dX2_places_81 rfl ?_
            refine v_if_le (tgt := 128) dX2_places_83 rfl (fun c16 => ?_) (fun c16 => ?_)
            · have h := Ok.pos h c16
              have h := Ok.ret h
              exact h
            · have h := Ok.neg h c16
              refine v_aload_n 0 dX2_places_86 rfl ?_
              refine v_iload_n 2 dX2_places_87 rfl ?_
              refine v_iload 6 dX2_places_88 rfl ?_
              refine v_iconst dX2_places_90 ic_1 ?_
              refine v_isub dX2_places_91 ?_
              refine cW_X2_140_0 (Ok.bind h) ⟨Nat.le_of_ble_eq_true rfl, Nat.le_of_ble_eq_true rfl⟩ (Nat.le_of_ble_eq_true rfl) dX2_places_92 (fun r17 z_r17 h => ?_)
              refine gW_X2_144_2 z_r17 dX2_places_95 ?_
              refine v_iload_n 3 dX2_places_98 rfl ?_
              refine v_icmp_le (tgt := 128) dX2_places_99 rfl (fun c18 => ?_) (fun c18 => ?_)
              · have h := Ok.pos h c18
                have h := Ok.ret h
                exact h
              · have h := Ok.neg h c18
                refine v_aload_n 0 dX2_places_102 rfl ?_
                refine gW_X2_25_0 dX2_places_103 ?_
                refine v_iload_n 2 dX2_places_106 rfl ?_
                refine lW_21 g3 dX2_places_107 ?_
                refine v_iload 6 dX2_places_108 rfl ?_
                refine v_aload_n 0 dX2_places_110 rfl ?_
                refine gW_X2_25_0 dX2_places_111 ?_
                refine v_iload_n 2 dX2_places_114 rfl ?_
                refine lW_21 g3 dX2_places_115 ?_
                refine v_iload 6 dX2_places_116 rfl ?_
                refine v_iconst dX2_places_118 ic_1 ?_
                refine v_isub dX2_places_119 ?_
                obtain ⟨g19, h⟩ := Ok.guard h
                refine lW_22 (inB_lt g3) g19 dX2_places_120 ?_
                obtain ⟨g20, h⟩ := Ok.guard h
                refine sW_22 (inB_lt g3) g20 dX2_places_121 ?_
                refine v_nmS (fun s21 e_s21 => ?_)
                have h := Ok.nm h e_s21
                refine v_iinc (v := (a14.1 + (-1) : Int32)) 6 [(6, .int (a14.1 + (-1) : Int32)), (0, .ref (lc 0 0)), (1, .int x1), (2, .int x2), (3, .int x3), (4, .int x4), (5, .int x5)] dX2_places_122 rfl (by rw [ic_m1]) (Nat.le_of_ble_eq_true rfl) rfl ?_
                refine v_goto (tgt := 81) dX2_places_125 rfl ?_
                refine v_sub [1, 2, 3, 4, 5, 6, 0] rfl ?_
                have h := Ok.ret h
                exact h
        · have h : Ok (fW_places_L33 s x2 x3 x4 a6) _ := h
          unfold fW_places_L33 at h
          refine v_iload 6 dX2_places_33 rfl ?_
          refine v_aload_n 0 dX2_places_35 rfl ?_
          refine gW_X2_28_0 dX2_places_36 ?_
          refine v_iload_n 2 dX2_places_39 rfl ?_
          refine lW_23 g3 dX2_places_40 ?_
          refine v_icmp_ge (tgt := 68) dX2_places_41 rfl (fun c8 => ?_) (fun c8 => ?_)
          · have h := Ok.pos h c8
            have h := Ok.ret h
            exact h
          · have h := Ok.neg h c8
            refine v_aload_n 0 dX2_places_44 rfl ?_
            refine v_iload_n 2 dX2_places_45 rfl ?_
            refine v_iload 6 dX2_places_46 rfl ?_
            refine cW_X2_140_0 (Ok.bind h) ⟨Nat.le_of_ble_eq_true rfl, Nat.le_of_ble_eq_true rfl⟩ (Nat.le_of_ble_eq_true rfl) dX2_places_48 (fun r9 z_r9 h => ?_)
            refine v_iload_n 3 dX2_places_51 rfl ?_
            refine v_iload 4 dX2_places_52 rfl ?_
            refine cW_X2_155_2 z_r9 (Ok.bind h) ⟨Nat.le_of_ble_eq_true rfl, Nat.le_of_ble_eq_true rfl⟩ (Nat.le_of_ble_eq_true rfl) dX2_places_54 (fun r10 z_r10 h => ?_)
            refine v_if_eq (tgt := 62) dX2_places_57 rfl (fun c11 => ?_) (fun c11 => ?_)
            · have h := Ok.pos h c11
              refine v_iinc (v := (a6 + 1 : Int32)) 6 [(6, .int (a6 + 1 : Int32)), (0, .ref (lc 0 0)), (1, .int x1), (2, .int x2), (3, .int x3), (4, .int x4), (5, .int x5)] dX2_places_62 rfl (by rw [ic_1]) (Nat.le_of_ble_eq_true rfl) rfl ?_
              refine v_goto (tgt := 33) dX2_places_65 rfl ?_
              refine v_sub [1, 2, 3, 4, 5, 6, 0] rfl ?_
              have h := Ok.ret h
              exact h
            · have h := Ok.neg h c11
              refine v_iconst dX2_places_60 ic_0 ?_
              have h := Ok.ret h
              exact v_zret rfl zB_0 (Nat.zero_le _) (Nat.zero_le _) dX2_places_61 (h zB_0)
      · have h := Ok.pos h c5
        refine v_iconst dX2_places_28 ic_0 ?_
        have h := Ok.ret h
        exact v_zret rfl zB_0 (Nat.zero_le _) (Nat.zero_le _) dX2_places_29 (h zB_0)
theorem gW_X2_163_2 {l : Launch} {D : va_G} {dA : Nat → ClassId} {A : Nat → Prop} {b : Bool} {lc : Nat → Nat → Nat} {s : tt_St} {cc : ByteArray} {nl : Nat} {rt : Option FieldType} {rm : Room} {tn : tt_Tn} {Q : tt_Fin} {pc : Nat} {lv : List (Nat × Value)} {rest : List Value} {ck cn : Nat} {i : Nat} (hv : i < 40) (d : decode cc pc = .ok (.getfield 163, 3)) (kk : tt_V (XW l D dA A b) cc (RX2, nl, rt, rm, tn) Q (pc + 3) lv (.int (rdI s 2 i 10) :: rest) lc s ck cn) : tt_V (XW l D dA A b) cc (RX2, nl, rt, rm, tn) Q pc lv (.ref (lc 2 i) :: rest) lc s ck cn := v_getN (p := 10) knW (lvW_2 hv) oW_2 rfl in_X6 (by decide) q368 (.inl rfl) rfl d kk
theorem gW_X2_166_2 {l : Launch} {D : va_G} {dA : Nat → ClassId} {A : Nat → Prop} {b : Bool} {lc : Nat → Nat → Nat} {s : tt_St} {cc : ByteArray} {nl : Nat} {rt : Option FieldType} {rm : Room} {tn : tt_Tn} {Q : tt_Fin} {pc : Nat} {lv : List (Nat × Value)} {rest : List Value} {ck cn : Nat} {i : Nat} (hv : i < 40) (d : decode cc pc = .ok (.getfield 166, 3)) (kk : tt_V (XW l D dA A b) cc (RX2, nl, rt, rm, tn) Q (pc + 3) lv (.long (rdL s 2 i 9) :: rest) lc s ck cn) : tt_V (XW l D dA A b) cc (RX2, nl, rt, rm, tn) Q pc lv (.ref (lc 2 i) :: rest) lc s ck cn := v_getN (p := 9) knW (lvW_2 hv) oW_2 rfl in_X6 (by decide) q365 (.inl rfl) rfl d kk
theorem gW_X2_170_2 {l : Launch} {D : va_G} {dA : Nat → ClassId} {A : Nat → Prop} {b : Bool} {lc : Nat → Nat → Nat} {s : tt_St} {cc : ByteArray} {nl : Nat} {rt : Option FieldType} {rm : Room} {tn : tt_Tn} {Q : tt_Fin} {pc : Nat} {lv : List (Nat × Value)} {rest : List Value} {ck cn : Nat} {i : Nat} (hv : i < 40) (d : decode cc pc = .ok (.getfield 170, 3)) (kk : tt_V (XW l D dA A b) cc (RX2, nl, rt, rm, tn) Q (pc + 3) lv (.int (rdI s 2 i 8) :: rest) lc s ck cn) : tt_V (XW l D dA A b) cc (RX2, nl, rt, rm, tn) Q pc lv (.ref (lc 2 i) :: rest) lc s ck cn := v_getN (p := 8) knW (lvW_2 hv) oW_2 rfl in_X6 (by decide) q362 (.inl rfl) rfl d kk
theorem gW_X6_34_2 {l : Launch} {D : va_G} {dA : Nat → ClassId} {A : Nat → Prop} {b : Bool} {lc : Nat → Nat → Nat} {s : tt_St} {cc : ByteArray} {nl : Nat} {rt : Option FieldType} {rm : Room} {tn : tt_Tn} {Q : tt_Fin} {pc : Nat} {lv : List (Nat × Value)} {rest : List Value} {ck cn : Nat} {i : Nat} (hv : i < 40) (d : decode cc pc = .ok (.getfield 34, 3)) (kk : tt_V (XW l D dA A b) cc (RX6, nl, rt, rm, tn) Q (pc + 3) lv (.int (rdI s 2 i 8) :: rest) lc s ck cn) : tt_V (XW l D dA A b) cc (RX6, nl, rt, rm, tn) Q pc lv (.ref (lc 2 i) :: rest) lc s ck cn := v_get (p := 8) (lvW_2 hv) oW_2 rfl in_X6 (by decide) q361 (.inl rfl) rfl d kk
theorem gW_X6_9_2 {l : Launch} {D : va_G} {dA : Nat → ClassId} {A : Nat → Prop} {b : Bool} {lc : Nat → Nat → Nat} {s : tt_St} {cc : ByteArray} {nl : Nat} {rt : Option FieldType} {rm : Room} {tn : tt_Tn} {Q : tt_Fin} {pc : Nat} {lv : List (Nat × Value)} {rest : List Value} {ck cn : Nat} {i : Nat} (hv : i < 40) (d : decode cc pc = .ok (.getfield 9, 3)) (kk : tt_V (XW l D dA A b) cc (RX6, nl, rt, rm, tn) Q (pc + 3) lv (.ref (lc 3 i) :: rest) lc s ck cn) : tt_V (XW l D dA A b) cc (RX6, nl, rt, rm, tn) Q pc lv (.ref (lc 2 i) :: rest) lc s ck cn := v_get (p := 0) (lvW_2 hv) oW_2 rfl in_X6 (by decide) q338 (.inl rfl) rfl d kk
theorem gW_X6_15_2 {l : Launch} {D : va_G} {dA : Nat → ClassId} {A : Nat → Prop} {b : Bool} {lc : Nat → Nat → Nat} {s : tt_St} {cc : ByteArray} {nl : Nat} {rt : Option FieldType} {rm : Room} {tn : tt_Tn} {Q : tt_Fin} {pc : Nat} {lv : List (Nat × Value)} {rest : List Value} {ck cn : Nat} {i : Nat} (hv : i < 40) (d : decode cc pc = .ok (.getfield 15, 3)) (kk : tt_V (XW l D dA A b) cc (RX6, nl, rt, rm, tn) Q (pc + 3) lv (.ref (lc 4 i) :: rest) lc s ck cn) : tt_V (XW l D dA A b) cc (RX6, nl, rt, rm, tn) Q pc lv (.ref (lc 2 i) :: rest) lc s ck cn := v_get (p := 1) (lvW_2 hv) oW_2 rfl in_X6 (by decide) q341 (.inl rfl) rfl d kk
def fY_tenthsOf_L2 (s : tt_St) (x0 : Nat) (x1 : Int32) (a1 : Int32) : Option ((Int32) ⊕ (Int32) ⊕ (Int32)) :=
  if (rdI s 2 x0 8) ≤ a1 then some (.inr (.inl a1)) else if inB a1 4 then if (rdI s 3 x0 a1.toNatClampNeg) = x1 then some (.inr (.inr (rdI s 4 x0 a1.toNatClampNeg))) else some (.inl (a1 + 1 : Int32)) else none
def fY_tenthsOf (s : tt_St) (x0 : Nat) (x1 : Int32) : Option (Int32) :=
  (itr (fY_tenthsOf_L2 s x0 x1) tt_fuel (0 : Int32)).bind fun q_b2 => orRet q_b2 fun b2 => some (0 : Int32)
abbrev rmY_tenthsOf : Room := { frames := 0, cells := 0, slots := 0, locals := 0 }
set_option maxHeartbeats 4000000 in
theorem mY_tenthsOf (l : Launch) (D : va_G) (dA : Nat → ClassId) (A : Nat → Prop) (b : Bool) (lc : Nat → Nat → Nat) (s : tt_St) (x0 : Nat) (x1 : Int32) (hx0 : x0 < 40) {Q : Option Value → (Nat → Nat → Nat) → tt_St → Prop} (h : Ok (fY_tenthsOf s x0 x1) (fun r => Q (some (.int r)) lc s)) : tt_Sp (XW l D dA A b) yX6_tenthsOf cX6_tenthsOf 3 (some .int) rmY_tenthsOf [.ref (lc 2 x0), .int x1] lc s Q := by
  refine tt_Sp.ofV plX6 kokW (Nat.le_of_ble_eq_true rfl) ?_
  show tt_V (XW l D dA A b) cX6_tenthsOf (RX6, 3, (some .int), rmY_tenthsOf, tt_nt) (tt_fn (XW l D dA A b) (RX6, 3, (some .int), rmY_tenthsOf, tt_nt) Q) 0 [(0, .ref (lc 2 x0)), (1, .int x1)] [] lc s 0 0
  unfold fY_tenthsOf at h
  refine v_iconst dX6_tenthsOf_0 ic_0 ?_
  refine v_istore_n [(2, .int (0 : Int32)), (0, .ref (lc 2 x0)), (1, .int x1)] dX6_tenthsOf_1 (Nat.le_of_ble_eq_true rfl) rfl ?_
  refine v_sub [1, 2, 0] rfl ?_
  refine itr_loopR (P := fun a1 : Int32 => tt_V (XW l D dA A b) cX6_tenthsOf (RX6, 3, (some .int), rmY_tenthsOf, tt_nt) (tt_fn (XW l D dA A b) (RX6, 3, (some .int), rmY_tenthsOf, tt_nt) Q) 2 [(0, .ref (lc 2 x0)), (1, .int x1), (2, .int a1)] [] lc s 0 0) (PE := fun b2 : Int32 => tt_V (XW l D dA A b) cX6_tenthsOf (RX6, 3, (some .int), rmY_tenthsOf, tt_nt) (tt_fn (XW l D dA A b) (RX6, 3, (some .int), rmY_tenthsOf, tt_nt) Q) 33 [(0, .ref (lc 2 x0)), (1, .int x1), (2, .int b2)] [] lc s 0 0) h (fun b2 h => ?_) (fun a1 h => ?_)
  · refine v_iconst dX6_tenthsOf_33 ic_0 ?_
    have h := Ok.ret h
    exact v_iret rfl (Nat.zero_le _) (Nat.zero_le _) dX6_tenthsOf_34 h
  · have h : Ok (fY_tenthsOf_L2 s x0 x1 a1) _ := h
    unfold fY_tenthsOf_L2 at h
    refine v_iload_n 2 dX6_tenthsOf_2 rfl ?_
    refine v_aload_n 0 dX6_tenthsOf_3 rfl ?_
    refine gW_X6_34_2 hx0 dX6_tenthsOf_4 ?_
    refine v_icmp_ge (tgt := 33) dX6_tenthsOf_7 rfl (fun c3 => ?_) (fun c3 => ?_)
    · have h := Ok.pos h c3
      have h := Ok.ret h
      exact h
    · have h := Ok.neg h c3
      refine v_aload_n 0 dX6_tenthsOf_10 rfl ?_
      refine gW_X6_9_2 hx0 dX6_tenthsOf_11 ?_
      refine v_iload_n 2 dX6_tenthsOf_14 rfl ?_
      obtain ⟨g4, h⟩ := Ok.guard h
      refine lW_3 hx0 g4 dX6_tenthsOf_15 ?_
      refine v_iload_n 1 dX6_tenthsOf_16 rfl ?_
      refine v_icmp_ne (tgt := 27) dX6_tenthsOf_17 rfl (fun c5 => ?_) (fun c5 => ?_)
      · have h := Ok.neg h c5
        refine v_iinc (v := (a1 + 1 : Int32)) 2 [(2, .int (a1 + 1 : Int32)), (0, .ref (lc 2 x0)), (1, .int x1)] dX6_tenthsOf_27 rfl (by rw [ic_1]) (Nat.le_of_ble_eq_true rfl) rfl ?_
        refine v_goto (tgt := 2) dX6_tenthsOf_30 rfl ?_
        refine v_sub [1, 2, 0] rfl ?_
        have h := Ok.ret h
        exact h
      · have h := Ok.pos h c5
        refine v_aload_n 0 dX6_tenthsOf_20 rfl ?_
        refine gW_X6_15_2 hx0 dX6_tenthsOf_21 ?_
        refine v_iload_n 2 dX6_tenthsOf_24 rfl ?_
        refine lW_4 hx0 g4 dX6_tenthsOf_25 ?_
        have h := Ok.ret h
        exact v_iret rfl (Nat.zero_le _) (Nat.zero_le _) dX6_tenthsOf_26 h
theorem cW_X2_173_2 {l : Launch} {D : va_G} {dA : Nat → ClassId} {A : Nat → Prop} {b : Bool} {lc : Nat → Nat → Nat} {s : tt_St} {cc : ByteArray} {nl : Nat} {rt : Option FieldType} {rm : Room} {tn : tt_Tn} {Q : tt_Fin} {pc : Nat} {lv : List (Nat × Value)} {rest : List Value} {ck cn : Nat} {x0 : Nat} {x1 : Int32} (hx0 : x0 < 40) {K : Int32 → Prop} (h : Ok (fY_tenthsOf s x0 x1) K) (hR : 0 + 1 ≤ rm.frames ∧ 8 + (3 + 11) + 0 ≤ rm.locals) (hW : (rest.map fun v => v.category).sum ≤ 8) (d : decode cc pc = .ok (.invokevirtual 173, 3)) (kk : ∀ r, K r → tt_V (XW l D dA A b) cc (RX2, nl, rt, rm, tn) Q (pc + 3) lv (.int r :: rest) lc s ck cn) (hf : ck ≤ rm.cells ∧ cn ≤ rm.slots := by exact ⟨Nat.zero_le _, Nat.zero_le _⟩) : tt_V (XW l D dA A b) cc (RX2, nl, rt, rm, tn) Q pc lv (.int x1 :: .ref (lc 2 x0) :: rest) lc s ck cn :=
  v_callV (kd := 2) (i := x0) (nA := 1) (As := [.int x1]) (lvW_2 hx0) oW_2 rfl (mY_tenthsOf l D dA A b lc s x0 x1 hx0 (Q := (fun v lc' s' => ∃ r, K r ∧ v = some (.int r) ∧ lc' = lc ∧ s' = s)) (h.mono (fun r hr => ⟨r, hr, rfl, rfl, rfl⟩))) (lw_V q1055 q1056 q1057 q139 q1058) (by decide +kernel) rfl hR hW hf d rfl (fun v lc' s' q => by obtain ⟨r, hr, e1, e2, e3⟩ := q; rw [e1, e2, e3]; exact kk r hr)
def fY_allTenths_L4 (s : tt_St) (x0 : Nat) (a1 : Int32 × Int32) : Option ((Int32 × Int32) ⊕ (Int32 × Int32)) :=
  if (rdI s 2 x0 8) ≤ a1.2 then some (.inr (a1.1, a1.2)) else if inB a1.2 4 then nm (a1.1 + (rdI s 4 x0 a1.2.toNatClampNeg)) fun v5 => some (.inl (v5, (a1.2 + 1 : Int32))) else none
def fY_allTenths (s : tt_St) (x0 : Nat) : Option (Int32) :=
  (itr (fY_allTenths_L4 s x0) tt_fuel ((0 : Int32), (0 : Int32))).bind fun b2 => some b2.1
abbrev rmY_allTenths : Room := { frames := 0, cells := 0, slots := 0, locals := 0 }
set_option maxHeartbeats 4000000 in
theorem mY_allTenths (l : Launch) (D : va_G) (dA : Nat → ClassId) (A : Nat → Prop) (b : Bool) (lc : Nat → Nat → Nat) (s : tt_St) (x0 : Nat) (hx0 : x0 < 40) {Q : Option Value → (Nat → Nat → Nat) → tt_St → Prop} (h : Ok (fY_allTenths s x0) (fun r => Q (some (.int r)) lc s)) : tt_Sp (XW l D dA A b) yX6_allTenths cX6_allTenths 3 (some .int) rmY_allTenths [.ref (lc 2 x0)] lc s Q := by
  refine tt_Sp.ofV plX6 kokW (Nat.le_of_ble_eq_true rfl) ?_
  show tt_V (XW l D dA A b) cX6_allTenths (RX6, 3, (some .int), rmY_allTenths, tt_nt) (tt_fn (XW l D dA A b) (RX6, 3, (some .int), rmY_allTenths, tt_nt) Q) 0 [(0, .ref (lc 2 x0))] [] lc s 0 0
  unfold fY_allTenths at h
  refine v_iconst dX6_allTenths_0 ic_0 ?_
  refine v_istore_n [(1, .int (0 : Int32)), (0, .ref (lc 2 x0))] dX6_allTenths_1 (Nat.le_of_ble_eq_true rfl) rfl ?_
  refine v_iconst dX6_allTenths_2 ic_0 ?_
  refine v_istore_n [(2, .int (0 : Int32)), (1, .int (0 : Int32)), (0, .ref (lc 2 x0))] dX6_allTenths_3 (Nat.le_of_ble_eq_true rfl) rfl ?_
  refine v_sub [2, 1, 0] rfl ?_
  refine itr_loop (P := fun a1 : Int32 × Int32 => tt_V (XW l D dA A b) cX6_allTenths (RX6, 3, (some .int), rmY_allTenths, tt_nt) (tt_fn (XW l D dA A b) (RX6, 3, (some .int), rmY_allTenths, tt_nt) Q) 4 [(0, .ref (lc 2 x0)), (1, .int a1.1), (2, .int a1.2)] [] lc s 0 0) (PE := fun b2 : Int32 × Int32 => tt_V (XW l D dA A b) cX6_allTenths (RX6, 3, (some .int), rmY_allTenths, tt_nt) (tt_fn (XW l D dA A b) (RX6, 3, (some .int), rmY_allTenths, tt_nt) Q) 27 [(0, .ref (lc 2 x0)), (1, .int b2.1), (2, .int b2.2)] [] lc s 0 0) h (fun b2 h => ?_) (fun a1 h => ?_)
  · refine v_iload_n 1 dX6_allTenths_27 rfl ?_
    have h := Ok.ret h
    exact v_iret rfl (Nat.zero_le _) (Nat.zero_le _) dX6_allTenths_28 h
  · have h : Ok (fY_allTenths_L4 s x0 a1) _ := h
    unfold fY_allTenths_L4 at h
    refine v_iload_n 2 dX6_allTenths_4 rfl ?_
    refine v_aload_n 0 dX6_allTenths_5 rfl ?_
    refine gW_X6_34_2 hx0 dX6_allTenths_6 ?_
    refine v_icmp_ge (tgt := 27) dX6_allTenths_9 rfl (fun c3 => ?_) (fun c3 => ?_)
    · have h := Ok.pos h c3
      have h := Ok.ret h
      exact h
    · have h := Ok.neg h c3
      refine v_iload_n 1 dX6_allTenths_12 rfl ?_
      refine v_aload_n 0 dX6_allTenths_13 rfl ?_
      refine gW_X6_15_2 hx0 dX6_allTenths_14 ?_
      refine v_iload_n 2 dX6_allTenths_17 rfl ?_
      obtain ⟨g4, h⟩ := Ok.guard h
      refine lW_4 hx0 g4 dX6_allTenths_18 ?_
      refine v_iadd dX6_allTenths_19 ?_
      refine v_nmI (fun v5 e_v5 => ?_)
      have h := Ok.nm h e_v5
      refine v_istore_n [(1, .int v5), (0, .ref (lc 2 x0)), (2, .int a1.2)] dX6_allTenths_20 (Nat.le_of_ble_eq_true rfl) rfl ?_
      refine v_iinc (v := (a1.2 + 1 : Int32)) 2 [(2, .int (a1.2 + 1 : Int32)), (1, .int v5), (0, .ref (lc 2 x0))] dX6_allTenths_21 rfl (by rw [ic_1]) (Nat.le_of_ble_eq_true rfl) rfl ?_
      refine v_goto (tgt := 4) dX6_allTenths_24 rfl ?_
      refine v_sub [2, 1, 0] rfl ?_
      have h := Ok.ret h
      exact h
theorem cW_X2_177_2 {l : Launch} {D : va_G} {dA : Nat → ClassId} {A : Nat → Prop} {b : Bool} {lc : Nat → Nat → Nat} {s : tt_St} {cc : ByteArray} {nl : Nat} {rt : Option FieldType} {rm : Room} {tn : tt_Tn} {Q : tt_Fin} {pc : Nat} {lv : List (Nat × Value)} {rest : List Value} {ck cn : Nat} {x0 : Nat} (hx0 : x0 < 40) {K : Int32 → Prop} (h : Ok (fY_allTenths s x0) K) (hR : 0 + 1 ≤ rm.frames ∧ 8 + (3 + 11) + 0 ≤ rm.locals) (hW : (rest.map fun v => v.category).sum ≤ 8) (d : decode cc pc = .ok (.invokevirtual 177, 3)) (kk : ∀ r, K r → tt_V (XW l D dA A b) cc (RX2, nl, rt, rm, tn) Q (pc + 3) lv (.int r :: rest) lc s ck cn) (hf : ck ≤ rm.cells ∧ cn ≤ rm.slots := by exact ⟨Nat.zero_le _, Nat.zero_le _⟩) : tt_V (XW l D dA A b) cc (RX2, nl, rt, rm, tn) Q pc lv (.ref (lc 2 x0) :: rest) lc s ck cn :=
  v_callV (kd := 2) (i := x0) (nA := 0) (As := []) (lvW_2 hx0) oW_2 rfl (mY_allTenths l D dA A b lc s x0 hx0 (Q := (fun v lc' s' => ∃ r, K r ∧ v = some (.int r) ∧ lc' = lc ∧ s' = s)) (h.mono (fun r hr => ⟨r, hr, rfl, rfl, rfl⟩))) (lw_V q1059 q1060 q1061 q139 q1062) (by decide +kernel) rfl hR hW hf d rfl (fun v lc' s' q => by obtain ⟨r, hr, e1, e2, e3⟩ := q; rw [e1, e2, e3]; exact kk r hr)
theorem gW_X6_18_2 {l : Launch} {D : va_G} {dA : Nat → ClassId} {A : Nat → Prop} {b : Bool} {lc : Nat → Nat → Nat} {s : tt_St} {cc : ByteArray} {nl : Nat} {rt : Option FieldType} {rm : Room} {tn : tt_Tn} {Q : tt_Fin} {pc : Nat} {lv : List (Nat × Value)} {rest : List Value} {ck cn : Nat} {i : Nat} (hv : i < 40) (d : decode cc pc = .ok (.getfield 18, 3)) (kk : tt_V (XW l D dA A b) cc (RX6, nl, rt, rm, tn) Q (pc + 3) lv (.ref (lc 5 i) :: rest) lc s ck cn) : tt_V (XW l D dA A b) cc (RX6, nl, rt, rm, tn) Q pc lv (.ref (lc 2 i) :: rest) lc s ck cn := v_get (p := 2) (lvW_2 hv) oW_2 rfl in_X6 (by decide) q344 (.inl rfl) rfl d kk
def fY_isSignedBy (s : tt_St) (x0 : Nat) (x1 : Int32) (x2 : Int32) : Option (tt_St) :=
  if inB (rdI s 2 x0 8) 4 then nm (wrI s 3 x0 (rdI s 2 x0 8).toNatClampNeg x1) fun s2 => if inB (rdI s2 2 x0 8) 4 then nm (wrI s2 4 x0 (rdI s2 2 x0 8).toNatClampNeg x2) fun s4 => if inB (rdI s4 2 x0 8) 4 then nm (wrL s4 5 x0 (rdI s4 2 x0 8).toNatClampNeg (0 : Int64)) fun s6 => nm (wrI s6 2 x0 8 ((rdI s6 2 x0 8) + (1 : Int32))) fun s7 => some s7 else none else none else none
abbrev rmY_isSignedBy : Room := { frames := 0, cells := 0, slots := 0, locals := 0 }
set_option maxHeartbeats 4000000 in
theorem mY_isSignedBy (l : Launch) (D : va_G) (dA : Nat → ClassId) (A : Nat → Prop) (b : Bool) (lc : Nat → Nat → Nat) (s : tt_St) (x0 : Nat) (x1 : Int32) (x2 : Int32) (hx0 : x0 < 40) {Q : Option Value → (Nat → Nat → Nat) → tt_St → Prop} (h : Ok (fY_isSignedBy s x0 x1 x2) (fun r => Q none lc r)) : tt_Sp (XW l D dA A b) yX6_isSignedBy cX6_isSignedBy 3 none rmY_isSignedBy [.ref (lc 2 x0), .int x1, .int x2] lc s Q := by
  refine tt_Sp.ofV plX6 kokW (Nat.le_of_ble_eq_true rfl) ?_
  show tt_V (XW l D dA A b) cX6_isSignedBy (RX6, 3, none, rmY_isSignedBy, tt_nt) (tt_fn (XW l D dA A b) (RX6, 3, none, rmY_isSignedBy, tt_nt) Q) 0 [(0, .ref (lc 2 x0)), (1, .int x1), (2, .int x2)] [] lc s 0 0
  unfold fY_isSignedBy at h
  refine v_aload_n 0 dX6_isSignedBy_0 rfl ?_
  refine gW_X6_9_2 hx0 dX6_isSignedBy_1 ?_
  refine v_aload_n 0 dX6_isSignedBy_4 rfl ?_
  refine gW_X6_34_2 hx0 dX6_isSignedBy_5 ?_
  refine v_iload_n 1 dX6_isSignedBy_8 rfl ?_
  obtain ⟨g1, h⟩ := Ok.guard h
  refine sW_3 hx0 g1 dX6_isSignedBy_9 ?_
  refine v_nmS (fun s2 e_s2 => ?_)
  have h := Ok.nm h e_s2
  refine v_aload_n 0 dX6_isSignedBy_10 rfl ?_
  refine gW_X6_15_2 hx0 dX6_isSignedBy_11 ?_
  refine v_aload_n 0 dX6_isSignedBy_14 rfl ?_
  refine gW_X6_34_2 hx0 dX6_isSignedBy_15 ?_
  refine v_iload_n 2 dX6_isSignedBy_18 rfl ?_
  obtain ⟨g3, h⟩ := Ok.guard h
  refine sW_4 hx0 g3 dX6_isSignedBy_19 ?_
  refine v_nmS (fun s4 e_s4 => ?_)
  have h := Ok.nm h e_s4
  refine v_aload_n 0 dX6_isSignedBy_20 rfl ?_
  refine gW_X6_18_2 hx0 dX6_isSignedBy_21 ?_
  refine v_aload_n 0 dX6_isSignedBy_24 rfl ?_
  refine gW_X6_34_2 hx0 dX6_isSignedBy_25 ?_
  refine v_lconst dX6_isSignedBy_28 kl_0 ?_
  obtain ⟨g5, h⟩ := Ok.guard h
  refine sW_5 hx0 g5 dX6_isSignedBy_29 ?_
  refine v_nmS (fun s6 e_s6 => ?_)
  have h := Ok.nm h e_s6
  refine v_aload_n 0 dX6_isSignedBy_30 rfl ?_
  refine v_dup dX6_isSignedBy_31 rfl ?_
  refine gW_X6_34_2 hx0 dX6_isSignedBy_32 ?_
  refine v_iconst dX6_isSignedBy_35 ic_1 ?_
  refine v_iadd dX6_isSignedBy_36 ?_
  refine pW_X6_34_2 hx0 dX6_isSignedBy_37 ?_
  refine v_nmS (fun s7 e_s7 => ?_)
  have h := Ok.nm h e_s7
  have h := Ok.ret h
  exact v_vret rfl (Nat.zero_le _) (Nat.zero_le _) dX6_isSignedBy_40 h
theorem cW_X2_180_2 {l : Launch} {D : va_G} {dA : Nat → ClassId} {A : Nat → Prop} {b : Bool} {lc : Nat → Nat → Nat} {s : tt_St} {cc : ByteArray} {nl : Nat} {rt : Option FieldType} {rm : Room} {tn : tt_Tn} {Q : tt_Fin} {pc : Nat} {lv : List (Nat × Value)} {rest : List Value} {ck cn : Nat} {x0 : Nat} {x1 : Int32} {x2 : Int32} (hx0 : x0 < 40) {K : tt_St → Prop} (h : Ok (fY_isSignedBy s x0 x1 x2) K) (hR : 0 + 1 ≤ rm.frames ∧ 8 + (3 + 11) + 0 ≤ rm.locals) (hW : (rest.map fun v => v.category).sum ≤ 8) (d : decode cc pc = .ok (.invokevirtual 180, 3)) (kk : ∀ r, K r → tt_V (XW l D dA A b) cc (RX2, nl, rt, rm, tn) Q (pc + 3) lv rest lc r ck cn) (hf : ck ≤ rm.cells ∧ cn ≤ rm.slots := by exact ⟨Nat.zero_le _, Nat.zero_le _⟩) : tt_V (XW l D dA A b) cc (RX2, nl, rt, rm, tn) Q pc lv (.int x2 :: .int x1 :: .ref (lc 2 x0) :: rest) lc s ck cn :=
  v_callV (kd := 2) (i := x0) (nA := 2) (As := [.int x1, .int x2]) (lvW_2 hx0) oW_2 rfl (mY_isSignedBy l D dA A b lc s x0 x1 x2 hx0 (Q := (fun v lc' s' => ∃ r, K r ∧ v = none ∧ lc' = lc ∧ s' = r)) (h.mono (fun r hr => ⟨r, hr, rfl, rfl, rfl⟩))) (lw_V q1063 q1064 q1065 q139 q1066) (by decide +kernel) rfl hR hW hf d rfl (fun v lc' s' q => by obtain ⟨r, hr, e1, e2, e3⟩ := q; rw [e1, e2, e3]; exact kk r hr)
def fW_signs (s : tt_St) (x1 : Int32) (x2 : Int32) (x3 : Int32) : Option (Int32 × tt_St) :=
  if inB x1 40 then if (rdI s 2 x1.toNatClampNeg 10) = 0 then some ((0 : Int32), s) else if (0 : Int64) < (rdL s 2 x1.toNatClampNeg 9) then some ((0 : Int32), s) else if (rdI s 2 x1.toNatClampNeg 8) = (4 : Int32) then some ((0 : Int32), s) else (fY_tenthsOf s x1.toNatClampNeg x2).bind fun r5 => if 0 < r5 then some ((0 : Int32), s) else (fY_allTenths s x1.toNatClampNeg).bind fun r7 => if (r7 + x3) ≤ (10 : Int32) then (fY_isSignedBy s x1.toNatClampNeg x2 x3).bind fun r9 => some ((1 : Int32), r9) else some ((0 : Int32), s) else none
abbrev rmW_signs : Room := { frames := 1, cells := 0, slots := 0, locals := 22 }
set_option maxHeartbeats 4000000 in
theorem mW_signs (l : Launch) (D : va_G) (dA : Nat → ClassId) (A : Nat → Prop) (b : Bool) (lc : Nat → Nat → Nat) (s : tt_St) (x1 : Int32) (x2 : Int32) (x3 : Int32) {Q : Option Value → (Nat → Nat → Nat) → tt_St → Prop} (h : Ok (fW_signs s x1 x2 x3) (fun r => zB r.1 → Q (some (.int r.1)) lc r.2)) : tt_Sp (XW l D dA A b) yX2_signs cX2_signs 5 (some .boolean) rmW_signs [.ref (lc 0 0), .int x1, .int x2, .int x3] lc s Q := by
  refine tt_Sp.ofV plX2 kokW (Nat.le_of_ble_eq_true rfl) ?_
  show tt_V (XW l D dA A b) cX2_signs (RX2, 5, (some .boolean), rmW_signs, tt_nt) (tt_fn (XW l D dA A b) (RX2, 5, (some .boolean), rmW_signs, tt_nt) Q) 0 [(0, .ref (lc 0 0)), (1, .int x1), (2, .int x2), (3, .int x3)] [] lc s 0 0
  unfold fW_signs at h
  refine v_aload_n 0 dX2_signs_0 rfl ?_
  refine gW_X2_11_0 dX2_signs_1 ?_
  refine v_iload_n 1 dX2_signs_4 rfl ?_
  obtain ⟨g1, h⟩ := Ok.guard h
  refine lW_1 g1 dX2_signs_5 ?_
  refine v_astore [(4, .ref (lc 2 x1.toNatClampNeg)), (0, .ref (lc 0 0)), (1, .int x1), (2, .int x2), (3, .int x3)] dX2_signs_6 (Nat.le_of_ble_eq_true rfl) rfl ?_
  refine v_aload 0 dX2_signs_8 rfl ?_
  refine gW_X2_163_2 (inB_lt g1) dX2_signs_10 ?_
  refine v_if_eq (tgt := 56) dX2_signs_13 rfl (fun c2 => ?_) (fun c2 => ?_)
  · have h := Ok.pos h c2
    refine v_iconst dX2_signs_56 ic_0 ?_
    have h := Ok.ret h
    exact v_zret rfl zB_0 (Nat.zero_le _) (Nat.zero_le _) dX2_signs_57 (h zB_0)
  · have h := Ok.neg h c2
    refine v_aload 0 dX2_signs_16 rfl ?_
    refine gW_X2_166_2 (inB_lt g1) dX2_signs_18 ?_
    refine v_lconst dX2_signs_21 kl_0 ?_
    refine v_lif_gt (tgt := 56) dX2_signs_22 dX2_signs_23 rfl (fun c3 => ?_) (fun c3 => ?_)
    · have h := Ok.pos h c3
      refine v_iconst dX2_signs_56 ic_0 ?_
      have h := Ok.ret h
      exact v_zret rfl zB_0 (Nat.zero_le _) (Nat.zero_le _) dX2_signs_57 (h zB_0)
    · have h := Ok.neg h c3
      refine v_aload 0 dX2_signs_26 rfl ?_
      refine gW_X2_170_2 (inB_lt g1) dX2_signs_28 ?_
      refine v_iconst dX2_signs_31 ic_4 ?_
      refine v_icmp_eq (tgt := 56) dX2_signs_32 rfl (fun c4 => ?_) (fun c4 => ?_)
      · have h := Ok.pos h c4
        refine v_iconst dX2_signs_56 ic_0 ?_
        have h := Ok.ret h
        exact v_zret rfl zB_0 (Nat.zero_le _) (Nat.zero_le _) dX2_signs_57 (h zB_0)
      · have h := Ok.neg h c4
        refine v_aload 0 dX2_signs_35 rfl ?_
        refine v_iload_n 3 dX2_signs_37 rfl ?_
        refine cW_X2_173_2 (inB_lt g1) (Ok.bind h) ⟨Nat.le_of_ble_eq_true rfl, Nat.le_of_ble_eq_true rfl⟩ (Nat.le_of_ble_eq_true rfl) dX2_signs_38 (fun r5 h => ?_)
        refine v_if_gt (tgt := 56) dX2_signs_41 rfl (fun c6 => ?_) (fun c6 => ?_)
        · have h := Ok.pos h c6
          refine v_iconst dX2_signs_56 ic_0 ?_
          have h := Ok.ret h
          exact v_zret rfl zB_0 (Nat.zero_le _) (Nat.zero_le _) dX2_signs_57 (h zB_0)
        · have h := Ok.neg h c6
          refine v_aload 0 dX2_signs_44 rfl ?_
          refine cW_X2_177_2 (inB_lt g1) (Ok.bind h) ⟨Nat.le_of_ble_eq_true rfl, Nat.le_of_ble_eq_true rfl⟩ (Nat.le_of_ble_eq_true rfl) dX2_signs_46 (fun r7 h => ?_)
          refine v_iload_n 4 dX2_signs_49 rfl ?_
          refine v_iadd dX2_signs_50 ?_
          refine v_bipush dX2_signs_51 kb_10 ?_
          refine v_icmp_le (tgt := 58) dX2_signs_53 rfl (fun c8 => ?_) (fun c8 => ?_)
          · have h := Ok.pos h c8
            refine v_aload 0 dX2_signs_58 rfl ?_
            refine v_iload_n 3 dX2_signs_60 rfl ?_
            refine v_iload_n 4 dX2_signs_61 rfl ?_
            refine cW_X2_180_2 (inB_lt g1) (Ok.bind h) ⟨Nat.le_of_ble_eq_true rfl, Nat.le_of_ble_eq_true rfl⟩ (Nat.le_of_ble_eq_true rfl) dX2_signs_62 (fun r9 h => ?_)
            refine v_iconst dX2_signs_65 ic_1 ?_
            have h := Ok.ret h
            exact v_zret rfl zB_1 (Nat.zero_le _) (Nat.zero_le _) dX2_signs_66 (h zB_1)
          · have h := Ok.neg h c8
            refine v_iconst dX2_signs_56 ic_0 ?_
            have h := Ok.ret h
            exact v_zret rfl zB_0 (Nat.zero_le _) (Nat.zero_le _) dX2_signs_57 (h zB_0)
theorem cW_X2_184_0 {l : Launch} {D : va_G} {dA : Nat → ClassId} {A : Nat → Prop} {b : Bool} {lc : Nat → Nat → Nat} {s : tt_St} {cc : ByteArray} {nl : Nat} {rt : Option FieldType} {rm : Room} {tn : tt_Tn} {Q : tt_Fin} {pc : Nat} {lv : List (Nat × Value)} {rest : List Value} {ck cn : Nat} {x1 : Int32} {K : Int32 → Prop} (h : Ok (fW_isGap s x1) K) (hR : 0 + 1 ≤ rm.frames ∧ 8 + (2 + 11) + 0 ≤ rm.locals) (hW : (rest.map fun v => v.category).sum ≤ 8) (d : decode cc pc = .ok (.invokevirtual 184, 3)) (kk : ∀ r, zB r → K r → tt_V (XW l D dA A b) cc (RX2, nl, rt, rm, tn) Q (pc + 3) lv (.int r :: rest) lc s ck cn) (hf : ck ≤ rm.cells ∧ cn ≤ rm.slots := by exact ⟨Nat.zero_le _, Nat.zero_le _⟩) : tt_V (XW l D dA A b) cc (RX2, nl, rt, rm, tn) Q pc lv (.int x1 :: .ref (lc 0 0) :: rest) lc s ck cn :=
  v_callV (kd := 0) (i := 0) (nA := 1) (As := [.int x1]) lvW_0 oW_0 rfl (mW_isGap l D dA A b lc s x1 (Q := (fun v lc' s' => ∃ r, zB r ∧ K r ∧ v = some (.int r) ∧ lc' = lc ∧ s' = s)) (h.mono (fun r hr => fun hz => ⟨r, hz, hr, rfl, rfl, rfl⟩))) (lw_V q480 q481 q482 q128 q483) (by decide +kernel) rfl hR hW hf d rfl (fun v lc' s' q => by obtain ⟨r, hz, hr, e1, e2, e3⟩ := q; rw [e1, e2, e3]; exact kk r hz hr)
def fW_goesWithout (s : tt_St) (x1 : Int32) : Option (Int32 × tt_St) :=
  (fW_isLacking s x1).bind fun r1 => if r1 = 0 then (fW_isGap s x1).bind fun r3 => if r3 = 0 then some ((0 : Int32), s) else nm (wrI s 0 0 17 ((rdI s 0 0 17) ||| ((1 : Int32) <<< (x1 &&& 31)))) fun s5 => some ((1 : Int32), s5) else some ((0 : Int32), s)
abbrev rmW_goesWithout : Room := { frames := 1, cells := 0, slots := 0, locals := 21 }
set_option maxHeartbeats 4000000 in
theorem mW_goesWithout (l : Launch) (D : va_G) (dA : Nat → ClassId) (A : Nat → Prop) (b : Bool) (lc : Nat → Nat → Nat) (s : tt_St) (x1 : Int32) {Q : Option Value → (Nat → Nat → Nat) → tt_St → Prop} (h : Ok (fW_goesWithout s x1) (fun r => zB r.1 → Q (some (.int r.1)) lc r.2)) : tt_Sp (XW l D dA A b) yX2_goesWithout cX2_goesWithout 2 (some .boolean) rmW_goesWithout [.ref (lc 0 0), .int x1] lc s Q := by
  refine tt_Sp.ofV plX2 kokW (Nat.le_of_ble_eq_true rfl) ?_
  show tt_V (XW l D dA A b) cX2_goesWithout (RX2, 2, (some .boolean), rmW_goesWithout, tt_nt) (tt_fn (XW l D dA A b) (RX2, 2, (some .boolean), rmW_goesWithout, tt_nt) Q) 0 [(0, .ref (lc 0 0)), (1, .int x1)] [] lc s 0 0
  unfold fW_goesWithout at h
  refine v_aload_n 0 dX2_goesWithout_0 rfl ?_
  refine v_iload_n 1 dX2_goesWithout_1 rfl ?_
  refine cW_X2_151_0 (Ok.bind h) ⟨Nat.le_of_ble_eq_true rfl, Nat.le_of_ble_eq_true rfl⟩ (Nat.le_of_ble_eq_true rfl) dX2_goesWithout_2 (fun r1 z_r1 h => ?_)
  refine v_if_ne (tgt := 16) dX2_goesWithout_5 rfl (fun c2 => ?_) (fun c2 => ?_)
  · have h := Ok.neg h c2
    refine v_iconst dX2_goesWithout_16 ic_0 ?_
    have h := Ok.ret h
    exact v_zret rfl zB_0 (Nat.zero_le _) (Nat.zero_le _) dX2_goesWithout_17 (h zB_0)
  · have h := Ok.pos h c2
    refine v_aload_n 0 dX2_goesWithout_8 rfl ?_
    refine v_iload_n 1 dX2_goesWithout_9 rfl ?_
    refine cW_X2_184_0 (Ok.bind h) ⟨Nat.le_of_ble_eq_true rfl, Nat.le_of_ble_eq_true rfl⟩ (Nat.le_of_ble_eq_true rfl) dX2_goesWithout_10 (fun r3 z_r3 h => ?_)
    refine v_if_ne (tgt := 18) dX2_goesWithout_13 rfl (fun c4 => ?_) (fun c4 => ?_)
    · have h := Ok.neg h c4
      refine v_aload_n 0 dX2_goesWithout_18 rfl ?_
      refine v_dup dX2_goesWithout_19 rfl ?_
      refine gW_X2_111_0 dX2_goesWithout_20 ?_
      refine v_iconst dX2_goesWithout_23 ic_1 ?_
      refine v_iload_n 1 dX2_goesWithout_24 rfl ?_
      refine v_ishl dX2_goesWithout_25 ?_
      refine v_ior dX2_goesWithout_26 ?_
      refine pW_X2_111_0 dX2_goesWithout_27 ?_
      refine v_nmS (fun s5 e_s5 => ?_)
      have h := Ok.nm h e_s5
      refine v_iconst dX2_goesWithout_30 ic_1 ?_
      have h := Ok.ret h
      exact v_zret rfl zB_1 (Nat.zero_le _) (Nat.zero_le _) dX2_goesWithout_31 (h zB_1)
    · have h := Ok.pos h c4
      refine v_iconst dX2_goesWithout_16 ic_0 ?_
      have h := Ok.ret h
      exact v_zret rfl zB_0 (Nat.zero_le _) (Nat.zero_le _) dX2_goesWithout_17 (h zB_0)
theorem gW_X2_130_0 {l : Launch} {D : va_G} {dA : Nat → ClassId} {A : Nat → Prop} {b : Bool} {lc : Nat → Nat → Nat} {s : tt_St} {cc : ByteArray} {nl : Nat} {rt : Option FieldType} {rm : Room} {tn : tt_Tn} {Q : tt_Fin} {pc : Nat} {lv : List (Nat × Value)} {rest : List Value} {ck cn : Nat} (d : decode cc pc = .ok (.getfield 130, 3)) (kk : tt_V (XW l D dA A b) cc (RX2, nl, rt, rm, tn) Q (pc + 3) lv (.int (rdI s 0 0 23) :: rest) lc s ck cn) : tt_V (XW l D dA A b) cc (RX2, nl, rt, rm, tn) Q pc lv (.ref (lc 0 0) :: rest) lc s ck cn := v_get (p := 23) lvW_0 oW_0 rfl in_X2 (by decide) q765 (.inl rfl) rfl d kk
def fW_rulesBy (s : tt_St) (x1 : Int32) (x2 : Int32) (x3 : Int32) : Option (Int32 × tt_St) :=
  if (rdI s 0 0 23) = 0 then nm (wrI s 0 0 18 x1) fun s2 => nm (wrI s2 0 0 19 x2) fun s3 => nm (wrI s3 0 0 20 x3) fun s4 => some ((1 : Int32), s4) else some ((1 : Int32), s)
abbrev rmW_rulesBy : Room := { frames := 0, cells := 0, slots := 0, locals := 0 }
set_option maxHeartbeats 4000000 in
theorem mW_rulesBy (l : Launch) (D : va_G) (dA : Nat → ClassId) (A : Nat → Prop) (b : Bool) (lc : Nat → Nat → Nat) (s : tt_St) (x1 : Int32) (x2 : Int32) (x3 : Int32) {Q : Option Value → (Nat → Nat → Nat) → tt_St → Prop} (h : Ok (fW_rulesBy s x1 x2 x3) (fun r => zB r.1 → Q (some (.int r.1)) lc r.2)) : tt_Sp (XW l D dA A b) yX2_rulesBy cX2_rulesBy 4 (some .boolean) rmW_rulesBy [.ref (lc 0 0), .int x1, .int x2, .int x3] lc s Q := by
  refine tt_Sp.ofV plX2 kokW (Nat.le_of_ble_eq_true rfl) ?_
  show tt_V (XW l D dA A b) cX2_rulesBy (RX2, 4, (some .boolean), rmW_rulesBy, tt_nt) (tt_fn (XW l D dA A b) (RX2, 4, (some .boolean), rmW_rulesBy, tt_nt) Q) 0 [(0, .ref (lc 0 0)), (1, .int x1), (2, .int x2), (3, .int x3)] [] lc s 0 0
  unfold fW_rulesBy at h
  refine v_aload_n 0 dX2_rulesBy_0 rfl ?_
  refine gW_X2_130_0 dX2_rulesBy_1 ?_
  refine v_if_eq (tgt := 9) dX2_rulesBy_4 rfl (fun c1 => ?_) (fun c1 => ?_)
  · have h := Ok.pos h c1
    refine v_aload_n 0 dX2_rulesBy_9 rfl ?_
    refine v_iload_n 1 dX2_rulesBy_10 rfl ?_
    refine pW_X2_115_0 dX2_rulesBy_11 ?_
    refine v_nmS (fun s2 e_s2 => ?_)
    have h := Ok.nm h e_s2
    refine v_aload_n 0 dX2_rulesBy_14 rfl ?_
    refine v_iload_n 2 dX2_rulesBy_15 rfl ?_
    refine pW_X2_118_0 dX2_rulesBy_16 ?_
    refine v_nmS (fun s3 e_s3 => ?_)
    have h := Ok.nm h e_s3
    refine v_aload_n 0 dX2_rulesBy_19 rfl ?_
    refine v_iload_n 3 dX2_rulesBy_20 rfl ?_
    refine pW_X2_121_0 dX2_rulesBy_21 ?_
    refine v_nmS (fun s4 e_s4 => ?_)
    have h := Ok.nm h e_s4
    refine v_iconst dX2_rulesBy_24 ic_1 ?_
    have h := Ok.ret h
    exact v_zret rfl zB_1 (Nat.zero_le _) (Nat.zero_le _) dX2_rulesBy_25 (h zB_1)
  · have h := Ok.neg h c1
    refine v_iconst dX2_rulesBy_7 ic_1 ?_
    have h := Ok.ret h
    exact v_zret rfl zB_1 (Nat.zero_le _) (Nat.zero_le _) dX2_rulesBy_8 (h zB_1)
def fW_turns (s : tt_St) (x1 : Int32) (x2 : Int32) (x3 : Int32) : Option (Int32 × tt_St) :=
  if inB x1 10 then if (rdI s 24 0 x1.toNatClampNeg) = 0 then nm (wrI s 24 0 x1.toNatClampNeg x2) fun s3 => nm (wrL s3 25 0 x1.toNatClampNeg x3.toInt64) fun s4 => some ((1 : Int32), s4) else some ((0 : Int32), s) else none
abbrev rmW_turns : Room := { frames := 0, cells := 0, slots := 0, locals := 0 }
set_option maxHeartbeats 4000000 in
theorem mW_turns (l : Launch) (D : va_G) (dA : Nat → ClassId) (A : Nat → Prop) (b : Bool) (lc : Nat → Nat → Nat) (s : tt_St) (x1 : Int32) (x2 : Int32) (x3 : Int32) {Q : Option Value → (Nat → Nat → Nat) → tt_St → Prop} (h : Ok (fW_turns s x1 x2 x3) (fun r => zB r.1 → Q (some (.int r.1)) lc r.2)) : tt_Sp (XW l D dA A b) yX2_turns cX2_turns 4 (some .boolean) rmW_turns [.ref (lc 0 0), .int x1, .int x2, .int x3] lc s Q := by
  refine tt_Sp.ofV plX2 kokW (Nat.le_of_ble_eq_true rfl) ?_
  show tt_V (XW l D dA A b) cX2_turns (RX2, 4, (some .boolean), rmW_turns, tt_nt) (tt_fn (XW l D dA A b) (RX2, 4, (some .boolean), rmW_turns, tt_nt) Q) 0 [(0, .ref (lc 0 0)), (1, .int x1), (2, .int x2), (3, .int x3)] [] lc s 0 0
  unfold fW_turns at h
  refine v_aload_n 0 dX2_turns_0 rfl ?_
  refine gW_X2_32_0 dX2_turns_1 ?_
  refine v_iload_n 1 dX2_turns_4 rfl ?_
  obtain ⟨g1, h⟩ := Ok.guard h
  refine lW_24 g1 dX2_turns_5 ?_
  refine v_if_eq (tgt := 11) dX2_turns_6 rfl (fun c2 => ?_) (fun c2 => ?_)
  · have h := Ok.pos h c2
    refine v_aload_n 0 dX2_turns_11 rfl ?_
    refine gW_X2_32_0 dX2_turns_12 ?_
    refine v_iload_n 1 dX2_turns_15 rfl ?_
    refine v_iload_n 2 dX2_turns_16 rfl ?_
    refine sW_24 g1 dX2_turns_17 ?_
    refine v_nmS (fun s3 e_s3 => ?_)
    have h := Ok.nm h e_s3
    refine v_aload_n 0 dX2_turns_18 rfl ?_
    refine gW_X2_35_0 dX2_turns_19 ?_
    refine v_iload_n 1 dX2_turns_22 rfl ?_
    refine v_iload_n 3 dX2_turns_23 rfl ?_
    refine v_i2l dX2_turns_24 rfl ?_
    refine sW_25 g1 dX2_turns_25 ?_
    refine v_nmS (fun s4 e_s4 => ?_)
    have h := Ok.nm h e_s4
    refine v_iconst dX2_turns_26 ic_1 ?_
    have h := Ok.ret h
    exact v_zret rfl zB_1 (Nat.zero_le _) (Nat.zero_le _) dX2_turns_27 (h zB_1)
  · have h := Ok.neg h c2
    refine v_iconst dX2_turns_9 ic_0 ?_
    have h := Ok.ret h
    exact v_zret rfl zB_0 (Nat.zero_le _) (Nat.zero_le _) dX2_turns_10 (h zB_0)
def fW_inStatus_L4 (s : tt_St) (x1 : Int32) (a1 : Int32 × Int32) : Option ((Int32 × Int32) ⊕ (Int32 × Int32)) :=
  if (10 : Int32) ≤ a1.2 then some (.inr (a1.1, a1.2)) else if inB a1.2 10 then if (rdI s 24 0 a1.2.toNatClampNeg) = x1 then nm (a1.1 ||| ((1 : Int32) <<< (a1.2 &&& 31))) fun v6 => some (.inl (v6, (a1.2 + 1 : Int32))) else some (.inl (a1.1, (a1.2 + 1 : Int32))) else none
def fW_inStatus (s : tt_St) (x1 : Int32) : Option (Int32) :=
  (itr (fW_inStatus_L4 s x1) tt_fuel ((0 : Int32), (0 : Int32))).bind fun b2 => some b2.1
abbrev rmW_inStatus : Room := { frames := 0, cells := 0, slots := 0, locals := 0 }
set_option maxHeartbeats 4000000 in
theorem mW_inStatus (l : Launch) (D : va_G) (dA : Nat → ClassId) (A : Nat → Prop) (b : Bool) (lc : Nat → Nat → Nat) (s : tt_St) (x1 : Int32) {Q : Option Value → (Nat → Nat → Nat) → tt_St → Prop} (h : Ok (fW_inStatus s x1) (fun r => Q (some (.int r)) lc s)) : tt_Sp (XW l D dA A b) yX2_inStatus cX2_inStatus 4 (some .int) rmW_inStatus [.ref (lc 0 0), .int x1] lc s Q := by
  refine tt_Sp.ofV plX2 kokW (Nat.le_of_ble_eq_true rfl) ?_
  show tt_V (XW l D dA A b) cX2_inStatus (RX2, 4, (some .int), rmW_inStatus, tt_nt) (tt_fn (XW l D dA A b) (RX2, 4, (some .int), rmW_inStatus, tt_nt) Q) 0 [(0, .ref (lc 0 0)), (1, .int x1)] [] lc s 0 0
  unfold fW_inStatus at h
  refine v_iconst dX2_inStatus_0 ic_0 ?_
  refine v_istore_n [(2, .int (0 : Int32)), (0, .ref (lc 0 0)), (1, .int x1)] dX2_inStatus_1 (Nat.le_of_ble_eq_true rfl) rfl ?_
  refine v_iconst dX2_inStatus_2 ic_0 ?_
  refine v_istore_n [(3, .int (0 : Int32)), (2, .int (0 : Int32)), (0, .ref (lc 0 0)), (1, .int x1)] dX2_inStatus_3 (Nat.le_of_ble_eq_true rfl) rfl ?_
  refine v_sub [2, 3, 1, 0] rfl ?_
  refine itr_loop (P := fun a1 : Int32 × Int32 => tt_V (XW l D dA A b) cX2_inStatus (RX2, 4, (some .int), rmW_inStatus, tt_nt) (tt_fn (XW l D dA A b) (RX2, 4, (some .int), rmW_inStatus, tt_nt) Q) 4 [(0, .ref (lc 0 0)), (1, .int x1), (2, .int a1.1), (3, .int a1.2)] [] lc s 0 0) (PE := fun b2 : Int32 × Int32 => tt_V (XW l D dA A b) cX2_inStatus (RX2, 4, (some .int), rmW_inStatus, tt_nt) (tt_fn (XW l D dA A b) (RX2, 4, (some .int), rmW_inStatus, tt_nt) Q) 32 [(0, .ref (lc 0 0)), (1, .int x1), (2, .int b2.1), (3, .int b2.2)] [] lc s 0 0) h (fun b2 h => ?_) (fun a1 h => ?_)
  · refine v_iload_n 2 dX2_inStatus_32 rfl ?_
    have h := Ok.ret h
    exact v_iret rfl (Nat.zero_le _) (Nat.zero_le _) dX2_inStatus_33 h
  · have h : Ok (fW_inStatus_L4 s x1 a1) _ := h
    unfold fW_inStatus_L4 at h
    refine v_iload_n 3 dX2_inStatus_4 rfl ?_
    refine v_bipush dX2_inStatus_5 kb_10 ?_
    refine v_icmp_ge (tgt := 32) dX2_inStatus_7 rfl (fun c3 => ?_) (fun c3 => ?_)
    · have h := Ok.pos h c3
      have h := Ok.ret h
      exact h
    · have h := Ok.neg h c3
      refine v_aload_n 0 dX2_inStatus_10 rfl ?_
      refine gW_X2_32_0 dX2_inStatus_11 ?_
      refine v_iload_n 3 dX2_inStatus_14 rfl ?_
      obtain ⟨g4, h⟩ := Ok.guard h
      refine lW_24 g4 dX2_inStatus_15 ?_
      refine v_iload_n 1 dX2_inStatus_16 rfl ?_
      refine v_icmp_ne (tgt := 26) dX2_inStatus_17 rfl (fun c5 => ?_) (fun c5 => ?_)
      · have h := Ok.neg h c5
        refine v_iinc (v := (a1.2 + 1 : Int32)) 3 [(3, .int (a1.2 + 1 : Int32)), (0, .ref (lc 0 0)), (1, .int x1), (2, .int a1.1)] dX2_inStatus_26 rfl (by rw [ic_1]) (Nat.le_of_ble_eq_true rfl) rfl ?_
        refine v_goto (tgt := 4) dX2_inStatus_29 rfl ?_
        refine v_sub [1, 2, 3, 0] rfl ?_
        have h := Ok.ret h
        exact h
      · have h := Ok.pos h c5
        refine v_iload_n 2 dX2_inStatus_20 rfl ?_
        refine v_iconst dX2_inStatus_21 ic_1 ?_
        refine v_iload_n 3 dX2_inStatus_22 rfl ?_
        refine v_ishl dX2_inStatus_23 ?_
        refine v_ior dX2_inStatus_24 ?_
        refine v_nmI (fun v6 e_v6 => ?_)
        have h := Ok.nm h e_v6
        refine v_istore_n [(2, .int v6), (0, .ref (lc 0 0)), (1, .int x1), (3, .int a1.2)] dX2_inStatus_25 (Nat.le_of_ble_eq_true rfl) rfl ?_
        refine v_iinc (v := (a1.2 + 1 : Int32)) 3 [(3, .int (a1.2 + 1 : Int32)), (2, .int v6), (0, .ref (lc 0 0)), (1, .int x1)] dX2_inStatus_26 rfl (by rw [ic_1]) (Nat.le_of_ble_eq_true rfl) rfl ?_
        refine v_goto (tgt := 4) dX2_inStatus_29 rfl ?_
        refine v_sub [2, 3, 1, 0] rfl ?_
        have h := Ok.ret h
        exact h
def fB_borne_L16 (s : tt_St) (x0 : Nat) (a2 : Int64 × Int32) : Option ((Int64 × Int32) ⊕ (Int64 × Int32)) :=
  if (7 : Int32) ≤ a2.2 then some (.inr (a2.1, a2.2)) else if inB a2.2 7 then nm (a2.1 + (rdL s 9 x0 a2.2.toNatClampNeg)) fun v6 => some (.inl (v6, (a2.2 + 1 : Int32))) else none
def fB_borne (s : tt_St) (x0 : Nat) (x1 : Int32) : Option (Int64) :=
  if x1 ≤ 0 then (itr (fB_borne_L16 s x0) tt_fuel ((0 : Int64), (0 : Int32))).bind fun b3 => some b3.1 else if inB x1 10 then some (rdL s 8 x0 x1.toNatClampNeg) else none
abbrev rmB_borne_7 : Room := { frames := 0, cells := 0, slots := 0, locals := 0 }
set_option maxHeartbeats 4000000 in
theorem mB_borne_7 (l : Launch) (D : va_G) (dA : Nat → ClassId) (A : Nat → Prop) (b : Bool) (lc : Nat → Nat → Nat) (s : tt_St) (x0 : Nat) (x1 : Int32) (hx0 : lvH b x0) {Q : Option Value → (Nat → Nat → Nat) → tt_St → Prop} (h : Ok (fB_borne s x0 x1) (fun r => Q (some (.long r)) lc s)) : tt_Sp (XW l D dA A b) yX4_borne cX4_borne 5 (some .long) rmB_borne_7 [.ref (lc 7 x0), .int x1] lc s Q := by
  refine tt_Sp.ofV plX4 kokW (Nat.le_of_ble_eq_true rfl) ?_
  show tt_V (XW l D dA A b) cX4_borne (RX4, 5, (some .long), rmB_borne_7, tt_nt) (tt_fn (XW l D dA A b) (RX4, 5, (some .long), rmB_borne_7, tt_nt) Q) 0 [(0, .ref (lc 7 x0)), (1, .int x1)] [] lc s 0 0
  unfold fB_borne at h
  refine v_iload_n 1 dX4_borne_0 rfl ?_
  refine v_if_le (tgt := 11) dX4_borne_1 rfl (fun c1 => ?_) (fun c1 => ?_)
  · have h := Ok.pos h c1
    refine v_lconst dX4_borne_11 kl_0 ?_
    refine v_lstore_n [(2, .long (0 : Int64)), (0, .ref (lc 7 x0)), (1, .int x1)] dX4_borne_12 (Nat.le_of_ble_eq_true rfl) rfl ?_
    refine v_iconst dX4_borne_13 ic_0 ?_
    refine v_istore [(4, .int (0 : Int32)), (2, .long (0 : Int64)), (0, .ref (lc 7 x0)), (1, .int x1)] dX4_borne_14 (Nat.le_of_ble_eq_true rfl) rfl ?_
    refine v_sub [2, 1, 0] rfl ?_
    refine itr_loop (P := fun a2 : Int64 × Int32 => tt_V (XW l D dA A b) cX4_borne (RX4, 5, (some .long), rmB_borne_7, tt_nt) (tt_fn (XW l D dA A b) (RX4, 5, (some .long), rmB_borne_7, tt_nt) Q) 16 [(0, .ref (lc 7 x0)), (2, .long a2.1), (4, .int a2.2)] [] lc s 0 0) (PE := fun b3 : Int64 × Int32 => tt_V (XW l D dA A b) cX4_borne (RX4, 5, (some .long), rmB_borne_7, tt_nt) (tt_fn (XW l D dA A b) (RX4, 5, (some .long), rmB_borne_7, tt_nt) Q) 39 [(0, .ref (lc 7 x0)), (2, .long b3.1), (4, .int b3.2)] [] lc s 0 0) h (fun b3 h => ?_) (fun a2 h => ?_)
    · refine v_lload_n 1 dX4_borne_39 rfl ?_
      have h := Ok.ret h
      exact v_lret rfl (Nat.zero_le _) (Nat.zero_le _) dX4_borne_40 h
    · have h : Ok (fB_borne_L16 s x0 a2) _ := h
      unfold fB_borne_L16 at h
      refine v_iload 2 dX4_borne_16 rfl ?_
      refine v_bipush dX4_borne_18 kb_7 ?_
      refine v_icmp_ge (tgt := 39) dX4_borne_20 rfl (fun c4 => ?_) (fun c4 => ?_)
      · have h := Ok.pos h c4
        have h := Ok.ret h
        exact h
      · have h := Ok.neg h c4
        refine v_lload_n 1 dX4_borne_23 rfl ?_
        refine v_aload_n 0 dX4_borne_24 rfl ?_
        refine gW_X4_15_7 hx0 dX4_borne_25 ?_
        refine v_iload 2 dX4_borne_28 rfl ?_
        obtain ⟨g5, h⟩ := Ok.guard h
        refine lW_9 (.inl hx0) g5 dX4_borne_30 ?_
        refine v_ladd dX4_borne_31 ?_
        refine v_nmL (fun v6 e_v6 => ?_)
        have h := Ok.nm h e_v6
        refine v_lstore_n [(2, .long v6), (0, .ref (lc 7 x0)), (4, .int a2.2)] dX4_borne_32 (Nat.le_of_ble_eq_true rfl) rfl ?_
        refine v_iinc (v := (a2.2 + 1 : Int32)) 2 [(4, .int (a2.2 + 1 : Int32)), (2, .long v6), (0, .ref (lc 7 x0))] dX4_borne_33 rfl (by rw [ic_1]) (Nat.le_of_ble_eq_true rfl) rfl ?_
        refine v_goto (tgt := 16) dX4_borne_36 rfl ?_
        refine v_sub [2, 1, 0] rfl ?_
        have h := Ok.ret h
        exact h
  · have h := Ok.neg h c1
    refine v_aload_n 0 dX4_borne_4 rfl ?_
    refine gW_X4_9_7 hx0 dX4_borne_5 ?_
    refine v_iload_n 1 dX4_borne_8 rfl ?_
    obtain ⟨g7, h⟩ := Ok.guard h
    refine lW_8 (.inl hx0) g7 dX4_borne_9 ?_
    have h := Ok.ret h
    exact v_lret rfl (Nat.zero_le _) (Nat.zero_le _) dX4_borne_10 h
theorem cW_X2_375_7 {l : Launch} {D : va_G} {dA : Nat → ClassId} {A : Nat → Prop} {b : Bool} {lc : Nat → Nat → Nat} {s : tt_St} {cc : ByteArray} {nl : Nat} {rt : Option FieldType} {rm : Room} {tn : tt_Tn} {Q : tt_Fin} {pc : Nat} {lv : List (Nat × Value)} {rest : List Value} {ck cn : Nat} {x0 : Nat} {x1 : Int32} (hx0 : lvH b x0) {K : Int64 → Prop} (h : Ok (fB_borne s x0 x1) K) (hR : 0 + 1 ≤ rm.frames ∧ 8 + (5 + 11) + 0 ≤ rm.locals) (hW : (rest.map fun v => v.category).sum ≤ 8) (d : decode cc pc = .ok (.invokevirtual 375, 3)) (kk : ∀ r, K r → tt_V (XW l D dA A b) cc (RX2, nl, rt, rm, tn) Q (pc + 3) lv (.long r :: rest) lc s ck cn) (hf : ck ≤ rm.cells ∧ cn ≤ rm.slots := by exact ⟨Nat.zero_le _, Nat.zero_le _⟩) : tt_V (XW l D dA A b) cc (RX2, nl, rt, rm, tn) Q pc lv (.int x1 :: .ref (lc 7 x0) :: rest) lc s ck cn :=
  v_callU (x := ⟨"TallTowers$Harm", "borne", "(I)J"⟩) (owner := "TallTowers$Burden") (kd := 7) (i := x0) (nA := 1) (As := [.int x1]) (lvW_7 hx0) oW_7 rfl (mB_borne_7 l D dA A b lc s x0 x1 hx0 (Q := (fun v lc' s' => ∃ r, K r ∧ v = some (.long r) ∧ lc' = lc ∧ s' = s)) (h.mono (fun r hr => ⟨r, hr, rfl, rfl, rfl⟩))) (lw_U q1367 q1172 q1174 q1175 q137 q1176) rfl (by decide +kernel) rfl hR hW hf d rfl (fun v lc' s' q => by obtain ⟨r, hr, e1, e2, e3⟩ := q; rw [e1, e2, e3]; exact kk r hr)
def fW_borneBy_L16 (s : tt_St) (x1 : Int32) (a1 : Int64 × Int32) : Option ((Int64 × Int32) ⊕ (Int64 × Int32)) :=
  if (24 : Int32) ≤ a1.2 then some (.inr (a1.1, a1.2)) else if inB a1.2 24 then (fB_borne s a1.2.toNatClampNeg x1).bind fun r5 => nm (a1.1 + r5) fun v6 => some (.inl (v6, (a1.2 + 1 : Int32))) else none
def fW_borneBy (s : tt_St) (x1 : Int32) : Option (Int64) :=
  (itr (fW_borneBy_L16 s x1) tt_fuel ((0 : Int64), (0 : Int32))).bind fun b2 => some b2.1
abbrev rmW_borneBy : Room := { frames := 1, cells := 0, slots := 0, locals := 24 }
set_option maxHeartbeats 4000000 in
theorem mW_borneBy (l : Launch) (D : va_G) (dA : Nat → ClassId) (A : Nat → Prop) (b : Bool) (lc : Nat → Nat → Nat) (s : tt_St) (x1 : Int32) {Q : Option Value → (Nat → Nat → Nat) → tt_St → Prop} (h : Ok (fW_borneBy s x1) (fun r => Q (some (.long r)) lc s)) : tt_Sp (XW l D dA A b) yX2_borneBy cX2_borneBy 8 (some .long) rmW_borneBy [.ref (lc 0 0), .int x1] lc s Q := by
  refine tt_Sp.ofV plX2 kokW (Nat.le_of_ble_eq_true rfl) ?_
  show tt_V (XW l D dA A b) cX2_borneBy (RX2, 8, (some .long), rmW_borneBy, tt_nt) (tt_fn (XW l D dA A b) (RX2, 8, (some .long), rmW_borneBy, tt_nt) Q) 0 [(0, .ref (lc 0 0)), (1, .int x1)] [] lc s 0 0
  unfold fW_borneBy at h
  refine v_lconst dX2_borneBy_0 kl_0 ?_
  refine v_lstore_n [(2, .long (0 : Int64)), (0, .ref (lc 0 0)), (1, .int x1)] dX2_borneBy_1 (Nat.le_of_ble_eq_true rfl) rfl ?_
  refine v_aload_n 1 dX2_borneBy_2 rfl ?_
  refine gW_X2_19_0 dX2_borneBy_3 ?_
  refine v_astore [(4, .ref (lc 6 0)), (2, .long (0 : Int64)), (0, .ref (lc 0 0)), (1, .int x1)] dX2_borneBy_6 (Nat.le_of_ble_eq_true rfl) rfl ?_
  refine v_aload 0 dX2_borneBy_8 rfl ?_
  refine nW_6 dX2_borneBy_10 ?_
  refine v_istore [(5, .int (24 : Int32)), (4, .ref (lc 6 0)), (2, .long (0 : Int64)), (0, .ref (lc 0 0)), (1, .int x1)] dX2_borneBy_11 (Nat.le_of_ble_eq_true rfl) rfl ?_
  refine v_iconst dX2_borneBy_13 ic_0 ?_
  refine v_istore [(6, .int (0 : Int32)), (5, .int (24 : Int32)), (4, .ref (lc 6 0)), (2, .long (0 : Int64)), (0, .ref (lc 0 0)), (1, .int x1)] dX2_borneBy_14 (Nat.le_of_ble_eq_true rfl) rfl ?_
  refine v_sub [5, 3, 2, 1, 0] rfl ?_
  refine itr_loop (P := fun a1 : Int64 × Int32 => tt_V (XW l D dA A b) cX2_borneBy (RX2, 8, (some .long), rmW_borneBy, tt_nt) (tt_fn (XW l D dA A b) (RX2, 8, (some .long), rmW_borneBy, tt_nt) Q) 16 [(1, .int x1), (2, .long a1.1), (4, .ref (lc 6 0)), (5, .int (24 : Int32)), (6, .int a1.2)] [] lc s 0 0) (PE := fun b2 : Int64 × Int32 => tt_V (XW l D dA A b) cX2_borneBy (RX2, 8, (some .long), rmW_borneBy, tt_nt) (tt_fn (XW l D dA A b) (RX2, 8, (some .long), rmW_borneBy, tt_nt) Q) 45 [(1, .int x1), (2, .long b2.1), (4, .ref (lc 6 0)), (5, .int (24 : Int32)), (6, .int b2.2)] [] lc s 0 0) h (fun b2 h => ?_) (fun a1 h => ?_)
  · refine v_lload_n 1 dX2_borneBy_45 rfl ?_
    have h := Ok.ret h
    exact v_lret rfl (Nat.zero_le _) (Nat.zero_le _) dX2_borneBy_46 h
  · have h : Ok (fW_borneBy_L16 s x1 a1) _ := h
    unfold fW_borneBy_L16 at h
    refine v_iload 4 dX2_borneBy_16 rfl ?_
    refine v_iload 3 dX2_borneBy_18 rfl ?_
    refine v_icmp_ge (tgt := 45) dX2_borneBy_20 rfl (fun c3 => ?_) (fun c3 => ?_)
    · have h := Ok.pos h c3
      have h := Ok.ret h
      exact h
    · have h := Ok.neg h c3
      refine v_aload 2 dX2_borneBy_23 rfl ?_
      refine v_iload 4 dX2_borneBy_25 rfl ?_
      obtain ⟨g4, h⟩ := Ok.guard h
      refine lW_6 g4 dX2_borneBy_27 ?_
      refine v_astore [(7, .ref (lc 7 a1.2.toNatClampNeg)), (1, .int x1), (2, .long a1.1), (4, .ref (lc 6 0)), (5, .int (24 : Int32)), (6, .int a1.2)] dX2_borneBy_28 (Nat.le_of_ble_eq_true rfl) rfl ?_
      refine v_lload_n 2 dX2_borneBy_30 rfl ?_
      refine v_aload 0 dX2_borneBy_31 rfl ?_
      refine v_iload_n 1 dX2_borneBy_33 rfl ?_
      refine cW_X2_375_7 (.inl (inB_lt g4)) (Ok.bind h) ⟨Nat.le_of_ble_eq_true rfl, Nat.le_of_ble_eq_true rfl⟩ (Nat.le_of_ble_eq_true rfl) dX2_borneBy_34 (fun r5 h => ?_)
      refine v_ladd dX2_borneBy_37 ?_
      refine v_nmL (fun v6 e_v6 => ?_)
      have h := Ok.nm h e_v6
      refine v_lstore_n [(2, .long v6), (7, .ref (lc 7 a1.2.toNatClampNeg)), (1, .int x1), (4, .ref (lc 6 0)), (5, .int (24 : Int32)), (6, .int a1.2)] dX2_borneBy_38 (Nat.le_of_ble_eq_true rfl) rfl ?_
      refine v_iinc (v := (a1.2 + 1 : Int32)) 5 [(6, .int (a1.2 + 1 : Int32)), (2, .long v6), (7, .ref (lc 7 a1.2.toNatClampNeg)), (1, .int x1), (4, .ref (lc 6 0)), (5, .int (24 : Int32))] dX2_borneBy_39 rfl (by rw [ic_1]) (Nat.le_of_ble_eq_true rfl) rfl ?_
      refine v_goto (tgt := 16) dX2_borneBy_42 rfl ?_
      refine v_sub [3, 1, 4, 5, 0] rfl ?_
      have h := Ok.ret h
      exact h
theorem gW_X2_39_0 {l : Launch} {D : va_G} {dA : Nat → ClassId} {A : Nat → Prop} {b : Bool} {lc : Nat → Nat → Nat} {s : tt_St} {cc : ByteArray} {nl : Nat} {rt : Option FieldType} {rm : Room} {tn : tt_Tn} {Q : tt_Fin} {pc : Nat} {lv : List (Nat × Value)} {rest : List Value} {ck cn : Nat} (d : decode cc pc = .ok (.getfield 39, 3)) (kk : tt_V (XW l D dA A b) cc (RX2, nl, rt, rm, tn) Q (pc + 3) lv (.ref (lc 26 0) :: rest) lc s ck cn) : tt_V (XW l D dA A b) cc (RX2, nl, rt, rm, tn) Q pc lv (.ref (lc 0 0) :: rest) lc s ck cn := v_get (p := 6) lvW_0 oW_0 rfl in_X2 (by decide) q738 (.inl rfl) rfl d kk
theorem gW_X2_115_0 {l : Launch} {D : va_G} {dA : Nat → ClassId} {A : Nat → Prop} {b : Bool} {lc : Nat → Nat → Nat} {s : tt_St} {cc : ByteArray} {nl : Nat} {rt : Option FieldType} {rm : Room} {tn : tt_Tn} {Q : tt_Fin} {pc : Nat} {lv : List (Nat × Value)} {rest : List Value} {ck cn : Nat} (d : decode cc pc = .ok (.getfield 115, 3)) (kk : tt_V (XW l D dA A b) cc (RX2, nl, rt, rm, tn) Q (pc + 3) lv (.int (rdI s 0 0 18) :: rest) lc s ck cn) : tt_V (XW l D dA A b) cc (RX2, nl, rt, rm, tn) Q pc lv (.ref (lc 0 0) :: rest) lc s ck cn := v_get (p := 18) lvW_0 oW_0 rfl in_X2 (by decide) q755 (.inl rfl) rfl d kk
theorem gW_X7_27_7 {l : Launch} {D : va_G} {dA : Nat → ClassId} {A : Nat → Prop} {b : Bool} {lc : Nat → Nat → Nat} {s : tt_St} {cc : ByteArray} {nl : Nat} {rt : Option FieldType} {rm : Room} {tn : tt_Tn} {Q : tt_Fin} {pc : Nat} {lv : List (Nat × Value)} {rest : List Value} {ck cn : Nat} {i : Nat} (hv : lvH b i) (d : decode cc pc = .ok (.getfield 27, 3)) (kk : tt_V (XW l D dA A b) cc (RX7, nl, rt, rm, tn) Q (pc + 3) lv (.int (rdI s 7 i 7) :: rest) lc s ck cn) : tt_V (XW l D dA A b) cc (RX7, nl, rt, rm, tn) Q pc lv (.ref (lc 7 i) :: rest) lc s ck cn := v_get (p := 7) (lvW_7 hv) oW_7 rfl in_X7 (by decide) q400 (.inl rfl) rfl d kk
theorem gW_X7_30_7 {l : Launch} {D : va_G} {dA : Nat → ClassId} {A : Nat → Prop} {b : Bool} {lc : Nat → Nat → Nat} {s : tt_St} {cc : ByteArray} {nl : Nat} {rt : Option FieldType} {rm : Room} {tn : tt_Tn} {Q : tt_Fin} {pc : Nat} {lv : List (Nat × Value)} {rest : List Value} {ck cn : Nat} {i : Nat} (hv : lvH b i) (d : decode cc pc = .ok (.getfield 30, 3)) (kk : tt_V (XW l D dA A b) cc (RX7, nl, rt, rm, tn) Q (pc + 3) lv (.int (rdI s 7 i 8) :: rest) lc s ck cn) : tt_V (XW l D dA A b) cc (RX7, nl, rt, rm, tn) Q pc lv (.ref (lc 7 i) :: rest) lc s ck cn := v_get (p := 8) (lvW_7 hv) oW_7 rfl in_X7 (by decide) q402 (.inl rfl) rfl d kk
theorem gW_X7_24_7 {l : Launch} {D : va_G} {dA : Nat → ClassId} {A : Nat → Prop} {b : Bool} {lc : Nat → Nat → Nat} {s : tt_St} {cc : ByteArray} {nl : Nat} {rt : Option FieldType} {rm : Room} {tn : tt_Tn} {Q : tt_Fin} {pc : Nat} {lv : List (Nat × Value)} {rest : List Value} {ck cn : Nat} {i : Nat} (hv : lvH b i) (d : decode cc pc = .ok (.getfield 24, 3)) (kk : tt_V (XW l D dA A b) cc (RX7, nl, rt, rm, tn) Q (pc + 3) lv (.int (rdI s 7 i 6) :: rest) lc s ck cn) : tt_V (XW l D dA A b) cc (RX7, nl, rt, rm, tn) Q pc lv (.ref (lc 7 i) :: rest) lc s ck cn := v_get (p := 6) (lvW_7 hv) oW_7 rfl in_X7 (by decide) q398 (.inl rfl) rfl d kk
def fH_setOff (s : tt_St) (x0 : Nat) (x1 : Int32) : Option (Int32) :=
  nm (if x1 = (2 : Int32) then rdI s 7 x0 8 else rdI s 7 x0 7) fun t1 => nm (((1 : Int32) <<< ((t1 + (1 : Int32)) &&& 31)) - ((1 : Int32) <<< ((rdI s 7 x0 6) &&& 31))) fun v4 => if x1 = (1 : Int32) then some ((1 : Int32) <<< ((rdI s 7 x0 8) &&& 31)) else if x1 = (3 : Int32) then some (v4 ||| ((1 : Int32) <<< ((rdI s 7 x0 8) &&& 31))) else some v4
abbrev rmH_setOff : Room := { frames := 0, cells := 0, slots := 0, locals := 0 }
set_option maxHeartbeats 4000000 in
theorem mH_setOff (l : Launch) (D : va_G) (dA : Nat → ClassId) (A : Nat → Prop) (b : Bool) (lc : Nat → Nat → Nat) (s : tt_St) (x0 : Nat) (x1 : Int32) (hx0 : lvH b x0) {Q : Option Value → (Nat → Nat → Nat) → tt_St → Prop} (h : Ok (fH_setOff s x0 x1) (fun r => Q (some (.int r)) lc s)) : tt_Sp (XW l D dA A b) yX7_setOff cX7_setOff 3 (some .int) rmH_setOff [.ref (lc 7 x0), .int x1] lc s Q := by
  refine tt_Sp.ofV plX7 kokW (Nat.le_of_ble_eq_true rfl) ?_
  show tt_V (XW l D dA A b) cX7_setOff (RX7, 3, (some .int), rmH_setOff, tt_nt) (tt_fn (XW l D dA A b) (RX7, 3, (some .int), rmH_setOff, tt_nt) Q) 0 [(0, .ref (lc 7 x0)), (1, .int x1)] [] lc s 0 0
  unfold fH_setOff at h
  refine v_iconst dX7_setOff_0 ic_1 ?_
  refine v_iload_n 1 dX7_setOff_1 rfl ?_
  refine v_iconst dX7_setOff_2 ic_2 ?_
  have J2 : ∀ t1, t1 = (if x1 = (2 : Int32) then rdI s 7 x0 8 else rdI s 7 x0 7) → tt_V (XW l D dA A b) cX7_setOff (RX7, 3, (some .int), rmH_setOff, tt_nt) (tt_fn (XW l D dA A b) (RX7, 3, (some .int), rmH_setOff, tt_nt) Q) 17 [(0, .ref (lc 7 x0)), (1, .int x1)] [.int t1, .int (1 : Int32)] lc s 0 0 := fun t1 e_t1 => by
    have h := Ok.nm h e_t1
    refine v_iconst dX7_setOff_17 ic_1 ?_
    refine v_iadd dX7_setOff_18 ?_
    refine v_ishl dX7_setOff_19 ?_
    refine v_iconst dX7_setOff_20 ic_1 ?_
    refine v_aload_n 0 dX7_setOff_21 rfl ?_
    refine gW_X7_24_7 hx0 dX7_setOff_22 ?_
    refine v_ishl dX7_setOff_25 ?_
    refine v_isub dX7_setOff_26 ?_
    refine v_nmI (fun v4 e_v4 => ?_)
    have h := Ok.nm h e_v4
    refine v_istore_n [(2, .int v4), (0, .ref (lc 7 x0)), (1, .int x1)] dX7_setOff_27 (Nat.le_of_ble_eq_true rfl) rfl ?_
    refine v_iload_n 2 dX7_setOff_28 rfl ?_
    refine v_iconst dX7_setOff_29 ic_1 ?_
    refine v_icmp_ne (tgt := 42) dX7_setOff_30 rfl (fun c5 => ?_) (fun c5 => ?_)
    · have h := Ok.neg h c5
      refine v_iload_n 2 dX7_setOff_42 rfl ?_
      refine v_iconst dX7_setOff_43 ic_3 ?_
      refine v_icmp_ne (tgt := 58) dX7_setOff_44 rfl (fun c6 => ?_) (fun c6 => ?_)
      · have h := Ok.neg h c6
        refine v_iload_n 0 dX7_setOff_58 rfl ?_
        have h := Ok.ret h
        exact v_iret rfl (Nat.zero_le _) (Nat.zero_le _) dX7_setOff_59 h
      · have h := Ok.pos h c6
        refine v_iload_n 0 dX7_setOff_47 rfl ?_
        refine v_iconst dX7_setOff_48 ic_1 ?_
        refine v_aload_n 1 dX7_setOff_49 rfl ?_
        refine gW_X7_30_7 hx0 dX7_setOff_50 ?_
        refine v_ishl dX7_setOff_53 ?_
        refine v_ior dX7_setOff_54 ?_
        refine v_goto (tgt := 59) dX7_setOff_55 rfl ?_
        have h := Ok.ret h
        exact v_iret rfl (Nat.zero_le _) (Nat.zero_le _) dX7_setOff_59 h
    · have h := Ok.pos h c5
      refine v_iconst dX7_setOff_33 ic_1 ?_
      refine v_aload_n 1 dX7_setOff_34 rfl ?_
      refine gW_X7_30_7 hx0 dX7_setOff_35 ?_
      refine v_ishl dX7_setOff_38 ?_
      refine v_goto (tgt := 59) dX7_setOff_39 rfl ?_
      have h := Ok.ret h
      exact v_iret rfl (Nat.zero_le _) (Nat.zero_le _) dX7_setOff_59 h
  refine v_icmp_ne (tgt := 13) dX7_setOff_3 rfl (fun c3 => ?_) (fun c3 => ?_)
  · refine v_aload_n 0 dX7_setOff_13 rfl ?_
    refine gW_X7_27_7 hx0 dX7_setOff_14 ?_
    exact J2 _ (by rw [if_neg c3])
  · refine v_aload_n 0 dX7_setOff_6 rfl ?_
    refine gW_X7_30_7 hx0 dX7_setOff_7 ?_
    refine v_goto (tgt := 17) dX7_setOff_10 rfl ?_
    exact J2 _ (by rw [if_pos c3])
theorem cW_X2_234_7 {l : Launch} {D : va_G} {dA : Nat → ClassId} {A : Nat → Prop} {b : Bool} {lc : Nat → Nat → Nat} {s : tt_St} {cc : ByteArray} {nl : Nat} {rt : Option FieldType} {rm : Room} {tn : tt_Tn} {Q : tt_Fin} {pc : Nat} {lv : List (Nat × Value)} {rest : List Value} {ck cn : Nat} {x0 : Nat} {x1 : Int32} (hx0 : lvH b x0) {K : Int32 → Prop} (h : Ok (fH_setOff s x0 x1) K) (hR : 0 + 1 ≤ rm.frames ∧ 8 + (3 + 11) + 0 ≤ rm.locals) (hW : (rest.map fun v => v.category).sum ≤ 8) (d : decode cc pc = .ok (.invokevirtual 234, 3)) (kk : ∀ r, K r → tt_V (XW l D dA A b) cc (RX2, nl, rt, rm, tn) Q (pc + 3) lv (.int r :: rest) lc s ck cn) (hf : ck ≤ rm.cells ∧ cn ≤ rm.slots := by exact ⟨Nat.zero_le _, Nat.zero_le _⟩) : tt_V (XW l D dA A b) cc (RX2, nl, rt, rm, tn) Q pc lv (.int x1 :: .ref (lc 7 x0) :: rest) lc s ck cn :=
  v_callV (kd := 7) (i := x0) (nA := 1) (As := [.int x1]) (lvW_7 hx0) oW_7 rfl (mH_setOff l D dA A b lc s x0 x1 hx0 (Q := (fun v lc' s' => ∃ r, K r ∧ v = some (.int r) ∧ lc' = lc ∧ s' = s)) (h.mono (fun r hr => ⟨r, hr, rfl, rfl, rfl⟩))) (lw_V q465 q466 q467 q140 q468) (by decide +kernel) rfl hR hW hf d rfl (fun v lc' s' q => by obtain ⟨r, hr, e1, e2, e3⟩ := q; rw [e1, e2, e3]; exact kk r hr)
def fW_counts (s : tt_St) (x1 : Nat) (x2 : Int32) : Option (Int32) :=
  (fH_setOff s x1 (rdI s 0 0 18)).bind fun r1 => if ((r1 >>> (x2 &&& 31)) &&& (1 : Int32)) = (1 : Int32) then (fW_isLacking s x2).bind fun r3 => if r3 = 0 then some (1 : Int32) else some (0 : Int32) else some (0 : Int32)
abbrev rmW_counts_7 : Room := { frames := 1, cells := 0, slots := 0, locals := 22 }
set_option maxHeartbeats 4000000 in
theorem mW_counts_7 (l : Launch) (D : va_G) (dA : Nat → ClassId) (A : Nat → Prop) (b : Bool) (lc : Nat → Nat → Nat) (s : tt_St) (x1 : Nat) (x2 : Int32) (hx1 : lvH b x1) {Q : Option Value → (Nat → Nat → Nat) → tt_St → Prop} (h : Ok (fW_counts s x1 x2) (fun r => zB r → Q (some (.int r)) lc s)) : tt_Sp (XW l D dA A b) yX2_counts cX2_counts 3 (some .boolean) rmW_counts_7 [.ref (lc 0 0), .ref (lc 7 x1), .int x2] lc s Q := by
  refine tt_Sp.ofV plX2 kokW (Nat.le_of_ble_eq_true rfl) ?_
  show tt_V (XW l D dA A b) cX2_counts (RX2, 3, (some .boolean), rmW_counts_7, tt_nt) (tt_fn (XW l D dA A b) (RX2, 3, (some .boolean), rmW_counts_7, tt_nt) Q) 0 [(0, .ref (lc 0 0)), (1, .ref (lc 7 x1)), (2, .int x2)] [] lc s 0 0
  unfold fW_counts at h
  refine v_aload_n 1 dX2_counts_0 rfl ?_
  refine v_aload_n 0 dX2_counts_1 rfl ?_
  refine gW_X2_115_0 dX2_counts_2 ?_
  refine cW_X2_234_7 hx1 (Ok.bind h) ⟨Nat.le_of_ble_eq_true rfl, Nat.le_of_ble_eq_true rfl⟩ (Nat.le_of_ble_eq_true rfl) dX2_counts_5 (fun r1 h => ?_)
  refine v_iload_n 2 dX2_counts_8 rfl ?_
  refine v_ishr dX2_counts_9 ?_
  refine v_iconst dX2_counts_10 ic_1 ?_
  refine v_iand dX2_counts_11 ?_
  refine v_iconst dX2_counts_12 ic_1 ?_
  refine v_icmp_ne (tgt := 28) dX2_counts_13 rfl (fun c2 => ?_) (fun c2 => ?_)
  · have h := Ok.neg h c2
    refine v_iconst dX2_counts_28 ic_0 ?_
    have h := Ok.ret h
    exact v_zret rfl zB_0 (Nat.zero_le _) (Nat.zero_le _) dX2_counts_29 (h zB_0)
  · have h := Ok.pos h c2
    refine v_aload_n 0 dX2_counts_16 rfl ?_
    refine v_iload_n 2 dX2_counts_17 rfl ?_
    refine cW_X2_151_0 (Ok.bind h) ⟨Nat.le_of_ble_eq_true rfl, Nat.le_of_ble_eq_true rfl⟩ (Nat.le_of_ble_eq_true rfl) dX2_counts_18 (fun r3 z_r3 h => ?_)
    refine v_if_ne (tgt := 28) dX2_counts_21 rfl (fun c4 => ?_) (fun c4 => ?_)
    · have h := Ok.neg h c4
      refine v_iconst dX2_counts_28 ic_0 ?_
      have h := Ok.ret h
      exact v_zret rfl zB_0 (Nat.zero_le _) (Nat.zero_le _) dX2_counts_29 (h zB_0)
    · have h := Ok.pos h c4
      refine v_iconst dX2_counts_24 ic_1 ?_
      refine v_goto (tgt := 29) dX2_counts_25 rfl ?_
      have h := Ok.ret h
      exact v_zret rfl zB_1 (Nat.zero_le _) (Nat.zero_le _) dX2_counts_29 (h zB_1)
theorem cW_X2_237_0_7 {l : Launch} {D : va_G} {dA : Nat → ClassId} {A : Nat → Prop} {b : Bool} {lc : Nat → Nat → Nat} {s : tt_St} {cc : ByteArray} {nl : Nat} {rt : Option FieldType} {rm : Room} {tn : tt_Tn} {Q : tt_Fin} {pc : Nat} {lv : List (Nat × Value)} {rest : List Value} {ck cn : Nat} {x1 : Nat} {x2 : Int32} (hx1 : lvH b x1) {K : Int32 → Prop} (h : Ok (fW_counts s x1 x2) K) (hR : 1 + 1 ≤ rm.frames ∧ 8 + (3 + 11) + 22 ≤ rm.locals) (hW : (rest.map fun v => v.category).sum ≤ 8) (d : decode cc pc = .ok (.invokevirtual 237, 3)) (kk : ∀ r, zB r → K r → tt_V (XW l D dA A b) cc (RX2, nl, rt, rm, tn) Q (pc + 3) lv (.int r :: rest) lc s ck cn) (hf : ck ≤ rm.cells ∧ cn ≤ rm.slots := by exact ⟨Nat.zero_le _, Nat.zero_le _⟩) : tt_V (XW l D dA A b) cc (RX2, nl, rt, rm, tn) Q pc lv (.int x2 :: .ref (lc 7 x1) :: .ref (lc 0 0) :: rest) lc s ck cn :=
  v_callV (kd := 0) (i := 0) (nA := 2) (As := [.ref (lc 7 x1), .int x2]) lvW_0 oW_0 rfl (mW_counts_7 l D dA A b lc s x1 x2 hx1 (Q := (fun v lc' s' => ∃ r, zB r ∧ K r ∧ v = some (.int r) ∧ lc' = lc ∧ s' = s)) (h.mono (fun r hr => fun hz => ⟨r, hz, hr, rfl, rfl, rfl⟩))) (lw_V q461 q463 qs2 q128 q464) (by decide +kernel) rfl hR hW hf d rfl (fun v lc' s' q => by obtain ⟨r, hz, hr, e1, e2, e3⟩ := q; rw [e1, e2, e3]; exact kk r hz hr)
def fW_weighsByTime_L2 (x1 : Nat) (a1 : Int32 × tt_St) : Option ((Int32 × tt_St) ⊕ (Int32 × tt_St)) :=
  if (12 : Int32) ≤ a1.1 then some (.inr (a1.1, a1.2)) else (fW_counts a1.2 x1 a1.1).bind fun r4 => nm (if r4 = 0 then (0 : Int64) else (1 : Int64)) fun t5 => if inB a1.1 12 then nm (wrL a1.2 26 0 a1.1.toNatClampNeg t5) fun s9 => some (.inl ((a1.1 + 1 : Int32), s9)) else none
def fW_weighsByTime (s : tt_St) (x1 : Nat) : Option (tt_St) :=
  (itr (fW_weighsByTime_L2 x1) tt_fuel ((0 : Int32), s)).bind fun b2 => some b2.2
abbrev rmW_weighsByTime_7 : Room := { frames := 2, cells := 0, slots := 0, locals := 44 }
set_option maxHeartbeats 4000000 in
theorem mW_weighsByTime_7 (l : Launch) (D : va_G) (dA : Nat → ClassId) (A : Nat → Prop) (b : Bool) (lc : Nat → Nat → Nat) (s : tt_St) (x1 : Nat) (hx1 : lvH b x1) {Q : Option Value → (Nat → Nat → Nat) → tt_St → Prop} (h : Ok (fW_weighsByTime s x1) (fun r => Q none lc r)) : tt_Sp (XW l D dA A b) yX2_weighsByTime cX2_weighsByTime 3 none rmW_weighsByTime_7 [.ref (lc 0 0), .ref (lc 7 x1)] lc s Q := by
  refine tt_Sp.ofV plX2 kokW (Nat.le_of_ble_eq_true rfl) ?_
  show tt_V (XW l D dA A b) cX2_weighsByTime (RX2, 3, none, rmW_weighsByTime_7, tt_nt) (tt_fn (XW l D dA A b) (RX2, 3, none, rmW_weighsByTime_7, tt_nt) Q) 0 [(0, .ref (lc 0 0)), (1, .ref (lc 7 x1))] [] lc s 0 0
  unfold fW_weighsByTime at h
  refine v_iconst dX2_weighsByTime_0 ic_0 ?_
  refine v_istore_n [(2, .int (0 : Int32)), (0, .ref (lc 0 0)), (1, .ref (lc 7 x1))] dX2_weighsByTime_1 (Nat.le_of_ble_eq_true rfl) rfl ?_
  refine v_sub [1, 2, 0] rfl ?_
  refine itr_loop (P := fun a1 : Int32 × tt_St => tt_V (XW l D dA A b) cX2_weighsByTime (RX2, 3, none, rmW_weighsByTime_7, tt_nt) (tt_fn (XW l D dA A b) (RX2, 3, none, rmW_weighsByTime_7, tt_nt) Q) 2 [(0, .ref (lc 0 0)), (1, .ref (lc 7 x1)), (2, .int a1.1)] [] lc a1.2 0 0) (PE := fun b2 : Int32 × tt_St => tt_V (XW l D dA A b) cX2_weighsByTime (RX2, 3, none, rmW_weighsByTime_7, tt_nt) (tt_fn (XW l D dA A b) (RX2, 3, none, rmW_weighsByTime_7, tt_nt) Q) 34 [(0, .ref (lc 0 0)), (1, .ref (lc 7 x1)), (2, .int b2.1)] [] lc b2.2 0 0) h (fun b2 h => ?_) (fun a1 h => ?_)
  · have h := Ok.ret h
    exact v_vret rfl (Nat.zero_le _) (Nat.zero_le _) dX2_weighsByTime_34 h
  · have h : Ok (fW_weighsByTime_L2 x1 a1) _ := h
    unfold fW_weighsByTime_L2 at h
    refine v_iload_n 2 dX2_weighsByTime_2 rfl ?_
    refine v_bipush dX2_weighsByTime_3 kb_12 ?_
    refine v_icmp_ge (tgt := 34) dX2_weighsByTime_5 rfl (fun c3 => ?_) (fun c3 => ?_)
    · have h := Ok.pos h c3
      have h := Ok.ret h
      exact h
    · have h := Ok.neg h c3
      refine v_aload_n 0 dX2_weighsByTime_8 rfl ?_
      refine gW_X2_39_0 dX2_weighsByTime_9 ?_
      refine v_iload_n 2 dX2_weighsByTime_12 rfl ?_
      refine v_aload_n 0 dX2_weighsByTime_13 rfl ?_
      refine v_aload_n 1 dX2_weighsByTime_14 rfl ?_
      refine v_iload_n 2 dX2_weighsByTime_15 rfl ?_
      refine cW_X2_237_0_7 hx1 (Ok.bind h) ⟨Nat.le_of_ble_eq_true rfl, Nat.le_of_ble_eq_true rfl⟩ (Nat.le_of_ble_eq_true rfl) dX2_weighsByTime_16 (fun r4 z_r4 h => ?_)
      have J6 : ∀ t5, t5 = (if r4 = 0 then (0 : Int64) else (1 : Int64)) → tt_V (XW l D dA A b) cX2_weighsByTime (RX2, 3, none, rmW_weighsByTime_7, tt_nt) (tt_fn (XW l D dA A b) (RX2, 3, none, rmW_weighsByTime_7, tt_nt) Q) 27 [(0, .ref (lc 0 0)), (1, .ref (lc 7 x1)), (2, .int a1.1)] [.long t5, .int a1.1, .ref (lc 26 0)] lc a1.2 0 0 := fun t5 e_t5 => by
        have h := Ok.nm h e_t5
        obtain ⟨g8, h⟩ := Ok.guard h
        refine sW_26 g8 dX2_weighsByTime_27 ?_
        refine v_nmS (fun s9 e_s9 => ?_)
        have h := Ok.nm h e_s9
        refine v_iinc (v := (a1.1 + 1 : Int32)) 2 [(2, .int (a1.1 + 1 : Int32)), (0, .ref (lc 0 0)), (1, .ref (lc 7 x1))] dX2_weighsByTime_28 rfl (by rw [ic_1]) (Nat.le_of_ble_eq_true rfl) rfl ?_
        refine v_goto (tgt := 2) dX2_weighsByTime_31 rfl ?_
        refine v_sub [1, 2, 0] rfl ?_
        have h := Ok.ret h
        exact h
      refine v_if_eq (tgt := 26) dX2_weighsByTime_19 rfl (fun c7 => ?_) (fun c7 => ?_)
      · refine v_lconst dX2_weighsByTime_26 kl_0 ?_
        exact J6 _ (by rw [if_pos c7])
      · refine v_lconst dX2_weighsByTime_22 kl_1 ?_
        refine v_goto (tgt := 27) dX2_weighsByTime_23 rfl ?_
        exact J6 _ (by rw [if_neg c7])
def fW_hasTower (s : tt_St) (x1 : Nat) (x2 : Int32) : Option (Int32) :=
  (fW_counts s x1 x2).bind fun r1 => if r1 = 0 then some (0 : Int32) else (fW_isGap s x2).bind fun r3 => if r3 = 0 then some (1 : Int32) else some (0 : Int32)
abbrev rmW_hasTower_7 : Room := { frames := 2, cells := 0, slots := 0, locals := 44 }
set_option maxHeartbeats 4000000 in
theorem mW_hasTower_7 (l : Launch) (D : va_G) (dA : Nat → ClassId) (A : Nat → Prop) (b : Bool) (lc : Nat → Nat → Nat) (s : tt_St) (x1 : Nat) (x2 : Int32) (hx1 : lvH b x1) {Q : Option Value → (Nat → Nat → Nat) → tt_St → Prop} (h : Ok (fW_hasTower s x1 x2) (fun r => zB r → Q (some (.int r)) lc s)) : tt_Sp (XW l D dA A b) yX2_hasTower cX2_hasTower 3 (some .boolean) rmW_hasTower_7 [.ref (lc 0 0), .ref (lc 7 x1), .int x2] lc s Q := by
  refine tt_Sp.ofV plX2 kokW (Nat.le_of_ble_eq_true rfl) ?_
  show tt_V (XW l D dA A b) cX2_hasTower (RX2, 3, (some .boolean), rmW_hasTower_7, tt_nt) (tt_fn (XW l D dA A b) (RX2, 3, (some .boolean), rmW_hasTower_7, tt_nt) Q) 0 [(0, .ref (lc 0 0)), (1, .ref (lc 7 x1)), (2, .int x2)] [] lc s 0 0
  unfold fW_hasTower at h
  refine v_aload_n 0 dX2_hasTower_0 rfl ?_
  refine v_aload_n 1 dX2_hasTower_1 rfl ?_
  refine v_iload_n 2 dX2_hasTower_2 rfl ?_
  refine cW_X2_237_0_7 hx1 (Ok.bind h) ⟨Nat.le_of_ble_eq_true rfl, Nat.le_of_ble_eq_true rfl⟩ (Nat.le_of_ble_eq_true rfl) dX2_hasTower_3 (fun r1 z_r1 h => ?_)
  refine v_if_eq (tgt := 21) dX2_hasTower_6 rfl (fun c2 => ?_) (fun c2 => ?_)
  · have h := Ok.pos h c2
    refine v_iconst dX2_hasTower_21 ic_0 ?_
    have h := Ok.ret h
    exact v_zret rfl zB_0 (Nat.zero_le _) (Nat.zero_le _) dX2_hasTower_22 (h zB_0)
  · have h := Ok.neg h c2
    refine v_aload_n 0 dX2_hasTower_9 rfl ?_
    refine v_iload_n 2 dX2_hasTower_10 rfl ?_
    refine cW_X2_184_0 (Ok.bind h) ⟨Nat.le_of_ble_eq_true rfl, Nat.le_of_ble_eq_true rfl⟩ (Nat.le_of_ble_eq_true rfl) dX2_hasTower_11 (fun r3 z_r3 h => ?_)
    refine v_if_ne (tgt := 21) dX2_hasTower_14 rfl (fun c4 => ?_) (fun c4 => ?_)
    · have h := Ok.neg h c4
      refine v_iconst dX2_hasTower_21 ic_0 ?_
      have h := Ok.ret h
      exact v_zret rfl zB_0 (Nat.zero_le _) (Nat.zero_le _) dX2_hasTower_22 (h zB_0)
    · have h := Ok.pos h c4
      refine v_iconst dX2_hasTower_17 ic_1 ?_
      refine v_goto (tgt := 22) dX2_hasTower_18 rfl ?_
      have h := Ok.ret h
      exact v_zret rfl zB_1 (Nat.zero_le _) (Nat.zero_le _) dX2_hasTower_22 (h zB_1)
theorem cW_X2_241_0_7 {l : Launch} {D : va_G} {dA : Nat → ClassId} {A : Nat → Prop} {b : Bool} {lc : Nat → Nat → Nat} {s : tt_St} {cc : ByteArray} {nl : Nat} {rt : Option FieldType} {rm : Room} {tn : tt_Tn} {Q : tt_Fin} {pc : Nat} {lv : List (Nat × Value)} {rest : List Value} {ck cn : Nat} {x1 : Nat} {x2 : Int32} (hx1 : lvH b x1) {K : Int32 → Prop} (h : Ok (fW_hasTower s x1 x2) K) (hR : 2 + 1 ≤ rm.frames ∧ 8 + (3 + 11) + 44 ≤ rm.locals) (hW : (rest.map fun v => v.category).sum ≤ 8) (d : decode cc pc = .ok (.invokevirtual 241, 3)) (kk : ∀ r, zB r → K r → tt_V (XW l D dA A b) cc (RX2, nl, rt, rm, tn) Q (pc + 3) lv (.int r :: rest) lc s ck cn) (hf : ck ≤ rm.cells ∧ cn ≤ rm.slots := by exact ⟨Nat.zero_le _, Nat.zero_le _⟩) : tt_V (XW l D dA A b) cc (RX2, nl, rt, rm, tn) Q pc lv (.int x2 :: .ref (lc 7 x1) :: .ref (lc 0 0) :: rest) lc s ck cn :=
  v_callV (kd := 0) (i := 0) (nA := 2) (As := [.ref (lc 7 x1), .int x2]) lvW_0 oW_0 rfl (mW_hasTower_7 l D dA A b lc s x1 x2 hx1 (Q := (fun v lc' s' => ∃ r, zB r ∧ K r ∧ v = some (.int r) ∧ lc' = lc ∧ s' = s)) (h.mono (fun r hr => fun hz => ⟨r, hz, hr, rfl, rfl, rfl⟩))) (lw_V q534 q536 qs8 q128 q537) (by decide +kernel) rfl hR hW hf d rfl (fun v lc' s' q => by obtain ⟨r, hz, hr, e1, e2, e3⟩ := q; rw [e1, e2, e3]; exact kk r hz hr)
theorem gW_X2_187_2 {l : Launch} {D : va_G} {dA : Nat → ClassId} {A : Nat → Prop} {b : Bool} {lc : Nat → Nat → Nat} {s : tt_St} {cc : ByteArray} {nl : Nat} {rt : Option FieldType} {rm : Room} {tn : tt_Tn} {Q : tt_Fin} {pc : Nat} {lv : List (Nat × Value)} {rest : List Value} {ck cn : Nat} {i : Nat} (hv : i < 40) (d : decode cc pc = .ok (.getfield 187, 3)) (kk : tt_V (XW l D dA A b) cc (RX2, nl, rt, rm, tn) Q (pc + 3) lv (.int (rdI s 2 i 6) :: rest) lc s ck cn) : tt_V (XW l D dA A b) cc (RX2, nl, rt, rm, tn) Q pc lv (.ref (lc 2 i) :: rest) lc s ck cn := v_getN (p := 6) knW (lvW_2 hv) oW_2 rfl in_X6 (by decide) q357 (.inl rfl) rfl d kk
def fW_sizesOf_L5 (s : tt_St) (x1 : Int32) (a1 : Int64 × Int32) : Option ((Int64 × Int32) ⊕ (Int64 × Int32)) :=
  if inB x1 12 then if (rdI s 23 0 x1.toNatClampNeg) ≤ a1.2 then some (.inr (a1.1, a1.2)) else (fW_layerAt s x1 a1.2).bind fun r5 => nm (a1.1 + ((rdI s 2 r5 6).toInt64)) fun v6 => some (.inl (v6, (a1.2 + 1 : Int32))) else none
def fW_sizesOf (s : tt_St) (x1 : Int32) : Option (Int64) :=
  (itr (fW_sizesOf_L5 s x1) tt_fuel ((0 : Int64), (0 : Int32))).bind fun b2 => some b2.1
abbrev rmW_sizesOf : Room := { frames := 1, cells := 0, slots := 0, locals := 22 }
set_option maxHeartbeats 4000000 in
theorem mW_sizesOf (l : Launch) (D : va_G) (dA : Nat → ClassId) (A : Nat → Prop) (b : Bool) (lc : Nat → Nat → Nat) (s : tt_St) (x1 : Int32) {Q : Option Value → (Nat → Nat → Nat) → tt_St → Prop} (h : Ok (fW_sizesOf s x1) (fun r => Q (some (.long r)) lc s)) : tt_Sp (XW l D dA A b) yX2_sizesOf cX2_sizesOf 5 (some .long) rmW_sizesOf [.ref (lc 0 0), .int x1] lc s Q := by
  refine tt_Sp.ofV plX2 kokW (Nat.le_of_ble_eq_true rfl) ?_
  show tt_V (XW l D dA A b) cX2_sizesOf (RX2, 5, (some .long), rmW_sizesOf, tt_nt) (tt_fn (XW l D dA A b) (RX2, 5, (some .long), rmW_sizesOf, tt_nt) Q) 0 [(0, .ref (lc 0 0)), (1, .int x1)] [] lc s 0 0
  unfold fW_sizesOf at h
  refine v_lconst dX2_sizesOf_0 kl_0 ?_
  refine v_lstore_n [(2, .long (0 : Int64)), (0, .ref (lc 0 0)), (1, .int x1)] dX2_sizesOf_1 (Nat.le_of_ble_eq_true rfl) rfl ?_
  refine v_iconst dX2_sizesOf_2 ic_0 ?_
  refine v_istore [(4, .int (0 : Int32)), (2, .long (0 : Int64)), (0, .ref (lc 0 0)), (1, .int x1)] dX2_sizesOf_3 (Nat.le_of_ble_eq_true rfl) rfl ?_
  refine v_sub [2, 3, 1, 0] rfl ?_
  refine itr_loop (P := fun a1 : Int64 × Int32 => tt_V (XW l D dA A b) cX2_sizesOf (RX2, 5, (some .long), rmW_sizesOf, tt_nt) (tt_fn (XW l D dA A b) (RX2, 5, (some .long), rmW_sizesOf, tt_nt) Q) 5 [(0, .ref (lc 0 0)), (1, .int x1), (2, .long a1.1), (4, .int a1.2)] [] lc s 0 0) (PE := fun b2 : Int64 × Int32 => tt_V (XW l D dA A b) cX2_sizesOf (RX2, 5, (some .long), rmW_sizesOf, tt_nt) (tt_fn (XW l D dA A b) (RX2, 5, (some .long), rmW_sizesOf, tt_nt) Q) 36 [(0, .ref (lc 0 0)), (1, .int x1), (2, .long b2.1), (4, .int b2.2)] [] lc s 0 0) h (fun b2 h => ?_) (fun a1 h => ?_)
  · refine v_lload_n 2 dX2_sizesOf_36 rfl ?_
    have h := Ok.ret h
    exact v_lret rfl (Nat.zero_le _) (Nat.zero_le _) dX2_sizesOf_37 h
  · have h : Ok (fW_sizesOf_L5 s x1 a1) _ := h
    unfold fW_sizesOf_L5 at h
    refine v_iload 3 dX2_sizesOf_5 rfl ?_
    refine v_aload_n 0 dX2_sizesOf_7 rfl ?_
    refine gW_X2_28_0 dX2_sizesOf_8 ?_
    refine v_iload_n 1 dX2_sizesOf_11 rfl ?_
    obtain ⟨g3, h⟩ := Ok.guard h
    refine lW_23 g3 dX2_sizesOf_12 ?_
    refine v_icmp_ge (tgt := 36) dX2_sizesOf_13 rfl (fun c4 => ?_) (fun c4 => ?_)
    · have h := Ok.pos h c4
      have h := Ok.ret h
      exact h
    · have h := Ok.neg h c4
      refine v_lload_n 2 dX2_sizesOf_16 rfl ?_
      refine v_aload_n 0 dX2_sizesOf_17 rfl ?_
      refine v_iload_n 1 dX2_sizesOf_18 rfl ?_
      refine v_iload 3 dX2_sizesOf_19 rfl ?_
      refine cW_X2_140_0 (Ok.bind h) ⟨Nat.le_of_ble_eq_true rfl, Nat.le_of_ble_eq_true rfl⟩ (Nat.le_of_ble_eq_true rfl) dX2_sizesOf_21 (fun r5 z_r5 h => ?_)
      refine gW_X2_187_2 z_r5 dX2_sizesOf_24 ?_
      refine v_i2l dX2_sizesOf_27 rfl ?_
      refine v_ladd dX2_sizesOf_28 ?_
      refine v_nmL (fun v6 e_v6 => ?_)
      have h := Ok.nm h e_v6
      refine v_lstore_n [(2, .long v6), (0, .ref (lc 0 0)), (1, .int x1), (4, .int a1.2)] dX2_sizesOf_29 (Nat.le_of_ble_eq_true rfl) rfl ?_
      refine v_iinc (v := (a1.2 + 1 : Int32)) 3 [(4, .int (a1.2 + 1 : Int32)), (2, .long v6), (0, .ref (lc 0 0)), (1, .int x1)] dX2_sizesOf_30 rfl (by rw [ic_1]) (Nat.le_of_ble_eq_true rfl) rfl ?_
      refine v_goto (tgt := 5) dX2_sizesOf_33 rfl ?_
      refine v_sub [2, 3, 1, 0] rfl ?_
      have h := Ok.ret h
      exact h
theorem cW_X2_244_0 {l : Launch} {D : va_G} {dA : Nat → ClassId} {A : Nat → Prop} {b : Bool} {lc : Nat → Nat → Nat} {s : tt_St} {cc : ByteArray} {nl : Nat} {rt : Option FieldType} {rm : Room} {tn : tt_Tn} {Q : tt_Fin} {pc : Nat} {lv : List (Nat × Value)} {rest : List Value} {ck cn : Nat} {x1 : Int32} {K : Int64 → Prop} (h : Ok (fW_sizesOf s x1) K) (hR : 1 + 1 ≤ rm.frames ∧ 8 + (5 + 11) + 22 ≤ rm.locals) (hW : (rest.map fun v => v.category).sum ≤ 8) (d : decode cc pc = .ok (.invokevirtual 244, 3)) (kk : ∀ r, K r → tt_V (XW l D dA A b) cc (RX2, nl, rt, rm, tn) Q (pc + 3) lv (.long r :: rest) lc s ck cn) (hf : ck ≤ rm.cells ∧ cn ≤ rm.slots := by exact ⟨Nat.zero_le _, Nat.zero_le _⟩) : tt_V (XW l D dA A b) cc (RX2, nl, rt, rm, tn) Q pc lv (.int x1 :: .ref (lc 0 0) :: rest) lc s ck cn :=
  v_callV (kd := 0) (i := 0) (nA := 1) (As := [.int x1]) lvW_0 oW_0 rfl (mW_sizesOf l D dA A b lc s x1 (Q := (fun v lc' s' => ∃ r, K r ∧ v = some (.long r) ∧ lc' = lc ∧ s' = s)) (h.mono (fun r hr => ⟨r, hr, rfl, rfl, rfl⟩))) (lw_V q538 q540 qs9 q128 q541) (by decide +kernel) rfl hR hW hf d rfl (fun v lc' s' q => by obtain ⟨r, hr, e1, e2, e3⟩ := q; rw [e1, e2, e3]; exact kk r hr)
def fW_weighsBySizes_L69 (x1 : Nat) (t9 : Int64) (a12 : Int32 × tt_St) : Option ((Int32 × tt_St) ⊕ (Int32 × tt_St)) :=
  if (12 : Int32) ≤ a12.1 then some (.inr (a12.1, a12.2)) else (fW_counts a12.2 x1 a12.1).bind fun r15 => (if r15 = 0 then some (0 : Int64) else (fW_isGap a12.2 a12.1).bind fun r18 => if r18 = 0 then (fW_sizesOf a12.2 a12.1).bind fun r20 => some r20 else some t9 : Option (Int64)).bind fun t16 => if inB a12.1 12 then nm (wrL a12.2 26 0 a12.1.toNatClampNeg t16) fun s22 => some (.inl ((a12.1 + 1 : Int32), s22)) else none
def fW_weighsBySizes_L8 (s : tt_St) (x1 : Nat) (a1 : Int64 × Int64 × Int32) : Option ((Int64 × Int64 × Int32) ⊕ (Int64 × Int64 × Int32)) :=
  if (12 : Int32) ≤ a1.2.2 then some (.inr (a1.1, a1.2.1, a1.2.2)) else (fW_hasTower s x1 a1.2.2).bind fun r4 => if r4 = 0 then some (.inl (a1.1, a1.2.1, (a1.2.2 + 1 : Int32))) else (fW_sizesOf s a1.2.2).bind fun r6 => nm (a1.1 + r6) fun v7 => nm (a1.2.1 + (1 : Int64)) fun v8 => some (.inl (v7, v8, (a1.2.2 + 1 : Int32)))
def fW_weighsBySizes (s : tt_St) (x1 : Nat) : Option (tt_St) :=
  (itr (fW_weighsBySizes_L8 s x1) tt_fuel ((0 : Int64), (0 : Int64), (0 : Int32))).bind fun b2 => (if b2.2.1 = (0 : Int64) then some (1 : Int64) else if ¬ b2.2.1 = 0 then some (b2.1 / b2.2.1) else none : Option (Int64)).bind fun t9 => (itr (fW_weighsBySizes_L69 x1 t9) tt_fuel ((0 : Int32), s)).bind fun b13 => some b13.2
abbrev rmW_weighsBySizes_7 : Room := { frames := 3, cells := 0, slots := 0, locals := 66 }
set_option maxHeartbeats 4000000 in
theorem mW_weighsBySizes_7 (l : Launch) (D : va_G) (dA : Nat → ClassId) (A : Nat → Prop) (b : Bool) (lc : Nat → Nat → Nat) (s : tt_St) (x1 : Nat) (hx1 : lvH b x1) {Q : Option Value → (Nat → Nat → Nat) → tt_St → Prop} (h : Ok (fW_weighsBySizes s x1) (fun r => Q none lc r)) : tt_Sp (XW l D dA A b) yX2_weighsBySizes cX2_weighsBySizes 9 none rmW_weighsBySizes_7 [.ref (lc 0 0), .ref (lc 7 x1)] lc s Q := by
  refine tt_Sp.ofV plX2 kokW (Nat.le_of_ble_eq_true rfl) ?_
  show tt_V (XW l D dA A b) cX2_weighsBySizes (RX2, 9, none, rmW_weighsBySizes_7, tt_nt) (tt_fn (XW l D dA A b) (RX2, 9, none, rmW_weighsBySizes_7, tt_nt) Q) 0 [(0, .ref (lc 0 0)), (1, .ref (lc 7 x1))] [] lc s 0 0
  unfold fW_weighsBySizes at h
  refine v_lconst dX2_weighsBySizes_0 kl_0 ?_
  refine v_lstore_n [(2, .long (0 : Int64)), (0, .ref (lc 0 0)), (1, .ref (lc 7 x1))] dX2_weighsBySizes_1 (Nat.le_of_ble_eq_true rfl) rfl ?_
  refine v_lconst dX2_weighsBySizes_2 kl_0 ?_
  refine v_lstore [(4, .long (0 : Int64)), (2, .long (0 : Int64)), (0, .ref (lc 0 0)), (1, .ref (lc 7 x1))] dX2_weighsBySizes_3 (Nat.le_of_ble_eq_true rfl) rfl ?_
  refine v_iconst dX2_weighsBySizes_5 ic_0 ?_
  refine v_istore [(6, .int (0 : Int32)), (4, .long (0 : Int64)), (2, .long (0 : Int64)), (0, .ref (lc 0 0)), (1, .ref (lc 7 x1))] dX2_weighsBySizes_6 (Nat.le_of_ble_eq_true rfl) rfl ?_
  refine v_sub [3, 4, 2, 1, 0] rfl ?_
  refine itr_loop (P := fun a1 : Int64 × Int64 × Int32 => tt_V (XW l D dA A b) cX2_weighsBySizes (RX2, 9, none, rmW_weighsBySizes_7, tt_nt) (tt_fn (XW l D dA A b) (RX2, 9, none, rmW_weighsBySizes_7, tt_nt) Q) 8 [(0, .ref (lc 0 0)), (1, .ref (lc 7 x1)), (2, .long a1.1), (4, .long a1.2.1), (6, .int a1.2.2)] [] lc s 0 0) (PE := fun b2 : Int64 × Int64 × Int32 => tt_V (XW l D dA A b) cX2_weighsBySizes (RX2, 9, none, rmW_weighsBySizes_7, tt_nt) (tt_fn (XW l D dA A b) (RX2, 9, none, rmW_weighsBySizes_7, tt_nt) Q) 49 [(0, .ref (lc 0 0)), (1, .ref (lc 7 x1)), (2, .long b2.1), (4, .long b2.2.1), (6, .int b2.2.2)] [] lc s 0 0) h (fun b2 h => ?_) (fun a1 h => ?_)
  · refine v_lload 3 dX2_weighsBySizes_49 rfl ?_
    refine v_lconst dX2_weighsBySizes_51 kl_0 ?_
    have h := Ok.join (PJ := fun t9 : Int64 => tt_V (XW l D dA A b) cX2_weighsBySizes (RX2, 9, none, rmW_weighsBySizes_7, tt_nt) (tt_fn (XW l D dA A b) (RX2, 9, none, rmW_weighsBySizes_7, tt_nt) Q) 64 [(0, .ref (lc 0 0)), (1, .ref (lc 7 x1))] [.long t9] lc s 0 0) h (fun t9 h => by
      refine v_lstore [(6, .long t9), (0, .ref (lc 0 0)), (1, .ref (lc 7 x1))] dX2_weighsBySizes_64 (Nat.le_of_ble_eq_true rfl) rfl ?_
      refine v_iconst dX2_weighsBySizes_66 ic_0 ?_
      refine v_istore [(8, .int (0 : Int32)), (6, .long t9), (0, .ref (lc 0 0)), (1, .ref (lc 7 x1))] dX2_weighsBySizes_67 (Nat.le_of_ble_eq_true rfl) rfl ?_
      refine v_sub [2, 3, 1, 0] rfl ?_
      refine itr_loop (P := fun a12 : Int32 × tt_St => tt_V (XW l D dA A b) cX2_weighsBySizes (RX2, 9, none, rmW_weighsBySizes_7, tt_nt) (tt_fn (XW l D dA A b) (RX2, 9, none, rmW_weighsBySizes_7, tt_nt) Q) 69 [(0, .ref (lc 0 0)), (1, .ref (lc 7 x1)), (6, .long t9), (8, .int a12.1)] [] lc a12.2 0 0) (PE := fun b13 : Int32 × tt_St => tt_V (XW l D dA A b) cX2_weighsBySizes (RX2, 9, none, rmW_weighsBySizes_7, tt_nt) (tt_fn (XW l D dA A b) (RX2, 9, none, rmW_weighsBySizes_7, tt_nt) Q) 123 [(0, .ref (lc 0 0)), (1, .ref (lc 7 x1)), (6, .long t9), (8, .int b13.1)] [] lc b13.2 0 0) h (fun b13 h => ?_) (fun a12 h => ?_)
      · have h := Ok.ret h
        exact v_vret rfl (Nat.zero_le _) (Nat.zero_le _) dX2_weighsBySizes_123 h
      · have h : Ok (fW_weighsBySizes_L69 x1 t9 a12) _ := h
        unfold fW_weighsBySizes_L69 at h
        refine v_iload 3 dX2_weighsBySizes_69 rfl ?_
        refine v_bipush dX2_weighsBySizes_71 kb_12 ?_
        refine v_icmp_ge (tgt := 123) dX2_weighsBySizes_73 rfl (fun c14 => ?_) (fun c14 => ?_)
        · have h := Ok.pos h c14
          have h := Ok.ret h
          exact h
        · have h := Ok.neg h c14
          refine v_aload_n 0 dX2_weighsBySizes_76 rfl ?_
          refine gW_X2_39_0 dX2_weighsBySizes_77 ?_
          refine v_iload 3 dX2_weighsBySizes_80 rfl ?_
          refine v_aload_n 0 dX2_weighsBySizes_82 rfl ?_
          refine v_aload_n 1 dX2_weighsBySizes_83 rfl ?_
          refine v_iload 3 dX2_weighsBySizes_84 rfl ?_
          refine cW_X2_237_0_7 hx1 (Ok.bind h) ⟨Nat.le_of_ble_eq_true rfl, Nat.le_of_ble_eq_true rfl⟩ (Nat.le_of_ble_eq_true rfl) dX2_weighsBySizes_86 (fun r15 z_r15 h => ?_)
          have h := Ok.join (PJ := fun t16 : Int64 => tt_V (XW l D dA A b) cX2_weighsBySizes (RX2, 9, none, rmW_weighsBySizes_7, tt_nt) (tt_fn (XW l D dA A b) (RX2, 9, none, rmW_weighsBySizes_7, tt_nt) Q) 116 [(0, .ref (lc 0 0)), (1, .ref (lc 7 x1)), (6, .long t9), (8, .int a12.1)] [.long t16, .int a12.1, .ref (lc 26 0)] lc a12.2 0 0) h (fun t16 h => by
            obtain ⟨g21, h⟩ := Ok.guard h
            refine sW_26 g21 dX2_weighsBySizes_116 ?_
            refine v_nmS (fun s22 e_s22 => ?_)
            have h := Ok.nm h e_s22
            refine v_iinc (v := (a12.1 + 1 : Int32)) 3 [(8, .int (a12.1 + 1 : Int32)), (0, .ref (lc 0 0)), (1, .ref (lc 7 x1)), (6, .long t9)] dX2_weighsBySizes_117 rfl (by rw [ic_1]) (Nat.le_of_ble_eq_true rfl) rfl ?_
            refine v_goto (tgt := 69) dX2_weighsBySizes_120 rfl ?_
            refine v_sub [1, 2, 3, 0] rfl ?_
            have h := Ok.ret h
            exact h)
          refine v_if_ne (tgt := 96) dX2_weighsBySizes_89 rfl (fun c17 => ?_) (fun c17 => ?_)
          · have h := Ok.neg h c17
            refine v_aload_n 0 dX2_weighsBySizes_96 rfl ?_
            refine v_iload 3 dX2_weighsBySizes_97 rfl ?_
            refine cW_X2_184_0 (Ok.bind h) ⟨Nat.le_of_ble_eq_true rfl, Nat.le_of_ble_eq_true rfl⟩ (Nat.le_of_ble_eq_true rfl) dX2_weighsBySizes_99 (fun r18 z_r18 h => ?_)
            refine v_if_eq (tgt := 110) dX2_weighsBySizes_102 rfl (fun c19 => ?_) (fun c19 => ?_)
            · have h := Ok.pos h c19
              refine v_aload_n 0 dX2_weighsBySizes_110 rfl ?_
              refine v_iload 3 dX2_weighsBySizes_111 rfl ?_
              refine cW_X2_244_0 (Ok.bind h) ⟨Nat.le_of_ble_eq_true rfl, Nat.le_of_ble_eq_true rfl⟩ (Nat.le_of_ble_eq_true rfl) dX2_weighsBySizes_113 (fun r20 h => ?_)
              have h := Ok.ret h
              exact h
            · have h := Ok.neg h c19
              refine v_lload 2 dX2_weighsBySizes_105 rfl ?_
              refine v_goto (tgt := 116) dX2_weighsBySizes_107 rfl ?_
              have h := Ok.ret h
              exact h
          · have h := Ok.pos h c17
            refine v_lconst dX2_weighsBySizes_92 kl_0 ?_
            refine v_goto (tgt := 116) dX2_weighsBySizes_93 rfl ?_
            have h := Ok.ret h
            exact h)
    refine v_lif_ne (tgt := 60) dX2_weighsBySizes_52 dX2_weighsBySizes_53 rfl (fun c10 => ?_) (fun c10 => ?_)
    · have h := Ok.neg h c10
      refine v_lload_n 2 dX2_weighsBySizes_60 rfl ?_
      refine v_lload 3 dX2_weighsBySizes_61 rfl ?_
      obtain ⟨g11, h⟩ := Ok.guard h
      refine v_ldiv dX2_weighsBySizes_63 g11 ?_
      refine v_sub [0, 1] rfl ?_
      have h := Ok.ret h
      exact h
    · have h := Ok.pos h c10
      refine v_lconst dX2_weighsBySizes_56 kl_1 ?_
      refine v_goto (tgt := 64) dX2_weighsBySizes_57 rfl ?_
      refine v_sub [0, 1] rfl ?_
      have h := Ok.ret h
      exact h
  · have h : Ok (fW_weighsBySizes_L8 s x1 a1) _ := h
    unfold fW_weighsBySizes_L8 at h
    refine v_iload 4 dX2_weighsBySizes_8 rfl ?_
    refine v_bipush dX2_weighsBySizes_10 kb_12 ?_
    refine v_icmp_ge (tgt := 49) dX2_weighsBySizes_12 rfl (fun c3 => ?_) (fun c3 => ?_)
    · have h := Ok.pos h c3
      have h := Ok.ret h
      exact h
    · have h := Ok.neg h c3
      refine v_aload_n 0 dX2_weighsBySizes_15 rfl ?_
      refine v_aload_n 1 dX2_weighsBySizes_16 rfl ?_
      refine v_iload 4 dX2_weighsBySizes_17 rfl ?_
      refine cW_X2_241_0_7 hx1 (Ok.bind h) ⟨Nat.le_of_ble_eq_true rfl, Nat.le_of_ble_eq_true rfl⟩ (Nat.le_of_ble_eq_true rfl) dX2_weighsBySizes_19 (fun r4 z_r4 h => ?_)
      refine v_if_ne (tgt := 28) dX2_weighsBySizes_22 rfl (fun c5 => ?_) (fun c5 => ?_)
      · have h := Ok.neg h c5
        refine v_lload_n 2 dX2_weighsBySizes_28 rfl ?_
        refine v_aload_n 0 dX2_weighsBySizes_29 rfl ?_
        refine v_iload 4 dX2_weighsBySizes_30 rfl ?_
        refine cW_X2_244_0 (Ok.bind h) ⟨Nat.le_of_ble_eq_true rfl, Nat.le_of_ble_eq_true rfl⟩ (Nat.le_of_ble_eq_true rfl) dX2_weighsBySizes_32 (fun r6 h => ?_)
        refine v_ladd dX2_weighsBySizes_35 ?_
        refine v_nmL (fun v7 e_v7 => ?_)
        have h := Ok.nm h e_v7
        refine v_lstore_n [(2, .long v7), (0, .ref (lc 0 0)), (1, .ref (lc 7 x1)), (4, .long a1.2.1), (6, .int a1.2.2)] dX2_weighsBySizes_36 (Nat.le_of_ble_eq_true rfl) rfl ?_
        refine v_lload 3 dX2_weighsBySizes_37 rfl ?_
        refine v_lconst dX2_weighsBySizes_39 kl_1 ?_
        refine v_ladd dX2_weighsBySizes_40 ?_
        refine v_nmL (fun v8 e_v8 => ?_)
        have h := Ok.nm h e_v8
        refine v_lstore [(4, .long v8), (2, .long v7), (0, .ref (lc 0 0)), (1, .ref (lc 7 x1)), (6, .int a1.2.2)] dX2_weighsBySizes_41 (Nat.le_of_ble_eq_true rfl) rfl ?_
        refine v_iinc (v := (a1.2.2 + 1 : Int32)) 4 [(6, .int (a1.2.2 + 1 : Int32)), (4, .long v8), (2, .long v7), (0, .ref (lc 0 0)), (1, .ref (lc 7 x1))] dX2_weighsBySizes_43 rfl (by rw [ic_1]) (Nat.le_of_ble_eq_true rfl) rfl ?_
        refine v_goto (tgt := 8) dX2_weighsBySizes_46 rfl ?_
        refine v_sub [3, 4, 2, 1, 0] rfl ?_
        have h := Ok.ret h
        exact h
      · have h := Ok.pos h c5
        refine v_goto (tgt := 43) dX2_weighsBySizes_25 rfl ?_
        refine v_iinc (v := (a1.2.2 + 1 : Int32)) 4 [(6, .int (a1.2.2 + 1 : Int32)), (0, .ref (lc 0 0)), (1, .ref (lc 7 x1)), (2, .long a1.1), (4, .long a1.2.1)] dX2_weighsBySizes_43 rfl (by rw [ic_1]) (Nat.le_of_ble_eq_true rfl) rfl ?_
        refine v_goto (tgt := 8) dX2_weighsBySizes_46 rfl ?_
        refine v_sub [1, 2, 3, 4, 0] rfl ?_
        have h := Ok.ret h
        exact h
theorem cW_X2_248_0_7 {l : Launch} {D : va_G} {dA : Nat → ClassId} {A : Nat → Prop} {b : Bool} {lc : Nat → Nat → Nat} {s : tt_St} {cc : ByteArray} {nl : Nat} {rt : Option FieldType} {rm : Room} {tn : tt_Tn} {Q : tt_Fin} {pc : Nat} {lv : List (Nat × Value)} {rest : List Value} {ck cn : Nat} {x1 : Nat} (hx1 : lvH b x1) {K : tt_St → Prop} (h : Ok (fW_weighsByTime s x1) K) (hR : 2 + 1 ≤ rm.frames ∧ 8 + (3 + 11) + 44 ≤ rm.locals) (hW : (rest.map fun v => v.category).sum ≤ 8) (d : decode cc pc = .ok (.invokevirtual 248, 3)) (kk : ∀ r, K r → tt_V (XW l D dA A b) cc (RX2, nl, rt, rm, tn) Q (pc + 3) lv rest lc r ck cn) (hf : ck ≤ rm.cells ∧ cn ≤ rm.slots := by exact ⟨Nat.zero_le _, Nat.zero_le _⟩) : tt_V (XW l D dA A b) cc (RX2, nl, rt, rm, tn) Q pc lv (.ref (lc 7 x1) :: .ref (lc 0 0) :: rest) lc s ck cn :=
  v_callV (kd := 0) (i := 0) (nA := 1) (As := [.ref (lc 7 x1)]) lvW_0 oW_0 rfl (mW_weighsByTime_7 l D dA A b lc s x1 hx1 (Q := (fun v lc' s' => ∃ r, K r ∧ v = none ∧ lc' = lc ∧ s' = r)) (h.mono (fun r hr => ⟨r, hr, rfl, rfl, rfl⟩))) (lw_V q457 q458 q459 q128 q460) (by decide +kernel) rfl hR hW hf d rfl (fun v lc' s' q => by obtain ⟨r, hr, e1, e2, e3⟩ := q; rw [e1, e2, e3]; exact kk r hr)
theorem gW_X2_42_0 {l : Launch} {D : va_G} {dA : Nat → ClassId} {A : Nat → Prop} {b : Bool} {lc : Nat → Nat → Nat} {s : tt_St} {cc : ByteArray} {nl : Nat} {rt : Option FieldType} {rm : Room} {tn : tt_Tn} {Q : tt_Fin} {pc : Nat} {lv : List (Nat × Value)} {rest : List Value} {ck cn : Nat} (d : decode cc pc = .ok (.getfield 42, 3)) (kk : tt_V (XW l D dA A b) cc (RX2, nl, rt, rm, tn) Q (pc + 3) lv (.ref (lc 27 0) :: rest) lc s ck cn) : tt_V (XW l D dA A b) cc (RX2, nl, rt, rm, tn) Q pc lv (.ref (lc 0 0) :: rest) lc s ck cn := v_get (p := 7) lvW_0 oW_0 rfl in_X2 (by decide) q740 (.inl rfl) rfl d kk
def fT_shares_26_27_L109  (a17 : Int64 × Int32 × tt_St) : Option ((Int64 × Int32 × tt_St) ⊕ (Int64 × Int32 × tt_St)) :=
  if (12 : Int32) ≤ a17.2.1 then some (.inr (a17.1, a17.2.1, a17.2.2)) else if a17.1 ≤ (0 : Int64) then some (.inr (a17.1, a17.2.1, a17.2.2)) else if inB a17.2.1 12 then if (rdL a17.2.2 26 0 a17.2.1.toNatClampNeg) = (0 : Int64) then some (.inl (a17.1, (a17.2.1 + 1 : Int32), a17.2.2)) else nm (wrL a17.2.2 27 0 a17.2.1.toNatClampNeg ((rdL a17.2.2 27 0 a17.2.1.toNatClampNeg) + (1 : Int64))) fun s23 => nm (a17.1 - (1 : Int64)) fun v24 => some (.inl (v24, (a17.2.1 + 1 : Int32), s23)) else none
def fT_shares_26_27_L47 (x0 : Int64) (b2 : Int64 × Int32) (a7 : Int64 × Int32 × tt_St) : Option ((Int64 × Int32 × tt_St) ⊕ (Int64 × Int32 × tt_St)) :=
  if (12 : Int32) ≤ a7.2.1 then some (.inr (a7.1, a7.2.1, a7.2.2)) else (if b2.1 = (0 : Int64) then some (0 : Int64) else if ¬ b2.1 = 0 then if inB a7.2.1 12 then some (((x0 / b2.1) * (rdL a7.2.2 26 0 a7.2.1.toNatClampNeg)) + (((x0 - x0 / b2.1 * b2.1) * (rdL a7.2.2 26 0 a7.2.1.toNatClampNeg)) / b2.1)) else none else none : Option (Int64)).bind fun t10 => if inB a7.2.1 12 then nm (wrL a7.2.2 27 0 a7.2.1.toNatClampNeg t10) fun s15 => nm (a7.1 - (rdL s15 27 0 a7.2.1.toNatClampNeg)) fun v16 => some (.inl (v16, (a7.2.1 + 1 : Int32), s15)) else none
def fT_shares_26_27_L17 (s : tt_St) (a1 : Int64 × Int32) : Option ((Int64 × Int32) ⊕ (Int64 × Int32)) :=
  if (12 : Int32) ≤ a1.2 then some (.inr (a1.1, a1.2)) else if inB a1.2 12 then nm (rdL s 26 0 a1.2.toNatClampNeg) fun v5 => nm (a1.1 + v5) fun v6 => some (.inl (v6, (a1.2 + 1 : Int32))) else none
def fT_shares_26_27 (s : tt_St) (x0 : Int64) : Option (tt_St) :=
  (itr (fT_shares_26_27_L17 s) tt_fuel ((0 : Int64), (0 : Int32))).bind fun b2 => (itr (fT_shares_26_27_L47 x0 b2) tt_fuel (x0, (0 : Int32), s)).bind fun b8 => (itr (fT_shares_26_27_L109) tt_fuel (b8.1, (0 : Int32), b8.2.2)).bind fun b18 => some b18.2.2
abbrev rmT_shares_26_27 : Room := { frames := 0, cells := 0, slots := 0, locals := 0 }
set_option maxHeartbeats 4000000 in
theorem mT_shares_26_27 (l : Launch) (D : va_G) (dA : Nat → ClassId) (A : Nat → Prop) (b : Bool) (lc : Nat → Nat → Nat) (s : tt_St) (x0 : Int64) {Q : Option Value → (Nat → Nat → Nat) → tt_St → Prop} (h : Ok (fT_shares_26_27 s x0) (fun r => Q none lc r)) : tt_Sp (XW l D dA A b) yX1_shares cX1_shares 13 none rmT_shares_26_27 [.long x0, .ref (lc 26 0), .ref (lc 27 0)] lc s Q := by
  refine tt_Sp.ofV plX1 kokW (Nat.le_of_ble_eq_true rfl) ?_
  show tt_V (XW l D dA A b) cX1_shares (RX1, 13, none, rmT_shares_26_27, tt_nt) (tt_fn (XW l D dA A b) (RX1, 13, none, rmT_shares_26_27, tt_nt) Q) 0 [(0, .long x0), (2, .ref (lc 26 0)), (3, .ref (lc 27 0))] [] lc s 0 0
  unfold fT_shares_26_27 at h
  refine v_lconst dX1_shares_0 kl_0 ?_
  refine v_lstore [(4, .long (0 : Int64)), (0, .long x0), (2, .ref (lc 26 0)), (3, .ref (lc 27 0))] dX1_shares_1 (Nat.le_of_ble_eq_true rfl) rfl ?_
  refine v_lload_n 1 dX1_shares_3 rfl ?_
  refine v_lstore [(6, .long x0), (4, .long (0 : Int64)), (0, .long x0), (2, .ref (lc 26 0)), (3, .ref (lc 27 0))] dX1_shares_4 (Nat.le_of_ble_eq_true rfl) rfl ?_
  refine v_aload_n 3 dX1_shares_6 rfl ?_
  refine v_astore [(8, .ref (lc 26 0)), (6, .long x0), (4, .long (0 : Int64)), (0, .long x0), (2, .ref (lc 26 0)), (3, .ref (lc 27 0))] dX1_shares_7 (Nat.le_of_ble_eq_true rfl) rfl ?_
  refine v_aload 0 dX1_shares_9 rfl ?_
  refine nW_26 dX1_shares_11 ?_
  refine v_istore [(9, .int (12 : Int32)), (8, .ref (lc 26 0)), (6, .long x0), (4, .long (0 : Int64)), (0, .long x0), (2, .ref (lc 26 0)), (3, .ref (lc 27 0))] dX1_shares_12 (Nat.le_of_ble_eq_true rfl) rfl ?_
  refine v_iconst dX1_shares_14 ic_0 ?_
  refine v_istore [(10, .int (0 : Int32)), (9, .int (12 : Int32)), (8, .ref (lc 26 0)), (6, .long x0), (4, .long (0 : Int64)), (0, .long x0), (2, .ref (lc 26 0)), (3, .ref (lc 27 0))] dX1_shares_15 (Nat.le_of_ble_eq_true rfl) rfl ?_
  refine v_sub [5, 6, 7, 4, 3, 2, 1, 0] rfl ?_
  refine itr_loop (P := fun a1 : Int64 × Int32 => tt_V (XW l D dA A b) cX1_shares (RX1, 13, none, rmT_shares_26_27, tt_nt) (tt_fn (XW l D dA A b) (RX1, 13, none, rmT_shares_26_27, tt_nt) Q) 17 [(0, .long x0), (2, .ref (lc 26 0)), (3, .ref (lc 27 0)), (4, .long a1.1), (6, .long x0), (8, .ref (lc 26 0)), (9, .int (12 : Int32)), (10, .int a1.2)] [] lc s 0 0) (PE := fun b2 : Int64 × Int32 => tt_V (XW l D dA A b) cX1_shares (RX1, 13, none, rmT_shares_26_27, tt_nt) (tt_fn (XW l D dA A b) (RX1, 13, none, rmT_shares_26_27, tt_nt) Q) 44 [(0, .long x0), (2, .ref (lc 26 0)), (3, .ref (lc 27 0)), (4, .long b2.1), (6, .long x0), (8, .ref (lc 26 0)), (9, .int (12 : Int32)), (10, .int b2.2)] [] lc s 0 0) h (fun b2 h => ?_) (fun a1 h => ?_)
  · refine v_iconst dX1_shares_44 ic_0 ?_
    refine v_istore [(8, .int (0 : Int32)), (0, .long x0), (2, .ref (lc 26 0)), (3, .ref (lc 27 0)), (4, .long b2.1), (6, .long x0), (9, .int (12 : Int32)), (10, .int b2.2)] dX1_shares_45 (Nat.le_of_ble_eq_true rfl) rfl ?_
    refine v_sub [1, 2, 3, 4, 5, 0] rfl ?_
    refine itr_loop (P := fun a7 : Int64 × Int32 × tt_St => tt_V (XW l D dA A b) cX1_shares (RX1, 13, none, rmT_shares_26_27, tt_nt) (tt_fn (XW l D dA A b) (RX1, 13, none, rmT_shares_26_27, tt_nt) Q) 47 [(0, .long x0), (2, .ref (lc 26 0)), (3, .ref (lc 27 0)), (4, .long b2.1), (6, .long a7.1), (8, .int a7.2.1)] [] lc a7.2.2 0 0) (PE := fun b8 : Int64 × Int32 × tt_St => tt_V (XW l D dA A b) cX1_shares (RX1, 13, none, rmT_shares_26_27, tt_nt) (tt_fn (XW l D dA A b) (RX1, 13, none, rmT_shares_26_27, tt_nt) Q) 106 [(0, .long x0), (2, .ref (lc 26 0)), (3, .ref (lc 27 0)), (4, .long b2.1), (6, .long b8.1), (8, .int b8.2.1)] [] lc b8.2.2 0 0) h (fun b8 h => ?_) (fun a7 h => ?_)
    · refine v_iconst dX1_shares_106 ic_0 ?_
      refine v_istore [(8, .int (0 : Int32)), (0, .long x0), (2, .ref (lc 26 0)), (3, .ref (lc 27 0)), (4, .long b2.1), (6, .long b8.1)] dX1_shares_107 (Nat.le_of_ble_eq_true rfl) rfl ?_
      refine v_sub [2, 3, 5, 0] rfl ?_
      refine itr_loop (P := fun a17 : Int64 × Int32 × tt_St => tt_V (XW l D dA A b) cX1_shares (RX1, 13, none, rmT_shares_26_27, tt_nt) (tt_fn (XW l D dA A b) (RX1, 13, none, rmT_shares_26_27, tt_nt) Q) 109 [(2, .ref (lc 26 0)), (3, .ref (lc 27 0)), (6, .long a17.1), (8, .int a17.2.1)] [] lc a17.2.2 0 0) (PE := fun b18 : Int64 × Int32 × tt_St => tt_V (XW l D dA A b) cX1_shares (RX1, 13, none, rmT_shares_26_27, tt_nt) (tt_fn (XW l D dA A b) (RX1, 13, none, rmT_shares_26_27, tt_nt) Q) 155 [(2, .ref (lc 26 0)), (3, .ref (lc 27 0)), (6, .long b18.1), (8, .int b18.2.1)] [] lc b18.2.2 0 0) h (fun b18 h => ?_) (fun a17 h => ?_)
      · have h := Ok.ret h
        exact v_vret rfl (Nat.zero_le _) (Nat.zero_le _) dX1_shares_155 h
      · have h : Ok (fT_shares_26_27_L109 a17) _ := h
        unfold fT_shares_26_27_L109 at h
        refine v_iload 3 dX1_shares_109 rfl ?_
        refine v_aload_n 0 dX1_shares_111 rfl ?_
        refine nW_26 dX1_shares_112 ?_
        refine v_icmp_ge (tgt := 155) dX1_shares_113 rfl (fun c19 => ?_) (fun c19 => ?_)
        · have h := Ok.pos h c19
          have h := Ok.ret h
          exact h
        · have h := Ok.neg h c19
          refine v_lload 2 dX1_shares_116 rfl ?_
          refine v_lconst dX1_shares_118 kl_0 ?_
          refine v_lif_le (tgt := 155) dX1_shares_119 dX1_shares_120 rfl (fun c20 => ?_) (fun c20 => ?_)
          · have h := Ok.pos h c20
            have h := Ok.ret h
            exact h
          · have h := Ok.neg h c20
            refine v_aload_n 0 dX1_shares_123 rfl ?_
            refine v_iload 3 dX1_shares_124 rfl ?_
            obtain ⟨g21, h⟩ := Ok.guard h
            refine lW_26 g21 dX1_shares_126 ?_
            refine v_lconst dX1_shares_127 kl_0 ?_
            refine v_lif_ne (tgt := 135) dX1_shares_128 dX1_shares_129 rfl (fun c22 => ?_) (fun c22 => ?_)
            · have h := Ok.neg h c22
              refine v_aload_n 1 dX1_shares_135 rfl ?_
              refine v_iload 3 dX1_shares_136 rfl ?_
              refine v_dup2_11 dX1_shares_138 rfl rfl ?_
              refine lW_27 g21 dX1_shares_139 ?_
              refine v_lconst dX1_shares_140 kl_1 ?_
              refine v_ladd dX1_shares_141 ?_
              refine sW_27 g21 dX1_shares_142 ?_
              refine v_nmS (fun s23 e_s23 => ?_)
              have h := Ok.nm h e_s23
              refine v_lload 2 dX1_shares_143 rfl ?_
              refine v_lconst dX1_shares_145 kl_1 ?_
              refine v_lsub dX1_shares_146 ?_
              refine v_nmL (fun v24 e_v24 => ?_)
              have h := Ok.nm h e_v24
              refine v_lstore [(6, .long v24), (2, .ref (lc 26 0)), (3, .ref (lc 27 0)), (8, .int a17.2.1)] dX1_shares_147 (Nat.le_of_ble_eq_true rfl) rfl ?_
              refine v_iinc (v := (a17.2.1 + 1 : Int32)) 3 [(8, .int (a17.2.1 + 1 : Int32)), (6, .long v24), (2, .ref (lc 26 0)), (3, .ref (lc 27 0))] dX1_shares_149 rfl (by rw [ic_1]) (Nat.le_of_ble_eq_true rfl) rfl ?_
              refine v_goto (tgt := 109) dX1_shares_152 rfl ?_
              refine v_sub [2, 3, 1, 0] rfl ?_
              have h := Ok.ret h
              exact h
            · have h := Ok.pos h c22
              refine v_goto (tgt := 149) dX1_shares_132 rfl ?_
              refine v_iinc (v := (a17.2.1 + 1 : Int32)) 3 [(8, .int (a17.2.1 + 1 : Int32)), (2, .ref (lc 26 0)), (3, .ref (lc 27 0)), (6, .long a17.1)] dX1_shares_149 rfl (by rw [ic_1]) (Nat.le_of_ble_eq_true rfl) rfl ?_
              refine v_goto (tgt := 109) dX1_shares_152 rfl ?_
              refine v_sub [1, 2, 3, 0] rfl ?_
              have h := Ok.ret h
              exact h
    · have h : Ok (fT_shares_26_27_L47 x0 b2 a7) _ := h
      unfold fT_shares_26_27_L47 at h
      refine v_iload 5 dX1_shares_47 rfl ?_
      refine v_aload_n 1 dX1_shares_49 rfl ?_
      refine nW_26 dX1_shares_50 ?_
      refine v_icmp_ge (tgt := 106) dX1_shares_51 rfl (fun c9 => ?_) (fun c9 => ?_)
      · have h := Ok.pos h c9
        have h := Ok.ret h
        exact h
      · have h := Ok.neg h c9
        refine v_aload_n 2 dX1_shares_54 rfl ?_
        refine v_iload 5 dX1_shares_55 rfl ?_
        refine v_lload 3 dX1_shares_57 rfl ?_
        refine v_lconst dX1_shares_59 kl_0 ?_
        have h := Ok.join (PJ := fun t10 : Int64 => tt_V (XW l D dA A b) cX1_shares (RX1, 13, none, rmT_shares_26_27, tt_nt) (tt_fn (XW l D dA A b) (RX1, 13, none, rmT_shares_26_27, tt_nt) Q) 90 [(0, .long x0), (2, .ref (lc 26 0)), (3, .ref (lc 27 0)), (4, .long b2.1), (6, .long a7.1), (8, .int a7.2.1)] [.long t10, .int a7.2.1, .ref (lc 27 0)] lc a7.2.2 0 0) h (fun t10 h => by
          obtain ⟨g14, h⟩ := Ok.guard h
          refine sW_27 g14 dX1_shares_90 ?_
          refine v_nmS (fun s15 e_s15 => ?_)
          have h := Ok.nm h e_s15
          refine v_lload 4 dX1_shares_91 rfl ?_
          refine v_aload_n 2 dX1_shares_93 rfl ?_
          refine v_iload 5 dX1_shares_94 rfl ?_
          refine lW_27 g14 dX1_shares_96 ?_
          refine v_lsub dX1_shares_97 ?_
          refine v_nmL (fun v16 e_v16 => ?_)
          have h := Ok.nm h e_v16
          refine v_lstore [(6, .long v16), (0, .long x0), (2, .ref (lc 26 0)), (3, .ref (lc 27 0)), (4, .long b2.1), (8, .int a7.2.1)] dX1_shares_98 (Nat.le_of_ble_eq_true rfl) rfl ?_
          refine v_iinc (v := (a7.2.1 + 1 : Int32)) 5 [(8, .int (a7.2.1 + 1 : Int32)), (6, .long v16), (0, .long x0), (2, .ref (lc 26 0)), (3, .ref (lc 27 0)), (4, .long b2.1)] dX1_shares_100 rfl (by rw [ic_1]) (Nat.le_of_ble_eq_true rfl) rfl ?_
          refine v_goto (tgt := 47) dX1_shares_103 rfl ?_
          refine v_sub [2, 3, 4, 5, 1, 0] rfl ?_
          have h := Ok.ret h
          exact h)
        refine v_lif_ne (tgt := 68) dX1_shares_60 dX1_shares_61 rfl (fun c11 => ?_) (fun c11 => ?_)
        · have h := Ok.neg h c11
          refine v_lload_n 0 dX1_shares_68 rfl ?_
          refine v_lload 3 dX1_shares_69 rfl ?_
          obtain ⟨g12, h⟩ := Ok.guard h
          refine v_ldiv dX1_shares_71 g12 ?_
          refine v_aload_n 1 dX1_shares_72 rfl ?_
          refine v_iload 5 dX1_shares_73 rfl ?_
          obtain ⟨g13, h⟩ := Ok.guard h
          refine lW_26 g13 dX1_shares_75 ?_
          refine v_lmul dX1_shares_76 ?_
          refine v_lload_n 0 dX1_shares_77 rfl ?_
          refine v_lload 3 dX1_shares_78 rfl ?_
          refine v_lrem dX1_shares_80 g12 ?_
          refine v_aload_n 1 dX1_shares_81 rfl ?_
          refine v_iload 5 dX1_shares_82 rfl ?_
          refine lW_26 g13 dX1_shares_84 ?_
          refine v_lmul dX1_shares_85 ?_
          refine v_lload 3 dX1_shares_86 rfl ?_
          refine v_ldiv dX1_shares_88 g12 ?_
          refine v_ladd dX1_shares_89 ?_
          have h := Ok.ret h
          exact h
        · have h := Ok.pos h c11
          refine v_lconst dX1_shares_64 kl_0 ?_
          refine v_goto (tgt := 90) dX1_shares_65 rfl ?_
          have h := Ok.ret h
          exact h
  · have h : Ok (fT_shares_26_27_L17 s a1) _ := h
    unfold fT_shares_26_27_L17 at h
    refine v_iload 7 dX1_shares_17 rfl ?_
    refine v_iload 6 dX1_shares_19 rfl ?_
    refine v_icmp_ge (tgt := 44) dX1_shares_21 rfl (fun c3 => ?_) (fun c3 => ?_)
    · have h := Ok.pos h c3
      have h := Ok.ret h
      exact h
    · have h := Ok.neg h c3
      refine v_aload 5 dX1_shares_24 rfl ?_
      refine v_iload 7 dX1_shares_26 rfl ?_
      obtain ⟨g4, h⟩ := Ok.guard h
      refine lW_26 g4 dX1_shares_28 ?_
      refine v_nmL (fun v5 e_v5 => ?_)
      have h := Ok.nm h e_v5
      refine v_lstore [(11, .long v5), (0, .long x0), (2, .ref (lc 26 0)), (3, .ref (lc 27 0)), (4, .long a1.1), (6, .long x0), (8, .ref (lc 26 0)), (9, .int (12 : Int32)), (10, .int a1.2)] dX1_shares_29 (Nat.le_of_ble_eq_true rfl) rfl ?_
      refine v_lload 4 dX1_shares_31 rfl ?_
      refine v_lload 0 dX1_shares_33 rfl ?_
      refine v_ladd dX1_shares_35 ?_
      refine v_nmL (fun v6 e_v6 => ?_)
      have h := Ok.nm h e_v6
      refine v_lstore [(4, .long v6), (11, .long v5), (0, .long x0), (2, .ref (lc 26 0)), (3, .ref (lc 27 0)), (6, .long x0), (8, .ref (lc 26 0)), (9, .int (12 : Int32)), (10, .int a1.2)] dX1_shares_36 (Nat.le_of_ble_eq_true rfl) rfl ?_
      refine v_iinc (v := (a1.2 + 1 : Int32)) 8 [(10, .int (a1.2 + 1 : Int32)), (4, .long v6), (11, .long v5), (0, .long x0), (2, .ref (lc 26 0)), (3, .ref (lc 27 0)), (6, .long x0), (8, .ref (lc 26 0)), (9, .int (12 : Int32))] dX1_shares_38 rfl (by rw [ic_1]) (Nat.le_of_ble_eq_true rfl) rfl ?_
      refine v_goto (tgt := 17) dX1_shares_41 rfl ?_
      refine v_sub [3, 4, 5, 1, 6, 7, 8, 0] rfl ?_
      have h := Ok.ret h
      exact h
theorem cW_X2_226_26_27 {l : Launch} {D : va_G} {dA : Nat → ClassId} {A : Nat → Prop} {b : Bool} {lc : Nat → Nat → Nat} {s : tt_St} {cc : ByteArray} {nl : Nat} {rt : Option FieldType} {rm : Room} {tn : tt_Tn} {Q : tt_Fin} {pc : Nat} {lv : List (Nat × Value)} {rest : List Value} {ck cn : Nat} {x0 : Int64} {K : tt_St → Prop} (h : Ok (fT_shares_26_27 s x0) K) (hR : 0 + 1 ≤ rm.frames ∧ 8 + (13 + 11) + 0 ≤ rm.locals) (hW : (rest.map fun v => v.category).sum ≤ 8) (d : decode cc pc = .ok (.invokestatic 226, 3)) (kk : ∀ r, K r → tt_V (XW l D dA A b) cc (RX2, nl, rt, rm, tn) Q (pc + 3) lv rest lc r ck cn) (hf : ck ≤ rm.cells ∧ cn ≤ rm.slots := by exact ⟨Nat.zero_le _, Nat.zero_le _⟩) : tt_V (XW l D dA A b) cc (RX2, nl, rt, rm, tn) Q pc lv (.ref (lc 27 0) :: .ref (lc 26 0) :: .long x0 :: rest) lc s ck cn :=
  v_callSN (nA := 3) (As := [.long x0, .ref (lc 26 0), .ref (lc 27 0)]) knW (mT_shares_26_27 l D dA A b lc s x0 (Q := (fun v lc' s' => ∃ r, K r ∧ v = none ∧ lc' = lc ∧ s' = r)) (h.mono (fun r hr => ⟨r, hr, rfl, rfl, rfl⟩))) (lw_meth q479) q477 q127 q478 (by decide +kernel) rfl hR hW hf d rfl (fun v lc' s' q => by obtain ⟨r, hr, e1, e2, e3⟩ := q; rw [e1, e2, e3]; exact kk r hr)
theorem gW_X2_223_14 {l : Launch} {D : va_G} {dA : Nat → ClassId} {A : Nat → Prop} {b : Bool} {lc : Nat → Nat → Nat} {s : tt_St} {cc : ByteArray} {nl : Nat} {rt : Option FieldType} {rm : Room} {tn : tt_Tn} {Q : tt_Fin} {pc : Nat} {lv : List (Nat × Value)} {rest : List Value} {ck cn : Nat} {i : Nat} (hv : lvF i) (d : decode cc pc = .ok (.getfield 223, 3)) (kk : tt_V (XW l D dA A b) cc (RX2, nl, rt, rm, tn) Q (pc + 3) lv (.ref (lc 9 i) :: rest) lc s ck cn) : tt_V (XW l D dA A b) cc (RX2, nl, rt, rm, tn) Q pc lv (.ref (lc 14 i) :: rest) lc s ck cn := v_get (p := 1) (lvW_14 hv) oW_14 rfl in_X5 (by decide) q315 (.inr q316) rfl d kk
theorem cW_X2_204_0 {l : Launch} {D : va_G} {dA : Nat → ClassId} {A : Nat → Prop} {b : Bool} {lc : Nat → Nat → Nat} {s : tt_St} {cc : ByteArray} {nl : Nat} {rt : Option FieldType} {rm : Room} {tn : tt_Tn} {Q : tt_Fin} {pc : Nat} {lv : List (Nat × Value)} {rest : List Value} {ck cn : Nat} {x1 : Int32} {x2 : Int32} {K : Int32 → Prop} (h : Ok (fW_holeOf s x1 x2) K) (hR : 1 + 1 ≤ rm.frames ∧ 8 + (3 + 11) + 22 ≤ rm.locals) (hW : (rest.map fun v => v.category).sum ≤ 8) (d : decode cc pc = .ok (.invokevirtual 204, 3)) (kk : ∀ r, K r → tt_V (XW l D dA A b) cc (RX2, nl, rt, rm, tn) Q (pc + 3) lv (.int r :: rest) lc s ck cn) (hf : ck ≤ rm.cells ∧ cn ≤ rm.slots := by exact ⟨Nat.zero_le _, Nat.zero_le _⟩) : tt_V (XW l D dA A b) cc (RX2, nl, rt, rm, tn) Q pc lv (.int x2 :: .int x1 :: .ref (lc 0 0) :: rest) lc s ck cn :=
  v_callV (kd := 0) (i := 0) (nA := 2) (As := [.int x1, .int x2]) lvW_0 oW_0 rfl (mW_holeOf l D dA A b lc s x1 x2 (Q := (fun v lc' s' => ∃ r, K r ∧ v = some (.int r) ∧ lc' = lc ∧ s' = s)) (h.mono (fun r hr => ⟨r, hr, rfl, rfl, rfl⟩))) (lw_V q496 q497 q498 q128 q499) (by decide +kernel) rfl hR hW hf d rfl (fun v lc' s' q => by obtain ⟨r, hr, e1, e2, e3⟩ := q; rw [e1, e2, e3]; exact kk r hr)
theorem gW_X2_208_7 {l : Launch} {D : va_G} {dA : Nat → ClassId} {A : Nat → Prop} {b : Bool} {lc : Nat → Nat → Nat} {s : tt_St} {cc : ByteArray} {nl : Nat} {rt : Option FieldType} {rm : Room} {tn : tt_Tn} {Q : tt_Fin} {pc : Nat} {lv : List (Nat × Value)} {rest : List Value} {ck cn : Nat} {i : Nat} (hv : lvH b i) (d : decode cc pc = .ok (.getfield 208, 3)) (kk : tt_V (XW l D dA A b) cc (RX2, nl, rt, rm, tn) Q (pc + 3) lv (.ref (lc 11 i) :: rest) lc s ck cn) : tt_V (XW l D dA A b) cc (RX2, nl, rt, rm, tn) Q pc lv (.ref (lc 7 i) :: rest) lc s ck cn := v_get (p := 3) (lvW_7 hv) oW_7 rfl in_X7 (by decide) q301 (.inr q302) rfl d kk
theorem gW_X2_214_14 {l : Launch} {D : va_G} {dA : Nat → ClassId} {A : Nat → Prop} {b : Bool} {lc : Nat → Nat → Nat} {s : tt_St} {cc : ByteArray} {nl : Nat} {rt : Option FieldType} {rm : Room} {tn : tt_Tn} {Q : tt_Fin} {pc : Nat} {lv : List (Nat × Value)} {rest : List Value} {ck cn : Nat} {i : Nat} (hv : lvF i) (d : decode cc pc = .ok (.getfield 214, 3)) (kk : tt_V (XW l D dA A b) cc (RX2, nl, rt, rm, tn) Q (pc + 3) lv (.ref (lc 11 i) :: rest) lc s ck cn) : tt_V (XW l D dA A b) cc (RX2, nl, rt, rm, tn) Q pc lv (.ref (lc 14 i) :: rest) lc s ck cn := v_get (p := 3) (lvW_14 hv) oW_14 rfl in_X5 (by decide) q303 (.inl rfl) rfl d kk
def fW_mayGoThrough (s : tt_St) (x1 : Nat) (x2 : Int32) (x3 : Int32) (x4 : Nat) : Option (Int64) :=
  if inB x2 12 then if inB x3 6 then nm (rdI s 22 x2.toNatClampNeg x3.toNatClampNeg) fun v3 => (fW_holeOf s x2 x3).bind fun r4 => if inB v3 40 then some ((if (r4.toInt64 - (rdL s 11 x1 v3.toNatClampNeg)) < (0 : Int64) then (0 : Int64) else (r4.toInt64 - (rdL s 11 x1 v3.toNatClampNeg))) - (rdL s 11 x4 v3.toNatClampNeg)) else none else none else none
abbrev rmW_mayGoThrough_7_14 : Room := { frames := 2, cells := 0, slots := 0, locals := 44 }
set_option maxHeartbeats 4000000 in
theorem mW_mayGoThrough_7_14 (l : Launch) (D : va_G) (dA : Nat → ClassId) (A : Nat → Prop) (b : Bool) (lc : Nat → Nat → Nat) (s : tt_St) (x1 : Nat) (x2 : Int32) (x3 : Int32) (x4 : Nat) (hx1 : lvH b x1) (hx4 : lvF x4) {Q : Option Value → (Nat → Nat → Nat) → tt_St → Prop} (h : Ok (fW_mayGoThrough s x1 x2 x3 x4) (fun r => Q (some (.long r)) lc s)) : tt_Sp (XW l D dA A b) yX2_mayGoThrough cX2_mayGoThrough 6 (some .long) rmW_mayGoThrough_7_14 [.ref (lc 0 0), .ref (lc 7 x1), .int x2, .int x3, .ref (lc 14 x4)] lc s Q := by
  refine tt_Sp.ofV plX2 kokW (Nat.le_of_ble_eq_true rfl) ?_
  show tt_V (XW l D dA A b) cX2_mayGoThrough (RX2, 6, (some .long), rmW_mayGoThrough_7_14, tt_nt) (tt_fn (XW l D dA A b) (RX2, 6, (some .long), rmW_mayGoThrough_7_14, tt_nt) Q) 0 [(0, .ref (lc 0 0)), (1, .ref (lc 7 x1)), (2, .int x2), (3, .int x3), (4, .ref (lc 14 x4))] [] lc s 0 0
  unfold fW_mayGoThrough at h
  refine v_aload_n 0 dX2_mayGoThrough_0 rfl ?_
  refine gW_X2_25_0 dX2_mayGoThrough_1 ?_
  refine v_iload_n 2 dX2_mayGoThrough_4 rfl ?_
  obtain ⟨g1, h⟩ := Ok.guard h
  refine lW_21 g1 dX2_mayGoThrough_5 ?_
  refine v_iload_n 3 dX2_mayGoThrough_6 rfl ?_
  obtain ⟨g2, h⟩ := Ok.guard h
  refine lW_22 (inB_lt g1) g2 dX2_mayGoThrough_7 ?_
  refine v_nmI (fun v3 e_v3 => ?_)
  have h := Ok.nm h e_v3
  refine v_istore [(5, .int v3), (0, .ref (lc 0 0)), (1, .ref (lc 7 x1)), (2, .int x2), (3, .int x3), (4, .ref (lc 14 x4))] dX2_mayGoThrough_8 (Nat.le_of_ble_eq_true rfl) rfl ?_
  refine v_lconst dX2_mayGoThrough_10 kl_0 ?_
  refine v_aload_n 1 dX2_mayGoThrough_11 rfl ?_
  refine v_iload_n 3 dX2_mayGoThrough_12 rfl ?_
  refine v_iload_n 4 dX2_mayGoThrough_13 rfl ?_
  refine cW_X2_204_0 (Ok.bind h) ⟨Nat.le_of_ble_eq_true rfl, Nat.le_of_ble_eq_true rfl⟩ (Nat.le_of_ble_eq_true rfl) dX2_mayGoThrough_14 (fun r4 h => ?_)
  refine v_i2l dX2_mayGoThrough_17 rfl ?_
  refine v_aload_n 2 dX2_mayGoThrough_18 rfl ?_
  refine gW_X2_208_7 hx1 dX2_mayGoThrough_19 ?_
  refine v_iload 0 dX2_mayGoThrough_22 rfl ?_
  obtain ⟨g5, h⟩ := Ok.guard h
  refine lW_11 (.inl hx1) g5 dX2_mayGoThrough_24 ?_
  refine v_lsub dX2_mayGoThrough_25 ?_
  refine v_maxL q504 q505 q143 q506 (Nat.le_of_ble_eq_true rfl) (Nat.le_of_ble_eq_true rfl) (Nat.zero_le _) (Nat.zero_le _) dX2_mayGoThrough_26 ?_
  refine v_aload 5 dX2_mayGoThrough_29 rfl ?_
  refine gW_X2_214_14 hx4 dX2_mayGoThrough_31 ?_
  refine v_iload 0 dX2_mayGoThrough_34 rfl ?_
  refine lW_11 (.inr hx4) g5 dX2_mayGoThrough_36 ?_
  refine v_lsub dX2_mayGoThrough_37 ?_
  have h := Ok.ret h
  exact v_lret rfl (Nat.zero_le _) (Nat.zero_le _) dX2_mayGoThrough_38 h
theorem cW_X2_215_0_7_14 {l : Launch} {D : va_G} {dA : Nat → ClassId} {A : Nat → Prop} {b : Bool} {lc : Nat → Nat → Nat} {s : tt_St} {cc : ByteArray} {nl : Nat} {rt : Option FieldType} {rm : Room} {tn : tt_Tn} {Q : tt_Fin} {pc : Nat} {lv : List (Nat × Value)} {rest : List Value} {ck cn : Nat} {x1 : Nat} {x2 : Int32} {x3 : Int32} {x4 : Nat} (hx1 : lvH b x1) (hx4 : lvF x4) {K : Int64 → Prop} (h : Ok (fW_mayGoThrough s x1 x2 x3 x4) K) (hR : 2 + 1 ≤ rm.frames ∧ 8 + (6 + 11) + 44 ≤ rm.locals) (hW : (rest.map fun v => v.category).sum ≤ 8) (d : decode cc pc = .ok (.invokevirtual 215, 3)) (kk : ∀ r, K r → tt_V (XW l D dA A b) cc (RX2, nl, rt, rm, tn) Q (pc + 3) lv (.long r :: rest) lc s ck cn) (hf : ck ≤ rm.cells ∧ cn ≤ rm.slots := by exact ⟨Nat.zero_le _, Nat.zero_le _⟩) : tt_V (XW l D dA A b) cc (RX2, nl, rt, rm, tn) Q pc lv (.ref (lc 14 x4) :: .int x3 :: .int x2 :: .ref (lc 7 x1) :: .ref (lc 0 0) :: rest) lc s ck cn :=
  v_callV (kd := 0) (i := 0) (nA := 4) (As := [.ref (lc 7 x1), .int x2, .int x3, .ref (lc 14 x4)]) lvW_0 oW_0 rfl (mW_mayGoThrough_7_14 l D dA A b lc s x1 x2 x3 x4 hx1 hx4 (Q := (fun v lc' s' => ∃ r, K r ∧ v = some (.long r) ∧ lc' = lc ∧ s' = s)) (h.mono (fun r hr => ⟨r, hr, rfl, rfl, rfl⟩))) (lw_V q492 q494 qs5 q128 q495) (by decide +kernel) rfl hR hW hf d rfl (fun v lc' s' q => by obtain ⟨r, hr, e1, e2, e3⟩ := q; rw [e1, e2, e3]; exact kk r hr)
theorem gW_X2_137_2 {l : Launch} {D : va_G} {dA : Nat → ClassId} {A : Nat → Prop} {b : Bool} {lc : Nat → Nat → Nat} {s : tt_St} {cc : ByteArray} {nl : Nat} {rt : Option FieldType} {rm : Room} {tn : tt_Tn} {Q : tt_Fin} {pc : Nat} {lv : List (Nat × Value)} {rest : List Value} {ck cn : Nat} {i : Nat} (hv : i < 40) (d : decode cc pc = .ok (.getfield 137, 3)) (kk : tt_V (XW l D dA A b) cc (RX2, nl, rt, rm, tn) Q (pc + 3) lv (.int (nI i) :: rest) lc s ck cn) : tt_V (XW l D dA A b) cc (RX2, nl, rt, rm, tn) Q pc lv (.ref (lc 2 i) :: rest) lc s ck cn := v_getN (p := 3) knW (lvW_2 hv) oW_2 rfl in_X6 (by decide) q348 (.inl rfl) rfl d kk
theorem gW_X2_190_7 {l : Launch} {D : va_G} {dA : Nat → ClassId} {A : Nat → Prop} {b : Bool} {lc : Nat → Nat → Nat} {s : tt_St} {cc : ByteArray} {nl : Nat} {rt : Option FieldType} {rm : Room} {tn : tt_Tn} {Q : tt_Fin} {pc : Nat} {lv : List (Nat × Value)} {rest : List Value} {ck cn : Nat} {i : Nat} (hv : lvH b i) (d : decode cc pc = .ok (.getfield 190, 3)) (kk : tt_V (XW l D dA A b) cc (RX2, nl, rt, rm, tn) Q (pc + 3) lv (.ref (lc 10 i) :: rest) lc s ck cn) : tt_V (XW l D dA A b) cc (RX2, nl, rt, rm, tn) Q pc lv (.ref (lc 7 i) :: rest) lc s ck cn := v_get (p := 2) (lvW_7 hv) oW_7 rfl in_X7 (by decide) q295 (.inr q296) rfl d kk
theorem gW_X6_46_2 {l : Launch} {D : va_G} {dA : Nat → ClassId} {A : Nat → Prop} {b : Bool} {lc : Nat → Nat → Nat} {s : tt_St} {cc : ByteArray} {nl : Nat} {rt : Option FieldType} {rm : Room} {tn : tt_Tn} {Q : tt_Fin} {pc : Nat} {lv : List (Nat × Value)} {rest : List Value} {ck cn : Nat} {i : Nat} (hv : i < 40) (d : decode cc pc = .ok (.getfield 46, 3)) (kk : tt_V (XW l D dA A b) cc (RX6, nl, rt, rm, tn) Q (pc + 3) lv (.int (rdI s 2 i 7) :: rest) lc s ck cn) : tt_V (XW l D dA A b) cc (RX6, nl, rt, rm, tn) Q pc lv (.ref (lc 2 i) :: rest) lc s ck cn := v_get (p := 7) (lvW_2 hv) oW_2 rfl in_X6 (by decide) q359 (.inl rfl) rfl d kk
theorem gW_X6_30_2 {l : Launch} {D : va_G} {dA : Nat → ClassId} {A : Nat → Prop} {b : Bool} {lc : Nat → Nat → Nat} {s : tt_St} {cc : ByteArray} {nl : Nat} {rt : Option FieldType} {rm : Room} {tn : tt_Tn} {Q : tt_Fin} {pc : Nat} {lv : List (Nat × Value)} {rest : List Value} {ck cn : Nat} {i : Nat} (hv : i < 40) (d : decode cc pc = .ok (.getfield 30, 3)) (kk : tt_V (XW l D dA A b) cc (RX6, nl, rt, rm, tn) Q (pc + 3) lv (.long (rdL s 2 i 9) :: rest) lc s ck cn) : tt_V (XW l D dA A b) cc (RX6, nl, rt, rm, tn) Q pc lv (.ref (lc 2 i) :: rest) lc s ck cn := v_get (p := 9) (lvW_2 hv) oW_2 rfl in_X6 (by decide) q364 (.inl rfl) rfl d kk
def fY_left (s : tt_St) (x0 : Nat) : Option (Int64) :=
  some ((((rdI s 2 x0 6).toInt64) * ((rdI s 2 x0 7).toInt64)) - (rdL s 2 x0 9))
abbrev rmY_left : Room := { frames := 0, cells := 0, slots := 0, locals := 0 }
set_option maxHeartbeats 4000000 in
theorem mY_left (l : Launch) (D : va_G) (dA : Nat → ClassId) (A : Nat → Prop) (b : Bool) (lc : Nat → Nat → Nat) (s : tt_St) (x0 : Nat) (hx0 : x0 < 40) {Q : Option Value → (Nat → Nat → Nat) → tt_St → Prop} (h : Ok (fY_left s x0) (fun r => Q (some (.long r)) lc s)) : tt_Sp (XW l D dA A b) yX6_left cX6_left 1 (some .long) rmY_left [.ref (lc 2 x0)] lc s Q := by
  refine tt_Sp.ofV plX6 kokW (Nat.le_of_ble_eq_true rfl) ?_
  show tt_V (XW l D dA A b) cX6_left (RX6, 1, (some .long), rmY_left, tt_nt) (tt_fn (XW l D dA A b) (RX6, 1, (some .long), rmY_left, tt_nt) Q) 0 [(0, .ref (lc 2 x0))] [] lc s 0 0
  unfold fY_left at h
  refine v_aload_n 0 dX6_left_0 rfl ?_
  refine gW_X6_43_2 hx0 dX6_left_1 ?_
  refine v_i2l dX6_left_4 rfl ?_
  refine v_aload_n 0 dX6_left_5 rfl ?_
  refine gW_X6_46_2 hx0 dX6_left_6 ?_
  refine v_i2l dX6_left_9 rfl ?_
  refine v_lmul dX6_left_10 ?_
  refine v_aload_n 0 dX6_left_11 rfl ?_
  refine gW_X6_30_2 hx0 dX6_left_12 ?_
  refine v_lsub dX6_left_15 ?_
  have h := Ok.ret h
  exact v_lret rfl (Nat.zero_le _) (Nat.zero_le _) dX6_left_16 h
theorem cW_X2_193_2 {l : Launch} {D : va_G} {dA : Nat → ClassId} {A : Nat → Prop} {b : Bool} {lc : Nat → Nat → Nat} {s : tt_St} {cc : ByteArray} {nl : Nat} {rt : Option FieldType} {rm : Room} {tn : tt_Tn} {Q : tt_Fin} {pc : Nat} {lv : List (Nat × Value)} {rest : List Value} {ck cn : Nat} {x0 : Nat} (hx0 : x0 < 40) {K : Int64 → Prop} (h : Ok (fY_left s x0) K) (hR : 0 + 1 ≤ rm.frames ∧ 8 + (1 + 11) + 0 ≤ rm.locals) (hW : (rest.map fun v => v.category).sum ≤ 8) (d : decode cc pc = .ok (.invokevirtual 193, 3)) (kk : ∀ r, K r → tt_V (XW l D dA A b) cc (RX2, nl, rt, rm, tn) Q (pc + 3) lv (.long r :: rest) lc s ck cn) (hf : ck ≤ rm.cells ∧ cn ≤ rm.slots := by exact ⟨Nat.zero_le _, Nat.zero_le _⟩) : tt_V (XW l D dA A b) cc (RX2, nl, rt, rm, tn) Q pc lv (.ref (lc 2 x0) :: rest) lc s ck cn :=
  v_callV (kd := 2) (i := x0) (nA := 0) (As := []) (lvW_2 hx0) oW_2 rfl (mY_left l D dA A b lc s x0 hx0 (Q := (fun v lc' s' => ∃ r, K r ∧ v = some (.long r) ∧ lc' = lc ∧ s' = s)) (h.mono (fun r hr => ⟨r, hr, rfl, rfl, rfl⟩))) (lw_V q514 q515 q516 q139 q517) (by decide +kernel) rfl hR hW hf d rfl (fun v lc' s' q => by obtain ⟨r, hr, e1, e2, e3⟩ := q; rw [e1, e2, e3]; exact kk r hr)
theorem gW_X2_203_14 {l : Launch} {D : va_G} {dA : Nat → ClassId} {A : Nat → Prop} {b : Bool} {lc : Nat → Nat → Nat} {s : tt_St} {cc : ByteArray} {nl : Nat} {rt : Option FieldType} {rm : Room} {tn : tt_Tn} {Q : tt_Fin} {pc : Nat} {lv : List (Nat × Value)} {rest : List Value} {ck cn : Nat} {i : Nat} (hv : lvF i) (d : decode cc pc = .ok (.getfield 203, 3)) (kk : tt_V (XW l D dA A b) cc (RX2, nl, rt, rm, tn) Q (pc + 3) lv (.ref (lc 10 i) :: rest) lc s ck cn) : tt_V (XW l D dA A b) cc (RX2, nl, rt, rm, tn) Q pc lv (.ref (lc 14 i) :: rest) lc s ck cn := v_get (p := 2) (lvW_14 hv) oW_14 rfl in_X5 (by decide) q297 (.inl rfl) rfl d kk
def fW_can (s : tt_St) (x1 : Nat) (x2 : Nat) (x3 : Nat) : Option (Int64) :=
  if inB (nI x2) 40 then (fY_left s x2).bind fun r2 => some ((if r2 < (((rdI s 2 x2 6).toInt64) - (rdL s 10 x1 (nI x2).toNatClampNeg)) then r2 else (((rdI s 2 x2 6).toInt64) - (rdL s 10 x1 (nI x2).toNatClampNeg))) - (rdL s 10 x3 (nI x2).toNatClampNeg)) else none
abbrev rmW_can_7_2_14 : Room := { frames := 1, cells := 0, slots := 0, locals := 23 }
set_option maxHeartbeats 4000000 in
theorem mW_can_7_2_14 (l : Launch) (D : va_G) (dA : Nat → ClassId) (A : Nat → Prop) (b : Bool) (lc : Nat → Nat → Nat) (s : tt_St) (x1 : Nat) (x2 : Nat) (x3 : Nat) (hx1 : lvH b x1) (hx2 : x2 < 40) (hx3 : lvF x3) {Q : Option Value → (Nat → Nat → Nat) → tt_St → Prop} (h : Ok (fW_can s x1 x2 x3) (fun r => Q (some (.long r)) lc s)) : tt_Sp (XW l D dA A b) yX2_can cX2_can 4 (some .long) rmW_can_7_2_14 [.ref (lc 0 0), .ref (lc 7 x1), .ref (lc 2 x2), .ref (lc 14 x3)] lc s Q := by
  refine tt_Sp.ofV plX2 kokW (Nat.le_of_ble_eq_true rfl) ?_
  show tt_V (XW l D dA A b) cX2_can (RX2, 4, (some .long), rmW_can_7_2_14, tt_nt) (tt_fn (XW l D dA A b) (RX2, 4, (some .long), rmW_can_7_2_14, tt_nt) Q) 0 [(0, .ref (lc 0 0)), (1, .ref (lc 7 x1)), (2, .ref (lc 2 x2)), (3, .ref (lc 14 x3))] [] lc s 0 0
  unfold fW_can at h
  refine v_aload_n 2 dX2_can_0 rfl ?_
  refine gW_X2_187_2 hx2 dX2_can_1 ?_
  refine v_i2l dX2_can_4 rfl ?_
  refine v_aload_n 1 dX2_can_5 rfl ?_
  refine gW_X2_190_7 hx1 dX2_can_6 ?_
  refine v_aload_n 2 dX2_can_9 rfl ?_
  refine gW_X2_137_2 hx2 dX2_can_10 ?_
  obtain ⟨g1, h⟩ := Ok.guard h
  refine lW_10 (.inl hx1) g1 dX2_can_13 ?_
  refine v_lsub dX2_can_14 ?_
  refine v_aload_n 2 dX2_can_15 rfl ?_
  refine cW_X2_193_2 hx2 (Ok.bind h) ⟨Nat.le_of_ble_eq_true rfl, Nat.le_of_ble_eq_true rfl⟩ (Nat.le_of_ble_eq_true rfl) dX2_can_16 (fun r2 h => ?_)
  refine v_minL q507 q508 q143 q509 (Nat.le_of_ble_eq_true rfl) (Nat.le_of_ble_eq_true rfl) (Nat.zero_le _) (Nat.zero_le _) dX2_can_19 ?_
  refine v_aload_n 3 dX2_can_22 rfl ?_
  refine gW_X2_203_14 hx3 dX2_can_23 ?_
  refine v_aload_n 2 dX2_can_26 rfl ?_
  refine gW_X2_137_2 hx2 dX2_can_27 ?_
  refine lW_10 (.inr hx3) g1 dX2_can_30 ?_
  refine v_lsub dX2_can_31 ?_
  have h := Ok.ret h
  exact v_lret rfl (Nat.zero_le _) (Nat.zero_le _) dX2_can_32 h
theorem cW_X2_219_0_7_2_14 {l : Launch} {D : va_G} {dA : Nat → ClassId} {A : Nat → Prop} {b : Bool} {lc : Nat → Nat → Nat} {s : tt_St} {cc : ByteArray} {nl : Nat} {rt : Option FieldType} {rm : Room} {tn : tt_Tn} {Q : tt_Fin} {pc : Nat} {lv : List (Nat × Value)} {rest : List Value} {ck cn : Nat} {x1 : Nat} {x2 : Nat} {x3 : Nat} (hx1 : lvH b x1) (hx2 : x2 < 40) (hx3 : lvF x3) {K : Int64 → Prop} (h : Ok (fW_can s x1 x2 x3) K) (hR : 1 + 1 ≤ rm.frames ∧ 8 + (4 + 11) + 23 ≤ rm.locals) (hW : (rest.map fun v => v.category).sum ≤ 8) (d : decode cc pc = .ok (.invokevirtual 219, 3)) (kk : ∀ r, K r → tt_V (XW l D dA A b) cc (RX2, nl, rt, rm, tn) Q (pc + 3) lv (.long r :: rest) lc s ck cn) (hf : ck ≤ rm.cells ∧ cn ≤ rm.slots := by exact ⟨Nat.zero_le _, Nat.zero_le _⟩) : tt_V (XW l D dA A b) cc (RX2, nl, rt, rm, tn) Q pc lv (.ref (lc 14 x3) :: .ref (lc 2 x2) :: .ref (lc 7 x1) :: .ref (lc 0 0) :: rest) lc s ck cn :=
  v_callV (kd := 0) (i := 0) (nA := 3) (As := [.ref (lc 7 x1), .ref (lc 2 x2), .ref (lc 14 x3)]) lvW_0 oW_0 rfl (mW_can_7_2_14 l D dA A b lc s x1 x2 x3 hx1 hx2 hx3 (Q := (fun v lc' s' => ∃ r, K r ∧ v = some (.long r) ∧ lc' = lc ∧ s' = s)) (h.mono (fun r hr => ⟨r, hr, rfl, rfl, rfl⟩))) (lw_V q510 q512 qs6 q128 q513) (by decide +kernel) rfl hR hW hf d rfl (fun v lc' s' q => by obtain ⟨r, hr, e1, e2, e3⟩ := q; rw [e1, e2, e3]; exact kk r hr)
def fW_fills_L6 (x1 : Nat) (x2 : Int32) (x5 : Nat) (a1 : Int64 × Int32 × tt_St) : Option ((Int64 × Int32 × tt_St) ⊕ (Int64 × Int32 × tt_St)) :=
  if inB x2 12 then if (rdI a1.2.2 23 0 x2.toNatClampNeg) ≤ a1.2.1 then some (.inr (a1.1, a1.2.1, a1.2.2)) else if a1.1 ≤ (0 : Int64) then some (.inr (a1.1, a1.2.1, a1.2.2)) else (fW_layerAt a1.2.2 x2 a1.2.1).bind fun r6 => (fW_mayGoThrough a1.2.2 x1 x2 a1.2.1 x5).bind fun r7 => nm (if r7 < a1.1 then r7 else a1.1) fun v8 => if inB (nI r6) 40 then nm (wrL a1.2.2 11 x5 (nI r6).toNatClampNeg ((rdL a1.2.2 11 x5 (nI r6).toNatClampNeg) + v8)) fun s10 => if inB (1 : Int32) 7 then nm (wrL s10 9 x5 (1 : Int32).toNatClampNeg ((rdL s10 9 x5 (1 : Int32).toNatClampNeg) + v8)) fun s12 => nm (a1.1 - v8) fun v13 => (fW_can s12 x1 r6 x5).bind fun r14 => nm (if r14 < v13 then r14 else v13) fun v15 => nm (wrL s12 10 x5 (nI r6).toNatClampNeg ((rdL s12 10 x5 (nI r6).toNatClampNeg) + v15)) fun s16 => nm (v13 - v15) fun v17 => some (.inl (v17, (a1.2.1 + 1 : Int32), s16)) else none else none else none
def fW_fills (s : tt_St) (x1 : Nat) (x2 : Int32) (x3 : Int64) (x5 : Nat) : Option (Int64 × tt_St) :=
  (itr (fW_fills_L6 x1 x2 x5) tt_fuel (x3, (0 : Int32), s)).bind fun b2 => some (b2.1, b2.2.2)
abbrev rmW_fills_7_14 : Room := { frames := 3, cells := 0, slots := 0, locals := 69 }
set_option maxHeartbeats 4000000 in
theorem mW_fills_7_14 (l : Launch) (D : va_G) (dA : Nat → ClassId) (A : Nat → Prop) (b : Bool) (lc : Nat → Nat → Nat) (s : tt_St) (x1 : Nat) (x2 : Int32) (x3 : Int64) (x5 : Nat) (hx1 : lvH b x1) (hx5 : lvF x5) {Q : Option Value → (Nat → Nat → Nat) → tt_St → Prop} (h : Ok (fW_fills s x1 x2 x3 x5) (fun r => Q (some (.long r.1)) lc r.2)) : tt_Sp (XW l D dA A b) yX2_fills cX2_fills 14 (some .long) rmW_fills_7_14 [.ref (lc 0 0), .ref (lc 7 x1), .int x2, .long x3, .ref (lc 14 x5)] lc s Q := by
  refine tt_Sp.ofV plX2 kokW (Nat.le_of_ble_eq_true rfl) ?_
  show tt_V (XW l D dA A b) cX2_fills (RX2, 14, (some .long), rmW_fills_7_14, tt_nt) (tt_fn (XW l D dA A b) (RX2, 14, (some .long), rmW_fills_7_14, tt_nt) Q) 0 [(0, .ref (lc 0 0)), (1, .ref (lc 7 x1)), (2, .int x2), (3, .long x3), (5, .ref (lc 14 x5))] [] lc s 0 0
  unfold fW_fills at h
  refine v_lload_n 3 dX2_fills_0 rfl ?_
  refine v_lstore [(6, .long x3), (0, .ref (lc 0 0)), (1, .ref (lc 7 x1)), (2, .int x2), (3, .long x3), (5, .ref (lc 14 x5))] dX2_fills_1 (Nat.le_of_ble_eq_true rfl) rfl ?_
  refine v_iconst dX2_fills_3 ic_0 ?_
  refine v_istore [(8, .int (0 : Int32)), (6, .long x3), (0, .ref (lc 0 0)), (1, .ref (lc 7 x1)), (2, .int x2), (3, .long x3), (5, .ref (lc 14 x5))] dX2_fills_4 (Nat.le_of_ble_eq_true rfl) rfl ?_
  refine v_sub [2, 3, 4, 6, 1, 0] rfl ?_
  refine itr_loop (P := fun a1 : Int64 × Int32 × tt_St => tt_V (XW l D dA A b) cX2_fills (RX2, 14, (some .long), rmW_fills_7_14, tt_nt) (tt_fn (XW l D dA A b) (RX2, 14, (some .long), rmW_fills_7_14, tt_nt) Q) 6 [(0, .ref (lc 0 0)), (1, .ref (lc 7 x1)), (2, .int x2), (5, .ref (lc 14 x5)), (6, .long a1.1), (8, .int a1.2.1)] [] lc a1.2.2 0 0) (PE := fun b2 : Int64 × Int32 × tt_St => tt_V (XW l D dA A b) cX2_fills (RX2, 14, (some .long), rmW_fills_7_14, tt_nt) (tt_fn (XW l D dA A b) (RX2, 14, (some .long), rmW_fills_7_14, tt_nt) Q) 130 [(0, .ref (lc 0 0)), (1, .ref (lc 7 x1)), (2, .int x2), (5, .ref (lc 14 x5)), (6, .long b2.1), (8, .int b2.2.1)] [] lc b2.2.2 0 0) h (fun b2 h => ?_) (fun a1 h => ?_)
  · refine v_lload 4 dX2_fills_130 rfl ?_
    have h := Ok.ret h
    exact v_lret rfl (Nat.zero_le _) (Nat.zero_le _) dX2_fills_132 h
  · have h : Ok (fW_fills_L6 x1 x2 x5 a1) _ := h
    unfold fW_fills_L6 at h
    refine v_iload 5 dX2_fills_6 rfl ?_
    refine v_aload_n 0 dX2_fills_8 rfl ?_
    refine gW_X2_28_0 dX2_fills_9 ?_
    refine v_iload_n 2 dX2_fills_12 rfl ?_
    obtain ⟨g3, h⟩ := Ok.guard h
    refine lW_23 g3 dX2_fills_13 ?_
    refine v_icmp_ge (tgt := 130) dX2_fills_14 rfl (fun c4 => ?_) (fun c4 => ?_)
    · have h := Ok.pos h c4
      have h := Ok.ret h
      exact h
    · have h := Ok.neg h c4
      refine v_lload 4 dX2_fills_17 rfl ?_
      refine v_lconst dX2_fills_19 kl_0 ?_
      refine v_lif_le (tgt := 130) dX2_fills_20 dX2_fills_21 rfl (fun c5 => ?_) (fun c5 => ?_)
      · have h := Ok.pos h c5
        have h := Ok.ret h
        exact h
      · have h := Ok.neg h c5
        refine v_aload_n 0 dX2_fills_24 rfl ?_
        refine v_iload_n 2 dX2_fills_25 rfl ?_
        refine v_iload 5 dX2_fills_26 rfl ?_
        refine cW_X2_140_0 (Ok.bind h) ⟨Nat.le_of_ble_eq_true rfl, Nat.le_of_ble_eq_true rfl⟩ (Nat.le_of_ble_eq_true rfl) dX2_fills_28 (fun r6 z_r6 h => ?_)
        refine v_astore [(9, .ref (lc 2 r6)), (0, .ref (lc 0 0)), (1, .ref (lc 7 x1)), (2, .int x2), (5, .ref (lc 14 x5)), (6, .long a1.1), (8, .int a1.2.1)] dX2_fills_31 (Nat.le_of_ble_eq_true rfl) rfl ?_
        refine v_lload 5 dX2_fills_33 rfl ?_
        refine v_aload_n 1 dX2_fills_35 rfl ?_
        refine v_aload_n 2 dX2_fills_36 rfl ?_
        refine v_iload_n 3 dX2_fills_37 rfl ?_
        refine v_iload 6 dX2_fills_38 rfl ?_
        refine v_aload 4 dX2_fills_40 rfl ?_
        refine cW_X2_215_0_7_14 hx1 hx5 (Ok.bind h) ⟨Nat.le_of_ble_eq_true rfl, Nat.le_of_ble_eq_true rfl⟩ (Nat.le_of_ble_eq_true rfl) dX2_fills_42 (fun r7 h => ?_)
        refine v_minL q507 q508 q143 q509 (Nat.le_of_ble_eq_true rfl) (Nat.le_of_ble_eq_true rfl) (Nat.zero_le _) (Nat.zero_le _) dX2_fills_45 ?_
        refine v_nmL (fun v8 e_v8 => ?_)
        have h := Ok.nm h e_v8
        refine v_lstore [(10, .long v8), (9, .ref (lc 2 r6)), (0, .ref (lc 0 0)), (1, .ref (lc 7 x1)), (2, .int x2), (5, .ref (lc 14 x5)), (6, .long a1.1), (8, .int a1.2.1)] dX2_fills_48 (Nat.le_of_ble_eq_true rfl) rfl ?_
        refine v_aload 5 dX2_fills_50 rfl ?_
        refine gW_X2_214_14 hx5 dX2_fills_52 ?_
        refine v_aload 1 dX2_fills_55 rfl ?_
        refine gW_X2_137_2 z_r6 dX2_fills_57 ?_
        refine v_dup2_11 dX2_fills_60 rfl rfl ?_
        obtain ⟨g9, h⟩ := Ok.guard h
        refine lW_11 (.inr hx5) g9 dX2_fills_61 ?_
        refine v_lload 0 dX2_fills_62 rfl ?_
        refine v_ladd dX2_fills_64 ?_
        refine sW_11 (.inr hx5) g9 dX2_fills_65 ?_
        refine v_nmS (fun s10 e_s10 => ?_)
        have h := Ok.nm h e_s10
        refine v_aload 5 dX2_fills_66 rfl ?_
        refine gW_X2_223_14 hx5 dX2_fills_68 ?_
        refine v_iconst dX2_fills_71 ic_1 ?_
        refine v_dup2_11 dX2_fills_72 rfl rfl ?_
        obtain ⟨g11, h⟩ := Ok.guard h
        refine lW_9 (.inr hx5) g11 dX2_fills_73 ?_
        refine v_lload 0 dX2_fills_74 rfl ?_
        refine v_ladd dX2_fills_76 ?_
        refine sW_9 (.inr hx5) g11 dX2_fills_77 ?_
        refine v_nmS (fun s12 e_s12 => ?_)
        have h := Ok.nm h e_s12
        refine v_lload 6 dX2_fills_78 rfl ?_
        refine v_lload 0 dX2_fills_80 rfl ?_
        refine v_lsub dX2_fills_82 ?_
        refine v_nmL (fun v13 e_v13 => ?_)
        have h := Ok.nm h e_v13
        refine v_lstore [(6, .long v13), (10, .long v8), (9, .ref (lc 2 r6)), (0, .ref (lc 0 0)), (1, .ref (lc 7 x1)), (2, .int x2), (5, .ref (lc 14 x5)), (8, .int a1.2.1)] dX2_fills_83 (Nat.le_of_ble_eq_true rfl) rfl ?_
        refine v_lload 0 dX2_fills_85 rfl ?_
        refine v_aload_n 3 dX2_fills_87 rfl ?_
        refine v_aload_n 4 dX2_fills_88 rfl ?_
        refine v_aload 2 dX2_fills_89 rfl ?_
        refine v_aload 6 dX2_fills_91 rfl ?_
        refine cW_X2_219_0_7_2_14 hx1 z_r6 hx5 (Ok.bind h) ⟨Nat.le_of_ble_eq_true rfl, Nat.le_of_ble_eq_true rfl⟩ (Nat.le_of_ble_eq_true rfl) dX2_fills_93 (fun r14 h => ?_)
        refine v_minL q507 q508 q143 q509 (Nat.le_of_ble_eq_true rfl) (Nat.le_of_ble_eq_true rfl) (Nat.zero_le _) (Nat.zero_le _) dX2_fills_96 ?_
        refine v_nmL (fun v15 e_v15 => ?_)
        have h := Ok.nm h e_v15
        refine v_lstore [(12, .long v15), (6, .long v13), (10, .long v8), (9, .ref (lc 2 r6)), (0, .ref (lc 0 0)), (1, .ref (lc 7 x1)), (2, .int x2), (5, .ref (lc 14 x5)), (8, .int a1.2.1)] dX2_fills_99 (Nat.le_of_ble_eq_true rfl) rfl ?_
        refine v_aload 7 dX2_fills_101 rfl ?_
        refine gW_X2_203_14 hx5 dX2_fills_103 ?_
        refine v_aload 3 dX2_fills_106 rfl ?_
        refine gW_X2_137_2 z_r6 dX2_fills_108 ?_
        refine v_dup2_11 dX2_fills_111 rfl rfl ?_
        refine lW_10 (.inr hx5) g9 dX2_fills_112 ?_
        refine v_lload 0 dX2_fills_113 rfl ?_
        refine v_ladd dX2_fills_115 ?_
        refine sW_10 (.inr hx5) g9 dX2_fills_116 ?_
        refine v_nmS (fun s16 e_s16 => ?_)
        have h := Ok.nm h e_s16
        refine v_lload 1 dX2_fills_117 rfl ?_
        refine v_lload 0 dX2_fills_119 rfl ?_
        refine v_lsub dX2_fills_121 ?_
        refine v_nmL (fun v17 e_v17 => ?_)
        have h := Ok.nm h e_v17
        refine v_lstore [(6, .long v17), (12, .long v15), (10, .long v8), (9, .ref (lc 2 r6)), (0, .ref (lc 0 0)), (1, .ref (lc 7 x1)), (2, .int x2), (5, .ref (lc 14 x5)), (8, .int a1.2.1)] dX2_fills_122 (Nat.le_of_ble_eq_true rfl) rfl ?_
        refine v_iinc (v := (a1.2.1 + 1 : Int32)) 8 [(8, .int (a1.2.1 + 1 : Int32)), (6, .long v17), (12, .long v15), (10, .long v8), (9, .ref (lc 2 r6)), (0, .ref (lc 0 0)), (1, .ref (lc 7 x1)), (2, .int x2), (5, .ref (lc 14 x5))] dX2_fills_124 rfl (by rw [ic_1]) (Nat.le_of_ble_eq_true rfl) rfl ?_
        refine v_goto (tgt := 6) dX2_fills_127 rfl ?_
        refine v_sub [5, 6, 7, 8, 1, 0] rfl ?_
        have h := Ok.ret h
        exact h
theorem cW_X2_230_0_7_14 {l : Launch} {D : va_G} {dA : Nat → ClassId} {A : Nat → Prop} {b : Bool} {lc : Nat → Nat → Nat} {s : tt_St} {cc : ByteArray} {nl : Nat} {rt : Option FieldType} {rm : Room} {tn : tt_Tn} {Q : tt_Fin} {pc : Nat} {lv : List (Nat × Value)} {rest : List Value} {ck cn : Nat} {x1 : Nat} {x2 : Int32} {x3 : Int64} {x5 : Nat} (hx1 : lvH b x1) (hx5 : lvF x5) {K : Int64 × tt_St → Prop} (h : Ok (fW_fills s x1 x2 x3 x5) K) (hR : 3 + 1 ≤ rm.frames ∧ 8 + (14 + 11) + 69 ≤ rm.locals) (hW : (rest.map fun v => v.category).sum ≤ 8) (d : decode cc pc = .ok (.invokevirtual 230, 3)) (kk : ∀ r, K r → tt_V (XW l D dA A b) cc (RX2, nl, rt, rm, tn) Q (pc + 3) lv (.long r.1 :: rest) lc r.2 ck cn) (hf : ck ≤ rm.cells ∧ cn ≤ rm.slots := by exact ⟨Nat.zero_le _, Nat.zero_le _⟩) : tt_V (XW l D dA A b) cc (RX2, nl, rt, rm, tn) Q pc lv (.ref (lc 14 x5) :: .long x3 :: .int x2 :: .ref (lc 7 x1) :: .ref (lc 0 0) :: rest) lc s ck cn :=
  v_callV (kd := 0) (i := 0) (nA := 4) (As := [.ref (lc 7 x1), .int x2, .long x3, .ref (lc 14 x5)]) lvW_0 oW_0 rfl (mW_fills_7_14 l D dA A b lc s x1 x2 x3 x5 hx1 hx5 (Q := (fun v lc' s' => ∃ r, K r ∧ v = some (.long r.1) ∧ lc' = lc ∧ s' = r.2)) (h.mono (fun r hr => ⟨r, hr, rfl, rfl, rfl⟩))) (lw_V q484 q486 qs4 q128 q487) (by decide +kernel) rfl hR hW hf d rfl (fun v lc' s' q => by obtain ⟨r, hr, e1, e2, e3⟩ := q; rw [e1, e2, e3]; exact kk r hr)
def fW_fillsAll_L78 (x1 : Nat) (x4 : Nat) (a9 : Int32 × tt_St) : Option ((Int32 × tt_St) ⊕ (Int32 × tt_St)) :=
  if (12 : Int32) ≤ a9.1 then some (.inr (a9.1, a9.2)) else (fW_isGap a9.2 a9.1).bind fun r12 => nm (if r12 = 0 then (2 : Int32) else (3 : Int32)) fun t13 => if inB t13 7 then if inB a9.1 12 then (fW_fills a9.2 x1 a9.1 (rdL a9.2 27 0 a9.1.toNatClampNeg) x4).bind fun r18 => nm (wrL r18.2 9 x4 t13.toNatClampNeg ((rdL a9.2 9 x4 t13.toNatClampNeg) + r18.1)) fun s19 => some (.inl ((a9.1 + 1 : Int32), s19)) else none else none
def fW_fillsAll_L17 (s : tt_St) (a1 : Int64 × Int32) : Option ((Int64 × Int32) ⊕ (Int64 × Int32)) :=
  if (12 : Int32) ≤ a1.2 then some (.inr (a1.1, a1.2)) else if inB a1.2 12 then nm (rdL s 26 0 a1.2.toNatClampNeg) fun v5 => nm (a1.1 + v5) fun v6 => some (.inl (v6, (a1.2 + 1 : Int32))) else none
def fW_fillsAll (s : tt_St) (x1 : Nat) (x2 : Int64) (x4 : Nat) : Option (tt_St) :=
  (itr (fW_fillsAll_L17 s) tt_fuel ((0 : Int64), (0 : Int32))).bind fun b2 => if b2.1 = (0 : Int64) then if inB (3 : Int32) 7 then nm (wrL s 9 x4 (3 : Int32).toNatClampNeg ((rdL s 9 x4 (3 : Int32).toNatClampNeg) + x2)) fun s21 => some s21 else none else (fT_shares_26_27 s x2).bind fun r8 => (itr (fW_fillsAll_L78 x1 x4) tt_fuel ((0 : Int32), r8)).bind fun b10 => some b10.2
abbrev rmW_fillsAll_7_14 : Room := { frames := 4, cells := 0, slots := 0, locals := 102 }
set_option maxHeartbeats 4000000 in
theorem mW_fillsAll_7_14 (l : Launch) (D : va_G) (dA : Nat → ClassId) (A : Nat → Prop) (b : Bool) (lc : Nat → Nat → Nat) (s : tt_St) (x1 : Nat) (x2 : Int64) (x4 : Nat) (hx1 : lvH b x1) (hx4 : lvF x4) {Q : Option Value → (Nat → Nat → Nat) → tt_St → Prop} (h : Ok (fW_fillsAll s x1 x2 x4) (fun r => Q none lc r)) : tt_Sp (XW l D dA A b) yX2_fillsAll cX2_fillsAll 12 none rmW_fillsAll_7_14 [.ref (lc 0 0), .ref (lc 7 x1), .long x2, .ref (lc 14 x4)] lc s Q := by
  refine tt_Sp.ofV plX2 kokW (Nat.le_of_ble_eq_true rfl) ?_
  show tt_V (XW l D dA A b) cX2_fillsAll (RX2, 12, none, rmW_fillsAll_7_14, tt_nt) (tt_fn (XW l D dA A b) (RX2, 12, none, rmW_fillsAll_7_14, tt_nt) Q) 0 [(0, .ref (lc 0 0)), (1, .ref (lc 7 x1)), (2, .long x2), (4, .ref (lc 14 x4))] [] lc s 0 0
  unfold fW_fillsAll at h
  refine v_lconst dX2_fillsAll_0 kl_0 ?_
  refine v_lstore [(5, .long (0 : Int64)), (0, .ref (lc 0 0)), (1, .ref (lc 7 x1)), (2, .long x2), (4, .ref (lc 14 x4))] dX2_fillsAll_1 (Nat.le_of_ble_eq_true rfl) rfl ?_
  refine v_aload_n 1 dX2_fillsAll_3 rfl ?_
  refine gW_X2_39_0 dX2_fillsAll_4 ?_
  refine v_astore [(7, .ref (lc 26 0)), (5, .long (0 : Int64)), (0, .ref (lc 0 0)), (1, .ref (lc 7 x1)), (2, .long x2), (4, .ref (lc 14 x4))] dX2_fillsAll_7 (Nat.le_of_ble_eq_true rfl) rfl ?_
  refine v_aload 0 dX2_fillsAll_9 rfl ?_
  refine nW_26 dX2_fillsAll_11 ?_
  refine v_istore [(8, .int (12 : Int32)), (7, .ref (lc 26 0)), (5, .long (0 : Int64)), (0, .ref (lc 0 0)), (1, .ref (lc 7 x1)), (2, .long x2), (4, .ref (lc 14 x4))] dX2_fillsAll_12 (Nat.le_of_ble_eq_true rfl) rfl ?_
  refine v_iconst dX2_fillsAll_14 ic_0 ?_
  refine v_istore [(9, .int (0 : Int32)), (8, .int (12 : Int32)), (7, .ref (lc 26 0)), (5, .long (0 : Int64)), (0, .ref (lc 0 0)), (1, .ref (lc 7 x1)), (2, .long x2), (4, .ref (lc 14 x4))] dX2_fillsAll_15 (Nat.le_of_ble_eq_true rfl) rfl ?_
  refine v_sub [4, 5, 6, 7, 3, 2, 1, 0] rfl ?_
  refine itr_loop (P := fun a1 : Int64 × Int32 => tt_V (XW l D dA A b) cX2_fillsAll (RX2, 12, none, rmW_fillsAll_7_14, tt_nt) (tt_fn (XW l D dA A b) (RX2, 12, none, rmW_fillsAll_7_14, tt_nt) Q) 17 [(0, .ref (lc 0 0)), (1, .ref (lc 7 x1)), (2, .long x2), (4, .ref (lc 14 x4)), (5, .long a1.1), (7, .ref (lc 26 0)), (8, .int (12 : Int32)), (9, .int a1.2)] [] lc s 0 0) (PE := fun b2 : Int64 × Int32 => tt_V (XW l D dA A b) cX2_fillsAll (RX2, 12, none, rmW_fillsAll_7_14, tt_nt) (tt_fn (XW l D dA A b) (RX2, 12, none, rmW_fillsAll_7_14, tt_nt) Q) 44 [(0, .ref (lc 0 0)), (1, .ref (lc 7 x1)), (2, .long x2), (4, .ref (lc 14 x4)), (5, .long b2.1), (7, .ref (lc 26 0)), (8, .int (12 : Int32)), (9, .int b2.2)] [] lc s 0 0) h (fun b2 h => ?_) (fun a1 h => ?_)
  · refine v_lload 4 dX2_fillsAll_44 rfl ?_
    refine v_lconst dX2_fillsAll_46 kl_0 ?_
    refine v_lif_ne (tgt := 63) dX2_fillsAll_47 dX2_fillsAll_48 rfl (fun c7 => ?_) (fun c7 => ?_)
    · have h := Ok.neg h c7
      refine v_lload_n 2 dX2_fillsAll_63 rfl ?_
      refine v_aload_n 0 dX2_fillsAll_64 rfl ?_
      refine gW_X2_39_0 dX2_fillsAll_65 ?_
      refine v_aload_n 0 dX2_fillsAll_68 rfl ?_
      refine gW_X2_42_0 dX2_fillsAll_69 ?_
      refine cW_X2_226_26_27 (Ok.bind h) ⟨Nat.le_of_ble_eq_true rfl, Nat.le_of_ble_eq_true rfl⟩ (Nat.le_of_ble_eq_true rfl) dX2_fillsAll_72 (fun r8 h => ?_)
      refine v_iconst dX2_fillsAll_75 ic_0 ?_
      refine v_istore [(7, .int (0 : Int32)), (0, .ref (lc 0 0)), (1, .ref (lc 7 x1)), (2, .long x2), (4, .ref (lc 14 x4)), (5, .long b2.1), (8, .int (12 : Int32)), (9, .int b2.2)] dX2_fillsAll_76 (Nat.le_of_ble_eq_true rfl) rfl ?_
      refine v_sub [1, 2, 4, 0] rfl ?_
      refine itr_loop (P := fun a9 : Int32 × tt_St => tt_V (XW l D dA A b) cX2_fillsAll (RX2, 12, none, rmW_fillsAll_7_14, tt_nt) (tt_fn (XW l D dA A b) (RX2, 12, none, rmW_fillsAll_7_14, tt_nt) Q) 78 [(0, .ref (lc 0 0)), (1, .ref (lc 7 x1)), (4, .ref (lc 14 x4)), (7, .int a9.1)] [] lc a9.2 0 0) (PE := fun b10 : Int32 × tt_St => tt_V (XW l D dA A b) cX2_fillsAll (RX2, 12, none, rmW_fillsAll_7_14, tt_nt) (tt_fn (XW l D dA A b) (RX2, 12, none, rmW_fillsAll_7_14, tt_nt) Q) 130 [(0, .ref (lc 0 0)), (1, .ref (lc 7 x1)), (4, .ref (lc 14 x4)), (7, .int b10.1)] [] lc b10.2 0 0) h (fun b10 h => ?_) (fun a9 h => ?_)
      · have h := Ok.ret h
        exact v_vret rfl (Nat.zero_le _) (Nat.zero_le _) dX2_fillsAll_130 h
      · have h : Ok (fW_fillsAll_L78 x1 x4 a9) _ := h
        unfold fW_fillsAll_L78 at h
        refine v_iload 3 dX2_fillsAll_78 rfl ?_
        refine v_bipush dX2_fillsAll_80 kb_12 ?_
        refine v_icmp_ge (tgt := 130) dX2_fillsAll_82 rfl (fun c11 => ?_) (fun c11 => ?_)
        · have h := Ok.pos h c11
          have h := Ok.ret h
          exact h
        · have h := Ok.neg h c11
          refine v_aload 2 dX2_fillsAll_85 rfl ?_
          refine gW_X2_223_14 hx4 dX2_fillsAll_87 ?_
          refine v_aload_n 0 dX2_fillsAll_90 rfl ?_
          refine v_iload 3 dX2_fillsAll_91 rfl ?_
          refine cW_X2_184_0 (Ok.bind h) ⟨Nat.le_of_ble_eq_true rfl, Nat.le_of_ble_eq_true rfl⟩ (Nat.le_of_ble_eq_true rfl) dX2_fillsAll_93 (fun r12 z_r12 h => ?_)
          have J14 : ∀ t13, t13 = (if r12 = 0 then (2 : Int32) else (3 : Int32)) → tt_V (XW l D dA A b) cX2_fillsAll (RX2, 12, none, rmW_fillsAll_7_14, tt_nt) (tt_fn (XW l D dA A b) (RX2, 12, none, rmW_fillsAll_7_14, tt_nt) Q) 104 [(0, .ref (lc 0 0)), (1, .ref (lc 7 x1)), (4, .ref (lc 14 x4)), (7, .int a9.1)] [.int t13, .ref (lc 9 x4)] lc a9.2 0 0 := fun t13 e_t13 => by
            have h := Ok.nm h e_t13
            refine v_dup2_11 dX2_fillsAll_104 rfl rfl ?_
            obtain ⟨g16, h⟩ := Ok.guard h
            refine lW_9 (.inr hx4) g16 dX2_fillsAll_105 ?_
            refine v_aload_n 0 dX2_fillsAll_106 rfl ?_
            refine v_aload_n 1 dX2_fillsAll_107 rfl ?_
            refine v_iload 3 dX2_fillsAll_108 rfl ?_
            refine v_aload_n 0 dX2_fillsAll_110 rfl ?_
            refine gW_X2_42_0 dX2_fillsAll_111 ?_
            refine v_iload 3 dX2_fillsAll_114 rfl ?_
            obtain ⟨g17, h⟩ := Ok.guard h
            refine lW_27 g17 dX2_fillsAll_116 ?_
            refine v_aload 2 dX2_fillsAll_117 rfl ?_
            refine cW_X2_230_0_7_14 hx1 hx4 (Ok.bind h) ⟨Nat.le_of_ble_eq_true rfl, Nat.le_of_ble_eq_true rfl⟩ (Nat.le_of_ble_eq_true rfl) dX2_fillsAll_119 (fun r18 h => ?_)
            refine v_ladd dX2_fillsAll_122 ?_
            refine sW_9 (.inr hx4) g16 dX2_fillsAll_123 ?_
            refine v_nmS (fun s19 e_s19 => ?_)
            have h := Ok.nm h e_s19
            refine v_iinc (v := (a9.1 + 1 : Int32)) 3 [(7, .int (a9.1 + 1 : Int32)), (0, .ref (lc 0 0)), (1, .ref (lc 7 x1)), (4, .ref (lc 14 x4))] dX2_fillsAll_124 rfl (by rw [ic_1]) (Nat.le_of_ble_eq_true rfl) rfl ?_
            refine v_goto (tgt := 78) dX2_fillsAll_127 rfl ?_
            refine v_sub [1, 2, 3, 0] rfl ?_
            have h := Ok.ret h
            exact h
          refine v_if_eq (tgt := 103) dX2_fillsAll_96 rfl (fun c15 => ?_) (fun c15 => ?_)
          · refine v_iconst dX2_fillsAll_103 ic_2 ?_
            exact J14 _ (by rw [if_pos c15])
          · refine v_iconst dX2_fillsAll_99 ic_3 ?_
            refine v_goto (tgt := 104) dX2_fillsAll_100 rfl ?_
            exact J14 _ (by rw [if_neg c15])
    · have h := Ok.pos h c7
      refine v_aload 3 dX2_fillsAll_51 rfl ?_
      refine gW_X2_223_14 hx4 dX2_fillsAll_53 ?_
      refine v_iconst dX2_fillsAll_56 ic_3 ?_
      refine v_dup2_11 dX2_fillsAll_57 rfl rfl ?_
      obtain ⟨g20, h⟩ := Ok.guard h
      refine lW_9 (.inr hx4) g20 dX2_fillsAll_58 ?_
      refine v_lload_n 2 dX2_fillsAll_59 rfl ?_
      refine v_ladd dX2_fillsAll_60 ?_
      refine sW_9 (.inr hx4) g20 dX2_fillsAll_61 ?_
      refine v_nmS (fun s21 e_s21 => ?_)
      have h := Ok.nm h e_s21
      have h := Ok.ret h
      exact v_vret rfl (Nat.zero_le _) (Nat.zero_le _) dX2_fillsAll_62 h
  · have h : Ok (fW_fillsAll_L17 s a1) _ := h
    unfold fW_fillsAll_L17 at h
    refine v_iload 7 dX2_fillsAll_17 rfl ?_
    refine v_iload 6 dX2_fillsAll_19 rfl ?_
    refine v_icmp_ge (tgt := 44) dX2_fillsAll_21 rfl (fun c3 => ?_) (fun c3 => ?_)
    · have h := Ok.pos h c3
      have h := Ok.ret h
      exact h
    · have h := Ok.neg h c3
      refine v_aload 5 dX2_fillsAll_24 rfl ?_
      refine v_iload 7 dX2_fillsAll_26 rfl ?_
      obtain ⟨g4, h⟩ := Ok.guard h
      refine lW_26 g4 dX2_fillsAll_28 ?_
      refine v_nmL (fun v5 e_v5 => ?_)
      have h := Ok.nm h e_v5
      refine v_lstore [(10, .long v5), (0, .ref (lc 0 0)), (1, .ref (lc 7 x1)), (2, .long x2), (4, .ref (lc 14 x4)), (5, .long a1.1), (7, .ref (lc 26 0)), (8, .int (12 : Int32)), (9, .int a1.2)] dX2_fillsAll_29 (Nat.le_of_ble_eq_true rfl) rfl ?_
      refine v_lload 5 dX2_fillsAll_31 rfl ?_
      refine v_lload 0 dX2_fillsAll_33 rfl ?_
      refine v_ladd dX2_fillsAll_35 ?_
      refine v_nmL (fun v6 e_v6 => ?_)
      have h := Ok.nm h e_v6
      refine v_lstore [(5, .long v6), (10, .long v5), (0, .ref (lc 0 0)), (1, .ref (lc 7 x1)), (2, .long x2), (4, .ref (lc 14 x4)), (7, .ref (lc 26 0)), (8, .int (12 : Int32)), (9, .int a1.2)] dX2_fillsAll_36 (Nat.le_of_ble_eq_true rfl) rfl ?_
      refine v_iinc (v := (a1.2 + 1 : Int32)) 8 [(9, .int (a1.2 + 1 : Int32)), (5, .long v6), (10, .long v5), (0, .ref (lc 0 0)), (1, .ref (lc 7 x1)), (2, .long x2), (4, .ref (lc 14 x4)), (7, .ref (lc 26 0)), (8, .int (12 : Int32))] dX2_fillsAll_38 rfl (by rw [ic_1]) (Nat.le_of_ble_eq_true rfl) rfl ?_
      refine v_goto (tgt := 17) dX2_fillsAll_41 rfl ?_
      refine v_sub [3, 4, 5, 6, 1, 7, 8, 0] rfl ?_
      have h := Ok.ret h
      exact h
theorem cW_X2_252_0_7_14 {l : Launch} {D : va_G} {dA : Nat → ClassId} {A : Nat → Prop} {b : Bool} {lc : Nat → Nat → Nat} {s : tt_St} {cc : ByteArray} {nl : Nat} {rt : Option FieldType} {rm : Room} {tn : tt_Tn} {Q : tt_Fin} {pc : Nat} {lv : List (Nat × Value)} {rest : List Value} {ck cn : Nat} {x1 : Nat} {x2 : Int64} {x4 : Nat} (hx1 : lvH b x1) (hx4 : lvF x4) {K : tt_St → Prop} (h : Ok (fW_fillsAll s x1 x2 x4) K) (hR : 4 + 1 ≤ rm.frames ∧ 8 + (12 + 11) + 102 ≤ rm.locals) (hW : (rest.map fun v => v.category).sum ≤ 8) (d : decode cc pc = .ok (.invokevirtual 252, 3)) (kk : ∀ r, K r → tt_V (XW l D dA A b) cc (RX2, nl, rt, rm, tn) Q (pc + 3) lv rest lc r ck cn) (hf : ck ≤ rm.cells ∧ cn ≤ rm.slots := by exact ⟨Nat.zero_le _, Nat.zero_le _⟩) : tt_V (XW l D dA A b) cc (RX2, nl, rt, rm, tn) Q pc lv (.ref (lc 14 x4) :: .long x2 :: .ref (lc 7 x1) :: .ref (lc 0 0) :: rest) lc s ck cn :=
  v_callV (kd := 0) (i := 0) (nA := 3) (As := [.ref (lc 7 x1), .long x2, .ref (lc 14 x4)]) lvW_0 oW_0 rfl (mW_fillsAll_7_14 l D dA A b lc s x1 x2 x4 hx1 hx4 (Q := (fun v lc' s' => ∃ r, K r ∧ v = none ∧ lc' = lc ∧ s' = r)) (h.mono (fun r hr => ⟨r, hr, rfl, rfl, rfl⟩))) (lw_V q473 q475 qs3 q128 q476) (by decide +kernel) rfl hR hW hf d rfl (fun v lc' s' q => by obtain ⟨r, hr, e1, e2, e3⟩ := q; rw [e1, e2, e3]; exact kk r hr)
def fW_byTime (s : tt_St) (x1 : Nat) (x2 : Int64) (x4 : Nat) : Option (tt_St) :=
  (fW_weighsByTime s x1).bind fun r1 => (fW_fillsAll r1 x1 x2 x4).bind fun r2 => some r2
abbrev rmW_byTime_7_14 : Room := { frames := 5, cells := 0, slots := 0, locals := 133 }
set_option maxHeartbeats 4000000 in
theorem mW_byTime_7_14 (l : Launch) (D : va_G) (dA : Nat → ClassId) (A : Nat → Prop) (b : Bool) (lc : Nat → Nat → Nat) (s : tt_St) (x1 : Nat) (x2 : Int64) (x4 : Nat) (hx1 : lvH b x1) (hx4 : lvF x4) {Q : Option Value → (Nat → Nat → Nat) → tt_St → Prop} (h : Ok (fW_byTime s x1 x2 x4) (fun r => Q none lc r)) : tt_Sp (XW l D dA A b) yX2_byTime cX2_byTime 5 none rmW_byTime_7_14 [.ref (lc 0 0), .ref (lc 7 x1), .long x2, .ref (lc 14 x4)] lc s Q := by
  refine tt_Sp.ofV plX2 kokW (Nat.le_of_ble_eq_true rfl) ?_
  show tt_V (XW l D dA A b) cX2_byTime (RX2, 5, none, rmW_byTime_7_14, tt_nt) (tt_fn (XW l D dA A b) (RX2, 5, none, rmW_byTime_7_14, tt_nt) Q) 0 [(0, .ref (lc 0 0)), (1, .ref (lc 7 x1)), (2, .long x2), (4, .ref (lc 14 x4))] [] lc s 0 0
  unfold fW_byTime at h
  refine v_aload_n 0 dX2_byTime_0 rfl ?_
  refine v_aload_n 1 dX2_byTime_1 rfl ?_
  refine cW_X2_248_0_7 hx1 (Ok.bind h) ⟨Nat.le_of_ble_eq_true rfl, Nat.le_of_ble_eq_true rfl⟩ (Nat.le_of_ble_eq_true rfl) dX2_byTime_2 (fun r1 h => ?_)
  refine v_aload_n 0 dX2_byTime_5 rfl ?_
  refine v_aload_n 1 dX2_byTime_6 rfl ?_
  refine v_lload_n 2 dX2_byTime_7 rfl ?_
  refine v_aload 3 dX2_byTime_8 rfl ?_
  refine cW_X2_252_0_7_14 hx1 hx4 (Ok.bind h) ⟨Nat.le_of_ble_eq_true rfl, Nat.le_of_ble_eq_true rfl⟩ (Nat.le_of_ble_eq_true rfl) dX2_byTime_10 (fun r2 h => ?_)
  have h := Ok.ret h
  exact v_vret rfl (Nat.zero_le _) (Nat.zero_le _) dX2_byTime_13 h
theorem cW_X2_256_0_7 {l : Launch} {D : va_G} {dA : Nat → ClassId} {A : Nat → Prop} {b : Bool} {lc : Nat → Nat → Nat} {s : tt_St} {cc : ByteArray} {nl : Nat} {rt : Option FieldType} {rm : Room} {tn : tt_Tn} {Q : tt_Fin} {pc : Nat} {lv : List (Nat × Value)} {rest : List Value} {ck cn : Nat} {x1 : Nat} (hx1 : lvH b x1) {K : tt_St → Prop} (h : Ok (fW_weighsBySizes s x1) K) (hR : 3 + 1 ≤ rm.frames ∧ 8 + (9 + 11) + 66 ≤ rm.locals) (hW : (rest.map fun v => v.category).sum ≤ 8) (d : decode cc pc = .ok (.invokevirtual 256, 3)) (kk : ∀ r, K r → tt_V (XW l D dA A b) cc (RX2, nl, rt, rm, tn) Q (pc + 3) lv rest lc r ck cn) (hf : ck ≤ rm.cells ∧ cn ≤ rm.slots := by exact ⟨Nat.zero_le _, Nat.zero_le _⟩) : tt_V (XW l D dA A b) cc (RX2, nl, rt, rm, tn) Q pc lv (.ref (lc 7 x1) :: .ref (lc 0 0) :: rest) lc s ck cn :=
  v_callV (kd := 0) (i := 0) (nA := 1) (As := [.ref (lc 7 x1)]) lvW_0 oW_0 rfl (mW_weighsBySizes_7 l D dA A b lc s x1 hx1 (Q := (fun v lc' s' => ∃ r, K r ∧ v = none ∧ lc' = lc ∧ s' = r)) (h.mono (fun r hr => ⟨r, hr, rfl, rfl, rfl⟩))) (lw_V q530 q531 q532 q128 q533) (by decide +kernel) rfl hR hW hf d rfl (fun v lc' s' q => by obtain ⟨r, hr, e1, e2, e3⟩ := q; rw [e1, e2, e3]; exact kk r hr)
def fW_bySizes (s : tt_St) (x1 : Nat) (x2 : Int64) (x4 : Nat) : Option (tt_St) :=
  (fW_weighsBySizes s x1).bind fun r1 => (fW_fillsAll r1 x1 x2 x4).bind fun r2 => some r2
abbrev rmW_bySizes_7_14 : Room := { frames := 5, cells := 0, slots := 0, locals := 133 }
set_option maxHeartbeats 4000000 in
theorem mW_bySizes_7_14 (l : Launch) (D : va_G) (dA : Nat → ClassId) (A : Nat → Prop) (b : Bool) (lc : Nat → Nat → Nat) (s : tt_St) (x1 : Nat) (x2 : Int64) (x4 : Nat) (hx1 : lvH b x1) (hx4 : lvF x4) {Q : Option Value → (Nat → Nat → Nat) → tt_St → Prop} (h : Ok (fW_bySizes s x1 x2 x4) (fun r => Q none lc r)) : tt_Sp (XW l D dA A b) yX2_bySizes cX2_bySizes 5 none rmW_bySizes_7_14 [.ref (lc 0 0), .ref (lc 7 x1), .long x2, .ref (lc 14 x4)] lc s Q := by
  refine tt_Sp.ofV plX2 kokW (Nat.le_of_ble_eq_true rfl) ?_
  show tt_V (XW l D dA A b) cX2_bySizes (RX2, 5, none, rmW_bySizes_7_14, tt_nt) (tt_fn (XW l D dA A b) (RX2, 5, none, rmW_bySizes_7_14, tt_nt) Q) 0 [(0, .ref (lc 0 0)), (1, .ref (lc 7 x1)), (2, .long x2), (4, .ref (lc 14 x4))] [] lc s 0 0
  unfold fW_bySizes at h
  refine v_aload_n 0 dX2_bySizes_0 rfl ?_
  refine v_aload_n 1 dX2_bySizes_1 rfl ?_
  refine cW_X2_256_0_7 hx1 (Ok.bind h) ⟨Nat.le_of_ble_eq_true rfl, Nat.le_of_ble_eq_true rfl⟩ (Nat.le_of_ble_eq_true rfl) dX2_bySizes_2 (fun r1 h => ?_)
  refine v_aload_n 0 dX2_bySizes_5 rfl ?_
  refine v_aload_n 1 dX2_bySizes_6 rfl ?_
  refine v_lload_n 2 dX2_bySizes_7 rfl ?_
  refine v_aload 3 dX2_bySizes_8 rfl ?_
  refine cW_X2_252_0_7_14 hx1 hx4 (Ok.bind h) ⟨Nat.le_of_ble_eq_true rfl, Nat.le_of_ble_eq_true rfl⟩ (Nat.le_of_ble_eq_true rfl) dX2_bySizes_10 (fun r2 h => ?_)
  have h := Ok.ret h
  exact v_vret rfl (Nat.zero_le _) (Nat.zero_le _) dX2_bySizes_13 h
def fW_roomOf_L6 (s : tt_St) (x1 : Nat) (x2 : Int32) (x3 : Nat) (a1 : Int64 × Int32) : Option ((Int64 × Int32) ⊕ (Int64 × Int32)) :=
  if inB x2 12 then if (rdI s 23 0 x2.toNatClampNeg) ≤ a1.2 then some (.inr (a1.1, a1.2)) else (fW_mayGoThrough s x1 x2 a1.2 x3).bind fun r5 => (fW_layerAt s x2 a1.2).bind fun r6 => (fW_can s x1 r6 x3).bind fun r7 => nm (a1.1 + (r5 + r7)) fun v8 => some (.inl (v8, (a1.2 + 1 : Int32))) else none
def fW_roomOf (s : tt_St) (x1 : Nat) (x2 : Int32) (x3 : Nat) : Option (Int64) :=
  (itr (fW_roomOf_L6 s x1 x2 x3) tt_fuel ((0 : Int64), (0 : Int32))).bind fun b2 => some b2.1
abbrev rmW_roomOf_7_14 : Room := { frames := 3, cells := 0, slots := 0, locals := 69 }
set_option maxHeartbeats 4000000 in
theorem mW_roomOf_7_14 (l : Launch) (D : va_G) (dA : Nat → ClassId) (A : Nat → Prop) (b : Bool) (lc : Nat → Nat → Nat) (s : tt_St) (x1 : Nat) (x2 : Int32) (x3 : Nat) (hx1 : lvH b x1) (hx3 : lvF x3) {Q : Option Value → (Nat → Nat → Nat) → tt_St → Prop} (h : Ok (fW_roomOf s x1 x2 x3) (fun r => Q (some (.long r)) lc s)) : tt_Sp (XW l D dA A b) yX2_roomOf cX2_roomOf 7 (some .long) rmW_roomOf_7_14 [.ref (lc 0 0), .ref (lc 7 x1), .int x2, .ref (lc 14 x3)] lc s Q := by
  refine tt_Sp.ofV plX2 kokW (Nat.le_of_ble_eq_true rfl) ?_
  show tt_V (XW l D dA A b) cX2_roomOf (RX2, 7, (some .long), rmW_roomOf_7_14, tt_nt) (tt_fn (XW l D dA A b) (RX2, 7, (some .long), rmW_roomOf_7_14, tt_nt) Q) 0 [(0, .ref (lc 0 0)), (1, .ref (lc 7 x1)), (2, .int x2), (3, .ref (lc 14 x3))] [] lc s 0 0
  unfold fW_roomOf at h
  refine v_lconst dX2_roomOf_0 kl_0 ?_
  refine v_lstore [(4, .long (0 : Int64)), (0, .ref (lc 0 0)), (1, .ref (lc 7 x1)), (2, .int x2), (3, .ref (lc 14 x3))] dX2_roomOf_1 (Nat.le_of_ble_eq_true rfl) rfl ?_
  refine v_iconst dX2_roomOf_3 ic_0 ?_
  refine v_istore [(6, .int (0 : Int32)), (4, .long (0 : Int64)), (0, .ref (lc 0 0)), (1, .ref (lc 7 x1)), (2, .int x2), (3, .ref (lc 14 x3))] dX2_roomOf_4 (Nat.le_of_ble_eq_true rfl) rfl ?_
  refine v_sub [2, 3, 4, 5, 1, 0] rfl ?_
  refine itr_loop (P := fun a1 : Int64 × Int32 => tt_V (XW l D dA A b) cX2_roomOf (RX2, 7, (some .long), rmW_roomOf_7_14, tt_nt) (tt_fn (XW l D dA A b) (RX2, 7, (some .long), rmW_roomOf_7_14, tt_nt) Q) 6 [(0, .ref (lc 0 0)), (1, .ref (lc 7 x1)), (2, .int x2), (3, .ref (lc 14 x3)), (4, .long a1.1), (6, .int a1.2)] [] lc s 0 0) (PE := fun b2 : Int64 × Int32 => tt_V (XW l D dA A b) cX2_roomOf (RX2, 7, (some .long), rmW_roomOf_7_14, tt_nt) (tt_fn (XW l D dA A b) (RX2, 7, (some .long), rmW_roomOf_7_14, tt_nt) Q) 51 [(0, .ref (lc 0 0)), (1, .ref (lc 7 x1)), (2, .int x2), (3, .ref (lc 14 x3)), (4, .long b2.1), (6, .int b2.2)] [] lc s 0 0) h (fun b2 h => ?_) (fun a1 h => ?_)
  · refine v_lload 4 dX2_roomOf_51 rfl ?_
    have h := Ok.ret h
    exact v_lret rfl (Nat.zero_le _) (Nat.zero_le _) dX2_roomOf_53 h
  · have h : Ok (fW_roomOf_L6 s x1 x2 x3 a1) _ := h
    unfold fW_roomOf_L6 at h
    refine v_iload 5 dX2_roomOf_6 rfl ?_
    refine v_aload_n 0 dX2_roomOf_8 rfl ?_
    refine gW_X2_28_0 dX2_roomOf_9 ?_
    refine v_iload_n 2 dX2_roomOf_12 rfl ?_
    obtain ⟨g3, h⟩ := Ok.guard h
    refine lW_23 g3 dX2_roomOf_13 ?_
    refine v_icmp_ge (tgt := 51) dX2_roomOf_14 rfl (fun c4 => ?_) (fun c4 => ?_)
    · have h := Ok.pos h c4
      have h := Ok.ret h
      exact h
    · have h := Ok.neg h c4
      refine v_lload 4 dX2_roomOf_17 rfl ?_
      refine v_aload_n 0 dX2_roomOf_19 rfl ?_
      refine v_aload_n 1 dX2_roomOf_20 rfl ?_
      refine v_iload_n 2 dX2_roomOf_21 rfl ?_
      refine v_iload 5 dX2_roomOf_22 rfl ?_
      refine v_aload_n 3 dX2_roomOf_24 rfl ?_
      refine cW_X2_215_0_7_14 hx1 hx3 (Ok.bind h) ⟨Nat.le_of_ble_eq_true rfl, Nat.le_of_ble_eq_true rfl⟩ (Nat.le_of_ble_eq_true rfl) dX2_roomOf_25 (fun r5 h => ?_)
      refine v_aload_n 0 dX2_roomOf_28 rfl ?_
      refine v_aload_n 1 dX2_roomOf_29 rfl ?_
      refine v_aload_n 0 dX2_roomOf_30 rfl ?_
      refine v_iload_n 2 dX2_roomOf_31 rfl ?_
      refine v_iload 5 dX2_roomOf_32 rfl ?_
      refine cW_X2_140_0 (Ok.bind h) ⟨Nat.le_of_ble_eq_true rfl, Nat.le_of_ble_eq_true rfl⟩ (Nat.le_of_ble_eq_true rfl) dX2_roomOf_34 (fun r6 z_r6 h => ?_)
      refine v_aload_n 3 dX2_roomOf_37 rfl ?_
      refine cW_X2_219_0_7_2_14 hx1 z_r6 hx3 (Ok.bind h) ⟨Nat.le_of_ble_eq_true rfl, Nat.le_of_ble_eq_true rfl⟩ (Nat.le_of_ble_eq_true rfl) dX2_roomOf_38 (fun r7 h => ?_)
      refine v_ladd dX2_roomOf_41 ?_
      refine v_ladd dX2_roomOf_42 ?_
      refine v_nmL (fun v8 e_v8 => ?_)
      have h := Ok.nm h e_v8
      refine v_lstore [(4, .long v8), (0, .ref (lc 0 0)), (1, .ref (lc 7 x1)), (2, .int x2), (3, .ref (lc 14 x3)), (6, .int a1.2)] dX2_roomOf_43 (Nat.le_of_ble_eq_true rfl) rfl ?_
      refine v_iinc (v := (a1.2 + 1 : Int32)) 5 [(6, .int (a1.2 + 1 : Int32)), (4, .long v8), (0, .ref (lc 0 0)), (1, .ref (lc 7 x1)), (2, .int x2), (3, .ref (lc 14 x3))] dX2_roomOf_45 rfl (by rw [ic_1]) (Nat.le_of_ble_eq_true rfl) rfl ?_
      refine v_goto (tgt := 6) dX2_roomOf_48 rfl ?_
      refine v_sub [2, 3, 4, 5, 1, 0] rfl ?_
      have h := Ok.ret h
      exact h
theorem cW_X2_265_0_7_14 {l : Launch} {D : va_G} {dA : Nat → ClassId} {A : Nat → Prop} {b : Bool} {lc : Nat → Nat → Nat} {s : tt_St} {cc : ByteArray} {nl : Nat} {rt : Option FieldType} {rm : Room} {tn : tt_Tn} {Q : tt_Fin} {pc : Nat} {lv : List (Nat × Value)} {rest : List Value} {ck cn : Nat} {x1 : Nat} {x2 : Int32} {x3 : Nat} (hx1 : lvH b x1) (hx3 : lvF x3) {K : Int64 → Prop} (h : Ok (fW_roomOf s x1 x2 x3) K) (hR : 3 + 1 ≤ rm.frames ∧ 8 + (7 + 11) + 69 ≤ rm.locals) (hW : (rest.map fun v => v.category).sum ≤ 8) (d : decode cc pc = .ok (.invokevirtual 265, 3)) (kk : ∀ r, K r → tt_V (XW l D dA A b) cc (RX2, nl, rt, rm, tn) Q (pc + 3) lv (.long r :: rest) lc s ck cn) (hf : ck ≤ rm.cells ∧ cn ≤ rm.slots := by exact ⟨Nat.zero_le _, Nat.zero_le _⟩) : tt_V (XW l D dA A b) cc (RX2, nl, rt, rm, tn) Q pc lv (.ref (lc 14 x3) :: .int x2 :: .ref (lc 7 x1) :: .ref (lc 0 0) :: rest) lc s ck cn :=
  v_callV (kd := 0) (i := 0) (nA := 3) (As := [.ref (lc 7 x1), .int x2, .ref (lc 14 x3)]) lvW_0 oW_0 rfl (mW_roomOf_7_14 l D dA A b lc s x1 x2 x3 hx1 hx3 (Q := (fun v lc' s' => ∃ r, K r ∧ v = some (.long r) ∧ lc' = lc ∧ s' = s)) (h.mono (fun r hr => ⟨r, hr, rfl, rfl, rfl⟩))) (lw_V q557 q559 qs12 q128 q560) (by decide +kernel) rfl hR hW hf d rfl (fun v lc' s' q => by obtain ⟨r, hr, e1, e2, e3⟩ := q; rw [e1, e2, e3]; exact kk r hr)
def fW_upTo_L16 (s : tt_St) (x1 : Int64) (a1 : Int64 × Int32) : Option ((Int64 × Int32) ⊕ (Int64 × Int32)) :=
  if (12 : Int32) ≤ a1.2 then some (.inr (a1.1, a1.2)) else if inB a1.2 12 then nm (rdL s 27 0 a1.2.toNatClampNeg) fun v5 => nm (a1.1 + (if v5 < x1 then v5 else x1)) fun v6 => some (.inl (v6, (a1.2 + 1 : Int32))) else none
def fW_upTo (s : tt_St) (x1 : Int64) : Option (Int64) :=
  (itr (fW_upTo_L16 s x1) tt_fuel ((0 : Int64), (0 : Int32))).bind fun b2 => some b2.1
abbrev rmW_upTo : Room := { frames := 1, cells := 0, slots := 0, locals := 23 }
set_option maxHeartbeats 4000000 in
theorem mW_upTo (l : Launch) (D : va_G) (dA : Nat → ClassId) (A : Nat → Prop) (b : Bool) (lc : Nat → Nat → Nat) (s : tt_St) (x1 : Int64) {Q : Option Value → (Nat → Nat → Nat) → tt_St → Prop} (h : Ok (fW_upTo s x1) (fun r => Q (some (.long r)) lc s)) : tt_Sp (XW l D dA A b) yX2_upTo cX2_upTo 10 (some .long) rmW_upTo [.ref (lc 0 0), .long x1] lc s Q := by
  refine tt_Sp.ofV plX2 kokW (Nat.le_of_ble_eq_true rfl) ?_
  show tt_V (XW l D dA A b) cX2_upTo (RX2, 10, (some .long), rmW_upTo, tt_nt) (tt_fn (XW l D dA A b) (RX2, 10, (some .long), rmW_upTo, tt_nt) Q) 0 [(0, .ref (lc 0 0)), (1, .long x1)] [] lc s 0 0
  unfold fW_upTo at h
  refine v_lconst dX2_upTo_0 kl_0 ?_
  refine v_lstore_n [(3, .long (0 : Int64)), (0, .ref (lc 0 0)), (1, .long x1)] dX2_upTo_1 (Nat.le_of_ble_eq_true rfl) rfl ?_
  refine v_aload_n 1 dX2_upTo_2 rfl ?_
  refine gW_X2_42_0 dX2_upTo_3 ?_
  refine v_astore [(5, .ref (lc 27 0)), (3, .long (0 : Int64)), (0, .ref (lc 0 0)), (1, .long x1)] dX2_upTo_6 (Nat.le_of_ble_eq_true rfl) rfl ?_
  refine v_aload 0 dX2_upTo_8 rfl ?_
  refine nW_27 dX2_upTo_10 ?_
  refine v_istore [(6, .int (12 : Int32)), (5, .ref (lc 27 0)), (3, .long (0 : Int64)), (0, .ref (lc 0 0)), (1, .long x1)] dX2_upTo_11 (Nat.le_of_ble_eq_true rfl) rfl ?_
  refine v_iconst dX2_upTo_13 ic_0 ?_
  refine v_istore [(7, .int (0 : Int32)), (6, .int (12 : Int32)), (5, .ref (lc 27 0)), (3, .long (0 : Int64)), (0, .ref (lc 0 0)), (1, .long x1)] dX2_upTo_14 (Nat.le_of_ble_eq_true rfl) rfl ?_
  refine v_sub [5, 3, 2, 1, 0] rfl ?_
  refine itr_loop (P := fun a1 : Int64 × Int32 => tt_V (XW l D dA A b) cX2_upTo (RX2, 10, (some .long), rmW_upTo, tt_nt) (tt_fn (XW l D dA A b) (RX2, 10, (some .long), rmW_upTo, tt_nt) Q) 16 [(1, .long x1), (3, .long a1.1), (5, .ref (lc 27 0)), (6, .int (12 : Int32)), (7, .int a1.2)] [] lc s 0 0) (PE := fun b2 : Int64 × Int32 => tt_V (XW l D dA A b) cX2_upTo (RX2, 10, (some .long), rmW_upTo, tt_nt) (tt_fn (XW l D dA A b) (RX2, 10, (some .long), rmW_upTo, tt_nt) Q) 45 [(1, .long x1), (3, .long b2.1), (5, .ref (lc 27 0)), (6, .int (12 : Int32)), (7, .int b2.2)] [] lc s 0 0) h (fun b2 h => ?_) (fun a1 h => ?_)
  · refine v_lload_n 1 dX2_upTo_45 rfl ?_
    have h := Ok.ret h
    exact v_lret rfl (Nat.zero_le _) (Nat.zero_le _) dX2_upTo_46 h
  · have h : Ok (fW_upTo_L16 s x1 a1) _ := h
    unfold fW_upTo_L16 at h
    refine v_iload 4 dX2_upTo_16 rfl ?_
    refine v_iload 3 dX2_upTo_18 rfl ?_
    refine v_icmp_ge (tgt := 45) dX2_upTo_20 rfl (fun c3 => ?_) (fun c3 => ?_)
    · have h := Ok.pos h c3
      have h := Ok.ret h
      exact h
    · have h := Ok.neg h c3
      refine v_aload 2 dX2_upTo_23 rfl ?_
      refine v_iload 4 dX2_upTo_25 rfl ?_
      obtain ⟨g4, h⟩ := Ok.guard h
      refine lW_27 g4 dX2_upTo_27 ?_
      refine v_nmL (fun v5 e_v5 => ?_)
      have h := Ok.nm h e_v5
      refine v_lstore [(8, .long v5), (1, .long x1), (3, .long a1.1), (5, .ref (lc 27 0)), (6, .int (12 : Int32)), (7, .int a1.2)] dX2_upTo_28 (Nat.le_of_ble_eq_true rfl) rfl ?_
      refine v_lload_n 2 dX2_upTo_30 rfl ?_
      refine v_lload_n 1 dX2_upTo_31 rfl ?_
      refine v_lload 0 dX2_upTo_32 rfl ?_
      refine v_minL q507 q508 q143 q509 (Nat.le_of_ble_eq_true rfl) (Nat.le_of_ble_eq_true rfl) (Nat.zero_le _) (Nat.zero_le _) dX2_upTo_34 ?_
      refine v_ladd dX2_upTo_37 ?_
      refine v_nmL (fun v6 e_v6 => ?_)
      have h := Ok.nm h e_v6
      refine v_lstore_n [(3, .long v6), (8, .long v5), (1, .long x1), (5, .ref (lc 27 0)), (6, .int (12 : Int32)), (7, .int a1.2)] dX2_upTo_38 (Nat.le_of_ble_eq_true rfl) rfl ?_
      refine v_iinc (v := (a1.2 + 1 : Int32)) 5 [(7, .int (a1.2 + 1 : Int32)), (3, .long v6), (8, .long v5), (1, .long x1), (5, .ref (lc 27 0)), (6, .int (12 : Int32))] dX2_upTo_39 rfl (by rw [ic_1]) (Nat.le_of_ble_eq_true rfl) rfl ?_
      refine v_goto (tgt := 16) dX2_upTo_42 rfl ?_
      refine v_sub [3, 1, 4, 5, 0] rfl ?_
      have h := Ok.ret h
      exact h
theorem cW_X2_310_0 {l : Launch} {D : va_G} {dA : Nat → ClassId} {A : Nat → Prop} {b : Bool} {lc : Nat → Nat → Nat} {s : tt_St} {cc : ByteArray} {nl : Nat} {rt : Option FieldType} {rm : Room} {tn : tt_Tn} {Q : tt_Fin} {pc : Nat} {lv : List (Nat × Value)} {rest : List Value} {ck cn : Nat} {x1 : Int64} {K : Int64 → Prop} (h : Ok (fW_upTo s x1) K) (hR : 1 + 1 ≤ rm.frames ∧ 8 + (10 + 11) + 23 ≤ rm.locals) (hW : (rest.map fun v => v.category).sum ≤ 8) (d : decode cc pc = .ok (.invokevirtual 310, 3)) (kk : ∀ r, K r → tt_V (XW l D dA A b) cc (RX2, nl, rt, rm, tn) Q (pc + 3) lv (.long r :: rest) lc s ck cn) (hf : ck ≤ rm.cells ∧ cn ≤ rm.slots := by exact ⟨Nat.zero_le _, Nat.zero_le _⟩) : tt_V (XW l D dA A b) cc (RX2, nl, rt, rm, tn) Q pc lv (.long x1 :: .ref (lc 0 0) :: rest) lc s ck cn :=
  v_callV (kd := 0) (i := 0) (nA := 1) (As := [.long x1]) lvW_0 oW_0 rfl (mW_upTo l D dA A b lc s x1 (Q := (fun v lc' s' => ∃ r, K r ∧ v = some (.long r) ∧ lc' = lc ∧ s' = s)) (h.mono (fun r hr => ⟨r, hr, rfl, rfl, rfl⟩))) (lw_V q722 q724 qs17 q128 q725) (by decide +kernel) rfl hR hW hf d rfl (fun v lc' s' q => by obtain ⟨r, hr, e1, e2, e3⟩ := q; rw [e1, e2, e3]; exact kk r hr)
def fW_byLevel_L129 (x1 : Nat) (x4 : Nat) (b12 : Int64 × Int64) (a20 : Int64 × Int32 × tt_St) : Option ((Int64 × Int32 × tt_St) ⊕ (Int64 × Int32 × tt_St)) :=
  if (12 : Int32) ≤ a20.2.1 then some (.inr (a20.1, a20.2.1, a20.2.2)) else (if a20.1 ≤ (0 : Int64) then some (0 : Int32) else if inB a20.2.1 12 then if (rdL a20.2.2 27 0 a20.2.1.toNatClampNeg) ≤ b12.1 then some (0 : Int32) else some (1 : Int32) else none : Option (Int32)).bind fun t23 => if inB a20.2.1 12 then nm (if t23 = 0 then (0 : Int64) else (1 : Int64)) fun t28 => (fW_fills a20.2.2 x1 a20.2.1 ((if (rdL a20.2.2 27 0 a20.2.1.toNatClampNeg) < b12.1 then (rdL a20.2.2 27 0 a20.2.1.toNatClampNeg) else b12.1) + t28) x4).bind fun r31 => if t23 = 0 then nm (a20.1 - (0 : Int64)) fun v33 => some (.inl (v33, (a20.2.1 + 1 : Int32), r31.2)) else nm (a20.1 - (1 : Int64)) fun v34 => some (.inl (v34, (a20.2.1 + 1 : Int32), r31.2)) else none
def fW_byLevel_L68 (x2 : Int64) (b2 : Int32 × Int32 × tt_St) (a11 : Int64 × Int64) : Option ((Int64 × Int64) ⊕ (Int64 × Int64)) :=
  if a11.2 ≤ a11.1 then some (.inr (a11.1, a11.2)) else nm (((a11.1 + a11.2) + (1 : Int64)) / (2 : Int64)) fun v14 => (fW_upTo b2.2.2 v14).bind fun r15 => if x2 < r15 then nm (v14 - (1 : Int64)) fun v17 => some (.inl (a11.1, v17)) else some (.inl (v14, a11.2))
def fW_byLevel_L6 (x1 : Nat) (x4 : Nat) (a1 : Int32 × Int32 × tt_St) : Option ((Int32 × Int32 × tt_St) ⊕ (Int32 × Int32 × tt_St)) :=
  if (12 : Int32) ≤ a1.2.1 then some (.inr (a1.1, a1.2.1, a1.2.2)) else (fW_hasTower a1.2.2 x1 a1.2.1).bind fun r4 => (if r4 = 0 then some (0 : Int64) else (fW_roomOf a1.2.2 x1 a1.2.1 x4).bind fun r7 => some r7 : Option (Int64)).bind fun t5 => if inB a1.2.1 12 then nm (wrL a1.2.2 27 0 a1.2.1.toNatClampNeg t5) fun s9 => nm (a1.1 ||| r4) fun v10 => some (.inl (v10, (a1.2.1 + 1 : Int32), s9)) else none
def fW_byLevel (s : tt_St) (x1 : Nat) (x2 : Int64) (x4 : Nat) : Option (tt_St) :=
  (itr (fW_byLevel_L6 x1 x4) tt_fuel ((0 : Int32), (0 : Int32), s)).bind fun b2 => (itr (fW_byLevel_L68 x2 b2) tt_fuel ((0 : Int64), (2000000000 : Int64))).bind fun b12 => (fW_upTo b2.2.2 b12.1).bind fun r18 => nm (x2 - r18) fun v19 => (itr (fW_byLevel_L129 x1 x4 b12) tt_fuel (v19, (0 : Int32), b2.2.2)).bind fun b21 => nm (if b2.1 = 0 then (3 : Int32) else (2 : Int32)) fun t35 => if inB t35 7 then nm (wrL b21.2.2 9 x4 t35.toNatClampNeg ((rdL b21.2.2 9 x4 t35.toNatClampNeg) + b21.1)) fun s39 => some s39 else none
abbrev rmW_byLevel_7_14 : Room := { frames := 4, cells := 0, slots := 0, locals := 102 }
set_option maxHeartbeats 4000000 in
theorem mW_byLevel_7_14 (l : Launch) (D : va_G) (dA : Nat → ClassId) (A : Nat → Prop) (b : Bool) (lc : Nat → Nat → Nat) (s : tt_St) (x1 : Nat) (x2 : Int64) (x4 : Nat) (hx1 : lvH b x1) (hx4 : lvF x4) {Q : Option Value → (Nat → Nat → Nat) → tt_St → Prop} (h : Ok (fW_byLevel s x1 x2 x4) (fun r => Q none lc r)) : tt_Sp (XW l D dA A b) yX2_byLevel cX2_byLevel 14 none rmW_byLevel_7_14 [.ref (lc 0 0), .ref (lc 7 x1), .long x2, .ref (lc 14 x4)] lc s Q := by
  refine tt_Sp.ofV plX2 kokW (Nat.le_of_ble_eq_true rfl) ?_
  show tt_V (XW l D dA A b) cX2_byLevel (RX2, 14, none, rmW_byLevel_7_14, tt_nt) (tt_fn (XW l D dA A b) (RX2, 14, none, rmW_byLevel_7_14, tt_nt) Q) 0 [(0, .ref (lc 0 0)), (1, .ref (lc 7 x1)), (2, .long x2), (4, .ref (lc 14 x4))] [] lc s 0 0
  unfold fW_byLevel at h
  refine v_iconst dX2_byLevel_0 ic_0 ?_
  refine v_istore [(5, .int (0 : Int32)), (0, .ref (lc 0 0)), (1, .ref (lc 7 x1)), (2, .long x2), (4, .ref (lc 14 x4))] dX2_byLevel_1 (Nat.le_of_ble_eq_true rfl) rfl ?_
  refine v_iconst dX2_byLevel_3 ic_0 ?_
  refine v_istore [(6, .int (0 : Int32)), (5, .int (0 : Int32)), (0, .ref (lc 0 0)), (1, .ref (lc 7 x1)), (2, .long x2), (4, .ref (lc 14 x4))] dX2_byLevel_4 (Nat.le_of_ble_eq_true rfl) rfl ?_
  refine v_sub [2, 3, 4, 5, 1, 0] rfl ?_
  refine itr_loop (P := fun a1 : Int32 × Int32 × tt_St => tt_V (XW l D dA A b) cX2_byLevel (RX2, 14, none, rmW_byLevel_7_14, tt_nt) (tt_fn (XW l D dA A b) (RX2, 14, none, rmW_byLevel_7_14, tt_nt) Q) 6 [(0, .ref (lc 0 0)), (1, .ref (lc 7 x1)), (2, .long x2), (4, .ref (lc 14 x4)), (5, .int a1.1), (6, .int a1.2.1)] [] lc a1.2.2 0 0) (PE := fun b2 : Int32 × Int32 × tt_St => tt_V (XW l D dA A b) cX2_byLevel (RX2, 14, none, rmW_byLevel_7_14, tt_nt) (tt_fn (XW l D dA A b) (RX2, 14, none, rmW_byLevel_7_14, tt_nt) Q) 60 [(0, .ref (lc 0 0)), (1, .ref (lc 7 x1)), (2, .long x2), (4, .ref (lc 14 x4)), (5, .int b2.1), (6, .int b2.2.1)] [] lc b2.2.2 0 0) h (fun b2 h => ?_) (fun a1 h => ?_)
  · refine v_lconst dX2_byLevel_60 kl_0 ?_
    refine v_lstore [(6, .long (0 : Int64)), (0, .ref (lc 0 0)), (1, .ref (lc 7 x1)), (2, .long x2), (4, .ref (lc 14 x4)), (5, .int b2.1)] dX2_byLevel_61 (Nat.le_of_ble_eq_true rfl) rfl ?_
    refine v_ldc2 dX2_byLevel_63 q720 ?_
    refine v_lstore [(8, .long (2000000000 : Int64)), (6, .long (0 : Int64)), (0, .ref (lc 0 0)), (1, .ref (lc 7 x1)), (2, .long x2), (4, .ref (lc 14 x4)), (5, .int b2.1)] dX2_byLevel_66 (Nat.le_of_ble_eq_true rfl) rfl ?_
    refine v_sub [2, 3, 4, 5, 6, 1, 0] rfl ?_
    refine itr_loop (P := fun a11 : Int64 × Int64 => tt_V (XW l D dA A b) cX2_byLevel (RX2, 14, none, rmW_byLevel_7_14, tt_nt) (tt_fn (XW l D dA A b) (RX2, 14, none, rmW_byLevel_7_14, tt_nt) Q) 68 [(0, .ref (lc 0 0)), (1, .ref (lc 7 x1)), (2, .long x2), (4, .ref (lc 14 x4)), (5, .int b2.1), (6, .long a11.1), (8, .long a11.2)] [] lc b2.2.2 0 0) (PE := fun b12 : Int64 × Int64 => tt_V (XW l D dA A b) cX2_byLevel (RX2, 14, none, rmW_byLevel_7_14, tt_nt) (tt_fn (XW l D dA A b) (RX2, 14, none, rmW_byLevel_7_14, tt_nt) Q) 116 [(0, .ref (lc 0 0)), (1, .ref (lc 7 x1)), (2, .long x2), (4, .ref (lc 14 x4)), (5, .int b2.1), (6, .long b12.1), (8, .long b12.2)] [] lc b2.2.2 0 0) h (fun b12 h => ?_) (fun a11 h => ?_)
    · refine v_lload_n 2 dX2_byLevel_116 rfl ?_
      refine v_aload_n 0 dX2_byLevel_117 rfl ?_
      refine v_lload 5 dX2_byLevel_118 rfl ?_
      refine cW_X2_310_0 (Ok.bind h) ⟨Nat.le_of_ble_eq_true rfl, Nat.le_of_ble_eq_true rfl⟩ (Nat.le_of_ble_eq_true rfl) dX2_byLevel_120 (fun r18 h => ?_)
      refine v_lsub dX2_byLevel_123 ?_
      refine v_nmL (fun v19 e_v19 => ?_)
      have h := Ok.nm h e_v19
      refine v_lstore [(10, .long v19), (0, .ref (lc 0 0)), (1, .ref (lc 7 x1)), (2, .long x2), (4, .ref (lc 14 x4)), (5, .int b2.1), (6, .long b12.1), (8, .long b12.2)] dX2_byLevel_124 (Nat.le_of_ble_eq_true rfl) rfl ?_
      refine v_iconst dX2_byLevel_126 ic_0 ?_
      refine v_istore [(12, .int (0 : Int32)), (10, .long v19), (0, .ref (lc 0 0)), (1, .ref (lc 7 x1)), (2, .long x2), (4, .ref (lc 14 x4)), (5, .int b2.1), (6, .long b12.1), (8, .long b12.2)] dX2_byLevel_127 (Nat.le_of_ble_eq_true rfl) rfl ?_
      refine v_sub [2, 3, 5, 6, 7, 1, 0] rfl ?_
      refine itr_loop (P := fun a20 : Int64 × Int32 × tt_St => tt_V (XW l D dA A b) cX2_byLevel (RX2, 14, none, rmW_byLevel_7_14, tt_nt) (tt_fn (XW l D dA A b) (RX2, 14, none, rmW_byLevel_7_14, tt_nt) Q) 129 [(0, .ref (lc 0 0)), (1, .ref (lc 7 x1)), (4, .ref (lc 14 x4)), (5, .int b2.1), (6, .long b12.1), (10, .long a20.1), (12, .int a20.2.1)] [] lc a20.2.2 0 0) (PE := fun b21 : Int64 × Int32 × tt_St => tt_V (XW l D dA A b) cX2_byLevel (RX2, 14, none, rmW_byLevel_7_14, tt_nt) (tt_fn (XW l D dA A b) (RX2, 14, none, rmW_byLevel_7_14, tt_nt) Q) 217 [(0, .ref (lc 0 0)), (1, .ref (lc 7 x1)), (4, .ref (lc 14 x4)), (5, .int b2.1), (6, .long b12.1), (10, .long b21.1), (12, .int b21.2.1)] [] lc b21.2.2 0 0) h (fun b21 h => ?_) (fun a20 h => ?_)
      · refine v_aload 2 dX2_byLevel_217 rfl ?_
        refine gW_X2_223_14 hx4 dX2_byLevel_219 ?_
        refine v_iload 3 dX2_byLevel_222 rfl ?_
        have J36 : ∀ t35, t35 = (if b2.1 = 0 then (3 : Int32) else (2 : Int32)) → tt_V (XW l D dA A b) cX2_byLevel (RX2, 14, none, rmW_byLevel_7_14, tt_nt) (tt_fn (XW l D dA A b) (RX2, 14, none, rmW_byLevel_7_14, tt_nt) Q) 232 [(10, .long b21.1)] [.int t35, .ref (lc 9 x4)] lc b21.2.2 0 0 := fun t35 e_t35 => by
          have h := Ok.nm h e_t35
          refine v_dup2_11 dX2_byLevel_232 rfl rfl ?_
          obtain ⟨g38, h⟩ := Ok.guard h
          refine lW_9 (.inr hx4) g38 dX2_byLevel_233 ?_
          refine v_lload 0 dX2_byLevel_234 rfl ?_
          refine v_ladd dX2_byLevel_236 ?_
          refine sW_9 (.inr hx4) g38 dX2_byLevel_237 ?_
          refine v_nmS (fun s39 e_s39 => ?_)
          have h := Ok.nm h e_s39
          have h := Ok.ret h
          exact v_vret rfl (Nat.zero_le _) (Nat.zero_le _) dX2_byLevel_238 h
        refine v_if_eq (tgt := 231) dX2_byLevel_224 rfl (fun c37 => ?_) (fun c37 => ?_)
        · refine v_iconst dX2_byLevel_231 ic_3 ?_
          refine v_sub [5] rfl ?_
          exact J36 _ (by rw [if_pos c37])
        · refine v_iconst dX2_byLevel_227 ic_2 ?_
          refine v_goto (tgt := 232) dX2_byLevel_228 rfl ?_
          refine v_sub [5] rfl ?_
          exact J36 _ (by rw [if_neg c37])
      · have h : Ok (fW_byLevel_L129 x1 x4 b12 a20) _ := h
        unfold fW_byLevel_L129 at h
        refine v_iload 6 dX2_byLevel_129 rfl ?_
        refine v_bipush dX2_byLevel_131 kb_12 ?_
        refine v_icmp_ge (tgt := 217) dX2_byLevel_133 rfl (fun c22 => ?_) (fun c22 => ?_)
        · have h := Ok.pos h c22
          have h := Ok.ret h
          exact h
        · have h := Ok.neg h c22
          refine v_lload 5 dX2_byLevel_136 rfl ?_
          refine v_lconst dX2_byLevel_138 kl_0 ?_
          have h := Ok.join (PJ := fun t23 : Int32 => tt_V (XW l D dA A b) cX2_byLevel (RX2, 14, none, rmW_byLevel_7_14, tt_nt) (tt_fn (XW l D dA A b) (RX2, 14, none, rmW_byLevel_7_14, tt_nt) Q) 161 [(0, .ref (lc 0 0)), (1, .ref (lc 7 x1)), (4, .ref (lc 14 x4)), (5, .int b2.1), (6, .long b12.1), (10, .long a20.1), (12, .int a20.2.1)] [.int t23] lc a20.2.2 0 0) h (fun t23 h => by
            refine v_istore [(13, .int t23), (0, .ref (lc 0 0)), (1, .ref (lc 7 x1)), (4, .ref (lc 14 x4)), (5, .int b2.1), (6, .long b12.1), (10, .long a20.1), (12, .int a20.2.1)] dX2_byLevel_161 (Nat.le_of_ble_eq_true rfl) rfl ?_
            refine v_aload_n 1 dX2_byLevel_163 rfl ?_
            refine v_aload_n 2 dX2_byLevel_164 rfl ?_
            refine v_iload 7 dX2_byLevel_165 rfl ?_
            refine v_lload 5 dX2_byLevel_167 rfl ?_
            refine v_aload_n 1 dX2_byLevel_169 rfl ?_
            refine gW_X2_42_0 dX2_byLevel_170 ?_
            refine v_iload 7 dX2_byLevel_173 rfl ?_
            obtain ⟨g27, h⟩ := Ok.guard h
            refine lW_27 g27 dX2_byLevel_175 ?_
            refine v_minL q507 q508 q143 q509 (Nat.le_of_ble_eq_true rfl) (Nat.le_of_ble_eq_true rfl) (Nat.zero_le _) (Nat.zero_le _) dX2_byLevel_176 ?_
            refine v_iload 0 dX2_byLevel_179 rfl ?_
            have J29 : ∀ t28, t28 = (if t23 = 0 then (0 : Int64) else (1 : Int64)) → tt_V (XW l D dA A b) cX2_byLevel (RX2, 14, none, rmW_byLevel_7_14, tt_nt) (tt_fn (XW l D dA A b) (RX2, 14, none, rmW_byLevel_7_14, tt_nt) Q) 189 [(0, .ref (lc 0 0)), (1, .ref (lc 7 x1)), (4, .ref (lc 14 x4)), (5, .int b2.1), (6, .long b12.1), (10, .long a20.1), (12, .int a20.2.1), (13, .int t23)] [.long t28, .long (if (rdL a20.2.2 27 0 a20.2.1.toNatClampNeg) < b12.1 then (rdL a20.2.2 27 0 a20.2.1.toNatClampNeg) else b12.1), .int a20.2.1, .ref (lc 7 x1), .ref (lc 0 0)] lc a20.2.2 0 0 := fun t28 e_t28 => by
              have h := Ok.nm h e_t28
              refine v_ladd dX2_byLevel_189 ?_
              refine v_aload 2 dX2_byLevel_190 rfl ?_
              refine cW_X2_230_0_7_14 hx1 hx4 (Ok.bind h) ⟨Nat.le_of_ble_eq_true rfl, Nat.le_of_ble_eq_true rfl⟩ (Nat.le_of_ble_eq_true rfl) dX2_byLevel_192 (fun r31 h => ?_)
              refine v_pop2_2 dX2_byLevel_195 rfl ?_
              refine v_lload 5 dX2_byLevel_196 rfl ?_
              refine v_iload 7 dX2_byLevel_198 rfl ?_
              refine v_if_eq (tgt := 207) dX2_byLevel_200 rfl (fun c32 => ?_) (fun c32 => ?_)
              · have h := Ok.pos h c32
                refine v_lconst dX2_byLevel_207 kl_0 ?_
                refine v_lsub dX2_byLevel_208 ?_
                refine v_nmL (fun v33 e_v33 => ?_)
                have h := Ok.nm h e_v33
                refine v_lstore [(10, .long v33), (0, .ref (lc 0 0)), (1, .ref (lc 7 x1)), (4, .ref (lc 14 x4)), (5, .int b2.1), (6, .long b12.1), (12, .int a20.2.1), (13, .int t23)] dX2_byLevel_209 (Nat.le_of_ble_eq_true rfl) rfl ?_
                refine v_iinc (v := (a20.2.1 + 1 : Int32)) 6 [(12, .int (a20.2.1 + 1 : Int32)), (10, .long v33), (0, .ref (lc 0 0)), (1, .ref (lc 7 x1)), (4, .ref (lc 14 x4)), (5, .int b2.1), (6, .long b12.1), (13, .int t23)] dX2_byLevel_211 rfl (by rw [ic_1]) (Nat.le_of_ble_eq_true rfl) rfl ?_
                refine v_goto (tgt := 129) dX2_byLevel_214 rfl ?_
                refine v_sub [2, 3, 4, 5, 6, 1, 0] rfl ?_
                have h := Ok.ret h
                exact h
              · have h := Ok.neg h c32
                refine v_lconst dX2_byLevel_203 kl_1 ?_
                refine v_goto (tgt := 208) dX2_byLevel_204 rfl ?_
                refine v_lsub dX2_byLevel_208 ?_
                refine v_nmL (fun v34 e_v34 => ?_)
                have h := Ok.nm h e_v34
                refine v_lstore [(10, .long v34), (0, .ref (lc 0 0)), (1, .ref (lc 7 x1)), (4, .ref (lc 14 x4)), (5, .int b2.1), (6, .long b12.1), (12, .int a20.2.1), (13, .int t23)] dX2_byLevel_209 (Nat.le_of_ble_eq_true rfl) rfl ?_
                refine v_iinc (v := (a20.2.1 + 1 : Int32)) 6 [(12, .int (a20.2.1 + 1 : Int32)), (10, .long v34), (0, .ref (lc 0 0)), (1, .ref (lc 7 x1)), (4, .ref (lc 14 x4)), (5, .int b2.1), (6, .long b12.1), (13, .int t23)] dX2_byLevel_211 rfl (by rw [ic_1]) (Nat.le_of_ble_eq_true rfl) rfl ?_
                refine v_goto (tgt := 129) dX2_byLevel_214 rfl ?_
                refine v_sub [2, 3, 4, 5, 6, 1, 0] rfl ?_
                have h := Ok.ret h
                exact h
            refine v_if_eq (tgt := 188) dX2_byLevel_181 rfl (fun c30 => ?_) (fun c30 => ?_)
            · refine v_lconst dX2_byLevel_188 kl_0 ?_
              refine v_sub [1, 2, 3, 4, 5, 6, 7, 0] rfl ?_
              exact J29 _ (by rw [if_pos c30])
            · refine v_lconst dX2_byLevel_184 kl_1 ?_
              refine v_goto (tgt := 189) dX2_byLevel_185 rfl ?_
              refine v_sub [1, 2, 3, 4, 5, 6, 7, 0] rfl ?_
              exact J29 _ (by rw [if_neg c30]))
          refine v_lif_le (tgt := 160) dX2_byLevel_139 dX2_byLevel_140 rfl (fun c24 => ?_) (fun c24 => ?_)
          · have h := Ok.pos h c24
            refine v_iconst dX2_byLevel_160 ic_0 ?_
            have h := Ok.ret h
            exact h
          · have h := Ok.neg h c24
            refine v_aload_n 0 dX2_byLevel_143 rfl ?_
            refine gW_X2_42_0 dX2_byLevel_144 ?_
            refine v_iload 6 dX2_byLevel_147 rfl ?_
            obtain ⟨g25, h⟩ := Ok.guard h
            refine lW_27 g25 dX2_byLevel_149 ?_
            refine v_lload 4 dX2_byLevel_150 rfl ?_
            refine v_lif_le (tgt := 160) dX2_byLevel_152 dX2_byLevel_153 rfl (fun c26 => ?_) (fun c26 => ?_)
            · have h := Ok.pos h c26
              refine v_iconst dX2_byLevel_160 ic_0 ?_
              have h := Ok.ret h
              exact h
            · have h := Ok.neg h c26
              refine v_iconst dX2_byLevel_156 ic_1 ?_
              refine v_goto (tgt := 161) dX2_byLevel_157 rfl ?_
              have h := Ok.ret h
              exact h
    · have h : Ok (fW_byLevel_L68 x2 b2 a11) _ := h
      unfold fW_byLevel_L68 at h
      refine v_lload 5 dX2_byLevel_68 rfl ?_
      refine v_lload 6 dX2_byLevel_70 rfl ?_
      refine v_lif_ge (tgt := 116) dX2_byLevel_72 dX2_byLevel_73 rfl (fun c13 => ?_) (fun c13 => ?_)
      · have h := Ok.pos h c13
        have h := Ok.ret h
        exact h
      · have h := Ok.neg h c13
        refine v_lload 5 dX2_byLevel_76 rfl ?_
        refine v_lload 6 dX2_byLevel_78 rfl ?_
        refine v_ladd dX2_byLevel_80 ?_
        refine v_lconst dX2_byLevel_81 kl_1 ?_
        refine v_ladd dX2_byLevel_82 ?_
        refine v_ldc2 dX2_byLevel_83 q721 ?_
        refine v_ldiv dX2_byLevel_86 (by decide) ?_
        refine v_nmL (fun v14 e_v14 => ?_)
        have h := Ok.nm h e_v14
        refine v_lstore [(10, .long v14), (0, .ref (lc 0 0)), (1, .ref (lc 7 x1)), (2, .long x2), (4, .ref (lc 14 x4)), (5, .int b2.1), (6, .long a11.1), (8, .long a11.2)] dX2_byLevel_87 (Nat.le_of_ble_eq_true rfl) rfl ?_
        refine v_aload_n 1 dX2_byLevel_89 rfl ?_
        refine v_lload 0 dX2_byLevel_90 rfl ?_
        refine cW_X2_310_0 (Ok.bind h) ⟨Nat.le_of_ble_eq_true rfl, Nat.le_of_ble_eq_true rfl⟩ (Nat.le_of_ble_eq_true rfl) dX2_byLevel_92 (fun r15 h => ?_)
        refine v_lload_n 3 dX2_byLevel_95 rfl ?_
        refine v_lif_gt (tgt := 107) dX2_byLevel_96 dX2_byLevel_97 rfl (fun c16 => ?_) (fun c16 => ?_)
        · have h := Ok.pos h c16
          refine v_lload 0 dX2_byLevel_107 rfl ?_
          refine v_lconst dX2_byLevel_109 kl_1 ?_
          refine v_lsub dX2_byLevel_110 ?_
          refine v_nmL (fun v17 e_v17 => ?_)
          have h := Ok.nm h e_v17
          refine v_lstore [(8, .long v17), (10, .long v14), (0, .ref (lc 0 0)), (1, .ref (lc 7 x1)), (2, .long x2), (4, .ref (lc 14 x4)), (5, .int b2.1), (6, .long a11.1)] dX2_byLevel_111 (Nat.le_of_ble_eq_true rfl) rfl ?_
          refine v_goto (tgt := 68) dX2_byLevel_113 rfl ?_
          refine v_sub [2, 3, 4, 5, 6, 7, 0] rfl ?_
          have h := Ok.ret h
          exact h
        · have h := Ok.neg h c16
          refine v_lload 0 dX2_byLevel_100 rfl ?_
          refine v_lstore [(6, .long v14), (10, .long v14), (0, .ref (lc 0 0)), (1, .ref (lc 7 x1)), (2, .long x2), (4, .ref (lc 14 x4)), (5, .int b2.1), (8, .long a11.2)] dX2_byLevel_102 (Nat.le_of_ble_eq_true rfl) rfl ?_
          refine v_goto (tgt := 113) dX2_byLevel_104 rfl ?_
          refine v_goto (tgt := 68) dX2_byLevel_113 rfl ?_
          refine v_sub [2, 3, 4, 5, 6, 0, 7] rfl ?_
          have h := Ok.ret h
          exact h
  · have h : Ok (fW_byLevel_L6 x1 x4 a1) _ := h
    unfold fW_byLevel_L6 at h
    refine v_iload 5 dX2_byLevel_6 rfl ?_
    refine v_bipush dX2_byLevel_8 kb_12 ?_
    refine v_icmp_ge (tgt := 60) dX2_byLevel_10 rfl (fun c3 => ?_) (fun c3 => ?_)
    · have h := Ok.pos h c3
      have h := Ok.ret h
      exact h
    · have h := Ok.neg h c3
      refine v_aload_n 0 dX2_byLevel_13 rfl ?_
      refine v_aload_n 1 dX2_byLevel_14 rfl ?_
      refine v_iload 5 dX2_byLevel_15 rfl ?_
      refine cW_X2_241_0_7 hx1 (Ok.bind h) ⟨Nat.le_of_ble_eq_true rfl, Nat.le_of_ble_eq_true rfl⟩ (Nat.le_of_ble_eq_true rfl) dX2_byLevel_17 (fun r4 z_r4 h => ?_)
      refine v_istore [(7, .int r4), (0, .ref (lc 0 0)), (1, .ref (lc 7 x1)), (2, .long x2), (4, .ref (lc 14 x4)), (5, .int a1.1), (6, .int a1.2.1)] dX2_byLevel_20 (Nat.le_of_ble_eq_true rfl) rfl ?_
      refine v_aload_n 1 dX2_byLevel_22 rfl ?_
      refine gW_X2_42_0 dX2_byLevel_23 ?_
      refine v_iload 6 dX2_byLevel_26 rfl ?_
      refine v_iload 0 dX2_byLevel_28 rfl ?_
      have h := Ok.join (PJ := fun t5 : Int64 => tt_V (XW l D dA A b) cX2_byLevel (RX2, 14, none, rmW_byLevel_7_14, tt_nt) (tt_fn (XW l D dA A b) (RX2, 14, none, rmW_byLevel_7_14, tt_nt) Q) 46 [(0, .ref (lc 0 0)), (1, .ref (lc 7 x1)), (2, .long x2), (4, .ref (lc 14 x4)), (5, .int a1.1), (6, .int a1.2.1), (7, .int r4)] [.long t5, .int a1.2.1, .ref (lc 27 0)] lc a1.2.2 0 0) h (fun t5 h => by
        obtain ⟨g8, h⟩ := Ok.guard h
        refine sW_27 g8 dX2_byLevel_46 ?_
        refine v_nmS (fun s9 e_s9 => ?_)
        have h := Ok.nm h e_s9
        refine v_iload 4 dX2_byLevel_47 rfl ?_
        refine v_iload 6 dX2_byLevel_49 rfl ?_
        refine v_ior dX2_byLevel_51 ?_
        refine v_nmI (fun v10 e_v10 => ?_)
        have h := Ok.nm h e_v10
        refine v_istore [(5, .int v10), (0, .ref (lc 0 0)), (1, .ref (lc 7 x1)), (2, .long x2), (4, .ref (lc 14 x4)), (6, .int a1.2.1), (7, .int r4)] dX2_byLevel_52 (Nat.le_of_ble_eq_true rfl) rfl ?_
        refine v_iinc (v := (a1.2.1 + 1 : Int32)) 5 [(6, .int (a1.2.1 + 1 : Int32)), (5, .int v10), (0, .ref (lc 0 0)), (1, .ref (lc 7 x1)), (2, .long x2), (4, .ref (lc 14 x4)), (7, .int r4)] dX2_byLevel_54 rfl (by rw [ic_1]) (Nat.le_of_ble_eq_true rfl) rfl ?_
        refine v_goto (tgt := 6) dX2_byLevel_57 rfl ?_
        refine v_sub [2, 3, 4, 5, 1, 0] rfl ?_
        have h := Ok.ret h
        exact h)
      refine v_if_eq (tgt := 45) dX2_byLevel_30 rfl (fun c6 => ?_) (fun c6 => ?_)
      · have h := Ok.pos h c6
        refine v_lconst dX2_byLevel_45 kl_0 ?_
        refine v_sub [1, 2, 3, 4, 5, 6, 0] rfl ?_
        have h := Ok.ret h
        exact h
      · have h := Ok.neg h c6
        refine v_aload_n 1 dX2_byLevel_33 rfl ?_
        refine v_aload_n 2 dX2_byLevel_34 rfl ?_
        refine v_iload 6 dX2_byLevel_35 rfl ?_
        refine v_aload 4 dX2_byLevel_37 rfl ?_
        refine cW_X2_265_0_7_14 hx1 hx4 (Ok.bind h) ⟨Nat.le_of_ble_eq_true rfl, Nat.le_of_ble_eq_true rfl⟩ (Nat.le_of_ble_eq_true rfl) dX2_byLevel_39 (fun r7 h => ?_)
        refine v_goto (tgt := 46) dX2_byLevel_42 rfl ?_
        refine v_sub [1, 2, 3, 4, 5, 6, 0] rfl ?_
        have h := Ok.ret h
        exact h
theorem gW_X2_79_0 {l : Launch} {D : va_G} {dA : Nat → ClassId} {A : Nat → Prop} {b : Bool} {lc : Nat → Nat → Nat} {s : tt_St} {cc : ByteArray} {nl : Nat} {rt : Option FieldType} {rm : Room} {tn : tt_Tn} {Q : tt_Fin} {pc : Nat} {lv : List (Nat × Value)} {rest : List Value} {ck cn : Nat} (d : decode cc pc = .ok (.getfield 79, 3)) (kk : tt_V (XW l D dA A b) cc (RX2, nl, rt, rm, tn) Q (pc + 3) lv (.ref (lc 14 25) :: rest) lc s ck cn) : tt_V (XW l D dA A b) cc (RX2, nl, rt, rm, tn) Q pc lv (.ref (lc 0 0) :: rest) lc s ck cn := v_get (p := 14) lvW_0 oW_0 rfl in_X2 (by decide) q749 (.inl rfl) rfl d kk
theorem gW_X4_9_14 {l : Launch} {D : va_G} {dA : Nat → ClassId} {A : Nat → Prop} {b : Bool} {lc : Nat → Nat → Nat} {s : tt_St} {cc : ByteArray} {nl : Nat} {rt : Option FieldType} {rm : Room} {tn : tt_Tn} {Q : tt_Fin} {pc : Nat} {lv : List (Nat × Value)} {rest : List Value} {ck cn : Nat} {i : Nat} (hv : lvF i) (d : decode cc pc = .ok (.getfield 9, 3)) (kk : tt_V (XW l D dA A b) cc (RX4, nl, rt, rm, tn) Q (pc + 3) lv (.ref (lc 8 i) :: rest) lc s ck cn) : tt_V (XW l D dA A b) cc (RX4, nl, rt, rm, tn) Q pc lv (.ref (lc 14 i) :: rest) lc s ck cn := v_get (p := 0) (lvW_14 hv) oW_14 rfl in_X5 (by decide) q311 (.inl rfl) rfl d kk
theorem gW_X4_15_14 {l : Launch} {D : va_G} {dA : Nat → ClassId} {A : Nat → Prop} {b : Bool} {lc : Nat → Nat → Nat} {s : tt_St} {cc : ByteArray} {nl : Nat} {rt : Option FieldType} {rm : Room} {tn : tt_Tn} {Q : tt_Fin} {pc : Nat} {lv : List (Nat × Value)} {rest : List Value} {ck cn : Nat} {i : Nat} (hv : lvF i) (d : decode cc pc = .ok (.getfield 15, 3)) (kk : tt_V (XW l D dA A b) cc (RX4, nl, rt, rm, tn) Q (pc + 3) lv (.ref (lc 9 i) :: rest) lc s ck cn) : tt_V (XW l D dA A b) cc (RX4, nl, rt, rm, tn) Q pc lv (.ref (lc 14 i) :: rest) lc s ck cn := v_get (p := 1) (lvW_14 hv) oW_14 rfl in_X5 (by decide) q314 (.inl rfl) rfl d kk
abbrev rmB_begins_14 : Room := { frames := 0, cells := 0, slots := 0, locals := 0 }
set_option maxHeartbeats 4000000 in
theorem mB_begins_14 (l : Launch) (D : va_G) (dA : Nat → ClassId) (A : Nat → Prop) (b : Bool) (lc : Nat → Nat → Nat) (s : tt_St) (x0 : Nat) (hx0 : lvF x0) {Q : Option Value → (Nat → Nat → Nat) → tt_St → Prop} (h : Ok (fB_begins s x0) (fun r => Q none lc r)) : tt_Sp (XW l D dA A b) yX4_begins cX4_begins 2 none rmB_begins_14 [.ref (lc 14 x0)] lc s Q := by
  refine tt_Sp.ofV plX4 kokW (Nat.le_of_ble_eq_true rfl) ?_
  show tt_V (XW l D dA A b) cX4_begins (RX4, 2, none, rmB_begins_14, tt_nt) (tt_fn (XW l D dA A b) (RX4, 2, none, rmB_begins_14, tt_nt) Q) 0 [(0, .ref (lc 14 x0))] [] lc s 0 0
  unfold fB_begins at h
  refine v_iconst dX4_begins_0 ic_0 ?_
  refine v_istore_n [(1, .int (0 : Int32)), (0, .ref (lc 14 x0))] dX4_begins_1 (Nat.le_of_ble_eq_true rfl) rfl ?_
  refine v_sub [1, 0] rfl ?_
  refine itr_loop (P := fun a1 : Int32 × tt_St => tt_V (XW l D dA A b) cX4_begins (RX4, 2, none, rmB_begins_14, tt_nt) (tt_fn (XW l D dA A b) (RX4, 2, none, rmB_begins_14, tt_nt) Q) 2 [(0, .ref (lc 14 x0)), (1, .int a1.1)] [] lc a1.2 0 0) (PE := fun b2 : Int32 × tt_St => tt_V (XW l D dA A b) cX4_begins (RX4, 2, none, rmB_begins_14, tt_nt) (tt_fn (XW l D dA A b) (RX4, 2, none, rmB_begins_14, tt_nt) Q) 21 [(0, .ref (lc 14 x0)), (1, .int b2.1)] [] lc b2.2 0 0) h (fun b2 h => ?_) (fun a1 h => ?_)
  · refine v_iconst dX4_begins_21 ic_0 ?_
    refine v_istore_n [(1, .int (0 : Int32)), (0, .ref (lc 14 x0))] dX4_begins_22 (Nat.le_of_ble_eq_true rfl) rfl ?_
    refine v_sub [1, 0] rfl ?_
    refine itr_loop (P := fun a6 : Int32 × tt_St => tt_V (XW l D dA A b) cX4_begins (RX4, 2, none, rmB_begins_14, tt_nt) (tt_fn (XW l D dA A b) (RX4, 2, none, rmB_begins_14, tt_nt) Q) 23 [(0, .ref (lc 14 x0)), (1, .int a6.1)] [] lc a6.2 0 0) (PE := fun b7 : Int32 × tt_St => tt_V (XW l D dA A b) cX4_begins (RX4, 2, none, rmB_begins_14, tt_nt) (tt_fn (XW l D dA A b) (RX4, 2, none, rmB_begins_14, tt_nt) Q) 42 [(0, .ref (lc 14 x0)), (1, .int b7.1)] [] lc b7.2 0 0) h (fun b7 h => ?_) (fun a6 h => ?_)
    · have h := Ok.ret h
      exact v_vret rfl (Nat.zero_le _) (Nat.zero_le _) dX4_begins_42 h
    · have h : Ok (fB_begins_L23 x0 a6) _ := h
      unfold fB_begins_L23 at h
      refine v_iload_n 1 dX4_begins_23 rfl ?_
      refine v_bipush dX4_begins_24 kb_7 ?_
      refine v_icmp_ge (tgt := 42) dX4_begins_26 rfl (fun c8 => ?_) (fun c8 => ?_)
      · have h := Ok.pos h c8
        have h := Ok.ret h
        exact h
      · have h := Ok.neg h c8
        refine v_aload_n 0 dX4_begins_29 rfl ?_
        refine gW_X4_15_14 hx0 dX4_begins_30 ?_
        refine v_iload_n 1 dX4_begins_33 rfl ?_
        refine v_lconst dX4_begins_34 kl_0 ?_
        obtain ⟨g9, h⟩ := Ok.guard h
        refine sW_9 (.inr hx0) g9 dX4_begins_35 ?_
        refine v_nmS (fun s10 e_s10 => ?_)
        have h := Ok.nm h e_s10
        refine v_iinc (v := (a6.1 + 1 : Int32)) 1 [(1, .int (a6.1 + 1 : Int32)), (0, .ref (lc 14 x0))] dX4_begins_36 rfl (by rw [ic_1]) (Nat.le_of_ble_eq_true rfl) rfl ?_
        refine v_goto (tgt := 23) dX4_begins_39 rfl ?_
        refine v_sub [1, 0] rfl ?_
        have h := Ok.ret h
        exact h
  · have h : Ok (fB_begins_L2 x0 a1) _ := h
    unfold fB_begins_L2 at h
    refine v_iload_n 1 dX4_begins_2 rfl ?_
    refine v_bipush dX4_begins_3 kb_10 ?_
    refine v_icmp_ge (tgt := 21) dX4_begins_5 rfl (fun c3 => ?_) (fun c3 => ?_)
    · have h := Ok.pos h c3
      have h := Ok.ret h
      exact h
    · have h := Ok.neg h c3
      refine v_aload_n 0 dX4_begins_8 rfl ?_
      refine gW_X4_9_14 hx0 dX4_begins_9 ?_
      refine v_iload_n 1 dX4_begins_12 rfl ?_
      refine v_lconst dX4_begins_13 kl_0 ?_
      obtain ⟨g4, h⟩ := Ok.guard h
      refine sW_8 (.inr hx0) g4 dX4_begins_14 ?_
      refine v_nmS (fun s5 e_s5 => ?_)
      have h := Ok.nm h e_s5
      refine v_iinc (v := (a1.1 + 1 : Int32)) 1 [(1, .int (a1.1 + 1 : Int32)), (0, .ref (lc 14 x0))] dX4_begins_15 rfl (by rw [ic_1]) (Nat.le_of_ble_eq_true rfl) rfl ?_
      refine v_goto (tgt := 2) dX4_begins_18 rfl ?_
      refine v_sub [1, 0] rfl ?_
      have h := Ok.ret h
      exact h
theorem cW_X5_24_14 {l : Launch} {D : va_G} {dA : Nat → ClassId} {A : Nat → Prop} {b : Bool} {lc : Nat → Nat → Nat} {s : tt_St} {cc : ByteArray} {nl : Nat} {rt : Option FieldType} {rm : Room} {tn : tt_Tn} {Q : tt_Fin} {pc : Nat} {lv : List (Nat × Value)} {rest : List Value} {ck cn : Nat} {x0 : Nat} (hx0 : lvF x0) {K : tt_St → Prop} (h : Ok (fB_begins s x0) K) (hR : 0 + 1 ≤ rm.frames ∧ 8 + (2 + 11) + 0 ≤ rm.locals) (hW : (rest.map fun v => v.category).sum ≤ 8) (d : decode cc pc = .ok (.invokespecial 24, 3)) (kk : ∀ r, K r → tt_V (XW l D dA A b) cc (RX5, nl, rt, rm, tn) Q (pc + 3) lv rest lc r ck cn) (hf : ck ≤ rm.cells ∧ cn ≤ rm.slots := by exact ⟨Nat.zero_le _, Nat.zero_le _⟩) : tt_V (XW l D dA A b) cc (RX5, nl, rt, rm, tn) Q pc lv (.ref (lc 14 x0) :: rest) lc s ck cn :=
  v_callSU (kd := 14) (i := x0) (nA := 0) (As := []) (lvW_14 hx0) oW_14 rfl (mB_begins_14 l D dA A b lc s x0 hx0 (Q := (fun v lc' s' => ∃ r, K r ∧ v = none ∧ lc' = lc ∧ s' = r)) (h.mono (fun r hr => ⟨r, hr, rfl, rfl, rfl⟩))) (lw_SU q713 q2458 q332 q714 q137 q715) (by decide +kernel) rfl hR hW hf d rfl (fun v lc' s' q => by obtain ⟨r, hr, e1, e2, e3⟩ := q; rw [e1, e2, e3]; exact kk r hr)
theorem gW_X5_9_14 {l : Launch} {D : va_G} {dA : Nat → ClassId} {A : Nat → Prop} {b : Bool} {lc : Nat → Nat → Nat} {s : tt_St} {cc : ByteArray} {nl : Nat} {rt : Option FieldType} {rm : Room} {tn : tt_Tn} {Q : tt_Fin} {pc : Nat} {lv : List (Nat × Value)} {rest : List Value} {ck cn : Nat} {i : Nat} (hv : lvF i) (d : decode cc pc = .ok (.getfield 9, 3)) (kk : tt_V (XW l D dA A b) cc (RX5, nl, rt, rm, tn) Q (pc + 3) lv (.ref (lc 10 i) :: rest) lc s ck cn) : tt_V (XW l D dA A b) cc (RX5, nl, rt, rm, tn) Q pc lv (.ref (lc 14 i) :: rest) lc s ck cn := v_get (p := 2) (lvW_14 hv) oW_14 rfl in_X5 (by decide) q294 (.inl rfl) rfl d kk
theorem gW_X5_15_14 {l : Launch} {D : va_G} {dA : Nat → ClassId} {A : Nat → Prop} {b : Bool} {lc : Nat → Nat → Nat} {s : tt_St} {cc : ByteArray} {nl : Nat} {rt : Option FieldType} {rm : Room} {tn : tt_Tn} {Q : tt_Fin} {pc : Nat} {lv : List (Nat × Value)} {rest : List Value} {ck cn : Nat} {i : Nat} (hv : lvF i) (d : decode cc pc = .ok (.getfield 15, 3)) (kk : tt_V (XW l D dA A b) cc (RX5, nl, rt, rm, tn) Q (pc + 3) lv (.ref (lc 11 i) :: rest) lc s ck cn) : tt_V (XW l D dA A b) cc (RX5, nl, rt, rm, tn) Q pc lv (.ref (lc 14 i) :: rest) lc s ck cn := v_get (p := 3) (lvW_14 hv) oW_14 rfl in_X5 (by decide) q300 (.inl rfl) rfl d kk
theorem gW_X5_18_14 {l : Launch} {D : va_G} {dA : Nat → ClassId} {A : Nat → Prop} {b : Bool} {lc : Nat → Nat → Nat} {s : tt_St} {cc : ByteArray} {nl : Nat} {rt : Option FieldType} {rm : Room} {tn : tt_Tn} {Q : tt_Fin} {pc : Nat} {lv : List (Nat × Value)} {rest : List Value} {ck cn : Nat} {i : Nat} (hv : lvF i) (d : decode cc pc = .ok (.getfield 18, 3)) (kk : tt_V (XW l D dA A b) cc (RX5, nl, rt, rm, tn) Q (pc + 3) lv (.ref (lc 12 i) :: rest) lc s ck cn) : tt_V (XW l D dA A b) cc (RX5, nl, rt, rm, tn) Q pc lv (.ref (lc 14 i) :: rest) lc s ck cn := v_get (p := 4) (lvW_14 hv) oW_14 rfl in_X5 (by decide) q305 (.inl rfl) rfl d kk
theorem gW_X5_21_14 {l : Launch} {D : va_G} {dA : Nat → ClassId} {A : Nat → Prop} {b : Bool} {lc : Nat → Nat → Nat} {s : tt_St} {cc : ByteArray} {nl : Nat} {rt : Option FieldType} {rm : Room} {tn : tt_Tn} {Q : tt_Fin} {pc : Nat} {lv : List (Nat × Value)} {rest : List Value} {ck cn : Nat} {i : Nat} (hv : lvF i) (d : decode cc pc = .ok (.getfield 21, 3)) (kk : tt_V (XW l D dA A b) cc (RX5, nl, rt, rm, tn) Q (pc + 3) lv (.ref (lc 13 i) :: rest) lc s ck cn) : tt_V (XW l D dA A b) cc (RX5, nl, rt, rm, tn) Q pc lv (.ref (lc 14 i) :: rest) lc s ck cn := v_get (p := 5) (lvW_14 hv) oW_14 rfl in_X5 (by decide) q309 (.inl rfl) rfl d kk
abbrev rmF_begins_14 : Room := { frames := 1, cells := 0, slots := 0, locals := 21 }
set_option maxHeartbeats 4000000 in
theorem mF_begins_14 (l : Launch) (D : va_G) (dA : Nat → ClassId) (A : Nat → Prop) (b : Bool) (lc : Nat → Nat → Nat) (s : tt_St) (x0 : Nat) (hx0 : lvF x0) {Q : Option Value → (Nat → Nat → Nat) → tt_St → Prop} (h : Ok (fF_begins s x0) (fun r => Q none lc r)) : tt_Sp (XW l D dA A b) yX5_begins cX5_begins 2 none rmF_begins_14 [.ref (lc 14 x0)] lc s Q := by
  refine tt_Sp.ofV plX5 kokW (Nat.le_of_ble_eq_true rfl) ?_
  show tt_V (XW l D dA A b) cX5_begins (RX5, 2, none, rmF_begins_14, tt_nt) (tt_fn (XW l D dA A b) (RX5, 2, none, rmF_begins_14, tt_nt) Q) 0 [(0, .ref (lc 14 x0))] [] lc s 0 0
  unfold fF_begins at h
  refine v_aload_n 0 dX5_begins_0 rfl ?_
  refine cW_X5_24_14 hx0 (Ok.bind h) ⟨Nat.le_of_ble_eq_true rfl, Nat.le_of_ble_eq_true rfl⟩ (Nat.le_of_ble_eq_true rfl) dX5_begins_1 (fun r1 h => ?_)
  refine v_iconst dX5_begins_4 ic_0 ?_
  refine v_istore_n [(1, .int (0 : Int32)), (0, .ref (lc 14 x0))] dX5_begins_5 (Nat.le_of_ble_eq_true rfl) rfl ?_
  refine v_sub [1, 0] rfl ?_
  refine itr_loop (P := fun a2 : Int32 × tt_St => tt_V (XW l D dA A b) cX5_begins (RX5, 2, none, rmF_begins_14, tt_nt) (tt_fn (XW l D dA A b) (RX5, 2, none, rmF_begins_14, tt_nt) Q) 6 [(0, .ref (lc 14 x0)), (1, .int a2.1)] [] lc a2.2 0 0) (PE := fun b3 : Int32 × tt_St => tt_V (XW l D dA A b) cX5_begins (RX5, 2, none, rmF_begins_14, tt_nt) (tt_fn (XW l D dA A b) (RX5, 2, none, rmF_begins_14, tt_nt) Q) 39 [(0, .ref (lc 14 x0)), (1, .int b3.1)] [] lc b3.2 0 0) h (fun b3 h => ?_) (fun a2 h => ?_)
  · refine v_iconst dX5_begins_39 ic_0 ?_
    refine v_istore_n [(1, .int (0 : Int32)), (0, .ref (lc 14 x0))] dX5_begins_40 (Nat.le_of_ble_eq_true rfl) rfl ?_
    refine v_sub [1, 0] rfl ?_
    refine itr_loop (P := fun a9 : Int32 × tt_St => tt_V (XW l D dA A b) cX5_begins (RX5, 2, none, rmF_begins_14, tt_nt) (tt_fn (XW l D dA A b) (RX5, 2, none, rmF_begins_14, tt_nt) Q) 41 [(0, .ref (lc 14 x0)), (1, .int a9.1)] [] lc a9.2 0 0) (PE := fun b10 : Int32 × tt_St => tt_V (XW l D dA A b) cX5_begins (RX5, 2, none, rmF_begins_14, tt_nt) (tt_fn (XW l D dA A b) (RX5, 2, none, rmF_begins_14, tt_nt) Q) 63 [(0, .ref (lc 14 x0)), (1, .int b10.1)] [] lc b10.2 0 0) h (fun b10 h => ?_) (fun a9 h => ?_)
    · have h := Ok.ret h
      exact v_vret rfl (Nat.zero_le _) (Nat.zero_le _) dX5_begins_63 h
    · have h : Ok (fF_begins_L41 x0 a9) _ := h
      unfold fF_begins_L41 at h
      refine v_iload_n 1 dX5_begins_41 rfl ?_
      refine v_aload_n 0 dX5_begins_42 rfl ?_
      refine gW_X5_21_14 hx0 dX5_begins_43 ?_
      refine nW_13 (.inr hx0) dX5_begins_46 ?_
      refine v_icmp_ge (tgt := 63) dX5_begins_47 rfl (fun c11 => ?_) (fun c11 => ?_)
      · have h := Ok.pos h c11
        have h := Ok.ret h
        exact h
      · have h := Ok.neg h c11
        refine v_aload_n 0 dX5_begins_50 rfl ?_
        refine gW_X5_21_14 hx0 dX5_begins_51 ?_
        refine v_iload_n 1 dX5_begins_54 rfl ?_
        refine v_lconst dX5_begins_55 kl_0 ?_
        obtain ⟨g12, h⟩ := Ok.guard h
        refine sW_13 (.inr hx0) g12 dX5_begins_56 ?_
        refine v_nmS (fun s13 e_s13 => ?_)
        have h := Ok.nm h e_s13
        refine v_iinc (v := (a9.1 + 1 : Int32)) 1 [(1, .int (a9.1 + 1 : Int32)), (0, .ref (lc 14 x0))] dX5_begins_57 rfl (by rw [ic_1]) (Nat.le_of_ble_eq_true rfl) rfl ?_
        refine v_goto (tgt := 41) dX5_begins_60 rfl ?_
        refine v_sub [1, 0] rfl ?_
        have h := Ok.ret h
        exact h
  · have h : Ok (fF_begins_L6 x0 a2) _ := h
    unfold fF_begins_L6 at h
    refine v_iload_n 1 dX5_begins_6 rfl ?_
    refine v_bipush dX5_begins_7 kb_40 ?_
    refine v_icmp_ge (tgt := 39) dX5_begins_9 rfl (fun c4 => ?_) (fun c4 => ?_)
    · have h := Ok.pos h c4
      have h := Ok.ret h
      exact h
    · have h := Ok.neg h c4
      refine v_aload_n 0 dX5_begins_12 rfl ?_
      refine gW_X5_9_14 hx0 dX5_begins_13 ?_
      refine v_iload_n 1 dX5_begins_16 rfl ?_
      refine v_lconst dX5_begins_17 kl_0 ?_
      obtain ⟨g5, h⟩ := Ok.guard h
      refine sW_10 (.inr hx0) g5 dX5_begins_18 ?_
      refine v_nmS (fun s6 e_s6 => ?_)
      have h := Ok.nm h e_s6
      refine v_aload_n 0 dX5_begins_19 rfl ?_
      refine gW_X5_15_14 hx0 dX5_begins_20 ?_
      refine v_iload_n 1 dX5_begins_23 rfl ?_
      refine v_lconst dX5_begins_24 kl_0 ?_
      refine sW_11 (.inr hx0) g5 dX5_begins_25 ?_
      refine v_nmS (fun s7 e_s7 => ?_)
      have h := Ok.nm h e_s7
      refine v_aload_n 0 dX5_begins_26 rfl ?_
      refine gW_X5_18_14 hx0 dX5_begins_27 ?_
      refine v_iload_n 1 dX5_begins_30 rfl ?_
      refine v_lconst dX5_begins_31 kl_0 ?_
      refine sW_12 (.inr hx0) g5 dX5_begins_32 ?_
      refine v_nmS (fun s8 e_s8 => ?_)
      have h := Ok.nm h e_s8
      refine v_iinc (v := (a2.1 + 1 : Int32)) 1 [(1, .int (a2.1 + 1 : Int32)), (0, .ref (lc 14 x0))] dX5_begins_33 rfl (by rw [ic_1]) (Nat.le_of_ble_eq_true rfl) rfl ?_
      refine v_goto (tgt := 6) dX5_begins_36 rfl ?_
      refine v_sub [1, 0] rfl ?_
      have h := Ok.ret h
      exact h
theorem cW_X2_299_14 {l : Launch} {D : va_G} {dA : Nat → ClassId} {A : Nat → Prop} {b : Bool} {lc : Nat → Nat → Nat} {s : tt_St} {cc : ByteArray} {nl : Nat} {rt : Option FieldType} {rm : Room} {tn : tt_Tn} {Q : tt_Fin} {pc : Nat} {lv : List (Nat × Value)} {rest : List Value} {ck cn : Nat} {x0 : Nat} (hx0 : lvF x0) {K : tt_St → Prop} (h : Ok (fF_begins s x0) K) (hR : 1 + 1 ≤ rm.frames ∧ 8 + (2 + 11) + 21 ≤ rm.locals) (hW : (rest.map fun v => v.category).sum ≤ 8) (d : decode cc pc = .ok (.invokevirtual 299, 3)) (kk : ∀ r, K r → tt_V (XW l D dA A b) cc (RX2, nl, rt, rm, tn) Q (pc + 3) lv rest lc r ck cn) (hf : ck ≤ rm.cells ∧ cn ≤ rm.slots := by exact ⟨Nat.zero_le _, Nat.zero_le _⟩) : tt_V (XW l D dA A b) cc (RX2, nl, rt, rm, tn) Q pc lv (.ref (lc 14 x0) :: rest) lc s ck cn :=
  v_callV (kd := 14) (i := x0) (nA := 0) (As := []) (lvW_14 hx0) oW_14 rfl (mF_begins_14 l D dA A b lc s x0 hx0 (Q := (fun v lc' s' => ∃ r, K r ∧ v = none ∧ lc' = lc ∧ s' = r)) (h.mono (fun r hr => ⟨r, hr, rfl, rfl, rfl⟩))) (lw_V q704 q705 q706 q138 q712) (by decide +kernel) rfl hR hW hf d rfl (fun v lc' s' q => by obtain ⟨r, hr, e1, e2, e3⟩ := q; rw [e1, e2, e3]; exact kk r hr)
theorem cW_X2_300_0_7_14 {l : Launch} {D : va_G} {dA : Nat → ClassId} {A : Nat → Prop} {b : Bool} {lc : Nat → Nat → Nat} {s : tt_St} {cc : ByteArray} {nl : Nat} {rt : Option FieldType} {rm : Room} {tn : tt_Tn} {Q : tt_Fin} {pc : Nat} {lv : List (Nat × Value)} {rest : List Value} {ck cn : Nat} {x1 : Nat} {x2 : Int64} {x4 : Nat} (hx1 : lvH b x1) (hx4 : lvF x4) {K : tt_St → Prop} (h : Ok (fW_byTime s x1 x2 x4) K) (hR : 5 + 1 ≤ rm.frames ∧ 8 + (5 + 11) + 133 ≤ rm.locals) (hW : (rest.map fun v => v.category).sum ≤ 8) (d : decode cc pc = .ok (.invokevirtual 300, 3)) (kk : ∀ r, K r → tt_V (XW l D dA A b) cc (RX2, nl, rt, rm, tn) Q (pc + 3) lv rest lc r ck cn) (hf : ck ≤ rm.cells ∧ cn ≤ rm.slots := by exact ⟨Nat.zero_le _, Nat.zero_le _⟩) : tt_V (XW l D dA A b) cc (RX2, nl, rt, rm, tn) Q pc lv (.ref (lc 14 x4) :: .long x2 :: .ref (lc 7 x1) :: .ref (lc 0 0) :: rest) lc s ck cn :=
  v_callV (kd := 0) (i := 0) (nA := 3) (As := [.ref (lc 7 x1), .long x2, .ref (lc 14 x4)]) lvW_0 oW_0 rfl (mW_byTime_7_14 l D dA A b lc s x1 x2 x4 hx1 hx4 (Q := (fun v lc' s' => ∃ r, K r ∧ v = none ∧ lc' = lc ∧ s' = r)) (h.mono (fun r hr => ⟨r, hr, rfl, rfl, rfl⟩))) (lw_V q716 q455 qs1 q128 q456) (by decide +kernel) rfl hR hW hf d rfl (fun v lc' s' q => by obtain ⟨r, hr, e1, e2, e3⟩ := q; rw [e1, e2, e3]; exact kk r hr)
theorem gW_X2_45_0 {l : Launch} {D : va_G} {dA : Nat → ClassId} {A : Nat → Prop} {b : Bool} {lc : Nat → Nat → Nat} {s : tt_St} {cc : ByteArray} {nl : Nat} {rt : Option FieldType} {rm : Room} {tn : tt_Tn} {Q : tt_Fin} {pc : Nat} {lv : List (Nat × Value)} {rest : List Value} {ck cn : Nat} (d : decode cc pc = .ok (.getfield 45, 3)) (kk : tt_V (XW l D dA A b) cc (RX2, nl, rt, rm, tn) Q (pc + 3) lv (.ref (lc 28 0) :: rest) lc s ck cn) : tt_V (XW l D dA A b) cc (RX2, nl, rt, rm, tn) Q pc lv (.ref (lc 0 0) :: rest) lc s ck cn := v_get (p := 8) lvW_0 oW_0 rfl in_X2 (by decide) q742 (.inl rfl) rfl d kk
theorem gW_X2_48_0 {l : Launch} {D : va_G} {dA : Nat → ClassId} {A : Nat → Prop} {b : Bool} {lc : Nat → Nat → Nat} {s : tt_St} {cc : ByteArray} {nl : Nat} {rt : Option FieldType} {rm : Room} {tn : tt_Tn} {Q : tt_Fin} {pc : Nat} {lv : List (Nat × Value)} {rest : List Value} {ck cn : Nat} (d : decode cc pc = .ok (.getfield 48, 3)) (kk : tt_V (XW l D dA A b) cc (RX2, nl, rt, rm, tn) Q (pc + 3) lv (.ref (lc 29 0) :: rest) lc s ck cn) : tt_V (XW l D dA A b) cc (RX2, nl, rt, rm, tn) Q pc lv (.ref (lc 0 0) :: rest) lc s ck cn := v_get (p := 9) lvW_0 oW_0 rfl in_X2 (by decide) q743 (.inl rfl) rfl d kk
theorem gW_X2_51_0 {l : Launch} {D : va_G} {dA : Nat → ClassId} {A : Nat → Prop} {b : Bool} {lc : Nat → Nat → Nat} {s : tt_St} {cc : ByteArray} {nl : Nat} {rt : Option FieldType} {rm : Room} {tn : tt_Tn} {Q : tt_Fin} {pc : Nat} {lv : List (Nat × Value)} {rest : List Value} {ck cn : Nat} (d : decode cc pc = .ok (.getfield 51, 3)) (kk : tt_V (XW l D dA A b) cc (RX2, nl, rt, rm, tn) Q (pc + 3) lv (.ref (lc 30 0) :: rest) lc s ck cn) : tt_V (XW l D dA A b) cc (RX2, nl, rt, rm, tn) Q pc lv (.ref (lc 0 0) :: rest) lc s ck cn := v_get (p := 10) lvW_0 oW_0 rfl in_X2 (by decide) q744 (.inl rfl) rfl d kk
def fT_shares_28_30_L109  (a17 : Int64 × Int32 × tt_St) : Option ((Int64 × Int32 × tt_St) ⊕ (Int64 × Int32 × tt_St)) :=
  if (40 : Int32) ≤ a17.2.1 then some (.inr (a17.1, a17.2.1, a17.2.2)) else if a17.1 ≤ (0 : Int64) then some (.inr (a17.1, a17.2.1, a17.2.2)) else if inB a17.2.1 40 then if (rdL a17.2.2 28 0 a17.2.1.toNatClampNeg) = (0 : Int64) then some (.inl (a17.1, (a17.2.1 + 1 : Int32), a17.2.2)) else nm (wrL a17.2.2 30 0 a17.2.1.toNatClampNeg ((rdL a17.2.2 30 0 a17.2.1.toNatClampNeg) + (1 : Int64))) fun s23 => nm (a17.1 - (1 : Int64)) fun v24 => some (.inl (v24, (a17.2.1 + 1 : Int32), s23)) else none
def fT_shares_28_30_L47 (x0 : Int64) (b2 : Int64 × Int32) (a7 : Int64 × Int32 × tt_St) : Option ((Int64 × Int32 × tt_St) ⊕ (Int64 × Int32 × tt_St)) :=
  if (40 : Int32) ≤ a7.2.1 then some (.inr (a7.1, a7.2.1, a7.2.2)) else (if b2.1 = (0 : Int64) then some (0 : Int64) else if ¬ b2.1 = 0 then if inB a7.2.1 40 then some (((x0 / b2.1) * (rdL a7.2.2 28 0 a7.2.1.toNatClampNeg)) + (((x0 - x0 / b2.1 * b2.1) * (rdL a7.2.2 28 0 a7.2.1.toNatClampNeg)) / b2.1)) else none else none : Option (Int64)).bind fun t10 => if inB a7.2.1 40 then nm (wrL a7.2.2 30 0 a7.2.1.toNatClampNeg t10) fun s15 => nm (a7.1 - (rdL s15 30 0 a7.2.1.toNatClampNeg)) fun v16 => some (.inl (v16, (a7.2.1 + 1 : Int32), s15)) else none
def fT_shares_28_30_L17 (s : tt_St) (a1 : Int64 × Int32) : Option ((Int64 × Int32) ⊕ (Int64 × Int32)) :=
  if (40 : Int32) ≤ a1.2 then some (.inr (a1.1, a1.2)) else if inB a1.2 40 then nm (rdL s 28 0 a1.2.toNatClampNeg) fun v5 => nm (a1.1 + v5) fun v6 => some (.inl (v6, (a1.2 + 1 : Int32))) else none
def fT_shares_28_30 (s : tt_St) (x0 : Int64) : Option (tt_St) :=
  (itr (fT_shares_28_30_L17 s) tt_fuel ((0 : Int64), (0 : Int32))).bind fun b2 => (itr (fT_shares_28_30_L47 x0 b2) tt_fuel (x0, (0 : Int32), s)).bind fun b8 => (itr (fT_shares_28_30_L109) tt_fuel (b8.1, (0 : Int32), b8.2.2)).bind fun b18 => some b18.2.2
abbrev rmT_shares_28_30 : Room := { frames := 0, cells := 0, slots := 0, locals := 0 }
set_option maxHeartbeats 4000000 in
theorem mT_shares_28_30 (l : Launch) (D : va_G) (dA : Nat → ClassId) (A : Nat → Prop) (b : Bool) (lc : Nat → Nat → Nat) (s : tt_St) (x0 : Int64) {Q : Option Value → (Nat → Nat → Nat) → tt_St → Prop} (h : Ok (fT_shares_28_30 s x0) (fun r => Q none lc r)) : tt_Sp (XW l D dA A b) yX1_shares cX1_shares 13 none rmT_shares_28_30 [.long x0, .ref (lc 28 0), .ref (lc 30 0)] lc s Q := by
  refine tt_Sp.ofV plX1 kokW (Nat.le_of_ble_eq_true rfl) ?_
  show tt_V (XW l D dA A b) cX1_shares (RX1, 13, none, rmT_shares_28_30, tt_nt) (tt_fn (XW l D dA A b) (RX1, 13, none, rmT_shares_28_30, tt_nt) Q) 0 [(0, .long x0), (2, .ref (lc 28 0)), (3, .ref (lc 30 0))] [] lc s 0 0
  unfold fT_shares_28_30 at h
  refine v_lconst dX1_shares_0 kl_0 ?_
  refine v_lstore [(4, .long (0 : Int64)), (0, .long x0), (2, .ref (lc 28 0)), (3, .ref (lc 30 0))] dX1_shares_1 (Nat.le_of_ble_eq_true rfl) rfl ?_
  refine v_lload_n 1 dX1_shares_3 rfl ?_
  refine v_lstore [(6, .long x0), (4, .long (0 : Int64)), (0, .long x0), (2, .ref (lc 28 0)), (3, .ref (lc 30 0))] dX1_shares_4 (Nat.le_of_ble_eq_true rfl) rfl ?_
  refine v_aload_n 3 dX1_shares_6 rfl ?_
  refine v_astore [(8, .ref (lc 28 0)), (6, .long x0), (4, .long (0 : Int64)), (0, .long x0), (2, .ref (lc 28 0)), (3, .ref (lc 30 0))] dX1_shares_7 (Nat.le_of_ble_eq_true rfl) rfl ?_
  refine v_aload 0 dX1_shares_9 rfl ?_
  refine nW_28 dX1_shares_11 ?_
  refine v_istore [(9, .int (40 : Int32)), (8, .ref (lc 28 0)), (6, .long x0), (4, .long (0 : Int64)), (0, .long x0), (2, .ref (lc 28 0)), (3, .ref (lc 30 0))] dX1_shares_12 (Nat.le_of_ble_eq_true rfl) rfl ?_
  refine v_iconst dX1_shares_14 ic_0 ?_
  refine v_istore [(10, .int (0 : Int32)), (9, .int (40 : Int32)), (8, .ref (lc 28 0)), (6, .long x0), (4, .long (0 : Int64)), (0, .long x0), (2, .ref (lc 28 0)), (3, .ref (lc 30 0))] dX1_shares_15 (Nat.le_of_ble_eq_true rfl) rfl ?_
  refine v_sub [5, 6, 7, 4, 3, 2, 1, 0] rfl ?_
  refine itr_loop (P := fun a1 : Int64 × Int32 => tt_V (XW l D dA A b) cX1_shares (RX1, 13, none, rmT_shares_28_30, tt_nt) (tt_fn (XW l D dA A b) (RX1, 13, none, rmT_shares_28_30, tt_nt) Q) 17 [(0, .long x0), (2, .ref (lc 28 0)), (3, .ref (lc 30 0)), (4, .long a1.1), (6, .long x0), (8, .ref (lc 28 0)), (9, .int (40 : Int32)), (10, .int a1.2)] [] lc s 0 0) (PE := fun b2 : Int64 × Int32 => tt_V (XW l D dA A b) cX1_shares (RX1, 13, none, rmT_shares_28_30, tt_nt) (tt_fn (XW l D dA A b) (RX1, 13, none, rmT_shares_28_30, tt_nt) Q) 44 [(0, .long x0), (2, .ref (lc 28 0)), (3, .ref (lc 30 0)), (4, .long b2.1), (6, .long x0), (8, .ref (lc 28 0)), (9, .int (40 : Int32)), (10, .int b2.2)] [] lc s 0 0) h (fun b2 h => ?_) (fun a1 h => ?_)
  · refine v_iconst dX1_shares_44 ic_0 ?_
    refine v_istore [(8, .int (0 : Int32)), (0, .long x0), (2, .ref (lc 28 0)), (3, .ref (lc 30 0)), (4, .long b2.1), (6, .long x0), (9, .int (40 : Int32)), (10, .int b2.2)] dX1_shares_45 (Nat.le_of_ble_eq_true rfl) rfl ?_
    refine v_sub [1, 2, 3, 4, 5, 0] rfl ?_
    refine itr_loop (P := fun a7 : Int64 × Int32 × tt_St => tt_V (XW l D dA A b) cX1_shares (RX1, 13, none, rmT_shares_28_30, tt_nt) (tt_fn (XW l D dA A b) (RX1, 13, none, rmT_shares_28_30, tt_nt) Q) 47 [(0, .long x0), (2, .ref (lc 28 0)), (3, .ref (lc 30 0)), (4, .long b2.1), (6, .long a7.1), (8, .int a7.2.1)] [] lc a7.2.2 0 0) (PE := fun b8 : Int64 × Int32 × tt_St => tt_V (XW l D dA A b) cX1_shares (RX1, 13, none, rmT_shares_28_30, tt_nt) (tt_fn (XW l D dA A b) (RX1, 13, none, rmT_shares_28_30, tt_nt) Q) 106 [(0, .long x0), (2, .ref (lc 28 0)), (3, .ref (lc 30 0)), (4, .long b2.1), (6, .long b8.1), (8, .int b8.2.1)] [] lc b8.2.2 0 0) h (fun b8 h => ?_) (fun a7 h => ?_)
    · refine v_iconst dX1_shares_106 ic_0 ?_
      refine v_istore [(8, .int (0 : Int32)), (0, .long x0), (2, .ref (lc 28 0)), (3, .ref (lc 30 0)), (4, .long b2.1), (6, .long b8.1)] dX1_shares_107 (Nat.le_of_ble_eq_true rfl) rfl ?_
      refine v_sub [2, 3, 5, 0] rfl ?_
      refine itr_loop (P := fun a17 : Int64 × Int32 × tt_St => tt_V (XW l D dA A b) cX1_shares (RX1, 13, none, rmT_shares_28_30, tt_nt) (tt_fn (XW l D dA A b) (RX1, 13, none, rmT_shares_28_30, tt_nt) Q) 109 [(2, .ref (lc 28 0)), (3, .ref (lc 30 0)), (6, .long a17.1), (8, .int a17.2.1)] [] lc a17.2.2 0 0) (PE := fun b18 : Int64 × Int32 × tt_St => tt_V (XW l D dA A b) cX1_shares (RX1, 13, none, rmT_shares_28_30, tt_nt) (tt_fn (XW l D dA A b) (RX1, 13, none, rmT_shares_28_30, tt_nt) Q) 155 [(2, .ref (lc 28 0)), (3, .ref (lc 30 0)), (6, .long b18.1), (8, .int b18.2.1)] [] lc b18.2.2 0 0) h (fun b18 h => ?_) (fun a17 h => ?_)
      · have h := Ok.ret h
        exact v_vret rfl (Nat.zero_le _) (Nat.zero_le _) dX1_shares_155 h
      · have h : Ok (fT_shares_28_30_L109 a17) _ := h
        unfold fT_shares_28_30_L109 at h
        refine v_iload 3 dX1_shares_109 rfl ?_
        refine v_aload_n 0 dX1_shares_111 rfl ?_
        refine nW_28 dX1_shares_112 ?_
        refine v_icmp_ge (tgt := 155) dX1_shares_113 rfl (fun c19 => ?_) (fun c19 => ?_)
        · have h := Ok.pos h c19
          have h := Ok.ret h
          exact h
        · have h := Ok.neg h c19
          refine v_lload 2 dX1_shares_116 rfl ?_
          refine v_lconst dX1_shares_118 kl_0 ?_
          refine v_lif_le (tgt := 155) dX1_shares_119 dX1_shares_120 rfl (fun c20 => ?_) (fun c20 => ?_)
          · have h := Ok.pos h c20
            have h := Ok.ret h
            exact h
          · have h := Ok.neg h c20
            refine v_aload_n 0 dX1_shares_123 rfl ?_
            refine v_iload 3 dX1_shares_124 rfl ?_
            obtain ⟨g21, h⟩ := Ok.guard h
            refine lW_28 g21 dX1_shares_126 ?_
            refine v_lconst dX1_shares_127 kl_0 ?_
            refine v_lif_ne (tgt := 135) dX1_shares_128 dX1_shares_129 rfl (fun c22 => ?_) (fun c22 => ?_)
            · have h := Ok.neg h c22
              refine v_aload_n 1 dX1_shares_135 rfl ?_
              refine v_iload 3 dX1_shares_136 rfl ?_
              refine v_dup2_11 dX1_shares_138 rfl rfl ?_
              refine lW_30 g21 dX1_shares_139 ?_
              refine v_lconst dX1_shares_140 kl_1 ?_
              refine v_ladd dX1_shares_141 ?_
              refine sW_30 g21 dX1_shares_142 ?_
              refine v_nmS (fun s23 e_s23 => ?_)
              have h := Ok.nm h e_s23
              refine v_lload 2 dX1_shares_143 rfl ?_
              refine v_lconst dX1_shares_145 kl_1 ?_
              refine v_lsub dX1_shares_146 ?_
              refine v_nmL (fun v24 e_v24 => ?_)
              have h := Ok.nm h e_v24
              refine v_lstore [(6, .long v24), (2, .ref (lc 28 0)), (3, .ref (lc 30 0)), (8, .int a17.2.1)] dX1_shares_147 (Nat.le_of_ble_eq_true rfl) rfl ?_
              refine v_iinc (v := (a17.2.1 + 1 : Int32)) 3 [(8, .int (a17.2.1 + 1 : Int32)), (6, .long v24), (2, .ref (lc 28 0)), (3, .ref (lc 30 0))] dX1_shares_149 rfl (by rw [ic_1]) (Nat.le_of_ble_eq_true rfl) rfl ?_
              refine v_goto (tgt := 109) dX1_shares_152 rfl ?_
              refine v_sub [2, 3, 1, 0] rfl ?_
              have h := Ok.ret h
              exact h
            · have h := Ok.pos h c22
              refine v_goto (tgt := 149) dX1_shares_132 rfl ?_
              refine v_iinc (v := (a17.2.1 + 1 : Int32)) 3 [(8, .int (a17.2.1 + 1 : Int32)), (2, .ref (lc 28 0)), (3, .ref (lc 30 0)), (6, .long a17.1)] dX1_shares_149 rfl (by rw [ic_1]) (Nat.le_of_ble_eq_true rfl) rfl ?_
              refine v_goto (tgt := 109) dX1_shares_152 rfl ?_
              refine v_sub [1, 2, 3, 0] rfl ?_
              have h := Ok.ret h
              exact h
    · have h : Ok (fT_shares_28_30_L47 x0 b2 a7) _ := h
      unfold fT_shares_28_30_L47 at h
      refine v_iload 5 dX1_shares_47 rfl ?_
      refine v_aload_n 1 dX1_shares_49 rfl ?_
      refine nW_28 dX1_shares_50 ?_
      refine v_icmp_ge (tgt := 106) dX1_shares_51 rfl (fun c9 => ?_) (fun c9 => ?_)
      · have h := Ok.pos h c9
        have h := Ok.ret h
        exact h
      · have h := Ok.neg h c9
        refine v_aload_n 2 dX1_shares_54 rfl ?_
        refine v_iload 5 dX1_shares_55 rfl ?_
        refine v_lload 3 dX1_shares_57 rfl ?_
        refine v_lconst dX1_shares_59 kl_0 ?_
        have h := Ok.join (PJ := fun t10 : Int64 => tt_V (XW l D dA A b) cX1_shares (RX1, 13, none, rmT_shares_28_30, tt_nt) (tt_fn (XW l D dA A b) (RX1, 13, none, rmT_shares_28_30, tt_nt) Q) 90 [(0, .long x0), (2, .ref (lc 28 0)), (3, .ref (lc 30 0)), (4, .long b2.1), (6, .long a7.1), (8, .int a7.2.1)] [.long t10, .int a7.2.1, .ref (lc 30 0)] lc a7.2.2 0 0) h (fun t10 h => by
          obtain ⟨g14, h⟩ := Ok.guard h
          refine sW_30 g14 dX1_shares_90 ?_
          refine v_nmS (fun s15 e_s15 => ?_)
          have h := Ok.nm h e_s15
          refine v_lload 4 dX1_shares_91 rfl ?_
          refine v_aload_n 2 dX1_shares_93 rfl ?_
          refine v_iload 5 dX1_shares_94 rfl ?_
          refine lW_30 g14 dX1_shares_96 ?_
          refine v_lsub dX1_shares_97 ?_
          refine v_nmL (fun v16 e_v16 => ?_)
          have h := Ok.nm h e_v16
          refine v_lstore [(6, .long v16), (0, .long x0), (2, .ref (lc 28 0)), (3, .ref (lc 30 0)), (4, .long b2.1), (8, .int a7.2.1)] dX1_shares_98 (Nat.le_of_ble_eq_true rfl) rfl ?_
          refine v_iinc (v := (a7.2.1 + 1 : Int32)) 5 [(8, .int (a7.2.1 + 1 : Int32)), (6, .long v16), (0, .long x0), (2, .ref (lc 28 0)), (3, .ref (lc 30 0)), (4, .long b2.1)] dX1_shares_100 rfl (by rw [ic_1]) (Nat.le_of_ble_eq_true rfl) rfl ?_
          refine v_goto (tgt := 47) dX1_shares_103 rfl ?_
          refine v_sub [2, 3, 4, 5, 1, 0] rfl ?_
          have h := Ok.ret h
          exact h)
        refine v_lif_ne (tgt := 68) dX1_shares_60 dX1_shares_61 rfl (fun c11 => ?_) (fun c11 => ?_)
        · have h := Ok.neg h c11
          refine v_lload_n 0 dX1_shares_68 rfl ?_
          refine v_lload 3 dX1_shares_69 rfl ?_
          obtain ⟨g12, h⟩ := Ok.guard h
          refine v_ldiv dX1_shares_71 g12 ?_
          refine v_aload_n 1 dX1_shares_72 rfl ?_
          refine v_iload 5 dX1_shares_73 rfl ?_
          obtain ⟨g13, h⟩ := Ok.guard h
          refine lW_28 g13 dX1_shares_75 ?_
          refine v_lmul dX1_shares_76 ?_
          refine v_lload_n 0 dX1_shares_77 rfl ?_
          refine v_lload 3 dX1_shares_78 rfl ?_
          refine v_lrem dX1_shares_80 g12 ?_
          refine v_aload_n 1 dX1_shares_81 rfl ?_
          refine v_iload 5 dX1_shares_82 rfl ?_
          refine lW_28 g13 dX1_shares_84 ?_
          refine v_lmul dX1_shares_85 ?_
          refine v_lload 3 dX1_shares_86 rfl ?_
          refine v_ldiv dX1_shares_88 g12 ?_
          refine v_ladd dX1_shares_89 ?_
          have h := Ok.ret h
          exact h
        · have h := Ok.pos h c11
          refine v_lconst dX1_shares_64 kl_0 ?_
          refine v_goto (tgt := 90) dX1_shares_65 rfl ?_
          have h := Ok.ret h
          exact h
  · have h : Ok (fT_shares_28_30_L17 s a1) _ := h
    unfold fT_shares_28_30_L17 at h
    refine v_iload 7 dX1_shares_17 rfl ?_
    refine v_iload 6 dX1_shares_19 rfl ?_
    refine v_icmp_ge (tgt := 44) dX1_shares_21 rfl (fun c3 => ?_) (fun c3 => ?_)
    · have h := Ok.pos h c3
      have h := Ok.ret h
      exact h
    · have h := Ok.neg h c3
      refine v_aload 5 dX1_shares_24 rfl ?_
      refine v_iload 7 dX1_shares_26 rfl ?_
      obtain ⟨g4, h⟩ := Ok.guard h
      refine lW_28 g4 dX1_shares_28 ?_
      refine v_nmL (fun v5 e_v5 => ?_)
      have h := Ok.nm h e_v5
      refine v_lstore [(11, .long v5), (0, .long x0), (2, .ref (lc 28 0)), (3, .ref (lc 30 0)), (4, .long a1.1), (6, .long x0), (8, .ref (lc 28 0)), (9, .int (40 : Int32)), (10, .int a1.2)] dX1_shares_29 (Nat.le_of_ble_eq_true rfl) rfl ?_
      refine v_lload 4 dX1_shares_31 rfl ?_
      refine v_lload 0 dX1_shares_33 rfl ?_
      refine v_ladd dX1_shares_35 ?_
      refine v_nmL (fun v6 e_v6 => ?_)
      have h := Ok.nm h e_v6
      refine v_lstore [(4, .long v6), (11, .long v5), (0, .long x0), (2, .ref (lc 28 0)), (3, .ref (lc 30 0)), (6, .long x0), (8, .ref (lc 28 0)), (9, .int (40 : Int32)), (10, .int a1.2)] dX1_shares_36 (Nat.le_of_ble_eq_true rfl) rfl ?_
      refine v_iinc (v := (a1.2 + 1 : Int32)) 8 [(10, .int (a1.2 + 1 : Int32)), (4, .long v6), (11, .long v5), (0, .long x0), (2, .ref (lc 28 0)), (3, .ref (lc 30 0)), (6, .long x0), (8, .ref (lc 28 0)), (9, .int (40 : Int32))] dX1_shares_38 rfl (by rw [ic_1]) (Nat.le_of_ble_eq_true rfl) rfl ?_
      refine v_goto (tgt := 17) dX1_shares_41 rfl ?_
      refine v_sub [3, 4, 5, 1, 6, 7, 8, 0] rfl ?_
      have h := Ok.ret h
      exact h
theorem cW_X2_226_28_30 {l : Launch} {D : va_G} {dA : Nat → ClassId} {A : Nat → Prop} {b : Bool} {lc : Nat → Nat → Nat} {s : tt_St} {cc : ByteArray} {nl : Nat} {rt : Option FieldType} {rm : Room} {tn : tt_Tn} {Q : tt_Fin} {pc : Nat} {lv : List (Nat × Value)} {rest : List Value} {ck cn : Nat} {x0 : Int64} {K : tt_St → Prop} (h : Ok (fT_shares_28_30 s x0) K) (hR : 0 + 1 ≤ rm.frames ∧ 8 + (13 + 11) + 0 ≤ rm.locals) (hW : (rest.map fun v => v.category).sum ≤ 8) (d : decode cc pc = .ok (.invokestatic 226, 3)) (kk : ∀ r, K r → tt_V (XW l D dA A b) cc (RX2, nl, rt, rm, tn) Q (pc + 3) lv rest lc r ck cn) (hf : ck ≤ rm.cells ∧ cn ≤ rm.slots := by exact ⟨Nat.zero_le _, Nat.zero_le _⟩) : tt_V (XW l D dA A b) cc (RX2, nl, rt, rm, tn) Q pc lv (.ref (lc 30 0) :: .ref (lc 28 0) :: .long x0 :: rest) lc s ck cn :=
  v_callSN (nA := 3) (As := [.long x0, .ref (lc 28 0), .ref (lc 30 0)]) knW (mT_shares_28_30 l D dA A b lc s x0 (Q := (fun v lc' s' => ∃ r, K r ∧ v = none ∧ lc' = lc ∧ s' = r)) (h.mono (fun r hr => ⟨r, hr, rfl, rfl, rfl⟩))) (lw_meth q479) q477 q127 q478 (by decide +kernel) rfl hR hW hf d rfl (fun v lc' s' q => by obtain ⟨r, hr, e1, e2, e3⟩ := q; rw [e1, e2, e3]; exact kk r hr)
theorem gW_X2_303_14 {l : Launch} {D : va_G} {dA : Nat → ClassId} {A : Nat → Prop} {b : Bool} {lc : Nat → Nat → Nat} {s : tt_St} {cc : ByteArray} {nl : Nat} {rt : Option FieldType} {rm : Room} {tn : tt_Tn} {Q : tt_Fin} {pc : Nat} {lv : List (Nat × Value)} {rest : List Value} {ck cn : Nat} {i : Nat} (hv : lvF i) (d : decode cc pc = .ok (.getfield 303, 3)) (kk : tt_V (XW l D dA A b) cc (RX2, nl, rt, rm, tn) Q (pc + 3) lv (.ref (lc 12 i) :: rest) lc s ck cn) : tt_V (XW l D dA A b) cc (RX2, nl, rt, rm, tn) Q pc lv (.ref (lc 14 i) :: rest) lc s ck cn := v_get (p := 4) (lvW_14 hv) oW_14 rfl in_X5 (by decide) q306 (.inl rfl) rfl d kk
def fT_shares_29_30_L109  (a17 : Int64 × Int32 × tt_St) : Option ((Int64 × Int32 × tt_St) ⊕ (Int64 × Int32 × tt_St)) :=
  if (40 : Int32) ≤ a17.2.1 then some (.inr (a17.1, a17.2.1, a17.2.2)) else if a17.1 ≤ (0 : Int64) then some (.inr (a17.1, a17.2.1, a17.2.2)) else if inB a17.2.1 40 then if (rdL a17.2.2 29 0 a17.2.1.toNatClampNeg) = (0 : Int64) then some (.inl (a17.1, (a17.2.1 + 1 : Int32), a17.2.2)) else nm (wrL a17.2.2 30 0 a17.2.1.toNatClampNeg ((rdL a17.2.2 30 0 a17.2.1.toNatClampNeg) + (1 : Int64))) fun s23 => nm (a17.1 - (1 : Int64)) fun v24 => some (.inl (v24, (a17.2.1 + 1 : Int32), s23)) else none
def fT_shares_29_30_L47 (x0 : Int64) (b2 : Int64 × Int32) (a7 : Int64 × Int32 × tt_St) : Option ((Int64 × Int32 × tt_St) ⊕ (Int64 × Int32 × tt_St)) :=
  if (40 : Int32) ≤ a7.2.1 then some (.inr (a7.1, a7.2.1, a7.2.2)) else (if b2.1 = (0 : Int64) then some (0 : Int64) else if ¬ b2.1 = 0 then if inB a7.2.1 40 then some (((x0 / b2.1) * (rdL a7.2.2 29 0 a7.2.1.toNatClampNeg)) + (((x0 - x0 / b2.1 * b2.1) * (rdL a7.2.2 29 0 a7.2.1.toNatClampNeg)) / b2.1)) else none else none : Option (Int64)).bind fun t10 => if inB a7.2.1 40 then nm (wrL a7.2.2 30 0 a7.2.1.toNatClampNeg t10) fun s15 => nm (a7.1 - (rdL s15 30 0 a7.2.1.toNatClampNeg)) fun v16 => some (.inl (v16, (a7.2.1 + 1 : Int32), s15)) else none
def fT_shares_29_30_L17 (s : tt_St) (a1 : Int64 × Int32) : Option ((Int64 × Int32) ⊕ (Int64 × Int32)) :=
  if (40 : Int32) ≤ a1.2 then some (.inr (a1.1, a1.2)) else if inB a1.2 40 then nm (rdL s 29 0 a1.2.toNatClampNeg) fun v5 => nm (a1.1 + v5) fun v6 => some (.inl (v6, (a1.2 + 1 : Int32))) else none
def fT_shares_29_30 (s : tt_St) (x0 : Int64) : Option (tt_St) :=
  (itr (fT_shares_29_30_L17 s) tt_fuel ((0 : Int64), (0 : Int32))).bind fun b2 => (itr (fT_shares_29_30_L47 x0 b2) tt_fuel (x0, (0 : Int32), s)).bind fun b8 => (itr (fT_shares_29_30_L109) tt_fuel (b8.1, (0 : Int32), b8.2.2)).bind fun b18 => some b18.2.2
abbrev rmT_shares_29_30 : Room := { frames := 0, cells := 0, slots := 0, locals := 0 }
set_option maxHeartbeats 4000000 in
theorem mT_shares_29_30 (l : Launch) (D : va_G) (dA : Nat → ClassId) (A : Nat → Prop) (b : Bool) (lc : Nat → Nat → Nat) (s : tt_St) (x0 : Int64) {Q : Option Value → (Nat → Nat → Nat) → tt_St → Prop} (h : Ok (fT_shares_29_30 s x0) (fun r => Q none lc r)) : tt_Sp (XW l D dA A b) yX1_shares cX1_shares 13 none rmT_shares_29_30 [.long x0, .ref (lc 29 0), .ref (lc 30 0)] lc s Q := by
  refine tt_Sp.ofV plX1 kokW (Nat.le_of_ble_eq_true rfl) ?_
  show tt_V (XW l D dA A b) cX1_shares (RX1, 13, none, rmT_shares_29_30, tt_nt) (tt_fn (XW l D dA A b) (RX1, 13, none, rmT_shares_29_30, tt_nt) Q) 0 [(0, .long x0), (2, .ref (lc 29 0)), (3, .ref (lc 30 0))] [] lc s 0 0
  unfold fT_shares_29_30 at h
  refine v_lconst dX1_shares_0 kl_0 ?_
  refine v_lstore [(4, .long (0 : Int64)), (0, .long x0), (2, .ref (lc 29 0)), (3, .ref (lc 30 0))] dX1_shares_1 (Nat.le_of_ble_eq_true rfl) rfl ?_
  refine v_lload_n 1 dX1_shares_3 rfl ?_
  refine v_lstore [(6, .long x0), (4, .long (0 : Int64)), (0, .long x0), (2, .ref (lc 29 0)), (3, .ref (lc 30 0))] dX1_shares_4 (Nat.le_of_ble_eq_true rfl) rfl ?_
  refine v_aload_n 3 dX1_shares_6 rfl ?_
  refine v_astore [(8, .ref (lc 29 0)), (6, .long x0), (4, .long (0 : Int64)), (0, .long x0), (2, .ref (lc 29 0)), (3, .ref (lc 30 0))] dX1_shares_7 (Nat.le_of_ble_eq_true rfl) rfl ?_
  refine v_aload 0 dX1_shares_9 rfl ?_
  refine nW_29 dX1_shares_11 ?_
  refine v_istore [(9, .int (40 : Int32)), (8, .ref (lc 29 0)), (6, .long x0), (4, .long (0 : Int64)), (0, .long x0), (2, .ref (lc 29 0)), (3, .ref (lc 30 0))] dX1_shares_12 (Nat.le_of_ble_eq_true rfl) rfl ?_
  refine v_iconst dX1_shares_14 ic_0 ?_
  refine v_istore [(10, .int (0 : Int32)), (9, .int (40 : Int32)), (8, .ref (lc 29 0)), (6, .long x0), (4, .long (0 : Int64)), (0, .long x0), (2, .ref (lc 29 0)), (3, .ref (lc 30 0))] dX1_shares_15 (Nat.le_of_ble_eq_true rfl) rfl ?_
  refine v_sub [5, 6, 7, 4, 3, 2, 1, 0] rfl ?_
  refine itr_loop (P := fun a1 : Int64 × Int32 => tt_V (XW l D dA A b) cX1_shares (RX1, 13, none, rmT_shares_29_30, tt_nt) (tt_fn (XW l D dA A b) (RX1, 13, none, rmT_shares_29_30, tt_nt) Q) 17 [(0, .long x0), (2, .ref (lc 29 0)), (3, .ref (lc 30 0)), (4, .long a1.1), (6, .long x0), (8, .ref (lc 29 0)), (9, .int (40 : Int32)), (10, .int a1.2)] [] lc s 0 0) (PE := fun b2 : Int64 × Int32 => tt_V (XW l D dA A b) cX1_shares (RX1, 13, none, rmT_shares_29_30, tt_nt) (tt_fn (XW l D dA A b) (RX1, 13, none, rmT_shares_29_30, tt_nt) Q) 44 [(0, .long x0), (2, .ref (lc 29 0)), (3, .ref (lc 30 0)), (4, .long b2.1), (6, .long x0), (8, .ref (lc 29 0)), (9, .int (40 : Int32)), (10, .int b2.2)] [] lc s 0 0) h (fun b2 h => ?_) (fun a1 h => ?_)
  · refine v_iconst dX1_shares_44 ic_0 ?_
    refine v_istore [(8, .int (0 : Int32)), (0, .long x0), (2, .ref (lc 29 0)), (3, .ref (lc 30 0)), (4, .long b2.1), (6, .long x0), (9, .int (40 : Int32)), (10, .int b2.2)] dX1_shares_45 (Nat.le_of_ble_eq_true rfl) rfl ?_
    refine v_sub [1, 2, 3, 4, 5, 0] rfl ?_
    refine itr_loop (P := fun a7 : Int64 × Int32 × tt_St => tt_V (XW l D dA A b) cX1_shares (RX1, 13, none, rmT_shares_29_30, tt_nt) (tt_fn (XW l D dA A b) (RX1, 13, none, rmT_shares_29_30, tt_nt) Q) 47 [(0, .long x0), (2, .ref (lc 29 0)), (3, .ref (lc 30 0)), (4, .long b2.1), (6, .long a7.1), (8, .int a7.2.1)] [] lc a7.2.2 0 0) (PE := fun b8 : Int64 × Int32 × tt_St => tt_V (XW l D dA A b) cX1_shares (RX1, 13, none, rmT_shares_29_30, tt_nt) (tt_fn (XW l D dA A b) (RX1, 13, none, rmT_shares_29_30, tt_nt) Q) 106 [(0, .long x0), (2, .ref (lc 29 0)), (3, .ref (lc 30 0)), (4, .long b2.1), (6, .long b8.1), (8, .int b8.2.1)] [] lc b8.2.2 0 0) h (fun b8 h => ?_) (fun a7 h => ?_)
    · refine v_iconst dX1_shares_106 ic_0 ?_
      refine v_istore [(8, .int (0 : Int32)), (0, .long x0), (2, .ref (lc 29 0)), (3, .ref (lc 30 0)), (4, .long b2.1), (6, .long b8.1)] dX1_shares_107 (Nat.le_of_ble_eq_true rfl) rfl ?_
      refine v_sub [2, 3, 5, 0] rfl ?_
      refine itr_loop (P := fun a17 : Int64 × Int32 × tt_St => tt_V (XW l D dA A b) cX1_shares (RX1, 13, none, rmT_shares_29_30, tt_nt) (tt_fn (XW l D dA A b) (RX1, 13, none, rmT_shares_29_30, tt_nt) Q) 109 [(2, .ref (lc 29 0)), (3, .ref (lc 30 0)), (6, .long a17.1), (8, .int a17.2.1)] [] lc a17.2.2 0 0) (PE := fun b18 : Int64 × Int32 × tt_St => tt_V (XW l D dA A b) cX1_shares (RX1, 13, none, rmT_shares_29_30, tt_nt) (tt_fn (XW l D dA A b) (RX1, 13, none, rmT_shares_29_30, tt_nt) Q) 155 [(2, .ref (lc 29 0)), (3, .ref (lc 30 0)), (6, .long b18.1), (8, .int b18.2.1)] [] lc b18.2.2 0 0) h (fun b18 h => ?_) (fun a17 h => ?_)
      · have h := Ok.ret h
        exact v_vret rfl (Nat.zero_le _) (Nat.zero_le _) dX1_shares_155 h
      · have h : Ok (fT_shares_29_30_L109 a17) _ := h
        unfold fT_shares_29_30_L109 at h
        refine v_iload 3 dX1_shares_109 rfl ?_
        refine v_aload_n 0 dX1_shares_111 rfl ?_
        refine nW_29 dX1_shares_112 ?_
        refine v_icmp_ge (tgt := 155) dX1_shares_113 rfl (fun c19 => ?_) (fun c19 => ?_)
        · have h := Ok.pos h c19
          have h := Ok.ret h
          exact h
        · have h := Ok.neg h c19
          refine v_lload 2 dX1_shares_116 rfl ?_
          refine v_lconst dX1_shares_118 kl_0 ?_
          refine v_lif_le (tgt := 155) dX1_shares_119 dX1_shares_120 rfl (fun c20 => ?_) (fun c20 => ?_)
          · have h := Ok.pos h c20
            have h := Ok.ret h
            exact h
          · have h := Ok.neg h c20
            refine v_aload_n 0 dX1_shares_123 rfl ?_
            refine v_iload 3 dX1_shares_124 rfl ?_
            obtain ⟨g21, h⟩ := Ok.guard h
            refine lW_29 g21 dX1_shares_126 ?_
            refine v_lconst dX1_shares_127 kl_0 ?_
            refine v_lif_ne (tgt := 135) dX1_shares_128 dX1_shares_129 rfl (fun c22 => ?_) (fun c22 => ?_)
            · have h := Ok.neg h c22
              refine v_aload_n 1 dX1_shares_135 rfl ?_
              refine v_iload 3 dX1_shares_136 rfl ?_
              refine v_dup2_11 dX1_shares_138 rfl rfl ?_
              refine lW_30 g21 dX1_shares_139 ?_
              refine v_lconst dX1_shares_140 kl_1 ?_
              refine v_ladd dX1_shares_141 ?_
              refine sW_30 g21 dX1_shares_142 ?_
              refine v_nmS (fun s23 e_s23 => ?_)
              have h := Ok.nm h e_s23
              refine v_lload 2 dX1_shares_143 rfl ?_
              refine v_lconst dX1_shares_145 kl_1 ?_
              refine v_lsub dX1_shares_146 ?_
              refine v_nmL (fun v24 e_v24 => ?_)
              have h := Ok.nm h e_v24
              refine v_lstore [(6, .long v24), (2, .ref (lc 29 0)), (3, .ref (lc 30 0)), (8, .int a17.2.1)] dX1_shares_147 (Nat.le_of_ble_eq_true rfl) rfl ?_
              refine v_iinc (v := (a17.2.1 + 1 : Int32)) 3 [(8, .int (a17.2.1 + 1 : Int32)), (6, .long v24), (2, .ref (lc 29 0)), (3, .ref (lc 30 0))] dX1_shares_149 rfl (by rw [ic_1]) (Nat.le_of_ble_eq_true rfl) rfl ?_
              refine v_goto (tgt := 109) dX1_shares_152 rfl ?_
              refine v_sub [2, 3, 1, 0] rfl ?_
              have h := Ok.ret h
              exact h
            · have h := Ok.pos h c22
              refine v_goto (tgt := 149) dX1_shares_132 rfl ?_
              refine v_iinc (v := (a17.2.1 + 1 : Int32)) 3 [(8, .int (a17.2.1 + 1 : Int32)), (2, .ref (lc 29 0)), (3, .ref (lc 30 0)), (6, .long a17.1)] dX1_shares_149 rfl (by rw [ic_1]) (Nat.le_of_ble_eq_true rfl) rfl ?_
              refine v_goto (tgt := 109) dX1_shares_152 rfl ?_
              refine v_sub [1, 2, 3, 0] rfl ?_
              have h := Ok.ret h
              exact h
    · have h : Ok (fT_shares_29_30_L47 x0 b2 a7) _ := h
      unfold fT_shares_29_30_L47 at h
      refine v_iload 5 dX1_shares_47 rfl ?_
      refine v_aload_n 1 dX1_shares_49 rfl ?_
      refine nW_29 dX1_shares_50 ?_
      refine v_icmp_ge (tgt := 106) dX1_shares_51 rfl (fun c9 => ?_) (fun c9 => ?_)
      · have h := Ok.pos h c9
        have h := Ok.ret h
        exact h
      · have h := Ok.neg h c9
        refine v_aload_n 2 dX1_shares_54 rfl ?_
        refine v_iload 5 dX1_shares_55 rfl ?_
        refine v_lload 3 dX1_shares_57 rfl ?_
        refine v_lconst dX1_shares_59 kl_0 ?_
        have h := Ok.join (PJ := fun t10 : Int64 => tt_V (XW l D dA A b) cX1_shares (RX1, 13, none, rmT_shares_29_30, tt_nt) (tt_fn (XW l D dA A b) (RX1, 13, none, rmT_shares_29_30, tt_nt) Q) 90 [(0, .long x0), (2, .ref (lc 29 0)), (3, .ref (lc 30 0)), (4, .long b2.1), (6, .long a7.1), (8, .int a7.2.1)] [.long t10, .int a7.2.1, .ref (lc 30 0)] lc a7.2.2 0 0) h (fun t10 h => by
          obtain ⟨g14, h⟩ := Ok.guard h
          refine sW_30 g14 dX1_shares_90 ?_
          refine v_nmS (fun s15 e_s15 => ?_)
          have h := Ok.nm h e_s15
          refine v_lload 4 dX1_shares_91 rfl ?_
          refine v_aload_n 2 dX1_shares_93 rfl ?_
          refine v_iload 5 dX1_shares_94 rfl ?_
          refine lW_30 g14 dX1_shares_96 ?_
          refine v_lsub dX1_shares_97 ?_
          refine v_nmL (fun v16 e_v16 => ?_)
          have h := Ok.nm h e_v16
          refine v_lstore [(6, .long v16), (0, .long x0), (2, .ref (lc 29 0)), (3, .ref (lc 30 0)), (4, .long b2.1), (8, .int a7.2.1)] dX1_shares_98 (Nat.le_of_ble_eq_true rfl) rfl ?_
          refine v_iinc (v := (a7.2.1 + 1 : Int32)) 5 [(8, .int (a7.2.1 + 1 : Int32)), (6, .long v16), (0, .long x0), (2, .ref (lc 29 0)), (3, .ref (lc 30 0)), (4, .long b2.1)] dX1_shares_100 rfl (by rw [ic_1]) (Nat.le_of_ble_eq_true rfl) rfl ?_
          refine v_goto (tgt := 47) dX1_shares_103 rfl ?_
          refine v_sub [2, 3, 4, 5, 1, 0] rfl ?_
          have h := Ok.ret h
          exact h)
        refine v_lif_ne (tgt := 68) dX1_shares_60 dX1_shares_61 rfl (fun c11 => ?_) (fun c11 => ?_)
        · have h := Ok.neg h c11
          refine v_lload_n 0 dX1_shares_68 rfl ?_
          refine v_lload 3 dX1_shares_69 rfl ?_
          obtain ⟨g12, h⟩ := Ok.guard h
          refine v_ldiv dX1_shares_71 g12 ?_
          refine v_aload_n 1 dX1_shares_72 rfl ?_
          refine v_iload 5 dX1_shares_73 rfl ?_
          obtain ⟨g13, h⟩ := Ok.guard h
          refine lW_29 g13 dX1_shares_75 ?_
          refine v_lmul dX1_shares_76 ?_
          refine v_lload_n 0 dX1_shares_77 rfl ?_
          refine v_lload 3 dX1_shares_78 rfl ?_
          refine v_lrem dX1_shares_80 g12 ?_
          refine v_aload_n 1 dX1_shares_81 rfl ?_
          refine v_iload 5 dX1_shares_82 rfl ?_
          refine lW_29 g13 dX1_shares_84 ?_
          refine v_lmul dX1_shares_85 ?_
          refine v_lload 3 dX1_shares_86 rfl ?_
          refine v_ldiv dX1_shares_88 g12 ?_
          refine v_ladd dX1_shares_89 ?_
          have h := Ok.ret h
          exact h
        · have h := Ok.pos h c11
          refine v_lconst dX1_shares_64 kl_0 ?_
          refine v_goto (tgt := 90) dX1_shares_65 rfl ?_
          have h := Ok.ret h
          exact h
  · have h : Ok (fT_shares_29_30_L17 s a1) _ := h
    unfold fT_shares_29_30_L17 at h
    refine v_iload 7 dX1_shares_17 rfl ?_
    refine v_iload 6 dX1_shares_19 rfl ?_
    refine v_icmp_ge (tgt := 44) dX1_shares_21 rfl (fun c3 => ?_) (fun c3 => ?_)
    · have h := Ok.pos h c3
      have h := Ok.ret h
      exact h
    · have h := Ok.neg h c3
      refine v_aload 5 dX1_shares_24 rfl ?_
      refine v_iload 7 dX1_shares_26 rfl ?_
      obtain ⟨g4, h⟩ := Ok.guard h
      refine lW_29 g4 dX1_shares_28 ?_
      refine v_nmL (fun v5 e_v5 => ?_)
      have h := Ok.nm h e_v5
      refine v_lstore [(11, .long v5), (0, .long x0), (2, .ref (lc 29 0)), (3, .ref (lc 30 0)), (4, .long a1.1), (6, .long x0), (8, .ref (lc 29 0)), (9, .int (40 : Int32)), (10, .int a1.2)] dX1_shares_29 (Nat.le_of_ble_eq_true rfl) rfl ?_
      refine v_lload 4 dX1_shares_31 rfl ?_
      refine v_lload 0 dX1_shares_33 rfl ?_
      refine v_ladd dX1_shares_35 ?_
      refine v_nmL (fun v6 e_v6 => ?_)
      have h := Ok.nm h e_v6
      refine v_lstore [(4, .long v6), (11, .long v5), (0, .long x0), (2, .ref (lc 29 0)), (3, .ref (lc 30 0)), (6, .long x0), (8, .ref (lc 29 0)), (9, .int (40 : Int32)), (10, .int a1.2)] dX1_shares_36 (Nat.le_of_ble_eq_true rfl) rfl ?_
      refine v_iinc (v := (a1.2 + 1 : Int32)) 8 [(10, .int (a1.2 + 1 : Int32)), (4, .long v6), (11, .long v5), (0, .long x0), (2, .ref (lc 29 0)), (3, .ref (lc 30 0)), (6, .long x0), (8, .ref (lc 29 0)), (9, .int (40 : Int32))] dX1_shares_38 rfl (by rw [ic_1]) (Nat.le_of_ble_eq_true rfl) rfl ?_
      refine v_goto (tgt := 17) dX1_shares_41 rfl ?_
      refine v_sub [3, 4, 5, 1, 6, 7, 8, 0] rfl ?_
      have h := Ok.ret h
      exact h
theorem cW_X2_226_29_30 {l : Launch} {D : va_G} {dA : Nat → ClassId} {A : Nat → Prop} {b : Bool} {lc : Nat → Nat → Nat} {s : tt_St} {cc : ByteArray} {nl : Nat} {rt : Option FieldType} {rm : Room} {tn : tt_Tn} {Q : tt_Fin} {pc : Nat} {lv : List (Nat × Value)} {rest : List Value} {ck cn : Nat} {x0 : Int64} {K : tt_St → Prop} (h : Ok (fT_shares_29_30 s x0) K) (hR : 0 + 1 ≤ rm.frames ∧ 8 + (13 + 11) + 0 ≤ rm.locals) (hW : (rest.map fun v => v.category).sum ≤ 8) (d : decode cc pc = .ok (.invokestatic 226, 3)) (kk : ∀ r, K r → tt_V (XW l D dA A b) cc (RX2, nl, rt, rm, tn) Q (pc + 3) lv rest lc r ck cn) (hf : ck ≤ rm.cells ∧ cn ≤ rm.slots := by exact ⟨Nat.zero_le _, Nat.zero_le _⟩) : tt_V (XW l D dA A b) cc (RX2, nl, rt, rm, tn) Q pc lv (.ref (lc 30 0) :: .ref (lc 29 0) :: .long x0 :: rest) lc s ck cn :=
  v_callSN (nA := 3) (As := [.long x0, .ref (lc 29 0), .ref (lc 30 0)]) knW (mT_shares_29_30 l D dA A b lc s x0 (Q := (fun v lc' s' => ∃ r, K r ∧ v = none ∧ lc' = lc ∧ s' = r)) (h.mono (fun r hr => ⟨r, hr, rfl, rfl, rfl⟩))) (lw_meth q479) q477 q127 q478 (by decide +kernel) rfl hR hW hf d rfl (fun v lc' s' q => by obtain ⟨r, hr, e1, e2, e3⟩ := q; rw [e1, e2, e3]; exact kk r hr)
def fW_contributes_L196 (x4 : Nat) (a18 : Int32 × tt_St) : Option ((Int32 × tt_St) ⊕ (Int32 × tt_St)) :=
  if (40 : Int32) ≤ a18.1 then some (.inr (a18.1, a18.2)) else if inB a18.1 40 then nm (wrL a18.2 12 x4 a18.1.toNatClampNeg ((rdL a18.2 12 x4 a18.1.toNatClampNeg) + (rdL a18.2 30 0 a18.1.toNatClampNeg))) fun s22 => nm (wrL s22 10 x4 a18.1.toNatClampNeg ((rdL s22 10 x4 a18.1.toNatClampNeg) + (rdL s22 12 x4 a18.1.toNatClampNeg))) fun s23 => some (.inl ((a18.1 + 1 : Int32), s23)) else none
def fW_contributes_L144 (x4 : Nat) (a12 : Int32 × tt_St) : Option ((Int32 × tt_St) ⊕ (Int32 × tt_St)) :=
  if (40 : Int32) ≤ a12.1 then some (.inr (a12.1, a12.2)) else if inB a12.1 40 then nm (wrL a12.2 12 x4 a12.1.toNatClampNeg ((rdL a12.2 12 x4 a12.1.toNatClampNeg) - (rdL a12.2 30 0 a12.1.toNatClampNeg))) fun s16 => some (.inl ((a12.1 + 1 : Int32), s16)) else none
def fW_contributes_L26 (x4 : Nat) (a3 : Int64 × Int64 × Int32 × tt_St) : Option ((Int64 × Int64 × Int32 × tt_St) ⊕ (Int64 × Int64 × Int32 × tt_St)) :=
  if (40 : Int32) ≤ a3.2.2.1 then some (.inr (a3.1, a3.2.1, a3.2.2.1, a3.2.2.2)) else if inB a3.2.2.1 40 then nm (wrL a3.2.2.2 28 0 a3.2.2.1.toNatClampNeg (if ((rdL a3.2.2.2 10 x4 a3.2.2.1.toNatClampNeg) - (rdL a3.2.2.2 10 25 a3.2.2.1.toNatClampNeg)) < (0 : Int64) then (0 : Int64) else ((rdL a3.2.2.2 10 x4 a3.2.2.1.toNatClampNeg) - (rdL a3.2.2.2 10 25 a3.2.2.1.toNatClampNeg)))) fun s7 => nm (wrL s7 29 0 a3.2.2.1.toNatClampNeg (if ((rdL s7 10 25 a3.2.2.1.toNatClampNeg) - (rdL s7 10 x4 a3.2.2.1.toNatClampNeg)) < (0 : Int64) then (0 : Int64) else ((rdL s7 10 25 a3.2.2.1.toNatClampNeg) - (rdL s7 10 x4 a3.2.2.1.toNatClampNeg)))) fun s8 => nm (a3.1 + (rdL s8 28 0 a3.2.2.1.toNatClampNeg)) fun v9 => nm (a3.2.1 + (rdL s8 29 0 a3.2.2.1.toNatClampNeg)) fun v10 => some (.inl (v9, v10, (a3.2.2.1 + 1 : Int32), s8)) else none
def fW_contributes (s : tt_St) (x1 : Nat) (x2 : Int64) (x4 : Nat) : Option (tt_St) :=
  (fF_begins s 25).bind fun r1 => (fW_byTime r1 x1 x2 25).bind fun r2 => (itr (fW_contributes_L26 x4) tt_fuel ((0 : Int64), (0 : Int64), (0 : Int32), r2)).bind fun b4 => (fT_shares_28_30 b4.2.2.2 (if b4.2.1 < b4.1 then b4.2.1 else b4.1)).bind fun r11 => (itr (fW_contributes_L144 x4) tt_fuel ((0 : Int32), r11)).bind fun b13 => (fT_shares_29_30 b13.2 (if b4.2.1 < b4.1 then b4.2.1 else b4.1)).bind fun r17 => (itr (fW_contributes_L196 x4) tt_fuel ((0 : Int32), r17)).bind fun b19 => some b19.2
abbrev rmW_contributes_7_14 : Room := { frames := 6, cells := 0, slots := 0, locals := 157 }
set_option maxHeartbeats 4000000 in
theorem mW_contributes_7_14 (l : Launch) (D : va_G) (dA : Nat → ClassId) (A : Nat → Prop) (b : Bool) (lc : Nat → Nat → Nat) (s : tt_St) (x1 : Nat) (x2 : Int64) (x4 : Nat) (hx1 : lvH b x1) (hx4 : lvF x4) {Q : Option Value → (Nat → Nat → Nat) → tt_St → Prop} (h : Ok (fW_contributes s x1 x2 x4) (fun r => Q none lc r)) : tt_Sp (XW l D dA A b) yX2_contributes cX2_contributes 10 none rmW_contributes_7_14 [.ref (lc 0 0), .ref (lc 7 x1), .long x2, .ref (lc 14 x4)] lc s Q := by
  refine tt_Sp.ofV plX2 kokW (Nat.le_of_ble_eq_true rfl) ?_
  show tt_V (XW l D dA A b) cX2_contributes (RX2, 10, none, rmW_contributes_7_14, tt_nt) (tt_fn (XW l D dA A b) (RX2, 10, none, rmW_contributes_7_14, tt_nt) Q) 0 [(0, .ref (lc 0 0)), (1, .ref (lc 7 x1)), (2, .long x2), (4, .ref (lc 14 x4))] [] lc s 0 0
  unfold fW_contributes at h
  refine v_aload_n 0 dX2_contributes_0 rfl ?_
  refine gW_X2_79_0 dX2_contributes_1 ?_
  refine cW_X2_299_14 (.inl rfl) (Ok.bind h) ⟨Nat.le_of_ble_eq_true rfl, Nat.le_of_ble_eq_true rfl⟩ (Nat.le_of_ble_eq_true rfl) dX2_contributes_4 (fun r1 h => ?_)
  refine v_aload_n 0 dX2_contributes_7 rfl ?_
  refine v_aload_n 1 dX2_contributes_8 rfl ?_
  refine v_lload_n 2 dX2_contributes_9 rfl ?_
  refine v_aload_n 0 dX2_contributes_10 rfl ?_
  refine gW_X2_79_0 dX2_contributes_11 ?_
  refine cW_X2_300_0_7_14 hx1 (.inl rfl) (Ok.bind h) ⟨Nat.le_of_ble_eq_true rfl, Nat.le_of_ble_eq_true rfl⟩ (Nat.le_of_ble_eq_true rfl) dX2_contributes_14 (fun r2 h => ?_)
  refine v_lconst dX2_contributes_17 kl_0 ?_
  refine v_lstore [(5, .long (0 : Int64)), (0, .ref (lc 0 0)), (1, .ref (lc 7 x1)), (2, .long x2), (4, .ref (lc 14 x4))] dX2_contributes_18 (Nat.le_of_ble_eq_true rfl) rfl ?_
  refine v_lconst dX2_contributes_20 kl_0 ?_
  refine v_lstore [(7, .long (0 : Int64)), (5, .long (0 : Int64)), (0, .ref (lc 0 0)), (1, .ref (lc 7 x1)), (2, .long x2), (4, .ref (lc 14 x4))] dX2_contributes_21 (Nat.le_of_ble_eq_true rfl) rfl ?_
  refine v_iconst dX2_contributes_23 ic_0 ?_
  refine v_istore [(9, .int (0 : Int32)), (7, .long (0 : Int64)), (5, .long (0 : Int64)), (0, .ref (lc 0 0)), (1, .ref (lc 7 x1)), (2, .long x2), (4, .ref (lc 14 x4))] dX2_contributes_24 (Nat.le_of_ble_eq_true rfl) rfl ?_
  refine v_sub [3, 6, 2, 1, 0] rfl ?_
  refine itr_loop (P := fun a3 : Int64 × Int64 × Int32 × tt_St => tt_V (XW l D dA A b) cX2_contributes (RX2, 10, none, rmW_contributes_7_14, tt_nt) (tt_fn (XW l D dA A b) (RX2, 10, none, rmW_contributes_7_14, tt_nt) Q) 26 [(0, .ref (lc 0 0)), (4, .ref (lc 14 x4)), (5, .long a3.1), (7, .long a3.2.1), (9, .int a3.2.2.1)] [] lc a3.2.2.2 0 0) (PE := fun b4 : Int64 × Int64 × Int32 × tt_St => tt_V (XW l D dA A b) cX2_contributes (RX2, 10, none, rmW_contributes_7_14, tt_nt) (tt_fn (XW l D dA A b) (RX2, 10, none, rmW_contributes_7_14, tt_nt) Q) 123 [(0, .ref (lc 0 0)), (4, .ref (lc 14 x4)), (5, .long b4.1), (7, .long b4.2.1), (9, .int b4.2.2.1)] [] lc b4.2.2.2 0 0) h (fun b4 h => ?_) (fun a3 h => ?_)
  · refine v_lload 2 dX2_contributes_123 rfl ?_
    refine v_lload 3 dX2_contributes_125 rfl ?_
    refine v_minL q507 q508 q143 q509 (Nat.le_of_ble_eq_true rfl) (Nat.le_of_ble_eq_true rfl) (Nat.zero_le _) (Nat.zero_le _) dX2_contributes_127 ?_
    refine v_aload_n 0 dX2_contributes_130 rfl ?_
    refine gW_X2_45_0 dX2_contributes_131 ?_
    refine v_aload_n 0 dX2_contributes_134 rfl ?_
    refine gW_X2_51_0 dX2_contributes_135 ?_
    refine cW_X2_226_28_30 (Ok.bind h) ⟨Nat.le_of_ble_eq_true rfl, Nat.le_of_ble_eq_true rfl⟩ (Nat.le_of_ble_eq_true rfl) dX2_contributes_138 (fun r11 h => ?_)
    refine v_iconst dX2_contributes_141 ic_0 ?_
    refine v_istore [(9, .int (0 : Int32)), (0, .ref (lc 0 0)), (4, .ref (lc 14 x4)), (5, .long b4.1), (7, .long b4.2.1)] dX2_contributes_142 (Nat.le_of_ble_eq_true rfl) rfl ?_
    refine v_sub [1, 2, 3, 4, 0] rfl ?_
    refine itr_loop (P := fun a12 : Int32 × tt_St => tt_V (XW l D dA A b) cX2_contributes (RX2, 10, none, rmW_contributes_7_14, tt_nt) (tt_fn (XW l D dA A b) (RX2, 10, none, rmW_contributes_7_14, tt_nt) Q) 144 [(0, .ref (lc 0 0)), (4, .ref (lc 14 x4)), (5, .long b4.1), (7, .long b4.2.1), (9, .int a12.1)] [] lc a12.2 0 0) (PE := fun b13 : Int32 × tt_St => tt_V (XW l D dA A b) cX2_contributes (RX2, 10, none, rmW_contributes_7_14, tt_nt) (tt_fn (XW l D dA A b) (RX2, 10, none, rmW_contributes_7_14, tt_nt) Q) 175 [(0, .ref (lc 0 0)), (4, .ref (lc 14 x4)), (5, .long b4.1), (7, .long b4.2.1), (9, .int b13.1)] [] lc b13.2 0 0) h (fun b13 h => ?_) (fun a12 h => ?_)
    · refine v_lload 2 dX2_contributes_175 rfl ?_
      refine v_lload 3 dX2_contributes_177 rfl ?_
      refine v_minL q507 q508 q143 q509 (Nat.le_of_ble_eq_true rfl) (Nat.le_of_ble_eq_true rfl) (Nat.zero_le _) (Nat.zero_le _) dX2_contributes_179 ?_
      refine v_aload_n 0 dX2_contributes_182 rfl ?_
      refine gW_X2_48_0 dX2_contributes_183 ?_
      refine v_aload_n 0 dX2_contributes_186 rfl ?_
      refine gW_X2_51_0 dX2_contributes_187 ?_
      refine cW_X2_226_29_30 (Ok.bind h) ⟨Nat.le_of_ble_eq_true rfl, Nat.le_of_ble_eq_true rfl⟩ (Nat.le_of_ble_eq_true rfl) dX2_contributes_190 (fun r17 h => ?_)
      refine v_iconst dX2_contributes_193 ic_0 ?_
      refine v_istore [(9, .int (0 : Int32)), (0, .ref (lc 0 0)), (4, .ref (lc 14 x4)), (5, .long b4.1), (7, .long b4.2.1)] dX2_contributes_194 (Nat.le_of_ble_eq_true rfl) rfl ?_
      refine v_sub [1, 2, 0] rfl ?_
      refine itr_loop (P := fun a18 : Int32 × tt_St => tt_V (XW l D dA A b) cX2_contributes (RX2, 10, none, rmW_contributes_7_14, tt_nt) (tt_fn (XW l D dA A b) (RX2, 10, none, rmW_contributes_7_14, tt_nt) Q) 196 [(0, .ref (lc 0 0)), (4, .ref (lc 14 x4)), (9, .int a18.1)] [] lc a18.2 0 0) (PE := fun b19 : Int32 × tt_St => tt_V (XW l D dA A b) cX2_contributes (RX2, 10, none, rmW_contributes_7_14, tt_nt) (tt_fn (XW l D dA A b) (RX2, 10, none, rmW_contributes_7_14, tt_nt) Q) 246 [(0, .ref (lc 0 0)), (4, .ref (lc 14 x4)), (9, .int b19.1)] [] lc b19.2 0 0) h (fun b19 h => ?_) (fun a18 h => ?_)
      · have h := Ok.ret h
        exact v_vret rfl (Nat.zero_le _) (Nat.zero_le _) dX2_contributes_246 h
      · have h : Ok (fW_contributes_L196 x4 a18) _ := h
        unfold fW_contributes_L196 at h
        refine v_iload 2 dX2_contributes_196 rfl ?_
        refine v_bipush dX2_contributes_198 kb_40 ?_
        refine v_icmp_ge (tgt := 246) dX2_contributes_200 rfl (fun c20 => ?_) (fun c20 => ?_)
        · have h := Ok.pos h c20
          have h := Ok.ret h
          exact h
        · have h := Ok.neg h c20
          refine v_aload 1 dX2_contributes_203 rfl ?_
          refine gW_X2_303_14 hx4 dX2_contributes_205 ?_
          refine v_iload 2 dX2_contributes_208 rfl ?_
          refine v_dup2_11 dX2_contributes_210 rfl rfl ?_
          obtain ⟨g21, h⟩ := Ok.guard h
          refine lW_12 (.inr hx4) g21 dX2_contributes_211 ?_
          refine v_aload_n 0 dX2_contributes_212 rfl ?_
          refine gW_X2_51_0 dX2_contributes_213 ?_
          refine v_iload 2 dX2_contributes_216 rfl ?_
          refine lW_30 g21 dX2_contributes_218 ?_
          refine v_ladd dX2_contributes_219 ?_
          refine sW_12 (.inr hx4) g21 dX2_contributes_220 ?_
          refine v_nmS (fun s22 e_s22 => ?_)
          have h := Ok.nm h e_s22
          refine v_aload 1 dX2_contributes_221 rfl ?_
          refine gW_X2_203_14 hx4 dX2_contributes_223 ?_
          refine v_iload 2 dX2_contributes_226 rfl ?_
          refine v_dup2_11 dX2_contributes_228 rfl rfl ?_
          refine lW_10 (.inr hx4) g21 dX2_contributes_229 ?_
          refine v_aload 1 dX2_contributes_230 rfl ?_
          refine gW_X2_303_14 hx4 dX2_contributes_232 ?_
          refine v_iload 2 dX2_contributes_235 rfl ?_
          refine lW_12 (.inr hx4) g21 dX2_contributes_237 ?_
          refine v_ladd dX2_contributes_238 ?_
          refine sW_10 (.inr hx4) g21 dX2_contributes_239 ?_
          refine v_nmS (fun s23 e_s23 => ?_)
          have h := Ok.nm h e_s23
          refine v_iinc (v := (a18.1 + 1 : Int32)) 2 [(9, .int (a18.1 + 1 : Int32)), (0, .ref (lc 0 0)), (4, .ref (lc 14 x4))] dX2_contributes_240 rfl (by rw [ic_1]) (Nat.le_of_ble_eq_true rfl) rfl ?_
          refine v_goto (tgt := 196) dX2_contributes_243 rfl ?_
          refine v_sub [1, 2, 0] rfl ?_
          have h := Ok.ret h
          exact h
    · have h : Ok (fW_contributes_L144 x4 a12) _ := h
      unfold fW_contributes_L144 at h
      refine v_iload 4 dX2_contributes_144 rfl ?_
      refine v_bipush dX2_contributes_146 kb_40 ?_
      refine v_icmp_ge (tgt := 175) dX2_contributes_148 rfl (fun c14 => ?_) (fun c14 => ?_)
      · have h := Ok.pos h c14
        have h := Ok.ret h
        exact h
      · have h := Ok.neg h c14
        refine v_aload 1 dX2_contributes_151 rfl ?_
        refine gW_X2_303_14 hx4 dX2_contributes_153 ?_
        refine v_iload 4 dX2_contributes_156 rfl ?_
        refine v_dup2_11 dX2_contributes_158 rfl rfl ?_
        obtain ⟨g15, h⟩ := Ok.guard h
        refine lW_12 (.inr hx4) g15 dX2_contributes_159 ?_
        refine v_aload_n 0 dX2_contributes_160 rfl ?_
        refine gW_X2_51_0 dX2_contributes_161 ?_
        refine v_iload 4 dX2_contributes_164 rfl ?_
        refine lW_30 g15 dX2_contributes_166 ?_
        refine v_lsub dX2_contributes_167 ?_
        refine sW_12 (.inr hx4) g15 dX2_contributes_168 ?_
        refine v_nmS (fun s16 e_s16 => ?_)
        have h := Ok.nm h e_s16
        refine v_iinc (v := (a12.1 + 1 : Int32)) 4 [(9, .int (a12.1 + 1 : Int32)), (0, .ref (lc 0 0)), (4, .ref (lc 14 x4)), (5, .long b4.1), (7, .long b4.2.1)] dX2_contributes_169 rfl (by rw [ic_1]) (Nat.le_of_ble_eq_true rfl) rfl ?_
        refine v_goto (tgt := 144) dX2_contributes_172 rfl ?_
        refine v_sub [1, 2, 3, 4, 0] rfl ?_
        have h := Ok.ret h
        exact h
  · have h : Ok (fW_contributes_L26 x4 a3) _ := h
    unfold fW_contributes_L26 at h
    refine v_iload 4 dX2_contributes_26 rfl ?_
    refine v_bipush dX2_contributes_28 kb_40 ?_
    refine v_icmp_ge (tgt := 123) dX2_contributes_30 rfl (fun c5 => ?_) (fun c5 => ?_)
    · have h := Ok.pos h c5
      have h := Ok.ret h
      exact h
    · have h := Ok.neg h c5
      refine v_aload_n 0 dX2_contributes_33 rfl ?_
      refine gW_X2_45_0 dX2_contributes_34 ?_
      refine v_iload 4 dX2_contributes_37 rfl ?_
      refine v_lconst dX2_contributes_39 kl_0 ?_
      refine v_aload 1 dX2_contributes_40 rfl ?_
      refine gW_X2_203_14 hx4 dX2_contributes_42 ?_
      refine v_iload 4 dX2_contributes_45 rfl ?_
      obtain ⟨g6, h⟩ := Ok.guard h
      refine lW_10 (.inr hx4) g6 dX2_contributes_47 ?_
      refine v_aload_n 0 dX2_contributes_48 rfl ?_
      refine gW_X2_79_0 dX2_contributes_49 ?_
      refine gW_X2_203_14 (.inl rfl) dX2_contributes_52 ?_
      refine v_iload 4 dX2_contributes_55 rfl ?_
      refine lW_10 (.inr (.inl rfl)) g6 dX2_contributes_57 ?_
      refine v_lsub dX2_contributes_58 ?_
      refine v_maxL q504 q505 q143 q506 (Nat.le_of_ble_eq_true rfl) (Nat.le_of_ble_eq_true rfl) (Nat.zero_le _) (Nat.zero_le _) dX2_contributes_59 ?_
      refine sW_28 g6 dX2_contributes_62 ?_
      refine v_nmS (fun s7 e_s7 => ?_)
      have h := Ok.nm h e_s7
      refine v_aload_n 0 dX2_contributes_63 rfl ?_
      refine gW_X2_48_0 dX2_contributes_64 ?_
      refine v_iload 4 dX2_contributes_67 rfl ?_
      refine v_lconst dX2_contributes_69 kl_0 ?_
      refine v_aload_n 0 dX2_contributes_70 rfl ?_
      refine gW_X2_79_0 dX2_contributes_71 ?_
      refine gW_X2_203_14 (.inl rfl) dX2_contributes_74 ?_
      refine v_iload 4 dX2_contributes_77 rfl ?_
      refine lW_10 (.inr (.inl rfl)) g6 dX2_contributes_79 ?_
      refine v_aload 1 dX2_contributes_80 rfl ?_
      refine gW_X2_203_14 hx4 dX2_contributes_82 ?_
      refine v_iload 4 dX2_contributes_85 rfl ?_
      refine lW_10 (.inr hx4) g6 dX2_contributes_87 ?_
      refine v_lsub dX2_contributes_88 ?_
      refine v_maxL q504 q505 q143 q506 (Nat.le_of_ble_eq_true rfl) (Nat.le_of_ble_eq_true rfl) (Nat.zero_le _) (Nat.zero_le _) dX2_contributes_89 ?_
      refine sW_29 g6 dX2_contributes_92 ?_
      refine v_nmS (fun s8 e_s8 => ?_)
      have h := Ok.nm h e_s8
      refine v_lload 2 dX2_contributes_93 rfl ?_
      refine v_aload_n 0 dX2_contributes_95 rfl ?_
      refine gW_X2_45_0 dX2_contributes_96 ?_
      refine v_iload 4 dX2_contributes_99 rfl ?_
      refine lW_28 g6 dX2_contributes_101 ?_
      refine v_ladd dX2_contributes_102 ?_
      refine v_nmL (fun v9 e_v9 => ?_)
      have h := Ok.nm h e_v9
      refine v_lstore [(5, .long v9), (0, .ref (lc 0 0)), (4, .ref (lc 14 x4)), (7, .long a3.2.1), (9, .int a3.2.2.1)] dX2_contributes_103 (Nat.le_of_ble_eq_true rfl) rfl ?_
      refine v_lload 3 dX2_contributes_105 rfl ?_
      refine v_aload_n 1 dX2_contributes_107 rfl ?_
      refine gW_X2_48_0 dX2_contributes_108 ?_
      refine v_iload 4 dX2_contributes_111 rfl ?_
      refine lW_29 g6 dX2_contributes_113 ?_
      refine v_ladd dX2_contributes_114 ?_
      refine v_nmL (fun v10 e_v10 => ?_)
      have h := Ok.nm h e_v10
      refine v_lstore [(7, .long v10), (5, .long v9), (0, .ref (lc 0 0)), (4, .ref (lc 14 x4)), (9, .int a3.2.2.1)] dX2_contributes_115 (Nat.le_of_ble_eq_true rfl) rfl ?_
      refine v_iinc (v := (a3.2.2.1 + 1 : Int32)) 4 [(9, .int (a3.2.2.1 + 1 : Int32)), (7, .long v10), (5, .long v9), (0, .ref (lc 0 0)), (4, .ref (lc 14 x4))] dX2_contributes_117 rfl (by rw [ic_1]) (Nat.le_of_ble_eq_true rfl) rfl ?_
      refine v_goto (tgt := 26) dX2_contributes_120 rfl ?_
      refine v_sub [3, 4, 2, 1, 0] rfl ?_
      have h := Ok.ret h
      exact h
theorem gW_X2_316_2 {l : Launch} {D : va_G} {dA : Nat → ClassId} {A : Nat → Prop} {b : Bool} {lc : Nat → Nat → Nat} {s : tt_St} {cc : ByteArray} {nl : Nat} {rt : Option FieldType} {rm : Room} {tn : tt_Tn} {Q : tt_Fin} {pc : Nat} {lv : List (Nat × Value)} {rest : List Value} {ck cn : Nat} {i : Nat} (hv : i < 40) (d : decode cc pc = .ok (.getfield 316, 3)) (kk : tt_V (XW l D dA A b) cc (RX2, nl, rt, rm, tn) Q (pc + 3) lv (.ref (lc 4 i) :: rest) lc s ck cn) : tt_V (XW l D dA A b) cc (RX2, nl, rt, rm, tn) Q pc lv (.ref (lc 2 i) :: rest) lc s ck cn := v_getN (p := 1) knW (lvW_2 hv) oW_2 rfl in_X6 (by decide) q343 (.inl rfl) rfl d kk
theorem gW_X2_319_14 {l : Launch} {D : va_G} {dA : Nat → ClassId} {A : Nat → Prop} {b : Bool} {lc : Nat → Nat → Nat} {s : tt_St} {cc : ByteArray} {nl : Nat} {rt : Option FieldType} {rm : Room} {tn : tt_Tn} {Q : tt_Fin} {pc : Nat} {lv : List (Nat × Value)} {rest : List Value} {ck cn : Nat} {i : Nat} (hv : lvF i) (d : decode cc pc = .ok (.getfield 319, 3)) (kk : tt_V (XW l D dA A b) cc (RX2, nl, rt, rm, tn) Q (pc + 3) lv (.ref (lc 13 i) :: rest) lc s ck cn) : tt_V (XW l D dA A b) cc (RX2, nl, rt, rm, tn) Q pc lv (.ref (lc 14 i) :: rest) lc s ck cn := v_get (p := 5) (lvW_14 hv) oW_14 rfl in_X5 (by decide) q310 (.inl rfl) rfl d kk
theorem gW_X2_322_2 {l : Launch} {D : va_G} {dA : Nat → ClassId} {A : Nat → Prop} {b : Bool} {lc : Nat → Nat → Nat} {s : tt_St} {cc : ByteArray} {nl : Nat} {rt : Option FieldType} {rm : Room} {tn : tt_Tn} {Q : tt_Fin} {pc : Nat} {lv : List (Nat × Value)} {rest : List Value} {ck cn : Nat} {i : Nat} (hv : i < 40) (d : decode cc pc = .ok (.getfield 322, 3)) (kk : tt_V (XW l D dA A b) cc (RX2, nl, rt, rm, tn) Q (pc + 3) lv (.ref (lc 3 i) :: rest) lc s ck cn) : tt_V (XW l D dA A b) cc (RX2, nl, rt, rm, tn) Q pc lv (.ref (lc 2 i) :: rest) lc s ck cn := v_getN (p := 0) knW (lvW_2 hv) oW_2 rfl in_X6 (by decide) q340 (.inl rfl) rfl d kk
theorem gW_X2_325_14 {l : Launch} {D : va_G} {dA : Nat → ClassId} {A : Nat → Prop} {b : Bool} {lc : Nat → Nat → Nat} {s : tt_St} {cc : ByteArray} {nl : Nat} {rt : Option FieldType} {rm : Room} {tn : tt_Tn} {Q : tt_Fin} {pc : Nat} {lv : List (Nat × Value)} {rest : List Value} {ck cn : Nat} {i : Nat} (hv : lvF i) (d : decode cc pc = .ok (.getfield 325, 3)) (kk : tt_V (XW l D dA A b) cc (RX2, nl, rt, rm, tn) Q (pc + 3) lv (.ref (lc 8 i) :: rest) lc s ck cn) : tt_V (XW l D dA A b) cc (RX2, nl, rt, rm, tn) Q pc lv (.ref (lc 14 i) :: rest) lc s ck cn := v_get (p := 0) (lvW_14 hv) oW_14 rfl in_X5 (by decide) q312 (.inr q313) rfl d kk
def fW_splits_L67 (x1 : Nat) (x2 : Nat) (v2 : Int64) (a10 : Int64 × Int32 × tt_St) : Option ((Int64 × Int32 × tt_St) ⊕ (Int64 × Int32 × tt_St)) :=
  if (rdI a10.2.2 2 x1 8) ≤ a10.2.1 then some (.inr (a10.1, a10.2.1, a10.2.2)) else if inB a10.2.1 4 then nm (if a10.1 ≤ (0 : Int64) then (0 : Int64) else (1 : Int64)) fun t14 => nm (((v2 * ((rdI a10.2.2 4 x1 a10.2.1.toNatClampNeg).toInt64)) / (10 : Int64)) + t14) fun v17 => nm (a10.1 - (1 : Int64)) fun v18 => if inB (((4 : Int32) * (nI x1)) + a10.2.1) 160 then nm (wrL a10.2.2 13 x2 (((4 : Int32) * (nI x1)) + a10.2.1).toNatClampNeg v17) fun s20 => nm (rdI s20 3 x1 a10.2.1.toNatClampNeg) fun v21 => if v21 = 0 then if inB (0 : Int32) 7 then nm (wrL s20 9 x2 (0 : Int32).toNatClampNeg ((rdL s20 9 x2 (0 : Int32).toNatClampNeg) + v17)) fun s32 => some (.inl (v18, (a10.2.1 + 1 : Int32), s32)) else none else if inB v21 10 then if (rdI s20 24 0 v21.toNatClampNeg) = 0 then nm (wrL s20 8 x2 v21.toNatClampNeg ((rdL s20 8 x2 v21.toNatClampNeg) + v17)) fun s30 => some (.inl (v18, (a10.2.1 + 1 : Int32), s30)) else nm (if (rdI s20 24 0 v21.toNatClampNeg) = (1 : Int32) then (5 : Int32) else (6 : Int32)) fun t25 => if inB t25 7 then nm (wrL s20 9 x2 t25.toNatClampNeg ((rdL s20 9 x2 t25.toNatClampNeg) + v17)) fun s29 => some (.inl (v18, (a10.2.1 + 1 : Int32), s29)) else none else none else none else none
def fW_splits_L30 (s : tt_St) (x1 : Nat) (v2 : Int64) (a5 : Int64 × Int32) : Option ((Int64 × Int32) ⊕ (Int64 × Int32)) :=
  if (rdI s 2 x1 8) ≤ a5.2 then some (.inr (a5.1, a5.2)) else if inB a5.2 4 then nm (a5.1 - ((v2 * ((rdI s 4 x1 a5.2.toNatClampNeg).toInt64)) / (10 : Int64))) fun v9 => some (.inl (v9, (a5.2 + 1 : Int32))) else none
def fW_splits (s : tt_St) (x1 : Nat) (x2 : Nat) : Option (tt_St) :=
  if inB (nI x1) 40 then nm (rdL s 10 x2 (nI x1).toNatClampNeg) fun v2 => (fY_allTenths s x1).bind fun r3 => nm ((v2 * r3.toInt64) / (10 : Int64)) fun v4 => (itr (fW_splits_L30 s x1 v2) tt_fuel (v4, (0 : Int32))).bind fun b6 => (itr (fW_splits_L67 x1 x2 v2) tt_fuel (b6.1, (0 : Int32), s)).bind fun b11 => if inB (4 : Int32) 7 then nm (wrL b11.2.2 9 x2 (4 : Int32).toNatClampNeg ((rdL b11.2.2 9 x2 (4 : Int32).toNatClampNeg) + (v2 - v4))) fun s34 => some s34 else none else none
abbrev rmW_splits_2_14 : Room := { frames := 1, cells := 0, slots := 0, locals := 22 }
set_option maxHeartbeats 4000000 in
theorem mW_splits_2_14 (l : Launch) (D : va_G) (dA : Nat → ClassId) (A : Nat → Prop) (b : Bool) (lc : Nat → Nat → Nat) (s : tt_St) (x1 : Nat) (x2 : Nat) (hx1 : x1 < 40) (hx2 : lvF x2) {Q : Option Value → (Nat → Nat → Nat) → tt_St → Prop} (h : Ok (fW_splits s x1 x2) (fun r => Q none lc r)) : tt_Sp (XW l D dA A b) yX2_splits cX2_splits 13 none rmW_splits_2_14 [.ref (lc 0 0), .ref (lc 2 x1), .ref (lc 14 x2)] lc s Q := by
  refine tt_Sp.ofV plX2 kokW (Nat.le_of_ble_eq_true rfl) ?_
  show tt_V (XW l D dA A b) cX2_splits (RX2, 13, none, rmW_splits_2_14, tt_nt) (tt_fn (XW l D dA A b) (RX2, 13, none, rmW_splits_2_14, tt_nt) Q) 0 [(0, .ref (lc 0 0)), (1, .ref (lc 2 x1)), (2, .ref (lc 14 x2))] [] lc s 0 0
  unfold fW_splits at h
  refine v_aload_n 2 dX2_splits_0 rfl ?_
  refine gW_X2_203_14 hx2 dX2_splits_1 ?_
  refine v_aload_n 1 dX2_splits_4 rfl ?_
  refine gW_X2_137_2 hx1 dX2_splits_5 ?_
  obtain ⟨g1, h⟩ := Ok.guard h
  refine lW_10 (.inr hx2) g1 dX2_splits_8 ?_
  refine v_nmL (fun v2 e_v2 => ?_)
  have h := Ok.nm h e_v2
  refine v_lstore_n [(3, .long v2), (0, .ref (lc 0 0)), (1, .ref (lc 2 x1)), (2, .ref (lc 14 x2))] dX2_splits_9 (Nat.le_of_ble_eq_true rfl) rfl ?_
  refine v_lload_n 0 dX2_splits_10 rfl ?_
  refine v_aload_n 2 dX2_splits_11 rfl ?_
  refine cW_X2_177_2 hx1 (Ok.bind h) ⟨Nat.le_of_ble_eq_true rfl, Nat.le_of_ble_eq_true rfl⟩ (Nat.le_of_ble_eq_true rfl) dX2_splits_12 (fun r3 h => ?_)
  refine v_i2l dX2_splits_15 rfl ?_
  refine v_lmul dX2_splits_16 ?_
  refine v_ldc2 dX2_splits_17 q1142 ?_
  refine v_ldiv dX2_splits_20 (by decide) ?_
  refine v_nmL (fun v4 e_v4 => ?_)
  have h := Ok.nm h e_v4
  refine v_lstore [(5, .long v4), (3, .long v2), (0, .ref (lc 0 0)), (1, .ref (lc 2 x1)), (2, .ref (lc 14 x2))] dX2_splits_21 (Nat.le_of_ble_eq_true rfl) rfl ?_
  refine v_lload 0 dX2_splits_23 rfl ?_
  refine v_lstore [(7, .long v4), (5, .long v4), (3, .long v2), (0, .ref (lc 0 0)), (1, .ref (lc 2 x1)), (2, .ref (lc 14 x2))] dX2_splits_25 (Nat.le_of_ble_eq_true rfl) rfl ?_
  refine v_iconst dX2_splits_27 ic_0 ?_
  refine v_istore [(9, .int (0 : Int32)), (7, .long v4), (5, .long v4), (3, .long v2), (0, .ref (lc 0 0)), (1, .ref (lc 2 x1)), (2, .ref (lc 14 x2))] dX2_splits_28 (Nat.le_of_ble_eq_true rfl) rfl ?_
  refine v_sub [4, 5, 6, 3, 2, 1, 0] rfl ?_
  refine itr_loop (P := fun a5 : Int64 × Int32 => tt_V (XW l D dA A b) cX2_splits (RX2, 13, none, rmW_splits_2_14, tt_nt) (tt_fn (XW l D dA A b) (RX2, 13, none, rmW_splits_2_14, tt_nt) Q) 30 [(0, .ref (lc 0 0)), (1, .ref (lc 2 x1)), (2, .ref (lc 14 x2)), (3, .long v2), (5, .long v4), (7, .long a5.1), (9, .int a5.2)] [] lc s 0 0) (PE := fun b6 : Int64 × Int32 => tt_V (XW l D dA A b) cX2_splits (RX2, 13, none, rmW_splits_2_14, tt_nt) (tt_fn (XW l D dA A b) (RX2, 13, none, rmW_splits_2_14, tt_nt) Q) 64 [(0, .ref (lc 0 0)), (1, .ref (lc 2 x1)), (2, .ref (lc 14 x2)), (3, .long v2), (5, .long v4), (7, .long b6.1), (9, .int b6.2)] [] lc s 0 0) h (fun b6 h => ?_) (fun a5 h => ?_)
  · refine v_iconst dX2_splits_64 ic_0 ?_
    refine v_istore [(9, .int (0 : Int32)), (0, .ref (lc 0 0)), (1, .ref (lc 2 x1)), (2, .ref (lc 14 x2)), (3, .long v2), (5, .long v4), (7, .long b6.1)] dX2_splits_65 (Nat.le_of_ble_eq_true rfl) rfl ?_
    refine v_sub [1, 2, 3, 4, 5, 6, 0] rfl ?_
    refine itr_loop (P := fun a10 : Int64 × Int32 × tt_St => tt_V (XW l D dA A b) cX2_splits (RX2, 13, none, rmW_splits_2_14, tt_nt) (tt_fn (XW l D dA A b) (RX2, 13, none, rmW_splits_2_14, tt_nt) Q) 67 [(0, .ref (lc 0 0)), (1, .ref (lc 2 x1)), (2, .ref (lc 14 x2)), (3, .long v2), (5, .long v4), (7, .long a10.1), (9, .int a10.2.1)] [] lc a10.2.2 0 0) (PE := fun b11 : Int64 × Int32 × tt_St => tt_V (XW l D dA A b) cX2_splits (RX2, 13, none, rmW_splits_2_14, tt_nt) (tt_fn (XW l D dA A b) (RX2, 13, none, rmW_splits_2_14, tt_nt) Q) 213 [(0, .ref (lc 0 0)), (1, .ref (lc 2 x1)), (2, .ref (lc 14 x2)), (3, .long v2), (5, .long v4), (7, .long b11.1), (9, .int b11.2.1)] [] lc b11.2.2 0 0) h (fun b11 h => ?_) (fun a10 h => ?_)
    · refine v_aload_n 2 dX2_splits_213 rfl ?_
      refine gW_X2_223_14 hx2 dX2_splits_214 ?_
      refine v_iconst dX2_splits_217 ic_4 ?_
      refine v_dup2_11 dX2_splits_218 rfl rfl ?_
      obtain ⟨g33, h⟩ := Ok.guard h
      refine lW_9 (.inr hx2) g33 dX2_splits_219 ?_
      refine v_lload_n 3 dX2_splits_220 rfl ?_
      refine v_lload 4 dX2_splits_221 rfl ?_
      refine v_lsub dX2_splits_223 ?_
      refine v_ladd dX2_splits_224 ?_
      refine sW_9 (.inr hx2) g33 dX2_splits_225 ?_
      refine v_nmS (fun s34 e_s34 => ?_)
      have h := Ok.nm h e_s34
      have h := Ok.ret h
      exact v_vret rfl (Nat.zero_le _) (Nat.zero_le _) dX2_splits_226 h
    · have h : Ok (fW_splits_L67 x1 x2 v2 a10) _ := h
      unfold fW_splits_L67 at h
      refine v_iload 6 dX2_splits_67 rfl ?_
      refine v_aload_n 1 dX2_splits_69 rfl ?_
      refine gW_X2_170_2 hx1 dX2_splits_70 ?_
      refine v_icmp_ge (tgt := 213) dX2_splits_73 rfl (fun c12 => ?_) (fun c12 => ?_)
      · have h := Ok.pos h c12
        have h := Ok.ret h
        exact h
      · have h := Ok.neg h c12
        refine v_lload_n 3 dX2_splits_76 rfl ?_
        refine v_aload_n 1 dX2_splits_77 rfl ?_
        refine gW_X2_316_2 hx1 dX2_splits_78 ?_
        refine v_iload 6 dX2_splits_81 rfl ?_
        obtain ⟨g13, h⟩ := Ok.guard h
        refine lW_4 hx1 g13 dX2_splits_83 ?_
        refine v_i2l dX2_splits_84 rfl ?_
        refine v_lmul dX2_splits_85 ?_
        refine v_ldc2 dX2_splits_86 q1142 ?_
        refine v_ldiv dX2_splits_89 (by decide) ?_
        refine v_lload 5 dX2_splits_90 rfl ?_
        refine v_lconst dX2_splits_92 kl_0 ?_
        have J15 : ∀ t14, t14 = (if a10.1 ≤ (0 : Int64) then (0 : Int64) else (1 : Int64)) → tt_V (XW l D dA A b) cX2_splits (RX2, 13, none, rmW_splits_2_14, tt_nt) (tt_fn (XW l D dA A b) (RX2, 13, none, rmW_splits_2_14, tt_nt) Q) 102 [(0, .ref (lc 0 0)), (1, .ref (lc 2 x1)), (2, .ref (lc 14 x2)), (3, .long v2), (5, .long v4), (7, .long a10.1), (9, .int a10.2.1)] [.long t14, .long ((v2 * ((rdI a10.2.2 4 x1 a10.2.1.toNatClampNeg).toInt64)) / (10 : Int64))] lc a10.2.2 0 0 := fun t14 e_t14 => by
          have h := Ok.nm h e_t14
          refine v_ladd dX2_splits_102 ?_
          refine v_nmL (fun v17 e_v17 => ?_)
          have h := Ok.nm h e_v17
          refine v_lstore [(10, .long v17), (0, .ref (lc 0 0)), (1, .ref (lc 2 x1)), (2, .ref (lc 14 x2)), (3, .long v2), (5, .long v4), (7, .long a10.1), (9, .int a10.2.1)] dX2_splits_103 (Nat.le_of_ble_eq_true rfl) rfl ?_
          refine v_lload 6 dX2_splits_105 rfl ?_
          refine v_lconst dX2_splits_107 kl_1 ?_
          refine v_lsub dX2_splits_108 ?_
          refine v_nmL (fun v18 e_v18 => ?_)
          have h := Ok.nm h e_v18
          refine v_lstore [(7, .long v18), (10, .long v17), (0, .ref (lc 0 0)), (1, .ref (lc 2 x1)), (2, .ref (lc 14 x2)), (3, .long v2), (5, .long v4), (9, .int a10.2.1)] dX2_splits_109 (Nat.le_of_ble_eq_true rfl) rfl ?_
          refine v_aload_n 4 dX2_splits_111 rfl ?_
          refine gW_X2_319_14 hx2 dX2_splits_112 ?_
          refine v_iconst dX2_splits_115 ic_4 ?_
          refine v_aload_n 3 dX2_splits_116 rfl ?_
          refine gW_X2_137_2 hx1 dX2_splits_117 ?_
          refine v_imul dX2_splits_120 ?_
          refine v_iload 7 dX2_splits_121 rfl ?_
          refine v_iadd dX2_splits_123 ?_
          refine v_lload 1 dX2_splits_124 rfl ?_
          obtain ⟨g19, h⟩ := Ok.guard h
          refine sW_13 (.inr hx2) g19 dX2_splits_126 ?_
          refine v_nmS (fun s20 e_s20 => ?_)
          have h := Ok.nm h e_s20
          refine v_aload_n 3 dX2_splits_127 rfl ?_
          refine gW_X2_322_2 hx1 dX2_splits_128 ?_
          refine v_iload 7 dX2_splits_131 rfl ?_
          refine lW_3 hx1 g13 dX2_splits_133 ?_
          refine v_nmI (fun v21 e_v21 => ?_)
          have h := Ok.nm h e_v21
          refine v_istore [(12, .int v21), (7, .long v18), (10, .long v17), (0, .ref (lc 0 0)), (1, .ref (lc 2 x1)), (2, .ref (lc 14 x2)), (3, .long v2), (5, .long v4), (9, .int a10.2.1)] dX2_splits_134 (Nat.le_of_ble_eq_true rfl) rfl ?_
          refine v_iload 0 dX2_splits_136 rfl ?_
          refine v_if_ne (tgt := 155) dX2_splits_138 rfl (fun c22 => ?_) (fun c22 => ?_)
          · have h := Ok.neg h c22
            refine v_aload_n 3 dX2_splits_155 rfl ?_
            refine gW_X2_32_0 dX2_splits_156 ?_
            refine v_iload 0 dX2_splits_159 rfl ?_
            obtain ⟨g23, h⟩ := Ok.guard h
            refine lW_24 g23 dX2_splits_161 ?_
            refine v_if_ne (tgt := 180) dX2_splits_162 rfl (fun c24 => ?_) (fun c24 => ?_)
            · have h := Ok.neg h c24
              refine v_aload_n 5 dX2_splits_180 rfl ?_
              refine gW_X2_223_14 hx2 dX2_splits_181 ?_
              refine v_aload_n 3 dX2_splits_184 rfl ?_
              refine gW_X2_32_0 dX2_splits_185 ?_
              refine v_iload 0 dX2_splits_188 rfl ?_
              refine lW_24 g23 dX2_splits_190 ?_
              refine v_iconst dX2_splits_191 ic_1 ?_
              have J26 : ∀ t25, t25 = (if (rdI s20 24 0 v21.toNatClampNeg) = (1 : Int32) then (5 : Int32) else (6 : Int32)) → tt_V (XW l D dA A b) cX2_splits (RX2, 13, none, rmW_splits_2_14, tt_nt) (tt_fn (XW l D dA A b) (RX2, 13, none, rmW_splits_2_14, tt_nt) Q) 201 [(0, .ref (lc 0 0)), (1, .ref (lc 2 x1)), (2, .ref (lc 14 x2)), (3, .long v2), (5, .long v4), (7, .long v18), (9, .int a10.2.1), (10, .long v17)] [.int t25, .ref (lc 9 x2)] lc s20 0 0 := fun t25 e_t25 => by
                have h := Ok.nm h e_t25
                refine v_dup2_11 dX2_splits_201 rfl rfl ?_
                obtain ⟨g28, h⟩ := Ok.guard h
                refine lW_9 (.inr hx2) g28 dX2_splits_202 ?_
                refine v_lload 7 dX2_splits_203 rfl ?_
                refine v_ladd dX2_splits_205 ?_
                refine sW_9 (.inr hx2) g28 dX2_splits_206 ?_
                refine v_nmS (fun s29 e_s29 => ?_)
                have h := Ok.nm h e_s29
                refine v_iinc (v := (a10.2.1 + 1 : Int32)) 6 [(9, .int (a10.2.1 + 1 : Int32)), (0, .ref (lc 0 0)), (1, .ref (lc 2 x1)), (2, .ref (lc 14 x2)), (3, .long v2), (5, .long v4), (7, .long v18), (10, .long v17)] dX2_splits_207 rfl (by rw [ic_1]) (Nat.le_of_ble_eq_true rfl) rfl ?_
                refine v_goto (tgt := 67) dX2_splits_210 rfl ?_
                refine v_sub [1, 2, 3, 4, 5, 6, 0] rfl ?_
                have h := Ok.ret h
                exact h
              refine v_icmp_ne (tgt := 199) dX2_splits_192 rfl (fun c27 => ?_) (fun c27 => ?_)
              · refine v_bipush dX2_splits_199 kb_6 ?_
                refine v_sub [3, 4, 5, 6, 7, 1, 8, 2] rfl ?_
                exact J26 _ (by rw [if_neg c27])
              · refine v_iconst dX2_splits_195 ic_5 ?_
                refine v_goto (tgt := 201) dX2_splits_196 rfl ?_
                refine v_sub [3, 4, 5, 6, 7, 1, 8, 2] rfl ?_
                exact J26 _ (by rw [if_pos c27])
            · have h := Ok.pos h c24
              refine v_aload_n 5 dX2_splits_165 rfl ?_
              refine gW_X2_325_14 hx2 dX2_splits_166 ?_
              refine v_iload 0 dX2_splits_169 rfl ?_
              refine v_dup2_11 dX2_splits_171 rfl rfl ?_
              refine lW_8 (.inr hx2) g23 dX2_splits_172 ?_
              refine v_lload 2 dX2_splits_173 rfl ?_
              refine v_ladd dX2_splits_175 ?_
              refine sW_8 (.inr hx2) g23 dX2_splits_176 ?_
              refine v_nmS (fun s30 e_s30 => ?_)
              have h := Ok.nm h e_s30
              refine v_goto (tgt := 207) dX2_splits_177 rfl ?_
              refine v_iinc (v := (a10.2.1 + 1 : Int32)) 8 [(9, .int (a10.2.1 + 1 : Int32)), (12, .int v21), (7, .long v18), (10, .long v17), (0, .ref (lc 0 0)), (1, .ref (lc 2 x1)), (2, .ref (lc 14 x2)), (3, .long v2), (5, .long v4)] dX2_splits_207 rfl (by rw [ic_1]) (Nat.le_of_ble_eq_true rfl) rfl ?_
              refine v_goto (tgt := 67) dX2_splits_210 rfl ?_
              refine v_sub [4, 5, 6, 7, 8, 2, 0] rfl ?_
              have h := Ok.ret h
              exact h
          · have h := Ok.pos h c22
            refine v_aload_n 5 dX2_splits_141 rfl ?_
            refine gW_X2_223_14 hx2 dX2_splits_142 ?_
            refine v_iconst dX2_splits_145 ic_0 ?_
            refine v_dup2_11 dX2_splits_146 rfl rfl ?_
            obtain ⟨g31, h⟩ := Ok.guard h
            refine lW_9 (.inr hx2) g31 dX2_splits_147 ?_
            refine v_lload 2 dX2_splits_148 rfl ?_
            refine v_ladd dX2_splits_150 ?_
            refine sW_9 (.inr hx2) g31 dX2_splits_151 ?_
            refine v_nmS (fun s32 e_s32 => ?_)
            have h := Ok.nm h e_s32
            refine v_goto (tgt := 207) dX2_splits_152 rfl ?_
            refine v_iinc (v := (a10.2.1 + 1 : Int32)) 8 [(9, .int (a10.2.1 + 1 : Int32)), (12, .int v21), (7, .long v18), (10, .long v17), (0, .ref (lc 0 0)), (1, .ref (lc 2 x1)), (2, .ref (lc 14 x2)), (3, .long v2), (5, .long v4)] dX2_splits_207 rfl (by rw [ic_1]) (Nat.le_of_ble_eq_true rfl) rfl ?_
            refine v_goto (tgt := 67) dX2_splits_210 rfl ?_
            refine v_sub [4, 5, 6, 7, 8, 2, 0] rfl ?_
            have h := Ok.ret h
            exact h
        refine v_lif_le (tgt := 101) dX2_splits_93 dX2_splits_94 rfl (fun c16 => ?_) (fun c16 => ?_)
        · refine v_lconst dX2_splits_101 kl_0 ?_
          exact J15 _ (by rw [if_pos c16])
        · refine v_lconst dX2_splits_97 kl_1 ?_
          refine v_goto (tgt := 102) dX2_splits_98 rfl ?_
          exact J15 _ (by rw [if_neg c16])
  · have h : Ok (fW_splits_L30 s x1 v2 a5) _ := h
    unfold fW_splits_L30 at h
    refine v_iload 6 dX2_splits_30 rfl ?_
    refine v_aload_n 1 dX2_splits_32 rfl ?_
    refine gW_X2_170_2 hx1 dX2_splits_33 ?_
    refine v_icmp_ge (tgt := 64) dX2_splits_36 rfl (fun c7 => ?_) (fun c7 => ?_)
    · have h := Ok.pos h c7
      have h := Ok.ret h
      exact h
    · have h := Ok.neg h c7
      refine v_lload 5 dX2_splits_39 rfl ?_
      refine v_lload_n 3 dX2_splits_41 rfl ?_
      refine v_aload_n 1 dX2_splits_42 rfl ?_
      refine gW_X2_316_2 hx1 dX2_splits_43 ?_
      refine v_iload 6 dX2_splits_46 rfl ?_
      obtain ⟨g8, h⟩ := Ok.guard h
      refine lW_4 hx1 g8 dX2_splits_48 ?_
      refine v_i2l dX2_splits_49 rfl ?_
      refine v_lmul dX2_splits_50 ?_
      refine v_ldc2 dX2_splits_51 q1142 ?_
      refine v_ldiv dX2_splits_54 (by decide) ?_
      refine v_lsub dX2_splits_55 ?_
      refine v_nmL (fun v9 e_v9 => ?_)
      have h := Ok.nm h e_v9
      refine v_lstore [(7, .long v9), (0, .ref (lc 0 0)), (1, .ref (lc 2 x1)), (2, .ref (lc 14 x2)), (3, .long v2), (5, .long v4), (9, .int a5.2)] dX2_splits_56 (Nat.le_of_ble_eq_true rfl) rfl ?_
      refine v_iinc (v := (a5.2 + 1 : Int32)) 6 [(9, .int (a5.2 + 1 : Int32)), (7, .long v9), (0, .ref (lc 0 0)), (1, .ref (lc 2 x1)), (2, .ref (lc 14 x2)), (3, .long v2), (5, .long v4)] dX2_splits_58 rfl (by rw [ic_1]) (Nat.le_of_ble_eq_true rfl) rfl ?_
      refine v_goto (tgt := 30) dX2_splits_61 rfl ?_
      refine v_sub [2, 3, 4, 5, 6, 1, 0] rfl ?_
      have h := Ok.ret h
      exact h
theorem pW_X2_166_2 {l : Launch} {D : va_G} {dA : Nat → ClassId} {A : Nat → Prop} {b : Bool} {lc : Nat → Nat → Nat} {s : tt_St} {cc : ByteArray} {nl : Nat} {rt : Option FieldType} {rm : Room} {tn : tt_Tn} {Q : tt_Fin} {pc : Nat} {lv : List (Nat × Value)} {rest : List Value} {ck cn : Nat} {i : Nat} (hv : i < 40) {x : Int64} (d : decode cc pc = .ok (.putfield 166, 3)) (kk : tt_V (XW l D dA A b) cc (RX2, nl, rt, rm, tn) Q (pc + 3) lv rest lc (wrL s 2 i 9 x) ck cn) : tt_V (XW l D dA A b) cc (RX2, nl, rt, rm, tn) Q pc lv (.long x :: .ref (lc 2 i) :: rest) lc s ck cn := v_putN (p := 9) knW (lvW_2 hv) oW_2 (uW_2_9 ..) (fun _ _ h => tt_ent_wrL eW h) (fun _ _ h => h) rfl in_X6 tyX6 tyX6_ok nmX6 (by decide) q365 (.inl rfl) rfl rfl rfl (Nat.le_of_ble_eq_true rfl) d kk
theorem gW_X2_340_2 {l : Launch} {D : va_G} {dA : Nat → ClassId} {A : Nat → Prop} {b : Bool} {lc : Nat → Nat → Nat} {s : tt_St} {cc : ByteArray} {nl : Nat} {rt : Option FieldType} {rm : Room} {tn : tt_Tn} {Q : tt_Fin} {pc : Nat} {lv : List (Nat × Value)} {rest : List Value} {ck cn : Nat} {i : Nat} (hv : i < 40) (d : decode cc pc = .ok (.getfield 340, 3)) (kk : tt_V (XW l D dA A b) cc (RX2, nl, rt, rm, tn) Q (pc + 3) lv (.ref (lc 5 i) :: rest) lc s ck cn) : tt_V (XW l D dA A b) cc (RX2, nl, rt, rm, tn) Q pc lv (.ref (lc 2 i) :: rest) lc s ck cn := v_getN (p := 2) knW (lvW_2 hv) oW_2 rfl in_X6 (by decide) q346 (.inl rfl) rfl d kk
def fW_uses_L53 (x1 : Nat) (x2 : Int64) (a1 : Int32 × tt_St) (a7 : Int32 × tt_St) : Option ((Int32 × tt_St) ⊕ (Int32 × tt_St)) :=
  if (rdI a7.2 2 a1.1.toNatClampNeg 8) ≤ a7.1 then some (.inr (a7.1, a7.2)) else if inB a7.1 4 then if inB (((4 : Int32) * (nI a1.1.toNatClampNeg)) + a7.1) 160 then nm (wrL a7.2 5 a1.1.toNatClampNeg a7.1.toNatClampNeg ((rdL a7.2 5 a1.1.toNatClampNeg a7.1.toNatClampNeg) + (x2 * (rdL a7.2 13 x1 (((4 : Int32) * (nI a1.1.toNatClampNeg)) + a7.1).toNatClampNeg)))) fun s12 => some (.inl ((a7.1 + 1 : Int32), s12)) else none else none
def fW_uses_L14 (x1 : Nat) (x2 : Int64) (a1 : Int32 × tt_St) : Option ((Int32 × tt_St) ⊕ (Int32 × tt_St)) :=
  if (40 : Int32) ≤ a1.1 then some (.inr (a1.1, a1.2)) else if inB a1.1 40 then if inB (nI a1.1.toNatClampNeg) 40 then nm (wrL a1.2 2 a1.1.toNatClampNeg 9 ((rdL a1.2 2 a1.1.toNatClampNeg 9) + (x2 * (rdL a1.2 10 x1 (nI a1.1.toNatClampNeg).toNatClampNeg)))) fun s6 => (itr (fW_uses_L53 x1 x2 a1) tt_fuel ((0 : Int32), s6)).bind fun b8 => some (.inl ((a1.1 + 1 : Int32), b8.2)) else none else none
def fW_uses (s : tt_St) (x1 : Nat) (x2 : Int64) : Option (tt_St) :=
  (itr (fW_uses_L14 x1 x2) tt_fuel ((0 : Int32), s)).bind fun b2 => some b2.2
abbrev rmW_uses_14 : Room := { frames := 0, cells := 0, slots := 0, locals := 0 }
set_option maxHeartbeats 4000000 in
theorem mW_uses_14 (l : Launch) (D : va_G) (dA : Nat → ClassId) (A : Nat → Prop) (b : Bool) (lc : Nat → Nat → Nat) (s : tt_St) (x1 : Nat) (x2 : Int64) (hx1 : lvF x1) {Q : Option Value → (Nat → Nat → Nat) → tt_St → Prop} (h : Ok (fW_uses s x1 x2) (fun r => Q none lc r)) : tt_Sp (XW l D dA A b) yX2_uses cX2_uses 9 none rmW_uses_14 [.ref (lc 0 0), .ref (lc 14 x1), .long x2] lc s Q := by
  refine tt_Sp.ofV plX2 kokW (Nat.le_of_ble_eq_true rfl) ?_
  show tt_V (XW l D dA A b) cX2_uses (RX2, 9, none, rmW_uses_14, tt_nt) (tt_fn (XW l D dA A b) (RX2, 9, none, rmW_uses_14, tt_nt) Q) 0 [(0, .ref (lc 0 0)), (1, .ref (lc 14 x1)), (2, .long x2)] [] lc s 0 0
  unfold fW_uses at h
  refine v_aload_n 0 dX2_uses_0 rfl ?_
  refine gW_X2_11_0 dX2_uses_1 ?_
  refine v_astore [(4, .ref (lc 1 0)), (0, .ref (lc 0 0)), (1, .ref (lc 14 x1)), (2, .long x2)] dX2_uses_4 (Nat.le_of_ble_eq_true rfl) rfl ?_
  refine v_aload 0 dX2_uses_6 rfl ?_
  refine nW_1 dX2_uses_8 ?_
  refine v_istore [(5, .int (40 : Int32)), (4, .ref (lc 1 0)), (0, .ref (lc 0 0)), (1, .ref (lc 14 x1)), (2, .long x2)] dX2_uses_9 (Nat.le_of_ble_eq_true rfl) rfl ?_
  refine v_iconst dX2_uses_11 ic_0 ?_
  refine v_istore [(6, .int (0 : Int32)), (5, .int (40 : Int32)), (4, .ref (lc 1 0)), (0, .ref (lc 0 0)), (1, .ref (lc 14 x1)), (2, .long x2)] dX2_uses_12 (Nat.le_of_ble_eq_true rfl) rfl ?_
  refine v_sub [4, 5, 2, 1, 0] rfl ?_
  refine itr_loop (P := fun a1 : Int32 × tt_St => tt_V (XW l D dA A b) cX2_uses (RX2, 9, none, rmW_uses_14, tt_nt) (tt_fn (XW l D dA A b) (RX2, 9, none, rmW_uses_14, tt_nt) Q) 14 [(1, .ref (lc 14 x1)), (2, .long x2), (4, .ref (lc 1 0)), (5, .int (40 : Int32)), (6, .int a1.1)] [] lc a1.2 0 0) (PE := fun b2 : Int32 × tt_St => tt_V (XW l D dA A b) cX2_uses (RX2, 9, none, rmW_uses_14, tt_nt) (tt_fn (XW l D dA A b) (RX2, 9, none, rmW_uses_14, tt_nt) Q) 103 [(1, .ref (lc 14 x1)), (2, .long x2), (4, .ref (lc 1 0)), (5, .int (40 : Int32)), (6, .int b2.1)] [] lc b2.2 0 0) h (fun b2 h => ?_) (fun a1 h => ?_)
  · have h := Ok.ret h
    exact v_vret rfl (Nat.zero_le _) (Nat.zero_le _) dX2_uses_103 h
  · have h : Ok (fW_uses_L14 x1 x2 a1) _ := h
    unfold fW_uses_L14 at h
    refine v_iload 4 dX2_uses_14 rfl ?_
    refine v_iload 3 dX2_uses_16 rfl ?_
    refine v_icmp_ge (tgt := 103) dX2_uses_18 rfl (fun c3 => ?_) (fun c3 => ?_)
    · have h := Ok.pos h c3
      have h := Ok.ret h
      exact h
    · have h := Ok.neg h c3
      refine v_aload 2 dX2_uses_21 rfl ?_
      refine v_iload 4 dX2_uses_23 rfl ?_
      obtain ⟨g4, h⟩ := Ok.guard h
      refine lW_1 g4 dX2_uses_25 ?_
      refine v_astore [(7, .ref (lc 2 a1.1.toNatClampNeg)), (1, .ref (lc 14 x1)), (2, .long x2), (4, .ref (lc 1 0)), (5, .int (40 : Int32)), (6, .int a1.1)] dX2_uses_26 (Nat.le_of_ble_eq_true rfl) rfl ?_
      refine v_aload 0 dX2_uses_28 rfl ?_
      refine v_dup dX2_uses_30 rfl ?_
      refine gW_X2_166_2 (inB_lt g4) dX2_uses_31 ?_
      refine v_lload_n 2 dX2_uses_34 rfl ?_
      refine v_aload_n 1 dX2_uses_35 rfl ?_
      refine gW_X2_203_14 hx1 dX2_uses_36 ?_
      refine v_aload 0 dX2_uses_39 rfl ?_
      refine gW_X2_137_2 (inB_lt g4) dX2_uses_41 ?_
      obtain ⟨g5, h⟩ := Ok.guard h
      refine lW_10 (.inr hx1) g5 dX2_uses_44 ?_
      refine v_lmul dX2_uses_45 ?_
      refine v_ladd dX2_uses_46 ?_
      refine pW_X2_166_2 (inB_lt g4) dX2_uses_47 ?_
      refine v_nmS (fun s6 e_s6 => ?_)
      have h := Ok.nm h e_s6
      refine v_iconst dX2_uses_50 ic_0 ?_
      refine v_istore [(8, .int (0 : Int32)), (7, .ref (lc 2 a1.1.toNatClampNeg)), (1, .ref (lc 14 x1)), (2, .long x2), (4, .ref (lc 1 0)), (5, .int (40 : Int32)), (6, .int a1.1)] dX2_uses_51 (Nat.le_of_ble_eq_true rfl) rfl ?_
      refine v_sub [2, 3, 4, 5, 6, 1, 0] rfl ?_
      refine itr_loop (P := fun a7 : Int32 × tt_St => tt_V (XW l D dA A b) cX2_uses (RX2, 9, none, rmW_uses_14, tt_nt) (tt_fn (XW l D dA A b) (RX2, 9, none, rmW_uses_14, tt_nt) Q) 53 [(1, .ref (lc 14 x1)), (2, .long x2), (4, .ref (lc 1 0)), (5, .int (40 : Int32)), (6, .int a1.1), (7, .ref (lc 2 a1.1.toNatClampNeg)), (8, .int a7.1)] [] lc a7.2 0 0) (PE := fun b8 : Int32 × tt_St => tt_V (XW l D dA A b) cX2_uses (RX2, 9, none, rmW_uses_14, tt_nt) (tt_fn (XW l D dA A b) (RX2, 9, none, rmW_uses_14, tt_nt) Q) 97 [(1, .ref (lc 14 x1)), (2, .long x2), (4, .ref (lc 1 0)), (5, .int (40 : Int32)), (6, .int a1.1), (7, .ref (lc 2 a1.1.toNatClampNeg)), (8, .int b8.1)] [] lc b8.2 0 0) h (fun b8 h => ?_) (fun a7 h => ?_)
      · refine v_iinc (v := (a1.1 + 1 : Int32)) 4 [(6, .int (a1.1 + 1 : Int32)), (1, .ref (lc 14 x1)), (2, .long x2), (4, .ref (lc 1 0)), (5, .int (40 : Int32)), (7, .ref (lc 2 a1.1.toNatClampNeg)), (8, .int b8.1)] dX2_uses_97 rfl (by rw [ic_1]) (Nat.le_of_ble_eq_true rfl) rfl ?_
        refine v_goto (tgt := 14) dX2_uses_100 rfl ?_
        refine v_sub [1, 2, 3, 4, 0] rfl ?_
        have h := Ok.ret h
        exact h
      · have h : Ok (fW_uses_L53 x1 x2 a1 a7) _ := h
        unfold fW_uses_L53 at h
        refine v_iload 6 dX2_uses_53 rfl ?_
        refine v_aload 5 dX2_uses_55 rfl ?_
        refine gW_X2_170_2 (inB_lt g4) dX2_uses_57 ?_
        refine v_icmp_ge (tgt := 97) dX2_uses_60 rfl (fun c9 => ?_) (fun c9 => ?_)
        · have h := Ok.pos h c9
          have h := Ok.ret h
          exact h
        · have h := Ok.neg h c9
          refine v_aload 5 dX2_uses_63 rfl ?_
          refine gW_X2_340_2 (inB_lt g4) dX2_uses_65 ?_
          refine v_iload 6 dX2_uses_68 rfl ?_
          refine v_dup2_11 dX2_uses_70 rfl rfl ?_
          obtain ⟨g10, h⟩ := Ok.guard h
          refine lW_5 (inB_lt g4) g10 dX2_uses_71 ?_
          refine v_lload_n 1 dX2_uses_72 rfl ?_
          refine v_aload_n 0 dX2_uses_73 rfl ?_
          refine gW_X2_319_14 hx1 dX2_uses_74 ?_
          refine v_iconst dX2_uses_77 ic_4 ?_
          refine v_aload 5 dX2_uses_78 rfl ?_
          refine gW_X2_137_2 (inB_lt g4) dX2_uses_80 ?_
          refine v_imul dX2_uses_83 ?_
          refine v_iload 6 dX2_uses_84 rfl ?_
          refine v_iadd dX2_uses_86 ?_
          obtain ⟨g11, h⟩ := Ok.guard h
          refine lW_13 (.inr hx1) g11 dX2_uses_87 ?_
          refine v_lmul dX2_uses_88 ?_
          refine v_ladd dX2_uses_89 ?_
          refine sW_5 (inB_lt g4) g10 dX2_uses_90 ?_
          refine v_nmS (fun s12 e_s12 => ?_)
          have h := Ok.nm h e_s12
          refine v_iinc (v := (a7.1 + 1 : Int32)) 6 [(8, .int (a7.1 + 1 : Int32)), (1, .ref (lc 14 x1)), (2, .long x2), (4, .ref (lc 1 0)), (5, .int (40 : Int32)), (6, .int a1.1), (7, .ref (lc 2 a1.1.toNatClampNeg))] dX2_uses_91 rfl (by rw [ic_1]) (Nat.le_of_ble_eq_true rfl) rfl ?_
          refine v_goto (tgt := 53) dX2_uses_94 rfl ?_
          refine v_sub [1, 2, 3, 4, 5, 6, 0] rfl ?_
          have h := Ok.ret h
          exact h
theorem gW_X2_203_7 {l : Launch} {D : va_G} {dA : Nat → ClassId} {A : Nat → Prop} {b : Bool} {lc : Nat → Nat → Nat} {s : tt_St} {cc : ByteArray} {nl : Nat} {rt : Option FieldType} {rm : Room} {tn : tt_Tn} {Q : tt_Fin} {pc : Nat} {lv : List (Nat × Value)} {rest : List Value} {ck cn : Nat} {i : Nat} (hv : lvH b i) (d : decode cc pc = .ok (.getfield 203, 3)) (kk : tt_V (XW l D dA A b) cc (RX2, nl, rt, rm, tn) Q (pc + 3) lv (.ref (lc 10 i) :: rest) lc s ck cn) : tt_V (XW l D dA A b) cc (RX2, nl, rt, rm, tn) Q pc lv (.ref (lc 7 i) :: rest) lc s ck cn := v_get (p := 2) (lvW_7 hv) oW_7 rfl in_X7 (by decide) q297 (.inl rfl) rfl d kk
theorem gW_X2_319_7 {l : Launch} {D : va_G} {dA : Nat → ClassId} {A : Nat → Prop} {b : Bool} {lc : Nat → Nat → Nat} {s : tt_St} {cc : ByteArray} {nl : Nat} {rt : Option FieldType} {rm : Room} {tn : tt_Tn} {Q : tt_Fin} {pc : Nat} {lv : List (Nat × Value)} {rest : List Value} {ck cn : Nat} {i : Nat} (hv : lvH b i) (d : decode cc pc = .ok (.getfield 319, 3)) (kk : tt_V (XW l D dA A b) cc (RX2, nl, rt, rm, tn) Q (pc + 3) lv (.ref (lc 13 i) :: rest) lc s ck cn) : tt_V (XW l D dA A b) cc (RX2, nl, rt, rm, tn) Q pc lv (.ref (lc 7 i) :: rest) lc s ck cn := v_get (p := 5) (lvW_7 hv) oW_7 rfl in_X7 (by decide) q310 (.inl rfl) rfl d kk
abbrev rmW_uses_7 : Room := { frames := 0, cells := 0, slots := 0, locals := 0 }
set_option maxHeartbeats 4000000 in
theorem mW_uses_7 (l : Launch) (D : va_G) (dA : Nat → ClassId) (A : Nat → Prop) (b : Bool) (lc : Nat → Nat → Nat) (s : tt_St) (x1 : Nat) (x2 : Int64) (hx1 : lvH b x1) {Q : Option Value → (Nat → Nat → Nat) → tt_St → Prop} (h : Ok (fW_uses s x1 x2) (fun r => Q none lc r)) : tt_Sp (XW l D dA A b) yX2_uses cX2_uses 9 none rmW_uses_7 [.ref (lc 0 0), .ref (lc 7 x1), .long x2] lc s Q := by
  refine tt_Sp.ofV plX2 kokW (Nat.le_of_ble_eq_true rfl) ?_
  show tt_V (XW l D dA A b) cX2_uses (RX2, 9, none, rmW_uses_7, tt_nt) (tt_fn (XW l D dA A b) (RX2, 9, none, rmW_uses_7, tt_nt) Q) 0 [(0, .ref (lc 0 0)), (1, .ref (lc 7 x1)), (2, .long x2)] [] lc s 0 0
  unfold fW_uses at h
  refine v_aload_n 0 dX2_uses_0 rfl ?_
  refine gW_X2_11_0 dX2_uses_1 ?_
  refine v_astore [(4, .ref (lc 1 0)), (0, .ref (lc 0 0)), (1, .ref (lc 7 x1)), (2, .long x2)] dX2_uses_4 (Nat.le_of_ble_eq_true rfl) rfl ?_
  refine v_aload 0 dX2_uses_6 rfl ?_
  refine nW_1 dX2_uses_8 ?_
  refine v_istore [(5, .int (40 : Int32)), (4, .ref (lc 1 0)), (0, .ref (lc 0 0)), (1, .ref (lc 7 x1)), (2, .long x2)] dX2_uses_9 (Nat.le_of_ble_eq_true rfl) rfl ?_
  refine v_iconst dX2_uses_11 ic_0 ?_
  refine v_istore [(6, .int (0 : Int32)), (5, .int (40 : Int32)), (4, .ref (lc 1 0)), (0, .ref (lc 0 0)), (1, .ref (lc 7 x1)), (2, .long x2)] dX2_uses_12 (Nat.le_of_ble_eq_true rfl) rfl ?_
  refine v_sub [4, 5, 2, 1, 0] rfl ?_
  refine itr_loop (P := fun a1 : Int32 × tt_St => tt_V (XW l D dA A b) cX2_uses (RX2, 9, none, rmW_uses_7, tt_nt) (tt_fn (XW l D dA A b) (RX2, 9, none, rmW_uses_7, tt_nt) Q) 14 [(1, .ref (lc 7 x1)), (2, .long x2), (4, .ref (lc 1 0)), (5, .int (40 : Int32)), (6, .int a1.1)] [] lc a1.2 0 0) (PE := fun b2 : Int32 × tt_St => tt_V (XW l D dA A b) cX2_uses (RX2, 9, none, rmW_uses_7, tt_nt) (tt_fn (XW l D dA A b) (RX2, 9, none, rmW_uses_7, tt_nt) Q) 103 [(1, .ref (lc 7 x1)), (2, .long x2), (4, .ref (lc 1 0)), (5, .int (40 : Int32)), (6, .int b2.1)] [] lc b2.2 0 0) h (fun b2 h => ?_) (fun a1 h => ?_)
  · have h := Ok.ret h
    exact v_vret rfl (Nat.zero_le _) (Nat.zero_le _) dX2_uses_103 h
  · have h : Ok (fW_uses_L14 x1 x2 a1) _ := h
    unfold fW_uses_L14 at h
    refine v_iload 4 dX2_uses_14 rfl ?_
    refine v_iload 3 dX2_uses_16 rfl ?_
    refine v_icmp_ge (tgt := 103) dX2_uses_18 rfl (fun c3 => ?_) (fun c3 => ?_)
    · have h := Ok.pos h c3
      have h := Ok.ret h
      exact h
    · have h := Ok.neg h c3
      refine v_aload 2 dX2_uses_21 rfl ?_
      refine v_iload 4 dX2_uses_23 rfl ?_
      obtain ⟨g4, h⟩ := Ok.guard h
      refine lW_1 g4 dX2_uses_25 ?_
      refine v_astore [(7, .ref (lc 2 a1.1.toNatClampNeg)), (1, .ref (lc 7 x1)), (2, .long x2), (4, .ref (lc 1 0)), (5, .int (40 : Int32)), (6, .int a1.1)] dX2_uses_26 (Nat.le_of_ble_eq_true rfl) rfl ?_
      refine v_aload 0 dX2_uses_28 rfl ?_
      refine v_dup dX2_uses_30 rfl ?_
      refine gW_X2_166_2 (inB_lt g4) dX2_uses_31 ?_
      refine v_lload_n 2 dX2_uses_34 rfl ?_
      refine v_aload_n 1 dX2_uses_35 rfl ?_
      refine gW_X2_203_7 hx1 dX2_uses_36 ?_
      refine v_aload 0 dX2_uses_39 rfl ?_
      refine gW_X2_137_2 (inB_lt g4) dX2_uses_41 ?_
      obtain ⟨g5, h⟩ := Ok.guard h
      refine lW_10 (.inl hx1) g5 dX2_uses_44 ?_
      refine v_lmul dX2_uses_45 ?_
      refine v_ladd dX2_uses_46 ?_
      refine pW_X2_166_2 (inB_lt g4) dX2_uses_47 ?_
      refine v_nmS (fun s6 e_s6 => ?_)
      have h := Ok.nm h e_s6
      refine v_iconst dX2_uses_50 ic_0 ?_
      refine v_istore [(8, .int (0 : Int32)), (7, .ref (lc 2 a1.1.toNatClampNeg)), (1, .ref (lc 7 x1)), (2, .long x2), (4, .ref (lc 1 0)), (5, .int (40 : Int32)), (6, .int a1.1)] dX2_uses_51 (Nat.le_of_ble_eq_true rfl) rfl ?_
      refine v_sub [2, 3, 4, 5, 6, 1, 0] rfl ?_
      refine itr_loop (P := fun a7 : Int32 × tt_St => tt_V (XW l D dA A b) cX2_uses (RX2, 9, none, rmW_uses_7, tt_nt) (tt_fn (XW l D dA A b) (RX2, 9, none, rmW_uses_7, tt_nt) Q) 53 [(1, .ref (lc 7 x1)), (2, .long x2), (4, .ref (lc 1 0)), (5, .int (40 : Int32)), (6, .int a1.1), (7, .ref (lc 2 a1.1.toNatClampNeg)), (8, .int a7.1)] [] lc a7.2 0 0) (PE := fun b8 : Int32 × tt_St => tt_V (XW l D dA A b) cX2_uses (RX2, 9, none, rmW_uses_7, tt_nt) (tt_fn (XW l D dA A b) (RX2, 9, none, rmW_uses_7, tt_nt) Q) 97 [(1, .ref (lc 7 x1)), (2, .long x2), (4, .ref (lc 1 0)), (5, .int (40 : Int32)), (6, .int a1.1), (7, .ref (lc 2 a1.1.toNatClampNeg)), (8, .int b8.1)] [] lc b8.2 0 0) h (fun b8 h => ?_) (fun a7 h => ?_)
      · refine v_iinc (v := (a1.1 + 1 : Int32)) 4 [(6, .int (a1.1 + 1 : Int32)), (1, .ref (lc 7 x1)), (2, .long x2), (4, .ref (lc 1 0)), (5, .int (40 : Int32)), (7, .ref (lc 2 a1.1.toNatClampNeg)), (8, .int b8.1)] dX2_uses_97 rfl (by rw [ic_1]) (Nat.le_of_ble_eq_true rfl) rfl ?_
        refine v_goto (tgt := 14) dX2_uses_100 rfl ?_
        refine v_sub [1, 2, 3, 4, 0] rfl ?_
        have h := Ok.ret h
        exact h
      · have h : Ok (fW_uses_L53 x1 x2 a1 a7) _ := h
        unfold fW_uses_L53 at h
        refine v_iload 6 dX2_uses_53 rfl ?_
        refine v_aload 5 dX2_uses_55 rfl ?_
        refine gW_X2_170_2 (inB_lt g4) dX2_uses_57 ?_
        refine v_icmp_ge (tgt := 97) dX2_uses_60 rfl (fun c9 => ?_) (fun c9 => ?_)
        · have h := Ok.pos h c9
          have h := Ok.ret h
          exact h
        · have h := Ok.neg h c9
          refine v_aload 5 dX2_uses_63 rfl ?_
          refine gW_X2_340_2 (inB_lt g4) dX2_uses_65 ?_
          refine v_iload 6 dX2_uses_68 rfl ?_
          refine v_dup2_11 dX2_uses_70 rfl rfl ?_
          obtain ⟨g10, h⟩ := Ok.guard h
          refine lW_5 (inB_lt g4) g10 dX2_uses_71 ?_
          refine v_lload_n 1 dX2_uses_72 rfl ?_
          refine v_aload_n 0 dX2_uses_73 rfl ?_
          refine gW_X2_319_7 hx1 dX2_uses_74 ?_
          refine v_iconst dX2_uses_77 ic_4 ?_
          refine v_aload 5 dX2_uses_78 rfl ?_
          refine gW_X2_137_2 (inB_lt g4) dX2_uses_80 ?_
          refine v_imul dX2_uses_83 ?_
          refine v_iload 6 dX2_uses_84 rfl ?_
          refine v_iadd dX2_uses_86 ?_
          obtain ⟨g11, h⟩ := Ok.guard h
          refine lW_13 (.inl hx1) g11 dX2_uses_87 ?_
          refine v_lmul dX2_uses_88 ?_
          refine v_ladd dX2_uses_89 ?_
          refine sW_5 (inB_lt g4) g10 dX2_uses_90 ?_
          refine v_nmS (fun s12 e_s12 => ?_)
          have h := Ok.nm h e_s12
          refine v_iinc (v := (a7.1 + 1 : Int32)) 6 [(8, .int (a7.1 + 1 : Int32)), (1, .ref (lc 7 x1)), (2, .long x2), (4, .ref (lc 1 0)), (5, .int (40 : Int32)), (6, .int a1.1), (7, .ref (lc 2 a1.1.toNatClampNeg))] dX2_uses_91 rfl (by rw [ic_1]) (Nat.le_of_ble_eq_true rfl) rfl ?_
          refine v_goto (tgt := 53) dX2_uses_94 rfl ?_
          refine v_sub [1, 2, 3, 4, 5, 6, 0] rfl ?_
          have h := Ok.ret h
          exact h
theorem gW_X2_134_2 {l : Launch} {D : va_G} {dA : Nat → ClassId} {A : Nat → Prop} {b : Bool} {lc : Nat → Nat → Nat} {s : tt_St} {cc : ByteArray} {nl : Nat} {rt : Option FieldType} {rm : Room} {tn : tt_Tn} {Q : tt_Fin} {pc : Nat} {lv : List (Nat × Value)} {rest : List Value} {ck cn : Nat} {i : Nat} (hv : i < 40) (d : decode cc pc = .ok (.getfield 134, 3)) (kk : tt_V (XW l D dA A b) cc (RX2, nl, rt, rm, tn) Q (pc + 3) lv (.int (rdI s 2 i 4) :: rest) lc s ck cn) : tt_V (XW l D dA A b) cc (RX2, nl, rt, rm, tn) Q pc lv (.ref (lc 2 i) :: rest) lc s ck cn := v_getN (p := 4) knW (lvW_2 hv) oW_2 rfl in_X6 (by decide) q351 (.inl rfl) rfl d kk
def fW_placeOf_L2 (s : tt_St) (x1 : Nat) (a1 : Int32) : Option ((Int32) ⊕ (Int32)) :=
  if inB (rdI s 2 x1 4) 12 then if inB a1 6 then if (rdI s 22 ((rdI s 2 x1 4).toNatClampNeg) a1.toNatClampNeg) = (nI x1) then some (.inr a1) else some (.inl (a1 + 1 : Int32)) else none else none
def fW_placeOf (s : tt_St) (x1 : Nat) : Option (Int32) :=
  (itr (fW_placeOf_L2 s x1) tt_fuel (0 : Int32)).bind fun b2 => some b2
abbrev rmW_placeOf_2 : Room := { frames := 0, cells := 0, slots := 0, locals := 0 }
set_option maxHeartbeats 4000000 in
theorem mW_placeOf_2 (l : Launch) (D : va_G) (dA : Nat → ClassId) (A : Nat → Prop) (b : Bool) (lc : Nat → Nat → Nat) (s : tt_St) (x1 : Nat) (hx1 : x1 < 40) {Q : Option Value → (Nat → Nat → Nat) → tt_St → Prop} (h : Ok (fW_placeOf s x1) (fun r => Q (some (.int r)) lc s)) : tt_Sp (XW l D dA A b) yX2_placeOf cX2_placeOf 3 (some .int) rmW_placeOf_2 [.ref (lc 0 0), .ref (lc 2 x1)] lc s Q := by
  refine tt_Sp.ofV plX2 kokW (Nat.le_of_ble_eq_true rfl) ?_
  show tt_V (XW l D dA A b) cX2_placeOf (RX2, 3, (some .int), rmW_placeOf_2, tt_nt) (tt_fn (XW l D dA A b) (RX2, 3, (some .int), rmW_placeOf_2, tt_nt) Q) 0 [(0, .ref (lc 0 0)), (1, .ref (lc 2 x1))] [] lc s 0 0
  unfold fW_placeOf at h
  refine v_iconst dX2_placeOf_0 ic_0 ?_
  refine v_istore_n [(2, .int (0 : Int32)), (0, .ref (lc 0 0)), (1, .ref (lc 2 x1))] dX2_placeOf_1 (Nat.le_of_ble_eq_true rfl) rfl ?_
  refine v_sub [1, 2, 0] rfl ?_
  refine itr_loop (P := fun a1 : Int32 => tt_V (XW l D dA A b) cX2_placeOf (RX2, 3, (some .int), rmW_placeOf_2, tt_nt) (tt_fn (XW l D dA A b) (RX2, 3, (some .int), rmW_placeOf_2, tt_nt) Q) 2 [(0, .ref (lc 0 0)), (1, .ref (lc 2 x1)), (2, .int a1)] [] lc s 0 0) (PE := fun b2 : Int32 => tt_V (XW l D dA A b) cX2_placeOf (RX2, 3, (some .int), rmW_placeOf_2, tt_nt) (tt_fn (XW l D dA A b) (RX2, 3, (some .int), rmW_placeOf_2, tt_nt) Q) 26 [(0, .ref (lc 0 0)), (1, .ref (lc 2 x1)), (2, .int b2)] [] lc s 0 0) h (fun b2 h => ?_) (fun a1 h => ?_)
  · refine v_iload_n 2 dX2_placeOf_26 rfl ?_
    have h := Ok.ret h
    exact v_iret rfl (Nat.zero_le _) (Nat.zero_le _) dX2_placeOf_27 h
  · have h : Ok (fW_placeOf_L2 s x1 a1) _ := h
    unfold fW_placeOf_L2 at h
    refine v_aload_n 0 dX2_placeOf_2 rfl ?_
    refine gW_X2_25_0 dX2_placeOf_3 ?_
    refine v_aload_n 1 dX2_placeOf_6 rfl ?_
    refine gW_X2_134_2 hx1 dX2_placeOf_7 ?_
    obtain ⟨g3, h⟩ := Ok.guard h
    refine lW_21 g3 dX2_placeOf_10 ?_
    refine v_iload_n 2 dX2_placeOf_11 rfl ?_
    obtain ⟨g4, h⟩ := Ok.guard h
    refine lW_22 (inB_lt g3) g4 dX2_placeOf_12 ?_
    refine v_aload_n 1 dX2_placeOf_13 rfl ?_
    refine gW_X2_137_2 hx1 dX2_placeOf_14 ?_
    refine v_icmp_eq (tgt := 26) dX2_placeOf_17 rfl (fun c5 => ?_) (fun c5 => ?_)
    · have h := Ok.pos h c5
      have h := Ok.ret h
      exact h
    · have h := Ok.neg h c5
      refine v_iinc (v := (a1 + 1 : Int32)) 2 [(2, .int (a1 + 1 : Int32)), (0, .ref (lc 0 0)), (1, .ref (lc 2 x1))] dX2_placeOf_20 rfl (by rw [ic_1]) (Nat.le_of_ble_eq_true rfl) rfl ?_
      refine v_goto (tgt := 2) dX2_placeOf_23 rfl ?_
      refine v_sub [1, 2, 0] rfl ?_
      have h := Ok.ret h
      exact h
theorem gW_X2_72_0 {l : Launch} {D : va_G} {dA : Nat → ClassId} {A : Nat → Prop} {b : Bool} {lc : Nat → Nat → Nat} {s : tt_St} {cc : ByteArray} {nl : Nat} {rt : Option FieldType} {rm : Room} {tn : tt_Tn} {Q : tt_Fin} {pc : Nat} {lv : List (Nat × Value)} {rest : List Value} {ck cn : Nat} (d : decode cc pc = .ok (.getfield 72, 3)) (kk : tt_V (XW l D dA A b) cc (RX2, nl, rt, rm, tn) Q (pc + 3) lv (.ref (lc 34 0) :: rest) lc s ck cn) : tt_V (XW l D dA A b) cc (RX2, nl, rt, rm, tn) Q pc lv (.ref (lc 0 0) :: rest) lc s ck cn := v_get (p := 13) lvW_0 oW_0 rfl in_X2 (by decide) q747 (.inl rfl) rfl d kk
theorem gW_J2_93_34 {l : Launch} {D : va_G} {dA : Nat → ClassId} {A : Nat → Prop} {b : Bool} {lc : Nat → Nat → Nat} {s : tt_St} {cc : ByteArray} {nl : Nat} {rt : Option FieldType} {rm : Room} {tn : tt_Tn} {Q : tt_Fin} {pc : Nat} {lv : List (Nat × Value)} {rest : List Value} {ck cn : Nat} (d : decode cc pc = .ok (.getfield 93, 3)) (kk : tt_V (XW l D dA A b) cc (RJ2, nl, rt, rm, tn) Q (pc + 3) lv (.int (rdI s 34 0 3) :: rest) lc s ck cn) : tt_V (XW l D dA A b) cc (RJ2, nl, rt, rm, tn) Q pc lv (.ref (lc 34 0) :: rest) lc s ck cn := v_get (p := 3) lvW_34 oW_34 rfl in_J2 (by decide) q275 (.inl rfl) rfl d kk
theorem pW_J2_93_34 {l : Launch} {D : va_G} {dA : Nat → ClassId} {A : Nat → Prop} {b : Bool} {lc : Nat → Nat → Nat} {s : tt_St} {cc : ByteArray} {nl : Nat} {rt : Option FieldType} {rm : Room} {tn : tt_Tn} {Q : tt_Fin} {pc : Nat} {lv : List (Nat × Value)} {rest : List Value} {ck cn : Nat} {x : Int32} (d : decode cc pc = .ok (.putfield 93, 3)) (kk : tt_V (XW l D dA A b) cc (RJ2, nl, rt, rm, tn) Q (pc + 3) lv rest lc (wrI s 34 0 3 x) ck cn) : tt_V (XW l D dA A b) cc (RJ2, nl, rt, rm, tn) Q pc lv (.int x :: .ref (lc 34 0) :: rest) lc s ck cn := v_put (p := 3) lvW_34 oW_34 (uW_34_3 ..) (fun _ _ h => tt_ent_wrI eW h) (fun _ _ h => h) rfl in_J2 tyJ2 tyJ2_ok nmJ2 (by decide) q275 (.inl rfl) rfl rfl rfl (Nat.le_of_ble_eq_true rfl) d kk
theorem gW_J2_17_34 {l : Launch} {D : va_G} {dA : Nat → ClassId} {A : Nat → Prop} {b : Bool} {lc : Nat → Nat → Nat} {s : tt_St} {cc : ByteArray} {nl : Nat} {rt : Option FieldType} {rm : Room} {tn : tt_Tn} {Q : tt_Fin} {pc : Nat} {lv : List (Nat × Value)} {rest : List Value} {ck cn : Nat} (d : decode cc pc = .ok (.getfield 17, 3)) (kk : tt_V (XW l D dA A b) cc (RJ2, nl, rt, rm, tn) Q (pc + 3) lv (.ref (lc 35 0) :: rest) lc s ck cn) : tt_V (XW l D dA A b) cc (RJ2, nl, rt, rm, tn) Q pc lv (.ref (lc 34 0) :: rest) lc s ck cn := v_get (p := 0) lvW_34 oW_34 rfl in_J2 (by decide) q272 (.inl rfl) rfl d kk
theorem gW_J2_58_34 {l : Launch} {D : va_G} {dA : Nat → ClassId} {A : Nat → Prop} {b : Bool} {lc : Nat → Nat → Nat} {s : tt_St} {cc : ByteArray} {nl : Nat} {rt : Option FieldType} {rm : Room} {tn : tt_Tn} {Q : tt_Fin} {pc : Nat} {lv : List (Nat × Value)} {rest : List Value} {ck cn : Nat} (d : decode cc pc = .ok (.getfield 58, 3)) (kk : tt_V (XW l D dA A b) cc (RJ2, nl, rt, rm, tn) Q (pc + 3) lv (.int (rdI s 34 0 1) :: rest) lc s ck cn) : tt_V (XW l D dA A b) cc (RJ2, nl, rt, rm, tn) Q pc lv (.ref (lc 34 0) :: rest) lc s ck cn := v_get (p := 1) lvW_34 oW_34 rfl in_J2 (by decide) q273 (.inl rfl) rfl d kk
theorem pW_J2_58_34 {l : Launch} {D : va_G} {dA : Nat → ClassId} {A : Nat → Prop} {b : Bool} {lc : Nat → Nat → Nat} {s : tt_St} {cc : ByteArray} {nl : Nat} {rt : Option FieldType} {rm : Room} {tn : tt_Tn} {Q : tt_Fin} {pc : Nat} {lv : List (Nat × Value)} {rest : List Value} {ck cn : Nat} {x : Int32} (d : decode cc pc = .ok (.putfield 58, 3)) (kk : tt_V (XW l D dA A b) cc (RJ2, nl, rt, rm, tn) Q (pc + 3) lv rest lc (wrI s 34 0 1 x) ck cn) : tt_V (XW l D dA A b) cc (RJ2, nl, rt, rm, tn) Q pc lv (.int x :: .ref (lc 34 0) :: rest) lc s ck cn := v_put (p := 1) lvW_34 oW_34 (uW_34_1 ..) (fun _ _ h => tt_ent_wrI eW h) (fun _ _ h => h) rfl in_J2 tyJ2 tyJ2_ok nmJ2 (by decide) q273 (.inl rfl) rfl rfl rfl (Nat.le_of_ble_eq_true rfl) d kk
def fQ_clear_L22 (v2 : Int32) (a3 : Int32 × tt_St) : Option ((Int32 × tt_St) ⊕ (Int32 × tt_St)) :=
  if v2 ≤ a3.1 then some (.inr (a3.1, a3.2)) else if inB a3.1 12 then nm (wrR a3.2 35 0 a3.1.toNatClampNeg none) fun s7 => some (.inl ((a3.1 + 1 : Int32), s7)) else none
def fQ_clear (s : tt_St) : Option (tt_St) :=
  nm (wrI s 34 0 3 ((rdI s 34 0 3) + (1 : Int32))) fun s1 => nm (rdI s1 34 0 1) fun v2 => (itr (fQ_clear_L22 v2) tt_fuel ((0 : Int32), s1)).bind fun b4 => nm (wrI b4.2 34 0 1 (0 : Int32)) fun s8 => some s8
abbrev rmQ_clear : Room := { frames := 0, cells := 0, slots := 0, locals := 0 }
set_option maxHeartbeats 4000000 in
theorem mQ_clear (l : Launch) (D : va_G) (dA : Nat → ClassId) (A : Nat → Prop) (b : Bool) (lc : Nat → Nat → Nat) (s : tt_St) {Q : Option Value → (Nat → Nat → Nat) → tt_St → Prop} (h : Ok (fQ_clear s) (fun r => Q none lc r)) : tt_Sp (XW l D dA A b) yJ2_clear cJ2_clear 4 none rmQ_clear [.ref (lc 34 0)] lc s Q := by
  refine tt_Sp.ofV plJ2 kokW (Nat.le_of_ble_eq_true rfl) ?_
  show tt_V (XW l D dA A b) cJ2_clear (RJ2, 4, none, rmQ_clear, tt_nt) (tt_fn (XW l D dA A b) (RJ2, 4, none, rmQ_clear, tt_nt) Q) 0 [(0, .ref (lc 34 0))] [] lc s 0 0
  unfold fQ_clear at h
  refine v_aload_n 0 dJ2_clear_0 rfl ?_
  refine v_dup dJ2_clear_1 rfl ?_
  refine gW_J2_93_34 dJ2_clear_2 ?_
  refine v_iconst dJ2_clear_5 ic_1 ?_
  refine v_iadd dJ2_clear_6 ?_
  refine pW_J2_93_34 dJ2_clear_7 ?_
  refine v_nmS (fun s1 e_s1 => ?_)
  have h := Ok.nm h e_s1
  refine v_aload_n 0 dJ2_clear_10 rfl ?_
  refine gW_J2_17_34 dJ2_clear_11 ?_
  refine v_astore_n [(1, .ref (lc 35 0)), (0, .ref (lc 34 0))] dJ2_clear_14 (Nat.le_of_ble_eq_true rfl) rfl ?_
  refine v_iconst dJ2_clear_15 ic_0 ?_
  refine v_istore_n [(2, .int (0 : Int32)), (1, .ref (lc 35 0)), (0, .ref (lc 34 0))] dJ2_clear_16 (Nat.le_of_ble_eq_true rfl) rfl ?_
  refine v_aload_n 2 dJ2_clear_17 rfl ?_
  refine gW_J2_58_34 dJ2_clear_18 ?_
  refine v_nmI (fun v2 e_v2 => ?_)
  have h := Ok.nm h e_v2
  refine v_istore_n [(3, .int v2), (2, .int (0 : Int32)), (1, .ref (lc 35 0)), (0, .ref (lc 34 0))] dJ2_clear_21 (Nat.le_of_ble_eq_true rfl) rfl ?_
  refine v_sub [3, 2, 1, 0] rfl ?_
  refine itr_loop (P := fun a3 : Int32 × tt_St => tt_V (XW l D dA A b) cJ2_clear (RJ2, 4, none, rmQ_clear, tt_nt) (tt_fn (XW l D dA A b) (RJ2, 4, none, rmQ_clear, tt_nt) Q) 22 [(0, .ref (lc 34 0)), (1, .ref (lc 35 0)), (2, .int a3.1), (3, .int v2)] [] lc a3.2 0 0) (PE := fun b4 : Int32 × tt_St => tt_V (XW l D dA A b) cJ2_clear (RJ2, 4, none, rmQ_clear, tt_nt) (tt_fn (XW l D dA A b) (RJ2, 4, none, rmQ_clear, tt_nt) Q) 37 [(0, .ref (lc 34 0)), (1, .ref (lc 35 0)), (2, .int b4.1), (3, .int v2)] [] lc b4.2 0 0) h (fun b4 h => ?_) (fun a3 h => ?_)
  · refine v_aload_n 0 dJ2_clear_37 rfl ?_
    refine v_iconst dJ2_clear_38 ic_0 ?_
    refine pW_J2_58_34 dJ2_clear_39 ?_
    refine v_nmS (fun s8 e_s8 => ?_)
    have h := Ok.nm h e_s8
    have h := Ok.ret h
    exact v_vret rfl (Nat.zero_le _) (Nat.zero_le _) dJ2_clear_42 h
  · have h : Ok (fQ_clear_L22 v2 a3) _ := h
    unfold fQ_clear_L22 at h
    refine v_iload_n 2 dJ2_clear_22 rfl ?_
    refine v_iload_n 3 dJ2_clear_23 rfl ?_
    refine v_icmp_ge (tgt := 37) dJ2_clear_24 rfl (fun c5 => ?_) (fun c5 => ?_)
    · have h := Ok.pos h c5
      have h := Ok.ret h
      exact h
    · have h := Ok.neg h c5
      refine v_aload_n 1 dJ2_clear_27 rfl ?_
      refine v_iload_n 2 dJ2_clear_28 rfl ?_
      refine v_null dJ2_clear_29 ?_
      obtain ⟨g6, h⟩ := Ok.guard h
      refine sW_35n g6 dJ2_clear_30 ?_
      refine v_nmS (fun s7 e_s7 => ?_)
      have h := Ok.nm h e_s7
      refine v_iinc (v := (a3.1 + 1 : Int32)) 2 [(2, .int (a3.1 + 1 : Int32)), (0, .ref (lc 34 0)), (1, .ref (lc 35 0)), (3, .int v2)] dJ2_clear_31 rfl (by rw [ic_1]) (Nat.le_of_ble_eq_true rfl) rfl ?_
      refine v_goto (tgt := 22) dJ2_clear_34 rfl ?_
      refine v_sub [1, 2, 0, 3] rfl ?_
      have h := Ok.ret h
      exact h
theorem cW_X2_259_34 {l : Launch} {D : va_G} {dA : Nat → ClassId} {A : Nat → Prop} {b : Bool} {lc : Nat → Nat → Nat} {s : tt_St} {cc : ByteArray} {nl : Nat} {rt : Option FieldType} {rm : Room} {tn : tt_Tn} {Q : tt_Fin} {pc : Nat} {lv : List (Nat × Value)} {rest : List Value} {ck cn : Nat} {K : tt_St → Prop} (h : Ok (fQ_clear s) K) (hR : 0 + 1 ≤ rm.frames ∧ 8 + (4 + 11) + 0 ≤ rm.locals) (hW : (rest.map fun v => v.category).sum ≤ 8) (d : decode cc pc = .ok (.invokevirtual 259, 3)) (kk : ∀ r, K r → tt_V (XW l D dA A b) cc (RX2, nl, rt, rm, tn) Q (pc + 3) lv rest lc r ck cn) (hf : ck ≤ rm.cells ∧ cn ≤ rm.slots := by exact ⟨Nat.zero_le _, Nat.zero_le _⟩) : tt_V (XW l D dA A b) cc (RX2, nl, rt, rm, tn) Q pc lv (.ref (lc 34 0) :: rest) lc s ck cn :=
  v_callV (kd := 34) (i := 0) (nA := 0) (As := []) lvW_34 oW_34 rfl (mQ_clear l D dA A b lc s (Q := (fun v lc' s' => ∃ r, K r ∧ v = none ∧ lc' = lc ∧ s' = r)) (h.mono (fun r hr => ⟨r, hr, rfl, rfl, rfl⟩))) (lw_V q553 q554 q555 q132 q556) (by decide +kernel) rfl hR hW hf d rfl (fun v lc' s' q => by obtain ⟨r, hr, e1, e2, e3⟩ := q; rw [e1, e2, e3]; exact kk r hr)
theorem gW_X2_63_0 {l : Launch} {D : va_G} {dA : Nat → ClassId} {A : Nat → Prop} {b : Bool} {lc : Nat → Nat → Nat} {s : tt_St} {cc : ByteArray} {nl : Nat} {rt : Option FieldType} {rm : Room} {tn : tt_Tn} {Q : tt_Fin} {pc : Nat} {lv : List (Nat × Value)} {rest : List Value} {ck cn : Nat} (d : decode cc pc = .ok (.getfield 63, 3)) (kk : tt_V (XW l D dA A b) cc (RX2, nl, rt, rm, tn) Q (pc + 3) lv (.ref (lc 33 0) :: rest) lc s ck cn) : tt_V (XW l D dA A b) cc (RX2, nl, rt, rm, tn) Q pc lv (.ref (lc 0 0) :: rest) lc s ck cn := v_get (p := 12) lvW_0 oW_0 rfl in_X2 (by decide) q746 (.inl rfl) rfl d kk
theorem gW_X2_121_0 {l : Launch} {D : va_G} {dA : Nat → ClassId} {A : Nat → Prop} {b : Bool} {lc : Nat → Nat → Nat} {s : tt_St} {cc : ByteArray} {nl : Nat} {rt : Option FieldType} {rm : Room} {tn : tt_Tn} {Q : tt_Fin} {pc : Nat} {lv : List (Nat × Value)} {rest : List Value} {ck cn : Nat} (d : decode cc pc = .ok (.getfield 121, 3)) (kk : tt_V (XW l D dA A b) cc (RX2, nl, rt, rm, tn) Q (pc + 3) lv (.int (rdI s 0 0 20) :: rest) lc s ck cn) : tt_V (XW l D dA A b) cc (RX2, nl, rt, rm, tn) Q pc lv (.ref (lc 0 0) :: rest) lc s ck cn := v_get (p := 20) lvW_0 oW_0 rfl in_X2 (by decide) q759 (.inl rfl) rfl d kk
theorem pW_X2_262_33 {l : Launch} {D : va_G} {dA : Nat → ClassId} {A : Nat → Prop} {b : Bool} {lc : Nat → Nat → Nat} {s : tt_St} {cc : ByteArray} {nl : Nat} {rt : Option FieldType} {rm : Room} {tn : tt_Tn} {Q : tt_Fin} {pc : Nat} {lv : List (Nat × Value)} {rest : List Value} {ck cn : Nat} {x : Int32} (d : decode cc pc = .ok (.putfield 262, 3)) (kk : tt_V (XW l D dA A b) cc (RX2, nl, rt, rm, tn) Q (pc + 3) lv rest lc (wrI s 33 0 0 x) ck cn) : tt_V (XW l D dA A b) cc (RX2, nl, rt, rm, tn) Q pc lv (.int x :: .ref (lc 33 0) :: rest) lc s ck cn := v_putN (p := 0) knW lvW_33 oW_33 (uW_33_0 ..) (fun _ _ h => tt_ent_wrI eW h) (fun _ _ h => h) rfl in_X3 tyX3 tyX3_ok nmX3 (by decide) q189 (.inl rfl) rfl rfl rfl (Nat.le_of_ble_eq_true rfl) d kk
theorem gW_X2_56_0 {l : Launch} {D : va_G} {dA : Nat → ClassId} {A : Nat → Prop} {b : Bool} {lc : Nat → Nat → Nat} {s : tt_St} {cc : ByteArray} {nl : Nat} {rt : Option FieldType} {rm : Room} {tn : tt_Tn} {Q : tt_Fin} {pc : Nat} {lv : List (Nat × Value)} {rest : List Value} {ck cn : Nat} (d : decode cc pc = .ok (.getfield 56, 3)) (kk : tt_V (XW l D dA A b) cc (RX2, nl, rt, rm, tn) Q (pc + 3) lv (.ref (lc 31 0) :: rest) lc s ck cn) : tt_V (XW l D dA A b) cc (RX2, nl, rt, rm, tn) Q pc lv (.ref (lc 0 0) :: rest) lc s ck cn := v_get (p := 11) lvW_0 oW_0 rfl in_X2 (by decide) q745 (.inl rfl) rfl d kk
theorem pW_X2_269_32 {l : Launch} {D : va_G} {dA : Nat → ClassId} {A : Nat → Prop} {b : Bool} {lc : Nat → Nat → Nat} {s : tt_St} {cc : ByteArray} {nl : Nat} {rt : Option FieldType} {rm : Room} {tn : tt_Tn} {Q : tt_Fin} {pc : Nat} {lv : List (Nat × Value)} {rest : List Value} {ck cn : Nat} {i : Nat} (hv : i < 12) {x : Int64} (d : decode cc pc = .ok (.putfield 269, 3)) (kk : tt_V (XW l D dA A b) cc (RX2, nl, rt, rm, tn) Q (pc + 3) lv rest lc (wrL s 32 i 1 x) ck cn) : tt_V (XW l D dA A b) cc (RX2, nl, rt, rm, tn) Q pc lv (.long x :: .ref (lc 32 i) :: rest) lc s ck cn := v_putN (p := 1) knW (lvW_32 hv) oW_32 (uW_32_1 ..) (fun _ _ h => tt_ent_wrL eW h) (fun _ _ h => h) rfl in_X8 tyX8 tyX8_ok nmX8 (by decide) q441 (.inl rfl) rfl rfl rfl (Nat.le_of_ble_eq_true rfl) d kk
theorem pW_X2_272_32 {l : Launch} {D : va_G} {dA : Nat → ClassId} {A : Nat → Prop} {b : Bool} {lc : Nat → Nat → Nat} {s : tt_St} {cc : ByteArray} {nl : Nat} {rt : Option FieldType} {rm : Room} {tn : tt_Tn} {Q : tt_Fin} {pc : Nat} {lv : List (Nat × Value)} {rest : List Value} {ck cn : Nat} {i : Nat} (hv : i < 12) {x : Int32} (d : decode cc pc = .ok (.putfield 272, 3)) (kk : tt_V (XW l D dA A b) cc (RX2, nl, rt, rm, tn) Q (pc + 3) lv rest lc (wrI s 32 i 2 x) ck cn) : tt_V (XW l D dA A b) cc (RX2, nl, rt, rm, tn) Q pc lv (.int x :: .ref (lc 32 i) :: rest) lc s ck cn := v_putN (p := 2) knW (lvW_32 hv) oW_32 (uW_32_2 ..) (fun _ _ h => tt_ent_wrI eW h) (fun _ _ h => h) rfl in_X8 tyX8 tyX8_ok nmX8 (by decide) q443 (.inl rfl) rfl rfl rfl (Nat.le_of_ble_eq_true rfl) d kk
theorem gW_J2_21_34 {l : Launch} {D : va_G} {dA : Nat → ClassId} {A : Nat → Prop} {b : Bool} {lc : Nat → Nat → Nat} {s : tt_St} {cc : ByteArray} {nl : Nat} {rt : Option FieldType} {rm : Room} {tn : tt_Tn} {Q : tt_Fin} {pc : Nat} {lv : List (Nat × Value)} {rest : List Value} {ck cn : Nat} (d : decode cc pc = .ok (.getfield 21, 3)) (kk : tt_V (XW l D dA A b) cc (RJ2, nl, rt, rm, tn) Q (pc + 3) lv (.ref (lc 33 0) :: rest) lc s ck cn) : tt_V (XW l D dA A b) cc (RJ2, nl, rt, rm, tn) Q pc lv (.ref (lc 34 0) :: rest) lc s ck cn := v_get (p := 2) lvW_34 oW_34 rfl in_J2 (by decide) q274 (.inl rfl) rfl d kk
theorem gW_X3_7_33 {l : Launch} {D : va_G} {dA : Nat → ClassId} {A : Nat → Prop} {b : Bool} {lc : Nat → Nat → Nat} {s : tt_St} {cc : ByteArray} {nl : Nat} {rt : Option FieldType} {rm : Room} {tn : tt_Tn} {Q : tt_Fin} {pc : Nat} {lv : List (Nat × Value)} {rest : List Value} {ck cn : Nat} (d : decode cc pc = .ok (.getfield 7, 3)) (kk : tt_V (XW l D dA A b) cc (RX3, nl, rt, rm, tn) Q (pc + 3) lv (.int (rdI s 33 0 0) :: rest) lc s ck cn) : tt_V (XW l D dA A b) cc (RX3, nl, rt, rm, tn) Q pc lv (.ref (lc 33 0) :: rest) lc s ck cn := v_get (p := 0) lvW_33 oW_33 rfl in_X3 (by decide) q188 (.inl rfl) rfl d kk
theorem gW_X3_28_32 {l : Launch} {D : va_G} {dA : Nat → ClassId} {A : Nat → Prop} {b : Bool} {lc : Nat → Nat → Nat} {s : tt_St} {cc : ByteArray} {nl : Nat} {rt : Option FieldType} {rm : Room} {tn : tt_Tn} {Q : tt_Fin} {pc : Nat} {lv : List (Nat × Value)} {rest : List Value} {ck cn : Nat} {i : Nat} (hv : i < 12) (d : decode cc pc = .ok (.getfield 28, 3)) (kk : tt_V (XW l D dA A b) cc (RX3, nl, rt, rm, tn) Q (pc + 3) lv (.int (rdI s 32 i 2) :: rest) lc s ck cn) : tt_V (XW l D dA A b) cc (RX3, nl, rt, rm, tn) Q pc lv (.ref (lc 32 i) :: rest) lc s ck cn := v_getN (p := 2) knW (lvW_32 hv) oW_32 rfl in_X8 (by decide) q442 (.inl rfl) rfl d kk
def fJI_compare (x0 : Int32) (x1 : Int32) : Option (Int32) :=
  if x1 ≤ x0 then if x0 = x1 then some (0 : Int32) else some (1 : Int32) else some (-1 : Int32)
abbrev rmJI_compare : Room := { frames := 0, cells := 0, slots := 0, locals := 0 }
set_option maxHeartbeats 4000000 in
theorem mJI_compare {σ : Type} (X : tt_X σ) (hk : tt_Kok X) (lc : Nat → Nat → Nat) (s : σ) (x0 : Int32) (x1 : Int32) {Q : Option Value → (Nat → Nat → Nat) → σ → Prop} (h : Ok (fJI_compare x0 x1) (fun r => Q (some (.int r)) lc s)) : tt_Sp X yJ11_compare cJ11_compare 2 (some .int) rmJI_compare [.int x0, .int x1] lc s Q := by
  refine tt_Sp.ofV plJ11 hk (Nat.le_of_ble_eq_true rfl) ?_
  show tt_V X cJ11_compare (RJ11, 2, (some .int), rmJI_compare, tt_nt) (tt_fn X (RJ11, 2, (some .int), rmJI_compare, tt_nt) Q) 0 [(0, .int x0), (1, .int x1)] [] lc s 0 0
  unfold fJI_compare at h
  refine v_iload_n 0 dJ11_compare_0 rfl ?_
  refine v_iload_n 1 dJ11_compare_1 rfl ?_
  refine v_icmp_ge (tgt := 9) dJ11_compare_2 rfl (fun c1 => ?_) (fun c1 => ?_)
  · have h := Ok.pos h c1
    refine v_iload_n 0 dJ11_compare_9 rfl ?_
    refine v_iload_n 1 dJ11_compare_10 rfl ?_
    refine v_icmp_ne (tgt := 18) dJ11_compare_11 rfl (fun c2 => ?_) (fun c2 => ?_)
    · have h := Ok.neg h c2
      refine v_iconst dJ11_compare_18 ic_1 ?_
      have h := Ok.ret h
      exact v_iret rfl (Nat.zero_le _) (Nat.zero_le _) dJ11_compare_19 h
    · have h := Ok.pos h c2
      refine v_iconst dJ11_compare_14 ic_0 ?_
      refine v_goto (tgt := 19) dJ11_compare_15 rfl ?_
      have h := Ok.ret h
      exact v_iret rfl (Nat.zero_le _) (Nat.zero_le _) dJ11_compare_19 h
  · have h := Ok.neg h c1
    refine v_iconst dJ11_compare_5 ic_m1 ?_
    refine v_goto (tgt := 19) dJ11_compare_6 rfl ?_
    have h := Ok.ret h
    exact v_iret rfl (Nat.zero_le _) (Nat.zero_le _) dJ11_compare_19 h
theorem cW_X3_31 {σ : Type} {X : tt_X σ} (hk : tt_Kok X) {lc : Nat → Nat → Nat} {s : σ} {cc : ByteArray} {nl : Nat} {rt : Option FieldType} {rm : Room} {tn : tt_Tn} {Q : tt_Fin} {pc : Nat} {lv : List (Nat × Value)} {rest : List Value} {ck cn : Nat} {x0 : Int32} {x1 : Int32} {K : Int32 → Prop} (h : Ok (fJI_compare x0 x1) K) (hR : 0 + 1 ≤ rm.frames ∧ 8 + (2 + 11) + 0 ≤ rm.locals) (hW : (rest.map fun v => v.category).sum ≤ 8) (d : decode cc pc = .ok (.invokestatic 31, 3)) (kk : ∀ r, K r → tt_V X cc (RX3, nl, rt, rm, tn) Q (pc + 3) lv (.int r :: rest) lc s ck cn) (hf : ck ≤ rm.cells ∧ cn ≤ rm.slots := by exact ⟨Nat.zero_le _, Nat.zero_le _⟩) : tt_V X cc (RX3, nl, rt, rm, tn) Q pc lv (.int x1 :: .int x0 :: rest) lc s ck cn :=
  v_callS (nA := 2) (As := [.int x0, .int x1]) (mJI_compare X hk lc s x0 x1 (Q := (fun v lc' s' => ∃ r, K r ∧ v = some (.int r) ∧ lc' = lc ∧ s' = s)) (h.mono (fun r hr => ⟨r, hr, rfl, rfl, rfl⟩))) (lw_S q644 q645 q148 q646) (by decide +kernel) rfl hR hW hf d rfl (fun v lc' s' q => by obtain ⟨r, hr, e1, e2, e3⟩ := q; rw [e1, e2, e3]; exact kk r hr)
theorem gW_X3_25_32 {l : Launch} {D : va_G} {dA : Nat → ClassId} {A : Nat → Prop} {b : Bool} {lc : Nat → Nat → Nat} {s : tt_St} {cc : ByteArray} {nl : Nat} {rt : Option FieldType} {rm : Room} {tn : tt_Tn} {Q : tt_Fin} {pc : Nat} {lv : List (Nat × Value)} {rest : List Value} {ck cn : Nat} {i : Nat} (hv : i < 12) (d : decode cc pc = .ok (.getfield 25, 3)) (kk : tt_V (XW l D dA A b) cc (RX3, nl, rt, rm, tn) Q (pc + 3) lv (.int (nI i) :: rest) lc s ck cn) : tt_V (XW l D dA A b) cc (RX3, nl, rt, rm, tn) Q pc lv (.ref (lc 32 i) :: rest) lc s ck cn := v_getN (p := 0) knW (lvW_32 hv) oW_32 rfl in_X8 (by decide) q437 (.inl rfl) rfl d kk
theorem gW_X3_13_32 {l : Launch} {D : va_G} {dA : Nat → ClassId} {A : Nat → Prop} {b : Bool} {lc : Nat → Nat → Nat} {s : tt_St} {cc : ByteArray} {nl : Nat} {rt : Option FieldType} {rm : Room} {tn : tt_Tn} {Q : tt_Fin} {pc : Nat} {lv : List (Nat × Value)} {rest : List Value} {ck cn : Nat} {i : Nat} (hv : i < 12) (d : decode cc pc = .ok (.getfield 13, 3)) (kk : tt_V (XW l D dA A b) cc (RX3, nl, rt, rm, tn) Q (pc + 3) lv (.long (rdL s 32 i 1) :: rest) lc s ck cn) : tt_V (XW l D dA A b) cc (RX3, nl, rt, rm, tn) Q pc lv (.ref (lc 32 i) :: rest) lc s ck cn := v_getN (p := 1) knW (lvW_32 hv) oW_32 rfl in_X8 (by decide) q440 (.inl rfl) rfl d kk
def fJL_compare (x0 : Int64) (x2 : Int64) : Option (Int32) :=
  if x2 ≤ x0 then if x0 = x2 then some (0 : Int32) else some (1 : Int32) else some (-1 : Int32)
abbrev rmJL_compare : Room := { frames := 0, cells := 0, slots := 0, locals := 0 }
set_option maxHeartbeats 4000000 in
theorem mJL_compare {σ : Type} (X : tt_X σ) (hk : tt_Kok X) (lc : Nat → Nat → Nat) (s : σ) (x0 : Int64) (x2 : Int64) {Q : Option Value → (Nat → Nat → Nat) → σ → Prop} (h : Ok (fJL_compare x0 x2) (fun r => Q (some (.int r)) lc s)) : tt_Sp X yJ10_compare cJ10_compare 4 (some .int) rmJL_compare [.long x0, .long x2] lc s Q := by
  refine tt_Sp.ofV plJ10 hk (Nat.le_of_ble_eq_true rfl) ?_
  show tt_V X cJ10_compare (RJ10, 4, (some .int), rmJL_compare, tt_nt) (tt_fn X (RJ10, 4, (some .int), rmJL_compare, tt_nt) Q) 0 [(0, .long x0), (2, .long x2)] [] lc s 0 0
  unfold fJL_compare at h
  refine v_lload_n 0 dJ10_compare_0 rfl ?_
  refine v_lload_n 1 dJ10_compare_1 rfl ?_
  refine v_lif_ge (tgt := 10) dJ10_compare_2 dJ10_compare_3 rfl (fun c1 => ?_) (fun c1 => ?_)
  · have h := Ok.pos h c1
    refine v_lload_n 0 dJ10_compare_10 rfl ?_
    refine v_lload_n 1 dJ10_compare_11 rfl ?_
    refine v_lif_ne (tgt := 20) dJ10_compare_12 dJ10_compare_13 rfl (fun c2 => ?_) (fun c2 => ?_)
    · have h := Ok.neg h c2
      refine v_iconst dJ10_compare_20 ic_1 ?_
      have h := Ok.ret h
      exact v_iret rfl (Nat.zero_le _) (Nat.zero_le _) dJ10_compare_21 h
    · have h := Ok.pos h c2
      refine v_iconst dJ10_compare_16 ic_0 ?_
      refine v_goto (tgt := 21) dJ10_compare_17 rfl ?_
      have h := Ok.ret h
      exact v_iret rfl (Nat.zero_le _) (Nat.zero_le _) dJ10_compare_21 h
  · have h := Ok.neg h c1
    refine v_iconst dJ10_compare_6 ic_m1 ?_
    refine v_goto (tgt := 21) dJ10_compare_7 rfl ?_
    have h := Ok.ret h
    exact v_iret rfl (Nat.zero_le _) (Nat.zero_le _) dJ10_compare_21 h
theorem cW_X3_19 {σ : Type} {X : tt_X σ} (hk : tt_Kok X) {lc : Nat → Nat → Nat} {s : σ} {cc : ByteArray} {nl : Nat} {rt : Option FieldType} {rm : Room} {tn : tt_Tn} {Q : tt_Fin} {pc : Nat} {lv : List (Nat × Value)} {rest : List Value} {ck cn : Nat} {x0 : Int64} {x2 : Int64} {K : Int32 → Prop} (h : Ok (fJL_compare x0 x2) K) (hR : 0 + 1 ≤ rm.frames ∧ 8 + (4 + 11) + 0 ≤ rm.locals) (hW : (rest.map fun v => v.category).sum ≤ 8) (d : decode cc pc = .ok (.invokestatic 19, 3)) (kk : ∀ r, K r → tt_V X cc (RX3, nl, rt, rm, tn) Q (pc + 3) lv (.int r :: rest) lc s ck cn) (hf : ck ≤ rm.cells ∧ cn ≤ rm.slots := by exact ⟨Nat.zero_le _, Nat.zero_le _⟩) : tt_V X cc (RX3, nl, rt, rm, tn) Q pc lv (.long x2 :: .long x0 :: rest) lc s ck cn :=
  v_callS (nA := 2) (As := [.long x0, .long x2]) (mJL_compare X hk lc s x0 x2 (Q := (fun v lc' s' => ∃ r, K r ∧ v = some (.int r) ∧ lc' = lc ∧ s' = s)) (h.mono (fun r hr => ⟨r, hr, rfl, rfl, rfl⟩))) (lw_S q641 q642 q147 q643) (by decide +kernel) rfl hR hW hf d rfl (fun v lc' s' q => by obtain ⟨r, hr, e1, e2, e3⟩ := q; rw [e1, e2, e3]; exact kk r hr)
def fK_compare_2 (s : tt_St) (x1 : Nat) (x2 : Nat) : Option (Int32) :=
  (if (rdI s 33 0 0) = 0 then (fJL_compare (rdL s 32 x2 1) (rdL s 32 x1 1)).bind fun r6 => some r6 else if (rdI s 33 0 0) = (1 : Int32) then some ((nI x2) - (nI x1)) else if (rdI s 33 0 0) = (2 : Int32) then (fJI_compare (rdI s 32 x1 2) (rdI s 32 x2 2)).bind fun r5 => some r5 else some (0 : Int32) : Option (Int32)).bind fun t1 => if t1 = 0 then some ((nI x1) - (nI x2)) else some t1
abbrev rmK_compare_2_32_32 : Room := { frames := 1, cells := 0, slots := 0, locals := 23 }
set_option maxHeartbeats 4000000 in
theorem mK_compare_2_32_32 (l : Launch) (D : va_G) (dA : Nat → ClassId) (A : Nat → Prop) (b : Bool) (lc : Nat → Nat → Nat) (s : tt_St) (x1 : Nat) (x2 : Nat) (hx1 : x1 < 12) (hx2 : x2 < 12) {Q : Option Value → (Nat → Nat → Nat) → tt_St → Prop} (h : Ok (fK_compare_2 s x1 x2) (fun r => Q (some (.int r)) lc s)) : tt_Sp (XW l D dA A b) yX3_compare_2 cX3_compare_2 4 (some .int) rmK_compare_2_32_32 [.ref (lc 33 0), .ref (lc 32 x1), .ref (lc 32 x2)] lc s Q := by
  refine tt_Sp.ofV plX3 kokW (Nat.le_of_ble_eq_true rfl) ?_
  show tt_V (XW l D dA A b) cX3_compare_2 (RX3, 4, (some .int), rmK_compare_2_32_32, tt_nt) (tt_fn (XW l D dA A b) (RX3, 4, (some .int), rmK_compare_2_32_32, tt_nt) Q) 0 [(0, .ref (lc 33 0)), (1, .ref (lc 32 x1)), (2, .ref (lc 32 x2))] [] lc s 0 0
  unfold fK_compare_2 at h
  refine v_aload_n 0 dX3_compare_2_0 rfl ?_
  refine gW_X3_7_33 dX3_compare_2_1 ?_
  have h := Ok.join (PJ := fun t1 : Int32 => tt_V (XW l D dA A b) cX3_compare_2 (RX3, 4, (some .int), rmK_compare_2_32_32, tt_nt) (tt_fn (XW l D dA A b) (RX3, 4, (some .int), rmK_compare_2_32_32, tt_nt) Q) 64 [(1, .ref (lc 32 x1)), (2, .ref (lc 32 x2))] [.int t1] lc s 0 0) h (fun t1 h => by
    refine v_istore_n [(3, .int t1), (1, .ref (lc 32 x1)), (2, .ref (lc 32 x2))] dX3_compare_2_64 (Nat.le_of_ble_eq_true rfl) rfl ?_
    refine v_iload_n 0 dX3_compare_2_65 rfl ?_
    refine v_if_ne (tgt := 81) dX3_compare_2_66 rfl (fun c7 => ?_) (fun c7 => ?_)
    · have h := Ok.neg h c7
      refine v_iload_n 0 dX3_compare_2_81 rfl ?_
      have h := Ok.ret h
      exact v_iret rfl (Nat.zero_le _) (Nat.zero_le _) dX3_compare_2_82 h
    · have h := Ok.pos h c7
      refine v_aload_n 1 dX3_compare_2_69 rfl ?_
      refine gW_X3_25_32 hx1 dX3_compare_2_70 ?_
      refine v_aload_n 2 dX3_compare_2_73 rfl ?_
      refine gW_X3_25_32 hx2 dX3_compare_2_74 ?_
      refine v_isub dX3_compare_2_77 ?_
      refine v_goto (tgt := 82) dX3_compare_2_78 rfl ?_
      have h := Ok.ret h
      exact v_iret rfl (Nat.zero_le _) (Nat.zero_le _) dX3_compare_2_82 h)
  refine v_if_ne (tgt := 21) dX3_compare_2_4 rfl (fun c2 => ?_) (fun c2 => ?_)
  · have h := Ok.neg h c2
    refine v_aload_n 0 dX3_compare_2_21 rfl ?_
    refine gW_X3_7_33 dX3_compare_2_22 ?_
    refine v_iconst dX3_compare_2_25 ic_1 ?_
    refine v_icmp_ne (tgt := 41) dX3_compare_2_26 rfl (fun c3 => ?_) (fun c3 => ?_)
    · have h := Ok.neg h c3
      refine v_aload_n 0 dX3_compare_2_41 rfl ?_
      refine gW_X3_7_33 dX3_compare_2_42 ?_
      refine v_iconst dX3_compare_2_45 ic_2 ?_
      refine v_icmp_ne (tgt := 63) dX3_compare_2_46 rfl (fun c4 => ?_) (fun c4 => ?_)
      · have h := Ok.neg h c4
        refine v_iconst dX3_compare_2_63 ic_0 ?_
        refine v_sub [1, 2] rfl ?_
        have h := Ok.ret h
        exact h
      · have h := Ok.pos h c4
        refine v_aload_n 1 dX3_compare_2_49 rfl ?_
        refine gW_X3_28_32 hx1 dX3_compare_2_50 ?_
        refine v_aload_n 2 dX3_compare_2_53 rfl ?_
        refine gW_X3_28_32 hx2 dX3_compare_2_54 ?_
        refine cW_X3_31 kokW (Ok.bind h) ⟨Nat.le_of_ble_eq_true rfl, Nat.le_of_ble_eq_true rfl⟩ (Nat.le_of_ble_eq_true rfl) dX3_compare_2_57 (fun r5 h => ?_)
        refine v_goto (tgt := 64) dX3_compare_2_60 rfl ?_
        refine v_sub [1, 2] rfl ?_
        have h := Ok.ret h
        exact h
    · have h := Ok.pos h c3
      refine v_aload_n 2 dX3_compare_2_29 rfl ?_
      refine gW_X3_25_32 hx2 dX3_compare_2_30 ?_
      refine v_aload_n 1 dX3_compare_2_33 rfl ?_
      refine gW_X3_25_32 hx1 dX3_compare_2_34 ?_
      refine v_isub dX3_compare_2_37 ?_
      refine v_goto (tgt := 64) dX3_compare_2_38 rfl ?_
      refine v_sub [1, 2] rfl ?_
      have h := Ok.ret h
      exact h
  · have h := Ok.pos h c2
    refine v_aload_n 2 dX3_compare_2_7 rfl ?_
    refine gW_X3_13_32 hx2 dX3_compare_2_8 ?_
    refine v_aload_n 1 dX3_compare_2_11 rfl ?_
    refine gW_X3_13_32 hx1 dX3_compare_2_12 ?_
    refine cW_X3_19 kokW (Ok.bind h) ⟨Nat.le_of_ble_eq_true rfl, Nat.le_of_ble_eq_true rfl⟩ (Nat.le_of_ble_eq_true rfl) dX3_compare_2_15 (fun r6 h => ?_)
    refine v_goto (tgt := 64) dX3_compare_2_18 rfl ?_
    refine v_sub [1, 2] rfl ?_
    have h := Ok.ret h
    exact h
theorem cW_X3_36_33_32_32 {l : Launch} {D : va_G} {dA : Nat → ClassId} {A : Nat → Prop} {b : Bool} {lc : Nat → Nat → Nat} {s : tt_St} {cc : ByteArray} {nl : Nat} {rt : Option FieldType} {rm : Room} {tn : tt_Tn} {Q : tt_Fin} {pc : Nat} {lv : List (Nat × Value)} {rest : List Value} {ck cn : Nat} {x1 : Nat} {x2 : Nat} (hx1 : x1 < 12) (hx2 : x2 < 12) {K : Int32 → Prop} (h : Ok (fK_compare_2 s x1 x2) K) (hR : 1 + 1 ≤ rm.frames ∧ 8 + (4 + 11) + 23 ≤ rm.locals) (hW : (rest.map fun v => v.category).sum ≤ 8) (d : decode cc pc = .ok (.invokevirtual 36, 3)) (kk : ∀ r, K r → tt_V (XW l D dA A b) cc (RX3, nl, rt, rm, tn) Q (pc + 3) lv (.int r :: rest) lc s ck cn) (hf : ck ≤ rm.cells ∧ cn ≤ rm.slots := by exact ⟨Nat.zero_le _, Nat.zero_le _⟩) : tt_V (XW l D dA A b) cc (RX3, nl, rt, rm, tn) Q pc lv (.ref (lc 32 x2) :: .ref (lc 32 x1) :: .ref (lc 33 0) :: rest) lc s ck cn :=
  v_callV (kd := 33) (i := 0) (nA := 2) (As := [.ref (lc 32 x1), .ref (lc 32 x2)]) lvW_33 oW_33 rfl (mK_compare_2_32_32 l D dA A b lc s x1 x2 hx1 hx2 (Q := (fun v lc' s' => ∃ r, K r ∧ v = some (.int r) ∧ lc' = lc ∧ s' = s)) (h.mono (fun r hr => ⟨r, hr, rfl, rfl, rfl⟩))) (lw_V q637 q638 q639 q129 q640) (by decide +kernel) rfl hR hW hf d rfl (fun v lc' s' q => by obtain ⟨r, hr, e1, e2, e3⟩ := q; rw [e1, e2, e3]; exact kk r hr)
def fK_compare (s : tt_St) (x1 : Nat) (x2 : Nat) : Option (Int32) :=
  (fK_compare_2 s x1 x2).bind fun r1 => some r1
abbrev rmK_compare_32_32 : Room := { frames := 2, cells := 0, slots := 0, locals := 46 }
set_option maxHeartbeats 4000000 in
theorem mK_compare_32_32 (l : Launch) (D : va_G) (dA : Nat → ClassId) (A : Nat → Prop) (b : Bool) (lc : Nat → Nat → Nat) (s : tt_St) (x1 : Nat) (x2 : Nat) (hx1 : x1 < 12) (hx2 : x2 < 12) {Q : Option Value → (Nat → Nat → Nat) → tt_St → Prop} (h : Ok (fK_compare s x1 x2) (fun r => Q (some (.int r)) lc s)) : tt_Sp (XW l D dA A b) yX3_compare cX3_compare 3 (some .int) rmK_compare_32_32 [.ref (lc 33 0), .ref (lc 32 x1), .ref (lc 32 x2)] lc s Q := by
  refine tt_Sp.ofV plX3 kokW (Nat.le_of_ble_eq_true rfl) ?_
  show tt_V (XW l D dA A b) cX3_compare (RX3, 3, (some .int), rmK_compare_32_32, tt_nt) (tt_fn (XW l D dA A b) (RX3, 3, (some .int), rmK_compare_32_32, tt_nt) Q) 0 [(0, .ref (lc 33 0)), (1, .ref (lc 32 x1)), (2, .ref (lc 32 x2))] [] lc s 0 0
  unfold fK_compare at h
  refine v_aload_n 0 dX3_compare_0 rfl ?_
  refine v_aload_n 1 dX3_compare_1 rfl ?_
  refine v_castS (lvW_32 hx1) oW_32 rfl q636 dX3_compare_2 ?_
  refine v_aload_n 2 dX3_compare_5 rfl ?_
  refine v_castS (lvW_32 hx2) oW_32 rfl q636 dX3_compare_6 ?_
  refine cW_X3_36_33_32_32 hx1 hx2 (Ok.bind h) ⟨Nat.le_of_ble_eq_true rfl, Nat.le_of_ble_eq_true rfl⟩ (Nat.le_of_ble_eq_true rfl) dX3_compare_9 (fun r1 h => ?_)
  have h := Ok.ret h
  exact v_iret rfl (Nat.zero_le _) (Nat.zero_le _) dX3_compare_12 h
theorem cW_J2_149_33_32_32 {l : Launch} {D : va_G} {dA : Nat → ClassId} {A : Nat → Prop} {b : Bool} {lc : Nat → Nat → Nat} {s : tt_St} {cc : ByteArray} {nl : Nat} {rt : Option FieldType} {rm : Room} {tn : tt_Tn} {Q : tt_Fin} {pc : Nat} {lv : List (Nat × Value)} {rest : List Value} {ck cn : Nat} {x1 : Nat} {x2 : Nat} (hx1 : x1 < 12) (hx2 : x2 < 12) {K : Int32 → Prop} (h : Ok (fK_compare s x1 x2) K) (hR : 2 + 1 ≤ rm.frames ∧ 8 + (3 + 11) + 46 ≤ rm.locals) (hW : (rest.map fun v => v.category).sum ≤ 8) {cnt : Nat} (d : decode cc pc = .ok (.invokeinterface 149 cnt, 5)) (kk : ∀ r, K r → tt_V (XW l D dA A b) cc (RJ2, nl, rt, rm, tn) Q (pc + 5) lv (.int r :: rest) lc s ck cn) (hf : ck ≤ rm.cells ∧ cn ≤ rm.slots := by exact ⟨Nat.zero_le _, Nat.zero_le _⟩) : tt_V (XW l D dA A b) cc (RJ2, nl, rt, rm, tn) Q pc lv (.ref (lc 32 x2) :: .ref (lc 32 x1) :: .ref (lc 33 0) :: rest) lc s ck cn :=
  v_callF (x := ⟨"java/util/Comparator", "compare", "(Ljava/lang/Object;Ljava/lang/Object;)I"⟩) kfW (kd := 33) (i := 0) (nA := 2) (As := [.ref (lc 32 x1), .ref (lc 32 x2)]) lvW_33 oW_33 rfl (mK_compare_32_32 l D dA A b lc s x1 x2 hx1 hx2 (Q := (fun v lc' s' => ∃ r, K r ∧ v = some (.int r) ∧ lc' = lc ∧ s' = s)) (h.mono (fun r hr => ⟨r, hr, rfl, rfl, rfl⟩))) (lw_F q627 q631 q633 q129 q635) (by decide +kernel) rfl hR hW hf d rfl (fun v lc' s' q => by obtain ⟨r, hr, e1, e2, e3⟩ := q; rw [e1, e2, e3]; exact kk r hr)
def fQ_siftUpUsingComparator_35_33_L0 (x1 : Nat) (a1 : Int32 × tt_St) : Option ((Int32 × tt_St) ⊕ (Int32 × tt_St)) :=
  if a1.1 ≤ 0 then some (.inr (a1.1, a1.2)) else nm (((a1.1 - (1 : Int32)).toUInt32 >>> ((1 : Int32).toUInt32 &&& Int32.toUInt32 31)).toInt32) fun v4 => if inB v4 12 then unO (rdR a1.2 35 0 v4.toNatClampNeg) 12 fun o6 => (fK_compare a1.2 x1 o6).bind fun r7 => if r7 < 0 then if inB a1.1 12 then nm (wrR a1.2 35 0 a1.1.toNatClampNeg (some o6)) fun s10 => some (.inl (v4, s10)) else none else some (.inr (a1.1, a1.2)) else none
def fQ_siftUpUsingComparator_35_33 (s : tt_St) (x0 : Int32) (x1 : Nat) : Option (tt_St) :=
  (itr (fQ_siftUpUsingComparator_35_33_L0 x1) tt_fuel (x0, s)).bind fun b2 => if inB b2.1 12 then nm (wrR b2.2 35 0 b2.1.toNatClampNeg (some x1)) fun s12 => some s12 else none
abbrev rmQ_siftUpUsingComparator_32_35_33 : Room := { frames := 3, cells := 0, slots := 0, locals := 68 }
set_option maxHeartbeats 4000000 in
theorem mQ_siftUpUsingComparator_32_35_33 (l : Launch) (D : va_G) (dA : Nat → ClassId) (A : Nat → Prop) (b : Bool) (lc : Nat → Nat → Nat) (s : tt_St) (x0 : Int32) (x1 : Nat) (hx1 : x1 < 12) {Q : Option Value → (Nat → Nat → Nat) → tt_St → Prop} (h : Ok (fQ_siftUpUsingComparator_35_33 s x0 x1) (fun r => Q none lc r)) : tt_Sp (XW l D dA A b) yJ2_siftUpUsingComparator cJ2_siftUpUsingComparator 6 none rmQ_siftUpUsingComparator_32_35_33 [.int x0, .ref (lc 32 x1), .ref (lc 35 0), .ref (lc 33 0)] lc s Q := by
  refine tt_Sp.ofV plJ2 kokW (Nat.le_of_ble_eq_true rfl) ?_
  show tt_V (XW l D dA A b) cJ2_siftUpUsingComparator (RJ2, 6, none, rmQ_siftUpUsingComparator_32_35_33, tt_nt) (tt_fn (XW l D dA A b) (RJ2, 6, none, rmQ_siftUpUsingComparator_32_35_33, tt_nt) Q) 0 [(0, .int x0), (1, .ref (lc 32 x1)), (2, .ref (lc 35 0)), (3, .ref (lc 33 0))] [] lc s 0 0
  unfold fQ_siftUpUsingComparator_35_33 at h
  refine itr_loop (P := fun a1 : Int32 × tt_St => tt_V (XW l D dA A b) cJ2_siftUpUsingComparator (RJ2, 6, none, rmQ_siftUpUsingComparator_32_35_33, tt_nt) (tt_fn (XW l D dA A b) (RJ2, 6, none, rmQ_siftUpUsingComparator_32_35_33, tt_nt) Q) 0 [(0, .int a1.1), (1, .ref (lc 32 x1)), (2, .ref (lc 35 0)), (3, .ref (lc 33 0))] [] lc a1.2 0 0) (PE := fun b2 : Int32 × tt_St => tt_V (XW l D dA A b) cJ2_siftUpUsingComparator (RJ2, 6, none, rmQ_siftUpUsingComparator_32_35_33, tt_nt) (tt_fn (XW l D dA A b) (RJ2, 6, none, rmQ_siftUpUsingComparator_32_35_33, tt_nt) Q) 43 [(0, .int b2.1), (1, .ref (lc 32 x1)), (2, .ref (lc 35 0)), (3, .ref (lc 33 0))] [] lc b2.2 0 0) h (fun b2 h => ?_) (fun a1 h => ?_)
  · refine v_aload_n 2 dJ2_siftUpUsingComparator_43 rfl ?_
    refine v_iload_n 0 dJ2_siftUpUsingComparator_44 rfl ?_
    refine v_aload_n 1 dJ2_siftUpUsingComparator_45 rfl ?_
    obtain ⟨g11, h⟩ := Ok.guard h
    refine sW_35 hx1 g11 dJ2_siftUpUsingComparator_46 ?_
    refine v_nmS (fun s12 e_s12 => ?_)
    have h := Ok.nm h e_s12
    have h := Ok.ret h
    exact v_vret rfl (Nat.zero_le _) (Nat.zero_le _) dJ2_siftUpUsingComparator_47 h
  · have h : Ok (fQ_siftUpUsingComparator_35_33_L0 x1 a1) _ := h
    unfold fQ_siftUpUsingComparator_35_33_L0 at h
    refine v_iload_n 0 dJ2_siftUpUsingComparator_0 rfl ?_
    refine v_if_le (tgt := 43) dJ2_siftUpUsingComparator_1 rfl (fun c3 => ?_) (fun c3 => ?_)
    · have h := Ok.pos h c3
      have h := Ok.ret h
      exact h
    · have h := Ok.neg h c3
      refine v_iload_n 0 dJ2_siftUpUsingComparator_4 rfl ?_
      refine v_iconst dJ2_siftUpUsingComparator_5 ic_1 ?_
      refine v_isub dJ2_siftUpUsingComparator_6 ?_
      refine v_iconst dJ2_siftUpUsingComparator_7 ic_1 ?_
      refine v_iushr dJ2_siftUpUsingComparator_8 rfl ?_
      refine v_nmI (fun v4 e_v4 => ?_)
      have h := Ok.nm h e_v4
      refine v_istore [(4, .int v4), (0, .int a1.1), (1, .ref (lc 32 x1)), (2, .ref (lc 35 0)), (3, .ref (lc 33 0))] dJ2_siftUpUsingComparator_9 (Nat.le_of_ble_eq_true rfl) rfl ?_
      refine v_aload_n 3 dJ2_siftUpUsingComparator_11 rfl ?_
      refine v_iload 0 dJ2_siftUpUsingComparator_12 rfl ?_
      obtain ⟨g5, h⟩ := Ok.guard h
      obtain ⟨o6, e_o6, g_o6, h⟩ := Ok.unO h
      refine lW_35 g5 e_o6 dJ2_siftUpUsingComparator_14 ?_
      refine v_astore [(5, .ref (lc 32 o6)), (4, .int v4), (0, .int a1.1), (1, .ref (lc 32 x1)), (2, .ref (lc 35 0)), (3, .ref (lc 33 0))] dJ2_siftUpUsingComparator_15 (Nat.le_of_ble_eq_true rfl) rfl ?_
      refine v_aload_n 5 dJ2_siftUpUsingComparator_17 rfl ?_
      refine v_aload_n 3 dJ2_siftUpUsingComparator_18 rfl ?_
      refine v_aload 0 dJ2_siftUpUsingComparator_19 rfl ?_
      refine cW_J2_149_33_32_32 hx1 g_o6 (Ok.bind h) ⟨Nat.le_of_ble_eq_true rfl, Nat.le_of_ble_eq_true rfl⟩ (Nat.le_of_ble_eq_true rfl) dJ2_siftUpUsingComparator_21 (fun r7 h => ?_)
      refine v_if_lt (tgt := 32) dJ2_siftUpUsingComparator_26 rfl (fun c8 => ?_) (fun c8 => ?_)
      · have h := Ok.pos h c8
        refine v_aload_n 4 dJ2_siftUpUsingComparator_32 rfl ?_
        refine v_iload_n 2 dJ2_siftUpUsingComparator_33 rfl ?_
        refine v_aload 0 dJ2_siftUpUsingComparator_34 rfl ?_
        obtain ⟨g9, h⟩ := Ok.guard h
        refine sW_35 g_o6 g9 dJ2_siftUpUsingComparator_36 ?_
        refine v_nmS (fun s10 e_s10 => ?_)
        have h := Ok.nm h e_s10
        refine v_iload 1 dJ2_siftUpUsingComparator_37 rfl ?_
        refine v_istore_n [(0, .int v4), (5, .ref (lc 32 o6)), (4, .int v4), (1, .ref (lc 32 x1)), (2, .ref (lc 35 0)), (3, .ref (lc 33 0))] dJ2_siftUpUsingComparator_39 (Nat.le_of_ble_eq_true rfl) rfl ?_
        refine v_goto (tgt := 0) dJ2_siftUpUsingComparator_40 rfl ?_
        refine v_sub [0, 3, 4, 5] rfl ?_
        have h := Ok.ret h
        exact h
      · have h := Ok.neg h c8
        refine v_goto (tgt := 43) dJ2_siftUpUsingComparator_29 rfl ?_
        refine v_sub [2, 3, 4, 5] rfl ?_
        have h := Ok.ret h
        exact h
theorem cW_J2_136_32_35_33 {l : Launch} {D : va_G} {dA : Nat → ClassId} {A : Nat → Prop} {b : Bool} {lc : Nat → Nat → Nat} {s : tt_St} {cc : ByteArray} {nl : Nat} {rt : Option FieldType} {rm : Room} {tn : tt_Tn} {Q : tt_Fin} {pc : Nat} {lv : List (Nat × Value)} {rest : List Value} {ck cn : Nat} {x0 : Int32} {x1 : Nat} (hx1 : x1 < 12) {K : tt_St → Prop} (h : Ok (fQ_siftUpUsingComparator_35_33 s x0 x1) K) (hR : 3 + 1 ≤ rm.frames ∧ 8 + (6 + 11) + 68 ≤ rm.locals) (hW : (rest.map fun v => v.category).sum ≤ 8) (d : decode cc pc = .ok (.invokestatic 136, 3)) (kk : ∀ r, K r → tt_V (XW l D dA A b) cc (RJ2, nl, rt, rm, tn) Q (pc + 3) lv rest lc r ck cn) (hf : ck ≤ rm.cells ∧ cn ≤ rm.slots := by exact ⟨Nat.zero_le _, Nat.zero_le _⟩) : tt_V (XW l D dA A b) cc (RJ2, nl, rt, rm, tn) Q pc lv (.ref (lc 33 0) :: .ref (lc 35 0) :: .ref (lc 32 x1) :: .int x0 :: rest) lc s ck cn :=
  v_callS (nA := 4) (As := [.int x0, .ref (lc 32 x1), .ref (lc 35 0), .ref (lc 33 0)]) (mQ_siftUpUsingComparator_32_35_33 l D dA A b lc s x0 x1 hx1 (Q := (fun v lc' s' => ∃ r, K r ∧ v = none ∧ lc' = lc ∧ s' = r)) (h.mono (fun r hr => ⟨r, hr, rfl, rfl, rfl⟩))) (lw_S q623 q624 q132 q625) (by decide +kernel) rfl hR hW hf d rfl (fun v lc' s' q => by obtain ⟨r, hr, e1, e2, e3⟩ := q; rw [e1, e2, e3]; exact kk r hr)
def fQ_siftUp (s : tt_St) (x1 : Int32) (x2 : Nat) : Option (tt_St) :=
  (fQ_siftUpUsingComparator_35_33 s x1 x2).bind fun r1 => some r1
abbrev rmQ_siftUp_32 : Room := { frames := 4, cells := 0, slots := 0, locals := 93 }
set_option maxHeartbeats 4000000 in
theorem mQ_siftUp_32 (l : Launch) (D : va_G) (dA : Nat → ClassId) (A : Nat → Prop) (b : Bool) (lc : Nat → Nat → Nat) (s : tt_St) (x1 : Int32) (x2 : Nat) (hx2 : x2 < 12) {Q : Option Value → (Nat → Nat → Nat) → tt_St → Prop} (h : Ok (fQ_siftUp s x1 x2) (fun r => Q none lc r)) : tt_Sp (XW l D dA A b) yJ2_siftUp cJ2_siftUp 3 none rmQ_siftUp_32 [.ref (lc 34 0), .int x1, .ref (lc 32 x2)] lc s Q := by
  refine tt_Sp.ofV plJ2 kokW (Nat.le_of_ble_eq_true rfl) ?_
  show tt_V (XW l D dA A b) cJ2_siftUp (RJ2, 3, none, rmQ_siftUp_32, tt_nt) (tt_fn (XW l D dA A b) (RJ2, 3, none, rmQ_siftUp_32, tt_nt) Q) 0 [(0, .ref (lc 34 0)), (1, .int x1), (2, .ref (lc 32 x2))] [] lc s 0 0
  unfold fQ_siftUp at h
  refine v_aload_n 0 dJ2_siftUp_0 rfl ?_
  refine gW_J2_21_34 dJ2_siftUp_1 ?_
  refine v_ifnull dJ2_siftUp_4 ?_
  refine v_iload_n 1 dJ2_siftUp_7 rfl ?_
  refine v_aload_n 2 dJ2_siftUp_8 rfl ?_
  refine v_aload_n 0 dJ2_siftUp_9 rfl ?_
  refine gW_J2_17_34 dJ2_siftUp_10 ?_
  refine v_aload_n 0 dJ2_siftUp_13 rfl ?_
  refine gW_J2_21_34 dJ2_siftUp_14 ?_
  refine cW_J2_136_32_35_33 hx2 (Ok.bind h) ⟨Nat.le_of_ble_eq_true rfl, Nat.le_of_ble_eq_true rfl⟩ (Nat.le_of_ble_eq_true rfl) dJ2_siftUp_17 (fun r1 h => ?_)
  refine v_goto (tgt := 32) dJ2_siftUp_20 rfl ?_
  have h := Ok.ret h
  exact v_vret rfl (Nat.zero_le _) (Nat.zero_le _) dJ2_siftUp_32 h
theorem cW_J2_100_34_32 {l : Launch} {D : va_G} {dA : Nat → ClassId} {A : Nat → Prop} {b : Bool} {lc : Nat → Nat → Nat} {s : tt_St} {cc : ByteArray} {nl : Nat} {rt : Option FieldType} {rm : Room} {tn : tt_Tn} {Q : tt_Fin} {pc : Nat} {lv : List (Nat × Value)} {rest : List Value} {ck cn : Nat} {x1 : Int32} {x2 : Nat} (hx2 : x2 < 12) {K : tt_St → Prop} (h : Ok (fQ_siftUp s x1 x2) K) (hR : 4 + 1 ≤ rm.frames ∧ 8 + (3 + 11) + 93 ≤ rm.locals) (hW : (rest.map fun v => v.category).sum ≤ 8) (d : decode cc pc = .ok (.invokevirtual 100, 3)) (kk : ∀ r, K r → tt_V (XW l D dA A b) cc (RJ2, nl, rt, rm, tn) Q (pc + 3) lv rest lc r ck cn) (hf : ck ≤ rm.cells ∧ cn ≤ rm.slots := by exact ⟨Nat.zero_le _, Nat.zero_le _⟩) : tt_V (XW l D dA A b) cc (RJ2, nl, rt, rm, tn) Q pc lv (.ref (lc 32 x2) :: .int x1 :: .ref (lc 34 0) :: rest) lc s ck cn :=
  v_callV (kd := 34) (i := 0) (nA := 2) (As := [.int x1, .ref (lc 32 x2)]) lvW_34 oW_34 rfl (mQ_siftUp_32 l D dA A b lc s x1 x2 hx2 (Q := (fun v lc' s' => ∃ r, K r ∧ v = none ∧ lc' = lc ∧ s' = r)) (h.mono (fun r hr => ⟨r, hr, rfl, rfl, rfl⟩))) (lw_V q619 q621 qs14 q132 q622) (by decide +kernel) rfl hR hW hf d rfl (fun v lc' s' q => by obtain ⟨r, hr, e1, e2, e3⟩ := q; rw [e1, e2, e3]; exact kk r hr)
def fQ_offer (s : tt_St) (x1 : Nat) : Option (Int32 × tt_St) :=
  nm (wrI s 34 0 3 ((rdI s 34 0 3) + (1 : Int32))) fun s1 => nm (rdI s1 34 0 1) fun v2 => if v2 < (12 : Int32) then (fQ_siftUp s1 v2 x1).bind fun r4 => nm (wrI r4 34 0 1 (v2 + (1 : Int32))) fun s5 => some ((1 : Int32), s5) else none
abbrev rmQ_offer_32 : Room := { frames := 5, cells := 0, slots := 0, locals := 115 }
set_option maxHeartbeats 4000000 in
theorem mQ_offer_32 (l : Launch) (D : va_G) (dA : Nat → ClassId) (A : Nat → Prop) (b : Bool) (lc : Nat → Nat → Nat) (s : tt_St) (x1 : Nat) (hx1 : x1 < 12) {Q : Option Value → (Nat → Nat → Nat) → tt_St → Prop} (h : Ok (fQ_offer s x1) (fun r => zB r.1 → Q (some (.int r.1)) lc r.2)) : tt_Sp (XW l D dA A b) yJ2_offer cJ2_offer 3 (some .boolean) rmQ_offer_32 [.ref (lc 34 0), .ref (lc 32 x1)] lc s Q := by
  refine tt_Sp.ofV plJ2 kokW (Nat.le_of_ble_eq_true rfl) ?_
  show tt_V (XW l D dA A b) cJ2_offer (RJ2, 3, (some .boolean), rmQ_offer_32, tt_nt) (tt_fn (XW l D dA A b) (RJ2, 3, (some .boolean), rmQ_offer_32, tt_nt) Q) 0 [(0, .ref (lc 34 0)), (1, .ref (lc 32 x1))] [] lc s 0 0
  unfold fQ_offer at h
  refine v_aload_n 1 dJ2_offer_0 rfl ?_
  refine v_ifnonnull (tgt := 12) dJ2_offer_1 rfl ?_
  refine v_aload_n 0 dJ2_offer_12 rfl ?_
  refine v_dup dJ2_offer_13 rfl ?_
  refine gW_J2_93_34 dJ2_offer_14 ?_
  refine v_iconst dJ2_offer_17 ic_1 ?_
  refine v_iadd dJ2_offer_18 ?_
  refine pW_J2_93_34 dJ2_offer_19 ?_
  refine v_nmS (fun s1 e_s1 => ?_)
  have h := Ok.nm h e_s1
  refine v_aload_n 0 dJ2_offer_22 rfl ?_
  refine gW_J2_58_34 dJ2_offer_23 ?_
  refine v_nmI (fun v2 e_v2 => ?_)
  have h := Ok.nm h e_v2
  refine v_istore_n [(2, .int v2), (0, .ref (lc 34 0)), (1, .ref (lc 32 x1))] dJ2_offer_26 (Nat.le_of_ble_eq_true rfl) rfl ?_
  refine v_iload_n 0 dJ2_offer_27 rfl ?_
  refine v_aload_n 1 dJ2_offer_28 rfl ?_
  refine gW_J2_17_34 dJ2_offer_29 ?_
  refine nW_35 dJ2_offer_32 ?_
  refine v_icmp_lt (tgt := 43) dJ2_offer_33 rfl (fun c3 => ?_) (fun c3 => ?_)
  · have h := Ok.pos h c3
    refine v_aload_n 1 dJ2_offer_43 rfl ?_
    refine v_iload_n 0 dJ2_offer_44 rfl ?_
    refine v_aload_n 2 dJ2_offer_45 rfl ?_
    refine cW_J2_100_34_32 hx1 (Ok.bind h) ⟨Nat.le_of_ble_eq_true rfl, Nat.le_of_ble_eq_true rfl⟩ (Nat.le_of_ble_eq_true rfl) dJ2_offer_46 (fun r4 h => ?_)
    refine v_aload_n 1 dJ2_offer_49 rfl ?_
    refine v_iload_n 0 dJ2_offer_50 rfl ?_
    refine v_iconst dJ2_offer_51 ic_1 ?_
    refine v_iadd dJ2_offer_52 ?_
    refine pW_J2_58_34 dJ2_offer_53 ?_
    refine v_nmS (fun s5 e_s5 => ?_)
    have h := Ok.nm h e_s5
    refine v_iconst dJ2_offer_56 ic_1 ?_
    have h := Ok.ret h
    exact v_zret rfl zB_1 (Nat.zero_le _) (Nat.zero_le _) dJ2_offer_57 (h zB_1)
  · have h := Ok.neg h c3
    refine v_aload_n 1 dJ2_offer_36 rfl ?_
    refine v_iload_n 0 dJ2_offer_37 rfl ?_
    refine v_iconst dJ2_offer_38 ic_1 ?_
    refine v_iadd dJ2_offer_39 ?_
    exact Ok.stuck h
theorem cW_J2_89_34_32 {l : Launch} {D : va_G} {dA : Nat → ClassId} {A : Nat → Prop} {b : Bool} {lc : Nat → Nat → Nat} {s : tt_St} {cc : ByteArray} {nl : Nat} {rt : Option FieldType} {rm : Room} {tn : tt_Tn} {Q : tt_Fin} {pc : Nat} {lv : List (Nat × Value)} {rest : List Value} {ck cn : Nat} {x1 : Nat} (hx1 : x1 < 12) {K : Int32 × tt_St → Prop} (h : Ok (fQ_offer s x1) K) (hR : 5 + 1 ≤ rm.frames ∧ 8 + (3 + 11) + 115 ≤ rm.locals) (hW : (rest.map fun v => v.category).sum ≤ 8) (d : decode cc pc = .ok (.invokevirtual 89, 3)) (kk : ∀ r, zB r.1 → K r → tt_V (XW l D dA A b) cc (RJ2, nl, rt, rm, tn) Q (pc + 3) lv (.int r.1 :: rest) lc r.2 ck cn) (hf : ck ≤ rm.cells ∧ cn ≤ rm.slots := by exact ⟨Nat.zero_le _, Nat.zero_le _⟩) : tt_V (XW l D dA A b) cc (RJ2, nl, rt, rm, tn) Q pc lv (.ref (lc 32 x1) :: .ref (lc 34 0) :: rest) lc s ck cn :=
  v_callV (kd := 34) (i := 0) (nA := 1) (As := [.ref (lc 32 x1)]) lvW_34 oW_34 rfl (mQ_offer_32 l D dA A b lc s x1 hx1 (Q := (fun v lc' s' => ∃ r, zB r.1 ∧ K r ∧ v = some (.int r.1) ∧ lc' = lc ∧ s' = r.2)) (h.mono (fun r hr => fun hz => ⟨r, hz, hr, rfl, rfl, rfl⟩))) (lw_V q565 q566 q567 q132 q568) (by decide +kernel) rfl hR hW hf d rfl (fun v lc' s' q => by obtain ⟨r, hz, hr, e1, e2, e3⟩ := q; rw [e1, e2, e3]; exact kk r hz hr)
def fQ_add (s : tt_St) (x1 : Nat) : Option (Int32 × tt_St) :=
  (fQ_offer s x1).bind fun r1 => some (r1.1, r1.2)
abbrev rmQ_add_32 : Room := { frames := 6, cells := 0, slots := 0, locals := 137 }
set_option maxHeartbeats 4000000 in
theorem mQ_add_32 (l : Launch) (D : va_G) (dA : Nat → ClassId) (A : Nat → Prop) (b : Bool) (lc : Nat → Nat → Nat) (s : tt_St) (x1 : Nat) (hx1 : x1 < 12) {Q : Option Value → (Nat → Nat → Nat) → tt_St → Prop} (h : Ok (fQ_add s x1) (fun r => zB r.1 → Q (some (.int r.1)) lc r.2)) : tt_Sp (XW l D dA A b) yJ2_add cJ2_add 2 (some .boolean) rmQ_add_32 [.ref (lc 34 0), .ref (lc 32 x1)] lc s Q := by
  refine tt_Sp.ofV plJ2 kokW (Nat.le_of_ble_eq_true rfl) ?_
  show tt_V (XW l D dA A b) cJ2_add (RJ2, 2, (some .boolean), rmQ_add_32, tt_nt) (tt_fn (XW l D dA A b) (RJ2, 2, (some .boolean), rmQ_add_32, tt_nt) Q) 0 [(0, .ref (lc 34 0)), (1, .ref (lc 32 x1))] [] lc s 0 0
  unfold fQ_add at h
  refine v_aload_n 0 dJ2_add_0 rfl ?_
  refine v_aload_n 1 dJ2_add_1 rfl ?_
  refine cW_J2_89_34_32 hx1 (Ok.bind h) ⟨Nat.le_of_ble_eq_true rfl, Nat.le_of_ble_eq_true rfl⟩ (Nat.le_of_ble_eq_true rfl) dJ2_add_2 (fun r1 z_r1 h => ?_)
  have h := Ok.ret h
  exact v_zret rfl z_r1 (Nat.zero_le _) (Nat.zero_le _) dJ2_add_5 (h z_r1)
theorem cW_X2_275_34_32 {l : Launch} {D : va_G} {dA : Nat → ClassId} {A : Nat → Prop} {b : Bool} {lc : Nat → Nat → Nat} {s : tt_St} {cc : ByteArray} {nl : Nat} {rt : Option FieldType} {rm : Room} {tn : tt_Tn} {Q : tt_Fin} {pc : Nat} {lv : List (Nat × Value)} {rest : List Value} {ck cn : Nat} {x1 : Nat} (hx1 : x1 < 12) {K : Int32 × tt_St → Prop} (h : Ok (fQ_add s x1) K) (hR : 6 + 1 ≤ rm.frames ∧ 8 + (2 + 11) + 137 ≤ rm.locals) (hW : (rest.map fun v => v.category).sum ≤ 8) (d : decode cc pc = .ok (.invokevirtual 275, 3)) (kk : ∀ r, zB r.1 → K r → tt_V (XW l D dA A b) cc (RX2, nl, rt, rm, tn) Q (pc + 3) lv (.int r.1 :: rest) lc r.2 ck cn) (hf : ck ≤ rm.cells ∧ cn ≤ rm.slots := by exact ⟨Nat.zero_le _, Nat.zero_le _⟩) : tt_V (XW l D dA A b) cc (RX2, nl, rt, rm, tn) Q pc lv (.ref (lc 32 x1) :: .ref (lc 34 0) :: rest) lc s ck cn :=
  v_callV (kd := 34) (i := 0) (nA := 1) (As := [.ref (lc 32 x1)]) lvW_34 oW_34 rfl (mQ_add_32 l D dA A b lc s x1 hx1 (Q := (fun v lc' s' => ∃ r, zB r.1 ∧ K r ∧ v = some (.int r.1) ∧ lc' = lc ∧ s' = r.2)) (h.mono (fun r hr => fun hz => ⟨r, hz, hr, rfl, rfl, rfl⟩))) (lw_V q561 q562 q563 q132 q564) (by decide +kernel) rfl hR hW hf d rfl (fun v lc' s' q => by obtain ⟨r, hz, hr, e1, e2, e3⟩ := q; rw [e1, e2, e3]; exact kk r hz hr)
def fW_lines_L20 (x1 : Nat) (x2 : Nat) (a3 : Int32 × tt_St) : Option ((Int32 × tt_St) ⊕ (Int32 × tt_St)) :=
  if (12 : Int32) ≤ a3.1 then some (.inr (a3.1, a3.2)) else (fW_hasTower a3.2 x1 a3.1).bind fun r6 => if r6 = 0 then some (.inl ((a3.1 + 1 : Int32), a3.2)) else if inB a3.1 12 then (fW_roomOf a3.2 x1 a3.1 x2).bind fun r9 => nm (wrL a3.2 32 a3.1.toNatClampNeg 1 r9) fun s10 => (fW_layerAt s10 a3.1 (0 : Int32)).bind fun r11 => nm (wrI s10 32 a3.1.toNatClampNeg 2 (rdI s10 2 r11 5)) fun s12 => (fQ_add s12 a3.1.toNatClampNeg).bind fun r13 => some (.inl ((a3.1 + 1 : Int32), r13.2)) else none
def fW_lines (s : tt_St) (x1 : Nat) (x2 : Nat) : Option (tt_St) :=
  (fQ_clear s).bind fun r1 => nm (wrI r1 33 0 0 (rdI r1 0 0 20)) fun s2 => (itr (fW_lines_L20 x1 x2) tt_fuel ((0 : Int32), s2)).bind fun b4 => some b4.2
abbrev rmW_lines_7_14 : Room := { frames := 7, cells := 0, slots := 0, locals := 158 }
set_option maxHeartbeats 4000000 in
theorem mW_lines_7_14 (l : Launch) (D : va_G) (dA : Nat → ClassId) (A : Nat → Prop) (b : Bool) (lc : Nat → Nat → Nat) (s : tt_St) (x1 : Nat) (x2 : Nat) (hx1 : lvH b x1) (hx2 : lvF x2) {Q : Option Value → (Nat → Nat → Nat) → tt_St → Prop} (h : Ok (fW_lines s x1 x2) (fun r => Q none lc r)) : tt_Sp (XW l D dA A b) yX2_lines cX2_lines 4 none rmW_lines_7_14 [.ref (lc 0 0), .ref (lc 7 x1), .ref (lc 14 x2)] lc s Q := by
  refine tt_Sp.ofV plX2 kokW (Nat.le_of_ble_eq_true rfl) ?_
  show tt_V (XW l D dA A b) cX2_lines (RX2, 4, none, rmW_lines_7_14, tt_nt) (tt_fn (XW l D dA A b) (RX2, 4, none, rmW_lines_7_14, tt_nt) Q) 0 [(0, .ref (lc 0 0)), (1, .ref (lc 7 x1)), (2, .ref (lc 14 x2))] [] lc s 0 0
  unfold fW_lines at h
  refine v_aload_n 0 dX2_lines_0 rfl ?_
  refine gW_X2_72_0 dX2_lines_1 ?_
  refine cW_X2_259_34 (Ok.bind h) ⟨Nat.le_of_ble_eq_true rfl, Nat.le_of_ble_eq_true rfl⟩ (Nat.le_of_ble_eq_true rfl) dX2_lines_4 (fun r1 h => ?_)
  refine v_aload_n 0 dX2_lines_7 rfl ?_
  refine gW_X2_63_0 dX2_lines_8 ?_
  refine v_aload_n 0 dX2_lines_11 rfl ?_
  refine gW_X2_121_0 dX2_lines_12 ?_
  refine pW_X2_262_33 dX2_lines_15 ?_
  refine v_nmS (fun s2 e_s2 => ?_)
  have h := Ok.nm h e_s2
  refine v_iconst dX2_lines_18 ic_0 ?_
  refine v_istore_n [(3, .int (0 : Int32)), (0, .ref (lc 0 0)), (1, .ref (lc 7 x1)), (2, .ref (lc 14 x2))] dX2_lines_19 (Nat.le_of_ble_eq_true rfl) rfl ?_
  refine v_sub [1, 2, 3, 0] rfl ?_
  refine itr_loop (P := fun a3 : Int32 × tt_St => tt_V (XW l D dA A b) cX2_lines (RX2, 4, none, rmW_lines_7_14, tt_nt) (tt_fn (XW l D dA A b) (RX2, 4, none, rmW_lines_7_14, tt_nt) Q) 20 [(0, .ref (lc 0 0)), (1, .ref (lc 7 x1)), (2, .ref (lc 14 x2)), (3, .int a3.1)] [] lc a3.2 0 0) (PE := fun b4 : Int32 × tt_St => tt_V (XW l D dA A b) cX2_lines (RX2, 4, none, rmW_lines_7_14, tt_nt) (tt_fn (XW l D dA A b) (RX2, 4, none, rmW_lines_7_14, tt_nt) Q) 92 [(0, .ref (lc 0 0)), (1, .ref (lc 7 x1)), (2, .ref (lc 14 x2)), (3, .int b4.1)] [] lc b4.2 0 0) h (fun b4 h => ?_) (fun a3 h => ?_)
  · have h := Ok.ret h
    exact v_vret rfl (Nat.zero_le _) (Nat.zero_le _) dX2_lines_92 h
  · have h : Ok (fW_lines_L20 x1 x2 a3) _ := h
    unfold fW_lines_L20 at h
    refine v_iload_n 3 dX2_lines_20 rfl ?_
    refine v_bipush dX2_lines_21 kb_12 ?_
    refine v_icmp_ge (tgt := 92) dX2_lines_23 rfl (fun c5 => ?_) (fun c5 => ?_)
    · have h := Ok.pos h c5
      have h := Ok.ret h
      exact h
    · have h := Ok.neg h c5
      refine v_aload_n 0 dX2_lines_26 rfl ?_
      refine v_aload_n 1 dX2_lines_27 rfl ?_
      refine v_iload_n 3 dX2_lines_28 rfl ?_
      refine cW_X2_241_0_7 hx1 (Ok.bind h) ⟨Nat.le_of_ble_eq_true rfl, Nat.le_of_ble_eq_true rfl⟩ (Nat.le_of_ble_eq_true rfl) dX2_lines_29 (fun r6 z_r6 h => ?_)
      refine v_if_ne (tgt := 38) dX2_lines_32 rfl (fun c7 => ?_) (fun c7 => ?_)
      · have h := Ok.neg h c7
        refine v_aload_n 0 dX2_lines_38 rfl ?_
        refine gW_X2_56_0 dX2_lines_39 ?_
        refine v_iload_n 3 dX2_lines_42 rfl ?_
        obtain ⟨g8, h⟩ := Ok.guard h
        refine lW_31 g8 dX2_lines_43 ?_
        refine v_aload_n 0 dX2_lines_44 rfl ?_
        refine v_aload_n 1 dX2_lines_45 rfl ?_
        refine v_iload_n 3 dX2_lines_46 rfl ?_
        refine v_aload_n 2 dX2_lines_47 rfl ?_
        refine cW_X2_265_0_7_14 hx1 hx2 (Ok.bind h) ⟨Nat.le_of_ble_eq_true rfl, Nat.le_of_ble_eq_true rfl⟩ (Nat.le_of_ble_eq_true rfl) dX2_lines_48 (fun r9 h => ?_)
        refine pW_X2_269_32 (inB_lt g8) dX2_lines_51 ?_
        refine v_nmS (fun s10 e_s10 => ?_)
        have h := Ok.nm h e_s10
        refine v_aload_n 0 dX2_lines_54 rfl ?_
        refine gW_X2_56_0 dX2_lines_55 ?_
        refine v_iload_n 3 dX2_lines_58 rfl ?_
        refine lW_31 g8 dX2_lines_59 ?_
        refine v_aload_n 0 dX2_lines_60 rfl ?_
        refine v_iload_n 3 dX2_lines_61 rfl ?_
        refine v_iconst dX2_lines_62 ic_0 ?_
        refine cW_X2_140_0 (Ok.bind h) ⟨Nat.le_of_ble_eq_true rfl, Nat.le_of_ble_eq_true rfl⟩ (Nat.le_of_ble_eq_true rfl) dX2_lines_63 (fun r11 z_r11 h => ?_)
        refine gW_X2_144_2 z_r11 dX2_lines_66 ?_
        refine pW_X2_272_32 (inB_lt g8) dX2_lines_69 ?_
        refine v_nmS (fun s12 e_s12 => ?_)
        have h := Ok.nm h e_s12
        refine v_aload_n 0 dX2_lines_72 rfl ?_
        refine gW_X2_72_0 dX2_lines_73 ?_
        refine v_aload_n 0 dX2_lines_76 rfl ?_
        refine gW_X2_56_0 dX2_lines_77 ?_
        refine v_iload_n 3 dX2_lines_80 rfl ?_
        refine lW_31 g8 dX2_lines_81 ?_
        refine cW_X2_275_34_32 (inB_lt g8) (Ok.bind h) ⟨Nat.le_of_ble_eq_true rfl, Nat.le_of_ble_eq_true rfl⟩ (Nat.le_of_ble_eq_true rfl) dX2_lines_82 (fun r13 z_r13 h => ?_)
        refine v_pop dX2_lines_85 rfl ?_
        refine v_iinc (v := (a3.1 + 1 : Int32)) 3 [(3, .int (a3.1 + 1 : Int32)), (0, .ref (lc 0 0)), (1, .ref (lc 7 x1)), (2, .ref (lc 14 x2))] dX2_lines_86 rfl (by rw [ic_1]) (Nat.le_of_ble_eq_true rfl) rfl ?_
        refine v_goto (tgt := 20) dX2_lines_89 rfl ?_
        refine v_sub [1, 2, 3, 0] rfl ?_
        have h := Ok.ret h
        exact h
      · have h := Ok.pos h c7
        refine v_goto (tgt := 86) dX2_lines_35 rfl ?_
        refine v_iinc (v := (a3.1 + 1 : Int32)) 3 [(3, .int (a3.1 + 1 : Int32)), (0, .ref (lc 0 0)), (1, .ref (lc 7 x1)), (2, .ref (lc 14 x2))] dX2_lines_86 rfl (by rw [ic_1]) (Nat.le_of_ble_eq_true rfl) rfl ?_
        refine v_goto (tgt := 20) dX2_lines_89 rfl ?_
        refine v_sub [1, 2, 3, 0] rfl ?_
        have h := Ok.ret h
        exact h
theorem cW_X2_286_0_7_14 {l : Launch} {D : va_G} {dA : Nat → ClassId} {A : Nat → Prop} {b : Bool} {lc : Nat → Nat → Nat} {s : tt_St} {cc : ByteArray} {nl : Nat} {rt : Option FieldType} {rm : Room} {tn : tt_Tn} {Q : tt_Fin} {pc : Nat} {lv : List (Nat × Value)} {rest : List Value} {ck cn : Nat} {x1 : Nat} {x2 : Nat} (hx1 : lvH b x1) (hx2 : lvF x2) {K : tt_St → Prop} (h : Ok (fW_lines s x1 x2) K) (hR : 7 + 1 ≤ rm.frames ∧ 8 + (4 + 11) + 158 ≤ rm.locals) (hW : (rest.map fun v => v.category).sum ≤ 8) (d : decode cc pc = .ok (.invokevirtual 286, 3)) (kk : ∀ r, K r → tt_V (XW l D dA A b) cc (RX2, nl, rt, rm, tn) Q (pc + 3) lv rest lc r ck cn) (hf : ck ≤ rm.cells ∧ cn ≤ rm.slots := by exact ⟨Nat.zero_le _, Nat.zero_le _⟩) : tt_V (XW l D dA A b) cc (RX2, nl, rt, rm, tn) Q pc lv (.ref (lc 14 x2) :: .ref (lc 7 x1) :: .ref (lc 0 0) :: rest) lc s ck cn :=
  v_callV (kd := 0) (i := 0) (nA := 2) (As := [.ref (lc 7 x1), .ref (lc 14 x2)]) lvW_0 oW_0 rfl (mW_lines_7_14 l D dA A b lc s x1 x2 hx1 hx2 (Q := (fun v lc' s' => ∃ r, K r ∧ v = none ∧ lc' = lc ∧ s' = r)) (h.mono (fun r hr => ⟨r, hr, rfl, rfl, rfl⟩))) (lw_V q549 q550 q551 q128 q552) (by decide +kernel) rfl hR hW hf d rfl (fun v lc' s' q => by obtain ⟨r, hr, e1, e2, e3⟩ := q; rw [e1, e2, e3]; exact kk r hr)
def fQ_size (s : tt_St) : Option (Int32) :=
  some (rdI s 34 0 1)
abbrev rmQ_size : Room := { frames := 0, cells := 0, slots := 0, locals := 0 }
set_option maxHeartbeats 4000000 in
theorem mQ_size (l : Launch) (D : va_G) (dA : Nat → ClassId) (A : Nat → Prop) (b : Bool) (lc : Nat → Nat → Nat) (s : tt_St) {Q : Option Value → (Nat → Nat → Nat) → tt_St → Prop} (h : Ok (fQ_size s) (fun r => Q (some (.int r)) lc s)) : tt_Sp (XW l D dA A b) yJ2_size cJ2_size 1 (some .int) rmQ_size [.ref (lc 34 0)] lc s Q := by
  refine tt_Sp.ofV plJ2 kokW (Nat.le_of_ble_eq_true rfl) ?_
  show tt_V (XW l D dA A b) cJ2_size (RJ2, 1, (some .int), rmQ_size, tt_nt) (tt_fn (XW l D dA A b) (RJ2, 1, (some .int), rmQ_size, tt_nt) Q) 0 [(0, .ref (lc 34 0))] [] lc s 0 0
  unfold fQ_size at h
  refine v_aload_n 0 dJ2_size_0 rfl ?_
  refine gW_J2_58_34 dJ2_size_1 ?_
  have h := Ok.ret h
  exact v_iret rfl (Nat.zero_le _) (Nat.zero_le _) dJ2_size_4 h
theorem cW_J0_7_34 {l : Launch} {D : va_G} {dA : Nat → ClassId} {A : Nat → Prop} {b : Bool} {lc : Nat → Nat → Nat} {s : tt_St} {cc : ByteArray} {nl : Nat} {rt : Option FieldType} {rm : Room} {tn : tt_Tn} {Q : tt_Fin} {pc : Nat} {lv : List (Nat × Value)} {rest : List Value} {ck cn : Nat} {K : Int32 → Prop} (h : Ok (fQ_size s) K) (hR : 0 + 1 ≤ rm.frames ∧ 8 + (1 + 11) + 0 ≤ rm.locals) (hW : (rest.map fun v => v.category).sum ≤ 8) (d : decode cc pc = .ok (.invokevirtual 7, 3)) (kk : ∀ r, K r → tt_V (XW l D dA A b) cc (RJ0, nl, rt, rm, tn) Q (pc + 3) lv (.int r :: rest) lc s ck cn) (hf : ck ≤ rm.cells ∧ cn ≤ rm.slots := by exact ⟨Nat.zero_le _, Nat.zero_le _⟩) : tt_V (XW l D dA A b) cc (RJ0, nl, rt, rm, tn) Q pc lv (.ref (lc 34 0) :: rest) lc s ck cn :=
  v_callA (x := ⟨"java/util/AbstractCollection", "size", "()I"⟩) (owner := "java/util/AbstractCollection") knW (kd := 34) (i := 0) (nA := 0) (As := []) lvW_34 oW_34 rfl (mQ_size l D dA A b lc s (Q := (fun v lc' s' => ∃ r, K r ∧ v = some (.int r) ∧ lc' = lc ∧ s' = s)) (h.mono (fun r hr => ⟨r, hr, rfl, rfl, rfl⟩))) (lw_U q673 q675 q676 q677 q132 q678) q674 (by decide +kernel) rfl hR hW hf d rfl (fun v lc' s' q => by obtain ⟨r, hr, e1, e2, e3⟩ := q; rw [e1, e2, e3]; exact kk r hr)
def fQA_isEmpty (s : tt_St) : Option (Int32) :=
  (fQ_size s).bind fun r1 => if r1 = 0 then some (1 : Int32) else some (0 : Int32)
abbrev rmQA_isEmpty : Room := { frames := 1, cells := 0, slots := 0, locals := 20 }
set_option maxHeartbeats 4000000 in
theorem mQA_isEmpty (l : Launch) (D : va_G) (dA : Nat → ClassId) (A : Nat → Prop) (b : Bool) (lc : Nat → Nat → Nat) (s : tt_St) {Q : Option Value → (Nat → Nat → Nat) → tt_St → Prop} (h : Ok (fQA_isEmpty s) (fun r => zB r → Q (some (.int r)) lc s)) : tt_Sp (XW l D dA A b) yJ0_isEmpty cJ0_isEmpty 1 (some .boolean) rmQA_isEmpty [.ref (lc 34 0)] lc s Q := by
  refine tt_Sp.ofV plJ0 kokW (Nat.le_of_ble_eq_true rfl) ?_
  show tt_V (XW l D dA A b) cJ0_isEmpty (RJ0, 1, (some .boolean), rmQA_isEmpty, tt_nt) (tt_fn (XW l D dA A b) (RJ0, 1, (some .boolean), rmQA_isEmpty, tt_nt) Q) 0 [(0, .ref (lc 34 0))] [] lc s 0 0
  unfold fQA_isEmpty at h
  refine v_aload_n 0 dJ0_isEmpty_0 rfl ?_
  refine cW_J0_7_34 (Ok.bind h) ⟨Nat.le_of_ble_eq_true rfl, Nat.le_of_ble_eq_true rfl⟩ (Nat.le_of_ble_eq_true rfl) dJ0_isEmpty_1 (fun r1 h => ?_)
  refine v_if_ne (tgt := 11) dJ0_isEmpty_4 rfl (fun c2 => ?_) (fun c2 => ?_)
  · have h := Ok.neg h c2
    refine v_iconst dJ0_isEmpty_11 ic_0 ?_
    have h := Ok.ret h
    exact v_zret rfl zB_0 (Nat.zero_le _) (Nat.zero_le _) dJ0_isEmpty_12 (h zB_0)
  · have h := Ok.pos h c2
    refine v_iconst dJ0_isEmpty_7 ic_1 ?_
    refine v_goto (tgt := 12) dJ0_isEmpty_8 rfl ?_
    have h := Ok.ret h
    exact v_zret rfl zB_1 (Nat.zero_le _) (Nat.zero_le _) dJ0_isEmpty_12 (h zB_1)
theorem cW_X2_290_34 {l : Launch} {D : va_G} {dA : Nat → ClassId} {A : Nat → Prop} {b : Bool} {lc : Nat → Nat → Nat} {s : tt_St} {cc : ByteArray} {nl : Nat} {rt : Option FieldType} {rm : Room} {tn : tt_Tn} {Q : tt_Fin} {pc : Nat} {lv : List (Nat × Value)} {rest : List Value} {ck cn : Nat} {K : Int32 → Prop} (h : Ok (fQA_isEmpty s) K) (hR : 1 + 1 ≤ rm.frames ∧ 8 + (1 + 11) + 20 ≤ rm.locals) (hW : (rest.map fun v => v.category).sum ≤ 8) (d : decode cc pc = .ok (.invokevirtual 290, 3)) (kk : ∀ r, zB r → K r → tt_V (XW l D dA A b) cc (RX2, nl, rt, rm, tn) Q (pc + 3) lv (.int r :: rest) lc s ck cn) (hf : ck ≤ rm.cells ∧ cn ≤ rm.slots := by exact ⟨Nat.zero_le _, Nat.zero_le _⟩) : tt_V (XW l D dA A b) cc (RX2, nl, rt, rm, tn) Q pc lv (.ref (lc 34 0) :: rest) lc s ck cn :=
  v_callU (x := ⟨"java/util/PriorityQueue", "isEmpty", "()Z"⟩) (owner := "java/util/AbstractCollection") (kd := 34) (i := 0) (nA := 0) (As := []) lvW_34 oW_34 rfl (mQA_isEmpty l D dA A b lc s (Q := (fun v lc' s' => ∃ r, zB r ∧ K r ∧ v = some (.int r) ∧ lc' = lc ∧ s' = s)) (h.mono (fun r hr => fun hz => ⟨r, hz, hr, rfl, rfl, rfl⟩))) (lw_U q667 q668 q670 q671 q130 q672) rfl (by decide +kernel) rfl hR hW hf d rfl (fun v lc' s' q => by obtain ⟨r, hz, hr, e1, e2, e3⟩ := q; rw [e1, e2, e3]; exact kk r hz hr)
def fQ_siftDownUsingComparator_35_33_L5 (x1 : Nat) (x3 : Int32) (v1 : Int32) (a2 : Int32 × tt_St) : Option ((Int32 × tt_St) ⊕ (Int32 × tt_St)) :=
  if v1 ≤ a2.1 then some (.inr (a2.1, a2.2)) else nm ((a2.1 <<< ((1 : Int32) &&& 31)) + (1 : Int32)) fun v5 => if inB v5 12 then unO (rdR a2.2 35 0 v5.toNatClampNeg) 12 fun o7 => nm (v5 + (1 : Int32)) fun v8 => (if x3 ≤ v8 then some (v5, o7) else if inB v8 12 then unO (rdR a2.2 35 0 v8.toNatClampNeg) 12 fun o13 => (fK_compare a2.2 o7 o13).bind fun r14 => if r14 ≤ 0 then some (v5, o7) else unO (rdR a2.2 35 0 v8.toNatClampNeg) 12 fun o16 => some (v8, o16) else none : Option (Int32 × Nat)).bind fun t9 => if t9.2 < 12 then (fK_compare a2.2 x1 t9.2).bind fun r17 => if 0 < r17 then if inB a2.1 12 then nm (wrR a2.2 35 0 a2.1.toNatClampNeg (some t9.2)) fun s20 => some (.inl (t9.1, s20)) else none else some (.inr (a2.1, a2.2)) else none else none
def fQ_siftDownUsingComparator_35_33 (s : tt_St) (x0 : Int32) (x1 : Nat) (x3 : Int32) : Option (tt_St) :=
  nm ((x3.toUInt32 >>> ((1 : Int32).toUInt32 &&& Int32.toUInt32 31)).toInt32) fun v1 => (itr (fQ_siftDownUsingComparator_35_33_L5 x1 x3 v1) tt_fuel (x0, s)).bind fun b3 => if inB b3.1 12 then nm (wrR b3.2 35 0 b3.1.toNatClampNeg (some x1)) fun s22 => some s22 else none
abbrev rmQ_siftDownUsingComparator_32_35_33 : Room := { frames := 3, cells := 0, slots := 0, locals := 68 }
set_option maxHeartbeats 4000000 in
theorem mQ_siftDownUsingComparator_32_35_33 (l : Launch) (D : va_G) (dA : Nat → ClassId) (A : Nat → Prop) (b : Bool) (lc : Nat → Nat → Nat) (s : tt_St) (x0 : Int32) (x1 : Nat) (x3 : Int32) (hx1 : x1 < 12) {Q : Option Value → (Nat → Nat → Nat) → tt_St → Prop} (h : Ok (fQ_siftDownUsingComparator_35_33 s x0 x1 x3) (fun r => Q none lc r)) : tt_Sp (XW l D dA A b) yJ2_siftDownUsingComparator cJ2_siftDownUsingComparator 9 none rmQ_siftDownUsingComparator_32_35_33 [.int x0, .ref (lc 32 x1), .ref (lc 35 0), .int x3, .ref (lc 33 0)] lc s Q := by
  refine tt_Sp.ofV plJ2 kokW (Nat.le_of_ble_eq_true rfl) ?_
  show tt_V (XW l D dA A b) cJ2_siftDownUsingComparator (RJ2, 9, none, rmQ_siftDownUsingComparator_32_35_33, tt_nt) (tt_fn (XW l D dA A b) (RJ2, 9, none, rmQ_siftDownUsingComparator_32_35_33, tt_nt) Q) 0 [(0, .int x0), (1, .ref (lc 32 x1)), (2, .ref (lc 35 0)), (3, .int x3), (4, .ref (lc 33 0))] [] lc s 0 0
  unfold fQ_siftDownUsingComparator_35_33 at h
  refine v_iload_n 3 dJ2_siftDownUsingComparator_0 rfl ?_
  refine v_iconst dJ2_siftDownUsingComparator_1 ic_1 ?_
  refine v_iushr dJ2_siftDownUsingComparator_2 rfl ?_
  refine v_nmI (fun v1 e_v1 => ?_)
  have h := Ok.nm h e_v1
  refine v_istore [(5, .int v1), (0, .int x0), (1, .ref (lc 32 x1)), (2, .ref (lc 35 0)), (3, .int x3), (4, .ref (lc 33 0))] dJ2_siftDownUsingComparator_3 (Nat.le_of_ble_eq_true rfl) rfl ?_
  refine v_sub [1, 2, 3, 4, 5, 0] rfl ?_
  refine itr_loop (P := fun a2 : Int32 × tt_St => tt_V (XW l D dA A b) cJ2_siftDownUsingComparator (RJ2, 9, none, rmQ_siftDownUsingComparator_32_35_33, tt_nt) (tt_fn (XW l D dA A b) (RJ2, 9, none, rmQ_siftDownUsingComparator_32_35_33, tt_nt) Q) 5 [(0, .int a2.1), (1, .ref (lc 32 x1)), (2, .ref (lc 35 0)), (3, .int x3), (4, .ref (lc 33 0)), (5, .int v1)] [] lc a2.2 0 0) (PE := fun b3 : Int32 × tt_St => tt_V (XW l D dA A b) cJ2_siftDownUsingComparator (RJ2, 9, none, rmQ_siftDownUsingComparator_32_35_33, tt_nt) (tt_fn (XW l D dA A b) (RJ2, 9, none, rmQ_siftDownUsingComparator_32_35_33, tt_nt) Q) 88 [(0, .int b3.1), (1, .ref (lc 32 x1)), (2, .ref (lc 35 0)), (3, .int x3), (4, .ref (lc 33 0)), (5, .int v1)] [] lc b3.2 0 0) h (fun b3 h => ?_) (fun a2 h => ?_)
  · refine v_aload_n 2 dJ2_siftDownUsingComparator_88 rfl ?_
    refine v_iload_n 0 dJ2_siftDownUsingComparator_89 rfl ?_
    refine v_aload_n 1 dJ2_siftDownUsingComparator_90 rfl ?_
    obtain ⟨g21, h⟩ := Ok.guard h
    refine sW_35 hx1 g21 dJ2_siftDownUsingComparator_91 ?_
    refine v_nmS (fun s22 e_s22 => ?_)
    have h := Ok.nm h e_s22
    have h := Ok.ret h
    exact v_vret rfl (Nat.zero_le _) (Nat.zero_le _) dJ2_siftDownUsingComparator_92 h
  · have h : Ok (fQ_siftDownUsingComparator_35_33_L5 x1 x3 v1 a2) _ := h
    unfold fQ_siftDownUsingComparator_35_33_L5 at h
    refine v_iload_n 0 dJ2_siftDownUsingComparator_5 rfl ?_
    refine v_iload 5 dJ2_siftDownUsingComparator_6 rfl ?_
    refine v_icmp_ge (tgt := 88) dJ2_siftDownUsingComparator_8 rfl (fun c4 => ?_) (fun c4 => ?_)
    · have h := Ok.pos h c4
      have h := Ok.ret h
      exact h
    · have h := Ok.neg h c4
      refine v_iload_n 0 dJ2_siftDownUsingComparator_11 rfl ?_
      refine v_iconst dJ2_siftDownUsingComparator_12 ic_1 ?_
      refine v_ishl dJ2_siftDownUsingComparator_13 ?_
      refine v_iconst dJ2_siftDownUsingComparator_14 ic_1 ?_
      refine v_iadd dJ2_siftDownUsingComparator_15 ?_
      refine v_nmI (fun v5 e_v5 => ?_)
      have h := Ok.nm h e_v5
      refine v_istore [(6, .int v5), (0, .int a2.1), (1, .ref (lc 32 x1)), (2, .ref (lc 35 0)), (3, .int x3), (4, .ref (lc 33 0)), (5, .int v1)] dJ2_siftDownUsingComparator_16 (Nat.le_of_ble_eq_true rfl) rfl ?_
      refine v_aload_n 3 dJ2_siftDownUsingComparator_18 rfl ?_
      refine v_iload 0 dJ2_siftDownUsingComparator_19 rfl ?_
      obtain ⟨g6, h⟩ := Ok.guard h
      obtain ⟨o7, e_o7, g_o7, h⟩ := Ok.unO h
      refine lW_35 g6 e_o7 dJ2_siftDownUsingComparator_21 ?_
      refine v_astore [(7, .ref (lc 32 o7)), (6, .int v5), (0, .int a2.1), (1, .ref (lc 32 x1)), (2, .ref (lc 35 0)), (3, .int x3), (4, .ref (lc 33 0)), (5, .int v1)] dJ2_siftDownUsingComparator_22 (Nat.le_of_ble_eq_true rfl) rfl ?_
      refine v_iload 1 dJ2_siftDownUsingComparator_24 rfl ?_
      refine v_iconst dJ2_siftDownUsingComparator_26 ic_1 ?_
      refine v_iadd dJ2_siftDownUsingComparator_27 ?_
      refine v_nmI (fun v8 e_v8 => ?_)
      have h := Ok.nm h e_v8
      refine v_istore [(8, .int v8), (7, .ref (lc 32 o7)), (6, .int v5), (0, .int a2.1), (1, .ref (lc 32 x1)), (2, .ref (lc 35 0)), (3, .int x3), (4, .ref (lc 33 0)), (5, .int v1)] dJ2_siftDownUsingComparator_28 (Nat.le_of_ble_eq_true rfl) rfl ?_
      refine v_iload 0 dJ2_siftDownUsingComparator_30 rfl ?_
      refine v_iload_n 6 dJ2_siftDownUsingComparator_32 rfl ?_
      have h := Ok.join (PJ := fun t9 : Int32 × Nat => tt_V (XW l D dA A b) cJ2_siftDownUsingComparator (RJ2, 9, none, rmQ_siftDownUsingComparator_32_35_33, tt_nt) (tt_fn (XW l D dA A b) (RJ2, 9, none, rmQ_siftDownUsingComparator_32_35_33, tt_nt) Q) 61 [(0, .int a2.1), (1, .ref (lc 32 x1)), (2, .ref (lc 35 0)), (3, .int x3), (4, .ref (lc 33 0)), (5, .int v1), (6, .int t9.1), (7, .ref (lc 32 t9.2))] [] lc a2.2 0 0) h (fun t9 h => by
        obtain ⟨g10, h⟩ := Ok.guard h
        refine v_aload 4 dJ2_siftDownUsingComparator_61 rfl ?_
        refine v_aload_n 1 dJ2_siftDownUsingComparator_63 rfl ?_
        refine v_aload 7 dJ2_siftDownUsingComparator_64 rfl ?_
        refine cW_J2_149_33_32_32 hx1 g10 (Ok.bind h) ⟨Nat.le_of_ble_eq_true rfl, Nat.le_of_ble_eq_true rfl⟩ (Nat.le_of_ble_eq_true rfl) dJ2_siftDownUsingComparator_66 (fun r17 h => ?_)
        refine v_if_gt (tgt := 77) dJ2_siftDownUsingComparator_71 rfl (fun c18 => ?_) (fun c18 => ?_)
        · have h := Ok.pos h c18
          refine v_aload_n 2 dJ2_siftDownUsingComparator_77 rfl ?_
          refine v_iload_n 0 dJ2_siftDownUsingComparator_78 rfl ?_
          refine v_aload 7 dJ2_siftDownUsingComparator_79 rfl ?_
          obtain ⟨g19, h⟩ := Ok.guard h
          refine sW_35 g10 g19 dJ2_siftDownUsingComparator_81 ?_
          refine v_nmS (fun s20 e_s20 => ?_)
          have h := Ok.nm h e_s20
          refine v_iload 6 dJ2_siftDownUsingComparator_82 rfl ?_
          refine v_istore_n [(0, .int t9.1), (1, .ref (lc 32 x1)), (2, .ref (lc 35 0)), (3, .int x3), (4, .ref (lc 33 0)), (5, .int v1), (6, .int t9.1), (7, .ref (lc 32 t9.2))] dJ2_siftDownUsingComparator_84 (Nat.le_of_ble_eq_true rfl) rfl ?_
          refine v_goto (tgt := 5) dJ2_siftDownUsingComparator_85 rfl ?_
          refine v_sub [0, 1, 2, 3, 4, 5] rfl ?_
          have h := Ok.ret h
          exact h
        · have h := Ok.neg h c18
          refine v_goto (tgt := 88) dJ2_siftDownUsingComparator_74 rfl ?_
          refine v_sub [0, 1, 2, 3, 4, 5] rfl ?_
          have h := Ok.ret h
          exact h)
      refine v_icmp_ge (tgt := 61) dJ2_siftDownUsingComparator_33 rfl (fun c11 => ?_) (fun c11 => ?_)
      · have h := Ok.pos h c11
        refine v_sub [3, 4, 5, 6, 7, 8, 2, 1] rfl ?_
        have h := Ok.ret h
        exact h
      · have h := Ok.neg h c11
        refine v_aload 7 dJ2_siftDownUsingComparator_36 rfl ?_
        refine v_aload 1 dJ2_siftDownUsingComparator_38 rfl ?_
        refine v_aload_n 5 dJ2_siftDownUsingComparator_40 rfl ?_
        refine v_iload 0 dJ2_siftDownUsingComparator_41 rfl ?_
        obtain ⟨g12, h⟩ := Ok.guard h
        obtain ⟨o13, e_o13, g_o13, h⟩ := Ok.unO h
        refine lW_35 g12 e_o13 dJ2_siftDownUsingComparator_43 ?_
        refine cW_J2_149_33_32_32 g_o7 g_o13 (Ok.bind h) ⟨Nat.le_of_ble_eq_true rfl, Nat.le_of_ble_eq_true rfl⟩ (Nat.le_of_ble_eq_true rfl) dJ2_siftDownUsingComparator_44 (fun r14 h => ?_)
        refine v_if_le (tgt := 61) dJ2_siftDownUsingComparator_49 rfl (fun c15 => ?_) (fun c15 => ?_)
        · have h := Ok.pos h c15
          refine v_sub [3, 4, 5, 6, 7, 8, 2, 1] rfl ?_
          have h := Ok.ret h
          exact h
        · have h := Ok.neg h c15
          refine v_aload_n 5 dJ2_siftDownUsingComparator_52 rfl ?_
          refine v_iload 0 dJ2_siftDownUsingComparator_53 rfl ?_
          refine v_dup dJ2_siftDownUsingComparator_55 rfl ?_
          refine v_istore [(6, .int v8), (8, .int v8), (7, .ref (lc 32 o7)), (0, .int a2.1), (1, .ref (lc 32 x1)), (2, .ref (lc 35 0)), (3, .int x3), (4, .ref (lc 33 0)), (5, .int v1)] dJ2_siftDownUsingComparator_56 (Nat.le_of_ble_eq_true rfl) rfl ?_
          obtain ⟨o16, e_o16, g_o16, h⟩ := Ok.unO h
          refine lW_35 g12 e_o16 dJ2_siftDownUsingComparator_58 ?_
          refine v_astore [(7, .ref (lc 32 o16)), (6, .int v8), (8, .int v8), (0, .int a2.1), (1, .ref (lc 32 x1)), (2, .ref (lc 35 0)), (3, .int x3), (4, .ref (lc 33 0)), (5, .int v1)] dJ2_siftDownUsingComparator_59 (Nat.le_of_ble_eq_true rfl) rfl ?_
          refine v_sub [3, 4, 5, 6, 7, 8, 1, 0] rfl ?_
          have h := Ok.ret h
          exact h
theorem cW_J2_129_32_35_33 {l : Launch} {D : va_G} {dA : Nat → ClassId} {A : Nat → Prop} {b : Bool} {lc : Nat → Nat → Nat} {s : tt_St} {cc : ByteArray} {nl : Nat} {rt : Option FieldType} {rm : Room} {tn : tt_Tn} {Q : tt_Fin} {pc : Nat} {lv : List (Nat × Value)} {rest : List Value} {ck cn : Nat} {x0 : Int32} {x1 : Nat} {x3 : Int32} (hx1 : x1 < 12) {K : tt_St → Prop} (h : Ok (fQ_siftDownUsingComparator_35_33 s x0 x1 x3) K) (hR : 3 + 1 ≤ rm.frames ∧ 8 + (9 + 11) + 68 ≤ rm.locals) (hW : (rest.map fun v => v.category).sum ≤ 8) (d : decode cc pc = .ok (.invokestatic 129, 3)) (kk : ∀ r, K r → tt_V (XW l D dA A b) cc (RJ2, nl, rt, rm, tn) Q (pc + 3) lv rest lc r ck cn) (hf : ck ≤ rm.cells ∧ cn ≤ rm.slots := by exact ⟨Nat.zero_le _, Nat.zero_le _⟩) : tt_V (XW l D dA A b) cc (RJ2, nl, rt, rm, tn) Q pc lv (.ref (lc 33 0) :: .int x3 :: .ref (lc 35 0) :: .ref (lc 32 x1) :: .int x0 :: rest) lc s ck cn :=
  v_callS (nA := 5) (As := [.int x0, .ref (lc 32 x1), .ref (lc 35 0), .int x3, .ref (lc 33 0)]) (mQ_siftDownUsingComparator_32_35_33 l D dA A b lc s x0 x1 x3 hx1 (Q := (fun v lc' s' => ∃ r, K r ∧ v = none ∧ lc' = lc ∧ s' = r)) (h.mono (fun r hr => ⟨r, hr, rfl, rfl, rfl⟩))) (lw_S q697 q698 q132 q699) (by decide +kernel) rfl hR hW hf d rfl (fun v lc' s' q => by obtain ⟨r, hr, e1, e2, e3⟩ := q; rw [e1, e2, e3]; exact kk r hr)
def fQ_poll (s : tt_St) : Option (Option Nat × tt_St) :=
  if inB (0 : Int32) 12 then csO (rdR s 35 0 (0 : Int32).toNatClampNeg) 12 (some (none, s)) fun o2 => nm (wrI s 34 0 3 ((rdI s 34 0 3) + (1 : Int32))) fun s3 => nm (wrI s3 34 0 1 ((rdI s3 34 0 1) - (1 : Int32))) fun s4 => nm ((rdI s3 34 0 1) - (1 : Int32)) fun v5 => if inB ((rdI s3 34 0 1) - (1 : Int32)) 12 then unO (rdR s4 35 0 ((rdI s3 34 0 1) - (1 : Int32)).toNatClampNeg) 12 fun o7 => if inB v5 12 then nm (wrR s4 35 0 v5.toNatClampNeg none) fun s9 => if v5 ≤ 0 then some (some o2, s9) else (fQ_siftDownUsingComparator_35_33 s9 (0 : Int32) o7 v5).bind fun r11 => some (some o2, r11) else none else none else none
abbrev rmQ_poll : Room := { frames := 4, cells := 0, slots := 0, locals := 96 }
set_option maxHeartbeats 4000000 in
theorem mQ_poll (l : Launch) (D : va_G) (dA : Nat → ClassId) (A : Nat → Prop) (b : Bool) (lc : Nat → Nat → Nat) (s : tt_St) {Q : Option Value → (Nat → Nat → Nat) → tt_St → Prop} (h : Ok (fQ_poll s) (fun r => (∀ t, r.1 = some t → t < 12) → Q (some (va_rf (Option.map (lc 32) r.1))) lc r.2)) : tt_Sp (XW l D dA A b) yJ2_poll cJ2_poll 6 (some (.object "java/lang/Object")) rmQ_poll [.ref (lc 34 0)] lc s Q := by
  refine tt_Sp.ofV plJ2 kokW (Nat.le_of_ble_eq_true rfl) ?_
  show tt_V (XW l D dA A b) cJ2_poll (RJ2, 6, (some (.object "java/lang/Object")), rmQ_poll, tt_nt) (tt_fn (XW l D dA A b) (RJ2, 6, (some (.object "java/lang/Object")), rmQ_poll, tt_nt) Q) 0 [(0, .ref (lc 34 0))] [] lc s 0 0
  unfold fQ_poll at h
  refine v_aload_n 0 dJ2_poll_0 rfl ?_
  refine gW_J2_17_34 dJ2_poll_1 ?_
  refine v_dup dJ2_poll_4 rfl ?_
  refine v_astore_n [(1, .ref (lc 35 0)), (0, .ref (lc 34 0))] dJ2_poll_5 (Nat.le_of_ble_eq_true rfl) rfl ?_
  refine v_iconst dJ2_poll_6 ic_0 ?_
  obtain ⟨g1, h⟩ := Ok.guard h
  rcases Ok.csO h with ⟨e_o2, h⟩ | ⟨o2, e_o2, g_o2, h⟩
  · refine lW_35n g1 e_o2 dJ2_poll_7 ?_
    refine v_dup dJ2_poll_8 rfl ?_
    refine v_astore_nN [(2, .null), (1, .ref (lc 35 0)), (0, .ref (lc 34 0))] dJ2_poll_9 (Nat.le_of_ble_eq_true rfl) rfl ?_
    refine v_ifnullN (tgt := 79) dJ2_poll_10 rfl ?_
    refine v_aload_nN 0 dJ2_poll_79 rfl ?_
    have h := Ok.ret h
    exact v_aret0 (.inl rfl) rfl (Nat.zero_le _) (Nat.zero_le _) dJ2_poll_80 (h (fun _ q => by cases q))
  · refine lW_35 g1 e_o2 dJ2_poll_7 ?_
    refine v_dup dJ2_poll_8 rfl ?_
    refine v_astore_n [(2, .ref (lc 32 o2)), (1, .ref (lc 35 0)), (0, .ref (lc 34 0))] dJ2_poll_9 (Nat.le_of_ble_eq_true rfl) rfl ?_
    refine v_ifnull dJ2_poll_10 ?_
    refine v_aload_n 2 dJ2_poll_13 rfl ?_
    refine v_dup dJ2_poll_14 rfl ?_
    refine gW_J2_93_34 dJ2_poll_15 ?_
    refine v_iconst dJ2_poll_18 ic_1 ?_
    refine v_iadd dJ2_poll_19 ?_
    refine pW_J2_93_34 dJ2_poll_20 ?_
    refine v_nmS (fun s3 e_s3 => ?_)
    have h := Ok.nm h e_s3
    refine v_aload_n 1 dJ2_poll_23 rfl ?_
    refine v_aload_n 2 dJ2_poll_24 rfl ?_
    refine v_dup dJ2_poll_25 rfl ?_
    refine gW_J2_58_34 dJ2_poll_26 ?_
    refine v_iconst dJ2_poll_29 ic_1 ?_
    refine v_isub dJ2_poll_30 ?_
    refine v_dup_x1 dJ2_poll_31 rfl rfl ?_
    refine pW_J2_58_34 dJ2_poll_32 ?_
    refine v_nmS (fun s4 e_s4 => ?_)
    have h := Ok.nm h e_s4
    refine v_dup dJ2_poll_35 rfl ?_
    refine v_nmI (fun v5 e_v5 => ?_)
    have h := Ok.nm h e_v5
    refine v_istore_n [(3, .int v5), (2, .ref (lc 32 o2)), (1, .ref (lc 35 0)), (0, .ref (lc 34 0))] dJ2_poll_36 (Nat.le_of_ble_eq_true rfl) rfl ?_
    obtain ⟨g6, h⟩ := Ok.guard h
    obtain ⟨o7, e_o7, g_o7, h⟩ := Ok.unO h
    refine lW_35 g6 e_o7 dJ2_poll_37 ?_
    refine v_astore [(4, .ref (lc 32 o7)), (3, .int v5), (2, .ref (lc 32 o2)), (1, .ref (lc 35 0)), (0, .ref (lc 34 0))] dJ2_poll_38 (Nat.le_of_ble_eq_true rfl) rfl ?_
    refine v_aload_n 3 dJ2_poll_40 rfl ?_
    refine v_iload_n 1 dJ2_poll_41 rfl ?_
    refine v_null dJ2_poll_42 ?_
    obtain ⟨g8, h⟩ := Ok.guard h
    refine sW_35n g8 dJ2_poll_43 ?_
    refine v_nmS (fun s9 e_s9 => ?_)
    have h := Ok.nm h e_s9
    refine v_iload_n 1 dJ2_poll_44 rfl ?_
    refine v_if_le (tgt := 79) dJ2_poll_45 rfl (fun c10 => ?_) (fun c10 => ?_)
    · have h := Ok.pos h c10
      refine v_aload_n 2 dJ2_poll_79 rfl ?_
      have h := Ok.ret h
      exact v_aret0 (.inr ⟨_, rfl⟩) rfl (Nat.zero_le _) (Nat.zero_le _) dJ2_poll_80 (h (fun _ q => by cases q; exact g_o2))
    · have h := Ok.neg h c10
      refine v_aload_n 4 dJ2_poll_48 rfl ?_
      refine gW_J2_21_34 dJ2_poll_49 ?_
      refine v_dup dJ2_poll_52 rfl ?_
      refine v_astore [(5, .ref (lc 33 0)), (4, .ref (lc 32 o7)), (3, .int v5), (2, .ref (lc 32 o2)), (1, .ref (lc 35 0)), (0, .ref (lc 34 0))] dJ2_poll_53 (Nat.le_of_ble_eq_true rfl) rfl ?_
      refine v_ifnonnull (tgt := 69) dJ2_poll_55 rfl ?_
      refine v_iconst dJ2_poll_69 ic_0 ?_
      refine v_aload 1 dJ2_poll_70 rfl ?_
      refine v_aload_n 4 dJ2_poll_72 rfl ?_
      refine v_iload_n 2 dJ2_poll_73 rfl ?_
      refine v_aload 0 dJ2_poll_74 rfl ?_
      refine cW_J2_129_32_35_33 g_o7 (Ok.bind h) ⟨Nat.le_of_ble_eq_true rfl, Nat.le_of_ble_eq_true rfl⟩ (Nat.le_of_ble_eq_true rfl) dJ2_poll_76 (fun r11 h => ?_)
      refine v_aload_n 3 dJ2_poll_79 rfl ?_
      have h := Ok.ret h
      exact v_aret0 (.inr ⟨_, rfl⟩) rfl (Nat.zero_le _) (Nat.zero_le _) dJ2_poll_80 (h (fun _ q => by cases q; exact g_o2))
theorem cW_X2_294_34 {l : Launch} {D : va_G} {dA : Nat → ClassId} {A : Nat → Prop} {b : Bool} {lc : Nat → Nat → Nat} {s : tt_St} {cc : ByteArray} {nl : Nat} {rt : Option FieldType} {rm : Room} {tn : tt_Tn} {Q : tt_Fin} {pc : Nat} {lv : List (Nat × Value)} {rest : List Value} {ck cn : Nat} {K : Option Nat × tt_St → Prop} (h : Ok (fQ_poll s) K) (hR : 4 + 1 ≤ rm.frames ∧ 8 + (6 + 11) + 96 ≤ rm.locals) (hW : (rest.map fun v => v.category).sum ≤ 8) (d : decode cc pc = .ok (.invokevirtual 294, 3)) (kk : ∀ r, (∀ t, r.1 = some t → t < 12) → K r → tt_V (XW l D dA A b) cc (RX2, nl, rt, rm, tn) Q (pc + 3) lv (va_rf (Option.map (lc 32) r.1) :: rest) lc r.2 ck cn) (hf : ck ≤ rm.cells ∧ cn ≤ rm.slots := by exact ⟨Nat.zero_le _, Nat.zero_le _⟩) : tt_V (XW l D dA A b) cc (RX2, nl, rt, rm, tn) Q pc lv (.ref (lc 34 0) :: rest) lc s ck cn :=
  v_callV (kd := 34) (i := 0) (nA := 0) (As := []) lvW_34 oW_34 rfl (mQ_poll l D dA A b lc s (Q := (fun v lc' s' => ∃ r, (∀ t, r.1 = some t → t < 12) ∧ K r ∧ v = some (va_rf (Option.map (lc 32) r.1)) ∧ lc' = lc ∧ s' = r.2)) (h.mono (fun r hr => fun hz => ⟨r, hz, hr, rfl, rfl, rfl⟩))) (lw_V q690 q691 q692 q132 q693) (by decide +kernel) rfl hR hW hf d rfl (fun v lc' s' q => by obtain ⟨r, hz, hr, e1, e2, e3⟩ := q; rw [e1, e2, e3]; exact kk r hz hr)
theorem gW_X2_298_32 {l : Launch} {D : va_G} {dA : Nat → ClassId} {A : Nat → Prop} {b : Bool} {lc : Nat → Nat → Nat} {s : tt_St} {cc : ByteArray} {nl : Nat} {rt : Option FieldType} {rm : Room} {tn : tt_Tn} {Q : tt_Fin} {pc : Nat} {lv : List (Nat × Value)} {rest : List Value} {ck cn : Nat} {i : Nat} (hv : i < 12) (d : decode cc pc = .ok (.getfield 298, 3)) (kk : tt_V (XW l D dA A b) cc (RX2, nl, rt, rm, tn) Q (pc + 3) lv (.int (nI i) :: rest) lc s ck cn) : tt_V (XW l D dA A b) cc (RX2, nl, rt, rm, tn) Q pc lv (.ref (lc 32 i) :: rest) lc s ck cn := v_getN (p := 0) knW (lvW_32 hv) oW_32 rfl in_X8 (by decide) q438 (.inl rfl) rfl d kk
def fW_paysInFull_L39 (x1 : Nat) (x4 : Nat) (a7 : Int64 × Option Nat × tt_St) : Option ((Int64 × Option Nat × tt_St) ⊕ (Int64 × Option Nat × tt_St)) :=
  csO a7.2.1 12 (some (.inr (a7.1, none, a7.2.2))) fun o9 => (fW_fills a7.2.2 x1 (nI o9) a7.1 x4).bind fun r10 => (fQ_poll r10.2).bind fun r11 => some (.inl (r10.1, r11.1, r11.2))
def fW_paysInFull (s : tt_St) (x1 : Nat) (x2 : Int64) (x4 : Nat) : Option (Int32 × tt_St) :=
  (fW_lines s x1 x4).bind fun r1 => (fQA_isEmpty r1).bind fun r2 => nm (if r2 = 0 then (1 : Int32) else (0 : Int32)) fun t3 => (fQ_poll r1).bind fun r6 => (itr (fW_paysInFull_L39 x1 x4) tt_fuel (x2, r6.1, r6.2)).bind fun b8 => nm (if t3 = 0 then (3 : Int32) else (2 : Int32)) fun t12 => if inB t12 7 then nm (wrL b8.2.2 9 x4 t12.toNatClampNeg ((rdL b8.2.2 9 x4 t12.toNatClampNeg) + b8.1)) fun s16 => if zb t3 then some (t3, s16) else none else none
abbrev rmW_paysInFull_7_14 : Room := { frames := 8, cells := 0, slots := 0, locals := 181 }
set_option maxHeartbeats 4000000 in
theorem mW_paysInFull_7_14 (l : Launch) (D : va_G) (dA : Nat → ClassId) (A : Nat → Prop) (b : Bool) (lc : Nat → Nat → Nat) (s : tt_St) (x1 : Nat) (x2 : Int64) (x4 : Nat) (hx1 : lvH b x1) (hx4 : lvF x4) {Q : Option Value → (Nat → Nat → Nat) → tt_St → Prop} (h : Ok (fW_paysInFull s x1 x2 x4) (fun r => zB r.1 → Q (some (.int r.1)) lc r.2)) : tt_Sp (XW l D dA A b) yX2_paysInFull cX2_paysInFull 9 (some .boolean) rmW_paysInFull_7_14 [.ref (lc 0 0), .ref (lc 7 x1), .long x2, .ref (lc 14 x4)] lc s Q := by
  refine tt_Sp.ofV plX2 kokW (Nat.le_of_ble_eq_true rfl) ?_
  show tt_V (XW l D dA A b) cX2_paysInFull (RX2, 9, (some .boolean), rmW_paysInFull_7_14, tt_nt) (tt_fn (XW l D dA A b) (RX2, 9, (some .boolean), rmW_paysInFull_7_14, tt_nt) Q) 0 [(0, .ref (lc 0 0)), (1, .ref (lc 7 x1)), (2, .long x2), (4, .ref (lc 14 x4))] [] lc s 0 0
  unfold fW_paysInFull at h
  refine v_aload_n 0 dX2_paysInFull_0 rfl ?_
  refine v_aload_n 1 dX2_paysInFull_1 rfl ?_
  refine v_aload 3 dX2_paysInFull_2 rfl ?_
  refine cW_X2_286_0_7_14 hx1 hx4 (Ok.bind h) ⟨Nat.le_of_ble_eq_true rfl, Nat.le_of_ble_eq_true rfl⟩ (Nat.le_of_ble_eq_true rfl) dX2_paysInFull_4 (fun r1 h => ?_)
  refine v_aload_n 0 dX2_paysInFull_7 rfl ?_
  refine gW_X2_72_0 dX2_paysInFull_8 ?_
  refine cW_X2_290_34 (Ok.bind h) ⟨Nat.le_of_ble_eq_true rfl, Nat.le_of_ble_eq_true rfl⟩ (Nat.le_of_ble_eq_true rfl) dX2_paysInFull_11 (fun r2 z_r2 h => ?_)
  have J4 : ∀ t3, t3 = (if r2 = 0 then (1 : Int32) else (0 : Int32)) → tt_V (XW l D dA A b) cX2_paysInFull (RX2, 9, (some .boolean), rmW_paysInFull_7_14, tt_nt) (tt_fn (XW l D dA A b) (RX2, 9, (some .boolean), rmW_paysInFull_7_14, tt_nt) Q) 22 [(0, .ref (lc 0 0)), (1, .ref (lc 7 x1)), (2, .long x2), (4, .ref (lc 14 x4))] [.int t3] lc r1 0 0 := fun t3 e_t3 => by
    have h := Ok.nm h e_t3
    refine v_istore [(5, .int t3), (0, .ref (lc 0 0)), (1, .ref (lc 7 x1)), (2, .long x2), (4, .ref (lc 14 x4))] dX2_paysInFull_22 (Nat.le_of_ble_eq_true rfl) rfl ?_
    refine v_lload_n 3 dX2_paysInFull_24 rfl ?_
    refine v_lstore [(6, .long x2), (5, .int t3), (0, .ref (lc 0 0)), (1, .ref (lc 7 x1)), (2, .long x2), (4, .ref (lc 14 x4))] dX2_paysInFull_25 (Nat.le_of_ble_eq_true rfl) rfl ?_
    refine v_aload_n 2 dX2_paysInFull_27 rfl ?_
    refine gW_X2_72_0 dX2_paysInFull_28 ?_
    refine cW_X2_294_34 (Ok.bind h) ⟨Nat.le_of_ble_eq_true rfl, Nat.le_of_ble_eq_true rfl⟩ (Nat.le_of_ble_eq_true rfl) dX2_paysInFull_31 (fun r6 z_r6 h => ?_)
    refine v_castO (fun i hi => lvW_32 (z_r6 i hi)) (fun _ => oW_32) rfl q180 dX2_paysInFull_34 ?_
    refine v_astoreO [(8, va_rf (Option.map (lc 32) r6.1)), (6, .long x2), (5, .int t3), (0, .ref (lc 0 0)), (1, .ref (lc 7 x1)), (2, .long x2), (4, .ref (lc 14 x4))] dX2_paysInFull_37 (Nat.le_of_ble_eq_true rfl) rfl ?_
    refine v_sub [3, 4, 6, 2, 1, 0] rfl ?_
    refine itr_loop (P := fun a7 : Int64 × Option Nat × tt_St => tt_V (XW l D dA A b) cX2_paysInFull (RX2, 9, (some .boolean), rmW_paysInFull_7_14, tt_nt) (tt_fn (XW l D dA A b) (RX2, 9, (some .boolean), rmW_paysInFull_7_14, tt_nt) Q) 39 [(0, .ref (lc 0 0)), (1, .ref (lc 7 x1)), (4, .ref (lc 14 x4)), (5, .int t3), (6, .long a7.1), (8, va_rf (Option.map (lc 32) a7.2.1))] [] lc a7.2.2 0 0) (PE := fun b8 : Int64 × Option Nat × tt_St => tt_V (XW l D dA A b) cX2_paysInFull (RX2, 9, (some .boolean), rmW_paysInFull_7_14, tt_nt) (tt_fn (XW l D dA A b) (RX2, 9, (some .boolean), rmW_paysInFull_7_14, tt_nt) Q) 75 [(0, .ref (lc 0 0)), (1, .ref (lc 7 x1)), (4, .ref (lc 14 x4)), (5, .int t3), (6, .long b8.1), (8, va_rf (Option.map (lc 32) b8.2.1))] [] lc b8.2.2 0 0) h (fun b8 h => ?_) (fun a7 h => ?_)
    · refine v_aload 2 dX2_paysInFull_75 rfl ?_
      refine gW_X2_223_14 hx4 dX2_paysInFull_77 ?_
      refine v_iload 3 dX2_paysInFull_80 rfl ?_
      have J13 : ∀ t12, t12 = (if t3 = 0 then (3 : Int32) else (2 : Int32)) → tt_V (XW l D dA A b) cX2_paysInFull (RX2, 9, (some .boolean), rmW_paysInFull_7_14, tt_nt) (tt_fn (XW l D dA A b) (RX2, 9, (some .boolean), rmW_paysInFull_7_14, tt_nt) Q) 90 [(5, .int t3), (6, .long b8.1)] [.int t12, .ref (lc 9 x4)] lc b8.2.2 0 0 := fun t12 e_t12 => by
        have h := Ok.nm h e_t12
        refine v_dup2_11 dX2_paysInFull_90 rfl rfl ?_
        obtain ⟨g15, h⟩ := Ok.guard h
        refine lW_9 (.inr hx4) g15 dX2_paysInFull_91 ?_
        refine v_lload 1 dX2_paysInFull_92 rfl ?_
        refine v_ladd dX2_paysInFull_94 ?_
        refine sW_9 (.inr hx4) g15 dX2_paysInFull_95 ?_
        refine v_nmS (fun s16 e_s16 => ?_)
        have h := Ok.nm h e_s16
        refine v_iload 0 dX2_paysInFull_96 rfl ?_
        obtain ⟨g17, h⟩ := Ok.guard h
        have h := Ok.ret h
        exact v_zret rfl (zb_zB g17) (Nat.zero_le _) (Nat.zero_le _) dX2_paysInFull_98 (h (zb_zB g17))
      refine v_if_eq (tgt := 89) dX2_paysInFull_82 rfl (fun c14 => ?_) (fun c14 => ?_)
      · refine v_iconst dX2_paysInFull_89 ic_3 ?_
        refine v_sub [3, 4] rfl ?_
        exact J13 _ (by rw [if_pos c14])
      · refine v_iconst dX2_paysInFull_85 ic_2 ?_
        refine v_goto (tgt := 90) dX2_paysInFull_86 rfl ?_
        refine v_sub [3, 4] rfl ?_
        exact J13 _ (by rw [if_neg c14])
    · have h : Ok (fW_paysInFull_L39 x1 x4 a7) _ := h
      unfold fW_paysInFull_L39 at h
      rcases Ok.csO h with ⟨e_o9, h⟩ | ⟨o9, e_o9, g_o9, h⟩
      · rw [e_o9]
        show tt_V (XW l D dA A b) cX2_paysInFull (RX2, 9, (some .boolean), rmW_paysInFull_7_14, tt_nt) (tt_fn (XW l D dA A b) (RX2, 9, (some .boolean), rmW_paysInFull_7_14, tt_nt) Q) 39 [(0, .ref (lc 0 0)), (1, .ref (lc 7 x1)), (4, .ref (lc 14 x4)), (5, .int t3), (6, .long a7.1), (8, .null)] [] lc a7.2.2 0 0
        refine v_aloadN 5 dX2_paysInFull_39 rfl ?_
        refine v_ifnullN (tgt := 75) dX2_paysInFull_41 rfl ?_
        have h := Ok.ret h
        exact h
      · rw [e_o9]
        show tt_V (XW l D dA A b) cX2_paysInFull (RX2, 9, (some .boolean), rmW_paysInFull_7_14, tt_nt) (tt_fn (XW l D dA A b) (RX2, 9, (some .boolean), rmW_paysInFull_7_14, tt_nt) Q) 39 [(0, .ref (lc 0 0)), (1, .ref (lc 7 x1)), (4, .ref (lc 14 x4)), (5, .int t3), (6, .long a7.1), (8, .ref (lc 32 o9))] [] lc a7.2.2 0 0
        refine v_aload 5 dX2_paysInFull_39 rfl ?_
        refine v_ifnull dX2_paysInFull_41 ?_
        refine v_aload_n 0 dX2_paysInFull_44 rfl ?_
        refine v_aload_n 1 dX2_paysInFull_45 rfl ?_
        refine v_aload 5 dX2_paysInFull_46 rfl ?_
        refine gW_X2_298_32 g_o9 dX2_paysInFull_48 ?_
        refine v_lload 4 dX2_paysInFull_51 rfl ?_
        refine v_aload 2 dX2_paysInFull_53 rfl ?_
        refine cW_X2_230_0_7_14 hx1 hx4 (Ok.bind h) ⟨Nat.le_of_ble_eq_true rfl, Nat.le_of_ble_eq_true rfl⟩ (Nat.le_of_ble_eq_true rfl) dX2_paysInFull_55 (fun r10 h => ?_)
        refine v_lstore [(6, .long r10.1), (0, .ref (lc 0 0)), (1, .ref (lc 7 x1)), (4, .ref (lc 14 x4)), (5, .int t3), (8, .ref (lc 32 o9))] dX2_paysInFull_58 (Nat.le_of_ble_eq_true rfl) rfl ?_
        refine v_aload_n 1 dX2_paysInFull_60 rfl ?_
        refine gW_X2_72_0 dX2_paysInFull_61 ?_
        refine cW_X2_294_34 (Ok.bind h) ⟨Nat.le_of_ble_eq_true rfl, Nat.le_of_ble_eq_true rfl⟩ (Nat.le_of_ble_eq_true rfl) dX2_paysInFull_64 (fun r11 z_r11 h => ?_)
        refine v_castO (fun i hi => lvW_32 (z_r11 i hi)) (fun _ => oW_32) rfl q180 dX2_paysInFull_67 ?_
        refine v_astoreO [(8, va_rf (Option.map (lc 32) r11.1)), (6, .long r10.1), (0, .ref (lc 0 0)), (1, .ref (lc 7 x1)), (4, .ref (lc 14 x4)), (5, .int t3)] dX2_paysInFull_70 (Nat.le_of_ble_eq_true rfl) rfl ?_
        refine v_goto (tgt := 39) dX2_paysInFull_72 rfl ?_
        refine v_sub [2, 3, 4, 5, 1, 0] rfl ?_
        have h := Ok.ret h
        exact h
  refine v_if_ne (tgt := 21) dX2_paysInFull_14 rfl (fun c5 => ?_) (fun c5 => ?_)
  · refine v_iconst dX2_paysInFull_21 ic_0 ?_
    exact J4 _ (by rw [if_neg c5])
  · refine v_iconst dX2_paysInFull_17 ic_1 ?_
    refine v_goto (tgt := 22) dX2_paysInFull_18 rfl ?_
    exact J4 _ (by rw [if_pos c5])
theorem cW_X2_279_0_7_14 {l : Launch} {D : va_G} {dA : Nat → ClassId} {A : Nat → Prop} {b : Bool} {lc : Nat → Nat → Nat} {s : tt_St} {cc : ByteArray} {nl : Nat} {rt : Option FieldType} {rm : Room} {tn : tt_Tn} {Q : tt_Fin} {pc : Nat} {lv : List (Nat × Value)} {rest : List Value} {ck cn : Nat} {x1 : Nat} {x2 : Int64} {x4 : Nat} (hx1 : lvH b x1) (hx4 : lvF x4) {K : Int32 × tt_St → Prop} (h : Ok (fW_paysInFull s x1 x2 x4) K) (hR : 8 + 1 ≤ rm.frames ∧ 8 + (9 + 11) + 181 ≤ rm.locals) (hW : (rest.map fun v => v.category).sum ≤ 8) (d : decode cc pc = .ok (.invokevirtual 279, 3)) (kk : ∀ r, zB r.1 → K r → tt_V (XW l D dA A b) cc (RX2, nl, rt, rm, tn) Q (pc + 3) lv (.int r.1 :: rest) lc r.2 ck cn) (hf : ck ≤ rm.cells ∧ cn ≤ rm.slots := by exact ⟨Nat.zero_le _, Nat.zero_le _⟩) : tt_V (XW l D dA A b) cc (RX2, nl, rt, rm, tn) Q pc lv (.ref (lc 14 x4) :: .long x2 :: .ref (lc 7 x1) :: .ref (lc 0 0) :: rest) lc s ck cn :=
  v_callV (kd := 0) (i := 0) (nA := 3) (As := [.ref (lc 7 x1), .long x2, .ref (lc 14 x4)]) lvW_0 oW_0 rfl (mW_paysInFull_7_14 l D dA A b lc s x1 x2 x4 hx1 hx4 (Q := (fun v lc' s' => ∃ r, zB r.1 ∧ K r ∧ v = some (.int r.1) ∧ lc' = lc ∧ s' = r.2)) (h.mono (fun r hr => fun hz => ⟨r, hz, hr, rfl, rfl, rfl⟩))) (lw_V q545 q547 qs11 q128 q548) (by decide +kernel) rfl hR hW hf d rfl (fun v lc' s' q => by obtain ⟨r, hz, hr, e1, e2, e3⟩ := q; rw [e1, e2, e3]; exact kk r hz hr)
theorem cW_X2_283_0_7_14 {l : Launch} {D : va_G} {dA : Nat → ClassId} {A : Nat → Prop} {b : Bool} {lc : Nat → Nat → Nat} {s : tt_St} {cc : ByteArray} {nl : Nat} {rt : Option FieldType} {rm : Room} {tn : tt_Tn} {Q : tt_Fin} {pc : Nat} {lv : List (Nat × Value)} {rest : List Value} {ck cn : Nat} {x1 : Nat} {x2 : Int64} {x4 : Nat} (hx1 : lvH b x1) (hx4 : lvF x4) {K : tt_St → Prop} (h : Ok (fW_contributes s x1 x2 x4) K) (hR : 6 + 1 ≤ rm.frames ∧ 8 + (10 + 11) + 157 ≤ rm.locals) (hW : (rest.map fun v => v.category).sum ≤ 8) (d : decode cc pc = .ok (.invokevirtual 283, 3)) (kk : ∀ r, K r → tt_V (XW l D dA A b) cc (RX2, nl, rt, rm, tn) Q (pc + 3) lv rest lc r ck cn) (hf : ck ≤ rm.cells ∧ cn ≤ rm.slots := by exact ⟨Nat.zero_le _, Nat.zero_le _⟩) : tt_V (XW l D dA A b) cc (RX2, nl, rt, rm, tn) Q pc lv (.ref (lc 14 x4) :: .long x2 :: .ref (lc 7 x1) :: .ref (lc 0 0) :: rest) lc s ck cn :=
  v_callV (kd := 0) (i := 0) (nA := 3) (As := [.ref (lc 7 x1), .long x2, .ref (lc 14 x4)]) lvW_0 oW_0 rfl (mW_contributes_7_14 l D dA A b lc s x1 x2 x4 hx1 hx4 (Q := (fun v lc' s' => ∃ r, K r ∧ v = none ∧ lc' = lc ∧ s' = r)) (h.mono (fun r hr => ⟨r, hr, rfl, rfl, rfl⟩))) (lw_V q700 q702 qs15 q128 q703) (by decide +kernel) rfl hR hW hf d rfl (fun v lc' s' q => by obtain ⟨r, hr, e1, e2, e3⟩ := q; rw [e1, e2, e3]; exact kk r hr)
def fW_toTheFull (s : tt_St) (x1 : Nat) (x2 : Int64) (x4 : Nat) : Option (tt_St) :=
  (fW_paysInFull s x1 x2 x4).bind fun r1 => if r1.1 = 0 then some r1.2 else (fW_contributes r1.2 x1 x2 x4).bind fun r3 => some r3
abbrev rmW_toTheFull_7_14 : Room := { frames := 9, cells := 0, slots := 0, locals := 209 }
set_option maxHeartbeats 4000000 in
theorem mW_toTheFull_7_14 (l : Launch) (D : va_G) (dA : Nat → ClassId) (A : Nat → Prop) (b : Bool) (lc : Nat → Nat → Nat) (s : tt_St) (x1 : Nat) (x2 : Int64) (x4 : Nat) (hx1 : lvH b x1) (hx4 : lvF x4) {Q : Option Value → (Nat → Nat → Nat) → tt_St → Prop} (h : Ok (fW_toTheFull s x1 x2 x4) (fun r => Q none lc r)) : tt_Sp (XW l D dA A b) yX2_toTheFull cX2_toTheFull 5 none rmW_toTheFull_7_14 [.ref (lc 0 0), .ref (lc 7 x1), .long x2, .ref (lc 14 x4)] lc s Q := by
  refine tt_Sp.ofV plX2 kokW (Nat.le_of_ble_eq_true rfl) ?_
  show tt_V (XW l D dA A b) cX2_toTheFull (RX2, 5, none, rmW_toTheFull_7_14, tt_nt) (tt_fn (XW l D dA A b) (RX2, 5, none, rmW_toTheFull_7_14, tt_nt) Q) 0 [(0, .ref (lc 0 0)), (1, .ref (lc 7 x1)), (2, .long x2), (4, .ref (lc 14 x4))] [] lc s 0 0
  unfold fW_toTheFull at h
  refine v_aload_n 0 dX2_toTheFull_0 rfl ?_
  refine v_aload_n 1 dX2_toTheFull_1 rfl ?_
  refine v_lload_n 2 dX2_toTheFull_2 rfl ?_
  refine v_aload 3 dX2_toTheFull_3 rfl ?_
  refine cW_X2_279_0_7_14 hx1 hx4 (Ok.bind h) ⟨Nat.le_of_ble_eq_true rfl, Nat.le_of_ble_eq_true rfl⟩ (Nat.le_of_ble_eq_true rfl) dX2_toTheFull_5 (fun r1 z_r1 h => ?_)
  refine v_if_eq (tgt := 19) dX2_toTheFull_8 rfl (fun c2 => ?_) (fun c2 => ?_)
  · have h := Ok.pos h c2
    have h := Ok.ret h
    exact v_vret rfl (Nat.zero_le _) (Nat.zero_le _) dX2_toTheFull_19 h
  · have h := Ok.neg h c2
    refine v_aload_n 0 dX2_toTheFull_11 rfl ?_
    refine v_aload_n 1 dX2_toTheFull_12 rfl ?_
    refine v_lload_n 2 dX2_toTheFull_13 rfl ?_
    refine v_aload 3 dX2_toTheFull_14 rfl ?_
    refine cW_X2_283_0_7_14 hx1 hx4 (Ok.bind h) ⟨Nat.le_of_ble_eq_true rfl, Nat.le_of_ble_eq_true rfl⟩ (Nat.le_of_ble_eq_true rfl) dX2_toTheFull_16 (fun r3 h => ?_)
    have h := Ok.ret h
    exact v_vret rfl (Nat.zero_le _) (Nat.zero_le _) dX2_toTheFull_19 h
theorem gW_X2_83_0 {l : Launch} {D : va_G} {dA : Nat → ClassId} {A : Nat → Prop} {b : Bool} {lc : Nat → Nat → Nat} {s : tt_St} {cc : ByteArray} {nl : Nat} {rt : Option FieldType} {rm : Room} {tn : tt_Tn} {Q : tt_Fin} {pc : Nat} {lv : List (Nat × Value)} {rest : List Value} {ck cn : Nat} (d : decode cc pc = .ok (.getfield 83, 3)) (kk : tt_V (XW l D dA A b) cc (RX2, nl, rt, rm, tn) Q (pc + 3) lv (.ref (lc 14 26) :: rest) lc s ck cn) : tt_V (XW l D dA A b) cc (RX2, nl, rt, rm, tn) Q pc lv (.ref (lc 0 0) :: rest) lc s ck cn := v_get (p := 15) lvW_0 oW_0 rfl in_X2 (by decide) q750 (.inl rfl) rfl d kk
def fW_paidLessFair (s : tt_St) (x1 : Nat) (x2 : Int64) (x4 : Int32) : Option (Int64 × tt_St) :=
  (fF_begins s 26).bind fun r1 => (fF_begins r1 25).bind fun r2 => (fW_paysInFull r2 x1 x2 26).bind fun r3 => (fW_byTime r3.2 x1 x2 25).bind fun r4 => if inB x4 40 then some ((rdL r4 10 26 x4.toNatClampNeg) - (rdL r4 10 25 x4.toNatClampNeg), r4) else none
abbrev rmW_paidLessFair_7 : Room := { frames := 9, cells := 0, slots := 0, locals := 209 }
set_option maxHeartbeats 4000000 in
theorem mW_paidLessFair_7 (l : Launch) (D : va_G) (dA : Nat → ClassId) (A : Nat → Prop) (b : Bool) (lc : Nat → Nat → Nat) (s : tt_St) (x1 : Nat) (x2 : Int64) (x4 : Int32) (hx1 : lvH b x1) {Q : Option Value → (Nat → Nat → Nat) → tt_St → Prop} (h : Ok (fW_paidLessFair s x1 x2 x4) (fun r => Q (some (.long r.1)) lc r.2)) : tt_Sp (XW l D dA A b) yX2_paidLessFair cX2_paidLessFair 5 (some .long) rmW_paidLessFair_7 [.ref (lc 0 0), .ref (lc 7 x1), .long x2, .int x4] lc s Q := by
  refine tt_Sp.ofV plX2 kokW (Nat.le_of_ble_eq_true rfl) ?_
  show tt_V (XW l D dA A b) cX2_paidLessFair (RX2, 5, (some .long), rmW_paidLessFair_7, tt_nt) (tt_fn (XW l D dA A b) (RX2, 5, (some .long), rmW_paidLessFair_7, tt_nt) Q) 0 [(0, .ref (lc 0 0)), (1, .ref (lc 7 x1)), (2, .long x2), (4, .int x4)] [] lc s 0 0
  unfold fW_paidLessFair at h
  refine v_aload_n 0 dX2_paidLessFair_0 rfl ?_
  refine gW_X2_83_0 dX2_paidLessFair_1 ?_
  refine cW_X2_299_14 (.inr rfl) (Ok.bind h) ⟨Nat.le_of_ble_eq_true rfl, Nat.le_of_ble_eq_true rfl⟩ (Nat.le_of_ble_eq_true rfl) dX2_paidLessFair_4 (fun r1 h => ?_)
  refine v_aload_n 0 dX2_paidLessFair_7 rfl ?_
  refine gW_X2_79_0 dX2_paidLessFair_8 ?_
  refine cW_X2_299_14 (.inl rfl) (Ok.bind h) ⟨Nat.le_of_ble_eq_true rfl, Nat.le_of_ble_eq_true rfl⟩ (Nat.le_of_ble_eq_true rfl) dX2_paidLessFair_11 (fun r2 h => ?_)
  refine v_aload_n 0 dX2_paidLessFair_14 rfl ?_
  refine v_aload_n 1 dX2_paidLessFair_15 rfl ?_
  refine v_lload_n 2 dX2_paidLessFair_16 rfl ?_
  refine v_aload_n 0 dX2_paidLessFair_17 rfl ?_
  refine gW_X2_83_0 dX2_paidLessFair_18 ?_
  refine cW_X2_279_0_7_14 hx1 (.inr rfl) (Ok.bind h) ⟨Nat.le_of_ble_eq_true rfl, Nat.le_of_ble_eq_true rfl⟩ (Nat.le_of_ble_eq_true rfl) dX2_paidLessFair_21 (fun r3 z_r3 h => ?_)
  refine v_pop dX2_paidLessFair_24 rfl ?_
  refine v_aload_n 0 dX2_paidLessFair_25 rfl ?_
  refine v_aload_n 1 dX2_paidLessFair_26 rfl ?_
  refine v_lload_n 2 dX2_paidLessFair_27 rfl ?_
  refine v_aload_n 0 dX2_paidLessFair_28 rfl ?_
  refine gW_X2_79_0 dX2_paidLessFair_29 ?_
  refine cW_X2_300_0_7_14 hx1 (.inl rfl) (Ok.bind h) ⟨Nat.le_of_ble_eq_true rfl, Nat.le_of_ble_eq_true rfl⟩ (Nat.le_of_ble_eq_true rfl) dX2_paidLessFair_32 (fun r4 h => ?_)
  refine v_aload_n 0 dX2_paidLessFair_35 rfl ?_
  refine gW_X2_83_0 dX2_paidLessFair_36 ?_
  refine gW_X2_203_14 (.inr rfl) dX2_paidLessFair_39 ?_
  refine v_iload 3 dX2_paidLessFair_42 rfl ?_
  obtain ⟨g5, h⟩ := Ok.guard h
  refine lW_10 (.inr (.inr rfl)) g5 dX2_paidLessFair_44 ?_
  refine v_aload_n 0 dX2_paidLessFair_45 rfl ?_
  refine gW_X2_79_0 dX2_paidLessFair_46 ?_
  refine gW_X2_203_14 (.inl rfl) dX2_paidLessFair_49 ?_
  refine v_iload 3 dX2_paidLessFair_52 rfl ?_
  refine lW_10 (.inr (.inl rfl)) g5 dX2_paidLessFair_54 ?_
  refine v_lsub dX2_paidLessFair_55 ?_
  have h := Ok.ret h
  exact v_lret rfl (Nat.zero_le _) (Nat.zero_le _) dX2_paidLessFair_56 h
theorem gW_X2_103_0 {l : Launch} {D : va_G} {dA : Nat → ClassId} {A : Nat → Prop} {b : Bool} {lc : Nat → Nat → Nat} {s : tt_St} {cc : ByteArray} {nl : Nat} {rt : Option FieldType} {rm : Room} {tn : tt_Tn} {Q : tt_Fin} {pc : Nat} {lv : List (Nat × Value)} {rest : List Value} {ck cn : Nat} (d : decode cc pc = .ok (.getfield 103, 3)) (kk : tt_V (XW l D dA A b) cc (RX2, nl, rt, rm, tn) Q (pc + 3) lv (.ref (lc 36 0) :: rest) lc s ck cn) : tt_V (XW l D dA A b) cc (RX2, nl, rt, rm, tn) Q pc lv (.ref (lc 0 0) :: rest) lc s ck cn := v_get (p := 16) lvW_0 oW_0 rfl in_X2 (by decide) q752 (.inl rfl) rfl d kk
theorem gW_X2_118_0 {l : Launch} {D : va_G} {dA : Nat → ClassId} {A : Nat → Prop} {b : Bool} {lc : Nat → Nat → Nat} {s : tt_St} {cc : ByteArray} {nl : Nat} {rt : Option FieldType} {rm : Room} {tn : tt_Tn} {Q : tt_Fin} {pc : Nat} {lv : List (Nat × Value)} {rest : List Value} {ck cn : Nat} (d : decode cc pc = .ok (.getfield 118, 3)) (kk : tt_V (XW l D dA A b) cc (RX2, nl, rt, rm, tn) Q (pc + 3) lv (.int (rdI s 0 0 19) :: rest) lc s ck cn) : tt_V (XW l D dA A b) cc (RX2, nl, rt, rm, tn) Q pc lv (.ref (lc 0 0) :: rest) lc s ck cn := v_get (p := 19) lvW_0 oW_0 rfl in_X2 (by decide) q757 (.inl rfl) rfl d kk
theorem gW_X2_328_37 {l : Launch} {D : va_G} {dA : Nat → ClassId} {A : Nat → Prop} {b : Bool} {lc : Nat → Nat → Nat} {s : tt_St} {cc : ByteArray} {nl : Nat} {rt : Option FieldType} {rm : Room} {tn : tt_Tn} {Q : tt_Fin} {pc : Nat} {lv : List (Nat × Value)} {rest : List Value} {ck cn : Nat} {i : Nat} (hv : i < 4) (d : decode cc pc = .ok (.getfield 328, 3)) (kk : tt_V (XW l D dA A b) cc (RX2, nl, rt, rm, tn) Q (pc + 3) lv (.ref (lc 38 i) :: rest) lc s ck cn) : tt_V (XW l D dA A b) cc (RX2, nl, rt, rm, tn) Q pc lv (.ref (lc 37 i) :: rest) lc s ck cn := v_getN (p := 0) knW (lvW_37 hv) oW_37 rfl in_X9 (by decide) q523 (.inl rfl) rfl d kk
def fW_goes (s : tt_St) (x0 : Nat) (x1 : Nat) (x2 : Int64) (x4 : Nat) : Option tt_St := if x0 = 0 then fW_byTime s x1 x2 x4 else if x0 = 1 then fW_bySizes s x1 x2 x4 else if x0 = 2 then fW_toTheFull s x1 x2 x4 else fW_byLevel s x1 x2 x4
theorem cW_X2_332_38_7_14 {l : Launch} {D : va_G} {dA : Nat → ClassId} {A : Nat → Prop} {b : Bool} {lc : Nat → Nat → Nat} {s : tt_St} {cc : ByteArray} {nl : Nat} {rt : Option FieldType} {rm : Room} {tn : tt_Tn} {Q : tt_Fin} {pc : Nat} {lv : List (Nat × Value)} {rest : List Value} {ck cn : Nat} {x0 : Nat} {x1 : Nat} {x2 : Int64} {x4 : Nat} (hx0 : x0 < 4) (hx1 : lvH b x1) (hx4 : lvF x4) {K : tt_St → Prop} (h : Ok (fW_goes s x0 x1 x2 x4) K) (hR : 10 + 1 ≤ rm.frames ∧ 8 + (5 + 11) + 233 ≤ rm.locals) (hW : (rest.map fun v => v.category).sum ≤ 8) {cnt : Nat} (d : decode cc pc = .ok (.invokeinterface 332 cnt, 5)) (kk : ∀ r, K r → tt_V (XW l D dA A b) cc (RX2, nl, rt, rm, tn) Q (pc + 5) lv rest lc r ck cn) (hf : ck ≤ rm.cells ∧ cn ≤ rm.slots := by exact ⟨Nat.zero_le _, Nat.zero_le _⟩) : tt_V (XW l D dA A b) cc (RX2, nl, rt, rm, tn) Q pc lv (.ref (lc 14 x4) :: .long x2 :: .ref (lc 7 x1) :: .ref (lc 38 x0) :: rest) lc s ck cn := by
  unfold fW_goes at h
  match x0, hx0, h with
  | 0, hx0, h =>
    refine v_callMadeV (x0 := lam_x1) (bs := lam_b1) (mi := 22) (fi := 15) (xi := ⟨"TallTowers$Spreading", "goes", "(LTallTowers$Harm;JLTallTowers$Flow;)V"⟩) (kd := 0) (i := 0) (rm := rmW_byTime_7_14) krW_0 lam_i1 lam_shp1 rfl lam_dc1 (lam_cell.ofR (lvW_38 hx0) oW_38 rfl) lvW_0 oW_0 rfl (mW_byTime_7_14 l D dA A b lc s x1 x2 x4 hx1 hx4 (Q := fun v lc' s' => v = none ∧ lc' = lc ∧ K s') ((h.pos rfl).mono fun r hr => ⟨rfl, rfl, hr⟩)) (fun _ _ _ h => h.1) (lw_meth q456) q455 qs1 q128 q1135 (by decide +kernel) ⟨Nat.le_trans (Nat.le_of_ble_eq_true rfl) hR.1, Nat.le_trans (Nat.le_of_ble_eq_true rfl) hR.2⟩ hW hf d (fun lc' s' q => ?_)
    obtain ⟨-, e2, hr⟩ := q
    rw [e2]
    exact kk s' hr
  | 1, hx0, h =>
    refine v_callMadeV (x0 := lam_x2) (bs := lam_b2) (mi := 22) (fi := 15) (xi := ⟨"TallTowers$Spreading", "goes", "(LTallTowers$Harm;JLTallTowers$Flow;)V"⟩) (kd := 0) (i := 0) (rm := rmW_bySizes_7_14) krW_1 lam_i2 lam_shp2 rfl lam_dc2 (lam_cell.ofR (lvW_38 hx0) oW_38 rfl) lvW_0 oW_0 rfl (mW_bySizes_7_14 l D dA A b lc s x1 x2 x4 hx1 hx4 (Q := fun v lc' s' => v = none ∧ lc' = lc ∧ K s') (((h.neg (by decide)).pos rfl).mono fun r hr => ⟨rfl, rfl, hr⟩)) (fun _ _ _ h => h.1) (lw_meth q529) q528 qs7 q128 q1135 (by decide +kernel) ⟨Nat.le_trans (Nat.le_of_ble_eq_true rfl) hR.1, Nat.le_trans (Nat.le_of_ble_eq_true rfl) hR.2⟩ hW hf d (fun lc' s' q => ?_)
    obtain ⟨-, e2, hr⟩ := q
    rw [e2]
    exact kk s' hr
  | 2, hx0, h =>
    refine v_callMadeV (x0 := lam_x3) (bs := lam_b3) (mi := 22) (fi := 15) (xi := ⟨"TallTowers$Spreading", "goes", "(LTallTowers$Harm;JLTallTowers$Flow;)V"⟩) (kd := 0) (i := 0) (rm := rmW_toTheFull_7_14) krW_2 lam_i3 lam_shp3 rfl lam_dc3 (lam_cell.ofR (lvW_38 hx0) oW_38 rfl) lvW_0 oW_0 rfl (mW_toTheFull_7_14 l D dA A b lc s x1 x2 x4 hx1 hx4 (Q := fun v lc' s' => v = none ∧ lc' = lc ∧ K s') ((((h.neg (by decide)).neg (by decide)).pos rfl).mono fun r hr => ⟨rfl, rfl, hr⟩)) (fun _ _ _ h => h.1) (lw_meth q544) q543 qs10 q128 q1135 (by decide +kernel) ⟨Nat.le_trans (Nat.le_of_ble_eq_true rfl) hR.1, Nat.le_trans (Nat.le_of_ble_eq_true rfl) hR.2⟩ hW hf d (fun lc' s' q => ?_)
    obtain ⟨-, e2, hr⟩ := q
    rw [e2]
    exact kk s' hr
  | 3, hx0, h =>
    refine v_callMadeV (x0 := lam_x4) (bs := lam_b4) (mi := 22) (fi := 15) (xi := ⟨"TallTowers$Spreading", "goes", "(LTallTowers$Harm;JLTallTowers$Flow;)V"⟩) (kd := 0) (i := 0) (rm := rmW_byLevel_7_14) krW_3 lam_i4 lam_shp4 rfl lam_dc4 (lam_cell.ofR (lvW_38 hx0) oW_38 rfl) lvW_0 oW_0 rfl (mW_byLevel_7_14 l D dA A b lc s x1 x2 x4 hx1 hx4 (Q := fun v lc' s' => v = none ∧ lc' = lc ∧ K s') ((((h.neg (by decide)).neg (by decide)).neg (by decide)).mono fun r hr => ⟨rfl, rfl, hr⟩)) (fun _ _ _ h => h.1) (lw_meth q719) q718 qs16 q128 q1135 (by decide +kernel) ⟨Nat.le_trans (Nat.le_of_ble_eq_true rfl) hR.1, Nat.le_trans (Nat.le_of_ble_eq_true rfl) hR.2⟩ hW hf d (fun lc' s' q => ?_)
    obtain ⟨-, e2, hr⟩ := q
    rw [e2]
    exact kk s' hr
  | k + 4, hx0, h => exact absurd hx0 (by omega)
theorem cW_X2_336_0_2_14 {l : Launch} {D : va_G} {dA : Nat → ClassId} {A : Nat → Prop} {b : Bool} {lc : Nat → Nat → Nat} {s : tt_St} {cc : ByteArray} {nl : Nat} {rt : Option FieldType} {rm : Room} {tn : tt_Tn} {Q : tt_Fin} {pc : Nat} {lv : List (Nat × Value)} {rest : List Value} {ck cn : Nat} {x1 : Nat} {x2 : Nat} (hx1 : x1 < 40) (hx2 : lvF x2) {K : tt_St → Prop} (h : Ok (fW_splits s x1 x2) K) (hR : 1 + 1 ≤ rm.frames ∧ 8 + (13 + 11) + 22 ≤ rm.locals) (hW : (rest.map fun v => v.category).sum ≤ 8) (d : decode cc pc = .ok (.invokevirtual 336, 3)) (kk : ∀ r, K r → tt_V (XW l D dA A b) cc (RX2, nl, rt, rm, tn) Q (pc + 3) lv rest lc r ck cn) (hf : ck ≤ rm.cells ∧ cn ≤ rm.slots := by exact ⟨Nat.zero_le _, Nat.zero_le _⟩) : tt_V (XW l D dA A b) cc (RX2, nl, rt, rm, tn) Q pc lv (.ref (lc 14 x2) :: .ref (lc 2 x1) :: .ref (lc 0 0) :: rest) lc s ck cn :=
  v_callV (kd := 0) (i := 0) (nA := 2) (As := [.ref (lc 2 x1), .ref (lc 14 x2)]) lvW_0 oW_0 rfl (mW_splits_2_14 l D dA A b lc s x1 x2 hx1 hx2 (Q := (fun v lc' s' => ∃ r, K r ∧ v = none ∧ lc' = lc ∧ s' = r)) (h.mono (fun r hr => ⟨r, hr, rfl, rfl, rfl⟩))) (lw_V q1138 q1140 qs28 q128 q1141) (by decide +kernel) rfl hR hW hf d rfl (fun v lc' s' q => by obtain ⟨r, hr, e1, e2, e3⟩ := q; rw [e1, e2, e3]; exact kk r hr)
def fW_flows_L44  (a4 : Int32 × tt_St) : Option ((Int32 × tt_St) ⊕ (Int32 × tt_St)) :=
  if (40 : Int32) ≤ a4.1 then some (.inr (a4.1, a4.2)) else if inB a4.1 40 then if (rdI a4.2 2 a4.1.toNatClampNeg 10) = 0 then some (.inl ((a4.1 + 1 : Int32), a4.2)) else (fW_splits a4.2 a4.1.toNatClampNeg 26).bind fun r9 => some (.inl ((a4.1 + 1 : Int32), r9)) else none
def fW_flows (s : tt_St) (x1 : Nat) (x2 : Int64) : Option (Nat × tt_St) :=
  (fF_begins s 26).bind fun r1 => if inB (rdI r1 0 0 19) 4 then (fW_goes r1 ((rdI r1 0 0 19).toNatClampNeg) x1 x2 26).bind fun r3 => (itr (fW_flows_L44) tt_fuel ((0 : Int32), r3)).bind fun b5 => some (26, b5.2) else none
abbrev rmW_flows_7 : Room := { frames := 11, cells := 0, slots := 0, locals := 257 }
set_option maxHeartbeats 4000000 in
theorem mW_flows_7 (l : Launch) (D : va_G) (dA : Nat → ClassId) (A : Nat → Prop) (b : Bool) (lc : Nat → Nat → Nat) (s : tt_St) (x1 : Nat) (x2 : Int64) (hx1 : lvH b x1) {Q : Option Value → (Nat → Nat → Nat) → tt_St → Prop} (h : Ok (fW_flows s x1 x2) (fun r => lvF r.1 → Q (some (.ref (lc 14 r.1))) lc r.2)) : tt_Sp (XW l D dA A b) yX2_flows cX2_flows 8 (some (.object "TallTowers$Flow")) rmW_flows_7 [.ref (lc 0 0), .ref (lc 7 x1), .long x2] lc s Q := by
  refine tt_Sp.ofV plX2 kokW (Nat.le_of_ble_eq_true rfl) ?_
  show tt_V (XW l D dA A b) cX2_flows (RX2, 8, (some (.object "TallTowers$Flow")), rmW_flows_7, tt_nt) (tt_fn (XW l D dA A b) (RX2, 8, (some (.object "TallTowers$Flow")), rmW_flows_7, tt_nt) Q) 0 [(0, .ref (lc 0 0)), (1, .ref (lc 7 x1)), (2, .long x2)] [] lc s 0 0
  unfold fW_flows at h
  refine v_aload_n 0 dX2_flows_0 rfl ?_
  refine gW_X2_83_0 dX2_flows_1 ?_
  refine cW_X2_299_14 (.inr rfl) (Ok.bind h) ⟨Nat.le_of_ble_eq_true rfl, Nat.le_of_ble_eq_true rfl⟩ (Nat.le_of_ble_eq_true rfl) dX2_flows_4 (fun r1 h => ?_)
  refine v_aload_n 0 dX2_flows_7 rfl ?_
  refine gW_X2_103_0 dX2_flows_8 ?_
  refine v_aload_n 0 dX2_flows_11 rfl ?_
  refine gW_X2_118_0 dX2_flows_12 ?_
  obtain ⟨g2, h⟩ := Ok.guard h
  refine lW_36 g2 dX2_flows_15 ?_
  refine gW_X2_328_37 (inB_lt g2) dX2_flows_16 ?_
  refine v_aload_n 1 dX2_flows_19 rfl ?_
  refine v_lload_n 2 dX2_flows_20 rfl ?_
  refine v_aload_n 0 dX2_flows_21 rfl ?_
  refine gW_X2_83_0 dX2_flows_22 ?_
  refine cW_X2_332_38_7_14 (inB_lt g2) hx1 (.inr rfl) (Ok.bind h) ⟨Nat.le_of_ble_eq_true rfl, Nat.le_of_ble_eq_true rfl⟩ (Nat.le_of_ble_eq_true rfl) dX2_flows_25 (fun r3 h => ?_)
  refine v_aload_n 0 dX2_flows_30 rfl ?_
  refine gW_X2_11_0 dX2_flows_31 ?_
  refine v_astore [(4, .ref (lc 1 0)), (0, .ref (lc 0 0)), (1, .ref (lc 7 x1)), (2, .long x2)] dX2_flows_34 (Nat.le_of_ble_eq_true rfl) rfl ?_
  refine v_aload 0 dX2_flows_36 rfl ?_
  refine nW_1 dX2_flows_38 ?_
  refine v_istore [(5, .int (40 : Int32)), (4, .ref (lc 1 0)), (0, .ref (lc 0 0)), (1, .ref (lc 7 x1)), (2, .long x2)] dX2_flows_39 (Nat.le_of_ble_eq_true rfl) rfl ?_
  refine v_iconst dX2_flows_41 ic_0 ?_
  refine v_istore [(6, .int (0 : Int32)), (5, .int (40 : Int32)), (4, .ref (lc 1 0)), (0, .ref (lc 0 0)), (1, .ref (lc 7 x1)), (2, .long x2)] dX2_flows_42 (Nat.le_of_ble_eq_true rfl) rfl ?_
  refine v_sub [3, 2, 1, 0] rfl ?_
  refine itr_loop (P := fun a4 : Int32 × tt_St => tt_V (XW l D dA A b) cX2_flows (RX2, 8, (some (.object "TallTowers$Flow")), rmW_flows_7, tt_nt) (tt_fn (XW l D dA A b) (RX2, 8, (some (.object "TallTowers$Flow")), rmW_flows_7, tt_nt) Q) 44 [(0, .ref (lc 0 0)), (4, .ref (lc 1 0)), (5, .int (40 : Int32)), (6, .int a4.1)] [] lc a4.2 0 0) (PE := fun b5 : Int32 × tt_St => tt_V (XW l D dA A b) cX2_flows (RX2, 8, (some (.object "TallTowers$Flow")), rmW_flows_7, tt_nt) (tt_fn (XW l D dA A b) (RX2, 8, (some (.object "TallTowers$Flow")), rmW_flows_7, tt_nt) Q) 82 [(0, .ref (lc 0 0)), (4, .ref (lc 1 0)), (5, .int (40 : Int32)), (6, .int b5.1)] [] lc b5.2 0 0) h (fun b5 h => ?_) (fun a4 h => ?_)
  · refine v_aload_n 0 dX2_flows_82 rfl ?_
    refine gW_X2_83_0 dX2_flows_83 ?_
    have h := Ok.ret h
    exact v_aret rfl (Nat.zero_le _) (Nat.zero_le _) dX2_flows_86 (h (.inr rfl))
  · have h : Ok (fW_flows_L44 a4) _ := h
    unfold fW_flows_L44 at h
    refine v_iload 3 dX2_flows_44 rfl ?_
    refine v_iload 2 dX2_flows_46 rfl ?_
    refine v_icmp_ge (tgt := 82) dX2_flows_48 rfl (fun c6 => ?_) (fun c6 => ?_)
    · have h := Ok.pos h c6
      have h := Ok.ret h
      exact h
    · have h := Ok.neg h c6
      refine v_aload 1 dX2_flows_51 rfl ?_
      refine v_iload 3 dX2_flows_53 rfl ?_
      obtain ⟨g7, h⟩ := Ok.guard h
      refine lW_1 g7 dX2_flows_55 ?_
      refine v_astore [(7, .ref (lc 2 a4.1.toNatClampNeg)), (0, .ref (lc 0 0)), (4, .ref (lc 1 0)), (5, .int (40 : Int32)), (6, .int a4.1)] dX2_flows_56 (Nat.le_of_ble_eq_true rfl) rfl ?_
      refine v_aload 0 dX2_flows_58 rfl ?_
      refine gW_X2_163_2 (inB_lt g7) dX2_flows_60 ?_
      refine v_if_eq (tgt := 76) dX2_flows_63 rfl (fun c8 => ?_) (fun c8 => ?_)
      · have h := Ok.pos h c8
        refine v_iinc (v := (a4.1 + 1 : Int32)) 4 [(6, .int (a4.1 + 1 : Int32)), (7, .ref (lc 2 a4.1.toNatClampNeg)), (0, .ref (lc 0 0)), (4, .ref (lc 1 0)), (5, .int (40 : Int32))] dX2_flows_76 rfl (by rw [ic_1]) (Nat.le_of_ble_eq_true rfl) rfl ?_
        refine v_goto (tgt := 44) dX2_flows_79 rfl ?_
        refine v_sub [2, 3, 4, 0] rfl ?_
        have h := Ok.ret h
        exact h
      · have h := Ok.neg h c8
        refine v_aload_n 1 dX2_flows_66 rfl ?_
        refine v_aload 0 dX2_flows_67 rfl ?_
        refine v_aload_n 1 dX2_flows_69 rfl ?_
        refine gW_X2_83_0 dX2_flows_70 ?_
        refine cW_X2_336_0_2_14 (inB_lt g7) (.inr rfl) (Ok.bind h) ⟨Nat.le_of_ble_eq_true rfl, Nat.le_of_ble_eq_true rfl⟩ (Nat.le_of_ble_eq_true rfl) dX2_flows_73 (fun r9 h => ?_)
        refine v_iinc (v := (a4.1 + 1 : Int32)) 4 [(6, .int (a4.1 + 1 : Int32)), (7, .ref (lc 2 a4.1.toNatClampNeg)), (0, .ref (lc 0 0)), (4, .ref (lc 1 0)), (5, .int (40 : Int32))] dX2_flows_76 rfl (by rw [ic_1]) (Nat.le_of_ble_eq_true rfl) rfl ?_
        refine v_goto (tgt := 44) dX2_flows_79 rfl ?_
        refine v_sub [2, 3, 4, 0] rfl ?_
        have h := Ok.ret h
        exact h
theorem gW_X2_358_7 {l : Launch} {D : va_G} {dA : Nat → ClassId} {A : Nat → Prop} {b : Bool} {lc : Nat → Nat → Nat} {s : tt_St} {cc : ByteArray} {nl : Nat} {rt : Option FieldType} {rm : Room} {tn : tt_Tn} {Q : tt_Fin} {pc : Nat} {lv : List (Nat × Value)} {rest : List Value} {ck cn : Nat} {i : Nat} (hv : lvH b i) (d : decode cc pc = .ok (.getfield 358, 3)) (kk : tt_V (XW l D dA A b) cc (RX2, nl, rt, rm, tn) Q (pc + 3) lv (.int (rdI s 7 i 11) :: rest) lc s ck cn) : tt_V (XW l D dA A b) cc (RX2, nl, rt, rm, tn) Q pc lv (.ref (lc 7 i) :: rest) lc s ck cn := v_getN (p := 11) knW (lvW_7 hv) oW_7 rfl in_X7 (by decide) q411 (.inl rfl) rfl d kk
theorem gW_X2_372_7 {l : Launch} {D : va_G} {dA : Nat → ClassId} {A : Nat → Prop} {b : Bool} {lc : Nat → Nat → Nat} {s : tt_St} {cc : ByteArray} {nl : Nat} {rt : Option FieldType} {rm : Room} {tn : tt_Tn} {Q : tt_Fin} {pc : Nat} {lv : List (Nat × Value)} {rest : List Value} {ck cn : Nat} {i : Nat} (hv : lvH b i) (d : decode cc pc = .ok (.getfield 372, 3)) (kk : tt_V (XW l D dA A b) cc (RX2, nl, rt, rm, tn) Q (pc + 3) lv (.int (rdI s 7 i 9) :: rest) lc s ck cn) : tt_V (XW l D dA A b) cc (RX2, nl, rt, rm, tn) Q pc lv (.ref (lc 7 i) :: rest) lc s ck cn := v_getN (p := 9) knW (lvW_7 hv) oW_7 rfl in_X7 (by decide) q406 (.inl rfl) rfl d kk
theorem pW_X2_372_7 {l : Launch} {D : va_G} {dA : Nat → ClassId} {A : Nat → Prop} {b : Bool} {lc : Nat → Nat → Nat} {s : tt_St} {cc : ByteArray} {nl : Nat} {rt : Option FieldType} {rm : Room} {tn : tt_Tn} {Q : tt_Fin} {pc : Nat} {lv : List (Nat × Value)} {rest : List Value} {ck cn : Nat} {i : Nat} (hv : lvH b i) {x : Int32} (d : decode cc pc = .ok (.putfield 372, 3)) (kk : tt_V (XW l D dA A b) cc (RX2, nl, rt, rm, tn) Q (pc + 3) lv rest lc (wrI s 7 i 9 x) ck cn) : tt_V (XW l D dA A b) cc (RX2, nl, rt, rm, tn) Q pc lv (.int x :: .ref (lc 7 i) :: rest) lc s ck cn := v_putN (p := 9) knW (lvW_7 hv) oW_7 (uW_7_9 ..) (fun _ _ h => tt_ent_wrI eW h) (fun _ _ h => h) rfl in_X7 tyX7 tyX7_ok nmX7 (by decide) q406 (.inl rfl) rfl rfl rfl (Nat.le_of_ble_eq_true rfl) d kk
theorem cW_X2_343_0_7 {l : Launch} {D : va_G} {dA : Nat → ClassId} {A : Nat → Prop} {b : Bool} {lc : Nat → Nat → Nat} {s : tt_St} {cc : ByteArray} {nl : Nat} {rt : Option FieldType} {rm : Room} {tn : tt_Tn} {Q : tt_Fin} {pc : Nat} {lv : List (Nat × Value)} {rest : List Value} {ck cn : Nat} {x1 : Nat} {x2 : Int64} (hx1 : lvH b x1) {K : Nat × tt_St → Prop} (h : Ok (fW_flows s x1 x2) K) (hR : 11 + 1 ≤ rm.frames ∧ 8 + (8 + 11) + 257 ≤ rm.locals) (hW : (rest.map fun v => v.category).sum ≤ 8) (d : decode cc pc = .ok (.invokevirtual 343, 3)) (kk : ∀ r, lvF r.1 → K r → tt_V (XW l D dA A b) cc (RX2, nl, rt, rm, tn) Q (pc + 3) lv (.ref (lc 14 r.1) :: rest) lc r.2 ck cn) (hf : ck ≤ rm.cells ∧ cn ≤ rm.slots := by exact ⟨Nat.zero_le _, Nat.zero_le _⟩) : tt_V (XW l D dA A b) cc (RX2, nl, rt, rm, tn) Q pc lv (.long x2 :: .ref (lc 7 x1) :: .ref (lc 0 0) :: rest) lc s ck cn :=
  v_callV (kd := 0) (i := 0) (nA := 2) (As := [.ref (lc 7 x1), .long x2]) lvW_0 oW_0 rfl (mW_flows_7 l D dA A b lc s x1 x2 hx1 (Q := (fun v lc' s' => ∃ r, lvF r.1 ∧ K r ∧ v = some (.ref (lc 14 r.1)) ∧ lc' = lc ∧ s' = r.2)) (h.mono (fun r hr => fun hz => ⟨r, hz, hr, rfl, rfl, rfl⟩))) (lw_V q1130 q1131 q1132 q128 q1133) (by decide +kernel) rfl hR hW hf d rfl (fun v lc' s' q => by obtain ⟨r, hz, hr, e1, e2, e3⟩ := q; rw [e1, e2, e3]; exact kk r hz hr)
def fB_adds_L31 (x0 : Nat) (x1 : Nat) (a6 : Int32 × tt_St) : Option ((Int32 × tt_St) ⊕ (Int32 × tt_St)) :=
  if (7 : Int32) ≤ a6.1 then some (.inr (a6.1, a6.2)) else if inB a6.1 7 then nm (wrL a6.2 9 x0 a6.1.toNatClampNeg ((rdL a6.2 9 x0 a6.1.toNatClampNeg) + (rdL a6.2 9 x1 a6.1.toNatClampNeg))) fun s10 => some (.inl ((a6.1 + 1 : Int32), s10)) else none
def fB_adds_L2 (x0 : Nat) (x1 : Nat) (a1 : Int32 × tt_St) : Option ((Int32 × tt_St) ⊕ (Int32 × tt_St)) :=
  if (10 : Int32) ≤ a1.1 then some (.inr (a1.1, a1.2)) else if inB a1.1 10 then nm (wrL a1.2 8 x0 a1.1.toNatClampNeg ((rdL a1.2 8 x0 a1.1.toNatClampNeg) + (rdL a1.2 8 x1 a1.1.toNatClampNeg))) fun s5 => some (.inl ((a1.1 + 1 : Int32), s5)) else none
def fB_adds (s : tt_St) (x0 : Nat) (x1 : Nat) : Option (tt_St) :=
  (itr (fB_adds_L2 x0 x1) tt_fuel ((0 : Int32), s)).bind fun b2 => (itr (fB_adds_L31 x0 x1) tt_fuel ((0 : Int32), b2.2)).bind fun b7 => some b7.2
abbrev rmB_adds_7_14 : Room := { frames := 0, cells := 0, slots := 0, locals := 0 }
set_option maxHeartbeats 4000000 in
theorem mB_adds_7_14 (l : Launch) (D : va_G) (dA : Nat → ClassId) (A : Nat → Prop) (b : Bool) (lc : Nat → Nat → Nat) (s : tt_St) (x0 : Nat) (x1 : Nat) (hx0 : lvH b x0) (hx1 : lvF x1) {Q : Option Value → (Nat → Nat → Nat) → tt_St → Prop} (h : Ok (fB_adds s x0 x1) (fun r => Q none lc r)) : tt_Sp (XW l D dA A b) yX4_adds cX4_adds 3 none rmB_adds_7_14 [.ref (lc 7 x0), .ref (lc 14 x1)] lc s Q := by
  refine tt_Sp.ofV plX4 kokW (Nat.le_of_ble_eq_true rfl) ?_
  show tt_V (XW l D dA A b) cX4_adds (RX4, 3, none, rmB_adds_7_14, tt_nt) (tt_fn (XW l D dA A b) (RX4, 3, none, rmB_adds_7_14, tt_nt) Q) 0 [(0, .ref (lc 7 x0)), (1, .ref (lc 14 x1))] [] lc s 0 0
  unfold fB_adds at h
  refine v_iconst dX4_adds_0 ic_0 ?_
  refine v_istore_n [(2, .int (0 : Int32)), (0, .ref (lc 7 x0)), (1, .ref (lc 14 x1))] dX4_adds_1 (Nat.le_of_ble_eq_true rfl) rfl ?_
  refine v_sub [1, 2, 0] rfl ?_
  refine itr_loop (P := fun a1 : Int32 × tt_St => tt_V (XW l D dA A b) cX4_adds (RX4, 3, none, rmB_adds_7_14, tt_nt) (tt_fn (XW l D dA A b) (RX4, 3, none, rmB_adds_7_14, tt_nt) Q) 2 [(0, .ref (lc 7 x0)), (1, .ref (lc 14 x1)), (2, .int a1.1)] [] lc a1.2 0 0) (PE := fun b2 : Int32 × tt_St => tt_V (XW l D dA A b) cX4_adds (RX4, 3, none, rmB_adds_7_14, tt_nt) (tt_fn (XW l D dA A b) (RX4, 3, none, rmB_adds_7_14, tt_nt) Q) 29 [(0, .ref (lc 7 x0)), (1, .ref (lc 14 x1)), (2, .int b2.1)] [] lc b2.2 0 0) h (fun b2 h => ?_) (fun a1 h => ?_)
  · refine v_iconst dX4_adds_29 ic_0 ?_
    refine v_istore_n [(2, .int (0 : Int32)), (0, .ref (lc 7 x0)), (1, .ref (lc 14 x1))] dX4_adds_30 (Nat.le_of_ble_eq_true rfl) rfl ?_
    refine v_sub [1, 2, 0] rfl ?_
    refine itr_loop (P := fun a6 : Int32 × tt_St => tt_V (XW l D dA A b) cX4_adds (RX4, 3, none, rmB_adds_7_14, tt_nt) (tt_fn (XW l D dA A b) (RX4, 3, none, rmB_adds_7_14, tt_nt) Q) 31 [(0, .ref (lc 7 x0)), (1, .ref (lc 14 x1)), (2, .int a6.1)] [] lc a6.2 0 0) (PE := fun b7 : Int32 × tt_St => tt_V (XW l D dA A b) cX4_adds (RX4, 3, none, rmB_adds_7_14, tt_nt) (tt_fn (XW l D dA A b) (RX4, 3, none, rmB_adds_7_14, tt_nt) Q) 58 [(0, .ref (lc 7 x0)), (1, .ref (lc 14 x1)), (2, .int b7.1)] [] lc b7.2 0 0) h (fun b7 h => ?_) (fun a6 h => ?_)
    · have h := Ok.ret h
      exact v_vret rfl (Nat.zero_le _) (Nat.zero_le _) dX4_adds_58 h
    · have h : Ok (fB_adds_L31 x0 x1 a6) _ := h
      unfold fB_adds_L31 at h
      refine v_iload_n 2 dX4_adds_31 rfl ?_
      refine v_bipush dX4_adds_32 kb_7 ?_
      refine v_icmp_ge (tgt := 58) dX4_adds_34 rfl (fun c8 => ?_) (fun c8 => ?_)
      · have h := Ok.pos h c8
        have h := Ok.ret h
        exact h
      · have h := Ok.neg h c8
        refine v_aload_n 0 dX4_adds_37 rfl ?_
        refine gW_X4_15_7 hx0 dX4_adds_38 ?_
        refine v_iload_n 2 dX4_adds_41 rfl ?_
        refine v_dup2_11 dX4_adds_42 rfl rfl ?_
        obtain ⟨g9, h⟩ := Ok.guard h
        refine lW_9 (.inl hx0) g9 dX4_adds_43 ?_
        refine v_aload_n 1 dX4_adds_44 rfl ?_
        refine gW_X4_15_14 hx1 dX4_adds_45 ?_
        refine v_iload_n 2 dX4_adds_48 rfl ?_
        refine lW_9 (.inr hx1) g9 dX4_adds_49 ?_
        refine v_ladd dX4_adds_50 ?_
        refine sW_9 (.inl hx0) g9 dX4_adds_51 ?_
        refine v_nmS (fun s10 e_s10 => ?_)
        have h := Ok.nm h e_s10
        refine v_iinc (v := (a6.1 + 1 : Int32)) 2 [(2, .int (a6.1 + 1 : Int32)), (0, .ref (lc 7 x0)), (1, .ref (lc 14 x1))] dX4_adds_52 rfl (by rw [ic_1]) (Nat.le_of_ble_eq_true rfl) rfl ?_
        refine v_goto (tgt := 31) dX4_adds_55 rfl ?_
        refine v_sub [1, 2, 0] rfl ?_
        have h := Ok.ret h
        exact h
  · have h : Ok (fB_adds_L2 x0 x1 a1) _ := h
    unfold fB_adds_L2 at h
    refine v_iload_n 2 dX4_adds_2 rfl ?_
    refine v_bipush dX4_adds_3 kb_10 ?_
    refine v_icmp_ge (tgt := 29) dX4_adds_5 rfl (fun c3 => ?_) (fun c3 => ?_)
    · have h := Ok.pos h c3
      have h := Ok.ret h
      exact h
    · have h := Ok.neg h c3
      refine v_aload_n 0 dX4_adds_8 rfl ?_
      refine gW_X4_9_7 hx0 dX4_adds_9 ?_
      refine v_iload_n 2 dX4_adds_12 rfl ?_
      refine v_dup2_11 dX4_adds_13 rfl rfl ?_
      obtain ⟨g4, h⟩ := Ok.guard h
      refine lW_8 (.inl hx0) g4 dX4_adds_14 ?_
      refine v_aload_n 1 dX4_adds_15 rfl ?_
      refine gW_X4_9_14 hx1 dX4_adds_16 ?_
      refine v_iload_n 2 dX4_adds_19 rfl ?_
      refine lW_8 (.inr hx1) g4 dX4_adds_20 ?_
      refine v_ladd dX4_adds_21 ?_
      refine sW_8 (.inl hx0) g4 dX4_adds_22 ?_
      refine v_nmS (fun s5 e_s5 => ?_)
      have h := Ok.nm h e_s5
      refine v_iinc (v := (a1.1 + 1 : Int32)) 2 [(2, .int (a1.1 + 1 : Int32)), (0, .ref (lc 7 x0)), (1, .ref (lc 14 x1))] dX4_adds_23 rfl (by rw [ic_1]) (Nat.le_of_ble_eq_true rfl) rfl ?_
      refine v_goto (tgt := 2) dX4_adds_26 rfl ?_
      refine v_sub [1, 2, 0] rfl ?_
      have h := Ok.ret h
      exact h
theorem cW_X5_27_7_14 {l : Launch} {D : va_G} {dA : Nat → ClassId} {A : Nat → Prop} {b : Bool} {lc : Nat → Nat → Nat} {s : tt_St} {cc : ByteArray} {nl : Nat} {rt : Option FieldType} {rm : Room} {tn : tt_Tn} {Q : tt_Fin} {pc : Nat} {lv : List (Nat × Value)} {rest : List Value} {ck cn : Nat} {x0 : Nat} {x1 : Nat} (hx0 : lvH b x0) (hx1 : lvF x1) {K : tt_St → Prop} (h : Ok (fB_adds s x0 x1) K) (hR : 0 + 1 ≤ rm.frames ∧ 8 + (3 + 11) + 0 ≤ rm.locals) (hW : (rest.map fun v => v.category).sum ≤ 8) (d : decode cc pc = .ok (.invokevirtual 27, 3)) (kk : ∀ r, K r → tt_V (XW l D dA A b) cc (RX5, nl, rt, rm, tn) Q (pc + 3) lv rest lc r ck cn) (hf : ck ≤ rm.cells ∧ cn ≤ rm.slots := by exact ⟨Nat.zero_le _, Nat.zero_le _⟩) : tt_V (XW l D dA A b) cc (RX5, nl, rt, rm, tn) Q pc lv (.ref (lc 14 x1) :: .ref (lc 7 x0) :: rest) lc s ck cn :=
  v_callU (x := ⟨"TallTowers$Flow", "adds", "(LTallTowers$Burden;)V"⟩) (owner := "TallTowers$Burden") (kd := 7) (i := x0) (nA := 1) (As := [.ref (lc 14 x1)]) (lvW_7 hx0) oW_7 rfl (mB_adds_7_14 l D dA A b lc s x0 x1 hx0 hx1 (Q := (fun v lc' s' => ∃ r, K r ∧ v = none ∧ lc' = lc ∧ s' = r)) (h.mono (fun r hr => ⟨r, hr, rfl, rfl, rfl⟩))) (lw_U q1149 q1150 q1153 q1154 q137 q1155) rfl (by decide +kernel) rfl hR hW hf d rfl (fun v lc' s' q => by obtain ⟨r, hr, e1, e2, e3⟩ := q; rw [e1, e2, e3]; exact kk r hr)
def fF_addsAll_L39 (x0 : Nat) (x1 : Nat) (a7 : Int32 × tt_St) : Option ((Int32 × tt_St) ⊕ (Int32 × tt_St)) :=
  if (40 : Int32) ≤ a7.1 then some (.inr (a7.1, a7.2)) else if inB a7.1 40 then nm (wrL a7.2 10 x0 a7.1.toNatClampNeg ((rdL a7.2 10 x0 a7.1.toNatClampNeg) + (rdL a7.2 10 x1 a7.1.toNatClampNeg))) fun s11 => nm (wrL s11 11 x0 a7.1.toNatClampNeg ((rdL s11 11 x0 a7.1.toNatClampNeg) + (rdL s11 11 x1 a7.1.toNatClampNeg))) fun s12 => nm (wrL s12 12 x0 a7.1.toNatClampNeg ((rdL s12 12 x0 a7.1.toNatClampNeg) + (rdL s12 12 x1 a7.1.toNatClampNeg))) fun s13 => some (.inl ((a7.1 + 1 : Int32), s13)) else none
def fF_addsAll_L7 (x0 : Nat) (x1 : Nat) (a2 : Int32 × tt_St) : Option ((Int32 × tt_St) ⊕ (Int32 × tt_St)) :=
  if (160 : Int32) ≤ a2.1 then some (.inr (a2.1, a2.2)) else if inB a2.1 160 then nm (wrL a2.2 13 x0 a2.1.toNatClampNeg ((rdL a2.2 13 x0 a2.1.toNatClampNeg) + (rdL a2.2 13 x1 a2.1.toNatClampNeg))) fun s6 => some (.inl ((a2.1 + 1 : Int32), s6)) else none
def fF_addsAll (s : tt_St) (x0 : Nat) (x1 : Nat) : Option (tt_St) :=
  (fB_adds s x0 x1).bind fun r1 => (itr (fF_addsAll_L7 x0 x1) tt_fuel ((0 : Int32), r1)).bind fun b3 => (itr (fF_addsAll_L39 x0 x1) tt_fuel ((0 : Int32), b3.2)).bind fun b8 => some b8.2
abbrev rmF_addsAll_7_14 : Room := { frames := 1, cells := 0, slots := 0, locals := 22 }
set_option maxHeartbeats 4000000 in
theorem mF_addsAll_7_14 (l : Launch) (D : va_G) (dA : Nat → ClassId) (A : Nat → Prop) (b : Bool) (lc : Nat → Nat → Nat) (s : tt_St) (x0 : Nat) (x1 : Nat) (hx0 : lvH b x0) (hx1 : lvF x1) {Q : Option Value → (Nat → Nat → Nat) → tt_St → Prop} (h : Ok (fF_addsAll s x0 x1) (fun r => Q none lc r)) : tt_Sp (XW l D dA A b) yX5_addsAll cX5_addsAll 3 none rmF_addsAll_7_14 [.ref (lc 7 x0), .ref (lc 14 x1)] lc s Q := by
  refine tt_Sp.ofV plX5 kokW (Nat.le_of_ble_eq_true rfl) ?_
  show tt_V (XW l D dA A b) cX5_addsAll (RX5, 3, none, rmF_addsAll_7_14, tt_nt) (tt_fn (XW l D dA A b) (RX5, 3, none, rmF_addsAll_7_14, tt_nt) Q) 0 [(0, .ref (lc 7 x0)), (1, .ref (lc 14 x1))] [] lc s 0 0
  unfold fF_addsAll at h
  refine v_aload_n 0 dX5_addsAll_0 rfl ?_
  refine v_aload_n 1 dX5_addsAll_1 rfl ?_
  refine cW_X5_27_7_14 hx0 hx1 (Ok.bind h) ⟨Nat.le_of_ble_eq_true rfl, Nat.le_of_ble_eq_true rfl⟩ (Nat.le_of_ble_eq_true rfl) dX5_addsAll_2 (fun r1 h => ?_)
  refine v_iconst dX5_addsAll_5 ic_0 ?_
  refine v_istore_n [(2, .int (0 : Int32)), (0, .ref (lc 7 x0)), (1, .ref (lc 14 x1))] dX5_addsAll_6 (Nat.le_of_ble_eq_true rfl) rfl ?_
  refine v_sub [1, 2, 0] rfl ?_
  refine itr_loop (P := fun a2 : Int32 × tt_St => tt_V (XW l D dA A b) cX5_addsAll (RX5, 3, none, rmF_addsAll_7_14, tt_nt) (tt_fn (XW l D dA A b) (RX5, 3, none, rmF_addsAll_7_14, tt_nt) Q) 7 [(0, .ref (lc 7 x0)), (1, .ref (lc 14 x1)), (2, .int a2.1)] [] lc a2.2 0 0) (PE := fun b3 : Int32 × tt_St => tt_V (XW l D dA A b) cX5_addsAll (RX5, 3, none, rmF_addsAll_7_14, tt_nt) (tt_fn (XW l D dA A b) (RX5, 3, none, rmF_addsAll_7_14, tt_nt) Q) 37 [(0, .ref (lc 7 x0)), (1, .ref (lc 14 x1)), (2, .int b3.1)] [] lc b3.2 0 0) h (fun b3 h => ?_) (fun a2 h => ?_)
  · refine v_iconst dX5_addsAll_37 ic_0 ?_
    refine v_istore_n [(2, .int (0 : Int32)), (0, .ref (lc 7 x0)), (1, .ref (lc 14 x1))] dX5_addsAll_38 (Nat.le_of_ble_eq_true rfl) rfl ?_
    refine v_sub [1, 2, 0] rfl ?_
    refine itr_loop (P := fun a7 : Int32 × tt_St => tt_V (XW l D dA A b) cX5_addsAll (RX5, 3, none, rmF_addsAll_7_14, tt_nt) (tt_fn (XW l D dA A b) (RX5, 3, none, rmF_addsAll_7_14, tt_nt) Q) 39 [(0, .ref (lc 7 x0)), (1, .ref (lc 14 x1)), (2, .int a7.1)] [] lc a7.2 0 0) (PE := fun b8 : Int32 × tt_St => tt_V (XW l D dA A b) cX5_addsAll (RX5, 3, none, rmF_addsAll_7_14, tt_nt) (tt_fn (XW l D dA A b) (RX5, 3, none, rmF_addsAll_7_14, tt_nt) Q) 96 [(0, .ref (lc 7 x0)), (1, .ref (lc 14 x1)), (2, .int b8.1)] [] lc b8.2 0 0) h (fun b8 h => ?_) (fun a7 h => ?_)
    · have h := Ok.ret h
      exact v_vret rfl (Nat.zero_le _) (Nat.zero_le _) dX5_addsAll_96 h
    · have h : Ok (fF_addsAll_L39 x0 x1 a7) _ := h
      unfold fF_addsAll_L39 at h
      refine v_iload_n 2 dX5_addsAll_39 rfl ?_
      refine v_bipush dX5_addsAll_40 kb_40 ?_
      refine v_icmp_ge (tgt := 96) dX5_addsAll_42 rfl (fun c9 => ?_) (fun c9 => ?_)
      · have h := Ok.pos h c9
        have h := Ok.ret h
        exact h
      · have h := Ok.neg h c9
        refine v_aload_n 0 dX5_addsAll_45 rfl ?_
        refine gW_X5_9_7 hx0 dX5_addsAll_46 ?_
        refine v_iload_n 2 dX5_addsAll_49 rfl ?_
        refine v_dup2_11 dX5_addsAll_50 rfl rfl ?_
        obtain ⟨g10, h⟩ := Ok.guard h
        refine lW_10 (.inl hx0) g10 dX5_addsAll_51 ?_
        refine v_aload_n 1 dX5_addsAll_52 rfl ?_
        refine gW_X5_9_14 hx1 dX5_addsAll_53 ?_
        refine v_iload_n 2 dX5_addsAll_56 rfl ?_
        refine lW_10 (.inr hx1) g10 dX5_addsAll_57 ?_
        refine v_ladd dX5_addsAll_58 ?_
        refine sW_10 (.inl hx0) g10 dX5_addsAll_59 ?_
        refine v_nmS (fun s11 e_s11 => ?_)
        have h := Ok.nm h e_s11
        refine v_aload_n 0 dX5_addsAll_60 rfl ?_
        refine gW_X5_15_7 hx0 dX5_addsAll_61 ?_
        refine v_iload_n 2 dX5_addsAll_64 rfl ?_
        refine v_dup2_11 dX5_addsAll_65 rfl rfl ?_
        refine lW_11 (.inl hx0) g10 dX5_addsAll_66 ?_
        refine v_aload_n 1 dX5_addsAll_67 rfl ?_
        refine gW_X5_15_14 hx1 dX5_addsAll_68 ?_
        refine v_iload_n 2 dX5_addsAll_71 rfl ?_
        refine lW_11 (.inr hx1) g10 dX5_addsAll_72 ?_
        refine v_ladd dX5_addsAll_73 ?_
        refine sW_11 (.inl hx0) g10 dX5_addsAll_74 ?_
        refine v_nmS (fun s12 e_s12 => ?_)
        have h := Ok.nm h e_s12
        refine v_aload_n 0 dX5_addsAll_75 rfl ?_
        refine gW_X5_18_7 hx0 dX5_addsAll_76 ?_
        refine v_iload_n 2 dX5_addsAll_79 rfl ?_
        refine v_dup2_11 dX5_addsAll_80 rfl rfl ?_
        refine lW_12 (.inl hx0) g10 dX5_addsAll_81 ?_
        refine v_aload_n 1 dX5_addsAll_82 rfl ?_
        refine gW_X5_18_14 hx1 dX5_addsAll_83 ?_
        refine v_iload_n 2 dX5_addsAll_86 rfl ?_
        refine lW_12 (.inr hx1) g10 dX5_addsAll_87 ?_
        refine v_ladd dX5_addsAll_88 ?_
        refine sW_12 (.inl hx0) g10 dX5_addsAll_89 ?_
        refine v_nmS (fun s13 e_s13 => ?_)
        have h := Ok.nm h e_s13
        refine v_iinc (v := (a7.1 + 1 : Int32)) 2 [(2, .int (a7.1 + 1 : Int32)), (0, .ref (lc 7 x0)), (1, .ref (lc 14 x1))] dX5_addsAll_90 rfl (by rw [ic_1]) (Nat.le_of_ble_eq_true rfl) rfl ?_
        refine v_goto (tgt := 39) dX5_addsAll_93 rfl ?_
        refine v_sub [1, 2, 0] rfl ?_
        have h := Ok.ret h
        exact h
  · have h : Ok (fF_addsAll_L7 x0 x1 a2) _ := h
    unfold fF_addsAll_L7 at h
    refine v_iload_n 2 dX5_addsAll_7 rfl ?_
    refine v_aload_n 0 dX5_addsAll_8 rfl ?_
    refine gW_X5_21_7 hx0 dX5_addsAll_9 ?_
    refine nW_13 (.inl hx0) dX5_addsAll_12 ?_
    refine v_icmp_ge (tgt := 37) dX5_addsAll_13 rfl (fun c4 => ?_) (fun c4 => ?_)
    · have h := Ok.pos h c4
      have h := Ok.ret h
      exact h
    · have h := Ok.neg h c4
      refine v_aload_n 0 dX5_addsAll_16 rfl ?_
      refine gW_X5_21_7 hx0 dX5_addsAll_17 ?_
      refine v_iload_n 2 dX5_addsAll_20 rfl ?_
      refine v_dup2_11 dX5_addsAll_21 rfl rfl ?_
      obtain ⟨g5, h⟩ := Ok.guard h
      refine lW_13 (.inl hx0) g5 dX5_addsAll_22 ?_
      refine v_aload_n 1 dX5_addsAll_23 rfl ?_
      refine gW_X5_21_14 hx1 dX5_addsAll_24 ?_
      refine v_iload_n 2 dX5_addsAll_27 rfl ?_
      refine lW_13 (.inr hx1) g5 dX5_addsAll_28 ?_
      refine v_ladd dX5_addsAll_29 ?_
      refine sW_13 (.inl hx0) g5 dX5_addsAll_30 ?_
      refine v_nmS (fun s6 e_s6 => ?_)
      have h := Ok.nm h e_s6
      refine v_iinc (v := (a2.1 + 1 : Int32)) 2 [(2, .int (a2.1 + 1 : Int32)), (0, .ref (lc 7 x0)), (1, .ref (lc 14 x1))] dX5_addsAll_31 rfl (by rw [ic_1]) (Nat.le_of_ble_eq_true rfl) rfl ?_
      refine v_goto (tgt := 7) dX5_addsAll_34 rfl ?_
      refine v_sub [1, 2, 0] rfl ?_
      have h := Ok.ret h
      exact h
theorem cW_X2_347_7_14 {l : Launch} {D : va_G} {dA : Nat → ClassId} {A : Nat → Prop} {b : Bool} {lc : Nat → Nat → Nat} {s : tt_St} {cc : ByteArray} {nl : Nat} {rt : Option FieldType} {rm : Room} {tn : tt_Tn} {Q : tt_Fin} {pc : Nat} {lv : List (Nat × Value)} {rest : List Value} {ck cn : Nat} {x0 : Nat} {x1 : Nat} (hx0 : lvH b x0) (hx1 : lvF x1) {K : tt_St → Prop} (h : Ok (fF_addsAll s x0 x1) K) (hR : 1 + 1 ≤ rm.frames ∧ 8 + (3 + 11) + 22 ≤ rm.locals) (hW : (rest.map fun v => v.category).sum ≤ 8) (d : decode cc pc = .ok (.invokevirtual 347, 3)) (kk : ∀ r, K r → tt_V (XW l D dA A b) cc (RX2, nl, rt, rm, tn) Q (pc + 3) lv rest lc r ck cn) (hf : ck ≤ rm.cells ∧ cn ≤ rm.slots := by exact ⟨Nat.zero_le _, Nat.zero_le _⟩) : tt_V (XW l D dA A b) cc (RX2, nl, rt, rm, tn) Q pc lv (.ref (lc 14 x1) :: .ref (lc 7 x0) :: rest) lc s ck cn :=
  v_callU (x := ⟨"TallTowers$Harm", "addsAll", "(LTallTowers$Flow;)V"⟩) (owner := "TallTowers$Flow") (kd := 7) (i := x0) (nA := 1) (As := [.ref (lc 14 x1)]) (lvW_7 hx0) oW_7 rfl (mF_addsAll_7_14 l D dA A b lc s x0 x1 hx0 hx1 (Q := (fun v lc' s' => ∃ r, K r ∧ v = none ∧ lc' = lc ∧ s' = r)) (h.mono (fun r hr => ⟨r, hr, rfl, rfl, rfl⟩))) (lw_U q1143 q1144 q1146 q1147 q138 q1148) rfl (by decide +kernel) rfl hR hW hf d rfl (fun v lc' s' q => by obtain ⟨r, hr, e1, e2, e3⟩ := q; rw [e1, e2, e3]; exact kk r hr)
theorem gW_X2_351_7 {l : Launch} {D : va_G} {dA : Nat → ClassId} {A : Nat → Prop} {b : Bool} {lc : Nat → Nat → Nat} {s : tt_St} {cc : ByteArray} {nl : Nat} {rt : Option FieldType} {rm : Room} {tn : tt_Tn} {Q : tt_Fin} {pc : Nat} {lv : List (Nat × Value)} {rest : List Value} {ck cn : Nat} {i : Nat} (hv : lvH b i) (d : decode cc pc = .ok (.getfield 351, 3)) (kk : tt_V (XW l D dA A b) cc (RX2, nl, rt, rm, tn) Q (pc + 3) lv (.long (rdL s 7 i 10) :: rest) lc s ck cn) : tt_V (XW l D dA A b) cc (RX2, nl, rt, rm, tn) Q pc lv (.ref (lc 7 i) :: rest) lc s ck cn := v_getN (p := 10) knW (lvW_7 hv) oW_7 rfl in_X7 (by decide) q409 (.inl rfl) rfl d kk
theorem pW_X2_351_7 {l : Launch} {D : va_G} {dA : Nat → ClassId} {A : Nat → Prop} {b : Bool} {lc : Nat → Nat → Nat} {s : tt_St} {cc : ByteArray} {nl : Nat} {rt : Option FieldType} {rm : Room} {tn : tt_Tn} {Q : tt_Fin} {pc : Nat} {lv : List (Nat × Value)} {rest : List Value} {ck cn : Nat} {i : Nat} (hv : lvH b i) {x : Int64} (d : decode cc pc = .ok (.putfield 351, 3)) (kk : tt_V (XW l D dA A b) cc (RX2, nl, rt, rm, tn) Q (pc + 3) lv rest lc (wrL s 7 i 10 x) ck cn) : tt_V (XW l D dA A b) cc (RX2, nl, rt, rm, tn) Q pc lv (.long x :: .ref (lc 7 i) :: rest) lc s ck cn := v_putN (p := 10) knW (lvW_7 hv) oW_7 (uW_7_10 ..) (fun _ _ h => tt_ent_wrL eW h) (fun _ _ h => h) rfl in_X7 tyX7 tyX7_ok nmX7 (by decide) q409 (.inl rfl) rfl rfl rfl (Nat.le_of_ble_eq_true rfl) d kk
theorem cW_X2_354_0_14 {l : Launch} {D : va_G} {dA : Nat → ClassId} {A : Nat → Prop} {b : Bool} {lc : Nat → Nat → Nat} {s : tt_St} {cc : ByteArray} {nl : Nat} {rt : Option FieldType} {rm : Room} {tn : tt_Tn} {Q : tt_Fin} {pc : Nat} {lv : List (Nat × Value)} {rest : List Value} {ck cn : Nat} {x1 : Nat} {x2 : Int64} (hx1 : lvF x1) {K : tt_St → Prop} (h : Ok (fW_uses s x1 x2) K) (hR : 0 + 1 ≤ rm.frames ∧ 8 + (9 + 11) + 0 ≤ rm.locals) (hW : (rest.map fun v => v.category).sum ≤ 8) (d : decode cc pc = .ok (.invokevirtual 354, 3)) (kk : ∀ r, K r → tt_V (XW l D dA A b) cc (RX2, nl, rt, rm, tn) Q (pc + 3) lv rest lc r ck cn) (hf : ck ≤ rm.cells ∧ cn ≤ rm.slots := by exact ⟨Nat.zero_le _, Nat.zero_le _⟩) : tt_V (XW l D dA A b) cc (RX2, nl, rt, rm, tn) Q pc lv (.long x2 :: .ref (lc 14 x1) :: .ref (lc 0 0) :: rest) lc s ck cn :=
  v_callV (kd := 0) (i := 0) (nA := 2) (As := [.ref (lc 14 x1), .long x2]) lvW_0 oW_0 rfl (mW_uses_14 l D dA A b lc s x1 x2 hx1 (Q := (fun v lc' s' => ∃ r, K r ∧ v = none ∧ lc' = lc ∧ s' = r)) (h.mono (fun r hr => ⟨r, hr, rfl, rfl, rfl⟩))) (lw_V q1156 q1158 qs29 q128 q1159) (by decide +kernel) rfl hR hW hf d rfl (fun v lc' s' q => by obtain ⟨r, hr, e1, e2, e3⟩ := q; rw [e1, e2, e3]; exact kk r hr)
def fW_lays (s : tt_St) (x1 : Nat) (x2 : Int64) : Option (Int32 × tt_St) :=
  (fW_flows s x1 x2).bind fun r1 => (fF_addsAll r1.2 x1 r1.1).bind fun r2 => nm (wrL r2 7 x1 10 ((rdL r2 7 x1 10) + x2)) fun s3 => (fW_uses s3 26 (1 : Int64)).bind fun r4 => some ((1 : Int32), r4)
abbrev rmW_lays_7 : Room := { frames := 12, cells := 0, slots := 0, locals := 284 }
set_option maxHeartbeats 4000000 in
theorem mW_lays_7 (l : Launch) (D : va_G) (dA : Nat → ClassId) (A : Nat → Prop) (b : Bool) (lc : Nat → Nat → Nat) (s : tt_St) (x1 : Nat) (x2 : Int64) (hx1 : lvH b x1) {Q : Option Value → (Nat → Nat → Nat) → tt_St → Prop} (h : Ok (fW_lays s x1 x2) (fun r => zB r.1 → Q (some (.int r.1)) lc r.2)) : tt_Sp (XW l D dA A b) yX2_lays cX2_lays 4 (some .boolean) rmW_lays_7 [.ref (lc 0 0), .ref (lc 7 x1), .long x2] lc s Q := by
  refine tt_Sp.ofV plX2 kokW (Nat.le_of_ble_eq_true rfl) ?_
  show tt_V (XW l D dA A b) cX2_lays (RX2, 4, (some .boolean), rmW_lays_7, tt_nt) (tt_fn (XW l D dA A b) (RX2, 4, (some .boolean), rmW_lays_7, tt_nt) Q) 0 [(0, .ref (lc 0 0)), (1, .ref (lc 7 x1)), (2, .long x2)] [] lc s 0 0
  unfold fW_lays at h
  refine v_aload_n 1 dX2_lays_0 rfl ?_
  refine v_aload_n 0 dX2_lays_1 rfl ?_
  refine v_aload_n 1 dX2_lays_2 rfl ?_
  refine v_lload_n 2 dX2_lays_3 rfl ?_
  refine cW_X2_343_0_7 hx1 (Ok.bind h) ⟨Nat.le_of_ble_eq_true rfl, Nat.le_of_ble_eq_true rfl⟩ (Nat.le_of_ble_eq_true rfl) dX2_lays_4 (fun r1 z_r1 h => ?_)
  refine cW_X2_347_7_14 hx1 z_r1 (Ok.bind h) ⟨Nat.le_of_ble_eq_true rfl, Nat.le_of_ble_eq_true rfl⟩ (Nat.le_of_ble_eq_true rfl) dX2_lays_7 (fun r2 h => ?_)
  refine v_aload_n 1 dX2_lays_10 rfl ?_
  refine v_dup dX2_lays_11 rfl ?_
  refine gW_X2_351_7 hx1 dX2_lays_12 ?_
  refine v_lload_n 2 dX2_lays_15 rfl ?_
  refine v_ladd dX2_lays_16 ?_
  refine pW_X2_351_7 hx1 dX2_lays_17 ?_
  refine v_nmS (fun s3 e_s3 => ?_)
  have h := Ok.nm h e_s3
  refine v_aload_n 0 dX2_lays_20 rfl ?_
  refine v_aload_n 0 dX2_lays_21 rfl ?_
  refine gW_X2_83_0 dX2_lays_22 ?_
  refine v_lconst dX2_lays_25 kl_1 ?_
  refine cW_X2_354_0_14 (.inr rfl) (Ok.bind h) ⟨Nat.le_of_ble_eq_true rfl, Nat.le_of_ble_eq_true rfl⟩ (Nat.le_of_ble_eq_true rfl) dX2_lays_26 (fun r4 h => ?_)
  refine v_iconst dX2_lays_29 ic_1 ?_
  have h := Ok.ret h
  exact v_zret rfl zB_1 (Nat.zero_le _) (Nat.zero_le _) dX2_lays_30 (h zB_1)
theorem cW_X2_364_0_7 {l : Launch} {D : va_G} {dA : Nat → ClassId} {A : Nat → Prop} {b : Bool} {lc : Nat → Nat → Nat} {s : tt_St} {cc : ByteArray} {nl : Nat} {rt : Option FieldType} {rm : Room} {tn : tt_Tn} {Q : tt_Fin} {pc : Nat} {lv : List (Nat × Value)} {rest : List Value} {ck cn : Nat} {x1 : Nat} {x2 : Int64} (hx1 : lvH b x1) {K : Int32 × tt_St → Prop} (h : Ok (fW_lays s x1 x2) K) (hR : 12 + 1 ≤ rm.frames ∧ 8 + (4 + 11) + 284 ≤ rm.locals) (hW : (rest.map fun v => v.category).sum ≤ 8) (d : decode cc pc = .ok (.invokevirtual 364, 3)) (kk : ∀ r, zB r.1 → K r → tt_V (XW l D dA A b) cc (RX2, nl, rt, rm, tn) Q (pc + 3) lv (.int r.1 :: rest) lc r.2 ck cn) (hf : ck ≤ rm.cells ∧ cn ≤ rm.slots := by exact ⟨Nat.zero_le _, Nat.zero_le _⟩) : tt_V (XW l D dA A b) cc (RX2, nl, rt, rm, tn) Q pc lv (.long x2 :: .ref (lc 7 x1) :: .ref (lc 0 0) :: rest) lc s ck cn :=
  v_callV (kd := 0) (i := 0) (nA := 2) (As := [.ref (lc 7 x1), .long x2]) lvW_0 oW_0 rfl (mW_lays_7 l D dA A b lc s x1 x2 hx1 (Q := (fun v lc' s' => ∃ r, zB r.1 ∧ K r ∧ v = some (.int r.1) ∧ lc' = lc ∧ s' = r.2)) (h.mono (fun r hr => fun hz => ⟨r, hz, hr, rfl, rfl, rfl⟩))) (lw_V q1126 q1128 qs27 q128 q1129) (by decide +kernel) rfl hR hW hf d rfl (fun v lc' s' q => by obtain ⟨r, hz, hr, e1, e2, e3⟩ := q; rw [e1, e2, e3]; exact kk r hz hr)
def fW_grows (s : tt_St) (x1 : Int32) (x2 : Int32) : Option (Int32 × tt_St) :=
  if inB x1 24 then if (rdI s 7 x1.toNatClampNeg 11) = 0 then some ((0 : Int32), s) else nm (wrI s 7 x1.toNatClampNeg 9 ((rdI s 7 x1.toNatClampNeg 9) + (1 : Int32))) fun s3 => (fW_lays s3 x1.toNatClampNeg x2.toInt64).bind fun r4 => some (r4.1, r4.2) else none
abbrev rmW_grows : Room := { frames := 13, cells := 0, slots := 0, locals := 307 }
set_option maxHeartbeats 4000000 in
theorem mW_grows (l : Launch) (D : va_G) (dA : Nat → ClassId) (A : Nat → Prop) (b : Bool) (lc : Nat → Nat → Nat) (s : tt_St) (x1 : Int32) (x2 : Int32) {Q : Option Value → (Nat → Nat → Nat) → tt_St → Prop} (h : Ok (fW_grows s x1 x2) (fun r => zB r.1 → Q (some (.int r.1)) lc r.2)) : tt_Sp (XW l D dA A b) yX2_grows cX2_grows 4 (some .boolean) rmW_grows [.ref (lc 0 0), .int x1, .int x2] lc s Q := by
  refine tt_Sp.ofV plX2 kokW (Nat.le_of_ble_eq_true rfl) ?_
  show tt_V (XW l D dA A b) cX2_grows (RX2, 4, (some .boolean), rmW_grows, tt_nt) (tt_fn (XW l D dA A b) (RX2, 4, (some .boolean), rmW_grows, tt_nt) Q) 0 [(0, .ref (lc 0 0)), (1, .int x1), (2, .int x2)] [] lc s 0 0
  unfold fW_grows at h
  refine v_aload_n 0 dX2_grows_0 rfl ?_
  refine gW_X2_19_0 dX2_grows_1 ?_
  refine v_iload_n 1 dX2_grows_4 rfl ?_
  obtain ⟨g1, h⟩ := Ok.guard h
  refine lW_6 g1 dX2_grows_5 ?_
  refine v_astore_n [(3, .ref (lc 7 x1.toNatClampNeg)), (0, .ref (lc 0 0)), (1, .int x1), (2, .int x2)] dX2_grows_6 (Nat.le_of_ble_eq_true rfl) rfl ?_
  refine v_aload_n 0 dX2_grows_7 rfl ?_
  refine gW_X2_358_7 (.inl (inB_lt g1)) dX2_grows_8 ?_
  refine v_if_ne (tgt := 16) dX2_grows_11 rfl (fun c2 => ?_) (fun c2 => ?_)
  · have h := Ok.neg h c2
    refine v_aload_n 0 dX2_grows_16 rfl ?_
    refine v_dup dX2_grows_17 rfl ?_
    refine gW_X2_372_7 (.inl (inB_lt g1)) dX2_grows_18 ?_
    refine v_iconst dX2_grows_21 ic_1 ?_
    refine v_iadd dX2_grows_22 ?_
    refine pW_X2_372_7 (.inl (inB_lt g1)) dX2_grows_23 ?_
    refine v_nmS (fun s3 e_s3 => ?_)
    have h := Ok.nm h e_s3
    refine v_aload_n 1 dX2_grows_26 rfl ?_
    refine v_aload_n 0 dX2_grows_27 rfl ?_
    refine v_iload_n 3 dX2_grows_28 rfl ?_
    refine v_i2l dX2_grows_29 rfl ?_
    refine cW_X2_364_0_7 (.inl (inB_lt g1)) (Ok.bind h) ⟨Nat.le_of_ble_eq_true rfl, Nat.le_of_ble_eq_true rfl⟩ (Nat.le_of_ble_eq_true rfl) dX2_grows_30 (fun r4 z_r4 h => ?_)
    have h := Ok.ret h
    exact v_zret rfl z_r4 (Nat.zero_le _) (Nat.zero_le _) dX2_grows_33 (h z_r4)
  · have h := Ok.pos h c2
    refine v_iconst dX2_grows_14 ic_0 ?_
    have h := Ok.ret h
    exact v_zret rfl zB_0 (Nat.zero_le _) (Nat.zero_le _) dX2_grows_15 (h zB_0)
theorem gW_X2_127_0 {l : Launch} {D : va_G} {dA : Nat → ClassId} {A : Nat → Prop} {b : Bool} {lc : Nat → Nat → Nat} {s : tt_St} {cc : ByteArray} {nl : Nat} {rt : Option FieldType} {rm : Room} {tn : tt_Tn} {Q : tt_Fin} {pc : Nat} {lv : List (Nat × Value)} {rest : List Value} {ck cn : Nat} (d : decode cc pc = .ok (.getfield 127, 3)) (kk : tt_V (XW l D dA A b) cc (RX2, nl, rt, rm, tn) Q (pc + 3) lv (.int (rdI s 0 0 22) :: rest) lc s ck cn) : tt_V (XW l D dA A b) cc (RX2, nl, rt, rm, tn) Q pc lv (.ref (lc 0 0) :: rest) lc s ck cn := v_get (p := 22) lvW_0 oW_0 rfl in_X2 (by decide) q763 (.inl rfl) rfl d kk
theorem pW_X2_358_7 {l : Launch} {D : va_G} {dA : Nat → ClassId} {A : Nat → Prop} {b : Bool} {lc : Nat → Nat → Nat} {s : tt_St} {cc : ByteArray} {nl : Nat} {rt : Option FieldType} {rm : Room} {tn : tt_Tn} {Q : tt_Fin} {pc : Nat} {lv : List (Nat × Value)} {rest : List Value} {ck cn : Nat} {i : Nat} (hv : lvH b i) {x : Int32} (z : zB x) (zf : fits .boolean (.int x) = true) (d : decode cc pc = .ok (.putfield 358, 3)) (kk : tt_V (XW l D dA A b) cc (RX2, nl, rt, rm, tn) Q (pc + 3) lv rest lc (wrI s 7 i 11 x) ck cn) : tt_V (XW l D dA A b) cc (RX2, nl, rt, rm, tn) Q pc lv (.int x :: .ref (lc 7 i) :: rest) lc s ck cn := v_putN (p := 11) knW (lvW_7 hv) oW_7 (uW_7_11 ..) (fun _ _ h => tt_ent_wrI eW h) (fun _ _ h => h) rfl in_X7 tyX7 tyX7_ok nmX7 (by decide) q411 (.inl rfl) rfl z zf (Nat.le_of_ble_eq_true rfl) d kk
theorem pW_X7_24_7 {l : Launch} {D : va_G} {dA : Nat → ClassId} {A : Nat → Prop} {b : Bool} {lc : Nat → Nat → Nat} {s : tt_St} {cc : ByteArray} {nl : Nat} {rt : Option FieldType} {rm : Room} {tn : tt_Tn} {Q : tt_Fin} {pc : Nat} {lv : List (Nat × Value)} {rest : List Value} {ck cn : Nat} {i : Nat} (hv : lvH b i) {x : Int32} (d : decode cc pc = .ok (.putfield 24, 3)) (kk : tt_V (XW l D dA A b) cc (RX7, nl, rt, rm, tn) Q (pc + 3) lv rest lc (wrI s 7 i 6 x) ck cn) : tt_V (XW l D dA A b) cc (RX7, nl, rt, rm, tn) Q pc lv (.int x :: .ref (lc 7 i) :: rest) lc s ck cn := v_put (p := 6) (lvW_7 hv) oW_7 (uW_7_6 ..) (fun _ _ h => tt_ent_wrI eW h) (fun _ _ h => h) rfl in_X7 tyX7 tyX7_ok nmX7 (by decide) q398 (.inl rfl) rfl rfl rfl (Nat.le_of_ble_eq_true rfl) d kk
theorem pW_X7_27_7 {l : Launch} {D : va_G} {dA : Nat → ClassId} {A : Nat → Prop} {b : Bool} {lc : Nat → Nat → Nat} {s : tt_St} {cc : ByteArray} {nl : Nat} {rt : Option FieldType} {rm : Room} {tn : tt_Tn} {Q : tt_Fin} {pc : Nat} {lv : List (Nat × Value)} {rest : List Value} {ck cn : Nat} {i : Nat} (hv : lvH b i) {x : Int32} (d : decode cc pc = .ok (.putfield 27, 3)) (kk : tt_V (XW l D dA A b) cc (RX7, nl, rt, rm, tn) Q (pc + 3) lv rest lc (wrI s 7 i 7 x) ck cn) : tt_V (XW l D dA A b) cc (RX7, nl, rt, rm, tn) Q pc lv (.int x :: .ref (lc 7 i) :: rest) lc s ck cn := v_put (p := 7) (lvW_7 hv) oW_7 (uW_7_7 ..) (fun _ _ h => tt_ent_wrI eW h) (fun _ _ h => h) rfl in_X7 tyX7 tyX7_ok nmX7 (by decide) q400 (.inl rfl) rfl rfl rfl (Nat.le_of_ble_eq_true rfl) d kk
theorem pW_X7_30_7 {l : Launch} {D : va_G} {dA : Nat → ClassId} {A : Nat → Prop} {b : Bool} {lc : Nat → Nat → Nat} {s : tt_St} {cc : ByteArray} {nl : Nat} {rt : Option FieldType} {rm : Room} {tn : tt_Tn} {Q : tt_Fin} {pc : Nat} {lv : List (Nat × Value)} {rest : List Value} {ck cn : Nat} {i : Nat} (hv : lvH b i) {x : Int32} (d : decode cc pc = .ok (.putfield 30, 3)) (kk : tt_V (XW l D dA A b) cc (RX7, nl, rt, rm, tn) Q (pc + 3) lv rest lc (wrI s 7 i 8 x) ck cn) : tt_V (XW l D dA A b) cc (RX7, nl, rt, rm, tn) Q pc lv (.int x :: .ref (lc 7 i) :: rest) lc s ck cn := v_put (p := 8) (lvW_7 hv) oW_7 (uW_7_8 ..) (fun _ _ h => tt_ent_wrI eW h) (fun _ _ h => h) rfl in_X7 tyX7 tyX7_ok nmX7 (by decide) q402 (.inl rfl) rfl rfl rfl (Nat.le_of_ble_eq_true rfl) d kk
def fH_goesOn (s : tt_St) (x0 : Nat) (x1 : Int32) (x2 : Int32) (x3 : Int32) : Option (tt_St) :=
  nm (wrI s 7 x0 6 x1) fun s1 => nm (wrI s1 7 x0 7 x2) fun s2 => nm (wrI s2 7 x0 8 x3) fun s3 => some s3
abbrev rmH_goesOn : Room := { frames := 0, cells := 0, slots := 0, locals := 0 }
set_option maxHeartbeats 4000000 in
theorem mH_goesOn (l : Launch) (D : va_G) (dA : Nat → ClassId) (A : Nat → Prop) (b : Bool) (lc : Nat → Nat → Nat) (s : tt_St) (x0 : Nat) (x1 : Int32) (x2 : Int32) (x3 : Int32) (hx0 : lvH b x0) {Q : Option Value → (Nat → Nat → Nat) → tt_St → Prop} (h : Ok (fH_goesOn s x0 x1 x2 x3) (fun r => Q none lc r)) : tt_Sp (XW l D dA A b) yX7_goesOn cX7_goesOn 4 none rmH_goesOn [.ref (lc 7 x0), .int x1, .int x2, .int x3] lc s Q := by
  refine tt_Sp.ofV plX7 kokW (Nat.le_of_ble_eq_true rfl) ?_
  show tt_V (XW l D dA A b) cX7_goesOn (RX7, 4, none, rmH_goesOn, tt_nt) (tt_fn (XW l D dA A b) (RX7, 4, none, rmH_goesOn, tt_nt) Q) 0 [(0, .ref (lc 7 x0)), (1, .int x1), (2, .int x2), (3, .int x3)] [] lc s 0 0
  unfold fH_goesOn at h
  refine v_aload_n 0 dX7_goesOn_0 rfl ?_
  refine v_iload_n 1 dX7_goesOn_1 rfl ?_
  refine pW_X7_24_7 hx0 dX7_goesOn_2 ?_
  refine v_nmS (fun s1 e_s1 => ?_)
  have h := Ok.nm h e_s1
  refine v_aload_n 0 dX7_goesOn_5 rfl ?_
  refine v_iload_n 2 dX7_goesOn_6 rfl ?_
  refine pW_X7_27_7 hx0 dX7_goesOn_7 ?_
  refine v_nmS (fun s2 e_s2 => ?_)
  have h := Ok.nm h e_s2
  refine v_aload_n 0 dX7_goesOn_10 rfl ?_
  refine v_iload_n 3 dX7_goesOn_11 rfl ?_
  refine pW_X7_30_7 hx0 dX7_goesOn_12 ?_
  refine v_nmS (fun s3 e_s3 => ?_)
  have h := Ok.nm h e_s3
  have h := Ok.ret h
  exact v_vret rfl (Nat.zero_le _) (Nat.zero_le _) dX7_goesOn_15 h
theorem cW_X2_368_7 {l : Launch} {D : va_G} {dA : Nat → ClassId} {A : Nat → Prop} {b : Bool} {lc : Nat → Nat → Nat} {s : tt_St} {cc : ByteArray} {nl : Nat} {rt : Option FieldType} {rm : Room} {tn : tt_Tn} {Q : tt_Fin} {pc : Nat} {lv : List (Nat × Value)} {rest : List Value} {ck cn : Nat} {x0 : Nat} {x1 : Int32} {x2 : Int32} {x3 : Int32} (hx0 : lvH b x0) {K : tt_St → Prop} (h : Ok (fH_goesOn s x0 x1 x2 x3) K) (hR : 0 + 1 ≤ rm.frames ∧ 8 + (4 + 11) + 0 ≤ rm.locals) (hW : (rest.map fun v => v.category).sum ≤ 8) (d : decode cc pc = .ok (.invokevirtual 368, 3)) (kk : ∀ r, K r → tt_V (XW l D dA A b) cc (RX2, nl, rt, rm, tn) Q (pc + 3) lv rest lc r ck cn) (hf : ck ≤ rm.cells ∧ cn ≤ rm.slots := by exact ⟨Nat.zero_le _, Nat.zero_le _⟩) : tt_V (XW l D dA A b) cc (RX2, nl, rt, rm, tn) Q pc lv (.int x3 :: .int x2 :: .int x1 :: .ref (lc 7 x0) :: rest) lc s ck cn :=
  v_callV (kd := 7) (i := x0) (nA := 3) (As := [.int x1, .int x2, .int x3]) (lvW_7 hx0) oW_7 rfl (mH_goesOn l D dA A b lc s x0 x1 x2 x3 hx0 (Q := (fun v lc' s' => ∃ r, K r ∧ v = none ∧ lc' = lc ∧ s' = r)) (h.mono (fun r hr => ⟨r, hr, rfl, rfl, rfl⟩))) (lw_V q1122 q1123 q1124 q140 q1125) (by decide +kernel) rfl hR hW hf d rfl (fun v lc' s' q => by obtain ⟨r, hr, e1, e2, e3⟩ := q; rw [e1, e2, e3]; exact kk r hr)
def fW_isHarmed (s : tt_St) (x1 : Int32) (x2 : Int32) (x3 : Int32) (x4 : Int32) (x5 : Int32) : Option (Int32 × tt_St) :=
  if (rdI s 0 0 22) = (24 : Int32) then some ((0 : Int32), s) else if inB x1 24 then nm (wrI s 7 x1.toNatClampNeg 11 (1 : Int32)) fun s3 => (fH_goesOn s3 x1.toNatClampNeg x2 x3 x4).bind fun r4 => nm (wrI r4 0 0 22 ((rdI r4 0 0 22) + (1 : Int32))) fun s5 => (fW_lays s5 x1.toNatClampNeg x5.toInt64).bind fun r6 => some (r6.1, r6.2) else none
abbrev rmW_isHarmed : Room := { frames := 13, cells := 0, slots := 0, locals := 307 }
set_option maxHeartbeats 4000000 in
theorem mW_isHarmed (l : Launch) (D : va_G) (dA : Nat → ClassId) (A : Nat → Prop) (b : Bool) (lc : Nat → Nat → Nat) (s : tt_St) (x1 : Int32) (x2 : Int32) (x3 : Int32) (x4 : Int32) (x5 : Int32) {Q : Option Value → (Nat → Nat → Nat) → tt_St → Prop} (h : Ok (fW_isHarmed s x1 x2 x3 x4 x5) (fun r => zB r.1 → Q (some (.int r.1)) lc r.2)) : tt_Sp (XW l D dA A b) yX2_isHarmed cX2_isHarmed 7 (some .boolean) rmW_isHarmed [.ref (lc 0 0), .int x1, .int x2, .int x3, .int x4, .int x5] lc s Q := by
  refine tt_Sp.ofV plX2 kokW (Nat.le_of_ble_eq_true rfl) ?_
  show tt_V (XW l D dA A b) cX2_isHarmed (RX2, 7, (some .boolean), rmW_isHarmed, tt_nt) (tt_fn (XW l D dA A b) (RX2, 7, (some .boolean), rmW_isHarmed, tt_nt) Q) 0 [(0, .ref (lc 0 0)), (1, .int x1), (2, .int x2), (3, .int x3), (4, .int x4), (5, .int x5)] [] lc s 0 0
  unfold fW_isHarmed at h
  refine v_aload_n 0 dX2_isHarmed_0 rfl ?_
  refine gW_X2_127_0 dX2_isHarmed_1 ?_
  refine v_bipush dX2_isHarmed_4 kb_24 ?_
  refine v_icmp_ne (tgt := 11) dX2_isHarmed_6 rfl (fun c1 => ?_) (fun c1 => ?_)
  · have h := Ok.neg h c1
    refine v_aload_n 0 dX2_isHarmed_11 rfl ?_
    refine gW_X2_19_0 dX2_isHarmed_12 ?_
    refine v_iload_n 1 dX2_isHarmed_15 rfl ?_
    obtain ⟨g2, h⟩ := Ok.guard h
    refine lW_6 g2 dX2_isHarmed_16 ?_
    refine v_astore [(6, .ref (lc 7 x1.toNatClampNeg)), (0, .ref (lc 0 0)), (1, .int x1), (2, .int x2), (3, .int x3), (4, .int x4), (5, .int x5)] dX2_isHarmed_17 (Nat.le_of_ble_eq_true rfl) rfl ?_
    refine v_aload 0 dX2_isHarmed_19 rfl ?_
    refine v_iconst dX2_isHarmed_21 ic_1 ?_
    refine pW_X2_358_7 (.inl (inB_lt g2)) zB_1 zF_1 dX2_isHarmed_22 ?_
    refine v_nmS (fun s3 e_s3 => ?_)
    have h := Ok.nm h e_s3
    refine v_aload 0 dX2_isHarmed_25 rfl ?_
    refine v_iload_n 3 dX2_isHarmed_27 rfl ?_
    refine v_iload_n 4 dX2_isHarmed_28 rfl ?_
    refine v_iload 5 dX2_isHarmed_29 rfl ?_
    refine cW_X2_368_7 (.inl (inB_lt g2)) (Ok.bind h) ⟨Nat.le_of_ble_eq_true rfl, Nat.le_of_ble_eq_true rfl⟩ (Nat.le_of_ble_eq_true rfl) dX2_isHarmed_31 (fun r4 h => ?_)
    refine v_aload_n 1 dX2_isHarmed_34 rfl ?_
    refine v_dup dX2_isHarmed_35 rfl ?_
    refine gW_X2_127_0 dX2_isHarmed_36 ?_
    refine v_iconst dX2_isHarmed_39 ic_1 ?_
    refine v_iadd dX2_isHarmed_40 ?_
    refine pW_X2_127_0 dX2_isHarmed_41 ?_
    refine v_nmS (fun s5 e_s5 => ?_)
    have h := Ok.nm h e_s5
    refine v_aload_n 1 dX2_isHarmed_44 rfl ?_
    refine v_aload 0 dX2_isHarmed_45 rfl ?_
    refine v_iload 6 dX2_isHarmed_47 rfl ?_
    refine v_i2l dX2_isHarmed_49 rfl ?_
    refine cW_X2_364_0_7 (.inl (inB_lt g2)) (Ok.bind h) ⟨Nat.le_of_ble_eq_true rfl, Nat.le_of_ble_eq_true rfl⟩ (Nat.le_of_ble_eq_true rfl) dX2_isHarmed_50 (fun r6 z_r6 h => ?_)
    have h := Ok.ret h
    exact v_zret rfl z_r6 (Nat.zero_le _) (Nat.zero_le _) dX2_isHarmed_53 (h z_r6)
  · have h := Ok.pos h c1
    refine v_iconst dX2_isHarmed_9 ic_0 ?_
    have h := Ok.ret h
    exact v_zret rfl zB_0 (Nat.zero_le _) (Nat.zero_le _) dX2_isHarmed_10 (h zB_0)
theorem cW_X2_354_0_7 {l : Launch} {D : va_G} {dA : Nat → ClassId} {A : Nat → Prop} {b : Bool} {lc : Nat → Nat → Nat} {s : tt_St} {cc : ByteArray} {nl : Nat} {rt : Option FieldType} {rm : Room} {tn : tt_Tn} {Q : tt_Fin} {pc : Nat} {lv : List (Nat × Value)} {rest : List Value} {ck cn : Nat} {x1 : Nat} {x2 : Int64} (hx1 : lvH b x1) {K : tt_St → Prop} (h : Ok (fW_uses s x1 x2) K) (hR : 0 + 1 ≤ rm.frames ∧ 8 + (9 + 11) + 0 ≤ rm.locals) (hW : (rest.map fun v => v.category).sum ≤ 8) (d : decode cc pc = .ok (.invokevirtual 354, 3)) (kk : ∀ r, K r → tt_V (XW l D dA A b) cc (RX2, nl, rt, rm, tn) Q (pc + 3) lv rest lc r ck cn) (hf : ck ≤ rm.cells ∧ cn ≤ rm.slots := by exact ⟨Nat.zero_le _, Nat.zero_le _⟩) : tt_V (XW l D dA A b) cc (RX2, nl, rt, rm, tn) Q pc lv (.long x2 :: .ref (lc 7 x1) :: .ref (lc 0 0) :: rest) lc s ck cn :=
  v_callV (kd := 0) (i := 0) (nA := 2) (As := [.ref (lc 7 x1), .long x2]) lvW_0 oW_0 rfl (mW_uses_7 l D dA A b lc s x1 x2 hx1 (Q := (fun v lc' s' => ∃ r, K r ∧ v = none ∧ lc' = lc ∧ s' = r)) (h.mono (fun r hr => ⟨r, hr, rfl, rfl, rfl⟩))) (lw_V q1156 q1158 qs29 q128 q1159) (by decide +kernel) rfl hR hW hf d rfl (fun v lc' s' q => by obtain ⟨r, hr, e1, e2, e3⟩ := q; rw [e1, e2, e3]; exact kk r hr)
def fH_comesAnew (s : tt_St) (x0 : Nat) : Option (tt_St) :=
  (fF_begins s x0).bind fun r1 => nm (wrL r1 7 x0 10 (0 : Int64)) fun s2 => some s2
abbrev rmH_comesAnew : Room := { frames := 2, cells := 0, slots := 0, locals := 42 }
set_option maxHeartbeats 4000000 in
theorem mH_comesAnew (l : Launch) (D : va_G) (dA : Nat → ClassId) (A : Nat → Prop) (b : Bool) (lc : Nat → Nat → Nat) (s : tt_St) (x0 : Nat) (hx0 : lvH b x0) {Q : Option Value → (Nat → Nat → Nat) → tt_St → Prop} (h : Ok (fH_comesAnew s x0) (fun r => Q none lc r)) : tt_Sp (XW l D dA A b) yX7_comesAnew cX7_comesAnew 1 none rmH_comesAnew [.ref (lc 7 x0)] lc s Q := by
  refine tt_Sp.ofV plX7 kokW (Nat.le_of_ble_eq_true rfl) ?_
  show tt_V (XW l D dA A b) cX7_comesAnew (RX7, 1, none, rmH_comesAnew, tt_nt) (tt_fn (XW l D dA A b) (RX7, 1, none, rmH_comesAnew, tt_nt) Q) 0 [(0, .ref (lc 7 x0))] [] lc s 0 0
  unfold fH_comesAnew at h
  refine v_aload_n 0 dX7_comesAnew_0 rfl ?_
  refine cW_X7_7_7 hx0 (Ok.bind h) ⟨Nat.le_of_ble_eq_true rfl, Nat.le_of_ble_eq_true rfl⟩ (Nat.le_of_ble_eq_true rfl) dX7_comesAnew_1 (fun r1 h => ?_)
  refine v_aload_n 0 dX7_comesAnew_4 rfl ?_
  refine v_lconst dX7_comesAnew_5 kl_0 ?_
  refine pW_X7_16_7 hx0 dX7_comesAnew_6 ?_
  refine v_nmS (fun s2 e_s2 => ?_)
  have h := Ok.nm h e_s2
  have h := Ok.ret h
  exact v_vret rfl (Nat.zero_le _) (Nat.zero_le _) dX7_comesAnew_9 h
theorem cW_X2_361_7 {l : Launch} {D : va_G} {dA : Nat → ClassId} {A : Nat → Prop} {b : Bool} {lc : Nat → Nat → Nat} {s : tt_St} {cc : ByteArray} {nl : Nat} {rt : Option FieldType} {rm : Room} {tn : tt_Tn} {Q : tt_Fin} {pc : Nat} {lv : List (Nat × Value)} {rest : List Value} {ck cn : Nat} {x0 : Nat} (hx0 : lvH b x0) {K : tt_St → Prop} (h : Ok (fH_comesAnew s x0) K) (hR : 2 + 1 ≤ rm.frames ∧ 8 + (1 + 11) + 42 ≤ rm.locals) (hW : (rest.map fun v => v.category).sum ≤ 8) (d : decode cc pc = .ok (.invokevirtual 361, 3)) (kk : ∀ r, K r → tt_V (XW l D dA A b) cc (RX2, nl, rt, rm, tn) Q (pc + 3) lv rest lc r ck cn) (hf : ck ≤ rm.cells ∧ cn ≤ rm.slots := by exact ⟨Nat.zero_le _, Nat.zero_le _⟩) : tt_V (XW l D dA A b) cc (RX2, nl, rt, rm, tn) Q pc lv (.ref (lc 7 x0) :: rest) lc s ck cn :=
  v_callV (kd := 7) (i := x0) (nA := 0) (As := []) (lvW_7 hx0) oW_7 rfl (mH_comesAnew l D dA A b lc s x0 hx0 (Q := (fun v lc' s' => ∃ r, K r ∧ v = none ∧ lc' = lc ∧ s' = r)) (h.mono (fun r hr => ⟨r, hr, rfl, rfl, rfl⟩))) (lw_V q1223 q1224 q1225 q140 q1226) (by decide +kernel) rfl hR hW hf d rfl (fun v lc' s' q => by obtain ⟨r, hr, e1, e2, e3⟩ := q; rw [e1, e2, e3]; exact kk r hr)
def fW_opensAgain (s : tt_St) (x1 : Int32) : Option (Int32 × tt_St) :=
  if inB x1 24 then if (rdI s 7 x1.toNatClampNeg 11) = 0 then some ((0 : Int32), s) else (fW_uses s x1.toNatClampNeg (-1 : Int64)).bind fun r3 => nm (rdL r3 7 x1.toNatClampNeg 10) fun v4 => (fH_comesAnew r3 x1.toNatClampNeg).bind fun r5 => (fW_lays r5 x1.toNatClampNeg v4).bind fun r6 => some (r6.1, r6.2) else none
abbrev rmW_opensAgain : Room := { frames := 13, cells := 0, slots := 0, locals := 307 }
set_option maxHeartbeats 4000000 in
theorem mW_opensAgain (l : Launch) (D : va_G) (dA : Nat → ClassId) (A : Nat → Prop) (b : Bool) (lc : Nat → Nat → Nat) (s : tt_St) (x1 : Int32) {Q : Option Value → (Nat → Nat → Nat) → tt_St → Prop} (h : Ok (fW_opensAgain s x1) (fun r => zB r.1 → Q (some (.int r.1)) lc r.2)) : tt_Sp (XW l D dA A b) yX2_opensAgain cX2_opensAgain 5 (some .boolean) rmW_opensAgain [.ref (lc 0 0), .int x1] lc s Q := by
  refine tt_Sp.ofV plX2 kokW (Nat.le_of_ble_eq_true rfl) ?_
  show tt_V (XW l D dA A b) cX2_opensAgain (RX2, 5, (some .boolean), rmW_opensAgain, tt_nt) (tt_fn (XW l D dA A b) (RX2, 5, (some .boolean), rmW_opensAgain, tt_nt) Q) 0 [(0, .ref (lc 0 0)), (1, .int x1)] [] lc s 0 0
  unfold fW_opensAgain at h
  refine v_aload_n 0 dX2_opensAgain_0 rfl ?_
  refine gW_X2_19_0 dX2_opensAgain_1 ?_
  refine v_iload_n 1 dX2_opensAgain_4 rfl ?_
  obtain ⟨g1, h⟩ := Ok.guard h
  refine lW_6 g1 dX2_opensAgain_5 ?_
  refine v_astore_n [(2, .ref (lc 7 x1.toNatClampNeg)), (0, .ref (lc 0 0)), (1, .int x1)] dX2_opensAgain_6 (Nat.le_of_ble_eq_true rfl) rfl ?_
  refine v_aload_n 0 dX2_opensAgain_7 rfl ?_
  refine gW_X2_358_7 (.inl (inB_lt g1)) dX2_opensAgain_8 ?_
  refine v_if_ne (tgt := 16) dX2_opensAgain_11 rfl (fun c2 => ?_) (fun c2 => ?_)
  · have h := Ok.neg h c2
    refine v_aload_n 1 dX2_opensAgain_16 rfl ?_
    refine v_aload_n 0 dX2_opensAgain_17 rfl ?_
    refine v_ldc2 dX2_opensAgain_18 q1222 ?_
    refine cW_X2_354_0_7 (.inl (inB_lt g1)) (Ok.bind h) ⟨Nat.le_of_ble_eq_true rfl, Nat.le_of_ble_eq_true rfl⟩ (Nat.le_of_ble_eq_true rfl) dX2_opensAgain_21 (fun r3 h => ?_)
    refine v_aload_n 0 dX2_opensAgain_24 rfl ?_
    refine gW_X2_351_7 (.inl (inB_lt g1)) dX2_opensAgain_25 ?_
    refine v_nmL (fun v4 e_v4 => ?_)
    have h := Ok.nm h e_v4
    refine v_lstore_n [(3, .long v4), (2, .ref (lc 7 x1.toNatClampNeg)), (0, .ref (lc 0 0)), (1, .int x1)] dX2_opensAgain_28 (Nat.le_of_ble_eq_true rfl) rfl ?_
    refine v_aload_n 1 dX2_opensAgain_29 rfl ?_
    refine cW_X2_361_7 (.inl (inB_lt g1)) (Ok.bind h) ⟨Nat.le_of_ble_eq_true rfl, Nat.le_of_ble_eq_true rfl⟩ (Nat.le_of_ble_eq_true rfl) dX2_opensAgain_30 (fun r5 h => ?_)
    refine v_aload_n 2 dX2_opensAgain_33 rfl ?_
    refine v_aload_n 1 dX2_opensAgain_34 rfl ?_
    refine v_lload_n 0 dX2_opensAgain_35 rfl ?_
    refine cW_X2_364_0_7 (.inl (inB_lt g1)) (Ok.bind h) ⟨Nat.le_of_ble_eq_true rfl, Nat.le_of_ble_eq_true rfl⟩ (Nat.le_of_ble_eq_true rfl) dX2_opensAgain_36 (fun r6 z_r6 h => ?_)
    have h := Ok.ret h
    exact v_zret rfl z_r6 (Nat.zero_le _) (Nat.zero_le _) dX2_opensAgain_39 (h z_r6)
  · have h := Ok.pos h c2
    refine v_iconst dX2_opensAgain_14 ic_0 ?_
    have h := Ok.ret h
    exact v_zret rfl zB_0 (Nat.zero_le _) (Nat.zero_le _) dX2_opensAgain_15 (h zB_0)
def fQ_peek (s : tt_St) : Option (Option Nat) :=
  if inB (0 : Int32) 12 then unO (rdR s 35 0 (0 : Int32).toNatClampNeg) 12 fun o2 => some (some o2) else none
abbrev rmQ_peek : Room := { frames := 0, cells := 0, slots := 0, locals := 0 }
set_option maxHeartbeats 4000000 in
theorem mQ_peek (l : Launch) (D : va_G) (dA : Nat → ClassId) (A : Nat → Prop) (b : Bool) (lc : Nat → Nat → Nat) (s : tt_St) {Q : Option Value → (Nat → Nat → Nat) → tt_St → Prop} (h : Ok (fQ_peek s) (fun r => (∀ t, r = some t → t < 12) → Q (some (va_rf (Option.map (lc 32) r))) lc s)) : tt_Sp (XW l D dA A b) yJ2_peek cJ2_peek 1 (some (.object "java/lang/Object")) rmQ_peek [.ref (lc 34 0)] lc s Q := by
  refine tt_Sp.ofV plJ2 kokW (Nat.le_of_ble_eq_true rfl) ?_
  show tt_V (XW l D dA A b) cJ2_peek (RJ2, 1, (some (.object "java/lang/Object")), rmQ_peek, tt_nt) (tt_fn (XW l D dA A b) (RJ2, 1, (some (.object "java/lang/Object")), rmQ_peek, tt_nt) Q) 0 [(0, .ref (lc 34 0))] [] lc s 0 0
  unfold fQ_peek at h
  refine v_aload_n 0 dJ2_peek_0 rfl ?_
  refine gW_J2_17_34 dJ2_peek_1 ?_
  refine v_iconst dJ2_peek_4 ic_0 ?_
  obtain ⟨g1, h⟩ := Ok.guard h
  obtain ⟨o2, e_o2, g_o2, h⟩ := Ok.unO h
  refine lW_35 g1 e_o2 dJ2_peek_5 ?_
  have h := Ok.ret h
  exact v_aret0 (.inr ⟨_, rfl⟩) rfl (Nat.zero_le _) (Nat.zero_le _) dJ2_peek_6 (h (fun _ q => by cases q; exact g_o2))
theorem cW_X1_255_2 {l : Launch} {D : va_G} {dA : Nat → ClassId} {A : Nat → Prop} {b : Bool} {lc : Nat → Nat → Nat} {s : tt_St} {cc : ByteArray} {nl : Nat} {rt : Option FieldType} {rm : Room} {tn : tt_Tn} {Q : tt_Fin} {pc : Nat} {lv : List (Nat × Value)} {rest : List Value} {ck cn : Nat} {x0 : Nat} (hx0 : x0 < 40) {K : Int32 → Prop} (h : Ok (fY_top s x0) K) (hR : 0 + 1 ≤ rm.frames ∧ 8 + (1 + 11) + 0 ≤ rm.locals) (hW : (rest.map fun v => v.category).sum ≤ 8) (d : decode cc pc = .ok (.invokevirtual 255, 3)) (kk : ∀ r, K r → tt_V (XW l D dA A b) cc (RX1, nl, rt, rm, tn) Q (pc + 3) lv (.int r :: rest) lc s ck cn) (hf : ck ≤ rm.cells ∧ cn ≤ rm.slots := by exact ⟨Nat.zero_le _, Nat.zero_le _⟩) : tt_V (XW l D dA A b) cc (RX1, nl, rt, rm, tn) Q pc lv (.ref (lc 2 x0) :: rest) lc s ck cn :=
  v_callV (kd := 2) (i := x0) (nA := 0) (As := []) (lvW_2 hx0) oW_2 rfl (mY_top l D dA A b lc s x0 hx0 (Q := (fun v lc' s' => ∃ r, K r ∧ v = some (.int r) ∧ lc' = lc ∧ s' = s)) (h.mono (fun r hr => ⟨r, hr, rfl, rfl, rfl⟩))) (lw_V q1283 q501 q502 q139 q503) (by decide +kernel) rfl hR hW hf d rfl (fun v lc' s' q => by obtain ⟨r, hr, e1, e2, e3⟩ := q; rw [e1, e2, e3]; exact kk r hr)
theorem gW_X1_207_2 {l : Launch} {D : va_G} {dA : Nat → ClassId} {A : Nat → Prop} {b : Bool} {lc : Nat → Nat → Nat} {s : tt_St} {cc : ByteArray} {nl : Nat} {rt : Option FieldType} {rm : Room} {tn : tt_Tn} {Q : tt_Fin} {pc : Nat} {lv : List (Nat × Value)} {rest : List Value} {ck cn : Nat} {i : Nat} (hv : i < 40) (d : decode cc pc = .ok (.getfield 207, 3)) (kk : tt_V (XW l D dA A b) cc (RX1, nl, rt, rm, tn) Q (pc + 3) lv (.int (rdI s 2 i 5) :: rest) lc s ck cn) : tt_V (XW l D dA A b) cc (RX1, nl, rt, rm, tn) Q pc lv (.ref (lc 2 i) :: rest) lc s ck cn := v_getN (p := 5) knW (lvW_2 hv) oW_2 rfl in_X6 (by decide) q355 (.inl rfl) rfl d kk
def fT_lambda_cover_13 (s : tt_St) (x0 : Int32) (x1 : Int32) (x2 : Nat) : Option (Int64) :=
  (fY_top s x2).bind fun r1 => some ((if (0 : Int32) < ((if x0 < r1 then x0 else r1) - (if (rdI s 2 x2 5) < x1 then x1 else (rdI s 2 x2 5))) then ((if x0 < r1 then x0 else r1) - (if (rdI s 2 x2 5) < x1 then x1 else (rdI s 2 x2 5))) else (0 : Int32)).toInt64)
abbrev rmT_lambda_cover_13_2 : Room := { frames := 1, cells := 0, slots := 0, locals := 23 }
set_option maxHeartbeats 4000000 in
theorem mT_lambda_cover_13_2 (l : Launch) (D : va_G) (dA : Nat → ClassId) (A : Nat → Prop) (b : Bool) (lc : Nat → Nat → Nat) (s : tt_St) (x0 : Int32) (x1 : Int32) (x2 : Nat) (hx2 : x2 < 40) {Q : Option Value → (Nat → Nat → Nat) → tt_St → Prop} (h : Ok (fT_lambda_cover_13 s x0 x1 x2) (fun r => Q (some (.long r)) lc s)) : tt_Sp (XW l D dA A b) yX1_lambda_cover_13 cX1_lambda_cover_13 3 (some .long) rmT_lambda_cover_13_2 [.int x0, .int x1, .ref (lc 2 x2)] lc s Q := by
  refine tt_Sp.ofV plX1 kokW (Nat.le_of_ble_eq_true rfl) ?_
  show tt_V (XW l D dA A b) cX1_lambda_cover_13 (RX1, 3, (some .long), rmT_lambda_cover_13_2, tt_nt) (tt_fn (XW l D dA A b) (RX1, 3, (some .long), rmT_lambda_cover_13_2, tt_nt) Q) 0 [(0, .int x0), (1, .int x1), (2, .ref (lc 2 x2))] [] lc s 0 0
  unfold fT_lambda_cover_13 at h
  refine v_iconst dX1_lambda_cover_13_0 ic_0 ?_
  refine v_aload_n 2 dX1_lambda_cover_13_1 rfl ?_
  refine cW_X1_255_2 hx2 (Ok.bind h) ⟨Nat.le_of_ble_eq_true rfl, Nat.le_of_ble_eq_true rfl⟩ (Nat.le_of_ble_eq_true rfl) dX1_lambda_cover_13_2 (fun r1 h => ?_)
  refine v_iload_n 0 dX1_lambda_cover_13_5 rfl ?_
  refine v_minI q1705 q614 q143 q615 (Nat.le_of_ble_eq_true rfl) (Nat.le_of_ble_eq_true rfl) (Nat.zero_le _) (Nat.zero_le _) dX1_lambda_cover_13_6 ?_
  refine v_aload_n 2 dX1_lambda_cover_13_9 rfl ?_
  refine gW_X1_207_2 hx2 dX1_lambda_cover_13_10 ?_
  refine v_iload_n 1 dX1_lambda_cover_13_13 rfl ?_
  refine v_maxI q1706 q577 q143 q578 (Nat.le_of_ble_eq_true rfl) (Nat.le_of_ble_eq_true rfl) (Nat.zero_le _) (Nat.zero_le _) dX1_lambda_cover_13_14 ?_
  refine v_isub dX1_lambda_cover_13_17 ?_
  refine v_maxI q1706 q577 q143 q578 (Nat.le_of_ble_eq_true rfl) (Nat.le_of_ble_eq_true rfl) (Nat.zero_le _) (Nat.zero_le _) dX1_lambda_cover_13_18 ?_
  refine v_i2l dX1_lambda_cover_13_21 rfl ?_
  have h := Ok.ret h
  exact v_lret rfl (Nat.zero_le _) (Nat.zero_le _) dX1_lambda_cover_13_22 h
theorem cW_X1_457_0 {l : Launch} {D : va_G} {dA : Nat → ClassId} {A : Nat → Prop} {b : Bool} {lc : Nat → Nat → Nat} {s : tt_St} {cc : ByteArray} {nl : Nat} {rt : Option FieldType} {rm : Room} {tn : tt_Tn} {Q : tt_Fin} {pc : Nat} {lv : List (Nat × Value)} {rest : List Value} {ck cn : Nat} {x1 : Int32} {x2 : Int32} {x3 : Int32} {K : Int32 × tt_St → Prop} (h : Ok (fW_turns s x1 x2 x3) K) (hR : 0 + 1 ≤ rm.frames ∧ 8 + (4 + 11) + 0 ≤ rm.locals) (hW : (rest.map fun v => v.category).sum ≤ 8) (d : decode cc pc = .ok (.invokevirtual 457, 3)) (kk : ∀ r, zB r.1 → K r → tt_V (XW l D dA A b) cc (RX1, nl, rt, rm, tn) Q (pc + 3) lv (.int r.1 :: rest) lc r.2 ck cn) (hf : ck ≤ rm.cells ∧ cn ≤ rm.slots := by exact ⟨Nat.zero_le _, Nat.zero_le _⟩) : tt_V (XW l D dA A b) cc (RX1, nl, rt, rm, tn) Q pc lv (.int x3 :: .int x2 :: .int x1 :: .ref (lc 0 0) :: rest) lc s ck cn :=
  v_callV (kd := 0) (i := 0) (nA := 3) (As := [.int x1, .int x2, .int x3]) lvW_0 oW_0 rfl (mW_turns l D dA A b lc s x1 x2 x3 (Q := (fun v lc' s' => ∃ r, zB r.1 ∧ K r ∧ v = some (.int r.1) ∧ lc' = lc ∧ s' = r.2)) (h.mono (fun r hr => fun hz => ⟨r, hz, hr, rfl, rfl, rfl⟩))) (lw_V q1192 q1193 q1194 q128 q1195) (by decide +kernel) rfl hR hW hf d rfl (fun v lc' s' q => by obtain ⟨r, hz, hr, e1, e2, e3⟩ := q; rw [e1, e2, e3]; exact kk r hz hr)
def fT_lambda_fall_7_0 (s : tt_St) (x0 : Int32) : Option (Int32 × tt_St) :=
  (fW_turns s x0 (2 : Int32) (0 : Int32)).bind fun r1 => some (r1.1, r1.2)
abbrev rmT_lambda_fall_7_0 : Room := { frames := 1, cells := 0, slots := 0, locals := 23 }
set_option maxHeartbeats 4000000 in
theorem mT_lambda_fall_7_0 (l : Launch) (D : va_G) (dA : Nat → ClassId) (A : Nat → Prop) (b : Bool) (lc : Nat → Nat → Nat) (s : tt_St) (x0 : Int32) {Q : Option Value → (Nat → Nat → Nat) → tt_St → Prop} (h : Ok (fT_lambda_fall_7_0 s x0) (fun r => zB r.1 → Q (some (.int r.1)) lc r.2)) : tt_Sp (XW l D dA A b) yX1_lambda_fall_7 cX1_lambda_fall_7 2 (some .boolean) rmT_lambda_fall_7_0 [.int x0, .ref (lc 0 0)] lc s Q := by
  refine tt_Sp.ofV plX1 kokW (Nat.le_of_ble_eq_true rfl) ?_
  show tt_V (XW l D dA A b) cX1_lambda_fall_7 (RX1, 2, (some .boolean), rmT_lambda_fall_7_0, tt_nt) (tt_fn (XW l D dA A b) (RX1, 2, (some .boolean), rmT_lambda_fall_7_0, tt_nt) Q) 0 [(0, .int x0), (1, .ref (lc 0 0))] [] lc s 0 0
  unfold fT_lambda_fall_7_0 at h
  refine v_aload_n 1 dX1_lambda_fall_7_0 rfl ?_
  refine v_iload_n 0 dX1_lambda_fall_7_1 rfl ?_
  refine v_iconst dX1_lambda_fall_7_2 ic_2 ?_
  refine v_iconst dX1_lambda_fall_7_3 ic_0 ?_
  refine cW_X1_457_0 (Ok.bind h) ⟨Nat.le_of_ble_eq_true rfl, Nat.le_of_ble_eq_true rfl⟩ (Nat.le_of_ble_eq_true rfl) dX1_lambda_fall_7_4 (fun r1 z_r1 h => ?_)
  have h := Ok.ret h
  exact v_zret rfl z_r1 (Nat.zero_le _) (Nat.zero_le _) dX1_lambda_fall_7_7 (h z_r1)
theorem cW_X1_461_0 {l : Launch} {D : va_G} {dA : Nat → ClassId} {A : Nat → Prop} {b : Bool} {lc : Nat → Nat → Nat} {s : tt_St} {cc : ByteArray} {nl : Nat} {rt : Option FieldType} {rm : Room} {tn : tt_Tn} {Q : tt_Fin} {pc : Nat} {lv : List (Nat × Value)} {rest : List Value} {ck cn : Nat} {x1 : Int32} {x2 : Int32} {K : Int32 × tt_St → Prop} (h : Ok (fW_grows s x1 x2) K) (hR : 13 + 1 ≤ rm.frames ∧ 8 + (4 + 11) + 307 ≤ rm.locals) (hW : (rest.map fun v => v.category).sum ≤ 8) (d : decode cc pc = .ok (.invokevirtual 461, 3)) (kk : ∀ r, zB r.1 → K r → tt_V (XW l D dA A b) cc (RX1, nl, rt, rm, tn) Q (pc + 3) lv (.int r.1 :: rest) lc r.2 ck cn) (hf : ck ≤ rm.cells ∧ cn ≤ rm.slots := by exact ⟨Nat.zero_le _, Nat.zero_le _⟩) : tt_V (XW l D dA A b) cc (RX1, nl, rt, rm, tn) Q pc lv (.int x2 :: .int x1 :: .ref (lc 0 0) :: rest) lc s ck cn :=
  v_callV (kd := 0) (i := 0) (nA := 2) (As := [.int x1, .int x2]) lvW_0 oW_0 rfl (mW_grows l D dA A b lc s x1 x2 (Q := (fun v lc' s' => ∃ r, zB r.1 ∧ K r ∧ v = some (.int r.1) ∧ lc' = lc ∧ s' = r.2)) (h.mono (fun r hr => fun hz => ⟨r, hz, hr, rfl, rfl, rfl⟩))) (lw_V q1179 q1180 q1181 q128 q1182) (by decide +kernel) rfl hR hW hf d rfl (fun v lc' s' q => by obtain ⟨r, hz, hr, e1, e2, e3⟩ := q; rw [e1, e2, e3]; exact kk r hz hr)
def fT_lambda_grow_5_0 (s : tt_St) (x0 : Int32) (x1 : Int32) : Option (Int32 × tt_St) :=
  (fW_grows s x0 x1).bind fun r1 => some (r1.1, r1.2)
abbrev rmT_lambda_grow_5_0 : Room := { frames := 14, cells := 0, slots := 0, locals := 330 }
set_option maxHeartbeats 4000000 in
theorem mT_lambda_grow_5_0 (l : Launch) (D : va_G) (dA : Nat → ClassId) (A : Nat → Prop) (b : Bool) (lc : Nat → Nat → Nat) (s : tt_St) (x0 : Int32) (x1 : Int32) {Q : Option Value → (Nat → Nat → Nat) → tt_St → Prop} (h : Ok (fT_lambda_grow_5_0 s x0 x1) (fun r => zB r.1 → Q (some (.int r.1)) lc r.2)) : tt_Sp (XW l D dA A b) yX1_lambda_grow_5 cX1_lambda_grow_5 3 (some .boolean) rmT_lambda_grow_5_0 [.int x0, .int x1, .ref (lc 0 0)] lc s Q := by
  refine tt_Sp.ofV plX1 kokW (Nat.le_of_ble_eq_true rfl) ?_
  show tt_V (XW l D dA A b) cX1_lambda_grow_5 (RX1, 3, (some .boolean), rmT_lambda_grow_5_0, tt_nt) (tt_fn (XW l D dA A b) (RX1, 3, (some .boolean), rmT_lambda_grow_5_0, tt_nt) Q) 0 [(0, .int x0), (1, .int x1), (2, .ref (lc 0 0))] [] lc s 0 0
  unfold fT_lambda_grow_5_0 at h
  refine v_aload_n 2 dX1_lambda_grow_5_0 rfl ?_
  refine v_iload_n 0 dX1_lambda_grow_5_1 rfl ?_
  refine v_iload_n 1 dX1_lambda_grow_5_2 rfl ?_
  refine cW_X1_461_0 (Ok.bind h) ⟨Nat.le_of_ble_eq_true rfl, Nat.le_of_ble_eq_true rfl⟩ (Nat.le_of_ble_eq_true rfl) dX1_lambda_grow_5_3 (fun r1 z_r1 h => ?_)
  have h := Ok.ret h
  exact v_zret rfl z_r1 (Nat.zero_le _) (Nat.zero_le _) dX1_lambda_grow_5_6 (h z_r1)
theorem cW_X1_465_0 {l : Launch} {D : va_G} {dA : Nat → ClassId} {A : Nat → Prop} {b : Bool} {lc : Nat → Nat → Nat} {s : tt_St} {cc : ByteArray} {nl : Nat} {rt : Option FieldType} {rm : Room} {tn : tt_Tn} {Q : tt_Fin} {pc : Nat} {lv : List (Nat × Value)} {rest : List Value} {ck cn : Nat} {x1 : Int32} {x2 : Int32} {x3 : Int32} {x4 : Int32} {x5 : Int32} {K : Int32 × tt_St → Prop} (h : Ok (fW_isHarmed s x1 x2 x3 x4 x5) K) (hR : 13 + 1 ≤ rm.frames ∧ 8 + (7 + 11) + 307 ≤ rm.locals) (hW : (rest.map fun v => v.category).sum ≤ 8) (d : decode cc pc = .ok (.invokevirtual 465, 3)) (kk : ∀ r, zB r.1 → K r → tt_V (XW l D dA A b) cc (RX1, nl, rt, rm, tn) Q (pc + 3) lv (.int r.1 :: rest) lc r.2 ck cn) (hf : ck ≤ rm.cells ∧ cn ≤ rm.slots := by exact ⟨Nat.zero_le _, Nat.zero_le _⟩) : tt_V (XW l D dA A b) cc (RX1, nl, rt, rm, tn) Q pc lv (.int x5 :: .int x4 :: .int x3 :: .int x2 :: .int x1 :: .ref (lc 0 0) :: rest) lc s ck cn :=
  v_callV (kd := 0) (i := 0) (nA := 5) (As := [.int x1, .int x2, .int x3, .int x4, .int x5]) lvW_0 oW_0 rfl (mW_isHarmed l D dA A b lc s x1 x2 x3 x4 x5 (Q := (fun v lc' s' => ∃ r, zB r.1 ∧ K r ∧ v = some (.int r.1) ∧ lc' = lc ∧ s' = r.2)) (h.mono (fun r hr => fun hz => ⟨r, hz, hr, rfl, rfl, rfl⟩))) (lw_V q1118 q1119 q1120 q128 q1121) (by decide +kernel) rfl hR hW hf d rfl (fun v lc' s' q => by obtain ⟨r, hz, hr, e1, e2, e3⟩ := q; rw [e1, e2, e3]; exact kk r hz hr)
def fT_lambda_harm_4_0 (s : tt_St) (x0 : Int32) (x1 : Int32) (x2 : Int32) (x3 : Int32) (x4 : Int32) : Option (Int32 × tt_St) :=
  (fW_isHarmed s x0 x1 x2 x3 x4).bind fun r1 => some (r1.1, r1.2)
abbrev rmT_lambda_harm_4_0 : Room := { frames := 14, cells := 0, slots := 0, locals := 333 }
set_option maxHeartbeats 4000000 in
theorem mT_lambda_harm_4_0 (l : Launch) (D : va_G) (dA : Nat → ClassId) (A : Nat → Prop) (b : Bool) (lc : Nat → Nat → Nat) (s : tt_St) (x0 : Int32) (x1 : Int32) (x2 : Int32) (x3 : Int32) (x4 : Int32) {Q : Option Value → (Nat → Nat → Nat) → tt_St → Prop} (h : Ok (fT_lambda_harm_4_0 s x0 x1 x2 x3 x4) (fun r => zB r.1 → Q (some (.int r.1)) lc r.2)) : tt_Sp (XW l D dA A b) yX1_lambda_harm_4 cX1_lambda_harm_4 6 (some .boolean) rmT_lambda_harm_4_0 [.int x0, .int x1, .int x2, .int x3, .int x4, .ref (lc 0 0)] lc s Q := by
  refine tt_Sp.ofV plX1 kokW (Nat.le_of_ble_eq_true rfl) ?_
  show tt_V (XW l D dA A b) cX1_lambda_harm_4 (RX1, 6, (some .boolean), rmT_lambda_harm_4_0, tt_nt) (tt_fn (XW l D dA A b) (RX1, 6, (some .boolean), rmT_lambda_harm_4_0, tt_nt) Q) 0 [(0, .int x0), (1, .int x1), (2, .int x2), (3, .int x3), (4, .int x4), (5, .ref (lc 0 0))] [] lc s 0 0
  unfold fT_lambda_harm_4_0 at h
  refine v_aload 5 dX1_lambda_harm_4_0 rfl ?_
  refine v_iload_n 0 dX1_lambda_harm_4_2 rfl ?_
  refine v_iload_n 1 dX1_lambda_harm_4_3 rfl ?_
  refine v_iload_n 2 dX1_lambda_harm_4_4 rfl ?_
  refine v_iload_n 3 dX1_lambda_harm_4_5 rfl ?_
  refine v_iload 4 dX1_lambda_harm_4_6 rfl ?_
  refine cW_X1_465_0 (Ok.bind h) ⟨Nat.le_of_ble_eq_true rfl, Nat.le_of_ble_eq_true rfl⟩ (Nat.le_of_ble_eq_true rfl) dX1_lambda_harm_4_8 (fun r1 z_r1 h => ?_)
  have h := Ok.ret h
  exact v_zret rfl z_r1 (Nat.zero_le _) (Nat.zero_le _) dX1_lambda_harm_4_11 (h z_r1)
theorem cW_X1_311_2 {l : Launch} {D : va_G} {dA : Nat → ClassId} {A : Nat → Prop} {b : Bool} {lc : Nat → Nat → Nat} {s : tt_St} {cc : ByteArray} {nl : Nat} {rt : Option FieldType} {rm : Room} {tn : tt_Tn} {Q : tt_Fin} {pc : Nat} {lv : List (Nat × Value)} {rest : List Value} {ck cn : Nat} {x0 : Nat} {x1 : Int32} (hx0 : x0 < 40) {K : Int32 → Prop} (h : Ok (fY_tenthsOf s x0 x1) K) (hR : 0 + 1 ≤ rm.frames ∧ 8 + (3 + 11) + 0 ≤ rm.locals) (hW : (rest.map fun v => v.category).sum ≤ 8) (d : decode cc pc = .ok (.invokevirtual 311, 3)) (kk : ∀ r, K r → tt_V (XW l D dA A b) cc (RX1, nl, rt, rm, tn) Q (pc + 3) lv (.int r :: rest) lc s ck cn) (hf : ck ≤ rm.cells ∧ cn ≤ rm.slots := by exact ⟨Nat.zero_le _, Nat.zero_le _⟩) : tt_V (XW l D dA A b) cc (RX1, nl, rt, rm, tn) Q pc lv (.int x1 :: .ref (lc 2 x0) :: rest) lc s ck cn :=
  v_callV (kd := 2) (i := x0) (nA := 1) (As := [.int x1]) (lvW_2 hx0) oW_2 rfl (mY_tenthsOf l D dA A b lc s x0 x1 hx0 (Q := (fun v lc' s' => ∃ r, K r ∧ v = some (.int r) ∧ lc' = lc ∧ s' = s)) (h.mono (fun r hr => ⟨r, hr, rfl, rfl, rfl⟩))) (lw_V q1368 q1056 q1057 q139 q1058) (by decide +kernel) rfl hR hW hf d rfl (fun v lc' s' q => by obtain ⟨r, hr, e1, e2, e3⟩ := q; rw [e1, e2, e3]; exact kk r hr)
def fT_lambda_holds_15 (s : tt_St) (x0 : Int32) (x1 : Int32) (x2 : Nat) : Option (Int64) :=
  if x0 < (rdI s 2 x2 5) then some (0 : Int64) else (fY_top s x2).bind fun r2 => if r2 ≤ x0 then some (0 : Int64) else (fY_tenthsOf s x2 x1).bind fun r4 => some r4.toInt64
abbrev rmT_lambda_holds_15_2 : Room := { frames := 1, cells := 0, slots := 0, locals := 22 }
set_option maxHeartbeats 4000000 in
theorem mT_lambda_holds_15_2 (l : Launch) (D : va_G) (dA : Nat → ClassId) (A : Nat → Prop) (b : Bool) (lc : Nat → Nat → Nat) (s : tt_St) (x0 : Int32) (x1 : Int32) (x2 : Nat) (hx2 : x2 < 40) {Q : Option Value → (Nat → Nat → Nat) → tt_St → Prop} (h : Ok (fT_lambda_holds_15 s x0 x1 x2) (fun r => Q (some (.long r)) lc s)) : tt_Sp (XW l D dA A b) yX1_lambda_holds_15 cX1_lambda_holds_15 3 (some .long) rmT_lambda_holds_15_2 [.int x0, .int x1, .ref (lc 2 x2)] lc s Q := by
  refine tt_Sp.ofV plX1 kokW (Nat.le_of_ble_eq_true rfl) ?_
  show tt_V (XW l D dA A b) cX1_lambda_holds_15 (RX1, 3, (some .long), rmT_lambda_holds_15_2, tt_nt) (tt_fn (XW l D dA A b) (RX1, 3, (some .long), rmT_lambda_holds_15_2, tt_nt) Q) 0 [(0, .int x0), (1, .int x1), (2, .ref (lc 2 x2))] [] lc s 0 0
  unfold fT_lambda_holds_15 at h
  refine v_aload_n 2 dX1_lambda_holds_15_0 rfl ?_
  refine gW_X1_207_2 hx2 dX1_lambda_holds_15_1 ?_
  refine v_iload_n 0 dX1_lambda_holds_15_4 rfl ?_
  refine v_icmp_gt (tgt := 25) dX1_lambda_holds_15_5 rfl (fun c1 => ?_) (fun c1 => ?_)
  · have h := Ok.pos h c1
    refine v_lconst dX1_lambda_holds_15_25 kl_0 ?_
    have h := Ok.ret h
    exact v_lret rfl (Nat.zero_le _) (Nat.zero_le _) dX1_lambda_holds_15_26 h
  · have h := Ok.neg h c1
    refine v_iload_n 0 dX1_lambda_holds_15_8 rfl ?_
    refine v_aload_n 2 dX1_lambda_holds_15_9 rfl ?_
    refine cW_X1_255_2 hx2 (Ok.bind h) ⟨Nat.le_of_ble_eq_true rfl, Nat.le_of_ble_eq_true rfl⟩ (Nat.le_of_ble_eq_true rfl) dX1_lambda_holds_15_10 (fun r2 h => ?_)
    refine v_icmp_ge (tgt := 25) dX1_lambda_holds_15_13 rfl (fun c3 => ?_) (fun c3 => ?_)
    · have h := Ok.pos h c3
      refine v_lconst dX1_lambda_holds_15_25 kl_0 ?_
      have h := Ok.ret h
      exact v_lret rfl (Nat.zero_le _) (Nat.zero_le _) dX1_lambda_holds_15_26 h
    · have h := Ok.neg h c3
      refine v_aload_n 2 dX1_lambda_holds_15_16 rfl ?_
      refine v_iload_n 1 dX1_lambda_holds_15_17 rfl ?_
      refine cW_X1_311_2 hx2 (Ok.bind h) ⟨Nat.le_of_ble_eq_true rfl, Nat.le_of_ble_eq_true rfl⟩ (Nat.le_of_ble_eq_true rfl) dX1_lambda_holds_15_18 (fun r4 h => ?_)
      refine v_i2l dX1_lambda_holds_15_21 rfl ?_
      refine v_goto (tgt := 26) dX1_lambda_holds_15_22 rfl ?_
      have h := Ok.ret h
      exact v_lret rfl (Nat.zero_le _) (Nat.zero_le _) dX1_lambda_holds_15_26 h
theorem cW_X1_472_0 {l : Launch} {D : va_G} {dA : Nat → ClassId} {A : Nat → Prop} {b : Bool} {lc : Nat → Nat → Nat} {s : tt_St} {cc : ByteArray} {nl : Nat} {rt : Option FieldType} {rm : Room} {tn : tt_Tn} {Q : tt_Fin} {pc : Nat} {lv : List (Nat × Value)} {rest : List Value} {ck cn : Nat} {x1 : Int32} {K : Int32 × tt_St → Prop} (h : Ok (fW_goesWithout s x1) K) (hR : 1 + 1 ≤ rm.frames ∧ 8 + (2 + 11) + 21 ≤ rm.locals) (hW : (rest.map fun v => v.category).sum ≤ 8) (d : decode cc pc = .ok (.invokevirtual 472, 3)) (kk : ∀ r, zB r.1 → K r → tt_V (XW l D dA A b) cc (RX1, nl, rt, rm, tn) Q (pc + 3) lv (.int r.1 :: rest) lc r.2 ck cn) (hf : ck ≤ rm.cells ∧ cn ≤ rm.slots := by exact ⟨Nat.zero_le _, Nat.zero_le _⟩) : tt_V (XW l D dA A b) cc (RX1, nl, rt, rm, tn) Q pc lv (.int x1 :: .ref (lc 0 0) :: rest) lc s ck cn :=
  v_callV (kd := 0) (i := 0) (nA := 1) (As := [.int x1]) lvW_0 oW_0 rfl (mW_goesWithout l D dA A b lc s x1 (Q := (fun v lc' s' => ∃ r, zB r.1 ∧ K r ∧ v = some (.int r.1) ∧ lc' = lc ∧ s' = r.2)) (h.mono (fun r hr => fun hz => ⟨r, hz, hr, rfl, rfl, rfl⟩))) (lw_V q1077 q1078 q1079 q128 q1080) (by decide +kernel) rfl hR hW hf d rfl (fun v lc' s' q => by obtain ⟨r, hz, hr, e1, e2, e3⟩ := q; rw [e1, e2, e3]; exact kk r hz hr)
def fT_lambda_lack_2_0 (s : tt_St) (x0 : Int32) : Option (Int32 × tt_St) :=
  (fW_goesWithout s x0).bind fun r1 => some (r1.1, r1.2)
abbrev rmT_lambda_lack_2_0 : Room := { frames := 2, cells := 0, slots := 0, locals := 42 }
set_option maxHeartbeats 4000000 in
theorem mT_lambda_lack_2_0 (l : Launch) (D : va_G) (dA : Nat → ClassId) (A : Nat → Prop) (b : Bool) (lc : Nat → Nat → Nat) (s : tt_St) (x0 : Int32) {Q : Option Value → (Nat → Nat → Nat) → tt_St → Prop} (h : Ok (fT_lambda_lack_2_0 s x0) (fun r => zB r.1 → Q (some (.int r.1)) lc r.2)) : tt_Sp (XW l D dA A b) yX1_lambda_lack_2 cX1_lambda_lack_2 2 (some .boolean) rmT_lambda_lack_2_0 [.int x0, .ref (lc 0 0)] lc s Q := by
  refine tt_Sp.ofV plX1 kokW (Nat.le_of_ble_eq_true rfl) ?_
  show tt_V (XW l D dA A b) cX1_lambda_lack_2 (RX1, 2, (some .boolean), rmT_lambda_lack_2_0, tt_nt) (tt_fn (XW l D dA A b) (RX1, 2, (some .boolean), rmT_lambda_lack_2_0, tt_nt) Q) 0 [(0, .int x0), (1, .ref (lc 0 0))] [] lc s 0 0
  unfold fT_lambda_lack_2_0 at h
  refine v_aload_n 1 dX1_lambda_lack_2_0 rfl ?_
  refine v_iload_n 0 dX1_lambda_lack_2_1 rfl ?_
  refine cW_X1_472_0 (Ok.bind h) ⟨Nat.le_of_ble_eq_true rfl, Nat.le_of_ble_eq_true rfl⟩ (Nat.le_of_ble_eq_true rfl) dX1_lambda_lack_2_2 (fun r1 z_r1 h => ?_)
  have h := Ok.ret h
  exact v_zret rfl z_r1 (Nat.zero_le _) (Nat.zero_le _) dX1_lambda_lack_2_5 (h z_r1)
theorem cW_X1_478_0 {l : Launch} {D : va_G} {dA : Nat → ClassId} {A : Nat → Prop} {b : Bool} {lc : Nat → Nat → Nat} {s : tt_St} {cc : ByteArray} {nl : Nat} {rt : Option FieldType} {rm : Room} {tn : tt_Tn} {Q : tt_Fin} {pc : Nat} {lv : List (Nat × Value)} {rest : List Value} {ck cn : Nat} {x1 : Int32} {x2 : Int32} {x3 : Int32} {x4 : Int32} {x5 : Int32} {K : Int32 × tt_St → Prop} (h : Ok (fW_places s x1 x2 x3 x4 x5) K) (hR : 2 + 1 ≤ rm.frames ∧ 8 + (7 + 11) + 42 ≤ rm.locals) (hW : (rest.map fun v => v.category).sum ≤ 8) (d : decode cc pc = .ok (.invokevirtual 478, 3)) (kk : ∀ r, zB r.1 → K r → tt_V (XW l D dA A b) cc (RX1, nl, rt, rm, tn) Q (pc + 3) lv (.int r.1 :: rest) lc r.2 ck cn) (hf : ck ≤ rm.cells ∧ cn ≤ rm.slots := by exact ⟨Nat.zero_le _, Nat.zero_le _⟩) : tt_V (XW l D dA A b) cc (RX1, nl, rt, rm, tn) Q pc lv (.int x5 :: .int x4 :: .int x3 :: .int x2 :: .int x1 :: .ref (lc 0 0) :: rest) lc s ck cn :=
  v_callV (kd := 0) (i := 0) (nA := 5) (As := [.int x1, .int x2, .int x3, .int x4, .int x5]) lvW_0 oW_0 rfl (mW_places l D dA A b lc s x1 x2 x3 x4 x5 (Q := (fun v lc' s' => ∃ r, zB r.1 ∧ K r ∧ v = some (.int r.1) ∧ lc' = lc ∧ s' = r.2)) (h.mono (fun r hr => fun hz => ⟨r, hz, hr, rfl, rfl, rfl⟩))) (lw_V q960 q961 q962 q128 q963) (by decide +kernel) rfl hR hW hf d rfl (fun v lc' s' q => by obtain ⟨r, hz, hr, e1, e2, e3⟩ := q; rw [e1, e2, e3]; exact kk r hz hr)
def fT_lambda_place_0_0 (s : tt_St) (x0 : Int32) (x1 : Int32) (x2 : Int32) (x3 : Int32) (x4 : Int32) : Option (Int32 × tt_St) :=
  (fW_places s x0 x1 x2 x3 x4).bind fun r1 => some (r1.1, r1.2)
abbrev rmT_lambda_place_0_0 : Room := { frames := 3, cells := 0, slots := 0, locals := 68 }
set_option maxHeartbeats 4000000 in
theorem mT_lambda_place_0_0 (l : Launch) (D : va_G) (dA : Nat → ClassId) (A : Nat → Prop) (b : Bool) (lc : Nat → Nat → Nat) (s : tt_St) (x0 : Int32) (x1 : Int32) (x2 : Int32) (x3 : Int32) (x4 : Int32) {Q : Option Value → (Nat → Nat → Nat) → tt_St → Prop} (h : Ok (fT_lambda_place_0_0 s x0 x1 x2 x3 x4) (fun r => zB r.1 → Q (some (.int r.1)) lc r.2)) : tt_Sp (XW l D dA A b) yX1_lambda_place_0 cX1_lambda_place_0 6 (some .boolean) rmT_lambda_place_0_0 [.int x0, .int x1, .int x2, .int x3, .int x4, .ref (lc 0 0)] lc s Q := by
  refine tt_Sp.ofV plX1 kokW (Nat.le_of_ble_eq_true rfl) ?_
  show tt_V (XW l D dA A b) cX1_lambda_place_0 (RX1, 6, (some .boolean), rmT_lambda_place_0_0, tt_nt) (tt_fn (XW l D dA A b) (RX1, 6, (some .boolean), rmT_lambda_place_0_0, tt_nt) Q) 0 [(0, .int x0), (1, .int x1), (2, .int x2), (3, .int x3), (4, .int x4), (5, .ref (lc 0 0))] [] lc s 0 0
  unfold fT_lambda_place_0_0 at h
  refine v_aload 5 dX1_lambda_place_0_0 rfl ?_
  refine v_iload_n 0 dX1_lambda_place_0_2 rfl ?_
  refine v_iload_n 1 dX1_lambda_place_0_3 rfl ?_
  refine v_iload_n 2 dX1_lambda_place_0_4 rfl ?_
  refine v_iload_n 3 dX1_lambda_place_0_5 rfl ?_
  refine v_iload 4 dX1_lambda_place_0_6 rfl ?_
  refine cW_X1_478_0 (Ok.bind h) ⟨Nat.le_of_ble_eq_true rfl, Nat.le_of_ble_eq_true rfl⟩ (Nat.le_of_ble_eq_true rfl) dX1_lambda_place_0_8 (fun r1 z_r1 h => ?_)
  have h := Ok.ret h
  exact v_zret rfl z_r1 (Nat.zero_le _) (Nat.zero_le _) dX1_lambda_place_0_11 (h z_r1)
theorem cW_X1_454_0 {l : Launch} {D : va_G} {dA : Nat → ClassId} {A : Nat → Prop} {b : Bool} {lc : Nat → Nat → Nat} {s : tt_St} {cc : ByteArray} {nl : Nat} {rt : Option FieldType} {rm : Room} {tn : tt_Tn} {Q : tt_Fin} {pc : Nat} {lv : List (Nat × Value)} {rest : List Value} {ck cn : Nat} {x1 : Int32} {K : Int32 × tt_St → Prop} (h : Ok (fW_opensAgain s x1) K) (hR : 13 + 1 ≤ rm.frames ∧ 8 + (5 + 11) + 307 ≤ rm.locals) (hW : (rest.map fun v => v.category).sum ≤ 8) (d : decode cc pc = .ok (.invokevirtual 454, 3)) (kk : ∀ r, zB r.1 → K r → tt_V (XW l D dA A b) cc (RX1, nl, rt, rm, tn) Q (pc + 3) lv (.int r.1 :: rest) lc r.2 ck cn) (hf : ck ≤ rm.cells ∧ cn ≤ rm.slots := by exact ⟨Nat.zero_le _, Nat.zero_le _⟩) : tt_V (XW l D dA A b) cc (RX1, nl, rt, rm, tn) Q pc lv (.int x1 :: .ref (lc 0 0) :: rest) lc s ck cn :=
  v_callV (kd := 0) (i := 0) (nA := 1) (As := [.int x1]) lvW_0 oW_0 rfl (mW_opensAgain l D dA A b lc s x1 (Q := (fun v lc' s' => ∃ r, zB r.1 ∧ K r ∧ v = some (.int r.1) ∧ lc' = lc ∧ s' = r.2)) (h.mono (fun r hr => fun hz => ⟨r, hz, hr, rfl, rfl, rfl⟩))) (lw_V q1218 q1219 q1220 q128 q1221) (by decide +kernel) rfl hR hW hf d rfl (fun v lc' s' q => by obtain ⟨r, hz, hr, e1, e2, e3⟩ := q; rw [e1, e2, e3]; exact kk r hz hr)
def fT_lambda_reopen_8_0 (s : tt_St) (x0 : Int32) : Option (Int32 × tt_St) :=
  (fW_opensAgain s x0).bind fun r1 => some (r1.1, r1.2)
abbrev rmT_lambda_reopen_8_0 : Room := { frames := 14, cells := 0, slots := 0, locals := 331 }
set_option maxHeartbeats 4000000 in
theorem mT_lambda_reopen_8_0 (l : Launch) (D : va_G) (dA : Nat → ClassId) (A : Nat → Prop) (b : Bool) (lc : Nat → Nat → Nat) (s : tt_St) (x0 : Int32) {Q : Option Value → (Nat → Nat → Nat) → tt_St → Prop} (h : Ok (fT_lambda_reopen_8_0 s x0) (fun r => zB r.1 → Q (some (.int r.1)) lc r.2)) : tt_Sp (XW l D dA A b) yX1_lambda_reopen_8 cX1_lambda_reopen_8 2 (some .boolean) rmT_lambda_reopen_8_0 [.int x0, .ref (lc 0 0)] lc s Q := by
  refine tt_Sp.ofV plX1 kokW (Nat.le_of_ble_eq_true rfl) ?_
  show tt_V (XW l D dA A b) cX1_lambda_reopen_8 (RX1, 2, (some .boolean), rmT_lambda_reopen_8_0, tt_nt) (tt_fn (XW l D dA A b) (RX1, 2, (some .boolean), rmT_lambda_reopen_8_0, tt_nt) Q) 0 [(0, .int x0), (1, .ref (lc 0 0))] [] lc s 0 0
  unfold fT_lambda_reopen_8_0 at h
  refine v_aload_n 1 dX1_lambda_reopen_8_0 rfl ?_
  refine v_iload_n 0 dX1_lambda_reopen_8_1 rfl ?_
  refine cW_X1_454_0 (Ok.bind h) ⟨Nat.le_of_ble_eq_true rfl, Nat.le_of_ble_eq_true rfl⟩ (Nat.le_of_ble_eq_true rfl) dX1_lambda_reopen_8_2 (fun r1 z_r1 h => ?_)
  have h := Ok.ret h
  exact v_zret rfl z_r1 (Nat.zero_le _) (Nat.zero_le _) dX1_lambda_reopen_8_5 (h z_r1)
theorem cW_X1_469_0 {l : Launch} {D : va_G} {dA : Nat → ClassId} {A : Nat → Prop} {b : Bool} {lc : Nat → Nat → Nat} {s : tt_St} {cc : ByteArray} {nl : Nat} {rt : Option FieldType} {rm : Room} {tn : tt_Tn} {Q : tt_Fin} {pc : Nat} {lv : List (Nat × Value)} {rest : List Value} {ck cn : Nat} {x1 : Int32} {x2 : Int32} {x3 : Int32} {K : Int32 × tt_St → Prop} (h : Ok (fW_rulesBy s x1 x2 x3) K) (hR : 0 + 1 ≤ rm.frames ∧ 8 + (4 + 11) + 0 ≤ rm.locals) (hW : (rest.map fun v => v.category).sum ≤ 8) (d : decode cc pc = .ok (.invokevirtual 469, 3)) (kk : ∀ r, zB r.1 → K r → tt_V (XW l D dA A b) cc (RX1, nl, rt, rm, tn) Q (pc + 3) lv (.int r.1 :: rest) lc r.2 ck cn) (hf : ck ≤ rm.cells ∧ cn ≤ rm.slots := by exact ⟨Nat.zero_le _, Nat.zero_le _⟩) : tt_V (XW l D dA A b) cc (RX1, nl, rt, rm, tn) Q pc lv (.int x3 :: .int x2 :: .int x1 :: .ref (lc 0 0) :: rest) lc s ck cn :=
  v_callV (kd := 0) (i := 0) (nA := 3) (As := [.int x1, .int x2, .int x3]) lvW_0 oW_0 rfl (mW_rulesBy l D dA A b lc s x1 x2 x3 (Q := (fun v lc' s' => ∃ r, zB r.1 ∧ K r ∧ v = some (.int r.1) ∧ lc' = lc ∧ s' = r.2)) (h.mono (fun r hr => fun hz => ⟨r, hz, hr, rfl, rfl, rfl⟩))) (lw_V q1100 q1101 q1102 q128 q1103) (by decide +kernel) rfl hR hW hf d rfl (fun v lc' s' q => by obtain ⟨r, hz, hr, e1, e2, e3⟩ := q; rw [e1, e2, e3]; exact kk r hz hr)
def fT_lambda_rules_3_0 (s : tt_St) (x0 : Int32) (x1 : Int32) (x2 : Int32) : Option (Int32 × tt_St) :=
  (fW_rulesBy s x0 x1 x2).bind fun r1 => some (r1.1, r1.2)
abbrev rmT_lambda_rules_3_0 : Room := { frames := 1, cells := 0, slots := 0, locals := 23 }
set_option maxHeartbeats 4000000 in
theorem mT_lambda_rules_3_0 (l : Launch) (D : va_G) (dA : Nat → ClassId) (A : Nat → Prop) (b : Bool) (lc : Nat → Nat → Nat) (s : tt_St) (x0 : Int32) (x1 : Int32) (x2 : Int32) {Q : Option Value → (Nat → Nat → Nat) → tt_St → Prop} (h : Ok (fT_lambda_rules_3_0 s x0 x1 x2) (fun r => zB r.1 → Q (some (.int r.1)) lc r.2)) : tt_Sp (XW l D dA A b) yX1_lambda_rules_3 cX1_lambda_rules_3 4 (some .boolean) rmT_lambda_rules_3_0 [.int x0, .int x1, .int x2, .ref (lc 0 0)] lc s Q := by
  refine tt_Sp.ofV plX1 kokW (Nat.le_of_ble_eq_true rfl) ?_
  show tt_V (XW l D dA A b) cX1_lambda_rules_3 (RX1, 4, (some .boolean), rmT_lambda_rules_3_0, tt_nt) (tt_fn (XW l D dA A b) (RX1, 4, (some .boolean), rmT_lambda_rules_3_0, tt_nt) Q) 0 [(0, .int x0), (1, .int x1), (2, .int x2), (3, .ref (lc 0 0))] [] lc s 0 0
  unfold fT_lambda_rules_3_0 at h
  refine v_aload_n 3 dX1_lambda_rules_3_0 rfl ?_
  refine v_iload_n 0 dX1_lambda_rules_3_1 rfl ?_
  refine v_iload_n 1 dX1_lambda_rules_3_2 rfl ?_
  refine v_iload_n 2 dX1_lambda_rules_3_3 rfl ?_
  refine cW_X1_469_0 (Ok.bind h) ⟨Nat.le_of_ble_eq_true rfl, Nat.le_of_ble_eq_true rfl⟩ (Nat.le_of_ble_eq_true rfl) dX1_lambda_rules_3_4 (fun r1 z_r1 h => ?_)
  have h := Ok.ret h
  exact v_zret rfl z_r1 (Nat.zero_le _) (Nat.zero_le _) dX1_lambda_rules_3_7 (h z_r1)
def fT_lambda_settle_6_0 (s : tt_St) (x0 : Int32) (x1 : Int32) : Option (Int32 × tt_St) :=
  (fW_turns s x0 (1 : Int32) x1).bind fun r1 => some (r1.1, r1.2)
abbrev rmT_lambda_settle_6_0 : Room := { frames := 1, cells := 0, slots := 0, locals := 23 }
set_option maxHeartbeats 4000000 in
theorem mT_lambda_settle_6_0 (l : Launch) (D : va_G) (dA : Nat → ClassId) (A : Nat → Prop) (b : Bool) (lc : Nat → Nat → Nat) (s : tt_St) (x0 : Int32) (x1 : Int32) {Q : Option Value → (Nat → Nat → Nat) → tt_St → Prop} (h : Ok (fT_lambda_settle_6_0 s x0 x1) (fun r => zB r.1 → Q (some (.int r.1)) lc r.2)) : tt_Sp (XW l D dA A b) yX1_lambda_settle_6 cX1_lambda_settle_6 3 (some .boolean) rmT_lambda_settle_6_0 [.int x0, .int x1, .ref (lc 0 0)] lc s Q := by
  refine tt_Sp.ofV plX1 kokW (Nat.le_of_ble_eq_true rfl) ?_
  show tt_V (XW l D dA A b) cX1_lambda_settle_6 (RX1, 3, (some .boolean), rmT_lambda_settle_6_0, tt_nt) (tt_fn (XW l D dA A b) (RX1, 3, (some .boolean), rmT_lambda_settle_6_0, tt_nt) Q) 0 [(0, .int x0), (1, .int x1), (2, .ref (lc 0 0))] [] lc s 0 0
  unfold fT_lambda_settle_6_0 at h
  refine v_aload_n 2 dX1_lambda_settle_6_0 rfl ?_
  refine v_iload_n 0 dX1_lambda_settle_6_1 rfl ?_
  refine v_iconst dX1_lambda_settle_6_2 ic_1 ?_
  refine v_iload_n 1 dX1_lambda_settle_6_3 rfl ?_
  refine cW_X1_457_0 (Ok.bind h) ⟨Nat.le_of_ble_eq_true rfl, Nat.le_of_ble_eq_true rfl⟩ (Nat.le_of_ble_eq_true rfl) dX1_lambda_settle_6_4 (fun r1 z_r1 h => ?_)
  have h := Ok.ret h
  exact v_zret rfl z_r1 (Nat.zero_le _) (Nat.zero_le _) dX1_lambda_settle_6_7 (h z_r1)
theorem cW_X1_475_0 {l : Launch} {D : va_G} {dA : Nat → ClassId} {A : Nat → Prop} {b : Bool} {lc : Nat → Nat → Nat} {s : tt_St} {cc : ByteArray} {nl : Nat} {rt : Option FieldType} {rm : Room} {tn : tt_Tn} {Q : tt_Fin} {pc : Nat} {lv : List (Nat × Value)} {rest : List Value} {ck cn : Nat} {x1 : Int32} {x2 : Int32} {x3 : Int32} {K : Int32 × tt_St → Prop} (h : Ok (fW_signs s x1 x2 x3) K) (hR : 1 + 1 ≤ rm.frames ∧ 8 + (5 + 11) + 22 ≤ rm.locals) (hW : (rest.map fun v => v.category).sum ≤ 8) (d : decode cc pc = .ok (.invokevirtual 475, 3)) (kk : ∀ r, zB r.1 → K r → tt_V (XW l D dA A b) cc (RX1, nl, rt, rm, tn) Q (pc + 3) lv (.int r.1 :: rest) lc r.2 ck cn) (hf : ck ≤ rm.cells ∧ cn ≤ rm.slots := by exact ⟨Nat.zero_le _, Nat.zero_le _⟩) : tt_V (XW l D dA A b) cc (RX1, nl, rt, rm, tn) Q pc lv (.int x3 :: .int x2 :: .int x1 :: .ref (lc 0 0) :: rest) lc s ck cn :=
  v_callV (kd := 0) (i := 0) (nA := 3) (As := [.int x1, .int x2, .int x3]) lvW_0 oW_0 rfl (mW_signs l D dA A b lc s x1 x2 x3 (Q := (fun v lc' s' => ∃ r, zB r.1 ∧ K r ∧ v = some (.int r.1) ∧ lc' = lc ∧ s' = r.2)) (h.mono (fun r hr => fun hz => ⟨r, hz, hr, rfl, rfl, rfl⟩))) (lw_V q1051 q1052 q1053 q128 q1054) (by decide +kernel) rfl hR hW hf d rfl (fun v lc' s' q => by obtain ⟨r, hz, hr, e1, e2, e3⟩ := q; rw [e1, e2, e3]; exact kk r hz hr)
def fT_lambda_sign_1_0 (s : tt_St) (x0 : Int32) (x1 : Int32) (x2 : Int32) : Option (Int32 × tt_St) :=
  (fW_signs s x0 x1 x2).bind fun r1 => some (r1.1, r1.2)
abbrev rmT_lambda_sign_1_0 : Room := { frames := 2, cells := 0, slots := 0, locals := 46 }
set_option maxHeartbeats 4000000 in
theorem mT_lambda_sign_1_0 (l : Launch) (D : va_G) (dA : Nat → ClassId) (A : Nat → Prop) (b : Bool) (lc : Nat → Nat → Nat) (s : tt_St) (x0 : Int32) (x1 : Int32) (x2 : Int32) {Q : Option Value → (Nat → Nat → Nat) → tt_St → Prop} (h : Ok (fT_lambda_sign_1_0 s x0 x1 x2) (fun r => zB r.1 → Q (some (.int r.1)) lc r.2)) : tt_Sp (XW l D dA A b) yX1_lambda_sign_1 cX1_lambda_sign_1 4 (some .boolean) rmT_lambda_sign_1_0 [.int x0, .int x1, .int x2, .ref (lc 0 0)] lc s Q := by
  refine tt_Sp.ofV plX1 kokW (Nat.le_of_ble_eq_true rfl) ?_
  show tt_V (XW l D dA A b) cX1_lambda_sign_1 (RX1, 4, (some .boolean), rmT_lambda_sign_1_0, tt_nt) (tt_fn (XW l D dA A b) (RX1, 4, (some .boolean), rmT_lambda_sign_1_0, tt_nt) Q) 0 [(0, .int x0), (1, .int x1), (2, .int x2), (3, .ref (lc 0 0))] [] lc s 0 0
  unfold fT_lambda_sign_1_0 at h
  refine v_aload_n 3 dX1_lambda_sign_1_0 rfl ?_
  refine v_iload_n 0 dX1_lambda_sign_1_1 rfl ?_
  refine v_iload_n 1 dX1_lambda_sign_1_2 rfl ?_
  refine v_iload_n 2 dX1_lambda_sign_1_3 rfl ?_
  refine cW_X1_475_0 (Ok.bind h) ⟨Nat.le_of_ble_eq_true rfl, Nat.le_of_ble_eq_true rfl⟩ (Nat.le_of_ble_eq_true rfl) dX1_lambda_sign_1_4 (fun r1 z_r1 h => ?_)
  have h := Ok.ret h
  exact v_zret rfl z_r1 (Nat.zero_le _) (Nat.zero_le _) dX1_lambda_sign_1_7 (h z_r1)
theorem cW_X1_220_2 {l : Launch} {D : va_G} {dA : Nat → ClassId} {A : Nat → Prop} {b : Bool} {lc : Nat → Nat → Nat} {s : tt_St} {cc : ByteArray} {nl : Nat} {rt : Option FieldType} {rm : Room} {tn : tt_Tn} {Q : tt_Fin} {pc : Nat} {lv : List (Nat × Value)} {rest : List Value} {ck cn : Nat} {x0 : Nat} (hx0 : x0 < 40) {K : Int64 → Prop} (h : Ok (fY_left s x0) K) (hR : 0 + 1 ≤ rm.frames ∧ 8 + (1 + 11) + 0 ≤ rm.locals) (hW : (rest.map fun v => v.category).sum ≤ 8) (d : decode cc pc = .ok (.invokevirtual 220, 3)) (kk : ∀ r, K r → tt_V (XW l D dA A b) cc (RX1, nl, rt, rm, tn) Q (pc + 3) lv (.long r :: rest) lc s ck cn) (hf : ck ≤ rm.cells ∧ cn ≤ rm.slots := by exact ⟨Nat.zero_le _, Nat.zero_le _⟩) : tt_V (XW l D dA A b) cc (RX1, nl, rt, rm, tn) Q pc lv (.ref (lc 2 x0) :: rest) lc s ck cn :=
  v_callV (kd := 2) (i := x0) (nA := 0) (As := []) (lvW_2 hx0) oW_2 rfl (mY_left l D dA A b lc s x0 hx0 (Q := (fun v lc' s' => ∃ r, K r ∧ v = some (.long r) ∧ lc' = lc ∧ s' = s)) (h.mono (fun r hr => ⟨r, hr, rfl, rfl, rfl⟩))) (lw_V q932 q515 q516 q139 q517) (by decide +kernel) rfl hR hW hf d rfl (fun v lc' s' q => by obtain ⟨r, hr, e1, e2, e3⟩ := q; rw [e1, e2, e3]; exact kk r hr)
def fT_lambda_strongest_14 (s : tt_St) (x0 : Nat) : Option (Int64) :=
  (fY_left s x0).bind fun r1 => some r1
abbrev rmT_lambda_strongest_14_2 : Room := { frames := 1, cells := 0, slots := 0, locals := 20 }
set_option maxHeartbeats 4000000 in
theorem mT_lambda_strongest_14_2 (l : Launch) (D : va_G) (dA : Nat → ClassId) (A : Nat → Prop) (b : Bool) (lc : Nat → Nat → Nat) (s : tt_St) (x0 : Nat) (hx0 : x0 < 40) {Q : Option Value → (Nat → Nat → Nat) → tt_St → Prop} (h : Ok (fT_lambda_strongest_14 s x0) (fun r => Q (some (.long r)) lc s)) : tt_Sp (XW l D dA A b) yX1_lambda_strongest_14 cX1_lambda_strongest_14 1 (some .long) rmT_lambda_strongest_14_2 [.ref (lc 2 x0)] lc s Q := by
  refine tt_Sp.ofV plX1 kokW (Nat.le_of_ble_eq_true rfl) ?_
  show tt_V (XW l D dA A b) cX1_lambda_strongest_14 (RX1, 1, (some .long), rmT_lambda_strongest_14_2, tt_nt) (tt_fn (XW l D dA A b) (RX1, 1, (some .long), rmT_lambda_strongest_14_2, tt_nt) Q) 0 [(0, .ref (lc 2 x0))] [] lc s 0 0
  unfold fT_lambda_strongest_14 at h
  refine v_aload_n 0 dX1_lambda_strongest_14_0 rfl ?_
  refine cW_X1_220_2 hx0 (Ok.bind h) ⟨Nat.le_of_ble_eq_true rfl, Nat.le_of_ble_eq_true rfl⟩ (Nat.le_of_ble_eq_true rfl) dX1_lambda_strongest_14_1 (fun r1 h => ?_)
  have h := Ok.ret h
  exact v_lret rfl (Nat.zero_le _) (Nat.zero_le _) dX1_lambda_strongest_14_4 h
theorem gW_X1_210_2 {l : Launch} {D : va_G} {dA : Nat → ClassId} {A : Nat → Prop} {b : Bool} {lc : Nat → Nat → Nat} {s : tt_St} {cc : ByteArray} {nl : Nat} {rt : Option FieldType} {rm : Room} {tn : tt_Tn} {Q : tt_Fin} {pc : Nat} {lv : List (Nat × Value)} {rest : List Value} {ck cn : Nat} {i : Nat} (hv : i < 40) (d : decode cc pc = .ok (.getfield 210, 3)) (kk : tt_V (XW l D dA A b) cc (RX1, nl, rt, rm, tn) Q (pc + 3) lv (.int (rdI s 2 i 6) :: rest) lc s ck cn) : tt_V (XW l D dA A b) cc (RX1, nl, rt, rm, tn) Q pc lv (.ref (lc 2 i) :: rest) lc s ck cn := v_getN (p := 6) knW (lvW_2 hv) oW_2 rfl in_X6 (by decide) q358 (.inl rfl) rfl d kk
def fT_lambda_year_10 (s : tt_St) (x0 : Nat) : Option (Int64) :=
  some ((rdI s 2 x0 6).toInt64)
abbrev rmT_lambda_year_10_2 : Room := { frames := 0, cells := 0, slots := 0, locals := 0 }
set_option maxHeartbeats 4000000 in
theorem mT_lambda_year_10_2 (l : Launch) (D : va_G) (dA : Nat → ClassId) (A : Nat → Prop) (b : Bool) (lc : Nat → Nat → Nat) (s : tt_St) (x0 : Nat) (hx0 : x0 < 40) {Q : Option Value → (Nat → Nat → Nat) → tt_St → Prop} (h : Ok (fT_lambda_year_10 s x0) (fun r => Q (some (.long r)) lc s)) : tt_Sp (XW l D dA A b) yX1_lambda_year_10 cX1_lambda_year_10 1 (some .long) rmT_lambda_year_10_2 [.ref (lc 2 x0)] lc s Q := by
  refine tt_Sp.ofV plX1 kokW (Nat.le_of_ble_eq_true rfl) ?_
  show tt_V (XW l D dA A b) cX1_lambda_year_10 (RX1, 1, (some .long), rmT_lambda_year_10_2, tt_nt) (tt_fn (XW l D dA A b) (RX1, 1, (some .long), rmT_lambda_year_10_2, tt_nt) Q) 0 [(0, .ref (lc 2 x0))] [] lc s 0 0
  unfold fT_lambda_year_10 at h
  refine v_aload_n 0 dX1_lambda_year_10_0 rfl ?_
  refine gW_X1_210_2 hx0 dX1_lambda_year_10_1 ?_
  refine v_i2l dX1_lambda_year_10_4 rfl ?_
  have h := Ok.ret h
  exact v_lret rfl (Nat.zero_le _) (Nat.zero_le _) dX1_lambda_year_10_5 h
theorem gW_X1_216_2 {l : Launch} {D : va_G} {dA : Nat → ClassId} {A : Nat → Prop} {b : Bool} {lc : Nat → Nat → Nat} {s : tt_St} {cc : ByteArray} {nl : Nat} {rt : Option FieldType} {rm : Room} {tn : tt_Tn} {Q : tt_Fin} {pc : Nat} {lv : List (Nat × Value)} {rest : List Value} {ck cn : Nat} {i : Nat} (hv : i < 40) (d : decode cc pc = .ok (.getfield 216, 3)) (kk : tt_V (XW l D dA A b) cc (RX1, nl, rt, rm, tn) Q (pc + 3) lv (.long (rdL s 2 i 9) :: rest) lc s ck cn) : tt_V (XW l D dA A b) cc (RX1, nl, rt, rm, tn) Q pc lv (.ref (lc 2 i) :: rest) lc s ck cn := v_getN (p := 9) knW (lvW_2 hv) oW_2 rfl in_X6 (by decide) q366 (.inl rfl) rfl d kk
def fT_lambda_year_11 (s : tt_St) (x0 : Nat) : Option (Int64) :=
  some (rdL s 2 x0 9)
abbrev rmT_lambda_year_11_2 : Room := { frames := 0, cells := 0, slots := 0, locals := 0 }
set_option maxHeartbeats 4000000 in
theorem mT_lambda_year_11_2 (l : Launch) (D : va_G) (dA : Nat → ClassId) (A : Nat → Prop) (b : Bool) (lc : Nat → Nat → Nat) (s : tt_St) (x0 : Nat) (hx0 : x0 < 40) {Q : Option Value → (Nat → Nat → Nat) → tt_St → Prop} (h : Ok (fT_lambda_year_11 s x0) (fun r => Q (some (.long r)) lc s)) : tt_Sp (XW l D dA A b) yX1_lambda_year_11 cX1_lambda_year_11 1 (some .long) rmT_lambda_year_11_2 [.ref (lc 2 x0)] lc s Q := by
  refine tt_Sp.ofV plX1 kokW (Nat.le_of_ble_eq_true rfl) ?_
  show tt_V (XW l D dA A b) cX1_lambda_year_11 (RX1, 1, (some .long), rmT_lambda_year_11_2, tt_nt) (tt_fn (XW l D dA A b) (RX1, 1, (some .long), rmT_lambda_year_11_2, tt_nt) Q) 0 [(0, .ref (lc 2 x0))] [] lc s 0 0
  unfold fT_lambda_year_11 at h
  refine v_aload_n 0 dX1_lambda_year_11_0 rfl ?_
  refine gW_X1_216_2 hx0 dX1_lambda_year_11_1 ?_
  have h := Ok.ret h
  exact v_lret rfl (Nat.zero_le _) (Nat.zero_le _) dX1_lambda_year_11_4 h
def fT_lambda_year_12 (s : tt_St) (x0 : Nat) : Option (Int64) :=
  (fY_left s x0).bind fun r1 => some r1
abbrev rmT_lambda_year_12_2 : Room := { frames := 1, cells := 0, slots := 0, locals := 20 }
set_option maxHeartbeats 4000000 in
theorem mT_lambda_year_12_2 (l : Launch) (D : va_G) (dA : Nat → ClassId) (A : Nat → Prop) (b : Bool) (lc : Nat → Nat → Nat) (s : tt_St) (x0 : Nat) (hx0 : x0 < 40) {Q : Option Value → (Nat → Nat → Nat) → tt_St → Prop} (h : Ok (fT_lambda_year_12 s x0) (fun r => Q (some (.long r)) lc s)) : tt_Sp (XW l D dA A b) yX1_lambda_year_12 cX1_lambda_year_12 1 (some .long) rmT_lambda_year_12_2 [.ref (lc 2 x0)] lc s Q := by
  refine tt_Sp.ofV plX1 kokW (Nat.le_of_ble_eq_true rfl) ?_
  show tt_V (XW l D dA A b) cX1_lambda_year_12 (RX1, 1, (some .long), rmT_lambda_year_12_2, tt_nt) (tt_fn (XW l D dA A b) (RX1, 1, (some .long), rmT_lambda_year_12_2, tt_nt) Q) 0 [(0, .ref (lc 2 x0))] [] lc s 0 0
  unfold fT_lambda_year_12 at h
  refine v_aload_n 0 dX1_lambda_year_12_0 rfl ?_
  refine cW_X1_220_2 hx0 (Ok.bind h) ⟨Nat.le_of_ble_eq_true rfl, Nat.le_of_ble_eq_true rfl⟩ (Nat.le_of_ble_eq_true rfl) dX1_lambda_year_12_1 (fun r1 h => ?_)
  have h := Ok.ret h
  exact v_lret rfl (Nat.zero_le _) (Nat.zero_le _) dX1_lambda_year_12_4 h
def fT_lambda_year_9 (s : tt_St) (x0 : Nat) : Option (Int64) :=
  some ((rdI s 2 x0 6).toInt64)
abbrev rmT_lambda_year_9_2 : Room := { frames := 0, cells := 0, slots := 0, locals := 0 }
set_option maxHeartbeats 4000000 in
theorem mT_lambda_year_9_2 (l : Launch) (D : va_G) (dA : Nat → ClassId) (A : Nat → Prop) (b : Bool) (lc : Nat → Nat → Nat) (s : tt_St) (x0 : Nat) (hx0 : x0 < 40) {Q : Option Value → (Nat → Nat → Nat) → tt_St → Prop} (h : Ok (fT_lambda_year_9 s x0) (fun r => Q (some (.long r)) lc s)) : tt_Sp (XW l D dA A b) yX1_lambda_year_9 cX1_lambda_year_9 1 (some .long) rmT_lambda_year_9_2 [.ref (lc 2 x0)] lc s Q := by
  refine tt_Sp.ofV plX1 kokW (Nat.le_of_ble_eq_true rfl) ?_
  show tt_V (XW l D dA A b) cX1_lambda_year_9 (RX1, 1, (some .long), rmT_lambda_year_9_2, tt_nt) (tt_fn (XW l D dA A b) (RX1, 1, (some .long), rmT_lambda_year_9_2, tt_nt) Q) 0 [(0, .ref (lc 2 x0))] [] lc s 0 0
  unfold fT_lambda_year_9 at h
  refine v_aload_n 0 dX1_lambda_year_9_0 rfl ?_
  refine gW_X1_210_2 hx0 dX1_lambda_year_9_1 ?_
  refine v_i2l dX1_lambda_year_9_4 rfl ?_
  have h := Ok.ret h
  exact v_lret rfl (Nat.zero_le _) (Nat.zero_le _) dX1_lambda_year_9_5 h
