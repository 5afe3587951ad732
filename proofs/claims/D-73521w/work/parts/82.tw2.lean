set_option maxRecDepth 100000
theorem cT_345_100_107 {l : Launch} {D : va_G} {dA : Nat → ClassId} {A : Nat → Prop} {pz : Nat} {lc : Nat → Nat → Nat} {s : tt_S3} {cc : ByteArray} {nl : Nat} {rt : Option FieldType} {rm : Room} {tn : tt_Tn} {Q : tt_Fin} {pc : Nat} {lv : List (Nat × Value)} {rest : List Value} {ck cn : Nat} {x1 : Nat} {x2 : Int64} (hx1 : lvH true x1) {K : Nat × tt_St → Prop} (h : Ok (fW_flows s.1 x1 x2) K) (hR : 11 + 1 ≤ rm.frames ∧ 8 + (8 + 11) + 257 ≤ rm.locals) (hW : (rest.map fun v => v.category).sum ≤ 8) (d : decode cc pc = .ok (.invokevirtual 345, 3)) (kk : ∀ r, lvF r.1 → K r → tt_V (XT l D dA A pz) cc (RX1, nl, rt, rm, tn) Q (pc + 3) lv (.ref (lc 114 r.1) :: rest) lc (r.2, s.2) (ck + 0) (cn + 0)) (hf : ck + 0 ≤ rm.cells ∧ cn + 0 ≤ rm.slots) : tt_V (XT l D dA A pz) cc (RX1, nl, rt, rm, tn) Q pc lv (.long x2 :: .ref (lc 107 x1) :: .ref (lc 100 0) :: rest) lc s ck cn :=
  v_callV (kd := 100) (i := 0) (nA := 2) (As := [.ref (lc 107 x1), .long x2]) lvT_100 oT_100 rfl (liftNow (Q := (fun v lc' s' => ∃ r, lvF r.1 ∧ K r ∧ v = some (.ref (lc 114 r.1)) ∧ lc' = lc ∧ s' = (r.2, s.2))) (mW_flows_7 l D dA (aT0 lc s) true (nT0 lc) s.1 x1 x2 hx1 (Q := fun v lc' w => lc' = nT0 lc ∧ (fun v lc' s' => ∃ r, lvF r.1 ∧ K r ∧ v = some (.ref (lc 114 r.1)) ∧ lc' = lc ∧ s' = (r.2, s.2)) v lc (w, s.2)) (h.mono (fun r hr => fun hz => ⟨rfl, r, hz, hr, rfl, rfl, rfl⟩)))) (lw_V q1557 q1131 q1132 q128 q1133) (by decide +kernel) rfl hR hW hf d rfl (fun v lc' s' q => by obtain ⟨r, hz, hr, e1, e2, e3⟩ := q; rw [e1, e2, e3]; exact kk r hz hr)
def fT_asIfTold (s : tt_S3) (x1 : Int32) (x2 : Int32) (x3 : Int32) (x4 : Int32) : Option (Nat × tt_S3) :=
  (fT_asIfBy s x1 x2 x3).bind fun r1 => (fW_flows r1.2.1 r1.1 x4.toInt64).bind fun r2 => some (r2.1, (r2.2, r1.2.2))
abbrev rmT_asIfTold : Room := { frames := 12, cells := 0, slots := 0, locals := 284 }
set_option maxHeartbeats 4000000 in
theorem mT_asIfTold (l : Launch) (D : va_G) (dA : Nat → ClassId) (A : Nat → Prop) (pz : Nat) (lc : Nat → Nat → Nat) (s : tt_S3) (x1 : Int32) (x2 : Int32) (x3 : Int32) (x4 : Int32) {Q : Option Value → (Nat → Nat → Nat) → tt_S3 → Prop} (h : Ok (fT_asIfTold s x1 x2 x3 x4) (fun r => lvF r.1 → Q (some (.ref (lc 114 r.1))) lc r.2)) : tt_Sp (XT l D dA A pz) yX1_asIfTold cX1_asIfTold 5 (some (.object "TallTowers$Flow")) rmT_asIfTold [.ref (lc 0 0), .int x1, .int x2, .int x3, .int x4] lc s Q := by
  refine tt_Sp.ofV plX1 kokT (Nat.le_of_ble_eq_true rfl) ?_
  show tt_V (XT l D dA A pz) cX1_asIfTold (RX1, 5, (some (.object "TallTowers$Flow")), rmT_asIfTold, tt_nt) (tt_fn (XT l D dA A pz) (RX1, 5, (some (.object "TallTowers$Flow")), rmT_asIfTold, tt_nt) Q) 0 [(0, .ref (lc 0 0)), (1, .int x1), (2, .int x2), (3, .int x3), (4, .int x4)] [] lc s 0 0
  unfold fT_asIfTold at h
  refine v_aload_n 0 dX1_asIfTold_0 rfl ?_
  refine gT_X1_10_0 dX1_asIfTold_1 ?_
  refine v_aload_n 0 dX1_asIfTold_4 rfl ?_
  refine v_iload_n 1 dX1_asIfTold_5 rfl ?_
  refine v_iload_n 2 dX1_asIfTold_6 rfl ?_
  refine v_iload_n 3 dX1_asIfTold_7 rfl ?_
  refine cT_338_0 (Ok.bind h) ⟨Nat.le_of_ble_eq_true rfl, Nat.le_of_ble_eq_true rfl⟩ (Nat.le_of_ble_eq_true rfl) dX1_asIfTold_8 (fun r1 z_r1 h => ?_) ⟨Nat.le_of_ble_eq_true rfl, Nat.le_of_ble_eq_true rfl⟩
  refine v_iload 4 dX1_asIfTold_11 rfl ?_
  refine v_i2l dX1_asIfTold_13 rfl ?_
  refine cT_345_100_107 z_r1 (Ok.bind h) ⟨Nat.le_of_ble_eq_true rfl, Nat.le_of_ble_eq_true rfl⟩ (Nat.le_of_ble_eq_true rfl) dX1_asIfTold_14 (fun r2 z_r2 h => ?_) ⟨Nat.le_of_ble_eq_true rfl, Nat.le_of_ble_eq_true rfl⟩
  have h := Ok.ret h
  exact v_aret rfl (Nat.le_of_ble_eq_true rfl) (Nat.le_of_ble_eq_true rfl) dX1_asIfTold_17 (h z_r2)
theorem cT_353_0 {l : Launch} {D : va_G} {dA : Nat → ClassId} {A : Nat → Prop} {pz : Nat} {lc : Nat → Nat → Nat} {s : tt_S3} {cc : ByteArray} {nl : Nat} {rt : Option FieldType} {rm : Room} {tn : tt_Tn} {Q : tt_Fin} {pc : Nat} {lv : List (Nat × Value)} {rest : List Value} {ck cn : Nat} {x1 : Int32} {x2 : Int32} {x3 : Int32} {x4 : Int32} {K : Nat × tt_S3 → Prop} (h : Ok (fT_asIfTold s x1 x2 x3 x4) K) (hR : 12 + 1 ≤ rm.frames ∧ 8 + (5 + 11) + 284 ≤ rm.locals) (hW : (rest.map fun v => v.category).sum ≤ 8) (d : decode cc pc = .ok (.invokevirtual 353, 3)) (kk : ∀ r, lvF r.1 → K r → tt_V (XT l D dA A pz) cc (RX1, nl, rt, rm, tn) Q (pc + 3) lv (.ref (lc 114 r.1) :: rest) lc r.2 (ck + 0) (cn + 0)) (hf : ck + 0 ≤ rm.cells ∧ cn + 0 ≤ rm.slots) : tt_V (XT l D dA A pz) cc (RX1, nl, rt, rm, tn) Q pc lv (.int x4 :: .int x3 :: .int x2 :: .int x1 :: .ref (lc 0 0) :: rest) lc s ck cn :=
  v_callV (kd := 0) (i := 0) (nA := 4) (As := [.int x1, .int x2, .int x3, .int x4]) lvT_0 oT_0 rfl (mT_asIfTold l D dA A pz lc s x1 x2 x3 x4 (Q := (fun v lc' s' => ∃ r, lvF r.1 ∧ K r ∧ v = some (.ref (lc 114 r.1)) ∧ lc' = lc ∧ s' = r.2)) (h.mono (fun r hr => fun hz => ⟨r, hz, hr, rfl, rfl, rfl⟩))) (lw_V q1553 q1555 qs43 q127 q1556) (by decide +kernel) rfl hR hW hf d rfl (fun v lc' s' q => by obtain ⟨r, hz, hr, e1, e2, e3⟩ := q; rw [e1, e2, e3]; exact kk r hz hr)
theorem cT_357_114 {l : Launch} {D : va_G} {dA : Nat → ClassId} {A : Nat → Prop} {pz : Nat} {lc : Nat → Nat → Nat} {s : tt_S3} {cc : ByteArray} {nl : Nat} {rt : Option FieldType} {rm : Room} {tn : tt_Tn} {Q : tt_Fin} {pc : Nat} {lv : List (Nat × Value)} {rest : List Value} {ck cn : Nat} {x0 : Nat} {x1 : Int32} (hx0 : lvF x0) {K : Int64 → Prop} (h : Ok (fB_borne s.1 x0 x1) K) (hR : 0 + 1 ≤ rm.frames ∧ 8 + (5 + 11) + 0 ≤ rm.locals) (hW : (rest.map fun v => v.category).sum ≤ 8) (d : decode cc pc = .ok (.invokevirtual 357, 3)) (kk : ∀ r, K r → tt_V (XT l D dA A pz) cc (RX1, nl, rt, rm, tn) Q (pc + 3) lv (.long r :: rest) lc s (ck + 0) (cn + 0)) (hf : ck + 0 ≤ rm.cells ∧ cn + 0 ≤ rm.slots) : tt_V (XT l D dA A pz) cc (RX1, nl, rt, rm, tn) Q pc lv (.int x1 :: .ref (lc 114 x0) :: rest) lc s ck cn :=
  v_callU (x := ⟨"TallTowers$Flow", "borne", "(I)J"⟩) (owner := "TallTowers$Burden") (kd := 114) (i := x0) (nA := 1) (As := [.int x1]) (lvT_114 hx0) oT_114 rfl (liftNow (Q := (fun v lc' s' => ∃ r, K r ∧ v = some (.long r) ∧ lc' = lc ∧ s' = s)) (mB_borne_14 l D dA (aT0 lc s) true (nT0 lc) s.1 x0 x1 hx0 (Q := fun v lc' w => lc' = nT0 lc ∧ (fun v lc' s' => ∃ r, K r ∧ v = some (.long r) ∧ lc' = lc ∧ s' = s) v lc (w, s.2)) (h.mono (fun r hr => ⟨rfl, r, hr, rfl, rfl, rfl⟩)))) (lw_U q1558 q1559 q1560 q1175 q137 q1176) rfl (by decide +kernel) rfl hR hW hf d rfl (fun v lc' s' q => by obtain ⟨r, hr, e1, e2, e3⟩ := q; rw [e1, e2, e3]; exact kk r hr)
def fT_would (s : tt_S3) (x1 : Int32) (x2 : Int32) (x3 : Int32) (x4 : Int32) (x5 : Int32) : Option ((Int64 × tt_S3) ⊕ (Nat × tt_S3)) :=
  (fT_lossOf s x1 x2 x3 x4).bind fun q_r1 => orThrow q_r1 fun r1 => (fT_insurerOf r1 x5).bind fun q_r2 => orThrow q_r2 fun r2 => (fT_asIfTold r2 x1 x2 x3 x4).bind fun r3 => (fB_borne r3.2.1 r3.1 x5).bind fun r4 => some (.inl (r4, r3.2))
abbrev rmT_would : Room := { frames := 13, cells := 5, slots := 30, locals := 308 }
set_option maxHeartbeats 4000000 in
theorem mT_would (l : Launch) (D : va_G) (dA : Nat → ClassId) (A : Nat → Prop) (pz : Nat) (hl9 : l.stackTraces = false) (lc : Nat → Nat → Nat) (s : tt_S3) (x1 : Int32) (x2 : Int32) (x3 : Int32) (x4 : Int32) (x5 : Int32) {Q : Option Value → (Nat → Nat → Nat) → tt_S3 → Prop} {QX : String → (Nat → Nat → Nat) → tt_S3 → Prop} (h : Ok (fT_would s x1 x2 x3 x4 x5) (fun q => Sum.casesOn (motive := fun _ => Prop) q (fun r => Q (some (.long r.1)) lc r.2) (fun e => QX (tt_exn e.1) lc e.2))) : tt_SpX (XT l D dA A pz) yX1_would cX1_would 6 (some .long) rmT_would [.ref (lc 0 0), .int x1, .int x2, .int x3, .int x4, .int x5] lc s Q QX := by
  refine tt_SpX.ofV plX1 kokT (Nat.le_of_ble_eq_true rfl) ?_
  show tt_V (XT l D dA A pz) cX1_would (RX1, 6, (some .long), rmT_would, tt_ne) (tt_fx (XT l D dA A pz) (RX1, 6, (some .long), rmT_would, tt_ne) Q QX) 0 [(0, .ref (lc 0 0)), (1, .int x1), (2, .int x2), (3, .int x3), (4, .int x4), (5, .int x5)] [] lc s 0 0
  unfold fT_would at h
  refine v_aload_n 0 dX1_would_0 rfl ?_
  refine v_iload_n 1 dX1_would_1 rfl ?_
  refine v_iload_n 2 dX1_would_2 rfl ?_
  refine v_iload_n 3 dX1_would_3 rfl ?_
  refine v_iload 4 dX1_would_4 rfl ?_
  refine cT_349_0 (Ok.throws h) hl9 (fun _ _ _ h => h) (fun _ h => h) ⟨Nat.le_of_ble_eq_true rfl, Nat.le_of_ble_eq_true rfl⟩ (Nat.le_of_ble_eq_true rfl) dX1_would_6 (fun r1 h => ?_) ⟨Nat.le_of_ble_eq_true rfl, Nat.le_of_ble_eq_true rfl⟩
  refine v_aload_n 0 dX1_would_9 rfl ?_
  refine v_iload 5 dX1_would_10 rfl ?_
  refine cT_121_0 (Ok.throws h) hl9 (fun _ _ _ h => h) (fun _ h => h) ⟨Nat.le_of_ble_eq_true rfl, Nat.le_of_ble_eq_true rfl⟩ (Nat.le_of_ble_eq_true rfl) dX1_would_12 (fun r2 h => ?_) ⟨Nat.le_of_ble_eq_true rfl, Nat.le_of_ble_eq_true rfl⟩
  refine v_aload_n 0 dX1_would_15 rfl ?_
  refine v_iload_n 1 dX1_would_16 rfl ?_
  refine v_iload_n 2 dX1_would_17 rfl ?_
  refine v_iload_n 3 dX1_would_18 rfl ?_
  refine v_iload 4 dX1_would_19 rfl ?_
  refine cT_353_0 (Ok.bind h) ⟨Nat.le_of_ble_eq_true rfl, Nat.le_of_ble_eq_true rfl⟩ (Nat.le_of_ble_eq_true rfl) dX1_would_21 (fun r3 z_r3 h => ?_) ⟨Nat.le_of_ble_eq_true rfl, Nat.le_of_ble_eq_true rfl⟩
  refine v_iload 5 dX1_would_24 rfl ?_
  refine cT_357_114 z_r3 (Ok.bind h) ⟨Nat.le_of_ble_eq_true rfl, Nat.le_of_ble_eq_true rfl⟩ (Nat.le_of_ble_eq_true rfl) dX1_would_26 (fun r4 h => ?_) ⟨Nat.le_of_ble_eq_true rfl, Nat.le_of_ble_eq_true rfl⟩
  have h := Ok.ret h
  exact v_retX (v_lret rfl (Nat.le_of_ble_eq_true rfl) (Nat.le_of_ble_eq_true rfl) dX1_would_29 h)
theorem gT_X1_360_114 {l : Launch} {D : va_G} {dA : Nat → ClassId} {A : Nat → Prop} {pz : Nat} {lc : Nat → Nat → Nat} {s : tt_S3} {cc : ByteArray} {nl : Nat} {rt : Option FieldType} {rm : Room} {tn : tt_Tn} {Q : tt_Fin} {pc : Nat} {lv : List (Nat × Value)} {rest : List Value} {ck cn : Nat} {i : Nat} (hv : lvF i) (d : decode cc pc = .ok (.getfield 360, 3)) (kk : tt_V (XT l D dA A pz) cc (RX1, nl, rt, rm, tn) Q (pc + 3) lv (.ref (lc 110 i) :: rest) lc s ck cn) : tt_V (XT l D dA A pz) cc (RX1, nl, rt, rm, tn) Q pc lv (.ref (lc 114 i) :: rest) lc s ck cn := v_get (p := 2) (lvT_114 hv) oT_114 rfl in_X5 (by decide) q299 (.inl rfl) rfl d kk
def fT_takes (s : tt_S3) (x1 : Int32) (x2 : Int32) (x3 : Int32) (x4 : Int32) (x5 : Int32) : Option ((Int64 × tt_S3) ⊕ (Nat × tt_S3)) :=
  (fT_layerOf s x5).bind fun q_r1 => orThrow q_r1 fun r1 => (fT_lossOf r1.2 x1 x2 x3 x4).bind fun q_r2 => orThrow q_r2 fun r2 => (fT_asIfTold r2 x1 x2 x3 x4).bind fun r3 => if inB x5 40 then some (.inl (rdL r3.2.1 10 r3.1 x5.toNatClampNeg, r3.2)) else none
abbrev rmT_takes : Room := { frames := 13, cells := 5, slots := 30, locals := 308 }
set_option maxHeartbeats 4000000 in
theorem mT_takes (l : Launch) (D : va_G) (dA : Nat → ClassId) (A : Nat → Prop) (pz : Nat) (hl9 : l.stackTraces = false) (lc : Nat → Nat → Nat) (s : tt_S3) (x1 : Int32) (x2 : Int32) (x3 : Int32) (x4 : Int32) (x5 : Int32) {Q : Option Value → (Nat → Nat → Nat) → tt_S3 → Prop} {QX : String → (Nat → Nat → Nat) → tt_S3 → Prop} (h : Ok (fT_takes s x1 x2 x3 x4 x5) (fun q => Sum.casesOn (motive := fun _ => Prop) q (fun r => Q (some (.long r.1)) lc r.2) (fun e => QX (tt_exn e.1) lc e.2))) : tt_SpX (XT l D dA A pz) yX1_takes cX1_takes 6 (some .long) rmT_takes [.ref (lc 0 0), .int x1, .int x2, .int x3, .int x4, .int x5] lc s Q QX := by
  refine tt_SpX.ofV plX1 kokT (Nat.le_of_ble_eq_true rfl) ?_
  show tt_V (XT l D dA A pz) cX1_takes (RX1, 6, (some .long), rmT_takes, tt_ne) (tt_fx (XT l D dA A pz) (RX1, 6, (some .long), rmT_takes, tt_ne) Q QX) 0 [(0, .ref (lc 0 0)), (1, .int x1), (2, .int x2), (3, .int x3), (4, .int x4), (5, .int x5)] [] lc s 0 0
  unfold fT_takes at h
  refine v_aload_n 0 dX1_takes_0 rfl ?_
  refine v_iload 5 dX1_takes_1 rfl ?_
  refine cT_117_0 (Ok.throws h) hl9 (fun _ _ _ h => h) (fun _ h => h) ⟨Nat.le_of_ble_eq_true rfl, Nat.le_of_ble_eq_true rfl⟩ (Nat.le_of_ble_eq_true rfl) dX1_takes_3 (fun r1 z_r1 h => ?_) ⟨Nat.le_of_ble_eq_true rfl, Nat.le_of_ble_eq_true rfl⟩
  refine v_pop dX1_takes_6 rfl ?_
  refine v_aload_n 0 dX1_takes_7 rfl ?_
  refine v_iload_n 1 dX1_takes_8 rfl ?_
  refine v_iload_n 2 dX1_takes_9 rfl ?_
  refine v_iload_n 3 dX1_takes_10 rfl ?_
  refine v_iload 4 dX1_takes_11 rfl ?_
  refine cT_349_0 (Ok.throws h) hl9 (fun _ _ _ h => h) (fun _ h => h) ⟨Nat.le_of_ble_eq_true rfl, Nat.le_of_ble_eq_true rfl⟩ (Nat.le_of_ble_eq_true rfl) dX1_takes_13 (fun r2 h => ?_) ⟨Nat.le_of_ble_eq_true rfl, Nat.le_of_ble_eq_true rfl⟩
  refine v_aload_n 0 dX1_takes_16 rfl ?_
  refine v_iload_n 1 dX1_takes_17 rfl ?_
  refine v_iload_n 2 dX1_takes_18 rfl ?_
  refine v_iload_n 3 dX1_takes_19 rfl ?_
  refine v_iload 4 dX1_takes_20 rfl ?_
  refine cT_353_0 (Ok.bind h) ⟨Nat.le_of_ble_eq_true rfl, Nat.le_of_ble_eq_true rfl⟩ (Nat.le_of_ble_eq_true rfl) dX1_takes_22 (fun r3 z_r3 h => ?_) ⟨Nat.le_of_ble_eq_true rfl, Nat.le_of_ble_eq_true rfl⟩
  refine gT_X1_360_114 z_r3 dX1_takes_25 ?_
  refine v_iload 5 dX1_takes_28 rfl ?_
  obtain ⟨g4, h⟩ := Ok.guard h
  refine lT_110 (.inr z_r3) g4 dX1_takes_30 ?_
  have h := Ok.ret h
  exact v_retX (v_lret rfl (Nat.le_of_ble_eq_true rfl) (Nat.le_of_ble_eq_true rfl) dX1_takes_31 h)
theorem gT_X1_361_114 {l : Launch} {D : va_G} {dA : Nat → ClassId} {A : Nat → Prop} {pz : Nat} {lc : Nat → Nat → Nat} {s : tt_S3} {cc : ByteArray} {nl : Nat} {rt : Option FieldType} {rm : Room} {tn : tt_Tn} {Q : tt_Fin} {pc : Nat} {lv : List (Nat × Value)} {rest : List Value} {ck cn : Nat} {i : Nat} (hv : lvF i) (d : decode cc pc = .ok (.getfield 361, 3)) (kk : tt_V (XT l D dA A pz) cc (RX1, nl, rt, rm, tn) Q (pc + 3) lv (.ref (lc 109 i) :: rest) lc s ck cn) : tt_V (XT l D dA A pz) cc (RX1, nl, rt, rm, tn) Q pc lv (.ref (lc 114 i) :: rest) lc s ck cn := v_get (p := 1) (lvT_114 hv) oT_114 rfl in_X5 (by decide) q319 (.inr q316) rfl d kk
def fT_drops (s : tt_S3) (x1 : Int32) (x2 : Int32) (x3 : Int32) (x4 : Int32) (x5 : Int32) : Option ((Int64 × tt_S3) ⊕ (Nat × tt_S3)) :=
  (fT_lossOf s x1 x2 x3 x4).bind fun q_r1 => orThrow q_r1 fun r1 => (fT_within r1 x5 (0 : Int32) (6 : Int32)).bind fun q_r2 => orThrow q_r2 fun r2 => (fT_asIfTold r2 x1 x2 x3 x4).bind fun r3 => if inB x5 7 then some (.inl (rdL r3.2.1 9 r3.1 x5.toNatClampNeg, r3.2)) else none
abbrev rmT_drops : Room := { frames := 13, cells := 5, slots := 30, locals := 308 }
set_option maxHeartbeats 4000000 in
theorem mT_drops (l : Launch) (D : va_G) (dA : Nat → ClassId) (A : Nat → Prop) (pz : Nat) (hl9 : l.stackTraces = false) (lc : Nat → Nat → Nat) (s : tt_S3) (x1 : Int32) (x2 : Int32) (x3 : Int32) (x4 : Int32) (x5 : Int32) {Q : Option Value → (Nat → Nat → Nat) → tt_S3 → Prop} {QX : String → (Nat → Nat → Nat) → tt_S3 → Prop} (h : Ok (fT_drops s x1 x2 x3 x4 x5) (fun q => Sum.casesOn (motive := fun _ => Prop) q (fun r => Q (some (.long r.1)) lc r.2) (fun e => QX (tt_exn e.1) lc e.2))) : tt_SpX (XT l D dA A pz) yX1_drops cX1_drops 6 (some .long) rmT_drops [.ref (lc 0 0), .int x1, .int x2, .int x3, .int x4, .int x5] lc s Q QX := by
  refine tt_SpX.ofV plX1 kokT (Nat.le_of_ble_eq_true rfl) ?_
  show tt_V (XT l D dA A pz) cX1_drops (RX1, 6, (some .long), rmT_drops, tt_ne) (tt_fx (XT l D dA A pz) (RX1, 6, (some .long), rmT_drops, tt_ne) Q QX) 0 [(0, .ref (lc 0 0)), (1, .int x1), (2, .int x2), (3, .int x3), (4, .int x4), (5, .int x5)] [] lc s 0 0
  unfold fT_drops at h
  refine v_aload_n 0 dX1_drops_0 rfl ?_
  refine v_iload_n 1 dX1_drops_1 rfl ?_
  refine v_iload_n 2 dX1_drops_2 rfl ?_
  refine v_iload_n 3 dX1_drops_3 rfl ?_
  refine v_iload 4 dX1_drops_4 rfl ?_
  refine cT_349_0 (Ok.throws h) hl9 (fun _ _ _ h => h) (fun _ h => h) ⟨Nat.le_of_ble_eq_true rfl, Nat.le_of_ble_eq_true rfl⟩ (Nat.le_of_ble_eq_true rfl) dX1_drops_6 (fun r1 h => ?_) ⟨Nat.le_of_ble_eq_true rfl, Nat.le_of_ble_eq_true rfl⟩
  refine v_aload_n 0 dX1_drops_9 rfl ?_
  refine v_iload 5 dX1_drops_10 rfl ?_
  refine v_iconst dX1_drops_12 ic_0 ?_
  refine v_bipush dX1_drops_13 kb_6 ?_
  refine cT_80_0 (Ok.throws h) hl9 (fun _ _ _ h => h) (fun _ h => h) ⟨Nat.le_of_ble_eq_true rfl, Nat.le_of_ble_eq_true rfl⟩ (Nat.le_of_ble_eq_true rfl) dX1_drops_15 (fun r2 h => ?_) ⟨Nat.le_of_ble_eq_true rfl, Nat.le_of_ble_eq_true rfl⟩
  refine v_aload_n 0 dX1_drops_18 rfl ?_
  refine v_iload_n 1 dX1_drops_19 rfl ?_
  refine v_iload_n 2 dX1_drops_20 rfl ?_
  refine v_iload_n 3 dX1_drops_21 rfl ?_
  refine v_iload 4 dX1_drops_22 rfl ?_
  refine cT_353_0 (Ok.bind h) ⟨Nat.le_of_ble_eq_true rfl, Nat.le_of_ble_eq_true rfl⟩ (Nat.le_of_ble_eq_true rfl) dX1_drops_24 (fun r3 z_r3 h => ?_) ⟨Nat.le_of_ble_eq_true rfl, Nat.le_of_ble_eq_true rfl⟩
  refine gT_X1_361_114 z_r3 dX1_drops_27 ?_
  refine v_iload 5 dX1_drops_30 rfl ?_
  obtain ⟨g4, h⟩ := Ok.guard h
  refine lT_109 (.inr z_r3) g4 dX1_drops_32 ?_
  have h := Ok.ret h
  exact v_retX (v_lret rfl (Nat.le_of_ble_eq_true rfl) (Nat.le_of_ble_eq_true rfl) dX1_drops_33 h)
theorem gT_X1_28_0 {l : Launch} {D : va_G} {dA : Nat → ClassId} {A : Nat → Prop} {pz : Nat} {lc : Nat → Nat → Nat} {s : tt_S3} {cc : ByteArray} {nl : Nat} {rt : Option FieldType} {rm : Room} {tn : tt_Tn} {Q : tt_Fin} {pc : Nat} {lv : List (Nat × Value)} {rest : List Value} {ck cn : Nat} (d : decode cc pc = .ok (.getfield 28, 3)) (kk : tt_V (XT l D dA A pz) cc (RX1, nl, rt, rm, tn) Q (pc + 3) lv (.ref (lc 1 0) :: rest) lc s ck cn) : tt_V (XT l D dA A pz) cc (RX1, nl, rt, rm, tn) Q pc lv (.ref (lc 0 0) :: rest) lc s ck cn := v_get (p := 3) lvT_0 oT_0 rfl in_X1 (by decide) q895 (.inl rfl) rfl d kk
theorem lvT_1 {l : Launch} {D : va_G} {dA : Nat → ClassId} {A : Nat → Prop} {pz : Nat} {s : tt_S3} : xV (XT l D dA A pz) s 1 0 := rfl
theorem aT_1 {l : Launch} {D : va_G} {dA : Nat → ClassId} {A : Nat → Prop} {pz : Nat} {lc : Nat → Nat → Nat} {s : tt_S3} : tt_ent (XT l D dA A pz) lc s 1 0 = .inl (dA 8, 160, .inr (.inr (.inr (.inr (fun j => if j < 160 then (rdR s.2.2 1 0 j).map (lc 2) else none))))) := rfl
theorem lT_1 {l : Launch} {D : va_G} {dA : Nat → ClassId} {A : Nat → Prop} {pz : Nat} {lc : Nat → Nat → Nat} {s : tt_S3} {cc : ByteArray} {Y : tt_Y} {Q : tt_Fin} {pc : Nat} {lv : List (Nat × Value)} {rest : List Value} {ck cn : Nat} {j : Int32} {t : Nat} (g : inB j 160 = true) (e : rdR s.2.2 1 0 j.toNatClampNeg = some t) (d : decode cc pc = .ok (.aaload, 1)) (kk : tt_V (XT l D dA A pz) cc Y Q (pc + 1) lv (.ref (lc 2 t) :: rest) lc s ck cn) : tt_V (XT l D dA A pz) cc Y Q pc lv (.int j :: .ref (lc 1 0) :: rest) lc s ck cn := v_aald (t := 8) lvT_1 aT_1 rfl rfl g d (by rw [if_pos (inB_lt g), e]; exact kk)
theorem lvT_2 {l : Launch} {D : va_G} {dA : Nat → ClassId} {A : Nat → Prop} {pz : Nat} {s : tt_S3} {i : Nat} (hv : i < rdN s.2.2 2) : xV (XT l D dA A pz) s 2 i := hv
theorem oT_2 {l : Launch} {D : va_G} {dA : Nat → ClassId} {A : Nat → Prop} {pz : Nat} {lc : Nat → Nat → Nat} {s : tt_S3} {i : Nat} : tt_ent (XT l D dA A pz) lc s 2 i = .inr (9, [.int (rdI s.2.2 2 i 0), .int (rdI s.2.2 2 i 1), va_rf ((rdR s.2.2 2 i 2).map (lc 3))]) := rfl
theorem sT_1 {l : Launch} {D : va_G} {dA : Nat → ClassId} {A : Nat → Prop} {pz : Nat} {lc : Nat → Nat → Nat} {s : tt_S3} {cc : ByteArray} {Y : tt_Y} {Q : tt_Fin} {pc : Nat} {lv : List (Nat × Value)} {rest : List Value} {ck cn : Nat} {j : Int32} {t : Nat} (ht : t < rdN s.2.2 2) (g : inB j 160 = true) (d : decode cc pc = .ok (.aastore, 1)) (kk : tt_V (XT l D dA A pz) cc Y Q (pc + 1) lv rest lc (s.1, s.2.1, wrR s.2.2 1 0 j.toNatClampNeg (some t)) ck cn) : tt_V (XT l D dA A pz) cc Y Q pc lv (.ref (lc 2 t) :: .int j :: .ref (lc 1 0) :: rest) lc s ck cn := v_aast (s' := (s.1, s.2.1, wrR s.2.2 1 0 j.toNatClampNeg (some t))) (t := 8) (kv := 2) (iv := t) (E := "TallTowers$Event") lvT_1 aT_1 (by
  rw [aT_1]
  congr 7
  funext q
  unfold va_up
  rw [rdR_wrR]
  by_cases hq : q = j.toNatClampNeg
  · rw [if_pos hq, if_pos (by rw [hq]; exact inB_lt g), if_pos ⟨rfl, rfl, hq⟩]; rfl
  · simp [hq]) (fun kd' i' h => eT_own (fun _ => tt_own_wrR h)) (fun _ _ z => z) rfl (lvT_2 ht) oT_2 rfl (.inl rfl) g d kk
theorem gT_X1_201_2 {l : Launch} {D : va_G} {dA : Nat → ClassId} {A : Nat → Prop} {pz : Nat} {lc : Nat → Nat → Nat} {s : tt_S3} {cc : ByteArray} {nl : Nat} {rt : Option FieldType} {rm : Room} {tn : tt_Tn} {Q : tt_Fin} {pc : Nat} {lv : List (Nat × Value)} {rest : List Value} {ck cn : Nat} {i : Nat} (hv : i < rdN s.2.2 2) (d : decode cc pc = .ok (.getfield 201, 3)) (kk : tt_V (XT l D dA A pz) cc (RX1, nl, rt, rm, tn) Q (pc + 3) lv (.int (rdI s.2.2 2 i 1) :: rest) lc s ck cn) : tt_V (XT l D dA A pz) cc (RX1, nl, rt, rm, tn) Q pc lv (.ref (lc 2 i) :: rest) lc s ck cn := v_getN (p := 1) knT (lvT_2 hv) oT_2 rfl in_X12 (by decide) q1004 (.inl rfl) rfl d kk
theorem gT_X1_198_2 {l : Launch} {D : va_G} {dA : Nat → ClassId} {A : Nat → Prop} {pz : Nat} {lc : Nat → Nat → Nat} {s : tt_S3} {cc : ByteArray} {nl : Nat} {rt : Option FieldType} {rm : Room} {tn : tt_Tn} {Q : tt_Fin} {pc : Nat} {lv : List (Nat × Value)} {rest : List Value} {ck cn : Nat} {i : Nat} (hv : i < rdN s.2.2 2) (d : decode cc pc = .ok (.getfield 198, 3)) (kk : tt_V (XT l D dA A pz) cc (RX1, nl, rt, rm, tn) Q (pc + 3) lv (.int (rdI s.2.2 2 i 0) :: rest) lc s ck cn) : tt_V (XT l D dA A pz) cc (RX1, nl, rt, rm, tn) Q pc lv (.ref (lc 2 i) :: rest) lc s ck cn := v_getN (p := 0) knT (lvT_2 hv) oT_2 rfl in_X12 (by decide) q1002 (.inl rfl) rfl d kk
def fT_event (s : tt_S3) (x1 : Int32) (x2 : Int32) : Option ((Int32 × tt_S3) ⊕ (Nat × tt_S3)) :=
  (fT_oneOf s x1 (rdI s.2.2 0 0 7)).bind fun q_r1 => orThrow q_r1 fun r1 => (fT_within r1 x2 (0 : Int32) (1 : Int32)).bind fun q_r2 => orThrow q_r2 fun r2 => if x2 = 0 then if inB x1 160 then unO (rdR r2.2.2 1 0 x1.toNatClampNeg) (rdN r2.2.2 2) fun o7 => some (.inl (rdI r2.2.2 2 o7 0, r2)) else none else if inB x1 160 then unO (rdR r2.2.2 1 0 x1.toNatClampNeg) (rdN r2.2.2 2) fun o5 => some (.inl (rdI r2.2.2 2 o5 1, r2)) else none
abbrev rmT_event : Room := { frames := 8, cells := 2, slots := 12, locals := 140 }
set_option maxHeartbeats 4000000 in
theorem mT_event (l : Launch) (D : va_G) (dA : Nat → ClassId) (A : Nat → Prop) (pz : Nat) (hl9 : l.stackTraces = false) (lc : Nat → Nat → Nat) (s : tt_S3) (x1 : Int32) (x2 : Int32) {Q : Option Value → (Nat → Nat → Nat) → tt_S3 → Prop} {QX : String → (Nat → Nat → Nat) → tt_S3 → Prop} (h : Ok (fT_event s x1 x2) (fun q => Sum.casesOn (motive := fun _ => Prop) q (fun r => Q (some (.int r.1)) lc r.2) (fun e => QX (tt_exn e.1) lc e.2))) : tt_SpX (XT l D dA A pz) yX1_event cX1_event 3 (some .int) rmT_event [.ref (lc 0 0), .int x1, .int x2] lc s Q QX := by
  refine tt_SpX.ofV plX1 kokT (Nat.le_of_ble_eq_true rfl) ?_
  show tt_V (XT l D dA A pz) cX1_event (RX1, 3, (some .int), rmT_event, tt_ne) (tt_fx (XT l D dA A pz) (RX1, 3, (some .int), rmT_event, tt_ne) Q QX) 0 [(0, .ref (lc 0 0)), (1, .int x1), (2, .int x2)] [] lc s 0 0
  unfold fT_event at h
  refine v_aload_n 0 dX1_event_0 rfl ?_
  refine v_iload_n 1 dX1_event_1 rfl ?_
  refine v_aload_n 0 dX1_event_2 rfl ?_
  refine gT_X1_93_0 dX1_event_3 ?_
  refine cT_62_0 (Ok.throws h) hl9 (fun _ _ _ h => h) (fun _ h => h) ⟨Nat.le_of_ble_eq_true rfl, Nat.le_of_ble_eq_true rfl⟩ (Nat.le_of_ble_eq_true rfl) dX1_event_6 (fun r1 h => ?_) ⟨Nat.le_of_ble_eq_true rfl, Nat.le_of_ble_eq_true rfl⟩
  refine v_aload_n 0 dX1_event_9 rfl ?_
  refine v_iload_n 2 dX1_event_10 rfl ?_
  refine v_iconst dX1_event_11 ic_0 ?_
  refine v_iconst dX1_event_12 ic_1 ?_
  refine cT_80_0 (Ok.throws h) hl9 (fun _ _ _ h => h) (fun _ h => h) ⟨Nat.le_of_ble_eq_true rfl, Nat.le_of_ble_eq_true rfl⟩ (Nat.le_of_ble_eq_true rfl) dX1_event_13 (fun r2 h => ?_) ⟨Nat.le_of_ble_eq_true rfl, Nat.le_of_ble_eq_true rfl⟩
  refine v_iload_n 2 dX1_event_16 rfl ?_
  refine v_if_ne (tgt := 32) dX1_event_17 rfl (fun c3 => ?_) (fun c3 => ?_)
  · have h := Ok.neg h c3
    refine v_aload_n 0 dX1_event_32 rfl ?_
    refine gT_X1_28_0 dX1_event_33 ?_
    refine v_iload_n 1 dX1_event_36 rfl ?_
    obtain ⟨g4, h⟩ := Ok.guard h
    obtain ⟨o5, e_o5, g_o5, h⟩ := Ok.unO h
    refine lT_1 g4 e_o5 dX1_event_37 ?_
    refine gT_X1_201_2 g_o5 dX1_event_38 ?_
    have h := Ok.ret h
    exact v_retX (v_iret rfl (Nat.le_of_ble_eq_true rfl) (Nat.le_of_ble_eq_true rfl) dX1_event_41 h)
  · have h := Ok.pos h c3
    refine v_aload_n 0 dX1_event_20 rfl ?_
    refine gT_X1_28_0 dX1_event_21 ?_
    refine v_iload_n 1 dX1_event_24 rfl ?_
    obtain ⟨g6, h⟩ := Ok.guard h
    obtain ⟨o7, e_o7, g_o7, h⟩ := Ok.unO h
    refine lT_1 g6 e_o7 dX1_event_25 ?_
    refine gT_X1_198_2 g_o7 dX1_event_26 ?_
    refine v_goto (tgt := 41) dX1_event_29 rfl ?_
    have h := Ok.ret h
    exact v_retX (v_iret rfl (Nat.le_of_ble_eq_true rfl) (Nat.le_of_ble_eq_true rfl) dX1_event_41 h)
theorem pT_X1_93_0 {l : Launch} {D : va_G} {dA : Nat → ClassId} {A : Nat → Prop} {pz : Nat} {lc : Nat → Nat → Nat} {s : tt_S3} {cc : ByteArray} {nl : Nat} {rt : Option FieldType} {rm : Room} {tn : tt_Tn} {Q : tt_Fin} {pc : Nat} {lv : List (Nat × Value)} {rest : List Value} {ck cn : Nat} {x : Int32} (d : decode cc pc = .ok (.putfield 93, 3)) (kk : tt_V (XT l D dA A pz) cc (RX1, nl, rt, rm, tn) Q (pc + 3) lv rest lc (s.1, s.2.1, wrI s.2.2 0 0 7 x) ck cn) : tt_V (XT l D dA A pz) cc (RX1, nl, rt, rm, tn) Q pc lv (.int x :: .ref (lc 0 0) :: rest) lc s ck cn := v_put (s' := (s.1, s.2.1, wrI s.2.2 0 0 7 x)) (p := 7) lvT_0 oT_0 (by rw [oT_0]; simp [rdI_wrI, rdL_wrL, rdI_wrL, rdL_wrI]) (fun kd' i' h => eT_own (by intro a; exact tt_own_wrI h)) (fun _ _ z => z) rfl in_X1 tyX1 tyX1_ok nmX1 (by decide) q899 (.inl rfl) rfl rfl rfl (Nat.le_of_ble_eq_true rfl) d kk
theorem cT_49_100 {l : Launch} {D : va_G} {dA : Nat → ClassId} {A : Nat → Prop} {pz : Nat} {lc : Nat → Nat → Nat} {s : tt_S3} {cc : ByteArray} {nl : Nat} {rt : Option FieldType} {rm : Room} {tn : tt_Tn} {Q : tt_Fin} {pc : Nat} {lv : List (Nat × Value)} {rest : List Value} {ck cn : Nat} {K : tt_St → Prop} (h : Ok (fW_begins s.1) K) (hR : 3 + 1 ≤ rm.frames ∧ 8 + (5 + 11) + 62 ≤ rm.locals) (hW : (rest.map fun v => v.category).sum ≤ 8) (d : decode cc pc = .ok (.invokevirtual 49, 3)) (kk : ∀ r, K r → tt_V (XT l D dA A pz) cc (RX1, nl, rt, rm, tn) Q (pc + 3) lv rest lc (r, s.2) (ck + 0) (cn + 0)) (hf : ck + 0 ≤ rm.cells ∧ cn + 0 ≤ rm.slots) : tt_V (XT l D dA A pz) cc (RX1, nl, rt, rm, tn) Q pc lv (.ref (lc 100 0) :: rest) lc s ck cn :=
  v_callV (kd := 100) (i := 0) (nA := 0) (As := []) lvT_100 oT_100 rfl (liftNow (Q := (fun v lc' s' => ∃ r, K r ∧ v = none ∧ lc' = lc ∧ s' = (r, s.2))) (mW_begins l D dA (aT0 lc s) true (nT0 lc) s.1 (Q := fun v lc' w => lc' = nT0 lc ∧ (fun v lc' s' => ∃ r, K r ∧ v = none ∧ lc' = lc ∧ s' = (r, s.2)) v lc (w, s.2)) (h.mono (fun r hr => ⟨rfl, r, hr, rfl, rfl, rfl⟩)))) (lw_V q869 q870 q871 q128 q872) (by decide +kernel) rfl hR hW hf d rfl (fun v lc' s' q => by obtain ⟨r, hr, e1, e2, e3⟩ := q; rw [e1, e2, e3]; exact kk r hr)
theorem gT_X1_178_2 {l : Launch} {D : va_G} {dA : Nat → ClassId} {A : Nat → Prop} {pz : Nat} {lc : Nat → Nat → Nat} {s : tt_S3} {cc : ByteArray} {nl : Nat} {rt : Option FieldType} {rm : Room} {tn : tt_Tn} {Q : tt_Fin} {pc : Nat} {lv : List (Nat × Value)} {rest : List Value} {ck cn : Nat} {i : Nat} (hv : i < rdN s.2.2 2) (d : decode cc pc = .ok (.getfield 178, 3)) (kk : tt_V (XT l D dA A pz) cc (RX1, nl, rt, rm, tn) Q (pc + 3) lv (va_rf (Option.map (lc 3) (rdR s.2.2 2 i 2)) :: rest) lc s ck cn) : tt_V (XT l D dA A pz) cc (RX1, nl, rt, rm, tn) Q pc lv (.ref (lc 2 i) :: rest) lc s ck cn := v_getN (p := 2) knT (lvT_2 hv) oT_2 rfl in_X12 (by decide) q1006 (.inl rfl) rfl d kk
def fT_on (o w : tt_St) (i : Nat) : Option (Int32 × tt_St) := if rdR o 3 i 99 = some 0 then fT_lambda_place_0_0 w (rdI o 3 i 0) (rdI o 3 i 1) (rdI o 3 i 2) (rdI o 3 i 3) (rdI o 3 i 4) else if rdR o 3 i 99 = some 1 then fT_lambda_sign_1_0 w (rdI o 3 i 0) (rdI o 3 i 1) (rdI o 3 i 2) else if rdR o 3 i 99 = some 2 then fT_lambda_lack_2_0 w (rdI o 3 i 0) else if rdR o 3 i 99 = some 3 then fT_lambda_rules_3_0 w (rdI o 3 i 0) (rdI o 3 i 1) (rdI o 3 i 2) else if rdR o 3 i 99 = some 4 then fT_lambda_harm_4_0 w (rdI o 3 i 0) (rdI o 3 i 1) (rdI o 3 i 2) (rdI o 3 i 3) (rdI o 3 i 4) else if rdR o 3 i 99 = some 5 then fT_lambda_grow_5_0 w (rdI o 3 i 0) (rdI o 3 i 1) else if rdR o 3 i 99 = some 6 then fT_lambda_settle_6_0 w (rdI o 3 i 0) (rdI o 3 i 1) else if rdR o 3 i 99 = some 7 then fT_lambda_fall_7_0 w (rdI o 3 i 0) else if rdR o 3 i 99 = some 8 then fT_lambda_reopen_8_0 w (rdI o 3 i 0) else none
theorem lam_shp5 : lam_shp lam_s5 ⟨"TallTowers$Deed", "on", "(LTallTowers$World;)Z"⟩ ⟨"TallTowers", "lambda$place$0", "(IIIIILTallTowers$World;)Z"⟩ (some .boolean) := ⟨rfl, rfl, by decide +kernel, rfl, by decide +kernel⟩
theorem lam_dc5 : lam_dcs lam_b5 [19, 21, 23, 25, 27] 35 .ireturn := by unfold lam_dcs; decide +kernel
theorem lam_shp6 : lam_shp lam_s6 ⟨"TallTowers$Deed", "on", "(LTallTowers$World;)Z"⟩ ⟨"TallTowers", "lambda$sign$1", "(IIILTallTowers$World;)Z"⟩ (some .boolean) := ⟨rfl, rfl, by decide +kernel, rfl, by decide +kernel⟩
theorem lam_dc6 : lam_dcs lam_b6 [17, 19, 21] 29 .ireturn := by unfold lam_dcs; decide +kernel
theorem lam_shp7 : lam_shp lam_s7 ⟨"TallTowers$Deed", "on", "(LTallTowers$World;)Z"⟩ ⟨"TallTowers", "lambda$lack$2", "(ILTallTowers$World;)Z"⟩ (some .boolean) := ⟨rfl, rfl, by decide +kernel, rfl, by decide +kernel⟩
theorem lam_dc7 : lam_dcs lam_b7 [15] 23 .ireturn := by unfold lam_dcs; decide +kernel
theorem lam_shp8 : lam_shp lam_s8 ⟨"TallTowers$Deed", "on", "(LTallTowers$World;)Z"⟩ ⟨"TallTowers", "lambda$rules$3", "(IIILTallTowers$World;)Z"⟩ (some .boolean) := ⟨rfl, rfl, by decide +kernel, rfl, by decide +kernel⟩
theorem lam_dc8 : lam_dcs lam_b8 [17, 19, 21] 29 .ireturn := by unfold lam_dcs; decide +kernel
theorem lam_shp9 : lam_shp lam_s9 ⟨"TallTowers$Deed", "on", "(LTallTowers$World;)Z"⟩ ⟨"TallTowers", "lambda$harm$4", "(IIIIILTallTowers$World;)Z"⟩ (some .boolean) := ⟨rfl, rfl, by decide +kernel, rfl, by decide +kernel⟩
theorem lam_dc9 : lam_dcs lam_b9 [19, 21, 23, 25, 27] 35 .ireturn := by unfold lam_dcs; decide +kernel
theorem lam_shp10 : lam_shp lam_s10 ⟨"TallTowers$Deed", "on", "(LTallTowers$World;)Z"⟩ ⟨"TallTowers", "lambda$grow$5", "(IILTallTowers$World;)Z"⟩ (some .boolean) := ⟨rfl, rfl, by decide +kernel, rfl, by decide +kernel⟩
theorem lam_dc10 : lam_dcs lam_b10 [16, 18] 26 .ireturn := by unfold lam_dcs; decide +kernel
theorem lam_shp11 : lam_shp lam_s11 ⟨"TallTowers$Deed", "on", "(LTallTowers$World;)Z"⟩ ⟨"TallTowers", "lambda$settle$6", "(IILTallTowers$World;)Z"⟩ (some .boolean) := ⟨rfl, rfl, by decide +kernel, rfl, by decide +kernel⟩
theorem lam_dc11 : lam_dcs lam_b11 [16, 18] 26 .ireturn := by unfold lam_dcs; decide +kernel
theorem lam_shp12 : lam_shp lam_s12 ⟨"TallTowers$Deed", "on", "(LTallTowers$World;)Z"⟩ ⟨"TallTowers", "lambda$fall$7", "(ILTallTowers$World;)Z"⟩ (some .boolean) := ⟨rfl, rfl, by decide +kernel, rfl, by decide +kernel⟩
theorem lam_dc12 : lam_dcs lam_b12 [15] 23 .ireturn := by unfold lam_dcs; decide +kernel
theorem lam_shp13 : lam_shp lam_s13 ⟨"TallTowers$Deed", "on", "(LTallTowers$World;)Z"⟩ ⟨"TallTowers", "lambda$reopen$8", "(ILTallTowers$World;)Z"⟩ (some .boolean) := ⟨rfl, rfl, by decide +kernel, rfl, by decide +kernel⟩
theorem lam_dc13 : lam_dcs lam_b13 [15] 23 .ireturn := by unfold lam_dcs; decide +kernel
theorem cT_on_100 {l : Launch} {D : va_G} {dA : Nat → ClassId} {A : Nat → Prop} {pz : Nat} {lc : Nat → Nat → Nat} {s : tt_S3} {cc : ByteArray} {nl : Nat} {rt : Option FieldType} {rm : Room} {tn : tt_Tn} {Q : tt_Fin} {pc : Nat} {lv : List (Nat × Value)} {rest : List Value} {ck cn : Nat} {x0 : Nat} (hx0 : x0 < rdN s.2.2 3) {K : Int32 × tt_St → Prop} (h : Ok (fT_on s.2.2 s.1 x0) K) (hR : 15 + 1 ≤ rm.frames ∧ 8 + (2 + 11) + 358 ≤ rm.locals) (hW : (rest.map fun v => v.category).sum ≤ 8) {cnt : Nat} (d : decode cc pc = .ok (.invokeinterface 96 cnt, 5)) (kk : ∀ r : Int32 × tt_St, zB r.1 → K r → tt_V (XT l D dA A pz) cc (RX1, nl, rt, rm, tn) Q (pc + 5) lv (.int r.1 :: rest) lc (r.2, s.2) ck cn) (hf : ck ≤ rm.cells ∧ cn ≤ rm.slots) : tt_V (XT l D dA A pz) cc (RX1, nl, rt, rm, tn) Q pc lv (.ref (lc 100 0) :: .ref (lc 3 x0) :: rest) lc s ck cn := by
  unfold fT_on at h
  by_cases e0 : rdR s.2.2 3 x0 99 = some 0
  · rw [if_pos e0] at h
    refine v_callMadeZ (x0 := lam_x5) (bs := lam_b5) (mi := 35) (fi := [19, 21, 23, 25, 27]) (xi := lam_on) (rm := rmT_lambda_place_0_0) (Q' := (fun v lc' s' => ∃ r : Int32 × tt_St, zB r.1 ∧ K r ∧ v = some (Value.int r.1) ∧ lc' = lc ∧ s' = (r.2, s.2))) (fun U hU => (klT U hU).1 0 (by decide)) lam_i5 lam_shp5 lam_dc5 (cellD hx0 e0) rfl (liftNow (Q := (fun v lc' s' => ∃ r : Int32 × tt_St, zB r.1 ∧ K r ∧ v = some (Value.int r.1) ∧ lc' = lc ∧ s' = (r.2, s.2))) (mT_lambda_place_0_0 l D dA (aT0 lc s) true (nT0 lc) s.1 (rdI s.2.2 3 x0 0) (rdI s.2.2 3 x0 1) (rdI s.2.2 3 x0 2) (rdI s.2.2 3 x0 3) (rdI s.2.2 3 x0 4) (Q := fun v lc' w => lc' = nT0 lc ∧ (fun v lc' s' => ∃ r : Int32 × tt_St, zB r.1 ∧ K r ∧ v = some (Value.int r.1) ∧ lc' = lc ∧ s' = (r.2, s.2)) v lc (w, s.2)) (h.mono fun r hr hz => ⟨rfl, r, hz, hr, rfl, rfl, rfl⟩))) (fun v lc' s' q => by obtain ⟨r, hz, -, e1, -⟩ := q; exact ⟨r.1, e1, hz⟩) (lw_meth q959) q958 q127 q925 (by decide +kernel) ⟨Nat.le_trans (Nat.le_of_ble_eq_true rfl) hR.1, Nat.le_trans (Nat.le_of_ble_eq_true rfl) hR.2⟩ hW hf d (fun v lc' s' q => ?_)
    obtain ⟨r, hz, hr, e1, e2, e3⟩ := q
    rw [e1, e2, e3]
    exact kk r hz hr
  rw [if_neg e0] at h
  by_cases e1 : rdR s.2.2 3 x0 99 = some 1
  · rw [if_pos e1] at h
    refine v_callMadeZ (x0 := lam_x6) (bs := lam_b6) (mi := 29) (fi := [17, 19, 21]) (xi := lam_on) (rm := rmT_lambda_sign_1_0) (Q' := (fun v lc' s' => ∃ r : Int32 × tt_St, zB r.1 ∧ K r ∧ v = some (Value.int r.1) ∧ lc' = lc ∧ s' = (r.2, s.2))) (fun U hU => (klT U hU).1 1 (by decide)) lam_i6 lam_shp6 lam_dc6 (cellD hx0 e1) rfl (liftNow (Q := (fun v lc' s' => ∃ r : Int32 × tt_St, zB r.1 ∧ K r ∧ v = some (Value.int r.1) ∧ lc' = lc ∧ s' = (r.2, s.2))) (mT_lambda_sign_1_0 l D dA (aT0 lc s) true (nT0 lc) s.1 (rdI s.2.2 3 x0 0) (rdI s.2.2 3 x0 1) (rdI s.2.2 3 x0 2) (Q := fun v lc' w => lc' = nT0 lc ∧ (fun v lc' s' => ∃ r : Int32 × tt_St, zB r.1 ∧ K r ∧ v = some (Value.int r.1) ∧ lc' = lc ∧ s' = (r.2, s.2)) v lc (w, s.2)) (h.mono fun r hr hz => ⟨rfl, r, hz, hr, rfl, rfl, rfl⟩))) (fun v lc' s' q => by obtain ⟨r, hz, -, e1, -⟩ := q; exact ⟨r.1, e1, hz⟩) (lw_meth q1050) q1049 q127 q925 (by decide +kernel) ⟨Nat.le_trans (Nat.le_of_ble_eq_true rfl) hR.1, Nat.le_trans (Nat.le_of_ble_eq_true rfl) hR.2⟩ hW hf d (fun v lc' s' q => ?_)
    obtain ⟨r, hz, hr, e1, e2, e3⟩ := q
    rw [e1, e2, e3]
    exact kk r hz hr
  rw [if_neg e1] at h
  by_cases e2 : rdR s.2.2 3 x0 99 = some 2
  · rw [if_pos e2] at h
    refine v_callMadeZ (x0 := lam_x7) (bs := lam_b7) (mi := 23) (fi := [15]) (xi := lam_on) (rm := rmT_lambda_lack_2_0) (Q' := (fun v lc' s' => ∃ r : Int32 × tt_St, zB r.1 ∧ K r ∧ v = some (Value.int r.1) ∧ lc' = lc ∧ s' = (r.2, s.2))) (fun U hU => (klT U hU).1 2 (by decide)) lam_i7 lam_shp7 lam_dc7 (cellD hx0 e2) rfl (liftNow (Q := (fun v lc' s' => ∃ r : Int32 × tt_St, zB r.1 ∧ K r ∧ v = some (Value.int r.1) ∧ lc' = lc ∧ s' = (r.2, s.2))) (mT_lambda_lack_2_0 l D dA (aT0 lc s) true (nT0 lc) s.1 (rdI s.2.2 3 x0 0) (Q := fun v lc' w => lc' = nT0 lc ∧ (fun v lc' s' => ∃ r : Int32 × tt_St, zB r.1 ∧ K r ∧ v = some (Value.int r.1) ∧ lc' = lc ∧ s' = (r.2, s.2)) v lc (w, s.2)) (h.mono fun r hr hz => ⟨rfl, r, hz, hr, rfl, rfl, rfl⟩))) (fun v lc' s' q => by obtain ⟨r, hz, -, e1, -⟩ := q; exact ⟨r.1, e1, hz⟩) (lw_meth q1076) q1075 q127 q925 (by decide +kernel) ⟨Nat.le_trans (Nat.le_of_ble_eq_true rfl) hR.1, Nat.le_trans (Nat.le_of_ble_eq_true rfl) hR.2⟩ hW hf d (fun v lc' s' q => ?_)
    obtain ⟨r, hz, hr, e1, e2, e3⟩ := q
    rw [e1, e2, e3]
    exact kk r hz hr
  rw [if_neg e2] at h
  by_cases e3 : rdR s.2.2 3 x0 99 = some 3
  · rw [if_pos e3] at h
    refine v_callMadeZ (x0 := lam_x8) (bs := lam_b8) (mi := 29) (fi := [17, 19, 21]) (xi := lam_on) (rm := rmT_lambda_rules_3_0) (Q' := (fun v lc' s' => ∃ r : Int32 × tt_St, zB r.1 ∧ K r ∧ v = some (Value.int r.1) ∧ lc' = lc ∧ s' = (r.2, s.2))) (fun U hU => (klT U hU).1 3 (by decide)) lam_i8 lam_shp8 lam_dc8 (cellD hx0 e3) rfl (liftNow (Q := (fun v lc' s' => ∃ r : Int32 × tt_St, zB r.1 ∧ K r ∧ v = some (Value.int r.1) ∧ lc' = lc ∧ s' = (r.2, s.2))) (mT_lambda_rules_3_0 l D dA (aT0 lc s) true (nT0 lc) s.1 (rdI s.2.2 3 x0 0) (rdI s.2.2 3 x0 1) (rdI s.2.2 3 x0 2) (Q := fun v lc' w => lc' = nT0 lc ∧ (fun v lc' s' => ∃ r : Int32 × tt_St, zB r.1 ∧ K r ∧ v = some (Value.int r.1) ∧ lc' = lc ∧ s' = (r.2, s.2)) v lc (w, s.2)) (h.mono fun r hr hz => ⟨rfl, r, hz, hr, rfl, rfl, rfl⟩))) (fun v lc' s' q => by obtain ⟨r, hz, -, e1, -⟩ := q; exact ⟨r.1, e1, hz⟩) (lw_meth q1099) q1098 q127 q925 (by decide +kernel) ⟨Nat.le_trans (Nat.le_of_ble_eq_true rfl) hR.1, Nat.le_trans (Nat.le_of_ble_eq_true rfl) hR.2⟩ hW hf d (fun v lc' s' q => ?_)
    obtain ⟨r, hz, hr, e1, e2, e3⟩ := q
    rw [e1, e2, e3]
    exact kk r hz hr
  rw [if_neg e3] at h
  by_cases e4 : rdR s.2.2 3 x0 99 = some 4
  · rw [if_pos e4] at h
    refine v_callMadeZ (x0 := lam_x9) (bs := lam_b9) (mi := 35) (fi := [19, 21, 23, 25, 27]) (xi := lam_on) (rm := rmT_lambda_harm_4_0) (Q' := (fun v lc' s' => ∃ r : Int32 × tt_St, zB r.1 ∧ K r ∧ v = some (Value.int r.1) ∧ lc' = lc ∧ s' = (r.2, s.2))) (fun U hU => (klT U hU).1 4 (by decide)) lam_i9 lam_shp9 lam_dc9 (cellD hx0 e4) rfl (liftNow (Q := (fun v lc' s' => ∃ r : Int32 × tt_St, zB r.1 ∧ K r ∧ v = some (Value.int r.1) ∧ lc' = lc ∧ s' = (r.2, s.2))) (mT_lambda_harm_4_0 l D dA (aT0 lc s) true (nT0 lc) s.1 (rdI s.2.2 3 x0 0) (rdI s.2.2 3 x0 1) (rdI s.2.2 3 x0 2) (rdI s.2.2 3 x0 3) (rdI s.2.2 3 x0 4) (Q := fun v lc' w => lc' = nT0 lc ∧ (fun v lc' s' => ∃ r : Int32 × tt_St, zB r.1 ∧ K r ∧ v = some (Value.int r.1) ∧ lc' = lc ∧ s' = (r.2, s.2)) v lc (w, s.2)) (h.mono fun r hr hz => ⟨rfl, r, hz, hr, rfl, rfl, rfl⟩))) (fun v lc' s' q => by obtain ⟨r, hz, -, e1, -⟩ := q; exact ⟨r.1, e1, hz⟩) (lw_meth q1117) q1116 q127 q925 (by decide +kernel) ⟨Nat.le_trans (Nat.le_of_ble_eq_true rfl) hR.1, Nat.le_trans (Nat.le_of_ble_eq_true rfl) hR.2⟩ hW hf d (fun v lc' s' q => ?_)
    obtain ⟨r, hz, hr, e1, e2, e3⟩ := q
    rw [e1, e2, e3]
    exact kk r hz hr
  rw [if_neg e4] at h
  by_cases e5 : rdR s.2.2 3 x0 99 = some 5
  · rw [if_pos e5] at h
    refine v_callMadeZ (x0 := lam_x10) (bs := lam_b10) (mi := 26) (fi := [16, 18]) (xi := lam_on) (rm := rmT_lambda_grow_5_0) (Q' := (fun v lc' s' => ∃ r : Int32 × tt_St, zB r.1 ∧ K r ∧ v = some (Value.int r.1) ∧ lc' = lc ∧ s' = (r.2, s.2))) (fun U hU => (klT U hU).1 5 (by decide)) lam_i10 lam_shp10 lam_dc10 (cellD hx0 e5) rfl (liftNow (Q := (fun v lc' s' => ∃ r : Int32 × tt_St, zB r.1 ∧ K r ∧ v = some (Value.int r.1) ∧ lc' = lc ∧ s' = (r.2, s.2))) (mT_lambda_grow_5_0 l D dA (aT0 lc s) true (nT0 lc) s.1 (rdI s.2.2 3 x0 0) (rdI s.2.2 3 x0 1) (Q := fun v lc' w => lc' = nT0 lc ∧ (fun v lc' s' => ∃ r : Int32 × tt_St, zB r.1 ∧ K r ∧ v = some (Value.int r.1) ∧ lc' = lc ∧ s' = (r.2, s.2)) v lc (w, s.2)) (h.mono fun r hr hz => ⟨rfl, r, hz, hr, rfl, rfl, rfl⟩))) (fun v lc' s' q => by obtain ⟨r, hz, -, e1, -⟩ := q; exact ⟨r.1, e1, hz⟩) (lw_meth q1178) q1177 q127 q925 (by decide +kernel) ⟨Nat.le_trans (Nat.le_of_ble_eq_true rfl) hR.1, Nat.le_trans (Nat.le_of_ble_eq_true rfl) hR.2⟩ hW hf d (fun v lc' s' q => ?_)
    obtain ⟨r, hz, hr, e1, e2, e3⟩ := q
    rw [e1, e2, e3]
    exact kk r hz hr
  rw [if_neg e5] at h
  by_cases e6 : rdR s.2.2 3 x0 99 = some 6
  · rw [if_pos e6] at h
    refine v_callMadeZ (x0 := lam_x11) (bs := lam_b11) (mi := 26) (fi := [16, 18]) (xi := lam_on) (rm := rmT_lambda_settle_6_0) (Q' := (fun v lc' s' => ∃ r : Int32 × tt_St, zB r.1 ∧ K r ∧ v = some (Value.int r.1) ∧ lc' = lc ∧ s' = (r.2, s.2))) (fun U hU => (klT U hU).1 6 (by decide)) lam_i11 lam_shp11 lam_dc11 (cellD hx0 e6) rfl (liftNow (Q := (fun v lc' s' => ∃ r : Int32 × tt_St, zB r.1 ∧ K r ∧ v = some (Value.int r.1) ∧ lc' = lc ∧ s' = (r.2, s.2))) (mT_lambda_settle_6_0 l D dA (aT0 lc s) true (nT0 lc) s.1 (rdI s.2.2 3 x0 0) (rdI s.2.2 3 x0 1) (Q := fun v lc' w => lc' = nT0 lc ∧ (fun v lc' s' => ∃ r : Int32 × tt_St, zB r.1 ∧ K r ∧ v = some (Value.int r.1) ∧ lc' = lc ∧ s' = (r.2, s.2)) v lc (w, s.2)) (h.mono fun r hr hz => ⟨rfl, r, hz, hr, rfl, rfl, rfl⟩))) (fun v lc' s' q => by obtain ⟨r, hz, -, e1, -⟩ := q; exact ⟨r.1, e1, hz⟩) (lw_meth q1191) q1190 q127 q925 (by decide +kernel) ⟨Nat.le_trans (Nat.le_of_ble_eq_true rfl) hR.1, Nat.le_trans (Nat.le_of_ble_eq_true rfl) hR.2⟩ hW hf d (fun v lc' s' q => ?_)
    obtain ⟨r, hz, hr, e1, e2, e3⟩ := q
    rw [e1, e2, e3]
    exact kk r hz hr
  rw [if_neg e6] at h
  by_cases e7 : rdR s.2.2 3 x0 99 = some 7
  · rw [if_pos e7] at h
    refine v_callMadeZ (x0 := lam_x12) (bs := lam_b12) (mi := 23) (fi := [15]) (xi := lam_on) (rm := rmT_lambda_fall_7_0) (Q' := (fun v lc' s' => ∃ r : Int32 × tt_St, zB r.1 ∧ K r ∧ v = some (Value.int r.1) ∧ lc' = lc ∧ s' = (r.2, s.2))) (fun U hU => (klT U hU).1 7 (by decide)) lam_i12 lam_shp12 lam_dc12 (cellD hx0 e7) rfl (liftNow (Q := (fun v lc' s' => ∃ r : Int32 × tt_St, zB r.1 ∧ K r ∧ v = some (Value.int r.1) ∧ lc' = lc ∧ s' = (r.2, s.2))) (mT_lambda_fall_7_0 l D dA (aT0 lc s) true (nT0 lc) s.1 (rdI s.2.2 3 x0 0) (Q := fun v lc' w => lc' = nT0 lc ∧ (fun v lc' s' => ∃ r : Int32 × tt_St, zB r.1 ∧ K r ∧ v = some (Value.int r.1) ∧ lc' = lc ∧ s' = (r.2, s.2)) v lc (w, s.2)) (h.mono fun r hr hz => ⟨rfl, r, hz, hr, rfl, rfl, rfl⟩))) (fun v lc' s' q => by obtain ⟨r, hz, -, e1, -⟩ := q; exact ⟨r.1, e1, hz⟩) (lw_meth q1208) q1207 q127 q925 (by decide +kernel) ⟨Nat.le_trans (Nat.le_of_ble_eq_true rfl) hR.1, Nat.le_trans (Nat.le_of_ble_eq_true rfl) hR.2⟩ hW hf d (fun v lc' s' q => ?_)
    obtain ⟨r, hz, hr, e1, e2, e3⟩ := q
    rw [e1, e2, e3]
    exact kk r hz hr
  rw [if_neg e7] at h
  by_cases e8 : rdR s.2.2 3 x0 99 = some 8
  · rw [if_pos e8] at h
    refine v_callMadeZ (x0 := lam_x13) (bs := lam_b13) (mi := 23) (fi := [15]) (xi := lam_on) (rm := rmT_lambda_reopen_8_0) (Q' := (fun v lc' s' => ∃ r : Int32 × tt_St, zB r.1 ∧ K r ∧ v = some (Value.int r.1) ∧ lc' = lc ∧ s' = (r.2, s.2))) (fun U hU => (klT U hU).1 8 (by decide)) lam_i13 lam_shp13 lam_dc13 (cellD hx0 e8) rfl (liftNow (Q := (fun v lc' s' => ∃ r : Int32 × tt_St, zB r.1 ∧ K r ∧ v = some (Value.int r.1) ∧ lc' = lc ∧ s' = (r.2, s.2))) (mT_lambda_reopen_8_0 l D dA (aT0 lc s) true (nT0 lc) s.1 (rdI s.2.2 3 x0 0) (Q := fun v lc' w => lc' = nT0 lc ∧ (fun v lc' s' => ∃ r : Int32 × tt_St, zB r.1 ∧ K r ∧ v = some (Value.int r.1) ∧ lc' = lc ∧ s' = (r.2, s.2)) v lc (w, s.2)) (h.mono fun r hr hz => ⟨rfl, r, hz, hr, rfl, rfl, rfl⟩))) (fun v lc' s' q => by obtain ⟨r, hz, -, e1, -⟩ := q; exact ⟨r.1, e1, hz⟩) (lw_meth q1217) q1216 q127 q925 (by decide +kernel) ⟨Nat.le_trans (Nat.le_of_ble_eq_true rfl) hR.1, Nat.le_trans (Nat.le_of_ble_eq_true rfl) hR.2⟩ hW hf d (fun v lc' s' q => ?_)
    obtain ⟨r, hz, hr, e1, e2, e3⟩ := q
    rw [e1, e2, e3]
    exact kk r hz hr
  rw [if_neg e8] at h
  exact Ok.stuck h
def fT_back_L28  (a4 : Int32 × tt_S3) : Option ((Int32 × tt_S3) ⊕ (Int32 × tt_S3)) :=
  if (rdI a4.2.2.2 0 0 7) ≤ a4.1 then some (.inr (a4.1, a4.2)) else if inB a4.1 160 then unO (rdR a4.2.2.2 1 0 a4.1.toNatClampNeg) (rdN a4.2.2.2 2) fun o8 => unO (rdR a4.2.2.2 2 o8 2) (rdN a4.2.2.2 3) fun o9 => (fT_on a4.2.2.2 a4.2.1 o9).bind fun r10 => some (.inl ((a4.1 + 1 : Int32), (r10.2, a4.2.2))) else none
def fT_back (s : tt_S3) : Option (Int32 × tt_S3) :=
  if (rdI s.2.2 0 0 7) = 0 then some ((-1 : Int32), s) else nm (s.1, s.2.1, wrI s.2.2 0 0 7 ((rdI s.2.2 0 0 7) - (1 : Int32))) fun s2 => (fW_begins s2.1).bind fun r3 => (itr (fT_back_L28) tt_fuel ((0 : Int32), (r3, s2.2))).bind fun b5 => some (rdI b5.2.2.2 0 0 7, b5.2)
abbrev rmT_back : Room := { frames := 16, cells := 0, slots := 0, locals := 379 }
set_option maxHeartbeats 4000000 in
theorem mT_back (l : Launch) (D : va_G) (dA : Nat → ClassId) (A : Nat → Prop) (pz : Nat) (lc : Nat → Nat → Nat) (s : tt_S3) {Q : Option Value → (Nat → Nat → Nat) → tt_S3 → Prop} (h : Ok (fT_back s) (fun r => Q (some (.int r.1)) lc r.2)) : tt_Sp (XT l D dA A pz) yX1_back cX1_back 2 (some .int) rmT_back [.ref (lc 0 0)] lc s Q := by
  refine tt_Sp.ofV plX1 kokT (Nat.le_of_ble_eq_true rfl) ?_
  show tt_V (XT l D dA A pz) cX1_back (RX1, 2, (some .int), rmT_back, tt_nt) (tt_fn (XT l D dA A pz) (RX1, 2, (some .int), rmT_back, tt_nt) Q) 0 [(0, .ref (lc 0 0))] [] lc s 0 0
  unfold fT_back at h
  refine v_aload_n 0 dX1_back_0 rfl ?_
  refine gT_X1_93_0 dX1_back_1 ?_
  refine v_if_ne (tgt := 9) dX1_back_4 rfl (fun c1 => ?_) (fun c1 => ?_)
  · have h := Ok.neg h c1
    refine v_aload_n 0 dX1_back_9 rfl ?_
    refine v_dup dX1_back_10 rfl ?_
    refine gT_X1_93_0 dX1_back_11 ?_
    refine v_iconst dX1_back_14 ic_1 ?_
    refine v_isub dX1_back_15 ?_
    refine pT_X1_93_0 dX1_back_16 ?_
    refine v_nmS (fun s2 e_s2 => ?_)
    have h := Ok.nm h e_s2
    refine v_aload_n 0 dX1_back_19 rfl ?_
    refine gT_X1_10_0 dX1_back_20 ?_
    refine cT_49_100 (Ok.bind h) ⟨Nat.le_of_ble_eq_true rfl, Nat.le_of_ble_eq_true rfl⟩ (Nat.le_of_ble_eq_true rfl) dX1_back_23 (fun r3 h => ?_) ⟨Nat.le_of_ble_eq_true rfl, Nat.le_of_ble_eq_true rfl⟩
    refine v_iconst dX1_back_26 ic_0 ?_
    refine v_istore_n [(1, .int (0 : Int32)), (0, .ref (lc 0 0))] dX1_back_27 (Nat.le_of_ble_eq_true rfl) rfl ?_
    refine v_sub [1, 0] rfl ?_
    refine itr_loop (P := fun a4 : Int32 × tt_S3 => tt_V (XT l D dA A pz) cX1_back (RX1, 2, (some .int), rmT_back, tt_nt) (tt_fn (XT l D dA A pz) (RX1, 2, (some .int), rmT_back, tt_nt) Q) 28 [(0, .ref (lc 0 0)), (1, .int a4.1)] [] lc a4.2 0 0) (PE := fun b5 : Int32 × tt_S3 => tt_V (XT l D dA A pz) cX1_back (RX1, 2, (some .int), rmT_back, tt_nt) (tt_fn (XT l D dA A pz) (RX1, 2, (some .int), rmT_back, tt_nt) Q) 61 [(0, .ref (lc 0 0)), (1, .int b5.1)] [] lc b5.2 0 0) h (fun b5 h => ?_) (fun a4 h => ?_)
    · refine v_aload_n 0 dX1_back_61 rfl ?_
      refine gT_X1_93_0 dX1_back_62 ?_
      have h := Ok.ret h
      exact v_iret rfl (Nat.le_of_ble_eq_true rfl) (Nat.le_of_ble_eq_true rfl) dX1_back_65 h
    · have h : Ok (fT_back_L28 a4) _ := h
      unfold fT_back_L28 at h
      refine v_iload_n 1 dX1_back_28 rfl ?_
      refine v_aload_n 0 dX1_back_29 rfl ?_
      refine gT_X1_93_0 dX1_back_30 ?_
      refine v_icmp_ge (tgt := 61) dX1_back_33 rfl (fun c6 => ?_) (fun c6 => ?_)
      · have h := Ok.pos h c6
        have h := Ok.ret h
        exact h
      · have h := Ok.neg h c6
        refine v_aload_n 0 dX1_back_36 rfl ?_
        refine gT_X1_28_0 dX1_back_37 ?_
        refine v_iload_n 1 dX1_back_40 rfl ?_
        obtain ⟨g7, h⟩ := Ok.guard h
        obtain ⟨o8, e_o8, g_o8, h⟩ := Ok.unO h
        refine lT_1 g7 e_o8 dX1_back_41 ?_
        refine gT_X1_178_2 g_o8 dX1_back_42 ?_
        refine v_aload_n 0 dX1_back_45 rfl ?_
        refine gT_X1_10_0 dX1_back_46 ?_
        obtain ⟨o9, e_o9, g_o9, h⟩ := Ok.unO h
        rw [e_o9]
        show tt_V (XT l D dA A pz) cX1_back (RX1, 2, (some .int), rmT_back, tt_nt) (tt_fn (XT l D dA A pz) (RX1, 2, (some .int), rmT_back, tt_nt) Q) 49 [(0, .ref (lc 0 0)), (1, .int a4.1)] [.ref (lc 100 0), .ref (lc 3 o9)] lc a4.2 0 0
        refine cT_on_100 g_o9 (Ok.bind h) ⟨Nat.le_of_ble_eq_true rfl, Nat.le_of_ble_eq_true rfl⟩ (Nat.le_of_ble_eq_true rfl) dX1_back_49 (fun r10 z_r10 h => ?_) ⟨Nat.le_of_ble_eq_true rfl, Nat.le_of_ble_eq_true rfl⟩
        refine v_pop dX1_back_54 rfl ?_
        refine v_iinc (v := (a4.1 + 1 : Int32)) 1 [(1, .int (a4.1 + 1 : Int32)), (0, .ref (lc 0 0))] dX1_back_55 rfl (by rw [ic_1]) (Nat.le_of_ble_eq_true rfl) rfl ?_
        refine v_goto (tgt := 28) dX1_back_58 rfl ?_
        refine v_sub [1, 0] rfl ?_
        have h := Ok.ret h
        exact h
  · have h := Ok.pos h c1
    refine v_iconst dX1_back_7 ic_m1 ?_
    have h := Ok.ret h
    exact v_iret rfl (Nat.le_of_ble_eq_true rfl) (Nat.le_of_ble_eq_true rfl) dX1_back_8 h
def fT_rulesOf (s : tt_S3) (x1 : Int32) (x2 : Int32) (x3 : Int32) : Option ((tt_S3) ⊕ (Nat × tt_S3)) :=
  (fT_within s x1 (0 : Int32) (3 : Int32)).bind fun q_r1 => orThrow q_r1 fun r1 => (fT_within r1 x2 (0 : Int32) (3 : Int32)).bind fun q_r2 => orThrow q_r2 fun r2 => (fT_within r2 x3 (0 : Int32) (3 : Int32)).bind fun q_r3 => orThrow q_r3 fun r3 => some (.inl r3)
abbrev rmT_rulesOf : Room := { frames := 8, cells := 3, slots := 18, locals := 140 }
set_option maxHeartbeats 4000000 in
theorem mT_rulesOf (l : Launch) (D : va_G) (dA : Nat → ClassId) (A : Nat → Prop) (pz : Nat) (hl9 : l.stackTraces = false) (lc : Nat → Nat → Nat) (s : tt_S3) (x1 : Int32) (x2 : Int32) (x3 : Int32) {Q : Option Value → (Nat → Nat → Nat) → tt_S3 → Prop} {QX : String → (Nat → Nat → Nat) → tt_S3 → Prop} (h : Ok (fT_rulesOf s x1 x2 x3) (fun q => Sum.casesOn (motive := fun _ => Prop) q (fun r => Q none lc r) (fun e => QX (tt_exn e.1) lc e.2))) : tt_SpX (XT l D dA A pz) yX1_rulesOf cX1_rulesOf 4 none rmT_rulesOf [.ref (lc 0 0), .int x1, .int x2, .int x3] lc s Q QX := by
  refine tt_SpX.ofV plX1 kokT (Nat.le_of_ble_eq_true rfl) ?_
  show tt_V (XT l D dA A pz) cX1_rulesOf (RX1, 4, none, rmT_rulesOf, tt_ne) (tt_fx (XT l D dA A pz) (RX1, 4, none, rmT_rulesOf, tt_ne) Q QX) 0 [(0, .ref (lc 0 0)), (1, .int x1), (2, .int x2), (3, .int x3)] [] lc s 0 0
  unfold fT_rulesOf at h
  refine v_aload_n 0 dX1_rulesOf_0 rfl ?_
  refine v_iload_n 1 dX1_rulesOf_1 rfl ?_
  refine v_iconst dX1_rulesOf_2 ic_0 ?_
  refine v_iconst dX1_rulesOf_3 ic_3 ?_
  refine cT_80_0 (Ok.throws h) hl9 (fun _ _ _ h => h) (fun _ h => h) ⟨Nat.le_of_ble_eq_true rfl, Nat.le_of_ble_eq_true rfl⟩ (Nat.le_of_ble_eq_true rfl) dX1_rulesOf_4 (fun r1 h => ?_) ⟨Nat.le_of_ble_eq_true rfl, Nat.le_of_ble_eq_true rfl⟩
  refine v_aload_n 0 dX1_rulesOf_7 rfl ?_
  refine v_iload_n 2 dX1_rulesOf_8 rfl ?_
  refine v_iconst dX1_rulesOf_9 ic_0 ?_
  refine v_iconst dX1_rulesOf_10 ic_3 ?_
  refine cT_80_0 (Ok.throws h) hl9 (fun _ _ _ h => h) (fun _ h => h) ⟨Nat.le_of_ble_eq_true rfl, Nat.le_of_ble_eq_true rfl⟩ (Nat.le_of_ble_eq_true rfl) dX1_rulesOf_11 (fun r2 h => ?_) ⟨Nat.le_of_ble_eq_true rfl, Nat.le_of_ble_eq_true rfl⟩
  refine v_aload_n 0 dX1_rulesOf_14 rfl ?_
  refine v_iload_n 3 dX1_rulesOf_15 rfl ?_
  refine v_iconst dX1_rulesOf_16 ic_0 ?_
  refine v_iconst dX1_rulesOf_17 ic_3 ?_
  refine cT_80_0 (Ok.throws h) hl9 (fun _ _ _ h => h) (fun _ h => h) ⟨Nat.le_of_ble_eq_true rfl, Nat.le_of_ble_eq_true rfl⟩ (Nat.le_of_ble_eq_true rfl) dX1_rulesOf_18 (fun r3 h => ?_) ⟨Nat.le_of_ble_eq_true rfl, Nat.le_of_ble_eq_true rfl⟩
  have h := Ok.ret h
  exact v_retX (v_vret rfl (Nat.le_of_ble_eq_true rfl) (Nat.le_of_ble_eq_true rfl) dX1_rulesOf_21 h)
theorem cT_143_0 {l : Launch} {D : va_G} {dA : Nat → ClassId} {A : Nat → Prop} {pz : Nat} {lc : Nat → Nat → Nat} {s : tt_S3} {cc : ByteArray} {nl : Nat} {rt : Option FieldType} {rm : Room} {tn : tt_Tn} {Q : Option Value → (Nat → Nat → Nat) → tt_S3 → Prop} {QX : String → (Nat → Nat → Nat) → tt_S3 → Prop} {pc : Nat} {lv : List (Nat × Value)} {rest : List Value} {ck cn : Nat} {x1 : Int32} {x2 : Int32} {x3 : Int32} {K : tt_S3 → Prop} {K2 : Nat × tt_S3 → Prop} (h : Ok (fT_rulesOf s x1 x2 x3) (fun q => Sum.casesOn (motive := fun _ => Prop) q K K2)) (hl9 : l.stackTraces = false) (hTb : ∀ c m s0, tn c m s0 → tt_ne c m s0) (kx : ∀ e : Nat × tt_S3, K2 e → QX (tt_exn e.1) lc e.2) (hR : 8 + 1 ≤ rm.frames ∧ 8 + (4 + 11) + 140 ≤ rm.locals) (hW : (rest.map fun v => v.category).sum ≤ 8) (d : decode cc pc = .ok (.invokevirtual 143, 3)) (kk : ∀ r, K r → tt_V (XT l D dA A pz) cc (RX1, nl, rt, rm, tn) (tt_fx (XT l D dA A pz) (RX1, nl, rt, rm, tn) Q QX) (pc + 3) lv rest lc r (ck + 3) (cn + 18)) (hf : ck + 3 ≤ rm.cells ∧ cn + 18 ≤ rm.slots) : tt_V (XT l D dA A pz) cc (RX1, nl, rt, rm, tn) (tt_fx (XT l D dA A pz) (RX1, nl, rt, rm, tn) Q QX) pc lv (.int x3 :: .int x2 :: .int x1 :: .ref (lc 0 0) :: rest) lc s ck cn :=
  v_callVX (kd := 0) (i := 0) (nA := 3) (As := [.int x1, .int x2, .int x3]) lvT_0 oT_0 rfl (mT_rulesOf l D dA A pz hl9 lc s x1 x2 x3 (Q := (fun v lc' s' => ∃ r, K r ∧ v = none ∧ lc' = lc ∧ s' = r)) (QX := fun E lc' s' => ∃ e : Nat × tt_S3, K2 e ∧ E = tt_exn e.1 ∧ lc' = lc ∧ s' = e.2) (h.mono (fun q hq => by cases q with
    | inl r => exact (fun hr => ⟨r, hr, rfl, rfl, rfl⟩) hq
    | inr e => exact ⟨e, hq, rfl, rfl, rfl⟩))) (lw_V q1094 q1096 qs25 q127 q1097) (by decide +kernel) rfl hR hW hf hTb d rfl (fun E lc' s' q => by obtain ⟨e, hq, e1, e2, e3⟩ := q; rw [e1, e2, e3]; exact kx e hq) (fun v lc' s' q => by obtain ⟨r, hr, e1, e2, e3⟩ := q; rw [e1, e2, e3]; exact kk r hr)
theorem gT_X1_16_0 {l : Launch} {D : va_G} {dA : Nat → ClassId} {A : Nat → Prop} {pz : Nat} {lc : Nat → Nat → Nat} {s : tt_S3} {cc : ByteArray} {nl : Nat} {rt : Option FieldType} {rm : Room} {tn : tt_Tn} {Q : tt_Fin} {pc : Nat} {lv : List (Nat × Value)} {rest : List Value} {ck cn : Nat} (d : decode cc pc = .ok (.getfield 16, 3)) (kk : tt_V (XT l D dA A pz) cc (RX1, nl, rt, rm, tn) Q (pc + 3) lv (.ref (lc 200 0) :: rest) lc s ck cn) : tt_V (XT l D dA A pz) cc (RX1, nl, rt, rm, tn) Q pc lv (.ref (lc 0 0) :: rest) lc s ck cn := v_get (p := 1) lvT_0 oT_0 rfl in_X1 (by decide) q893 (.inl rfl) rfl d kk
theorem lvT_200 {l : Launch} {D : va_G} {dA : Nat → ClassId} {A : Nat → Prop} {pz : Nat} {s : tt_S3} : xV (XT l D dA A pz) s 200 0 := by rw [show (200 : Nat) = 200 + 0 from rfl, lvT_then]; exact rfl
theorem oT_200 {l : Launch} {D : va_G} {dA : Nat → ClassId} {A : Nat → Prop} {pz : Nat} {lc : Nat → Nat → Nat} {s : tt_S3} : tt_ent (XT l D dA A pz) lc s 200 0 = .inr (0, [.ref (lc 201 0), .ref (lc 206 0), .ref (lc 221 0), .ref (lc 223 0), .ref (lc 224 0), .ref (lc 225 0), .ref (lc 226 0), .ref (lc 227 0), .ref (lc 228 0), .ref (lc 229 0), .ref (lc 230 0), .ref (lc 231 0), .ref (lc 233 0), .ref (lc 234 0), .ref (lc 214 25), .ref (lc 214 26), .ref (lc 236 0), .int (rdI s.2.1 0 0 17), .int (rdI s.2.1 0 0 18), .int (rdI s.2.1 0 0 19), .int (rdI s.2.1 0 0 20), .int (rdI s.2.1 0 0 21), .int (rdI s.2.1 0 0 22), .int (rdI s.2.1 0 0 23)]) := eT_then (kd := 0)
theorem cT_49_200 {l : Launch} {D : va_G} {dA : Nat → ClassId} {A : Nat → Prop} {pz : Nat} {lc : Nat → Nat → Nat} {s : tt_S3} {cc : ByteArray} {nl : Nat} {rt : Option FieldType} {rm : Room} {tn : tt_Tn} {Q : tt_Fin} {pc : Nat} {lv : List (Nat × Value)} {rest : List Value} {ck cn : Nat} {K : tt_St → Prop} (h : Ok (fW_begins s.2.1) K) (hR : 3 + 1 ≤ rm.frames ∧ 8 + (5 + 11) + 62 ≤ rm.locals) (hW : (rest.map fun v => v.category).sum ≤ 8) (d : decode cc pc = .ok (.invokevirtual 49, 3)) (kk : ∀ r, K r → tt_V (XT l D dA A pz) cc (RX1, nl, rt, rm, tn) Q (pc + 3) lv rest lc (s.1, r, s.2.2) (ck + 0) (cn + 0)) (hf : ck + 0 ≤ rm.cells ∧ cn + 0 ≤ rm.slots) : tt_V (XT l D dA A pz) cc (RX1, nl, rt, rm, tn) Q pc lv (.ref (lc 200 0) :: rest) lc s ck cn :=
  v_callV (kd := 200) (i := 0) (nA := 0) (As := []) lvT_200 oT_200 rfl (liftThen (Q := (fun v lc' s' => ∃ r, K r ∧ v = none ∧ lc' = lc ∧ s' = (s.1, r, s.2.2))) (mW_begins l D dA (aT1 lc s) false (nT1 lc) s.2.1 (Q := fun v lc' w => lc' = nT1 lc ∧ (fun v lc' s' => ∃ r, K r ∧ v = none ∧ lc' = lc ∧ s' = (s.1, r, s.2.2)) v lc (s.1, w, s.2.2)) (h.mono (fun r hr => ⟨rfl, r, hr, rfl, rfl, rfl⟩)))) (lw_V q869 q870 q871 q128 q872) (by decide +kernel) rfl hR hW hf d rfl (fun v lc' s' q => by obtain ⟨r, hr, e1, e2, e3⟩ := q; rw [e1, e2, e3]; exact kk r hr)
theorem cT_408_200 {l : Launch} {D : va_G} {dA : Nat → ClassId} {A : Nat → Prop} {pz : Nat} {lc : Nat → Nat → Nat} {s : tt_S3} {cc : ByteArray} {nl : Nat} {rt : Option FieldType} {rm : Room} {tn : tt_Tn} {Q : tt_Fin} {pc : Nat} {lv : List (Nat × Value)} {rest : List Value} {ck cn : Nat} {x1 : Int32} {x2 : Int32} {x3 : Int32} {K : tt_St → Prop} (h : Ok (fW_holdsTo s.2.1 x1 x2 x3) K) (hR : 0 + 1 ≤ rm.frames ∧ 8 + (4 + 11) + 0 ≤ rm.locals) (hW : (rest.map fun v => v.category).sum ≤ 8) (d : decode cc pc = .ok (.invokevirtual 408, 3)) (kk : ∀ r, K r → tt_V (XT l D dA A pz) cc (RX1, nl, rt, rm, tn) Q (pc + 3) lv rest lc (s.1, r, s.2.2) (ck + 0) (cn + 0)) (hf : ck + 0 ≤ rm.cells ∧ cn + 0 ≤ rm.slots) : tt_V (XT l D dA A pz) cc (RX1, nl, rt, rm, tn) Q pc lv (.int x3 :: .int x2 :: .int x1 :: .ref (lc 200 0) :: rest) lc s ck cn :=
  v_callV (kd := 200) (i := 0) (nA := 3) (As := [.int x1, .int x2, .int x3]) lvT_200 oT_200 rfl (liftThen (Q := (fun v lc' s' => ∃ r, K r ∧ v = none ∧ lc' = lc ∧ s' = (s.1, r, s.2.2))) (mW_holdsTo l D dA (aT1 lc s) false (nT1 lc) s.2.1 x1 x2 x3 (Q := fun v lc' w => lc' = nT1 lc ∧ (fun v lc' s' => ∃ r, K r ∧ v = none ∧ lc' = lc ∧ s' = (s.1, r, s.2.2)) v lc (s.1, w, s.2.2)) (h.mono (fun r hr => ⟨rfl, r, hr, rfl, rfl, rfl⟩)))) (lw_V q1620 q1621 q1622 q128 q1623) (by decide +kernel) rfl hR hW hf d rfl (fun v lc' s' q => by obtain ⟨r, hr, e1, e2, e3⟩ := q; rw [e1, e2, e3]; exact kk r hr)
theorem pT_X1_405_0 {l : Launch} {D : va_G} {dA : Nat → ClassId} {A : Nat → Prop} {pz : Nat} {lc : Nat → Nat → Nat} {s : tt_S3} {cc : ByteArray} {nl : Nat} {rt : Option FieldType} {rm : Room} {tn : tt_Tn} {Q : tt_Fin} {pc : Nat} {lv : List (Nat × Value)} {rest : List Value} {ck cn : Nat} {x : Int32} (d : decode cc pc = .ok (.putfield 405, 3)) (kk : tt_V (XT l D dA A pz) cc (RX1, nl, rt, rm, tn) Q (pc + 3) lv rest lc (s.1, s.2.1, wrI s.2.2 0 0 8 x) ck cn) : tt_V (XT l D dA A pz) cc (RX1, nl, rt, rm, tn) Q pc lv (.int x :: .ref (lc 0 0) :: rest) lc s ck cn := v_put (s' := (s.1, s.2.1, wrI s.2.2 0 0 8 x)) (p := 8) lvT_0 oT_0 (by rw [oT_0]; simp [rdI_wrI, rdL_wrL, rdI_wrL, rdL_wrI]) (fun kd' i' h => eT_own (by intro a; exact tt_own_wrI h)) (fun _ _ z => z) rfl in_X1 tyX1 tyX1_ok nmX1 (by decide) q900 (.inl rfl) rfl rfl rfl (Nat.le_of_ble_eq_true rfl) d kk
theorem cT_on_200 {l : Launch} {D : va_G} {dA : Nat → ClassId} {A : Nat → Prop} {pz : Nat} {lc : Nat → Nat → Nat} {s : tt_S3} {cc : ByteArray} {nl : Nat} {rt : Option FieldType} {rm : Room} {tn : tt_Tn} {Q : tt_Fin} {pc : Nat} {lv : List (Nat × Value)} {rest : List Value} {ck cn : Nat} {x0 : Nat} (hx0 : x0 < rdN s.2.2 3) {K : Int32 × tt_St → Prop} (h : Ok (fT_on s.2.2 s.2.1 x0) K) (hR : 15 + 1 ≤ rm.frames ∧ 8 + (2 + 11) + 358 ≤ rm.locals) (hW : (rest.map fun v => v.category).sum ≤ 8) {cnt : Nat} (d : decode cc pc = .ok (.invokeinterface 96 cnt, 5)) (kk : ∀ r : Int32 × tt_St, zB r.1 → K r → tt_V (XT l D dA A pz) cc (RX1, nl, rt, rm, tn) Q (pc + 5) lv (.int r.1 :: rest) lc (s.1, r.2, s.2.2) ck cn) (hf : ck ≤ rm.cells ∧ cn ≤ rm.slots) : tt_V (XT l D dA A pz) cc (RX1, nl, rt, rm, tn) Q pc lv (.ref (lc 200 0) :: .ref (lc 3 x0) :: rest) lc s ck cn := by
  unfold fT_on at h
  by_cases e0 : rdR s.2.2 3 x0 99 = some 0
  · rw [if_pos e0] at h
    refine v_callMadeZ (x0 := lam_x5) (bs := lam_b5) (mi := 35) (fi := [19, 21, 23, 25, 27]) (xi := lam_on) (rm := rmT_lambda_place_0_0) (Q' := (fun v lc' s' => ∃ r : Int32 × tt_St, zB r.1 ∧ K r ∧ v = some (Value.int r.1) ∧ lc' = lc ∧ s' = (s.1, r.2, s.2.2))) (fun U hU => (klT U hU).1 0 (by decide)) lam_i5 lam_shp5 lam_dc5 (cellD hx0 e0) rfl (liftThen (Q := (fun v lc' s' => ∃ r : Int32 × tt_St, zB r.1 ∧ K r ∧ v = some (Value.int r.1) ∧ lc' = lc ∧ s' = (s.1, r.2, s.2.2))) (mT_lambda_place_0_0 l D dA (aT1 lc s) false (nT1 lc) s.2.1 (rdI s.2.2 3 x0 0) (rdI s.2.2 3 x0 1) (rdI s.2.2 3 x0 2) (rdI s.2.2 3 x0 3) (rdI s.2.2 3 x0 4) (Q := fun v lc' w => lc' = nT1 lc ∧ (fun v lc' s' => ∃ r : Int32 × tt_St, zB r.1 ∧ K r ∧ v = some (Value.int r.1) ∧ lc' = lc ∧ s' = (s.1, r.2, s.2.2)) v lc (s.1, w, s.2.2)) (h.mono fun r hr hz => ⟨rfl, r, hz, hr, rfl, rfl, rfl⟩))) (fun v lc' s' q => by obtain ⟨r, hz, -, e1, -⟩ := q; exact ⟨r.1, e1, hz⟩) (lw_meth q959) q958 q127 q925 (by decide +kernel) ⟨Nat.le_trans (Nat.le_of_ble_eq_true rfl) hR.1, Nat.le_trans (Nat.le_of_ble_eq_true rfl) hR.2⟩ hW hf d (fun v lc' s' q => ?_)
    obtain ⟨r, hz, hr, e1, e2, e3⟩ := q
    rw [e1, e2, e3]
    exact kk r hz hr
  rw [if_neg e0] at h
  by_cases e1 : rdR s.2.2 3 x0 99 = some 1
  · rw [if_pos e1] at h
    refine v_callMadeZ (x0 := lam_x6) (bs := lam_b6) (mi := 29) (fi := [17, 19, 21]) (xi := lam_on) (rm := rmT_lambda_sign_1_0) (Q' := (fun v lc' s' => ∃ r : Int32 × tt_St, zB r.1 ∧ K r ∧ v = some (Value.int r.1) ∧ lc' = lc ∧ s' = (s.1, r.2, s.2.2))) (fun U hU => (klT U hU).1 1 (by decide)) lam_i6 lam_shp6 lam_dc6 (cellD hx0 e1) rfl (liftThen (Q := (fun v lc' s' => ∃ r : Int32 × tt_St, zB r.1 ∧ K r ∧ v = some (Value.int r.1) ∧ lc' = lc ∧ s' = (s.1, r.2, s.2.2))) (mT_lambda_sign_1_0 l D dA (aT1 lc s) false (nT1 lc) s.2.1 (rdI s.2.2 3 x0 0) (rdI s.2.2 3 x0 1) (rdI s.2.2 3 x0 2) (Q := fun v lc' w => lc' = nT1 lc ∧ (fun v lc' s' => ∃ r : Int32 × tt_St, zB r.1 ∧ K r ∧ v = some (Value.int r.1) ∧ lc' = lc ∧ s' = (s.1, r.2, s.2.2)) v lc (s.1, w, s.2.2)) (h.mono fun r hr hz => ⟨rfl, r, hz, hr, rfl, rfl, rfl⟩))) (fun v lc' s' q => by obtain ⟨r, hz, -, e1, -⟩ := q; exact ⟨r.1, e1, hz⟩) (lw_meth q1050) q1049 q127 q925 (by decide +kernel) ⟨Nat.le_trans (Nat.le_of_ble_eq_true rfl) hR.1, Nat.le_trans (Nat.le_of_ble_eq_true rfl) hR.2⟩ hW hf d (fun v lc' s' q => ?_)
    obtain ⟨r, hz, hr, e1, e2, e3⟩ := q
    rw [e1, e2, e3]
    exact kk r hz hr
  rw [if_neg e1] at h
  by_cases e2 : rdR s.2.2 3 x0 99 = some 2
  · rw [if_pos e2] at h
    refine v_callMadeZ (x0 := lam_x7) (bs := lam_b7) (mi := 23) (fi := [15]) (xi := lam_on) (rm := rmT_lambda_lack_2_0) (Q' := (fun v lc' s' => ∃ r : Int32 × tt_St, zB r.1 ∧ K r ∧ v = some (Value.int r.1) ∧ lc' = lc ∧ s' = (s.1, r.2, s.2.2))) (fun U hU => (klT U hU).1 2 (by decide)) lam_i7 lam_shp7 lam_dc7 (cellD hx0 e2) rfl (liftThen (Q := (fun v lc' s' => ∃ r : Int32 × tt_St, zB r.1 ∧ K r ∧ v = some (Value.int r.1) ∧ lc' = lc ∧ s' = (s.1, r.2, s.2.2))) (mT_lambda_lack_2_0 l D dA (aT1 lc s) false (nT1 lc) s.2.1 (rdI s.2.2 3 x0 0) (Q := fun v lc' w => lc' = nT1 lc ∧ (fun v lc' s' => ∃ r : Int32 × tt_St, zB r.1 ∧ K r ∧ v = some (Value.int r.1) ∧ lc' = lc ∧ s' = (s.1, r.2, s.2.2)) v lc (s.1, w, s.2.2)) (h.mono fun r hr hz => ⟨rfl, r, hz, hr, rfl, rfl, rfl⟩))) (fun v lc' s' q => by obtain ⟨r, hz, -, e1, -⟩ := q; exact ⟨r.1, e1, hz⟩) (lw_meth q1076) q1075 q127 q925 (by decide +kernel) ⟨Nat.le_trans (Nat.le_of_ble_eq_true rfl) hR.1, Nat.le_trans (Nat.le_of_ble_eq_true rfl) hR.2⟩ hW hf d (fun v lc' s' q => ?_)
    obtain ⟨r, hz, hr, e1, e2, e3⟩ := q
    rw [e1, e2, e3]
    exact kk r hz hr
  rw [if_neg e2] at h
  by_cases e3 : rdR s.2.2 3 x0 99 = some 3
  · rw [if_pos e3] at h
    refine v_callMadeZ (x0 := lam_x8) (bs := lam_b8) (mi := 29) (fi := [17, 19, 21]) (xi := lam_on) (rm := rmT_lambda_rules_3_0) (Q' := (fun v lc' s' => ∃ r : Int32 × tt_St, zB r.1 ∧ K r ∧ v = some (Value.int r.1) ∧ lc' = lc ∧ s' = (s.1, r.2, s.2.2))) (fun U hU => (klT U hU).1 3 (by decide)) lam_i8 lam_shp8 lam_dc8 (cellD hx0 e3) rfl (liftThen (Q := (fun v lc' s' => ∃ r : Int32 × tt_St, zB r.1 ∧ K r ∧ v = some (Value.int r.1) ∧ lc' = lc ∧ s' = (s.1, r.2, s.2.2))) (mT_lambda_rules_3_0 l D dA (aT1 lc s) false (nT1 lc) s.2.1 (rdI s.2.2 3 x0 0) (rdI s.2.2 3 x0 1) (rdI s.2.2 3 x0 2) (Q := fun v lc' w => lc' = nT1 lc ∧ (fun v lc' s' => ∃ r : Int32 × tt_St, zB r.1 ∧ K r ∧ v = some (Value.int r.1) ∧ lc' = lc ∧ s' = (s.1, r.2, s.2.2)) v lc (s.1, w, s.2.2)) (h.mono fun r hr hz => ⟨rfl, r, hz, hr, rfl, rfl, rfl⟩))) (fun v lc' s' q => by obtain ⟨r, hz, -, e1, -⟩ := q; exact ⟨r.1, e1, hz⟩) (lw_meth q1099) q1098 q127 q925 (by decide +kernel) ⟨Nat.le_trans (Nat.le_of_ble_eq_true rfl) hR.1, Nat.le_trans (Nat.le_of_ble_eq_true rfl) hR.2⟩ hW hf d (fun v lc' s' q => ?_)
    obtain ⟨r, hz, hr, e1, e2, e3⟩ := q
    rw [e1, e2, e3]
    exact kk r hz hr
  rw [if_neg e3] at h
  by_cases e4 : rdR s.2.2 3 x0 99 = some 4
  · rw [if_pos e4] at h
    refine v_callMadeZ (x0 := lam_x9) (bs := lam_b9) (mi := 35) (fi := [19, 21, 23, 25, 27]) (xi := lam_on) (rm := rmT_lambda_harm_4_0) (Q' := (fun v lc' s' => ∃ r : Int32 × tt_St, zB r.1 ∧ K r ∧ v = some (Value.int r.1) ∧ lc' = lc ∧ s' = (s.1, r.2, s.2.2))) (fun U hU => (klT U hU).1 4 (by decide)) lam_i9 lam_shp9 lam_dc9 (cellD hx0 e4) rfl (liftThen (Q := (fun v lc' s' => ∃ r : Int32 × tt_St, zB r.1 ∧ K r ∧ v = some (Value.int r.1) ∧ lc' = lc ∧ s' = (s.1, r.2, s.2.2))) (mT_lambda_harm_4_0 l D dA (aT1 lc s) false (nT1 lc) s.2.1 (rdI s.2.2 3 x0 0) (rdI s.2.2 3 x0 1) (rdI s.2.2 3 x0 2) (rdI s.2.2 3 x0 3) (rdI s.2.2 3 x0 4) (Q := fun v lc' w => lc' = nT1 lc ∧ (fun v lc' s' => ∃ r : Int32 × tt_St, zB r.1 ∧ K r ∧ v = some (Value.int r.1) ∧ lc' = lc ∧ s' = (s.1, r.2, s.2.2)) v lc (s.1, w, s.2.2)) (h.mono fun r hr hz => ⟨rfl, r, hz, hr, rfl, rfl, rfl⟩))) (fun v lc' s' q => by obtain ⟨r, hz, -, e1, -⟩ := q; exact ⟨r.1, e1, hz⟩) (lw_meth q1117) q1116 q127 q925 (by decide +kernel) ⟨Nat.le_trans (Nat.le_of_ble_eq_true rfl) hR.1, Nat.le_trans (Nat.le_of_ble_eq_true rfl) hR.2⟩ hW hf d (fun v lc' s' q => ?_)
    obtain ⟨r, hz, hr, e1, e2, e3⟩ := q
    rw [e1, e2, e3]
    exact kk r hz hr
  rw [if_neg e4] at h
  by_cases e5 : rdR s.2.2 3 x0 99 = some 5
  · rw [if_pos e5] at h
    refine v_callMadeZ (x0 := lam_x10) (bs := lam_b10) (mi := 26) (fi := [16, 18]) (xi := lam_on) (rm := rmT_lambda_grow_5_0) (Q' := (fun v lc' s' => ∃ r : Int32 × tt_St, zB r.1 ∧ K r ∧ v = some (Value.int r.1) ∧ lc' = lc ∧ s' = (s.1, r.2, s.2.2))) (fun U hU => (klT U hU).1 5 (by decide)) lam_i10 lam_shp10 lam_dc10 (cellD hx0 e5) rfl (liftThen (Q := (fun v lc' s' => ∃ r : Int32 × tt_St, zB r.1 ∧ K r ∧ v = some (Value.int r.1) ∧ lc' = lc ∧ s' = (s.1, r.2, s.2.2))) (mT_lambda_grow_5_0 l D dA (aT1 lc s) false (nT1 lc) s.2.1 (rdI s.2.2 3 x0 0) (rdI s.2.2 3 x0 1) (Q := fun v lc' w => lc' = nT1 lc ∧ (fun v lc' s' => ∃ r : Int32 × tt_St, zB r.1 ∧ K r ∧ v = some (Value.int r.1) ∧ lc' = lc ∧ s' = (s.1, r.2, s.2.2)) v lc (s.1, w, s.2.2)) (h.mono fun r hr hz => ⟨rfl, r, hz, hr, rfl, rfl, rfl⟩))) (fun v lc' s' q => by obtain ⟨r, hz, -, e1, -⟩ := q; exact ⟨r.1, e1, hz⟩) (lw_meth q1178) q1177 q127 q925 (by decide +kernel) ⟨Nat.le_trans (Nat.le_of_ble_eq_true rfl) hR.1, Nat.le_trans (Nat.le_of_ble_eq_true rfl) hR.2⟩ hW hf d (fun v lc' s' q => ?_)
    obtain ⟨r, hz, hr, e1, e2, e3⟩ := q
    rw [e1, e2, e3]
    exact kk r hz hr
  rw [if_neg e5] at h
  by_cases e6 : rdR s.2.2 3 x0 99 = some 6
  · rw [if_pos e6] at h
    refine v_callMadeZ (x0 := lam_x11) (bs := lam_b11) (mi := 26) (fi := [16, 18]) (xi := lam_on) (rm := rmT_lambda_settle_6_0) (Q' := (fun v lc' s' => ∃ r : Int32 × tt_St, zB r.1 ∧ K r ∧ v = some (Value.int r.1) ∧ lc' = lc ∧ s' = (s.1, r.2, s.2.2))) (fun U hU => (klT U hU).1 6 (by decide)) lam_i11 lam_shp11 lam_dc11 (cellD hx0 e6) rfl (liftThen (Q := (fun v lc' s' => ∃ r : Int32 × tt_St, zB r.1 ∧ K r ∧ v = some (Value.int r.1) ∧ lc' = lc ∧ s' = (s.1, r.2, s.2.2))) (mT_lambda_settle_6_0 l D dA (aT1 lc s) false (nT1 lc) s.2.1 (rdI s.2.2 3 x0 0) (rdI s.2.2 3 x0 1) (Q := fun v lc' w => lc' = nT1 lc ∧ (fun v lc' s' => ∃ r : Int32 × tt_St, zB r.1 ∧ K r ∧ v = some (Value.int r.1) ∧ lc' = lc ∧ s' = (s.1, r.2, s.2.2)) v lc (s.1, w, s.2.2)) (h.mono fun r hr hz => ⟨rfl, r, hz, hr, rfl, rfl, rfl⟩))) (fun v lc' s' q => by obtain ⟨r, hz, -, e1, -⟩ := q; exact ⟨r.1, e1, hz⟩) (lw_meth q1191) q1190 q127 q925 (by decide +kernel) ⟨Nat.le_trans (Nat.le_of_ble_eq_true rfl) hR.1, Nat.le_trans (Nat.le_of_ble_eq_true rfl) hR.2⟩ hW hf d (fun v lc' s' q => ?_)
    obtain ⟨r, hz, hr, e1, e2, e3⟩ := q
    rw [e1, e2, e3]
    exact kk r hz hr
  rw [if_neg e6] at h
  by_cases e7 : rdR s.2.2 3 x0 99 = some 7
  · rw [if_pos e7] at h
    refine v_callMadeZ (x0 := lam_x12) (bs := lam_b12) (mi := 23) (fi := [15]) (xi := lam_on) (rm := rmT_lambda_fall_7_0) (Q' := (fun v lc' s' => ∃ r : Int32 × tt_St, zB r.1 ∧ K r ∧ v = some (Value.int r.1) ∧ lc' = lc ∧ s' = (s.1, r.2, s.2.2))) (fun U hU => (klT U hU).1 7 (by decide)) lam_i12 lam_shp12 lam_dc12 (cellD hx0 e7) rfl (liftThen (Q := (fun v lc' s' => ∃ r : Int32 × tt_St, zB r.1 ∧ K r ∧ v = some (Value.int r.1) ∧ lc' = lc ∧ s' = (s.1, r.2, s.2.2))) (mT_lambda_fall_7_0 l D dA (aT1 lc s) false (nT1 lc) s.2.1 (rdI s.2.2 3 x0 0) (Q := fun v lc' w => lc' = nT1 lc ∧ (fun v lc' s' => ∃ r : Int32 × tt_St, zB r.1 ∧ K r ∧ v = some (Value.int r.1) ∧ lc' = lc ∧ s' = (s.1, r.2, s.2.2)) v lc (s.1, w, s.2.2)) (h.mono fun r hr hz => ⟨rfl, r, hz, hr, rfl, rfl, rfl⟩))) (fun v lc' s' q => by obtain ⟨r, hz, -, e1, -⟩ := q; exact ⟨r.1, e1, hz⟩) (lw_meth q1208) q1207 q127 q925 (by decide +kernel) ⟨Nat.le_trans (Nat.le_of_ble_eq_true rfl) hR.1, Nat.le_trans (Nat.le_of_ble_eq_true rfl) hR.2⟩ hW hf d (fun v lc' s' q => ?_)
    obtain ⟨r, hz, hr, e1, e2, e3⟩ := q
    rw [e1, e2, e3]
    exact kk r hz hr
  rw [if_neg e7] at h
  by_cases e8 : rdR s.2.2 3 x0 99 = some 8
  · rw [if_pos e8] at h
    refine v_callMadeZ (x0 := lam_x13) (bs := lam_b13) (mi := 23) (fi := [15]) (xi := lam_on) (rm := rmT_lambda_reopen_8_0) (Q' := (fun v lc' s' => ∃ r : Int32 × tt_St, zB r.1 ∧ K r ∧ v = some (Value.int r.1) ∧ lc' = lc ∧ s' = (s.1, r.2, s.2.2))) (fun U hU => (klT U hU).1 8 (by decide)) lam_i13 lam_shp13 lam_dc13 (cellD hx0 e8) rfl (liftThen (Q := (fun v lc' s' => ∃ r : Int32 × tt_St, zB r.1 ∧ K r ∧ v = some (Value.int r.1) ∧ lc' = lc ∧ s' = (s.1, r.2, s.2.2))) (mT_lambda_reopen_8_0 l D dA (aT1 lc s) false (nT1 lc) s.2.1 (rdI s.2.2 3 x0 0) (Q := fun v lc' w => lc' = nT1 lc ∧ (fun v lc' s' => ∃ r : Int32 × tt_St, zB r.1 ∧ K r ∧ v = some (Value.int r.1) ∧ lc' = lc ∧ s' = (s.1, r.2, s.2.2)) v lc (s.1, w, s.2.2)) (h.mono fun r hr hz => ⟨rfl, r, hz, hr, rfl, rfl, rfl⟩))) (fun v lc' s' q => by obtain ⟨r, hz, -, e1, -⟩ := q; exact ⟨r.1, e1, hz⟩) (lw_meth q1217) q1216 q127 q925 (by decide +kernel) ⟨Nat.le_trans (Nat.le_of_ble_eq_true rfl) hR.1, Nat.le_trans (Nat.le_of_ble_eq_true rfl) hR.2⟩ hW hf d (fun v lc' s' q => ?_)
    obtain ⟨r, hz, hr, e1, e2, e3⟩ := q
    rw [e1, e2, e3]
    exact kk r hz hr
  rw [if_neg e8] at h
  exact Ok.stuck h
theorem gT_X1_405_0 {l : Launch} {D : va_G} {dA : Nat → ClassId} {A : Nat → Prop} {pz : Nat} {lc : Nat → Nat → Nat} {s : tt_S3} {cc : ByteArray} {nl : Nat} {rt : Option FieldType} {rm : Room} {tn : tt_Tn} {Q : tt_Fin} {pc : Nat} {lv : List (Nat × Value)} {rest : List Value} {ck cn : Nat} (d : decode cc pc = .ok (.getfield 405, 3)) (kk : tt_V (XT l D dA A pz) cc (RX1, nl, rt, rm, tn) Q (pc + 3) lv (.int (rdI s.2.2 0 0 8) :: rest) lc s ck cn) : tt_V (XT l D dA A pz) cc (RX1, nl, rt, rm, tn) Q pc lv (.ref (lc 0 0) :: rest) lc s ck cn := v_get (p := 8) lvT_0 oT_0 rfl in_X1 (by decide) q900 (.inl rfl) rfl d kk
def fT_gone_L7 (x1 : Int32) (a2 : Int32 × tt_S3) : Option ((Int32 × tt_S3) ⊕ (Int32 × tt_S3)) :=
  if (rdI a2.2.2.2 0 0 7) ≤ a2.1 then some (.inr (a2.1, a2.2)) else if a2.1 = x1 then some (.inl ((a2.1 + 1 : Int32), a2.2)) else if inB a2.1 160 then unO (rdR a2.2.2.2 1 0 a2.1.toNatClampNeg) (rdN a2.2.2.2 2) fun o7 => unO (rdR a2.2.2.2 2 o7 2) (rdN a2.2.2.2 3) fun o8 => (fT_on a2.2.2.2 a2.2.2.1 o8).bind fun r9 => if r9.1 = 0 then nm ((a2.2.1, r9.2, a2.2.2.2).1, (a2.2.1, r9.2, a2.2.2.2).2.1, wrI (a2.2.1, r9.2, a2.2.2.2).2.2 0 0 8 ((rdI (a2.2.1, r9.2, a2.2.2.2).2.2 0 0 8) + (1 : Int32))) fun s11 => some (.inl ((a2.1 + 1 : Int32), s11)) else some (.inl ((a2.1 + 1 : Int32), (a2.2.1, r9.2, a2.2.2.2))) else none
def fT_gone (s : tt_S3) (x1 : Int32) : Option (Nat × tt_S3) :=
  nm (s.1, s.2.1, wrI s.2.2 0 0 8 (0 : Int32)) fun s1 => (itr (fT_gone_L7 x1) tt_fuel ((0 : Int32), s1)).bind fun b3 => some (0, b3.2)
abbrev rmT_gone : Room := { frames := 16, cells := 0, slots := 0, locals := 379 }
set_option maxHeartbeats 4000000 in
theorem mT_gone (l : Launch) (D : va_G) (dA : Nat → ClassId) (A : Nat → Prop) (pz : Nat) (lc : Nat → Nat → Nat) (s : tt_S3) (x1 : Int32) {Q : Option Value → (Nat → Nat → Nat) → tt_S3 → Prop} (h : Ok (fT_gone s x1) (fun r => Q (some (.ref (lc 200 0))) lc r.2)) : tt_Sp (XT l D dA A pz) yX1_gone cX1_gone 3 (some (.object "TallTowers$World")) rmT_gone [.ref (lc 0 0), .int x1] lc s Q := by
  refine tt_Sp.ofV plX1 kokT (Nat.le_of_ble_eq_true rfl) ?_
  show tt_V (XT l D dA A pz) cX1_gone (RX1, 3, (some (.object "TallTowers$World")), rmT_gone, tt_nt) (tt_fn (XT l D dA A pz) (RX1, 3, (some (.object "TallTowers$World")), rmT_gone, tt_nt) Q) 0 [(0, .ref (lc 0 0)), (1, .int x1)] [] lc s 0 0
  unfold fT_gone at h
  refine v_aload_n 0 dX1_gone_0 rfl ?_
  refine v_iconst dX1_gone_1 ic_0 ?_
  refine pT_X1_405_0 dX1_gone_2 ?_
  refine v_nmS (fun s1 e_s1 => ?_)
  have h := Ok.nm h e_s1
  refine v_iconst dX1_gone_5 ic_0 ?_
  refine v_istore_n [(2, .int (0 : Int32)), (0, .ref (lc 0 0)), (1, .int x1)] dX1_gone_6 (Nat.le_of_ble_eq_true rfl) rfl ?_
  refine v_sub [1, 2, 0] rfl ?_
  refine itr_loop (P := fun a2 : Int32 × tt_S3 => tt_V (XT l D dA A pz) cX1_gone (RX1, 3, (some (.object "TallTowers$World")), rmT_gone, tt_nt) (tt_fn (XT l D dA A pz) (RX1, 3, (some (.object "TallTowers$World")), rmT_gone, tt_nt) Q) 7 [(0, .ref (lc 0 0)), (1, .int x1), (2, .int a2.1)] [] lc a2.2 0 0) (PE := fun b3 : Int32 × tt_S3 => tt_V (XT l D dA A pz) cX1_gone (RX1, 3, (some (.object "TallTowers$World")), rmT_gone, tt_nt) (tt_fn (XT l D dA A pz) (RX1, 3, (some (.object "TallTowers$World")), rmT_gone, tt_nt) Q) 57 [(0, .ref (lc 0 0)), (1, .int x1), (2, .int b3.1)] [] lc b3.2 0 0) h (fun b3 h => ?_) (fun a2 h => ?_)
  · refine v_aload_n 0 dX1_gone_57 rfl ?_
    refine gT_X1_16_0 dX1_gone_58 ?_
    have h := Ok.ret h
    exact v_aret rfl (Nat.le_of_ble_eq_true rfl) (Nat.le_of_ble_eq_true rfl) dX1_gone_61 h
  · have h : Ok (fT_gone_L7 x1 a2) _ := h
    unfold fT_gone_L7 at h
    refine v_iload_n 2 dX1_gone_7 rfl ?_
    refine v_aload_n 0 dX1_gone_8 rfl ?_
    refine gT_X1_93_0 dX1_gone_9 ?_
    refine v_icmp_ge (tgt := 57) dX1_gone_12 rfl (fun c4 => ?_) (fun c4 => ?_)
    · have h := Ok.pos h c4
      have h := Ok.ret h
      exact h
    · have h := Ok.neg h c4
      refine v_iload_n 2 dX1_gone_15 rfl ?_
      refine v_iload_n 1 dX1_gone_16 rfl ?_
      refine v_icmp_eq (tgt := 51) dX1_gone_17 rfl (fun c5 => ?_) (fun c5 => ?_)
      · have h := Ok.pos h c5
        refine v_iinc (v := (a2.1 + 1 : Int32)) 2 [(2, .int (a2.1 + 1 : Int32)), (0, .ref (lc 0 0)), (1, .int x1)] dX1_gone_51 rfl (by rw [ic_1]) (Nat.le_of_ble_eq_true rfl) rfl ?_
        refine v_goto (tgt := 7) dX1_gone_54 rfl ?_
        refine v_sub [1, 2, 0] rfl ?_
        have h := Ok.ret h
        exact h
      · have h := Ok.neg h c5
        refine v_aload_n 0 dX1_gone_20 rfl ?_
        refine gT_X1_28_0 dX1_gone_21 ?_
        refine v_iload_n 2 dX1_gone_24 rfl ?_
        obtain ⟨g6, h⟩ := Ok.guard h
        obtain ⟨o7, e_o7, g_o7, h⟩ := Ok.unO h
        refine lT_1 g6 e_o7 dX1_gone_25 ?_
        refine gT_X1_178_2 g_o7 dX1_gone_26 ?_
        refine v_aload_n 0 dX1_gone_29 rfl ?_
        refine gT_X1_16_0 dX1_gone_30 ?_
        obtain ⟨o8, e_o8, g_o8, h⟩ := Ok.unO h
        rw [e_o8]
        show tt_V (XT l D dA A pz) cX1_gone (RX1, 3, (some (.object "TallTowers$World")), rmT_gone, tt_nt) (tt_fn (XT l D dA A pz) (RX1, 3, (some (.object "TallTowers$World")), rmT_gone, tt_nt) Q) 33 [(0, .ref (lc 0 0)), (1, .int x1), (2, .int a2.1)] [.ref (lc 200 0), .ref (lc 3 o8)] lc a2.2 0 0
        refine cT_on_200 g_o8 (Ok.bind h) ⟨Nat.le_of_ble_eq_true rfl, Nat.le_of_ble_eq_true rfl⟩ (Nat.le_of_ble_eq_true rfl) dX1_gone_33 (fun r9 z_r9 h => ?_) ⟨Nat.le_of_ble_eq_true rfl, Nat.le_of_ble_eq_true rfl⟩
        refine v_if_ne (tgt := 51) dX1_gone_38 rfl (fun c10 => ?_) (fun c10 => ?_)
        · have h := Ok.neg h c10
          refine v_iinc (v := (a2.1 + 1 : Int32)) 2 [(2, .int (a2.1 + 1 : Int32)), (0, .ref (lc 0 0)), (1, .int x1)] dX1_gone_51 rfl (by rw [ic_1]) (Nat.le_of_ble_eq_true rfl) rfl ?_
          refine v_goto (tgt := 7) dX1_gone_54 rfl ?_
          refine v_sub [1, 2, 0] rfl ?_
          have h := Ok.ret h
          exact h
        · have h := Ok.pos h c10
          refine v_aload_n 0 dX1_gone_41 rfl ?_
          refine v_dup dX1_gone_42 rfl ?_
          refine gT_X1_405_0 dX1_gone_43 ?_
          refine v_iconst dX1_gone_46 ic_1 ?_
          refine v_iadd dX1_gone_47 ?_
          refine pT_X1_405_0 dX1_gone_48 ?_
          refine v_nmS (fun s11 e_s11 => ?_)
          have h := Ok.nm h e_s11
          refine v_iinc (v := (a2.1 + 1 : Int32)) 2 [(2, .int (a2.1 + 1 : Int32)), (0, .ref (lc 0 0)), (1, .int x1)] dX1_gone_51 rfl (by rw [ic_1]) (Nat.le_of_ble_eq_true rfl) rfl ?_
          refine v_goto (tgt := 7) dX1_gone_54 rfl ?_
          refine v_sub [1, 2, 0] rfl ?_
          have h := Ok.ret h
          exact h
theorem cT_411_0 {l : Launch} {D : va_G} {dA : Nat → ClassId} {A : Nat → Prop} {pz : Nat} {lc : Nat → Nat → Nat} {s : tt_S3} {cc : ByteArray} {nl : Nat} {rt : Option FieldType} {rm : Room} {tn : tt_Tn} {Q : tt_Fin} {pc : Nat} {lv : List (Nat × Value)} {rest : List Value} {ck cn : Nat} {x1 : Int32} {K : Nat × tt_S3 → Prop} (h : Ok (fT_gone s x1) K) (hR : 16 + 1 ≤ rm.frames ∧ 8 + (3 + 11) + 379 ≤ rm.locals) (hW : (rest.map fun v => v.category).sum ≤ 8) (d : decode cc pc = .ok (.invokevirtual 411, 3)) (kk : ∀ r, K r → tt_V (XT l D dA A pz) cc (RX1, nl, rt, rm, tn) Q (pc + 3) lv (.ref (lc 200 0) :: rest) lc r.2 (ck + 0) (cn + 0)) (hf : ck + 0 ≤ rm.cells ∧ cn + 0 ≤ rm.slots) : tt_V (XT l D dA A pz) cc (RX1, nl, rt, rm, tn) Q pc lv (.int x1 :: .ref (lc 0 0) :: rest) lc s ck cn :=
  v_callV (kd := 0) (i := 0) (nA := 1) (As := [.int x1]) lvT_0 oT_0 rfl (mT_gone l D dA A pz lc s x1 (Q := (fun v lc' s' => ∃ r, K r ∧ v = some (.ref (lc 200 0)) ∧ lc' = lc ∧ s' = r.2)) (h.mono (fun r hr => ⟨r, hr, rfl, rfl, rfl⟩))) (lw_V q1624 q1626 qs45 q127 q1627) (by decide +kernel) rfl hR hW hf d rfl (fun v lc' s' q => by obtain ⟨r, hr, e1, e2, e3⟩ := q; rw [e1, e2, e3]; exact kk r hr)
theorem cT_302_200 {l : Launch} {D : va_G} {dA : Nat → ClassId} {A : Nat → Prop} {pz : Nat} {lc : Nat → Nat → Nat} {s : tt_S3} {cc : ByteArray} {nl : Nat} {rt : Option FieldType} {rm : Room} {tn : tt_Tn} {Q : tt_Fin} {pc : Nat} {lv : List (Nat × Value)} {rest : List Value} {ck cn : Nat} {x1 : Int32} {K : Int64 → Prop} (h : Ok (fW_borneBy s.2.1 x1) K) (hR : 1 + 1 ≤ rm.frames ∧ 8 + (8 + 11) + 24 ≤ rm.locals) (hW : (rest.map fun v => v.category).sum ≤ 8) (d : decode cc pc = .ok (.invokevirtual 302, 3)) (kk : ∀ r, K r → tt_V (XT l D dA A pz) cc (RX1, nl, rt, rm, tn) Q (pc + 3) lv (.long r :: rest) lc s (ck + 0) (cn + 0)) (hf : ck + 0 ≤ rm.cells ∧ cn + 0 ≤ rm.slots) : tt_V (XT l D dA A pz) cc (RX1, nl, rt, rm, tn) Q pc lv (.int x1 :: .ref (lc 200 0) :: rest) lc s ck cn :=
  v_callV (kd := 200) (i := 0) (nA := 1) (As := [.int x1]) lvT_200 oT_200 rfl (liftThen (Q := (fun v lc' s' => ∃ r, K r ∧ v = some (.long r) ∧ lc' = lc ∧ s' = s)) (mW_borneBy l D dA (aT1 lc s) false (nT1 lc) s.2.1 x1 (Q := fun v lc' w => lc' = nT1 lc ∧ (fun v lc' s' => ∃ r, K r ∧ v = some (.long r) ∧ lc' = lc ∧ s' = s) v lc (s.1, w, s.2.2)) (h.mono (fun r hr => ⟨rfl, r, hr, rfl, rfl, rfl⟩)))) (lw_V q1363 q1364 q1365 q128 q1366) (by decide +kernel) rfl hR hW hf d rfl (fun v lc' s' q => by obtain ⟨r, hr, e1, e2, e3⟩ := q; rw [e1, e2, e3]; exact kk r hr)
def fT_goneBy (s : tt_S3) (x1 : Int32) (x2 : Int32) (x3 : Int32) (x4 : Int32) : Option (Int64 × tt_S3) :=
  (fW_begins s.2.1).bind fun r1 => (fW_holdsTo ((s.1, r1, s.2.2).2.1) x1 x2 x3).bind fun r2 => (fT_gone ((s.1, r1, s.2.2).1, r2, (s.1, r1, s.2.2).2.2) (-1 : Int32)).bind fun r3 => (fW_borneBy r3.2.2.1 x4).bind fun r4 => some (r4, r3.2)
abbrev rmT_goneBy : Room := { frames := 17, cells := 0, slots := 0, locals := 401 }
set_option maxHeartbeats 4000000 in
theorem mT_goneBy (l : Launch) (D : va_G) (dA : Nat → ClassId) (A : Nat → Prop) (pz : Nat) (lc : Nat → Nat → Nat) (s : tt_S3) (x1 : Int32) (x2 : Int32) (x3 : Int32) (x4 : Int32) {Q : Option Value → (Nat → Nat → Nat) → tt_S3 → Prop} (h : Ok (fT_goneBy s x1 x2 x3 x4) (fun r => Q (some (.long r.1)) lc r.2)) : tt_Sp (XT l D dA A pz) yX1_goneBy cX1_goneBy 5 (some .long) rmT_goneBy [.ref (lc 0 0), .int x1, .int x2, .int x3, .int x4] lc s Q := by
  refine tt_Sp.ofV plX1 kokT (Nat.le_of_ble_eq_true rfl) ?_
  show tt_V (XT l D dA A pz) cX1_goneBy (RX1, 5, (some .long), rmT_goneBy, tt_nt) (tt_fn (XT l D dA A pz) (RX1, 5, (some .long), rmT_goneBy, tt_nt) Q) 0 [(0, .ref (lc 0 0)), (1, .int x1), (2, .int x2), (3, .int x3), (4, .int x4)] [] lc s 0 0
  unfold fT_goneBy at h
  refine v_aload_n 0 dX1_goneBy_0 rfl ?_
  refine gT_X1_16_0 dX1_goneBy_1 ?_
  refine cT_49_200 (Ok.bind h) ⟨Nat.le_of_ble_eq_true rfl, Nat.le_of_ble_eq_true rfl⟩ (Nat.le_of_ble_eq_true rfl) dX1_goneBy_4 (fun r1 h => ?_) ⟨Nat.le_of_ble_eq_true rfl, Nat.le_of_ble_eq_true rfl⟩
  refine v_aload_n 0 dX1_goneBy_7 rfl ?_
  refine gT_X1_16_0 dX1_goneBy_8 ?_
  refine v_iload_n 1 dX1_goneBy_11 rfl ?_
  refine v_iload_n 2 dX1_goneBy_12 rfl ?_
  refine v_iload_n 3 dX1_goneBy_13 rfl ?_
  refine cT_408_200 (Ok.bind h) ⟨Nat.le_of_ble_eq_true rfl, Nat.le_of_ble_eq_true rfl⟩ (Nat.le_of_ble_eq_true rfl) dX1_goneBy_14 (fun r2 h => ?_) ⟨Nat.le_of_ble_eq_true rfl, Nat.le_of_ble_eq_true rfl⟩
  refine v_aload_n 0 dX1_goneBy_17 rfl ?_
  refine v_iconst dX1_goneBy_18 ic_m1 ?_
  refine cT_411_0 (Ok.bind h) ⟨Nat.le_of_ble_eq_true rfl, Nat.le_of_ble_eq_true rfl⟩ (Nat.le_of_ble_eq_true rfl) dX1_goneBy_19 (fun r3 h => ?_) ⟨Nat.le_of_ble_eq_true rfl, Nat.le_of_ble_eq_true rfl⟩
  refine v_iload 4 dX1_goneBy_22 rfl ?_
  refine cT_302_200 (Ok.bind h) ⟨Nat.le_of_ble_eq_true rfl, Nat.le_of_ble_eq_true rfl⟩ (Nat.le_of_ble_eq_true rfl) dX1_goneBy_24 (fun r4 h => ?_) ⟨Nat.le_of_ble_eq_true rfl, Nat.le_of_ble_eq_true rfl⟩
  have h := Ok.ret h
  exact v_lret rfl (Nat.le_of_ble_eq_true rfl) (Nat.le_of_ble_eq_true rfl) dX1_goneBy_27 h
theorem cT_415_0 {l : Launch} {D : va_G} {dA : Nat → ClassId} {A : Nat → Prop} {pz : Nat} {lc : Nat → Nat → Nat} {s : tt_S3} {cc : ByteArray} {nl : Nat} {rt : Option FieldType} {rm : Room} {tn : tt_Tn} {Q : tt_Fin} {pc : Nat} {lv : List (Nat × Value)} {rest : List Value} {ck cn : Nat} {x1 : Int32} {x2 : Int32} {x3 : Int32} {x4 : Int32} {K : Int64 × tt_S3 → Prop} (h : Ok (fT_goneBy s x1 x2 x3 x4) K) (hR : 17 + 1 ≤ rm.frames ∧ 8 + (5 + 11) + 401 ≤ rm.locals) (hW : (rest.map fun v => v.category).sum ≤ 8) (d : decode cc pc = .ok (.invokevirtual 415, 3)) (kk : ∀ r, K r → tt_V (XT l D dA A pz) cc (RX1, nl, rt, rm, tn) Q (pc + 3) lv (.long r.1 :: rest) lc r.2 (ck + 0) (cn + 0)) (hf : ck + 0 ≤ rm.cells ∧ cn + 0 ≤ rm.slots) : tt_V (XT l D dA A pz) cc (RX1, nl, rt, rm, tn) Q pc lv (.int x4 :: .int x3 :: .int x2 :: .int x1 :: .ref (lc 0 0) :: rest) lc s ck cn :=
  v_callV (kd := 0) (i := 0) (nA := 4) (As := [.int x1, .int x2, .int x3, .int x4]) lvT_0 oT_0 rfl (mT_goneBy l D dA A pz lc s x1 x2 x3 x4 (Q := (fun v lc' s' => ∃ r, K r ∧ v = some (.long r.1) ∧ lc' = lc ∧ s' = r.2)) (h.mono (fun r hr => ⟨r, hr, rfl, rfl, rfl⟩))) (lw_V q1616 q1618 qs44 q127 q1619) (by decide +kernel) rfl hR hW hf d rfl (fun v lc' s' q => by obtain ⟨r, hr, e1, e2, e3⟩ := q; rw [e1, e2, e3]; exact kk r hr)
def fT_other (s : tt_S3) (x1 : Int32) (x2 : Int32) (x3 : Int32) (x4 : Int32) : Option ((Int64 × tt_S3) ⊕ (Nat × tt_S3)) :=
  (fT_rulesOf s x1 x2 x3).bind fun q_r1 => orThrow q_r1 fun r1 => (fT_insurerOf r1 x4).bind fun q_r2 => orThrow q_r2 fun r2 => (fT_goneBy r2 x1 x2 x3 x4).bind fun r3 => some (.inl (r3.1, r3.2))
abbrev rmT_other : Room := { frames := 18, cells := 4, slots := 24, locals := 425 }
set_option maxHeartbeats 4000000 in
theorem mT_other (l : Launch) (D : va_G) (dA : Nat → ClassId) (A : Nat → Prop) (pz : Nat) (hl9 : l.stackTraces = false) (lc : Nat → Nat → Nat) (s : tt_S3) (x1 : Int32) (x2 : Int32) (x3 : Int32) (x4 : Int32) {Q : Option Value → (Nat → Nat → Nat) → tt_S3 → Prop} {QX : String → (Nat → Nat → Nat) → tt_S3 → Prop} (h : Ok (fT_other s x1 x2 x3 x4) (fun q => Sum.casesOn (motive := fun _ => Prop) q (fun r => Q (some (.long r.1)) lc r.2) (fun e => QX (tt_exn e.1) lc e.2))) : tt_SpX (XT l D dA A pz) yX1_other cX1_other 5 (some .long) rmT_other [.ref (lc 0 0), .int x1, .int x2, .int x3, .int x4] lc s Q QX := by
  refine tt_SpX.ofV plX1 kokT (Nat.le_of_ble_eq_true rfl) ?_
  show tt_V (XT l D dA A pz) cX1_other (RX1, 5, (some .long), rmT_other, tt_ne) (tt_fx (XT l D dA A pz) (RX1, 5, (some .long), rmT_other, tt_ne) Q QX) 0 [(0, .ref (lc 0 0)), (1, .int x1), (2, .int x2), (3, .int x3), (4, .int x4)] [] lc s 0 0
  unfold fT_other at h
  refine v_aload_n 0 dX1_other_0 rfl ?_
  refine v_iload_n 1 dX1_other_1 rfl ?_
  refine v_iload_n 2 dX1_other_2 rfl ?_
  refine v_iload_n 3 dX1_other_3 rfl ?_
  refine cT_143_0 (Ok.throws h) hl9 (fun _ _ _ h => h) (fun _ h => h) ⟨Nat.le_of_ble_eq_true rfl, Nat.le_of_ble_eq_true rfl⟩ (Nat.le_of_ble_eq_true rfl) dX1_other_4 (fun r1 h => ?_) ⟨Nat.le_of_ble_eq_true rfl, Nat.le_of_ble_eq_true rfl⟩
  refine v_aload_n 0 dX1_other_7 rfl ?_
  refine v_iload 4 dX1_other_8 rfl ?_
  refine cT_121_0 (Ok.throws h) hl9 (fun _ _ _ h => h) (fun _ h => h) ⟨Nat.le_of_ble_eq_true rfl, Nat.le_of_ble_eq_true rfl⟩ (Nat.le_of_ble_eq_true rfl) dX1_other_10 (fun r2 h => ?_) ⟨Nat.le_of_ble_eq_true rfl, Nat.le_of_ble_eq_true rfl⟩
  refine v_aload_n 0 dX1_other_13 rfl ?_
  refine v_iload_n 1 dX1_other_14 rfl ?_
  refine v_iload_n 2 dX1_other_15 rfl ?_
  refine v_iload_n 3 dX1_other_16 rfl ?_
  refine v_iload 4 dX1_other_17 rfl ?_
  refine cT_415_0 (Ok.bind h) ⟨Nat.le_of_ble_eq_true rfl, Nat.le_of_ble_eq_true rfl⟩ (Nat.le_of_ble_eq_true rfl) dX1_other_19 (fun r3 h => ?_) ⟨Nat.le_of_ble_eq_true rfl, Nat.le_of_ble_eq_true rfl⟩
  have h := Ok.ret h
  exact v_retX (v_lret rfl (Nat.le_of_ble_eq_true rfl) (Nat.le_of_ble_eq_true rfl) dX1_other_22 h)
def fT_best_L20 (x1 : Int32) (a3 : Int32 × Int64 × Int32 × tt_S3) : Option ((Int32 × Int64 × Int32 × tt_S3) ⊕ (Int32 × Int64 × Int32 × tt_S3)) :=
  if (64 : Int32) ≤ a3.2.2.1 then some (.inr (a3.1, a3.2.1, a3.2.2.1, a3.2.2.2)) else (fT_goneBy a3.2.2.2 (a3.2.2.1 / (16 : Int32)) ((a3.2.2.1 / (4 : Int32)) - (a3.2.2.1 / (4 : Int32)) / (4 : Int32) * (4 : Int32)) (a3.2.2.1 - a3.2.2.1 / (4 : Int32) * (4 : Int32)) x1).bind fun r6 => if a3.2.2.1 ≤ 0 then some (.inl (a3.2.2.1, r6.1, (a3.2.2.1 + 1 : Int32), r6.2)) else if r6.1 < a3.2.1 then some (.inl (a3.2.2.1, r6.1, (a3.2.2.1 + 1 : Int32), r6.2)) else some (.inl (a3.1, a3.2.1, (a3.2.2.1 + 1 : Int32), r6.2))
def fT_best (s : tt_S3) (x1 : Int32) (x2 : Int32) : Option ((Int64 × tt_S3) ⊕ (Nat × tt_S3)) :=
  (fT_insurerOf s x1).bind fun q_r1 => orThrow q_r1 fun r1 => (fT_within r1 x2 (0 : Int32) (3 : Int32)).bind fun q_r2 => orThrow q_r2 fun r2 => (itr (fT_best_L20 x1) tt_fuel ((0 : Int32), (0 : Int64), (0 : Int32), r2)).bind fun b4 => if x2 = 0 then some (.inl ((b4.1 / (16 : Int32)).toInt64, b4.2.2.2)) else if x2 = (1 : Int32) then some (.inl (((b4.1 / (4 : Int32)) - (b4.1 / (4 : Int32)) / (4 : Int32) * (4 : Int32)).toInt64, b4.2.2.2)) else if x2 = (2 : Int32) then some (.inl ((b4.1 - b4.1 / (4 : Int32) * (4 : Int32)).toInt64, b4.2.2.2)) else some (.inl (b4.2.1, b4.2.2.2))
abbrev rmT_best : Room := { frames := 18, cells := 2, slots := 12, locals := 425 }
set_option maxHeartbeats 4000000 in
theorem mT_best (l : Launch) (D : va_G) (dA : Nat → ClassId) (A : Nat → Prop) (pz : Nat) (hl9 : l.stackTraces = false) (lc : Nat → Nat → Nat) (s : tt_S3) (x1 : Int32) (x2 : Int32) {Q : Option Value → (Nat → Nat → Nat) → tt_S3 → Prop} {QX : String → (Nat → Nat → Nat) → tt_S3 → Prop} (h : Ok (fT_best s x1 x2) (fun q => Sum.casesOn (motive := fun _ => Prop) q (fun r => Q (some (.long r.1)) lc r.2) (fun e => QX (tt_exn e.1) lc e.2))) : tt_SpX (XT l D dA A pz) yX1_best cX1_best 9 (some .long) rmT_best [.ref (lc 0 0), .int x1, .int x2] lc s Q QX := by
  refine tt_SpX.ofV plX1 kokT (Nat.le_of_ble_eq_true rfl) ?_
  show tt_V (XT l D dA A pz) cX1_best (RX1, 9, (some .long), rmT_best, tt_ne) (tt_fx (XT l D dA A pz) (RX1, 9, (some .long), rmT_best, tt_ne) Q QX) 0 [(0, .ref (lc 0 0)), (1, .int x1), (2, .int x2)] [] lc s 0 0
  unfold fT_best at h
  refine v_aload_n 0 dX1_best_0 rfl ?_
  refine v_iload_n 1 dX1_best_1 rfl ?_
  refine cT_121_0 (Ok.throws h) hl9 (fun _ _ _ h => h) (fun _ h => h) ⟨Nat.le_of_ble_eq_true rfl, Nat.le_of_ble_eq_true rfl⟩ (Nat.le_of_ble_eq_true rfl) dX1_best_2 (fun r1 h => ?_) ⟨Nat.le_of_ble_eq_true rfl, Nat.le_of_ble_eq_true rfl⟩
  refine v_aload_n 0 dX1_best_5 rfl ?_
  refine v_iload_n 2 dX1_best_6 rfl ?_
  refine v_iconst dX1_best_7 ic_0 ?_
  refine v_iconst dX1_best_8 ic_3 ?_
  refine cT_80_0 (Ok.throws h) hl9 (fun _ _ _ h => h) (fun _ h => h) ⟨Nat.le_of_ble_eq_true rfl, Nat.le_of_ble_eq_true rfl⟩ (Nat.le_of_ble_eq_true rfl) dX1_best_9 (fun r2 h => ?_) ⟨Nat.le_of_ble_eq_true rfl, Nat.le_of_ble_eq_true rfl⟩
  refine v_iconst dX1_best_12 ic_0 ?_
  refine v_istore_n [(3, .int (0 : Int32)), (0, .ref (lc 0 0)), (1, .int x1), (2, .int x2)] dX1_best_13 (Nat.le_of_ble_eq_true rfl) rfl ?_
  refine v_lconst dX1_best_14 kl_0 ?_
  refine v_lstore [(4, .long (0 : Int64)), (3, .int (0 : Int32)), (0, .ref (lc 0 0)), (1, .int x1), (2, .int x2)] dX1_best_15 (Nat.le_of_ble_eq_true rfl) rfl ?_
  refine v_iconst dX1_best_17 ic_0 ?_
  refine v_istore [(6, .int (0 : Int32)), (4, .long (0 : Int64)), (3, .int (0 : Int32)), (0, .ref (lc 0 0)), (1, .int x1), (2, .int x2)] dX1_best_18 (Nat.le_of_ble_eq_true rfl) rfl ?_
  refine v_sub [3, 4, 5, 2, 1, 0] rfl ?_
  refine itr_loop (P := fun a3 : Int32 × Int64 × Int32 × tt_S3 => tt_V (XT l D dA A pz) cX1_best (RX1, 9, (some .long), rmT_best, tt_ne) (tt_fx (XT l D dA A pz) (RX1, 9, (some .long), rmT_best, tt_ne) Q QX) 20 [(0, .ref (lc 0 0)), (1, .int x1), (2, .int x2), (3, .int a3.1), (4, .long a3.2.1), (6, .int a3.2.2.1)] [] lc a3.2.2.2 2 12) (PE := fun b4 : Int32 × Int64 × Int32 × tt_S3 => tt_V (XT l D dA A pz) cX1_best (RX1, 9, (some .long), rmT_best, tt_ne) (tt_fx (XT l D dA A pz) (RX1, 9, (some .long), rmT_best, tt_ne) Q QX) 78 [(0, .ref (lc 0 0)), (1, .int x1), (2, .int x2), (3, .int b4.1), (4, .long b4.2.1), (6, .int b4.2.2.1)] [] lc b4.2.2.2 2 12) h (fun b4 h => ?_) (fun a3 h => ?_)
  · refine v_iload_n 2 dX1_best_78 rfl ?_
    refine v_if_ne (tgt := 90) dX1_best_79 rfl (fun c9 => ?_) (fun c9 => ?_)
    · have h := Ok.neg h c9
      refine v_iload_n 2 dX1_best_90 rfl ?_
      refine v_iconst dX1_best_91 ic_1 ?_
      refine v_icmp_ne (tgt := 104) dX1_best_92 rfl (fun c10 => ?_) (fun c10 => ?_)
      · have h := Ok.neg h c10
        refine v_iload_n 2 dX1_best_104 rfl ?_
        refine v_iconst dX1_best_105 ic_2 ?_
        refine v_icmp_ne (tgt := 116) dX1_best_106 rfl (fun c11 => ?_) (fun c11 => ?_)
        · have h := Ok.neg h c11
          refine v_lload 4 dX1_best_116 rfl ?_
          have h := Ok.ret h
          exact v_retX (v_lret rfl (Nat.le_of_ble_eq_true rfl) (Nat.le_of_ble_eq_true rfl) dX1_best_118 h)
        · have h := Ok.pos h c11
          refine v_iload_n 3 dX1_best_109 rfl ?_
          refine v_iconst dX1_best_110 ic_4 ?_
          refine v_irem dX1_best_111 (by decide) ?_
          refine v_i2l dX1_best_112 rfl ?_
          refine v_goto (tgt := 118) dX1_best_113 rfl ?_
          have h := Ok.ret h
          exact v_retX (v_lret rfl (Nat.le_of_ble_eq_true rfl) (Nat.le_of_ble_eq_true rfl) dX1_best_118 h)
      · have h := Ok.pos h c10
        refine v_iload_n 3 dX1_best_95 rfl ?_
        refine v_iconst dX1_best_96 ic_4 ?_
        refine v_idiv dX1_best_97 (by decide) ?_
        refine v_iconst dX1_best_98 ic_4 ?_
        refine v_irem dX1_best_99 (by decide) ?_
        refine v_i2l dX1_best_100 rfl ?_
        refine v_goto (tgt := 118) dX1_best_101 rfl ?_
        have h := Ok.ret h
        exact v_retX (v_lret rfl (Nat.le_of_ble_eq_true rfl) (Nat.le_of_ble_eq_true rfl) dX1_best_118 h)
    · have h := Ok.pos h c9
      refine v_iload_n 3 dX1_best_82 rfl ?_
      refine v_bipush dX1_best_83 kb_16 ?_
      refine v_idiv dX1_best_85 (by decide) ?_
      refine v_i2l dX1_best_86 rfl ?_
      refine v_goto (tgt := 118) dX1_best_87 rfl ?_
      have h := Ok.ret h
      exact v_retX (v_lret rfl (Nat.le_of_ble_eq_true rfl) (Nat.le_of_ble_eq_true rfl) dX1_best_118 h)
  · have h : Ok (fT_best_L20 x1 a3) _ := h
    unfold fT_best_L20 at h
    refine v_iload 5 dX1_best_20 rfl ?_
    refine v_bipush dX1_best_22 kb_64 ?_
    refine v_icmp_ge (tgt := 78) dX1_best_24 rfl (fun c5 => ?_) (fun c5 => ?_)
    · have h := Ok.pos h c5
      have h := Ok.ret h
      exact h
    · have h := Ok.neg h c5
      refine v_aload_n 0 dX1_best_27 rfl ?_
      refine v_iload 5 dX1_best_28 rfl ?_
      refine v_bipush dX1_best_30 kb_16 ?_
      refine v_idiv dX1_best_32 (by decide) ?_
      refine v_iload 5 dX1_best_33 rfl ?_
      refine v_iconst dX1_best_35 ic_4 ?_
      refine v_idiv dX1_best_36 (by decide) ?_
      refine v_iconst dX1_best_37 ic_4 ?_
      refine v_irem dX1_best_38 (by decide) ?_
      refine v_iload 5 dX1_best_39 rfl ?_
      refine v_iconst dX1_best_41 ic_4 ?_
      refine v_irem dX1_best_42 (by decide) ?_
      refine v_iload_n 1 dX1_best_43 rfl ?_
      refine cT_415_0 (Ok.bind h) ⟨Nat.le_of_ble_eq_true rfl, Nat.le_of_ble_eq_true rfl⟩ (Nat.le_of_ble_eq_true rfl) dX1_best_44 (fun r6 h => ?_) ⟨Nat.le_of_ble_eq_true rfl, Nat.le_of_ble_eq_true rfl⟩
      refine v_lstore [(7, .long r6.1), (0, .ref (lc 0 0)), (1, .int x1), (2, .int x2), (3, .int a3.1), (4, .long a3.2.1), (6, .int a3.2.2.1)] dX1_best_47 (Nat.le_of_ble_eq_true rfl) rfl ?_
      refine v_iload 6 dX1_best_49 rfl ?_
      refine v_if_le (tgt := 65) dX1_best_51 rfl (fun c7 => ?_) (fun c7 => ?_)
      · have h := Ok.pos h c7
        refine v_iload 6 dX1_best_65 rfl ?_
        refine v_istore_n [(3, .int a3.2.2.1), (7, .long r6.1), (0, .ref (lc 0 0)), (1, .int x1), (2, .int x2), (4, .long a3.2.1), (6, .int a3.2.2.1)] dX1_best_67 (Nat.le_of_ble_eq_true rfl) rfl ?_
        refine v_lload 1 dX1_best_68 rfl ?_
        refine v_lstore [(4, .long r6.1), (3, .int a3.2.2.1), (7, .long r6.1), (0, .ref (lc 0 0)), (1, .int x1), (2, .int x2), (6, .int a3.2.2.1)] dX1_best_70 (Nat.le_of_ble_eq_true rfl) rfl ?_
        refine v_iinc (v := (a3.2.2.1 + 1 : Int32)) 6 [(6, .int (a3.2.2.1 + 1 : Int32)), (4, .long r6.1), (3, .int a3.2.2.1), (7, .long r6.1), (0, .ref (lc 0 0)), (1, .int x1), (2, .int x2)] dX1_best_72 rfl (by rw [ic_1]) (Nat.le_of_ble_eq_true rfl) rfl ?_
        refine v_goto (tgt := 20) dX1_best_75 rfl ?_
        refine v_sub [4, 5, 6, 2, 1, 0] rfl ?_
        have h := Ok.ret h
        exact h
      · have h := Ok.neg h c7
        refine v_lload 0 dX1_best_54 rfl ?_
        refine v_lload 5 dX1_best_56 rfl ?_
        refine v_lif_lt (tgt := 65) dX1_best_58 dX1_best_59 rfl (fun c8 => ?_) (fun c8 => ?_)
        · have h := Ok.pos h c8
          refine v_iload 6 dX1_best_65 rfl ?_
          refine v_istore_n [(3, .int a3.2.2.1), (7, .long r6.1), (0, .ref (lc 0 0)), (1, .int x1), (2, .int x2), (4, .long a3.2.1), (6, .int a3.2.2.1)] dX1_best_67 (Nat.le_of_ble_eq_true rfl) rfl ?_
          refine v_lload 1 dX1_best_68 rfl ?_
          refine v_lstore [(4, .long r6.1), (3, .int a3.2.2.1), (7, .long r6.1), (0, .ref (lc 0 0)), (1, .int x1), (2, .int x2), (6, .int a3.2.2.1)] dX1_best_70 (Nat.le_of_ble_eq_true rfl) rfl ?_
          refine v_iinc (v := (a3.2.2.1 + 1 : Int32)) 6 [(6, .int (a3.2.2.1 + 1 : Int32)), (4, .long r6.1), (3, .int a3.2.2.1), (7, .long r6.1), (0, .ref (lc 0 0)), (1, .int x1), (2, .int x2)] dX1_best_72 rfl (by rw [ic_1]) (Nat.le_of_ble_eq_true rfl) rfl ?_
          refine v_goto (tgt := 20) dX1_best_75 rfl ?_
          refine v_sub [4, 5, 6, 2, 1, 0] rfl ?_
          have h := Ok.ret h
          exact h
        · have h := Ok.neg h c8
          refine v_goto (tgt := 72) dX1_best_62 rfl ?_
          refine v_iinc (v := (a3.2.2.1 + 1 : Int32)) 6 [(6, .int (a3.2.2.1 + 1 : Int32)), (7, .long r6.1), (0, .ref (lc 0 0)), (1, .int x1), (2, .int x2), (3, .int a3.1), (4, .long a3.2.1)] dX1_best_72 rfl (by rw [ic_1]) (Nat.le_of_ble_eq_true rfl) rfl ?_
          refine v_goto (tgt := 20) dX1_best_75 rfl ?_
          refine v_sub [2, 3, 4, 5, 6, 0] rfl ?_
          have h := Ok.ret h
          exact h
def fT_goneWithout (s : tt_S3) (x1 : Int32) (x2 : Int32) : Option (Int64 × tt_S3) :=
  (fW_begins s.2.1).bind fun r1 => (fT_gone (s.1, r1, s.2.2) x1).bind fun r2 => (fW_borneBy r2.2.2.1 x2).bind fun r3 => some (r3, r2.2)
abbrev rmT_goneWithout : Room := { frames := 17, cells := 0, slots := 0, locals := 401 }
set_option maxHeartbeats 4000000 in
theorem mT_goneWithout (l : Launch) (D : va_G) (dA : Nat → ClassId) (A : Nat → Prop) (pz : Nat) (lc : Nat → Nat → Nat) (s : tt_S3) (x1 : Int32) (x2 : Int32) {Q : Option Value → (Nat → Nat → Nat) → tt_S3 → Prop} (h : Ok (fT_goneWithout s x1 x2) (fun r => Q (some (.long r.1)) lc r.2)) : tt_Sp (XT l D dA A pz) yX1_goneWithout cX1_goneWithout 3 (some .long) rmT_goneWithout [.ref (lc 0 0), .int x1, .int x2] lc s Q := by
  refine tt_Sp.ofV plX1 kokT (Nat.le_of_ble_eq_true rfl) ?_
  show tt_V (XT l D dA A pz) cX1_goneWithout (RX1, 3, (some .long), rmT_goneWithout, tt_nt) (tt_fn (XT l D dA A pz) (RX1, 3, (some .long), rmT_goneWithout, tt_nt) Q) 0 [(0, .ref (lc 0 0)), (1, .int x1), (2, .int x2)] [] lc s 0 0
  unfold fT_goneWithout at h
  refine v_aload_n 0 dX1_goneWithout_0 rfl ?_
  refine gT_X1_16_0 dX1_goneWithout_1 ?_
  refine cT_49_200 (Ok.bind h) ⟨Nat.le_of_ble_eq_true rfl, Nat.le_of_ble_eq_true rfl⟩ (Nat.le_of_ble_eq_true rfl) dX1_goneWithout_4 (fun r1 h => ?_) ⟨Nat.le_of_ble_eq_true rfl, Nat.le_of_ble_eq_true rfl⟩
  refine v_aload_n 0 dX1_goneWithout_7 rfl ?_
  refine v_iload_n 1 dX1_goneWithout_8 rfl ?_
  refine cT_411_0 (Ok.bind h) ⟨Nat.le_of_ble_eq_true rfl, Nat.le_of_ble_eq_true rfl⟩ (Nat.le_of_ble_eq_true rfl) dX1_goneWithout_9 (fun r2 h => ?_) ⟨Nat.le_of_ble_eq_true rfl, Nat.le_of_ble_eq_true rfl⟩
  refine v_iload_n 2 dX1_goneWithout_12 rfl ?_
  refine cT_302_200 (Ok.bind h) ⟨Nat.le_of_ble_eq_true rfl, Nat.le_of_ble_eq_true rfl⟩ (Nat.le_of_ble_eq_true rfl) dX1_goneWithout_13 (fun r3 h => ?_) ⟨Nat.le_of_ble_eq_true rfl, Nat.le_of_ble_eq_true rfl⟩
  have h := Ok.ret h
  exact v_lret rfl (Nat.le_of_ble_eq_true rfl) (Nat.le_of_ble_eq_true rfl) dX1_goneWithout_16 h
theorem cT_419_0 {l : Launch} {D : va_G} {dA : Nat → ClassId} {A : Nat → Prop} {pz : Nat} {lc : Nat → Nat → Nat} {s : tt_S3} {cc : ByteArray} {nl : Nat} {rt : Option FieldType} {rm : Room} {tn : tt_Tn} {Q : tt_Fin} {pc : Nat} {lv : List (Nat × Value)} {rest : List Value} {ck cn : Nat} {x1 : Int32} {x2 : Int32} {K : Int64 × tt_S3 → Prop} (h : Ok (fT_goneWithout s x1 x2) K) (hR : 17 + 1 ≤ rm.frames ∧ 8 + (3 + 11) + 401 ≤ rm.locals) (hW : (rest.map fun v => v.category).sum ≤ 8) (d : decode cc pc = .ok (.invokevirtual 419, 3)) (kk : ∀ r, K r → tt_V (XT l D dA A pz) cc (RX1, nl, rt, rm, tn) Q (pc + 3) lv (.long r.1 :: rest) lc r.2 (ck + 0) (cn + 0)) (hf : ck + 0 ≤ rm.cells ∧ cn + 0 ≤ rm.slots) : tt_V (XT l D dA A pz) cc (RX1, nl, rt, rm, tn) Q pc lv (.int x2 :: .int x1 :: .ref (lc 0 0) :: rest) lc s ck cn :=
  v_callV (kd := 0) (i := 0) (nA := 2) (As := [.int x1, .int x2]) lvT_0 oT_0 rfl (mT_goneWithout l D dA A pz lc s x1 x2 (Q := (fun v lc' s' => ∃ r, K r ∧ v = some (.long r.1) ∧ lc' = lc ∧ s' = r.2)) (h.mono (fun r hr => ⟨r, hr, rfl, rfl, rfl⟩))) (lw_V q1642 q1644 qs46 q127 q1645) (by decide +kernel) rfl hR hW hf d rfl (fun v lc' s' q => by obtain ⟨r, hr, e1, e2, e3⟩ := q; rw [e1, e2, e3]; exact kk r hr)
def fT_without (s : tt_S3) (x1 : Int32) (x2 : Int32) : Option ((Int64 × tt_S3) ⊕ (Nat × tt_S3)) :=
  (fT_oneOf s x1 (rdI s.2.2 0 0 7)).bind fun q_r1 => orThrow q_r1 fun r1 => (fT_insurerOf r1 x2).bind fun q_r2 => orThrow q_r2 fun r2 => (fT_goneWithout r2 x1 x2).bind fun r3 => some (.inl (r3.1, r3.2))
abbrev rmT_without : Room := { frames := 18, cells := 2, slots := 12, locals := 423 }
set_option maxHeartbeats 4000000 in
theorem mT_without (l : Launch) (D : va_G) (dA : Nat → ClassId) (A : Nat → Prop) (pz : Nat) (hl9 : l.stackTraces = false) (lc : Nat → Nat → Nat) (s : tt_S3) (x1 : Int32) (x2 : Int32) {Q : Option Value → (Nat → Nat → Nat) → tt_S3 → Prop} {QX : String → (Nat → Nat → Nat) → tt_S3 → Prop} (h : Ok (fT_without s x1 x2) (fun q => Sum.casesOn (motive := fun _ => Prop) q (fun r => Q (some (.long r.1)) lc r.2) (fun e => QX (tt_exn e.1) lc e.2))) : tt_SpX (XT l D dA A pz) yX1_without cX1_without 3 (some .long) rmT_without [.ref (lc 0 0), .int x1, .int x2] lc s Q QX := by
  refine tt_SpX.ofV plX1 kokT (Nat.le_of_ble_eq_true rfl) ?_
  show tt_V (XT l D dA A pz) cX1_without (RX1, 3, (some .long), rmT_without, tt_ne) (tt_fx (XT l D dA A pz) (RX1, 3, (some .long), rmT_without, tt_ne) Q QX) 0 [(0, .ref (lc 0 0)), (1, .int x1), (2, .int x2)] [] lc s 0 0
  unfold fT_without at h
  refine v_aload_n 0 dX1_without_0 rfl ?_
  refine v_iload_n 1 dX1_without_1 rfl ?_
  refine v_aload_n 0 dX1_without_2 rfl ?_
  refine gT_X1_93_0 dX1_without_3 ?_
  refine cT_62_0 (Ok.throws h) hl9 (fun _ _ _ h => h) (fun _ h => h) ⟨Nat.le_of_ble_eq_true rfl, Nat.le_of_ble_eq_true rfl⟩ (Nat.le_of_ble_eq_true rfl) dX1_without_6 (fun r1 h => ?_) ⟨Nat.le_of_ble_eq_true rfl, Nat.le_of_ble_eq_true rfl⟩
  refine v_aload_n 0 dX1_without_9 rfl ?_
  refine v_iload_n 2 dX1_without_10 rfl ?_
  refine cT_121_0 (Ok.throws h) hl9 (fun _ _ _ h => h) (fun _ h => h) ⟨Nat.le_of_ble_eq_true rfl, Nat.le_of_ble_eq_true rfl⟩ (Nat.le_of_ble_eq_true rfl) dX1_without_11 (fun r2 h => ?_) ⟨Nat.le_of_ble_eq_true rfl, Nat.le_of_ble_eq_true rfl⟩
  refine v_aload_n 0 dX1_without_14 rfl ?_
  refine v_iload_n 1 dX1_without_15 rfl ?_
  refine v_iload_n 2 dX1_without_16 rfl ?_
  refine cT_419_0 (Ok.bind h) ⟨Nat.le_of_ble_eq_true rfl, Nat.le_of_ble_eq_true rfl⟩ (Nat.le_of_ble_eq_true rfl) dX1_without_17 (fun r3 h => ?_) ⟨Nat.le_of_ble_eq_true rfl, Nat.le_of_ble_eq_true rfl⟩
  have h := Ok.ret h
  exact v_retX (v_lret rfl (Nat.le_of_ble_eq_true rfl) (Nat.le_of_ble_eq_true rfl) dX1_without_20 h)
def fT_undone (s : tt_S3) (x1 : Int32) : Option ((Int32 × tt_S3) ⊕ (Nat × tt_S3)) :=
  (fT_oneOf s x1 (rdI s.2.2 0 0 7)).bind fun q_r1 => orThrow q_r1 fun r1 => (fT_goneWithout r1 x1 (0 : Int32)).bind fun r2 => some (.inl (rdI r2.2.2.2 0 0 8, r2.2))
abbrev rmT_undone : Room := { frames := 18, cells := 1, slots := 6, locals := 423 }
set_option maxHeartbeats 4000000 in
theorem mT_undone (l : Launch) (D : va_G) (dA : Nat → ClassId) (A : Nat → Prop) (pz : Nat) (hl9 : l.stackTraces = false) (lc : Nat → Nat → Nat) (s : tt_S3) (x1 : Int32) {Q : Option Value → (Nat → Nat → Nat) → tt_S3 → Prop} {QX : String → (Nat → Nat → Nat) → tt_S3 → Prop} (h : Ok (fT_undone s x1) (fun q => Sum.casesOn (motive := fun _ => Prop) q (fun r => Q (some (.int r.1)) lc r.2) (fun e => QX (tt_exn e.1) lc e.2))) : tt_SpX (XT l D dA A pz) yX1_undone cX1_undone 2 (some .int) rmT_undone [.ref (lc 0 0), .int x1] lc s Q QX := by
  refine tt_SpX.ofV plX1 kokT (Nat.le_of_ble_eq_true rfl) ?_
  show tt_V (XT l D dA A pz) cX1_undone (RX1, 2, (some .int), rmT_undone, tt_ne) (tt_fx (XT l D dA A pz) (RX1, 2, (some .int), rmT_undone, tt_ne) Q QX) 0 [(0, .ref (lc 0 0)), (1, .int x1)] [] lc s 0 0
  unfold fT_undone at h
  refine v_aload_n 0 dX1_undone_0 rfl ?_
  refine v_iload_n 1 dX1_undone_1 rfl ?_
  refine v_aload_n 0 dX1_undone_2 rfl ?_
  refine gT_X1_93_0 dX1_undone_3 ?_
  refine cT_62_0 (Ok.throws h) hl9 (fun _ _ _ h => h) (fun _ h => h) ⟨Nat.le_of_ble_eq_true rfl, Nat.le_of_ble_eq_true rfl⟩ (Nat.le_of_ble_eq_true rfl) dX1_undone_6 (fun r1 h => ?_) ⟨Nat.le_of_ble_eq_true rfl, Nat.le_of_ble_eq_true rfl⟩
  refine v_aload_n 0 dX1_undone_9 rfl ?_
  refine v_iload_n 1 dX1_undone_10 rfl ?_
  refine v_iconst dX1_undone_11 ic_0 ?_
  refine cT_419_0 (Ok.bind h) ⟨Nat.le_of_ble_eq_true rfl, Nat.le_of_ble_eq_true rfl⟩ (Nat.le_of_ble_eq_true rfl) dX1_undone_12 (fun r2 h => ?_) ⟨Nat.le_of_ble_eq_true rfl, Nat.le_of_ble_eq_true rfl⟩
  refine v_pop2_2 dX1_undone_15 rfl ?_
  refine v_aload_n 0 dX1_undone_16 rfl ?_
  refine gT_X1_405_0 dX1_undone_17 ?_
  have h := Ok.ret h
  exact v_retX (v_iret rfl (Nat.le_of_ble_eq_true rfl) (Nat.le_of_ble_eq_true rfl) dX1_undone_20 h)
def fT_spared_L25 (x1 : Int32) (r1 : tt_S3) (a4 : Int32) : Option ((Int32) ⊕ (Int32)) :=
  if inB a4 160 then unO (rdR r1.2.2 1 0 a4.toNatClampNeg) (rdN r1.2.2 2) fun o7 => if (rdI r1.2.2 2 o7 0) = (6 : Int32) then unO (rdR r1.2.2 1 0 a4.toNatClampNeg) (rdN r1.2.2 2) fun o9 => if (rdI r1.2.2 2 o9 1) = x1 then some (.inr a4) else some (.inl (a4 + 1 : Int32)) else some (.inl (a4 + 1 : Int32)) else none
def fT_spared (s : tt_S3) (x1 : Int32) : Option ((Int64 × tt_S3) ⊕ (Nat × tt_S3)) :=
  (fT_within s x1 (1 : Int32) (9 : Int32)).bind fun q_r1 => orThrow q_r1 fun r1 => if inB x1 10 then if (rdI r1.1 24 0 x1.toNatClampNeg) = (1 : Int32) then (itr (fT_spared_L25 x1 r1) tt_fuel (0 : Int32)).bind fun b5 => (fT_goneWithout r1 b5 x1).bind fun r11 => (fW_borneBy r11.2.1 x1).bind fun r12 => some (.inl ((r11.1 - r12) - (rdL r11.2.1 25 0 x1.toNatClampNeg), r11.2)) else some (.inl ((0 : Int64), r1)) else none
abbrev rmT_spared : Room := { frames := 18, cells := 1, slots := 6, locals := 423 }
set_option maxHeartbeats 4000000 in
theorem mT_spared (l : Launch) (D : va_G) (dA : Nat → ClassId) (A : Nat → Prop) (pz : Nat) (hl9 : l.stackTraces = false) (lc : Nat → Nat → Nat) (s : tt_S3) (x1 : Int32) {Q : Option Value → (Nat → Nat → Nat) → tt_S3 → Prop} {QX : String → (Nat → Nat → Nat) → tt_S3 → Prop} (h : Ok (fT_spared s x1) (fun q => Sum.casesOn (motive := fun _ => Prop) q (fun r => Q (some (.long r.1)) lc r.2) (fun e => QX (tt_exn e.1) lc e.2))) : tt_SpX (XT l D dA A pz) yX1_spared cX1_spared 3 (some .long) rmT_spared [.ref (lc 0 0), .int x1] lc s Q QX := by
  refine tt_SpX.ofV plX1 kokT (Nat.le_of_ble_eq_true rfl) ?_
  show tt_V (XT l D dA A pz) cX1_spared (RX1, 3, (some .long), rmT_spared, tt_ne) (tt_fx (XT l D dA A pz) (RX1, 3, (some .long), rmT_spared, tt_ne) Q QX) 0 [(0, .ref (lc 0 0)), (1, .int x1)] [] lc s 0 0
  unfold fT_spared at h
  refine v_aload_n 0 dX1_spared_0 rfl ?_
  refine v_iload_n 1 dX1_spared_1 rfl ?_
  refine v_iconst dX1_spared_2 ic_1 ?_
  refine v_bipush dX1_spared_3 kb_9 ?_
  refine cT_80_0 (Ok.throws h) hl9 (fun _ _ _ h => h) (fun _ h => h) ⟨Nat.le_of_ble_eq_true rfl, Nat.le_of_ble_eq_true rfl⟩ (Nat.le_of_ble_eq_true rfl) dX1_spared_5 (fun r1 h => ?_) ⟨Nat.le_of_ble_eq_true rfl, Nat.le_of_ble_eq_true rfl⟩
  refine v_aload_n 0 dX1_spared_8 rfl ?_
  refine gT_X1_10_0 dX1_spared_9 ?_
  refine gT_X1_305_100 dX1_spared_12 ?_
  refine v_iload_n 1 dX1_spared_15 rfl ?_
  obtain ⟨g2, h⟩ := Ok.guard h
  refine lT_124 g2 dX1_spared_16 ?_
  refine v_iconst dX1_spared_17 ic_1 ?_
  refine v_icmp_eq (tgt := 23) dX1_spared_18 rfl (fun c3 => ?_) (fun c3 => ?_)
  · have h := Ok.pos h c3
    refine v_iconst dX1_spared_23 ic_0 ?_
    refine v_istore_n [(2, .int (0 : Int32)), (0, .ref (lc 0 0)), (1, .int x1)] dX1_spared_24 (Nat.le_of_ble_eq_true rfl) rfl ?_
    refine v_sub [1, 2, 0] rfl ?_
    refine itr_loop (P := fun a4 : Int32 => tt_V (XT l D dA A pz) cX1_spared (RX1, 3, (some .long), rmT_spared, tt_ne) (tt_fx (XT l D dA A pz) (RX1, 3, (some .long), rmT_spared, tt_ne) Q QX) 25 [(0, .ref (lc 0 0)), (1, .int x1), (2, .int a4)] [] lc r1 1 6) (PE := fun b5 : Int32 => tt_V (XT l D dA A pz) cX1_spared (RX1, 3, (some .long), rmT_spared, tt_ne) (tt_fx (XT l D dA A pz) (RX1, 3, (some .long), rmT_spared, tt_ne) Q QX) 58 [(0, .ref (lc 0 0)), (1, .int x1), (2, .int b5)] [] lc r1 1 6) h (fun b5 h => ?_) (fun a4 h => ?_)
    · refine v_aload_n 0 dX1_spared_58 rfl ?_
      refine v_iload_n 2 dX1_spared_59 rfl ?_
      refine v_iload_n 1 dX1_spared_60 rfl ?_
      refine cT_419_0 (Ok.bind h) ⟨Nat.le_of_ble_eq_true rfl, Nat.le_of_ble_eq_true rfl⟩ (Nat.le_of_ble_eq_true rfl) dX1_spared_61 (fun r11 h => ?_) ⟨Nat.le_of_ble_eq_true rfl, Nat.le_of_ble_eq_true rfl⟩
      refine v_aload_n 0 dX1_spared_64 rfl ?_
      refine gT_X1_10_0 dX1_spared_65 ?_
      refine v_iload_n 1 dX1_spared_68 rfl ?_
      refine cT_302_100 (Ok.bind h) ⟨Nat.le_of_ble_eq_true rfl, Nat.le_of_ble_eq_true rfl⟩ (Nat.le_of_ble_eq_true rfl) dX1_spared_69 (fun r12 h => ?_) ⟨Nat.le_of_ble_eq_true rfl, Nat.le_of_ble_eq_true rfl⟩
      refine v_lsub dX1_spared_72 ?_
      refine v_aload_n 0 dX1_spared_73 rfl ?_
      refine gT_X1_10_0 dX1_spared_74 ?_
      refine gT_X1_308_100 dX1_spared_77 ?_
      refine v_iload_n 1 dX1_spared_80 rfl ?_
      refine lT_125 g2 dX1_spared_81 ?_
      refine v_lsub dX1_spared_82 ?_
      have h := Ok.ret h
      exact v_retX (v_lret rfl (Nat.le_of_ble_eq_true rfl) (Nat.le_of_ble_eq_true rfl) dX1_spared_83 h)
    · have h : Ok (fT_spared_L25 x1 r1 a4) _ := h
      unfold fT_spared_L25 at h
      refine v_aload_n 0 dX1_spared_25 rfl ?_
      refine gT_X1_28_0 dX1_spared_26 ?_
      refine v_iload_n 2 dX1_spared_29 rfl ?_
      obtain ⟨g6, h⟩ := Ok.guard h
      obtain ⟨o7, e_o7, g_o7, h⟩ := Ok.unO h
      refine lT_1 g6 e_o7 dX1_spared_30 ?_
      refine gT_X1_198_2 g_o7 dX1_spared_31 ?_
      refine v_bipush dX1_spared_34 kb_6 ?_
      refine v_icmp_ne (tgt := 52) dX1_spared_36 rfl (fun c8 => ?_) (fun c8 => ?_)
      · have h := Ok.neg h c8
        refine v_iinc (v := (a4 + 1 : Int32)) 2 [(2, .int (a4 + 1 : Int32)), (0, .ref (lc 0 0)), (1, .int x1)] dX1_spared_52 rfl (by rw [ic_1]) (Nat.le_of_ble_eq_true rfl) rfl ?_
        refine v_goto (tgt := 25) dX1_spared_55 rfl ?_
        refine v_sub [1, 2, 0] rfl ?_
        have h := Ok.ret h
        exact h
      · have h := Ok.pos h c8
        refine v_aload_n 0 dX1_spared_39 rfl ?_
        refine gT_X1_28_0 dX1_spared_40 ?_
        refine v_iload_n 2 dX1_spared_43 rfl ?_
        obtain ⟨o9, e_o9, g_o9, h⟩ := Ok.unO h
        refine lT_1 g6 e_o9 dX1_spared_44 ?_
        refine gT_X1_201_2 g_o9 dX1_spared_45 ?_
        refine v_iload_n 1 dX1_spared_48 rfl ?_
        refine v_icmp_eq (tgt := 58) dX1_spared_49 rfl (fun c10 => ?_) (fun c10 => ?_)
        · have h := Ok.pos h c10
          have h := Ok.ret h
          exact h
        · have h := Ok.neg h c10
          refine v_iinc (v := (a4 + 1 : Int32)) 2 [(2, .int (a4 + 1 : Int32)), (0, .ref (lc 0 0)), (1, .int x1)] dX1_spared_52 rfl (by rw [ic_1]) (Nat.le_of_ble_eq_true rfl) rfl ?_
          refine v_goto (tgt := 25) dX1_spared_55 rfl ?_
          refine v_sub [1, 2, 0] rfl ?_
          have h := Ok.ret h
          exact h
  · have h := Ok.neg h c3
    refine v_lconst dX1_spared_21 kl_0 ?_
    have h := Ok.ret h
    exact v_retX (v_lret rfl (Nat.le_of_ble_eq_true rfl) (Nat.le_of_ble_eq_true rfl) dX1_spared_22 h)
def fT_shift_L34 (x1 : Int32) (x2 : Int32) (a5 : Int32 × tt_S3) : Option ((Int32 × tt_S3) ⊕ (Int32 × tt_S3)) :=
  if (rdI a5.2.2.2 0 0 7) < a5.1 then some (.inr (a5.1, a5.2)) else (if a5.1 = x2 then if inB x1 160 then unO (rdR a5.2.2.2 1 0 x1.toNatClampNeg) (rdN a5.2.2.2 2) fun o11 => unO (rdR a5.2.2.2 2 o11 2) (rdN a5.2.2.2 3) fun o12 => (fT_on a5.2.2.2 a5.2.2.1 o12).bind fun r13 => some (a5.2.1, r13.2, a5.2.2.2) else none else some a5.2 : Option (tt_S3)).bind fun t8 => if (rdI t8.2.2 0 0 7) ≤ a5.1 then some (.inl ((a5.1 + 1 : Int32), t8)) else if a5.1 = x1 then some (.inl ((a5.1 + 1 : Int32), t8)) else if inB a5.1 160 then unO (rdR t8.2.2 1 0 a5.1.toNatClampNeg) (rdN t8.2.2 2) fun o17 => unO (rdR t8.2.2 2 o17 2) (rdN t8.2.2 3) fun o18 => (fT_on t8.2.2 t8.2.1 o18).bind fun r19 => some (.inl ((a5.1 + 1 : Int32), (t8.1, r19.2, t8.2.2))) else none
def fT_shift (s : tt_S3) (x1 : Int32) (x2 : Int32) (x3 : Int32) : Option ((Int64 × tt_S3) ⊕ (Nat × tt_S3)) :=
  (fT_oneOf s x1 (rdI s.2.2 0 0 7)).bind fun q_r1 => orThrow q_r1 fun r1 => (fT_within r1 x2 (0 : Int32) (rdI r1.2.2 0 0 7)).bind fun q_r2 => orThrow q_r2 fun r2 => (fT_insurerOf r2 x3).bind fun q_r3 => orThrow q_r3 fun r3 => (fW_begins r3.2.1).bind fun r4 => (itr (fT_shift_L34 x1 x2) tt_fuel ((0 : Int32), (r3.1, r4, r3.2.2))).bind fun b6 => (fW_borneBy b6.2.2.1 x3).bind fun r20 => some (.inl (r20, b6.2))
abbrev rmT_shift : Room := { frames := 16, cells := 3, slots := 18, locals := 379 }
set_option maxHeartbeats 4000000 in
theorem mT_shift (l : Launch) (D : va_G) (dA : Nat → ClassId) (A : Nat → Prop) (pz : Nat) (hl9 : l.stackTraces = false) (lc : Nat → Nat → Nat) (s : tt_S3) (x1 : Int32) (x2 : Int32) (x3 : Int32) {Q : Option Value → (Nat → Nat → Nat) → tt_S3 → Prop} {QX : String → (Nat → Nat → Nat) → tt_S3 → Prop} (h : Ok (fT_shift s x1 x2 x3) (fun q => Sum.casesOn (motive := fun _ => Prop) q (fun r => Q (some (.long r.1)) lc r.2) (fun e => QX (tt_exn e.1) lc e.2))) : tt_SpX (XT l D dA A pz) yX1_shift cX1_shift 5 (some .long) rmT_shift [.ref (lc 0 0), .int x1, .int x2, .int x3] lc s Q QX := by
  refine tt_SpX.ofV plX1 kokT (Nat.le_of_ble_eq_true rfl) ?_
  show tt_V (XT l D dA A pz) cX1_shift (RX1, 5, (some .long), rmT_shift, tt_ne) (tt_fx (XT l D dA A pz) (RX1, 5, (some .long), rmT_shift, tt_ne) Q QX) 0 [(0, .ref (lc 0 0)), (1, .int x1), (2, .int x2), (3, .int x3)] [] lc s 0 0
  unfold fT_shift at h
  refine v_aload_n 0 dX1_shift_0 rfl ?_
  refine v_iload_n 1 dX1_shift_1 rfl ?_
  refine v_aload_n 0 dX1_shift_2 rfl ?_
  refine gT_X1_93_0 dX1_shift_3 ?_
  refine cT_62_0 (Ok.throws h) hl9 (fun _ _ _ h => h) (fun _ h => h) ⟨Nat.le_of_ble_eq_true rfl, Nat.le_of_ble_eq_true rfl⟩ (Nat.le_of_ble_eq_true rfl) dX1_shift_6 (fun r1 h => ?_) ⟨Nat.le_of_ble_eq_true rfl, Nat.le_of_ble_eq_true rfl⟩
  refine v_aload_n 0 dX1_shift_9 rfl ?_
  refine v_iload_n 2 dX1_shift_10 rfl ?_
  refine v_iconst dX1_shift_11 ic_0 ?_
  refine v_aload_n 0 dX1_shift_12 rfl ?_
  refine gT_X1_93_0 dX1_shift_13 ?_
  refine cT_80_0 (Ok.throws h) hl9 (fun _ _ _ h => h) (fun _ h => h) ⟨Nat.le_of_ble_eq_true rfl, Nat.le_of_ble_eq_true rfl⟩ (Nat.le_of_ble_eq_true rfl) dX1_shift_16 (fun r2 h => ?_) ⟨Nat.le_of_ble_eq_true rfl, Nat.le_of_ble_eq_true rfl⟩
  refine v_aload_n 0 dX1_shift_19 rfl ?_
  refine v_iload_n 3 dX1_shift_20 rfl ?_
  refine cT_121_0 (Ok.throws h) hl9 (fun _ _ _ h => h) (fun _ h => h) ⟨Nat.le_of_ble_eq_true rfl, Nat.le_of_ble_eq_true rfl⟩ (Nat.le_of_ble_eq_true rfl) dX1_shift_21 (fun r3 h => ?_) ⟨Nat.le_of_ble_eq_true rfl, Nat.le_of_ble_eq_true rfl⟩
  refine v_aload_n 0 dX1_shift_24 rfl ?_
  refine gT_X1_16_0 dX1_shift_25 ?_
  refine cT_49_200 (Ok.bind h) ⟨Nat.le_of_ble_eq_true rfl, Nat.le_of_ble_eq_true rfl⟩ (Nat.le_of_ble_eq_true rfl) dX1_shift_28 (fun r4 h => ?_) ⟨Nat.le_of_ble_eq_true rfl, Nat.le_of_ble_eq_true rfl⟩
  refine v_iconst dX1_shift_31 ic_0 ?_
  refine v_istore [(4, .int (0 : Int32)), (0, .ref (lc 0 0)), (1, .int x1), (2, .int x2), (3, .int x3)] dX1_shift_32 (Nat.le_of_ble_eq_true rfl) rfl ?_
  refine v_sub [1, 2, 3, 4, 0] rfl ?_
  refine itr_loop (P := fun a5 : Int32 × tt_S3 => tt_V (XT l D dA A pz) cX1_shift (RX1, 5, (some .long), rmT_shift, tt_ne) (tt_fx (XT l D dA A pz) (RX1, 5, (some .long), rmT_shift, tt_ne) Q QX) 34 [(0, .ref (lc 0 0)), (1, .int x1), (2, .int x2), (3, .int x3), (4, .int a5.1)] [] lc a5.2 3 18) (PE := fun b6 : Int32 × tt_S3 => tt_V (XT l D dA A pz) cX1_shift (RX1, 5, (some .long), rmT_shift, tt_ne) (tt_fx (XT l D dA A pz) (RX1, 5, (some .long), rmT_shift, tt_ne) Q QX) 109 [(0, .ref (lc 0 0)), (1, .int x1), (2, .int x2), (3, .int x3), (4, .int b6.1)] [] lc b6.2 3 18) h (fun b6 h => ?_) (fun a5 h => ?_)
  · refine v_aload_n 0 dX1_shift_109 rfl ?_
    refine gT_X1_16_0 dX1_shift_110 ?_
    refine v_iload_n 3 dX1_shift_113 rfl ?_
    refine cT_302_200 (Ok.bind h) ⟨Nat.le_of_ble_eq_true rfl, Nat.le_of_ble_eq_true rfl⟩ (Nat.le_of_ble_eq_true rfl) dX1_shift_114 (fun r20 h => ?_) ⟨Nat.le_of_ble_eq_true rfl, Nat.le_of_ble_eq_true rfl⟩
    have h := Ok.ret h
    exact v_retX (v_lret rfl (Nat.le_of_ble_eq_true rfl) (Nat.le_of_ble_eq_true rfl) dX1_shift_117 h)
  · have h : Ok (fT_shift_L34 x1 x2 a5) _ := h
    unfold fT_shift_L34 at h
    refine v_iload 4 dX1_shift_34 rfl ?_
    refine v_aload_n 0 dX1_shift_36 rfl ?_
    refine gT_X1_93_0 dX1_shift_37 ?_
    refine v_icmp_gt (tgt := 109) dX1_shift_40 rfl (fun c7 => ?_) (fun c7 => ?_)
    · have h := Ok.pos h c7
      have h := Ok.ret h
      exact h
    · have h := Ok.neg h c7
      refine v_iload 4 dX1_shift_43 rfl ?_
      refine v_iload_n 2 dX1_shift_45 rfl ?_
      have h := Ok.join (PJ := fun t8 : tt_S3 => tt_V (XT l D dA A pz) cX1_shift (RX1, 5, (some .long), rmT_shift, tt_ne) (tt_fx (XT l D dA A pz) (RX1, 5, (some .long), rmT_shift, tt_ne) Q QX) 68 [(0, .ref (lc 0 0)), (1, .int x1), (2, .int x2), (3, .int x3), (4, .int a5.1)] [] lc t8 3 18) h (fun t8 h => by
        refine v_iload 4 dX1_shift_68 rfl ?_
        refine v_aload_n 0 dX1_shift_70 rfl ?_
        refine gT_X1_93_0 dX1_shift_71 ?_
        refine v_icmp_ge (tgt := 103) dX1_shift_74 rfl (fun c14 => ?_) (fun c14 => ?_)
        · have h := Ok.pos h c14
          refine v_iinc (v := (a5.1 + 1 : Int32)) 4 [(4, .int (a5.1 + 1 : Int32)), (0, .ref (lc 0 0)), (1, .int x1), (2, .int x2), (3, .int x3)] dX1_shift_103 rfl (by rw [ic_1]) (Nat.le_of_ble_eq_true rfl) rfl ?_
          refine v_goto (tgt := 34) dX1_shift_106 rfl ?_
          refine v_sub [1, 2, 3, 4, 0] rfl ?_
          have h := Ok.ret h
          exact h
        · have h := Ok.neg h c14
          refine v_iload 4 dX1_shift_77 rfl ?_
          refine v_iload_n 1 dX1_shift_79 rfl ?_
          refine v_icmp_eq (tgt := 103) dX1_shift_80 rfl (fun c15 => ?_) (fun c15 => ?_)
          · have h := Ok.pos h c15
            refine v_iinc (v := (a5.1 + 1 : Int32)) 4 [(4, .int (a5.1 + 1 : Int32)), (0, .ref (lc 0 0)), (1, .int x1), (2, .int x2), (3, .int x3)] dX1_shift_103 rfl (by rw [ic_1]) (Nat.le_of_ble_eq_true rfl) rfl ?_
            refine v_goto (tgt := 34) dX1_shift_106 rfl ?_
            refine v_sub [1, 2, 3, 4, 0] rfl ?_
            have h := Ok.ret h
            exact h
          · have h := Ok.neg h c15
            refine v_aload_n 0 dX1_shift_83 rfl ?_
            refine gT_X1_28_0 dX1_shift_84 ?_
            refine v_iload 4 dX1_shift_87 rfl ?_
            obtain ⟨g16, h⟩ := Ok.guard h
            obtain ⟨o17, e_o17, g_o17, h⟩ := Ok.unO h
            refine lT_1 g16 e_o17 dX1_shift_89 ?_
            refine gT_X1_178_2 g_o17 dX1_shift_90 ?_
            refine v_aload_n 0 dX1_shift_93 rfl ?_
            refine gT_X1_16_0 dX1_shift_94 ?_
            obtain ⟨o18, e_o18, g_o18, h⟩ := Ok.unO h
            rw [e_o18]
            show tt_V (XT l D dA A pz) cX1_shift (RX1, 5, (some .long), rmT_shift, tt_ne) (tt_fx (XT l D dA A pz) (RX1, 5, (some .long), rmT_shift, tt_ne) Q QX) 97 [(0, .ref (lc 0 0)), (1, .int x1), (2, .int x2), (3, .int x3), (4, .int a5.1)] [.ref (lc 200 0), .ref (lc 3 o18)] lc t8 3 18
            refine cT_on_200 g_o18 (Ok.bind h) ⟨Nat.le_of_ble_eq_true rfl, Nat.le_of_ble_eq_true rfl⟩ (Nat.le_of_ble_eq_true rfl) dX1_shift_97 (fun r19 z_r19 h => ?_) ⟨Nat.le_of_ble_eq_true rfl, Nat.le_of_ble_eq_true rfl⟩
            refine v_pop dX1_shift_102 rfl ?_
            refine v_iinc (v := (a5.1 + 1 : Int32)) 4 [(4, .int (a5.1 + 1 : Int32)), (0, .ref (lc 0 0)), (1, .int x1), (2, .int x2), (3, .int x3)] dX1_shift_103 rfl (by rw [ic_1]) (Nat.le_of_ble_eq_true rfl) rfl ?_
            refine v_goto (tgt := 34) dX1_shift_106 rfl ?_
            refine v_sub [1, 2, 3, 4, 0] rfl ?_
            have h := Ok.ret h
            exact h)
      refine v_icmp_ne (tgt := 68) dX1_shift_46 rfl (fun c9 => ?_) (fun c9 => ?_)
      · have h := Ok.neg h c9
        have h := Ok.ret h
        exact h
      · have h := Ok.pos h c9
        refine v_aload_n 0 dX1_shift_49 rfl ?_
        refine gT_X1_28_0 dX1_shift_50 ?_
        refine v_iload_n 1 dX1_shift_53 rfl ?_
        obtain ⟨g10, h⟩ := Ok.guard h
        obtain ⟨o11, e_o11, g_o11, h⟩ := Ok.unO h
        refine lT_1 g10 e_o11 dX1_shift_54 ?_
        refine gT_X1_178_2 g_o11 dX1_shift_55 ?_
        refine v_aload_n 0 dX1_shift_58 rfl ?_
        refine gT_X1_16_0 dX1_shift_59 ?_
        obtain ⟨o12, e_o12, g_o12, h⟩ := Ok.unO h
        rw [e_o12]
        show tt_V (XT l D dA A pz) cX1_shift (RX1, 5, (some .long), rmT_shift, tt_ne) (tt_fx (XT l D dA A pz) (RX1, 5, (some .long), rmT_shift, tt_ne) Q QX) 62 [(0, .ref (lc 0 0)), (1, .int x1), (2, .int x2), (3, .int x3), (4, .int a5.1)] [.ref (lc 200 0), .ref (lc 3 o12)] lc a5.2 3 18
        refine cT_on_200 g_o12 (Ok.bind h) ⟨Nat.le_of_ble_eq_true rfl, Nat.le_of_ble_eq_true rfl⟩ (Nat.le_of_ble_eq_true rfl) dX1_shift_62 (fun r13 z_r13 h => ?_) ⟨Nat.le_of_ble_eq_true rfl, Nat.le_of_ble_eq_true rfl⟩
        refine v_pop dX1_shift_67 rfl ?_
        have h := Ok.ret h
        exact h
def fT_after_L23 (x1 : Int32) (a4 : Int32 × tt_S3) : Option ((Int32 × tt_S3) ⊕ (Int32 × tt_S3)) :=
  if x1 < a4.1 then some (.inr (a4.1, a4.2)) else if inB a4.1 160 then unO (rdR a4.2.2.2 1 0 a4.1.toNatClampNeg) (rdN a4.2.2.2 2) fun o8 => unO (rdR a4.2.2.2 2 o8 2) (rdN a4.2.2.2 3) fun o9 => (fT_on a4.2.2.2 a4.2.2.1 o9).bind fun r10 => some (.inl ((a4.1 + 1 : Int32), (a4.2.1, r10.2, a4.2.2.2))) else none
def fT_after (s : tt_S3) (x1 : Int32) (x2 : Int32) : Option ((Int64 × tt_S3) ⊕ (Nat × tt_S3)) :=
  (fT_oneOf s x1 (rdI s.2.2 0 0 7)).bind fun q_r1 => orThrow q_r1 fun r1 => (fT_insurerOf r1 x2).bind fun q_r2 => orThrow q_r2 fun r2 => (fW_begins r2.2.1).bind fun r3 => (itr (fT_after_L23 x1) tt_fuel ((0 : Int32), (r2.1, r3, r2.2.2))).bind fun b5 => (fW_borneBy b5.2.2.1 x2).bind fun r11 => some (.inl (r11, b5.2))
abbrev rmT_after : Room := { frames := 16, cells := 2, slots := 12, locals := 379 }
set_option maxHeartbeats 4000000 in
theorem mT_after (l : Launch) (D : va_G) (dA : Nat → ClassId) (A : Nat → Prop) (pz : Nat) (hl9 : l.stackTraces = false) (lc : Nat → Nat → Nat) (s : tt_S3) (x1 : Int32) (x2 : Int32) {Q : Option Value → (Nat → Nat → Nat) → tt_S3 → Prop} {QX : String → (Nat → Nat → Nat) → tt_S3 → Prop} (h : Ok (fT_after s x1 x2) (fun q => Sum.casesOn (motive := fun _ => Prop) q (fun r => Q (some (.long r.1)) lc r.2) (fun e => QX (tt_exn e.1) lc e.2))) : tt_SpX (XT l D dA A pz) yX1_after cX1_after 4 (some .long) rmT_after [.ref (lc 0 0), .int x1, .int x2] lc s Q QX := by
  refine tt_SpX.ofV plX1 kokT (Nat.le_of_ble_eq_true rfl) ?_
  show tt_V (XT l D dA A pz) cX1_after (RX1, 4, (some .long), rmT_after, tt_ne) (tt_fx (XT l D dA A pz) (RX1, 4, (some .long), rmT_after, tt_ne) Q QX) 0 [(0, .ref (lc 0 0)), (1, .int x1), (2, .int x2)] [] lc s 0 0
  unfold fT_after at h
  refine v_aload_n 0 dX1_after_0 rfl ?_
  refine v_iload_n 1 dX1_after_1 rfl ?_
  refine v_aload_n 0 dX1_after_2 rfl ?_
  refine gT_X1_93_0 dX1_after_3 ?_
  refine cT_62_0 (Ok.throws h) hl9 (fun _ _ _ h => h) (fun _ h => h) ⟨Nat.le_of_ble_eq_true rfl, Nat.le_of_ble_eq_true rfl⟩ (Nat.le_of_ble_eq_true rfl) dX1_after_6 (fun r1 h => ?_) ⟨Nat.le_of_ble_eq_true rfl, Nat.le_of_ble_eq_true rfl⟩
  refine v_aload_n 0 dX1_after_9 rfl ?_
  refine v_iload_n 2 dX1_after_10 rfl ?_
  refine cT_121_0 (Ok.throws h) hl9 (fun _ _ _ h => h) (fun _ h => h) ⟨Nat.le_of_ble_eq_true rfl, Nat.le_of_ble_eq_true rfl⟩ (Nat.le_of_ble_eq_true rfl) dX1_after_11 (fun r2 h => ?_) ⟨Nat.le_of_ble_eq_true rfl, Nat.le_of_ble_eq_true rfl⟩
  refine v_aload_n 0 dX1_after_14 rfl ?_
  refine gT_X1_16_0 dX1_after_15 ?_
  refine cT_49_200 (Ok.bind h) ⟨Nat.le_of_ble_eq_true rfl, Nat.le_of_ble_eq_true rfl⟩ (Nat.le_of_ble_eq_true rfl) dX1_after_18 (fun r3 h => ?_) ⟨Nat.le_of_ble_eq_true rfl, Nat.le_of_ble_eq_true rfl⟩
  refine v_iconst dX1_after_21 ic_0 ?_
  refine v_istore_n [(3, .int (0 : Int32)), (0, .ref (lc 0 0)), (1, .int x1), (2, .int x2)] dX1_after_22 (Nat.le_of_ble_eq_true rfl) rfl ?_
  refine v_sub [1, 2, 3, 0] rfl ?_
  refine itr_loop (P := fun a4 : Int32 × tt_S3 => tt_V (XT l D dA A pz) cX1_after (RX1, 4, (some .long), rmT_after, tt_ne) (tt_fx (XT l D dA A pz) (RX1, 4, (some .long), rmT_after, tt_ne) Q QX) 23 [(0, .ref (lc 0 0)), (1, .int x1), (2, .int x2), (3, .int a4.1)] [] lc a4.2 2 12) (PE := fun b5 : Int32 × tt_S3 => tt_V (XT l D dA A pz) cX1_after (RX1, 4, (some .long), rmT_after, tt_ne) (tt_fx (XT l D dA A pz) (RX1, 4, (some .long), rmT_after, tt_ne) Q QX) 53 [(0, .ref (lc 0 0)), (1, .int x1), (2, .int x2), (3, .int b5.1)] [] lc b5.2 2 12) h (fun b5 h => ?_) (fun a4 h => ?_)
  · refine v_aload_n 0 dX1_after_53 rfl ?_
    refine gT_X1_16_0 dX1_after_54 ?_
    refine v_iload_n 2 dX1_after_57 rfl ?_
    refine cT_302_200 (Ok.bind h) ⟨Nat.le_of_ble_eq_true rfl, Nat.le_of_ble_eq_true rfl⟩ (Nat.le_of_ble_eq_true rfl) dX1_after_58 (fun r11 h => ?_) ⟨Nat.le_of_ble_eq_true rfl, Nat.le_of_ble_eq_true rfl⟩
    have h := Ok.ret h
    exact v_retX (v_lret rfl (Nat.le_of_ble_eq_true rfl) (Nat.le_of_ble_eq_true rfl) dX1_after_61 h)
  · have h : Ok (fT_after_L23 x1 a4) _ := h
    unfold fT_after_L23 at h
    refine v_iload_n 3 dX1_after_23 rfl ?_
    refine v_iload_n 1 dX1_after_24 rfl ?_
    refine v_icmp_gt (tgt := 53) dX1_after_25 rfl (fun c6 => ?_) (fun c6 => ?_)
    · have h := Ok.pos h c6
      have h := Ok.ret h
      exact h
    · have h := Ok.neg h c6
      refine v_aload_n 0 dX1_after_28 rfl ?_
      refine gT_X1_28_0 dX1_after_29 ?_
      refine v_iload_n 3 dX1_after_32 rfl ?_
      obtain ⟨g7, h⟩ := Ok.guard h
      obtain ⟨o8, e_o8, g_o8, h⟩ := Ok.unO h
      refine lT_1 g7 e_o8 dX1_after_33 ?_
      refine gT_X1_178_2 g_o8 dX1_after_34 ?_
      refine v_aload_n 0 dX1_after_37 rfl ?_
      refine gT_X1_16_0 dX1_after_38 ?_
      obtain ⟨o9, e_o9, g_o9, h⟩ := Ok.unO h
      rw [e_o9]
      show tt_V (XT l D dA A pz) cX1_after (RX1, 4, (some .long), rmT_after, tt_ne) (tt_fx (XT l D dA A pz) (RX1, 4, (some .long), rmT_after, tt_ne) Q QX) 41 [(0, .ref (lc 0 0)), (1, .int x1), (2, .int x2), (3, .int a4.1)] [.ref (lc 200 0), .ref (lc 3 o9)] lc a4.2 2 12
      refine cT_on_200 g_o9 (Ok.bind h) ⟨Nat.le_of_ble_eq_true rfl, Nat.le_of_ble_eq_true rfl⟩ (Nat.le_of_ble_eq_true rfl) dX1_after_41 (fun r10 z_r10 h => ?_) ⟨Nat.le_of_ble_eq_true rfl, Nat.le_of_ble_eq_true rfl⟩
      refine v_pop dX1_after_46 rfl ?_
      refine v_iinc (v := (a4.1 + 1 : Int32)) 3 [(3, .int (a4.1 + 1 : Int32)), (0, .ref (lc 0 0)), (1, .int x1), (2, .int x2)] dX1_after_47 rfl (by rw [ic_1]) (Nat.le_of_ble_eq_true rfl) rfl ?_
      refine v_goto (tgt := 23) dX1_after_50 rfl ?_
      refine v_sub [1, 2, 3, 0] rfl ?_
      have h := Ok.ret h
      exact h
theorem gT_X1_66_200 {l : Launch} {D : va_G} {dA : Nat → ClassId} {A : Nat → Prop} {pz : Nat} {lc : Nat → Nat → Nat} {s : tt_S3} {cc : ByteArray} {nl : Nat} {rt : Option FieldType} {rm : Room} {tn : tt_Tn} {Q : tt_Fin} {pc : Nat} {lv : List (Nat × Value)} {rest : List Value} {ck cn : Nat} (d : decode cc pc = .ok (.getfield 66, 3)) (kk : tt_V (XT l D dA A pz) cc (RX1, nl, rt, rm, tn) Q (pc + 3) lv (.ref (lc 201 0) :: rest) lc s ck cn) : tt_V (XT l D dA A pz) cc (RX1, nl, rt, rm, tn) Q pc lv (.ref (lc 200 0) :: rest) lc s ck cn := v_getN (p := 0) knT lvT_200 oT_200 rfl in_X2 (by decide) q727 (.inl rfl) rfl d kk
theorem lvT_201 {l : Launch} {D : va_G} {dA : Nat → ClassId} {A : Nat → Prop} {pz : Nat} {s : tt_S3} : xV (XT l D dA A pz) s 201 0 := by rw [show (201 : Nat) = 200 + 1 from rfl, lvT_then]; exact rfl
theorem aT_201 {l : Launch} {D : va_G} {dA : Nat → ClassId} {A : Nat → Prop} {pz : Nat} {lc : Nat → Nat → Nat} {s : tt_S3} : tt_ent (XT l D dA A pz) lc s 201 0 = .inl (dA 2, 40, .inr (.inr (.inr (.inr (fun j => some (lc 202 j)))))) := eT_then (kd := 1)
theorem lT_201 {l : Launch} {D : va_G} {dA : Nat → ClassId} {A : Nat → Prop} {pz : Nat} {lc : Nat → Nat → Nat} {s : tt_S3} {cc : ByteArray} {Y : tt_Y} {Q : tt_Fin} {pc : Nat} {lv : List (Nat × Value)} {rest : List Value} {ck cn : Nat} {j : Int32} (g : inB j 40 = true) (d : decode cc pc = .ok (.aaload, 1)) (kk : tt_V (XT l D dA A pz) cc Y Q (pc + 1) lv (.ref (lc 202 j.toNatClampNeg) :: rest) lc s ck cn) : tt_V (XT l D dA A pz) cc Y Q pc lv (.int j :: .ref (lc 201 0) :: rest) lc s ck cn := v_aald (t := 2) lvT_201 aT_201 rfl rfl g d kk
theorem nT_201 {l : Launch} {D : va_G} {dA : Nat → ClassId} {A : Nat → Prop} {pz : Nat} {lc : Nat → Nat → Nat} {s : tt_S3} {cc : ByteArray} {Y : tt_Y} {Q : tt_Fin} {pc : Nat} {lv : List (Nat × Value)} {rest : List Value} {ck cn : Nat} (d : decode cc pc = .ok (.arraylength, 1)) (kk : tt_V (XT l D dA A pz) cc Y Q (pc + 1) lv (.int 40 :: rest) lc s ck cn) : tt_V (XT l D dA A pz) cc Y Q pc lv (.ref (lc 201 0) :: rest) lc s ck cn := v_alen (t := 2) lvT_201 aT_201 rfl rfl d kk
theorem lvT_202 {l : Launch} {D : va_G} {dA : Nat → ClassId} {A : Nat → Prop} {pz : Nat} {s : tt_S3} {i : Nat} (hv : i < 40) : xV (XT l D dA A pz) s 202 i := by rw [show (202 : Nat) = 200 + 2 from rfl, lvT_then]; exact hv
theorem oT_202 {l : Launch} {D : va_G} {dA : Nat → ClassId} {A : Nat → Prop} {pz : Nat} {lc : Nat → Nat → Nat} {s : tt_S3} {i : Nat} : tt_ent (XT l D dA A pz) lc s 202 i = .inr (1, [.ref (lc 203 i), .ref (lc 204 i), .ref (lc 205 i), .int (nI i), .int (rdI s.2.1 2 i 4), .int (rdI s.2.1 2 i 5), .int (rdI s.2.1 2 i 6), .int (rdI s.2.1 2 i 7), .int (rdI s.2.1 2 i 8), .long (rdL s.2.1 2 i 9), .int (rdI s.2.1 2 i 10)]) := eT_then (kd := 2)
theorem gT_X1_423_202 {l : Launch} {D : va_G} {dA : Nat → ClassId} {A : Nat → Prop} {pz : Nat} {lc : Nat → Nat → Nat} {s : tt_S3} {cc : ByteArray} {nl : Nat} {rt : Option FieldType} {rm : Room} {tn : tt_Tn} {Q : tt_Fin} {pc : Nat} {lv : List (Nat × Value)} {rest : List Value} {ck cn : Nat} {i : Nat} (hv : i < 40) (d : decode cc pc = .ok (.getfield 423, 3)) (kk : tt_V (XT l D dA A pz) cc (RX1, nl, rt, rm, tn) Q (pc + 3) lv (.int (rdI s.2.1 2 i 10) :: rest) lc s ck cn) : tt_V (XT l D dA A pz) cc (RX1, nl, rt, rm, tn) Q pc lv (.ref (lc 202 i) :: rest) lc s ck cn := v_getN (p := 10) knT (lvT_202 hv) oT_202 rfl in_X6 (by decide) q369 (.inl rfl) rfl d kk
theorem cT_220_202 {l : Launch} {D : va_G} {dA : Nat → ClassId} {A : Nat → Prop} {pz : Nat} {lc : Nat → Nat → Nat} {s : tt_S3} {cc : ByteArray} {nl : Nat} {rt : Option FieldType} {rm : Room} {tn : tt_Tn} {Q : tt_Fin} {pc : Nat} {lv : List (Nat × Value)} {rest : List Value} {ck cn : Nat} {x0 : Nat} (hx0 : x0 < 40) {K : Int64 → Prop} (h : Ok (fY_left s.2.1 x0) K) (hR : 0 + 1 ≤ rm.frames ∧ 8 + (1 + 11) + 0 ≤ rm.locals) (hW : (rest.map fun v => v.category).sum ≤ 8) (d : decode cc pc = .ok (.invokevirtual 220, 3)) (kk : ∀ r, K r → tt_V (XT l D dA A pz) cc (RX1, nl, rt, rm, tn) Q (pc + 3) lv (.long r :: rest) lc s (ck + 0) (cn + 0)) (hf : ck + 0 ≤ rm.cells ∧ cn + 0 ≤ rm.slots) : tt_V (XT l D dA A pz) cc (RX1, nl, rt, rm, tn) Q pc lv (.ref (lc 202 x0) :: rest) lc s ck cn :=
  v_callV (kd := 202) (i := x0) (nA := 0) (As := []) (lvT_202 hx0) oT_202 rfl (liftThen (Q := (fun v lc' s' => ∃ r, K r ∧ v = some (.long r) ∧ lc' = lc ∧ s' = s)) (mY_left l D dA (aT1 lc s) false (nT1 lc) s.2.1 x0 hx0 (Q := fun v lc' w => lc' = nT1 lc ∧ (fun v lc' s' => ∃ r, K r ∧ v = some (.long r) ∧ lc' = lc ∧ s' = s) v lc (s.1, w, s.2.2)) (h.mono (fun r hr => ⟨rfl, r, hr, rfl, rfl, rfl⟩)))) (lw_V q932 q515 q516 q139 q517) (by decide +kernel) rfl hR hW hf d rfl (fun v lc' s' q => by obtain ⟨r, hr, e1, e2, e3⟩ := q; rw [e1, e2, e3]; exact kk r hr)
def fT_usedUp_L15 (x1 : Int32) (a3 : Int32 × tt_S3) : Option ((Int32 × tt_S3) ⊕ (Int32 × tt_S3) ⊕ ((Int32 × tt_S3) ⊕ (Nat × tt_S3))) :=
  if (rdI a3.2.2.2 0 0 7) ≤ a3.1 then some (.inr (.inl (a3.1, a3.2))) else if inB a3.1 160 then unO (rdR a3.2.2.2 1 0 a3.1.toNatClampNeg) (rdN a3.2.2.2 2) fun o7 => unO (rdR a3.2.2.2 2 o7 2) (rdN a3.2.2.2 3) fun o8 => (fT_on a3.2.2.2 a3.2.2.1 o8).bind fun r9 => if inB x1 40 then if (rdI (a3.2.1, r9.2, a3.2.2.2).2.1 2 x1.toNatClampNeg 10) = 0 then some (.inl ((a3.1 + 1 : Int32), (a3.2.1, r9.2, a3.2.2.2))) else (fY_left ((a3.2.1, r9.2, a3.2.2.2).2.1) x1.toNatClampNeg).bind fun r12 => if r12 = (0 : Int64) then some (.inr (.inr (.inl (a3.1, (a3.2.1, r9.2, a3.2.2.2))))) else some (.inl ((a3.1 + 1 : Int32), (a3.2.1, r9.2, a3.2.2.2))) else none else none
def fT_usedUp (s : tt_S3) (x1 : Int32) : Option ((Int32 × tt_S3) ⊕ (Nat × tt_S3)) :=
  (fT_layerOf s x1).bind fun q_r1 => orThrow q_r1 fun r1 => (fW_begins r1.2.2.1).bind fun r2 => (itr (fT_usedUp_L15 x1) tt_fuel ((0 : Int32), (r1.2.1, r2, r1.2.2.2))).bind fun q_b4 => orRet q_b4 fun b4 => some (.inl ((-1 : Int32), b4.2))
abbrev rmT_usedUp : Room := { frames := 16, cells := 1, slots := 6, locals := 379 }
set_option maxHeartbeats 4000000 in
theorem mT_usedUp (l : Launch) (D : va_G) (dA : Nat → ClassId) (A : Nat → Prop) (pz : Nat) (hl9 : l.stackTraces = false) (lc : Nat → Nat → Nat) (s : tt_S3) (x1 : Int32) {Q : Option Value → (Nat → Nat → Nat) → tt_S3 → Prop} {QX : String → (Nat → Nat → Nat) → tt_S3 → Prop} (h : Ok (fT_usedUp s x1) (fun q => Sum.casesOn (motive := fun _ => Prop) q (fun r => Q (some (.int r.1)) lc r.2) (fun e => QX (tt_exn e.1) lc e.2))) : tt_SpX (XT l D dA A pz) yX1_usedUp cX1_usedUp 3 (some .int) rmT_usedUp [.ref (lc 0 0), .int x1] lc s Q QX := by
  refine tt_SpX.ofV plX1 kokT (Nat.le_of_ble_eq_true rfl) ?_
  show tt_V (XT l D dA A pz) cX1_usedUp (RX1, 3, (some .int), rmT_usedUp, tt_ne) (tt_fx (XT l D dA A pz) (RX1, 3, (some .int), rmT_usedUp, tt_ne) Q QX) 0 [(0, .ref (lc 0 0)), (1, .int x1)] [] lc s 0 0
  unfold fT_usedUp at h
  refine v_aload_n 0 dX1_usedUp_0 rfl ?_
  refine v_iload_n 1 dX1_usedUp_1 rfl ?_
  refine cT_117_0 (Ok.throws h) hl9 (fun _ _ _ h => h) (fun _ h => h) ⟨Nat.le_of_ble_eq_true rfl, Nat.le_of_ble_eq_true rfl⟩ (Nat.le_of_ble_eq_true rfl) dX1_usedUp_2 (fun r1 z_r1 h => ?_) ⟨Nat.le_of_ble_eq_true rfl, Nat.le_of_ble_eq_true rfl⟩
  refine v_pop dX1_usedUp_5 rfl ?_
  refine v_aload_n 0 dX1_usedUp_6 rfl ?_
  refine gT_X1_16_0 dX1_usedUp_7 ?_
  refine cT_49_200 (Ok.bind h) ⟨Nat.le_of_ble_eq_true rfl, Nat.le_of_ble_eq_true rfl⟩ (Nat.le_of_ble_eq_true rfl) dX1_usedUp_10 (fun r2 h => ?_) ⟨Nat.le_of_ble_eq_true rfl, Nat.le_of_ble_eq_true rfl⟩
  refine v_iconst dX1_usedUp_13 ic_0 ?_
  refine v_istore_n [(2, .int (0 : Int32)), (0, .ref (lc 0 0)), (1, .int x1)] dX1_usedUp_14 (Nat.le_of_ble_eq_true rfl) rfl ?_
  refine v_sub [1, 2, 0] rfl ?_
  refine itr_loopR (P := fun a3 : Int32 × tt_S3 => tt_V (XT l D dA A pz) cX1_usedUp (RX1, 3, (some .int), rmT_usedUp, tt_ne) (tt_fx (XT l D dA A pz) (RX1, 3, (some .int), rmT_usedUp, tt_ne) Q QX) 15 [(0, .ref (lc 0 0)), (1, .int x1), (2, .int a3.1)] [] lc a3.2 1 6) (PE := fun b4 : Int32 × tt_S3 => tt_V (XT l D dA A pz) cX1_usedUp (RX1, 3, (some .int), rmT_usedUp, tt_ne) (tt_fx (XT l D dA A pz) (RX1, 3, (some .int), rmT_usedUp, tt_ne) Q QX) 82 [(0, .ref (lc 0 0)), (1, .int x1), (2, .int b4.1)] [] lc b4.2 1 6) h (fun b4 h => ?_) (fun a3 h => ?_)
  · refine v_iconst dX1_usedUp_82 ic_m1 ?_
    have h := Ok.ret h
    exact v_retX (v_iret rfl (Nat.le_of_ble_eq_true rfl) (Nat.le_of_ble_eq_true rfl) dX1_usedUp_83 h)
  · have h : Ok (fT_usedUp_L15 x1 a3) _ := h
    unfold fT_usedUp_L15 at h
    refine v_iload_n 2 dX1_usedUp_15 rfl ?_
    refine v_aload_n 0 dX1_usedUp_16 rfl ?_
    refine gT_X1_93_0 dX1_usedUp_17 ?_
    refine v_icmp_ge (tgt := 82) dX1_usedUp_20 rfl (fun c5 => ?_) (fun c5 => ?_)
    · have h := Ok.pos h c5
      have h := Ok.ret h
      exact h
    · have h := Ok.neg h c5
      refine v_aload_n 0 dX1_usedUp_23 rfl ?_
      refine gT_X1_28_0 dX1_usedUp_24 ?_
      refine v_iload_n 2 dX1_usedUp_27 rfl ?_
      obtain ⟨g6, h⟩ := Ok.guard h
      obtain ⟨o7, e_o7, g_o7, h⟩ := Ok.unO h
      refine lT_1 g6 e_o7 dX1_usedUp_28 ?_
      refine gT_X1_178_2 g_o7 dX1_usedUp_29 ?_
      refine v_aload_n 0 dX1_usedUp_32 rfl ?_
      refine gT_X1_16_0 dX1_usedUp_33 ?_
      obtain ⟨o8, e_o8, g_o8, h⟩ := Ok.unO h
      rw [e_o8]
      show tt_V (XT l D dA A pz) cX1_usedUp (RX1, 3, (some .int), rmT_usedUp, tt_ne) (tt_fx (XT l D dA A pz) (RX1, 3, (some .int), rmT_usedUp, tt_ne) Q QX) 36 [(0, .ref (lc 0 0)), (1, .int x1), (2, .int a3.1)] [.ref (lc 200 0), .ref (lc 3 o8)] lc a3.2 1 6
      refine cT_on_200 g_o8 (Ok.bind h) ⟨Nat.le_of_ble_eq_true rfl, Nat.le_of_ble_eq_true rfl⟩ (Nat.le_of_ble_eq_true rfl) dX1_usedUp_36 (fun r9 z_r9 h => ?_) ⟨Nat.le_of_ble_eq_true rfl, Nat.le_of_ble_eq_true rfl⟩
      refine v_pop dX1_usedUp_41 rfl ?_
      refine v_aload_n 0 dX1_usedUp_42 rfl ?_
      refine gT_X1_16_0 dX1_usedUp_43 ?_
      refine gT_X1_66_200 dX1_usedUp_46 ?_
      refine v_iload_n 1 dX1_usedUp_49 rfl ?_
      obtain ⟨g10, h⟩ := Ok.guard h
      refine lT_201 g10 dX1_usedUp_50 ?_
      refine gT_X1_423_202 (inB_lt g10) dX1_usedUp_51 ?_
      refine v_if_eq (tgt := 76) dX1_usedUp_54 rfl (fun c11 => ?_) (fun c11 => ?_)
      · have h := Ok.pos h c11
        refine v_iinc (v := (a3.1 + 1 : Int32)) 2 [(2, .int (a3.1 + 1 : Int32)), (0, .ref (lc 0 0)), (1, .int x1)] dX1_usedUp_76 rfl (by rw [ic_1]) (Nat.le_of_ble_eq_true rfl) rfl ?_
        refine v_goto (tgt := 15) dX1_usedUp_79 rfl ?_
        refine v_sub [1, 2, 0] rfl ?_
        have h := Ok.ret h
        exact h
      · have h := Ok.neg h c11
        refine v_aload_n 0 dX1_usedUp_57 rfl ?_
        refine gT_X1_16_0 dX1_usedUp_58 ?_
        refine gT_X1_66_200 dX1_usedUp_61 ?_
        refine v_iload_n 1 dX1_usedUp_64 rfl ?_
        refine lT_201 g10 dX1_usedUp_65 ?_
        refine cT_220_202 (inB_lt g10) (Ok.bind h) ⟨Nat.le_of_ble_eq_true rfl, Nat.le_of_ble_eq_true rfl⟩ (Nat.le_of_ble_eq_true rfl) dX1_usedUp_66 (fun r12 h => ?_) ⟨Nat.le_of_ble_eq_true rfl, Nat.le_of_ble_eq_true rfl⟩
        refine v_lconst dX1_usedUp_69 kl_0 ?_
        refine v_lif_ne (tgt := 76) dX1_usedUp_70 dX1_usedUp_71 rfl (fun c13 => ?_) (fun c13 => ?_)
        · have h := Ok.neg h c13
          refine v_iinc (v := (a3.1 + 1 : Int32)) 2 [(2, .int (a3.1 + 1 : Int32)), (0, .ref (lc 0 0)), (1, .int x1)] dX1_usedUp_76 rfl (by rw [ic_1]) (Nat.le_of_ble_eq_true rfl) rfl ?_
          refine v_goto (tgt := 15) dX1_usedUp_79 rfl ?_
          refine v_sub [1, 2, 0] rfl ?_
          have h := Ok.ret h
          exact h
        · have h := Ok.pos h c13
          refine v_iload_n 2 dX1_usedUp_74 rfl ?_
          have h := Ok.ret h
          exact v_retX (v_iret rfl (Nat.le_of_ble_eq_true rfl) (Nat.le_of_ble_eq_true rfl) dX1_usedUp_75 h)
def fT_isOf (s : tt_S3) (x1 : Nat) (x2 : Int32) : Option (Int32) :=
  if (rdI s.2.2 2 x1 1) = x2 then if (rdI s.2.2 2 x1 0) = (4 : Int32) then some (1 : Int32) else if (rdI s.2.2 2 x1 0) = (5 : Int32) then some (1 : Int32) else if (rdI s.2.2 2 x1 0) = (8 : Int32) then some (1 : Int32) else some (0 : Int32) else some (0 : Int32)
abbrev rmT_isOf : Room := { frames := 0, cells := 0, slots := 0, locals := 0 }
set_option maxHeartbeats 4000000 in
theorem mT_isOf (l : Launch) (D : va_G) (dA : Nat → ClassId) (A : Nat → Prop) (pz : Nat) (lc : Nat → Nat → Nat) (s : tt_S3) (x1 : Nat) (x2 : Int32) (hx1 : x1 < rdN s.2.2 2) {Q : Option Value → (Nat → Nat → Nat) → tt_S3 → Prop} (h : Ok (fT_isOf s x1 x2) (fun r => zB r → Q (some (.int r)) lc s)) : tt_Sp (XT l D dA A pz) yX1_isOf cX1_isOf 3 (some .boolean) rmT_isOf [.ref (lc 0 0), .ref (lc 2 x1), .int x2] lc s Q := by
  refine tt_Sp.ofV plX1 kokT (Nat.le_of_ble_eq_true rfl) ?_
  show tt_V (XT l D dA A pz) cX1_isOf (RX1, 3, (some .boolean), rmT_isOf, tt_nt) (tt_fn (XT l D dA A pz) (RX1, 3, (some .boolean), rmT_isOf, tt_nt) Q) 0 [(0, .ref (lc 0 0)), (1, .ref (lc 2 x1)), (2, .int x2)] [] lc s 0 0
  unfold fT_isOf at h
  refine v_aload_n 1 dX1_isOf_0 rfl ?_
  refine gT_X1_201_2 hx1 dX1_isOf_1 ?_
  refine v_iload_n 2 dX1_isOf_4 rfl ?_
  refine v_icmp_ne (tgt := 37) dX1_isOf_5 rfl (fun c1 => ?_) (fun c1 => ?_)
  · have h := Ok.neg h c1
    refine v_iconst dX1_isOf_37 ic_0 ?_
    have h := Ok.ret h
    exact v_zret rfl zB_0 (Nat.le_of_ble_eq_true rfl) (Nat.le_of_ble_eq_true rfl) dX1_isOf_38 (h zB_0)
  · have h := Ok.pos h c1
    refine v_aload_n 1 dX1_isOf_8 rfl ?_
    refine gT_X1_198_2 hx1 dX1_isOf_9 ?_
    refine v_iconst dX1_isOf_12 ic_4 ?_
    refine v_icmp_eq (tgt := 33) dX1_isOf_13 rfl (fun c2 => ?_) (fun c2 => ?_)
    · have h := Ok.pos h c2
      refine v_iconst dX1_isOf_33 ic_1 ?_
      refine v_goto (tgt := 38) dX1_isOf_34 rfl ?_
      have h := Ok.ret h
      exact v_zret rfl zB_1 (Nat.le_of_ble_eq_true rfl) (Nat.le_of_ble_eq_true rfl) dX1_isOf_38 (h zB_1)
    · have h := Ok.neg h c2
      refine v_aload_n 1 dX1_isOf_16 rfl ?_
      refine gT_X1_198_2 hx1 dX1_isOf_17 ?_
      refine v_iconst dX1_isOf_20 ic_5 ?_
      refine v_icmp_eq (tgt := 33) dX1_isOf_21 rfl (fun c3 => ?_) (fun c3 => ?_)
      · have h := Ok.pos h c3
        refine v_iconst dX1_isOf_33 ic_1 ?_
        refine v_goto (tgt := 38) dX1_isOf_34 rfl ?_
        have h := Ok.ret h
        exact v_zret rfl zB_1 (Nat.le_of_ble_eq_true rfl) (Nat.le_of_ble_eq_true rfl) dX1_isOf_38 (h zB_1)
      · have h := Ok.neg h c3
        refine v_aload_n 1 dX1_isOf_24 rfl ?_
        refine gT_X1_198_2 hx1 dX1_isOf_25 ?_
        refine v_bipush dX1_isOf_28 kb_8 ?_
        refine v_icmp_ne (tgt := 37) dX1_isOf_30 rfl (fun c4 => ?_) (fun c4 => ?_)
        · have h := Ok.neg h c4
          refine v_iconst dX1_isOf_37 ic_0 ?_
          have h := Ok.ret h
          exact v_zret rfl zB_0 (Nat.le_of_ble_eq_true rfl) (Nat.le_of_ble_eq_true rfl) dX1_isOf_38 (h zB_0)
        · have h := Ok.pos h c4
          refine v_iconst dX1_isOf_33 ic_1 ?_
          refine v_goto (tgt := 38) dX1_isOf_34 rfl ?_
          have h := Ok.ret h
          exact v_zret rfl zB_1 (Nat.le_of_ble_eq_true rfl) (Nat.le_of_ble_eq_true rfl) dX1_isOf_38 (h zB_1)
theorem cT_427_0_2 {l : Launch} {D : va_G} {dA : Nat → ClassId} {A : Nat → Prop} {pz : Nat} {lc : Nat → Nat → Nat} {s : tt_S3} {cc : ByteArray} {nl : Nat} {rt : Option FieldType} {rm : Room} {tn : tt_Tn} {Q : tt_Fin} {pc : Nat} {lv : List (Nat × Value)} {rest : List Value} {ck cn : Nat} {x1 : Nat} {x2 : Int32} (hx1 : x1 < rdN s.2.2 2) {K : Int32 → Prop} (h : Ok (fT_isOf s x1 x2) K) (hR : 0 + 1 ≤ rm.frames ∧ 8 + (3 + 11) + 0 ≤ rm.locals) (hW : (rest.map fun v => v.category).sum ≤ 8) (d : decode cc pc = .ok (.invokevirtual 427, 3)) (kk : ∀ r, zB r → K r → tt_V (XT l D dA A pz) cc (RX1, nl, rt, rm, tn) Q (pc + 3) lv (.int r :: rest) lc s (ck + 0) (cn + 0)) (hf : ck + 0 ≤ rm.cells ∧ cn + 0 ≤ rm.slots) : tt_V (XT l D dA A pz) cc (RX1, nl, rt, rm, tn) Q pc lv (.int x2 :: .ref (lc 2 x1) :: .ref (lc 0 0) :: rest) lc s ck cn :=
  v_callV (kd := 0) (i := 0) (nA := 2) (As := [.ref (lc 2 x1), .int x2]) lvT_0 oT_0 rfl (mT_isOf l D dA A pz lc s x1 x2 hx1 (Q := (fun v lc' s' => ∃ r, zB r ∧ K r ∧ v = some (.int r) ∧ lc' = lc ∧ s' = s)) (h.mono (fun r hr => fun hz => ⟨r, hz, hr, rfl, rfl, rfl⟩))) (lw_V q1692 q1694 qs48 q127 q1695) (by decide +kernel) rfl hR hW hf d rfl (fun v lc' s' q => by obtain ⟨r, hz, hr, e1, e2, e3⟩ := q; rw [e1, e2, e3]; exact kk r hz hr)
def fT_goneWithoutHarm_L9 (x1 : Int32) (a2 : Int32 × tt_S3) : Option ((Int32 × tt_S3) ⊕ (Int32 × tt_S3)) :=
  if (rdI a2.2.2.2 0 0 7) ≤ a2.1 then some (.inr (a2.1, a2.2)) else if inB a2.1 160 then unO (rdR a2.2.2.2 1 0 a2.1.toNatClampNeg) (rdN a2.2.2.2 2) fun o6 => (fT_isOf a2.2 o6 x1).bind fun r7 => if r7 = 0 then unO (rdR a2.2.2.2 1 0 a2.1.toNatClampNeg) (rdN a2.2.2.2 2) fun o9 => unO (rdR a2.2.2.2 2 o9 2) (rdN a2.2.2.2 3) fun o10 => (fT_on a2.2.2.2 a2.2.2.1 o10).bind fun r11 => some (.inl ((a2.1 + 1 : Int32), (a2.2.1, r11.2, a2.2.2.2))) else some (.inl ((a2.1 + 1 : Int32), a2.2)) else none
def fT_goneWithoutHarm (s : tt_S3) (x1 : Int32) (x2 : Int32) : Option (Int64 × tt_S3) :=
  (fW_begins s.2.1).bind fun r1 => (itr (fT_goneWithoutHarm_L9 x1) tt_fuel ((0 : Int32), (s.1, r1, s.2.2))).bind fun b3 => (fW_borneBy b3.2.2.1 x2).bind fun r12 => some (r12, b3.2)
abbrev rmT_goneWithoutHarm : Room := { frames := 16, cells := 0, slots := 0, locals := 379 }
set_option maxHeartbeats 4000000 in
theorem mT_goneWithoutHarm (l : Launch) (D : va_G) (dA : Nat → ClassId) (A : Nat → Prop) (pz : Nat) (lc : Nat → Nat → Nat) (s : tt_S3) (x1 : Int32) (x2 : Int32) {Q : Option Value → (Nat → Nat → Nat) → tt_S3 → Prop} (h : Ok (fT_goneWithoutHarm s x1 x2) (fun r => Q (some (.long r.1)) lc r.2)) : tt_Sp (XT l D dA A pz) yX1_goneWithoutHarm cX1_goneWithoutHarm 4 (some .long) rmT_goneWithoutHarm [.ref (lc 0 0), .int x1, .int x2] lc s Q := by
  refine tt_Sp.ofV plX1 kokT (Nat.le_of_ble_eq_true rfl) ?_
  show tt_V (XT l D dA A pz) cX1_goneWithoutHarm (RX1, 4, (some .long), rmT_goneWithoutHarm, tt_nt) (tt_fn (XT l D dA A pz) (RX1, 4, (some .long), rmT_goneWithoutHarm, tt_nt) Q) 0 [(0, .ref (lc 0 0)), (1, .int x1), (2, .int x2)] [] lc s 0 0
  unfold fT_goneWithoutHarm at h
  refine v_aload_n 0 dX1_goneWithoutHarm_0 rfl ?_
  refine gT_X1_16_0 dX1_goneWithoutHarm_1 ?_
  refine cT_49_200 (Ok.bind h) ⟨Nat.le_of_ble_eq_true rfl, Nat.le_of_ble_eq_true rfl⟩ (Nat.le_of_ble_eq_true rfl) dX1_goneWithoutHarm_4 (fun r1 h => ?_) ⟨Nat.le_of_ble_eq_true rfl, Nat.le_of_ble_eq_true rfl⟩
  refine v_iconst dX1_goneWithoutHarm_7 ic_0 ?_
  refine v_istore_n [(3, .int (0 : Int32)), (0, .ref (lc 0 0)), (1, .int x1), (2, .int x2)] dX1_goneWithoutHarm_8 (Nat.le_of_ble_eq_true rfl) rfl ?_
  refine v_sub [1, 2, 3, 0] rfl ?_
  refine itr_loop (P := fun a2 : Int32 × tt_S3 => tt_V (XT l D dA A pz) cX1_goneWithoutHarm (RX1, 4, (some .long), rmT_goneWithoutHarm, tt_nt) (tt_fn (XT l D dA A pz) (RX1, 4, (some .long), rmT_goneWithoutHarm, tt_nt) Q) 9 [(0, .ref (lc 0 0)), (1, .int x1), (2, .int x2), (3, .int a2.1)] [] lc a2.2 0 0) (PE := fun b3 : Int32 × tt_S3 => tt_V (XT l D dA A pz) cX1_goneWithoutHarm (RX1, 4, (some .long), rmT_goneWithoutHarm, tt_nt) (tt_fn (XT l D dA A pz) (RX1, 4, (some .long), rmT_goneWithoutHarm, tt_nt) Q) 56 [(0, .ref (lc 0 0)), (1, .int x1), (2, .int x2), (3, .int b3.1)] [] lc b3.2 0 0) h (fun b3 h => ?_) (fun a2 h => ?_)
  · refine v_aload_n 0 dX1_goneWithoutHarm_56 rfl ?_
    refine gT_X1_16_0 dX1_goneWithoutHarm_57 ?_
    refine v_iload_n 2 dX1_goneWithoutHarm_60 rfl ?_
    refine cT_302_200 (Ok.bind h) ⟨Nat.le_of_ble_eq_true rfl, Nat.le_of_ble_eq_true rfl⟩ (Nat.le_of_ble_eq_true rfl) dX1_goneWithoutHarm_61 (fun r12 h => ?_) ⟨Nat.le_of_ble_eq_true rfl, Nat.le_of_ble_eq_true rfl⟩
    have h := Ok.ret h
    exact v_lret rfl (Nat.le_of_ble_eq_true rfl) (Nat.le_of_ble_eq_true rfl) dX1_goneWithoutHarm_64 h
  · have h : Ok (fT_goneWithoutHarm_L9 x1 a2) _ := h
    unfold fT_goneWithoutHarm_L9 at h
    refine v_iload_n 3 dX1_goneWithoutHarm_9 rfl ?_
    refine v_aload_n 0 dX1_goneWithoutHarm_10 rfl ?_
    refine gT_X1_93_0 dX1_goneWithoutHarm_11 ?_
    refine v_icmp_ge (tgt := 56) dX1_goneWithoutHarm_14 rfl (fun c4 => ?_) (fun c4 => ?_)
    · have h := Ok.pos h c4
      have h := Ok.ret h
      exact h
    · have h := Ok.neg h c4
      refine v_aload_n 0 dX1_goneWithoutHarm_17 rfl ?_
      refine v_aload_n 0 dX1_goneWithoutHarm_18 rfl ?_
      refine gT_X1_28_0 dX1_goneWithoutHarm_19 ?_
      refine v_iload_n 3 dX1_goneWithoutHarm_22 rfl ?_
      obtain ⟨g5, h⟩ := Ok.guard h
      obtain ⟨o6, e_o6, g_o6, h⟩ := Ok.unO h
      refine lT_1 g5 e_o6 dX1_goneWithoutHarm_23 ?_
      refine v_iload_n 1 dX1_goneWithoutHarm_24 rfl ?_
      refine cT_427_0_2 g_o6 (Ok.bind h) ⟨Nat.le_of_ble_eq_true rfl, Nat.le_of_ble_eq_true rfl⟩ (Nat.le_of_ble_eq_true rfl) dX1_goneWithoutHarm_25 (fun r7 z_r7 h => ?_) ⟨Nat.le_of_ble_eq_true rfl, Nat.le_of_ble_eq_true rfl⟩
      refine v_if_ne (tgt := 50) dX1_goneWithoutHarm_28 rfl (fun c8 => ?_) (fun c8 => ?_)
      · have h := Ok.neg h c8
        refine v_iinc (v := (a2.1 + 1 : Int32)) 3 [(3, .int (a2.1 + 1 : Int32)), (0, .ref (lc 0 0)), (1, .int x1), (2, .int x2)] dX1_goneWithoutHarm_50 rfl (by rw [ic_1]) (Nat.le_of_ble_eq_true rfl) rfl ?_
        refine v_goto (tgt := 9) dX1_goneWithoutHarm_53 rfl ?_
        refine v_sub [1, 2, 3, 0] rfl ?_
        have h := Ok.ret h
        exact h
      · have h := Ok.pos h c8
        refine v_aload_n 0 dX1_goneWithoutHarm_31 rfl ?_
        refine gT_X1_28_0 dX1_goneWithoutHarm_32 ?_
        refine v_iload_n 3 dX1_goneWithoutHarm_35 rfl ?_
        obtain ⟨o9, e_o9, g_o9, h⟩ := Ok.unO h
        refine lT_1 g5 e_o9 dX1_goneWithoutHarm_36 ?_
        refine gT_X1_178_2 g_o9 dX1_goneWithoutHarm_37 ?_
        refine v_aload_n 0 dX1_goneWithoutHarm_40 rfl ?_
        refine gT_X1_16_0 dX1_goneWithoutHarm_41 ?_
        obtain ⟨o10, e_o10, g_o10, h⟩ := Ok.unO h
        rw [e_o10]
        show tt_V (XT l D dA A pz) cX1_goneWithoutHarm (RX1, 4, (some .long), rmT_goneWithoutHarm, tt_nt) (tt_fn (XT l D dA A pz) (RX1, 4, (some .long), rmT_goneWithoutHarm, tt_nt) Q) 44 [(0, .ref (lc 0 0)), (1, .int x1), (2, .int x2), (3, .int a2.1)] [.ref (lc 200 0), .ref (lc 3 o10)] lc a2.2 0 0
        refine cT_on_200 g_o10 (Ok.bind h) ⟨Nat.le_of_ble_eq_true rfl, Nat.le_of_ble_eq_true rfl⟩ (Nat.le_of_ble_eq_true rfl) dX1_goneWithoutHarm_44 (fun r11 z_r11 h => ?_) ⟨Nat.le_of_ble_eq_true rfl, Nat.le_of_ble_eq_true rfl⟩
        refine v_pop dX1_goneWithoutHarm_49 rfl ?_
        refine v_iinc (v := (a2.1 + 1 : Int32)) 3 [(3, .int (a2.1 + 1 : Int32)), (0, .ref (lc 0 0)), (1, .int x1), (2, .int x2)] dX1_goneWithoutHarm_50 rfl (by rw [ic_1]) (Nat.le_of_ble_eq_true rfl) rfl ?_
        refine v_goto (tgt := 9) dX1_goneWithoutHarm_53 rfl ?_
        refine v_sub [1, 2, 3, 0] rfl ?_
        have h := Ok.ret h
        exact h
theorem cT_431_0 {l : Launch} {D : va_G} {dA : Nat → ClassId} {A : Nat → Prop} {pz : Nat} {lc : Nat → Nat → Nat} {s : tt_S3} {cc : ByteArray} {nl : Nat} {rt : Option FieldType} {rm : Room} {tn : tt_Tn} {Q : tt_Fin} {pc : Nat} {lv : List (Nat × Value)} {rest : List Value} {ck cn : Nat} {x1 : Int32} {x2 : Int32} {K : Int64 × tt_S3 → Prop} (h : Ok (fT_goneWithoutHarm s x1 x2) K) (hR : 16 + 1 ≤ rm.frames ∧ 8 + (4 + 11) + 379 ≤ rm.locals) (hW : (rest.map fun v => v.category).sum ≤ 8) (d : decode cc pc = .ok (.invokevirtual 431, 3)) (kk : ∀ r, K r → tt_V (XT l D dA A pz) cc (RX1, nl, rt, rm, tn) Q (pc + 3) lv (.long r.1 :: rest) lc r.2 (ck + 0) (cn + 0)) (hf : ck + 0 ≤ rm.cells ∧ cn + 0 ≤ rm.slots) : tt_V (XT l D dA A pz) cc (RX1, nl, rt, rm, tn) Q pc lv (.int x2 :: .int x1 :: .ref (lc 0 0) :: rest) lc s ck cn :=
  v_callV (kd := 0) (i := 0) (nA := 2) (As := [.int x1, .int x2]) lvT_0 oT_0 rfl (mT_goneWithoutHarm l D dA A pz lc s x1 x2 (Q := (fun v lc' s' => ∃ r, K r ∧ v = some (.long r.1) ∧ lc' = lc ∧ s' = r.2)) (h.mono (fun r hr => ⟨r, hr, rfl, rfl, rfl⟩))) (lw_V q1688 q1690 qs47 q127 q1691) (by decide +kernel) rfl hR hW hf d rfl (fun v lc' s' q => by obtain ⟨r, hr, e1, e2, e3⟩ := q; rw [e1, e2, e3]; exact kk r hr)
def fT_heaviest_L20 (x1 : Int32) (a3 : Int32 × Int64 × Int32 × tt_S3) : Option ((Int32 × Int64 × Int32 × tt_S3) ⊕ (Int32 × Int64 × Int32 × tt_S3)) :=
  if (rdI a3.2.2.2.1 0 0 22) ≤ a3.2.2.1 then some (.inr (a3.1, a3.2.1, a3.2.2.1, a3.2.2.2)) else (fT_goneWithoutHarm a3.2.2.2 a3.2.2.1 x1).bind fun r6 => if a3.1 = (-1 : Int32) then some (.inl (a3.2.2.1, r6.1, (a3.2.2.1 + 1 : Int32), r6.2)) else if r6.1 < a3.2.1 then some (.inl (a3.2.2.1, r6.1, (a3.2.2.1 + 1 : Int32), r6.2)) else some (.inl (a3.1, a3.2.1, (a3.2.2.1 + 1 : Int32), r6.2))
def fT_heaviest (s : tt_S3) (x1 : Int32) (x2 : Int32) : Option ((Int64 × tt_S3) ⊕ (Nat × tt_S3)) :=
  (fT_insurerOf s x1).bind fun q_r1 => orThrow q_r1 fun r1 => (fT_within r1 x2 (0 : Int32) (1 : Int32)).bind fun q_r2 => orThrow q_r2 fun r2 => (itr (fT_heaviest_L20 x1) tt_fuel ((-1 : Int32), (0 : Int64), (0 : Int32), r2)).bind fun b4 => if x2 = 0 then some (.inl (b4.1.toInt64, b4.2.2.2)) else some (.inl (b4.2.1, b4.2.2.2))
abbrev rmT_heaviest : Room := { frames := 17, cells := 2, slots := 12, locals := 402 }
set_option maxHeartbeats 4000000 in
theorem mT_heaviest (l : Launch) (D : va_G) (dA : Nat → ClassId) (A : Nat → Prop) (pz : Nat) (hl9 : l.stackTraces = false) (lc : Nat → Nat → Nat) (s : tt_S3) (x1 : Int32) (x2 : Int32) {Q : Option Value → (Nat → Nat → Nat) → tt_S3 → Prop} {QX : String → (Nat → Nat → Nat) → tt_S3 → Prop} (h : Ok (fT_heaviest s x1 x2) (fun q => Sum.casesOn (motive := fun _ => Prop) q (fun r => Q (some (.long r.1)) lc r.2) (fun e => QX (tt_exn e.1) lc e.2))) : tt_SpX (XT l D dA A pz) yX1_heaviest cX1_heaviest 9 (some .long) rmT_heaviest [.ref (lc 0 0), .int x1, .int x2] lc s Q QX := by
  refine tt_SpX.ofV plX1 kokT (Nat.le_of_ble_eq_true rfl) ?_
  show tt_V (XT l D dA A pz) cX1_heaviest (RX1, 9, (some .long), rmT_heaviest, tt_ne) (tt_fx (XT l D dA A pz) (RX1, 9, (some .long), rmT_heaviest, tt_ne) Q QX) 0 [(0, .ref (lc 0 0)), (1, .int x1), (2, .int x2)] [] lc s 0 0
  unfold fT_heaviest at h
  refine v_aload_n 0 dX1_heaviest_0 rfl ?_
  refine v_iload_n 1 dX1_heaviest_1 rfl ?_
  refine cT_121_0 (Ok.throws h) hl9 (fun _ _ _ h => h) (fun _ h => h) ⟨Nat.le_of_ble_eq_true rfl, Nat.le_of_ble_eq_true rfl⟩ (Nat.le_of_ble_eq_true rfl) dX1_heaviest_2 (fun r1 h => ?_) ⟨Nat.le_of_ble_eq_true rfl, Nat.le_of_ble_eq_true rfl⟩
  refine v_aload_n 0 dX1_heaviest_5 rfl ?_
  refine v_iload_n 2 dX1_heaviest_6 rfl ?_
  refine v_iconst dX1_heaviest_7 ic_0 ?_
  refine v_iconst dX1_heaviest_8 ic_1 ?_
  refine cT_80_0 (Ok.throws h) hl9 (fun _ _ _ h => h) (fun _ h => h) ⟨Nat.le_of_ble_eq_true rfl, Nat.le_of_ble_eq_true rfl⟩ (Nat.le_of_ble_eq_true rfl) dX1_heaviest_9 (fun r2 h => ?_) ⟨Nat.le_of_ble_eq_true rfl, Nat.le_of_ble_eq_true rfl⟩
  refine v_iconst dX1_heaviest_12 ic_m1 ?_
  refine v_istore_n [(3, .int (-1 : Int32)), (0, .ref (lc 0 0)), (1, .int x1), (2, .int x2)] dX1_heaviest_13 (Nat.le_of_ble_eq_true rfl) rfl ?_
  refine v_lconst dX1_heaviest_14 kl_0 ?_
  refine v_lstore [(4, .long (0 : Int64)), (3, .int (-1 : Int32)), (0, .ref (lc 0 0)), (1, .int x1), (2, .int x2)] dX1_heaviest_15 (Nat.le_of_ble_eq_true rfl) rfl ?_
  refine v_iconst dX1_heaviest_17 ic_0 ?_
  refine v_istore [(6, .int (0 : Int32)), (4, .long (0 : Int64)), (3, .int (-1 : Int32)), (0, .ref (lc 0 0)), (1, .int x1), (2, .int x2)] dX1_heaviest_18 (Nat.le_of_ble_eq_true rfl) rfl ?_
  refine v_sub [3, 4, 5, 2, 1, 0] rfl ?_
  refine itr_loop (P := fun a3 : Int32 × Int64 × Int32 × tt_S3 => tt_V (XT l D dA A pz) cX1_heaviest (RX1, 9, (some .long), rmT_heaviest, tt_ne) (tt_fx (XT l D dA A pz) (RX1, 9, (some .long), rmT_heaviest, tt_ne) Q QX) 20 [(0, .ref (lc 0 0)), (1, .int x1), (2, .int x2), (3, .int a3.1), (4, .long a3.2.1), (6, .int a3.2.2.1)] [] lc a3.2.2.2 2 12) (PE := fun b4 : Int32 × Int64 × Int32 × tt_S3 => tt_V (XT l D dA A pz) cX1_heaviest (RX1, 9, (some .long), rmT_heaviest, tt_ne) (tt_fx (XT l D dA A pz) (RX1, 9, (some .long), rmT_heaviest, tt_ne) Q QX) 70 [(0, .ref (lc 0 0)), (1, .int x1), (2, .int x2), (3, .int b4.1), (4, .long b4.2.1), (6, .int b4.2.2.1)] [] lc b4.2.2.2 2 12) h (fun b4 h => ?_) (fun a3 h => ?_)
  · refine v_iload_n 2 dX1_heaviest_70 rfl ?_
    refine v_if_ne (tgt := 79) dX1_heaviest_71 rfl (fun c9 => ?_) (fun c9 => ?_)
    · have h := Ok.neg h c9
      refine v_lload 4 dX1_heaviest_79 rfl ?_
      have h := Ok.ret h
      exact v_retX (v_lret rfl (Nat.le_of_ble_eq_true rfl) (Nat.le_of_ble_eq_true rfl) dX1_heaviest_81 h)
    · have h := Ok.pos h c9
      refine v_iload_n 3 dX1_heaviest_74 rfl ?_
      refine v_i2l dX1_heaviest_75 rfl ?_
      refine v_goto (tgt := 81) dX1_heaviest_76 rfl ?_
      have h := Ok.ret h
      exact v_retX (v_lret rfl (Nat.le_of_ble_eq_true rfl) (Nat.le_of_ble_eq_true rfl) dX1_heaviest_81 h)
  · have h : Ok (fT_heaviest_L20 x1 a3) _ := h
    unfold fT_heaviest_L20 at h
    refine v_iload 5 dX1_heaviest_20 rfl ?_
    refine v_aload_n 0 dX1_heaviest_22 rfl ?_
    refine gT_X1_10_0 dX1_heaviest_23 ?_
    refine gT_X1_70_100 dX1_heaviest_26 ?_
    refine v_icmp_ge (tgt := 70) dX1_heaviest_29 rfl (fun c5 => ?_) (fun c5 => ?_)
    · have h := Ok.pos h c5
      have h := Ok.ret h
      exact h
    · have h := Ok.neg h c5
      refine v_aload_n 0 dX1_heaviest_32 rfl ?_
      refine v_iload 5 dX1_heaviest_33 rfl ?_
      refine v_iload_n 1 dX1_heaviest_35 rfl ?_
      refine cT_431_0 (Ok.bind h) ⟨Nat.le_of_ble_eq_true rfl, Nat.le_of_ble_eq_true rfl⟩ (Nat.le_of_ble_eq_true rfl) dX1_heaviest_36 (fun r6 h => ?_) ⟨Nat.le_of_ble_eq_true rfl, Nat.le_of_ble_eq_true rfl⟩
      refine v_lstore [(7, .long r6.1), (0, .ref (lc 0 0)), (1, .int x1), (2, .int x2), (3, .int a3.1), (4, .long a3.2.1), (6, .int a3.2.2.1)] dX1_heaviest_39 (Nat.le_of_ble_eq_true rfl) rfl ?_
      refine v_iload_n 4 dX1_heaviest_41 rfl ?_
      refine v_iconst dX1_heaviest_42 ic_m1 ?_
      refine v_icmp_eq (tgt := 57) dX1_heaviest_43 rfl (fun c7 => ?_) (fun c7 => ?_)
      · have h := Ok.pos h c7
        refine v_iload 6 dX1_heaviest_57 rfl ?_
        refine v_istore_n [(3, .int a3.2.2.1), (7, .long r6.1), (0, .ref (lc 0 0)), (1, .int x1), (2, .int x2), (4, .long a3.2.1), (6, .int a3.2.2.1)] dX1_heaviest_59 (Nat.le_of_ble_eq_true rfl) rfl ?_
        refine v_lload 1 dX1_heaviest_60 rfl ?_
        refine v_lstore [(4, .long r6.1), (3, .int a3.2.2.1), (7, .long r6.1), (0, .ref (lc 0 0)), (1, .int x1), (2, .int x2), (6, .int a3.2.2.1)] dX1_heaviest_62 (Nat.le_of_ble_eq_true rfl) rfl ?_
        refine v_iinc (v := (a3.2.2.1 + 1 : Int32)) 6 [(6, .int (a3.2.2.1 + 1 : Int32)), (4, .long r6.1), (3, .int a3.2.2.1), (7, .long r6.1), (0, .ref (lc 0 0)), (1, .int x1), (2, .int x2)] dX1_heaviest_64 rfl (by rw [ic_1]) (Nat.le_of_ble_eq_true rfl) rfl ?_
        refine v_goto (tgt := 20) dX1_heaviest_67 rfl ?_
        refine v_sub [4, 5, 6, 2, 1, 0] rfl ?_
        have h := Ok.ret h
        exact h
      · have h := Ok.neg h c7
        refine v_lload 0 dX1_heaviest_46 rfl ?_
        refine v_lload 5 dX1_heaviest_48 rfl ?_
        refine v_lif_lt (tgt := 57) dX1_heaviest_50 dX1_heaviest_51 rfl (fun c8 => ?_) (fun c8 => ?_)
        · have h := Ok.pos h c8
          refine v_iload 6 dX1_heaviest_57 rfl ?_
          refine v_istore_n [(3, .int a3.2.2.1), (7, .long r6.1), (0, .ref (lc 0 0)), (1, .int x1), (2, .int x2), (4, .long a3.2.1), (6, .int a3.2.2.1)] dX1_heaviest_59 (Nat.le_of_ble_eq_true rfl) rfl ?_
          refine v_lload 1 dX1_heaviest_60 rfl ?_
          refine v_lstore [(4, .long r6.1), (3, .int a3.2.2.1), (7, .long r6.1), (0, .ref (lc 0 0)), (1, .int x1), (2, .int x2), (6, .int a3.2.2.1)] dX1_heaviest_62 (Nat.le_of_ble_eq_true rfl) rfl ?_
          refine v_iinc (v := (a3.2.2.1 + 1 : Int32)) 6 [(6, .int (a3.2.2.1 + 1 : Int32)), (4, .long r6.1), (3, .int a3.2.2.1), (7, .long r6.1), (0, .ref (lc 0 0)), (1, .int x1), (2, .int x2)] dX1_heaviest_64 rfl (by rw [ic_1]) (Nat.le_of_ble_eq_true rfl) rfl ?_
          refine v_goto (tgt := 20) dX1_heaviest_67 rfl ?_
          refine v_sub [4, 5, 6, 2, 1, 0] rfl ?_
          have h := Ok.ret h
          exact h
        · have h := Ok.neg h c8
          refine v_goto (tgt := 64) dX1_heaviest_54 rfl ?_
          refine v_iinc (v := (a3.2.2.1 + 1 : Int32)) 6 [(6, .int (a3.2.2.1 + 1 : Int32)), (7, .long r6.1), (0, .ref (lc 0 0)), (1, .int x1), (2, .int x2), (3, .int a3.1), (4, .long a3.2.1)] dX1_heaviest_64 rfl (by rw [ic_1]) (Nat.le_of_ble_eq_true rfl) rfl ?_
          refine v_goto (tgt := 20) dX1_heaviest_67 rfl ?_
          refine v_sub [2, 3, 4, 5, 6, 0] rfl ?_
          have h := Ok.ret h
          exact h
/-- an object that tells a long of a layer -/
def tt_tells (l : Launch) (D : va_G) (dA : Nat → ClassId) (A : Nat → Prop) (pz : Nat) (lc : Nat → Nat → Nat) (s : tt_S3) (b : Nat) (g : Nat → Option Int64) : Prop := ∀ {cc : ByteArray} {nl : Nat} {rt : Option FieldType} {rm : Room} {tn : tt_Tn} {Q : tt_Fin} {pc : Nat} {lv : List (Nat × Value)} {rest : List Value} {ck cn : Nat} {x : Nat} (_ : x < 40) {K : Int64 → Prop} (_ : Ok (g x) K) (_ : 2 + 1 ≤ rm.frames ∧ 8 + (2 + 11) + 45 ≤ rm.locals) (_ : (rest.map fun v => v.category).sum ≤ 8) {cnt : Nat} (_ : decode cc pc = .ok (.invokeinterface 249 cnt, 5)) (_ : ∀ r, K r → tt_V (XT l D dA A pz) cc (RX1, nl, rt, rm, tn) Q (pc + 5) lv (.long r :: rest) lc s ck cn) (_ : ck ≤ rm.cells ∧ cn ≤ rm.slots), tt_V (XT l D dA A pz) cc (RX1, nl, rt, rm, tn) Q pc lv (.ref (lc 102 x) :: .ref b :: rest) lc s ck cn
theorem lam_shp18 : lam_shp lam_s18 ⟨"TallTowers$Asked", "told", "(LTallTowers$Layer;)J"⟩ ⟨"TallTowers", "lambda$cover$13", "(IILTallTowers$Layer;)J"⟩ (some .long) := ⟨rfl, rfl, by decide +kernel, rfl, by decide +kernel⟩
theorem lam_dc18 : lam_dcs lam_b18 [16, 18] 26 .lreturn := by unfold lam_dcs; decide +kernel
theorem tells_0 {l : Launch} {D : va_G} {dA : Nat → ClassId} {A : Nat → Prop} {pz : Nat} {lc : Nat → Nat → Nat} {u s : tt_S3} {y0 y1 : Int32} (e : s = (u.1, u.2.1, newD u.2.2 20 (fun j => [y0, y1].getD j 0))) : tt_tells l D dA A pz lc s (lc 3 (rdN u.2.2 3)) (fun x => fT_lambda_cover_13 s.1 y0 y1 x) := by
  intro cc nl rt rm tn Q pc lv rest ck cn x hx K h hR hW cnt d kk hf
  refine v_callMadeJ (x0 := lam_x18) (bs := lam_b18) (mi := 26) (fi := [16, 18]) (xi := lam_told) (rm := rmT_lambda_cover_13_2) (Q' := (fun v lc' s' => ∃ r : Int64, K r ∧ v = some (Value.long r) ∧ lc' = lc ∧ s' = s)) (fun U hU => (klT U hU).2.1 0 (by decide)) lam_i18 lam_shp18 lam_dc18 (show lam_cell (XT l D dA A pz) lc s (lc 3 (rdN u.2.2 3)) (dA (20 + 20)) [.int y0, .int y1] from by
    have h9 := cellD (l := l) (D := D) (dA := dA) (A := A) (pz := pz) (lc := lc) (s := s) (i := rdN u.2.2 3) (tag := 20) (by rw [e]; exact Nat.lt_succ_self _) (by rw [e]; show rdR (newD _ _ _) _ _ _ = _; rw [rdR_newD, if_pos ⟨rfl, rfl, rfl⟩])
    have e8 : rdI s.2.2 3 (rdN u.2.2 3) = (fun j => [y0, y1].getD j 0) := by rw [e]; funext c; show rdI (newD _ _ _) _ _ _ = _; rw [rdI_newD, if_pos ⟨rfl, rfl⟩]
    rw [e8] at h9
    exact h9) rfl (liftNow (Q := (fun v lc' s' => ∃ r : Int64, K r ∧ v = some (Value.long r) ∧ lc' = lc ∧ s' = s)) (mT_lambda_cover_13_2 l D dA (aT0 lc s) true (nT0 lc) s.1 y0 y1 x hx (Q := fun v lc' w => lc' = nT0 lc ∧ (fun v lc' s' => ∃ r : Int64, K r ∧ v = some (Value.long r) ∧ lc' = lc ∧ s' = s) v lc (w, s.2)) (h.mono fun r hr => ⟨rfl, r, hr, rfl, rfl, rfl⟩))) (fun v lc' s' q => by obtain ⟨r, -, e1, -⟩ := q; exact ⟨r, e1⟩) (lw_meth q1704) q1703 q127 q1291 (by decide +kernel) ⟨Nat.le_trans (Nat.le_of_ble_eq_true rfl) hR.1, Nat.le_trans (Nat.le_of_ble_eq_true rfl) hR.2⟩ hW hf d (fun v lc' s' q => ?_)
  obtain ⟨r, hr, e1, e2, e3⟩ := q
  rw [e1, e2, e3]
  exact kk r hr
theorem lam_shp20 : lam_shp lam_s20 ⟨"TallTowers$Asked", "told", "(LTallTowers$Layer;)J"⟩ ⟨"TallTowers", "lambda$holds$15", "(IILTallTowers$Layer;)J"⟩ (some .long) := ⟨rfl, rfl, by decide +kernel, rfl, by decide +kernel⟩
theorem lam_dc20 : lam_dcs lam_b20 [16, 18] 26 .lreturn := by unfold lam_dcs; decide +kernel
theorem tells_1 {l : Launch} {D : va_G} {dA : Nat → ClassId} {A : Nat → Prop} {pz : Nat} {lc : Nat → Nat → Nat} {u s : tt_S3} {y0 y1 : Int32} (e : s = (u.1, u.2.1, newD u.2.2 21 (fun j => [y0, y1].getD j 0))) : tt_tells l D dA A pz lc s (lc 3 (rdN u.2.2 3)) (fun x => fT_lambda_holds_15 s.1 y0 y1 x) := by
  intro cc nl rt rm tn Q pc lv rest ck cn x hx K h hR hW cnt d kk hf
  refine v_callMadeJ (x0 := lam_x20) (bs := lam_b20) (mi := 26) (fi := [16, 18]) (xi := lam_told) (rm := rmT_lambda_holds_15_2) (Q' := (fun v lc' s' => ∃ r : Int64, K r ∧ v = some (Value.long r) ∧ lc' = lc ∧ s' = s)) (fun U hU => (klT U hU).2.1 1 (by decide)) lam_i20 lam_shp20 lam_dc20 (show lam_cell (XT l D dA A pz) lc s (lc 3 (rdN u.2.2 3)) (dA (20 + 21)) [.int y0, .int y1] from by
    have h9 := cellD (l := l) (D := D) (dA := dA) (A := A) (pz := pz) (lc := lc) (s := s) (i := rdN u.2.2 3) (tag := 21) (by rw [e]; exact Nat.lt_succ_self _) (by rw [e]; show rdR (newD _ _ _) _ _ _ = _; rw [rdR_newD, if_pos ⟨rfl, rfl, rfl⟩])
    have e8 : rdI s.2.2 3 (rdN u.2.2 3) = (fun j => [y0, y1].getD j 0) := by rw [e]; funext c; show rdI (newD _ _ _) _ _ _ = _; rw [rdI_newD, if_pos ⟨rfl, rfl⟩]
    rw [e8] at h9
    exact h9) rfl (liftNow (Q := (fun v lc' s' => ∃ r : Int64, K r ∧ v = some (Value.long r) ∧ lc' = lc ∧ s' = s)) (mT_lambda_holds_15_2 l D dA (aT0 lc s) true (nT0 lc) s.1 y0 y1 x hx (Q := fun v lc' w => lc' = nT0 lc ∧ (fun v lc' s' => ∃ r : Int64, K r ∧ v = some (Value.long r) ∧ lc' = lc ∧ s' = s) v lc (w, s.2)) (h.mono fun r hr => ⟨rfl, r, hr, rfl, rfl, rfl⟩))) (fun v lc' s' q => by obtain ⟨r, -, e1, -⟩ := q; exact ⟨r, e1⟩) (lw_meth q1750) q1749 q127 q1291 (by decide +kernel) ⟨Nat.le_trans (Nat.le_of_ble_eq_true rfl) hR.1, Nat.le_trans (Nat.le_of_ble_eq_true rfl) hR.2⟩ hW hf d (fun v lc' s' q => ?_)
  obtain ⟨r, hr, e1, e2, e3⟩ := q
  rw [e1, e2, e3]
  exact kk r hr
theorem lam_shp14 : lam_shp lam_s14 ⟨"TallTowers$Asked", "told", "(LTallTowers$Layer;)J"⟩ ⟨"TallTowers", "lambda$year$9", "(LTallTowers$Layer;)J"⟩ (some .long) := ⟨rfl, rfl, by decide +kernel, rfl, by decide +kernel⟩
theorem lam_dc14 : lam_dcs lam_b14 [] 17 .lreturn := by unfold lam_dcs; decide +kernel
theorem tells_2 {l : Launch} {D : va_G} {dA : Nat → ClassId} {A : Nat → Prop} {pz : Nat} {lc : Nat → Nat → Nat} {s : tt_S3} : tt_tells l D dA A pz lc s (dA 52) (fun x => fT_lambda_year_9 s.1 x) := by
  intro cc nl rt rm tn Q pc lv rest ck cn x hx K h hR hW cnt d kk hf
  refine v_callMadeJ (x0 := lam_x14) (bs := lam_b14) (mi := 17) (fi := []) (xi := lam_told) (rm := rmT_lambda_year_9_2) (Q' := (fun v lc' s' => ∃ r : Int64, K r ∧ v = some (Value.long r) ∧ lc' = lc ∧ s' = s)) (fun U hU => (klT U hU).2.1 2 (by decide)) lam_i14 lam_shp14 lam_dc14 (cellC (k := 2) (by decide) (by decide)) rfl (liftNow (Q := (fun v lc' s' => ∃ r : Int64, K r ∧ v = some (Value.long r) ∧ lc' = lc ∧ s' = s)) (mT_lambda_year_9_2 l D dA (aT0 lc s) true (nT0 lc) s.1 x hx (Q := fun v lc' w => lc' = nT0 lc ∧ (fun v lc' s' => ∃ r : Int64, K r ∧ v = some (Value.long r) ∧ lc' = lc ∧ s' = s) v lc (w, s.2)) (h.mono fun r hr => ⟨rfl, r, hr, rfl, rfl, rfl⟩))) (fun v lc' s' q => by obtain ⟨r, -, e1, -⟩ := q; exact ⟨r, e1⟩) (lw_meth q1285) q1284 q127 q1291 (by decide +kernel) ⟨Nat.le_trans (Nat.le_of_ble_eq_true rfl) hR.1, Nat.le_trans (Nat.le_of_ble_eq_true rfl) hR.2⟩ hW hf d (fun v lc' s' q => ?_)
  obtain ⟨r, hr, e1, e2, e3⟩ := q
  rw [e1, e2, e3]
  exact kk r hr
theorem lam_shp15 : lam_shp lam_s15 ⟨"TallTowers$Asked", "told", "(LTallTowers$Layer;)J"⟩ ⟨"TallTowers", "lambda$year$10", "(LTallTowers$Layer;)J"⟩ (some .long) := ⟨rfl, rfl, by decide +kernel, rfl, by decide +kernel⟩
theorem lam_dc15 : lam_dcs lam_b15 [] 17 .lreturn := by unfold lam_dcs; decide +kernel
theorem tells_3 {l : Launch} {D : va_G} {dA : Nat → ClassId} {A : Nat → Prop} {pz : Nat} {lc : Nat → Nat → Nat} {s : tt_S3} : tt_tells l D dA A pz lc s (dA 53) (fun x => fT_lambda_year_10 s.1 x) := by
  intro cc nl rt rm tn Q pc lv rest ck cn x hx K h hR hW cnt d kk hf
  refine v_callMadeJ (x0 := lam_x15) (bs := lam_b15) (mi := 17) (fi := []) (xi := lam_told) (rm := rmT_lambda_year_10_2) (Q' := (fun v lc' s' => ∃ r : Int64, K r ∧ v = some (Value.long r) ∧ lc' = lc ∧ s' = s)) (fun U hU => (klT U hU).2.1 3 (by decide)) lam_i15 lam_shp15 lam_dc15 (cellC (k := 3) (by decide) (by decide)) rfl (liftNow (Q := (fun v lc' s' => ∃ r : Int64, K r ∧ v = some (Value.long r) ∧ lc' = lc ∧ s' = s)) (mT_lambda_year_10_2 l D dA (aT0 lc s) true (nT0 lc) s.1 x hx (Q := fun v lc' w => lc' = nT0 lc ∧ (fun v lc' s' => ∃ r : Int64, K r ∧ v = some (Value.long r) ∧ lc' = lc ∧ s' = s) v lc (w, s.2)) (h.mono fun r hr => ⟨rfl, r, hr, rfl, rfl, rfl⟩))) (fun v lc' s' q => by obtain ⟨r, -, e1, -⟩ := q; exact ⟨r, e1⟩) (lw_meth q1295) q1294 q127 q1291 (by decide +kernel) ⟨Nat.le_trans (Nat.le_of_ble_eq_true rfl) hR.1, Nat.le_trans (Nat.le_of_ble_eq_true rfl) hR.2⟩ hW hf d (fun v lc' s' q => ?_)
  obtain ⟨r, hr, e1, e2, e3⟩ := q
  rw [e1, e2, e3]
  exact kk r hr
theorem lam_shp16 : lam_shp lam_s16 ⟨"TallTowers$Asked", "told", "(LTallTowers$Layer;)J"⟩ ⟨"TallTowers", "lambda$year$11", "(LTallTowers$Layer;)J"⟩ (some .long) := ⟨rfl, rfl, by decide +kernel, rfl, by decide +kernel⟩
theorem lam_dc16 : lam_dcs lam_b16 [] 17 .lreturn := by unfold lam_dcs; decide +kernel
theorem tells_4 {l : Launch} {D : va_G} {dA : Nat → ClassId} {A : Nat → Prop} {pz : Nat} {lc : Nat → Nat → Nat} {s : tt_S3} : tt_tells l D dA A pz lc s (dA 54) (fun x => fT_lambda_year_11 s.1 x) := by
  intro cc nl rt rm tn Q pc lv rest ck cn x hx K h hR hW cnt d kk hf
  refine v_callMadeJ (x0 := lam_x16) (bs := lam_b16) (mi := 17) (fi := []) (xi := lam_told) (rm := rmT_lambda_year_11_2) (Q' := (fun v lc' s' => ∃ r : Int64, K r ∧ v = some (Value.long r) ∧ lc' = lc ∧ s' = s)) (fun U hU => (klT U hU).2.1 4 (by decide)) lam_i16 lam_shp16 lam_dc16 (cellC (k := 4) (by decide) (by decide)) rfl (liftNow (Q := (fun v lc' s' => ∃ r : Int64, K r ∧ v = some (Value.long r) ∧ lc' = lc ∧ s' = s)) (mT_lambda_year_11_2 l D dA (aT0 lc s) true (nT0 lc) s.1 x hx (Q := fun v lc' w => lc' = nT0 lc ∧ (fun v lc' s' => ∃ r : Int64, K r ∧ v = some (Value.long r) ∧ lc' = lc ∧ s' = s) v lc (w, s.2)) (h.mono fun r hr => ⟨rfl, r, hr, rfl, rfl, rfl⟩))) (fun v lc' s' q => by obtain ⟨r, -, e1, -⟩ := q; exact ⟨r, e1⟩) (lw_meth q1297) q1296 q127 q1291 (by decide +kernel) ⟨Nat.le_trans (Nat.le_of_ble_eq_true rfl) hR.1, Nat.le_trans (Nat.le_of_ble_eq_true rfl) hR.2⟩ hW hf d (fun v lc' s' q => ?_)
  obtain ⟨r, hr, e1, e2, e3⟩ := q
  rw [e1, e2, e3]
  exact kk r hr
theorem lam_shp17 : lam_shp lam_s17 ⟨"TallTowers$Asked", "told", "(LTallTowers$Layer;)J"⟩ ⟨"TallTowers", "lambda$year$12", "(LTallTowers$Layer;)J"⟩ (some .long) := ⟨rfl, rfl, by decide +kernel, rfl, by decide +kernel⟩
theorem lam_dc17 : lam_dcs lam_b17 [] 17 .lreturn := by unfold lam_dcs; decide +kernel
theorem tells_5 {l : Launch} {D : va_G} {dA : Nat → ClassId} {A : Nat → Prop} {pz : Nat} {lc : Nat → Nat → Nat} {s : tt_S3} : tt_tells l D dA A pz lc s (dA 55) (fun x => fT_lambda_year_12 s.1 x) := by
  intro cc nl rt rm tn Q pc lv rest ck cn x hx K h hR hW cnt d kk hf
  refine v_callMadeJ (x0 := lam_x17) (bs := lam_b17) (mi := 17) (fi := []) (xi := lam_told) (rm := rmT_lambda_year_12_2) (Q' := (fun v lc' s' => ∃ r : Int64, K r ∧ v = some (Value.long r) ∧ lc' = lc ∧ s' = s)) (fun U hU => (klT U hU).2.1 5 (by decide)) lam_i17 lam_shp17 lam_dc17 (cellC (k := 5) (by decide) (by decide)) rfl (liftNow (Q := (fun v lc' s' => ∃ r : Int64, K r ∧ v = some (Value.long r) ∧ lc' = lc ∧ s' = s)) (mT_lambda_year_12_2 l D dA (aT0 lc s) true (nT0 lc) s.1 x hx (Q := fun v lc' w => lc' = nT0 lc ∧ (fun v lc' s' => ∃ r : Int64, K r ∧ v = some (Value.long r) ∧ lc' = lc ∧ s' = s) v lc (w, s.2)) (h.mono fun r hr => ⟨rfl, r, hr, rfl, rfl, rfl⟩))) (fun v lc' s' q => by obtain ⟨r, -, e1, -⟩ := q; exact ⟨r, e1⟩) (lw_meth q1299) q1298 q127 q1291 (by decide +kernel) ⟨Nat.le_trans (Nat.le_of_ble_eq_true rfl) hR.1, Nat.le_trans (Nat.le_of_ble_eq_true rfl) hR.2⟩ hW hf d (fun v lc' s' q => ?_)
  obtain ⟨r, hr, e1, e2, e3⟩ := q
  rw [e1, e2, e3]
  exact kk r hr
theorem lam_shp19 : lam_shp lam_s19 ⟨"TallTowers$Asked", "told", "(LTallTowers$Layer;)J"⟩ ⟨"TallTowers", "lambda$strongest$14", "(LTallTowers$Layer;)J"⟩ (some .long) := ⟨rfl, rfl, by decide +kernel, rfl, by decide +kernel⟩
theorem lam_dc19 : lam_dcs lam_b19 [] 17 .lreturn := by unfold lam_dcs; decide +kernel
theorem tells_6 {l : Launch} {D : va_G} {dA : Nat → ClassId} {A : Nat → Prop} {pz : Nat} {lc : Nat → Nat → Nat} {s : tt_S3} : tt_tells l D dA A pz lc s (dA 56) (fun x => fT_lambda_strongest_14 s.1 x) := by
  intro cc nl rt rm tn Q pc lv rest ck cn x hx K h hR hW cnt d kk hf
  refine v_callMadeJ (x0 := lam_x19) (bs := lam_b19) (mi := 17) (fi := []) (xi := lam_told) (rm := rmT_lambda_strongest_14_2) (Q' := (fun v lc' s' => ∃ r : Int64, K r ∧ v = some (Value.long r) ∧ lc' = lc ∧ s' = s)) (fun U hU => (klT U hU).2.1 6 (by decide)) lam_i19 lam_shp19 lam_dc19 (cellC (k := 6) (by decide) (by decide)) rfl (liftNow (Q := (fun v lc' s' => ∃ r : Int64, K r ∧ v = some (Value.long r) ∧ lc' = lc ∧ s' = s)) (mT_lambda_strongest_14_2 l D dA (aT0 lc s) true (nT0 lc) s.1 x hx (Q := fun v lc' w => lc' = nT0 lc ∧ (fun v lc' s' => ∃ r : Int64, K r ∧ v = some (Value.long r) ∧ lc' = lc ∧ s' = s) v lc (w, s.2)) (h.mono fun r hr => ⟨rfl, r, hr, rfl, rfl, rfl⟩))) (fun v lc' s' q => by obtain ⟨r, -, e1, -⟩ := q; exact ⟨r, e1⟩) (lw_meth q1741) q1740 q127 q1291 (by decide +kernel) ⟨Nat.le_trans (Nat.le_of_ble_eq_true rfl) hR.1, Nat.le_trans (Nat.le_of_ble_eq_true rfl) hR.2⟩ hW hf d (fun v lc' s' q => ?_)
  obtain ⟨r, hr, e1, e2, e3⟩ := q
  rw [e1, e2, e3]
  exact kk r hr
def fT_sum_L5 (xg : Nat → Option Int64) (s : tt_S3) (x1 : Int32) (a1 : Int64 × Int32) : Option ((Int64 × Int32) ⊕ (Int64 × Int32)) :=
  if inB x1 12 then if (rdI s.1 23 0 x1.toNatClampNeg) ≤ a1.2 then some (.inr (a1.1, a1.2)) else (fW_layerAt s.1 x1 a1.2).bind fun r5 => (xg r5).bind fun r6 => nm (a1.1 + r6) fun v7 => some (.inl (v7, (a1.2 + 1 : Int32))) else none
def fT_sum (xg : Nat → Option Int64) (s : tt_S3) (x1 : Int32) : Option (Int64) :=
  (itr (fT_sum_L5 xg s x1) tt_fuel ((0 : Int64), (0 : Int32))).bind fun b2 => some b2.1
abbrev rmT_sum : Room := { frames := 3, cells := 0, slots := 0, locals := 66 }
set_option maxHeartbeats 4000000 in
theorem mT_sum (l : Launch) (D : va_G) (dA : Nat → ClassId) (A : Nat → Prop) (pz : Nat) (lc : Nat → Nat → Nat) (s : tt_S3) (x1 : Int32) (xb : Nat) (xg : Nat → Option Int64) (hb : tt_tells l D dA A pz lc s xb xg) {Q : Option Value → (Nat → Nat → Nat) → tt_S3 → Prop} (h : Ok (fT_sum xg s x1) (fun r => Q (some (.long r)) lc s)) : tt_Sp (XT l D dA A pz) yX1_sum cX1_sum 6 (some .long) rmT_sum [.ref (lc 0 0), .int x1, .ref xb] lc s Q := by
  refine tt_Sp.ofV plX1 kokT (Nat.le_of_ble_eq_true rfl) ?_
  show tt_V (XT l D dA A pz) cX1_sum (RX1, 6, (some .long), rmT_sum, tt_nt) (tt_fn (XT l D dA A pz) (RX1, 6, (some .long), rmT_sum, tt_nt) Q) 0 [(0, .ref (lc 0 0)), (1, .int x1), (2, .ref xb)] [] lc s 0 0
  unfold fT_sum at h
  refine v_lconst dX1_sum_0 kl_0 ?_
  refine v_lstore_n [(3, .long (0 : Int64)), (0, .ref (lc 0 0)), (1, .int x1), (2, .ref xb)] dX1_sum_1 (Nat.le_of_ble_eq_true rfl) rfl ?_
  refine v_iconst dX1_sum_2 ic_0 ?_
  refine v_istore [(5, .int (0 : Int32)), (3, .long (0 : Int64)), (0, .ref (lc 0 0)), (1, .int x1), (2, .ref xb)] dX1_sum_3 (Nat.le_of_ble_eq_true rfl) rfl ?_
  refine v_sub [2, 3, 4, 1, 0] rfl ?_
  refine itr_loop (P := fun a1 : Int64 × Int32 => tt_V (XT l D dA A pz) cX1_sum (RX1, 6, (some .long), rmT_sum, tt_nt) (tt_fn (XT l D dA A pz) (RX1, 6, (some .long), rmT_sum, tt_nt) Q) 5 [(0, .ref (lc 0 0)), (1, .int x1), (2, .ref xb), (3, .long a1.1), (5, .int a1.2)] [] lc s 0 0) (PE := fun b2 : Int64 × Int32 => tt_V (XT l D dA A pz) cX1_sum (RX1, 6, (some .long), rmT_sum, tt_nt) (tt_fn (XT l D dA A pz) (RX1, 6, (some .long), rmT_sum, tt_nt) Q) 44 [(0, .ref (lc 0 0)), (1, .int x1), (2, .ref xb), (3, .long b2.1), (5, .int b2.2)] [] lc s 0 0) h (fun b2 h => ?_) (fun a1 h => ?_)
  · refine v_lload_n 3 dX1_sum_44 rfl ?_
    have h := Ok.ret h
    exact v_lret rfl (Nat.le_of_ble_eq_true rfl) (Nat.le_of_ble_eq_true rfl) dX1_sum_45 h
  · have h : Ok (fT_sum_L5 xg s x1 a1) _ := h
    unfold fT_sum_L5 at h
    refine v_iload 4 dX1_sum_5 rfl ?_
    refine v_aload_n 0 dX1_sum_7 rfl ?_
    refine gT_X1_10_0 dX1_sum_8 ?_
    refine gT_X1_243_100 dX1_sum_11 ?_
    refine v_iload_n 1 dX1_sum_14 rfl ?_
    obtain ⟨g3, h⟩ := Ok.guard h
    refine lT_123 g3 dX1_sum_15 ?_
    refine v_icmp_ge (tgt := 44) dX1_sum_16 rfl (fun c4 => ?_) (fun c4 => ?_)
    · have h := Ok.pos h c4
      have h := Ok.ret h
      exact h
    · have h := Ok.neg h c4
      refine v_lload_n 3 dX1_sum_19 rfl ?_
      refine v_aload_n 2 dX1_sum_20 rfl ?_
      refine v_aload_n 0 dX1_sum_21 rfl ?_
      refine gT_X1_10_0 dX1_sum_22 ?_
      refine v_iload_n 1 dX1_sum_25 rfl ?_
      refine v_iload 4 dX1_sum_26 rfl ?_
      refine cT_245_100 (Ok.bind h) ⟨Nat.le_of_ble_eq_true rfl, Nat.le_of_ble_eq_true rfl⟩ (Nat.le_of_ble_eq_true rfl) dX1_sum_28 (fun r5 z_r5 h => ?_) ⟨Nat.le_of_ble_eq_true rfl, Nat.le_of_ble_eq_true rfl⟩
      refine hb z_r5 (Ok.bind h) ⟨Nat.le_of_ble_eq_true rfl, Nat.le_of_ble_eq_true rfl⟩ (Nat.le_of_ble_eq_true rfl) dX1_sum_31 (fun r6 h => ?_) ⟨Nat.le_of_ble_eq_true rfl, Nat.le_of_ble_eq_true rfl⟩
      refine v_ladd dX1_sum_36 ?_
      refine v_nmL (fun v7 e_v7 => ?_)
      have h := Ok.nm h e_v7
      refine v_lstore_n [(3, .long v7), (0, .ref (lc 0 0)), (1, .int x1), (2, .ref xb), (5, .int a1.2)] dX1_sum_37 (Nat.le_of_ble_eq_true rfl) rfl ?_
      refine v_iinc (v := (a1.2 + 1 : Int32)) 4 [(5, .int (a1.2 + 1 : Int32)), (3, .long v7), (0, .ref (lc 0 0)), (1, .int x1), (2, .ref xb)] dX1_sum_38 rfl (by rw [ic_1]) (Nat.le_of_ble_eq_true rfl) rfl ?_
      refine v_goto (tgt := 5) dX1_sum_41 rfl ?_
      refine v_sub [2, 3, 4, 1, 0] rfl ?_
      have h := Ok.ret h
      exact h
theorem cT_sum {l : Launch} {D : va_G} {dA : Nat → ClassId} {A : Nat → Prop} {pz : Nat} {lc : Nat → Nat → Nat} {s : tt_S3} {cc : ByteArray} {nl : Nat} {rt : Option FieldType} {rm : Room} {tn : tt_Tn} {Q : tt_Fin} {pc : Nat} {lv : List (Nat × Value)} {rest : List Value} {ck cn : Nat} {xb : Nat} {xg : Nat → Option Int64} {x1 : Int32} (hb : tt_tells l D dA A pz lc s xb xg) {K : Int64 → Prop} (h : Ok (fT_sum xg s x1) K) (hR : 3 + 1 ≤ rm.frames ∧ 8 + (6 + 11) + 66 ≤ rm.locals) (hW : (rest.map fun v => v.category).sum ≤ 8) (d : decode cc pc = .ok (.invokevirtual 261, 3)) (kk : ∀ r, K r → tt_V (XT l D dA A pz) cc (RX1, nl, rt, rm, tn) Q (pc + 3) lv (.long r :: rest) lc s (ck + 0) (cn + 0)) (hf : ck + 0 ≤ rm.cells ∧ cn + 0 ≤ rm.slots) : tt_V (XT l D dA A pz) cc (RX1, nl, rt, rm, tn) Q pc lv (.ref xb :: .int x1 :: .ref (lc 0 0) :: rest) lc s ck cn :=
  v_callV (kd := 0) (i := 0) (nA := 2) (As := [.int x1, .ref xb]) lvT_0 oT_0 rfl (mT_sum l D dA A pz lc s x1 xb xg hb (Q := (fun v lc' s' => ∃ r, K r ∧ v = some (Value.long r) ∧ lc' = lc ∧ s' = s)) (h.mono (fun r hr => ⟨r, hr, rfl, rfl, rfl⟩))) (lw_V q1286 q1288 qs34 q127 q1289) (by decide +kernel) rfl hR hW hf d rfl (fun v lc' s' q => by obtain ⟨r, hr, e1, e2, e3⟩ := q; rw [e1, e2, e3]; exact kk r hr)
def fT_year (s : tt_S3) (x1 : Int32) (x2 : Int32) : Option ((Int64 × tt_S3) ⊕ (Nat × tt_S3)) :=
  (fT_yearOf s x1).bind fun q_r1 => orThrow q_r1 fun r1 => (fT_within r1 x2 (0 : Int32) (6 : Int32)).bind fun q_r2 => orThrow q_r2 fun r2 => if inB x1 12 then nm (rdI r2.1 23 0 x1.toNatClampNeg) fun v4 => if x2 = 0 then some (.inl (v4.toInt64, r2)) else if x2 = 1 then if v4 = 0 then some (.inl ((-1 : Int64), r2)) else (fW_layerAt r2.1 x1 (0 : Int32)).bind fun r8 => some (.inl ((rdI r2.1 2 r8 5).toInt64, r2)) else if x2 = 2 then if v4 = 0 then some (.inl ((-1 : Int64), r2)) else (fW_layerAt r2.1 x1 (v4 - (1 : Int32))).bind fun r11 => (fY_top r2.1 r11).bind fun r12 => some (.inl (r12.toInt64, r2)) else if x2 = 3 then (fT_sum (fun x => fT_lambda_year_9 r2.1 x) r2 x1).bind fun r14 => some (.inl (r14, r2)) else if x2 = 4 then if v4 = 0 then some (.inl ((0 : Int64), r2)) else (fW_layerAt r2.1 x1 (v4 - (1 : Int32))).bind fun r17 => (fY_top r2.1 r17).bind fun r18 => (fT_sum (fun x => fT_lambda_year_10 r2.1 x) r2 x1).bind fun r19 => some (.inl (r18.toInt64 - r19, r2)) else if x2 = 5 then (fT_sum (fun x => fT_lambda_year_11 r2.1 x) r2 x1).bind fun r21 => some (.inl (r21, r2)) else (fT_sum (fun x => fT_lambda_year_12 r2.1 x) r2 x1).bind fun r22 => some (.inl (r22, r2)) else none
abbrev rmT_year : Room := { frames := 9, cells := 2, slots := 12, locals := 3080 }
set_option maxHeartbeats 4000000 in
theorem mT_year (l : Launch) (D : va_G) (dA : Nat → ClassId) (A : Nat → Prop) (pz : Nat) (hl9 : l.stackTraces = false) (lc : Nat → Nat → Nat) (s : tt_S3) (x1 : Int32) (x2 : Int32) {Q : Option Value → (Nat → Nat → Nat) → tt_S3 → Prop} {QX : String → (Nat → Nat → Nat) → tt_S3 → Prop} (h : Ok (fT_year s x1 x2) (fun q => Sum.casesOn (motive := fun _ => Prop) q (fun r => Q (some (.long r.1)) lc r.2) (fun e => QX (tt_exn e.1) lc e.2))) : tt_SpX (XT l D dA A pz) yX1_year cX1_year 4 (some .long) rmT_year [.ref (lc 0 0), .int x1, .int x2] lc s Q QX := by
  refine tt_SpX.ofVn plX1 kokT (Nat.le_of_ble_eq_true rfl) ?_
  show tt_V (XT l D dA A pz) cX1_year (RX1, 4, (some .long), rmT_year, tt_nd yX1_year) (tt_fx (XT l D dA A pz) (RX1, 4, (some .long), rmT_year, tt_nd yX1_year) Q QX) 0 [(0, .ref (lc 0 0)), (1, .int x1), (2, .int x2)] [] lc s 0 0
  unfold fT_year at h
  refine v_aload_n 0 dX1_year_0 rfl ?_
  refine v_iload_n 1 dX1_year_1 rfl ?_
  refine cT_84_0 (Ok.throws h) hl9 (fun _ _ _ h => h.1) (fun _ h => h) ⟨Nat.le_of_ble_eq_true rfl, Nat.le_of_ble_eq_true rfl⟩ (Nat.le_of_ble_eq_true rfl) dX1_year_2 (fun r1 h => ?_) ⟨Nat.le_of_ble_eq_true rfl, Nat.le_of_ble_eq_true rfl⟩
  refine v_aload_n 0 dX1_year_5 rfl ?_
  refine v_iload_n 2 dX1_year_6 rfl ?_
  refine v_iconst dX1_year_7 ic_0 ?_
  refine v_bipush dX1_year_8 kb_6 ?_
  refine cT_80_0 (Ok.throws h) hl9 (fun _ _ _ h => h.1) (fun _ h => h) ⟨Nat.le_of_ble_eq_true rfl, Nat.le_of_ble_eq_true rfl⟩ (Nat.le_of_ble_eq_true rfl) dX1_year_10 (fun r2 h => ?_) ⟨Nat.le_of_ble_eq_true rfl, Nat.le_of_ble_eq_true rfl⟩
  refine v_aload_n 0 dX1_year_13 rfl ?_
  refine gT_X1_10_0 dX1_year_14 ?_
  refine gT_X1_243_100 dX1_year_17 ?_
  refine v_iload_n 1 dX1_year_20 rfl ?_
  obtain ⟨g3, h⟩ := Ok.guard h
  refine lT_123 g3 dX1_year_21 ?_
  refine v_nmI (fun v4 e_v4 => ?_)
  have h := Ok.nm h e_v4
  refine v_istore_n [(3, .int v4), (0, .ref (lc 0 0)), (1, .int x1), (2, .int x2)] dX1_year_22 (Nat.le_of_ble_eq_true rfl) rfl ?_
  refine v_iload_n 3 dX1_year_23 rfl ?_
  rcases Decidable.em (x2 = 0) with c5 | c5
  · have h := Ok.pos h c5
    refine v_tableIn (v := 0) (tgt := 64) dX1_year_24 c5 (by decide) (by decide) rfl rfl ?_
    refine v_iload_n 0 dX1_year_64 rfl ?_
    refine v_i2l dX1_year_65 rfl ?_
    have h := Ok.ret h
    exact v_retX (v_lret rfl (Nat.le_of_ble_eq_true rfl) (Nat.le_of_ble_eq_true rfl) dX1_year_66 h)
  · have h := Ok.neg h c5
    rcases Decidable.em (x2 = 1) with c6 | c6
    · have h := Ok.pos h c6
      refine v_tableIn (v := 1) (tgt := 67) dX1_year_24 c6 (by decide) (by decide) rfl rfl ?_
      refine v_iload_n 0 dX1_year_67 rfl ?_
      refine v_if_ne (tgt := 77) dX1_year_68 rfl (fun c7 => ?_) (fun c7 => ?_)
      · have h := Ok.neg h c7
        refine v_aload_n 1 dX1_year_77 rfl ?_
        refine gT_X1_10_0 dX1_year_78 ?_
        refine v_iload_n 2 dX1_year_81 rfl ?_
        refine v_iconst dX1_year_82 ic_0 ?_
        refine cT_245_100 (Ok.bind h) ⟨Nat.le_of_ble_eq_true rfl, Nat.le_of_ble_eq_true rfl⟩ (Nat.le_of_ble_eq_true rfl) dX1_year_83 (fun r8 z_r8 h => ?_) ⟨Nat.le_of_ble_eq_true rfl, Nat.le_of_ble_eq_true rfl⟩
        refine gT_X1_207_102 z_r8 dX1_year_86 ?_
        refine v_i2l dX1_year_89 rfl ?_
        have h := Ok.ret h
        exact v_retX (v_lret rfl (Nat.le_of_ble_eq_true rfl) (Nat.le_of_ble_eq_true rfl) dX1_year_90 h)
      · have h := Ok.pos h c7
        refine v_ldc2 dX1_year_71 q1274 ?_
        refine v_goto (tgt := 90) dX1_year_74 rfl ?_
        have h := Ok.ret h
        exact v_retX (v_lret rfl (Nat.le_of_ble_eq_true rfl) (Nat.le_of_ble_eq_true rfl) dX1_year_90 h)
    · have h := Ok.neg h c6
      rcases Decidable.em (x2 = 2) with c9 | c9
      · have h := Ok.pos h c9
        refine v_tableIn (v := 2) (tgt := 91) dX1_year_24 c9 (by decide) (by decide) rfl rfl ?_
        refine v_iload_n 0 dX1_year_91 rfl ?_
        refine v_if_ne (tgt := 101) dX1_year_92 rfl (fun c10 => ?_) (fun c10 => ?_)
        · have h := Ok.neg h c10
          refine v_aload_n 1 dX1_year_101 rfl ?_
          refine gT_X1_10_0 dX1_year_102 ?_
          refine v_iload_n 2 dX1_year_105 rfl ?_
          refine v_iload_n 0 dX1_year_106 rfl ?_
          refine v_iconst dX1_year_107 ic_1 ?_
          refine v_isub dX1_year_108 ?_
          refine cT_245_100 (Ok.bind h) ⟨Nat.le_of_ble_eq_true rfl, Nat.le_of_ble_eq_true rfl⟩ (Nat.le_of_ble_eq_true rfl) dX1_year_109 (fun r11 z_r11 h => ?_) ⟨Nat.le_of_ble_eq_true rfl, Nat.le_of_ble_eq_true rfl⟩
          refine cT_255_102 z_r11 (Ok.bind h) ⟨Nat.le_of_ble_eq_true rfl, Nat.le_of_ble_eq_true rfl⟩ (Nat.le_of_ble_eq_true rfl) dX1_year_112 (fun r12 h => ?_) ⟨Nat.le_of_ble_eq_true rfl, Nat.le_of_ble_eq_true rfl⟩
          refine v_i2l dX1_year_115 rfl ?_
          have h := Ok.ret h
          exact v_retX (v_lret rfl (Nat.le_of_ble_eq_true rfl) (Nat.le_of_ble_eq_true rfl) dX1_year_116 h)
        · have h := Ok.pos h c10
          refine v_ldc2 dX1_year_95 q1274 ?_
          refine v_goto (tgt := 116) dX1_year_98 rfl ?_
          have h := Ok.ret h
          exact v_retX (v_lret rfl (Nat.le_of_ble_eq_true rfl) (Nat.le_of_ble_eq_true rfl) dX1_year_116 h)
      · have h := Ok.neg h c9
        rcases Decidable.em (x2 = 3) with c13 | c13
        · have h := Ok.pos h c13
          refine v_tableIn (v := 3) (tgt := 117) dX1_year_24 c13 (by decide) (by decide) rfl rfl ?_
          refine v_aload_n 1 dX1_year_117 rfl ?_
          refine v_iload_n 2 dX1_year_118 rfl ?_
          refine v_const (x := lam_x14) (a := dA 52) (fun U hU => (klT U hU).2.1 2 (by decide)) (fun _ _ _ h => h.2) (Nat.le_of_ble_eq_true rfl) (Nat.le_of_ble_eq_true rfl) dX1_year_119 ?_
          refine cT_sum (tells_2 (lc := lc)) (Ok.bind h) ⟨Nat.le_of_ble_eq_true rfl, Nat.le_of_ble_eq_true rfl⟩ (Nat.le_of_ble_eq_true rfl) dX1_year_124 (fun r14 h => ?_) ⟨Nat.le_of_ble_eq_true rfl, Nat.le_of_ble_eq_true rfl⟩
          have h := Ok.ret h
          exact v_retX (v_lret rfl (Nat.le_of_ble_eq_true rfl) (Nat.le_of_ble_eq_true rfl) dX1_year_127 h)
        · have h := Ok.neg h c13
          rcases Decidable.em (x2 = 4) with c15 | c15
          · have h := Ok.pos h c15
            refine v_tableIn (v := 4) (tgt := 128) dX1_year_24 c15 (by decide) (by decide) rfl rfl ?_
            refine v_iload_n 0 dX1_year_128 rfl ?_
            refine v_if_ne (tgt := 136) dX1_year_129 rfl (fun c16 => ?_) (fun c16 => ?_)
            · have h := Ok.neg h c16
              refine v_aload_n 1 dX1_year_136 rfl ?_
              refine gT_X1_10_0 dX1_year_137 ?_
              refine v_iload_n 2 dX1_year_140 rfl ?_
              refine v_iload_n 0 dX1_year_141 rfl ?_
              refine v_iconst dX1_year_142 ic_1 ?_
              refine v_isub dX1_year_143 ?_
              refine cT_245_100 (Ok.bind h) ⟨Nat.le_of_ble_eq_true rfl, Nat.le_of_ble_eq_true rfl⟩ (Nat.le_of_ble_eq_true rfl) dX1_year_144 (fun r17 z_r17 h => ?_) ⟨Nat.le_of_ble_eq_true rfl, Nat.le_of_ble_eq_true rfl⟩
              refine cT_255_102 z_r17 (Ok.bind h) ⟨Nat.le_of_ble_eq_true rfl, Nat.le_of_ble_eq_true rfl⟩ (Nat.le_of_ble_eq_true rfl) dX1_year_147 (fun r18 h => ?_) ⟨Nat.le_of_ble_eq_true rfl, Nat.le_of_ble_eq_true rfl⟩
              refine v_i2l dX1_year_150 rfl ?_
              refine v_aload_n 1 dX1_year_151 rfl ?_
              refine v_iload_n 2 dX1_year_152 rfl ?_
              refine v_const (x := lam_x15) (a := dA 53) (fun U hU => (klT U hU).2.1 3 (by decide)) (fun _ _ _ h => h.2) (Nat.le_of_ble_eq_true rfl) (Nat.le_of_ble_eq_true rfl) dX1_year_153 ?_
              refine cT_sum (tells_3 (lc := lc)) (Ok.bind h) ⟨Nat.le_of_ble_eq_true rfl, Nat.le_of_ble_eq_true rfl⟩ (Nat.le_of_ble_eq_true rfl) dX1_year_158 (fun r19 h => ?_) ⟨Nat.le_of_ble_eq_true rfl, Nat.le_of_ble_eq_true rfl⟩
              refine v_lsub dX1_year_161 ?_
              have h := Ok.ret h
              exact v_retX (v_lret rfl (Nat.le_of_ble_eq_true rfl) (Nat.le_of_ble_eq_true rfl) dX1_year_162 h)
            · have h := Ok.pos h c16
              refine v_lconst dX1_year_132 kl_0 ?_
              refine v_goto (tgt := 162) dX1_year_133 rfl ?_
              have h := Ok.ret h
              exact v_retX (v_lret rfl (Nat.le_of_ble_eq_true rfl) (Nat.le_of_ble_eq_true rfl) dX1_year_162 h)
          · have h := Ok.neg h c15
            rcases Decidable.em (x2 = 5) with c20 | c20
            · have h := Ok.pos h c20
              refine v_tableIn (v := 5) (tgt := 163) dX1_year_24 c20 (by decide) (by decide) rfl rfl ?_
              refine v_aload_n 1 dX1_year_163 rfl ?_
              refine v_iload_n 2 dX1_year_164 rfl ?_
              refine v_const (x := lam_x16) (a := dA 54) (fun U hU => (klT U hU).2.1 4 (by decide)) (fun _ _ _ h => h.2) (Nat.le_of_ble_eq_true rfl) (Nat.le_of_ble_eq_true rfl) dX1_year_165 ?_
              refine cT_sum (tells_4 (lc := lc)) (Ok.bind h) ⟨Nat.le_of_ble_eq_true rfl, Nat.le_of_ble_eq_true rfl⟩ (Nat.le_of_ble_eq_true rfl) dX1_year_170 (fun r21 h => ?_) ⟨Nat.le_of_ble_eq_true rfl, Nat.le_of_ble_eq_true rfl⟩
              have h := Ok.ret h
              exact v_retX (v_lret rfl (Nat.le_of_ble_eq_true rfl) (Nat.le_of_ble_eq_true rfl) dX1_year_173 h)
            · have h := Ok.neg h c20
              have a_c5 : x2.toInt ≠ 0 := fun q => c5 (Int32.toInt_inj.mp (q.trans (by decide)))
              have a_c6 : x2.toInt ≠ 1 := fun q => c6 (Int32.toInt_inj.mp (q.trans (by decide)))
              have a_c9 : x2.toInt ≠ 2 := fun q => c9 (Int32.toInt_inj.mp (q.trans (by decide)))
              have a_c13 : x2.toInt ≠ 3 := fun q => c13 (Int32.toInt_inj.mp (q.trans (by decide)))
              have a_c15 : x2.toInt ≠ 4 := fun q => c15 (Int32.toInt_inj.mp (q.trans (by decide)))
              have a_c20 : x2.toInt ≠ 5 := fun q => c20 (Int32.toInt_inj.mp (q.trans (by decide)))
              refine v_tableOut (tgt := 174) dX1_year_24 (by omega) rfl ?_
              refine v_aload_n 1 dX1_year_174 rfl ?_
              refine v_iload_n 2 dX1_year_175 rfl ?_
              refine v_const (x := lam_x17) (a := dA 55) (fun U hU => (klT U hU).2.1 5 (by decide)) (fun _ _ _ h => h.2) (Nat.le_of_ble_eq_true rfl) (Nat.le_of_ble_eq_true rfl) dX1_year_176 ?_
              refine cT_sum (tells_5 (lc := lc)) (Ok.bind h) ⟨Nat.le_of_ble_eq_true rfl, Nat.le_of_ble_eq_true rfl⟩ (Nat.le_of_ble_eq_true rfl) dX1_year_181 (fun r22 h => ?_) ⟨Nat.le_of_ble_eq_true rfl, Nat.le_of_ble_eq_true rfl⟩
              have h := Ok.ret h
              exact v_retX (v_lret rfl (Nat.le_of_ble_eq_true rfl) (Nat.le_of_ble_eq_true rfl) dX1_year_184 h)
def fT_cover (s : tt_S3) (x1 : Int32) (x2 : Int32) (x3 : Int32) : Option ((Int32 × tt_S3) ⊕ (Nat × tt_S3)) :=
  (fT_yearOf s x1).bind fun q_r1 => orThrow q_r1 fun r1 => (fT_within r1 x2 (0 : Int32) (1000000000 : Int32)).bind fun q_r2 => orThrow q_r2 fun r2 => (fT_within r2 x3 x2 (1000000000 : Int32)).bind fun q_r3 => orThrow q_r3 fun r3 => if okO r3.2.2 then if lvLe s r3 then nm (r3.1, r3.2.1, newD r3.2.2 20 (fun j => [x3, x2].getD j 0)) fun s6 => (fT_sum (fun x => fT_lambda_cover_13 s6.1 x3 x2 x) s6 x1).bind fun r7 => some (.inl (r7.toInt32, s6)) else none else none
abbrev rmT_cover : Room := { frames := 9, cells := 4, slots := 20, locals := 3080 }
set_option maxHeartbeats 4000000 in
theorem mT_cover (l : Launch) (D : va_G) (dA : Nat → ClassId) (A : Nat → Prop) (pz : Nat) (hl9 : l.stackTraces = false) (lc : Nat → Nat → Nat) (s : tt_S3) (x1 : Int32) (x2 : Int32) (x3 : Int32) {Q : Option Value → (Nat → Nat → Nat) → tt_S3 → Prop} {QX : String → (Nat → Nat → Nat) → tt_S3 → Prop} (h : Ok (fT_cover s x1 x2 x3) (fun q => ∀ lc', tt_agr (XT l D dA A pz) s lc lc' → Sum.casesOn (motive := fun _ => Prop) q (fun r => Q (some (.int r.1)) lc' r.2) (fun e => QX (tt_exn e.1) lc' e.2))) : tt_SpX (XT l D dA A pz) yX1_cover cX1_cover 4 (some .int) rmT_cover [.ref (lc 0 0), .int x1, .int x2, .int x3] lc s Q QX := by
  refine tt_SpX.ofVn plX1 kokT (Nat.le_of_ble_eq_true rfl) ?_
  show tt_V (XT l D dA A pz) cX1_cover (RX1, 4, (some .int), rmT_cover, tt_nd yX1_cover) (tt_fx (XT l D dA A pz) (RX1, 4, (some .int), rmT_cover, tt_nd yX1_cover) Q QX) 0 [(0, .ref (lc 0 0)), (1, .int x1), (2, .int x2), (3, .int x3)] [] lc s 0 0
  unfold fT_cover at h
  refine v_aload_n 0 dX1_cover_0 rfl ?_
  refine v_iload_n 1 dX1_cover_1 rfl ?_
  refine cT_84_0 (Ok.throwsM h) hl9 (fun _ _ _ h => h.1) (fun _ h => h lc agr_rf) ⟨Nat.le_of_ble_eq_true rfl, Nat.le_of_ble_eq_true rfl⟩ (Nat.le_of_ble_eq_true rfl) dX1_cover_2 (fun r1 h => ?_) ⟨Nat.le_of_ble_eq_true rfl, Nat.le_of_ble_eq_true rfl⟩
  refine v_aload_n 0 dX1_cover_5 rfl ?_
  refine v_iload_n 2 dX1_cover_6 rfl ?_
  refine v_iconst dX1_cover_7 ic_0 ?_
  refine v_ldc dX1_cover_8 q1115 ?_
  refine cT_80_0 (Ok.throwsM h) hl9 (fun _ _ _ h => h.1) (fun _ h => h lc agr_rf) ⟨Nat.le_of_ble_eq_true rfl, Nat.le_of_ble_eq_true rfl⟩ (Nat.le_of_ble_eq_true rfl) dX1_cover_10 (fun r2 h => ?_) ⟨Nat.le_of_ble_eq_true rfl, Nat.le_of_ble_eq_true rfl⟩
  refine v_aload_n 0 dX1_cover_13 rfl ?_
  refine v_iload_n 3 dX1_cover_14 rfl ?_
  refine v_iload_n 2 dX1_cover_15 rfl ?_
  refine v_ldc dX1_cover_16 q1115 ?_
  refine cT_80_0 (Ok.throwsM h) hl9 (fun _ _ _ h => h.1) (fun _ h => h lc agr_rf) ⟨Nat.le_of_ble_eq_true rfl, Nat.le_of_ble_eq_true rfl⟩ (Nat.le_of_ble_eq_true rfl) dX1_cover_18 (fun r3 h => ?_) ⟨Nat.le_of_ble_eq_true rfl, Nat.le_of_ble_eq_true rfl⟩
  refine v_aload_n 0 dX1_cover_21 rfl ?_
  refine v_iload_n 1 dX1_cover_22 rfl ?_
  refine v_iload_n 3 dX1_cover_23 rfl ?_
  refine v_iload_n 2 dX1_cover_24 rfl ?_
  obtain ⟨g4, h⟩ := Ok.guard h
  obtain ⟨g5, h⟩ := Ok.guard h
  refine nT_D (tag := 20) [x3, x2] g4 rfl rfl (fun U hU => (klT U hU).2.1 0 (by decide)) lam_i18 (fun _ _ _ h => h.2) rfl (Nat.le_of_ble_eq_true rfl) (Nat.le_of_ble_eq_true rfl) ⟨Nat.le_of_ble_eq_true rfl, Nat.le_of_ble_eq_true rfl⟩ dX1_cover_25 (fun lc hc => ?_)
  rw [← hc 0 0 (.inl lvT_0)]
  have h := Ok.agr h hc (lvLe_mono g5)
  refine v_nmS (fun s6 e_s6 => ?_)
  have h := Ok.nm h e_s6
  refine cT_sum (tells_0 e_s6) (Ok.bind h) ⟨Nat.le_of_ble_eq_true rfl, Nat.le_of_ble_eq_true rfl⟩ (Nat.le_of_ble_eq_true rfl) dX1_cover_30 (fun r7 h => ?_) ⟨Nat.le_of_ble_eq_true rfl, Nat.le_of_ble_eq_true rfl⟩
  refine v_l2i dX1_cover_33 rfl ?_
  have h := Ok.ret h
  exact v_retX (v_iret rfl (Nat.le_of_ble_eq_true rfl) (Nat.le_of_ble_eq_true rfl) dX1_cover_34 (h lc agr_rf))
def fT_strongest_L14 (r1 : tt_S3) (a2 : Int32 × Int64 × Int32) : Option ((Int32 × Int64 × Int32) ⊕ (Int32 × Int64 × Int32)) :=
  if (12 : Int32) ≤ a2.2.2 then some (.inr (a2.1, a2.2.1, a2.2.2)) else (fT_sum (fun x => fT_lambda_strongest_14 r1.1 x) r1 a2.2.2).bind fun r5 => if a2.2.1 < r5 then some (.inl (a2.2.2, r5, (a2.2.2 + 1 : Int32))) else some (.inl (a2.1, a2.2.1, (a2.2.2 + 1 : Int32)))
def fT_strongest (s : tt_S3) (x1 : Int32) : Option ((Int64 × tt_S3) ⊕ (Nat × tt_S3)) :=
  (fT_within s x1 (0 : Int32) (1 : Int32)).bind fun q_r1 => orThrow q_r1 fun r1 => (itr (fT_strongest_L14 r1) tt_fuel ((-1 : Int32), (0 : Int64), (0 : Int32))).bind fun b3 => if x1 = 0 then some (.inl (b3.1.toInt64, r1)) else some (.inl (b3.2.1, r1))
abbrev rmT_strongest : Room := { frames := 8, cells := 1, slots := 6, locals := 3080 }
set_option maxHeartbeats 4000000 in
theorem mT_strongest (l : Launch) (D : va_G) (dA : Nat → ClassId) (A : Nat → Prop) (pz : Nat) (hl9 : l.stackTraces = false) (lc : Nat → Nat → Nat) (s : tt_S3) (x1 : Int32) {Q : Option Value → (Nat → Nat → Nat) → tt_S3 → Prop} {QX : String → (Nat → Nat → Nat) → tt_S3 → Prop} (h : Ok (fT_strongest s x1) (fun q => Sum.casesOn (motive := fun _ => Prop) q (fun r => Q (some (.long r.1)) lc r.2) (fun e => QX (tt_exn e.1) lc e.2))) : tt_SpX (XT l D dA A pz) yX1_strongest cX1_strongest 8 (some .long) rmT_strongest [.ref (lc 0 0), .int x1] lc s Q QX := by
  refine tt_SpX.ofVn plX1 kokT (Nat.le_of_ble_eq_true rfl) ?_
  show tt_V (XT l D dA A pz) cX1_strongest (RX1, 8, (some .long), rmT_strongest, tt_nd yX1_strongest) (tt_fx (XT l D dA A pz) (RX1, 8, (some .long), rmT_strongest, tt_nd yX1_strongest) Q QX) 0 [(0, .ref (lc 0 0)), (1, .int x1)] [] lc s 0 0
  unfold fT_strongest at h
  refine v_aload_n 0 dX1_strongest_0 rfl ?_
  refine v_iload_n 1 dX1_strongest_1 rfl ?_
  refine v_iconst dX1_strongest_2 ic_0 ?_
  refine v_iconst dX1_strongest_3 ic_1 ?_
  refine cT_80_0 (Ok.throws h) hl9 (fun _ _ _ h => h.1) (fun _ h => h) ⟨Nat.le_of_ble_eq_true rfl, Nat.le_of_ble_eq_true rfl⟩ (Nat.le_of_ble_eq_true rfl) dX1_strongest_4 (fun r1 h => ?_) ⟨Nat.le_of_ble_eq_true rfl, Nat.le_of_ble_eq_true rfl⟩
  refine v_iconst dX1_strongest_7 ic_m1 ?_
  refine v_istore_n [(2, .int (-1 : Int32)), (0, .ref (lc 0 0)), (1, .int x1)] dX1_strongest_8 (Nat.le_of_ble_eq_true rfl) rfl ?_
  refine v_lconst dX1_strongest_9 kl_0 ?_
  refine v_lstore_n [(3, .long (0 : Int64)), (2, .int (-1 : Int32)), (0, .ref (lc 0 0)), (1, .int x1)] dX1_strongest_10 (Nat.le_of_ble_eq_true rfl) rfl ?_
  refine v_iconst dX1_strongest_11 ic_0 ?_
  refine v_istore [(5, .int (0 : Int32)), (3, .long (0 : Int64)), (2, .int (-1 : Int32)), (0, .ref (lc 0 0)), (1, .int x1)] dX1_strongest_12 (Nat.le_of_ble_eq_true rfl) rfl ?_
  refine v_sub [3, 4, 2, 1, 0] rfl ?_
  refine itr_loop (P := fun a2 : Int32 × Int64 × Int32 => tt_V (XT l D dA A pz) cX1_strongest (RX1, 8, (some .long), rmT_strongest, tt_nd yX1_strongest) (tt_fx (XT l D dA A pz) (RX1, 8, (some .long), rmT_strongest, tt_nd yX1_strongest) Q QX) 14 [(0, .ref (lc 0 0)), (1, .int x1), (2, .int a2.1), (3, .long a2.2.1), (5, .int a2.2.2)] [] lc r1 1 6) (PE := fun b3 : Int32 × Int64 × Int32 => tt_V (XT l D dA A pz) cX1_strongest (RX1, 8, (some .long), rmT_strongest, tt_nd yX1_strongest) (tt_fx (XT l D dA A pz) (RX1, 8, (some .long), rmT_strongest, tt_nd yX1_strongest) Q QX) 56 [(0, .ref (lc 0 0)), (1, .int x1), (2, .int b3.1), (3, .long b3.2.1), (5, .int b3.2.2)] [] lc r1 1 6) h (fun b3 h => ?_) (fun a2 h => ?_)
  · refine v_iload_n 1 dX1_strongest_56 rfl ?_
    refine v_if_ne (tgt := 65) dX1_strongest_57 rfl (fun c7 => ?_) (fun c7 => ?_)
    · have h := Ok.neg h c7
      refine v_lload_n 3 dX1_strongest_65 rfl ?_
      have h := Ok.ret h
      exact v_retX (v_lret rfl (Nat.le_of_ble_eq_true rfl) (Nat.le_of_ble_eq_true rfl) dX1_strongest_66 h)
    · have h := Ok.pos h c7
      refine v_iload_n 2 dX1_strongest_60 rfl ?_
      refine v_i2l dX1_strongest_61 rfl ?_
      refine v_goto (tgt := 66) dX1_strongest_62 rfl ?_
      have h := Ok.ret h
      exact v_retX (v_lret rfl (Nat.le_of_ble_eq_true rfl) (Nat.le_of_ble_eq_true rfl) dX1_strongest_66 h)
  · have h : Ok (fT_strongest_L14 r1 a2) _ := h
    unfold fT_strongest_L14 at h
    refine v_iload 4 dX1_strongest_14 rfl ?_
    refine v_bipush dX1_strongest_16 kb_12 ?_
    refine v_icmp_ge (tgt := 56) dX1_strongest_18 rfl (fun c4 => ?_) (fun c4 => ?_)
    · have h := Ok.pos h c4
      have h := Ok.ret h
      exact h
    · have h := Ok.neg h c4
      refine v_aload_n 0 dX1_strongest_21 rfl ?_
      refine v_iload 4 dX1_strongest_22 rfl ?_
      refine v_const (x := lam_x19) (a := dA 56) (fun U hU => (klT U hU).2.1 6 (by decide)) (fun _ _ _ h => h.2) (Nat.le_of_ble_eq_true rfl) (Nat.le_of_ble_eq_true rfl) dX1_strongest_24 ?_
      refine cT_sum (tells_6 (lc := lc)) (Ok.bind h) ⟨Nat.le_of_ble_eq_true rfl, Nat.le_of_ble_eq_true rfl⟩ (Nat.le_of_ble_eq_true rfl) dX1_strongest_29 (fun r5 h => ?_) ⟨Nat.le_of_ble_eq_true rfl, Nat.le_of_ble_eq_true rfl⟩
      refine v_lstore [(6, .long r5), (0, .ref (lc 0 0)), (1, .int x1), (2, .int a2.1), (3, .long a2.2.1), (5, .int a2.2.2)] dX1_strongest_32 (Nat.le_of_ble_eq_true rfl) rfl ?_
      refine v_lload 0 dX1_strongest_34 rfl ?_
      refine v_lload_n 4 dX1_strongest_36 rfl ?_
      refine v_lif_gt (tgt := 44) dX1_strongest_37 dX1_strongest_38 rfl (fun c6 => ?_) (fun c6 => ?_)
      · have h := Ok.pos h c6
        refine v_iload 5 dX1_strongest_44 rfl ?_
        refine v_istore_n [(2, .int a2.2.2), (6, .long r5), (0, .ref (lc 0 0)), (1, .int x1), (3, .long a2.2.1), (5, .int a2.2.2)] dX1_strongest_46 (Nat.le_of_ble_eq_true rfl) rfl ?_
        refine v_lload 1 dX1_strongest_47 rfl ?_
        refine v_lstore_n [(3, .long r5), (2, .int a2.2.2), (6, .long r5), (0, .ref (lc 0 0)), (1, .int x1), (5, .int a2.2.2)] dX1_strongest_49 (Nat.le_of_ble_eq_true rfl) rfl ?_
        refine v_iinc (v := (a2.2.2 + 1 : Int32)) 5 [(5, .int (a2.2.2 + 1 : Int32)), (3, .long r5), (2, .int a2.2.2), (6, .long r5), (0, .ref (lc 0 0)), (1, .int x1)] dX1_strongest_50 rfl (by rw [ic_1]) (Nat.le_of_ble_eq_true rfl) rfl ?_
        refine v_goto (tgt := 14) dX1_strongest_53 rfl ?_
        refine v_sub [4, 5, 2, 1, 0] rfl ?_
        have h := Ok.ret h
        exact h
      · have h := Ok.neg h c6
        refine v_goto (tgt := 50) dX1_strongest_41 rfl ?_
        refine v_iinc (v := (a2.2.2 + 1 : Int32)) 5 [(5, .int (a2.2.2 + 1 : Int32)), (6, .long r5), (0, .ref (lc 0 0)), (1, .int x1), (2, .int a2.1), (3, .long a2.2.1)] dX1_strongest_50 rfl (by rw [ic_1]) (Nat.le_of_ble_eq_true rfl) rfl ?_
        refine v_goto (tgt := 14) dX1_strongest_53 rfl ?_
        refine v_sub [2, 3, 4, 5, 0] rfl ?_
        have h := Ok.ret h
        exact h
def fT_holds (s : tt_S3) (x1 : Int32) (x2 : Int32) (x3 : Int32) : Option ((Int32 × tt_S3) ⊕ (Nat × tt_S3)) :=
  (fT_insurerOf s x1).bind fun q_r1 => orThrow q_r1 fun r1 => (fT_yearOf r1 x2).bind fun q_r2 => orThrow q_r2 fun r2 => (fT_within r2 x3 (0 : Int32) (1000000000 : Int32)).bind fun q_r3 => orThrow q_r3 fun r3 => if okO r3.2.2 then if lvLe s r3 then nm (r3.1, r3.2.1, newD r3.2.2 21 (fun j => [x3, x1].getD j 0)) fun s6 => (fT_sum (fun x => fT_lambda_holds_15 s6.1 x3 x1 x) s6 x2).bind fun r7 => some (.inl (r7.toInt32, s6)) else none else none
abbrev rmT_holds : Room := { frames := 9, cells := 4, slots := 20, locals := 3080 }
set_option maxHeartbeats 4000000 in
theorem mT_holds (l : Launch) (D : va_G) (dA : Nat → ClassId) (A : Nat → Prop) (pz : Nat) (hl9 : l.stackTraces = false) (lc : Nat → Nat → Nat) (s : tt_S3) (x1 : Int32) (x2 : Int32) (x3 : Int32) {Q : Option Value → (Nat → Nat → Nat) → tt_S3 → Prop} {QX : String → (Nat → Nat → Nat) → tt_S3 → Prop} (h : Ok (fT_holds s x1 x2 x3) (fun q => ∀ lc', tt_agr (XT l D dA A pz) s lc lc' → Sum.casesOn (motive := fun _ => Prop) q (fun r => Q (some (.int r.1)) lc' r.2) (fun e => QX (tt_exn e.1) lc' e.2))) : tt_SpX (XT l D dA A pz) yX1_holds cX1_holds 4 (some .int) rmT_holds [.ref (lc 0 0), .int x1, .int x2, .int x3] lc s Q QX := by
  refine tt_SpX.ofVn plX1 kokT (Nat.le_of_ble_eq_true rfl) ?_
  show tt_V (XT l D dA A pz) cX1_holds (RX1, 4, (some .int), rmT_holds, tt_nd yX1_holds) (tt_fx (XT l D dA A pz) (RX1, 4, (some .int), rmT_holds, tt_nd yX1_holds) Q QX) 0 [(0, .ref (lc 0 0)), (1, .int x1), (2, .int x2), (3, .int x3)] [] lc s 0 0
  unfold fT_holds at h
  refine v_aload_n 0 dX1_holds_0 rfl ?_
  refine v_iload_n 1 dX1_holds_1 rfl ?_
  refine cT_121_0 (Ok.throwsM h) hl9 (fun _ _ _ h => h.1) (fun _ h => h lc agr_rf) ⟨Nat.le_of_ble_eq_true rfl, Nat.le_of_ble_eq_true rfl⟩ (Nat.le_of_ble_eq_true rfl) dX1_holds_2 (fun r1 h => ?_) ⟨Nat.le_of_ble_eq_true rfl, Nat.le_of_ble_eq_true rfl⟩
  refine v_aload_n 0 dX1_holds_5 rfl ?_
  refine v_iload_n 2 dX1_holds_6 rfl ?_
  refine cT_84_0 (Ok.throwsM h) hl9 (fun _ _ _ h => h.1) (fun _ h => h lc agr_rf) ⟨Nat.le_of_ble_eq_true rfl, Nat.le_of_ble_eq_true rfl⟩ (Nat.le_of_ble_eq_true rfl) dX1_holds_7 (fun r2 h => ?_) ⟨Nat.le_of_ble_eq_true rfl, Nat.le_of_ble_eq_true rfl⟩
  refine v_aload_n 0 dX1_holds_10 rfl ?_
  refine v_iload_n 3 dX1_holds_11 rfl ?_
  refine v_iconst dX1_holds_12 ic_0 ?_
  refine v_ldc dX1_holds_13 q1115 ?_
  refine cT_80_0 (Ok.throwsM h) hl9 (fun _ _ _ h => h.1) (fun _ h => h lc agr_rf) ⟨Nat.le_of_ble_eq_true rfl, Nat.le_of_ble_eq_true rfl⟩ (Nat.le_of_ble_eq_true rfl) dX1_holds_15 (fun r3 h => ?_) ⟨Nat.le_of_ble_eq_true rfl, Nat.le_of_ble_eq_true rfl⟩
  refine v_aload_n 0 dX1_holds_18 rfl ?_
  refine v_iload_n 2 dX1_holds_19 rfl ?_
  refine v_iload_n 3 dX1_holds_20 rfl ?_
  refine v_iload_n 1 dX1_holds_21 rfl ?_
  obtain ⟨g4, h⟩ := Ok.guard h
  obtain ⟨g5, h⟩ := Ok.guard h
  refine nT_D (tag := 21) [x3, x1] g4 rfl rfl (fun U hU => (klT U hU).2.1 1 (by decide)) lam_i20 (fun _ _ _ h => h.2) rfl (Nat.le_of_ble_eq_true rfl) (Nat.le_of_ble_eq_true rfl) ⟨Nat.le_of_ble_eq_true rfl, Nat.le_of_ble_eq_true rfl⟩ dX1_holds_22 (fun lc hc => ?_)
  rw [← hc 0 0 (.inl lvT_0)]
  have h := Ok.agr h hc (lvLe_mono g5)
  refine v_nmS (fun s6 e_s6 => ?_)
  have h := Ok.nm h e_s6
  refine cT_sum (tells_1 e_s6) (Ok.bind h) ⟨Nat.le_of_ble_eq_true rfl, Nat.le_of_ble_eq_true rfl⟩ (Nat.le_of_ble_eq_true rfl) dX1_holds_27 (fun r7 h => ?_) ⟨Nat.le_of_ble_eq_true rfl, Nat.le_of_ble_eq_true rfl⟩
  refine v_l2i dX1_holds_30 rfl ?_
  have h := Ok.ret h
  exact v_retX (v_iret rfl (Nat.le_of_ble_eq_true rfl) (Nat.le_of_ble_eq_true rfl) dX1_holds_31 (h lc agr_rf))
def fT_has (s : tt_S3) (x1 : Int32) : Option ((tt_S3) ⊕ (Nat × tt_S3)) :=
  if x1 = 0 then if inB (2 : Int32) 3 then nm (s.1, s.2.1, wrI s.2.2 9 0 (2 : Int32).toNatClampNeg ((rdI s.2.2 9 0 (2 : Int32).toNatClampNeg) + (1 : Int32))) fun s3 => some (.inr (2, s3)) else none else some (.inl s)
abbrev rmT_has : Room := { frames := 7, cells := 1, slots := 6, locals := 117 }
set_option maxHeartbeats 4000000 in
theorem mT_has (l : Launch) (D : va_G) (dA : Nat → ClassId) (A : Nat → Prop) (pz : Nat) (hl9 : l.stackTraces = false) (lc : Nat → Nat → Nat) (s : tt_S3) (x1 : Int32) {Q : Option Value → (Nat → Nat → Nat) → tt_S3 → Prop} {QX : String → (Nat → Nat → Nat) → tt_S3 → Prop} (h : Ok (fT_has s x1) (fun q => Sum.casesOn (motive := fun _ => Prop) q (fun r => Q none lc r) (fun e => QX (tt_exn e.1) lc e.2))) : tt_SpX (XT l D dA A pz) yX1_has cX1_has 2 none rmT_has [.ref (lc 0 0), .int x1] lc s Q QX := by
  refine tt_SpX.ofV plX1 kokT (Nat.le_of_ble_eq_true rfl) ?_
  show tt_V (XT l D dA A pz) cX1_has (RX1, 2, none, rmT_has, tt_ne) (tt_fx (XT l D dA A pz) (RX1, 2, none, rmT_has, tt_ne) Q QX) 0 [(0, .ref (lc 0 0)), (1, .int x1)] [] lc s 0 0
  unfold fT_has at h
  refine v_iload_n 1 dX1_has_0 rfl ?_
  refine v_if_eq (tgt := 5) dX1_has_1 rfl (fun c1 => ?_) (fun c1 => ?_)
  · have h := Ok.pos h c1
    refine v_aload_n 0 dX1_has_5 rfl ?_
    refine gT_X1_45_0 dX1_has_6 ?_
    refine v_iconst dX1_has_9 ic_2 ?_
    refine v_dup2_11 dX1_has_10 rfl rfl ?_
    obtain ⟨g2, h⟩ := Ok.guard h
    refine lT_9 g2 dX1_has_11 ?_
    refine v_iconst dX1_has_12 ic_1 ?_
    refine v_iadd dX1_has_13 ?_
    refine sT_9 g2 dX1_has_14 ?_
    refine v_nmS (fun s3 e_s3 => ?_)
    have h := Ok.nm h e_s3
    have h := Ok.ret h
    exact v_throw0 (names := ["java/lang/RuntimeException", "java/lang/Exception"]) hl9 (by decide +kernel) thN q981 q155 knT thW_2 thG_2 kzT (fun _ _ _ h => h) dX1_has_15 dX1_has_18 dX1_has_19 dX1_has_22 (Nat.le_of_ble_eq_true rfl) (Nat.le_of_ble_eq_true rfl) (Nat.le_of_ble_eq_true rfl) (Nat.le_of_ble_eq_true rfl) h
  · have h := Ok.neg h c1
    have h := Ok.ret h
    exact v_retX (v_vret rfl (Nat.le_of_ble_eq_true rfl) (Nat.le_of_ble_eq_true rfl) dX1_has_4 h)
theorem cT_102_0 {l : Launch} {D : va_G} {dA : Nat → ClassId} {A : Nat → Prop} {pz : Nat} {lc : Nat → Nat → Nat} {s : tt_S3} {cc : ByteArray} {nl : Nat} {rt : Option FieldType} {rm : Room} {tn : tt_Tn} {Q : Option Value → (Nat → Nat → Nat) → tt_S3 → Prop} {QX : String → (Nat → Nat → Nat) → tt_S3 → Prop} {pc : Nat} {lv : List (Nat × Value)} {rest : List Value} {ck cn : Nat} {x1 : Int32} {K : tt_S3 → Prop} {K2 : Nat × tt_S3 → Prop} (h : Ok (fT_has s x1) (fun q => Sum.casesOn (motive := fun _ => Prop) q K K2)) (hl9 : l.stackTraces = false) (hTb : ∀ c m s0, tn c m s0 → tt_ne c m s0) (kx : ∀ e : Nat × tt_S3, K2 e → QX (tt_exn e.1) lc e.2) (hR : 7 + 1 ≤ rm.frames ∧ 8 + (2 + 11) + 117 ≤ rm.locals) (hW : (rest.map fun v => v.category).sum ≤ 8) (d : decode cc pc = .ok (.invokevirtual 102, 3)) (kk : ∀ r, K r → tt_V (XT l D dA A pz) cc (RX1, nl, rt, rm, tn) (tt_fx (XT l D dA A pz) (RX1, nl, rt, rm, tn) Q QX) (pc + 3) lv rest lc r (ck + 1) (cn + 6)) (hf : ck + 1 ≤ rm.cells ∧ cn + 6 ≤ rm.slots) : tt_V (XT l D dA A pz) cc (RX1, nl, rt, rm, tn) (tt_fx (XT l D dA A pz) (RX1, nl, rt, rm, tn) Q QX) pc lv (.int x1 :: .ref (lc 0 0) :: rest) lc s ck cn :=
  v_callVX (kd := 0) (i := 0) (nA := 1) (As := [.int x1]) lvT_0 oT_0 rfl (mT_has l D dA A pz hl9 lc s x1 (Q := (fun v lc' s' => ∃ r, K r ∧ v = none ∧ lc' = lc ∧ s' = r)) (QX := fun E lc' s' => ∃ e : Nat × tt_S3, K2 e ∧ E = tt_exn e.1 ∧ lc' = lc ∧ s' = e.2) (h.mono (fun q hq => by cases q with
    | inl r => exact (fun hr => ⟨r, hr, rfl, rfl, rfl⟩) hq
    | inr e => exact ⟨e, hq, rfl, rfl, rfl⟩))) (lw_V q977 q979 qs21 q127 q980) (by decide +kernel) rfl hR hW hf hTb d rfl (fun E lc' s' q => by obtain ⟨e, hq, e1, e2, e3⟩ := q; rw [e1, e2, e3]; exact kx e hq) (fun v lc' s' q => by obtain ⟨r, hr, e1, e2, e3⟩ := q; rw [e1, e2, e3]; exact kk r hr)
theorem pT_E_7 {l : Launch} {D : va_G} {dA : Nat → ClassId} {A : Nat → Prop} {pz : Nat} {lc : Nat → Nat → Nat} {s : tt_S3} {cc : ByteArray} {nl : Nat} {rt : Option FieldType} {rm : Room} {tn : tt_Tn} {Q : tt_Fin} {pc : Nat} {lv : List (Nat × Value)} {rest : List Value} {ck cn : Nat} {i : Nat} (hv : i < rdN s.2.2 2) (hnm : ∀ c m s0, tn c m s0 → s0.methodNamed? yX12_init = some m) {x : Int32} (d : decode cc pc = .ok (.putfield 7, 3)) (kk : tt_V (XT l D dA A pz) cc (RX12, nl, rt, rm, tn) Q (pc + 3) lv rest lc (s.1, s.2.1, wrI s.2.2 2 i 0 x) ck cn) : tt_V (XT l D dA A pz) cc (RX12, nl, rt, rm, tn) Q pc lv (.int x :: .ref (lc 2 i) :: rest) lc s ck cn := v_putF (y := yX12_init) (s' := (s.1, s.2.1, wrI s.2.2 2 i 0 x)) (p := 0) hnm rfl (lvT_2 hv) oT_2 (by rw [oT_2]; simp [rdI_wrI, rdI_wrR, rdR_wrR, rdR_wrI, va_rf]) (fun kd' i' h => eT_own (fun _ => tt_own_wrI h)) (fun _ _ z => z) rfl in_X12 tyX12 tyX12_ok nmX12 (by decide) q1001 (.inl rfl) rfl rfl rfl rfl (Nat.le_of_ble_eq_true rfl) d kk
theorem pT_E_13 {l : Launch} {D : va_G} {dA : Nat → ClassId} {A : Nat → Prop} {pz : Nat} {lc : Nat → Nat → Nat} {s : tt_S3} {cc : ByteArray} {nl : Nat} {rt : Option FieldType} {rm : Room} {tn : tt_Tn} {Q : tt_Fin} {pc : Nat} {lv : List (Nat × Value)} {rest : List Value} {ck cn : Nat} {i : Nat} (hv : i < rdN s.2.2 2) (hnm : ∀ c m s0, tn c m s0 → s0.methodNamed? yX12_init = some m) {x : Int32} (d : decode cc pc = .ok (.putfield 13, 3)) (kk : tt_V (XT l D dA A pz) cc (RX12, nl, rt, rm, tn) Q (pc + 3) lv rest lc (s.1, s.2.1, wrI s.2.2 2 i 1 x) ck cn) : tt_V (XT l D dA A pz) cc (RX12, nl, rt, rm, tn) Q pc lv (.int x :: .ref (lc 2 i) :: rest) lc s ck cn := v_putF (y := yX12_init) (s' := (s.1, s.2.1, wrI s.2.2 2 i 1 x)) (p := 1) hnm rfl (lvT_2 hv) oT_2 (by rw [oT_2]; simp [rdI_wrI, rdI_wrR, rdR_wrR, rdR_wrI, va_rf]) (fun kd' i' h => eT_own (fun _ => tt_own_wrI h)) (fun _ _ z => z) rfl in_X12 tyX12 tyX12_ok nmX12 (by decide) q1003 (.inl rfl) rfl rfl rfl rfl (Nat.le_of_ble_eq_true rfl) d kk
theorem pT_E_16 {l : Launch} {D : va_G} {dA : Nat → ClassId} {A : Nat → Prop} {pz : Nat} {lc : Nat → Nat → Nat} {s : tt_S3} {cc : ByteArray} {nl : Nat} {rt : Option FieldType} {rm : Room} {tn : tt_Tn} {Q : tt_Fin} {pc : Nat} {lv : List (Nat × Value)} {rest : List Value} {ck cn : Nat} {i : Nat} (hv : i < rdN s.2.2 2) (hnm : ∀ c m s0, tn c m s0 → s0.methodNamed? yX12_init = some m) {x : Nat} (d : decode cc pc = .ok (.putfield 16, 3)) (kk : tt_V (XT l D dA A pz) cc (RX12, nl, rt, rm, tn) Q (pc + 3) lv rest lc (s.1, s.2.1, wrR s.2.2 2 i 2 (some x)) ck cn) : tt_V (XT l D dA A pz) cc (RX12, nl, rt, rm, tn) Q pc lv (.ref (lc 3 x) :: .ref (lc 2 i) :: rest) lc s ck cn := v_putF (y := yX12_init) (s' := (s.1, s.2.1, wrR s.2.2 2 i 2 (some x))) (p := 2) hnm rfl (lvT_2 hv) oT_2 (by rw [oT_2]; simp [rdI_wrI, rdI_wrR, rdR_wrR, rdR_wrI, va_rf]) (fun kd' i' h => eT_own (fun _ => tt_own_wrR h)) (fun _ _ z => z) rfl in_X12 tyX12 tyX12_ok nmX12 (by decide) q1005 (.inl rfl) rfl rfl rfl rfl (Nat.le_of_ble_eq_true rfl) d kk
def fT_init (s : tt_S3) (x0 : Nat) (x1 : Int32) (x2 : Int32) (x3 : Nat) : Option (tt_S3) :=
  nm (s.1, s.2.1, wrI s.2.2 2 x0 0 x1) fun s1 => if x0 < rdN s1.2.2 2 then nm (s1.1, s1.2.1, wrI s1.2.2 2 x0 1 x2) fun s3 => if x3 < rdN s3.2.2 3 then if x0 < rdN s3.2.2 2 then nm (s3.1, s3.2.1, wrR s3.2.2 2 x0 2 (some x3)) fun s6 => some s6 else none else none else none
abbrev rmT_init : Room := { frames := 1, cells := 0, slots := 0, locals := 20 }
set_option maxHeartbeats 4000000 in
theorem mT_init (l : Launch) (D : va_G) (dA : Nat → ClassId) (A : Nat → Prop) (pz : Nat) (lc : Nat → Nat → Nat) (s : tt_S3) (x0 : Nat) (x1 : Int32) (x2 : Int32) (x3 : Nat) (hx0 : x0 < rdN s.2.2 2) (hx3 : x3 < rdN s.2.2 3) {Q : Option Value → (Nat → Nat → Nat) → tt_S3 → Prop} (h : Ok (fT_init s x0 x1 x2 x3) (fun r => Q none lc r)) : tt_Sp (XT l D dA A pz) yX12_init cX12_init 4 none rmT_init [.ref (lc 2 x0), .int x1, .int x2, .ref (lc 3 x3)] lc s Q := by
  refine tt_Sp.ofVn plX12 kokT (Nat.le_of_ble_eq_true rfl) ?_
  show tt_V (XT l D dA A pz) cX12_init (RX12, 4, none, rmT_init, tt_nw yX12_init) (tt_fn (XT l D dA A pz) (RX12, 4, none, rmT_init, tt_nw yX12_init) Q) 0 [(0, .ref (lc 2 x0)), (1, .int x1), (2, .int x2), (3, .ref (lc 3 x3))] [] lc s 0 0
  unfold fT_init at h
  refine v_aload_n 0 dX12_init_0 rfl ?_
  refine v_objInit q1000 q166 q167 (Nat.le_of_ble_eq_true rfl) (Nat.le_of_ble_eq_true rfl) (Nat.le_of_ble_eq_true rfl) dX12_init_1 ?_
  refine v_aload_n 0 dX12_init_4 rfl ?_
  refine v_iload_n 1 dX12_init_5 rfl ?_
  refine pT_E_7 hx0 (fun _ _ _ h => h) dX12_init_6 ?_
  refine v_nmS (fun s1 e_s1 => ?_)
  have h := Ok.nm h e_s1
  refine v_aload_n 0 dX12_init_9 rfl ?_
  refine v_iload_n 2 dX12_init_10 rfl ?_
  obtain ⟨g2, h⟩ := Ok.guard h
  refine pT_E_13 g2 (fun _ _ _ h => h) dX12_init_11 ?_
  refine v_nmS (fun s3 e_s3 => ?_)
  have h := Ok.nm h e_s3
  refine v_aload_n 0 dX12_init_14 rfl ?_
  refine v_aload_n 3 dX12_init_15 rfl ?_
  obtain ⟨g4, h⟩ := Ok.guard h
  obtain ⟨g5, h⟩ := Ok.guard h
  refine pT_E_16 g5 (fun _ _ _ h => h) dX12_init_16 ?_
  refine v_nmS (fun s6 e_s6 => ?_)
  have h := Ok.nm h e_s6
  have h := Ok.ret h
  exact v_vret rfl (Nat.le_of_ble_eq_true rfl) (Nat.le_of_ble_eq_true rfl) dX12_init_19 h
theorem cT_init {l : Launch} {D : va_G} {dA : Nat → ClassId} {A : Nat → Prop} {pz : Nat} {lc : Nat → Nat → Nat} {s : tt_S3} {cc : ByteArray} {nl : Nat} {rt : Option FieldType} {rm : Room} {tn : tt_Tn} {Q : tt_Fin} {pc : Nat} {lv : List (Nat × Value)} {rest : List Value} {ck cn : Nat} {x0 : Nat} {x1 x2 : Int32} {x3 : Nat} (hx0 : x0 < rdN s.2.2 2) (hx3 : x3 < rdN s.2.2 3) {K : tt_S3 → Prop} (h : Ok (fT_init s x0 x1 x2 x3) K) (hR : 1 + 1 ≤ rm.frames ∧ 8 + (4 + 11) + 20 ≤ rm.locals) (hW : (rest.map fun v => v.category).sum ≤ 8) (d : decode cc pc = .ok (.invokespecial 106, 3)) (kk : ∀ r, K r → tt_V (XT l D dA A pz) cc (RX1, nl, rt, rm, tn) Q (pc + 3) lv rest lc r (ck + 0) (cn + 0)) (hf : ck + 0 ≤ rm.cells ∧ cn + 0 ≤ rm.slots) : tt_V (XT l D dA A pz) cc (RX1, nl, rt, rm, tn) Q pc lv (.ref (lc 3 x3) :: .int x2 :: .int x1 :: .ref (lc 2 x0) :: rest) lc s ck cn :=
  v_callI (nA := 3) (As := [.int x1, .int x2, .ref (lc 3 x3)]) (mT_init l D dA A pz lc s x0 x1 x2 x3 hx0 hx3 (Q := (fun v lc' s' => ∃ r, K r ∧ v = none ∧ lc' = lc ∧ s' = r)) (h.mono (fun r hr => ⟨r, hr, rfl, rfl, rfl⟩))) (lw_meth q999) q156 q997 q998 rfl (by decide +kernel) rfl hR hW hf d rfl (fun v lc' s' q => by obtain ⟨r, hr, e1, e2, e3⟩ := q; rw [e1, e2, e3]; exact kk r hr)
def fT_done (s : tt_S3) (x1 : Int32) (x2 : Int32) (x3 : Nat) : Option ((tt_S3) ⊕ (Nat × tt_S3)) :=
  (if (160 : Int32) ≤ (rdI s.2.2 0 0 7) then some ((0 : Int32), s) else (fT_on s.2.2 s.1 x3).bind fun r3 => if r3.1 = 0 then some ((0 : Int32), (r3.2, s.2)) else some ((1 : Int32), (r3.2, s.2)) : Option (Int32 × tt_S3)).bind fun t1 => (fT_has t1.2 t1.1).bind fun q_r5 => orThrow q_r5 fun r5 => nm (r5.1, r5.2.1, wrI r5.2.2 0 0 7 ((rdI r5.2.2 0 0 7) + (1 : Int32))) fun s6 => if x3 < rdN s6.2.2 3 then if okO s6.2.2 then if lvLe s s6 then nm (s6.1, s6.2.1, newE s6.2.2) fun s10 => if (rdN s6.2.2 2) < rdN s10.2.2 2 then if x3 < rdN s10.2.2 3 then (fT_init s10 (rdN s6.2.2 2) x1 x2 x3).bind fun r13 => if (rdN s6.2.2 2) < rdN r13.2.2 2 then if inB (rdI r5.2.2 0 0 7) 160 then nm (r13.1, r13.2.1, wrR r13.2.2 1 0 (rdI r5.2.2 0 0 7).toNatClampNeg (some (rdN s6.2.2 2))) fun s16 => some (.inl s16) else none else none else none else none else none else none else none
abbrev rmT_done : Room := { frames := 16, cells := 2, slots := 9, locals := 379 }
set_option maxHeartbeats 4000000 in
theorem mT_done (l : Launch) (D : va_G) (dA : Nat → ClassId) (A : Nat → Prop) (pz : Nat) (hl9 : l.stackTraces = false) (lc : Nat → Nat → Nat) (s : tt_S3) (x1 : Int32) (x2 : Int32) (x3 : Nat) (hx3 : x3 < rdN s.2.2 3) {Q : Option Value → (Nat → Nat → Nat) → tt_S3 → Prop} {QX : String → (Nat → Nat → Nat) → tt_S3 → Prop} (h : Ok (fT_done s x1 x2 x3) (fun q => ∀ lc', tt_agr (XT l D dA A pz) s lc lc' → Sum.casesOn (motive := fun _ => Prop) q (fun r => Q none lc' r) (fun e => QX (tt_exn e.1) lc' e.2))) : tt_SpX (XT l D dA A pz) yX1_done cX1_done 4 none rmT_done [.ref (lc 0 0), .int x1, .int x2, .ref (lc 3 x3)] lc s Q QX := by
  refine tt_SpX.ofVn plX1 kokT (Nat.le_of_ble_eq_true rfl) ?_
  show tt_V (XT l D dA A pz) cX1_done (RX1, 4, none, rmT_done, tt_nd yX1_done) (tt_fx (XT l D dA A pz) (RX1, 4, none, rmT_done, tt_nd yX1_done) Q QX) 0 [(0, .ref (lc 0 0)), (1, .int x1), (2, .int x2), (3, .ref (lc 3 x3))] [] lc s 0 0
  unfold fT_done at h
  refine v_aload_n 0 dX1_done_0 rfl ?_
  refine v_aload_n 0 dX1_done_1 rfl ?_
  refine gT_X1_93_0 dX1_done_2 ?_
  refine v_sipush dX1_done_5 ks_160 ?_
  have h := Ok.join (PJ := fun t1 : Int32 × tt_S3 => tt_V (XT l D dA A pz) cX1_done (RX1, 4, none, rmT_done, tt_nd yX1_done) (tt_fx (XT l D dA A pz) (RX1, 4, none, rmT_done, tt_nd yX1_done) Q QX) 29 [(0, .ref (lc 0 0)), (1, .int x1), (2, .int x2), (3, .ref (lc 3 x3))] [.int t1.1, .ref (lc 0 0)] lc t1.2 0 0) h (fun t1 h => by
    refine cT_102_0 (Ok.throwsM h) hl9 (fun _ _ _ h => h.1) (fun _ h => h lc agr_rf) ⟨Nat.le_of_ble_eq_true rfl, Nat.le_of_ble_eq_true rfl⟩ (Nat.le_of_ble_eq_true rfl) dX1_done_29 (fun r5 h => ?_) ⟨Nat.le_of_ble_eq_true rfl, Nat.le_of_ble_eq_true rfl⟩
    refine v_aload_n 0 dX1_done_32 rfl ?_
    refine gT_X1_28_0 dX1_done_33 ?_
    refine v_aload_n 0 dX1_done_36 rfl ?_
    refine v_dup dX1_done_37 rfl ?_
    refine gT_X1_93_0 dX1_done_38 ?_
    refine v_dup_x1 dX1_done_41 rfl rfl ?_
    refine v_iconst dX1_done_42 ic_1 ?_
    refine v_iadd dX1_done_43 ?_
    refine pT_X1_93_0 dX1_done_44 ?_
    refine v_nmS (fun s6 e_s6 => ?_)
    have h := Ok.nm h e_s6
    obtain ⟨g7, h⟩ := Ok.guard h
    obtain ⟨g8, h⟩ := Ok.guard h
    obtain ⟨g9, h⟩ := Ok.guard h
    refine nT_E g8 ⟨Nat.le_of_ble_eq_true rfl, Nat.le_of_ble_eq_true rfl⟩ dX1_done_47 (fun lc hc => ?_)
    rw [← hc 0 0 (.inl lvT_0)]
    rw [← hc 3 x3 (.inl (lvT_3 g7))]
    rw [← hc 1 0 (.inl lvT_1)]
    have h := Ok.agr h hc (lvLe_mono g9)
    refine v_nmS (fun s10 e_s10 => ?_)
    have h := Ok.nm h e_s10
    obtain ⟨g11, h⟩ := Ok.guard h
    refine v_dup dX1_done_50 rfl ?_
    refine v_iload_n 1 dX1_done_51 rfl ?_
    refine v_iload_n 2 dX1_done_52 rfl ?_
    refine v_aload_n 3 dX1_done_53 rfl ?_
    obtain ⟨g12, h⟩ := Ok.guard h
    refine cT_init g11 g12 (Ok.bind h) ⟨Nat.le_of_ble_eq_true rfl, Nat.le_of_ble_eq_true rfl⟩ (Nat.le_of_ble_eq_true rfl) dX1_done_54 (fun r13 h => ?_) ⟨Nat.le_of_ble_eq_true rfl, Nat.le_of_ble_eq_true rfl⟩
    obtain ⟨g14, h⟩ := Ok.guard h
    obtain ⟨g15, h⟩ := Ok.guard h
    refine sT_1 g14 g15 dX1_done_57 ?_
    refine v_nmS (fun s16 e_s16 => ?_)
    have h := Ok.nm h e_s16
    have h := Ok.ret h
    exact v_retX (v_vret rfl (Nat.le_of_ble_eq_true rfl) (Nat.le_of_ble_eq_true rfl) dX1_done_58 (h lc agr_rf)))
  refine v_icmp_ge (tgt := 28) dX1_done_8 rfl (fun c2 => ?_) (fun c2 => ?_)
  · have h := Ok.pos h c2
    refine v_iconst dX1_done_28 ic_0 ?_
    have h := Ok.ret h
    exact h
  · have h := Ok.neg h c2
    refine v_aload_n 3 dX1_done_11 rfl ?_
    refine v_aload_n 0 dX1_done_12 rfl ?_
    refine gT_X1_10_0 dX1_done_13 ?_
    refine cT_on_100 hx3 (Ok.bind h) ⟨Nat.le_of_ble_eq_true rfl, Nat.le_of_ble_eq_true rfl⟩ (Nat.le_of_ble_eq_true rfl) dX1_done_16 (fun r3 z_r3 h => ?_) ⟨Nat.le_of_ble_eq_true rfl, Nat.le_of_ble_eq_true rfl⟩
    refine v_if_eq (tgt := 28) dX1_done_21 rfl (fun c4 => ?_) (fun c4 => ?_)
    · have h := Ok.pos h c4
      refine v_iconst dX1_done_28 ic_0 ?_
      have h := Ok.ret h
      exact h
    · have h := Ok.neg h c4
      refine v_iconst dX1_done_24 ic_1 ?_
      refine v_goto (tgt := 29) dX1_done_25 rfl ?_
      have h := Ok.ret h
      exact h
theorem cT_114 {l : Launch} {D : va_G} {dA : Nat → ClassId} {A : Nat → Prop} {pz : Nat} {lc : Nat → Nat → Nat} {s : tt_S3} {cc : ByteArray} {nl : Nat} {rt : Option FieldType} {rm : Room} {tn : tt_Tn} {Q : Option Value → (Nat → Nat → Nat) → tt_S3 → Prop} {QX : String → (Nat → Nat → Nat) → tt_S3 → Prop} {pc : Nat} {lv : List (Nat × Value)} {rest : List Value} {ck cn : Nat} {x1 : Int32} {x2 : Int32} {x3 : Nat} (hx3 : x3 < rdN s.2.2 3) {K : tt_S3 → Prop} {K2 : Nat × tt_S3 → Prop} (h : Ok (fT_done s x1 x2 x3) (fun q => Sum.casesOn (motive := fun _ => Prop) q K K2)) (hl9 : l.stackTraces = false) (hTb : ∀ c m s0, tn c m s0 → tt_ne c m s0) (kx : ∀ e : Nat × tt_S3, K2 e → ∀ lc', tt_agr (XT l D dA A pz) s lc lc' → QX (tt_exn e.1) lc' e.2) (hR : 16 + 1 ≤ rm.frames ∧ 8 + (4 + 11) + 379 ≤ rm.locals) (hW : (rest.map fun v => v.category).sum ≤ 8) (d : decode cc pc = .ok (.invokevirtual 114, 3)) (kk : ∀ r, K r → ∀ lc', tt_agr (XT l D dA A pz) s lc lc' → tt_V (XT l D dA A pz) cc (RX1, nl, rt, rm, tn) (tt_fx (XT l D dA A pz) (RX1, nl, rt, rm, tn) Q QX) (pc + 3) lv rest lc' r (ck + 2) (cn + 9)) (hf : ck + 2 ≤ rm.cells ∧ cn + 9 ≤ rm.slots) : tt_V (XT l D dA A pz) cc (RX1, nl, rt, rm, tn) (tt_fx (XT l D dA A pz) (RX1, nl, rt, rm, tn) Q QX) pc lv (.ref (lc 3 x3) :: .int x2 :: .int x1 :: .ref (lc 0 0) :: rest) lc s ck cn :=
  v_callVX (kd := 0) (i := 0) (nA := 3) (As := [.int x1, .int x2, .ref (lc 3 x3)]) lvT_0 oT_0 rfl (mT_done l D dA A pz hl9 lc s x1 x2 x3 hx3 (Q := (fun v lc' s' => ∃ r, K r ∧ v = none ∧ tt_agr (XT l D dA A pz) s lc lc' ∧ s' = r)) (QX := (fun E lc' s' => ∃ e : Nat × tt_S3, K2 e ∧ E = tt_exn e.1 ∧ tt_agr (XT l D dA A pz) s lc lc' ∧ s' = e.2)) (h.mono (fun q hq lc' ha => by cases q with
    | inl r => exact ⟨r, hq, rfl, ha, rfl⟩
    | inr e => exact ⟨e, hq, rfl, ha, rfl⟩))) (lw_V q973 q975 qs20 q127 q976) (by decide +kernel) rfl hR hW hf hTb d rfl (fun E lc' s' q => by obtain ⟨e, hq, e1, e2, e3⟩ := q; rw [e1, e3]; exact kx e hq lc' e2) (fun v lc' s' q => by obtain ⟨r, hr, e1, e2, e3⟩ := q; rw [e1, e3]; exact kk r hr lc' e2)
def fT_place (s : tt_S3) (x1 : Int32) (x2 : Int32) (x3 : Int32) (x4 : Int32) : Option ((Int32 × tt_S3) ⊕ (Nat × tt_S3)) :=
  (fT_yearOf s x1).bind fun q_r1 => orThrow q_r1 fun r1 => (fT_within r1 x2 (0 : Int32) (900000000 : Int32)).bind fun q_r2 => orThrow q_r2 fun r2 => (fT_within r2 x3 (1 : Int32) (100000000 : Int32)).bind fun q_r3 => orThrow q_r3 fun r3 => (fT_within r3 x4 (1 : Int32) (4 : Int32)).bind fun q_r4 => orThrow q_r4 fun r4 => nm (rdI r4.1 0 0 21) fun v5 => if okO r4.2.2 then if lvLe s r4 then nm (r4.1, r4.2.1, newD r4.2.2 0 (fun j => [v5, x1, x2, x3, x4].getD j 0)) fun s8 => if (rdN r4.2.2 3) < rdN s8.2.2 3 then if lvLe r4 s8 then (fT_done s8 (0 : Int32) v5 (rdN r4.2.2 3)).bind fun q_r11 => orThrow q_r11 fun r11 => some (.inl (v5, r11)) else none else none else none else none
abbrev rmT_place : Room := { frames := 17, cells := 7, slots := 38, locals := 3080 }
set_option maxHeartbeats 4000000 in
theorem mT_place (l : Launch) (D : va_G) (dA : Nat → ClassId) (A : Nat → Prop) (pz : Nat) (hl9 : l.stackTraces = false) (lc : Nat → Nat → Nat) (s : tt_S3) (x1 : Int32) (x2 : Int32) (x3 : Int32) (x4 : Int32) {Q : Option Value → (Nat → Nat → Nat) → tt_S3 → Prop} {QX : String → (Nat → Nat → Nat) → tt_S3 → Prop} (h : Ok (fT_place s x1 x2 x3 x4) (fun q => ∀ lc', tt_agr (XT l D dA A pz) s lc lc' → Sum.casesOn (motive := fun _ => Prop) q (fun r => Q (some (.int r.1)) lc' r.2) (fun e => QX (tt_exn e.1) lc' e.2))) : tt_SpX (XT l D dA A pz) yX1_place cX1_place 6 (some .int) rmT_place [.ref (lc 0 0), .int x1, .int x2, .int x3, .int x4] lc s Q QX := by
  refine tt_SpX.ofVn plX1 kokT (Nat.le_of_ble_eq_true rfl) ?_
  show tt_V (XT l D dA A pz) cX1_place (RX1, 6, (some .int), rmT_place, tt_nd yX1_place) (tt_fx (XT l D dA A pz) (RX1, 6, (some .int), rmT_place, tt_nd yX1_place) Q QX) 0 [(0, .ref (lc 0 0)), (1, .int x1), (2, .int x2), (3, .int x3), (4, .int x4)] [] lc s 0 0
  unfold fT_place at h
  refine v_aload_n 0 dX1_place_0 rfl ?_
  refine v_iload_n 1 dX1_place_1 rfl ?_
  refine cT_84_0 (Ok.throwsM h) hl9 (fun _ _ _ h => h.1) (fun _ h => h lc agr_rf) ⟨Nat.le_of_ble_eq_true rfl, Nat.le_of_ble_eq_true rfl⟩ (Nat.le_of_ble_eq_true rfl) dX1_place_2 (fun r1 h => ?_) ⟨Nat.le_of_ble_eq_true rfl, Nat.le_of_ble_eq_true rfl⟩
  refine v_aload_n 0 dX1_place_5 rfl ?_
  refine v_iload_n 2 dX1_place_6 rfl ?_
  refine v_iconst dX1_place_7 ic_0 ?_
  refine v_ldc dX1_place_8 q956 ?_
  refine cT_80_0 (Ok.throwsM h) hl9 (fun _ _ _ h => h.1) (fun _ h => h lc agr_rf) ⟨Nat.le_of_ble_eq_true rfl, Nat.le_of_ble_eq_true rfl⟩ (Nat.le_of_ble_eq_true rfl) dX1_place_10 (fun r2 h => ?_) ⟨Nat.le_of_ble_eq_true rfl, Nat.le_of_ble_eq_true rfl⟩
  refine v_aload_n 0 dX1_place_13 rfl ?_
  refine v_iload_n 3 dX1_place_14 rfl ?_
  refine v_iconst dX1_place_15 ic_1 ?_
  refine v_ldc dX1_place_16 q957 ?_
  refine cT_80_0 (Ok.throwsM h) hl9 (fun _ _ _ h => h.1) (fun _ h => h lc agr_rf) ⟨Nat.le_of_ble_eq_true rfl, Nat.le_of_ble_eq_true rfl⟩ (Nat.le_of_ble_eq_true rfl) dX1_place_18 (fun r3 h => ?_) ⟨Nat.le_of_ble_eq_true rfl, Nat.le_of_ble_eq_true rfl⟩
  refine v_aload_n 0 dX1_place_21 rfl ?_
  refine v_iload 4 dX1_place_22 rfl ?_
  refine v_iconst dX1_place_24 ic_1 ?_
  refine v_iconst dX1_place_25 ic_4 ?_
  refine cT_80_0 (Ok.throwsM h) hl9 (fun _ _ _ h => h.1) (fun _ h => h lc agr_rf) ⟨Nat.le_of_ble_eq_true rfl, Nat.le_of_ble_eq_true rfl⟩ (Nat.le_of_ble_eq_true rfl) dX1_place_26 (fun r4 h => ?_) ⟨Nat.le_of_ble_eq_true rfl, Nat.le_of_ble_eq_true rfl⟩
  refine v_aload_n 0 dX1_place_29 rfl ?_
  refine gT_X1_10_0 dX1_place_30 ?_
  refine gT_X1_58_100 dX1_place_33 ?_
  refine v_nmI (fun v5 e_v5 => ?_)
  have h := Ok.nm h e_v5
  refine v_istore [(5, .int v5), (0, .ref (lc 0 0)), (1, .int x1), (2, .int x2), (3, .int x3), (4, .int x4)] dX1_place_36 (Nat.le_of_ble_eq_true rfl) rfl ?_
  refine v_aload_n 1 dX1_place_38 rfl ?_
  refine v_iconst dX1_place_39 ic_0 ?_
  refine v_iload 0 dX1_place_40 rfl ?_
  refine v_iload 0 dX1_place_42 rfl ?_
  refine v_iload_n 2 dX1_place_44 rfl ?_
  refine v_iload_n 3 dX1_place_45 rfl ?_
  refine v_iload_n 4 dX1_place_46 rfl ?_
  refine v_iload 5 dX1_place_47 rfl ?_
  obtain ⟨g6, h⟩ := Ok.guard h
  obtain ⟨g7, h⟩ := Ok.guard h
  refine nT_D (tag := 0) [v5, x1, x2, x3, x4] g6 rfl rfl (fun U hU => (klT U hU).1 0 (by decide)) lam_i5 (fun _ _ _ h => h.2) rfl (Nat.le_of_ble_eq_true rfl) (Nat.le_of_ble_eq_true rfl) ⟨Nat.le_of_ble_eq_true rfl, Nat.le_of_ble_eq_true rfl⟩ dX1_place_49 (fun lc hc => ?_)
  rw [← hc 0 0 (.inl lvT_0)]
  have h := Ok.agr h hc (lvLe_mono g7)
  refine v_nmS (fun s8 e_s8 => ?_)
  have h := Ok.nm h e_s8
  obtain ⟨g9, h⟩ := Ok.guard h
  obtain ⟨g10, h⟩ := Ok.guard h
  refine cT_114 g9 (Ok.throwsM h) hl9 (fun _ _ _ h => h.1) (fun _ h => fun lc' ha => h lc' (fun k j hv => ha k j (hv.imp_left (lvLe_mono g10 k j)))) ⟨Nat.le_of_ble_eq_true rfl, Nat.le_of_ble_eq_true rfl⟩ (Nat.le_of_ble_eq_true rfl) dX1_place_54 (fun r11 h lc hc => ?_) ⟨Nat.le_of_ble_eq_true rfl, Nat.le_of_ble_eq_true rfl⟩
  rw [← hc 0 0 (.inl lvT_0)]
  have h := Ok.agr h hc (lvLe_mono g10)
  refine v_iload 0 dX1_place_57 rfl ?_
  have h := Ok.ret h
  exact v_retX (v_iret rfl (Nat.le_of_ble_eq_true rfl) (Nat.le_of_ble_eq_true rfl) dX1_place_59 (h lc agr_rf))
def fT_sign (s : tt_S3) (x1 : Int32) (x2 : Int32) (x3 : Int32) : Option ((Int32 × tt_S3) ⊕ (Nat × tt_S3)) :=
  (fT_layerOf s x1).bind fun q_r1 => orThrow q_r1 fun r1 => (fT_insurerOf r1.2 x2).bind fun q_r2 => orThrow q_r2 fun r2 => (fT_within r2 x3 (1 : Int32) (10 : Int32)).bind fun q_r3 => orThrow q_r3 fun r3 => if okO r3.2.2 then if lvLe s r3 then nm (r3.1, r3.2.1, newD r3.2.2 1 (fun j => [x1, x2, x3].getD j 0)) fun s6 => if (rdN r3.2.2 3) < rdN s6.2.2 3 then if lvLe r3 s6 then (fT_done s6 (1 : Int32) x1 (rdN r3.2.2 3)).bind fun q_r9 => orThrow q_r9 fun r9 => (fY_allTenths r9.1 r1.1).bind fun r10 => some (.inl ((10 : Int32) - r10, r9)) else none else none else none else none
abbrev rmT_sign : Room := { frames := 17, cells := 6, slots := 30, locals := 3080 }
set_option maxHeartbeats 4000000 in
theorem mT_sign (l : Launch) (D : va_G) (dA : Nat → ClassId) (A : Nat → Prop) (pz : Nat) (hl9 : l.stackTraces = false) (lc : Nat → Nat → Nat) (s : tt_S3) (x1 : Int32) (x2 : Int32) (x3 : Int32) {Q : Option Value → (Nat → Nat → Nat) → tt_S3 → Prop} {QX : String → (Nat → Nat → Nat) → tt_S3 → Prop} (h : Ok (fT_sign s x1 x2 x3) (fun q => ∀ lc', tt_agr (XT l D dA A pz) s lc lc' → Sum.casesOn (motive := fun _ => Prop) q (fun r => Q (some (.int r.1)) lc' r.2) (fun e => QX (tt_exn e.1) lc' e.2))) : tt_SpX (XT l D dA A pz) yX1_sign cX1_sign 5 (some .int) rmT_sign [.ref (lc 0 0), .int x1, .int x2, .int x3] lc s Q QX := by
  refine tt_SpX.ofVn plX1 kokT (Nat.le_of_ble_eq_true rfl) ?_
  show tt_V (XT l D dA A pz) cX1_sign (RX1, 5, (some .int), rmT_sign, tt_nd yX1_sign) (tt_fx (XT l D dA A pz) (RX1, 5, (some .int), rmT_sign, tt_nd yX1_sign) Q QX) 0 [(0, .ref (lc 0 0)), (1, .int x1), (2, .int x2), (3, .int x3)] [] lc s 0 0
  unfold fT_sign at h
  refine v_aload_n 0 dX1_sign_0 rfl ?_
  refine v_iload_n 1 dX1_sign_1 rfl ?_
  refine cT_117_0 (Ok.throwsM h) hl9 (fun _ _ _ h => h.1) (fun _ h => h lc agr_rf) ⟨Nat.le_of_ble_eq_true rfl, Nat.le_of_ble_eq_true rfl⟩ (Nat.le_of_ble_eq_true rfl) dX1_sign_2 (fun r1 z_r1 h => ?_) ⟨Nat.le_of_ble_eq_true rfl, Nat.le_of_ble_eq_true rfl⟩
  refine v_astore [(4, .ref (lc 102 r1.1)), (0, .ref (lc 0 0)), (1, .int x1), (2, .int x2), (3, .int x3)] dX1_sign_5 (Nat.le_of_ble_eq_true rfl) rfl ?_
  refine v_aload_n 1 dX1_sign_7 rfl ?_
  refine v_iload_n 3 dX1_sign_8 rfl ?_
  refine cT_121_0 (Ok.throwsM h) hl9 (fun _ _ _ h => h.1) (fun _ h => h lc agr_rf) ⟨Nat.le_of_ble_eq_true rfl, Nat.le_of_ble_eq_true rfl⟩ (Nat.le_of_ble_eq_true rfl) dX1_sign_9 (fun r2 h => ?_) ⟨Nat.le_of_ble_eq_true rfl, Nat.le_of_ble_eq_true rfl⟩
  refine v_aload_n 1 dX1_sign_12 rfl ?_
  refine v_iload_n 4 dX1_sign_13 rfl ?_
  refine v_iconst dX1_sign_14 ic_1 ?_
  refine v_bipush dX1_sign_15 kb_10 ?_
  refine cT_80_0 (Ok.throwsM h) hl9 (fun _ _ _ h => h.1) (fun _ h => h lc agr_rf) ⟨Nat.le_of_ble_eq_true rfl, Nat.le_of_ble_eq_true rfl⟩ (Nat.le_of_ble_eq_true rfl) dX1_sign_17 (fun r3 h => ?_) ⟨Nat.le_of_ble_eq_true rfl, Nat.le_of_ble_eq_true rfl⟩
  refine v_aload_n 1 dX1_sign_20 rfl ?_
  refine v_iconst dX1_sign_21 ic_1 ?_
  refine v_iload_n 2 dX1_sign_22 rfl ?_
  refine v_iload_n 2 dX1_sign_23 rfl ?_
  refine v_iload_n 3 dX1_sign_24 rfl ?_
  refine v_iload_n 4 dX1_sign_25 rfl ?_
  obtain ⟨g4, h⟩ := Ok.guard h
  obtain ⟨g5, h⟩ := Ok.guard h
  refine nT_D (tag := 1) [x1, x2, x3] g4 rfl rfl (fun U hU => (klT U hU).1 1 (by decide)) lam_i6 (fun _ _ _ h => h.2) rfl (Nat.le_of_ble_eq_true rfl) (Nat.le_of_ble_eq_true rfl) ⟨Nat.le_of_ble_eq_true rfl, Nat.le_of_ble_eq_true rfl⟩ dX1_sign_26 (fun lc hc => ?_)
  rw [← hc 102 r1.1 (.inl (lvT_102 z_r1))]
  rw [← hc 0 0 (.inl lvT_0)]
  have h := Ok.agr h hc (lvLe_mono g5)
  refine v_nmS (fun s6 e_s6 => ?_)
  have h := Ok.nm h e_s6
  obtain ⟨g7, h⟩ := Ok.guard h
  obtain ⟨g8, h⟩ := Ok.guard h
  refine cT_114 g7 (Ok.throwsM h) hl9 (fun _ _ _ h => h.1) (fun _ h => fun lc' ha => h lc' (fun k j hv => ha k j (hv.imp_left (lvLe_mono g8 k j)))) ⟨Nat.le_of_ble_eq_true rfl, Nat.le_of_ble_eq_true rfl⟩ (Nat.le_of_ble_eq_true rfl) dX1_sign_31 (fun r9 h lc hc => ?_) ⟨Nat.le_of_ble_eq_true rfl, Nat.le_of_ble_eq_true rfl⟩
  rw [← hc 102 r1.1 (.inl (lvT_102 z_r1))]
  rw [← hc 0 0 (.inl lvT_0)]
  have h := Ok.agr h hc (lvLe_mono g8)
  refine v_bipush dX1_sign_34 kb_10 ?_
  refine v_aload 0 dX1_sign_36 rfl ?_
  refine cT_127_102 z_r1 (Ok.bind h) ⟨Nat.le_of_ble_eq_true rfl, Nat.le_of_ble_eq_true rfl⟩ (Nat.le_of_ble_eq_true rfl) dX1_sign_38 (fun r10 h => ?_) ⟨Nat.le_of_ble_eq_true rfl, Nat.le_of_ble_eq_true rfl⟩
  refine v_isub dX1_sign_41 ?_
  have h := Ok.ret h
  exact v_retX (v_iret rfl (Nat.le_of_ble_eq_true rfl) (Nat.le_of_ble_eq_true rfl) dX1_sign_42 (h lc agr_rf))
theorem cT_139 {l : Launch} {D : va_G} {dA : Nat → ClassId} {A : Nat → Prop} {pz : Nat} {lc : Nat → Nat → Nat} {s : tt_S3} {cc : ByteArray} {nl : Nat} {rt : Option FieldType} {rm : Room} {tn : tt_Tn} {Q : tt_Fin} {pc : Nat} {lv : List (Nat × Value)} {rest : List Value} {ck cn : Nat} {x0 : Int32} {K : Int32 → Prop} (h : Ok (fJI_bitCount x0) K) (hR : 0 + 1 ≤ rm.frames ∧ 8 + (1 + 11) + 0 ≤ rm.locals) (hW : (rest.map fun v => v.category).sum ≤ 8) (d : decode cc pc = .ok (.invokestatic 139, 3)) (kk : ∀ r, K r → tt_V (XT l D dA A pz) cc (RX1, nl, rt, rm, tn) Q (pc + 3) lv (.int r :: rest) lc s (ck + 0) (cn + 0)) (hf : ck + 0 ≤ rm.cells ∧ cn + 0 ≤ rm.slots) : tt_V (XT l D dA A pz) cc (RX1, nl, rt, rm, tn) Q pc lv (.int x0 :: rest) lc s ck cn :=
  v_callS (nA := 1) (As := [.int x0]) (mJI_bitCount (XT l D dA A pz) kokT lc s x0 (Q := (fun v lc' s' => ∃ r, K r ∧ v = some (.int r) ∧ lc' = lc ∧ s' = s)) (h.mono (fun r hr => ⟨r, hr, rfl, rfl, rfl⟩))) (lw_S q1081 q1082 q148 q1083) (by decide +kernel) rfl hR hW hf d rfl (fun v lc' s' q => by obtain ⟨r, hr, e1, e2, e3⟩ := q; rw [e1, e2, e3]; exact kk r hr)
def fT_lack (s : tt_S3) (x1 : Int32) : Option ((Int32 × tt_S3) ⊕ (Nat × tt_S3)) :=
  (fT_yearOf s x1).bind fun q_r1 => orThrow q_r1 fun r1 => if okO r1.2.2 then if lvLe s r1 then nm (r1.1, r1.2.1, newD r1.2.2 2 (fun j => [x1].getD j 0)) fun s4 => if (rdN r1.2.2 3) < rdN s4.2.2 3 then if lvLe r1 s4 then (fT_done s4 (2 : Int32) x1 (rdN r1.2.2 3)).bind fun q_r7 => orThrow q_r7 fun r7 => (fJI_bitCount (rdI r7.1 0 0 17)).bind fun r8 => some (.inl (r8, r7)) else none else none else none else none
abbrev rmT_lack : Room := { frames := 17, cells := 4, slots := 16, locals := 3080 }
set_option maxHeartbeats 4000000 in
theorem mT_lack (l : Launch) (D : va_G) (dA : Nat → ClassId) (A : Nat → Prop) (pz : Nat) (hl9 : l.stackTraces = false) (lc : Nat → Nat → Nat) (s : tt_S3) (x1 : Int32) {Q : Option Value → (Nat → Nat → Nat) → tt_S3 → Prop} {QX : String → (Nat → Nat → Nat) → tt_S3 → Prop} (h : Ok (fT_lack s x1) (fun q => ∀ lc', tt_agr (XT l D dA A pz) s lc lc' → Sum.casesOn (motive := fun _ => Prop) q (fun r => Q (some (.int r.1)) lc' r.2) (fun e => QX (tt_exn e.1) lc' e.2))) : tt_SpX (XT l D dA A pz) yX1_lack cX1_lack 2 (some .int) rmT_lack [.ref (lc 0 0), .int x1] lc s Q QX := by
  refine tt_SpX.ofVn plX1 kokT (Nat.le_of_ble_eq_true rfl) ?_
  show tt_V (XT l D dA A pz) cX1_lack (RX1, 2, (some .int), rmT_lack, tt_nd yX1_lack) (tt_fx (XT l D dA A pz) (RX1, 2, (some .int), rmT_lack, tt_nd yX1_lack) Q QX) 0 [(0, .ref (lc 0 0)), (1, .int x1)] [] lc s 0 0
  unfold fT_lack at h
  refine v_aload_n 0 dX1_lack_0 rfl ?_
  refine v_iload_n 1 dX1_lack_1 rfl ?_
  refine cT_84_0 (Ok.throwsM h) hl9 (fun _ _ _ h => h.1) (fun _ h => h lc agr_rf) ⟨Nat.le_of_ble_eq_true rfl, Nat.le_of_ble_eq_true rfl⟩ (Nat.le_of_ble_eq_true rfl) dX1_lack_2 (fun r1 h => ?_) ⟨Nat.le_of_ble_eq_true rfl, Nat.le_of_ble_eq_true rfl⟩
  refine v_aload_n 0 dX1_lack_5 rfl ?_
  refine v_iconst dX1_lack_6 ic_2 ?_
  refine v_iload_n 1 dX1_lack_7 rfl ?_
  refine v_iload_n 1 dX1_lack_8 rfl ?_
  obtain ⟨g2, h⟩ := Ok.guard h
  obtain ⟨g3, h⟩ := Ok.guard h
  refine nT_D (tag := 2) [x1] g2 rfl rfl (fun U hU => (klT U hU).1 2 (by decide)) lam_i7 (fun _ _ _ h => h.2) rfl (Nat.le_of_ble_eq_true rfl) (Nat.le_of_ble_eq_true rfl) ⟨Nat.le_of_ble_eq_true rfl, Nat.le_of_ble_eq_true rfl⟩ dX1_lack_9 (fun lc hc => ?_)
  rw [← hc 0 0 (.inl lvT_0)]
  have h := Ok.agr h hc (lvLe_mono g3)
  refine v_nmS (fun s4 e_s4 => ?_)
  have h := Ok.nm h e_s4
  obtain ⟨g5, h⟩ := Ok.guard h
  obtain ⟨g6, h⟩ := Ok.guard h
  refine cT_114 g5 (Ok.throwsM h) hl9 (fun _ _ _ h => h.1) (fun _ h => fun lc' ha => h lc' (fun k j hv => ha k j (hv.imp_left (lvLe_mono g6 k j)))) ⟨Nat.le_of_ble_eq_true rfl, Nat.le_of_ble_eq_true rfl⟩ (Nat.le_of_ble_eq_true rfl) dX1_lack_14 (fun r7 h lc hc => ?_) ⟨Nat.le_of_ble_eq_true rfl, Nat.le_of_ble_eq_true rfl⟩
  rw [← hc 0 0 (.inl lvT_0)]
  have h := Ok.agr h hc (lvLe_mono g6)
  refine v_aload_n 0 dX1_lack_17 rfl ?_
  refine gT_X1_10_0 dX1_lack_18 ?_
  refine gT_X1_136_100 dX1_lack_21 ?_
  refine cT_139 (Ok.bind h) ⟨Nat.le_of_ble_eq_true rfl, Nat.le_of_ble_eq_true rfl⟩ (Nat.le_of_ble_eq_true rfl) dX1_lack_24 (fun r8 h => ?_) ⟨Nat.le_of_ble_eq_true rfl, Nat.le_of_ble_eq_true rfl⟩
  have h := Ok.ret h
  exact v_retX (v_iret rfl (Nat.le_of_ble_eq_true rfl) (Nat.le_of_ble_eq_true rfl) dX1_lack_27 (h lc agr_rf))
def fT_rules (s : tt_S3) (x1 : Int32) (x2 : Int32) (x3 : Int32) : Option ((Int32 × tt_S3) ⊕ (Nat × tt_S3)) :=
  (fT_rulesOf s x1 x2 x3).bind fun q_r1 => orThrow q_r1 fun r1 => (if (rdI r1.1 0 0 18) = x1 then if (rdI r1.1 0 0 19) = x2 then if (rdI r1.1 0 0 20) = x3 then some (.inr (.inl ((0 : Int32), r1))) else some (.inl ()) else some (.inl ()) else some (.inl ()) : Option ((Unit) ⊕ ((Int32 × tt_S3) ⊕ (Nat × tt_S3)))).bind fun q_t2 => orRet q_t2 fun t2 => if okO r1.2.2 then if lvLe s r1 then nm (r1.1, r1.2.1, newD r1.2.2 3 (fun j => [x1, x2, x3].getD j 0)) fun s8 => if (rdN r1.2.2 3) < rdN s8.2.2 3 then if lvLe r1 s8 then (fT_done s8 (3 : Int32) x1 (rdN r1.2.2 3)).bind fun q_r11 => orThrow q_r11 fun r11 => some (.inl ((1 : Int32), r11)) else none else none else none else none
abbrev rmT_rules : Room := { frames := 17, cells := 6, slots := 30, locals := 3080 }
set_option maxHeartbeats 4000000 in
theorem mT_rules (l : Launch) (D : va_G) (dA : Nat → ClassId) (A : Nat → Prop) (pz : Nat) (hl9 : l.stackTraces = false) (lc : Nat → Nat → Nat) (s : tt_S3) (x1 : Int32) (x2 : Int32) (x3 : Int32) {Q : Option Value → (Nat → Nat → Nat) → tt_S3 → Prop} {QX : String → (Nat → Nat → Nat) → tt_S3 → Prop} (h : Ok (fT_rules s x1 x2 x3) (fun q => ∀ lc', tt_agr (XT l D dA A pz) s lc lc' → Sum.casesOn (motive := fun _ => Prop) q (fun r => Q (some (.int r.1)) lc' r.2) (fun e => QX (tt_exn e.1) lc' e.2))) : tt_SpX (XT l D dA A pz) yX1_rules cX1_rules 4 (some .int) rmT_rules [.ref (lc 0 0), .int x1, .int x2, .int x3] lc s Q QX := by
  refine tt_SpX.ofVn plX1 kokT (Nat.le_of_ble_eq_true rfl) ?_
  show tt_V (XT l D dA A pz) cX1_rules (RX1, 4, (some .int), rmT_rules, tt_nd yX1_rules) (tt_fx (XT l D dA A pz) (RX1, 4, (some .int), rmT_rules, tt_nd yX1_rules) Q QX) 0 [(0, .ref (lc 0 0)), (1, .int x1), (2, .int x2), (3, .int x3)] [] lc s 0 0
  unfold fT_rules at h
  refine v_aload_n 0 dX1_rules_0 rfl ?_
  refine v_iload_n 1 dX1_rules_1 rfl ?_
  refine v_iload_n 2 dX1_rules_2 rfl ?_
  refine v_iload_n 3 dX1_rules_3 rfl ?_
  refine cT_143_0 (Ok.throwsM h) hl9 (fun _ _ _ h => h.1) (fun _ h => h lc agr_rf) ⟨Nat.le_of_ble_eq_true rfl, Nat.le_of_ble_eq_true rfl⟩ (Nat.le_of_ble_eq_true rfl) dX1_rules_4 (fun r1 h => ?_) ⟨Nat.le_of_ble_eq_true rfl, Nat.le_of_ble_eq_true rfl⟩
  refine v_aload_n 0 dX1_rules_7 rfl ?_
  refine gT_X1_10_0 dX1_rules_8 ?_
  refine gT_X1_146_100 dX1_rules_11 ?_
  refine v_iload_n 1 dX1_rules_14 rfl ?_
  have h := Ok.joinR (PJ := fun t2 : Unit => tt_V (XT l D dA A pz) cX1_rules (RX1, 4, (some .int), rmT_rules, tt_nd yX1_rules) (tt_fx (XT l D dA A pz) (RX1, 4, (some .int), rmT_rules, tt_nd yX1_rules) Q QX) 42 [(0, .ref (lc 0 0)), (1, .int x1), (2, .int x2), (3, .int x3)] [] lc r1 3 18) h (fun t2 h => by
    refine v_aload_n 0 dX1_rules_42 rfl ?_
    refine v_iconst dX1_rules_43 ic_3 ?_
    refine v_iload_n 1 dX1_rules_44 rfl ?_
    refine v_iload_n 1 dX1_rules_45 rfl ?_
    refine v_iload_n 2 dX1_rules_46 rfl ?_
    refine v_iload_n 3 dX1_rules_47 rfl ?_
    obtain ⟨g6, h⟩ := Ok.guard h
    obtain ⟨g7, h⟩ := Ok.guard h
    refine nT_D (tag := 3) [x1, x2, x3] g6 rfl rfl (fun U hU => (klT U hU).1 3 (by decide)) lam_i8 (fun _ _ _ h => h.2) rfl (Nat.le_of_ble_eq_true rfl) (Nat.le_of_ble_eq_true rfl) ⟨Nat.le_of_ble_eq_true rfl, Nat.le_of_ble_eq_true rfl⟩ dX1_rules_48 (fun lc hc => ?_)
    rw [← hc 0 0 (.inl lvT_0)]
    have h := Ok.agr h hc (lvLe_mono g7)
    refine v_nmS (fun s8 e_s8 => ?_)
    have h := Ok.nm h e_s8
    obtain ⟨g9, h⟩ := Ok.guard h
    obtain ⟨g10, h⟩ := Ok.guard h
    refine cT_114 g9 (Ok.throwsM h) hl9 (fun _ _ _ h => h.1) (fun _ h => fun lc' ha => h lc' (fun k j hv => ha k j (hv.imp_left (lvLe_mono g10 k j)))) ⟨Nat.le_of_ble_eq_true rfl, Nat.le_of_ble_eq_true rfl⟩ (Nat.le_of_ble_eq_true rfl) dX1_rules_53 (fun r11 h lc hc => ?_) ⟨Nat.le_of_ble_eq_true rfl, Nat.le_of_ble_eq_true rfl⟩
    rw [← hc 0 0 (.inl lvT_0)]
    have h := Ok.agr h hc (lvLe_mono g10)
    refine v_iconst dX1_rules_56 ic_1 ?_
    have h := Ok.ret h
    exact v_retX (v_iret rfl (Nat.le_of_ble_eq_true rfl) (Nat.le_of_ble_eq_true rfl) dX1_rules_57 (h lc agr_rf)))
  refine v_icmp_ne (tgt := 42) dX1_rules_15 rfl (fun c3 => ?_) (fun c3 => ?_)
  · have h := Ok.neg h c3
    have h := Ok.ret h
    exact h
  · have h := Ok.pos h c3
    refine v_aload_n 0 dX1_rules_18 rfl ?_
    refine gT_X1_10_0 dX1_rules_19 ?_
    refine gT_X1_149_100 dX1_rules_22 ?_
    refine v_iload_n 2 dX1_rules_25 rfl ?_
    refine v_icmp_ne (tgt := 42) dX1_rules_26 rfl (fun c4 => ?_) (fun c4 => ?_)
    · have h := Ok.neg h c4
      have h := Ok.ret h
      exact h
    · have h := Ok.pos h c4
      refine v_aload_n 0 dX1_rules_29 rfl ?_
      refine gT_X1_10_0 dX1_rules_30 ?_
      refine gT_X1_152_100 dX1_rules_33 ?_
      refine v_iload_n 3 dX1_rules_36 rfl ?_
      refine v_icmp_ne (tgt := 42) dX1_rules_37 rfl (fun c5 => ?_) (fun c5 => ?_)
      · have h := Ok.neg h c5
        have h := Ok.ret h
        exact h
      · have h := Ok.pos h c5
        refine v_iconst dX1_rules_40 ic_0 ?_
        have h := Ok.ret h
        exact v_retX (v_iret rfl (Nat.le_of_ble_eq_true rfl) (Nat.le_of_ble_eq_true rfl) dX1_rules_41 (h lc agr_rf))
def fT_harm (s : tt_S3) (x1 : Int32) (x2 : Int32) (x3 : Int32) (x4 : Int32) : Option ((Int32 × tt_S3) ⊕ (Nat × tt_S3)) :=
  (fT_spanOf s x1 x2 x3).bind fun q_r1 => orThrow q_r1 fun r1 => (fT_within r1 x4 (1 : Int32) (1000000000 : Int32)).bind fun q_r2 => orThrow q_r2 fun r2 => nm (rdI r2.1 0 0 22) fun v3 => if okO r2.2.2 then if lvLe s r2 then nm (r2.1, r2.2.1, newD r2.2.2 4 (fun j => [v3, x1, x2, x3, x4].getD j 0)) fun s6 => if (rdN r2.2.2 3) < rdN s6.2.2 3 then if lvLe r2 s6 then (fT_done s6 (4 : Int32) v3 (rdN r2.2.2 3)).bind fun q_r9 => orThrow q_r9 fun r9 => some (.inl (v3, r9)) else none else none else none else none
abbrev rmT_harm : Room := { frames := 17, cells := 7, slots := 38, locals := 3080 }
set_option maxHeartbeats 4000000 in
theorem mT_harm (l : Launch) (D : va_G) (dA : Nat → ClassId) (A : Nat → Prop) (pz : Nat) (hl9 : l.stackTraces = false) (lc : Nat → Nat → Nat) (s : tt_S3) (x1 : Int32) (x2 : Int32) (x3 : Int32) (x4 : Int32) {Q : Option Value → (Nat → Nat → Nat) → tt_S3 → Prop} {QX : String → (Nat → Nat → Nat) → tt_S3 → Prop} (h : Ok (fT_harm s x1 x2 x3 x4) (fun q => ∀ lc', tt_agr (XT l D dA A pz) s lc lc' → Sum.casesOn (motive := fun _ => Prop) q (fun r => Q (some (.int r.1)) lc' r.2) (fun e => QX (tt_exn e.1) lc' e.2))) : tt_SpX (XT l D dA A pz) yX1_harm cX1_harm 6 (some .int) rmT_harm [.ref (lc 0 0), .int x1, .int x2, .int x3, .int x4] lc s Q QX := by
  refine tt_SpX.ofVn plX1 kokT (Nat.le_of_ble_eq_true rfl) ?_
  show tt_V (XT l D dA A pz) cX1_harm (RX1, 6, (some .int), rmT_harm, tt_nd yX1_harm) (tt_fx (XT l D dA A pz) (RX1, 6, (some .int), rmT_harm, tt_nd yX1_harm) Q QX) 0 [(0, .ref (lc 0 0)), (1, .int x1), (2, .int x2), (3, .int x3), (4, .int x4)] [] lc s 0 0
  unfold fT_harm at h
  refine v_aload_n 0 dX1_harm_0 rfl ?_
  refine v_iload_n 1 dX1_harm_1 rfl ?_
  refine v_iload_n 2 dX1_harm_2 rfl ?_
  refine v_iload_n 3 dX1_harm_3 rfl ?_
  refine cT_156_0 (Ok.throwsM h) hl9 (fun _ _ _ h => h.1) (fun _ h => h lc agr_rf) ⟨Nat.le_of_ble_eq_true rfl, Nat.le_of_ble_eq_true rfl⟩ (Nat.le_of_ble_eq_true rfl) dX1_harm_4 (fun r1 h => ?_) ⟨Nat.le_of_ble_eq_true rfl, Nat.le_of_ble_eq_true rfl⟩
  refine v_aload_n 0 dX1_harm_7 rfl ?_
  refine v_iload 4 dX1_harm_8 rfl ?_
  refine v_iconst dX1_harm_10 ic_1 ?_
  refine v_ldc dX1_harm_11 q1115 ?_
  refine cT_80_0 (Ok.throwsM h) hl9 (fun _ _ _ h => h.1) (fun _ h => h lc agr_rf) ⟨Nat.le_of_ble_eq_true rfl, Nat.le_of_ble_eq_true rfl⟩ (Nat.le_of_ble_eq_true rfl) dX1_harm_13 (fun r2 h => ?_) ⟨Nat.le_of_ble_eq_true rfl, Nat.le_of_ble_eq_true rfl⟩
  refine v_aload_n 0 dX1_harm_16 rfl ?_
  refine gT_X1_10_0 dX1_harm_17 ?_
  refine gT_X1_70_100 dX1_harm_20 ?_
  refine v_nmI (fun v3 e_v3 => ?_)
  have h := Ok.nm h e_v3
  refine v_istore [(5, .int v3), (0, .ref (lc 0 0)), (1, .int x1), (2, .int x2), (3, .int x3), (4, .int x4)] dX1_harm_23 (Nat.le_of_ble_eq_true rfl) rfl ?_
  refine v_aload_n 1 dX1_harm_25 rfl ?_
  refine v_iconst dX1_harm_26 ic_4 ?_
  refine v_iload 0 dX1_harm_27 rfl ?_
  refine v_iload 0 dX1_harm_29 rfl ?_
  refine v_iload_n 2 dX1_harm_31 rfl ?_
  refine v_iload_n 3 dX1_harm_32 rfl ?_
  refine v_iload_n 4 dX1_harm_33 rfl ?_
  refine v_iload 5 dX1_harm_34 rfl ?_
  obtain ⟨g4, h⟩ := Ok.guard h
  obtain ⟨g5, h⟩ := Ok.guard h
  refine nT_D (tag := 4) [v3, x1, x2, x3, x4] g4 rfl rfl (fun U hU => (klT U hU).1 4 (by decide)) lam_i9 (fun _ _ _ h => h.2) rfl (Nat.le_of_ble_eq_true rfl) (Nat.le_of_ble_eq_true rfl) ⟨Nat.le_of_ble_eq_true rfl, Nat.le_of_ble_eq_true rfl⟩ dX1_harm_36 (fun lc hc => ?_)
  rw [← hc 0 0 (.inl lvT_0)]
  have h := Ok.agr h hc (lvLe_mono g5)
  refine v_nmS (fun s6 e_s6 => ?_)
  have h := Ok.nm h e_s6
  obtain ⟨g7, h⟩ := Ok.guard h
  obtain ⟨g8, h⟩ := Ok.guard h
  refine cT_114 g7 (Ok.throwsM h) hl9 (fun _ _ _ h => h.1) (fun _ h => fun lc' ha => h lc' (fun k j hv => ha k j (hv.imp_left (lvLe_mono g8 k j)))) ⟨Nat.le_of_ble_eq_true rfl, Nat.le_of_ble_eq_true rfl⟩ (Nat.le_of_ble_eq_true rfl) dX1_harm_41 (fun r9 h lc hc => ?_) ⟨Nat.le_of_ble_eq_true rfl, Nat.le_of_ble_eq_true rfl⟩
  rw [← hc 0 0 (.inl lvT_0)]
  have h := Ok.agr h hc (lvLe_mono g8)
  refine v_iload 0 dX1_harm_44 rfl ?_
  have h := Ok.ret h
  exact v_retX (v_iret rfl (Nat.le_of_ble_eq_true rfl) (Nat.le_of_ble_eq_true rfl) dX1_harm_46 (h lc agr_rf))
def fT_grow (s : tt_S3) (x1 : Int32) (x2 : Int32) : Option ((Int64 × tt_S3) ⊕ (Nat × tt_S3)) :=
  (fT_harmOf s x1).bind fun q_r1 => orThrow q_r1 fun r1 => (fT_within r1.2 x2 (1 : Int32) (1000000000 : Int32)).bind fun q_r2 => orThrow q_r2 fun r2 => (fB_borne r2.1 r1.1 (0 : Int32)).bind fun r3 => if okO r2.2.2 then if lvLe s r2 then nm (r2.1, r2.2.1, newD r2.2.2 5 (fun j => [x1, x2].getD j 0)) fun s6 => if (rdN r2.2.2 3) < rdN s6.2.2 3 then if lvLe r2 s6 then (fT_done s6 (5 : Int32) x1 (rdN r2.2.2 3)).bind fun q_r9 => orThrow q_r9 fun r9 => (fB_borne r9.1 r1.1 (0 : Int32)).bind fun r10 => some (.inl (r10 - r3, r9)) else none else none else none else none
abbrev rmT_grow : Room := { frames := 17, cells := 5, slots := 23, locals := 3080 }
set_option maxHeartbeats 4000000 in
theorem mT_grow (l : Launch) (D : va_G) (dA : Nat → ClassId) (A : Nat → Prop) (pz : Nat) (hl9 : l.stackTraces = false) (lc : Nat → Nat → Nat) (s : tt_S3) (x1 : Int32) (x2 : Int32) {Q : Option Value → (Nat → Nat → Nat) → tt_S3 → Prop} {QX : String → (Nat → Nat → Nat) → tt_S3 → Prop} (h : Ok (fT_grow s x1 x2) (fun q => ∀ lc', tt_agr (XT l D dA A pz) s lc lc' → Sum.casesOn (motive := fun _ => Prop) q (fun r => Q (some (.long r.1)) lc' r.2) (fun e => QX (tt_exn e.1) lc' e.2))) : tt_SpX (XT l D dA A pz) yX1_grow cX1_grow 6 (some .long) rmT_grow [.ref (lc 0 0), .int x1, .int x2] lc s Q QX := by
  refine tt_SpX.ofVn plX1 kokT (Nat.le_of_ble_eq_true rfl) ?_
  show tt_V (XT l D dA A pz) cX1_grow (RX1, 6, (some .long), rmT_grow, tt_nd yX1_grow) (tt_fx (XT l D dA A pz) (RX1, 6, (some .long), rmT_grow, tt_nd yX1_grow) Q QX) 0 [(0, .ref (lc 0 0)), (1, .int x1), (2, .int x2)] [] lc s 0 0
  unfold fT_grow at h
  refine v_aload_n 0 dX1_grow_0 rfl ?_
  refine v_iload_n 1 dX1_grow_1 rfl ?_
  refine cT_161_0 (Ok.throwsM h) hl9 (fun _ _ _ h => h.1) (fun _ h => h lc agr_rf) ⟨Nat.le_of_ble_eq_true rfl, Nat.le_of_ble_eq_true rfl⟩ (Nat.le_of_ble_eq_true rfl) dX1_grow_2 (fun r1 z_r1 h => ?_) ⟨Nat.le_of_ble_eq_true rfl, Nat.le_of_ble_eq_true rfl⟩
  refine v_astore_n [(3, .ref (lc 107 r1.1)), (0, .ref (lc 0 0)), (1, .int x1), (2, .int x2)] dX1_grow_5 (Nat.le_of_ble_eq_true rfl) rfl ?_
  refine v_aload_n 1 dX1_grow_6 rfl ?_
  refine v_iload_n 3 dX1_grow_7 rfl ?_
  refine v_iconst dX1_grow_8 ic_1 ?_
  refine v_ldc dX1_grow_9 q1115 ?_
  refine cT_80_0 (Ok.throwsM h) hl9 (fun _ _ _ h => h.1) (fun _ h => h lc agr_rf) ⟨Nat.le_of_ble_eq_true rfl, Nat.le_of_ble_eq_true rfl⟩ (Nat.le_of_ble_eq_true rfl) dX1_grow_11 (fun r2 h => ?_) ⟨Nat.le_of_ble_eq_true rfl, Nat.le_of_ble_eq_true rfl⟩
  refine v_aload_n 0 dX1_grow_14 rfl ?_
  refine v_iconst dX1_grow_15 ic_0 ?_
  refine cT_165_107 z_r1 (Ok.bind h) ⟨Nat.le_of_ble_eq_true rfl, Nat.le_of_ble_eq_true rfl⟩ (Nat.le_of_ble_eq_true rfl) dX1_grow_16 (fun r3 h => ?_) ⟨Nat.le_of_ble_eq_true rfl, Nat.le_of_ble_eq_true rfl⟩
  refine v_lstore [(4, .long r3), (3, .ref (lc 107 r1.1)), (0, .ref (lc 0 0)), (1, .int x1), (2, .int x2)] dX1_grow_19 (Nat.le_of_ble_eq_true rfl) rfl ?_
  refine v_aload_n 2 dX1_grow_21 rfl ?_
  refine v_iconst dX1_grow_22 ic_5 ?_
  refine v_iload_n 3 dX1_grow_23 rfl ?_
  refine v_iload_n 3 dX1_grow_24 rfl ?_
  refine v_iload_n 4 dX1_grow_25 rfl ?_
  obtain ⟨g4, h⟩ := Ok.guard h
  obtain ⟨g5, h⟩ := Ok.guard h
  refine nT_D (tag := 5) [x1, x2] g4 rfl rfl (fun U hU => (klT U hU).1 5 (by decide)) lam_i10 (fun _ _ _ h => h.2) rfl (Nat.le_of_ble_eq_true rfl) (Nat.le_of_ble_eq_true rfl) ⟨Nat.le_of_ble_eq_true rfl, Nat.le_of_ble_eq_true rfl⟩ dX1_grow_26 (fun lc hc => ?_)
  rw [← hc 107 r1.1 (.inl (lvT_107 z_r1))]
  rw [← hc 0 0 (.inl lvT_0)]
  have h := Ok.agr h hc (lvLe_mono g5)
  refine v_nmS (fun s6 e_s6 => ?_)
  have h := Ok.nm h e_s6
  obtain ⟨g7, h⟩ := Ok.guard h
  obtain ⟨g8, h⟩ := Ok.guard h
  refine cT_114 g7 (Ok.throwsM h) hl9 (fun _ _ _ h => h.1) (fun _ h => fun lc' ha => h lc' (fun k j hv => ha k j (hv.imp_left (lvLe_mono g8 k j)))) ⟨Nat.le_of_ble_eq_true rfl, Nat.le_of_ble_eq_true rfl⟩ (Nat.le_of_ble_eq_true rfl) dX1_grow_31 (fun r9 h lc hc => ?_) ⟨Nat.le_of_ble_eq_true rfl, Nat.le_of_ble_eq_true rfl⟩
  rw [← hc 107 r1.1 (.inl (lvT_107 z_r1))]
  rw [← hc 0 0 (.inl lvT_0)]
  have h := Ok.agr h hc (lvLe_mono g8)
  refine v_aload_n 1 dX1_grow_34 rfl ?_
  refine v_iconst dX1_grow_35 ic_0 ?_
  refine cT_165_107 z_r1 (Ok.bind h) ⟨Nat.le_of_ble_eq_true rfl, Nat.le_of_ble_eq_true rfl⟩ (Nat.le_of_ble_eq_true rfl) dX1_grow_36 (fun r10 h => ?_) ⟨Nat.le_of_ble_eq_true rfl, Nat.le_of_ble_eq_true rfl⟩
  refine v_lload 0 dX1_grow_39 rfl ?_
  refine v_lsub dX1_grow_41 ?_
  have h := Ok.ret h
  exact v_retX (v_lret rfl (Nat.le_of_ble_eq_true rfl) (Nat.le_of_ble_eq_true rfl) dX1_grow_42 (h lc agr_rf))
def fT_settle (s : tt_S3) (x1 : Int32) (x2 : Int32) : Option ((Int32 × tt_S3) ⊕ (Nat × tt_S3)) :=
  (fT_within s x1 (1 : Int32) (9 : Int32)).bind fun q_r1 => orThrow q_r1 fun r1 => (fT_within r1 x2 (0 : Int32) (1000000000 : Int32)).bind fun q_r2 => orThrow q_r2 fun r2 => if okO r2.2.2 then if lvLe s r2 then nm (r2.1, r2.2.1, newD r2.2.2 6 (fun j => [x1, x2].getD j 0)) fun s5 => if (rdN r2.2.2 3) < rdN s5.2.2 3 then if lvLe r2 s5 then (fT_done s5 (6 : Int32) x1 (rdN r2.2.2 3)).bind fun q_r8 => orThrow q_r8 fun r8 => (fW_inStatus r8.1 (1 : Int32)).bind fun r9 => (fJI_bitCount r9).bind fun r10 => some (.inl (r10, r8)) else none else none else none else none
abbrev rmT_settle : Room := { frames := 17, cells := 5, slots := 23, locals := 3080 }
set_option maxHeartbeats 4000000 in
theorem mT_settle (l : Launch) (D : va_G) (dA : Nat → ClassId) (A : Nat → Prop) (pz : Nat) (hl9 : l.stackTraces = false) (lc : Nat → Nat → Nat) (s : tt_S3) (x1 : Int32) (x2 : Int32) {Q : Option Value → (Nat → Nat → Nat) → tt_S3 → Prop} {QX : String → (Nat → Nat → Nat) → tt_S3 → Prop} (h : Ok (fT_settle s x1 x2) (fun q => ∀ lc', tt_agr (XT l D dA A pz) s lc lc' → Sum.casesOn (motive := fun _ => Prop) q (fun r => Q (some (.int r.1)) lc' r.2) (fun e => QX (tt_exn e.1) lc' e.2))) : tt_SpX (XT l D dA A pz) yX1_settle cX1_settle 3 (some .int) rmT_settle [.ref (lc 0 0), .int x1, .int x2] lc s Q QX := by
  refine tt_SpX.ofVn plX1 kokT (Nat.le_of_ble_eq_true rfl) ?_
  show tt_V (XT l D dA A pz) cX1_settle (RX1, 3, (some .int), rmT_settle, tt_nd yX1_settle) (tt_fx (XT l D dA A pz) (RX1, 3, (some .int), rmT_settle, tt_nd yX1_settle) Q QX) 0 [(0, .ref (lc 0 0)), (1, .int x1), (2, .int x2)] [] lc s 0 0
  unfold fT_settle at h
  refine v_aload_n 0 dX1_settle_0 rfl ?_
  refine v_iload_n 1 dX1_settle_1 rfl ?_
  refine v_iconst dX1_settle_2 ic_1 ?_
  refine v_bipush dX1_settle_3 kb_9 ?_
  refine cT_80_0 (Ok.throwsM h) hl9 (fun _ _ _ h => h.1) (fun _ h => h lc agr_rf) ⟨Nat.le_of_ble_eq_true rfl, Nat.le_of_ble_eq_true rfl⟩ (Nat.le_of_ble_eq_true rfl) dX1_settle_5 (fun r1 h => ?_) ⟨Nat.le_of_ble_eq_true rfl, Nat.le_of_ble_eq_true rfl⟩
  refine v_aload_n 0 dX1_settle_8 rfl ?_
  refine v_iload_n 2 dX1_settle_9 rfl ?_
  refine v_iconst dX1_settle_10 ic_0 ?_
  refine v_ldc dX1_settle_11 q1115 ?_
  refine cT_80_0 (Ok.throwsM h) hl9 (fun _ _ _ h => h.1) (fun _ h => h lc agr_rf) ⟨Nat.le_of_ble_eq_true rfl, Nat.le_of_ble_eq_true rfl⟩ (Nat.le_of_ble_eq_true rfl) dX1_settle_13 (fun r2 h => ?_) ⟨Nat.le_of_ble_eq_true rfl, Nat.le_of_ble_eq_true rfl⟩
  refine v_aload_n 0 dX1_settle_16 rfl ?_
  refine v_bipush dX1_settle_17 kb_6 ?_
  refine v_iload_n 1 dX1_settle_19 rfl ?_
  refine v_iload_n 1 dX1_settle_20 rfl ?_
  refine v_iload_n 2 dX1_settle_21 rfl ?_
  obtain ⟨g3, h⟩ := Ok.guard h
  obtain ⟨g4, h⟩ := Ok.guard h
  refine nT_D (tag := 6) [x1, x2] g3 rfl rfl (fun U hU => (klT U hU).1 6 (by decide)) lam_i11 (fun _ _ _ h => h.2) rfl (Nat.le_of_ble_eq_true rfl) (Nat.le_of_ble_eq_true rfl) ⟨Nat.le_of_ble_eq_true rfl, Nat.le_of_ble_eq_true rfl⟩ dX1_settle_22 (fun lc hc => ?_)
  rw [← hc 0 0 (.inl lvT_0)]
  have h := Ok.agr h hc (lvLe_mono g4)
  refine v_nmS (fun s5 e_s5 => ?_)
  have h := Ok.nm h e_s5
  obtain ⟨g6, h⟩ := Ok.guard h
  obtain ⟨g7, h⟩ := Ok.guard h
  refine cT_114 g6 (Ok.throwsM h) hl9 (fun _ _ _ h => h.1) (fun _ h => fun lc' ha => h lc' (fun k j hv => ha k j (hv.imp_left (lvLe_mono g7 k j)))) ⟨Nat.le_of_ble_eq_true rfl, Nat.le_of_ble_eq_true rfl⟩ (Nat.le_of_ble_eq_true rfl) dX1_settle_27 (fun r8 h lc hc => ?_) ⟨Nat.le_of_ble_eq_true rfl, Nat.le_of_ble_eq_true rfl⟩
  rw [← hc 0 0 (.inl lvT_0)]
  have h := Ok.agr h hc (lvLe_mono g7)
  refine v_aload_n 0 dX1_settle_30 rfl ?_
  refine gT_X1_10_0 dX1_settle_31 ?_
  refine v_iconst dX1_settle_34 ic_1 ?_
  refine cT_173_100 (Ok.bind h) ⟨Nat.le_of_ble_eq_true rfl, Nat.le_of_ble_eq_true rfl⟩ (Nat.le_of_ble_eq_true rfl) dX1_settle_35 (fun r9 h => ?_) ⟨Nat.le_of_ble_eq_true rfl, Nat.le_of_ble_eq_true rfl⟩
  refine cT_139 (Ok.bind h) ⟨Nat.le_of_ble_eq_true rfl, Nat.le_of_ble_eq_true rfl⟩ (Nat.le_of_ble_eq_true rfl) dX1_settle_38 (fun r10 h => ?_) ⟨Nat.le_of_ble_eq_true rfl, Nat.le_of_ble_eq_true rfl⟩
  have h := Ok.ret h
  exact v_retX (v_iret rfl (Nat.le_of_ble_eq_true rfl) (Nat.le_of_ble_eq_true rfl) dX1_settle_41 (h lc agr_rf))
def fT_fall (s : tt_S3) (x1 : Int32) : Option ((Int32 × tt_S3) ⊕ (Nat × tt_S3)) :=
  (fT_within s x1 (1 : Int32) (9 : Int32)).bind fun q_r1 => orThrow q_r1 fun r1 => if okO r1.2.2 then if lvLe s r1 then nm (r1.1, r1.2.1, newD r1.2.2 7 (fun j => [x1].getD j 0)) fun s4 => if (rdN r1.2.2 3) < rdN s4.2.2 3 then if lvLe r1 s4 then (fT_done s4 (7 : Int32) x1 (rdN r1.2.2 3)).bind fun q_r7 => orThrow q_r7 fun r7 => (fW_inStatus r7.1 (2 : Int32)).bind fun r8 => (fJI_bitCount r8).bind fun r9 => some (.inl (r9, r7)) else none else none else none else none
abbrev rmT_fall : Room := { frames := 17, cells := 4, slots := 16, locals := 3080 }
set_option maxHeartbeats 4000000 in
theorem mT_fall (l : Launch) (D : va_G) (dA : Nat → ClassId) (A : Nat → Prop) (pz : Nat) (hl9 : l.stackTraces = false) (lc : Nat → Nat → Nat) (s : tt_S3) (x1 : Int32) {Q : Option Value → (Nat → Nat → Nat) → tt_S3 → Prop} {QX : String → (Nat → Nat → Nat) → tt_S3 → Prop} (h : Ok (fT_fall s x1) (fun q => ∀ lc', tt_agr (XT l D dA A pz) s lc lc' → Sum.casesOn (motive := fun _ => Prop) q (fun r => Q (some (.int r.1)) lc' r.2) (fun e => QX (tt_exn e.1) lc' e.2))) : tt_SpX (XT l D dA A pz) yX1_fall cX1_fall 2 (some .int) rmT_fall [.ref (lc 0 0), .int x1] lc s Q QX := by
  refine tt_SpX.ofVn plX1 kokT (Nat.le_of_ble_eq_true rfl) ?_
  show tt_V (XT l D dA A pz) cX1_fall (RX1, 2, (some .int), rmT_fall, tt_nd yX1_fall) (tt_fx (XT l D dA A pz) (RX1, 2, (some .int), rmT_fall, tt_nd yX1_fall) Q QX) 0 [(0, .ref (lc 0 0)), (1, .int x1)] [] lc s 0 0
  unfold fT_fall at h
  refine v_aload_n 0 dX1_fall_0 rfl ?_
  refine v_iload_n 1 dX1_fall_1 rfl ?_
  refine v_iconst dX1_fall_2 ic_1 ?_
  refine v_bipush dX1_fall_3 kb_9 ?_
  refine cT_80_0 (Ok.throwsM h) hl9 (fun _ _ _ h => h.1) (fun _ h => h lc agr_rf) ⟨Nat.le_of_ble_eq_true rfl, Nat.le_of_ble_eq_true rfl⟩ (Nat.le_of_ble_eq_true rfl) dX1_fall_5 (fun r1 h => ?_) ⟨Nat.le_of_ble_eq_true rfl, Nat.le_of_ble_eq_true rfl⟩
  refine v_aload_n 0 dX1_fall_8 rfl ?_
  refine v_bipush dX1_fall_9 kb_7 ?_
  refine v_iload_n 1 dX1_fall_11 rfl ?_
  refine v_iload_n 1 dX1_fall_12 rfl ?_
  obtain ⟨g2, h⟩ := Ok.guard h
  obtain ⟨g3, h⟩ := Ok.guard h
  refine nT_D (tag := 7) [x1] g2 rfl rfl (fun U hU => (klT U hU).1 7 (by decide)) lam_i12 (fun _ _ _ h => h.2) rfl (Nat.le_of_ble_eq_true rfl) (Nat.le_of_ble_eq_true rfl) ⟨Nat.le_of_ble_eq_true rfl, Nat.le_of_ble_eq_true rfl⟩ dX1_fall_13 (fun lc hc => ?_)
  rw [← hc 0 0 (.inl lvT_0)]
  have h := Ok.agr h hc (lvLe_mono g3)
  refine v_nmS (fun s4 e_s4 => ?_)
  have h := Ok.nm h e_s4
  obtain ⟨g5, h⟩ := Ok.guard h
  obtain ⟨g6, h⟩ := Ok.guard h
  refine cT_114 g5 (Ok.throwsM h) hl9 (fun _ _ _ h => h.1) (fun _ h => fun lc' ha => h lc' (fun k j hv => ha k j (hv.imp_left (lvLe_mono g6 k j)))) ⟨Nat.le_of_ble_eq_true rfl, Nat.le_of_ble_eq_true rfl⟩ (Nat.le_of_ble_eq_true rfl) dX1_fall_18 (fun r7 h lc hc => ?_) ⟨Nat.le_of_ble_eq_true rfl, Nat.le_of_ble_eq_true rfl⟩
  rw [← hc 0 0 (.inl lvT_0)]
  have h := Ok.agr h hc (lvLe_mono g6)
  refine v_aload_n 0 dX1_fall_21 rfl ?_
  refine gT_X1_10_0 dX1_fall_22 ?_
  refine v_iconst dX1_fall_25 ic_2 ?_
  refine cT_173_100 (Ok.bind h) ⟨Nat.le_of_ble_eq_true rfl, Nat.le_of_ble_eq_true rfl⟩ (Nat.le_of_ble_eq_true rfl) dX1_fall_26 (fun r8 h => ?_) ⟨Nat.le_of_ble_eq_true rfl, Nat.le_of_ble_eq_true rfl⟩
  refine cT_139 (Ok.bind h) ⟨Nat.le_of_ble_eq_true rfl, Nat.le_of_ble_eq_true rfl⟩ (Nat.le_of_ble_eq_true rfl) dX1_fall_29 (fun r9 h => ?_) ⟨Nat.le_of_ble_eq_true rfl, Nat.le_of_ble_eq_true rfl⟩
  have h := Ok.ret h
  exact v_retX (v_iret rfl (Nat.le_of_ble_eq_true rfl) (Nat.le_of_ble_eq_true rfl) dX1_fall_32 (h lc agr_rf))
def fT_reopen (s : tt_S3) (x1 : Int32) : Option ((Int64 × tt_S3) ⊕ (Nat × tt_S3)) :=
  (fT_harmOf s x1).bind fun q_r1 => orThrow q_r1 fun r1 => (fB_borne r1.2.1 r1.1 (0 : Int32)).bind fun r2 => if okO r1.2.2.2 then if lvLe s r1.2 then nm (r1.2.1, r1.2.2.1, newD r1.2.2.2 8 (fun j => [x1].getD j 0)) fun s5 => if (rdN r1.2.2.2 3) < rdN s5.2.2 3 then if lvLe r1.2 s5 then (fT_done s5 (8 : Int32) x1 (rdN r1.2.2.2 3)).bind fun q_r8 => orThrow q_r8 fun r8 => (fB_borne r8.1 r1.1 (0 : Int32)).bind fun r9 => some (.inl (r9 - r2, r8)) else none else none else none else none
abbrev rmT_reopen : Room := { frames := 17, cells := 4, slots := 16, locals := 3080 }
set_option maxHeartbeats 4000000 in
theorem mT_reopen (l : Launch) (D : va_G) (dA : Nat → ClassId) (A : Nat → Prop) (pz : Nat) (hl9 : l.stackTraces = false) (lc : Nat → Nat → Nat) (s : tt_S3) (x1 : Int32) {Q : Option Value → (Nat → Nat → Nat) → tt_S3 → Prop} {QX : String → (Nat → Nat → Nat) → tt_S3 → Prop} (h : Ok (fT_reopen s x1) (fun q => ∀ lc', tt_agr (XT l D dA A pz) s lc lc' → Sum.casesOn (motive := fun _ => Prop) q (fun r => Q (some (.long r.1)) lc' r.2) (fun e => QX (tt_exn e.1) lc' e.2))) : tt_SpX (XT l D dA A pz) yX1_reopen cX1_reopen 5 (some .long) rmT_reopen [.ref (lc 0 0), .int x1] lc s Q QX := by
  refine tt_SpX.ofVn plX1 kokT (Nat.le_of_ble_eq_true rfl) ?_
  show tt_V (XT l D dA A pz) cX1_reopen (RX1, 5, (some .long), rmT_reopen, tt_nd yX1_reopen) (tt_fx (XT l D dA A pz) (RX1, 5, (some .long), rmT_reopen, tt_nd yX1_reopen) Q QX) 0 [(0, .ref (lc 0 0)), (1, .int x1)] [] lc s 0 0
  unfold fT_reopen at h
  refine v_aload_n 0 dX1_reopen_0 rfl ?_
  refine v_iload_n 1 dX1_reopen_1 rfl ?_
  refine cT_161_0 (Ok.throwsM h) hl9 (fun _ _ _ h => h.1) (fun _ h => h lc agr_rf) ⟨Nat.le_of_ble_eq_true rfl, Nat.le_of_ble_eq_true rfl⟩ (Nat.le_of_ble_eq_true rfl) dX1_reopen_2 (fun r1 z_r1 h => ?_) ⟨Nat.le_of_ble_eq_true rfl, Nat.le_of_ble_eq_true rfl⟩
  refine v_astore_n [(2, .ref (lc 107 r1.1)), (0, .ref (lc 0 0)), (1, .int x1)] dX1_reopen_5 (Nat.le_of_ble_eq_true rfl) rfl ?_
  refine v_aload_n 0 dX1_reopen_6 rfl ?_
  refine v_iconst dX1_reopen_7 ic_0 ?_
  refine cT_165_107 z_r1 (Ok.bind h) ⟨Nat.le_of_ble_eq_true rfl, Nat.le_of_ble_eq_true rfl⟩ (Nat.le_of_ble_eq_true rfl) dX1_reopen_8 (fun r2 h => ?_) ⟨Nat.le_of_ble_eq_true rfl, Nat.le_of_ble_eq_true rfl⟩
  refine v_lstore_n [(3, .long r2), (2, .ref (lc 107 r1.1)), (0, .ref (lc 0 0)), (1, .int x1)] dX1_reopen_11 (Nat.le_of_ble_eq_true rfl) rfl ?_
  refine v_aload_n 2 dX1_reopen_12 rfl ?_
  refine v_bipush dX1_reopen_13 kb_8 ?_
  refine v_iload_n 3 dX1_reopen_15 rfl ?_
  refine v_iload_n 3 dX1_reopen_16 rfl ?_
  obtain ⟨g3, h⟩ := Ok.guard h
  obtain ⟨g4, h⟩ := Ok.guard h
  refine nT_D (tag := 8) [x1] g3 rfl rfl (fun U hU => (klT U hU).1 8 (by decide)) lam_i13 (fun _ _ _ h => h.2) rfl (Nat.le_of_ble_eq_true rfl) (Nat.le_of_ble_eq_true rfl) ⟨Nat.le_of_ble_eq_true rfl, Nat.le_of_ble_eq_true rfl⟩ dX1_reopen_17 (fun lc hc => ?_)
  rw [← hc 107 r1.1 (.inl (lvT_107 z_r1))]
  rw [← hc 0 0 (.inl lvT_0)]
  have h := Ok.agr h hc (lvLe_mono g4)
  refine v_nmS (fun s5 e_s5 => ?_)
  have h := Ok.nm h e_s5
  obtain ⟨g6, h⟩ := Ok.guard h
  obtain ⟨g7, h⟩ := Ok.guard h
  refine cT_114 g6 (Ok.throwsM h) hl9 (fun _ _ _ h => h.1) (fun _ h => fun lc' ha => h lc' (fun k j hv => ha k j (hv.imp_left (lvLe_mono g7 k j)))) ⟨Nat.le_of_ble_eq_true rfl, Nat.le_of_ble_eq_true rfl⟩ (Nat.le_of_ble_eq_true rfl) dX1_reopen_22 (fun r8 h lc hc => ?_) ⟨Nat.le_of_ble_eq_true rfl, Nat.le_of_ble_eq_true rfl⟩
  rw [← hc 107 r1.1 (.inl (lvT_107 z_r1))]
  rw [← hc 0 0 (.inl lvT_0)]
  have h := Ok.agr h hc (lvLe_mono g7)
  refine v_aload_n 1 dX1_reopen_25 rfl ?_
  refine v_iconst dX1_reopen_26 ic_0 ?_
  refine cT_165_107 z_r1 (Ok.bind h) ⟨Nat.le_of_ble_eq_true rfl, Nat.le_of_ble_eq_true rfl⟩ (Nat.le_of_ble_eq_true rfl) dX1_reopen_27 (fun r9 h => ?_) ⟨Nat.le_of_ble_eq_true rfl, Nat.le_of_ble_eq_true rfl⟩
  refine v_lload_n 0 dX1_reopen_30 rfl ?_
  refine v_lsub dX1_reopen_31 ?_
  have h := Ok.ret h
  exact v_retX (v_lret rfl (Nat.le_of_ble_eq_true rfl) (Nat.le_of_ble_eq_true rfl) dX1_reopen_32 (h lc agr_rf))
