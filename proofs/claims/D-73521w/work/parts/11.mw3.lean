set_option maxRecDepth 100000
def fM_goesWithout_L6 (x1 : Int32) (a2 : Int32 × tt_St) : Option ((Int32 × tt_St) ⊕ (Int32 × tt_St)) :=
  if (rdI a2.2 0 0 5) ≤ a2.1 then some (.inr (a2.1, a2.2)) else if a2.1 = x1 then some (.inl ((a2.1 + 1 : Int32), a2.2)) else (fM_goes a2.2 a2.1).bind fun r6 => some (.inl ((a2.1 + 1 : Int32), r6))
def fM_goesWithout (s : tt_St) (x1 : Int32) : Option (tt_St) :=
  (fM_begins s).bind fun r1 => (itr (fM_goesWithout_L6 x1) tt_fuel ((0 : Int32), r1)).bind fun b3 => some b3.2
abbrev rM_goesWithout : Room := { frames := 10, cells := 0, slots := 0, locals := 233 }
set_option maxHeartbeats 4000000 in
theorem mM_goesWithout (l : Launch) (D : va_G) (dA : Nat → ClassId) (A : Nat → Prop) (lc : Nat → Nat → Nat) (s : tt_St) (x1 : Int32) {Q : Option Value → (Nat → Nat → Nat) → tt_St → Prop} (h : Ok (fM_goesWithout s x1) (fun r => Q none lc r)) : tt_Sp (XM l D dA A) yX11_goesWithout cX11_goesWithout 3 none rM_goesWithout [.ref (lc 0 0), .int x1] lc s Q := by
  refine tt_Sp.ofV plM kokM (Nat.le_of_ble_eq_true rfl) ?_
  show tt_V (XM l D dA A) cX11_goesWithout (RX11, 3, none, rM_goesWithout, tt_nt) (tt_fn (XM l D dA A) (RX11, 3, none, rM_goesWithout, tt_nt) Q) 0 [(0, .ref (lc 0 0)), (1, .int x1)] [] lc s 0 0
  unfold fM_goesWithout at h
  refine v_aload_n 0 dX11_goesWithout_0 rfl ?_
  refine cM_340 (Ok.bind h) ⟨Nat.le_of_ble_eq_true rfl, Nat.le_of_ble_eq_true rfl⟩ (Nat.le_of_ble_eq_true rfl) dX11_goesWithout_1 (fun r1 h => ?_)
  refine v_iconst dX11_goesWithout_4 ic_0 ?_
  refine v_istore_n [(2, .int (0 : Int32)), (0, .ref (lc 0 0)), (1, .int x1)] dX11_goesWithout_5 (Nat.le_of_ble_eq_true rfl) rfl ?_
  refine v_sub [1, 2, 0] rfl ?_
  refine itr_loop (P := fun a2 : Int32 × tt_St => tt_V (XM l D dA A) cX11_goesWithout (RX11, 3, none, rM_goesWithout, tt_nt) (tt_fn (XM l D dA A) (RX11, 3, none, rM_goesWithout, tt_nt) Q) 6 [(0, .ref (lc 0 0)), (1, .int x1), (2, .int a2.1)] [] lc a2.2 0 0) (PE := fun b3 : Int32 × tt_St => tt_V (XM l D dA A) cX11_goesWithout (RX11, 3, none, rM_goesWithout, tt_nt) (tt_fn (XM l D dA A) (RX11, 3, none, rM_goesWithout, tt_nt) Q) 30 [(0, .ref (lc 0 0)), (1, .int x1), (2, .int b3.1)] [] lc b3.2 0 0) h (fun b3 h => ?_) (fun a2 h => ?_)
  · have h := Ok.ret h
    exact v_vret rfl (Nat.zero_le _) (Nat.zero_le _) dX11_goesWithout_30 h
  · have h : Ok (fM_goesWithout_L6 x1 a2) _ := h
    unfold fM_goesWithout_L6 at h
    refine v_iload_n 2 dX11_goesWithout_6 rfl ?_
    refine v_aload_n 0 dX11_goesWithout_7 rfl ?_
    refine gM_17 dX11_goesWithout_8 ?_
    refine v_icmp_ge (tgt := 30) dX11_goesWithout_11 rfl (fun c4 => ?_) (fun c4 => ?_)
    · have h := Ok.pos h c4
      have h := Ok.ret h
      exact h
    · have h := Ok.neg h c4
      refine v_iload_n 2 dX11_goesWithout_14 rfl ?_
      refine v_iload_n 1 dX11_goesWithout_15 rfl ?_
      refine v_icmp_eq (tgt := 24) dX11_goesWithout_16 rfl (fun c5 => ?_) (fun c5 => ?_)
      · have h := Ok.pos h c5
        refine v_iinc (v := (a2.1 + 1 : Int32)) 2 [(2, .int (a2.1 + 1 : Int32)), (0, .ref (lc 0 0)), (1, .int x1)] dX11_goesWithout_24 rfl (by rw [ic_1]) (Nat.le_of_ble_eq_true rfl) rfl ?_
        refine v_goto (tgt := 6) dX11_goesWithout_27 rfl ?_
        refine v_sub [1, 2, 0] rfl ?_
        have h := Ok.ret h
        exact h
      · have h := Ok.neg h c5
        refine v_aload_n 0 dX11_goesWithout_19 rfl ?_
        refine v_iload_n 2 dX11_goesWithout_20 rfl ?_
        refine cM_343 (Ok.bind h) ⟨Nat.le_of_ble_eq_true rfl, Nat.le_of_ble_eq_true rfl⟩ (Nat.le_of_ble_eq_true rfl) dX11_goesWithout_21 (fun r6 h => ?_)
        refine v_iinc (v := (a2.1 + 1 : Int32)) 2 [(2, .int (a2.1 + 1 : Int32)), (0, .ref (lc 0 0)), (1, .int x1)] dX11_goesWithout_24 rfl (by rw [ic_1]) (Nat.le_of_ble_eq_true rfl) rfl ?_
        refine v_goto (tgt := 6) dX11_goesWithout_27 rfl ?_
        refine v_sub [1, 2, 0] rfl ?_
        have h := Ok.ret h
        exact h
theorem cM_462 {l : Launch} {D : va_G} {dA : Nat → ClassId} {A : Nat → Prop} {lc : Nat → Nat → Nat} {s : tt_St} {cc : ByteArray} {nl : Nat} {rt : Option FieldType} {rm : Room} {tn : tt_Tn} {Q : tt_Fin} {pc : Nat} {lv : List (Nat × Value)} {rest : List Value} {ck cn : Nat} {x1 : Int32} {K : tt_St → Prop} (h : Ok (fM_goesWithout s x1) K) (hR : 10 + 1 ≤ rm.frames ∧ 8 + (3 + 11) + 233 ≤ rm.locals) (hW : (rest.map fun v => v.category).sum ≤ 8) (d : decode cc pc = .ok (.invokevirtual 462, 3)) (kk : ∀ r, K r → tt_V (XM l D dA A) cc (RX11, nl, rt, rm, tn) Q (pc + 3) lv rest lc r ck cn) (hf : ck ≤ rm.cells ∧ cn ≤ rm.slots := by exact ⟨Nat.zero_le _, Nat.zero_le _⟩) : tt_V (XM l D dA A) cc (RX11, nl, rt, rm, tn) Q pc lv (.int x1 :: .ref (lc 0 0) :: rest) lc s ck cn :=
  v_callV (kd := 0) (i := 0) (nA := 1) (As := [.int x1]) lvM_0 oM rfl (mM_goesWithout l D dA A lc s x1 (Q := (fun v lc' s' => ∃ r, K r ∧ v = none ∧ lc' = lc ∧ s' = r)) (h.mono (fun r hr => ⟨r, hr, rfl, rfl, rfl⟩))) (lw_V q2397 q2399 qs124 q154 q2400) (by decide +kernel) rfl hR hW hf d rfl (fun v lc' s' q => by obtain ⟨r, hr, e1, e2, e3⟩ := q; rw [e1, e2, e3]; exact kk r hr)
def fM_goesBy_L19  (a4 : Int32 × tt_St) : Option ((Int32 × tt_St) ⊕ (Int32 × tt_St)) :=
  if (rdI a4.2 0 0 5) ≤ a4.1 then some (.inr (a4.1, a4.2)) else (fM_goes a4.2 a4.1).bind fun r7 => some (.inl ((a4.1 + 1 : Int32), r7))
def fM_goesBy (s : tt_St) (x1 : Int32) (x2 : Int32) (x3 : Int32) : Option (tt_St) :=
  (fM_begins s).bind fun r1 => (fM_rulesAre r1 x1 x2 x3).bind fun r2 => nm (wrI r2 0 0 48 (1 : Int32)) fun s3 => (itr (fM_goesBy_L19) tt_fuel ((0 : Int32), s3)).bind fun b5 => nm (wrI b5.2 0 0 48 (0 : Int32)) fun s8 => some s8
abbrev rM_goesBy : Room := { frames := 10, cells := 0, slots := 0, locals := 233 }
set_option maxHeartbeats 4000000 in
theorem mM_goesBy (l : Launch) (D : va_G) (dA : Nat → ClassId) (A : Nat → Prop) (lc : Nat → Nat → Nat) (s : tt_St) (x1 : Int32) (x2 : Int32) (x3 : Int32) {Q : Option Value → (Nat → Nat → Nat) → tt_St → Prop} (h : Ok (fM_goesBy s x1 x2 x3) (fun r => Q none lc r)) : tt_Sp (XM l D dA A) yX11_goesBy cX11_goesBy 5 none rM_goesBy [.ref (lc 0 0), .int x1, .int x2, .int x3] lc s Q := by
  refine tt_Sp.ofV plM kokM (Nat.le_of_ble_eq_true rfl) ?_
  show tt_V (XM l D dA A) cX11_goesBy (RX11, 5, none, rM_goesBy, tt_nt) (tt_fn (XM l D dA A) (RX11, 5, none, rM_goesBy, tt_nt) Q) 0 [(0, .ref (lc 0 0)), (1, .int x1), (2, .int x2), (3, .int x3)] [] lc s 0 0
  unfold fM_goesBy at h
  refine v_aload_n 0 dX11_goesBy_0 rfl ?_
  refine cM_340 (Ok.bind h) ⟨Nat.le_of_ble_eq_true rfl, Nat.le_of_ble_eq_true rfl⟩ (Nat.le_of_ble_eq_true rfl) dX11_goesBy_1 (fun r1 h => ?_)
  refine v_aload_n 0 dX11_goesBy_4 rfl ?_
  refine v_iload_n 1 dX11_goesBy_5 rfl ?_
  refine v_iload_n 2 dX11_goesBy_6 rfl ?_
  refine v_iload_n 3 dX11_goesBy_7 rfl ?_
  refine cM_310 (Ok.bind h) ⟨Nat.le_of_ble_eq_true rfl, Nat.le_of_ble_eq_true rfl⟩ (Nat.le_of_ble_eq_true rfl) dX11_goesBy_8 (fun r2 h => ?_)
  refine v_aload_n 0 dX11_goesBy_11 rfl ?_
  refine v_iconst dX11_goesBy_12 ic_1 ?_
  refine pM_306 zB_1 zF_1 dX11_goesBy_13 ?_
  refine v_nmS (fun s3 e_s3 => ?_)
  have h := Ok.nm h e_s3
  refine v_iconst dX11_goesBy_16 ic_0 ?_
  refine v_istore [(4, .int (0 : Int32)), (0, .ref (lc 0 0)), (1, .int x1), (2, .int x2), (3, .int x3)] dX11_goesBy_17 (Nat.le_of_ble_eq_true rfl) rfl ?_
  refine v_sub [1, 0] rfl ?_
  refine itr_loop (P := fun a4 : Int32 × tt_St => tt_V (XM l D dA A) cX11_goesBy (RX11, 5, none, rM_goesBy, tt_nt) (tt_fn (XM l D dA A) (RX11, 5, none, rM_goesBy, tt_nt) Q) 19 [(0, .ref (lc 0 0)), (4, .int a4.1)] [] lc a4.2 0 0) (PE := fun b5 : Int32 × tt_St => tt_V (XM l D dA A) cX11_goesBy (RX11, 5, none, rM_goesBy, tt_nt) (tt_fn (XM l D dA A) (RX11, 5, none, rM_goesBy, tt_nt) Q) 40 [(0, .ref (lc 0 0)), (4, .int b5.1)] [] lc b5.2 0 0) h (fun b5 h => ?_) (fun a4 h => ?_)
  · refine v_aload_n 0 dX11_goesBy_40 rfl ?_
    refine v_iconst dX11_goesBy_41 ic_0 ?_
    refine pM_306 zB_0 zF_0 dX11_goesBy_42 ?_
    refine v_nmS (fun s8 e_s8 => ?_)
    have h := Ok.nm h e_s8
    have h := Ok.ret h
    exact v_vret rfl (Nat.zero_le _) (Nat.zero_le _) dX11_goesBy_45 h
  · have h : Ok (fM_goesBy_L19 a4) _ := h
    unfold fM_goesBy_L19 at h
    refine v_iload 1 dX11_goesBy_19 rfl ?_
    refine v_aload_n 0 dX11_goesBy_21 rfl ?_
    refine gM_17 dX11_goesBy_22 ?_
    refine v_icmp_ge (tgt := 40) dX11_goesBy_25 rfl (fun c6 => ?_) (fun c6 => ?_)
    · have h := Ok.pos h c6
      have h := Ok.ret h
      exact h
    · have h := Ok.neg h c6
      refine v_aload_n 0 dX11_goesBy_28 rfl ?_
      refine v_iload 1 dX11_goesBy_29 rfl ?_
      refine cM_343 (Ok.bind h) ⟨Nat.le_of_ble_eq_true rfl, Nat.le_of_ble_eq_true rfl⟩ (Nat.le_of_ble_eq_true rfl) dX11_goesBy_31 (fun r7 h => ?_)
      refine v_iinc (v := (a4.1 + 1 : Int32)) 1 [(4, .int (a4.1 + 1 : Int32)), (0, .ref (lc 0 0))] dX11_goesBy_34 rfl (by rw [ic_1]) (Nat.le_of_ble_eq_true rfl) rfl ?_
      refine v_goto (tgt := 19) dX11_goesBy_37 rfl ?_
      refine v_sub [1, 0] rfl ?_
      have h := Ok.ret h
      exact h
theorem cM_453 {l : Launch} {D : va_G} {dA : Nat → ClassId} {A : Nat → Prop} {lc : Nat → Nat → Nat} {s : tt_St} {cc : ByteArray} {nl : Nat} {rt : Option FieldType} {rm : Room} {tn : tt_Tn} {Q : tt_Fin} {pc : Nat} {lv : List (Nat × Value)} {rest : List Value} {ck cn : Nat} {x1 : Int32} {x2 : Int32} {x3 : Int32} {K : tt_St → Prop} (h : Ok (fM_goesBy s x1 x2 x3) K) (hR : 10 + 1 ≤ rm.frames ∧ 8 + (5 + 11) + 233 ≤ rm.locals) (hW : (rest.map fun v => v.category).sum ≤ 8) (d : decode cc pc = .ok (.invokevirtual 453, 3)) (kk : ∀ r, K r → tt_V (XM l D dA A) cc (RX11, nl, rt, rm, tn) Q (pc + 3) lv rest lc r ck cn) (hf : ck ≤ rm.cells ∧ cn ≤ rm.slots := by exact ⟨Nat.zero_le _, Nat.zero_le _⟩) : tt_V (XM l D dA A) cc (RX11, nl, rt, rm, tn) Q pc lv (.int x3 :: .int x2 :: .int x1 :: .ref (lc 0 0) :: rest) lc s ck cn :=
  v_callV (kd := 0) (i := 0) (nA := 3) (As := [.int x1, .int x2, .int x3]) lvM_0 oM rfl (mM_goesBy l D dA A lc s x1 x2 x3 (Q := (fun v lc' s' => ∃ r, K r ∧ v = none ∧ lc' = lc ∧ s' = r)) (h.mono (fun r hr => ⟨r, hr, rfl, rfl, rfl⟩))) (lw_V q2377 q2379 qs121 q154 q2380) (by decide +kernel) rfl hR hW hf d rfl (fun v lc' s' q => by obtain ⟨r, hr, e1, e2, e3⟩ := q; rw [e1, e2, e3]; exact kk r hr)
def fM_hasRoom (s : tt_St) (x1 : Int32) : Option (Int32 × tt_St) :=
  nm (if (160 : Int32) ≤ (rdI s 0 0 5) then (0 : Int32) else (1 : Int32)) fun t1 => (fM_needs s t1 x1 (2 : Int32)).bind fun r4 => some (r4.1, r4.2)
abbrev rM_hasRoom : Room := { frames := 1, cells := 0, slots := 0, locals := 23 }
set_option maxHeartbeats 4000000 in
theorem mM_hasRoom (l : Launch) (D : va_G) (dA : Nat → ClassId) (A : Nat → Prop) (lc : Nat → Nat → Nat) (s : tt_St) (x1 : Int32) {Q : Option Value → (Nat → Nat → Nat) → tt_St → Prop} (h : Ok (fM_hasRoom s x1) (fun r => zB r.1 → Q (some (.int r.1)) lc r.2)) : tt_Sp (XM l D dA A) yX11_hasRoom cX11_hasRoom 2 (some .boolean) rM_hasRoom [.ref (lc 0 0), .int x1] lc s Q := by
  refine tt_Sp.ofV plM kokM (Nat.le_of_ble_eq_true rfl) ?_
  show tt_V (XM l D dA A) cX11_hasRoom (RX11, 2, (some .boolean), rM_hasRoom, tt_nt) (tt_fn (XM l D dA A) (RX11, 2, (some .boolean), rM_hasRoom, tt_nt) Q) 0 [(0, .ref (lc 0 0)), (1, .int x1)] [] lc s 0 0
  unfold fM_hasRoom at h
  refine v_aload_n 0 dX11_hasRoom_0 rfl ?_
  refine v_aload_n 0 dX11_hasRoom_1 rfl ?_
  refine gM_17 dX11_hasRoom_2 ?_
  refine v_sipush dX11_hasRoom_5 ks_160 ?_
  have J2 : ∀ t1, t1 = (if (160 : Int32) ≤ (rdI s 0 0 5) then (0 : Int32) else (1 : Int32)) → tt_V (XM l D dA A) cX11_hasRoom (RX11, 2, (some .boolean), rM_hasRoom, tt_nt) (tt_fn (XM l D dA A) (RX11, 2, (some .boolean), rM_hasRoom, tt_nt) Q) 16 [(1, .int x1)] [.int t1, .ref (lc 0 0)] lc s 0 0 := fun t1 e_t1 => by
    have h := Ok.nm h e_t1
    refine v_iload_n 0 dX11_hasRoom_16 rfl ?_
    refine v_iconst dX11_hasRoom_17 ic_2 ?_
    refine cM_346 (Ok.bind h) ⟨Nat.le_of_ble_eq_true rfl, Nat.le_of_ble_eq_true rfl⟩ (Nat.le_of_ble_eq_true rfl) dX11_hasRoom_18 (fun r4 z_r4 h => ?_)
    have h := Ok.ret h
    exact v_zret rfl z_r4 (Nat.zero_le _) (Nat.zero_le _) dX11_hasRoom_21 (h z_r4)
  refine v_icmp_ge (tgt := 15) dX11_hasRoom_8 rfl (fun c3 => ?_) (fun c3 => ?_)
  · refine v_iconst dX11_hasRoom_15 ic_0 ?_
    refine v_sub [1] rfl ?_
    exact J2 _ (by rw [if_pos c3])
  · refine v_iconst dX11_hasRoom_11 ic_1 ?_
    refine v_goto (tgt := 16) dX11_hasRoom_12 rfl ?_
    refine v_sub [1] rfl ?_
    exact J2 _ (by rw [if_neg c3])
theorem cM_365 {l : Launch} {D : va_G} {dA : Nat → ClassId} {A : Nat → Prop} {lc : Nat → Nat → Nat} {s : tt_St} {cc : ByteArray} {nl : Nat} {rt : Option FieldType} {rm : Room} {tn : tt_Tn} {Q : tt_Fin} {pc : Nat} {lv : List (Nat × Value)} {rest : List Value} {ck cn : Nat} {x1 : Int32} {K : Int32 × tt_St → Prop} (h : Ok (fM_hasRoom s x1) K) (hR : 1 + 1 ≤ rm.frames ∧ 8 + (2 + 11) + 23 ≤ rm.locals) (hW : (rest.map fun v => v.category).sum ≤ 8) (d : decode cc pc = .ok (.invokevirtual 365, 3)) (kk : ∀ r, zB r.1 → K r → tt_V (XM l D dA A) cc (RX11, nl, rt, rm, tn) Q (pc + 3) lv (.int r.1 :: rest) lc r.2 ck cn) (hf : ck ≤ rm.cells ∧ cn ≤ rm.slots := by exact ⟨Nat.zero_le _, Nat.zero_le _⟩) : tt_V (XM l D dA A) cc (RX11, nl, rt, rm, tn) Q pc lv (.int x1 :: .ref (lc 0 0) :: rest) lc s ck cn :=
  v_callV (kd := 0) (i := 0) (nA := 1) (As := [.int x1]) lvM_0 oM rfl (mM_hasRoom l D dA A lc s x1 (Q := (fun v lc' s' => ∃ r, zB r.1 ∧ K r ∧ v = some (.int r.1) ∧ lc' = lc ∧ s' = r.2)) (h.mono (fun r hr => fun hz => ⟨r, hz, hr, rfl, rfl, rfl⟩))) (lw_V q1952 q1954 qs56 q154 q1955) (by decide +kernel) rfl hR hW hf d rfl (fun v lc' s' q => by obtain ⟨r, hz, hr, e1, e2, e3⟩ := q; rw [e1, e2, e3]; exact kk r hz hr)
def fM_place (s : tt_St) (x1 : Int32) (x2 : Int32) (x3 : Int32) (x4 : Int32) : Option (Int32 × tt_St) :=
  nm (wrI s 0 0 0 (0 : Int32)) fun s1 => (fM_within x1.toInt64 (0 : Int64) (11 : Int64)).bind fun r2 => (if r2 = 0 then some (0 : Int32) else (fM_within x2.toInt64 (0 : Int64) (900000000 : Int64)).bind fun r5 => if r5 = 0 then some (0 : Int32) else (fM_within x3.toInt64 (1 : Int64) (100000000 : Int64)).bind fun r7 => if r7 = 0 then some (0 : Int32) else (fM_within x4.toInt64 (1 : Int64) (4 : Int64)).bind fun r9 => if r9 = 0 then some (0 : Int32) else some (1 : Int32) : Option (Int32)).bind fun t3 => (fM_needs s1 t3 (1 : Int32) (1 : Int32)).bind fun r11 => if r11.1 = 0 then some ((0 : Int32), r11.2) else (fM_eventsOf r11.2 (0 : Int32)).bind fun r13 => (if (40 : Int32) ≤ r13 then some (0 : Int32) else (fM_canPlace r11.2 x1 x2 x3).bind fun r16 => if r16 = 0 then some (0 : Int32) else some (1 : Int32) : Option (Int32)).bind fun t14 => (fM_needs r11.2 t14 (2 : Int32) (2 : Int32)).bind fun r18 => if r18.1 = 0 then some ((0 : Int32), r18.2) else (fM_hasRoom r18.2 (2 : Int32)).bind fun r20 => if r20.1 = 0 then some ((0 : Int32), r20.2) else (fM_eventsOf r20.2 (0 : Int32)).bind fun r22 => (fM_notes r20.2 (0 : Int32) x1 x2 x3 x4 r22).bind fun r23 => (fM_does r23 ((rdI r23 0 0 5) - (1 : Int32))).bind fun r24 => some (r22, r24)
abbrev rM_place : Room := { frames := 9, cells := 0, slots := 0, locals := 212 }
set_option maxHeartbeats 4000000 in
theorem mM_place (l : Launch) (D : va_G) (dA : Nat → ClassId) (A : Nat → Prop) (lc : Nat → Nat → Nat) (s : tt_St) (x1 : Int32) (x2 : Int32) (x3 : Int32) (x4 : Int32) {Q : Option Value → (Nat → Nat → Nat) → tt_St → Prop} (h : Ok (fM_place s x1 x2 x3 x4) (fun r => Q (some (.int r.1)) lc r.2)) : tt_Sp (XM l D dA A) yX11_place cX11_place 7 (some .int) rM_place [.ref (lc 0 0), .int x1, .int x2, .int x3, .int x4] lc s Q := by
  refine tt_Sp.ofV plM kokM (Nat.le_of_ble_eq_true rfl) ?_
  show tt_V (XM l D dA A) cX11_place (RX11, 7, (some .int), rM_place, tt_nt) (tt_fn (XM l D dA A) (RX11, 7, (some .int), rM_place, tt_nt) Q) 0 [(0, .ref (lc 0 0)), (1, .int x1), (2, .int x2), (3, .int x3), (4, .int x4)] [] lc s 0 0
  unfold fM_place at h
  refine v_aload_n 0 dX11_place_0 rfl ?_
  refine v_iconst dX11_place_1 ic_0 ?_
  refine pM_1 dX11_place_2 ?_
  refine v_nmS (fun s1 e_s1 => ?_)
  have h := Ok.nm h e_s1
  refine v_iload_n 1 dX11_place_5 rfl ?_
  refine v_i2l dX11_place_6 rfl ?_
  refine v_lconst dX11_place_7 kl_0 ?_
  refine v_ldc2 dX11_place_8 q1917 ?_
  refine cM_352 (Ok.bind h) ⟨Nat.le_of_ble_eq_true rfl, Nat.le_of_ble_eq_true rfl⟩ (Nat.le_of_ble_eq_true rfl) dX11_place_11 (fun r2 z_r2 h => ?_)
  have h := Ok.join (PJ := fun t3 : Int32 => tt_V (XM l D dA A) cX11_place (RX11, 7, (some .int), rM_place, tt_nt) (tt_fn (XM l D dA A) (RX11, 7, (some .int), rM_place, tt_nt) Q) 59 [(0, .ref (lc 0 0)), (1, .int x1), (2, .int x2), (3, .int x3), (4, .int x4)] [.int t3] lc s1 0 0) h (fun t3 h => by
    refine v_istore [(5, .int t3), (0, .ref (lc 0 0)), (1, .int x1), (2, .int x2), (3, .int x3), (4, .int x4)] dX11_place_59 (Nat.le_of_ble_eq_true rfl) rfl ?_
    refine v_aload_n 1 dX11_place_61 rfl ?_
    refine v_iload 0 dX11_place_62 rfl ?_
    refine v_iconst dX11_place_64 ic_1 ?_
    refine v_iconst dX11_place_65 ic_1 ?_
    refine cM_346 (Ok.bind h) ⟨Nat.le_of_ble_eq_true rfl, Nat.le_of_ble_eq_true rfl⟩ (Nat.le_of_ble_eq_true rfl) dX11_place_66 (fun r11 z_r11 h => ?_)
    refine v_if_eq (tgt := 114) dX11_place_69 rfl (fun c12 => ?_) (fun c12 => ?_)
    · have h := Ok.pos h c12
      refine v_iconst dX11_place_114 ic_0 ?_
      have h := Ok.ret h
      exact v_iret rfl (Nat.zero_le _) (Nat.zero_le _) dX11_place_115 h
    · have h := Ok.neg h c12
      refine v_aload_n 1 dX11_place_72 rfl ?_
      refine v_aload_n 1 dX11_place_73 rfl ?_
      refine v_iconst dX11_place_74 ic_0 ?_
      refine cM_362 (Ok.bind h) ⟨Nat.le_of_ble_eq_true rfl, Nat.le_of_ble_eq_true rfl⟩ (Nat.le_of_ble_eq_true rfl) dX11_place_75 (fun r13 h => ?_)
      refine v_bipush dX11_place_78 kb_40 ?_
      have h := Ok.join (PJ := fun t14 : Int32 => tt_V (XM l D dA A) cX11_place (RX11, 7, (some .int), rM_place, tt_nt) (tt_fn (XM l D dA A) (RX11, 7, (some .int), rM_place, tt_nt) Q) 98 [(0, .ref (lc 0 0)), (1, .int x1), (2, .int x2), (3, .int x3), (4, .int x4)] [.int t14, .ref (lc 0 0)] lc r11.2 0 0) h (fun t14 h => by
        refine v_iconst dX11_place_98 ic_2 ?_
        refine v_iconst dX11_place_99 ic_2 ?_
        refine cM_346 (Ok.bind h) ⟨Nat.le_of_ble_eq_true rfl, Nat.le_of_ble_eq_true rfl⟩ (Nat.le_of_ble_eq_true rfl) dX11_place_100 (fun r18 z_r18 h => ?_)
        refine v_if_eq (tgt := 114) dX11_place_103 rfl (fun c19 => ?_) (fun c19 => ?_)
        · have h := Ok.pos h c19
          refine v_iconst dX11_place_114 ic_0 ?_
          have h := Ok.ret h
          exact v_iret rfl (Nat.zero_le _) (Nat.zero_le _) dX11_place_115 h
        · have h := Ok.neg h c19
          refine v_aload_n 0 dX11_place_106 rfl ?_
          refine v_iconst dX11_place_107 ic_2 ?_
          refine cM_365 (Ok.bind h) ⟨Nat.le_of_ble_eq_true rfl, Nat.le_of_ble_eq_true rfl⟩ (Nat.le_of_ble_eq_true rfl) dX11_place_108 (fun r20 z_r20 h => ?_)
          refine v_if_ne (tgt := 116) dX11_place_111 rfl (fun c21 => ?_) (fun c21 => ?_)
          · have h := Ok.neg h c21
            refine v_aload_n 0 dX11_place_116 rfl ?_
            refine v_iconst dX11_place_117 ic_0 ?_
            refine cM_362 (Ok.bind h) ⟨Nat.le_of_ble_eq_true rfl, Nat.le_of_ble_eq_true rfl⟩ (Nat.le_of_ble_eq_true rfl) dX11_place_118 (fun r22 h => ?_)
            refine v_istore [(6, .int r22), (0, .ref (lc 0 0)), (1, .int x1), (2, .int x2), (3, .int x3), (4, .int x4)] dX11_place_121 (Nat.le_of_ble_eq_true rfl) rfl ?_
            refine v_aload_n 1 dX11_place_123 rfl ?_
            refine v_iconst dX11_place_124 ic_0 ?_
            refine v_iload_n 2 dX11_place_125 rfl ?_
            refine v_iload_n 3 dX11_place_126 rfl ?_
            refine v_iload_n 4 dX11_place_127 rfl ?_
            refine v_iload 5 dX11_place_128 rfl ?_
            refine v_iload 0 dX11_place_130 rfl ?_
            refine cM_368 (Ok.bind h) ⟨Nat.le_of_ble_eq_true rfl, Nat.le_of_ble_eq_true rfl⟩ (Nat.le_of_ble_eq_true rfl) dX11_place_132 (fun r23 h => ?_)
            refine v_aload_n 1 dX11_place_135 rfl ?_
            refine v_aload_n 1 dX11_place_136 rfl ?_
            refine gM_17 dX11_place_137 ?_
            refine v_iconst dX11_place_140 ic_1 ?_
            refine v_isub dX11_place_141 ?_
            refine cM_331 (Ok.bind h) ⟨Nat.le_of_ble_eq_true rfl, Nat.le_of_ble_eq_true rfl⟩ (Nat.le_of_ble_eq_true rfl) dX11_place_142 (fun r24 h => ?_)
            refine v_iload 0 dX11_place_145 rfl ?_
            have h := Ok.ret h
            exact v_iret rfl (Nat.zero_le _) (Nat.zero_le _) dX11_place_147 h
          · have h := Ok.pos h c21
            refine v_iconst dX11_place_114 ic_0 ?_
            have h := Ok.ret h
            exact v_iret rfl (Nat.zero_le _) (Nat.zero_le _) dX11_place_115 h)
      refine v_icmp_ge (tgt := 97) dX11_place_80 rfl (fun c15 => ?_) (fun c15 => ?_)
      · have h := Ok.pos h c15
        refine v_iconst dX11_place_97 ic_0 ?_
        refine v_sub [1, 2, 3, 4, 5] rfl ?_
        have h := Ok.ret h
        exact h
      · have h := Ok.neg h c15
        refine v_aload_n 1 dX11_place_83 rfl ?_
        refine v_iload_n 2 dX11_place_84 rfl ?_
        refine v_iload_n 3 dX11_place_85 rfl ?_
        refine v_iload_n 4 dX11_place_86 rfl ?_
        refine cM_292 (Ok.bind h) ⟨Nat.le_of_ble_eq_true rfl, Nat.le_of_ble_eq_true rfl⟩ (Nat.le_of_ble_eq_true rfl) dX11_place_87 (fun r16 z_r16 h => ?_)
        refine v_if_eq (tgt := 97) dX11_place_90 rfl (fun c17 => ?_) (fun c17 => ?_)
        · have h := Ok.pos h c17
          refine v_iconst dX11_place_97 ic_0 ?_
          refine v_sub [1, 2, 3, 4, 5] rfl ?_
          have h := Ok.ret h
          exact h
        · have h := Ok.neg h c17
          refine v_iconst dX11_place_93 ic_1 ?_
          refine v_goto (tgt := 98) dX11_place_94 rfl ?_
          refine v_sub [1, 2, 3, 4, 5] rfl ?_
          have h := Ok.ret h
          exact h)
  refine v_if_eq (tgt := 58) dX11_place_14 rfl (fun c4 => ?_) (fun c4 => ?_)
  · have h := Ok.pos h c4
    refine v_iconst dX11_place_58 ic_0 ?_
    have h := Ok.ret h
    exact h
  · have h := Ok.neg h c4
    refine v_iload_n 2 dX11_place_17 rfl ?_
    refine v_i2l dX11_place_18 rfl ?_
    refine v_lconst dX11_place_19 kl_0 ?_
    refine v_ldc2 dX11_place_20 q1921 ?_
    refine cM_352 (Ok.bind h) ⟨Nat.le_of_ble_eq_true rfl, Nat.le_of_ble_eq_true rfl⟩ (Nat.le_of_ble_eq_true rfl) dX11_place_23 (fun r5 z_r5 h => ?_)
    refine v_if_eq (tgt := 58) dX11_place_26 rfl (fun c6 => ?_) (fun c6 => ?_)
    · have h := Ok.pos h c6
      refine v_iconst dX11_place_58 ic_0 ?_
      have h := Ok.ret h
      exact h
    · have h := Ok.neg h c6
      refine v_iload_n 3 dX11_place_29 rfl ?_
      refine v_i2l dX11_place_30 rfl ?_
      refine v_lconst dX11_place_31 kl_1 ?_
      refine v_ldc2 dX11_place_32 q1922 ?_
      refine cM_352 (Ok.bind h) ⟨Nat.le_of_ble_eq_true rfl, Nat.le_of_ble_eq_true rfl⟩ (Nat.le_of_ble_eq_true rfl) dX11_place_35 (fun r7 z_r7 h => ?_)
      refine v_if_eq (tgt := 58) dX11_place_38 rfl (fun c8 => ?_) (fun c8 => ?_)
      · have h := Ok.pos h c8
        refine v_iconst dX11_place_58 ic_0 ?_
        have h := Ok.ret h
        exact h
      · have h := Ok.neg h c8
        refine v_iload 4 dX11_place_41 rfl ?_
        refine v_i2l dX11_place_43 rfl ?_
        refine v_lconst dX11_place_44 kl_1 ?_
        refine v_ldc2 dX11_place_45 q1923 ?_
        refine cM_352 (Ok.bind h) ⟨Nat.le_of_ble_eq_true rfl, Nat.le_of_ble_eq_true rfl⟩ (Nat.le_of_ble_eq_true rfl) dX11_place_48 (fun r9 z_r9 h => ?_)
        refine v_if_eq (tgt := 58) dX11_place_51 rfl (fun c10 => ?_) (fun c10 => ?_)
        · have h := Ok.pos h c10
          refine v_iconst dX11_place_58 ic_0 ?_
          have h := Ok.ret h
          exact h
        · have h := Ok.neg h c10
          refine v_iconst dX11_place_54 ic_1 ?_
          refine v_goto (tgt := 59) dX11_place_55 rfl ?_
          have h := Ok.ret h
          exact h
def fM_isOne (s : tt_St) (x1 : Int32) (x2 : Int32) : Option (Int32 × tt_St) :=
  (fM_within x1.toInt64 (0 : Int64) (39 : Int64)).bind fun r1 => (if r1 = 0 then some (0 : Int32) else if inB x1 40 then if (rdI s 6 0 x1.toNatClampNeg) = 0 then some (0 : Int32) else some (1 : Int32) else none : Option (Int32)).bind fun t2 => (fM_needs s t2 x2 (0 : Int32)).bind fun r6 => some (r6.1, r6.2)
abbrev rM_isOne : Room := { frames := 1, cells := 0, slots := 0, locals := 25 }
set_option maxHeartbeats 4000000 in
theorem mM_isOne (l : Launch) (D : va_G) (dA : Nat → ClassId) (A : Nat → Prop) (lc : Nat → Nat → Nat) (s : tt_St) (x1 : Int32) (x2 : Int32) {Q : Option Value → (Nat → Nat → Nat) → tt_St → Prop} (h : Ok (fM_isOne s x1 x2) (fun r => zB r.1 → Q (some (.int r.1)) lc r.2)) : tt_Sp (XM l D dA A) yX11_isOne cX11_isOne 3 (some .boolean) rM_isOne [.ref (lc 0 0), .int x1, .int x2] lc s Q := by
  refine tt_Sp.ofV plM kokM (Nat.le_of_ble_eq_true rfl) ?_
  show tt_V (XM l D dA A) cX11_isOne (RX11, 3, (some .boolean), rM_isOne, tt_nt) (tt_fn (XM l D dA A) (RX11, 3, (some .boolean), rM_isOne, tt_nt) Q) 0 [(0, .ref (lc 0 0)), (1, .int x1), (2, .int x2)] [] lc s 0 0
  unfold fM_isOne at h
  refine v_aload_n 0 dX11_isOne_0 rfl ?_
  refine v_iload_n 1 dX11_isOne_1 rfl ?_
  refine v_i2l dX11_isOne_2 rfl ?_
  refine v_lconst dX11_isOne_3 kl_0 ?_
  refine v_ldc2 dX11_isOne_4 q2130 ?_
  refine cM_352 (Ok.bind h) ⟨Nat.le_of_ble_eq_true rfl, Nat.le_of_ble_eq_true rfl⟩ (Nat.le_of_ble_eq_true rfl) dX11_isOne_7 (fun r1 z_r1 h => ?_)
  have h := Ok.join (PJ := fun t2 : Int32 => tt_V (XM l D dA A) cX11_isOne (RX11, 3, (some .boolean), rM_isOne, tt_nt) (tt_fn (XM l D dA A) (RX11, 3, (some .boolean), rM_isOne, tt_nt) Q) 27 [(2, .int x2)] [.int t2, .ref (lc 0 0)] lc s 0 0) h (fun t2 h => by
    refine v_iload_n 0 dX11_isOne_27 rfl ?_
    refine v_iconst dX11_isOne_28 ic_0 ?_
    refine cM_346 (Ok.bind h) ⟨Nat.le_of_ble_eq_true rfl, Nat.le_of_ble_eq_true rfl⟩ (Nat.le_of_ble_eq_true rfl) dX11_isOne_29 (fun r6 z_r6 h => ?_)
    have h := Ok.ret h
    exact v_zret rfl z_r6 (Nat.zero_le _) (Nat.zero_le _) dX11_isOne_32 (h z_r6))
  refine v_if_eq (tgt := 26) dX11_isOne_10 rfl (fun c3 => ?_) (fun c3 => ?_)
  · have h := Ok.pos h c3
    refine v_iconst dX11_isOne_26 ic_0 ?_
    refine v_sub [2] rfl ?_
    have h := Ok.ret h
    exact h
  · have h := Ok.neg h c3
    refine v_aload_n 0 dX11_isOne_13 rfl ?_
    refine gM_29 dX11_isOne_14 ?_
    refine v_iload_n 1 dX11_isOne_17 rfl ?_
    obtain ⟨g4, h⟩ := Ok.guard h
    refine lM_6 g4 dX11_isOne_18 ?_
    refine v_if_eq (tgt := 26) dX11_isOne_19 rfl (fun c5 => ?_) (fun c5 => ?_)
    · have h := Ok.pos h c5
      refine v_iconst dX11_isOne_26 ic_0 ?_
      refine v_sub [2] rfl ?_
      have h := Ok.ret h
      exact h
    · have h := Ok.neg h c5
      refine v_iconst dX11_isOne_22 ic_1 ?_
      refine v_goto (tgt := 27) dX11_isOne_23 rfl ?_
      refine v_sub [2] rfl ?_
      have h := Ok.ret h
      exact h
theorem cM_374 {l : Launch} {D : va_G} {dA : Nat → ClassId} {A : Nat → Prop} {lc : Nat → Nat → Nat} {s : tt_St} {cc : ByteArray} {nl : Nat} {rt : Option FieldType} {rm : Room} {tn : tt_Tn} {Q : tt_Fin} {pc : Nat} {lv : List (Nat × Value)} {rest : List Value} {ck cn : Nat} {x1 : Int32} {x2 : Int32} {K : Int32 × tt_St → Prop} (h : Ok (fM_isOne s x1 x2) K) (hR : 1 + 1 ≤ rm.frames ∧ 8 + (3 + 11) + 25 ≤ rm.locals) (hW : (rest.map fun v => v.category).sum ≤ 8) (d : decode cc pc = .ok (.invokevirtual 374, 3)) (kk : ∀ r, zB r.1 → K r → tt_V (XM l D dA A) cc (RX11, nl, rt, rm, tn) Q (pc + 3) lv (.int r.1 :: rest) lc r.2 ck cn) (hf : ck ≤ rm.cells ∧ cn ≤ rm.slots := by exact ⟨Nat.zero_le _, Nat.zero_le _⟩) : tt_V (XM l D dA A) cc (RX11, nl, rt, rm, tn) Q pc lv (.int x2 :: .int x1 :: .ref (lc 0 0) :: rest) lc s ck cn :=
  v_callV (kd := 0) (i := 0) (nA := 2) (As := [.int x1, .int x2]) lvM_0 oM rfl (mM_isOne l D dA A lc s x1 x2 (Q := (fun v lc' s' => ∃ r, zB r.1 ∧ K r ∧ v = some (.int r.1) ∧ lc' = lc ∧ s' = r.2)) (h.mono (fun r hr => fun hz => ⟨r, hz, hr, rfl, rfl, rfl⟩))) (lw_V q2126 q2128 qs97 q154 q2129) (by decide +kernel) rfl hR hW hf d rfl (fun v lc' s' q => by obtain ⟨r, hz, hr, e1, e2, e3⟩ := q; rw [e1, e2, e3]; exact kk r hz hr)
def fM_sign (s : tt_St) (x1 : Int32) (x2 : Int32) (x3 : Int32) : Option (Int32 × tt_St) :=
  nm (wrI s 0 0 0 (0 : Int32)) fun s1 => (fM_isOne s1 x1 (1 : Int32)).bind fun r2 => if r2.1 = 0 then some ((0 : Int32), r2.2) else (fM_within x2.toInt64 (0 : Int64) (9 : Int64)).bind fun r4 => (if r4 = 0 then some (0 : Int32) else (fM_within x3.toInt64 (1 : Int64) (10 : Int64)).bind fun r7 => if r7 = 0 then some (0 : Int32) else some (1 : Int32) : Option (Int32)).bind fun t5 => (fM_needs r2.2 t5 (2 : Int32) (1 : Int32)).bind fun r9 => if r9.1 = 0 then some ((0 : Int32), r9.2) else (fM_canSign r9.2 x1 x2 x3).bind fun r11 => (fM_needs r9.2 r11 (3 : Int32) (2 : Int32)).bind fun r12 => if r12.1 = 0 then some ((0 : Int32), r12.2) else (fM_hasRoom r12.2 (3 : Int32)).bind fun r14 => if r14.1 = 0 then some ((0 : Int32), r14.2) else (fM_notes r14.2 (1 : Int32) x1 x2 x3 (0 : Int32) (-1 : Int32)).bind fun r16 => (fM_does r16 ((rdI r16 0 0 5) - (1 : Int32))).bind fun r17 => (fM_signedTenths r17 x1).bind fun r18 => some ((10 : Int32) - r18, r17)
abbrev rM_sign : Room := { frames := 9, cells := 0, slots := 0, locals := 212 }
set_option maxHeartbeats 4000000 in
theorem mM_sign (l : Launch) (D : va_G) (dA : Nat → ClassId) (A : Nat → Prop) (lc : Nat → Nat → Nat) (s : tt_St) (x1 : Int32) (x2 : Int32) (x3 : Int32) {Q : Option Value → (Nat → Nat → Nat) → tt_St → Prop} (h : Ok (fM_sign s x1 x2 x3) (fun r => Q (some (.int r.1)) lc r.2)) : tt_Sp (XM l D dA A) yX11_sign cX11_sign 4 (some .int) rM_sign [.ref (lc 0 0), .int x1, .int x2, .int x3] lc s Q := by
  refine tt_Sp.ofV plM kokM (Nat.le_of_ble_eq_true rfl) ?_
  show tt_V (XM l D dA A) cX11_sign (RX11, 4, (some .int), rM_sign, tt_nt) (tt_fn (XM l D dA A) (RX11, 4, (some .int), rM_sign, tt_nt) Q) 0 [(0, .ref (lc 0 0)), (1, .int x1), (2, .int x2), (3, .int x3)] [] lc s 0 0
  unfold fM_sign at h
  refine v_aload_n 0 dX11_sign_0 rfl ?_
  refine v_iconst dX11_sign_1 ic_0 ?_
  refine pM_1 dX11_sign_2 ?_
  refine v_nmS (fun s1 e_s1 => ?_)
  have h := Ok.nm h e_s1
  refine v_aload_n 0 dX11_sign_5 rfl ?_
  refine v_iload_n 1 dX11_sign_6 rfl ?_
  refine v_iconst dX11_sign_7 ic_1 ?_
  refine cM_374 (Ok.bind h) ⟨Nat.le_of_ble_eq_true rfl, Nat.le_of_ble_eq_true rfl⟩ (Nat.le_of_ble_eq_true rfl) dX11_sign_8 (fun r2 z_r2 h => ?_)
  refine v_if_eq (tgt := 76) dX11_sign_11 rfl (fun c3 => ?_) (fun c3 => ?_)
  · have h := Ok.pos h c3
    refine v_iconst dX11_sign_76 ic_0 ?_
    have h := Ok.ret h
    exact v_iret rfl (Nat.zero_le _) (Nat.zero_le _) dX11_sign_77 h
  · have h := Ok.neg h c3
    refine v_aload_n 0 dX11_sign_14 rfl ?_
    refine v_iload_n 2 dX11_sign_15 rfl ?_
    refine v_i2l dX11_sign_16 rfl ?_
    refine v_lconst dX11_sign_17 kl_0 ?_
    refine v_ldc2 dX11_sign_18 q2131 ?_
    refine cM_352 (Ok.bind h) ⟨Nat.le_of_ble_eq_true rfl, Nat.le_of_ble_eq_true rfl⟩ (Nat.le_of_ble_eq_true rfl) dX11_sign_21 (fun r4 z_r4 h => ?_)
    have h := Ok.join (PJ := fun t5 : Int32 => tt_V (XM l D dA A) cX11_sign (RX11, 4, (some .int), rM_sign, tt_nt) (tt_fn (XM l D dA A) (RX11, 4, (some .int), rM_sign, tt_nt) Q) 44 [(0, .ref (lc 0 0)), (1, .int x1), (2, .int x2), (3, .int x3)] [.int t5, .ref (lc 0 0)] lc r2.2 0 0) h (fun t5 h => by
      refine v_iconst dX11_sign_44 ic_2 ?_
      refine v_iconst dX11_sign_45 ic_1 ?_
      refine cM_346 (Ok.bind h) ⟨Nat.le_of_ble_eq_true rfl, Nat.le_of_ble_eq_true rfl⟩ (Nat.le_of_ble_eq_true rfl) dX11_sign_46 (fun r9 z_r9 h => ?_)
      refine v_if_eq (tgt := 76) dX11_sign_49 rfl (fun c10 => ?_) (fun c10 => ?_)
      · have h := Ok.pos h c10
        refine v_iconst dX11_sign_76 ic_0 ?_
        have h := Ok.ret h
        exact v_iret rfl (Nat.zero_le _) (Nat.zero_le _) dX11_sign_77 h
      · have h := Ok.neg h c10
        refine v_aload_n 0 dX11_sign_52 rfl ?_
        refine v_aload_n 0 dX11_sign_53 rfl ?_
        refine v_iload_n 1 dX11_sign_54 rfl ?_
        refine v_iload_n 2 dX11_sign_55 rfl ?_
        refine v_iload_n 3 dX11_sign_56 rfl ?_
        refine cM_296 (Ok.bind h) ⟨Nat.le_of_ble_eq_true rfl, Nat.le_of_ble_eq_true rfl⟩ (Nat.le_of_ble_eq_true rfl) dX11_sign_57 (fun r11 z_r11 h => ?_)
        refine v_iconst dX11_sign_60 ic_3 ?_
        refine v_iconst dX11_sign_61 ic_2 ?_
        refine cM_346 (Ok.bind h) ⟨Nat.le_of_ble_eq_true rfl, Nat.le_of_ble_eq_true rfl⟩ (Nat.le_of_ble_eq_true rfl) dX11_sign_62 (fun r12 z_r12 h => ?_)
        refine v_if_eq (tgt := 76) dX11_sign_65 rfl (fun c13 => ?_) (fun c13 => ?_)
        · have h := Ok.pos h c13
          refine v_iconst dX11_sign_76 ic_0 ?_
          have h := Ok.ret h
          exact v_iret rfl (Nat.zero_le _) (Nat.zero_le _) dX11_sign_77 h
        · have h := Ok.neg h c13
          refine v_aload_n 0 dX11_sign_68 rfl ?_
          refine v_iconst dX11_sign_69 ic_3 ?_
          refine cM_365 (Ok.bind h) ⟨Nat.le_of_ble_eq_true rfl, Nat.le_of_ble_eq_true rfl⟩ (Nat.le_of_ble_eq_true rfl) dX11_sign_70 (fun r14 z_r14 h => ?_)
          refine v_if_ne (tgt := 78) dX11_sign_73 rfl (fun c15 => ?_) (fun c15 => ?_)
          · have h := Ok.neg h c15
            refine v_aload_n 0 dX11_sign_78 rfl ?_
            refine v_iconst dX11_sign_79 ic_1 ?_
            refine v_iload_n 1 dX11_sign_80 rfl ?_
            refine v_iload_n 2 dX11_sign_81 rfl ?_
            refine v_iload_n 3 dX11_sign_82 rfl ?_
            refine v_iconst dX11_sign_83 ic_0 ?_
            refine v_iconst dX11_sign_84 ic_m1 ?_
            refine cM_368 (Ok.bind h) ⟨Nat.le_of_ble_eq_true rfl, Nat.le_of_ble_eq_true rfl⟩ (Nat.le_of_ble_eq_true rfl) dX11_sign_85 (fun r16 h => ?_)
            refine v_aload_n 0 dX11_sign_88 rfl ?_
            refine v_aload_n 0 dX11_sign_89 rfl ?_
            refine gM_17 dX11_sign_90 ?_
            refine v_iconst dX11_sign_93 ic_1 ?_
            refine v_isub dX11_sign_94 ?_
            refine cM_331 (Ok.bind h) ⟨Nat.le_of_ble_eq_true rfl, Nat.le_of_ble_eq_true rfl⟩ (Nat.le_of_ble_eq_true rfl) dX11_sign_95 (fun r17 h => ?_)
            refine v_bipush dX11_sign_98 kb_10 ?_
            refine v_aload_n 0 dX11_sign_100 rfl ?_
            refine v_iload_n 1 dX11_sign_101 rfl ?_
            refine cM_286 (Ok.bind h) ⟨Nat.le_of_ble_eq_true rfl, Nat.le_of_ble_eq_true rfl⟩ (Nat.le_of_ble_eq_true rfl) dX11_sign_102 (fun r18 h => ?_)
            refine v_isub dX11_sign_105 ?_
            have h := Ok.ret h
            exact v_iret rfl (Nat.zero_le _) (Nat.zero_le _) dX11_sign_106 h
          · have h := Ok.pos h c15
            refine v_iconst dX11_sign_76 ic_0 ?_
            have h := Ok.ret h
            exact v_iret rfl (Nat.zero_le _) (Nat.zero_le _) dX11_sign_77 h)
    refine v_if_eq (tgt := 43) dX11_sign_24 rfl (fun c6 => ?_) (fun c6 => ?_)
    · have h := Ok.pos h c6
      refine v_iconst dX11_sign_43 ic_0 ?_
      have h := Ok.ret h
      exact h
    · have h := Ok.neg h c6
      refine v_iload_n 3 dX11_sign_27 rfl ?_
      refine v_i2l dX11_sign_28 rfl ?_
      refine v_lconst dX11_sign_29 kl_1 ?_
      refine v_ldc2 dX11_sign_30 q2105 ?_
      refine cM_352 (Ok.bind h) ⟨Nat.le_of_ble_eq_true rfl, Nat.le_of_ble_eq_true rfl⟩ (Nat.le_of_ble_eq_true rfl) dX11_sign_33 (fun r7 z_r7 h => ?_)
      refine v_if_eq (tgt := 43) dX11_sign_36 rfl (fun c8 => ?_) (fun c8 => ?_)
      · have h := Ok.pos h c8
        refine v_iconst dX11_sign_43 ic_0 ?_
        have h := Ok.ret h
        exact h
      · have h := Ok.neg h c8
        refine v_iconst dX11_sign_39 ic_1 ?_
        refine v_goto (tgt := 44) dX11_sign_40 rfl ?_
        have h := Ok.ret h
        exact h
def fM_bits_L4  (a1 : Int32 × Int32) : Option ((Int32 × Int32) ⊕ (Int32 × Int32)) :=
  if a1.2 = 0 then some (.inr (a1.1, a1.2)) else nm (a1.2 &&& (a1.2 - (1 : Int32))) fun v4 => some (.inl ((a1.1 + 1 : Int32), v4))
def fM_bits (x0 : Int32) : Option (Int32) :=
  (itr (fM_bits_L4) tt_fuel ((0 : Int32), x0)).bind fun b2 => some b2.1
abbrev rM_bits : Room := { frames := 0, cells := 0, slots := 0, locals := 0 }
set_option maxHeartbeats 4000000 in
theorem mM_bits (l : Launch) (D : va_G) (dA : Nat → ClassId) (A : Nat → Prop) (lc : Nat → Nat → Nat) (s : tt_St) (x0 : Int32) {Q : Option Value → (Nat → Nat → Nat) → tt_St → Prop} (h : Ok (fM_bits x0) (fun r => Q (some (.int r)) lc s)) : tt_Sp (XM l D dA A) yX11_bits cX11_bits 3 (some .int) rM_bits [.int x0] lc s Q := by
  refine tt_Sp.ofV plM kokM (Nat.le_of_ble_eq_true rfl) ?_
  show tt_V (XM l D dA A) cX11_bits (RX11, 3, (some .int), rM_bits, tt_nt) (tt_fn (XM l D dA A) (RX11, 3, (some .int), rM_bits, tt_nt) Q) 0 [(0, .int x0)] [] lc s 0 0
  unfold fM_bits at h
  refine v_iconst dX11_bits_0 ic_0 ?_
  refine v_istore_n [(1, .int (0 : Int32)), (0, .int x0)] dX11_bits_1 (Nat.le_of_ble_eq_true rfl) rfl ?_
  refine v_iload_n 1 dX11_bits_2 rfl ?_
  refine v_istore_n [(2, .int x0), (1, .int (0 : Int32)), (0, .int x0)] dX11_bits_3 (Nat.le_of_ble_eq_true rfl) rfl ?_
  refine v_sub [1, 0] rfl ?_
  refine itr_loop (P := fun a1 : Int32 × Int32 => tt_V (XM l D dA A) cX11_bits (RX11, 3, (some .int), rM_bits, tt_nt) (tt_fn (XM l D dA A) (RX11, 3, (some .int), rM_bits, tt_nt) Q) 4 [(1, .int a1.1), (2, .int a1.2)] [] lc s 0 0) (PE := fun b2 : Int32 × Int32 => tt_V (XM l D dA A) cX11_bits (RX11, 3, (some .int), rM_bits, tt_nt) (tt_fn (XM l D dA A) (RX11, 3, (some .int), rM_bits, tt_nt) Q) 20 [(1, .int b2.1), (2, .int b2.2)] [] lc s 0 0) h (fun b2 h => ?_) (fun a1 h => ?_)
  · refine v_iload_n 0 dX11_bits_20 rfl ?_
    have h := Ok.ret h
    exact v_iret rfl (Nat.zero_le _) (Nat.zero_le _) dX11_bits_21 h
  · have h : Ok (fM_bits_L4 a1) _ := h
    unfold fM_bits_L4 at h
    refine v_iload_n 1 dX11_bits_4 rfl ?_
    refine v_if_eq (tgt := 20) dX11_bits_5 rfl (fun c3 => ?_) (fun c3 => ?_)
    · have h := Ok.pos h c3
      have h := Ok.ret h
      exact h
    · have h := Ok.neg h c3
      refine v_iinc (v := (a1.1 + 1 : Int32)) 0 [(1, .int (a1.1 + 1 : Int32)), (2, .int a1.2)] dX11_bits_8 rfl (by rw [ic_1]) (Nat.le_of_ble_eq_true rfl) rfl ?_
      refine v_iload_n 1 dX11_bits_11 rfl ?_
      refine v_iload_n 1 dX11_bits_12 rfl ?_
      refine v_iconst dX11_bits_13 ic_1 ?_
      refine v_isub dX11_bits_14 ?_
      refine v_iand dX11_bits_15 ?_
      refine v_nmI (fun v4 e_v4 => ?_)
      have h := Ok.nm h e_v4
      refine v_istore_n [(2, .int v4), (1, .int (a1.1 + 1 : Int32))] dX11_bits_16 (Nat.le_of_ble_eq_true rfl) rfl ?_
      refine v_goto (tgt := 4) dX11_bits_17 rfl ?_
      refine v_sub [1, 0] rfl ?_
      have h := Ok.ret h
      exact h
theorem cM_379 {l : Launch} {D : va_G} {dA : Nat → ClassId} {A : Nat → Prop} {lc : Nat → Nat → Nat} {s : tt_St} {cc : ByteArray} {nl : Nat} {rt : Option FieldType} {rm : Room} {tn : tt_Tn} {Q : tt_Fin} {pc : Nat} {lv : List (Nat × Value)} {rest : List Value} {ck cn : Nat} {x0 : Int32} {K : Int32 → Prop} (h : Ok (fM_bits x0) K) (hR : 0 + 1 ≤ rm.frames ∧ 8 + (3 + 11) + 0 ≤ rm.locals) (hW : (rest.map fun v => v.category).sum ≤ 8) (d : decode cc pc = .ok (.invokestatic 379, 3)) (kk : ∀ r, K r → tt_V (XM l D dA A) cc (RX11, nl, rt, rm, tn) Q (pc + 3) lv (.int r :: rest) lc s ck cn) (hf : ck ≤ rm.cells ∧ cn ≤ rm.slots := by exact ⟨Nat.zero_le _, Nat.zero_le _⟩) : tt_V (XM l D dA A) cc (RX11, nl, rt, rm, tn) Q pc lv (.int x0 :: rest) lc s ck cn :=
  v_callS (nA := 1) (As := [.int x0]) (mM_bits l D dA A lc s x0 (Q := (fun v lc' s' => ∃ r, K r ∧ v = some (.int r) ∧ lc' = lc ∧ s' = s)) (h.mono (fun r hr => ⟨r, hr, rfl, rfl, rfl⟩))) (lw_S q2144 q2145 q154 q2146) (by decide +kernel) rfl hR hW hf d rfl (fun v lc' s' q => by obtain ⟨r, hr, e1, e2, e3⟩ := q; rw [e1, e2, e3]; exact kk r hr)
def fM_lack (s : tt_St) (x1 : Int32) : Option (Int32 × tt_St) :=
  nm (wrI s 0 0 0 (0 : Int32)) fun s1 => (fM_within x1.toInt64 (0 : Int64) (11 : Int64)).bind fun r2 => (fM_needs s1 r2 (1 : Int32) (1 : Int32)).bind fun r3 => if r3.1 = 0 then some ((0 : Int32), r3.2) else (fM_isLacking r3.2 x1).bind fun r5 => (if r5 = 0 then (fM_isGap r3.2 x1).bind fun r8 => if r8 = 0 then some (0 : Int32) else some (1 : Int32) else some (0 : Int32) : Option (Int32)).bind fun t6 => (fM_needs r3.2 t6 (2 : Int32) (2 : Int32)).bind fun r10 => if r10.1 = 0 then some ((0 : Int32), r10.2) else (fM_hasRoom r10.2 (2 : Int32)).bind fun r12 => if r12.1 = 0 then some ((0 : Int32), r12.2) else (fM_notes r12.2 (2 : Int32) x1 (0 : Int32) (0 : Int32) (0 : Int32) (-1 : Int32)).bind fun r14 => (fM_does r14 ((rdI r14 0 0 5) - (1 : Int32))).bind fun r15 => (fM_bits (rdI r15 0 0 29)).bind fun r16 => some (r16, r15)
abbrev rM_lack : Room := { frames := 9, cells := 0, slots := 0, locals := 212 }
set_option maxHeartbeats 4000000 in
theorem mM_lack (l : Launch) (D : va_G) (dA : Nat → ClassId) (A : Nat → Prop) (lc : Nat → Nat → Nat) (s : tt_St) (x1 : Int32) {Q : Option Value → (Nat → Nat → Nat) → tt_St → Prop} (h : Ok (fM_lack s x1) (fun r => Q (some (.int r.1)) lc r.2)) : tt_Sp (XM l D dA A) yX11_lack cX11_lack 2 (some .int) rM_lack [.ref (lc 0 0), .int x1] lc s Q := by
  refine tt_Sp.ofV plM kokM (Nat.le_of_ble_eq_true rfl) ?_
  show tt_V (XM l D dA A) cX11_lack (RX11, 2, (some .int), rM_lack, tt_nt) (tt_fn (XM l D dA A) (RX11, 2, (some .int), rM_lack, tt_nt) Q) 0 [(0, .ref (lc 0 0)), (1, .int x1)] [] lc s 0 0
  unfold fM_lack at h
  refine v_aload_n 0 dX11_lack_0 rfl ?_
  refine v_iconst dX11_lack_1 ic_0 ?_
  refine pM_1 dX11_lack_2 ?_
  refine v_nmS (fun s1 e_s1 => ?_)
  have h := Ok.nm h e_s1
  refine v_aload_n 0 dX11_lack_5 rfl ?_
  refine v_iload_n 1 dX11_lack_6 rfl ?_
  refine v_i2l dX11_lack_7 rfl ?_
  refine v_lconst dX11_lack_8 kl_0 ?_
  refine v_ldc2 dX11_lack_9 q1917 ?_
  refine cM_352 (Ok.bind h) ⟨Nat.le_of_ble_eq_true rfl, Nat.le_of_ble_eq_true rfl⟩ (Nat.le_of_ble_eq_true rfl) dX11_lack_12 (fun r2 z_r2 h => ?_)
  refine v_iconst dX11_lack_15 ic_1 ?_
  refine v_iconst dX11_lack_16 ic_1 ?_
  refine cM_346 (Ok.bind h) ⟨Nat.le_of_ble_eq_true rfl, Nat.le_of_ble_eq_true rfl⟩ (Nat.le_of_ble_eq_true rfl) dX11_lack_17 (fun r3 z_r3 h => ?_)
  refine v_if_eq (tgt := 61) dX11_lack_20 rfl (fun c4 => ?_) (fun c4 => ?_)
  · have h := Ok.pos h c4
    refine v_iconst dX11_lack_61 ic_0 ?_
    have h := Ok.ret h
    exact v_iret rfl (Nat.zero_le _) (Nat.zero_le _) dX11_lack_62 h
  · have h := Ok.neg h c4
    refine v_aload_n 0 dX11_lack_23 rfl ?_
    refine v_aload_n 0 dX11_lack_24 rfl ?_
    refine v_iload_n 1 dX11_lack_25 rfl ?_
    refine cM_201 (Ok.bind h) ⟨Nat.le_of_ble_eq_true rfl, Nat.le_of_ble_eq_true rfl⟩ (Nat.le_of_ble_eq_true rfl) dX11_lack_26 (fun r5 z_r5 h => ?_)
    have h := Ok.join (PJ := fun t6 : Int32 => tt_V (XM l D dA A) cX11_lack (RX11, 2, (some .int), rM_lack, tt_nt) (tt_fn (XM l D dA A) (RX11, 2, (some .int), rM_lack, tt_nt) Q) 45 [(0, .ref (lc 0 0)), (1, .int x1)] [.int t6, .ref (lc 0 0)] lc r3.2 0 0) h (fun t6 h => by
      refine v_iconst dX11_lack_45 ic_2 ?_
      refine v_iconst dX11_lack_46 ic_2 ?_
      refine cM_346 (Ok.bind h) ⟨Nat.le_of_ble_eq_true rfl, Nat.le_of_ble_eq_true rfl⟩ (Nat.le_of_ble_eq_true rfl) dX11_lack_47 (fun r10 z_r10 h => ?_)
      refine v_if_eq (tgt := 61) dX11_lack_50 rfl (fun c11 => ?_) (fun c11 => ?_)
      · have h := Ok.pos h c11
        refine v_iconst dX11_lack_61 ic_0 ?_
        have h := Ok.ret h
        exact v_iret rfl (Nat.zero_le _) (Nat.zero_le _) dX11_lack_62 h
      · have h := Ok.neg h c11
        refine v_aload_n 0 dX11_lack_53 rfl ?_
        refine v_iconst dX11_lack_54 ic_2 ?_
        refine cM_365 (Ok.bind h) ⟨Nat.le_of_ble_eq_true rfl, Nat.le_of_ble_eq_true rfl⟩ (Nat.le_of_ble_eq_true rfl) dX11_lack_55 (fun r12 z_r12 h => ?_)
        refine v_if_ne (tgt := 63) dX11_lack_58 rfl (fun c13 => ?_) (fun c13 => ?_)
        · have h := Ok.neg h c13
          refine v_aload_n 0 dX11_lack_63 rfl ?_
          refine v_iconst dX11_lack_64 ic_2 ?_
          refine v_iload_n 1 dX11_lack_65 rfl ?_
          refine v_iconst dX11_lack_66 ic_0 ?_
          refine v_iconst dX11_lack_67 ic_0 ?_
          refine v_iconst dX11_lack_68 ic_0 ?_
          refine v_iconst dX11_lack_69 ic_m1 ?_
          refine cM_368 (Ok.bind h) ⟨Nat.le_of_ble_eq_true rfl, Nat.le_of_ble_eq_true rfl⟩ (Nat.le_of_ble_eq_true rfl) dX11_lack_70 (fun r14 h => ?_)
          refine v_aload_n 0 dX11_lack_73 rfl ?_
          refine v_aload_n 0 dX11_lack_74 rfl ?_
          refine gM_17 dX11_lack_75 ?_
          refine v_iconst dX11_lack_78 ic_1 ?_
          refine v_isub dX11_lack_79 ?_
          refine cM_331 (Ok.bind h) ⟨Nat.le_of_ble_eq_true rfl, Nat.le_of_ble_eq_true rfl⟩ (Nat.le_of_ble_eq_true rfl) dX11_lack_80 (fun r15 h => ?_)
          refine v_aload_n 0 dX11_lack_83 rfl ?_
          refine gM_149 dX11_lack_84 ?_
          refine cM_379 (Ok.bind h) ⟨Nat.le_of_ble_eq_true rfl, Nat.le_of_ble_eq_true rfl⟩ (Nat.le_of_ble_eq_true rfl) dX11_lack_87 (fun r16 h => ?_)
          have h := Ok.ret h
          exact v_iret rfl (Nat.zero_le _) (Nat.zero_le _) dX11_lack_90 h
        · have h := Ok.pos h c13
          refine v_iconst dX11_lack_61 ic_0 ?_
          have h := Ok.ret h
          exact v_iret rfl (Nat.zero_le _) (Nat.zero_le _) dX11_lack_62 h)
    refine v_if_ne (tgt := 44) dX11_lack_29 rfl (fun c7 => ?_) (fun c7 => ?_)
    · have h := Ok.neg h c7
      refine v_iconst dX11_lack_44 ic_0 ?_
      have h := Ok.ret h
      exact h
    · have h := Ok.pos h c7
      refine v_aload_n 0 dX11_lack_32 rfl ?_
      refine v_iload_n 1 dX11_lack_33 rfl ?_
      refine cM_205 (Ok.bind h) ⟨Nat.le_of_ble_eq_true rfl, Nat.le_of_ble_eq_true rfl⟩ (Nat.le_of_ble_eq_true rfl) dX11_lack_34 (fun r8 z_r8 h => ?_)
      refine v_if_eq (tgt := 44) dX11_lack_37 rfl (fun c9 => ?_) (fun c9 => ?_)
      · have h := Ok.pos h c9
        refine v_iconst dX11_lack_44 ic_0 ?_
        have h := Ok.ret h
        exact h
      · have h := Ok.neg h c9
        refine v_iconst dX11_lack_40 ic_1 ?_
        refine v_goto (tgt := 45) dX11_lack_41 rfl ?_
        have h := Ok.ret h
        exact h
def fM_areRules (x0 : Int32) (x1 : Int32) (x2 : Int32) : Option (Int32) :=
  (fM_within x0.toInt64 (0 : Int64) (3 : Int64)).bind fun r1 => if r1 = 0 then some (0 : Int32) else (fM_within x1.toInt64 (0 : Int64) (3 : Int64)).bind fun r3 => if r3 = 0 then some (0 : Int32) else (fM_within x2.toInt64 (0 : Int64) (3 : Int64)).bind fun r5 => if r5 = 0 then some (0 : Int32) else some (1 : Int32)
abbrev rM_areRules : Room := { frames := 1, cells := 0, slots := 0, locals := 25 }
set_option maxHeartbeats 4000000 in
theorem mM_areRules (l : Launch) (D : va_G) (dA : Nat → ClassId) (A : Nat → Prop) (lc : Nat → Nat → Nat) (s : tt_St) (x0 : Int32) (x1 : Int32) (x2 : Int32) {Q : Option Value → (Nat → Nat → Nat) → tt_St → Prop} (h : Ok (fM_areRules x0 x1 x2) (fun r => zB r → Q (some (.int r)) lc s)) : tt_Sp (XM l D dA A) yX11_areRules cX11_areRules 3 (some .boolean) rM_areRules [.int x0, .int x1, .int x2] lc s Q := by
  refine tt_Sp.ofV plM kokM (Nat.le_of_ble_eq_true rfl) ?_
  show tt_V (XM l D dA A) cX11_areRules (RX11, 3, (some .boolean), rM_areRules, tt_nt) (tt_fn (XM l D dA A) (RX11, 3, (some .boolean), rM_areRules, tt_nt) Q) 0 [(0, .int x0), (1, .int x1), (2, .int x2)] [] lc s 0 0
  unfold fM_areRules at h
  refine v_iload_n 0 dX11_areRules_0 rfl ?_
  refine v_i2l dX11_areRules_1 rfl ?_
  refine v_lconst dX11_areRules_2 kl_0 ?_
  refine v_ldc2 dX11_areRules_3 q2154 ?_
  refine cM_352 (Ok.bind h) ⟨Nat.le_of_ble_eq_true rfl, Nat.le_of_ble_eq_true rfl⟩ (Nat.le_of_ble_eq_true rfl) dX11_areRules_6 (fun r1 z_r1 h => ?_)
  refine v_if_eq (tgt := 40) dX11_areRules_9 rfl (fun c2 => ?_) (fun c2 => ?_)
  · have h := Ok.pos h c2
    refine v_iconst dX11_areRules_40 ic_0 ?_
    have h := Ok.ret h
    exact v_zret rfl zB_0 (Nat.zero_le _) (Nat.zero_le _) dX11_areRules_41 (h zB_0)
  · have h := Ok.neg h c2
    refine v_iload_n 1 dX11_areRules_12 rfl ?_
    refine v_i2l dX11_areRules_13 rfl ?_
    refine v_lconst dX11_areRules_14 kl_0 ?_
    refine v_ldc2 dX11_areRules_15 q2154 ?_
    refine cM_352 (Ok.bind h) ⟨Nat.le_of_ble_eq_true rfl, Nat.le_of_ble_eq_true rfl⟩ (Nat.le_of_ble_eq_true rfl) dX11_areRules_18 (fun r3 z_r3 h => ?_)
    refine v_if_eq (tgt := 40) dX11_areRules_21 rfl (fun c4 => ?_) (fun c4 => ?_)
    · have h := Ok.pos h c4
      refine v_iconst dX11_areRules_40 ic_0 ?_
      have h := Ok.ret h
      exact v_zret rfl zB_0 (Nat.zero_le _) (Nat.zero_le _) dX11_areRules_41 (h zB_0)
    · have h := Ok.neg h c4
      refine v_iload_n 2 dX11_areRules_24 rfl ?_
      refine v_i2l dX11_areRules_25 rfl ?_
      refine v_lconst dX11_areRules_26 kl_0 ?_
      refine v_ldc2 dX11_areRules_27 q2154 ?_
      refine cM_352 (Ok.bind h) ⟨Nat.le_of_ble_eq_true rfl, Nat.le_of_ble_eq_true rfl⟩ (Nat.le_of_ble_eq_true rfl) dX11_areRules_30 (fun r5 z_r5 h => ?_)
      refine v_if_eq (tgt := 40) dX11_areRules_33 rfl (fun c6 => ?_) (fun c6 => ?_)
      · have h := Ok.pos h c6
        refine v_iconst dX11_areRules_40 ic_0 ?_
        have h := Ok.ret h
        exact v_zret rfl zB_0 (Nat.zero_le _) (Nat.zero_le _) dX11_areRules_41 (h zB_0)
      · have h := Ok.neg h c6
        refine v_iconst dX11_areRules_36 ic_1 ?_
        refine v_goto (tgt := 41) dX11_areRules_37 rfl ?_
        have h := Ok.ret h
        exact v_zret rfl zB_1 (Nat.zero_le _) (Nat.zero_le _) dX11_areRules_41 (h zB_1)
theorem cM_384 {l : Launch} {D : va_G} {dA : Nat → ClassId} {A : Nat → Prop} {lc : Nat → Nat → Nat} {s : tt_St} {cc : ByteArray} {nl : Nat} {rt : Option FieldType} {rm : Room} {tn : tt_Tn} {Q : tt_Fin} {pc : Nat} {lv : List (Nat × Value)} {rest : List Value} {ck cn : Nat} {x0 : Int32} {x1 : Int32} {x2 : Int32} {K : Int32 → Prop} (h : Ok (fM_areRules x0 x1 x2) K) (hR : 1 + 1 ≤ rm.frames ∧ 8 + (3 + 11) + 25 ≤ rm.locals) (hW : (rest.map fun v => v.category).sum ≤ 8) (d : decode cc pc = .ok (.invokestatic 384, 3)) (kk : ∀ r, zB r → K r → tt_V (XM l D dA A) cc (RX11, nl, rt, rm, tn) Q (pc + 3) lv (.int r :: rest) lc s ck cn) (hf : ck ≤ rm.cells ∧ cn ≤ rm.slots := by exact ⟨Nat.zero_le _, Nat.zero_le _⟩) : tt_V (XM l D dA A) cc (RX11, nl, rt, rm, tn) Q pc lv (.int x2 :: .int x1 :: .int x0 :: rest) lc s ck cn :=
  v_callS (nA := 3) (As := [.int x0, .int x1, .int x2]) (mM_areRules l D dA A lc s x0 x1 x2 (Q := (fun v lc' s' => ∃ r, zB r ∧ K r ∧ v = some (.int r) ∧ lc' = lc ∧ s' = s)) (h.mono (fun r hr => fun hz => ⟨r, hz, hr, rfl, rfl, rfl⟩))) (lw_S q2151 q2152 q154 q2153) (by decide +kernel) rfl hR hW hf d rfl (fun v lc' s' q => by obtain ⟨r, hz, hr, e1, e2, e3⟩ := q; rw [e1, e2, e3]; exact kk r hz hr)
def fM_rules (s : tt_St) (x1 : Int32) (x2 : Int32) (x3 : Int32) : Option (Int32 × tt_St) :=
  nm (wrI s 0 0 0 (0 : Int32)) fun s1 => (fM_areRules x1 x2 x3).bind fun r2 => (fM_needs s1 r2 (1 : Int32) (1 : Int32)).bind fun r3 => if r3.1 = 0 then some ((0 : Int32), r3.2) else (if x1 = (rdI r3.2 0 0 30) then if x2 = (rdI r3.2 0 0 31) then if x3 = (rdI r3.2 0 0 32) then some (.inr ((0 : Int32), r3.2)) else some (.inl ()) else some (.inl ()) else some (.inl ()) : Option ((Unit) ⊕ (Int32 × tt_St))).bind fun q_t5 => orRet q_t5 fun t5 => (fM_hasRoom r3.2 (2 : Int32)).bind fun r9 => if r9.1 = 0 then some ((0 : Int32), r9.2) else (fM_notes r9.2 (3 : Int32) x1 x2 x3 (0 : Int32) (-1 : Int32)).bind fun r11 => (fM_does r11 ((rdI r11 0 0 5) - (1 : Int32))).bind fun r12 => some ((1 : Int32), r12)
abbrev rM_rules : Room := { frames := 9, cells := 0, slots := 0, locals := 212 }
set_option maxHeartbeats 4000000 in
theorem mM_rules (l : Launch) (D : va_G) (dA : Nat → ClassId) (A : Nat → Prop) (lc : Nat → Nat → Nat) (s : tt_St) (x1 : Int32) (x2 : Int32) (x3 : Int32) {Q : Option Value → (Nat → Nat → Nat) → tt_St → Prop} (h : Ok (fM_rules s x1 x2 x3) (fun r => Q (some (.int r.1)) lc r.2)) : tt_Sp (XM l D dA A) yX11_rules cX11_rules 4 (some .int) rM_rules [.ref (lc 0 0), .int x1, .int x2, .int x3] lc s Q := by
  refine tt_Sp.ofV plM kokM (Nat.le_of_ble_eq_true rfl) ?_
  show tt_V (XM l D dA A) cX11_rules (RX11, 4, (some .int), rM_rules, tt_nt) (tt_fn (XM l D dA A) (RX11, 4, (some .int), rM_rules, tt_nt) Q) 0 [(0, .ref (lc 0 0)), (1, .int x1), (2, .int x2), (3, .int x3)] [] lc s 0 0
  unfold fM_rules at h
  refine v_aload_n 0 dX11_rules_0 rfl ?_
  refine v_iconst dX11_rules_1 ic_0 ?_
  refine pM_1 dX11_rules_2 ?_
  refine v_nmS (fun s1 e_s1 => ?_)
  have h := Ok.nm h e_s1
  refine v_aload_n 0 dX11_rules_5 rfl ?_
  refine v_iload_n 1 dX11_rules_6 rfl ?_
  refine v_iload_n 2 dX11_rules_7 rfl ?_
  refine v_iload_n 3 dX11_rules_8 rfl ?_
  refine cM_384 (Ok.bind h) ⟨Nat.le_of_ble_eq_true rfl, Nat.le_of_ble_eq_true rfl⟩ (Nat.le_of_ble_eq_true rfl) dX11_rules_9 (fun r2 z_r2 h => ?_)
  refine v_iconst dX11_rules_12 ic_1 ?_
  refine v_iconst dX11_rules_13 ic_1 ?_
  refine cM_346 (Ok.bind h) ⟨Nat.le_of_ble_eq_true rfl, Nat.le_of_ble_eq_true rfl⟩ (Nat.le_of_ble_eq_true rfl) dX11_rules_14 (fun r3 z_r3 h => ?_)
  refine v_if_ne (tgt := 22) dX11_rules_17 rfl (fun c4 => ?_) (fun c4 => ?_)
  · have h := Ok.neg h c4
    refine v_iload_n 1 dX11_rules_22 rfl ?_
    refine v_aload_n 0 dX11_rules_23 rfl ?_
    refine gM_152 dX11_rules_24 ?_
    have h := Ok.joinR (PJ := fun t5 : Unit => tt_V (XM l D dA A) cX11_rules (RX11, 4, (some .int), rM_rules, tt_nt) (tt_fn (XM l D dA A) (RX11, 4, (some .int), rM_rules, tt_nt) Q) 46 [(0, .ref (lc 0 0)), (1, .int x1), (2, .int x2), (3, .int x3)] [] lc r3.2 0 0) h (fun t5 h => by
      refine v_aload_n 0 dX11_rules_46 rfl ?_
      refine v_iconst dX11_rules_47 ic_2 ?_
      refine cM_365 (Ok.bind h) ⟨Nat.le_of_ble_eq_true rfl, Nat.le_of_ble_eq_true rfl⟩ (Nat.le_of_ble_eq_true rfl) dX11_rules_48 (fun r9 z_r9 h => ?_)
      refine v_if_ne (tgt := 56) dX11_rules_51 rfl (fun c10 => ?_) (fun c10 => ?_)
      · have h := Ok.neg h c10
        refine v_aload_n 0 dX11_rules_56 rfl ?_
        refine v_iconst dX11_rules_57 ic_3 ?_
        refine v_iload_n 1 dX11_rules_58 rfl ?_
        refine v_iload_n 2 dX11_rules_59 rfl ?_
        refine v_iload_n 3 dX11_rules_60 rfl ?_
        refine v_iconst dX11_rules_61 ic_0 ?_
        refine v_iconst dX11_rules_62 ic_m1 ?_
        refine cM_368 (Ok.bind h) ⟨Nat.le_of_ble_eq_true rfl, Nat.le_of_ble_eq_true rfl⟩ (Nat.le_of_ble_eq_true rfl) dX11_rules_63 (fun r11 h => ?_)
        refine v_aload_n 0 dX11_rules_66 rfl ?_
        refine v_aload_n 0 dX11_rules_67 rfl ?_
        refine gM_17 dX11_rules_68 ?_
        refine v_iconst dX11_rules_71 ic_1 ?_
        refine v_isub dX11_rules_72 ?_
        refine cM_331 (Ok.bind h) ⟨Nat.le_of_ble_eq_true rfl, Nat.le_of_ble_eq_true rfl⟩ (Nat.le_of_ble_eq_true rfl) dX11_rules_73 (fun r12 h => ?_)
        refine v_iconst dX11_rules_76 ic_1 ?_
        have h := Ok.ret h
        exact v_iret rfl (Nat.zero_le _) (Nat.zero_le _) dX11_rules_77 h
      · have h := Ok.pos h c10
        refine v_iconst dX11_rules_54 ic_0 ?_
        have h := Ok.ret h
        exact v_iret rfl (Nat.zero_le _) (Nat.zero_le _) dX11_rules_55 h)
    refine v_icmp_ne (tgt := 46) dX11_rules_27 rfl (fun c6 => ?_) (fun c6 => ?_)
    · have h := Ok.neg h c6
      have h := Ok.ret h
      exact h
    · have h := Ok.pos h c6
      refine v_iload_n 2 dX11_rules_30 rfl ?_
      refine v_aload_n 0 dX11_rules_31 rfl ?_
      refine gM_155 dX11_rules_32 ?_
      refine v_icmp_ne (tgt := 46) dX11_rules_35 rfl (fun c7 => ?_) (fun c7 => ?_)
      · have h := Ok.neg h c7
        have h := Ok.ret h
        exact h
      · have h := Ok.pos h c7
        refine v_iload_n 3 dX11_rules_38 rfl ?_
        refine v_aload_n 0 dX11_rules_39 rfl ?_
        refine gM_158 dX11_rules_40 ?_
        refine v_icmp_eq (tgt := 54) dX11_rules_43 rfl (fun c8 => ?_) (fun c8 => ?_)
        · have h := Ok.pos h c8
          refine v_iconst dX11_rules_54 ic_0 ?_
          have h := Ok.ret h
          exact v_iret rfl (Nat.zero_le _) (Nat.zero_le _) dX11_rules_55 h
        · have h := Ok.neg h c8
          have h := Ok.ret h
          exact h
  · have h := Ok.pos h c4
    refine v_iconst dX11_rules_20 ic_0 ?_
    have h := Ok.ret h
    exact v_iret rfl (Nat.zero_le _) (Nat.zero_le _) dX11_rules_21 h
def fM_areYears (x0 : Int32) (x1 : Int32) (x2 : Int32) : Option (Int32) :=
  if x0 < 0 then some (0 : Int32) else if x1 < x0 then some (0 : Int32) else if x2 < x1 then some (0 : Int32) else if (12 : Int32) ≤ x2 then some (0 : Int32) else some (1 : Int32)
abbrev rM_areYears : Room := { frames := 0, cells := 0, slots := 0, locals := 0 }
set_option maxHeartbeats 4000000 in
theorem mM_areYears (l : Launch) (D : va_G) (dA : Nat → ClassId) (A : Nat → Prop) (lc : Nat → Nat → Nat) (s : tt_St) (x0 : Int32) (x1 : Int32) (x2 : Int32) {Q : Option Value → (Nat → Nat → Nat) → tt_St → Prop} (h : Ok (fM_areYears x0 x1 x2) (fun r => zB r → Q (some (.int r)) lc s)) : tt_Sp (XM l D dA A) yX11_areYears cX11_areYears 3 (some .boolean) rM_areYears [.int x0, .int x1, .int x2] lc s Q := by
  refine tt_Sp.ofV plM kokM (Nat.le_of_ble_eq_true rfl) ?_
  show tt_V (XM l D dA A) cX11_areYears (RX11, 3, (some .boolean), rM_areYears, tt_nt) (tt_fn (XM l D dA A) (RX11, 3, (some .boolean), rM_areYears, tt_nt) Q) 0 [(0, .int x0), (1, .int x1), (2, .int x2)] [] lc s 0 0
  unfold fM_areYears at h
  refine v_iload_n 0 dX11_areYears_0 rfl ?_
  refine v_if_lt (tgt := 24) dX11_areYears_1 rfl (fun c1 => ?_) (fun c1 => ?_)
  · have h := Ok.pos h c1
    refine v_iconst dX11_areYears_24 ic_0 ?_
    have h := Ok.ret h
    exact v_zret rfl zB_0 (Nat.zero_le _) (Nat.zero_le _) dX11_areYears_25 (h zB_0)
  · have h := Ok.neg h c1
    refine v_iload_n 0 dX11_areYears_4 rfl ?_
    refine v_iload_n 1 dX11_areYears_5 rfl ?_
    refine v_icmp_gt (tgt := 24) dX11_areYears_6 rfl (fun c2 => ?_) (fun c2 => ?_)
    · have h := Ok.pos h c2
      refine v_iconst dX11_areYears_24 ic_0 ?_
      have h := Ok.ret h
      exact v_zret rfl zB_0 (Nat.zero_le _) (Nat.zero_le _) dX11_areYears_25 (h zB_0)
    · have h := Ok.neg h c2
      refine v_iload_n 1 dX11_areYears_9 rfl ?_
      refine v_iload_n 2 dX11_areYears_10 rfl ?_
      refine v_icmp_gt (tgt := 24) dX11_areYears_11 rfl (fun c3 => ?_) (fun c3 => ?_)
      · have h := Ok.pos h c3
        refine v_iconst dX11_areYears_24 ic_0 ?_
        have h := Ok.ret h
        exact v_zret rfl zB_0 (Nat.zero_le _) (Nat.zero_le _) dX11_areYears_25 (h zB_0)
      · have h := Ok.neg h c3
        refine v_iload_n 2 dX11_areYears_14 rfl ?_
        refine v_bipush dX11_areYears_15 kb_12 ?_
        refine v_icmp_ge (tgt := 24) dX11_areYears_17 rfl (fun c4 => ?_) (fun c4 => ?_)
        · have h := Ok.pos h c4
          refine v_iconst dX11_areYears_24 ic_0 ?_
          have h := Ok.ret h
          exact v_zret rfl zB_0 (Nat.zero_le _) (Nat.zero_le _) dX11_areYears_25 (h zB_0)
        · have h := Ok.neg h c4
          refine v_iconst dX11_areYears_20 ic_1 ?_
          refine v_goto (tgt := 25) dX11_areYears_21 rfl ?_
          have h := Ok.ret h
          exact v_zret rfl zB_1 (Nat.zero_le _) (Nat.zero_le _) dX11_areYears_25 (h zB_1)
theorem cM_389 {l : Launch} {D : va_G} {dA : Nat → ClassId} {A : Nat → Prop} {lc : Nat → Nat → Nat} {s : tt_St} {cc : ByteArray} {nl : Nat} {rt : Option FieldType} {rm : Room} {tn : tt_Tn} {Q : tt_Fin} {pc : Nat} {lv : List (Nat × Value)} {rest : List Value} {ck cn : Nat} {x0 : Int32} {x1 : Int32} {x2 : Int32} {K : Int32 → Prop} (h : Ok (fM_areYears x0 x1 x2) K) (hR : 0 + 1 ≤ rm.frames ∧ 8 + (3 + 11) + 0 ≤ rm.locals) (hW : (rest.map fun v => v.category).sum ≤ 8) (d : decode cc pc = .ok (.invokestatic 389, 3)) (kk : ∀ r, zB r → K r → tt_V (XM l D dA A) cc (RX11, nl, rt, rm, tn) Q (pc + 3) lv (.int r :: rest) lc s ck cn) (hf : ck ≤ rm.cells ∧ cn ≤ rm.slots := by exact ⟨Nat.zero_le _, Nat.zero_le _⟩) : tt_V (XM l D dA A) cc (RX11, nl, rt, rm, tn) Q pc lv (.int x2 :: .int x1 :: .int x0 :: rest) lc s ck cn :=
  v_callS (nA := 3) (As := [.int x0, .int x1, .int x2]) (mM_areYears l D dA A lc s x0 x1 x2 (Q := (fun v lc' s' => ∃ r, zB r ∧ K r ∧ v = some (.int r) ∧ lc' = lc ∧ s' = s)) (h.mono (fun r hr => fun hz => ⟨r, hz, hr, rfl, rfl, rfl⟩))) (lw_S q2159 q2160 q154 q2161) (by decide +kernel) rfl hR hW hf d rfl (fun v lc' s' q => by obtain ⟨r, hz, hr, e1, e2, e3⟩ := q; rw [e1, e2, e3]; exact kk r hz hr)
def fM_isLoss (x0 : Int32) : Option (Int32) :=
  (fM_within x0.toInt64 (1 : Int64) (1000000000 : Int64)).bind fun r1 => some r1
abbrev rM_isLoss : Room := { frames := 1, cells := 0, slots := 0, locals := 25 }
set_option maxHeartbeats 4000000 in
theorem mM_isLoss (l : Launch) (D : va_G) (dA : Nat → ClassId) (A : Nat → Prop) (lc : Nat → Nat → Nat) (s : tt_St) (x0 : Int32) {Q : Option Value → (Nat → Nat → Nat) → tt_St → Prop} (h : Ok (fM_isLoss x0) (fun r => zB r → Q (some (.int r)) lc s)) : tt_Sp (XM l D dA A) yX11_isLoss cX11_isLoss 1 (some .boolean) rM_isLoss [.int x0] lc s Q := by
  refine tt_Sp.ofV plM kokM (Nat.le_of_ble_eq_true rfl) ?_
  show tt_V (XM l D dA A) cX11_isLoss (RX11, 1, (some .boolean), rM_isLoss, tt_nt) (tt_fn (XM l D dA A) (RX11, 1, (some .boolean), rM_isLoss, tt_nt) Q) 0 [(0, .int x0)] [] lc s 0 0
  unfold fM_isLoss at h
  refine v_iload_n 0 dX11_isLoss_0 rfl ?_
  refine v_i2l dX11_isLoss_1 rfl ?_
  refine v_lconst dX11_isLoss_2 kl_1 ?_
  refine v_ldc2 dX11_isLoss_3 q2165 ?_
  refine cM_352 (Ok.bind h) ⟨Nat.le_of_ble_eq_true rfl, Nat.le_of_ble_eq_true rfl⟩ (Nat.le_of_ble_eq_true rfl) dX11_isLoss_6 (fun r1 z_r1 h => ?_)
  have h := Ok.ret h
  exact v_zret rfl z_r1 (Nat.zero_le _) (Nat.zero_le _) dX11_isLoss_9 (h z_r1)
theorem cM_392 {l : Launch} {D : va_G} {dA : Nat → ClassId} {A : Nat → Prop} {lc : Nat → Nat → Nat} {s : tt_St} {cc : ByteArray} {nl : Nat} {rt : Option FieldType} {rm : Room} {tn : tt_Tn} {Q : tt_Fin} {pc : Nat} {lv : List (Nat × Value)} {rest : List Value} {ck cn : Nat} {x0 : Int32} {K : Int32 → Prop} (h : Ok (fM_isLoss x0) K) (hR : 1 + 1 ≤ rm.frames ∧ 8 + (1 + 11) + 25 ≤ rm.locals) (hW : (rest.map fun v => v.category).sum ≤ 8) (d : decode cc pc = .ok (.invokestatic 392, 3)) (kk : ∀ r, zB r → K r → tt_V (XM l D dA A) cc (RX11, nl, rt, rm, tn) Q (pc + 3) lv (.int r :: rest) lc s ck cn) (hf : ck ≤ rm.cells ∧ cn ≤ rm.slots := by exact ⟨Nat.zero_le _, Nat.zero_le _⟩) : tt_V (XM l D dA A) cc (RX11, nl, rt, rm, tn) Q pc lv (.int x0 :: rest) lc s ck cn :=
  v_callS (nA := 1) (As := [.int x0]) (mM_isLoss l D dA A lc s x0 (Q := (fun v lc' s' => ∃ r, zB r ∧ K r ∧ v = some (.int r) ∧ lc' = lc ∧ s' = s)) (h.mono (fun r hr => fun hz => ⟨r, hz, hr, rfl, rfl, rfl⟩))) (lw_S q2162 q2163 q154 q2164) (by decide +kernel) rfl hR hW hf d rfl (fun v lc' s' q => by obtain ⟨r, hz, hr, e1, e2, e3⟩ := q; rw [e1, e2, e3]; exact kk r hz hr)
def fM_harm (s : tt_St) (x1 : Int32) (x2 : Int32) (x3 : Int32) (x4 : Int32) : Option (Int32 × tt_St) :=
  nm (wrI s 0 0 0 (0 : Int32)) fun s1 => (fM_areYears x1 x2 x3).bind fun r2 => (if r2 = 0 then some (0 : Int32) else (fM_isLoss x4).bind fun r5 => if r5 = 0 then some (0 : Int32) else some (1 : Int32) : Option (Int32)).bind fun t3 => (fM_needs s1 t3 (1 : Int32) (1 : Int32)).bind fun r7 => if r7.1 = 0 then some ((0 : Int32), r7.2) else (fM_eventsOf r7.2 (4 : Int32)).bind fun r9 => nm (if (24 : Int32) ≤ r9 then (0 : Int32) else (1 : Int32)) fun t10 => (fM_needs r7.2 t10 (2 : Int32) (2 : Int32)).bind fun r13 => if r13.1 = 0 then some ((0 : Int32), r13.2) else (fM_hasRoom r13.2 (2 : Int32)).bind fun r15 => if r15.1 = 0 then some ((0 : Int32), r15.2) else (fM_eventsOf r15.2 (4 : Int32)).bind fun r17 => (fM_notes r15.2 (4 : Int32) x1 x2 x3 x4 r17).bind fun r18 => (fM_does r18 ((rdI r18 0 0 5) - (1 : Int32))).bind fun r19 => some (r17, r19)
abbrev rM_harm : Room := { frames := 9, cells := 0, slots := 0, locals := 212 }
set_option maxHeartbeats 4000000 in
theorem mM_harm (l : Launch) (D : va_G) (dA : Nat → ClassId) (A : Nat → Prop) (lc : Nat → Nat → Nat) (s : tt_St) (x1 : Int32) (x2 : Int32) (x3 : Int32) (x4 : Int32) {Q : Option Value → (Nat → Nat → Nat) → tt_St → Prop} (h : Ok (fM_harm s x1 x2 x3 x4) (fun r => Q (some (.int r.1)) lc r.2)) : tt_Sp (XM l D dA A) yX11_harm cX11_harm 6 (some .int) rM_harm [.ref (lc 0 0), .int x1, .int x2, .int x3, .int x4] lc s Q := by
  refine tt_Sp.ofV plM kokM (Nat.le_of_ble_eq_true rfl) ?_
  show tt_V (XM l D dA A) cX11_harm (RX11, 6, (some .int), rM_harm, tt_nt) (tt_fn (XM l D dA A) (RX11, 6, (some .int), rM_harm, tt_nt) Q) 0 [(0, .ref (lc 0 0)), (1, .int x1), (2, .int x2), (3, .int x3), (4, .int x4)] [] lc s 0 0
  unfold fM_harm at h
  refine v_aload_n 0 dX11_harm_0 rfl ?_
  refine v_iconst dX11_harm_1 ic_0 ?_
  refine pM_1 dX11_harm_2 ?_
  refine v_nmS (fun s1 e_s1 => ?_)
  have h := Ok.nm h e_s1
  refine v_aload_n 0 dX11_harm_5 rfl ?_
  refine v_iload_n 1 dX11_harm_6 rfl ?_
  refine v_iload_n 2 dX11_harm_7 rfl ?_
  refine v_iload_n 3 dX11_harm_8 rfl ?_
  refine cM_389 (Ok.bind h) ⟨Nat.le_of_ble_eq_true rfl, Nat.le_of_ble_eq_true rfl⟩ (Nat.le_of_ble_eq_true rfl) dX11_harm_9 (fun r2 z_r2 h => ?_)
  have h := Ok.join (PJ := fun t3 : Int32 => tt_V (XM l D dA A) cX11_harm (RX11, 6, (some .int), rM_harm, tt_nt) (tt_fn (XM l D dA A) (RX11, 6, (some .int), rM_harm, tt_nt) Q) 28 [(0, .ref (lc 0 0)), (1, .int x1), (2, .int x2), (3, .int x3), (4, .int x4)] [.int t3, .ref (lc 0 0)] lc s1 0 0) h (fun t3 h => by
    refine v_iconst dX11_harm_28 ic_1 ?_
    refine v_iconst dX11_harm_29 ic_1 ?_
    refine cM_346 (Ok.bind h) ⟨Nat.le_of_ble_eq_true rfl, Nat.le_of_ble_eq_true rfl⟩ (Nat.le_of_ble_eq_true rfl) dX11_harm_30 (fun r7 z_r7 h => ?_)
    refine v_if_eq (tgt := 68) dX11_harm_33 rfl (fun c8 => ?_) (fun c8 => ?_)
    · have h := Ok.pos h c8
      refine v_iconst dX11_harm_68 ic_0 ?_
      have h := Ok.ret h
      exact v_iret rfl (Nat.zero_le _) (Nat.zero_le _) dX11_harm_69 h
    · have h := Ok.neg h c8
      refine v_aload_n 0 dX11_harm_36 rfl ?_
      refine v_aload_n 0 dX11_harm_37 rfl ?_
      refine v_iconst dX11_harm_38 ic_4 ?_
      refine cM_362 (Ok.bind h) ⟨Nat.le_of_ble_eq_true rfl, Nat.le_of_ble_eq_true rfl⟩ (Nat.le_of_ble_eq_true rfl) dX11_harm_39 (fun r9 h => ?_)
      refine v_bipush dX11_harm_42 kb_24 ?_
      have J11 : ∀ t10, t10 = (if (24 : Int32) ≤ r9 then (0 : Int32) else (1 : Int32)) → tt_V (XM l D dA A) cX11_harm (RX11, 6, (some .int), rM_harm, tt_nt) (tt_fn (XM l D dA A) (RX11, 6, (some .int), rM_harm, tt_nt) Q) 52 [(0, .ref (lc 0 0)), (1, .int x1), (2, .int x2), (3, .int x3), (4, .int x4)] [.int t10, .ref (lc 0 0)] lc r7.2 0 0 := fun t10 e_t10 => by
        have h := Ok.nm h e_t10
        refine v_iconst dX11_harm_52 ic_2 ?_
        refine v_iconst dX11_harm_53 ic_2 ?_
        refine cM_346 (Ok.bind h) ⟨Nat.le_of_ble_eq_true rfl, Nat.le_of_ble_eq_true rfl⟩ (Nat.le_of_ble_eq_true rfl) dX11_harm_54 (fun r13 z_r13 h => ?_)
        refine v_if_eq (tgt := 68) dX11_harm_57 rfl (fun c14 => ?_) (fun c14 => ?_)
        · have h := Ok.pos h c14
          refine v_iconst dX11_harm_68 ic_0 ?_
          have h := Ok.ret h
          exact v_iret rfl (Nat.zero_le _) (Nat.zero_le _) dX11_harm_69 h
        · have h := Ok.neg h c14
          refine v_aload_n 0 dX11_harm_60 rfl ?_
          refine v_iconst dX11_harm_61 ic_2 ?_
          refine cM_365 (Ok.bind h) ⟨Nat.le_of_ble_eq_true rfl, Nat.le_of_ble_eq_true rfl⟩ (Nat.le_of_ble_eq_true rfl) dX11_harm_62 (fun r15 z_r15 h => ?_)
          refine v_if_ne (tgt := 70) dX11_harm_65 rfl (fun c16 => ?_) (fun c16 => ?_)
          · have h := Ok.neg h c16
            refine v_aload_n 0 dX11_harm_70 rfl ?_
            refine v_iconst dX11_harm_71 ic_4 ?_
            refine cM_362 (Ok.bind h) ⟨Nat.le_of_ble_eq_true rfl, Nat.le_of_ble_eq_true rfl⟩ (Nat.le_of_ble_eq_true rfl) dX11_harm_72 (fun r17 h => ?_)
            refine v_istore [(5, .int r17), (0, .ref (lc 0 0)), (1, .int x1), (2, .int x2), (3, .int x3), (4, .int x4)] dX11_harm_75 (Nat.le_of_ble_eq_true rfl) rfl ?_
            refine v_aload_n 1 dX11_harm_77 rfl ?_
            refine v_iconst dX11_harm_78 ic_4 ?_
            refine v_iload_n 2 dX11_harm_79 rfl ?_
            refine v_iload_n 3 dX11_harm_80 rfl ?_
            refine v_iload_n 4 dX11_harm_81 rfl ?_
            refine v_iload 5 dX11_harm_82 rfl ?_
            refine v_iload 0 dX11_harm_84 rfl ?_
            refine cM_368 (Ok.bind h) ⟨Nat.le_of_ble_eq_true rfl, Nat.le_of_ble_eq_true rfl⟩ (Nat.le_of_ble_eq_true rfl) dX11_harm_86 (fun r18 h => ?_)
            refine v_aload_n 1 dX11_harm_89 rfl ?_
            refine v_aload_n 1 dX11_harm_90 rfl ?_
            refine gM_17 dX11_harm_91 ?_
            refine v_iconst dX11_harm_94 ic_1 ?_
            refine v_isub dX11_harm_95 ?_
            refine cM_331 (Ok.bind h) ⟨Nat.le_of_ble_eq_true rfl, Nat.le_of_ble_eq_true rfl⟩ (Nat.le_of_ble_eq_true rfl) dX11_harm_96 (fun r19 h => ?_)
            refine v_iload 0 dX11_harm_99 rfl ?_
            have h := Ok.ret h
            exact v_iret rfl (Nat.zero_le _) (Nat.zero_le _) dX11_harm_101 h
          · have h := Ok.pos h c16
            refine v_iconst dX11_harm_68 ic_0 ?_
            have h := Ok.ret h
            exact v_iret rfl (Nat.zero_le _) (Nat.zero_le _) dX11_harm_69 h
      refine v_icmp_ge (tgt := 51) dX11_harm_44 rfl (fun c12 => ?_) (fun c12 => ?_)
      · refine v_iconst dX11_harm_51 ic_0 ?_
        exact J11 _ (by rw [if_pos c12])
      · refine v_iconst dX11_harm_47 ic_1 ?_
        refine v_goto (tgt := 52) dX11_harm_48 rfl ?_
        exact J11 _ (by rw [if_neg c12]))
  refine v_if_eq (tgt := 27) dX11_harm_12 rfl (fun c4 => ?_) (fun c4 => ?_)
  · have h := Ok.pos h c4
    refine v_iconst dX11_harm_27 ic_0 ?_
    have h := Ok.ret h
    exact h
  · have h := Ok.neg h c4
    refine v_iload 4 dX11_harm_15 rfl ?_
    refine cM_392 (Ok.bind h) ⟨Nat.le_of_ble_eq_true rfl, Nat.le_of_ble_eq_true rfl⟩ (Nat.le_of_ble_eq_true rfl) dX11_harm_17 (fun r5 z_r5 h => ?_)
    refine v_if_eq (tgt := 27) dX11_harm_20 rfl (fun c6 => ?_) (fun c6 => ?_)
    · have h := Ok.pos h c6
      refine v_iconst dX11_harm_27 ic_0 ?_
      have h := Ok.ret h
      exact h
    · have h := Ok.neg h c6
      refine v_iconst dX11_harm_23 ic_1 ?_
      refine v_goto (tgt := 28) dX11_harm_24 rfl ?_
      have h := Ok.ret h
      exact h
def fM_isHarmOne (s : tt_St) (x1 : Int32) : Option (Int32 × tt_St) :=
  (fM_within x1.toInt64 (0 : Int64) (23 : Int64)).bind fun r1 => (if r1 = 0 then some (0 : Int32) else if inB x1 25 then if (rdI s 7 0 x1.toNatClampNeg) = 0 then some (0 : Int32) else some (1 : Int32) else none : Option (Int32)).bind fun t2 => (fM_needs s t2 (1 : Int32) (0 : Int32)).bind fun r6 => some (r6.1, r6.2)
abbrev rM_isHarmOne : Room := { frames := 1, cells := 0, slots := 0, locals := 25 }
set_option maxHeartbeats 4000000 in
theorem mM_isHarmOne (l : Launch) (D : va_G) (dA : Nat → ClassId) (A : Nat → Prop) (lc : Nat → Nat → Nat) (s : tt_St) (x1 : Int32) {Q : Option Value → (Nat → Nat → Nat) → tt_St → Prop} (h : Ok (fM_isHarmOne s x1) (fun r => zB r.1 → Q (some (.int r.1)) lc r.2)) : tt_Sp (XM l D dA A) yX11_isHarmOne cX11_isHarmOne 2 (some .boolean) rM_isHarmOne [.ref (lc 0 0), .int x1] lc s Q := by
  refine tt_Sp.ofV plM kokM (Nat.le_of_ble_eq_true rfl) ?_
  show tt_V (XM l D dA A) cX11_isHarmOne (RX11, 2, (some .boolean), rM_isHarmOne, tt_nt) (tt_fn (XM l D dA A) (RX11, 2, (some .boolean), rM_isHarmOne, tt_nt) Q) 0 [(0, .ref (lc 0 0)), (1, .int x1)] [] lc s 0 0
  unfold fM_isHarmOne at h
  refine v_aload_n 0 dX11_isHarmOne_0 rfl ?_
  refine v_iload_n 1 dX11_isHarmOne_1 rfl ?_
  refine v_i2l dX11_isHarmOne_2 rfl ?_
  refine v_lconst dX11_isHarmOne_3 kl_0 ?_
  refine v_ldc2 dX11_isHarmOne_4 q2174 ?_
  refine cM_352 (Ok.bind h) ⟨Nat.le_of_ble_eq_true rfl, Nat.le_of_ble_eq_true rfl⟩ (Nat.le_of_ble_eq_true rfl) dX11_isHarmOne_7 (fun r1 z_r1 h => ?_)
  have h := Ok.join (PJ := fun t2 : Int32 => tt_V (XM l D dA A) cX11_isHarmOne (RX11, 2, (some .boolean), rM_isHarmOne, tt_nt) (tt_fn (XM l D dA A) (RX11, 2, (some .boolean), rM_isHarmOne, tt_nt) Q) 27 [] [.int t2, .ref (lc 0 0)] lc s 0 0) h (fun t2 h => by
    refine v_iconst dX11_isHarmOne_27 ic_1 ?_
    refine v_iconst dX11_isHarmOne_28 ic_0 ?_
    refine cM_346 (Ok.bind h) ⟨Nat.le_of_ble_eq_true rfl, Nat.le_of_ble_eq_true rfl⟩ (Nat.le_of_ble_eq_true rfl) dX11_isHarmOne_29 (fun r6 z_r6 h => ?_)
    have h := Ok.ret h
    exact v_zret rfl z_r6 (Nat.zero_le _) (Nat.zero_le _) dX11_isHarmOne_32 (h z_r6))
  refine v_if_eq (tgt := 26) dX11_isHarmOne_10 rfl (fun c3 => ?_) (fun c3 => ?_)
  · have h := Ok.pos h c3
    refine v_iconst dX11_isHarmOne_26 ic_0 ?_
    refine v_sub [] rfl ?_
    have h := Ok.ret h
    exact h
  · have h := Ok.neg h c3
    refine v_aload_n 0 dX11_isHarmOne_13 rfl ?_
    refine gM_33 dX11_isHarmOne_14 ?_
    refine v_iload_n 1 dX11_isHarmOne_17 rfl ?_
    obtain ⟨g4, h⟩ := Ok.guard h
    refine lM_7 g4 dX11_isHarmOne_18 ?_
    refine v_if_eq (tgt := 26) dX11_isHarmOne_19 rfl (fun c5 => ?_) (fun c5 => ?_)
    · have h := Ok.pos h c5
      refine v_iconst dX11_isHarmOne_26 ic_0 ?_
      refine v_sub [] rfl ?_
      have h := Ok.ret h
      exact h
    · have h := Ok.neg h c5
      refine v_iconst dX11_isHarmOne_22 ic_1 ?_
      refine v_goto (tgt := 27) dX11_isHarmOne_23 rfl ?_
      refine v_sub [] rfl ?_
      have h := Ok.ret h
      exact h
theorem cM_397 {l : Launch} {D : va_G} {dA : Nat → ClassId} {A : Nat → Prop} {lc : Nat → Nat → Nat} {s : tt_St} {cc : ByteArray} {nl : Nat} {rt : Option FieldType} {rm : Room} {tn : tt_Tn} {Q : tt_Fin} {pc : Nat} {lv : List (Nat × Value)} {rest : List Value} {ck cn : Nat} {x1 : Int32} {K : Int32 × tt_St → Prop} (h : Ok (fM_isHarmOne s x1) K) (hR : 1 + 1 ≤ rm.frames ∧ 8 + (2 + 11) + 25 ≤ rm.locals) (hW : (rest.map fun v => v.category).sum ≤ 8) (d : decode cc pc = .ok (.invokevirtual 397, 3)) (kk : ∀ r, zB r.1 → K r → tt_V (XM l D dA A) cc (RX11, nl, rt, rm, tn) Q (pc + 3) lv (.int r.1 :: rest) lc r.2 ck cn) (hf : ck ≤ rm.cells ∧ cn ≤ rm.slots := by exact ⟨Nat.zero_le _, Nat.zero_le _⟩) : tt_V (XM l D dA A) cc (RX11, nl, rt, rm, tn) Q pc lv (.int x1 :: .ref (lc 0 0) :: rest) lc s ck cn :=
  v_callV (kd := 0) (i := 0) (nA := 1) (As := [.int x1]) lvM_0 oM rfl (mM_isHarmOne l D dA A lc s x1 (Q := (fun v lc' s' => ∃ r, zB r.1 ∧ K r ∧ v = some (.int r.1) ∧ lc' = lc ∧ s' = r.2)) (h.mono (fun r hr => fun hz => ⟨r, hz, hr, rfl, rfl, rfl⟩))) (lw_V q2170 q2172 qs100 q154 q2173) (by decide +kernel) rfl hR hW hf d rfl (fun v lc' s' q => by obtain ⟨r, hz, hr, e1, e2, e3⟩ := q; rw [e1, e2, e3]; exact kk r hz hr)
def fM_grow (s : tt_St) (x1 : Int32) (x2 : Int32) : Option (Int64 × tt_St) :=
  nm (wrI s 0 0 0 (0 : Int32)) fun s1 => (fM_isHarmOne s1 x1).bind fun r2 => if r2.1 = 0 then some ((0 : Int64), r2.2) else (fM_isLoss x2).bind fun r4 => (fM_needs r2.2 r4 (2 : Int32) (1 : Int32)).bind fun r5 => if r5.1 = 0 then some ((0 : Int64), r5.2) else (fM_hasRoom r5.2 (3 : Int32)).bind fun r7 => if r7.1 = 0 then some ((0 : Int64), r7.2) else (fM_insuredOf r7.2 x1).bind fun r9 => (fM_notes r7.2 (5 : Int32) x1 x2 (0 : Int32) (0 : Int32) (-1 : Int32)).bind fun r10 => (fM_does r10 ((rdI r10 0 0 5) - (1 : Int32))).bind fun r11 => (fM_insuredOf r11 x1).bind fun r12 => some (r12 - r9, r11)
abbrev rM_grow : Room := { frames := 9, cells := 0, slots := 0, locals := 212 }
set_option maxHeartbeats 4000000 in
theorem mM_grow (l : Launch) (D : va_G) (dA : Nat → ClassId) (A : Nat → Prop) (lc : Nat → Nat → Nat) (s : tt_St) (x1 : Int32) (x2 : Int32) {Q : Option Value → (Nat → Nat → Nat) → tt_St → Prop} (h : Ok (fM_grow s x1 x2) (fun r => Q (some (.long r.1)) lc r.2)) : tt_Sp (XM l D dA A) yX11_grow cX11_grow 5 (some .long) rM_grow [.ref (lc 0 0), .int x1, .int x2] lc s Q := by
  refine tt_Sp.ofV plM kokM (Nat.le_of_ble_eq_true rfl) ?_
  show tt_V (XM l D dA A) cX11_grow (RX11, 5, (some .long), rM_grow, tt_nt) (tt_fn (XM l D dA A) (RX11, 5, (some .long), rM_grow, tt_nt) Q) 0 [(0, .ref (lc 0 0)), (1, .int x1), (2, .int x2)] [] lc s 0 0
  unfold fM_grow at h
  refine v_aload_n 0 dX11_grow_0 rfl ?_
  refine v_iconst dX11_grow_1 ic_0 ?_
  refine pM_1 dX11_grow_2 ?_
  refine v_nmS (fun s1 e_s1 => ?_)
  have h := Ok.nm h e_s1
  refine v_aload_n 0 dX11_grow_5 rfl ?_
  refine v_iload_n 1 dX11_grow_6 rfl ?_
  refine cM_397 (Ok.bind h) ⟨Nat.le_of_ble_eq_true rfl, Nat.le_of_ble_eq_true rfl⟩ (Nat.le_of_ble_eq_true rfl) dX11_grow_7 (fun r2 z_r2 h => ?_)
  refine v_if_eq (tgt := 34) dX11_grow_10 rfl (fun c3 => ?_) (fun c3 => ?_)
  · have h := Ok.pos h c3
    refine v_lconst dX11_grow_34 kl_0 ?_
    have h := Ok.ret h
    exact v_lret rfl (Nat.zero_le _) (Nat.zero_le _) dX11_grow_35 h
  · have h := Ok.neg h c3
    refine v_aload_n 0 dX11_grow_13 rfl ?_
    refine v_iload_n 2 dX11_grow_14 rfl ?_
    refine cM_392 (Ok.bind h) ⟨Nat.le_of_ble_eq_true rfl, Nat.le_of_ble_eq_true rfl⟩ (Nat.le_of_ble_eq_true rfl) dX11_grow_15 (fun r4 z_r4 h => ?_)
    refine v_iconst dX11_grow_18 ic_2 ?_
    refine v_iconst dX11_grow_19 ic_1 ?_
    refine cM_346 (Ok.bind h) ⟨Nat.le_of_ble_eq_true rfl, Nat.le_of_ble_eq_true rfl⟩ (Nat.le_of_ble_eq_true rfl) dX11_grow_20 (fun r5 z_r5 h => ?_)
    refine v_if_eq (tgt := 34) dX11_grow_23 rfl (fun c6 => ?_) (fun c6 => ?_)
    · have h := Ok.pos h c6
      refine v_lconst dX11_grow_34 kl_0 ?_
      have h := Ok.ret h
      exact v_lret rfl (Nat.zero_le _) (Nat.zero_le _) dX11_grow_35 h
    · have h := Ok.neg h c6
      refine v_aload_n 0 dX11_grow_26 rfl ?_
      refine v_iconst dX11_grow_27 ic_3 ?_
      refine cM_365 (Ok.bind h) ⟨Nat.le_of_ble_eq_true rfl, Nat.le_of_ble_eq_true rfl⟩ (Nat.le_of_ble_eq_true rfl) dX11_grow_28 (fun r7 z_r7 h => ?_)
      refine v_if_ne (tgt := 36) dX11_grow_31 rfl (fun c8 => ?_) (fun c8 => ?_)
      · have h := Ok.neg h c8
        refine v_aload_n 0 dX11_grow_36 rfl ?_
        refine v_iload_n 1 dX11_grow_37 rfl ?_
        refine cM_277 (Ok.bind h) ⟨Nat.le_of_ble_eq_true rfl, Nat.le_of_ble_eq_true rfl⟩ (Nat.le_of_ble_eq_true rfl) dX11_grow_38 (fun r9 h => ?_)
        refine v_lstore_n [(3, .long r9), (0, .ref (lc 0 0)), (1, .int x1), (2, .int x2)] dX11_grow_41 (Nat.le_of_ble_eq_true rfl) rfl ?_
        refine v_aload_n 1 dX11_grow_42 rfl ?_
        refine v_iconst dX11_grow_43 ic_5 ?_
        refine v_iload_n 2 dX11_grow_44 rfl ?_
        refine v_iload_n 3 dX11_grow_45 rfl ?_
        refine v_iconst dX11_grow_46 ic_0 ?_
        refine v_iconst dX11_grow_47 ic_0 ?_
        refine v_iconst dX11_grow_48 ic_m1 ?_
        refine cM_368 (Ok.bind h) ⟨Nat.le_of_ble_eq_true rfl, Nat.le_of_ble_eq_true rfl⟩ (Nat.le_of_ble_eq_true rfl) dX11_grow_49 (fun r10 h => ?_)
        refine v_aload_n 1 dX11_grow_52 rfl ?_
        refine v_aload_n 1 dX11_grow_53 rfl ?_
        refine gM_17 dX11_grow_54 ?_
        refine v_iconst dX11_grow_57 ic_1 ?_
        refine v_isub dX11_grow_58 ?_
        refine cM_331 (Ok.bind h) ⟨Nat.le_of_ble_eq_true rfl, Nat.le_of_ble_eq_true rfl⟩ (Nat.le_of_ble_eq_true rfl) dX11_grow_59 (fun r11 h => ?_)
        refine v_aload_n 1 dX11_grow_62 rfl ?_
        refine v_iload_n 2 dX11_grow_63 rfl ?_
        refine cM_277 (Ok.bind h) ⟨Nat.le_of_ble_eq_true rfl, Nat.le_of_ble_eq_true rfl⟩ (Nat.le_of_ble_eq_true rfl) dX11_grow_64 (fun r12 h => ?_)
        refine v_lload_n 0 dX11_grow_67 rfl ?_
        refine v_lsub dX11_grow_68 ?_
        have h := Ok.ret h
        exact v_lret rfl (Nat.zero_le _) (Nat.zero_le _) dX11_grow_69 h
      · have h := Ok.pos h c8
        refine v_lconst dX11_grow_34 kl_0 ?_
        have h := Ok.ret h
        exact v_lret rfl (Nat.zero_le _) (Nat.zero_le _) dX11_grow_35 h
def fM_reopen (s : tt_St) (x1 : Int32) : Option (Int64 × tt_St) :=
  nm (wrI s 0 0 0 (0 : Int32)) fun s1 => (fM_isHarmOne s1 x1).bind fun r2 => if r2.1 = 0 then some ((0 : Int64), r2.2) else (fM_hasRoom r2.2 (2 : Int32)).bind fun r4 => if r4.1 = 0 then some ((0 : Int64), r4.2) else (fM_insuredOf r4.2 x1).bind fun r6 => (fM_notes r4.2 (8 : Int32) x1 (0 : Int32) (0 : Int32) (0 : Int32) (-1 : Int32)).bind fun r7 => (fM_does r7 ((rdI r7 0 0 5) - (1 : Int32))).bind fun r8 => (fM_insuredOf r8 x1).bind fun r9 => some (r9 - r6, r8)
abbrev rM_reopen : Room := { frames := 9, cells := 0, slots := 0, locals := 212 }
set_option maxHeartbeats 4000000 in
theorem mM_reopen (l : Launch) (D : va_G) (dA : Nat → ClassId) (A : Nat → Prop) (lc : Nat → Nat → Nat) (s : tt_St) (x1 : Int32) {Q : Option Value → (Nat → Nat → Nat) → tt_St → Prop} (h : Ok (fM_reopen s x1) (fun r => Q (some (.long r.1)) lc r.2)) : tt_Sp (XM l D dA A) yX11_reopen cX11_reopen 4 (some .long) rM_reopen [.ref (lc 0 0), .int x1] lc s Q := by
  refine tt_Sp.ofV plM kokM (Nat.le_of_ble_eq_true rfl) ?_
  show tt_V (XM l D dA A) cX11_reopen (RX11, 4, (some .long), rM_reopen, tt_nt) (tt_fn (XM l D dA A) (RX11, 4, (some .long), rM_reopen, tt_nt) Q) 0 [(0, .ref (lc 0 0)), (1, .int x1)] [] lc s 0 0
  unfold fM_reopen at h
  refine v_aload_n 0 dX11_reopen_0 rfl ?_
  refine v_iconst dX11_reopen_1 ic_0 ?_
  refine pM_1 dX11_reopen_2 ?_
  refine v_nmS (fun s1 e_s1 => ?_)
  have h := Ok.nm h e_s1
  refine v_aload_n 0 dX11_reopen_5 rfl ?_
  refine v_iload_n 1 dX11_reopen_6 rfl ?_
  refine cM_397 (Ok.bind h) ⟨Nat.le_of_ble_eq_true rfl, Nat.le_of_ble_eq_true rfl⟩ (Nat.le_of_ble_eq_true rfl) dX11_reopen_7 (fun r2 z_r2 h => ?_)
  refine v_if_eq (tgt := 21) dX11_reopen_10 rfl (fun c3 => ?_) (fun c3 => ?_)
  · have h := Ok.pos h c3
    refine v_lconst dX11_reopen_21 kl_0 ?_
    have h := Ok.ret h
    exact v_lret rfl (Nat.zero_le _) (Nat.zero_le _) dX11_reopen_22 h
  · have h := Ok.neg h c3
    refine v_aload_n 0 dX11_reopen_13 rfl ?_
    refine v_iconst dX11_reopen_14 ic_2 ?_
    refine cM_365 (Ok.bind h) ⟨Nat.le_of_ble_eq_true rfl, Nat.le_of_ble_eq_true rfl⟩ (Nat.le_of_ble_eq_true rfl) dX11_reopen_15 (fun r4 z_r4 h => ?_)
    refine v_if_ne (tgt := 23) dX11_reopen_18 rfl (fun c5 => ?_) (fun c5 => ?_)
    · have h := Ok.neg h c5
      refine v_aload_n 0 dX11_reopen_23 rfl ?_
      refine v_iload_n 1 dX11_reopen_24 rfl ?_
      refine cM_277 (Ok.bind h) ⟨Nat.le_of_ble_eq_true rfl, Nat.le_of_ble_eq_true rfl⟩ (Nat.le_of_ble_eq_true rfl) dX11_reopen_25 (fun r6 h => ?_)
      refine v_lstore_n [(2, .long r6), (0, .ref (lc 0 0)), (1, .int x1)] dX11_reopen_28 (Nat.le_of_ble_eq_true rfl) rfl ?_
      refine v_aload_n 1 dX11_reopen_29 rfl ?_
      refine v_bipush dX11_reopen_30 kb_8 ?_
      refine v_iload_n 2 dX11_reopen_32 rfl ?_
      refine v_iconst dX11_reopen_33 ic_0 ?_
      refine v_iconst dX11_reopen_34 ic_0 ?_
      refine v_iconst dX11_reopen_35 ic_0 ?_
      refine v_iconst dX11_reopen_36 ic_m1 ?_
      refine cM_368 (Ok.bind h) ⟨Nat.le_of_ble_eq_true rfl, Nat.le_of_ble_eq_true rfl⟩ (Nat.le_of_ble_eq_true rfl) dX11_reopen_37 (fun r7 h => ?_)
      refine v_aload_n 1 dX11_reopen_40 rfl ?_
      refine v_aload_n 1 dX11_reopen_41 rfl ?_
      refine gM_17 dX11_reopen_42 ?_
      refine v_iconst dX11_reopen_45 ic_1 ?_
      refine v_isub dX11_reopen_46 ?_
      refine cM_331 (Ok.bind h) ⟨Nat.le_of_ble_eq_true rfl, Nat.le_of_ble_eq_true rfl⟩ (Nat.le_of_ble_eq_true rfl) dX11_reopen_47 (fun r8 h => ?_)
      refine v_aload_n 1 dX11_reopen_50 rfl ?_
      refine v_iload_n 2 dX11_reopen_51 rfl ?_
      refine cM_277 (Ok.bind h) ⟨Nat.le_of_ble_eq_true rfl, Nat.le_of_ble_eq_true rfl⟩ (Nat.le_of_ble_eq_true rfl) dX11_reopen_52 (fun r9 h => ?_)
      refine v_lload_n 0 dX11_reopen_55 rfl ?_
      refine v_lsub dX11_reopen_56 ?_
      have h := Ok.ret h
      exact v_lret rfl (Nat.zero_le _) (Nat.zero_le _) dX11_reopen_57 h
    · have h := Ok.pos h c5
      refine v_lconst dX11_reopen_21 kl_0 ?_
      have h := Ok.ret h
      exact v_lret rfl (Nat.zero_le _) (Nat.zero_le _) dX11_reopen_22 h
def fM_standing_L4 (s : tt_St) (x1 : Int32) (a1 : Int32 × Int32) : Option ((Int32 × Int32) ⊕ (Int32 × Int32)) :=
  if (10 : Int32) ≤ a1.2 then some (.inr (a1.1, a1.2)) else if inB a1.2 10 then if (rdI s 27 0 a1.2.toNatClampNeg) = x1 then nm (a1.1 + (1 : Int32)) fun v7 => some (.inl (v7, (a1.2 + 1 : Int32))) else nm (a1.1 + (0 : Int32)) fun v6 => some (.inl (v6, (a1.2 + 1 : Int32))) else none
def fM_standing (s : tt_St) (x1 : Int32) : Option (Int32) :=
  (itr (fM_standing_L4 s x1) tt_fuel ((0 : Int32), (1 : Int32))).bind fun b2 => some b2.1
abbrev rM_standing : Room := { frames := 0, cells := 0, slots := 0, locals := 0 }
set_option maxHeartbeats 4000000 in
theorem mM_standing (l : Launch) (D : va_G) (dA : Nat → ClassId) (A : Nat → Prop) (lc : Nat → Nat → Nat) (s : tt_St) (x1 : Int32) {Q : Option Value → (Nat → Nat → Nat) → tt_St → Prop} (h : Ok (fM_standing s x1) (fun r => Q (some (.int r)) lc s)) : tt_Sp (XM l D dA A) yX11_standing cX11_standing 4 (some .int) rM_standing [.ref (lc 0 0), .int x1] lc s Q := by
  refine tt_Sp.ofV plM kokM (Nat.le_of_ble_eq_true rfl) ?_
  show tt_V (XM l D dA A) cX11_standing (RX11, 4, (some .int), rM_standing, tt_nt) (tt_fn (XM l D dA A) (RX11, 4, (some .int), rM_standing, tt_nt) Q) 0 [(0, .ref (lc 0 0)), (1, .int x1)] [] lc s 0 0
  unfold fM_standing at h
  refine v_iconst dX11_standing_0 ic_0 ?_
  refine v_istore_n [(2, .int (0 : Int32)), (0, .ref (lc 0 0)), (1, .int x1)] dX11_standing_1 (Nat.le_of_ble_eq_true rfl) rfl ?_
  refine v_iconst dX11_standing_2 ic_1 ?_
  refine v_istore_n [(3, .int (1 : Int32)), (2, .int (0 : Int32)), (0, .ref (lc 0 0)), (1, .int x1)] dX11_standing_3 (Nat.le_of_ble_eq_true rfl) rfl ?_
  refine v_sub [2, 3, 1, 0] rfl ?_
  refine itr_loop (P := fun a1 : Int32 × Int32 => tt_V (XM l D dA A) cX11_standing (RX11, 4, (some .int), rM_standing, tt_nt) (tt_fn (XM l D dA A) (RX11, 4, (some .int), rM_standing, tt_nt) Q) 4 [(0, .ref (lc 0 0)), (1, .int x1), (2, .int a1.1), (3, .int a1.2)] [] lc s 0 0) (PE := fun b2 : Int32 × Int32 => tt_V (XM l D dA A) cX11_standing (RX11, 4, (some .int), rM_standing, tt_nt) (tt_fn (XM l D dA A) (RX11, 4, (some .int), rM_standing, tt_nt) Q) 34 [(0, .ref (lc 0 0)), (1, .int x1), (2, .int b2.1), (3, .int b2.2)] [] lc s 0 0) h (fun b2 h => ?_) (fun a1 h => ?_)
  · refine v_iload_n 2 dX11_standing_34 rfl ?_
    have h := Ok.ret h
    exact v_iret rfl (Nat.zero_le _) (Nat.zero_le _) dX11_standing_35 h
  · have h : Ok (fM_standing_L4 s x1 a1) _ := h
    unfold fM_standing_L4 at h
    refine v_iload_n 3 dX11_standing_4 rfl ?_
    refine v_bipush dX11_standing_5 kb_10 ?_
    refine v_icmp_ge (tgt := 34) dX11_standing_7 rfl (fun c3 => ?_) (fun c3 => ?_)
    · have h := Ok.pos h c3
      have h := Ok.ret h
      exact h
    · have h := Ok.neg h c3
      refine v_iload_n 2 dX11_standing_10 rfl ?_
      refine v_aload_n 0 dX11_standing_11 rfl ?_
      refine gM_94 dX11_standing_12 ?_
      refine v_iload_n 3 dX11_standing_15 rfl ?_
      obtain ⟨g4, h⟩ := Ok.guard h
      refine lM_27 g4 dX11_standing_16 ?_
      refine v_iload_n 1 dX11_standing_17 rfl ?_
      refine v_icmp_ne (tgt := 25) dX11_standing_18 rfl (fun c5 => ?_) (fun c5 => ?_)
      · have h := Ok.neg h c5
        refine v_iconst dX11_standing_25 ic_0 ?_
        refine v_iadd dX11_standing_26 ?_
        refine v_nmI (fun v6 e_v6 => ?_)
        have h := Ok.nm h e_v6
        refine v_istore_n [(2, .int v6), (0, .ref (lc 0 0)), (1, .int x1), (3, .int a1.2)] dX11_standing_27 (Nat.le_of_ble_eq_true rfl) rfl ?_
        refine v_iinc (v := (a1.2 + 1 : Int32)) 3 [(3, .int (a1.2 + 1 : Int32)), (2, .int v6), (0, .ref (lc 0 0)), (1, .int x1)] dX11_standing_28 rfl (by rw [ic_1]) (Nat.le_of_ble_eq_true rfl) rfl ?_
        refine v_goto (tgt := 4) dX11_standing_31 rfl ?_
        refine v_sub [2, 3, 1, 0] rfl ?_
        have h := Ok.ret h
        exact h
      · have h := Ok.pos h c5
        refine v_iconst dX11_standing_21 ic_1 ?_
        refine v_goto (tgt := 26) dX11_standing_22 rfl ?_
        refine v_iadd dX11_standing_26 ?_
        refine v_nmI (fun v7 e_v7 => ?_)
        have h := Ok.nm h e_v7
        refine v_istore_n [(2, .int v7), (0, .ref (lc 0 0)), (1, .int x1), (3, .int a1.2)] dX11_standing_27 (Nat.le_of_ble_eq_true rfl) rfl ?_
        refine v_iinc (v := (a1.2 + 1 : Int32)) 3 [(3, .int (a1.2 + 1 : Int32)), (2, .int v7), (0, .ref (lc 0 0)), (1, .int x1)] dX11_standing_28 rfl (by rw [ic_1]) (Nat.le_of_ble_eq_true rfl) rfl ?_
        refine v_goto (tgt := 4) dX11_standing_31 rfl ?_
        refine v_sub [2, 3, 1, 0] rfl ?_
        have h := Ok.ret h
        exact h
theorem cM_400 {l : Launch} {D : va_G} {dA : Nat → ClassId} {A : Nat → Prop} {lc : Nat → Nat → Nat} {s : tt_St} {cc : ByteArray} {nl : Nat} {rt : Option FieldType} {rm : Room} {tn : tt_Tn} {Q : tt_Fin} {pc : Nat} {lv : List (Nat × Value)} {rest : List Value} {ck cn : Nat} {x1 : Int32} {K : Int32 → Prop} (h : Ok (fM_standing s x1) K) (hR : 0 + 1 ≤ rm.frames ∧ 8 + (4 + 11) + 0 ≤ rm.locals) (hW : (rest.map fun v => v.category).sum ≤ 8) (d : decode cc pc = .ok (.invokevirtual 400, 3)) (kk : ∀ r, K r → tt_V (XM l D dA A) cc (RX11, nl, rt, rm, tn) Q (pc + 3) lv (.int r :: rest) lc s ck cn) (hf : ck ≤ rm.cells ∧ cn ≤ rm.slots := by exact ⟨Nat.zero_le _, Nat.zero_le _⟩) : tt_V (XM l D dA A) cc (RX11, nl, rt, rm, tn) Q pc lv (.int x1 :: .ref (lc 0 0) :: rest) lc s ck cn :=
  v_callV (kd := 0) (i := 0) (nA := 1) (As := [.int x1]) lvM_0 oM rfl (mM_standing l D dA A lc s x1 (Q := (fun v lc' s' => ∃ r, K r ∧ v = some (.int r) ∧ lc' = lc ∧ s' = s)) (h.mono (fun r hr => ⟨r, hr, rfl, rfl, rfl⟩))) (lw_V q2187 q2189 qs102 q154 q2190) (by decide +kernel) rfl hR hW hf d rfl (fun v lc' s' q => by obtain ⟨r, hr, e1, e2, e3⟩ := q; rw [e1, e2, e3]; exact kk r hr)
def fM_settle (s : tt_St) (x1 : Int32) (x2 : Int32) : Option (Int32 × tt_St) :=
  nm (wrI s 0 0 0 (0 : Int32)) fun s1 => (fM_within x1.toInt64 (1 : Int64) (9 : Int64)).bind fun r2 => (if r2 = 0 then some (0 : Int32) else (fM_within x2.toInt64 (0 : Int64) (1000000000 : Int64)).bind fun r5 => if r5 = 0 then some (0 : Int32) else some (1 : Int32) : Option (Int32)).bind fun t3 => (fM_needs s1 t3 (1 : Int32) (1 : Int32)).bind fun r7 => if r7.1 = 0 then some ((0 : Int32), r7.2) else if inB x1 10 then nm (if (rdI r7.2 27 0 x1.toNatClampNeg) = 0 then (1 : Int32) else (0 : Int32)) fun t10 => (fM_needs r7.2 t10 (2 : Int32) (2 : Int32)).bind fun r13 => if r13.1 = 0 then some ((0 : Int32), r13.2) else (fM_hasRoom r13.2 (2 : Int32)).bind fun r15 => if r15.1 = 0 then some ((0 : Int32), r15.2) else (fM_notes r15.2 (6 : Int32) x1 x2 (0 : Int32) (0 : Int32) (-1 : Int32)).bind fun r17 => (fM_does r17 ((rdI r17 0 0 5) - (1 : Int32))).bind fun r18 => (fM_standing r18 (1 : Int32)).bind fun r19 => some (r19, r18) else none
abbrev rM_settle : Room := { frames := 9, cells := 0, slots := 0, locals := 212 }
set_option maxHeartbeats 4000000 in
theorem mM_settle (l : Launch) (D : va_G) (dA : Nat → ClassId) (A : Nat → Prop) (lc : Nat → Nat → Nat) (s : tt_St) (x1 : Int32) (x2 : Int32) {Q : Option Value → (Nat → Nat → Nat) → tt_St → Prop} (h : Ok (fM_settle s x1 x2) (fun r => Q (some (.int r.1)) lc r.2)) : tt_Sp (XM l D dA A) yX11_settle cX11_settle 3 (some .int) rM_settle [.ref (lc 0 0), .int x1, .int x2] lc s Q := by
  refine tt_Sp.ofV plM kokM (Nat.le_of_ble_eq_true rfl) ?_
  show tt_V (XM l D dA A) cX11_settle (RX11, 3, (some .int), rM_settle, tt_nt) (tt_fn (XM l D dA A) (RX11, 3, (some .int), rM_settle, tt_nt) Q) 0 [(0, .ref (lc 0 0)), (1, .int x1), (2, .int x2)] [] lc s 0 0
  unfold fM_settle at h
  refine v_aload_n 0 dX11_settle_0 rfl ?_
  refine v_iconst dX11_settle_1 ic_0 ?_
  refine pM_1 dX11_settle_2 ?_
  refine v_nmS (fun s1 e_s1 => ?_)
  have h := Ok.nm h e_s1
  refine v_aload_n 0 dX11_settle_5 rfl ?_
  refine v_iload_n 1 dX11_settle_6 rfl ?_
  refine v_i2l dX11_settle_7 rfl ?_
  refine v_lconst dX11_settle_8 kl_1 ?_
  refine v_ldc2 dX11_settle_9 q2131 ?_
  refine cM_352 (Ok.bind h) ⟨Nat.le_of_ble_eq_true rfl, Nat.le_of_ble_eq_true rfl⟩ (Nat.le_of_ble_eq_true rfl) dX11_settle_12 (fun r2 z_r2 h => ?_)
  have h := Ok.join (PJ := fun t3 : Int32 => tt_V (XM l D dA A) cX11_settle (RX11, 3, (some .int), rM_settle, tt_nt) (tt_fn (XM l D dA A) (RX11, 3, (some .int), rM_settle, tt_nt) Q) 35 [(0, .ref (lc 0 0)), (1, .int x1), (2, .int x2)] [.int t3, .ref (lc 0 0)] lc s1 0 0) h (fun t3 h => by
    refine v_iconst dX11_settle_35 ic_1 ?_
    refine v_iconst dX11_settle_36 ic_1 ?_
    refine cM_346 (Ok.bind h) ⟨Nat.le_of_ble_eq_true rfl, Nat.le_of_ble_eq_true rfl⟩ (Nat.le_of_ble_eq_true rfl) dX11_settle_37 (fun r7 z_r7 h => ?_)
    refine v_if_eq (tgt := 74) dX11_settle_40 rfl (fun c8 => ?_) (fun c8 => ?_)
    · have h := Ok.pos h c8
      refine v_iconst dX11_settle_74 ic_0 ?_
      have h := Ok.ret h
      exact v_iret rfl (Nat.zero_le _) (Nat.zero_le _) dX11_settle_75 h
    · have h := Ok.neg h c8
      refine v_aload_n 0 dX11_settle_43 rfl ?_
      refine v_aload_n 0 dX11_settle_44 rfl ?_
      refine gM_94 dX11_settle_45 ?_
      refine v_iload_n 1 dX11_settle_48 rfl ?_
      obtain ⟨g9, h⟩ := Ok.guard h
      refine lM_27 g9 dX11_settle_49 ?_
      have J11 : ∀ t10, t10 = (if (rdI r7.2 27 0 x1.toNatClampNeg) = 0 then (1 : Int32) else (0 : Int32)) → tt_V (XM l D dA A) cX11_settle (RX11, 3, (some .int), rM_settle, tt_nt) (tt_fn (XM l D dA A) (RX11, 3, (some .int), rM_settle, tt_nt) Q) 58 [(0, .ref (lc 0 0)), (1, .int x1), (2, .int x2)] [.int t10, .ref (lc 0 0)] lc r7.2 0 0 := fun t10 e_t10 => by
        have h := Ok.nm h e_t10
        refine v_iconst dX11_settle_58 ic_2 ?_
        refine v_iconst dX11_settle_59 ic_2 ?_
        refine cM_346 (Ok.bind h) ⟨Nat.le_of_ble_eq_true rfl, Nat.le_of_ble_eq_true rfl⟩ (Nat.le_of_ble_eq_true rfl) dX11_settle_60 (fun r13 z_r13 h => ?_)
        refine v_if_eq (tgt := 74) dX11_settle_63 rfl (fun c14 => ?_) (fun c14 => ?_)
        · have h := Ok.pos h c14
          refine v_iconst dX11_settle_74 ic_0 ?_
          have h := Ok.ret h
          exact v_iret rfl (Nat.zero_le _) (Nat.zero_le _) dX11_settle_75 h
        · have h := Ok.neg h c14
          refine v_aload_n 0 dX11_settle_66 rfl ?_
          refine v_iconst dX11_settle_67 ic_2 ?_
          refine cM_365 (Ok.bind h) ⟨Nat.le_of_ble_eq_true rfl, Nat.le_of_ble_eq_true rfl⟩ (Nat.le_of_ble_eq_true rfl) dX11_settle_68 (fun r15 z_r15 h => ?_)
          refine v_if_ne (tgt := 76) dX11_settle_71 rfl (fun c16 => ?_) (fun c16 => ?_)
          · have h := Ok.neg h c16
            refine v_aload_n 0 dX11_settle_76 rfl ?_
            refine v_bipush dX11_settle_77 kb_6 ?_
            refine v_iload_n 1 dX11_settle_79 rfl ?_
            refine v_iload_n 2 dX11_settle_80 rfl ?_
            refine v_iconst dX11_settle_81 ic_0 ?_
            refine v_iconst dX11_settle_82 ic_0 ?_
            refine v_iconst dX11_settle_83 ic_m1 ?_
            refine cM_368 (Ok.bind h) ⟨Nat.le_of_ble_eq_true rfl, Nat.le_of_ble_eq_true rfl⟩ (Nat.le_of_ble_eq_true rfl) dX11_settle_84 (fun r17 h => ?_)
            refine v_aload_n 0 dX11_settle_87 rfl ?_
            refine v_aload_n 0 dX11_settle_88 rfl ?_
            refine gM_17 dX11_settle_89 ?_
            refine v_iconst dX11_settle_92 ic_1 ?_
            refine v_isub dX11_settle_93 ?_
            refine cM_331 (Ok.bind h) ⟨Nat.le_of_ble_eq_true rfl, Nat.le_of_ble_eq_true rfl⟩ (Nat.le_of_ble_eq_true rfl) dX11_settle_94 (fun r18 h => ?_)
            refine v_aload_n 0 dX11_settle_97 rfl ?_
            refine v_iconst dX11_settle_98 ic_1 ?_
            refine cM_400 (Ok.bind h) ⟨Nat.le_of_ble_eq_true rfl, Nat.le_of_ble_eq_true rfl⟩ (Nat.le_of_ble_eq_true rfl) dX11_settle_99 (fun r19 h => ?_)
            have h := Ok.ret h
            exact v_iret rfl (Nat.zero_le _) (Nat.zero_le _) dX11_settle_102 h
          · have h := Ok.pos h c16
            refine v_iconst dX11_settle_74 ic_0 ?_
            have h := Ok.ret h
            exact v_iret rfl (Nat.zero_le _) (Nat.zero_le _) dX11_settle_75 h
      refine v_if_ne (tgt := 57) dX11_settle_50 rfl (fun c12 => ?_) (fun c12 => ?_)
      · refine v_iconst dX11_settle_57 ic_0 ?_
        exact J11 _ (by rw [if_neg c12])
      · refine v_iconst dX11_settle_53 ic_1 ?_
        refine v_goto (tgt := 58) dX11_settle_54 rfl ?_
        exact J11 _ (by rw [if_pos c12]))
  refine v_if_eq (tgt := 34) dX11_settle_15 rfl (fun c4 => ?_) (fun c4 => ?_)
  · have h := Ok.pos h c4
    refine v_iconst dX11_settle_34 ic_0 ?_
    have h := Ok.ret h
    exact h
  · have h := Ok.neg h c4
    refine v_iload_n 2 dX11_settle_18 rfl ?_
    refine v_i2l dX11_settle_19 rfl ?_
    refine v_lconst dX11_settle_20 kl_0 ?_
    refine v_ldc2 dX11_settle_21 q2165 ?_
    refine cM_352 (Ok.bind h) ⟨Nat.le_of_ble_eq_true rfl, Nat.le_of_ble_eq_true rfl⟩ (Nat.le_of_ble_eq_true rfl) dX11_settle_24 (fun r5 z_r5 h => ?_)
    refine v_if_eq (tgt := 34) dX11_settle_27 rfl (fun c6 => ?_) (fun c6 => ?_)
    · have h := Ok.pos h c6
      refine v_iconst dX11_settle_34 ic_0 ?_
      have h := Ok.ret h
      exact h
    · have h := Ok.neg h c6
      refine v_iconst dX11_settle_30 ic_1 ?_
      refine v_goto (tgt := 35) dX11_settle_31 rfl ?_
      have h := Ok.ret h
      exact h
def fM_fall (s : tt_St) (x1 : Int32) : Option (Int32 × tt_St) :=
  nm (wrI s 0 0 0 (0 : Int32)) fun s1 => (fM_within x1.toInt64 (1 : Int64) (9 : Int64)).bind fun r2 => (fM_needs s1 r2 (1 : Int32) (1 : Int32)).bind fun r3 => if r3.1 = 0 then some ((0 : Int32), r3.2) else if inB x1 10 then nm (if (rdI r3.2 27 0 x1.toNatClampNeg) = 0 then (1 : Int32) else (0 : Int32)) fun t6 => (fM_needs r3.2 t6 (2 : Int32) (2 : Int32)).bind fun r9 => if r9.1 = 0 then some ((0 : Int32), r9.2) else (fM_hasRoom r9.2 (2 : Int32)).bind fun r11 => if r11.1 = 0 then some ((0 : Int32), r11.2) else (fM_notes r11.2 (7 : Int32) x1 (0 : Int32) (0 : Int32) (0 : Int32) (-1 : Int32)).bind fun r13 => (fM_does r13 ((rdI r13 0 0 5) - (1 : Int32))).bind fun r14 => (fM_standing r14 (2 : Int32)).bind fun r15 => some (r15, r14) else none
abbrev rM_fall : Room := { frames := 9, cells := 0, slots := 0, locals := 212 }
set_option maxHeartbeats 4000000 in
theorem mM_fall (l : Launch) (D : va_G) (dA : Nat → ClassId) (A : Nat → Prop) (lc : Nat → Nat → Nat) (s : tt_St) (x1 : Int32) {Q : Option Value → (Nat → Nat → Nat) → tt_St → Prop} (h : Ok (fM_fall s x1) (fun r => Q (some (.int r.1)) lc r.2)) : tt_Sp (XM l D dA A) yX11_fall cX11_fall 2 (some .int) rM_fall [.ref (lc 0 0), .int x1] lc s Q := by
  refine tt_Sp.ofV plM kokM (Nat.le_of_ble_eq_true rfl) ?_
  show tt_V (XM l D dA A) cX11_fall (RX11, 2, (some .int), rM_fall, tt_nt) (tt_fn (XM l D dA A) (RX11, 2, (some .int), rM_fall, tt_nt) Q) 0 [(0, .ref (lc 0 0)), (1, .int x1)] [] lc s 0 0
  unfold fM_fall at h
  refine v_aload_n 0 dX11_fall_0 rfl ?_
  refine v_iconst dX11_fall_1 ic_0 ?_
  refine pM_1 dX11_fall_2 ?_
  refine v_nmS (fun s1 e_s1 => ?_)
  have h := Ok.nm h e_s1
  refine v_aload_n 0 dX11_fall_5 rfl ?_
  refine v_iload_n 1 dX11_fall_6 rfl ?_
  refine v_i2l dX11_fall_7 rfl ?_
  refine v_lconst dX11_fall_8 kl_1 ?_
  refine v_ldc2 dX11_fall_9 q2131 ?_
  refine cM_352 (Ok.bind h) ⟨Nat.le_of_ble_eq_true rfl, Nat.le_of_ble_eq_true rfl⟩ (Nat.le_of_ble_eq_true rfl) dX11_fall_12 (fun r2 z_r2 h => ?_)
  refine v_iconst dX11_fall_15 ic_1 ?_
  refine v_iconst dX11_fall_16 ic_1 ?_
  refine cM_346 (Ok.bind h) ⟨Nat.le_of_ble_eq_true rfl, Nat.le_of_ble_eq_true rfl⟩ (Nat.le_of_ble_eq_true rfl) dX11_fall_17 (fun r3 z_r3 h => ?_)
  refine v_if_eq (tgt := 54) dX11_fall_20 rfl (fun c4 => ?_) (fun c4 => ?_)
  · have h := Ok.pos h c4
    refine v_iconst dX11_fall_54 ic_0 ?_
    have h := Ok.ret h
    exact v_iret rfl (Nat.zero_le _) (Nat.zero_le _) dX11_fall_55 h
  · have h := Ok.neg h c4
    refine v_aload_n 0 dX11_fall_23 rfl ?_
    refine v_aload_n 0 dX11_fall_24 rfl ?_
    refine gM_94 dX11_fall_25 ?_
    refine v_iload_n 1 dX11_fall_28 rfl ?_
    obtain ⟨g5, h⟩ := Ok.guard h
    refine lM_27 g5 dX11_fall_29 ?_
    have J7 : ∀ t6, t6 = (if (rdI r3.2 27 0 x1.toNatClampNeg) = 0 then (1 : Int32) else (0 : Int32)) → tt_V (XM l D dA A) cX11_fall (RX11, 2, (some .int), rM_fall, tt_nt) (tt_fn (XM l D dA A) (RX11, 2, (some .int), rM_fall, tt_nt) Q) 38 [(0, .ref (lc 0 0)), (1, .int x1)] [.int t6, .ref (lc 0 0)] lc r3.2 0 0 := fun t6 e_t6 => by
      have h := Ok.nm h e_t6
      refine v_iconst dX11_fall_38 ic_2 ?_
      refine v_iconst dX11_fall_39 ic_2 ?_
      refine cM_346 (Ok.bind h) ⟨Nat.le_of_ble_eq_true rfl, Nat.le_of_ble_eq_true rfl⟩ (Nat.le_of_ble_eq_true rfl) dX11_fall_40 (fun r9 z_r9 h => ?_)
      refine v_if_eq (tgt := 54) dX11_fall_43 rfl (fun c10 => ?_) (fun c10 => ?_)
      · have h := Ok.pos h c10
        refine v_iconst dX11_fall_54 ic_0 ?_
        have h := Ok.ret h
        exact v_iret rfl (Nat.zero_le _) (Nat.zero_le _) dX11_fall_55 h
      · have h := Ok.neg h c10
        refine v_aload_n 0 dX11_fall_46 rfl ?_
        refine v_iconst dX11_fall_47 ic_2 ?_
        refine cM_365 (Ok.bind h) ⟨Nat.le_of_ble_eq_true rfl, Nat.le_of_ble_eq_true rfl⟩ (Nat.le_of_ble_eq_true rfl) dX11_fall_48 (fun r11 z_r11 h => ?_)
        refine v_if_ne (tgt := 56) dX11_fall_51 rfl (fun c12 => ?_) (fun c12 => ?_)
        · have h := Ok.neg h c12
          refine v_aload_n 0 dX11_fall_56 rfl ?_
          refine v_bipush dX11_fall_57 kb_7 ?_
          refine v_iload_n 1 dX11_fall_59 rfl ?_
          refine v_iconst dX11_fall_60 ic_0 ?_
          refine v_iconst dX11_fall_61 ic_0 ?_
          refine v_iconst dX11_fall_62 ic_0 ?_
          refine v_iconst dX11_fall_63 ic_m1 ?_
          refine cM_368 (Ok.bind h) ⟨Nat.le_of_ble_eq_true rfl, Nat.le_of_ble_eq_true rfl⟩ (Nat.le_of_ble_eq_true rfl) dX11_fall_64 (fun r13 h => ?_)
          refine v_aload_n 0 dX11_fall_67 rfl ?_
          refine v_aload_n 0 dX11_fall_68 rfl ?_
          refine gM_17 dX11_fall_69 ?_
          refine v_iconst dX11_fall_72 ic_1 ?_
          refine v_isub dX11_fall_73 ?_
          refine cM_331 (Ok.bind h) ⟨Nat.le_of_ble_eq_true rfl, Nat.le_of_ble_eq_true rfl⟩ (Nat.le_of_ble_eq_true rfl) dX11_fall_74 (fun r14 h => ?_)
          refine v_aload_n 0 dX11_fall_77 rfl ?_
          refine v_iconst dX11_fall_78 ic_2 ?_
          refine cM_400 (Ok.bind h) ⟨Nat.le_of_ble_eq_true rfl, Nat.le_of_ble_eq_true rfl⟩ (Nat.le_of_ble_eq_true rfl) dX11_fall_79 (fun r15 h => ?_)
          have h := Ok.ret h
          exact v_iret rfl (Nat.zero_le _) (Nat.zero_le _) dX11_fall_82 h
        · have h := Ok.pos h c12
          refine v_iconst dX11_fall_54 ic_0 ?_
          have h := Ok.ret h
          exact v_iret rfl (Nat.zero_le _) (Nat.zero_le _) dX11_fall_55 h
    refine v_if_ne (tgt := 37) dX11_fall_30 rfl (fun c8 => ?_) (fun c8 => ?_)
    · refine v_iconst dX11_fall_37 ic_0 ?_
      exact J7 _ (by rw [if_neg c8])
    · refine v_iconst dX11_fall_33 ic_1 ?_
      refine v_goto (tgt := 38) dX11_fall_34 rfl ?_
      exact J7 _ (by rw [if_pos c8])
def fM_back (s : tt_St) : Option (Int32 × tt_St) :=
  nm (wrI s 0 0 0 (0 : Int32)) fun s1 => if (rdI s1 0 0 5) = 0 then some ((-1 : Int32), s1) else nm (wrI s1 0 0 5 ((rdI s1 0 0 5) - (1 : Int32))) fun s3 => (fM_goesOver s3).bind fun r4 => some (rdI r4 0 0 5, r4)
abbrev rM_back : Room := { frames := 11, cells := 0, slots := 0, locals := 254 }
set_option maxHeartbeats 4000000 in
theorem mM_back (l : Launch) (D : va_G) (dA : Nat → ClassId) (A : Nat → Prop) (lc : Nat → Nat → Nat) (s : tt_St) {Q : Option Value → (Nat → Nat → Nat) → tt_St → Prop} (h : Ok (fM_back s) (fun r => Q (some (.int r.1)) lc r.2)) : tt_Sp (XM l D dA A) yX11_back cX11_back 1 (some .int) rM_back [.ref (lc 0 0)] lc s Q := by
  refine tt_Sp.ofV plM kokM (Nat.le_of_ble_eq_true rfl) ?_
  show tt_V (XM l D dA A) cX11_back (RX11, 1, (some .int), rM_back, tt_nt) (tt_fn (XM l D dA A) (RX11, 1, (some .int), rM_back, tt_nt) Q) 0 [(0, .ref (lc 0 0))] [] lc s 0 0
  unfold fM_back at h
  refine v_aload_n 0 dX11_back_0 rfl ?_
  refine v_iconst dX11_back_1 ic_0 ?_
  refine pM_1 dX11_back_2 ?_
  refine v_nmS (fun s1 e_s1 => ?_)
  have h := Ok.nm h e_s1
  refine v_aload_n 0 dX11_back_5 rfl ?_
  refine gM_17 dX11_back_6 ?_
  refine v_if_ne (tgt := 14) dX11_back_9 rfl (fun c2 => ?_) (fun c2 => ?_)
  · have h := Ok.neg h c2
    refine v_aload_n 0 dX11_back_14 rfl ?_
    refine v_dup dX11_back_15 rfl ?_
    refine gM_17 dX11_back_16 ?_
    refine v_iconst dX11_back_19 ic_1 ?_
    refine v_isub dX11_back_20 ?_
    refine pM_17 dX11_back_21 ?_
    refine v_nmS (fun s3 e_s3 => ?_)
    have h := Ok.nm h e_s3
    refine v_aload_n 0 dX11_back_24 rfl ?_
    refine cM_403 (Ok.bind h) ⟨Nat.le_of_ble_eq_true rfl, Nat.le_of_ble_eq_true rfl⟩ (Nat.le_of_ble_eq_true rfl) dX11_back_25 (fun r4 h => ?_)
    refine v_aload_n 0 dX11_back_28 rfl ?_
    refine gM_17 dX11_back_29 ?_
    have h := Ok.ret h
    exact v_iret rfl (Nat.zero_le _) (Nat.zero_le _) dX11_back_32 h
  · have h := Ok.pos h c2
    refine v_iconst dX11_back_12 ic_m1 ?_
    have h := Ok.ret h
    exact v_iret rfl (Nat.zero_le _) (Nat.zero_le _) dX11_back_13 h
def fM_standingBits_L4 (s : tt_St) (x1 : Int32) (a1 : Int32 × Int32) : Option ((Int32 × Int32) ⊕ (Int32 × Int32)) :=
  if (10 : Int32) ≤ a1.2 then some (.inr (a1.1, a1.2)) else if inB a1.2 10 then if (rdI s 27 0 a1.2.toNatClampNeg) = x1 then nm (a1.1 ||| ((1 : Int32) <<< (a1.2 &&& 31))) fun v7 => some (.inl (v7, (a1.2 + 1 : Int32))) else nm (a1.1 ||| (0 : Int32)) fun v6 => some (.inl (v6, (a1.2 + 1 : Int32))) else none
def fM_standingBits (s : tt_St) (x1 : Int32) : Option (Int32) :=
  (itr (fM_standingBits_L4 s x1) tt_fuel ((0 : Int32), (1 : Int32))).bind fun b2 => some b2.1
abbrev rM_standingBits : Room := { frames := 0, cells := 0, slots := 0, locals := 0 }
set_option maxHeartbeats 4000000 in
theorem mM_standingBits (l : Launch) (D : va_G) (dA : Nat → ClassId) (A : Nat → Prop) (lc : Nat → Nat → Nat) (s : tt_St) (x1 : Int32) {Q : Option Value → (Nat → Nat → Nat) → tt_St → Prop} (h : Ok (fM_standingBits s x1) (fun r => Q (some (.int r)) lc s)) : tt_Sp (XM l D dA A) yX11_standingBits cX11_standingBits 4 (some .int) rM_standingBits [.ref (lc 0 0), .int x1] lc s Q := by
  refine tt_Sp.ofV plM kokM (Nat.le_of_ble_eq_true rfl) ?_
  show tt_V (XM l D dA A) cX11_standingBits (RX11, 4, (some .int), rM_standingBits, tt_nt) (tt_fn (XM l D dA A) (RX11, 4, (some .int), rM_standingBits, tt_nt) Q) 0 [(0, .ref (lc 0 0)), (1, .int x1)] [] lc s 0 0
  unfold fM_standingBits at h
  refine v_iconst dX11_standingBits_0 ic_0 ?_
  refine v_istore_n [(2, .int (0 : Int32)), (0, .ref (lc 0 0)), (1, .int x1)] dX11_standingBits_1 (Nat.le_of_ble_eq_true rfl) rfl ?_
  refine v_iconst dX11_standingBits_2 ic_1 ?_
  refine v_istore_n [(3, .int (1 : Int32)), (2, .int (0 : Int32)), (0, .ref (lc 0 0)), (1, .int x1)] dX11_standingBits_3 (Nat.le_of_ble_eq_true rfl) rfl ?_
  refine v_sub [2, 3, 1, 0] rfl ?_
  refine itr_loop (P := fun a1 : Int32 × Int32 => tt_V (XM l D dA A) cX11_standingBits (RX11, 4, (some .int), rM_standingBits, tt_nt) (tt_fn (XM l D dA A) (RX11, 4, (some .int), rM_standingBits, tt_nt) Q) 4 [(0, .ref (lc 0 0)), (1, .int x1), (2, .int a1.1), (3, .int a1.2)] [] lc s 0 0) (PE := fun b2 : Int32 × Int32 => tt_V (XM l D dA A) cX11_standingBits (RX11, 4, (some .int), rM_standingBits, tt_nt) (tt_fn (XM l D dA A) (RX11, 4, (some .int), rM_standingBits, tt_nt) Q) 36 [(0, .ref (lc 0 0)), (1, .int x1), (2, .int b2.1), (3, .int b2.2)] [] lc s 0 0) h (fun b2 h => ?_) (fun a1 h => ?_)
  · refine v_iload_n 2 dX11_standingBits_36 rfl ?_
    have h := Ok.ret h
    exact v_iret rfl (Nat.zero_le _) (Nat.zero_le _) dX11_standingBits_37 h
  · have h : Ok (fM_standingBits_L4 s x1 a1) _ := h
    unfold fM_standingBits_L4 at h
    refine v_iload_n 3 dX11_standingBits_4 rfl ?_
    refine v_bipush dX11_standingBits_5 kb_10 ?_
    refine v_icmp_ge (tgt := 36) dX11_standingBits_7 rfl (fun c3 => ?_) (fun c3 => ?_)
    · have h := Ok.pos h c3
      have h := Ok.ret h
      exact h
    · have h := Ok.neg h c3
      refine v_iload_n 2 dX11_standingBits_10 rfl ?_
      refine v_aload_n 0 dX11_standingBits_11 rfl ?_
      refine gM_94 dX11_standingBits_12 ?_
      refine v_iload_n 3 dX11_standingBits_15 rfl ?_
      obtain ⟨g4, h⟩ := Ok.guard h
      refine lM_27 g4 dX11_standingBits_16 ?_
      refine v_iload_n 1 dX11_standingBits_17 rfl ?_
      refine v_icmp_ne (tgt := 27) dX11_standingBits_18 rfl (fun c5 => ?_) (fun c5 => ?_)
      · have h := Ok.neg h c5
        refine v_iconst dX11_standingBits_27 ic_0 ?_
        refine v_ior dX11_standingBits_28 ?_
        refine v_nmI (fun v6 e_v6 => ?_)
        have h := Ok.nm h e_v6
        refine v_istore_n [(2, .int v6), (0, .ref (lc 0 0)), (1, .int x1), (3, .int a1.2)] dX11_standingBits_29 (Nat.le_of_ble_eq_true rfl) rfl ?_
        refine v_iinc (v := (a1.2 + 1 : Int32)) 3 [(3, .int (a1.2 + 1 : Int32)), (2, .int v6), (0, .ref (lc 0 0)), (1, .int x1)] dX11_standingBits_30 rfl (by rw [ic_1]) (Nat.le_of_ble_eq_true rfl) rfl ?_
        refine v_goto (tgt := 4) dX11_standingBits_33 rfl ?_
        refine v_sub [2, 3, 1, 0] rfl ?_
        have h := Ok.ret h
        exact h
      · have h := Ok.pos h c5
        refine v_iconst dX11_standingBits_21 ic_1 ?_
        refine v_iload_n 3 dX11_standingBits_22 rfl ?_
        refine v_ishl dX11_standingBits_23 ?_
        refine v_goto (tgt := 28) dX11_standingBits_24 rfl ?_
        refine v_ior dX11_standingBits_28 ?_
        refine v_nmI (fun v7 e_v7 => ?_)
        have h := Ok.nm h e_v7
        refine v_istore_n [(2, .int v7), (0, .ref (lc 0 0)), (1, .int x1), (3, .int a1.2)] dX11_standingBits_29 (Nat.le_of_ble_eq_true rfl) rfl ?_
        refine v_iinc (v := (a1.2 + 1 : Int32)) 3 [(3, .int (a1.2 + 1 : Int32)), (2, .int v7), (0, .ref (lc 0 0)), (1, .int x1)] dX11_standingBits_30 rfl (by rw [ic_1]) (Nat.le_of_ble_eq_true rfl) rfl ?_
        refine v_goto (tgt := 4) dX11_standingBits_33 rfl ?_
        refine v_sub [2, 3, 1, 0] rfl ?_
        have h := Ok.ret h
        exact h
theorem cM_410 {l : Launch} {D : va_G} {dA : Nat → ClassId} {A : Nat → Prop} {lc : Nat → Nat → Nat} {s : tt_St} {cc : ByteArray} {nl : Nat} {rt : Option FieldType} {rm : Room} {tn : tt_Tn} {Q : tt_Fin} {pc : Nat} {lv : List (Nat × Value)} {rest : List Value} {ck cn : Nat} {x1 : Int32} {K : Int32 → Prop} (h : Ok (fM_standingBits s x1) K) (hR : 0 + 1 ≤ rm.frames ∧ 8 + (4 + 11) + 0 ≤ rm.locals) (hW : (rest.map fun v => v.category).sum ≤ 8) (d : decode cc pc = .ok (.invokevirtual 410, 3)) (kk : ∀ r, K r → tt_V (XM l D dA A) cc (RX11, nl, rt, rm, tn) Q (pc + 3) lv (.int r :: rest) lc s ck cn) (hf : ck ≤ rm.cells ∧ cn ≤ rm.slots := by exact ⟨Nat.zero_le _, Nat.zero_le _⟩) : tt_V (XM l D dA A) cc (RX11, nl, rt, rm, tn) Q pc lv (.int x1 :: .ref (lc 0 0) :: rest) lc s ck cn :=
  v_callV (kd := 0) (i := 0) (nA := 1) (As := [.int x1]) lvM_0 oM rfl (mM_standingBits l D dA A lc s x1 (Q := (fun v lc' s' => ∃ r, K r ∧ v = some (.int r) ∧ lc' = lc ∧ s' = s)) (h.mono (fun r hr => ⟨r, hr, rfl, rfl, rfl⟩))) (lw_V q2227 q2229 qs109 q154 q2230) (by decide +kernel) rfl hR hW hf d rfl (fun v lc' s' q => by obtain ⟨r, hr, e1, e2, e3⟩ := q; rw [e1, e2, e3]; exact kk r hr)
def fM_signersBits_L12 (s : tt_St) (a1 : Int32 × Int32) (a4 : Int32 × Int32) : Option ((Int32 × Int32) ⊕ (Int32 × Int32)) :=
  if inB a1.2 40 then if (rdI s 6 0 a1.2.toNatClampNeg) = 0 then some (.inr (a4.1, a4.2)) else if (rdI s 12 0 a1.2.toNatClampNeg) ≤ a4.2 then some (.inr (a4.1, a4.2)) else if inB (((4 : Int32) * a1.2) + a4.2) 160 then nm (a4.1 ||| ((1 : Int32) <<< ((rdI s 13 0 (((4 : Int32) * a1.2) + a4.2).toNatClampNeg) &&& 31))) fun v10 => some (.inl (v10, (a4.2 + 1 : Int32))) else none else none
def fM_signersBits_L4 (s : tt_St) (a1 : Int32 × Int32) : Option ((Int32 × Int32) ⊕ (Int32 × Int32)) :=
  if (40 : Int32) ≤ a1.2 then some (.inr (a1.1, a1.2)) else (itr (fM_signersBits_L12 s a1) tt_fuel (a1.1, (0 : Int32))).bind fun b5 => some (.inl (b5.1, (a1.2 + 1 : Int32)))
def fM_signersBits (s : tt_St) : Option (Int32) :=
  (itr (fM_signersBits_L4 s) tt_fuel ((0 : Int32), (0 : Int32))).bind fun b2 => some b2.1
abbrev rM_signersBits : Room := { frames := 0, cells := 0, slots := 0, locals := 0 }
set_option maxHeartbeats 4000000 in
theorem mM_signersBits (l : Launch) (D : va_G) (dA : Nat → ClassId) (A : Nat → Prop) (lc : Nat → Nat → Nat) (s : tt_St) {Q : Option Value → (Nat → Nat → Nat) → tt_St → Prop} (h : Ok (fM_signersBits s) (fun r => Q (some (.int r)) lc s)) : tt_Sp (XM l D dA A) yX11_signersBits cX11_signersBits 4 (some .int) rM_signersBits [.ref (lc 0 0)] lc s Q := by
  refine tt_Sp.ofV plM kokM (Nat.le_of_ble_eq_true rfl) ?_
  show tt_V (XM l D dA A) cX11_signersBits (RX11, 4, (some .int), rM_signersBits, tt_nt) (tt_fn (XM l D dA A) (RX11, 4, (some .int), rM_signersBits, tt_nt) Q) 0 [(0, .ref (lc 0 0))] [] lc s 0 0
  unfold fM_signersBits at h
  refine v_iconst dX11_signersBits_0 ic_0 ?_
  refine v_istore_n [(1, .int (0 : Int32)), (0, .ref (lc 0 0))] dX11_signersBits_1 (Nat.le_of_ble_eq_true rfl) rfl ?_
  refine v_iconst dX11_signersBits_2 ic_0 ?_
  refine v_istore_n [(2, .int (0 : Int32)), (1, .int (0 : Int32)), (0, .ref (lc 0 0))] dX11_signersBits_3 (Nat.le_of_ble_eq_true rfl) rfl ?_
  refine v_sub [2, 1, 0] rfl ?_
  refine itr_loop (P := fun a1 : Int32 × Int32 => tt_V (XM l D dA A) cX11_signersBits (RX11, 4, (some .int), rM_signersBits, tt_nt) (tt_fn (XM l D dA A) (RX11, 4, (some .int), rM_signersBits, tt_nt) Q) 4 [(0, .ref (lc 0 0)), (1, .int a1.1), (2, .int a1.2)] [] lc s 0 0) (PE := fun b2 : Int32 × Int32 => tt_V (XM l D dA A) cX11_signersBits (RX11, 4, (some .int), rM_signersBits, tt_nt) (tt_fn (XM l D dA A) (RX11, 4, (some .int), rM_signersBits, tt_nt) Q) 58 [(0, .ref (lc 0 0)), (1, .int b2.1), (2, .int b2.2)] [] lc s 0 0) h (fun b2 h => ?_) (fun a1 h => ?_)
  · refine v_iload_n 1 dX11_signersBits_58 rfl ?_
    have h := Ok.ret h
    exact v_iret rfl (Nat.zero_le _) (Nat.zero_le _) dX11_signersBits_59 h
  · have h : Ok (fM_signersBits_L4 s a1) _ := h
    unfold fM_signersBits_L4 at h
    refine v_iload_n 2 dX11_signersBits_4 rfl ?_
    refine v_bipush dX11_signersBits_5 kb_40 ?_
    refine v_icmp_ge (tgt := 58) dX11_signersBits_7 rfl (fun c3 => ?_) (fun c3 => ?_)
    · have h := Ok.pos h c3
      have h := Ok.ret h
      exact h
    · have h := Ok.neg h c3
      refine v_iconst dX11_signersBits_10 ic_0 ?_
      refine v_istore_n [(3, .int (0 : Int32)), (0, .ref (lc 0 0)), (1, .int a1.1), (2, .int a1.2)] dX11_signersBits_11 (Nat.le_of_ble_eq_true rfl) rfl ?_
      refine v_sub [1, 2, 3, 0] rfl ?_
      refine itr_loop (P := fun a4 : Int32 × Int32 => tt_V (XM l D dA A) cX11_signersBits (RX11, 4, (some .int), rM_signersBits, tt_nt) (tt_fn (XM l D dA A) (RX11, 4, (some .int), rM_signersBits, tt_nt) Q) 12 [(0, .ref (lc 0 0)), (1, .int a4.1), (2, .int a1.2), (3, .int a4.2)] [] lc s 0 0) (PE := fun b5 : Int32 × Int32 => tt_V (XM l D dA A) cX11_signersBits (RX11, 4, (some .int), rM_signersBits, tt_nt) (tt_fn (XM l D dA A) (RX11, 4, (some .int), rM_signersBits, tt_nt) Q) 52 [(0, .ref (lc 0 0)), (1, .int b5.1), (2, .int a1.2), (3, .int b5.2)] [] lc s 0 0) h (fun b5 h => ?_) (fun a4 h => ?_)
      · refine v_iinc (v := (a1.2 + 1 : Int32)) 2 [(2, .int (a1.2 + 1 : Int32)), (0, .ref (lc 0 0)), (1, .int b5.1), (3, .int b5.2)] dX11_signersBits_52 rfl (by rw [ic_1]) (Nat.le_of_ble_eq_true rfl) rfl ?_
        refine v_goto (tgt := 4) dX11_signersBits_55 rfl ?_
        refine v_sub [1, 2, 0] rfl ?_
        have h := Ok.ret h
        exact h
      · have h : Ok (fM_signersBits_L12 s a1 a4) _ := h
        unfold fM_signersBits_L12 at h
        refine v_aload_n 0 dX11_signersBits_12 rfl ?_
        refine gM_29 dX11_signersBits_13 ?_
        refine v_iload_n 2 dX11_signersBits_16 rfl ?_
        obtain ⟨g6, h⟩ := Ok.guard h
        refine lM_6 g6 dX11_signersBits_17 ?_
        refine v_if_eq (tgt := 52) dX11_signersBits_18 rfl (fun c7 => ?_) (fun c7 => ?_)
        · have h := Ok.pos h c7
          have h := Ok.ret h
          exact h
        · have h := Ok.neg h c7
          refine v_iload_n 3 dX11_signersBits_21 rfl ?_
          refine v_aload_n 0 dX11_signersBits_22 rfl ?_
          refine gM_48 dX11_signersBits_23 ?_
          refine v_iload_n 2 dX11_signersBits_26 rfl ?_
          refine lM_12 g6 dX11_signersBits_27 ?_
          refine v_icmp_ge (tgt := 52) dX11_signersBits_28 rfl (fun c8 => ?_) (fun c8 => ?_)
          · have h := Ok.pos h c8
            have h := Ok.ret h
            exact h
          · have h := Ok.neg h c8
            refine v_iload_n 1 dX11_signersBits_31 rfl ?_
            refine v_iconst dX11_signersBits_32 ic_1 ?_
            refine v_aload_n 0 dX11_signersBits_33 rfl ?_
            refine gM_51 dX11_signersBits_34 ?_
            refine v_iconst dX11_signersBits_37 ic_4 ?_
            refine v_iload_n 2 dX11_signersBits_38 rfl ?_
            refine v_imul dX11_signersBits_39 ?_
            refine v_iload_n 3 dX11_signersBits_40 rfl ?_
            refine v_iadd dX11_signersBits_41 ?_
            obtain ⟨g9, h⟩ := Ok.guard h
            refine lM_13 g9 dX11_signersBits_42 ?_
            refine v_ishl dX11_signersBits_43 ?_
            refine v_ior dX11_signersBits_44 ?_
            refine v_nmI (fun v10 e_v10 => ?_)
            have h := Ok.nm h e_v10
            refine v_istore_n [(1, .int v10), (0, .ref (lc 0 0)), (2, .int a1.2), (3, .int a4.2)] dX11_signersBits_45 (Nat.le_of_ble_eq_true rfl) rfl ?_
            refine v_iinc (v := (a4.2 + 1 : Int32)) 3 [(3, .int (a4.2 + 1 : Int32)), (1, .int v10), (0, .ref (lc 0 0)), (2, .int a1.2)] dX11_signersBits_46 rfl (by rw [ic_1]) (Nat.le_of_ble_eq_true rfl) rfl ?_
            refine v_goto (tgt := 12) dX11_signersBits_49 rfl ?_
            refine v_sub [2, 1, 3, 0] rfl ?_
            have h := Ok.ret h
            exact h
theorem cM_406 {l : Launch} {D : va_G} {dA : Nat → ClassId} {A : Nat → Prop} {lc : Nat → Nat → Nat} {s : tt_St} {cc : ByteArray} {nl : Nat} {rt : Option FieldType} {rm : Room} {tn : tt_Tn} {Q : tt_Fin} {pc : Nat} {lv : List (Nat × Value)} {rest : List Value} {ck cn : Nat} {K : Int32 → Prop} (h : Ok (fM_signersBits s) K) (hR : 0 + 1 ≤ rm.frames ∧ 8 + (4 + 11) + 0 ≤ rm.locals) (hW : (rest.map fun v => v.category).sum ≤ 8) (d : decode cc pc = .ok (.invokevirtual 406, 3)) (kk : ∀ r, K r → tt_V (XM l D dA A) cc (RX11, nl, rt, rm, tn) Q (pc + 3) lv (.int r :: rest) lc s ck cn) (hf : ck ≤ rm.cells ∧ cn ≤ rm.slots := by exact ⟨Nat.zero_le _, Nat.zero_le _⟩) : tt_V (XM l D dA A) cc (RX11, nl, rt, rm, tn) Q pc lv (.ref (lc 0 0) :: rest) lc s ck cn :=
  v_callV (kd := 0) (i := 0) (nA := 0) (As := []) lvM_0 oM rfl (mM_signersBits l D dA A lc s (Q := (fun v lc' s' => ∃ r, K r ∧ v = some (.int r) ∧ lc' = lc ∧ s' = s)) (h.mono (fun r hr => ⟨r, hr, rfl, rfl, rfl⟩))) (lw_V q2223 q2225 qs108 q154 q2226) (by decide +kernel) rfl hR hW hf d rfl (fun v lc' s' q => by obtain ⟨r, hr, e1, e2, e3⟩ := q; rw [e1, e2, e3]; exact kk r hr)
def fM_told_L143 (r3 : Int32 × tt_St) (a10 : Int32 × Int32) : Option ((Int32 × Int32) ⊕ (Int32 × Int32)) :=
  if (12 : Int32) ≤ a10.2 then some (.inr (a10.1, a10.2)) else (fM_isGap r3.2 a10.2).bind fun r13 => if r13 = 0 then nm (a10.1 ||| (0 : Int32)) fun v15 => some (.inl (v15, (a10.2 + 1 : Int32))) else nm (a10.1 ||| ((1 : Int32) <<< (a10.2 &&& 31))) fun v16 => some (.inl (v16, (a10.2 + 1 : Int32)))
def fM_told (s : tt_St) (x1 : Int32) : Option (Int32 × tt_St) :=
  nm (wrI s 0 0 0 (0 : Int32)) fun s1 => (fM_within x1.toInt64 (0 : Int64) (10 : Int64)).bind fun r2 => (fM_needs s1 r2 (1 : Int32) (1 : Int32)).bind fun r3 => if r3.1 = 0 then some ((0 : Int32), r3.2) else if x1 = (10 : Int32) then (fM_signersBits r3.2).bind fun r27 => some (r27, r3.2) else if (3 : Int32) ≤ x1 then if (6 : Int32) ≤ x1 then if x1 = (6 : Int32) then some (rdI r3.2 0 0 29, r3.2) else if x1 ≤ (7 : Int32) then (itr (fM_told_L143 r3) tt_fuel ((0 : Int32), (0 : Int32))).bind fun b11 => some (b11.1, r3.2) else nm (if x1 = (8 : Int32) then (1 : Int32) else (2 : Int32)) fun t17 => (fM_standingBits r3.2 t17).bind fun r20 => some (r20, r3.2) else if x1 = (3 : Int32) then some (rdI r3.2 0 0 30, r3.2) else if x1 = (4 : Int32) then some (rdI r3.2 0 0 31, r3.2) else some (rdI r3.2 0 0 32, r3.2) else if x1 = 0 then (fM_eventsOf r3.2 (0 : Int32)).bind fun r26 => some (r26, r3.2) else if x1 = (1 : Int32) then (fM_eventsOf r3.2 (4 : Int32)).bind fun r25 => some (r25, r3.2) else some (rdI r3.2 0 0 5, r3.2)
abbrev rM_told : Room := { frames := 2, cells := 0, slots := 0, locals := 42 }
set_option maxHeartbeats 4000000 in
theorem mM_told (l : Launch) (D : va_G) (dA : Nat → ClassId) (A : Nat → Prop) (lc : Nat → Nat → Nat) (s : tt_St) (x1 : Int32) {Q : Option Value → (Nat → Nat → Nat) → tt_St → Prop} (h : Ok (fM_told s x1) (fun r => Q (some (.int r.1)) lc r.2)) : tt_Sp (XM l D dA A) yX11_told cX11_told 4 (some .int) rM_told [.ref (lc 0 0), .int x1] lc s Q := by
  refine tt_Sp.ofV plM kokM (Nat.le_of_ble_eq_true rfl) ?_
  show tt_V (XM l D dA A) cX11_told (RX11, 4, (some .int), rM_told, tt_nt) (tt_fn (XM l D dA A) (RX11, 4, (some .int), rM_told, tt_nt) Q) 0 [(0, .ref (lc 0 0)), (1, .int x1)] [] lc s 0 0
  unfold fM_told at h
  refine v_aload_n 0 dX11_told_0 rfl ?_
  refine v_iconst dX11_told_1 ic_0 ?_
  refine pM_1 dX11_told_2 ?_
  refine v_nmS (fun s1 e_s1 => ?_)
  have h := Ok.nm h e_s1
  refine v_aload_n 0 dX11_told_5 rfl ?_
  refine v_iload_n 1 dX11_told_6 rfl ?_
  refine v_i2l dX11_told_7 rfl ?_
  refine v_lconst dX11_told_8 kl_0 ?_
  refine v_ldc2 dX11_told_9 q2105 ?_
  refine cM_352 (Ok.bind h) ⟨Nat.le_of_ble_eq_true rfl, Nat.le_of_ble_eq_true rfl⟩ (Nat.le_of_ble_eq_true rfl) dX11_told_12 (fun r2 z_r2 h => ?_)
  refine v_iconst dX11_told_15 ic_1 ?_
  refine v_iconst dX11_told_16 ic_1 ?_
  refine cM_346 (Ok.bind h) ⟨Nat.le_of_ble_eq_true rfl, Nat.le_of_ble_eq_true rfl⟩ (Nat.le_of_ble_eq_true rfl) dX11_told_17 (fun r3 z_r3 h => ?_)
  refine v_if_ne (tgt := 25) dX11_told_20 rfl (fun c4 => ?_) (fun c4 => ?_)
  · have h := Ok.neg h c4
    refine v_iload_n 1 dX11_told_25 rfl ?_
    refine v_bipush dX11_told_26 kb_10 ?_
    refine v_icmp_ne (tgt := 36) dX11_told_28 rfl (fun c5 => ?_) (fun c5 => ?_)
    · have h := Ok.neg h c5
      refine v_iload_n 1 dX11_told_36 rfl ?_
      refine v_iconst dX11_told_37 ic_3 ?_
      refine v_icmp_ge (tgt := 71) dX11_told_38 rfl (fun c6 => ?_) (fun c6 => ?_)
      · have h := Ok.pos h c6
        refine v_iload_n 1 dX11_told_71 rfl ?_
        refine v_bipush dX11_told_72 kb_6 ?_
        refine v_icmp_ge (tgt := 106) dX11_told_74 rfl (fun c7 => ?_) (fun c7 => ?_)
        · have h := Ok.pos h c7
          refine v_iload_n 1 dX11_told_106 rfl ?_
          refine v_bipush dX11_told_107 kb_6 ?_
          refine v_icmp_ne (tgt := 117) dX11_told_109 rfl (fun c8 => ?_) (fun c8 => ?_)
          · have h := Ok.neg h c8
            refine v_iload_n 1 dX11_told_117 rfl ?_
            refine v_bipush dX11_told_118 kb_7 ?_
            refine v_icmp_le (tgt := 139) dX11_told_120 rfl (fun c9 => ?_) (fun c9 => ?_)
            · have h := Ok.pos h c9
              refine v_iconst dX11_told_139 ic_0 ?_
              refine v_istore_n [(2, .int (0 : Int32)), (0, .ref (lc 0 0)), (1, .int x1)] dX11_told_140 (Nat.le_of_ble_eq_true rfl) rfl ?_
              refine v_iconst dX11_told_141 ic_0 ?_
              refine v_istore_n [(3, .int (0 : Int32)), (2, .int (0 : Int32)), (0, .ref (lc 0 0)), (1, .int x1)] dX11_told_142 (Nat.le_of_ble_eq_true rfl) rfl ?_
              refine v_sub [2, 1, 0] rfl ?_
              refine itr_loop (P := fun a10 : Int32 × Int32 => tt_V (XM l D dA A) cX11_told (RX11, 4, (some .int), rM_told, tt_nt) (tt_fn (XM l D dA A) (RX11, 4, (some .int), rM_told, tt_nt) Q) 143 [(0, .ref (lc 0 0)), (2, .int a10.1), (3, .int a10.2)] [] lc r3.2 0 0) (PE := fun b11 : Int32 × Int32 => tt_V (XM l D dA A) cX11_told (RX11, 4, (some .int), rM_told, tt_nt) (tt_fn (XM l D dA A) (RX11, 4, (some .int), rM_told, tt_nt) Q) 173 [(0, .ref (lc 0 0)), (2, .int b11.1), (3, .int b11.2)] [] lc r3.2 0 0) h (fun b11 h => ?_) (fun a10 h => ?_)
              · refine v_iload_n 1 dX11_told_173 rfl ?_
                have h := Ok.ret h
                exact v_iret rfl (Nat.zero_le _) (Nat.zero_le _) dX11_told_174 h
              · have h : Ok (fM_told_L143 r3 a10) _ := h
                unfold fM_told_L143 at h
                refine v_iload_n 2 dX11_told_143 rfl ?_
                refine v_bipush dX11_told_144 kb_12 ?_
                refine v_icmp_ge (tgt := 173) dX11_told_146 rfl (fun c12 => ?_) (fun c12 => ?_)
                · have h := Ok.pos h c12
                  have h := Ok.ret h
                  exact h
                · have h := Ok.neg h c12
                  refine v_iload_n 1 dX11_told_149 rfl ?_
                  refine v_aload_n 0 dX11_told_150 rfl ?_
                  refine v_iload_n 2 dX11_told_151 rfl ?_
                  refine cM_205 (Ok.bind h) ⟨Nat.le_of_ble_eq_true rfl, Nat.le_of_ble_eq_true rfl⟩ (Nat.le_of_ble_eq_true rfl) dX11_told_152 (fun r13 z_r13 h => ?_)
                  refine v_if_eq (tgt := 164) dX11_told_155 rfl (fun c14 => ?_) (fun c14 => ?_)
                  · have h := Ok.pos h c14
                    refine v_iconst dX11_told_164 ic_0 ?_
                    refine v_ior dX11_told_165 ?_
                    refine v_nmI (fun v15 e_v15 => ?_)
                    have h := Ok.nm h e_v15
                    refine v_istore_n [(2, .int v15), (0, .ref (lc 0 0)), (3, .int a10.2)] dX11_told_166 (Nat.le_of_ble_eq_true rfl) rfl ?_
                    refine v_iinc (v := (a10.2 + 1 : Int32)) 2 [(3, .int (a10.2 + 1 : Int32)), (2, .int v15), (0, .ref (lc 0 0))] dX11_told_167 rfl (by rw [ic_1]) (Nat.le_of_ble_eq_true rfl) rfl ?_
                    refine v_goto (tgt := 143) dX11_told_170 rfl ?_
                    refine v_sub [2, 1, 0] rfl ?_
                    have h := Ok.ret h
                    exact h
                  · have h := Ok.neg h c14
                    refine v_iconst dX11_told_158 ic_1 ?_
                    refine v_iload_n 2 dX11_told_159 rfl ?_
                    refine v_ishl dX11_told_160 ?_
                    refine v_goto (tgt := 165) dX11_told_161 rfl ?_
                    refine v_ior dX11_told_165 ?_
                    refine v_nmI (fun v16 e_v16 => ?_)
                    have h := Ok.nm h e_v16
                    refine v_istore_n [(2, .int v16), (0, .ref (lc 0 0)), (3, .int a10.2)] dX11_told_166 (Nat.le_of_ble_eq_true rfl) rfl ?_
                    refine v_iinc (v := (a10.2 + 1 : Int32)) 2 [(3, .int (a10.2 + 1 : Int32)), (2, .int v16), (0, .ref (lc 0 0))] dX11_told_167 rfl (by rw [ic_1]) (Nat.le_of_ble_eq_true rfl) rfl ?_
                    refine v_goto (tgt := 143) dX11_told_170 rfl ?_
                    refine v_sub [2, 1, 0] rfl ?_
                    have h := Ok.ret h
                    exact h
            · have h := Ok.neg h c9
              refine v_aload_n 0 dX11_told_123 rfl ?_
              refine v_iload_n 1 dX11_told_124 rfl ?_
              refine v_bipush dX11_told_125 kb_8 ?_
              have J18 : ∀ t17, t17 = (if x1 = (8 : Int32) then (1 : Int32) else (2 : Int32)) → tt_V (XM l D dA A) cX11_told (RX11, 4, (some .int), rM_told, tt_nt) (tt_fn (XM l D dA A) (RX11, 4, (some .int), rM_told, tt_nt) Q) 135 [] [.int t17, .ref (lc 0 0)] lc r3.2 0 0 := fun t17 e_t17 => by
                have h := Ok.nm h e_t17
                refine cM_410 (Ok.bind h) ⟨Nat.le_of_ble_eq_true rfl, Nat.le_of_ble_eq_true rfl⟩ (Nat.le_of_ble_eq_true rfl) dX11_told_135 (fun r20 h => ?_)
                have h := Ok.ret h
                exact v_iret rfl (Nat.zero_le _) (Nat.zero_le _) dX11_told_138 h
              refine v_icmp_ne (tgt := 134) dX11_told_127 rfl (fun c19 => ?_) (fun c19 => ?_)
              · refine v_iconst dX11_told_134 ic_2 ?_
                refine v_sub [] rfl ?_
                exact J18 _ (by rw [if_neg c19])
              · refine v_iconst dX11_told_130 ic_1 ?_
                refine v_goto (tgt := 135) dX11_told_131 rfl ?_
                refine v_sub [] rfl ?_
                exact J18 _ (by rw [if_pos c19])
          · have h := Ok.pos h c8
            refine v_aload_n 0 dX11_told_112 rfl ?_
            refine gM_149 dX11_told_113 ?_
            have h := Ok.ret h
            exact v_iret rfl (Nat.zero_le _) (Nat.zero_le _) dX11_told_116 h
        · have h := Ok.neg h c7
          refine v_iload_n 1 dX11_told_77 rfl ?_
          refine v_iconst dX11_told_78 ic_3 ?_
          refine v_icmp_ne (tgt := 89) dX11_told_79 rfl (fun c21 => ?_) (fun c21 => ?_)
          · have h := Ok.neg h c21
            refine v_iload_n 1 dX11_told_89 rfl ?_
            refine v_iconst dX11_told_90 ic_4 ?_
            refine v_icmp_ne (tgt := 101) dX11_told_91 rfl (fun c22 => ?_) (fun c22 => ?_)
            · have h := Ok.neg h c22
              refine v_aload_n 0 dX11_told_101 rfl ?_
              refine gM_158 dX11_told_102 ?_
              have h := Ok.ret h
              exact v_iret rfl (Nat.zero_le _) (Nat.zero_le _) dX11_told_105 h
            · have h := Ok.pos h c22
              refine v_aload_n 0 dX11_told_94 rfl ?_
              refine gM_155 dX11_told_95 ?_
              refine v_goto (tgt := 105) dX11_told_98 rfl ?_
              have h := Ok.ret h
              exact v_iret rfl (Nat.zero_le _) (Nat.zero_le _) dX11_told_105 h
          · have h := Ok.pos h c21
            refine v_aload_n 0 dX11_told_82 rfl ?_
            refine gM_152 dX11_told_83 ?_
            refine v_goto (tgt := 105) dX11_told_86 rfl ?_
            have h := Ok.ret h
            exact v_iret rfl (Nat.zero_le _) (Nat.zero_le _) dX11_told_105 h
      · have h := Ok.neg h c6
        refine v_iload_n 1 dX11_told_41 rfl ?_
        refine v_if_ne (tgt := 53) dX11_told_42 rfl (fun c23 => ?_) (fun c23 => ?_)
        · have h := Ok.neg h c23
          refine v_iload_n 1 dX11_told_53 rfl ?_
          refine v_iconst dX11_told_54 ic_1 ?_
          refine v_icmp_ne (tgt := 66) dX11_told_55 rfl (fun c24 => ?_) (fun c24 => ?_)
          · have h := Ok.neg h c24
            refine v_aload_n 0 dX11_told_66 rfl ?_
            refine gM_17 dX11_told_67 ?_
            have h := Ok.ret h
            exact v_iret rfl (Nat.zero_le _) (Nat.zero_le _) dX11_told_70 h
          · have h := Ok.pos h c24
            refine v_aload_n 0 dX11_told_58 rfl ?_
            refine v_iconst dX11_told_59 ic_4 ?_
            refine cM_362 (Ok.bind h) ⟨Nat.le_of_ble_eq_true rfl, Nat.le_of_ble_eq_true rfl⟩ (Nat.le_of_ble_eq_true rfl) dX11_told_60 (fun r25 h => ?_)
            refine v_goto (tgt := 70) dX11_told_63 rfl ?_
            have h := Ok.ret h
            exact v_iret rfl (Nat.zero_le _) (Nat.zero_le _) dX11_told_70 h
        · have h := Ok.pos h c23
          refine v_aload_n 0 dX11_told_45 rfl ?_
          refine v_iconst dX11_told_46 ic_0 ?_
          refine cM_362 (Ok.bind h) ⟨Nat.le_of_ble_eq_true rfl, Nat.le_of_ble_eq_true rfl⟩ (Nat.le_of_ble_eq_true rfl) dX11_told_47 (fun r26 h => ?_)
          refine v_goto (tgt := 70) dX11_told_50 rfl ?_
          have h := Ok.ret h
          exact v_iret rfl (Nat.zero_le _) (Nat.zero_le _) dX11_told_70 h
    · have h := Ok.pos h c5
      refine v_aload_n 0 dX11_told_31 rfl ?_
      refine cM_406 (Ok.bind h) ⟨Nat.le_of_ble_eq_true rfl, Nat.le_of_ble_eq_true rfl⟩ (Nat.le_of_ble_eq_true rfl) dX11_told_32 (fun r27 h => ?_)
      have h := Ok.ret h
      exact v_iret rfl (Nat.zero_le _) (Nat.zero_le _) dX11_told_35 h
  · have h := Ok.pos h c4
    refine v_iconst dX11_told_23 ic_0 ?_
    have h := Ok.ret h
    exact v_iret rfl (Nat.zero_le _) (Nat.zero_le _) dX11_told_24 h
def fM_isEvent (s : tt_St) (x1 : Int32) : Option (Int32 × tt_St) :=
  (fM_within x1.toInt64 (0 : Int64) (((rdI s 0 0 5) - (1 : Int32)).toInt64)).bind fun r1 => (fM_needs s r1 (1 : Int32) (0 : Int32)).bind fun r2 => some (r2.1, r2.2)
abbrev rM_isEvent : Room := { frames := 1, cells := 0, slots := 0, locals := 25 }
set_option maxHeartbeats 4000000 in
theorem mM_isEvent (l : Launch) (D : va_G) (dA : Nat → ClassId) (A : Nat → Prop) (lc : Nat → Nat → Nat) (s : tt_St) (x1 : Int32) {Q : Option Value → (Nat → Nat → Nat) → tt_St → Prop} (h : Ok (fM_isEvent s x1) (fun r => zB r.1 → Q (some (.int r.1)) lc r.2)) : tt_Sp (XM l D dA A) yX11_isEvent cX11_isEvent 2 (some .boolean) rM_isEvent [.ref (lc 0 0), .int x1] lc s Q := by
  refine tt_Sp.ofV plM kokM (Nat.le_of_ble_eq_true rfl) ?_
  show tt_V (XM l D dA A) cX11_isEvent (RX11, 2, (some .boolean), rM_isEvent, tt_nt) (tt_fn (XM l D dA A) (RX11, 2, (some .boolean), rM_isEvent, tt_nt) Q) 0 [(0, .ref (lc 0 0)), (1, .int x1)] [] lc s 0 0
  unfold fM_isEvent at h
  refine v_aload_n 0 dX11_isEvent_0 rfl ?_
  refine v_iload_n 1 dX11_isEvent_1 rfl ?_
  refine v_i2l dX11_isEvent_2 rfl ?_
  refine v_lconst dX11_isEvent_3 kl_0 ?_
  refine v_aload_n 0 dX11_isEvent_4 rfl ?_
  refine gM_17 dX11_isEvent_5 ?_
  refine v_iconst dX11_isEvent_8 ic_1 ?_
  refine v_isub dX11_isEvent_9 ?_
  refine v_i2l dX11_isEvent_10 rfl ?_
  refine cM_352 (Ok.bind h) ⟨Nat.le_of_ble_eq_true rfl, Nat.le_of_ble_eq_true rfl⟩ (Nat.le_of_ble_eq_true rfl) dX11_isEvent_11 (fun r1 z_r1 h => ?_)
  refine v_iconst dX11_isEvent_14 ic_1 ?_
  refine v_iconst dX11_isEvent_15 ic_0 ?_
  refine cM_346 (Ok.bind h) ⟨Nat.le_of_ble_eq_true rfl, Nat.le_of_ble_eq_true rfl⟩ (Nat.le_of_ble_eq_true rfl) dX11_isEvent_16 (fun r2 z_r2 h => ?_)
  have h := Ok.ret h
  exact v_zret rfl z_r2 (Nat.zero_le _) (Nat.zero_le _) dX11_isEvent_19 (h z_r2)
theorem cM_413 {l : Launch} {D : va_G} {dA : Nat → ClassId} {A : Nat → Prop} {lc : Nat → Nat → Nat} {s : tt_St} {cc : ByteArray} {nl : Nat} {rt : Option FieldType} {rm : Room} {tn : tt_Tn} {Q : tt_Fin} {pc : Nat} {lv : List (Nat × Value)} {rest : List Value} {ck cn : Nat} {x1 : Int32} {K : Int32 × tt_St → Prop} (h : Ok (fM_isEvent s x1) K) (hR : 1 + 1 ≤ rm.frames ∧ 8 + (2 + 11) + 25 ≤ rm.locals) (hW : (rest.map fun v => v.category).sum ≤ 8) (d : decode cc pc = .ok (.invokevirtual 413, 3)) (kk : ∀ r, zB r.1 → K r → tt_V (XM l D dA A) cc (RX11, nl, rt, rm, tn) Q (pc + 3) lv (.int r.1 :: rest) lc r.2 ck cn) (hf : ck ≤ rm.cells ∧ cn ≤ rm.slots := by exact ⟨Nat.zero_le _, Nat.zero_le _⟩) : tt_V (XM l D dA A) cc (RX11, nl, rt, rm, tn) Q pc lv (.int x1 :: .ref (lc 0 0) :: rest) lc s ck cn :=
  v_callV (kd := 0) (i := 0) (nA := 1) (As := [.int x1]) lvM_0 oM rfl (mM_isEvent l D dA A lc s x1 (Q := (fun v lc' s' => ∃ r, zB r.1 ∧ K r ∧ v = some (.int r.1) ∧ lc' = lc ∧ s' = r.2)) (h.mono (fun r hr => fun hz => ⟨r, hz, hr, rfl, rfl, rfl⟩))) (lw_V q2235 q2237 qs110 q154 q2238) (by decide +kernel) rfl hR hW hf d rfl (fun v lc' s' q => by obtain ⟨r, hz, hr, e1, e2, e3⟩ := q; rw [e1, e2, e3]; exact kk r hz hr)
def fM_event (s : tt_St) (x1 : Int32) (x2 : Int32) : Option (Int32 × tt_St) :=
  nm (wrI s 0 0 0 (0 : Int32)) fun s1 => (fM_isEvent s1 x1).bind fun r2 => if r2.1 = 0 then some ((0 : Int32), r2.2) else (fM_within x2.toInt64 (0 : Int64) (1 : Int64)).bind fun r4 => (fM_needs r2.2 r4 (2 : Int32) (1 : Int32)).bind fun r5 => if r5.1 = 0 then some ((0 : Int32), r5.2) else if x2 = 0 then if inB x1 160 then some (rdI r5.2 2 0 x1.toNatClampNeg, r5.2) else none else if inB x1 160 then if (rdI r5.2 2 0 x1.toNatClampNeg) = 0 then some (rdI r5.2 3 0 x1.toNatClampNeg, r5.2) else if (rdI r5.2 2 0 x1.toNatClampNeg) = (4 : Int32) then some (rdI r5.2 3 0 x1.toNatClampNeg, r5.2) else (fM_tell r5.2 x1 (0 : Int32)).bind fun r11 => some (r11, r5.2) else none
abbrev rM_event : Room := { frames := 2, cells := 0, slots := 0, locals := 46 }
set_option maxHeartbeats 4000000 in
theorem mM_event (l : Launch) (D : va_G) (dA : Nat → ClassId) (A : Nat → Prop) (lc : Nat → Nat → Nat) (s : tt_St) (x1 : Int32) (x2 : Int32) {Q : Option Value → (Nat → Nat → Nat) → tt_St → Prop} (h : Ok (fM_event s x1 x2) (fun r => Q (some (.int r.1)) lc r.2)) : tt_Sp (XM l D dA A) yX11_event cX11_event 3 (some .int) rM_event [.ref (lc 0 0), .int x1, .int x2] lc s Q := by
  refine tt_Sp.ofV plM kokM (Nat.le_of_ble_eq_true rfl) ?_
  show tt_V (XM l D dA A) cX11_event (RX11, 3, (some .int), rM_event, tt_nt) (tt_fn (XM l D dA A) (RX11, 3, (some .int), rM_event, tt_nt) Q) 0 [(0, .ref (lc 0 0)), (1, .int x1), (2, .int x2)] [] lc s 0 0
  unfold fM_event at h
  refine v_aload_n 0 dX11_event_0 rfl ?_
  refine v_iconst dX11_event_1 ic_0 ?_
  refine pM_1 dX11_event_2 ?_
  refine v_nmS (fun s1 e_s1 => ?_)
  have h := Ok.nm h e_s1
  refine v_aload_n 0 dX11_event_5 rfl ?_
  refine v_iload_n 1 dX11_event_6 rfl ?_
  refine cM_413 (Ok.bind h) ⟨Nat.le_of_ble_eq_true rfl, Nat.le_of_ble_eq_true rfl⟩ (Nat.le_of_ble_eq_true rfl) dX11_event_7 (fun r2 z_r2 h => ?_)
  refine v_if_eq (tgt := 29) dX11_event_10 rfl (fun c3 => ?_) (fun c3 => ?_)
  · have h := Ok.pos h c3
    refine v_iconst dX11_event_29 ic_0 ?_
    have h := Ok.ret h
    exact v_iret rfl (Nat.zero_le _) (Nat.zero_le _) dX11_event_30 h
  · have h := Ok.neg h c3
    refine v_aload_n 0 dX11_event_13 rfl ?_
    refine v_iload_n 2 dX11_event_14 rfl ?_
    refine v_i2l dX11_event_15 rfl ?_
    refine v_lconst dX11_event_16 kl_0 ?_
    refine v_lconst dX11_event_17 kl_1 ?_
    refine cM_352 (Ok.bind h) ⟨Nat.le_of_ble_eq_true rfl, Nat.le_of_ble_eq_true rfl⟩ (Nat.le_of_ble_eq_true rfl) dX11_event_18 (fun r4 z_r4 h => ?_)
    refine v_iconst dX11_event_21 ic_2 ?_
    refine v_iconst dX11_event_22 ic_1 ?_
    refine cM_346 (Ok.bind h) ⟨Nat.le_of_ble_eq_true rfl, Nat.le_of_ble_eq_true rfl⟩ (Nat.le_of_ble_eq_true rfl) dX11_event_23 (fun r5 z_r5 h => ?_)
    refine v_if_ne (tgt := 31) dX11_event_26 rfl (fun c6 => ?_) (fun c6 => ?_)
    · have h := Ok.neg h c6
      refine v_iload_n 2 dX11_event_31 rfl ?_
      refine v_if_ne (tgt := 42) dX11_event_32 rfl (fun c7 => ?_) (fun c7 => ?_)
      · have h := Ok.neg h c7
        refine v_aload_n 0 dX11_event_42 rfl ?_
        refine gM_14 dX11_event_43 ?_
        refine v_iload_n 1 dX11_event_46 rfl ?_
        obtain ⟨g8, h⟩ := Ok.guard h
        refine lM_2 g8 dX11_event_47 ?_
        refine v_if_eq (tgt := 61) dX11_event_48 rfl (fun c9 => ?_) (fun c9 => ?_)
        · have h := Ok.pos h c9
          refine v_aload_n 0 dX11_event_61 rfl ?_
          refine gM_20 dX11_event_62 ?_
          refine v_iload_n 1 dX11_event_65 rfl ?_
          refine lM_3 g8 dX11_event_66 ?_
          refine v_goto (tgt := 76) dX11_event_67 rfl ?_
          have h := Ok.ret h
          exact v_iret rfl (Nat.zero_le _) (Nat.zero_le _) dX11_event_76 h
        · have h := Ok.neg h c9
          refine v_aload_n 0 dX11_event_51 rfl ?_
          refine gM_14 dX11_event_52 ?_
          refine v_iload_n 1 dX11_event_55 rfl ?_
          refine lM_2 g8 dX11_event_56 ?_
          refine v_iconst dX11_event_57 ic_4 ?_
          refine v_icmp_ne (tgt := 70) dX11_event_58 rfl (fun c10 => ?_) (fun c10 => ?_)
          · have h := Ok.neg h c10
            refine v_aload_n 0 dX11_event_70 rfl ?_
            refine v_iload_n 1 dX11_event_71 rfl ?_
            refine v_iconst dX11_event_72 ic_0 ?_
            refine cM_289 (Ok.bind h) ⟨Nat.le_of_ble_eq_true rfl, Nat.le_of_ble_eq_true rfl⟩ (Nat.le_of_ble_eq_true rfl) dX11_event_73 (fun r11 h => ?_)
            have h := Ok.ret h
            exact v_iret rfl (Nat.zero_le _) (Nat.zero_le _) dX11_event_76 h
          · have h := Ok.pos h c10
            refine v_aload_n 0 dX11_event_61 rfl ?_
            refine gM_20 dX11_event_62 ?_
            refine v_iload_n 1 dX11_event_65 rfl ?_
            refine lM_3 g8 dX11_event_66 ?_
            refine v_goto (tgt := 76) dX11_event_67 rfl ?_
            have h := Ok.ret h
            exact v_iret rfl (Nat.zero_le _) (Nat.zero_le _) dX11_event_76 h
      · have h := Ok.pos h c7
        refine v_aload_n 0 dX11_event_35 rfl ?_
        refine gM_14 dX11_event_36 ?_
        refine v_iload_n 1 dX11_event_39 rfl ?_
        obtain ⟨g12, h⟩ := Ok.guard h
        refine lM_2 g12 dX11_event_40 ?_
        have h := Ok.ret h
        exact v_iret rfl (Nat.zero_le _) (Nat.zero_le _) dX11_event_41 h
    · have h := Ok.pos h c6
      refine v_iconst dX11_event_29 ic_0 ?_
      have h := Ok.ret h
      exact v_iret rfl (Nat.zero_le _) (Nat.zero_le _) dX11_event_30 h
def fM_rungAt_L2 (s : tt_St) (x1 : Int32) (a1 : Int32) : Option ((Int32) ⊕ (Int32)) :=
  if inB x1 40 then (fM_rungOf s (rdI s 8 0 x1.toNatClampNeg) a1).bind fun r4 => if r4 = x1 then some (.inr a1) else some (.inl (a1 + 1 : Int32)) else none
def fM_rungAt (s : tt_St) (x1 : Int32) : Option (Int32) :=
  (itr (fM_rungAt_L2 s x1) tt_fuel (0 : Int32)).bind fun b2 => some b2
abbrev rM_rungAt : Room := { frames := 1, cells := 0, slots := 0, locals := 22 }
set_option maxHeartbeats 4000000 in
theorem mM_rungAt (l : Launch) (D : va_G) (dA : Nat → ClassId) (A : Nat → Prop) (lc : Nat → Nat → Nat) (s : tt_St) (x1 : Int32) {Q : Option Value → (Nat → Nat → Nat) → tt_St → Prop} (h : Ok (fM_rungAt s x1) (fun r => Q (some (.int r)) lc s)) : tt_Sp (XM l D dA A) yX11_rungAt cX11_rungAt 3 (some .int) rM_rungAt [.ref (lc 0 0), .int x1] lc s Q := by
  refine tt_Sp.ofV plM kokM (Nat.le_of_ble_eq_true rfl) ?_
  show tt_V (XM l D dA A) cX11_rungAt (RX11, 3, (some .int), rM_rungAt, tt_nt) (tt_fn (XM l D dA A) (RX11, 3, (some .int), rM_rungAt, tt_nt) Q) 0 [(0, .ref (lc 0 0)), (1, .int x1)] [] lc s 0 0
  unfold fM_rungAt at h
  refine v_iconst dX11_rungAt_0 ic_0 ?_
  refine v_istore_n [(2, .int (0 : Int32)), (0, .ref (lc 0 0)), (1, .int x1)] dX11_rungAt_1 (Nat.le_of_ble_eq_true rfl) rfl ?_
  refine v_sub [1, 2, 0] rfl ?_
  refine itr_loop (P := fun a1 : Int32 => tt_V (XM l D dA A) cX11_rungAt (RX11, 3, (some .int), rM_rungAt, tt_nt) (tt_fn (XM l D dA A) (RX11, 3, (some .int), rM_rungAt, tt_nt) Q) 2 [(0, .ref (lc 0 0)), (1, .int x1), (2, .int a1)] [] lc s 0 0) (PE := fun b2 : Int32 => tt_V (XM l D dA A) cX11_rungAt (RX11, 3, (some .int), rM_rungAt, tt_nt) (tt_fn (XM l D dA A) (RX11, 3, (some .int), rM_rungAt, tt_nt) Q) 23 [(0, .ref (lc 0 0)), (1, .int x1), (2, .int b2)] [] lc s 0 0) h (fun b2 h => ?_) (fun a1 h => ?_)
  · refine v_iload_n 2 dX11_rungAt_23 rfl ?_
    have h := Ok.ret h
    exact v_iret rfl (Nat.zero_le _) (Nat.zero_le _) dX11_rungAt_24 h
  · have h : Ok (fM_rungAt_L2 s x1 a1) _ := h
    unfold fM_rungAt_L2 at h
    refine v_aload_n 0 dX11_rungAt_2 rfl ?_
    refine v_aload_n 0 dX11_rungAt_3 rfl ?_
    refine gM_36 dX11_rungAt_4 ?_
    refine v_iload_n 1 dX11_rungAt_7 rfl ?_
    obtain ⟨g3, h⟩ := Ok.guard h
    refine lM_8 g3 dX11_rungAt_8 ?_
    refine v_iload_n 2 dX11_rungAt_9 rfl ?_
    refine cM_161 (Ok.bind h) ⟨Nat.le_of_ble_eq_true rfl, Nat.le_of_ble_eq_true rfl⟩ (Nat.le_of_ble_eq_true rfl) dX11_rungAt_10 (fun r4 h => ?_)
    refine v_iload_n 1 dX11_rungAt_13 rfl ?_
    refine v_icmp_eq (tgt := 23) dX11_rungAt_14 rfl (fun c5 => ?_) (fun c5 => ?_)
    · have h := Ok.pos h c5
      have h := Ok.ret h
      exact h
    · have h := Ok.neg h c5
      refine v_iinc (v := (a1 + 1 : Int32)) 2 [(2, .int (a1 + 1 : Int32)), (0, .ref (lc 0 0)), (1, .int x1)] dX11_rungAt_17 rfl (by rw [ic_1]) (Nat.le_of_ble_eq_true rfl) rfl ?_
      refine v_goto (tgt := 2) dX11_rungAt_20 rfl ?_
      refine v_sub [1, 2, 0] rfl ?_
      have h := Ok.ret h
      exact h
theorem cM_416 {l : Launch} {D : va_G} {dA : Nat → ClassId} {A : Nat → Prop} {lc : Nat → Nat → Nat} {s : tt_St} {cc : ByteArray} {nl : Nat} {rt : Option FieldType} {rm : Room} {tn : tt_Tn} {Q : tt_Fin} {pc : Nat} {lv : List (Nat × Value)} {rest : List Value} {ck cn : Nat} {x1 : Int32} {K : Int32 → Prop} (h : Ok (fM_rungAt s x1) K) (hR : 1 + 1 ≤ rm.frames ∧ 8 + (3 + 11) + 22 ≤ rm.locals) (hW : (rest.map fun v => v.category).sum ≤ 8) (d : decode cc pc = .ok (.invokevirtual 416, 3)) (kk : ∀ r, K r → tt_V (XM l D dA A) cc (RX11, nl, rt, rm, tn) Q (pc + 3) lv (.int r :: rest) lc s ck cn) (hf : ck ≤ rm.cells ∧ cn ≤ rm.slots := by exact ⟨Nat.zero_le _, Nat.zero_le _⟩) : tt_V (XM l D dA A) cc (RX11, nl, rt, rm, tn) Q pc lv (.int x1 :: .ref (lc 0 0) :: rest) lc s ck cn :=
  v_callV (kd := 0) (i := 0) (nA := 1) (As := [.int x1]) lvM_0 oM rfl (mM_rungAt l D dA A lc s x1 (Q := (fun v lc' s' => ∃ r, K r ∧ v = some (.int r) ∧ lc' = lc ∧ s' = s)) (h.mono (fun r hr => ⟨r, hr, rfl, rfl, rfl⟩))) (lw_V q2243 q2245 qs111 q154 q2246) (by decide +kernel) rfl hR hW hf d rfl (fun v lc' s' q => by obtain ⟨r, hr, e1, e2, e3⟩ := q; rw [e1, e2, e3]; exact kk r hr)
def fM_layer (s : tt_St) (x1 : Int32) (x2 : Int32) : Option (Int64 × tt_St) :=
  nm (wrI s 0 0 0 (0 : Int32)) fun s1 => (fM_isOne s1 x1 (1 : Int32)).bind fun r2 => if r2.1 = 0 then some ((0 : Int64), r2.2) else (fM_within x2.toInt64 (0 : Int64) (10 : Int64)).bind fun r4 => (fM_needs r2.2 r4 (2 : Int32) (1 : Int32)).bind fun r5 => if r5.1 = 0 then some ((0 : Int64), r5.2) else if (4 : Int32) ≤ x2 then if (7 : Int32) ≤ x2 then if x2 = (7 : Int32) then if inB x1 40 then some ((rdI r5.2 12 0 x1.toNatClampNeg).toInt64, r5.2) else none else if x2 = (8 : Int32) then (fM_signedTenths r5.2 x1).bind fun r15 => some (((10 : Int32) - r15).toInt64, r5.2) else if x2 = (9 : Int32) then (fM_rungAt r5.2 x1).bind fun r14 => some (r14.toInt64, r5.2) else (fM_left r5.2 x1).bind fun r12 => if r12 = (0 : Int64) then some ((1 : Int64), r5.2) else some ((0 : Int64), r5.2) else if x2 = (4 : Int32) then if inB x1 40 then some (rdL r5.2 15 0 x1.toNatClampNeg, r5.2) else none else if x2 = (5 : Int32) then (fM_left r5.2 x1).bind fun r20 => some (r20, r5.2) else (fM_holeOf r5.2 x1).bind fun r19 => some (r19.toInt64, r5.2) else if x2 = 0 then if inB x1 40 then some ((rdI r5.2 8 0 x1.toNatClampNeg).toInt64, r5.2) else none else if x2 = (1 : Int32) then if inB x1 40 then some ((rdI r5.2 9 0 x1.toNatClampNeg).toInt64, r5.2) else none else if x2 = (2 : Int32) then if inB x1 40 then some ((rdI r5.2 10 0 x1.toNatClampNeg).toInt64, r5.2) else none else if inB x1 40 then some ((rdI r5.2 11 0 x1.toNatClampNeg).toInt64, r5.2) else none
abbrev rM_layer : Room := { frames := 2, cells := 0, slots := 0, locals := 47 }
set_option maxHeartbeats 4000000 in
theorem mM_layer (l : Launch) (D : va_G) (dA : Nat → ClassId) (A : Nat → Prop) (lc : Nat → Nat → Nat) (s : tt_St) (x1 : Int32) (x2 : Int32) {Q : Option Value → (Nat → Nat → Nat) → tt_St → Prop} (h : Ok (fM_layer s x1 x2) (fun r => Q (some (.long r.1)) lc r.2)) : tt_Sp (XM l D dA A) yX11_layer cX11_layer 3 (some .long) rM_layer [.ref (lc 0 0), .int x1, .int x2] lc s Q := by
  refine tt_Sp.ofV plM kokM (Nat.le_of_ble_eq_true rfl) ?_
  show tt_V (XM l D dA A) cX11_layer (RX11, 3, (some .long), rM_layer, tt_nt) (tt_fn (XM l D dA A) (RX11, 3, (some .long), rM_layer, tt_nt) Q) 0 [(0, .ref (lc 0 0)), (1, .int x1), (2, .int x2)] [] lc s 0 0
  unfold fM_layer at h
  refine v_aload_n 0 dX11_layer_0 rfl ?_
  refine v_iconst dX11_layer_1 ic_0 ?_
  refine pM_1 dX11_layer_2 ?_
  refine v_nmS (fun s1 e_s1 => ?_)
  have h := Ok.nm h e_s1
  refine v_aload_n 0 dX11_layer_5 rfl ?_
  refine v_iload_n 1 dX11_layer_6 rfl ?_
  refine v_iconst dX11_layer_7 ic_1 ?_
  refine cM_374 (Ok.bind h) ⟨Nat.le_of_ble_eq_true rfl, Nat.le_of_ble_eq_true rfl⟩ (Nat.le_of_ble_eq_true rfl) dX11_layer_8 (fun r2 z_r2 h => ?_)
  refine v_if_eq (tgt := 32) dX11_layer_11 rfl (fun c3 => ?_) (fun c3 => ?_)
  · have h := Ok.pos h c3
    refine v_lconst dX11_layer_32 kl_0 ?_
    have h := Ok.ret h
    exact v_lret rfl (Nat.zero_le _) (Nat.zero_le _) dX11_layer_33 h
  · have h := Ok.neg h c3
    refine v_aload_n 0 dX11_layer_14 rfl ?_
    refine v_iload_n 2 dX11_layer_15 rfl ?_
    refine v_i2l dX11_layer_16 rfl ?_
    refine v_lconst dX11_layer_17 kl_0 ?_
    refine v_ldc2 dX11_layer_18 q2105 ?_
    refine cM_352 (Ok.bind h) ⟨Nat.le_of_ble_eq_true rfl, Nat.le_of_ble_eq_true rfl⟩ (Nat.le_of_ble_eq_true rfl) dX11_layer_21 (fun r4 z_r4 h => ?_)
    refine v_iconst dX11_layer_24 ic_2 ?_
    refine v_iconst dX11_layer_25 ic_1 ?_
    refine cM_346 (Ok.bind h) ⟨Nat.le_of_ble_eq_true rfl, Nat.le_of_ble_eq_true rfl⟩ (Nat.le_of_ble_eq_true rfl) dX11_layer_26 (fun r5 z_r5 h => ?_)
    refine v_if_ne (tgt := 34) dX11_layer_29 rfl (fun c6 => ?_) (fun c6 => ?_)
    · have h := Ok.neg h c6
      refine v_iload_n 2 dX11_layer_34 rfl ?_
      refine v_iconst dX11_layer_35 ic_4 ?_
      refine v_icmp_ge (tgt := 91) dX11_layer_36 rfl (fun c7 => ?_) (fun c7 => ?_)
      · have h := Ok.pos h c7
        refine v_iload_n 2 dX11_layer_91 rfl ?_
        refine v_bipush dX11_layer_92 kb_7 ?_
        refine v_icmp_ge (tgt := 131) dX11_layer_94 rfl (fun c8 => ?_) (fun c8 => ?_)
        · have h := Ok.pos h c8
          refine v_iload_n 2 dX11_layer_131 rfl ?_
          refine v_bipush dX11_layer_132 kb_7 ?_
          refine v_icmp_ne (tgt := 145) dX11_layer_134 rfl (fun c9 => ?_) (fun c9 => ?_)
          · have h := Ok.neg h c9
            refine v_iload_n 2 dX11_layer_145 rfl ?_
            refine v_bipush dX11_layer_146 kb_8 ?_
            refine v_icmp_ne (tgt := 163) dX11_layer_148 rfl (fun c10 => ?_) (fun c10 => ?_)
            · have h := Ok.neg h c10
              refine v_iload_n 2 dX11_layer_163 rfl ?_
              refine v_bipush dX11_layer_164 kb_9 ?_
              refine v_icmp_ne (tgt := 178) dX11_layer_166 rfl (fun c11 => ?_) (fun c11 => ?_)
              · have h := Ok.neg h c11
                refine v_aload_n 0 dX11_layer_178 rfl ?_
                refine v_iload_n 1 dX11_layer_179 rfl ?_
                refine cM_175 (Ok.bind h) ⟨Nat.le_of_ble_eq_true rfl, Nat.le_of_ble_eq_true rfl⟩ (Nat.le_of_ble_eq_true rfl) dX11_layer_180 (fun r12 h => ?_)
                refine v_lconst dX11_layer_183 kl_0 ?_
                refine v_lif_ne (tgt := 192) dX11_layer_184 dX11_layer_185 rfl (fun c13 => ?_) (fun c13 => ?_)
                · have h := Ok.neg h c13
                  refine v_lconst dX11_layer_192 kl_0 ?_
                  have h := Ok.ret h
                  exact v_lret rfl (Nat.zero_le _) (Nat.zero_le _) dX11_layer_193 h
                · have h := Ok.pos h c13
                  refine v_lconst dX11_layer_188 kl_1 ?_
                  refine v_goto (tgt := 193) dX11_layer_189 rfl ?_
                  have h := Ok.ret h
                  exact v_lret rfl (Nat.zero_le _) (Nat.zero_le _) dX11_layer_193 h
              · have h := Ok.pos h c11
                refine v_aload_n 0 dX11_layer_169 rfl ?_
                refine v_iload_n 1 dX11_layer_170 rfl ?_
                refine cM_416 (Ok.bind h) ⟨Nat.le_of_ble_eq_true rfl, Nat.le_of_ble_eq_true rfl⟩ (Nat.le_of_ble_eq_true rfl) dX11_layer_171 (fun r14 h => ?_)
                refine v_i2l dX11_layer_174 rfl ?_
                refine v_goto (tgt := 193) dX11_layer_175 rfl ?_
                have h := Ok.ret h
                exact v_lret rfl (Nat.zero_le _) (Nat.zero_le _) dX11_layer_193 h
            · have h := Ok.pos h c10
              refine v_bipush dX11_layer_151 kb_10 ?_
              refine v_aload_n 0 dX11_layer_153 rfl ?_
              refine v_iload_n 1 dX11_layer_154 rfl ?_
              refine cM_286 (Ok.bind h) ⟨Nat.le_of_ble_eq_true rfl, Nat.le_of_ble_eq_true rfl⟩ (Nat.le_of_ble_eq_true rfl) dX11_layer_155 (fun r15 h => ?_)
              refine v_isub dX11_layer_158 ?_
              refine v_i2l dX11_layer_159 rfl ?_
              refine v_goto (tgt := 193) dX11_layer_160 rfl ?_
              have h := Ok.ret h
              exact v_lret rfl (Nat.zero_le _) (Nat.zero_le _) dX11_layer_193 h
          · have h := Ok.pos h c9
            refine v_aload_n 0 dX11_layer_137 rfl ?_
            refine gM_48 dX11_layer_138 ?_
            refine v_iload_n 1 dX11_layer_141 rfl ?_
            obtain ⟨g16, h⟩ := Ok.guard h
            refine lM_12 g16 dX11_layer_142 ?_
            refine v_i2l dX11_layer_143 rfl ?_
            have h := Ok.ret h
            exact v_lret rfl (Nat.zero_le _) (Nat.zero_le _) dX11_layer_144 h
        · have h := Ok.neg h c8
          refine v_iload_n 2 dX11_layer_97 rfl ?_
          refine v_iconst dX11_layer_98 ic_4 ?_
          refine v_icmp_ne (tgt := 111) dX11_layer_99 rfl (fun c17 => ?_) (fun c17 => ?_)
          · have h := Ok.neg h c17
            refine v_iload_n 2 dX11_layer_111 rfl ?_
            refine v_iconst dX11_layer_112 ic_5 ?_
            refine v_icmp_ne (tgt := 124) dX11_layer_113 rfl (fun c18 => ?_) (fun c18 => ?_)
            · have h := Ok.neg h c18
              refine v_aload_n 0 dX11_layer_124 rfl ?_
              refine v_iload_n 1 dX11_layer_125 rfl ?_
              refine cM_172 (Ok.bind h) ⟨Nat.le_of_ble_eq_true rfl, Nat.le_of_ble_eq_true rfl⟩ (Nat.le_of_ble_eq_true rfl) dX11_layer_126 (fun r19 h => ?_)
              refine v_i2l dX11_layer_129 rfl ?_
              have h := Ok.ret h
              exact v_lret rfl (Nat.zero_le _) (Nat.zero_le _) dX11_layer_130 h
            · have h := Ok.pos h c18
              refine v_aload_n 0 dX11_layer_116 rfl ?_
              refine v_iload_n 1 dX11_layer_117 rfl ?_
              refine cM_175 (Ok.bind h) ⟨Nat.le_of_ble_eq_true rfl, Nat.le_of_ble_eq_true rfl⟩ (Nat.le_of_ble_eq_true rfl) dX11_layer_118 (fun r20 h => ?_)
              refine v_goto (tgt := 130) dX11_layer_121 rfl ?_
              have h := Ok.ret h
              exact v_lret rfl (Nat.zero_le _) (Nat.zero_le _) dX11_layer_130 h
          · have h := Ok.pos h c17
            refine v_aload_n 0 dX11_layer_102 rfl ?_
            refine gM_57 dX11_layer_103 ?_
            refine v_iload_n 1 dX11_layer_106 rfl ?_
            obtain ⟨g21, h⟩ := Ok.guard h
            refine lM_15 g21 dX11_layer_107 ?_
            refine v_goto (tgt := 130) dX11_layer_108 rfl ?_
            have h := Ok.ret h
            exact v_lret rfl (Nat.zero_le _) (Nat.zero_le _) dX11_layer_130 h
      · have h := Ok.neg h c7
        refine v_iload_n 2 dX11_layer_39 rfl ?_
        refine v_if_ne (tgt := 53) dX11_layer_40 rfl (fun c22 => ?_) (fun c22 => ?_)
        · have h := Ok.neg h c22
          refine v_iload_n 2 dX11_layer_53 rfl ?_
          refine v_iconst dX11_layer_54 ic_1 ?_
          refine v_icmp_ne (tgt := 68) dX11_layer_55 rfl (fun c23 => ?_) (fun c23 => ?_)
          · have h := Ok.neg h c23
            refine v_iload_n 2 dX11_layer_68 rfl ?_
            refine v_iconst dX11_layer_69 ic_2 ?_
            refine v_icmp_ne (tgt := 83) dX11_layer_70 rfl (fun c24 => ?_) (fun c24 => ?_)
            · have h := Ok.neg h c24
              refine v_aload_n 0 dX11_layer_83 rfl ?_
              refine gM_45 dX11_layer_84 ?_
              refine v_iload_n 1 dX11_layer_87 rfl ?_
              obtain ⟨g25, h⟩ := Ok.guard h
              refine lM_11 g25 dX11_layer_88 ?_
              refine v_i2l dX11_layer_89 rfl ?_
              have h := Ok.ret h
              exact v_lret rfl (Nat.zero_le _) (Nat.zero_le _) dX11_layer_90 h
            · have h := Ok.pos h c24
              refine v_aload_n 0 dX11_layer_73 rfl ?_
              refine gM_42 dX11_layer_74 ?_
              refine v_iload_n 1 dX11_layer_77 rfl ?_
              obtain ⟨g26, h⟩ := Ok.guard h
              refine lM_10 g26 dX11_layer_78 ?_
              refine v_i2l dX11_layer_79 rfl ?_
              refine v_goto (tgt := 90) dX11_layer_80 rfl ?_
              have h := Ok.ret h
              exact v_lret rfl (Nat.zero_le _) (Nat.zero_le _) dX11_layer_90 h
          · have h := Ok.pos h c23
            refine v_aload_n 0 dX11_layer_58 rfl ?_
            refine gM_39 dX11_layer_59 ?_
            refine v_iload_n 1 dX11_layer_62 rfl ?_
            obtain ⟨g27, h⟩ := Ok.guard h
            refine lM_9 g27 dX11_layer_63 ?_
            refine v_i2l dX11_layer_64 rfl ?_
            refine v_goto (tgt := 90) dX11_layer_65 rfl ?_
            have h := Ok.ret h
            exact v_lret rfl (Nat.zero_le _) (Nat.zero_le _) dX11_layer_90 h
        · have h := Ok.pos h c22
          refine v_aload_n 0 dX11_layer_43 rfl ?_
          refine gM_36 dX11_layer_44 ?_
          refine v_iload_n 1 dX11_layer_47 rfl ?_
          obtain ⟨g28, h⟩ := Ok.guard h
          refine lM_8 g28 dX11_layer_48 ?_
          refine v_i2l dX11_layer_49 rfl ?_
          refine v_goto (tgt := 90) dX11_layer_50 rfl ?_
          have h := Ok.ret h
          exact v_lret rfl (Nat.zero_le _) (Nat.zero_le _) dX11_layer_90 h
    · have h := Ok.pos h c6
      refine v_lconst dX11_layer_32 kl_0 ?_
      have h := Ok.ret h
      exact v_lret rfl (Nat.zero_le _) (Nat.zero_le _) dX11_layer_33 h
def fM_signed_L101 (x1 : Int32) (x2 : Int32) (r8 : Int32 × tt_St) (a13 : Int64 × Int32) : Option ((Int64 × Int32) ⊕ (Int64 × Int32)) :=
  if (24 : Int32) ≤ a13.2 then some (.inr (a13.1, a13.2)) else if inB ((((160 : Int32) * a13.2) + ((4 : Int32) * x1)) + x2) 4000 then nm (a13.1 + ((rdI r8.2 24 0 ((((160 : Int32) * a13.2) + ((4 : Int32) * x1)) + x2).toNatClampNeg).toInt64)) fun v17 => some (.inl (v17, (a13.2 + 1 : Int32))) else none
def fM_signed (s : tt_St) (x1 : Int32) (x2 : Int32) (x3 : Int32) : Option (Int64 × tt_St) :=
  nm (wrI s 0 0 0 (0 : Int32)) fun s1 => (fM_isOne s1 x1 (1 : Int32)).bind fun r2 => if r2.1 = 0 then some ((0 : Int64), r2.2) else (if x2 < 0 then some (0 : Int32) else (fM_within x3.toInt64 (0 : Int64) (2 : Int64)).bind fun r6 => if r6 = 0 then some (0 : Int32) else some (1 : Int32) : Option (Int32)).bind fun t4 => (fM_needs r2.2 t4 (2 : Int32) (1 : Int32)).bind fun r8 => if r8.1 = 0 then some ((0 : Int64), r8.2) else if inB x1 40 then if x2 < (rdI r8.2 12 0 x1.toNatClampNeg) then if (2 : Int32) ≤ x3 then (itr (fM_signed_L101 x1 x2 r8) tt_fuel ((0 : Int64), (0 : Int32))).bind fun b14 => some (b14.1, r8.2) else if x3 = 0 then if inB (((4 : Int32) * x1) + x2) 160 then some ((rdI r8.2 13 0 (((4 : Int32) * x1) + x2).toNatClampNeg).toInt64, r8.2) else none else if inB (((4 : Int32) * x1) + x2) 160 then some ((rdI r8.2 14 0 (((4 : Int32) * x1) + x2).toNatClampNeg).toInt64, r8.2) else none else some ((-1 : Int64), r8.2) else none
abbrev rM_signed : Room := { frames := 2, cells := 0, slots := 0, locals := 47 }
set_option maxHeartbeats 4000000 in
theorem mM_signed (l : Launch) (D : va_G) (dA : Nat → ClassId) (A : Nat → Prop) (lc : Nat → Nat → Nat) (s : tt_St) (x1 : Int32) (x2 : Int32) (x3 : Int32) {Q : Option Value → (Nat → Nat → Nat) → tt_St → Prop} (h : Ok (fM_signed s x1 x2 x3) (fun r => Q (some (.long r.1)) lc r.2)) : tt_Sp (XM l D dA A) yX11_signed cX11_signed 7 (some .long) rM_signed [.ref (lc 0 0), .int x1, .int x2, .int x3] lc s Q := by
  refine tt_Sp.ofV plM kokM (Nat.le_of_ble_eq_true rfl) ?_
  show tt_V (XM l D dA A) cX11_signed (RX11, 7, (some .long), rM_signed, tt_nt) (tt_fn (XM l D dA A) (RX11, 7, (some .long), rM_signed, tt_nt) Q) 0 [(0, .ref (lc 0 0)), (1, .int x1), (2, .int x2), (3, .int x3)] [] lc s 0 0
  unfold fM_signed at h
  refine v_aload_n 0 dX11_signed_0 rfl ?_
  refine v_iconst dX11_signed_1 ic_0 ?_
  refine pM_1 dX11_signed_2 ?_
  refine v_nmS (fun s1 e_s1 => ?_)
  have h := Ok.nm h e_s1
  refine v_aload_n 0 dX11_signed_5 rfl ?_
  refine v_iload_n 1 dX11_signed_6 rfl ?_
  refine v_iconst dX11_signed_7 ic_1 ?_
  refine cM_374 (Ok.bind h) ⟨Nat.le_of_ble_eq_true rfl, Nat.le_of_ble_eq_true rfl⟩ (Nat.le_of_ble_eq_true rfl) dX11_signed_8 (fun r2 z_r2 h => ?_)
  refine v_if_eq (tgt := 44) dX11_signed_11 rfl (fun c3 => ?_) (fun c3 => ?_)
  · have h := Ok.pos h c3
    refine v_lconst dX11_signed_44 kl_0 ?_
    have h := Ok.ret h
    exact v_lret rfl (Nat.zero_le _) (Nat.zero_le _) dX11_signed_45 h
  · have h := Ok.neg h c3
    refine v_aload_n 0 dX11_signed_14 rfl ?_
    refine v_iload_n 2 dX11_signed_15 rfl ?_
    have h := Ok.join (PJ := fun t4 : Int32 => tt_V (XM l D dA A) cX11_signed (RX11, 7, (some .long), rM_signed, tt_nt) (tt_fn (XM l D dA A) (RX11, 7, (some .long), rM_signed, tt_nt) Q) 36 [(0, .ref (lc 0 0)), (1, .int x1), (2, .int x2), (3, .int x3)] [.int t4, .ref (lc 0 0)] lc r2.2 0 0) h (fun t4 h => by
      refine v_iconst dX11_signed_36 ic_2 ?_
      refine v_iconst dX11_signed_37 ic_1 ?_
      refine cM_346 (Ok.bind h) ⟨Nat.le_of_ble_eq_true rfl, Nat.le_of_ble_eq_true rfl⟩ (Nat.le_of_ble_eq_true rfl) dX11_signed_38 (fun r8 z_r8 h => ?_)
      refine v_if_ne (tgt := 46) dX11_signed_41 rfl (fun c9 => ?_) (fun c9 => ?_)
      · have h := Ok.neg h c9
        refine v_iload_n 2 dX11_signed_46 rfl ?_
        refine v_aload_n 0 dX11_signed_47 rfl ?_
        refine gM_48 dX11_signed_48 ?_
        refine v_iload_n 1 dX11_signed_51 rfl ?_
        obtain ⟨g10, h⟩ := Ok.guard h
        refine lM_12 g10 dX11_signed_52 ?_
        refine v_icmp_lt (tgt := 60) dX11_signed_53 rfl (fun c11 => ?_) (fun c11 => ?_)
        · have h := Ok.pos h c11
          refine v_iload_n 3 dX11_signed_60 rfl ?_
          refine v_iconst dX11_signed_61 ic_2 ?_
          refine v_icmp_ge (tgt := 95) dX11_signed_62 rfl (fun c12 => ?_) (fun c12 => ?_)
          · have h := Ok.pos h c12
            refine v_lconst dX11_signed_95 kl_0 ?_
            refine v_lstore [(4, .long (0 : Int64)), (0, .ref (lc 0 0)), (1, .int x1), (2, .int x2), (3, .int x3)] dX11_signed_96 (Nat.le_of_ble_eq_true rfl) rfl ?_
            refine v_iconst dX11_signed_98 ic_0 ?_
            refine v_istore [(6, .int (0 : Int32)), (4, .long (0 : Int64)), (0, .ref (lc 0 0)), (1, .int x1), (2, .int x2), (3, .int x3)] dX11_signed_99 (Nat.le_of_ble_eq_true rfl) rfl ?_
            refine v_sub [2, 3, 4, 1, 0] rfl ?_
            refine itr_loop (P := fun a13 : Int64 × Int32 => tt_V (XM l D dA A) cX11_signed (RX11, 7, (some .long), rM_signed, tt_nt) (tt_fn (XM l D dA A) (RX11, 7, (some .long), rM_signed, tt_nt) Q) 101 [(0, .ref (lc 0 0)), (1, .int x1), (2, .int x2), (4, .long a13.1), (6, .int a13.2)] [] lc r8.2 0 0) (PE := fun b14 : Int64 × Int32 => tt_V (XM l D dA A) cX11_signed (RX11, 7, (some .long), rM_signed, tt_nt) (tt_fn (XM l D dA A) (RX11, 7, (some .long), rM_signed, tt_nt) Q) 137 [(0, .ref (lc 0 0)), (1, .int x1), (2, .int x2), (4, .long b14.1), (6, .int b14.2)] [] lc r8.2 0 0) h (fun b14 h => ?_) (fun a13 h => ?_)
            · refine v_lload 3 dX11_signed_137 rfl ?_
              have h := Ok.ret h
              exact v_lret rfl (Nat.zero_le _) (Nat.zero_le _) dX11_signed_139 h
            · have h : Ok (fM_signed_L101 x1 x2 r8 a13) _ := h
              unfold fM_signed_L101 at h
              refine v_iload 4 dX11_signed_101 rfl ?_
              refine v_bipush dX11_signed_103 kb_24 ?_
              refine v_icmp_ge (tgt := 137) dX11_signed_105 rfl (fun c15 => ?_) (fun c15 => ?_)
              · have h := Ok.pos h c15
                have h := Ok.ret h
                exact h
              · have h := Ok.neg h c15
                refine v_lload 3 dX11_signed_108 rfl ?_
                refine v_aload_n 0 dX11_signed_110 rfl ?_
                refine gM_85 dX11_signed_111 ?_
                refine v_sipush dX11_signed_114 ks_160 ?_
                refine v_iload 4 dX11_signed_117 rfl ?_
                refine v_imul dX11_signed_119 ?_
                refine v_iconst dX11_signed_120 ic_4 ?_
                refine v_iload_n 1 dX11_signed_121 rfl ?_
                refine v_imul dX11_signed_122 ?_
                refine v_iadd dX11_signed_123 ?_
                refine v_iload_n 2 dX11_signed_124 rfl ?_
                refine v_iadd dX11_signed_125 ?_
                obtain ⟨g16, h⟩ := Ok.guard h
                refine lM_24 g16 dX11_signed_126 ?_
                refine v_i2l dX11_signed_127 rfl ?_
                refine v_ladd dX11_signed_128 ?_
                refine v_nmL (fun v17 e_v17 => ?_)
                have h := Ok.nm h e_v17
                refine v_lstore [(4, .long v17), (0, .ref (lc 0 0)), (1, .int x1), (2, .int x2), (6, .int a13.2)] dX11_signed_129 (Nat.le_of_ble_eq_true rfl) rfl ?_
                refine v_iinc (v := (a13.2 + 1 : Int32)) 4 [(6, .int (a13.2 + 1 : Int32)), (4, .long v17), (0, .ref (lc 0 0)), (1, .int x1), (2, .int x2)] dX11_signed_131 rfl (by rw [ic_1]) (Nat.le_of_ble_eq_true rfl) rfl ?_
                refine v_goto (tgt := 101) dX11_signed_134 rfl ?_
                refine v_sub [2, 3, 4, 1, 0] rfl ?_
                have h := Ok.ret h
                exact h
          · have h := Ok.neg h c12
            refine v_iload_n 3 dX11_signed_65 rfl ?_
            refine v_if_ne (tgt := 83) dX11_signed_66 rfl (fun c18 => ?_) (fun c18 => ?_)
            · have h := Ok.neg h c18
              refine v_aload_n 0 dX11_signed_83 rfl ?_
              refine gM_54 dX11_signed_84 ?_
              refine v_iconst dX11_signed_87 ic_4 ?_
              refine v_iload_n 1 dX11_signed_88 rfl ?_
              refine v_imul dX11_signed_89 ?_
              refine v_iload_n 2 dX11_signed_90 rfl ?_
              refine v_iadd dX11_signed_91 ?_
              obtain ⟨g19, h⟩ := Ok.guard h
              refine lM_14 g19 dX11_signed_92 ?_
              refine v_i2l dX11_signed_93 rfl ?_
              have h := Ok.ret h
              exact v_lret rfl (Nat.zero_le _) (Nat.zero_le _) dX11_signed_94 h
            · have h := Ok.pos h c18
              refine v_aload_n 0 dX11_signed_69 rfl ?_
              refine gM_51 dX11_signed_70 ?_
              refine v_iconst dX11_signed_73 ic_4 ?_
              refine v_iload_n 1 dX11_signed_74 rfl ?_
              refine v_imul dX11_signed_75 ?_
              refine v_iload_n 2 dX11_signed_76 rfl ?_
              refine v_iadd dX11_signed_77 ?_
              obtain ⟨g20, h⟩ := Ok.guard h
              refine lM_13 g20 dX11_signed_78 ?_
              refine v_i2l dX11_signed_79 rfl ?_
              refine v_goto (tgt := 94) dX11_signed_80 rfl ?_
              have h := Ok.ret h
              exact v_lret rfl (Nat.zero_le _) (Nat.zero_le _) dX11_signed_94 h
        · have h := Ok.neg h c11
          refine v_ldc2 dX11_signed_56 q2251 ?_
          have h := Ok.ret h
          exact v_lret rfl (Nat.zero_le _) (Nat.zero_le _) dX11_signed_59 h
      · have h := Ok.pos h c9
        refine v_lconst dX11_signed_44 kl_0 ?_
        have h := Ok.ret h
        exact v_lret rfl (Nat.zero_le _) (Nat.zero_le _) dX11_signed_45 h)
    refine v_if_lt (tgt := 35) dX11_signed_16 rfl (fun c5 => ?_) (fun c5 => ?_)
    · have h := Ok.pos h c5
      refine v_iconst dX11_signed_35 ic_0 ?_
      have h := Ok.ret h
      exact h
    · have h := Ok.neg h c5
      refine v_iload_n 3 dX11_signed_19 rfl ?_
      refine v_i2l dX11_signed_20 rfl ?_
      refine v_lconst dX11_signed_21 kl_0 ?_
      refine v_ldc2 dX11_signed_22 q2088 ?_
      refine cM_352 (Ok.bind h) ⟨Nat.le_of_ble_eq_true rfl, Nat.le_of_ble_eq_true rfl⟩ (Nat.le_of_ble_eq_true rfl) dX11_signed_25 (fun r6 z_r6 h => ?_)
      refine v_if_eq (tgt := 35) dX11_signed_28 rfl (fun c7 => ?_) (fun c7 => ?_)
      · have h := Ok.pos h c7
        refine v_iconst dX11_signed_35 ic_0 ?_
        have h := Ok.ret h
        exact h
      · have h := Ok.neg h c7
        refine v_iconst dX11_signed_31 ic_1 ?_
        refine v_goto (tgt := 36) dX11_signed_32 rfl ?_
        have h := Ok.ret h
        exact h
def fM_ofYear_L5 (s : tt_St) (x1 : Int32) (x2 : Int32) (a1 : Int64 × Int32) : Option ((Int64 × Int32) ⊕ (Int64 × Int32)) :=
  if (40 : Int32) ≤ a1.2 then some (.inr (a1.1, a1.2)) else (fM_isIn s a1.2 x1).bind fun r4 => if r4 = 0 then some (.inl (a1.1, (a1.2 + 1 : Int32))) else if x2 = (3 : Int32) then if inB a1.2 40 then nm (a1.1 + ((rdI s 10 0 a1.2.toNatClampNeg).toInt64)) fun v16 => some (.inl (v16, (a1.2 + 1 : Int32))) else none else if x2 = (4 : Int32) then (fM_holeOf s a1.2).bind fun r13 => nm (a1.1 + r13.toInt64) fun v14 => some (.inl (v14, (a1.2 + 1 : Int32))) else if x2 = (5 : Int32) then if inB a1.2 40 then nm (a1.1 + (rdL s 15 0 a1.2.toNatClampNeg)) fun v12 => some (.inl (v12, (a1.2 + 1 : Int32))) else none else (fM_left s a1.2).bind fun r9 => nm (a1.1 + r9) fun v10 => some (.inl (v10, (a1.2 + 1 : Int32)))
def fM_ofYear (s : tt_St) (x1 : Int32) (x2 : Int32) : Option (Int64) :=
  (itr (fM_ofYear_L5 s x1 x2) tt_fuel ((0 : Int64), (0 : Int32))).bind fun b2 => some b2.1
abbrev rM_ofYear : Room := { frames := 1, cells := 0, slots := 0, locals := 22 }
set_option maxHeartbeats 4000000 in
theorem mM_ofYear (l : Launch) (D : va_G) (dA : Nat → ClassId) (A : Nat → Prop) (lc : Nat → Nat → Nat) (s : tt_St) (x1 : Int32) (x2 : Int32) {Q : Option Value → (Nat → Nat → Nat) → tt_St → Prop} (h : Ok (fM_ofYear s x1 x2) (fun r => Q (some (.long r)) lc s)) : tt_Sp (XM l D dA A) yX11_ofYear cX11_ofYear 6 (some .long) rM_ofYear [.ref (lc 0 0), .int x1, .int x2] lc s Q := by
  refine tt_Sp.ofV plM kokM (Nat.le_of_ble_eq_true rfl) ?_
  show tt_V (XM l D dA A) cX11_ofYear (RX11, 6, (some .long), rM_ofYear, tt_nt) (tt_fn (XM l D dA A) (RX11, 6, (some .long), rM_ofYear, tt_nt) Q) 0 [(0, .ref (lc 0 0)), (1, .int x1), (2, .int x2)] [] lc s 0 0
  unfold fM_ofYear at h
  refine v_lconst dX11_ofYear_0 kl_0 ?_
  refine v_lstore_n [(3, .long (0 : Int64)), (0, .ref (lc 0 0)), (1, .int x1), (2, .int x2)] dX11_ofYear_1 (Nat.le_of_ble_eq_true rfl) rfl ?_
  refine v_iconst dX11_ofYear_2 ic_0 ?_
  refine v_istore [(5, .int (0 : Int32)), (3, .long (0 : Int64)), (0, .ref (lc 0 0)), (1, .int x1), (2, .int x2)] dX11_ofYear_3 (Nat.le_of_ble_eq_true rfl) rfl ?_
  refine v_sub [2, 3, 4, 1, 0] rfl ?_
  refine itr_loop (P := fun a1 : Int64 × Int32 => tt_V (XM l D dA A) cX11_ofYear (RX11, 6, (some .long), rM_ofYear, tt_nt) (tt_fn (XM l D dA A) (RX11, 6, (some .long), rM_ofYear, tt_nt) Q) 5 [(0, .ref (lc 0 0)), (1, .int x1), (2, .int x2), (3, .long a1.1), (5, .int a1.2)] [] lc s 0 0) (PE := fun b2 : Int64 × Int32 => tt_V (XM l D dA A) cX11_ofYear (RX11, 6, (some .long), rM_ofYear, tt_nt) (tt_fn (XM l D dA A) (RX11, 6, (some .long), rM_ofYear, tt_nt) Q) 86 [(0, .ref (lc 0 0)), (1, .int x1), (2, .int x2), (3, .long b2.1), (5, .int b2.2)] [] lc s 0 0) h (fun b2 h => ?_) (fun a1 h => ?_)
  · refine v_lload_n 3 dX11_ofYear_86 rfl ?_
    have h := Ok.ret h
    exact v_lret rfl (Nat.zero_le _) (Nat.zero_le _) dX11_ofYear_87 h
  · have h : Ok (fM_ofYear_L5 s x1 x2 a1) _ := h
    unfold fM_ofYear_L5 at h
    refine v_iload 4 dX11_ofYear_5 rfl ?_
    refine v_bipush dX11_ofYear_7 kb_40 ?_
    refine v_icmp_ge (tgt := 86) dX11_ofYear_9 rfl (fun c3 => ?_) (fun c3 => ?_)
    · have h := Ok.pos h c3
      have h := Ok.ret h
      exact h
    · have h := Ok.neg h c3
      refine v_aload_n 0 dX11_ofYear_12 rfl ?_
      refine v_iload 4 dX11_ofYear_13 rfl ?_
      refine v_iload_n 1 dX11_ofYear_15 rfl ?_
      refine cM_283 (Ok.bind h) ⟨Nat.le_of_ble_eq_true rfl, Nat.le_of_ble_eq_true rfl⟩ (Nat.le_of_ble_eq_true rfl) dX11_ofYear_16 (fun r4 z_r4 h => ?_)
      refine v_if_ne (tgt := 25) dX11_ofYear_19 rfl (fun c5 => ?_) (fun c5 => ?_)
      · have h := Ok.neg h c5
        refine v_lload_n 3 dX11_ofYear_25 rfl ?_
        refine v_iload_n 2 dX11_ofYear_26 rfl ?_
        refine v_iconst dX11_ofYear_27 ic_3 ?_
        refine v_icmp_ne (tgt := 42) dX11_ofYear_28 rfl (fun c6 => ?_) (fun c6 => ?_)
        · have h := Ok.neg h c6
          refine v_iload_n 2 dX11_ofYear_42 rfl ?_
          refine v_iconst dX11_ofYear_43 ic_4 ?_
          refine v_icmp_ne (tgt := 57) dX11_ofYear_44 rfl (fun c7 => ?_) (fun c7 => ?_)
          · have h := Ok.neg h c7
            refine v_iload_n 2 dX11_ofYear_57 rfl ?_
            refine v_iconst dX11_ofYear_58 ic_5 ?_
            refine v_icmp_ne (tgt := 72) dX11_ofYear_59 rfl (fun c8 => ?_) (fun c8 => ?_)
            · have h := Ok.neg h c8
              refine v_aload_n 0 dX11_ofYear_72 rfl ?_
              refine v_iload 4 dX11_ofYear_73 rfl ?_
              refine cM_175 (Ok.bind h) ⟨Nat.le_of_ble_eq_true rfl, Nat.le_of_ble_eq_true rfl⟩ (Nat.le_of_ble_eq_true rfl) dX11_ofYear_75 (fun r9 h => ?_)
              refine v_ladd dX11_ofYear_78 ?_
              refine v_nmL (fun v10 e_v10 => ?_)
              have h := Ok.nm h e_v10
              refine v_lstore_n [(3, .long v10), (0, .ref (lc 0 0)), (1, .int x1), (2, .int x2), (5, .int a1.2)] dX11_ofYear_79 (Nat.le_of_ble_eq_true rfl) rfl ?_
              refine v_iinc (v := (a1.2 + 1 : Int32)) 4 [(5, .int (a1.2 + 1 : Int32)), (3, .long v10), (0, .ref (lc 0 0)), (1, .int x1), (2, .int x2)] dX11_ofYear_80 rfl (by rw [ic_1]) (Nat.le_of_ble_eq_true rfl) rfl ?_
              refine v_goto (tgt := 5) dX11_ofYear_83 rfl ?_
              refine v_sub [2, 3, 4, 1, 0] rfl ?_
              have h := Ok.ret h
              exact h
            · have h := Ok.pos h c8
              refine v_aload_n 0 dX11_ofYear_62 rfl ?_
              refine gM_57 dX11_ofYear_63 ?_
              refine v_iload 4 dX11_ofYear_66 rfl ?_
              obtain ⟨g11, h⟩ := Ok.guard h
              refine lM_15 g11 dX11_ofYear_68 ?_
              refine v_goto (tgt := 78) dX11_ofYear_69 rfl ?_
              refine v_ladd dX11_ofYear_78 ?_
              refine v_nmL (fun v12 e_v12 => ?_)
              have h := Ok.nm h e_v12
              refine v_lstore_n [(3, .long v12), (0, .ref (lc 0 0)), (1, .int x1), (2, .int x2), (5, .int a1.2)] dX11_ofYear_79 (Nat.le_of_ble_eq_true rfl) rfl ?_
              refine v_iinc (v := (a1.2 + 1 : Int32)) 4 [(5, .int (a1.2 + 1 : Int32)), (3, .long v12), (0, .ref (lc 0 0)), (1, .int x1), (2, .int x2)] dX11_ofYear_80 rfl (by rw [ic_1]) (Nat.le_of_ble_eq_true rfl) rfl ?_
              refine v_goto (tgt := 5) dX11_ofYear_83 rfl ?_
              refine v_sub [2, 3, 4, 1, 0] rfl ?_
              have h := Ok.ret h
              exact h
          · have h := Ok.pos h c7
            refine v_aload_n 0 dX11_ofYear_47 rfl ?_
            refine v_iload 4 dX11_ofYear_48 rfl ?_
            refine cM_172 (Ok.bind h) ⟨Nat.le_of_ble_eq_true rfl, Nat.le_of_ble_eq_true rfl⟩ (Nat.le_of_ble_eq_true rfl) dX11_ofYear_50 (fun r13 h => ?_)
            refine v_i2l dX11_ofYear_53 rfl ?_
            refine v_goto (tgt := 78) dX11_ofYear_54 rfl ?_
            refine v_ladd dX11_ofYear_78 ?_
            refine v_nmL (fun v14 e_v14 => ?_)
            have h := Ok.nm h e_v14
            refine v_lstore_n [(3, .long v14), (0, .ref (lc 0 0)), (1, .int x1), (2, .int x2), (5, .int a1.2)] dX11_ofYear_79 (Nat.le_of_ble_eq_true rfl) rfl ?_
            refine v_iinc (v := (a1.2 + 1 : Int32)) 4 [(5, .int (a1.2 + 1 : Int32)), (3, .long v14), (0, .ref (lc 0 0)), (1, .int x1), (2, .int x2)] dX11_ofYear_80 rfl (by rw [ic_1]) (Nat.le_of_ble_eq_true rfl) rfl ?_
            refine v_goto (tgt := 5) dX11_ofYear_83 rfl ?_
            refine v_sub [2, 3, 4, 1, 0] rfl ?_
            have h := Ok.ret h
            exact h
        · have h := Ok.pos h c6
          refine v_aload_n 0 dX11_ofYear_31 rfl ?_
          refine gM_42 dX11_ofYear_32 ?_
          refine v_iload 4 dX11_ofYear_35 rfl ?_
          obtain ⟨g15, h⟩ := Ok.guard h
          refine lM_10 g15 dX11_ofYear_37 ?_
          refine v_i2l dX11_ofYear_38 rfl ?_
          refine v_goto (tgt := 78) dX11_ofYear_39 rfl ?_
          refine v_ladd dX11_ofYear_78 ?_
          refine v_nmL (fun v16 e_v16 => ?_)
          have h := Ok.nm h e_v16
          refine v_lstore_n [(3, .long v16), (0, .ref (lc 0 0)), (1, .int x1), (2, .int x2), (5, .int a1.2)] dX11_ofYear_79 (Nat.le_of_ble_eq_true rfl) rfl ?_
          refine v_iinc (v := (a1.2 + 1 : Int32)) 4 [(5, .int (a1.2 + 1 : Int32)), (3, .long v16), (0, .ref (lc 0 0)), (1, .int x1), (2, .int x2)] dX11_ofYear_80 rfl (by rw [ic_1]) (Nat.le_of_ble_eq_true rfl) rfl ?_
          refine v_goto (tgt := 5) dX11_ofYear_83 rfl ?_
          refine v_sub [2, 3, 4, 1, 0] rfl ?_
          have h := Ok.ret h
          exact h
      · have h := Ok.pos h c5
        refine v_goto (tgt := 80) dX11_ofYear_22 rfl ?_
        refine v_iinc (v := (a1.2 + 1 : Int32)) 4 [(5, .int (a1.2 + 1 : Int32)), (0, .ref (lc 0 0)), (1, .int x1), (2, .int x2), (3, .long a1.1)] dX11_ofYear_80 rfl (by rw [ic_1]) (Nat.le_of_ble_eq_true rfl) rfl ?_
        refine v_goto (tgt := 5) dX11_ofYear_83 rfl ?_
        refine v_sub [1, 2, 3, 4, 0] rfl ?_
        have h := Ok.ret h
        exact h
theorem cM_423 {l : Launch} {D : va_G} {dA : Nat → ClassId} {A : Nat → Prop} {lc : Nat → Nat → Nat} {s : tt_St} {cc : ByteArray} {nl : Nat} {rt : Option FieldType} {rm : Room} {tn : tt_Tn} {Q : tt_Fin} {pc : Nat} {lv : List (Nat × Value)} {rest : List Value} {ck cn : Nat} {x1 : Int32} {x2 : Int32} {K : Int64 → Prop} (h : Ok (fM_ofYear s x1 x2) K) (hR : 1 + 1 ≤ rm.frames ∧ 8 + (6 + 11) + 22 ≤ rm.locals) (hW : (rest.map fun v => v.category).sum ≤ 8) (d : decode cc pc = .ok (.invokevirtual 423, 3)) (kk : ∀ r, K r → tt_V (XM l D dA A) cc (RX11, nl, rt, rm, tn) Q (pc + 3) lv (.long r :: rest) lc s ck cn) (hf : ck ≤ rm.cells ∧ cn ≤ rm.slots := by exact ⟨Nat.zero_le _, Nat.zero_le _⟩) : tt_V (XM l D dA A) cc (RX11, nl, rt, rm, tn) Q pc lv (.int x2 :: .int x1 :: .ref (lc 0 0) :: rest) lc s ck cn :=
  v_callV (kd := 0) (i := 0) (nA := 2) (As := [.int x1, .int x2]) lvM_0 oM rfl (mM_ofYear l D dA A lc s x1 x2 (Q := (fun v lc' s' => ∃ r, K r ∧ v = some (.long r) ∧ lc' = lc ∧ s' = s)) (h.mono (fun r hr => ⟨r, hr, rfl, rfl, rfl⟩))) (lw_V q2257 q2259 qs112 q154 q2260) (by decide +kernel) rfl hR hW hf d rfl (fun v lc' s' q => by obtain ⟨r, hr, e1, e2, e3⟩ := q; rw [e1, e2, e3]; exact kk r hr)
def fM_year (s : tt_St) (x1 : Int32) (x2 : Int32) : Option (Int64 × tt_St) :=
  nm (wrI s 0 0 0 (0 : Int32)) fun s1 => (fM_within x1.toInt64 (0 : Int64) (11 : Int64)).bind fun r2 => (if r2 = 0 then some (0 : Int32) else (fM_within x2.toInt64 (0 : Int64) (6 : Int64)).bind fun r5 => if r5 = 0 then some (0 : Int32) else some (1 : Int32) : Option (Int32)).bind fun t3 => (fM_needs s1 t3 (1 : Int32) (1 : Int32)).bind fun r7 => if r7.1 = 0 then some ((0 : Int64), r7.2) else (fM_layersOf r7.2 x1).bind fun r9 => if x2 = 0 then some (r9.toInt64, r7.2) else if x2 ≤ (2 : Int32) then if r9 = 0 then some ((-1 : Int64), r7.2) else if x2 = (1 : Int32) then (fM_rungOf r7.2 x1 (0 : Int32)).bind fun r16 => if inB r16 40 then some ((rdI r7.2 9 0 r16.toNatClampNeg).toInt64, r7.2) else none else (fM_rungOf r7.2 x1 (r9 - (1 : Int32))).bind fun r14 => (fM_top r7.2 r14).bind fun r15 => some (r15.toInt64, r7.2) else (fM_ofYear r7.2 x1 x2).bind fun r18 => some (r18, r7.2)
abbrev rM_year : Room := { frames := 2, cells := 0, slots := 0, locals := 47 }
set_option maxHeartbeats 4000000 in
theorem mM_year (l : Launch) (D : va_G) (dA : Nat → ClassId) (A : Nat → Prop) (lc : Nat → Nat → Nat) (s : tt_St) (x1 : Int32) (x2 : Int32) {Q : Option Value → (Nat → Nat → Nat) → tt_St → Prop} (h : Ok (fM_year s x1 x2) (fun r => Q (some (.long r.1)) lc r.2)) : tt_Sp (XM l D dA A) yX11_year cX11_year 4 (some .long) rM_year [.ref (lc 0 0), .int x1, .int x2] lc s Q := by
  refine tt_Sp.ofV plM kokM (Nat.le_of_ble_eq_true rfl) ?_
  show tt_V (XM l D dA A) cX11_year (RX11, 4, (some .long), rM_year, tt_nt) (tt_fn (XM l D dA A) (RX11, 4, (some .long), rM_year, tt_nt) Q) 0 [(0, .ref (lc 0 0)), (1, .int x1), (2, .int x2)] [] lc s 0 0
  unfold fM_year at h
  refine v_aload_n 0 dX11_year_0 rfl ?_
  refine v_iconst dX11_year_1 ic_0 ?_
  refine pM_1 dX11_year_2 ?_
  refine v_nmS (fun s1 e_s1 => ?_)
  have h := Ok.nm h e_s1
  refine v_aload_n 0 dX11_year_5 rfl ?_
  refine v_iload_n 1 dX11_year_6 rfl ?_
  refine v_i2l dX11_year_7 rfl ?_
  refine v_lconst dX11_year_8 kl_0 ?_
  refine v_ldc2 dX11_year_9 q1917 ?_
  refine cM_352 (Ok.bind h) ⟨Nat.le_of_ble_eq_true rfl, Nat.le_of_ble_eq_true rfl⟩ (Nat.le_of_ble_eq_true rfl) dX11_year_12 (fun r2 z_r2 h => ?_)
  have h := Ok.join (PJ := fun t3 : Int32 => tt_V (XM l D dA A) cX11_year (RX11, 4, (some .long), rM_year, tt_nt) (tt_fn (XM l D dA A) (RX11, 4, (some .long), rM_year, tt_nt) Q) 35 [(0, .ref (lc 0 0)), (1, .int x1), (2, .int x2)] [.int t3, .ref (lc 0 0)] lc s1 0 0) h (fun t3 h => by
    refine v_iconst dX11_year_35 ic_1 ?_
    refine v_iconst dX11_year_36 ic_1 ?_
    refine cM_346 (Ok.bind h) ⟨Nat.le_of_ble_eq_true rfl, Nat.le_of_ble_eq_true rfl⟩ (Nat.le_of_ble_eq_true rfl) dX11_year_37 (fun r7 z_r7 h => ?_)
    refine v_if_ne (tgt := 45) dX11_year_40 rfl (fun c8 => ?_) (fun c8 => ?_)
    · have h := Ok.neg h c8
      refine v_aload_n 0 dX11_year_45 rfl ?_
      refine v_iload_n 1 dX11_year_46 rfl ?_
      refine cM_169 (Ok.bind h) ⟨Nat.le_of_ble_eq_true rfl, Nat.le_of_ble_eq_true rfl⟩ (Nat.le_of_ble_eq_true rfl) dX11_year_47 (fun r9 h => ?_)
      refine v_istore_n [(3, .int r9), (0, .ref (lc 0 0)), (1, .int x1), (2, .int x2)] dX11_year_50 (Nat.le_of_ble_eq_true rfl) rfl ?_
      refine v_iload_n 3 dX11_year_51 rfl ?_
      refine v_if_ne (tgt := 58) dX11_year_52 rfl (fun c10 => ?_) (fun c10 => ?_)
      · have h := Ok.neg h c10
        refine v_iload_n 3 dX11_year_58 rfl ?_
        refine v_iconst dX11_year_59 ic_2 ?_
        refine v_icmp_le (tgt := 70) dX11_year_60 rfl (fun c11 => ?_) (fun c11 => ?_)
        · have h := Ok.pos h c11
          refine v_iload_n 0 dX11_year_70 rfl ?_
          refine v_if_ne (tgt := 78) dX11_year_71 rfl (fun c12 => ?_) (fun c12 => ?_)
          · have h := Ok.neg h c12
            refine v_iload_n 3 dX11_year_78 rfl ?_
            refine v_iconst dX11_year_79 ic_1 ?_
            refine v_icmp_ne (tgt := 98) dX11_year_80 rfl (fun c13 => ?_) (fun c13 => ?_)
            · have h := Ok.neg h c13
              refine v_aload_n 1 dX11_year_98 rfl ?_
              refine v_aload_n 1 dX11_year_99 rfl ?_
              refine v_iload_n 2 dX11_year_100 rfl ?_
              refine v_iload_n 0 dX11_year_101 rfl ?_
              refine v_iconst dX11_year_102 ic_1 ?_
              refine v_isub dX11_year_103 ?_
              refine cM_161 (Ok.bind h) ⟨Nat.le_of_ble_eq_true rfl, Nat.le_of_ble_eq_true rfl⟩ (Nat.le_of_ble_eq_true rfl) dX11_year_104 (fun r14 h => ?_)
              refine cM_165 (Ok.bind h) ⟨Nat.le_of_ble_eq_true rfl, Nat.le_of_ble_eq_true rfl⟩ (Nat.le_of_ble_eq_true rfl) dX11_year_107 (fun r15 h => ?_)
              refine v_i2l dX11_year_110 rfl ?_
              have h := Ok.ret h
              exact v_lret rfl (Nat.zero_le _) (Nat.zero_le _) dX11_year_111 h
            · have h := Ok.pos h c13
              refine v_aload_n 1 dX11_year_83 rfl ?_
              refine gM_39 dX11_year_84 ?_
              refine v_aload_n 1 dX11_year_87 rfl ?_
              refine v_iload_n 2 dX11_year_88 rfl ?_
              refine v_iconst dX11_year_89 ic_0 ?_
              refine cM_161 (Ok.bind h) ⟨Nat.le_of_ble_eq_true rfl, Nat.le_of_ble_eq_true rfl⟩ (Nat.le_of_ble_eq_true rfl) dX11_year_90 (fun r16 h => ?_)
              obtain ⟨g17, h⟩ := Ok.guard h
              refine lM_9 g17 dX11_year_93 ?_
              refine v_i2l dX11_year_94 rfl ?_
              refine v_goto (tgt := 111) dX11_year_95 rfl ?_
              have h := Ok.ret h
              exact v_lret rfl (Nat.zero_le _) (Nat.zero_le _) dX11_year_111 h
          · have h := Ok.pos h c12
            refine v_ldc2 dX11_year_74 q2251 ?_
            have h := Ok.ret h
            exact v_lret rfl (Nat.zero_le _) (Nat.zero_le _) dX11_year_77 h
        · have h := Ok.neg h c11
          refine v_aload_n 1 dX11_year_63 rfl ?_
          refine v_iload_n 2 dX11_year_64 rfl ?_
          refine v_iload_n 3 dX11_year_65 rfl ?_
          refine cM_423 (Ok.bind h) ⟨Nat.le_of_ble_eq_true rfl, Nat.le_of_ble_eq_true rfl⟩ (Nat.le_of_ble_eq_true rfl) dX11_year_66 (fun r18 h => ?_)
          have h := Ok.ret h
          exact v_lret rfl (Nat.zero_le _) (Nat.zero_le _) dX11_year_69 h
      · have h := Ok.pos h c10
        refine v_iload_n 0 dX11_year_55 rfl ?_
        refine v_i2l dX11_year_56 rfl ?_
        have h := Ok.ret h
        exact v_lret rfl (Nat.zero_le _) (Nat.zero_le _) dX11_year_57 h
    · have h := Ok.pos h c8
      refine v_lconst dX11_year_43 kl_0 ?_
      have h := Ok.ret h
      exact v_lret rfl (Nat.zero_le _) (Nat.zero_le _) dX11_year_44 h)
  refine v_if_eq (tgt := 34) dX11_year_15 rfl (fun c4 => ?_) (fun c4 => ?_)
  · have h := Ok.pos h c4
    refine v_iconst dX11_year_34 ic_0 ?_
    have h := Ok.ret h
    exact h
  · have h := Ok.neg h c4
    refine v_iload_n 2 dX11_year_18 rfl ?_
    refine v_i2l dX11_year_19 rfl ?_
    refine v_lconst dX11_year_20 kl_0 ?_
    refine v_ldc2 dX11_year_21 q2256 ?_
    refine cM_352 (Ok.bind h) ⟨Nat.le_of_ble_eq_true rfl, Nat.le_of_ble_eq_true rfl⟩ (Nat.le_of_ble_eq_true rfl) dX11_year_24 (fun r5 z_r5 h => ?_)
    refine v_if_eq (tgt := 34) dX11_year_27 rfl (fun c6 => ?_) (fun c6 => ?_)
    · have h := Ok.pos h c6
      refine v_iconst dX11_year_34 ic_0 ?_
      have h := Ok.ret h
      exact h
    · have h := Ok.neg h c6
      refine v_iconst dX11_year_30 ic_1 ?_
      refine v_goto (tgt := 35) dX11_year_31 rfl ?_
      have h := Ok.ret h
      exact h
