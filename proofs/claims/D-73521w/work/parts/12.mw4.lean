set_option maxRecDepth 100000
def fM_isHeight (x0 : Int32) : Option (Int32) :=
  (fM_within x0.toInt64 (0 : Int64) (1000000000 : Int64)).bind fun r1 => some r1
abbrev rM_isHeight : Room := { frames := 1, cells := 0, slots := 0, locals := 25 }
set_option maxHeartbeats 4000000 in
theorem mM_isHeight (l : Launch) (D : va_G) (dA : Nat → ClassId) (A : Nat → Prop) (lc : Nat → Nat → Nat) (s : tt_St) (x0 : Int32) {Q : Option Value → (Nat → Nat → Nat) → tt_St → Prop} (h : Ok (fM_isHeight x0) (fun r => zB r → Q (some (.int r)) lc s)) : tt_Sp (XM l D dA A) yX11_isHeight cX11_isHeight 1 (some .boolean) rM_isHeight [.int x0] lc s Q := by
  refine tt_Sp.ofV plM kokM (Nat.le_of_ble_eq_true rfl) ?_
  show tt_V (XM l D dA A) cX11_isHeight (RX11, 1, (some .boolean), rM_isHeight, tt_nt) (tt_fn (XM l D dA A) (RX11, 1, (some .boolean), rM_isHeight, tt_nt) Q) 0 [(0, .int x0)] [] lc s 0 0
  unfold fM_isHeight at h
  refine v_iload_n 0 dX11_isHeight_0 rfl ?_
  refine v_i2l dX11_isHeight_1 rfl ?_
  refine v_lconst dX11_isHeight_2 kl_0 ?_
  refine v_ldc2 dX11_isHeight_3 q2165 ?_
  refine cM_352 (Ok.bind h) ⟨Nat.le_of_ble_eq_true rfl, Nat.le_of_ble_eq_true rfl⟩ (Nat.le_of_ble_eq_true rfl) dX11_isHeight_6 (fun r1 z_r1 h => ?_)
  have h := Ok.ret h
  exact v_zret rfl z_r1 (Nat.zero_le _) (Nat.zero_le _) dX11_isHeight_9 (h z_r1)
theorem cM_426 {l : Launch} {D : va_G} {dA : Nat → ClassId} {A : Nat → Prop} {lc : Nat → Nat → Nat} {s : tt_St} {cc : ByteArray} {nl : Nat} {rt : Option FieldType} {rm : Room} {tn : tt_Tn} {Q : tt_Fin} {pc : Nat} {lv : List (Nat × Value)} {rest : List Value} {ck cn : Nat} {x0 : Int32} {K : Int32 → Prop} (h : Ok (fM_isHeight x0) K) (hR : 1 + 1 ≤ rm.frames ∧ 8 + (1 + 11) + 25 ≤ rm.locals) (hW : (rest.map fun v => v.category).sum ≤ 8) (d : decode cc pc = .ok (.invokestatic 426, 3)) (kk : ∀ r, zB r → K r → tt_V (XM l D dA A) cc (RX11, nl, rt, rm, tn) Q (pc + 3) lv (.int r :: rest) lc s ck cn) (hf : ck ≤ rm.cells ∧ cn ≤ rm.slots := by exact ⟨Nat.zero_le _, Nat.zero_le _⟩) : tt_V (XM l D dA A) cc (RX11, nl, rt, rm, tn) Q pc lv (.int x0 :: rest) lc s ck cn :=
  v_callS (nA := 1) (As := [.int x0]) (mM_isHeight l D dA A lc s x0 (Q := (fun v lc' s' => ∃ r, zB r ∧ K r ∧ v = some (.int r) ∧ lc' = lc ∧ s' = s)) (h.mono (fun r hr => fun hz => ⟨r, hz, hr, rfl, rfl, rfl⟩))) (lw_S q2265 q2266 q154 q2267) (by decide +kernel) rfl hR hW hf d rfl (fun v lc' s' q => by obtain ⟨r, hz, hr, e1, e2, e3⟩ := q; rw [e1, e2, e3]; exact kk r hz hr)
def fM_layerAt_L2 (s : tt_St) (x1 : Int32) (x2 : Int32) (a1 : Int32) : Option ((Int32) ⊕ (Int32) ⊕ (Int32)) :=
  if (40 : Int32) ≤ a1 then some (.inr (.inl a1)) else (fM_isIn s a1 x1).bind fun r4 => if r4 = 0 then some (.inl (a1 + 1 : Int32)) else if inB a1 40 then if x2 < (rdI s 9 0 a1.toNatClampNeg) then some (.inl (a1 + 1 : Int32)) else (fM_top s a1).bind fun r8 => if r8 ≤ x2 then some (.inl (a1 + 1 : Int32)) else some (.inr (.inr a1)) else none
def fM_layerAt (s : tt_St) (x1 : Int32) (x2 : Int32) : Option (Int32) :=
  (itr (fM_layerAt_L2 s x1 x2) tt_fuel (0 : Int32)).bind fun q_b2 => orRet q_b2 fun b2 => some (-1 : Int32)
abbrev rM_layerAt : Room := { frames := 1, cells := 0, slots := 0, locals := 22 }
set_option maxHeartbeats 4000000 in
theorem mM_layerAt (l : Launch) (D : va_G) (dA : Nat → ClassId) (A : Nat → Prop) (lc : Nat → Nat → Nat) (s : tt_St) (x1 : Int32) (x2 : Int32) {Q : Option Value → (Nat → Nat → Nat) → tt_St → Prop} (h : Ok (fM_layerAt s x1 x2) (fun r => Q (some (.int r)) lc s)) : tt_Sp (XM l D dA A) yX11_layerAt cX11_layerAt 4 (some .int) rM_layerAt [.ref (lc 0 0), .int x1, .int x2] lc s Q := by
  refine tt_Sp.ofV plM kokM (Nat.le_of_ble_eq_true rfl) ?_
  show tt_V (XM l D dA A) cX11_layerAt (RX11, 4, (some .int), rM_layerAt, tt_nt) (tt_fn (XM l D dA A) (RX11, 4, (some .int), rM_layerAt, tt_nt) Q) 0 [(0, .ref (lc 0 0)), (1, .int x1), (2, .int x2)] [] lc s 0 0
  unfold fM_layerAt at h
  refine v_iconst dX11_layerAt_0 ic_0 ?_
  refine v_istore_n [(3, .int (0 : Int32)), (0, .ref (lc 0 0)), (1, .int x1), (2, .int x2)] dX11_layerAt_1 (Nat.le_of_ble_eq_true rfl) rfl ?_
  refine v_sub [1, 2, 3, 0] rfl ?_
  refine itr_loopR (P := fun a1 : Int32 => tt_V (XM l D dA A) cX11_layerAt (RX11, 4, (some .int), rM_layerAt, tt_nt) (tt_fn (XM l D dA A) (RX11, 4, (some .int), rM_layerAt, tt_nt) Q) 2 [(0, .ref (lc 0 0)), (1, .int x1), (2, .int x2), (3, .int a1)] [] lc s 0 0) (PE := fun b2 : Int32 => tt_V (XM l D dA A) cX11_layerAt (RX11, 4, (some .int), rM_layerAt, tt_nt) (tt_fn (XM l D dA A) (RX11, 4, (some .int), rM_layerAt, tt_nt) Q) 44 [(0, .ref (lc 0 0)), (1, .int x1), (2, .int x2), (3, .int b2)] [] lc s 0 0) h (fun b2 h => ?_) (fun a1 h => ?_)
  · refine v_iconst dX11_layerAt_44 ic_m1 ?_
    have h := Ok.ret h
    exact v_iret rfl (Nat.zero_le _) (Nat.zero_le _) dX11_layerAt_45 h
  · have h : Ok (fM_layerAt_L2 s x1 x2 a1) _ := h
    unfold fM_layerAt_L2 at h
    refine v_iload_n 3 dX11_layerAt_2 rfl ?_
    refine v_bipush dX11_layerAt_3 kb_40 ?_
    refine v_icmp_ge (tgt := 44) dX11_layerAt_5 rfl (fun c3 => ?_) (fun c3 => ?_)
    · have h := Ok.pos h c3
      have h := Ok.ret h
      exact h
    · have h := Ok.neg h c3
      refine v_aload_n 0 dX11_layerAt_8 rfl ?_
      refine v_iload_n 3 dX11_layerAt_9 rfl ?_
      refine v_iload_n 1 dX11_layerAt_10 rfl ?_
      refine cM_283 (Ok.bind h) ⟨Nat.le_of_ble_eq_true rfl, Nat.le_of_ble_eq_true rfl⟩ (Nat.le_of_ble_eq_true rfl) dX11_layerAt_11 (fun r4 z_r4 h => ?_)
      refine v_if_eq (tgt := 38) dX11_layerAt_14 rfl (fun c5 => ?_) (fun c5 => ?_)
      · have h := Ok.pos h c5
        refine v_iinc (v := (a1 + 1 : Int32)) 3 [(3, .int (a1 + 1 : Int32)), (0, .ref (lc 0 0)), (1, .int x1), (2, .int x2)] dX11_layerAt_38 rfl (by rw [ic_1]) (Nat.le_of_ble_eq_true rfl) rfl ?_
        refine v_goto (tgt := 2) dX11_layerAt_41 rfl ?_
        refine v_sub [1, 2, 3, 0] rfl ?_
        have h := Ok.ret h
        exact h
      · have h := Ok.neg h c5
        refine v_aload_n 0 dX11_layerAt_17 rfl ?_
        refine gM_39 dX11_layerAt_18 ?_
        refine v_iload_n 3 dX11_layerAt_21 rfl ?_
        obtain ⟨g6, h⟩ := Ok.guard h
        refine lM_9 g6 dX11_layerAt_22 ?_
        refine v_iload_n 2 dX11_layerAt_23 rfl ?_
        refine v_icmp_gt (tgt := 38) dX11_layerAt_24 rfl (fun c7 => ?_) (fun c7 => ?_)
        · have h := Ok.pos h c7
          refine v_iinc (v := (a1 + 1 : Int32)) 3 [(3, .int (a1 + 1 : Int32)), (0, .ref (lc 0 0)), (1, .int x1), (2, .int x2)] dX11_layerAt_38 rfl (by rw [ic_1]) (Nat.le_of_ble_eq_true rfl) rfl ?_
          refine v_goto (tgt := 2) dX11_layerAt_41 rfl ?_
          refine v_sub [1, 2, 3, 0] rfl ?_
          have h := Ok.ret h
          exact h
        · have h := Ok.neg h c7
          refine v_iload_n 2 dX11_layerAt_27 rfl ?_
          refine v_aload_n 0 dX11_layerAt_28 rfl ?_
          refine v_iload_n 3 dX11_layerAt_29 rfl ?_
          refine cM_165 (Ok.bind h) ⟨Nat.le_of_ble_eq_true rfl, Nat.le_of_ble_eq_true rfl⟩ (Nat.le_of_ble_eq_true rfl) dX11_layerAt_30 (fun r8 h => ?_)
          refine v_icmp_ge (tgt := 38) dX11_layerAt_33 rfl (fun c9 => ?_) (fun c9 => ?_)
          · have h := Ok.pos h c9
            refine v_iinc (v := (a1 + 1 : Int32)) 3 [(3, .int (a1 + 1 : Int32)), (0, .ref (lc 0 0)), (1, .int x1), (2, .int x2)] dX11_layerAt_38 rfl (by rw [ic_1]) (Nat.le_of_ble_eq_true rfl) rfl ?_
            refine v_goto (tgt := 2) dX11_layerAt_41 rfl ?_
            refine v_sub [1, 2, 3, 0] rfl ?_
            have h := Ok.ret h
            exact h
          · have h := Ok.neg h c9
            refine v_iload_n 3 dX11_layerAt_36 rfl ?_
            have h := Ok.ret h
            exact v_iret rfl (Nat.zero_le _) (Nat.zero_le _) dX11_layerAt_37 h
theorem cM_429 {l : Launch} {D : va_G} {dA : Nat → ClassId} {A : Nat → Prop} {lc : Nat → Nat → Nat} {s : tt_St} {cc : ByteArray} {nl : Nat} {rt : Option FieldType} {rm : Room} {tn : tt_Tn} {Q : tt_Fin} {pc : Nat} {lv : List (Nat × Value)} {rest : List Value} {ck cn : Nat} {x1 : Int32} {x2 : Int32} {K : Int32 → Prop} (h : Ok (fM_layerAt s x1 x2) K) (hR : 1 + 1 ≤ rm.frames ∧ 8 + (4 + 11) + 22 ≤ rm.locals) (hW : (rest.map fun v => v.category).sum ≤ 8) (d : decode cc pc = .ok (.invokevirtual 429, 3)) (kk : ∀ r, K r → tt_V (XM l D dA A) cc (RX11, nl, rt, rm, tn) Q (pc + 3) lv (.int r :: rest) lc s ck cn) (hf : ck ≤ rm.cells ∧ cn ≤ rm.slots := by exact ⟨Nat.zero_le _, Nat.zero_le _⟩) : tt_V (XM l D dA A) cc (RX11, nl, rt, rm, tn) Q pc lv (.int x2 :: .int x1 :: .ref (lc 0 0) :: rest) lc s ck cn :=
  v_callV (kd := 0) (i := 0) (nA := 2) (As := [.int x1, .int x2]) lvM_0 oM rfl (mM_layerAt l D dA A lc s x1 x2 (Q := (fun v lc' s' => ∃ r, K r ∧ v = some (.int r) ∧ lc' = lc ∧ s' = s)) (h.mono (fun r hr => ⟨r, hr, rfl, rfl, rfl⟩))) (lw_V q2268 q2270 qs113 q154 q2271) (by decide +kernel) rfl hR hW hf d rfl (fun v lc' s' q => by obtain ⟨r, hr, e1, e2, e3⟩ := q; rw [e1, e2, e3]; exact kk r hr)
def fM_at_L57 (x1 : Int32) (x2 : Int32) (r7 : Int32 × tt_St) (a11 : Int32) : Option ((Int32) ⊕ (Int32) ⊕ (Int32 × tt_St)) :=
  if (40 : Int32) ≤ a11 then some (.inr (.inl a11)) else (fM_isIn r7.2 a11 x1).bind fun r14 => if r14 = 0 then some (.inl (a11 + 1 : Int32)) else if inB a11 40 then if (rdI r7.2 9 0 a11.toNatClampNeg) ≤ x2 then some (.inl (a11 + 1 : Int32)) else some (.inr (.inr ((-1 : Int32), r7.2))) else none
def fM_at (s : tt_St) (x1 : Int32) (x2 : Int32) : Option (Int32 × tt_St) :=
  nm (wrI s 0 0 0 (0 : Int32)) fun s1 => (fM_within x1.toInt64 (0 : Int64) (11 : Int64)).bind fun r2 => (if r2 = 0 then some (0 : Int32) else (fM_isHeight x2).bind fun r5 => if r5 = 0 then some (0 : Int32) else some (1 : Int32) : Option (Int32)).bind fun t3 => (fM_needs s1 t3 (1 : Int32) (1 : Int32)).bind fun r7 => if r7.1 = 0 then some ((0 : Int32), r7.2) else (fM_layerAt r7.2 x1 x2).bind fun r9 => if r9 = (-1 : Int32) then (itr (fM_at_L57 x1 x2 r7) tt_fuel (0 : Int32)).bind fun q_b12 => orRet q_b12 fun b12 => some ((-2 : Int32), r7.2) else some (r9, r7.2)
abbrev rM_at : Room := { frames := 2, cells := 0, slots := 0, locals := 45 }
set_option maxHeartbeats 4000000 in
theorem mM_at (l : Launch) (D : va_G) (dA : Nat → ClassId) (A : Nat → Prop) (lc : Nat → Nat → Nat) (s : tt_St) (x1 : Int32) (x2 : Int32) {Q : Option Value → (Nat → Nat → Nat) → tt_St → Prop} (h : Ok (fM_at s x1 x2) (fun r => Q (some (.int r.1)) lc r.2)) : tt_Sp (XM l D dA A) yX11_at cX11_at 5 (some .int) rM_at [.ref (lc 0 0), .int x1, .int x2] lc s Q := by
  refine tt_Sp.ofV plM kokM (Nat.le_of_ble_eq_true rfl) ?_
  show tt_V (XM l D dA A) cX11_at (RX11, 5, (some .int), rM_at, tt_nt) (tt_fn (XM l D dA A) (RX11, 5, (some .int), rM_at, tt_nt) Q) 0 [(0, .ref (lc 0 0)), (1, .int x1), (2, .int x2)] [] lc s 0 0
  unfold fM_at at h
  refine v_aload_n 0 dX11_at_0 rfl ?_
  refine v_iconst dX11_at_1 ic_0 ?_
  refine pM_1 dX11_at_2 ?_
  refine v_nmS (fun s1 e_s1 => ?_)
  have h := Ok.nm h e_s1
  refine v_aload_n 0 dX11_at_5 rfl ?_
  refine v_iload_n 1 dX11_at_6 rfl ?_
  refine v_i2l dX11_at_7 rfl ?_
  refine v_lconst dX11_at_8 kl_0 ?_
  refine v_ldc2 dX11_at_9 q1917 ?_
  refine cM_352 (Ok.bind h) ⟨Nat.le_of_ble_eq_true rfl, Nat.le_of_ble_eq_true rfl⟩ (Nat.le_of_ble_eq_true rfl) dX11_at_12 (fun r2 z_r2 h => ?_)
  have h := Ok.join (PJ := fun t3 : Int32 => tt_V (XM l D dA A) cX11_at (RX11, 5, (some .int), rM_at, tt_nt) (tt_fn (XM l D dA A) (RX11, 5, (some .int), rM_at, tt_nt) Q) 30 [(0, .ref (lc 0 0)), (1, .int x1), (2, .int x2)] [.int t3, .ref (lc 0 0)] lc s1 0 0) h (fun t3 h => by
    refine v_iconst dX11_at_30 ic_1 ?_
    refine v_iconst dX11_at_31 ic_1 ?_
    refine cM_346 (Ok.bind h) ⟨Nat.le_of_ble_eq_true rfl, Nat.le_of_ble_eq_true rfl⟩ (Nat.le_of_ble_eq_true rfl) dX11_at_32 (fun r7 z_r7 h => ?_)
    refine v_if_ne (tgt := 40) dX11_at_35 rfl (fun c8 => ?_) (fun c8 => ?_)
    · have h := Ok.neg h c8
      refine v_aload_n 0 dX11_at_40 rfl ?_
      refine v_iload_n 1 dX11_at_41 rfl ?_
      refine v_iload_n 2 dX11_at_42 rfl ?_
      refine cM_429 (Ok.bind h) ⟨Nat.le_of_ble_eq_true rfl, Nat.le_of_ble_eq_true rfl⟩ (Nat.le_of_ble_eq_true rfl) dX11_at_43 (fun r9 h => ?_)
      refine v_istore_n [(3, .int r9), (0, .ref (lc 0 0)), (1, .int x1), (2, .int x2)] dX11_at_46 (Nat.le_of_ble_eq_true rfl) rfl ?_
      refine v_iload_n 0 dX11_at_47 rfl ?_
      refine v_iconst dX11_at_48 ic_m1 ?_
      refine v_icmp_eq (tgt := 54) dX11_at_49 rfl (fun c10 => ?_) (fun c10 => ?_)
      · have h := Ok.pos h c10
        refine v_iconst dX11_at_54 ic_0 ?_
        refine v_istore [(4, .int (0 : Int32)), (3, .int r9), (0, .ref (lc 0 0)), (1, .int x1), (2, .int x2)] dX11_at_55 (Nat.le_of_ble_eq_true rfl) rfl ?_
        refine v_sub [2, 3, 4, 0] rfl ?_
        refine itr_loopR (P := fun a11 : Int32 => tt_V (XM l D dA A) cX11_at (RX11, 5, (some .int), rM_at, tt_nt) (tt_fn (XM l D dA A) (RX11, 5, (some .int), rM_at, tt_nt) Q) 57 [(0, .ref (lc 0 0)), (1, .int x1), (2, .int x2), (4, .int a11)] [] lc r7.2 0 0) (PE := fun b12 : Int32 => tt_V (XM l D dA A) cX11_at (RX11, 5, (some .int), rM_at, tt_nt) (tt_fn (XM l D dA A) (RX11, 5, (some .int), rM_at, tt_nt) Q) 93 [(0, .ref (lc 0 0)), (1, .int x1), (2, .int x2), (4, .int b12)] [] lc r7.2 0 0) h (fun b12 h => ?_) (fun a11 h => ?_)
        · refine v_bipush dX11_at_93 kb_m2 ?_
          have h := Ok.ret h
          exact v_iret rfl (Nat.zero_le _) (Nat.zero_le _) dX11_at_95 h
        · have h : Ok (fM_at_L57 x1 x2 r7 a11) _ := h
          unfold fM_at_L57 at h
          refine v_iload 3 dX11_at_57 rfl ?_
          refine v_bipush dX11_at_59 kb_40 ?_
          refine v_icmp_ge (tgt := 93) dX11_at_61 rfl (fun c13 => ?_) (fun c13 => ?_)
          · have h := Ok.pos h c13
            have h := Ok.ret h
            exact h
          · have h := Ok.neg h c13
            refine v_aload_n 0 dX11_at_64 rfl ?_
            refine v_iload 3 dX11_at_65 rfl ?_
            refine v_iload_n 1 dX11_at_67 rfl ?_
            refine cM_283 (Ok.bind h) ⟨Nat.le_of_ble_eq_true rfl, Nat.le_of_ble_eq_true rfl⟩ (Nat.le_of_ble_eq_true rfl) dX11_at_68 (fun r14 z_r14 h => ?_)
            refine v_if_eq (tgt := 87) dX11_at_71 rfl (fun c15 => ?_) (fun c15 => ?_)
            · have h := Ok.pos h c15
              refine v_iinc (v := (a11 + 1 : Int32)) 3 [(4, .int (a11 + 1 : Int32)), (0, .ref (lc 0 0)), (1, .int x1), (2, .int x2)] dX11_at_87 rfl (by rw [ic_1]) (Nat.le_of_ble_eq_true rfl) rfl ?_
              refine v_goto (tgt := 57) dX11_at_90 rfl ?_
              refine v_sub [1, 2, 3, 0] rfl ?_
              have h := Ok.ret h
              exact h
            · have h := Ok.neg h c15
              refine v_aload_n 0 dX11_at_74 rfl ?_
              refine gM_39 dX11_at_75 ?_
              refine v_iload 3 dX11_at_78 rfl ?_
              obtain ⟨g16, h⟩ := Ok.guard h
              refine lM_9 g16 dX11_at_80 ?_
              refine v_iload_n 2 dX11_at_81 rfl ?_
              refine v_icmp_le (tgt := 87) dX11_at_82 rfl (fun c17 => ?_) (fun c17 => ?_)
              · have h := Ok.pos h c17
                refine v_iinc (v := (a11 + 1 : Int32)) 3 [(4, .int (a11 + 1 : Int32)), (0, .ref (lc 0 0)), (1, .int x1), (2, .int x2)] dX11_at_87 rfl (by rw [ic_1]) (Nat.le_of_ble_eq_true rfl) rfl ?_
                refine v_goto (tgt := 57) dX11_at_90 rfl ?_
                refine v_sub [1, 2, 3, 0] rfl ?_
                have h := Ok.ret h
                exact h
              · have h := Ok.neg h c17
                refine v_iconst dX11_at_85 ic_m1 ?_
                have h := Ok.ret h
                exact v_iret rfl (Nat.zero_le _) (Nat.zero_le _) dX11_at_86 h
      · have h := Ok.neg h c10
        refine v_iload_n 0 dX11_at_52 rfl ?_
        have h := Ok.ret h
        exact v_iret rfl (Nat.zero_le _) (Nat.zero_le _) dX11_at_53 h
    · have h := Ok.pos h c8
      refine v_iconst dX11_at_38 ic_0 ?_
      have h := Ok.ret h
      exact v_iret rfl (Nat.zero_le _) (Nat.zero_le _) dX11_at_39 h)
  refine v_if_eq (tgt := 29) dX11_at_15 rfl (fun c4 => ?_) (fun c4 => ?_)
  · have h := Ok.pos h c4
    refine v_iconst dX11_at_29 ic_0 ?_
    have h := Ok.ret h
    exact h
  · have h := Ok.neg h c4
    refine v_iload_n 2 dX11_at_18 rfl ?_
    refine cM_426 (Ok.bind h) ⟨Nat.le_of_ble_eq_true rfl, Nat.le_of_ble_eq_true rfl⟩ (Nat.le_of_ble_eq_true rfl) dX11_at_19 (fun r5 z_r5 h => ?_)
    refine v_if_eq (tgt := 29) dX11_at_22 rfl (fun c6 => ?_) (fun c6 => ?_)
    · have h := Ok.pos h c6
      refine v_iconst dX11_at_29 ic_0 ?_
      have h := Ok.ret h
      exact h
    · have h := Ok.neg h c6
      refine v_iconst dX11_at_25 ic_1 ?_
      refine v_goto (tgt := 30) dX11_at_26 rfl ?_
      have h := Ok.ret h
      exact h
def fM_rung (s : tt_St) (x1 : Int32) (x2 : Int32) : Option (Int32 × tt_St) :=
  nm (wrI s 0 0 0 (0 : Int32)) fun s1 => (fM_within x1.toInt64 (0 : Int64) (11 : Int64)).bind fun r2 => nm (if r2 = 0 then (0 : Int32) else (if x2 < 0 then (0 : Int32) else (1 : Int32))) fun t3 => (fM_needs s1 t3 (1 : Int32) (1 : Int32)).bind fun r7 => if r7.1 = 0 then some ((0 : Int32), r7.2) else (fM_rungOf r7.2 x1 x2).bind fun r9 => some (r9, r7.2)
abbrev rM_rung : Room := { frames := 1, cells := 0, slots := 0, locals := 25 }
set_option maxHeartbeats 4000000 in
theorem mM_rung (l : Launch) (D : va_G) (dA : Nat → ClassId) (A : Nat → Prop) (lc : Nat → Nat → Nat) (s : tt_St) (x1 : Int32) (x2 : Int32) {Q : Option Value → (Nat → Nat → Nat) → tt_St → Prop} (h : Ok (fM_rung s x1 x2) (fun r => Q (some (.int r.1)) lc r.2)) : tt_Sp (XM l D dA A) yX11_rung cX11_rung 3 (some .int) rM_rung [.ref (lc 0 0), .int x1, .int x2] lc s Q := by
  refine tt_Sp.ofV plM kokM (Nat.le_of_ble_eq_true rfl) ?_
  show tt_V (XM l D dA A) cX11_rung (RX11, 3, (some .int), rM_rung, tt_nt) (tt_fn (XM l D dA A) (RX11, 3, (some .int), rM_rung, tt_nt) Q) 0 [(0, .ref (lc 0 0)), (1, .int x1), (2, .int x2)] [] lc s 0 0
  unfold fM_rung at h
  refine v_aload_n 0 dX11_rung_0 rfl ?_
  refine v_iconst dX11_rung_1 ic_0 ?_
  refine pM_1 dX11_rung_2 ?_
  refine v_nmS (fun s1 e_s1 => ?_)
  have h := Ok.nm h e_s1
  refine v_aload_n 0 dX11_rung_5 rfl ?_
  refine v_iload_n 1 dX11_rung_6 rfl ?_
  refine v_i2l dX11_rung_7 rfl ?_
  refine v_lconst dX11_rung_8 kl_0 ?_
  refine v_ldc2 dX11_rung_9 q1917 ?_
  refine cM_352 (Ok.bind h) ⟨Nat.le_of_ble_eq_true rfl, Nat.le_of_ble_eq_true rfl⟩ (Nat.le_of_ble_eq_true rfl) dX11_rung_12 (fun r2 z_r2 h => ?_)
  have J4 : ∀ t3, t3 = (if r2 = 0 then (0 : Int32) else (if x2 < 0 then (0 : Int32) else (1 : Int32))) → tt_V (XM l D dA A) cX11_rung (RX11, 3, (some .int), rM_rung, tt_nt) (tt_fn (XM l D dA A) (RX11, 3, (some .int), rM_rung, tt_nt) Q) 27 [(0, .ref (lc 0 0)), (1, .int x1), (2, .int x2)] [.int t3, .ref (lc 0 0)] lc s1 0 0 := fun t3 e_t3 => by
    have h := Ok.nm h e_t3
    refine v_iconst dX11_rung_27 ic_1 ?_
    refine v_iconst dX11_rung_28 ic_1 ?_
    refine cM_346 (Ok.bind h) ⟨Nat.le_of_ble_eq_true rfl, Nat.le_of_ble_eq_true rfl⟩ (Nat.le_of_ble_eq_true rfl) dX11_rung_29 (fun r7 z_r7 h => ?_)
    refine v_if_ne (tgt := 37) dX11_rung_32 rfl (fun c8 => ?_) (fun c8 => ?_)
    · have h := Ok.neg h c8
      refine v_aload_n 0 dX11_rung_37 rfl ?_
      refine v_iload_n 1 dX11_rung_38 rfl ?_
      refine v_iload_n 2 dX11_rung_39 rfl ?_
      refine cM_161 (Ok.bind h) ⟨Nat.le_of_ble_eq_true rfl, Nat.le_of_ble_eq_true rfl⟩ (Nat.le_of_ble_eq_true rfl) dX11_rung_40 (fun r9 h => ?_)
      have h := Ok.ret h
      exact v_iret rfl (Nat.zero_le _) (Nat.zero_le _) dX11_rung_43 h
    · have h := Ok.pos h c8
      refine v_iconst dX11_rung_35 ic_0 ?_
      have h := Ok.ret h
      exact v_iret rfl (Nat.zero_le _) (Nat.zero_le _) dX11_rung_36 h
  refine v_if_eq (tgt := 26) dX11_rung_15 rfl (fun c5 => ?_) (fun c5 => ?_)
  · refine v_iconst dX11_rung_26 ic_0 ?_
    exact J4 _ (by rw [if_pos c5])
  · refine v_iload_n 2 dX11_rung_18 rfl ?_
    refine v_if_lt (tgt := 26) dX11_rung_19 rfl (fun c6 => ?_) (fun c6 => ?_)
    · refine v_iconst dX11_rung_26 ic_0 ?_
      exact J4 _ (by rw [if_neg c5, if_pos c6])
    · refine v_iconst dX11_rung_22 ic_1 ?_
      refine v_goto (tgt := 27) dX11_rung_23 rfl ?_
      exact J4 _ (by rw [if_neg c5, if_neg c6])
def fM_damage (s : tt_St) (x1 : Int32) (x2 : Int32) : Option (Int64 × tt_St) :=
  nm (wrI s 0 0 0 (0 : Int32)) fun s1 => (fM_isHarmOne s1 x1).bind fun r2 => if r2.1 = 0 then some ((0 : Int64), r2.2) else (fM_within x2.toInt64 (0 : Int64) (5 : Int64)).bind fun r4 => (fM_needs r2.2 r4 (2 : Int32) (1 : Int32)).bind fun r5 => if r5.1 = 0 then some ((0 : Int64), r5.2) else if (3 : Int32) ≤ x2 then if x2 = (3 : Int32) then if inB x1 25 then some (rdL r5.2 20 0 x1.toNatClampNeg, r5.2) else none else if x2 = (4 : Int32) then (fM_insuredOf r5.2 x1).bind fun r11 => some (r11, r5.2) else if inB x1 25 then some ((rdI r5.2 19 0 x1.toNatClampNeg).toInt64, r5.2) else none else if x2 = 0 then if inB x1 25 then some ((rdI r5.2 16 0 x1.toNatClampNeg).toInt64, r5.2) else none else if x2 = (1 : Int32) then if inB x1 25 then some ((rdI r5.2 17 0 x1.toNatClampNeg).toInt64, r5.2) else none else if inB x1 25 then some ((rdI r5.2 18 0 x1.toNatClampNeg).toInt64, r5.2) else none
abbrev rM_damage : Room := { frames := 2, cells := 0, slots := 0, locals := 46 }
set_option maxHeartbeats 4000000 in
theorem mM_damage (l : Launch) (D : va_G) (dA : Nat → ClassId) (A : Nat → Prop) (lc : Nat → Nat → Nat) (s : tt_St) (x1 : Int32) (x2 : Int32) {Q : Option Value → (Nat → Nat → Nat) → tt_St → Prop} (h : Ok (fM_damage s x1 x2) (fun r => Q (some (.long r.1)) lc r.2)) : tt_Sp (XM l D dA A) yX11_damage cX11_damage 3 (some .long) rM_damage [.ref (lc 0 0), .int x1, .int x2] lc s Q := by
  refine tt_Sp.ofV plM kokM (Nat.le_of_ble_eq_true rfl) ?_
  show tt_V (XM l D dA A) cX11_damage (RX11, 3, (some .long), rM_damage, tt_nt) (tt_fn (XM l D dA A) (RX11, 3, (some .long), rM_damage, tt_nt) Q) 0 [(0, .ref (lc 0 0)), (1, .int x1), (2, .int x2)] [] lc s 0 0
  unfold fM_damage at h
  refine v_aload_n 0 dX11_damage_0 rfl ?_
  refine v_iconst dX11_damage_1 ic_0 ?_
  refine pM_1 dX11_damage_2 ?_
  refine v_nmS (fun s1 e_s1 => ?_)
  have h := Ok.nm h e_s1
  refine v_aload_n 0 dX11_damage_5 rfl ?_
  refine v_iload_n 1 dX11_damage_6 rfl ?_
  refine cM_397 (Ok.bind h) ⟨Nat.le_of_ble_eq_true rfl, Nat.le_of_ble_eq_true rfl⟩ (Nat.le_of_ble_eq_true rfl) dX11_damage_7 (fun r2 z_r2 h => ?_)
  refine v_if_eq (tgt := 31) dX11_damage_10 rfl (fun c3 => ?_) (fun c3 => ?_)
  · have h := Ok.pos h c3
    refine v_lconst dX11_damage_31 kl_0 ?_
    have h := Ok.ret h
    exact v_lret rfl (Nat.zero_le _) (Nat.zero_le _) dX11_damage_32 h
  · have h := Ok.neg h c3
    refine v_aload_n 0 dX11_damage_13 rfl ?_
    refine v_iload_n 2 dX11_damage_14 rfl ?_
    refine v_i2l dX11_damage_15 rfl ?_
    refine v_lconst dX11_damage_16 kl_0 ?_
    refine v_ldc2 dX11_damage_17 q2280 ?_
    refine cM_352 (Ok.bind h) ⟨Nat.le_of_ble_eq_true rfl, Nat.le_of_ble_eq_true rfl⟩ (Nat.le_of_ble_eq_true rfl) dX11_damage_20 (fun r4 z_r4 h => ?_)
    refine v_iconst dX11_damage_23 ic_2 ?_
    refine v_iconst dX11_damage_24 ic_1 ?_
    refine cM_346 (Ok.bind h) ⟨Nat.le_of_ble_eq_true rfl, Nat.le_of_ble_eq_true rfl⟩ (Nat.le_of_ble_eq_true rfl) dX11_damage_25 (fun r5 z_r5 h => ?_)
    refine v_if_ne (tgt := 33) dX11_damage_28 rfl (fun c6 => ?_) (fun c6 => ?_)
    · have h := Ok.neg h c6
      refine v_iload_n 2 dX11_damage_33 rfl ?_
      refine v_iconst dX11_damage_34 ic_3 ?_
      refine v_icmp_ge (tgt := 75) dX11_damage_35 rfl (fun c7 => ?_) (fun c7 => ?_)
      · have h := Ok.pos h c7
        refine v_iload_n 2 dX11_damage_75 rfl ?_
        refine v_iconst dX11_damage_76 ic_3 ?_
        refine v_icmp_ne (tgt := 89) dX11_damage_77 rfl (fun c8 => ?_) (fun c8 => ?_)
        · have h := Ok.neg h c8
          refine v_iload_n 2 dX11_damage_89 rfl ?_
          refine v_iconst dX11_damage_90 ic_4 ?_
          refine v_icmp_ne (tgt := 102) dX11_damage_91 rfl (fun c9 => ?_) (fun c9 => ?_)
          · have h := Ok.neg h c9
            refine v_aload_n 0 dX11_damage_102 rfl ?_
            refine gM_70 dX11_damage_103 ?_
            refine v_iload_n 1 dX11_damage_106 rfl ?_
            obtain ⟨g10, h⟩ := Ok.guard h
            refine lM_19 g10 dX11_damage_107 ?_
            refine v_i2l dX11_damage_108 rfl ?_
            have h := Ok.ret h
            exact v_lret rfl (Nat.zero_le _) (Nat.zero_le _) dX11_damage_109 h
          · have h := Ok.pos h c9
            refine v_aload_n 0 dX11_damage_94 rfl ?_
            refine v_iload_n 1 dX11_damage_95 rfl ?_
            refine cM_277 (Ok.bind h) ⟨Nat.le_of_ble_eq_true rfl, Nat.le_of_ble_eq_true rfl⟩ (Nat.le_of_ble_eq_true rfl) dX11_damage_96 (fun r11 h => ?_)
            refine v_goto (tgt := 109) dX11_damage_99 rfl ?_
            have h := Ok.ret h
            exact v_lret rfl (Nat.zero_le _) (Nat.zero_le _) dX11_damage_109 h
        · have h := Ok.pos h c8
          refine v_aload_n 0 dX11_damage_80 rfl ?_
          refine gM_73 dX11_damage_81 ?_
          refine v_iload_n 1 dX11_damage_84 rfl ?_
          obtain ⟨g12, h⟩ := Ok.guard h
          refine lM_20 g12 dX11_damage_85 ?_
          refine v_goto (tgt := 109) dX11_damage_86 rfl ?_
          have h := Ok.ret h
          exact v_lret rfl (Nat.zero_le _) (Nat.zero_le _) dX11_damage_109 h
      · have h := Ok.neg h c7
        refine v_iload_n 2 dX11_damage_38 rfl ?_
        refine v_if_ne (tgt := 52) dX11_damage_39 rfl (fun c13 => ?_) (fun c13 => ?_)
        · have h := Ok.neg h c13
          refine v_iload_n 2 dX11_damage_52 rfl ?_
          refine v_iconst dX11_damage_53 ic_1 ?_
          refine v_icmp_ne (tgt := 67) dX11_damage_54 rfl (fun c14 => ?_) (fun c14 => ?_)
          · have h := Ok.neg h c14
            refine v_aload_n 0 dX11_damage_67 rfl ?_
            refine gM_67 dX11_damage_68 ?_
            refine v_iload_n 1 dX11_damage_71 rfl ?_
            obtain ⟨g15, h⟩ := Ok.guard h
            refine lM_18 g15 dX11_damage_72 ?_
            refine v_i2l dX11_damage_73 rfl ?_
            have h := Ok.ret h
            exact v_lret rfl (Nat.zero_le _) (Nat.zero_le _) dX11_damage_74 h
          · have h := Ok.pos h c14
            refine v_aload_n 0 dX11_damage_57 rfl ?_
            refine gM_64 dX11_damage_58 ?_
            refine v_iload_n 1 dX11_damage_61 rfl ?_
            obtain ⟨g16, h⟩ := Ok.guard h
            refine lM_17 g16 dX11_damage_62 ?_
            refine v_i2l dX11_damage_63 rfl ?_
            refine v_goto (tgt := 74) dX11_damage_64 rfl ?_
            have h := Ok.ret h
            exact v_lret rfl (Nat.zero_le _) (Nat.zero_le _) dX11_damage_74 h
        · have h := Ok.pos h c13
          refine v_aload_n 0 dX11_damage_42 rfl ?_
          refine gM_61 dX11_damage_43 ?_
          refine v_iload_n 1 dX11_damage_46 rfl ?_
          obtain ⟨g17, h⟩ := Ok.guard h
          refine lM_16 g17 dX11_damage_47 ?_
          refine v_i2l dX11_damage_48 rfl ?_
          refine v_goto (tgt := 74) dX11_damage_49 rfl ?_
          have h := Ok.ret h
          exact v_lret rfl (Nat.zero_le _) (Nat.zero_le _) dX11_damage_74 h
    · have h := Ok.pos h c6
      refine v_lconst dX11_damage_31 kl_0 ?_
      have h := Ok.ret h
      exact v_lret rfl (Nat.zero_le _) (Nat.zero_le _) dX11_damage_32 h
def fM_areBoth (s : tt_St) (x1 : Int32) (x2 : Int32) : Option (Int32 × tt_St) :=
  (fM_within x1.toInt64 (0 : Int64) (23 : Int64)).bind fun r1 => (if r1 = 0 then some (0 : Int32) else if inB x1 25 then if (rdI s 7 0 x1.toNatClampNeg) = 0 then some (0 : Int32) else (fM_within x2.toInt64 (0 : Int64) (39 : Int64)).bind fun r6 => if r6 = 0 then some (0 : Int32) else if inB x2 40 then if (rdI s 6 0 x2.toNatClampNeg) = 0 then some (0 : Int32) else some (1 : Int32) else none else none : Option (Int32)).bind fun t2 => (fM_needs s t2 (1 : Int32) (0 : Int32)).bind fun r10 => some (r10.1, r10.2)
abbrev rM_areBoth : Room := { frames := 1, cells := 0, slots := 0, locals := 25 }
set_option maxHeartbeats 4000000 in
theorem mM_areBoth (l : Launch) (D : va_G) (dA : Nat → ClassId) (A : Nat → Prop) (lc : Nat → Nat → Nat) (s : tt_St) (x1 : Int32) (x2 : Int32) {Q : Option Value → (Nat → Nat → Nat) → tt_St → Prop} (h : Ok (fM_areBoth s x1 x2) (fun r => zB r.1 → Q (some (.int r.1)) lc r.2)) : tt_Sp (XM l D dA A) yX11_areBoth cX11_areBoth 3 (some .boolean) rM_areBoth [.ref (lc 0 0), .int x1, .int x2] lc s Q := by
  refine tt_Sp.ofV plM kokM (Nat.le_of_ble_eq_true rfl) ?_
  show tt_V (XM l D dA A) cX11_areBoth (RX11, 3, (some .boolean), rM_areBoth, tt_nt) (tt_fn (XM l D dA A) (RX11, 3, (some .boolean), rM_areBoth, tt_nt) Q) 0 [(0, .ref (lc 0 0)), (1, .int x1), (2, .int x2)] [] lc s 0 0
  unfold fM_areBoth at h
  refine v_aload_n 0 dX11_areBoth_0 rfl ?_
  refine v_iload_n 1 dX11_areBoth_1 rfl ?_
  refine v_i2l dX11_areBoth_2 rfl ?_
  refine v_lconst dX11_areBoth_3 kl_0 ?_
  refine v_ldc2 dX11_areBoth_4 q2174 ?_
  refine cM_352 (Ok.bind h) ⟨Nat.le_of_ble_eq_true rfl, Nat.le_of_ble_eq_true rfl⟩ (Nat.le_of_ble_eq_true rfl) dX11_areBoth_7 (fun r1 z_r1 h => ?_)
  have h := Ok.join (PJ := fun t2 : Int32 => tt_V (XM l D dA A) cX11_areBoth (RX11, 3, (some .boolean), rM_areBoth, tt_nt) (tt_fn (XM l D dA A) (RX11, 3, (some .boolean), rM_areBoth, tt_nt) Q) 48 [] [.int t2, .ref (lc 0 0)] lc s 0 0) h (fun t2 h => by
    refine v_iconst dX11_areBoth_48 ic_1 ?_
    refine v_iconst dX11_areBoth_49 ic_0 ?_
    refine cM_346 (Ok.bind h) ⟨Nat.le_of_ble_eq_true rfl, Nat.le_of_ble_eq_true rfl⟩ (Nat.le_of_ble_eq_true rfl) dX11_areBoth_50 (fun r10 z_r10 h => ?_)
    have h := Ok.ret h
    exact v_zret rfl z_r10 (Nat.zero_le _) (Nat.zero_le _) dX11_areBoth_53 (h z_r10))
  refine v_if_eq (tgt := 47) dX11_areBoth_10 rfl (fun c3 => ?_) (fun c3 => ?_)
  · have h := Ok.pos h c3
    refine v_iconst dX11_areBoth_47 ic_0 ?_
    refine v_sub [] rfl ?_
    have h := Ok.ret h
    exact h
  · have h := Ok.neg h c3
    refine v_aload_n 0 dX11_areBoth_13 rfl ?_
    refine gM_33 dX11_areBoth_14 ?_
    refine v_iload_n 1 dX11_areBoth_17 rfl ?_
    obtain ⟨g4, h⟩ := Ok.guard h
    refine lM_7 g4 dX11_areBoth_18 ?_
    refine v_if_eq (tgt := 47) dX11_areBoth_19 rfl (fun c5 => ?_) (fun c5 => ?_)
    · have h := Ok.pos h c5
      refine v_iconst dX11_areBoth_47 ic_0 ?_
      refine v_sub [] rfl ?_
      have h := Ok.ret h
      exact h
    · have h := Ok.neg h c5
      refine v_iload_n 2 dX11_areBoth_22 rfl ?_
      refine v_i2l dX11_areBoth_23 rfl ?_
      refine v_lconst dX11_areBoth_24 kl_0 ?_
      refine v_ldc2 dX11_areBoth_25 q2130 ?_
      refine cM_352 (Ok.bind h) ⟨Nat.le_of_ble_eq_true rfl, Nat.le_of_ble_eq_true rfl⟩ (Nat.le_of_ble_eq_true rfl) dX11_areBoth_28 (fun r6 z_r6 h => ?_)
      refine v_if_eq (tgt := 47) dX11_areBoth_31 rfl (fun c7 => ?_) (fun c7 => ?_)
      · have h := Ok.pos h c7
        refine v_iconst dX11_areBoth_47 ic_0 ?_
        refine v_sub [] rfl ?_
        have h := Ok.ret h
        exact h
      · have h := Ok.neg h c7
        refine v_aload_n 0 dX11_areBoth_34 rfl ?_
        refine gM_29 dX11_areBoth_35 ?_
        refine v_iload_n 2 dX11_areBoth_38 rfl ?_
        obtain ⟨g8, h⟩ := Ok.guard h
        refine lM_6 g8 dX11_areBoth_39 ?_
        refine v_if_eq (tgt := 47) dX11_areBoth_40 rfl (fun c9 => ?_) (fun c9 => ?_)
        · have h := Ok.pos h c9
          refine v_iconst dX11_areBoth_47 ic_0 ?_
          refine v_sub [] rfl ?_
          have h := Ok.ret h
          exact h
        · have h := Ok.neg h c9
          refine v_iconst dX11_areBoth_43 ic_1 ?_
          refine v_goto (tgt := 48) dX11_areBoth_44 rfl ?_
          refine v_sub [] rfl ?_
          have h := Ok.ret h
          exact h
theorem cM_434 {l : Launch} {D : va_G} {dA : Nat → ClassId} {A : Nat → Prop} {lc : Nat → Nat → Nat} {s : tt_St} {cc : ByteArray} {nl : Nat} {rt : Option FieldType} {rm : Room} {tn : tt_Tn} {Q : tt_Fin} {pc : Nat} {lv : List (Nat × Value)} {rest : List Value} {ck cn : Nat} {x1 : Int32} {x2 : Int32} {K : Int32 × tt_St → Prop} (h : Ok (fM_areBoth s x1 x2) K) (hR : 1 + 1 ≤ rm.frames ∧ 8 + (3 + 11) + 25 ≤ rm.locals) (hW : (rest.map fun v => v.category).sum ≤ 8) (d : decode cc pc = .ok (.invokevirtual 434, 3)) (kk : ∀ r, zB r.1 → K r → tt_V (XM l D dA A) cc (RX11, nl, rt, rm, tn) Q (pc + 3) lv (.int r.1 :: rest) lc r.2 ck cn) (hf : ck ≤ rm.cells ∧ cn ≤ rm.slots := by exact ⟨Nat.zero_le _, Nat.zero_le _⟩) : tt_V (XM l D dA A) cc (RX11, nl, rt, rm, tn) Q pc lv (.int x2 :: .int x1 :: .ref (lc 0 0) :: rest) lc s ck cn :=
  v_callV (kd := 0) (i := 0) (nA := 2) (As := [.int x1, .int x2]) lvM_0 oM rfl (mM_areBoth l D dA A lc s x1 x2 (Q := (fun v lc' s' => ∃ r, zB r.1 ∧ K r ∧ v = some (.int r.1) ∧ lc' = lc ∧ s' = r.2)) (h.mono (fun r hr => fun hz => ⟨r, hz, hr, rfl, rfl, rfl⟩))) (lw_V q2285 q2287 qs114 q154 q2288) (by decide +kernel) rfl hR hW hf d rfl (fun v lc' s' q => by obtain ⟨r, hz, hr, e1, e2, e3⟩ := q; rw [e1, e2, e3]; exact kk r hz hr)
def fM_took (s : tt_St) (x1 : Int32) (x2 : Int32) : Option (Int64 × tt_St) :=
  nm (wrI s 0 0 0 (0 : Int32)) fun s1 => (fM_areBoth s1 x1 x2).bind fun r2 => if r2.1 = 0 then some ((0 : Int64), r2.2) else if inB (((40 : Int32) * x1) + x2) 1000 then some (rdL r2.2 21 0 (((40 : Int32) * x1) + x2).toNatClampNeg, r2.2) else none
abbrev rM_took : Room := { frames := 2, cells := 0, slots := 0, locals := 47 }
set_option maxHeartbeats 4000000 in
theorem mM_took (l : Launch) (D : va_G) (dA : Nat → ClassId) (A : Nat → Prop) (lc : Nat → Nat → Nat) (s : tt_St) (x1 : Int32) (x2 : Int32) {Q : Option Value → (Nat → Nat → Nat) → tt_St → Prop} (h : Ok (fM_took s x1 x2) (fun r => Q (some (.long r.1)) lc r.2)) : tt_Sp (XM l D dA A) yX11_took cX11_took 3 (some .long) rM_took [.ref (lc 0 0), .int x1, .int x2] lc s Q := by
  refine tt_Sp.ofV plM kokM (Nat.le_of_ble_eq_true rfl) ?_
  show tt_V (XM l D dA A) cX11_took (RX11, 3, (some .long), rM_took, tt_nt) (tt_fn (XM l D dA A) (RX11, 3, (some .long), rM_took, tt_nt) Q) 0 [(0, .ref (lc 0 0)), (1, .int x1), (2, .int x2)] [] lc s 0 0
  unfold fM_took at h
  refine v_aload_n 0 dX11_took_0 rfl ?_
  refine v_iconst dX11_took_1 ic_0 ?_
  refine pM_1 dX11_took_2 ?_
  refine v_nmS (fun s1 e_s1 => ?_)
  have h := Ok.nm h e_s1
  refine v_aload_n 0 dX11_took_5 rfl ?_
  refine v_iload_n 1 dX11_took_6 rfl ?_
  refine v_iload_n 2 dX11_took_7 rfl ?_
  refine cM_434 (Ok.bind h) ⟨Nat.le_of_ble_eq_true rfl, Nat.le_of_ble_eq_true rfl⟩ (Nat.le_of_ble_eq_true rfl) dX11_took_8 (fun r2 z_r2 h => ?_)
  refine v_if_eq (tgt := 28) dX11_took_11 rfl (fun c3 => ?_) (fun c3 => ?_)
  · have h := Ok.pos h c3
    refine v_lconst dX11_took_28 kl_0 ?_
    have h := Ok.ret h
    exact v_lret rfl (Nat.zero_le _) (Nat.zero_le _) dX11_took_29 h
  · have h := Ok.neg h c3
    refine v_aload_n 0 dX11_took_14 rfl ?_
    refine gM_76 dX11_took_15 ?_
    refine v_bipush dX11_took_18 kb_40 ?_
    refine v_iload_n 1 dX11_took_20 rfl ?_
    refine v_imul dX11_took_21 ?_
    refine v_iload_n 2 dX11_took_22 rfl ?_
    refine v_iadd dX11_took_23 ?_
    obtain ⟨g4, h⟩ := Ok.guard h
    refine lM_21 g4 dX11_took_24 ?_
    refine v_goto (tgt := 29) dX11_took_25 rfl ?_
    have h := Ok.ret h
    exact v_lret rfl (Nat.zero_le _) (Nat.zero_le _) dX11_took_29 h
def fM_hole (s : tt_St) (x1 : Int32) (x2 : Int32) : Option (Int64 × tt_St) :=
  nm (wrI s 0 0 0 (0 : Int32)) fun s1 => (fM_areBoth s1 x1 x2).bind fun r2 => if r2.1 = 0 then some ((0 : Int64), r2.2) else if inB (((40 : Int32) * x1) + x2) 1000 then some (rdL r2.2 22 0 (((40 : Int32) * x1) + x2).toNatClampNeg, r2.2) else none
abbrev rM_hole : Room := { frames := 2, cells := 0, slots := 0, locals := 47 }
set_option maxHeartbeats 4000000 in
theorem mM_hole (l : Launch) (D : va_G) (dA : Nat → ClassId) (A : Nat → Prop) (lc : Nat → Nat → Nat) (s : tt_St) (x1 : Int32) (x2 : Int32) {Q : Option Value → (Nat → Nat → Nat) → tt_St → Prop} (h : Ok (fM_hole s x1 x2) (fun r => Q (some (.long r.1)) lc r.2)) : tt_Sp (XM l D dA A) yX11_hole cX11_hole 3 (some .long) rM_hole [.ref (lc 0 0), .int x1, .int x2] lc s Q := by
  refine tt_Sp.ofV plM kokM (Nat.le_of_ble_eq_true rfl) ?_
  show tt_V (XM l D dA A) cX11_hole (RX11, 3, (some .long), rM_hole, tt_nt) (tt_fn (XM l D dA A) (RX11, 3, (some .long), rM_hole, tt_nt) Q) 0 [(0, .ref (lc 0 0)), (1, .int x1), (2, .int x2)] [] lc s 0 0
  unfold fM_hole at h
  refine v_aload_n 0 dX11_hole_0 rfl ?_
  refine v_iconst dX11_hole_1 ic_0 ?_
  refine pM_1 dX11_hole_2 ?_
  refine v_nmS (fun s1 e_s1 => ?_)
  have h := Ok.nm h e_s1
  refine v_aload_n 0 dX11_hole_5 rfl ?_
  refine v_iload_n 1 dX11_hole_6 rfl ?_
  refine v_iload_n 2 dX11_hole_7 rfl ?_
  refine cM_434 (Ok.bind h) ⟨Nat.le_of_ble_eq_true rfl, Nat.le_of_ble_eq_true rfl⟩ (Nat.le_of_ble_eq_true rfl) dX11_hole_8 (fun r2 z_r2 h => ?_)
  refine v_if_eq (tgt := 28) dX11_hole_11 rfl (fun c3 => ?_) (fun c3 => ?_)
  · have h := Ok.pos h c3
    refine v_lconst dX11_hole_28 kl_0 ?_
    have h := Ok.ret h
    exact v_lret rfl (Nat.zero_le _) (Nat.zero_le _) dX11_hole_29 h
  · have h := Ok.neg h c3
    refine v_aload_n 0 dX11_hole_14 rfl ?_
    refine gM_79 dX11_hole_15 ?_
    refine v_bipush dX11_hole_18 kb_40 ?_
    refine v_iload_n 1 dX11_hole_20 rfl ?_
    refine v_imul dX11_hole_21 ?_
    refine v_iload_n 2 dX11_hole_22 rfl ?_
    refine v_iadd dX11_hole_23 ?_
    obtain ⟨g4, h⟩ := Ok.guard h
    refine lM_22 g4 dX11_hole_24 ?_
    refine v_goto (tgt := 29) dX11_hole_25 rfl ?_
    have h := Ok.ret h
    exact v_lret rfl (Nat.zero_le _) (Nat.zero_le _) dX11_hole_29 h
def fM_moved (s : tt_St) (x1 : Int32) (x2 : Int32) : Option (Int64 × tt_St) :=
  nm (wrI s 0 0 0 (0 : Int32)) fun s1 => (fM_areBoth s1 x1 x2).bind fun r2 => if r2.1 = 0 then some ((0 : Int64), r2.2) else if inB (((40 : Int32) * x1) + x2) 1000 then some (rdL r2.2 23 0 (((40 : Int32) * x1) + x2).toNatClampNeg, r2.2) else none
abbrev rM_moved : Room := { frames := 2, cells := 0, slots := 0, locals := 47 }
set_option maxHeartbeats 4000000 in
theorem mM_moved (l : Launch) (D : va_G) (dA : Nat → ClassId) (A : Nat → Prop) (lc : Nat → Nat → Nat) (s : tt_St) (x1 : Int32) (x2 : Int32) {Q : Option Value → (Nat → Nat → Nat) → tt_St → Prop} (h : Ok (fM_moved s x1 x2) (fun r => Q (some (.long r.1)) lc r.2)) : tt_Sp (XM l D dA A) yX11_moved cX11_moved 3 (some .long) rM_moved [.ref (lc 0 0), .int x1, .int x2] lc s Q := by
  refine tt_Sp.ofV plM kokM (Nat.le_of_ble_eq_true rfl) ?_
  show tt_V (XM l D dA A) cX11_moved (RX11, 3, (some .long), rM_moved, tt_nt) (tt_fn (XM l D dA A) (RX11, 3, (some .long), rM_moved, tt_nt) Q) 0 [(0, .ref (lc 0 0)), (1, .int x1), (2, .int x2)] [] lc s 0 0
  unfold fM_moved at h
  refine v_aload_n 0 dX11_moved_0 rfl ?_
  refine v_iconst dX11_moved_1 ic_0 ?_
  refine pM_1 dX11_moved_2 ?_
  refine v_nmS (fun s1 e_s1 => ?_)
  have h := Ok.nm h e_s1
  refine v_aload_n 0 dX11_moved_5 rfl ?_
  refine v_iload_n 1 dX11_moved_6 rfl ?_
  refine v_iload_n 2 dX11_moved_7 rfl ?_
  refine cM_434 (Ok.bind h) ⟨Nat.le_of_ble_eq_true rfl, Nat.le_of_ble_eq_true rfl⟩ (Nat.le_of_ble_eq_true rfl) dX11_moved_8 (fun r2 z_r2 h => ?_)
  refine v_if_eq (tgt := 28) dX11_moved_11 rfl (fun c3 => ?_) (fun c3 => ?_)
  · have h := Ok.pos h c3
    refine v_lconst dX11_moved_28 kl_0 ?_
    have h := Ok.ret h
    exact v_lret rfl (Nat.zero_le _) (Nat.zero_le _) dX11_moved_29 h
  · have h := Ok.neg h c3
    refine v_aload_n 0 dX11_moved_14 rfl ?_
    refine gM_82 dX11_moved_15 ?_
    refine v_bipush dX11_moved_18 kb_40 ?_
    refine v_iload_n 1 dX11_moved_20 rfl ?_
    refine v_imul dX11_moved_21 ?_
    refine v_iload_n 2 dX11_moved_22 rfl ?_
    refine v_iadd dX11_moved_23 ?_
    obtain ⟨g4, h⟩ := Ok.guard h
    refine lM_23 g4 dX11_moved_24 ?_
    refine v_goto (tgt := 29) dX11_moved_25 rfl ?_
    have h := Ok.ret h
    exact v_lret rfl (Nat.zero_le _) (Nat.zero_le _) dX11_moved_29 h
def fM_bears (s : tt_St) (x1 : Int32) (x2 : Int32) : Option (Int64 × tt_St) :=
  nm (wrI s 0 0 0 (0 : Int32)) fun s1 => (fM_isHarmOne s1 x1).bind fun r2 => if r2.1 = 0 then some ((0 : Int64), r2.2) else (fM_within x2.toInt64 (0 : Int64) (9 : Int64)).bind fun r4 => (fM_needs r2.2 r4 (2 : Int32) (1 : Int32)).bind fun r5 => if r5.1 = 0 then some ((0 : Int64), r5.2) else (fM_bearsOf r5.2 x1 x2).bind fun r7 => some (r7, r5.2)
abbrev rM_bears : Room := { frames := 2, cells := 0, slots := 0, locals := 46 }
set_option maxHeartbeats 4000000 in
theorem mM_bears (l : Launch) (D : va_G) (dA : Nat → ClassId) (A : Nat → Prop) (lc : Nat → Nat → Nat) (s : tt_St) (x1 : Int32) (x2 : Int32) {Q : Option Value → (Nat → Nat → Nat) → tt_St → Prop} (h : Ok (fM_bears s x1 x2) (fun r => Q (some (.long r.1)) lc r.2)) : tt_Sp (XM l D dA A) yX11_bears cX11_bears 3 (some .long) rM_bears [.ref (lc 0 0), .int x1, .int x2] lc s Q := by
  refine tt_Sp.ofV plM kokM (Nat.le_of_ble_eq_true rfl) ?_
  show tt_V (XM l D dA A) cX11_bears (RX11, 3, (some .long), rM_bears, tt_nt) (tt_fn (XM l D dA A) (RX11, 3, (some .long), rM_bears, tt_nt) Q) 0 [(0, .ref (lc 0 0)), (1, .int x1), (2, .int x2)] [] lc s 0 0
  unfold fM_bears at h
  refine v_aload_n 0 dX11_bears_0 rfl ?_
  refine v_iconst dX11_bears_1 ic_0 ?_
  refine pM_1 dX11_bears_2 ?_
  refine v_nmS (fun s1 e_s1 => ?_)
  have h := Ok.nm h e_s1
  refine v_aload_n 0 dX11_bears_5 rfl ?_
  refine v_iload_n 1 dX11_bears_6 rfl ?_
  refine cM_397 (Ok.bind h) ⟨Nat.le_of_ble_eq_true rfl, Nat.le_of_ble_eq_true rfl⟩ (Nat.le_of_ble_eq_true rfl) dX11_bears_7 (fun r2 z_r2 h => ?_)
  refine v_if_eq (tgt := 31) dX11_bears_10 rfl (fun c3 => ?_) (fun c3 => ?_)
  · have h := Ok.pos h c3
    refine v_lconst dX11_bears_31 kl_0 ?_
    have h := Ok.ret h
    exact v_lret rfl (Nat.zero_le _) (Nat.zero_le _) dX11_bears_32 h
  · have h := Ok.neg h c3
    refine v_aload_n 0 dX11_bears_13 rfl ?_
    refine v_iload_n 2 dX11_bears_14 rfl ?_
    refine v_i2l dX11_bears_15 rfl ?_
    refine v_lconst dX11_bears_16 kl_0 ?_
    refine v_ldc2 dX11_bears_17 q2131 ?_
    refine cM_352 (Ok.bind h) ⟨Nat.le_of_ble_eq_true rfl, Nat.le_of_ble_eq_true rfl⟩ (Nat.le_of_ble_eq_true rfl) dX11_bears_20 (fun r4 z_r4 h => ?_)
    refine v_iconst dX11_bears_23 ic_2 ?_
    refine v_iconst dX11_bears_24 ic_1 ?_
    refine cM_346 (Ok.bind h) ⟨Nat.le_of_ble_eq_true rfl, Nat.le_of_ble_eq_true rfl⟩ (Nat.le_of_ble_eq_true rfl) dX11_bears_25 (fun r5 z_r5 h => ?_)
    refine v_if_ne (tgt := 33) dX11_bears_28 rfl (fun c6 => ?_) (fun c6 => ?_)
    · have h := Ok.neg h c6
      refine v_aload_n 0 dX11_bears_33 rfl ?_
      refine v_iload_n 1 dX11_bears_34 rfl ?_
      refine v_iload_n 2 dX11_bears_35 rfl ?_
      refine cM_280 (Ok.bind h) ⟨Nat.le_of_ble_eq_true rfl, Nat.le_of_ble_eq_true rfl⟩ (Nat.le_of_ble_eq_true rfl) dX11_bears_36 (fun r7 h => ?_)
      have h := Ok.ret h
      exact v_lret rfl (Nat.zero_le _) (Nat.zero_le _) dX11_bears_39 h
    · have h := Ok.pos h c6
      refine v_lconst dX11_bears_31 kl_0 ?_
      have h := Ok.ret h
      exact v_lret rfl (Nat.zero_le _) (Nat.zero_le _) dX11_bears_32 h
def fM_falls (s : tt_St) (x1 : Int32) (x2 : Int32) : Option (Int64 × tt_St) :=
  nm (wrI s 0 0 0 (0 : Int32)) fun s1 => (fM_isHarmOne s1 x1).bind fun r2 => if r2.1 = 0 then some ((0 : Int64), r2.2) else (fM_within x2.toInt64 (0 : Int64) (6 : Int64)).bind fun r4 => (fM_needs r2.2 r4 (2 : Int32) (1 : Int32)).bind fun r5 => if r5.1 = 0 then some ((0 : Int64), r5.2) else if inB (((7 : Int32) * x1) + x2) 175 then some (rdL r5.2 26 0 (((7 : Int32) * x1) + x2).toNatClampNeg, r5.2) else none
abbrev rM_falls : Room := { frames := 2, cells := 0, slots := 0, locals := 46 }
set_option maxHeartbeats 4000000 in
theorem mM_falls (l : Launch) (D : va_G) (dA : Nat → ClassId) (A : Nat → Prop) (lc : Nat → Nat → Nat) (s : tt_St) (x1 : Int32) (x2 : Int32) {Q : Option Value → (Nat → Nat → Nat) → tt_St → Prop} (h : Ok (fM_falls s x1 x2) (fun r => Q (some (.long r.1)) lc r.2)) : tt_Sp (XM l D dA A) yX11_falls cX11_falls 3 (some .long) rM_falls [.ref (lc 0 0), .int x1, .int x2] lc s Q := by
  refine tt_Sp.ofV plM kokM (Nat.le_of_ble_eq_true rfl) ?_
  show tt_V (XM l D dA A) cX11_falls (RX11, 3, (some .long), rM_falls, tt_nt) (tt_fn (XM l D dA A) (RX11, 3, (some .long), rM_falls, tt_nt) Q) 0 [(0, .ref (lc 0 0)), (1, .int x1), (2, .int x2)] [] lc s 0 0
  unfold fM_falls at h
  refine v_aload_n 0 dX11_falls_0 rfl ?_
  refine v_iconst dX11_falls_1 ic_0 ?_
  refine pM_1 dX11_falls_2 ?_
  refine v_nmS (fun s1 e_s1 => ?_)
  have h := Ok.nm h e_s1
  refine v_aload_n 0 dX11_falls_5 rfl ?_
  refine v_iload_n 1 dX11_falls_6 rfl ?_
  refine cM_397 (Ok.bind h) ⟨Nat.le_of_ble_eq_true rfl, Nat.le_of_ble_eq_true rfl⟩ (Nat.le_of_ble_eq_true rfl) dX11_falls_7 (fun r2 z_r2 h => ?_)
  refine v_if_eq (tgt := 31) dX11_falls_10 rfl (fun c3 => ?_) (fun c3 => ?_)
  · have h := Ok.pos h c3
    refine v_lconst dX11_falls_31 kl_0 ?_
    have h := Ok.ret h
    exact v_lret rfl (Nat.zero_le _) (Nat.zero_le _) dX11_falls_32 h
  · have h := Ok.neg h c3
    refine v_aload_n 0 dX11_falls_13 rfl ?_
    refine v_iload_n 2 dX11_falls_14 rfl ?_
    refine v_i2l dX11_falls_15 rfl ?_
    refine v_lconst dX11_falls_16 kl_0 ?_
    refine v_ldc2 dX11_falls_17 q2256 ?_
    refine cM_352 (Ok.bind h) ⟨Nat.le_of_ble_eq_true rfl, Nat.le_of_ble_eq_true rfl⟩ (Nat.le_of_ble_eq_true rfl) dX11_falls_20 (fun r4 z_r4 h => ?_)
    refine v_iconst dX11_falls_23 ic_2 ?_
    refine v_iconst dX11_falls_24 ic_1 ?_
    refine cM_346 (Ok.bind h) ⟨Nat.le_of_ble_eq_true rfl, Nat.le_of_ble_eq_true rfl⟩ (Nat.le_of_ble_eq_true rfl) dX11_falls_25 (fun r5 z_r5 h => ?_)
    refine v_if_ne (tgt := 33) dX11_falls_28 rfl (fun c6 => ?_) (fun c6 => ?_)
    · have h := Ok.neg h c6
      refine v_aload_n 0 dX11_falls_33 rfl ?_
      refine gM_91 dX11_falls_34 ?_
      refine v_bipush dX11_falls_37 kb_7 ?_
      refine v_iload_n 1 dX11_falls_39 rfl ?_
      refine v_imul dX11_falls_40 ?_
      refine v_iload_n 2 dX11_falls_41 rfl ?_
      refine v_iadd dX11_falls_42 ?_
      obtain ⟨g7, h⟩ := Ok.guard h
      refine lM_26 g7 dX11_falls_43 ?_
      have h := Ok.ret h
      exact v_lret rfl (Nat.zero_le _) (Nat.zero_le _) dX11_falls_44 h
    · have h := Ok.pos h c6
      refine v_lconst dX11_falls_31 kl_0 ?_
      have h := Ok.ret h
      exact v_lret rfl (Nat.zero_le _) (Nat.zero_le _) dX11_falls_32 h
def fM_cashOf_L17 (s : tt_St) (a2 : Int64 × Int32) : Option ((Int64 × Int32) ⊕ (Int64 × Int32)) :=
  if (10 : Int32) ≤ a2.2 then some (.inr (a2.1, a2.2)) else if inB a2.2 10 then nm (a2.1 + ((rdI s 28 0 a2.2.toNatClampNeg).toInt64)) fun v6 => some (.inl (v6, (a2.2 + 1 : Int32))) else none
def fM_cashOf (s : tt_St) (x1 : Int32) : Option (Int64) :=
  if x1 ≤ 0 then (itr (fM_cashOf_L17 s) tt_fuel ((0 : Int64), (1 : Int32))).bind fun b3 => some b3.1 else if inB x1 10 then some ((rdI s 28 0 x1.toNatClampNeg).toInt64) else none
abbrev rM_cashOf : Room := { frames := 0, cells := 0, slots := 0, locals := 0 }
set_option maxHeartbeats 4000000 in
theorem mM_cashOf (l : Launch) (D : va_G) (dA : Nat → ClassId) (A : Nat → Prop) (lc : Nat → Nat → Nat) (s : tt_St) (x1 : Int32) {Q : Option Value → (Nat → Nat → Nat) → tt_St → Prop} (h : Ok (fM_cashOf s x1) (fun r => Q (some (.long r)) lc s)) : tt_Sp (XM l D dA A) yX11_cashOf cX11_cashOf 5 (some .long) rM_cashOf [.ref (lc 0 0), .int x1] lc s Q := by
  refine tt_Sp.ofV plM kokM (Nat.le_of_ble_eq_true rfl) ?_
  show tt_V (XM l D dA A) cX11_cashOf (RX11, 5, (some .long), rM_cashOf, tt_nt) (tt_fn (XM l D dA A) (RX11, 5, (some .long), rM_cashOf, tt_nt) Q) 0 [(0, .ref (lc 0 0)), (1, .int x1)] [] lc s 0 0
  unfold fM_cashOf at h
  refine v_iload_n 1 dX11_cashOf_0 rfl ?_
  refine v_if_le (tgt := 12) dX11_cashOf_1 rfl (fun c1 => ?_) (fun c1 => ?_)
  · have h := Ok.pos h c1
    refine v_lconst dX11_cashOf_12 kl_0 ?_
    refine v_lstore_n [(2, .long (0 : Int64)), (0, .ref (lc 0 0)), (1, .int x1)] dX11_cashOf_13 (Nat.le_of_ble_eq_true rfl) rfl ?_
    refine v_iconst dX11_cashOf_14 ic_1 ?_
    refine v_istore [(4, .int (1 : Int32)), (2, .long (0 : Int64)), (0, .ref (lc 0 0)), (1, .int x1)] dX11_cashOf_15 (Nat.le_of_ble_eq_true rfl) rfl ?_
    refine v_sub [2, 1, 0] rfl ?_
    refine itr_loop (P := fun a2 : Int64 × Int32 => tt_V (XM l D dA A) cX11_cashOf (RX11, 5, (some .long), rM_cashOf, tt_nt) (tt_fn (XM l D dA A) (RX11, 5, (some .long), rM_cashOf, tt_nt) Q) 17 [(0, .ref (lc 0 0)), (2, .long a2.1), (4, .int a2.2)] [] lc s 0 0) (PE := fun b3 : Int64 × Int32 => tt_V (XM l D dA A) cX11_cashOf (RX11, 5, (some .long), rM_cashOf, tt_nt) (tt_fn (XM l D dA A) (RX11, 5, (some .long), rM_cashOf, tt_nt) Q) 41 [(0, .ref (lc 0 0)), (2, .long b3.1), (4, .int b3.2)] [] lc s 0 0) h (fun b3 h => ?_) (fun a2 h => ?_)
    · refine v_lload_n 1 dX11_cashOf_41 rfl ?_
      have h := Ok.ret h
      exact v_lret rfl (Nat.zero_le _) (Nat.zero_le _) dX11_cashOf_42 h
    · have h : Ok (fM_cashOf_L17 s a2) _ := h
      unfold fM_cashOf_L17 at h
      refine v_iload 2 dX11_cashOf_17 rfl ?_
      refine v_bipush dX11_cashOf_19 kb_10 ?_
      refine v_icmp_ge (tgt := 41) dX11_cashOf_21 rfl (fun c4 => ?_) (fun c4 => ?_)
      · have h := Ok.pos h c4
        have h := Ok.ret h
        exact h
      · have h := Ok.neg h c4
        refine v_lload_n 1 dX11_cashOf_24 rfl ?_
        refine v_aload_n 0 dX11_cashOf_25 rfl ?_
        refine gM_97 dX11_cashOf_26 ?_
        refine v_iload 2 dX11_cashOf_29 rfl ?_
        obtain ⟨g5, h⟩ := Ok.guard h
        refine lM_28 g5 dX11_cashOf_31 ?_
        refine v_i2l dX11_cashOf_32 rfl ?_
        refine v_ladd dX11_cashOf_33 ?_
        refine v_nmL (fun v6 e_v6 => ?_)
        have h := Ok.nm h e_v6
        refine v_lstore_n [(2, .long v6), (0, .ref (lc 0 0)), (4, .int a2.2)] dX11_cashOf_34 (Nat.le_of_ble_eq_true rfl) rfl ?_
        refine v_iinc (v := (a2.2 + 1 : Int32)) 2 [(4, .int (a2.2 + 1 : Int32)), (2, .long v6), (0, .ref (lc 0 0))] dX11_cashOf_35 rfl (by rw [ic_1]) (Nat.le_of_ble_eq_true rfl) rfl ?_
        refine v_goto (tgt := 17) dX11_cashOf_38 rfl ?_
        refine v_sub [2, 1, 0] rfl ?_
        have h := Ok.ret h
        exact h
  · have h := Ok.neg h c1
    refine v_aload_n 0 dX11_cashOf_4 rfl ?_
    refine gM_97 dX11_cashOf_5 ?_
    refine v_iload_n 1 dX11_cashOf_8 rfl ?_
    obtain ⟨g7, h⟩ := Ok.guard h
    refine lM_28 g7 dX11_cashOf_9 ?_
    refine v_i2l dX11_cashOf_10 rfl ?_
    have h := Ok.ret h
    exact v_lret rfl (Nat.zero_le _) (Nat.zero_le _) dX11_cashOf_11 h
theorem cM_440 {l : Launch} {D : va_G} {dA : Nat → ClassId} {A : Nat → Prop} {lc : Nat → Nat → Nat} {s : tt_St} {cc : ByteArray} {nl : Nat} {rt : Option FieldType} {rm : Room} {tn : tt_Tn} {Q : tt_Fin} {pc : Nat} {lv : List (Nat × Value)} {rest : List Value} {ck cn : Nat} {x1 : Int32} {K : Int64 → Prop} (h : Ok (fM_cashOf s x1) K) (hR : 0 + 1 ≤ rm.frames ∧ 8 + (5 + 11) + 0 ≤ rm.locals) (hW : (rest.map fun v => v.category).sum ≤ 8) (d : decode cc pc = .ok (.invokevirtual 440, 3)) (kk : ∀ r, K r → tt_V (XM l D dA A) cc (RX11, nl, rt, rm, tn) Q (pc + 3) lv (.long r :: rest) lc s ck cn) (hf : ck ≤ rm.cells ∧ cn ≤ rm.slots := by exact ⟨Nat.zero_le _, Nat.zero_le _⟩) : tt_V (XM l D dA A) cc (RX11, nl, rt, rm, tn) Q pc lv (.int x1 :: .ref (lc 0 0) :: rest) lc s ck cn :=
  v_callV (kd := 0) (i := 0) (nA := 1) (As := [.int x1]) lvM_0 oM rfl (mM_cashOf l D dA A lc s x1 (Q := (fun v lc' s' => ∃ r, K r ∧ v = some (.long r) ∧ lc' = lc ∧ s' = s)) (h.mono (fun r hr => ⟨r, hr, rfl, rfl, rfl⟩))) (lw_V q2317 q2319 qs117 q154 q2320) (by decide +kernel) rfl hR hW hf d rfl (fun v lc' s' q => by obtain ⟨r, hr, e1, e2, e3⟩ := q; rw [e1, e2, e3]; exact kk r hr)
def fM_signedBy_L15 (s : tt_St) (x1 : Int32) (x2 : Int32) (a1 : Int64 × Int32) (a4 : Int64 × Int32) : Option ((Int64 × Int32) ⊕ (Int64 × Int32)) :=
  if inB a1.2 40 then if (rdI s 6 0 a1.2.toNatClampNeg) = 0 then some (.inr (a4.1, a4.2)) else if (rdI s 12 0 a1.2.toNatClampNeg) ≤ a4.2 then some (.inr (a4.1, a4.2)) else if inB (((4 : Int32) * a1.2) + a4.2) 160 then if (rdI s 13 0 (((4 : Int32) * a1.2) + a4.2).toNatClampNeg) = x1 then if x2 = 0 then nm (a4.1 + (1 : Int64)) fun v14 => some (.inl (v14, (a4.2 + 1 : Int32))) else (fM_left s a1.2).bind fun r12 => nm (a4.1 + ((r12 * ((rdI s 14 0 (((4 : Int32) * a1.2) + a4.2).toNatClampNeg).toInt64)) / (10 : Int64))) fun v13 => some (.inl (v13, (a4.2 + 1 : Int32))) else some (.inl (a4.1, (a4.2 + 1 : Int32))) else none else none
def fM_signedBy_L5 (s : tt_St) (x1 : Int32) (x2 : Int32) (a1 : Int64 × Int32) : Option ((Int64 × Int32) ⊕ (Int64 × Int32)) :=
  if (40 : Int32) ≤ a1.2 then some (.inr (a1.1, a1.2)) else (itr (fM_signedBy_L15 s x1 x2 a1) tt_fuel (a1.1, (0 : Int32))).bind fun b5 => some (.inl (b5.1, (a1.2 + 1 : Int32)))
def fM_signedBy (s : tt_St) (x1 : Int32) (x2 : Int32) : Option (Int64) :=
  (itr (fM_signedBy_L5 s x1 x2) tt_fuel ((0 : Int64), (0 : Int32))).bind fun b2 => some b2.1
abbrev rM_signedBy : Room := { frames := 1, cells := 0, slots := 0, locals := 21 }
set_option maxHeartbeats 4000000 in
theorem mM_signedBy (l : Launch) (D : va_G) (dA : Nat → ClassId) (A : Nat → Prop) (lc : Nat → Nat → Nat) (s : tt_St) (x1 : Int32) (x2 : Int32) {Q : Option Value → (Nat → Nat → Nat) → tt_St → Prop} (h : Ok (fM_signedBy s x1 x2) (fun r => Q (some (.long r)) lc s)) : tt_Sp (XM l D dA A) yX11_signedBy cX11_signedBy 7 (some .long) rM_signedBy [.ref (lc 0 0), .int x1, .int x2] lc s Q := by
  refine tt_Sp.ofV plM kokM (Nat.le_of_ble_eq_true rfl) ?_
  show tt_V (XM l D dA A) cX11_signedBy (RX11, 7, (some .long), rM_signedBy, tt_nt) (tt_fn (XM l D dA A) (RX11, 7, (some .long), rM_signedBy, tt_nt) Q) 0 [(0, .ref (lc 0 0)), (1, .int x1), (2, .int x2)] [] lc s 0 0
  unfold fM_signedBy at h
  refine v_lconst dX11_signedBy_0 kl_0 ?_
  refine v_lstore_n [(3, .long (0 : Int64)), (0, .ref (lc 0 0)), (1, .int x1), (2, .int x2)] dX11_signedBy_1 (Nat.le_of_ble_eq_true rfl) rfl ?_
  refine v_iconst dX11_signedBy_2 ic_0 ?_
  refine v_istore [(5, .int (0 : Int32)), (3, .long (0 : Int64)), (0, .ref (lc 0 0)), (1, .int x1), (2, .int x2)] dX11_signedBy_3 (Nat.le_of_ble_eq_true rfl) rfl ?_
  refine v_sub [2, 3, 4, 1, 0] rfl ?_
  refine itr_loop (P := fun a1 : Int64 × Int32 => tt_V (XM l D dA A) cX11_signedBy (RX11, 7, (some .long), rM_signedBy, tt_nt) (tt_fn (XM l D dA A) (RX11, 7, (some .long), rM_signedBy, tt_nt) Q) 5 [(0, .ref (lc 0 0)), (1, .int x1), (2, .int x2), (3, .long a1.1), (5, .int a1.2)] [] lc s 0 0) (PE := fun b2 : Int64 × Int32 => tt_V (XM l D dA A) cX11_signedBy (RX11, 7, (some .long), rM_signedBy, tt_nt) (tt_fn (XM l D dA A) (RX11, 7, (some .long), rM_signedBy, tt_nt) Q) 100 [(0, .ref (lc 0 0)), (1, .int x1), (2, .int x2), (3, .long b2.1), (5, .int b2.2)] [] lc s 0 0) h (fun b2 h => ?_) (fun a1 h => ?_)
  · refine v_lload_n 3 dX11_signedBy_100 rfl ?_
    have h := Ok.ret h
    exact v_lret rfl (Nat.zero_le _) (Nat.zero_le _) dX11_signedBy_101 h
  · have h : Ok (fM_signedBy_L5 s x1 x2 a1) _ := h
    unfold fM_signedBy_L5 at h
    refine v_iload 4 dX11_signedBy_5 rfl ?_
    refine v_bipush dX11_signedBy_7 kb_40 ?_
    refine v_icmp_ge (tgt := 100) dX11_signedBy_9 rfl (fun c3 => ?_) (fun c3 => ?_)
    · have h := Ok.pos h c3
      have h := Ok.ret h
      exact h
    · have h := Ok.neg h c3
      refine v_iconst dX11_signedBy_12 ic_0 ?_
      refine v_istore [(6, .int (0 : Int32)), (0, .ref (lc 0 0)), (1, .int x1), (2, .int x2), (3, .long a1.1), (5, .int a1.2)] dX11_signedBy_13 (Nat.le_of_ble_eq_true rfl) rfl ?_
      refine v_sub [1, 2, 3, 4, 5, 0] rfl ?_
      refine itr_loop (P := fun a4 : Int64 × Int32 => tt_V (XM l D dA A) cX11_signedBy (RX11, 7, (some .long), rM_signedBy, tt_nt) (tt_fn (XM l D dA A) (RX11, 7, (some .long), rM_signedBy, tt_nt) Q) 15 [(0, .ref (lc 0 0)), (1, .int x1), (2, .int x2), (3, .long a4.1), (5, .int a1.2), (6, .int a4.2)] [] lc s 0 0) (PE := fun b5 : Int64 × Int32 => tt_V (XM l D dA A) cX11_signedBy (RX11, 7, (some .long), rM_signedBy, tt_nt) (tt_fn (XM l D dA A) (RX11, 7, (some .long), rM_signedBy, tt_nt) Q) 94 [(0, .ref (lc 0 0)), (1, .int x1), (2, .int x2), (3, .long b5.1), (5, .int a1.2), (6, .int b5.2)] [] lc s 0 0) h (fun b5 h => ?_) (fun a4 h => ?_)
      · refine v_iinc (v := (a1.2 + 1 : Int32)) 4 [(5, .int (a1.2 + 1 : Int32)), (0, .ref (lc 0 0)), (1, .int x1), (2, .int x2), (3, .long b5.1), (6, .int b5.2)] dX11_signedBy_94 rfl (by rw [ic_1]) (Nat.le_of_ble_eq_true rfl) rfl ?_
        refine v_goto (tgt := 5) dX11_signedBy_97 rfl ?_
        refine v_sub [1, 2, 3, 4, 0] rfl ?_
        have h := Ok.ret h
        exact h
      · have h : Ok (fM_signedBy_L15 s x1 x2 a1 a4) _ := h
        unfold fM_signedBy_L15 at h
        refine v_aload_n 0 dX11_signedBy_15 rfl ?_
        refine gM_29 dX11_signedBy_16 ?_
        refine v_iload 4 dX11_signedBy_19 rfl ?_
        obtain ⟨g6, h⟩ := Ok.guard h
        refine lM_6 g6 dX11_signedBy_21 ?_
        refine v_if_eq (tgt := 94) dX11_signedBy_22 rfl (fun c7 => ?_) (fun c7 => ?_)
        · have h := Ok.pos h c7
          have h := Ok.ret h
          exact h
        · have h := Ok.neg h c7
          refine v_iload 5 dX11_signedBy_25 rfl ?_
          refine v_aload_n 0 dX11_signedBy_27 rfl ?_
          refine gM_48 dX11_signedBy_28 ?_
          refine v_iload 4 dX11_signedBy_31 rfl ?_
          refine lM_12 g6 dX11_signedBy_33 ?_
          refine v_icmp_ge (tgt := 94) dX11_signedBy_34 rfl (fun c8 => ?_) (fun c8 => ?_)
          · have h := Ok.pos h c8
            have h := Ok.ret h
            exact h
          · have h := Ok.neg h c8
            refine v_aload_n 0 dX11_signedBy_37 rfl ?_
            refine gM_51 dX11_signedBy_38 ?_
            refine v_iconst dX11_signedBy_41 ic_4 ?_
            refine v_iload 4 dX11_signedBy_42 rfl ?_
            refine v_imul dX11_signedBy_44 ?_
            refine v_iload 5 dX11_signedBy_45 rfl ?_
            refine v_iadd dX11_signedBy_47 ?_
            obtain ⟨g9, h⟩ := Ok.guard h
            refine lM_13 g9 dX11_signedBy_48 ?_
            refine v_iload_n 1 dX11_signedBy_49 rfl ?_
            refine v_icmp_ne (tgt := 88) dX11_signedBy_50 rfl (fun c10 => ?_) (fun c10 => ?_)
            · have h := Ok.neg h c10
              refine v_iinc (v := (a4.2 + 1 : Int32)) 5 [(6, .int (a4.2 + 1 : Int32)), (0, .ref (lc 0 0)), (1, .int x1), (2, .int x2), (3, .long a4.1), (5, .int a1.2)] dX11_signedBy_88 rfl (by rw [ic_1]) (Nat.le_of_ble_eq_true rfl) rfl ?_
              refine v_goto (tgt := 15) dX11_signedBy_91 rfl ?_
              refine v_sub [1, 2, 3, 4, 5, 0] rfl ?_
              have h := Ok.ret h
              exact h
            · have h := Ok.pos h c10
              refine v_lload_n 3 dX11_signedBy_53 rfl ?_
              refine v_iload_n 2 dX11_signedBy_54 rfl ?_
              refine v_if_ne (tgt := 62) dX11_signedBy_55 rfl (fun c11 => ?_) (fun c11 => ?_)
              · have h := Ok.neg h c11
                refine v_aload_n 0 dX11_signedBy_62 rfl ?_
                refine v_iload 4 dX11_signedBy_63 rfl ?_
                refine cM_175 (Ok.bind h) ⟨Nat.le_of_ble_eq_true rfl, Nat.le_of_ble_eq_true rfl⟩ (Nat.le_of_ble_eq_true rfl) dX11_signedBy_65 (fun r12 h => ?_)
                refine v_aload_n 0 dX11_signedBy_68 rfl ?_
                refine gM_54 dX11_signedBy_69 ?_
                refine v_iconst dX11_signedBy_72 ic_4 ?_
                refine v_iload 4 dX11_signedBy_73 rfl ?_
                refine v_imul dX11_signedBy_75 ?_
                refine v_iload 5 dX11_signedBy_76 rfl ?_
                refine v_iadd dX11_signedBy_78 ?_
                refine lM_14 g9 dX11_signedBy_79 ?_
                refine v_i2l dX11_signedBy_80 rfl ?_
                refine v_lmul dX11_signedBy_81 ?_
                refine v_ldc2 dX11_signedBy_82 q2105 ?_
                refine v_ldiv dX11_signedBy_85 (by decide) ?_
                refine v_ladd dX11_signedBy_86 ?_
                refine v_nmL (fun v13 e_v13 => ?_)
                have h := Ok.nm h e_v13
                refine v_lstore_n [(3, .long v13), (0, .ref (lc 0 0)), (1, .int x1), (2, .int x2), (5, .int a1.2), (6, .int a4.2)] dX11_signedBy_87 (Nat.le_of_ble_eq_true rfl) rfl ?_
                refine v_iinc (v := (a4.2 + 1 : Int32)) 5 [(6, .int (a4.2 + 1 : Int32)), (3, .long v13), (0, .ref (lc 0 0)), (1, .int x1), (2, .int x2), (5, .int a1.2)] dX11_signedBy_88 rfl (by rw [ic_1]) (Nat.le_of_ble_eq_true rfl) rfl ?_
                refine v_goto (tgt := 15) dX11_signedBy_91 rfl ?_
                refine v_sub [2, 3, 4, 1, 5, 0] rfl ?_
                have h := Ok.ret h
                exact h
              · have h := Ok.pos h c11
                refine v_lconst dX11_signedBy_58 kl_1 ?_
                refine v_goto (tgt := 86) dX11_signedBy_59 rfl ?_
                refine v_ladd dX11_signedBy_86 ?_
                refine v_nmL (fun v14 e_v14 => ?_)
                have h := Ok.nm h e_v14
                refine v_lstore_n [(3, .long v14), (0, .ref (lc 0 0)), (1, .int x1), (2, .int x2), (5, .int a1.2), (6, .int a4.2)] dX11_signedBy_87 (Nat.le_of_ble_eq_true rfl) rfl ?_
                refine v_iinc (v := (a4.2 + 1 : Int32)) 5 [(6, .int (a4.2 + 1 : Int32)), (3, .long v14), (0, .ref (lc 0 0)), (1, .int x1), (2, .int x2), (5, .int a1.2)] dX11_signedBy_88 rfl (by rw [ic_1]) (Nat.le_of_ble_eq_true rfl) rfl ?_
                refine v_goto (tgt := 15) dX11_signedBy_91 rfl ?_
                refine v_sub [2, 3, 4, 1, 5, 0] rfl ?_
                have h := Ok.ret h
                exact h
theorem cM_443 {l : Launch} {D : va_G} {dA : Nat → ClassId} {A : Nat → Prop} {lc : Nat → Nat → Nat} {s : tt_St} {cc : ByteArray} {nl : Nat} {rt : Option FieldType} {rm : Room} {tn : tt_Tn} {Q : tt_Fin} {pc : Nat} {lv : List (Nat × Value)} {rest : List Value} {ck cn : Nat} {x1 : Int32} {x2 : Int32} {K : Int64 → Prop} (h : Ok (fM_signedBy s x1 x2) K) (hR : 1 + 1 ≤ rm.frames ∧ 8 + (7 + 11) + 21 ≤ rm.locals) (hW : (rest.map fun v => v.category).sum ≤ 8) (d : decode cc pc = .ok (.invokevirtual 443, 3)) (kk : ∀ r, K r → tt_V (XM l D dA A) cc (RX11, nl, rt, rm, tn) Q (pc + 3) lv (.long r :: rest) lc s ck cn) (hf : ck ≤ rm.cells ∧ cn ≤ rm.slots := by exact ⟨Nat.zero_le _, Nat.zero_le _⟩) : tt_V (XM l D dA A) cc (RX11, nl, rt, rm, tn) Q pc lv (.int x2 :: .int x1 :: .ref (lc 0 0) :: rest) lc s ck cn :=
  v_callV (kd := 0) (i := 0) (nA := 2) (As := [.int x1, .int x2]) lvM_0 oM rfl (mM_signedBy l D dA A lc s x1 x2 (Q := (fun v lc' s' => ∃ r, K r ∧ v = some (.long r) ∧ lc' = lc ∧ s' = s)) (h.mono (fun r hr => ⟨r, hr, rfl, rfl, rfl⟩))) (lw_V q2321 q2323 qs118 q154 q2324) (by decide +kernel) rfl hR hW hf d rfl (fun v lc' s' q => by obtain ⟨r, hr, e1, e2, e3⟩ := q; rw [e1, e2, e3]; exact kk r hr)
def fM_insurer (s : tt_St) (x1 : Int32) (x2 : Int32) : Option (Int64 × tt_St) :=
  nm (wrI s 0 0 0 (0 : Int32)) fun s1 => (fM_within x1.toInt64 (0 : Int64) (9 : Int64)).bind fun r2 => (if r2 = 0 then some (0 : Int32) else (fM_within x2.toInt64 (0 : Int64) (4 : Int64)).bind fun r5 => if r5 = 0 then some (0 : Int32) else some (1 : Int32) : Option (Int32)).bind fun t3 => (fM_needs s1 t3 (1 : Int32) (1 : Int32)).bind fun r7 => if r7.1 = 0 then some ((0 : Int64), r7.2) else if (3 : Int32) ≤ x2 then (fM_signedBy r7.2 x1 (x2 - (3 : Int32))).bind fun r10 => some (r10, r7.2) else if x2 = 0 then (fM_bearsAll r7.2 x1).bind fun r15 => some (r15, r7.2) else if x2 = (1 : Int32) then if inB x1 10 then some ((rdI r7.2 27 0 x1.toNatClampNeg).toInt64, r7.2) else none else (fM_cashOf r7.2 x1).bind fun r13 => some (r13, r7.2)
abbrev rM_insurer : Room := { frames := 3, cells := 0, slots := 0, locals := 70 }
set_option maxHeartbeats 4000000 in
theorem mM_insurer (l : Launch) (D : va_G) (dA : Nat → ClassId) (A : Nat → Prop) (lc : Nat → Nat → Nat) (s : tt_St) (x1 : Int32) (x2 : Int32) {Q : Option Value → (Nat → Nat → Nat) → tt_St → Prop} (h : Ok (fM_insurer s x1 x2) (fun r => Q (some (.long r.1)) lc r.2)) : tt_Sp (XM l D dA A) yX11_insurer cX11_insurer 3 (some .long) rM_insurer [.ref (lc 0 0), .int x1, .int x2] lc s Q := by
  refine tt_Sp.ofV plM kokM (Nat.le_of_ble_eq_true rfl) ?_
  show tt_V (XM l D dA A) cX11_insurer (RX11, 3, (some .long), rM_insurer, tt_nt) (tt_fn (XM l D dA A) (RX11, 3, (some .long), rM_insurer, tt_nt) Q) 0 [(0, .ref (lc 0 0)), (1, .int x1), (2, .int x2)] [] lc s 0 0
  unfold fM_insurer at h
  refine v_aload_n 0 dX11_insurer_0 rfl ?_
  refine v_iconst dX11_insurer_1 ic_0 ?_
  refine pM_1 dX11_insurer_2 ?_
  refine v_nmS (fun s1 e_s1 => ?_)
  have h := Ok.nm h e_s1
  refine v_aload_n 0 dX11_insurer_5 rfl ?_
  refine v_iload_n 1 dX11_insurer_6 rfl ?_
  refine v_i2l dX11_insurer_7 rfl ?_
  refine v_lconst dX11_insurer_8 kl_0 ?_
  refine v_ldc2 dX11_insurer_9 q2131 ?_
  refine cM_352 (Ok.bind h) ⟨Nat.le_of_ble_eq_true rfl, Nat.le_of_ble_eq_true rfl⟩ (Nat.le_of_ble_eq_true rfl) dX11_insurer_12 (fun r2 z_r2 h => ?_)
  have h := Ok.join (PJ := fun t3 : Int32 => tt_V (XM l D dA A) cX11_insurer (RX11, 3, (some .long), rM_insurer, tt_nt) (tt_fn (XM l D dA A) (RX11, 3, (some .long), rM_insurer, tt_nt) Q) 35 [(0, .ref (lc 0 0)), (1, .int x1), (2, .int x2)] [.int t3, .ref (lc 0 0)] lc s1 0 0) h (fun t3 h => by
    refine v_iconst dX11_insurer_35 ic_1 ?_
    refine v_iconst dX11_insurer_36 ic_1 ?_
    refine cM_346 (Ok.bind h) ⟨Nat.le_of_ble_eq_true rfl, Nat.le_of_ble_eq_true rfl⟩ (Nat.le_of_ble_eq_true rfl) dX11_insurer_37 (fun r7 z_r7 h => ?_)
    refine v_if_ne (tgt := 45) dX11_insurer_40 rfl (fun c8 => ?_) (fun c8 => ?_)
    · have h := Ok.neg h c8
      refine v_iload_n 2 dX11_insurer_45 rfl ?_
      refine v_iconst dX11_insurer_46 ic_3 ?_
      refine v_icmp_ge (tgt := 83) dX11_insurer_47 rfl (fun c9 => ?_) (fun c9 => ?_)
      · have h := Ok.pos h c9
        refine v_aload_n 0 dX11_insurer_83 rfl ?_
        refine v_iload_n 1 dX11_insurer_84 rfl ?_
        refine v_iload_n 2 dX11_insurer_85 rfl ?_
        refine v_iconst dX11_insurer_86 ic_3 ?_
        refine v_isub dX11_insurer_87 ?_
        refine cM_443 (Ok.bind h) ⟨Nat.le_of_ble_eq_true rfl, Nat.le_of_ble_eq_true rfl⟩ (Nat.le_of_ble_eq_true rfl) dX11_insurer_88 (fun r10 h => ?_)
        have h := Ok.ret h
        exact v_lret rfl (Nat.zero_le _) (Nat.zero_le _) dX11_insurer_91 h
      · have h := Ok.neg h c9
        refine v_iload_n 2 dX11_insurer_50 rfl ?_
        refine v_if_ne (tgt := 62) dX11_insurer_51 rfl (fun c11 => ?_) (fun c11 => ?_)
        · have h := Ok.neg h c11
          refine v_iload_n 2 dX11_insurer_62 rfl ?_
          refine v_iconst dX11_insurer_63 ic_1 ?_
          refine v_icmp_ne (tgt := 77) dX11_insurer_64 rfl (fun c12 => ?_) (fun c12 => ?_)
          · have h := Ok.neg h c12
            refine v_aload_n 0 dX11_insurer_77 rfl ?_
            refine v_iload_n 1 dX11_insurer_78 rfl ?_
            refine cM_440 (Ok.bind h) ⟨Nat.le_of_ble_eq_true rfl, Nat.le_of_ble_eq_true rfl⟩ (Nat.le_of_ble_eq_true rfl) dX11_insurer_79 (fun r13 h => ?_)
            have h := Ok.ret h
            exact v_lret rfl (Nat.zero_le _) (Nat.zero_le _) dX11_insurer_82 h
          · have h := Ok.pos h c12
            refine v_aload_n 0 dX11_insurer_67 rfl ?_
            refine gM_94 dX11_insurer_68 ?_
            refine v_iload_n 1 dX11_insurer_71 rfl ?_
            obtain ⟨g14, h⟩ := Ok.guard h
            refine lM_27 g14 dX11_insurer_72 ?_
            refine v_i2l dX11_insurer_73 rfl ?_
            refine v_goto (tgt := 82) dX11_insurer_74 rfl ?_
            have h := Ok.ret h
            exact v_lret rfl (Nat.zero_le _) (Nat.zero_le _) dX11_insurer_82 h
        · have h := Ok.pos h c11
          refine v_aload_n 0 dX11_insurer_54 rfl ?_
          refine v_iload_n 1 dX11_insurer_55 rfl ?_
          refine cM_437 (Ok.bind h) ⟨Nat.le_of_ble_eq_true rfl, Nat.le_of_ble_eq_true rfl⟩ (Nat.le_of_ble_eq_true rfl) dX11_insurer_56 (fun r15 h => ?_)
          refine v_goto (tgt := 82) dX11_insurer_59 rfl ?_
          have h := Ok.ret h
          exact v_lret rfl (Nat.zero_le _) (Nat.zero_le _) dX11_insurer_82 h
    · have h := Ok.pos h c8
      refine v_lconst dX11_insurer_43 kl_0 ?_
      have h := Ok.ret h
      exact v_lret rfl (Nat.zero_le _) (Nat.zero_le _) dX11_insurer_44 h)
  refine v_if_eq (tgt := 34) dX11_insurer_15 rfl (fun c4 => ?_) (fun c4 => ?_)
  · have h := Ok.pos h c4
    refine v_iconst dX11_insurer_34 ic_0 ?_
    have h := Ok.ret h
    exact h
  · have h := Ok.neg h c4
    refine v_iload_n 2 dX11_insurer_18 rfl ?_
    refine v_i2l dX11_insurer_19 rfl ?_
    refine v_lconst dX11_insurer_20 kl_0 ?_
    refine v_ldc2 dX11_insurer_21 q1923 ?_
    refine cM_352 (Ok.bind h) ⟨Nat.le_of_ble_eq_true rfl, Nat.le_of_ble_eq_true rfl⟩ (Nat.le_of_ble_eq_true rfl) dX11_insurer_24 (fun r5 z_r5 h => ?_)
    refine v_if_eq (tgt := 34) dX11_insurer_27 rfl (fun c6 => ?_) (fun c6 => ?_)
    · have h := Ok.pos h c6
      refine v_iconst dX11_insurer_34 ic_0 ?_
      have h := Ok.ret h
      exact h
    · have h := Ok.neg h c6
      refine v_iconst dX11_insurer_30 ic_1 ?_
      refine v_goto (tgt := 35) dX11_insurer_31 rfl ?_
      have h := Ok.ret h
      exact h
def fM_burden_L30 (x1 : Int32) (r3 : Int32 × tt_St) (a5 : Int64 × Int32) : Option ((Int64 × Int32) ⊕ (Int64 × Int32)) :=
  if (24 : Int32) ≤ a5.2 then some (.inr (a5.1, a5.2)) else if inB a5.2 25 then if (rdI r3.2 7 0 a5.2.toNatClampNeg) = 0 then nm (a5.1 + (0 : Int64)) fun v10 => some (.inl (v10, (a5.2 + 1 : Int32))) else if inB (((7 : Int32) * a5.2) + x1) 175 then nm (a5.1 + (rdL r3.2 26 0 (((7 : Int32) * a5.2) + x1).toNatClampNeg)) fun v12 => some (.inl (v12, (a5.2 + 1 : Int32))) else none else none
def fM_burden (s : tt_St) (x1 : Int32) : Option (Int64 × tt_St) :=
  nm (wrI s 0 0 0 (0 : Int32)) fun s1 => (fM_within x1.toInt64 (0 : Int64) (6 : Int64)).bind fun r2 => (fM_needs s1 r2 (1 : Int32) (1 : Int32)).bind fun r3 => if r3.1 = 0 then some ((0 : Int64), r3.2) else (itr (fM_burden_L30 x1 r3) tt_fuel ((0 : Int64), (0 : Int32))).bind fun b6 => some (b6.1, r3.2)
abbrev rM_burden : Room := { frames := 1, cells := 0, slots := 0, locals := 25 }
set_option maxHeartbeats 4000000 in
theorem mM_burden (l : Launch) (D : va_G) (dA : Nat → ClassId) (A : Nat → Prop) (lc : Nat → Nat → Nat) (s : tt_St) (x1 : Int32) {Q : Option Value → (Nat → Nat → Nat) → tt_St → Prop} (h : Ok (fM_burden s x1) (fun r => Q (some (.long r.1)) lc r.2)) : tt_Sp (XM l D dA A) yX11_burden cX11_burden 5 (some .long) rM_burden [.ref (lc 0 0), .int x1] lc s Q := by
  refine tt_Sp.ofV plM kokM (Nat.le_of_ble_eq_true rfl) ?_
  show tt_V (XM l D dA A) cX11_burden (RX11, 5, (some .long), rM_burden, tt_nt) (tt_fn (XM l D dA A) (RX11, 5, (some .long), rM_burden, tt_nt) Q) 0 [(0, .ref (lc 0 0)), (1, .int x1)] [] lc s 0 0
  unfold fM_burden at h
  refine v_aload_n 0 dX11_burden_0 rfl ?_
  refine v_iconst dX11_burden_1 ic_0 ?_
  refine pM_1 dX11_burden_2 ?_
  refine v_nmS (fun s1 e_s1 => ?_)
  have h := Ok.nm h e_s1
  refine v_aload_n 0 dX11_burden_5 rfl ?_
  refine v_iload_n 1 dX11_burden_6 rfl ?_
  refine v_i2l dX11_burden_7 rfl ?_
  refine v_lconst dX11_burden_8 kl_0 ?_
  refine v_ldc2 dX11_burden_9 q2256 ?_
  refine cM_352 (Ok.bind h) ⟨Nat.le_of_ble_eq_true rfl, Nat.le_of_ble_eq_true rfl⟩ (Nat.le_of_ble_eq_true rfl) dX11_burden_12 (fun r2 z_r2 h => ?_)
  refine v_iconst dX11_burden_15 ic_1 ?_
  refine v_iconst dX11_burden_16 ic_1 ?_
  refine cM_346 (Ok.bind h) ⟨Nat.le_of_ble_eq_true rfl, Nat.le_of_ble_eq_true rfl⟩ (Nat.le_of_ble_eq_true rfl) dX11_burden_17 (fun r3 z_r3 h => ?_)
  refine v_if_ne (tgt := 25) dX11_burden_20 rfl (fun c4 => ?_) (fun c4 => ?_)
  · have h := Ok.neg h c4
    refine v_lconst dX11_burden_25 kl_0 ?_
    refine v_lstore_n [(2, .long (0 : Int64)), (0, .ref (lc 0 0)), (1, .int x1)] dX11_burden_26 (Nat.le_of_ble_eq_true rfl) rfl ?_
    refine v_iconst dX11_burden_27 ic_0 ?_
    refine v_istore [(4, .int (0 : Int32)), (2, .long (0 : Int64)), (0, .ref (lc 0 0)), (1, .int x1)] dX11_burden_28 (Nat.le_of_ble_eq_true rfl) rfl ?_
    refine v_sub [2, 3, 1, 0] rfl ?_
    refine itr_loop (P := fun a5 : Int64 × Int32 => tt_V (XM l D dA A) cX11_burden (RX11, 5, (some .long), rM_burden, tt_nt) (tt_fn (XM l D dA A) (RX11, 5, (some .long), rM_burden, tt_nt) Q) 30 [(0, .ref (lc 0 0)), (1, .int x1), (2, .long a5.1), (4, .int a5.2)] [] lc r3.2 0 0) (PE := fun b6 : Int64 × Int32 => tt_V (XM l D dA A) cX11_burden (RX11, 5, (some .long), rM_burden, tt_nt) (tt_fn (XM l D dA A) (RX11, 5, (some .long), rM_burden, tt_nt) Q) 72 [(0, .ref (lc 0 0)), (1, .int x1), (2, .long b6.1), (4, .int b6.2)] [] lc r3.2 0 0) h (fun b6 h => ?_) (fun a5 h => ?_)
    · refine v_lload_n 2 dX11_burden_72 rfl ?_
      have h := Ok.ret h
      exact v_lret rfl (Nat.zero_le _) (Nat.zero_le _) dX11_burden_73 h
    · have h : Ok (fM_burden_L30 x1 r3 a5) _ := h
      unfold fM_burden_L30 at h
      refine v_iload 3 dX11_burden_30 rfl ?_
      refine v_bipush dX11_burden_32 kb_24 ?_
      refine v_icmp_ge (tgt := 72) dX11_burden_34 rfl (fun c7 => ?_) (fun c7 => ?_)
      · have h := Ok.pos h c7
        have h := Ok.ret h
        exact h
      · have h := Ok.neg h c7
        refine v_lload_n 2 dX11_burden_37 rfl ?_
        refine v_aload_n 0 dX11_burden_38 rfl ?_
        refine gM_33 dX11_burden_39 ?_
        refine v_iload 3 dX11_burden_42 rfl ?_
        obtain ⟨g8, h⟩ := Ok.guard h
        refine lM_7 g8 dX11_burden_44 ?_
        refine v_if_eq (tgt := 63) dX11_burden_45 rfl (fun c9 => ?_) (fun c9 => ?_)
        · have h := Ok.pos h c9
          refine v_lconst dX11_burden_63 kl_0 ?_
          refine v_ladd dX11_burden_64 ?_
          refine v_nmL (fun v10 e_v10 => ?_)
          have h := Ok.nm h e_v10
          refine v_lstore_n [(2, .long v10), (0, .ref (lc 0 0)), (1, .int x1), (4, .int a5.2)] dX11_burden_65 (Nat.le_of_ble_eq_true rfl) rfl ?_
          refine v_iinc (v := (a5.2 + 1 : Int32)) 3 [(4, .int (a5.2 + 1 : Int32)), (2, .long v10), (0, .ref (lc 0 0)), (1, .int x1)] dX11_burden_66 rfl (by rw [ic_1]) (Nat.le_of_ble_eq_true rfl) rfl ?_
          refine v_goto (tgt := 30) dX11_burden_69 rfl ?_
          refine v_sub [2, 3, 1, 0] rfl ?_
          have h := Ok.ret h
          exact h
        · have h := Ok.neg h c9
          refine v_aload_n 0 dX11_burden_48 rfl ?_
          refine gM_91 dX11_burden_49 ?_
          refine v_bipush dX11_burden_52 kb_7 ?_
          refine v_iload 3 dX11_burden_54 rfl ?_
          refine v_imul dX11_burden_56 ?_
          refine v_iload_n 1 dX11_burden_57 rfl ?_
          refine v_iadd dX11_burden_58 ?_
          obtain ⟨g11, h⟩ := Ok.guard h
          refine lM_26 g11 dX11_burden_59 ?_
          refine v_goto (tgt := 64) dX11_burden_60 rfl ?_
          refine v_ladd dX11_burden_64 ?_
          refine v_nmL (fun v12 e_v12 => ?_)
          have h := Ok.nm h e_v12
          refine v_lstore_n [(2, .long v12), (0, .ref (lc 0 0)), (1, .int x1), (4, .int a5.2)] dX11_burden_65 (Nat.le_of_ble_eq_true rfl) rfl ?_
          refine v_iinc (v := (a5.2 + 1 : Int32)) 3 [(4, .int (a5.2 + 1 : Int32)), (2, .long v12), (0, .ref (lc 0 0)), (1, .int x1)] dX11_burden_66 rfl (by rw [ic_1]) (Nat.le_of_ble_eq_true rfl) rfl ?_
          refine v_goto (tgt := 30) dX11_burden_69 rfl ?_
          refine v_sub [2, 3, 1, 0] rfl ?_
          have h := Ok.ret h
          exact h
  · have h := Ok.pos h c4
    refine v_lconst dX11_burden_23 kl_0 ?_
    have h := Ok.ret h
    exact v_lret rfl (Nat.zero_le _) (Nat.zero_le _) dX11_burden_24 h
def fM_rank_L38 (r3 : Int32 × tt_St) (a5 : Int32) (a8 : Int32 × Int32) : Option ((Int32 × Int32) ⊕ (Int32 × Int32)) :=
  if (10 : Int32) ≤ a8.2 then some (.inr (a8.1, a8.2)) else (fM_bearsAll r3.2 a8.2).bind fun r11 => (fM_bearsAll r3.2 a5).bind fun r12 => if r12 < r11 then nm (a8.1 + (1 : Int32)) fun v14 => some (.inl (v14, (a8.2 + 1 : Int32))) else (fM_bearsAll r3.2 a8.2).bind fun r15 => (fM_bearsAll r3.2 a5).bind fun r16 => if r15 = r16 then if a5 ≤ a8.2 then nm (a8.1 + (0 : Int32)) fun v20 => some (.inl (v20, (a8.2 + 1 : Int32))) else nm (a8.1 + (1 : Int32)) fun v21 => some (.inl (v21, (a8.2 + 1 : Int32))) else nm (a8.1 + (0 : Int32)) fun v18 => some (.inl (v18, (a8.2 + 1 : Int32)))
def fM_rank_L27 (x1 : Int32) (r3 : Int32 × tt_St) (a5 : Int32) : Option ((Int32) ⊕ (Int32) ⊕ (Int32 × tt_St)) :=
  if (10 : Int32) ≤ a5 then some (.inr (.inl a5)) else (itr (fM_rank_L38 r3 a5) tt_fuel ((0 : Int32), (0 : Int32))).bind fun b9 => if b9.1 = x1 then some (.inr (.inr (a5, r3.2))) else some (.inl (a5 + 1 : Int32))
def fM_rank (s : tt_St) (x1 : Int32) : Option (Int32 × tt_St) :=
  nm (wrI s 0 0 0 (0 : Int32)) fun s1 => (fM_within x1.toInt64 (0 : Int64) (9 : Int64)).bind fun r2 => (fM_needs s1 r2 (1 : Int32) (1 : Int32)).bind fun r3 => if r3.1 = 0 then some ((0 : Int32), r3.2) else (itr (fM_rank_L27 x1 r3) tt_fuel (0 : Int32)).bind fun q_b6 => orRet q_b6 fun b6 => some ((-1 : Int32), r3.2)
abbrev rM_rank : Room := { frames := 3, cells := 0, slots := 0, locals := 70 }
set_option maxHeartbeats 4000000 in
theorem mM_rank (l : Launch) (D : va_G) (dA : Nat → ClassId) (A : Nat → Prop) (lc : Nat → Nat → Nat) (s : tt_St) (x1 : Int32) {Q : Option Value → (Nat → Nat → Nat) → tt_St → Prop} (h : Ok (fM_rank s x1) (fun r => Q (some (.int r.1)) lc r.2)) : tt_Sp (XM l D dA A) yX11_rank cX11_rank 5 (some .int) rM_rank [.ref (lc 0 0), .int x1] lc s Q := by
  refine tt_Sp.ofV plM kokM (Nat.le_of_ble_eq_true rfl) ?_
  show tt_V (XM l D dA A) cX11_rank (RX11, 5, (some .int), rM_rank, tt_nt) (tt_fn (XM l D dA A) (RX11, 5, (some .int), rM_rank, tt_nt) Q) 0 [(0, .ref (lc 0 0)), (1, .int x1)] [] lc s 0 0
  unfold fM_rank at h
  refine v_aload_n 0 dX11_rank_0 rfl ?_
  refine v_iconst dX11_rank_1 ic_0 ?_
  refine pM_1 dX11_rank_2 ?_
  refine v_nmS (fun s1 e_s1 => ?_)
  have h := Ok.nm h e_s1
  refine v_aload_n 0 dX11_rank_5 rfl ?_
  refine v_iload_n 1 dX11_rank_6 rfl ?_
  refine v_i2l dX11_rank_7 rfl ?_
  refine v_lconst dX11_rank_8 kl_0 ?_
  refine v_ldc2 dX11_rank_9 q2131 ?_
  refine cM_352 (Ok.bind h) ⟨Nat.le_of_ble_eq_true rfl, Nat.le_of_ble_eq_true rfl⟩ (Nat.le_of_ble_eq_true rfl) dX11_rank_12 (fun r2 z_r2 h => ?_)
  refine v_iconst dX11_rank_15 ic_1 ?_
  refine v_iconst dX11_rank_16 ic_1 ?_
  refine cM_346 (Ok.bind h) ⟨Nat.le_of_ble_eq_true rfl, Nat.le_of_ble_eq_true rfl⟩ (Nat.le_of_ble_eq_true rfl) dX11_rank_17 (fun r3 z_r3 h => ?_)
  refine v_if_ne (tgt := 25) dX11_rank_20 rfl (fun c4 => ?_) (fun c4 => ?_)
  · have h := Ok.neg h c4
    refine v_iconst dX11_rank_25 ic_0 ?_
    refine v_istore_n [(2, .int (0 : Int32)), (0, .ref (lc 0 0)), (1, .int x1)] dX11_rank_26 (Nat.le_of_ble_eq_true rfl) rfl ?_
    refine v_sub [1, 2, 0] rfl ?_
    refine itr_loopR (P := fun a5 : Int32 => tt_V (XM l D dA A) cX11_rank (RX11, 5, (some .int), rM_rank, tt_nt) (tt_fn (XM l D dA A) (RX11, 5, (some .int), rM_rank, tt_nt) Q) 27 [(0, .ref (lc 0 0)), (1, .int x1), (2, .int a5)] [] lc r3.2 0 0) (PE := fun b6 : Int32 => tt_V (XM l D dA A) cX11_rank (RX11, 5, (some .int), rM_rank, tt_nt) (tt_fn (XM l D dA A) (RX11, 5, (some .int), rM_rank, tt_nt) Q) 108 [(0, .ref (lc 0 0)), (1, .int x1), (2, .int b6)] [] lc r3.2 0 0) h (fun b6 h => ?_) (fun a5 h => ?_)
    · refine v_iconst dX11_rank_108 ic_m1 ?_
      have h := Ok.ret h
      exact v_iret rfl (Nat.zero_le _) (Nat.zero_le _) dX11_rank_109 h
    · have h : Ok (fM_rank_L27 x1 r3 a5) _ := h
      unfold fM_rank_L27 at h
      refine v_iload_n 2 dX11_rank_27 rfl ?_
      refine v_bipush dX11_rank_28 kb_10 ?_
      refine v_icmp_ge (tgt := 108) dX11_rank_30 rfl (fun c7 => ?_) (fun c7 => ?_)
      · have h := Ok.pos h c7
        have h := Ok.ret h
        exact h
      · have h := Ok.neg h c7
        refine v_iconst dX11_rank_33 ic_0 ?_
        refine v_istore_n [(3, .int (0 : Int32)), (0, .ref (lc 0 0)), (1, .int x1), (2, .int a5)] dX11_rank_34 (Nat.le_of_ble_eq_true rfl) rfl ?_
        refine v_iconst dX11_rank_35 ic_0 ?_
        refine v_istore [(4, .int (0 : Int32)), (3, .int (0 : Int32)), (0, .ref (lc 0 0)), (1, .int x1), (2, .int a5)] dX11_rank_36 (Nat.le_of_ble_eq_true rfl) rfl ?_
        refine v_sub [2, 3, 4, 1, 0] rfl ?_
        refine itr_loop (P := fun a8 : Int32 × Int32 => tt_V (XM l D dA A) cX11_rank (RX11, 5, (some .int), rM_rank, tt_nt) (tt_fn (XM l D dA A) (RX11, 5, (some .int), rM_rank, tt_nt) Q) 38 [(0, .ref (lc 0 0)), (1, .int x1), (2, .int a5), (3, .int a8.1), (4, .int a8.2)] [] lc r3.2 0 0) (PE := fun b9 : Int32 × Int32 => tt_V (XM l D dA A) cX11_rank (RX11, 5, (some .int), rM_rank, tt_nt) (tt_fn (XM l D dA A) (RX11, 5, (some .int), rM_rank, tt_nt) Q) 95 [(0, .ref (lc 0 0)), (1, .int x1), (2, .int a5), (3, .int b9.1), (4, .int b9.2)] [] lc r3.2 0 0) h (fun b9 h => ?_) (fun a8 h => ?_)
        · refine v_iload_n 3 dX11_rank_95 rfl ?_
          refine v_iload_n 1 dX11_rank_96 rfl ?_
          refine v_icmp_ne (tgt := 102) dX11_rank_97 rfl (fun c22 => ?_) (fun c22 => ?_)
          · have h := Ok.neg h c22
            refine v_iinc (v := (a5 + 1 : Int32)) 2 [(2, .int (a5 + 1 : Int32)), (0, .ref (lc 0 0)), (1, .int x1), (3, .int b9.1), (4, .int b9.2)] dX11_rank_102 rfl (by rw [ic_1]) (Nat.le_of_ble_eq_true rfl) rfl ?_
            refine v_goto (tgt := 27) dX11_rank_105 rfl ?_
            refine v_sub [1, 2, 0] rfl ?_
            have h := Ok.ret h
            exact h
          · have h := Ok.pos h c22
            refine v_iload_n 2 dX11_rank_100 rfl ?_
            have h := Ok.ret h
            exact v_iret rfl (Nat.zero_le _) (Nat.zero_le _) dX11_rank_101 h
        · have h : Ok (fM_rank_L38 r3 a5 a8) _ := h
          unfold fM_rank_L38 at h
          refine v_iload 4 dX11_rank_38 rfl ?_
          refine v_bipush dX11_rank_40 kb_10 ?_
          refine v_icmp_ge (tgt := 95) dX11_rank_42 rfl (fun c10 => ?_) (fun c10 => ?_)
          · have h := Ok.pos h c10
            have h := Ok.ret h
            exact h
          · have h := Ok.neg h c10
            refine v_iload_n 3 dX11_rank_45 rfl ?_
            refine v_aload_n 0 dX11_rank_46 rfl ?_
            refine v_iload 4 dX11_rank_47 rfl ?_
            refine cM_437 (Ok.bind h) ⟨Nat.le_of_ble_eq_true rfl, Nat.le_of_ble_eq_true rfl⟩ (Nat.le_of_ble_eq_true rfl) dX11_rank_49 (fun r11 h => ?_)
            refine v_aload_n 0 dX11_rank_52 rfl ?_
            refine v_iload_n 2 dX11_rank_53 rfl ?_
            refine cM_437 (Ok.bind h) ⟨Nat.le_of_ble_eq_true rfl, Nat.le_of_ble_eq_true rfl⟩ (Nat.le_of_ble_eq_true rfl) dX11_rank_54 (fun r12 h => ?_)
            refine v_lif_gt (tgt := 82) dX11_rank_57 dX11_rank_58 rfl (fun c13 => ?_) (fun c13 => ?_)
            · have h := Ok.pos h c13
              refine v_iconst dX11_rank_82 ic_1 ?_
              refine v_goto (tgt := 87) dX11_rank_83 rfl ?_
              refine v_iadd dX11_rank_87 ?_
              refine v_nmI (fun v14 e_v14 => ?_)
              have h := Ok.nm h e_v14
              refine v_istore_n [(3, .int v14), (0, .ref (lc 0 0)), (1, .int x1), (2, .int a5), (4, .int a8.2)] dX11_rank_88 (Nat.le_of_ble_eq_true rfl) rfl ?_
              refine v_iinc (v := (a8.2 + 1 : Int32)) 4 [(4, .int (a8.2 + 1 : Int32)), (3, .int v14), (0, .ref (lc 0 0)), (1, .int x1), (2, .int a5)] dX11_rank_89 rfl (by rw [ic_1]) (Nat.le_of_ble_eq_true rfl) rfl ?_
              refine v_goto (tgt := 38) dX11_rank_92 rfl ?_
              refine v_sub [2, 3, 4, 1, 0] rfl ?_
              have h := Ok.ret h
              exact h
            · have h := Ok.neg h c13
              refine v_aload_n 0 dX11_rank_61 rfl ?_
              refine v_iload 4 dX11_rank_62 rfl ?_
              refine cM_437 (Ok.bind h) ⟨Nat.le_of_ble_eq_true rfl, Nat.le_of_ble_eq_true rfl⟩ (Nat.le_of_ble_eq_true rfl) dX11_rank_64 (fun r15 h => ?_)
              refine v_aload_n 0 dX11_rank_67 rfl ?_
              refine v_iload_n 2 dX11_rank_68 rfl ?_
              refine cM_437 (Ok.bind h) ⟨Nat.le_of_ble_eq_true rfl, Nat.le_of_ble_eq_true rfl⟩ (Nat.le_of_ble_eq_true rfl) dX11_rank_69 (fun r16 h => ?_)
              refine v_lif_ne (tgt := 86) dX11_rank_72 dX11_rank_73 rfl (fun c17 => ?_) (fun c17 => ?_)
              · have h := Ok.neg h c17
                refine v_iconst dX11_rank_86 ic_0 ?_
                refine v_iadd dX11_rank_87 ?_
                refine v_nmI (fun v18 e_v18 => ?_)
                have h := Ok.nm h e_v18
                refine v_istore_n [(3, .int v18), (0, .ref (lc 0 0)), (1, .int x1), (2, .int a5), (4, .int a8.2)] dX11_rank_88 (Nat.le_of_ble_eq_true rfl) rfl ?_
                refine v_iinc (v := (a8.2 + 1 : Int32)) 4 [(4, .int (a8.2 + 1 : Int32)), (3, .int v18), (0, .ref (lc 0 0)), (1, .int x1), (2, .int a5)] dX11_rank_89 rfl (by rw [ic_1]) (Nat.le_of_ble_eq_true rfl) rfl ?_
                refine v_goto (tgt := 38) dX11_rank_92 rfl ?_
                refine v_sub [2, 3, 4, 1, 0] rfl ?_
                have h := Ok.ret h
                exact h
              · have h := Ok.pos h c17
                refine v_iload 4 dX11_rank_76 rfl ?_
                refine v_iload_n 2 dX11_rank_78 rfl ?_
                refine v_icmp_ge (tgt := 86) dX11_rank_79 rfl (fun c19 => ?_) (fun c19 => ?_)
                · have h := Ok.pos h c19
                  refine v_iconst dX11_rank_86 ic_0 ?_
                  refine v_iadd dX11_rank_87 ?_
                  refine v_nmI (fun v20 e_v20 => ?_)
                  have h := Ok.nm h e_v20
                  refine v_istore_n [(3, .int v20), (0, .ref (lc 0 0)), (1, .int x1), (2, .int a5), (4, .int a8.2)] dX11_rank_88 (Nat.le_of_ble_eq_true rfl) rfl ?_
                  refine v_iinc (v := (a8.2 + 1 : Int32)) 4 [(4, .int (a8.2 + 1 : Int32)), (3, .int v20), (0, .ref (lc 0 0)), (1, .int x1), (2, .int a5)] dX11_rank_89 rfl (by rw [ic_1]) (Nat.le_of_ble_eq_true rfl) rfl ?_
                  refine v_goto (tgt := 38) dX11_rank_92 rfl ?_
                  refine v_sub [2, 3, 4, 1, 0] rfl ?_
                  have h := Ok.ret h
                  exact h
                · have h := Ok.neg h c19
                  refine v_iconst dX11_rank_82 ic_1 ?_
                  refine v_goto (tgt := 87) dX11_rank_83 rfl ?_
                  refine v_iadd dX11_rank_87 ?_
                  refine v_nmI (fun v21 e_v21 => ?_)
                  have h := Ok.nm h e_v21
                  refine v_istore_n [(3, .int v21), (0, .ref (lc 0 0)), (1, .int x1), (2, .int a5), (4, .int a8.2)] dX11_rank_88 (Nat.le_of_ble_eq_true rfl) rfl ?_
                  refine v_iinc (v := (a8.2 + 1 : Int32)) 4 [(4, .int (a8.2 + 1 : Int32)), (3, .int v21), (0, .ref (lc 0 0)), (1, .int x1), (2, .int a5)] dX11_rank_89 rfl (by rw [ic_1]) (Nat.le_of_ble_eq_true rfl) rfl ?_
                  refine v_goto (tgt := 38) dX11_rank_92 rfl ?_
                  refine v_sub [2, 3, 4, 1, 0] rfl ?_
                  have h := Ok.ret h
                  exact h
  · have h := Ok.pos h c4
    refine v_iconst dX11_rank_23 ic_0 ?_
    have h := Ok.ret h
    exact v_iret rfl (Nat.zero_le _) (Nat.zero_le _) dX11_rank_24 h
def fM_offs (s : tt_St) (x1 : Int32) (x2 : Int32) (x3 : Int32) (x4 : Int32) : Option (Int32 × tt_St) :=
  nm (wrI s 0 0 0 (0 : Int32)) fun s1 => (fM_areYears x1 x2 x3).bind fun r2 => (if r2 = 0 then some (0 : Int32) else (fM_within x4.toInt64 (0 : Int64) (3 : Int64)).bind fun r5 => if r5 = 0 then some (0 : Int32) else some (1 : Int32) : Option (Int32)).bind fun t3 => (fM_needs s1 t3 (1 : Int32) (1 : Int32)).bind fun r7 => if r7.1 = 0 then some ((0 : Int32), r7.2) else (fM_offsBy x1 x2 x3 x4).bind fun r9 => some (r9, r7.2)
abbrev rM_offs : Room := { frames := 1, cells := 0, slots := 0, locals := 27 }
set_option maxHeartbeats 4000000 in
theorem mM_offs (l : Launch) (D : va_G) (dA : Nat → ClassId) (A : Nat → Prop) (lc : Nat → Nat → Nat) (s : tt_St) (x1 : Int32) (x2 : Int32) (x3 : Int32) (x4 : Int32) {Q : Option Value → (Nat → Nat → Nat) → tt_St → Prop} (h : Ok (fM_offs s x1 x2 x3 x4) (fun r => Q (some (.int r.1)) lc r.2)) : tt_Sp (XM l D dA A) yX11_offs cX11_offs 5 (some .int) rM_offs [.ref (lc 0 0), .int x1, .int x2, .int x3, .int x4] lc s Q := by
  refine tt_Sp.ofV plM kokM (Nat.le_of_ble_eq_true rfl) ?_
  show tt_V (XM l D dA A) cX11_offs (RX11, 5, (some .int), rM_offs, tt_nt) (tt_fn (XM l D dA A) (RX11, 5, (some .int), rM_offs, tt_nt) Q) 0 [(0, .ref (lc 0 0)), (1, .int x1), (2, .int x2), (3, .int x3), (4, .int x4)] [] lc s 0 0
  unfold fM_offs at h
  refine v_aload_n 0 dX11_offs_0 rfl ?_
  refine v_iconst dX11_offs_1 ic_0 ?_
  refine pM_1 dX11_offs_2 ?_
  refine v_nmS (fun s1 e_s1 => ?_)
  have h := Ok.nm h e_s1
  refine v_aload_n 0 dX11_offs_5 rfl ?_
  refine v_iload_n 1 dX11_offs_6 rfl ?_
  refine v_iload_n 2 dX11_offs_7 rfl ?_
  refine v_iload_n 3 dX11_offs_8 rfl ?_
  refine cM_389 (Ok.bind h) ⟨Nat.le_of_ble_eq_true rfl, Nat.le_of_ble_eq_true rfl⟩ (Nat.le_of_ble_eq_true rfl) dX11_offs_9 (fun r2 z_r2 h => ?_)
  have h := Ok.join (PJ := fun t3 : Int32 => tt_V (XM l D dA A) cX11_offs (RX11, 5, (some .int), rM_offs, tt_nt) (tt_fn (XM l D dA A) (RX11, 5, (some .int), rM_offs, tt_nt) Q) 33 [(0, .ref (lc 0 0)), (1, .int x1), (2, .int x2), (3, .int x3), (4, .int x4)] [.int t3, .ref (lc 0 0)] lc s1 0 0) h (fun t3 h => by
    refine v_iconst dX11_offs_33 ic_1 ?_
    refine v_iconst dX11_offs_34 ic_1 ?_
    refine cM_346 (Ok.bind h) ⟨Nat.le_of_ble_eq_true rfl, Nat.le_of_ble_eq_true rfl⟩ (Nat.le_of_ble_eq_true rfl) dX11_offs_35 (fun r7 z_r7 h => ?_)
    refine v_if_eq (tgt := 53) dX11_offs_38 rfl (fun c8 => ?_) (fun c8 => ?_)
    · have h := Ok.pos h c8
      refine v_iconst dX11_offs_53 ic_0 ?_
      have h := Ok.ret h
      exact v_iret rfl (Nat.zero_le _) (Nat.zero_le _) dX11_offs_54 h
    · have h := Ok.neg h c8
      refine v_aload_n 0 dX11_offs_41 rfl ?_
      refine v_iload_n 1 dX11_offs_42 rfl ?_
      refine v_iload_n 2 dX11_offs_43 rfl ?_
      refine v_iload_n 3 dX11_offs_44 rfl ?_
      refine v_iload 4 dX11_offs_45 rfl ?_
      refine cM_190 (Ok.bind h) ⟨Nat.le_of_ble_eq_true rfl, Nat.le_of_ble_eq_true rfl⟩ (Nat.le_of_ble_eq_true rfl) dX11_offs_47 (fun r9 h => ?_)
      refine v_goto (tgt := 54) dX11_offs_50 rfl ?_
      have h := Ok.ret h
      exact v_iret rfl (Nat.zero_le _) (Nat.zero_le _) dX11_offs_54 h)
  refine v_if_eq (tgt := 32) dX11_offs_12 rfl (fun c4 => ?_) (fun c4 => ?_)
  · have h := Ok.pos h c4
    refine v_iconst dX11_offs_32 ic_0 ?_
    have h := Ok.ret h
    exact h
  · have h := Ok.neg h c4
    refine v_iload 4 dX11_offs_15 rfl ?_
    refine v_i2l dX11_offs_17 rfl ?_
    refine v_lconst dX11_offs_18 kl_0 ?_
    refine v_ldc2 dX11_offs_19 q2154 ?_
    refine cM_352 (Ok.bind h) ⟨Nat.le_of_ble_eq_true rfl, Nat.le_of_ble_eq_true rfl⟩ (Nat.le_of_ble_eq_true rfl) dX11_offs_22 (fun r5 z_r5 h => ?_)
    refine v_if_eq (tgt := 32) dX11_offs_25 rfl (fun c6 => ?_) (fun c6 => ?_)
    · have h := Ok.pos h c6
      refine v_iconst dX11_offs_32 ic_0 ?_
      have h := Ok.ret h
      exact h
    · have h := Ok.neg h c6
      refine v_iconst dX11_offs_28 ic_1 ?_
      refine v_goto (tgt := 33) dX11_offs_29 rfl ?_
      have h := Ok.ret h
      exact h
def fM_thinks (s : tt_St) (x1 : Int32) (x2 : Int32) (x3 : Int32) : Option (tt_St) :=
  if inB (24 : Int32) 25 then nm (wrI s 16 0 (24 : Int32).toNatClampNeg x1) fun s2 => nm (wrI s2 17 0 (24 : Int32).toNatClampNeg x2) fun s3 => nm (wrI s3 18 0 (24 : Int32).toNatClampNeg x3) fun s4 => (fM_clearsHarm s4 (24 : Int32)).bind fun r5 => some r5 else none
abbrev rM_thinks : Room := { frames := 1, cells := 0, slots := 0, locals := 22 }
set_option maxHeartbeats 4000000 in
theorem mM_thinks (l : Launch) (D : va_G) (dA : Nat → ClassId) (A : Nat → Prop) (lc : Nat → Nat → Nat) (s : tt_St) (x1 : Int32) (x2 : Int32) (x3 : Int32) {Q : Option Value → (Nat → Nat → Nat) → tt_St → Prop} (h : Ok (fM_thinks s x1 x2 x3) (fun r => Q none lc r)) : tt_Sp (XM l D dA A) yX11_thinks cX11_thinks 4 none rM_thinks [.ref (lc 0 0), .int x1, .int x2, .int x3] lc s Q := by
  refine tt_Sp.ofV plM kokM (Nat.le_of_ble_eq_true rfl) ?_
  show tt_V (XM l D dA A) cX11_thinks (RX11, 4, none, rM_thinks, tt_nt) (tt_fn (XM l D dA A) (RX11, 4, none, rM_thinks, tt_nt) Q) 0 [(0, .ref (lc 0 0)), (1, .int x1), (2, .int x2), (3, .int x3)] [] lc s 0 0
  unfold fM_thinks at h
  refine v_aload_n 0 dX11_thinks_0 rfl ?_
  refine gM_61 dX11_thinks_1 ?_
  refine v_bipush dX11_thinks_4 kb_24 ?_
  refine v_iload_n 1 dX11_thinks_6 rfl ?_
  obtain ⟨g1, h⟩ := Ok.guard h
  refine sM_16 g1 dX11_thinks_7 ?_
  refine v_nmS (fun s2 e_s2 => ?_)
  have h := Ok.nm h e_s2
  refine v_aload_n 0 dX11_thinks_8 rfl ?_
  refine gM_64 dX11_thinks_9 ?_
  refine v_bipush dX11_thinks_12 kb_24 ?_
  refine v_iload_n 2 dX11_thinks_14 rfl ?_
  refine sM_17 g1 dX11_thinks_15 ?_
  refine v_nmS (fun s3 e_s3 => ?_)
  have h := Ok.nm h e_s3
  refine v_aload_n 0 dX11_thinks_16 rfl ?_
  refine gM_67 dX11_thinks_17 ?_
  refine v_bipush dX11_thinks_20 kb_24 ?_
  refine v_iload_n 3 dX11_thinks_22 rfl ?_
  refine sM_18 g1 dX11_thinks_23 ?_
  refine v_nmS (fun s4 e_s4 => ?_)
  have h := Ok.nm h e_s4
  refine v_aload_n 0 dX11_thinks_24 rfl ?_
  refine v_bipush dX11_thinks_25 kb_24 ?_
  refine cM_145 (Ok.bind h) ⟨Nat.le_of_ble_eq_true rfl, Nat.le_of_ble_eq_true rfl⟩ (Nat.le_of_ble_eq_true rfl) dX11_thinks_27 (fun r5 h => ?_)
  have h := Ok.ret h
  exact v_vret rfl (Nat.zero_le _) (Nat.zero_le _) dX11_thinks_30 h
theorem cM_446 {l : Launch} {D : va_G} {dA : Nat → ClassId} {A : Nat → Prop} {lc : Nat → Nat → Nat} {s : tt_St} {cc : ByteArray} {nl : Nat} {rt : Option FieldType} {rm : Room} {tn : tt_Tn} {Q : tt_Fin} {pc : Nat} {lv : List (Nat × Value)} {rest : List Value} {ck cn : Nat} {x1 : Int32} {x2 : Int32} {x3 : Int32} {K : tt_St → Prop} (h : Ok (fM_thinks s x1 x2 x3) K) (hR : 1 + 1 ≤ rm.frames ∧ 8 + (4 + 11) + 22 ≤ rm.locals) (hW : (rest.map fun v => v.category).sum ≤ 8) (d : decode cc pc = .ok (.invokevirtual 446, 3)) (kk : ∀ r, K r → tt_V (XM l D dA A) cc (RX11, nl, rt, rm, tn) Q (pc + 3) lv rest lc r ck cn) (hf : ck ≤ rm.cells ∧ cn ≤ rm.slots := by exact ⟨Nat.zero_le _, Nat.zero_le _⟩) : tt_V (XM l D dA A) cc (RX11, nl, rt, rm, tn) Q pc lv (.int x3 :: .int x2 :: .int x1 :: .ref (lc 0 0) :: rest) lc s ck cn :=
  v_callV (kd := 0) (i := 0) (nA := 3) (As := [.int x1, .int x2, .int x3]) lvM_0 oM rfl (mM_thinks l D dA A lc s x1 x2 x3 (Q := (fun v lc' s' => ∃ r, K r ∧ v = none ∧ lc' = lc ∧ s' = r)) (h.mono (fun r hr => ⟨r, hr, rfl, rfl, rfl⟩))) (lw_V q2345 q2347 qs120 q154 q2348) (by decide +kernel) rfl hR hW hf d rfl (fun v lc' s' q => by obtain ⟨r, hr, e1, e2, e3⟩ := q; rw [e1, e2, e3]; exact kk r hr)
def fM_thinksOf (s : tt_St) (x1 : Int32) (x2 : Int32) (x3 : Int32) (x4 : Int32) : Option (tt_St) :=
  (fM_thinks s x1 x2 x3).bind fun r1 => (fM_spreads r1 (24 : Int32) x4.toInt64).bind fun r2 => some r2
abbrev rM_thinksOf : Room := { frames := 7, cells := 0, slots := 0, locals := 168 }
set_option maxHeartbeats 4000000 in
theorem mM_thinksOf (l : Launch) (D : va_G) (dA : Nat → ClassId) (A : Nat → Prop) (lc : Nat → Nat → Nat) (s : tt_St) (x1 : Int32) (x2 : Int32) (x3 : Int32) (x4 : Int32) {Q : Option Value → (Nat → Nat → Nat) → tt_St → Prop} (h : Ok (fM_thinksOf s x1 x2 x3 x4) (fun r => Q none lc r)) : tt_Sp (XM l D dA A) yX11_thinksOf cX11_thinksOf 5 none rM_thinksOf [.ref (lc 0 0), .int x1, .int x2, .int x3, .int x4] lc s Q := by
  refine tt_Sp.ofV plM kokM (Nat.le_of_ble_eq_true rfl) ?_
  show tt_V (XM l D dA A) cX11_thinksOf (RX11, 5, none, rM_thinksOf, tt_nt) (tt_fn (XM l D dA A) (RX11, 5, none, rM_thinksOf, tt_nt) Q) 0 [(0, .ref (lc 0 0)), (1, .int x1), (2, .int x2), (3, .int x3), (4, .int x4)] [] lc s 0 0
  unfold fM_thinksOf at h
  refine v_aload_n 0 dX11_thinksOf_0 rfl ?_
  refine v_iload_n 1 dX11_thinksOf_1 rfl ?_
  refine v_iload_n 2 dX11_thinksOf_2 rfl ?_
  refine v_iload_n 3 dX11_thinksOf_3 rfl ?_
  refine cM_446 (Ok.bind h) ⟨Nat.le_of_ble_eq_true rfl, Nat.le_of_ble_eq_true rfl⟩ (Nat.le_of_ble_eq_true rfl) dX11_thinksOf_4 (fun r1 h => ?_)
  refine v_aload_n 0 dX11_thinksOf_7 rfl ?_
  refine v_bipush dX11_thinksOf_8 kb_24 ?_
  refine v_iload 4 dX11_thinksOf_10 rfl ?_
  refine v_i2l dX11_thinksOf_12 rfl ?_
  refine cM_325 (Ok.bind h) ⟨Nat.le_of_ble_eq_true rfl, Nat.le_of_ble_eq_true rfl⟩ (Nat.le_of_ble_eq_true rfl) dX11_thinksOf_13 (fun r2 h => ?_)
  have h := Ok.ret h
  exact v_vret rfl (Nat.zero_le _) (Nat.zero_le _) dX11_thinksOf_16 h
theorem cM_449 {l : Launch} {D : va_G} {dA : Nat → ClassId} {A : Nat → Prop} {lc : Nat → Nat → Nat} {s : tt_St} {cc : ByteArray} {nl : Nat} {rt : Option FieldType} {rm : Room} {tn : tt_Tn} {Q : tt_Fin} {pc : Nat} {lv : List (Nat × Value)} {rest : List Value} {ck cn : Nat} {x1 : Int32} {x2 : Int32} {x3 : Int32} {x4 : Int32} {K : tt_St → Prop} (h : Ok (fM_thinksOf s x1 x2 x3 x4) K) (hR : 7 + 1 ≤ rm.frames ∧ 8 + (5 + 11) + 168 ≤ rm.locals) (hW : (rest.map fun v => v.category).sum ≤ 8) (d : decode cc pc = .ok (.invokevirtual 449, 3)) (kk : ∀ r, K r → tt_V (XM l D dA A) cc (RX11, nl, rt, rm, tn) Q (pc + 3) lv rest lc r ck cn) (hf : ck ≤ rm.cells ∧ cn ≤ rm.slots := by exact ⟨Nat.zero_le _, Nat.zero_le _⟩) : tt_V (XM l D dA A) cc (RX11, nl, rt, rm, tn) Q pc lv (.int x4 :: .int x3 :: .int x2 :: .int x1 :: .ref (lc 0 0) :: rest) lc s ck cn :=
  v_callV (kd := 0) (i := 0) (nA := 4) (As := [.int x1, .int x2, .int x3, .int x4]) lvM_0 oM rfl (mM_thinksOf l D dA A lc s x1 x2 x3 x4 (Q := (fun v lc' s' => ∃ r, K r ∧ v = none ∧ lc' = lc ∧ s' = r)) (h.mono (fun r hr => ⟨r, hr, rfl, rfl, rfl⟩))) (lw_V q2341 q2343 qs119 q154 q2344) (by decide +kernel) rfl hR hW hf d rfl (fun v lc' s' q => by obtain ⟨r, hr, e1, e2, e3⟩ := q; rw [e1, e2, e3]; exact kk r hr)
def fM_would (s : tt_St) (x1 : Int32) (x2 : Int32) (x3 : Int32) (x4 : Int32) (x5 : Int32) : Option (Int64 × tt_St) :=
  nm (wrI s 0 0 0 (0 : Int32)) fun s1 => (fM_areYears x1 x2 x3).bind fun r2 => (if r2 = 0 then some (0 : Int32) else (fM_isLoss x4).bind fun r5 => if r5 = 0 then some (0 : Int32) else (fM_within x5.toInt64 (0 : Int64) (9 : Int64)).bind fun r7 => if r7 = 0 then some (0 : Int32) else some (1 : Int32) : Option (Int32)).bind fun t3 => (fM_needs s1 t3 (1 : Int32) (1 : Int32)).bind fun r9 => if r9.1 = 0 then some ((0 : Int64), r9.2) else (fM_thinksOf r9.2 x1 x2 x3 x4).bind fun r11 => (fM_bearsOf r11 (24 : Int32) x5).bind fun r12 => (fM_goesOver r11).bind fun r13 => some (r12, r13)
abbrev rM_would : Room := { frames := 11, cells := 0, slots := 0, locals := 254 }
set_option maxHeartbeats 4000000 in
theorem mM_would (l : Launch) (D : va_G) (dA : Nat → ClassId) (A : Nat → Prop) (lc : Nat → Nat → Nat) (s : tt_St) (x1 : Int32) (x2 : Int32) (x3 : Int32) (x4 : Int32) (x5 : Int32) {Q : Option Value → (Nat → Nat → Nat) → tt_St → Prop} (h : Ok (fM_would s x1 x2 x3 x4 x5) (fun r => Q (some (.long r.1)) lc r.2)) : tt_Sp (XM l D dA A) yX11_would cX11_would 8 (some .long) rM_would [.ref (lc 0 0), .int x1, .int x2, .int x3, .int x4, .int x5] lc s Q := by
  refine tt_Sp.ofV plM kokM (Nat.le_of_ble_eq_true rfl) ?_
  show tt_V (XM l D dA A) cX11_would (RX11, 8, (some .long), rM_would, tt_nt) (tt_fn (XM l D dA A) (RX11, 8, (some .long), rM_would, tt_nt) Q) 0 [(0, .ref (lc 0 0)), (1, .int x1), (2, .int x2), (3, .int x3), (4, .int x4), (5, .int x5)] [] lc s 0 0
  unfold fM_would at h
  refine v_aload_n 0 dX11_would_0 rfl ?_
  refine v_iconst dX11_would_1 ic_0 ?_
  refine pM_1 dX11_would_2 ?_
  refine v_nmS (fun s1 e_s1 => ?_)
  have h := Ok.nm h e_s1
  refine v_aload_n 0 dX11_would_5 rfl ?_
  refine v_iload_n 1 dX11_would_6 rfl ?_
  refine v_iload_n 2 dX11_would_7 rfl ?_
  refine v_iload_n 3 dX11_would_8 rfl ?_
  refine cM_389 (Ok.bind h) ⟨Nat.le_of_ble_eq_true rfl, Nat.le_of_ble_eq_true rfl⟩ (Nat.le_of_ble_eq_true rfl) dX11_would_9 (fun r2 z_r2 h => ?_)
  have h := Ok.join (PJ := fun t3 : Int32 => tt_V (XM l D dA A) cX11_would (RX11, 8, (some .long), rM_would, tt_nt) (tt_fn (XM l D dA A) (RX11, 8, (some .long), rM_would, tt_nt) Q) 41 [(0, .ref (lc 0 0)), (1, .int x1), (2, .int x2), (3, .int x3), (4, .int x4), (5, .int x5)] [.int t3, .ref (lc 0 0)] lc s1 0 0) h (fun t3 h => by
    refine v_iconst dX11_would_41 ic_1 ?_
    refine v_iconst dX11_would_42 ic_1 ?_
    refine cM_346 (Ok.bind h) ⟨Nat.le_of_ble_eq_true rfl, Nat.le_of_ble_eq_true rfl⟩ (Nat.le_of_ble_eq_true rfl) dX11_would_43 (fun r9 z_r9 h => ?_)
    refine v_if_ne (tgt := 51) dX11_would_46 rfl (fun c10 => ?_) (fun c10 => ?_)
    · have h := Ok.neg h c10
      refine v_aload_n 0 dX11_would_51 rfl ?_
      refine v_iload_n 1 dX11_would_52 rfl ?_
      refine v_iload_n 2 dX11_would_53 rfl ?_
      refine v_iload_n 3 dX11_would_54 rfl ?_
      refine v_iload 4 dX11_would_55 rfl ?_
      refine cM_449 (Ok.bind h) ⟨Nat.le_of_ble_eq_true rfl, Nat.le_of_ble_eq_true rfl⟩ (Nat.le_of_ble_eq_true rfl) dX11_would_57 (fun r11 h => ?_)
      refine v_aload_n 0 dX11_would_60 rfl ?_
      refine v_bipush dX11_would_61 kb_24 ?_
      refine v_iload 5 dX11_would_63 rfl ?_
      refine cM_280 (Ok.bind h) ⟨Nat.le_of_ble_eq_true rfl, Nat.le_of_ble_eq_true rfl⟩ (Nat.le_of_ble_eq_true rfl) dX11_would_65 (fun r12 h => ?_)
      refine v_lstore [(6, .long r12), (0, .ref (lc 0 0)), (1, .int x1), (2, .int x2), (3, .int x3), (4, .int x4), (5, .int x5)] dX11_would_68 (Nat.le_of_ble_eq_true rfl) rfl ?_
      refine v_aload_n 1 dX11_would_70 rfl ?_
      refine cM_403 (Ok.bind h) ⟨Nat.le_of_ble_eq_true rfl, Nat.le_of_ble_eq_true rfl⟩ (Nat.le_of_ble_eq_true rfl) dX11_would_71 (fun r13 h => ?_)
      refine v_lload 0 dX11_would_74 rfl ?_
      have h := Ok.ret h
      exact v_lret rfl (Nat.zero_le _) (Nat.zero_le _) dX11_would_76 h
    · have h := Ok.pos h c10
      refine v_lconst dX11_would_49 kl_0 ?_
      have h := Ok.ret h
      exact v_lret rfl (Nat.zero_le _) (Nat.zero_le _) dX11_would_50 h)
  refine v_if_eq (tgt := 40) dX11_would_12 rfl (fun c4 => ?_) (fun c4 => ?_)
  · have h := Ok.pos h c4
    refine v_iconst dX11_would_40 ic_0 ?_
    have h := Ok.ret h
    exact h
  · have h := Ok.neg h c4
    refine v_iload 4 dX11_would_15 rfl ?_
    refine cM_392 (Ok.bind h) ⟨Nat.le_of_ble_eq_true rfl, Nat.le_of_ble_eq_true rfl⟩ (Nat.le_of_ble_eq_true rfl) dX11_would_17 (fun r5 z_r5 h => ?_)
    refine v_if_eq (tgt := 40) dX11_would_20 rfl (fun c6 => ?_) (fun c6 => ?_)
    · have h := Ok.pos h c6
      refine v_iconst dX11_would_40 ic_0 ?_
      have h := Ok.ret h
      exact h
    · have h := Ok.neg h c6
      refine v_iload 5 dX11_would_23 rfl ?_
      refine v_i2l dX11_would_25 rfl ?_
      refine v_lconst dX11_would_26 kl_0 ?_
      refine v_ldc2 dX11_would_27 q2131 ?_
      refine cM_352 (Ok.bind h) ⟨Nat.le_of_ble_eq_true rfl, Nat.le_of_ble_eq_true rfl⟩ (Nat.le_of_ble_eq_true rfl) dX11_would_30 (fun r7 z_r7 h => ?_)
      refine v_if_eq (tgt := 40) dX11_would_33 rfl (fun c8 => ?_) (fun c8 => ?_)
      · have h := Ok.pos h c8
        refine v_iconst dX11_would_40 ic_0 ?_
        have h := Ok.ret h
        exact h
      · have h := Ok.neg h c8
        refine v_iconst dX11_would_36 ic_1 ?_
        refine v_goto (tgt := 41) dX11_would_37 rfl ?_
        have h := Ok.ret h
        exact h
def fM_takes (s : tt_St) (x1 : Int32) (x2 : Int32) (x3 : Int32) (x4 : Int32) (x5 : Int32) : Option (Int64 × tt_St) :=
  nm (wrI s 0 0 0 (0 : Int32)) fun s1 => (fM_isOne s1 x5 (1 : Int32)).bind fun r2 => if r2.1 = 0 then some ((0 : Int64), r2.2) else (fM_areYears x1 x2 x3).bind fun r4 => (if r4 = 0 then some (0 : Int32) else (fM_isLoss x4).bind fun r7 => if r7 = 0 then some (0 : Int32) else some (1 : Int32) : Option (Int32)).bind fun t5 => (fM_needs r2.2 t5 (2 : Int32) (1 : Int32)).bind fun r9 => if r9.1 = 0 then some ((0 : Int64), r9.2) else (fM_thinksOf r9.2 x1 x2 x3 x4).bind fun r11 => if inB ((960 : Int32) + x5) 1000 then nm (rdL r11 21 0 ((960 : Int32) + x5).toNatClampNeg) fun v13 => (fM_goesOver r11).bind fun r14 => some (v13, r14) else none
abbrev rM_takes : Room := { frames := 11, cells := 0, slots := 0, locals := 254 }
set_option maxHeartbeats 4000000 in
theorem mM_takes (l : Launch) (D : va_G) (dA : Nat → ClassId) (A : Nat → Prop) (lc : Nat → Nat → Nat) (s : tt_St) (x1 : Int32) (x2 : Int32) (x3 : Int32) (x4 : Int32) (x5 : Int32) {Q : Option Value → (Nat → Nat → Nat) → tt_St → Prop} (h : Ok (fM_takes s x1 x2 x3 x4 x5) (fun r => Q (some (.long r.1)) lc r.2)) : tt_Sp (XM l D dA A) yX11_takes cX11_takes 8 (some .long) rM_takes [.ref (lc 0 0), .int x1, .int x2, .int x3, .int x4, .int x5] lc s Q := by
  refine tt_Sp.ofV plM kokM (Nat.le_of_ble_eq_true rfl) ?_
  show tt_V (XM l D dA A) cX11_takes (RX11, 8, (some .long), rM_takes, tt_nt) (tt_fn (XM l D dA A) (RX11, 8, (some .long), rM_takes, tt_nt) Q) 0 [(0, .ref (lc 0 0)), (1, .int x1), (2, .int x2), (3, .int x3), (4, .int x4), (5, .int x5)] [] lc s 0 0
  unfold fM_takes at h
  refine v_aload_n 0 dX11_takes_0 rfl ?_
  refine v_iconst dX11_takes_1 ic_0 ?_
  refine pM_1 dX11_takes_2 ?_
  refine v_nmS (fun s1 e_s1 => ?_)
  have h := Ok.nm h e_s1
  refine v_aload_n 0 dX11_takes_5 rfl ?_
  refine v_iload 5 dX11_takes_6 rfl ?_
  refine v_iconst dX11_takes_8 ic_1 ?_
  refine cM_374 (Ok.bind h) ⟨Nat.le_of_ble_eq_true rfl, Nat.le_of_ble_eq_true rfl⟩ (Nat.le_of_ble_eq_true rfl) dX11_takes_9 (fun r2 z_r2 h => ?_)
  refine v_if_eq (tgt := 46) dX11_takes_12 rfl (fun c3 => ?_) (fun c3 => ?_)
  · have h := Ok.pos h c3
    refine v_lconst dX11_takes_46 kl_0 ?_
    have h := Ok.ret h
    exact v_lret rfl (Nat.zero_le _) (Nat.zero_le _) dX11_takes_47 h
  · have h := Ok.neg h c3
    refine v_aload_n 0 dX11_takes_15 rfl ?_
    refine v_iload_n 1 dX11_takes_16 rfl ?_
    refine v_iload_n 2 dX11_takes_17 rfl ?_
    refine v_iload_n 3 dX11_takes_18 rfl ?_
    refine cM_389 (Ok.bind h) ⟨Nat.le_of_ble_eq_true rfl, Nat.le_of_ble_eq_true rfl⟩ (Nat.le_of_ble_eq_true rfl) dX11_takes_19 (fun r4 z_r4 h => ?_)
    have h := Ok.join (PJ := fun t5 : Int32 => tt_V (XM l D dA A) cX11_takes (RX11, 8, (some .long), rM_takes, tt_nt) (tt_fn (XM l D dA A) (RX11, 8, (some .long), rM_takes, tt_nt) Q) 38 [(0, .ref (lc 0 0)), (1, .int x1), (2, .int x2), (3, .int x3), (4, .int x4), (5, .int x5)] [.int t5, .ref (lc 0 0)] lc r2.2 0 0) h (fun t5 h => by
      refine v_iconst dX11_takes_38 ic_2 ?_
      refine v_iconst dX11_takes_39 ic_1 ?_
      refine cM_346 (Ok.bind h) ⟨Nat.le_of_ble_eq_true rfl, Nat.le_of_ble_eq_true rfl⟩ (Nat.le_of_ble_eq_true rfl) dX11_takes_40 (fun r9 z_r9 h => ?_)
      refine v_if_ne (tgt := 48) dX11_takes_43 rfl (fun c10 => ?_) (fun c10 => ?_)
      · have h := Ok.neg h c10
        refine v_aload_n 0 dX11_takes_48 rfl ?_
        refine v_iload_n 1 dX11_takes_49 rfl ?_
        refine v_iload_n 2 dX11_takes_50 rfl ?_
        refine v_iload_n 3 dX11_takes_51 rfl ?_
        refine v_iload 4 dX11_takes_52 rfl ?_
        refine cM_449 (Ok.bind h) ⟨Nat.le_of_ble_eq_true rfl, Nat.le_of_ble_eq_true rfl⟩ (Nat.le_of_ble_eq_true rfl) dX11_takes_54 (fun r11 h => ?_)
        refine v_aload_n 0 dX11_takes_57 rfl ?_
        refine gM_76 dX11_takes_58 ?_
        refine v_sipush dX11_takes_61 ks_960 ?_
        refine v_iload 5 dX11_takes_64 rfl ?_
        refine v_iadd dX11_takes_66 ?_
        obtain ⟨g12, h⟩ := Ok.guard h
        refine lM_21 g12 dX11_takes_67 ?_
        refine v_nmL (fun v13 e_v13 => ?_)
        have h := Ok.nm h e_v13
        refine v_lstore [(6, .long v13), (0, .ref (lc 0 0)), (1, .int x1), (2, .int x2), (3, .int x3), (4, .int x4), (5, .int x5)] dX11_takes_68 (Nat.le_of_ble_eq_true rfl) rfl ?_
        refine v_aload_n 1 dX11_takes_70 rfl ?_
        refine cM_403 (Ok.bind h) ⟨Nat.le_of_ble_eq_true rfl, Nat.le_of_ble_eq_true rfl⟩ (Nat.le_of_ble_eq_true rfl) dX11_takes_71 (fun r14 h => ?_)
        refine v_lload 0 dX11_takes_74 rfl ?_
        have h := Ok.ret h
        exact v_lret rfl (Nat.zero_le _) (Nat.zero_le _) dX11_takes_76 h
      · have h := Ok.pos h c10
        refine v_lconst dX11_takes_46 kl_0 ?_
        have h := Ok.ret h
        exact v_lret rfl (Nat.zero_le _) (Nat.zero_le _) dX11_takes_47 h)
    refine v_if_eq (tgt := 37) dX11_takes_22 rfl (fun c6 => ?_) (fun c6 => ?_)
    · have h := Ok.pos h c6
      refine v_iconst dX11_takes_37 ic_0 ?_
      have h := Ok.ret h
      exact h
    · have h := Ok.neg h c6
      refine v_iload 4 dX11_takes_25 rfl ?_
      refine cM_392 (Ok.bind h) ⟨Nat.le_of_ble_eq_true rfl, Nat.le_of_ble_eq_true rfl⟩ (Nat.le_of_ble_eq_true rfl) dX11_takes_27 (fun r7 z_r7 h => ?_)
      refine v_if_eq (tgt := 37) dX11_takes_30 rfl (fun c8 => ?_) (fun c8 => ?_)
      · have h := Ok.pos h c8
        refine v_iconst dX11_takes_37 ic_0 ?_
        have h := Ok.ret h
        exact h
      · have h := Ok.neg h c8
        refine v_iconst dX11_takes_33 ic_1 ?_
        refine v_goto (tgt := 38) dX11_takes_34 rfl ?_
        have h := Ok.ret h
        exact h
def fM_drops (s : tt_St) (x1 : Int32) (x2 : Int32) (x3 : Int32) (x4 : Int32) (x5 : Int32) : Option (Int64 × tt_St) :=
  nm (wrI s 0 0 0 (0 : Int32)) fun s1 => (fM_areYears x1 x2 x3).bind fun r2 => (if r2 = 0 then some (0 : Int32) else (fM_isLoss x4).bind fun r5 => if r5 = 0 then some (0 : Int32) else (fM_within x5.toInt64 (0 : Int64) (6 : Int64)).bind fun r7 => if r7 = 0 then some (0 : Int32) else some (1 : Int32) : Option (Int32)).bind fun t3 => (fM_needs s1 t3 (1 : Int32) (1 : Int32)).bind fun r9 => if r9.1 = 0 then some ((0 : Int64), r9.2) else (fM_thinksOf r9.2 x1 x2 x3 x4).bind fun r11 => if inB ((168 : Int32) + x5) 175 then nm (rdL r11 26 0 ((168 : Int32) + x5).toNatClampNeg) fun v13 => (fM_goesOver r11).bind fun r14 => some (v13, r14) else none
abbrev rM_drops : Room := { frames := 11, cells := 0, slots := 0, locals := 254 }
set_option maxHeartbeats 4000000 in
theorem mM_drops (l : Launch) (D : va_G) (dA : Nat → ClassId) (A : Nat → Prop) (lc : Nat → Nat → Nat) (s : tt_St) (x1 : Int32) (x2 : Int32) (x3 : Int32) (x4 : Int32) (x5 : Int32) {Q : Option Value → (Nat → Nat → Nat) → tt_St → Prop} (h : Ok (fM_drops s x1 x2 x3 x4 x5) (fun r => Q (some (.long r.1)) lc r.2)) : tt_Sp (XM l D dA A) yX11_drops cX11_drops 8 (some .long) rM_drops [.ref (lc 0 0), .int x1, .int x2, .int x3, .int x4, .int x5] lc s Q := by
  refine tt_Sp.ofV plM kokM (Nat.le_of_ble_eq_true rfl) ?_
  show tt_V (XM l D dA A) cX11_drops (RX11, 8, (some .long), rM_drops, tt_nt) (tt_fn (XM l D dA A) (RX11, 8, (some .long), rM_drops, tt_nt) Q) 0 [(0, .ref (lc 0 0)), (1, .int x1), (2, .int x2), (3, .int x3), (4, .int x4), (5, .int x5)] [] lc s 0 0
  unfold fM_drops at h
  refine v_aload_n 0 dX11_drops_0 rfl ?_
  refine v_iconst dX11_drops_1 ic_0 ?_
  refine pM_1 dX11_drops_2 ?_
  refine v_nmS (fun s1 e_s1 => ?_)
  have h := Ok.nm h e_s1
  refine v_aload_n 0 dX11_drops_5 rfl ?_
  refine v_iload_n 1 dX11_drops_6 rfl ?_
  refine v_iload_n 2 dX11_drops_7 rfl ?_
  refine v_iload_n 3 dX11_drops_8 rfl ?_
  refine cM_389 (Ok.bind h) ⟨Nat.le_of_ble_eq_true rfl, Nat.le_of_ble_eq_true rfl⟩ (Nat.le_of_ble_eq_true rfl) dX11_drops_9 (fun r2 z_r2 h => ?_)
  have h := Ok.join (PJ := fun t3 : Int32 => tt_V (XM l D dA A) cX11_drops (RX11, 8, (some .long), rM_drops, tt_nt) (tt_fn (XM l D dA A) (RX11, 8, (some .long), rM_drops, tt_nt) Q) 41 [(0, .ref (lc 0 0)), (1, .int x1), (2, .int x2), (3, .int x3), (4, .int x4), (5, .int x5)] [.int t3, .ref (lc 0 0)] lc s1 0 0) h (fun t3 h => by
    refine v_iconst dX11_drops_41 ic_1 ?_
    refine v_iconst dX11_drops_42 ic_1 ?_
    refine cM_346 (Ok.bind h) ⟨Nat.le_of_ble_eq_true rfl, Nat.le_of_ble_eq_true rfl⟩ (Nat.le_of_ble_eq_true rfl) dX11_drops_43 (fun r9 z_r9 h => ?_)
    refine v_if_ne (tgt := 51) dX11_drops_46 rfl (fun c10 => ?_) (fun c10 => ?_)
    · have h := Ok.neg h c10
      refine v_aload_n 0 dX11_drops_51 rfl ?_
      refine v_iload_n 1 dX11_drops_52 rfl ?_
      refine v_iload_n 2 dX11_drops_53 rfl ?_
      refine v_iload_n 3 dX11_drops_54 rfl ?_
      refine v_iload 4 dX11_drops_55 rfl ?_
      refine cM_449 (Ok.bind h) ⟨Nat.le_of_ble_eq_true rfl, Nat.le_of_ble_eq_true rfl⟩ (Nat.le_of_ble_eq_true rfl) dX11_drops_57 (fun r11 h => ?_)
      refine v_aload_n 0 dX11_drops_60 rfl ?_
      refine gM_91 dX11_drops_61 ?_
      refine v_sipush dX11_drops_64 ks_168 ?_
      refine v_iload 5 dX11_drops_67 rfl ?_
      refine v_iadd dX11_drops_69 ?_
      obtain ⟨g12, h⟩ := Ok.guard h
      refine lM_26 g12 dX11_drops_70 ?_
      refine v_nmL (fun v13 e_v13 => ?_)
      have h := Ok.nm h e_v13
      refine v_lstore [(6, .long v13), (0, .ref (lc 0 0)), (1, .int x1), (2, .int x2), (3, .int x3), (4, .int x4), (5, .int x5)] dX11_drops_71 (Nat.le_of_ble_eq_true rfl) rfl ?_
      refine v_aload_n 1 dX11_drops_73 rfl ?_
      refine cM_403 (Ok.bind h) ⟨Nat.le_of_ble_eq_true rfl, Nat.le_of_ble_eq_true rfl⟩ (Nat.le_of_ble_eq_true rfl) dX11_drops_74 (fun r14 h => ?_)
      refine v_lload 0 dX11_drops_77 rfl ?_
      have h := Ok.ret h
      exact v_lret rfl (Nat.zero_le _) (Nat.zero_le _) dX11_drops_79 h
    · have h := Ok.pos h c10
      refine v_lconst dX11_drops_49 kl_0 ?_
      have h := Ok.ret h
      exact v_lret rfl (Nat.zero_le _) (Nat.zero_le _) dX11_drops_50 h)
  refine v_if_eq (tgt := 40) dX11_drops_12 rfl (fun c4 => ?_) (fun c4 => ?_)
  · have h := Ok.pos h c4
    refine v_iconst dX11_drops_40 ic_0 ?_
    have h := Ok.ret h
    exact h
  · have h := Ok.neg h c4
    refine v_iload 4 dX11_drops_15 rfl ?_
    refine cM_392 (Ok.bind h) ⟨Nat.le_of_ble_eq_true rfl, Nat.le_of_ble_eq_true rfl⟩ (Nat.le_of_ble_eq_true rfl) dX11_drops_17 (fun r5 z_r5 h => ?_)
    refine v_if_eq (tgt := 40) dX11_drops_20 rfl (fun c6 => ?_) (fun c6 => ?_)
    · have h := Ok.pos h c6
      refine v_iconst dX11_drops_40 ic_0 ?_
      have h := Ok.ret h
      exact h
    · have h := Ok.neg h c6
      refine v_iload 5 dX11_drops_23 rfl ?_
      refine v_i2l dX11_drops_25 rfl ?_
      refine v_lconst dX11_drops_26 kl_0 ?_
      refine v_ldc2 dX11_drops_27 q2256 ?_
      refine cM_352 (Ok.bind h) ⟨Nat.le_of_ble_eq_true rfl, Nat.le_of_ble_eq_true rfl⟩ (Nat.le_of_ble_eq_true rfl) dX11_drops_30 (fun r7 z_r7 h => ?_)
      refine v_if_eq (tgt := 40) dX11_drops_33 rfl (fun c8 => ?_) (fun c8 => ?_)
      · have h := Ok.pos h c8
        refine v_iconst dX11_drops_40 ic_0 ?_
        have h := Ok.ret h
        exact h
      · have h := Ok.neg h c8
        refine v_iconst dX11_drops_36 ic_1 ?_
        refine v_goto (tgt := 41) dX11_drops_37 rfl ?_
        have h := Ok.ret h
        exact h
def fM_share (s : tt_St) (x1 : Int32) (x2 : Int32) (x3 : Int32) (x4 : Int32) (x5 : Int32) : Option (Int64 × tt_St) :=
  nm (wrI s 0 0 0 (0 : Int32)) fun s1 => (fM_areYears x1 x2 x3).bind fun r2 => (if r2 = 0 then some (0 : Int32) else (fM_isLoss x4).bind fun r5 => if r5 = 0 then some (0 : Int32) else (fM_within x5.toInt64 (0 : Int64) (11 : Int64)).bind fun r7 => if r7 = 0 then some (0 : Int32) else some (1 : Int32) : Option (Int32)).bind fun t3 => (fM_needs s1 t3 (1 : Int32) (1 : Int32)).bind fun r9 => if r9.1 = 0 then some ((0 : Int64), r9.2) else (fM_thinks r9.2 x1 x2 x3).bind fun r11 => (fM_laysLike r11 (24 : Int32)).bind fun r12 => (fM_weightSum r12 (12 : Int32)).bind fun r13 => if r13 = (0 : Int64) then some ((0 : Int64), r12) else (fM_shares r12 x4.toInt64 (12 : Int32)).bind fun r15 => if inB x5 40 then some (rdL r15 37 0 x5.toNatClampNeg, r15) else none
abbrev rM_share : Room := { frames := 3, cells := 0, slots := 0, locals := 71 }
set_option maxHeartbeats 4000000 in
theorem mM_share (l : Launch) (D : va_G) (dA : Nat → ClassId) (A : Nat → Prop) (lc : Nat → Nat → Nat) (s : tt_St) (x1 : Int32) (x2 : Int32) (x3 : Int32) (x4 : Int32) (x5 : Int32) {Q : Option Value → (Nat → Nat → Nat) → tt_St → Prop} (h : Ok (fM_share s x1 x2 x3 x4 x5) (fun r => Q (some (.long r.1)) lc r.2)) : tt_Sp (XM l D dA A) yX11_share cX11_share 6 (some .long) rM_share [.ref (lc 0 0), .int x1, .int x2, .int x3, .int x4, .int x5] lc s Q := by
  refine tt_Sp.ofV plM kokM (Nat.le_of_ble_eq_true rfl) ?_
  show tt_V (XM l D dA A) cX11_share (RX11, 6, (some .long), rM_share, tt_nt) (tt_fn (XM l D dA A) (RX11, 6, (some .long), rM_share, tt_nt) Q) 0 [(0, .ref (lc 0 0)), (1, .int x1), (2, .int x2), (3, .int x3), (4, .int x4), (5, .int x5)] [] lc s 0 0
  unfold fM_share at h
  refine v_aload_n 0 dX11_share_0 rfl ?_
  refine v_iconst dX11_share_1 ic_0 ?_
  refine pM_1 dX11_share_2 ?_
  refine v_nmS (fun s1 e_s1 => ?_)
  have h := Ok.nm h e_s1
  refine v_aload_n 0 dX11_share_5 rfl ?_
  refine v_iload_n 1 dX11_share_6 rfl ?_
  refine v_iload_n 2 dX11_share_7 rfl ?_
  refine v_iload_n 3 dX11_share_8 rfl ?_
  refine cM_389 (Ok.bind h) ⟨Nat.le_of_ble_eq_true rfl, Nat.le_of_ble_eq_true rfl⟩ (Nat.le_of_ble_eq_true rfl) dX11_share_9 (fun r2 z_r2 h => ?_)
  have h := Ok.join (PJ := fun t3 : Int32 => tt_V (XM l D dA A) cX11_share (RX11, 6, (some .long), rM_share, tt_nt) (tt_fn (XM l D dA A) (RX11, 6, (some .long), rM_share, tt_nt) Q) 41 [(0, .ref (lc 0 0)), (1, .int x1), (2, .int x2), (3, .int x3), (4, .int x4), (5, .int x5)] [.int t3, .ref (lc 0 0)] lc s1 0 0) h (fun t3 h => by
    refine v_iconst dX11_share_41 ic_1 ?_
    refine v_iconst dX11_share_42 ic_1 ?_
    refine cM_346 (Ok.bind h) ⟨Nat.le_of_ble_eq_true rfl, Nat.le_of_ble_eq_true rfl⟩ (Nat.le_of_ble_eq_true rfl) dX11_share_43 (fun r9 z_r9 h => ?_)
    refine v_if_ne (tgt := 51) dX11_share_46 rfl (fun c10 => ?_) (fun c10 => ?_)
    · have h := Ok.neg h c10
      refine v_aload_n 0 dX11_share_51 rfl ?_
      refine v_iload_n 1 dX11_share_52 rfl ?_
      refine v_iload_n 2 dX11_share_53 rfl ?_
      refine v_iload_n 3 dX11_share_54 rfl ?_
      refine cM_446 (Ok.bind h) ⟨Nat.le_of_ble_eq_true rfl, Nat.le_of_ble_eq_true rfl⟩ (Nat.le_of_ble_eq_true rfl) dX11_share_55 (fun r11 h => ?_)
      refine v_aload_n 0 dX11_share_58 rfl ?_
      refine v_bipush dX11_share_59 kb_24 ?_
      refine cM_231 (Ok.bind h) ⟨Nat.le_of_ble_eq_true rfl, Nat.le_of_ble_eq_true rfl⟩ (Nat.le_of_ble_eq_true rfl) dX11_share_61 (fun r12 h => ?_)
      refine v_aload_n 0 dX11_share_64 rfl ?_
      refine v_bipush dX11_share_65 kb_12 ?_
      refine cM_194 (Ok.bind h) ⟨Nat.le_of_ble_eq_true rfl, Nat.le_of_ble_eq_true rfl⟩ (Nat.le_of_ble_eq_true rfl) dX11_share_67 (fun r13 h => ?_)
      refine v_lconst dX11_share_70 kl_0 ?_
      refine v_lif_ne (tgt := 77) dX11_share_71 dX11_share_72 rfl (fun c14 => ?_) (fun c14 => ?_)
      · have h := Ok.neg h c14
        refine v_aload_n 0 dX11_share_77 rfl ?_
        refine v_iload 4 dX11_share_78 rfl ?_
        refine v_i2l dX11_share_80 rfl ?_
        refine v_bipush dX11_share_81 kb_12 ?_
        refine cM_211 (Ok.bind h) ⟨Nat.le_of_ble_eq_true rfl, Nat.le_of_ble_eq_true rfl⟩ (Nat.le_of_ble_eq_true rfl) dX11_share_83 (fun r15 h => ?_)
        refine v_aload_n 0 dX11_share_86 rfl ?_
        refine gM_112 dX11_share_87 ?_
        refine v_iload 5 dX11_share_90 rfl ?_
        obtain ⟨g16, h⟩ := Ok.guard h
        refine lM_37 g16 dX11_share_92 ?_
        have h := Ok.ret h
        exact v_lret rfl (Nat.zero_le _) (Nat.zero_le _) dX11_share_93 h
      · have h := Ok.pos h c14
        refine v_lconst dX11_share_75 kl_0 ?_
        have h := Ok.ret h
        exact v_lret rfl (Nat.zero_le _) (Nat.zero_le _) dX11_share_76 h
    · have h := Ok.pos h c10
      refine v_lconst dX11_share_49 kl_0 ?_
      have h := Ok.ret h
      exact v_lret rfl (Nat.zero_le _) (Nat.zero_le _) dX11_share_50 h)
  refine v_if_eq (tgt := 40) dX11_share_12 rfl (fun c4 => ?_) (fun c4 => ?_)
  · have h := Ok.pos h c4
    refine v_iconst dX11_share_40 ic_0 ?_
    have h := Ok.ret h
    exact h
  · have h := Ok.neg h c4
    refine v_iload 4 dX11_share_15 rfl ?_
    refine cM_392 (Ok.bind h) ⟨Nat.le_of_ble_eq_true rfl, Nat.le_of_ble_eq_true rfl⟩ (Nat.le_of_ble_eq_true rfl) dX11_share_17 (fun r5 z_r5 h => ?_)
    refine v_if_eq (tgt := 40) dX11_share_20 rfl (fun c6 => ?_) (fun c6 => ?_)
    · have h := Ok.pos h c6
      refine v_iconst dX11_share_40 ic_0 ?_
      have h := Ok.ret h
      exact h
    · have h := Ok.neg h c6
      refine v_iload 5 dX11_share_23 rfl ?_
      refine v_i2l dX11_share_25 rfl ?_
      refine v_lconst dX11_share_26 kl_0 ?_
      refine v_ldc2 dX11_share_27 q1917 ?_
      refine cM_352 (Ok.bind h) ⟨Nat.le_of_ble_eq_true rfl, Nat.le_of_ble_eq_true rfl⟩ (Nat.le_of_ble_eq_true rfl) dX11_share_30 (fun r7 z_r7 h => ?_)
      refine v_if_eq (tgt := 40) dX11_share_33 rfl (fun c8 => ?_) (fun c8 => ?_)
      · have h := Ok.pos h c8
        refine v_iconst dX11_share_40 ic_0 ?_
        have h := Ok.ret h
        exact h
      · have h := Ok.neg h c8
        refine v_iconst dX11_share_36 ic_1 ?_
        refine v_goto (tgt := 41) dX11_share_37 rfl ?_
        have h := Ok.ret h
        exact h
def fM_weight (s : tt_St) (x1 : Int32) (x2 : Int32) (x3 : Int32) (x4 : Int32) : Option (Int64 × tt_St) :=
  nm (wrI s 0 0 0 (0 : Int32)) fun s1 => (fM_areYears x1 x2 x3).bind fun r2 => (if r2 = 0 then some (0 : Int32) else (fM_within x4.toInt64 (0 : Int64) (11 : Int64)).bind fun r5 => if r5 = 0 then some (0 : Int32) else some (1 : Int32) : Option (Int32)).bind fun t3 => (fM_needs s1 t3 (1 : Int32) (1 : Int32)).bind fun r7 => if r7.1 = 0 then some ((0 : Int64), r7.2) else (fM_thinks r7.2 x1 x2 x3).bind fun r9 => (fM_laysSizes r9 (24 : Int32)).bind fun r10 => if inB x4 40 then some (rdL r10 36 0 x4.toNatClampNeg, r10) else none
abbrev rM_weight : Room := { frames := 3, cells := 0, slots := 0, locals := 75 }
set_option maxHeartbeats 4000000 in
theorem mM_weight (l : Launch) (D : va_G) (dA : Nat → ClassId) (A : Nat → Prop) (lc : Nat → Nat → Nat) (s : tt_St) (x1 : Int32) (x2 : Int32) (x3 : Int32) (x4 : Int32) {Q : Option Value → (Nat → Nat → Nat) → tt_St → Prop} (h : Ok (fM_weight s x1 x2 x3 x4) (fun r => Q (some (.long r.1)) lc r.2)) : tt_Sp (XM l D dA A) yX11_weight cX11_weight 5 (some .long) rM_weight [.ref (lc 0 0), .int x1, .int x2, .int x3, .int x4] lc s Q := by
  refine tt_Sp.ofV plM kokM (Nat.le_of_ble_eq_true rfl) ?_
  show tt_V (XM l D dA A) cX11_weight (RX11, 5, (some .long), rM_weight, tt_nt) (tt_fn (XM l D dA A) (RX11, 5, (some .long), rM_weight, tt_nt) Q) 0 [(0, .ref (lc 0 0)), (1, .int x1), (2, .int x2), (3, .int x3), (4, .int x4)] [] lc s 0 0
  unfold fM_weight at h
  refine v_aload_n 0 dX11_weight_0 rfl ?_
  refine v_iconst dX11_weight_1 ic_0 ?_
  refine pM_1 dX11_weight_2 ?_
  refine v_nmS (fun s1 e_s1 => ?_)
  have h := Ok.nm h e_s1
  refine v_aload_n 0 dX11_weight_5 rfl ?_
  refine v_iload_n 1 dX11_weight_6 rfl ?_
  refine v_iload_n 2 dX11_weight_7 rfl ?_
  refine v_iload_n 3 dX11_weight_8 rfl ?_
  refine cM_389 (Ok.bind h) ⟨Nat.le_of_ble_eq_true rfl, Nat.le_of_ble_eq_true rfl⟩ (Nat.le_of_ble_eq_true rfl) dX11_weight_9 (fun r2 z_r2 h => ?_)
  have h := Ok.join (PJ := fun t3 : Int32 => tt_V (XM l D dA A) cX11_weight (RX11, 5, (some .long), rM_weight, tt_nt) (tt_fn (XM l D dA A) (RX11, 5, (some .long), rM_weight, tt_nt) Q) 33 [(0, .ref (lc 0 0)), (1, .int x1), (2, .int x2), (3, .int x3), (4, .int x4)] [.int t3, .ref (lc 0 0)] lc s1 0 0) h (fun t3 h => by
    refine v_iconst dX11_weight_33 ic_1 ?_
    refine v_iconst dX11_weight_34 ic_1 ?_
    refine cM_346 (Ok.bind h) ⟨Nat.le_of_ble_eq_true rfl, Nat.le_of_ble_eq_true rfl⟩ (Nat.le_of_ble_eq_true rfl) dX11_weight_35 (fun r7 z_r7 h => ?_)
    refine v_if_ne (tgt := 43) dX11_weight_38 rfl (fun c8 => ?_) (fun c8 => ?_)
    · have h := Ok.neg h c8
      refine v_aload_n 0 dX11_weight_43 rfl ?_
      refine v_iload_n 1 dX11_weight_44 rfl ?_
      refine v_iload_n 2 dX11_weight_45 rfl ?_
      refine v_iload_n 3 dX11_weight_46 rfl ?_
      refine cM_446 (Ok.bind h) ⟨Nat.le_of_ble_eq_true rfl, Nat.le_of_ble_eq_true rfl⟩ (Nat.le_of_ble_eq_true rfl) dX11_weight_47 (fun r9 h => ?_)
      refine v_aload_n 0 dX11_weight_50 rfl ?_
      refine v_bipush dX11_weight_51 kb_24 ?_
      refine cM_270 (Ok.bind h) ⟨Nat.le_of_ble_eq_true rfl, Nat.le_of_ble_eq_true rfl⟩ (Nat.le_of_ble_eq_true rfl) dX11_weight_53 (fun r10 h => ?_)
      refine v_aload_n 0 dX11_weight_56 rfl ?_
      refine gM_109 dX11_weight_57 ?_
      refine v_iload 4 dX11_weight_60 rfl ?_
      obtain ⟨g11, h⟩ := Ok.guard h
      refine lM_36 g11 dX11_weight_62 ?_
      have h := Ok.ret h
      exact v_lret rfl (Nat.zero_le _) (Nat.zero_le _) dX11_weight_63 h
    · have h := Ok.pos h c8
      refine v_lconst dX11_weight_41 kl_0 ?_
      have h := Ok.ret h
      exact v_lret rfl (Nat.zero_le _) (Nat.zero_le _) dX11_weight_42 h)
  refine v_if_eq (tgt := 32) dX11_weight_12 rfl (fun c4 => ?_) (fun c4 => ?_)
  · have h := Ok.pos h c4
    refine v_iconst dX11_weight_32 ic_0 ?_
    have h := Ok.ret h
    exact h
  · have h := Ok.neg h c4
    refine v_iload 4 dX11_weight_15 rfl ?_
    refine v_i2l dX11_weight_17 rfl ?_
    refine v_lconst dX11_weight_18 kl_0 ?_
    refine v_ldc2 dX11_weight_19 q1917 ?_
    refine cM_352 (Ok.bind h) ⟨Nat.le_of_ble_eq_true rfl, Nat.le_of_ble_eq_true rfl⟩ (Nat.le_of_ble_eq_true rfl) dX11_weight_22 (fun r5 z_r5 h => ?_)
    refine v_if_eq (tgt := 32) dX11_weight_25 rfl (fun c6 => ?_) (fun c6 => ?_)
    · have h := Ok.pos h c6
      refine v_iconst dX11_weight_32 ic_0 ?_
      have h := Ok.ret h
      exact h
    · have h := Ok.neg h c6
      refine v_iconst dX11_weight_28 ic_1 ?_
      refine v_goto (tgt := 33) dX11_weight_29 rfl ?_
      have h := Ok.ret h
      exact h
def fM_picks (s : tt_St) (x1 : Int32) (x2 : Int32) (x3 : Int32) (x4 : Int32) : Option (Int32 × tt_St) :=
  nm (wrI s 0 0 0 (0 : Int32)) fun s1 => (fM_areYears x1 x2 x3).bind fun r2 => nm (if r2 = 0 then (0 : Int32) else (if x4 < 0 then (0 : Int32) else (1 : Int32))) fun t3 => (fM_needs s1 t3 (1 : Int32) (1 : Int32)).bind fun r7 => if r7.1 = 0 then some ((0 : Int32), r7.2) else (fM_thinks r7.2 x1 x2 x3).bind fun r9 => (fM_picked r9 (24 : Int32) x4).bind fun r10 => some (r10, r9)
abbrev rM_picks : Room := { frames := 5, cells := 0, slots := 0, locals := 117 }
set_option maxHeartbeats 4000000 in
theorem mM_picks (l : Launch) (D : va_G) (dA : Nat → ClassId) (A : Nat → Prop) (lc : Nat → Nat → Nat) (s : tt_St) (x1 : Int32) (x2 : Int32) (x3 : Int32) (x4 : Int32) {Q : Option Value → (Nat → Nat → Nat) → tt_St → Prop} (h : Ok (fM_picks s x1 x2 x3 x4) (fun r => Q (some (.int r.1)) lc r.2)) : tt_Sp (XM l D dA A) yX11_picks cX11_picks 5 (some .int) rM_picks [.ref (lc 0 0), .int x1, .int x2, .int x3, .int x4] lc s Q := by
  refine tt_Sp.ofV plM kokM (Nat.le_of_ble_eq_true rfl) ?_
  show tt_V (XM l D dA A) cX11_picks (RX11, 5, (some .int), rM_picks, tt_nt) (tt_fn (XM l D dA A) (RX11, 5, (some .int), rM_picks, tt_nt) Q) 0 [(0, .ref (lc 0 0)), (1, .int x1), (2, .int x2), (3, .int x3), (4, .int x4)] [] lc s 0 0
  unfold fM_picks at h
  refine v_aload_n 0 dX11_picks_0 rfl ?_
  refine v_iconst dX11_picks_1 ic_0 ?_
  refine pM_1 dX11_picks_2 ?_
  refine v_nmS (fun s1 e_s1 => ?_)
  have h := Ok.nm h e_s1
  refine v_aload_n 0 dX11_picks_5 rfl ?_
  refine v_iload_n 1 dX11_picks_6 rfl ?_
  refine v_iload_n 2 dX11_picks_7 rfl ?_
  refine v_iload_n 3 dX11_picks_8 rfl ?_
  refine cM_389 (Ok.bind h) ⟨Nat.le_of_ble_eq_true rfl, Nat.le_of_ble_eq_true rfl⟩ (Nat.le_of_ble_eq_true rfl) dX11_picks_9 (fun r2 z_r2 h => ?_)
  have J4 : ∀ t3, t3 = (if r2 = 0 then (0 : Int32) else (if x4 < 0 then (0 : Int32) else (1 : Int32))) → tt_V (XM l D dA A) cX11_picks (RX11, 5, (some .int), rM_picks, tt_nt) (tt_fn (XM l D dA A) (RX11, 5, (some .int), rM_picks, tt_nt) Q) 25 [(0, .ref (lc 0 0)), (1, .int x1), (2, .int x2), (3, .int x3), (4, .int x4)] [.int t3, .ref (lc 0 0)] lc s1 0 0 := fun t3 e_t3 => by
    have h := Ok.nm h e_t3
    refine v_iconst dX11_picks_25 ic_1 ?_
    refine v_iconst dX11_picks_26 ic_1 ?_
    refine cM_346 (Ok.bind h) ⟨Nat.le_of_ble_eq_true rfl, Nat.le_of_ble_eq_true rfl⟩ (Nat.le_of_ble_eq_true rfl) dX11_picks_27 (fun r7 z_r7 h => ?_)
    refine v_if_ne (tgt := 35) dX11_picks_30 rfl (fun c8 => ?_) (fun c8 => ?_)
    · have h := Ok.neg h c8
      refine v_aload_n 0 dX11_picks_35 rfl ?_
      refine v_iload_n 1 dX11_picks_36 rfl ?_
      refine v_iload_n 2 dX11_picks_37 rfl ?_
      refine v_iload_n 3 dX11_picks_38 rfl ?_
      refine cM_446 (Ok.bind h) ⟨Nat.le_of_ble_eq_true rfl, Nat.le_of_ble_eq_true rfl⟩ (Nat.le_of_ble_eq_true rfl) dX11_picks_39 (fun r9 h => ?_)
      refine v_aload_n 0 dX11_picks_42 rfl ?_
      refine v_bipush dX11_picks_43 kb_24 ?_
      refine v_iload 4 dX11_picks_45 rfl ?_
      refine cM_225 (Ok.bind h) ⟨Nat.le_of_ble_eq_true rfl, Nat.le_of_ble_eq_true rfl⟩ (Nat.le_of_ble_eq_true rfl) dX11_picks_47 (fun r10 h => ?_)
      have h := Ok.ret h
      exact v_iret rfl (Nat.zero_le _) (Nat.zero_le _) dX11_picks_50 h
    · have h := Ok.pos h c8
      refine v_iconst dX11_picks_33 ic_0 ?_
      have h := Ok.ret h
      exact v_iret rfl (Nat.zero_le _) (Nat.zero_le _) dX11_picks_34 h
  refine v_if_eq (tgt := 24) dX11_picks_12 rfl (fun c5 => ?_) (fun c5 => ?_)
  · refine v_iconst dX11_picks_24 ic_0 ?_
    exact J4 _ (by rw [if_pos c5])
  · refine v_iload 4 dX11_picks_15 rfl ?_
    refine v_if_lt (tgt := 24) dX11_picks_17 rfl (fun c6 => ?_) (fun c6 => ?_)
    · refine v_iconst dX11_picks_24 ic_0 ?_
      exact J4 _ (by rw [if_neg c5, if_pos c6])
    · refine v_iconst dX11_picks_20 ic_1 ?_
      refine v_goto (tgt := 25) dX11_picks_21 rfl ?_
      exact J4 _ (by rw [if_neg c5, if_neg c6])
def fM_uneven_L58  (a12 : Int32 × tt_St) : Option ((Int32 × tt_St) ⊕ (Int32 × tt_St)) :=
  if (40 : Int32) ≤ a12.1 then some (.inr (a12.1, a12.2)) else if inB a12.1 40 then nm (wrL a12.2 38 0 a12.1.toNatClampNeg (0 : Int64)) fun s16 => some (.inl ((a12.1 + 1 : Int32), s16)) else none
def fM_uneven (s : tt_St) (x1 : Int32) (x2 : Int32) (x3 : Int32) (x4 : Int32) (x5 : Int32) : Option (Int64 × tt_St) :=
  nm (wrI s 0 0 0 (0 : Int32)) fun s1 => (fM_isOne s1 x5 (1 : Int32)).bind fun r2 => if r2.1 = 0 then some ((0 : Int64), r2.2) else (fM_areYears x1 x2 x3).bind fun r4 => (if r4 = 0 then some (0 : Int32) else (fM_isLoss x4).bind fun r7 => if r7 = 0 then some (0 : Int32) else some (1 : Int32) : Option (Int32)).bind fun t5 => (fM_needs r2.2 t5 (2 : Int32) (1 : Int32)).bind fun r9 => if r9.1 = 0 then some ((0 : Int64), r9.2) else (fM_thinks r9.2 x1 x2 x3).bind fun r11 => (itr (fM_uneven_L58) tt_fuel ((0 : Int32), r11)).bind fun b13 => (fM_laysFair b13.2 (24 : Int32) x4.toInt64).bind fun r17 => (fM_byFull r17 (24 : Int32) x4.toInt64).bind fun r18 => if inB x5 40 then nm ((rdL r18 38 0 x5.toNatClampNeg) - (rdL r18 39 0 x5.toNatClampNeg)) fun v20 => (fM_goesOver r18).bind fun r21 => some (v20, r21) else none
abbrev rM_uneven : Room := { frames := 11, cells := 0, slots := 0, locals := 254 }
set_option maxHeartbeats 4000000 in
theorem mM_uneven (l : Launch) (D : va_G) (dA : Nat → ClassId) (A : Nat → Prop) (lc : Nat → Nat → Nat) (s : tt_St) (x1 : Int32) (x2 : Int32) (x3 : Int32) (x4 : Int32) (x5 : Int32) {Q : Option Value → (Nat → Nat → Nat) → tt_St → Prop} (h : Ok (fM_uneven s x1 x2 x3 x4 x5) (fun r => Q (some (.long r.1)) lc r.2)) : tt_Sp (XM l D dA A) yX11_uneven cX11_uneven 8 (some .long) rM_uneven [.ref (lc 0 0), .int x1, .int x2, .int x3, .int x4, .int x5] lc s Q := by
  refine tt_Sp.ofV plM kokM (Nat.le_of_ble_eq_true rfl) ?_
  show tt_V (XM l D dA A) cX11_uneven (RX11, 8, (some .long), rM_uneven, tt_nt) (tt_fn (XM l D dA A) (RX11, 8, (some .long), rM_uneven, tt_nt) Q) 0 [(0, .ref (lc 0 0)), (1, .int x1), (2, .int x2), (3, .int x3), (4, .int x4), (5, .int x5)] [] lc s 0 0
  unfold fM_uneven at h
  refine v_aload_n 0 dX11_uneven_0 rfl ?_
  refine v_iconst dX11_uneven_1 ic_0 ?_
  refine pM_1 dX11_uneven_2 ?_
  refine v_nmS (fun s1 e_s1 => ?_)
  have h := Ok.nm h e_s1
  refine v_aload_n 0 dX11_uneven_5 rfl ?_
  refine v_iload 5 dX11_uneven_6 rfl ?_
  refine v_iconst dX11_uneven_8 ic_1 ?_
  refine cM_374 (Ok.bind h) ⟨Nat.le_of_ble_eq_true rfl, Nat.le_of_ble_eq_true rfl⟩ (Nat.le_of_ble_eq_true rfl) dX11_uneven_9 (fun r2 z_r2 h => ?_)
  refine v_if_eq (tgt := 46) dX11_uneven_12 rfl (fun c3 => ?_) (fun c3 => ?_)
  · have h := Ok.pos h c3
    refine v_lconst dX11_uneven_46 kl_0 ?_
    have h := Ok.ret h
    exact v_lret rfl (Nat.zero_le _) (Nat.zero_le _) dX11_uneven_47 h
  · have h := Ok.neg h c3
    refine v_aload_n 0 dX11_uneven_15 rfl ?_
    refine v_iload_n 1 dX11_uneven_16 rfl ?_
    refine v_iload_n 2 dX11_uneven_17 rfl ?_
    refine v_iload_n 3 dX11_uneven_18 rfl ?_
    refine cM_389 (Ok.bind h) ⟨Nat.le_of_ble_eq_true rfl, Nat.le_of_ble_eq_true rfl⟩ (Nat.le_of_ble_eq_true rfl) dX11_uneven_19 (fun r4 z_r4 h => ?_)
    have h := Ok.join (PJ := fun t5 : Int32 => tt_V (XM l D dA A) cX11_uneven (RX11, 8, (some .long), rM_uneven, tt_nt) (tt_fn (XM l D dA A) (RX11, 8, (some .long), rM_uneven, tt_nt) Q) 38 [(0, .ref (lc 0 0)), (1, .int x1), (2, .int x2), (3, .int x3), (4, .int x4), (5, .int x5)] [.int t5, .ref (lc 0 0)] lc r2.2 0 0) h (fun t5 h => by
      refine v_iconst dX11_uneven_38 ic_2 ?_
      refine v_iconst dX11_uneven_39 ic_1 ?_
      refine cM_346 (Ok.bind h) ⟨Nat.le_of_ble_eq_true rfl, Nat.le_of_ble_eq_true rfl⟩ (Nat.le_of_ble_eq_true rfl) dX11_uneven_40 (fun r9 z_r9 h => ?_)
      refine v_if_ne (tgt := 48) dX11_uneven_43 rfl (fun c10 => ?_) (fun c10 => ?_)
      · have h := Ok.neg h c10
        refine v_aload_n 0 dX11_uneven_48 rfl ?_
        refine v_iload_n 1 dX11_uneven_49 rfl ?_
        refine v_iload_n 2 dX11_uneven_50 rfl ?_
        refine v_iload_n 3 dX11_uneven_51 rfl ?_
        refine cM_446 (Ok.bind h) ⟨Nat.le_of_ble_eq_true rfl, Nat.le_of_ble_eq_true rfl⟩ (Nat.le_of_ble_eq_true rfl) dX11_uneven_52 (fun r11 h => ?_)
        refine v_iconst dX11_uneven_55 ic_0 ?_
        refine v_istore [(6, .int (0 : Int32)), (0, .ref (lc 0 0)), (1, .int x1), (2, .int x2), (3, .int x3), (4, .int x4), (5, .int x5)] dX11_uneven_56 (Nat.le_of_ble_eq_true rfl) rfl ?_
        refine v_sub [1, 5, 6, 0] rfl ?_
        refine itr_loop (P := fun a12 : Int32 × tt_St => tt_V (XM l D dA A) cX11_uneven (RX11, 8, (some .long), rM_uneven, tt_nt) (tt_fn (XM l D dA A) (RX11, 8, (some .long), rM_uneven, tt_nt) Q) 58 [(0, .ref (lc 0 0)), (4, .int x4), (5, .int x5), (6, .int a12.1)] [] lc a12.2 0 0) (PE := fun b13 : Int32 × tt_St => tt_V (XM l D dA A) cX11_uneven (RX11, 8, (some .long), rM_uneven, tt_nt) (tt_fn (XM l D dA A) (RX11, 8, (some .long), rM_uneven, tt_nt) Q) 79 [(0, .ref (lc 0 0)), (4, .int x4), (5, .int x5), (6, .int b13.1)] [] lc b13.2 0 0) h (fun b13 h => ?_) (fun a12 h => ?_)
        · refine v_aload_n 0 dX11_uneven_79 rfl ?_
          refine v_bipush dX11_uneven_80 kb_24 ?_
          refine v_iload 1 dX11_uneven_82 rfl ?_
          refine v_i2l dX11_uneven_84 rfl ?_
          refine cM_258 (Ok.bind h) ⟨Nat.le_of_ble_eq_true rfl, Nat.le_of_ble_eq_true rfl⟩ (Nat.le_of_ble_eq_true rfl) dX11_uneven_85 (fun r17 h => ?_)
          refine v_aload_n 0 dX11_uneven_88 rfl ?_
          refine v_bipush dX11_uneven_89 kb_24 ?_
          refine v_iload 1 dX11_uneven_91 rfl ?_
          refine v_i2l dX11_uneven_93 rfl ?_
          refine cM_261 (Ok.bind h) ⟨Nat.le_of_ble_eq_true rfl, Nat.le_of_ble_eq_true rfl⟩ (Nat.le_of_ble_eq_true rfl) dX11_uneven_94 (fun r18 h => ?_)
          refine v_aload_n 0 dX11_uneven_97 rfl ?_
          refine gM_115 dX11_uneven_98 ?_
          refine v_iload 2 dX11_uneven_101 rfl ?_
          obtain ⟨g19, h⟩ := Ok.guard h
          refine lM_38 g19 dX11_uneven_103 ?_
          refine v_aload_n 0 dX11_uneven_104 rfl ?_
          refine gM_118 dX11_uneven_105 ?_
          refine v_iload 2 dX11_uneven_108 rfl ?_
          refine lM_39 g19 dX11_uneven_110 ?_
          refine v_lsub dX11_uneven_111 ?_
          refine v_nmL (fun v20 e_v20 => ?_)
          have h := Ok.nm h e_v20
          refine v_lstore [(6, .long v20), (0, .ref (lc 0 0)), (4, .int x4), (5, .int x5)] dX11_uneven_112 (Nat.le_of_ble_eq_true rfl) rfl ?_
          refine v_aload_n 1 dX11_uneven_114 rfl ?_
          refine cM_403 (Ok.bind h) ⟨Nat.le_of_ble_eq_true rfl, Nat.le_of_ble_eq_true rfl⟩ (Nat.le_of_ble_eq_true rfl) dX11_uneven_115 (fun r21 h => ?_)
          refine v_lload 0 dX11_uneven_118 rfl ?_
          have h := Ok.ret h
          exact v_lret rfl (Nat.zero_le _) (Nat.zero_le _) dX11_uneven_120 h
        · have h : Ok (fM_uneven_L58 a12) _ := h
          unfold fM_uneven_L58 at h
          refine v_iload 3 dX11_uneven_58 rfl ?_
          refine v_bipush dX11_uneven_60 kb_40 ?_
          refine v_icmp_ge (tgt := 79) dX11_uneven_62 rfl (fun c14 => ?_) (fun c14 => ?_)
          · have h := Ok.pos h c14
            have h := Ok.ret h
            exact h
          · have h := Ok.neg h c14
            refine v_aload_n 0 dX11_uneven_65 rfl ?_
            refine gM_115 dX11_uneven_66 ?_
            refine v_iload 3 dX11_uneven_69 rfl ?_
            refine v_lconst dX11_uneven_71 kl_0 ?_
            obtain ⟨g15, h⟩ := Ok.guard h
            refine sM_38 g15 dX11_uneven_72 ?_
            refine v_nmS (fun s16 e_s16 => ?_)
            have h := Ok.nm h e_s16
            refine v_iinc (v := (a12.1 + 1 : Int32)) 3 [(6, .int (a12.1 + 1 : Int32)), (0, .ref (lc 0 0)), (4, .int x4), (5, .int x5)] dX11_uneven_73 rfl (by rw [ic_1]) (Nat.le_of_ble_eq_true rfl) rfl ?_
            refine v_goto (tgt := 58) dX11_uneven_76 rfl ?_
            refine v_sub [1, 2, 3, 0] rfl ?_
            have h := Ok.ret h
            exact h
      · have h := Ok.pos h c10
        refine v_lconst dX11_uneven_46 kl_0 ?_
        have h := Ok.ret h
        exact v_lret rfl (Nat.zero_le _) (Nat.zero_le _) dX11_uneven_47 h)
    refine v_if_eq (tgt := 37) dX11_uneven_22 rfl (fun c6 => ?_) (fun c6 => ?_)
    · have h := Ok.pos h c6
      refine v_iconst dX11_uneven_37 ic_0 ?_
      have h := Ok.ret h
      exact h
    · have h := Ok.neg h c6
      refine v_iload 4 dX11_uneven_25 rfl ?_
      refine cM_392 (Ok.bind h) ⟨Nat.le_of_ble_eq_true rfl, Nat.le_of_ble_eq_true rfl⟩ (Nat.le_of_ble_eq_true rfl) dX11_uneven_27 (fun r7 z_r7 h => ?_)
      refine v_if_eq (tgt := 37) dX11_uneven_30 rfl (fun c8 => ?_) (fun c8 => ?_)
      · have h := Ok.pos h c8
        refine v_iconst dX11_uneven_37 ic_0 ?_
        have h := Ok.ret h
        exact h
      · have h := Ok.neg h c8
        refine v_iconst dX11_uneven_33 ic_1 ?_
        refine v_goto (tgt := 38) dX11_uneven_34 rfl ?_
        have h := Ok.ret h
        exact h
def fM_behind (s : tt_St) (x1 : Int32) : Option (Int64 × tt_St) :=
  (fM_bearsAll s x1).bind fun r1 => (fM_goesOver s).bind fun r2 => some (r1, r2)
abbrev rM_behind : Room := { frames := 11, cells := 0, slots := 0, locals := 254 }
set_option maxHeartbeats 4000000 in
theorem mM_behind (l : Launch) (D : va_G) (dA : Nat → ClassId) (A : Nat → Prop) (lc : Nat → Nat → Nat) (s : tt_St) (x1 : Int32) {Q : Option Value → (Nat → Nat → Nat) → tt_St → Prop} (h : Ok (fM_behind s x1) (fun r => Q (some (.long r.1)) lc r.2)) : tt_Sp (XM l D dA A) yX11_behind cX11_behind 4 (some .long) rM_behind [.ref (lc 0 0), .int x1] lc s Q := by
  refine tt_Sp.ofV plM kokM (Nat.le_of_ble_eq_true rfl) ?_
  show tt_V (XM l D dA A) cX11_behind (RX11, 4, (some .long), rM_behind, tt_nt) (tt_fn (XM l D dA A) (RX11, 4, (some .long), rM_behind, tt_nt) Q) 0 [(0, .ref (lc 0 0)), (1, .int x1)] [] lc s 0 0
  unfold fM_behind at h
  refine v_aload_n 0 dX11_behind_0 rfl ?_
  refine v_iload_n 1 dX11_behind_1 rfl ?_
  refine cM_437 (Ok.bind h) ⟨Nat.le_of_ble_eq_true rfl, Nat.le_of_ble_eq_true rfl⟩ (Nat.le_of_ble_eq_true rfl) dX11_behind_2 (fun r1 h => ?_)
  refine v_lstore_n [(2, .long r1), (0, .ref (lc 0 0)), (1, .int x1)] dX11_behind_5 (Nat.le_of_ble_eq_true rfl) rfl ?_
  refine v_aload_n 1 dX11_behind_6 rfl ?_
  refine cM_403 (Ok.bind h) ⟨Nat.le_of_ble_eq_true rfl, Nat.le_of_ble_eq_true rfl⟩ (Nat.le_of_ble_eq_true rfl) dX11_behind_7 (fun r2 h => ?_)
  refine v_lload_n 0 dX11_behind_10 rfl ?_
  have h := Ok.ret h
  exact v_lret rfl (Nat.zero_le _) (Nat.zero_le _) dX11_behind_11 h
theorem cM_456 {l : Launch} {D : va_G} {dA : Nat → ClassId} {A : Nat → Prop} {lc : Nat → Nat → Nat} {s : tt_St} {cc : ByteArray} {nl : Nat} {rt : Option FieldType} {rm : Room} {tn : tt_Tn} {Q : tt_Fin} {pc : Nat} {lv : List (Nat × Value)} {rest : List Value} {ck cn : Nat} {x1 : Int32} {K : Int64 × tt_St → Prop} (h : Ok (fM_behind s x1) K) (hR : 11 + 1 ≤ rm.frames ∧ 8 + (4 + 11) + 254 ≤ rm.locals) (hW : (rest.map fun v => v.category).sum ≤ 8) (d : decode cc pc = .ok (.invokevirtual 456, 3)) (kk : ∀ r, K r → tt_V (XM l D dA A) cc (RX11, nl, rt, rm, tn) Q (pc + 3) lv (.long r.1 :: rest) lc r.2 ck cn) (hf : ck ≤ rm.cells ∧ cn ≤ rm.slots := by exact ⟨Nat.zero_le _, Nat.zero_le _⟩) : tt_V (XM l D dA A) cc (RX11, nl, rt, rm, tn) Q pc lv (.int x1 :: .ref (lc 0 0) :: rest) lc s ck cn :=
  v_callV (kd := 0) (i := 0) (nA := 1) (As := [.int x1]) lvM_0 oM rfl (mM_behind l D dA A lc s x1 (Q := (fun v lc' s' => ∃ r, K r ∧ v = some (.long r.1) ∧ lc' = lc ∧ s' = r.2)) (h.mono (fun r hr => ⟨r, hr, rfl, rfl, rfl⟩))) (lw_V q2381 q2383 qs122 q154 q2384) (by decide +kernel) rfl hR hW hf d rfl (fun v lc' s' q => by obtain ⟨r, hr, e1, e2, e3⟩ := q; rw [e1, e2, e3]; exact kk r hr)
def fM_isPerson (s : tt_St) (x1 : Int32) (x2 : Int32) : Option (Int32 × tt_St) :=
  (fM_within x1.toInt64 (0 : Int64) (9 : Int64)).bind fun r1 => (fM_needs s r1 x2 (1 : Int32)).bind fun r2 => some (r2.1, r2.2)
abbrev rM_isPerson : Room := { frames := 1, cells := 0, slots := 0, locals := 25 }
set_option maxHeartbeats 4000000 in
theorem mM_isPerson (l : Launch) (D : va_G) (dA : Nat → ClassId) (A : Nat → Prop) (lc : Nat → Nat → Nat) (s : tt_St) (x1 : Int32) (x2 : Int32) {Q : Option Value → (Nat → Nat → Nat) → tt_St → Prop} (h : Ok (fM_isPerson s x1 x2) (fun r => zB r.1 → Q (some (.int r.1)) lc r.2)) : tt_Sp (XM l D dA A) yX11_isPerson cX11_isPerson 3 (some .boolean) rM_isPerson [.ref (lc 0 0), .int x1, .int x2] lc s Q := by
  refine tt_Sp.ofV plM kokM (Nat.le_of_ble_eq_true rfl) ?_
  show tt_V (XM l D dA A) cX11_isPerson (RX11, 3, (some .boolean), rM_isPerson, tt_nt) (tt_fn (XM l D dA A) (RX11, 3, (some .boolean), rM_isPerson, tt_nt) Q) 0 [(0, .ref (lc 0 0)), (1, .int x1), (2, .int x2)] [] lc s 0 0
  unfold fM_isPerson at h
  refine v_aload_n 0 dX11_isPerson_0 rfl ?_
  refine v_iload_n 1 dX11_isPerson_1 rfl ?_
  refine v_i2l dX11_isPerson_2 rfl ?_
  refine v_lconst dX11_isPerson_3 kl_0 ?_
  refine v_ldc2 dX11_isPerson_4 q2131 ?_
  refine cM_352 (Ok.bind h) ⟨Nat.le_of_ble_eq_true rfl, Nat.le_of_ble_eq_true rfl⟩ (Nat.le_of_ble_eq_true rfl) dX11_isPerson_7 (fun r1 z_r1 h => ?_)
  refine v_iload_n 2 dX11_isPerson_10 rfl ?_
  refine v_iconst dX11_isPerson_11 ic_1 ?_
  refine cM_346 (Ok.bind h) ⟨Nat.le_of_ble_eq_true rfl, Nat.le_of_ble_eq_true rfl⟩ (Nat.le_of_ble_eq_true rfl) dX11_isPerson_12 (fun r2 z_r2 h => ?_)
  have h := Ok.ret h
  exact v_zret rfl z_r2 (Nat.zero_le _) (Nat.zero_le _) dX11_isPerson_15 (h z_r2)
theorem cM_459 {l : Launch} {D : va_G} {dA : Nat → ClassId} {A : Nat → Prop} {lc : Nat → Nat → Nat} {s : tt_St} {cc : ByteArray} {nl : Nat} {rt : Option FieldType} {rm : Room} {tn : tt_Tn} {Q : tt_Fin} {pc : Nat} {lv : List (Nat × Value)} {rest : List Value} {ck cn : Nat} {x1 : Int32} {x2 : Int32} {K : Int32 × tt_St → Prop} (h : Ok (fM_isPerson s x1 x2) K) (hR : 1 + 1 ≤ rm.frames ∧ 8 + (3 + 11) + 25 ≤ rm.locals) (hW : (rest.map fun v => v.category).sum ≤ 8) (d : decode cc pc = .ok (.invokevirtual 459, 3)) (kk : ∀ r, zB r.1 → K r → tt_V (XM l D dA A) cc (RX11, nl, rt, rm, tn) Q (pc + 3) lv (.int r.1 :: rest) lc r.2 ck cn) (hf : ck ≤ rm.cells ∧ cn ≤ rm.slots := by exact ⟨Nat.zero_le _, Nat.zero_le _⟩) : tt_V (XM l D dA A) cc (RX11, nl, rt, rm, tn) Q pc lv (.int x2 :: .int x1 :: .ref (lc 0 0) :: rest) lc s ck cn :=
  v_callV (kd := 0) (i := 0) (nA := 2) (As := [.int x1, .int x2]) lvM_0 oM rfl (mM_isPerson l D dA A lc s x1 x2 (Q := (fun v lc' s' => ∃ r, zB r.1 ∧ K r ∧ v = some (.int r.1) ∧ lc' = lc ∧ s' = r.2)) (h.mono (fun r hr => fun hz => ⟨r, hz, hr, rfl, rfl, rfl⟩))) (lw_V q2393 q2395 qs123 q154 q2396) (by decide +kernel) rfl hR hW hf d rfl (fun v lc' s' q => by obtain ⟨r, hz, hr, e1, e2, e3⟩ := q; rw [e1, e2, e3]; exact kk r hz hr)
def fM_other (s : tt_St) (x1 : Int32) (x2 : Int32) (x3 : Int32) (x4 : Int32) : Option (Int64 × tt_St) :=
  nm (wrI s 0 0 0 (0 : Int32)) fun s1 => (fM_areRules x1 x2 x3).bind fun r2 => (if r2 = 0 then some (0 : Int32) else (fM_within x4.toInt64 (0 : Int64) (9 : Int64)).bind fun r5 => if r5 = 0 then some (0 : Int32) else some (1 : Int32) : Option (Int32)).bind fun t3 => (fM_needs s1 t3 (1 : Int32) (1 : Int32)).bind fun r7 => if r7.1 = 0 then some ((0 : Int64), r7.2) else (fM_goesBy r7.2 x1 x2 x3).bind fun r9 => (fM_behind r9 x4).bind fun r10 => some (r10.1, r10.2)
abbrev rM_other : Room := { frames := 12, cells := 0, slots := 0, locals := 277 }
set_option maxHeartbeats 4000000 in
theorem mM_other (l : Launch) (D : va_G) (dA : Nat → ClassId) (A : Nat → Prop) (lc : Nat → Nat → Nat) (s : tt_St) (x1 : Int32) (x2 : Int32) (x3 : Int32) (x4 : Int32) {Q : Option Value → (Nat → Nat → Nat) → tt_St → Prop} (h : Ok (fM_other s x1 x2 x3 x4) (fun r => Q (some (.long r.1)) lc r.2)) : tt_Sp (XM l D dA A) yX11_other cX11_other 5 (some .long) rM_other [.ref (lc 0 0), .int x1, .int x2, .int x3, .int x4] lc s Q := by
  refine tt_Sp.ofV plM kokM (Nat.le_of_ble_eq_true rfl) ?_
  show tt_V (XM l D dA A) cX11_other (RX11, 5, (some .long), rM_other, tt_nt) (tt_fn (XM l D dA A) (RX11, 5, (some .long), rM_other, tt_nt) Q) 0 [(0, .ref (lc 0 0)), (1, .int x1), (2, .int x2), (3, .int x3), (4, .int x4)] [] lc s 0 0
  unfold fM_other at h
  refine v_aload_n 0 dX11_other_0 rfl ?_
  refine v_iconst dX11_other_1 ic_0 ?_
  refine pM_1 dX11_other_2 ?_
  refine v_nmS (fun s1 e_s1 => ?_)
  have h := Ok.nm h e_s1
  refine v_aload_n 0 dX11_other_5 rfl ?_
  refine v_iload_n 1 dX11_other_6 rfl ?_
  refine v_iload_n 2 dX11_other_7 rfl ?_
  refine v_iload_n 3 dX11_other_8 rfl ?_
  refine cM_384 (Ok.bind h) ⟨Nat.le_of_ble_eq_true rfl, Nat.le_of_ble_eq_true rfl⟩ (Nat.le_of_ble_eq_true rfl) dX11_other_9 (fun r2 z_r2 h => ?_)
  have h := Ok.join (PJ := fun t3 : Int32 => tt_V (XM l D dA A) cX11_other (RX11, 5, (some .long), rM_other, tt_nt) (tt_fn (XM l D dA A) (RX11, 5, (some .long), rM_other, tt_nt) Q) 33 [(0, .ref (lc 0 0)), (1, .int x1), (2, .int x2), (3, .int x3), (4, .int x4)] [.int t3, .ref (lc 0 0)] lc s1 0 0) h (fun t3 h => by
    refine v_iconst dX11_other_33 ic_1 ?_
    refine v_iconst dX11_other_34 ic_1 ?_
    refine cM_346 (Ok.bind h) ⟨Nat.le_of_ble_eq_true rfl, Nat.le_of_ble_eq_true rfl⟩ (Nat.le_of_ble_eq_true rfl) dX11_other_35 (fun r7 z_r7 h => ?_)
    refine v_if_ne (tgt := 43) dX11_other_38 rfl (fun c8 => ?_) (fun c8 => ?_)
    · have h := Ok.neg h c8
      refine v_aload_n 0 dX11_other_43 rfl ?_
      refine v_iload_n 1 dX11_other_44 rfl ?_
      refine v_iload_n 2 dX11_other_45 rfl ?_
      refine v_iload_n 3 dX11_other_46 rfl ?_
      refine cM_453 (Ok.bind h) ⟨Nat.le_of_ble_eq_true rfl, Nat.le_of_ble_eq_true rfl⟩ (Nat.le_of_ble_eq_true rfl) dX11_other_47 (fun r9 h => ?_)
      refine v_aload_n 0 dX11_other_50 rfl ?_
      refine v_iload 4 dX11_other_51 rfl ?_
      refine cM_456 (Ok.bind h) ⟨Nat.le_of_ble_eq_true rfl, Nat.le_of_ble_eq_true rfl⟩ (Nat.le_of_ble_eq_true rfl) dX11_other_53 (fun r10 h => ?_)
      have h := Ok.ret h
      exact v_lret rfl (Nat.zero_le _) (Nat.zero_le _) dX11_other_56 h
    · have h := Ok.pos h c8
      refine v_lconst dX11_other_41 kl_0 ?_
      have h := Ok.ret h
      exact v_lret rfl (Nat.zero_le _) (Nat.zero_le _) dX11_other_42 h)
  refine v_if_eq (tgt := 32) dX11_other_12 rfl (fun c4 => ?_) (fun c4 => ?_)
  · have h := Ok.pos h c4
    refine v_iconst dX11_other_32 ic_0 ?_
    have h := Ok.ret h
    exact h
  · have h := Ok.neg h c4
    refine v_iload 4 dX11_other_15 rfl ?_
    refine v_i2l dX11_other_17 rfl ?_
    refine v_lconst dX11_other_18 kl_0 ?_
    refine v_ldc2 dX11_other_19 q2131 ?_
    refine cM_352 (Ok.bind h) ⟨Nat.le_of_ble_eq_true rfl, Nat.le_of_ble_eq_true rfl⟩ (Nat.le_of_ble_eq_true rfl) dX11_other_22 (fun r5 z_r5 h => ?_)
    refine v_if_eq (tgt := 32) dX11_other_25 rfl (fun c6 => ?_) (fun c6 => ?_)
    · have h := Ok.pos h c6
      refine v_iconst dX11_other_32 ic_0 ?_
      have h := Ok.ret h
      exact h
    · have h := Ok.neg h c6
      refine v_iconst dX11_other_28 ic_1 ?_
      refine v_goto (tgt := 33) dX11_other_29 rfl ?_
      have h := Ok.ret h
      exact h
def fM_best_L53 (x1 : Int32) (a9 : Int32 × Int64 × Int32 × tt_St) : Option ((Int32 × Int64 × Int32 × tt_St) ⊕ (Int32 × Int64 × Int32 × tt_St)) :=
  if (64 : Int32) ≤ a9.2.2.1 then some (.inr (a9.1, a9.2.1, a9.2.2.1, a9.2.2.2)) else (fM_goesBy a9.2.2.2 (a9.2.2.1 / (16 : Int32)) ((a9.2.2.1 / (4 : Int32)) - (a9.2.2.1 / (4 : Int32)) / (4 : Int32) * (4 : Int32)) (a9.2.2.1 - a9.2.2.1 / (4 : Int32) * (4 : Int32))).bind fun r12 => if a9.1 = (-1 : Int32) then (fM_bearsAll r12 x1).bind fun r14 => some (.inl (a9.2.2.1, r14, (a9.2.2.1 + 1 : Int32), r12)) else (fM_bearsAll r12 x1).bind fun r15 => if r15 < a9.2.1 then (fM_bearsAll r12 x1).bind fun r17 => some (.inl (a9.2.2.1, r17, (a9.2.2.1 + 1 : Int32), r12)) else some (.inl (a9.1, a9.2.1, (a9.2.2.1 + 1 : Int32), r12))
def fM_best (s : tt_St) (x1 : Int32) (x2 : Int32) : Option (Int64 × tt_St) :=
  nm (wrI s 0 0 0 (0 : Int32)) fun s1 => (fM_within x1.toInt64 (0 : Int64) (9 : Int64)).bind fun r2 => (if r2 = 0 then some (0 : Int32) else (fM_within x2.toInt64 (0 : Int64) (3 : Int64)).bind fun r5 => if r5 = 0 then some (0 : Int32) else some (1 : Int32) : Option (Int32)).bind fun t3 => (fM_needs s1 t3 (1 : Int32) (1 : Int32)).bind fun r7 => if r7.1 = 0 then some ((0 : Int64), r7.2) else (itr (fM_best_L53 x1) tt_fuel ((-1 : Int32), (0 : Int64), (0 : Int32), r7.2)).bind fun b10 => (fM_goesOver b10.2.2.2).bind fun r18 => if x2 = 0 then some ((b10.1 / (16 : Int32)).toInt64, r18) else if x2 = (1 : Int32) then some (((b10.1 / (4 : Int32)) - (b10.1 / (4 : Int32)) / (4 : Int32) * (4 : Int32)).toInt64, r18) else if x2 = (2 : Int32) then some ((b10.1 - b10.1 / (4 : Int32) * (4 : Int32)).toInt64, r18) else some (b10.2.1, r18)
abbrev rM_best : Room := { frames := 11, cells := 0, slots := 0, locals := 257 }
set_option maxHeartbeats 4000000 in
theorem mM_best (l : Launch) (D : va_G) (dA : Nat → ClassId) (A : Nat → Prop) (lc : Nat → Nat → Nat) (s : tt_St) (x1 : Int32) (x2 : Int32) {Q : Option Value → (Nat → Nat → Nat) → tt_St → Prop} (h : Ok (fM_best s x1 x2) (fun r => Q (some (.long r.1)) lc r.2)) : tt_Sp (XM l D dA A) yX11_best cX11_best 7 (some .long) rM_best [.ref (lc 0 0), .int x1, .int x2] lc s Q := by
  refine tt_Sp.ofV plM kokM (Nat.le_of_ble_eq_true rfl) ?_
  show tt_V (XM l D dA A) cX11_best (RX11, 7, (some .long), rM_best, tt_nt) (tt_fn (XM l D dA A) (RX11, 7, (some .long), rM_best, tt_nt) Q) 0 [(0, .ref (lc 0 0)), (1, .int x1), (2, .int x2)] [] lc s 0 0
  unfold fM_best at h
  refine v_aload_n 0 dX11_best_0 rfl ?_
  refine v_iconst dX11_best_1 ic_0 ?_
  refine pM_1 dX11_best_2 ?_
  refine v_nmS (fun s1 e_s1 => ?_)
  have h := Ok.nm h e_s1
  refine v_aload_n 0 dX11_best_5 rfl ?_
  refine v_iload_n 1 dX11_best_6 rfl ?_
  refine v_i2l dX11_best_7 rfl ?_
  refine v_lconst dX11_best_8 kl_0 ?_
  refine v_ldc2 dX11_best_9 q2131 ?_
  refine cM_352 (Ok.bind h) ⟨Nat.le_of_ble_eq_true rfl, Nat.le_of_ble_eq_true rfl⟩ (Nat.le_of_ble_eq_true rfl) dX11_best_12 (fun r2 z_r2 h => ?_)
  have h := Ok.join (PJ := fun t3 : Int32 => tt_V (XM l D dA A) cX11_best (RX11, 7, (some .long), rM_best, tt_nt) (tt_fn (XM l D dA A) (RX11, 7, (some .long), rM_best, tt_nt) Q) 35 [(0, .ref (lc 0 0)), (1, .int x1), (2, .int x2)] [.int t3, .ref (lc 0 0)] lc s1 0 0) h (fun t3 h => by
    refine v_iconst dX11_best_35 ic_1 ?_
    refine v_iconst dX11_best_36 ic_1 ?_
    refine cM_346 (Ok.bind h) ⟨Nat.le_of_ble_eq_true rfl, Nat.le_of_ble_eq_true rfl⟩ (Nat.le_of_ble_eq_true rfl) dX11_best_37 (fun r7 z_r7 h => ?_)
    refine v_if_ne (tgt := 45) dX11_best_40 rfl (fun c8 => ?_) (fun c8 => ?_)
    · have h := Ok.neg h c8
      refine v_iconst dX11_best_45 ic_m1 ?_
      refine v_istore_n [(3, .int (-1 : Int32)), (0, .ref (lc 0 0)), (1, .int x1), (2, .int x2)] dX11_best_46 (Nat.le_of_ble_eq_true rfl) rfl ?_
      refine v_lconst dX11_best_47 kl_0 ?_
      refine v_lstore [(4, .long (0 : Int64)), (3, .int (-1 : Int32)), (0, .ref (lc 0 0)), (1, .int x1), (2, .int x2)] dX11_best_48 (Nat.le_of_ble_eq_true rfl) rfl ?_
      refine v_iconst dX11_best_50 ic_0 ?_
      refine v_istore [(6, .int (0 : Int32)), (4, .long (0 : Int64)), (3, .int (-1 : Int32)), (0, .ref (lc 0 0)), (1, .int x1), (2, .int x2)] dX11_best_51 (Nat.le_of_ble_eq_true rfl) rfl ?_
      refine v_sub [3, 4, 5, 2, 1, 0] rfl ?_
      refine itr_loop (P := fun a9 : Int32 × Int64 × Int32 × tt_St => tt_V (XM l D dA A) cX11_best (RX11, 7, (some .long), rM_best, tt_nt) (tt_fn (XM l D dA A) (RX11, 7, (some .long), rM_best, tt_nt) Q) 53 [(0, .ref (lc 0 0)), (1, .int x1), (2, .int x2), (3, .int a9.1), (4, .long a9.2.1), (6, .int a9.2.2.1)] [] lc a9.2.2.2 0 0) (PE := fun b10 : Int32 × Int64 × Int32 × tt_St => tt_V (XM l D dA A) cX11_best (RX11, 7, (some .long), rM_best, tt_nt) (tt_fn (XM l D dA A) (RX11, 7, (some .long), rM_best, tt_nt) Q) 114 [(0, .ref (lc 0 0)), (1, .int x1), (2, .int x2), (3, .int b10.1), (4, .long b10.2.1), (6, .int b10.2.2.1)] [] lc b10.2.2.2 0 0) h (fun b10 h => ?_) (fun a9 h => ?_)
      · refine v_aload_n 0 dX11_best_114 rfl ?_
        refine cM_403 (Ok.bind h) ⟨Nat.le_of_ble_eq_true rfl, Nat.le_of_ble_eq_true rfl⟩ (Nat.le_of_ble_eq_true rfl) dX11_best_115 (fun r18 h => ?_)
        refine v_iload_n 2 dX11_best_118 rfl ?_
        refine v_if_ne (tgt := 130) dX11_best_119 rfl (fun c19 => ?_) (fun c19 => ?_)
        · have h := Ok.neg h c19
          refine v_iload_n 2 dX11_best_130 rfl ?_
          refine v_iconst dX11_best_131 ic_1 ?_
          refine v_icmp_ne (tgt := 144) dX11_best_132 rfl (fun c20 => ?_) (fun c20 => ?_)
          · have h := Ok.neg h c20
            refine v_iload_n 2 dX11_best_144 rfl ?_
            refine v_iconst dX11_best_145 ic_2 ?_
            refine v_icmp_ne (tgt := 156) dX11_best_146 rfl (fun c21 => ?_) (fun c21 => ?_)
            · have h := Ok.neg h c21
              refine v_lload 4 dX11_best_156 rfl ?_
              have h := Ok.ret h
              exact v_lret rfl (Nat.zero_le _) (Nat.zero_le _) dX11_best_158 h
            · have h := Ok.pos h c21
              refine v_iload_n 3 dX11_best_149 rfl ?_
              refine v_iconst dX11_best_150 ic_4 ?_
              refine v_irem dX11_best_151 (by decide) ?_
              refine v_i2l dX11_best_152 rfl ?_
              refine v_goto (tgt := 158) dX11_best_153 rfl ?_
              have h := Ok.ret h
              exact v_lret rfl (Nat.zero_le _) (Nat.zero_le _) dX11_best_158 h
          · have h := Ok.pos h c20
            refine v_iload_n 3 dX11_best_135 rfl ?_
            refine v_iconst dX11_best_136 ic_4 ?_
            refine v_idiv dX11_best_137 (by decide) ?_
            refine v_iconst dX11_best_138 ic_4 ?_
            refine v_irem dX11_best_139 (by decide) ?_
            refine v_i2l dX11_best_140 rfl ?_
            refine v_goto (tgt := 158) dX11_best_141 rfl ?_
            have h := Ok.ret h
            exact v_lret rfl (Nat.zero_le _) (Nat.zero_le _) dX11_best_158 h
        · have h := Ok.pos h c19
          refine v_iload_n 3 dX11_best_122 rfl ?_
          refine v_bipush dX11_best_123 kb_16 ?_
          refine v_idiv dX11_best_125 (by decide) ?_
          refine v_i2l dX11_best_126 rfl ?_
          refine v_goto (tgt := 158) dX11_best_127 rfl ?_
          have h := Ok.ret h
          exact v_lret rfl (Nat.zero_le _) (Nat.zero_le _) dX11_best_158 h
      · have h : Ok (fM_best_L53 x1 a9) _ := h
        unfold fM_best_L53 at h
        refine v_iload 5 dX11_best_53 rfl ?_
        refine v_bipush dX11_best_55 kb_64 ?_
        refine v_icmp_ge (tgt := 114) dX11_best_57 rfl (fun c11 => ?_) (fun c11 => ?_)
        · have h := Ok.pos h c11
          have h := Ok.ret h
          exact h
        · have h := Ok.neg h c11
          refine v_aload_n 0 dX11_best_60 rfl ?_
          refine v_iload 5 dX11_best_61 rfl ?_
          refine v_bipush dX11_best_63 kb_16 ?_
          refine v_idiv dX11_best_65 (by decide) ?_
          refine v_iload 5 dX11_best_66 rfl ?_
          refine v_iconst dX11_best_68 ic_4 ?_
          refine v_idiv dX11_best_69 (by decide) ?_
          refine v_iconst dX11_best_70 ic_4 ?_
          refine v_irem dX11_best_71 (by decide) ?_
          refine v_iload 5 dX11_best_72 rfl ?_
          refine v_iconst dX11_best_74 ic_4 ?_
          refine v_irem dX11_best_75 (by decide) ?_
          refine cM_453 (Ok.bind h) ⟨Nat.le_of_ble_eq_true rfl, Nat.le_of_ble_eq_true rfl⟩ (Nat.le_of_ble_eq_true rfl) dX11_best_76 (fun r12 h => ?_)
          refine v_iload_n 3 dX11_best_79 rfl ?_
          refine v_iconst dX11_best_80 ic_m1 ?_
          refine v_icmp_eq (tgt := 98) dX11_best_81 rfl (fun c13 => ?_) (fun c13 => ?_)
          · have h := Ok.pos h c13
            refine v_iload 5 dX11_best_98 rfl ?_
            refine v_istore_n [(3, .int a9.2.2.1), (0, .ref (lc 0 0)), (1, .int x1), (2, .int x2), (4, .long a9.2.1), (6, .int a9.2.2.1)] dX11_best_100 (Nat.le_of_ble_eq_true rfl) rfl ?_
            refine v_aload_n 1 dX11_best_101 rfl ?_
            refine v_iload_n 2 dX11_best_102 rfl ?_
            refine cM_437 (Ok.bind h) ⟨Nat.le_of_ble_eq_true rfl, Nat.le_of_ble_eq_true rfl⟩ (Nat.le_of_ble_eq_true rfl) dX11_best_103 (fun r14 h => ?_)
            refine v_lstore [(4, .long r14), (3, .int a9.2.2.1), (0, .ref (lc 0 0)), (1, .int x1), (2, .int x2), (6, .int a9.2.2.1)] dX11_best_106 (Nat.le_of_ble_eq_true rfl) rfl ?_
            refine v_iinc (v := (a9.2.2.1 + 1 : Int32)) 5 [(6, .int (a9.2.2.1 + 1 : Int32)), (4, .long r14), (3, .int a9.2.2.1), (0, .ref (lc 0 0)), (1, .int x1), (2, .int x2)] dX11_best_108 rfl (by rw [ic_1]) (Nat.le_of_ble_eq_true rfl) rfl ?_
            refine v_goto (tgt := 53) dX11_best_111 rfl ?_
            refine v_sub [3, 4, 5, 2, 1, 0] rfl ?_
            have h := Ok.ret h
            exact h
          · have h := Ok.neg h c13
            refine v_aload_n 0 dX11_best_84 rfl ?_
            refine v_iload_n 1 dX11_best_85 rfl ?_
            refine cM_437 (Ok.bind h) ⟨Nat.le_of_ble_eq_true rfl, Nat.le_of_ble_eq_true rfl⟩ (Nat.le_of_ble_eq_true rfl) dX11_best_86 (fun r15 h => ?_)
            refine v_lload 4 dX11_best_89 rfl ?_
            refine v_lif_lt (tgt := 98) dX11_best_91 dX11_best_92 rfl (fun c16 => ?_) (fun c16 => ?_)
            · have h := Ok.pos h c16
              refine v_iload 5 dX11_best_98 rfl ?_
              refine v_istore_n [(3, .int a9.2.2.1), (0, .ref (lc 0 0)), (1, .int x1), (2, .int x2), (4, .long a9.2.1), (6, .int a9.2.2.1)] dX11_best_100 (Nat.le_of_ble_eq_true rfl) rfl ?_
              refine v_aload_n 1 dX11_best_101 rfl ?_
              refine v_iload_n 2 dX11_best_102 rfl ?_
              refine cM_437 (Ok.bind h) ⟨Nat.le_of_ble_eq_true rfl, Nat.le_of_ble_eq_true rfl⟩ (Nat.le_of_ble_eq_true rfl) dX11_best_103 (fun r17 h => ?_)
              refine v_lstore [(4, .long r17), (3, .int a9.2.2.1), (0, .ref (lc 0 0)), (1, .int x1), (2, .int x2), (6, .int a9.2.2.1)] dX11_best_106 (Nat.le_of_ble_eq_true rfl) rfl ?_
              refine v_iinc (v := (a9.2.2.1 + 1 : Int32)) 5 [(6, .int (a9.2.2.1 + 1 : Int32)), (4, .long r17), (3, .int a9.2.2.1), (0, .ref (lc 0 0)), (1, .int x1), (2, .int x2)] dX11_best_108 rfl (by rw [ic_1]) (Nat.le_of_ble_eq_true rfl) rfl ?_
              refine v_goto (tgt := 53) dX11_best_111 rfl ?_
              refine v_sub [3, 4, 5, 2, 1, 0] rfl ?_
              have h := Ok.ret h
              exact h
            · have h := Ok.neg h c16
              refine v_goto (tgt := 108) dX11_best_95 rfl ?_
              refine v_iinc (v := (a9.2.2.1 + 1 : Int32)) 5 [(6, .int (a9.2.2.1 + 1 : Int32)), (0, .ref (lc 0 0)), (1, .int x1), (2, .int x2), (3, .int a9.1), (4, .long a9.2.1)] dX11_best_108 rfl (by rw [ic_1]) (Nat.le_of_ble_eq_true rfl) rfl ?_
              refine v_goto (tgt := 53) dX11_best_111 rfl ?_
              refine v_sub [1, 2, 3, 4, 5, 0] rfl ?_
              have h := Ok.ret h
              exact h
    · have h := Ok.pos h c8
      refine v_lconst dX11_best_43 kl_0 ?_
      have h := Ok.ret h
      exact v_lret rfl (Nat.zero_le _) (Nat.zero_le _) dX11_best_44 h)
  refine v_if_eq (tgt := 34) dX11_best_15 rfl (fun c4 => ?_) (fun c4 => ?_)
  · have h := Ok.pos h c4
    refine v_iconst dX11_best_34 ic_0 ?_
    have h := Ok.ret h
    exact h
  · have h := Ok.neg h c4
    refine v_iload_n 2 dX11_best_18 rfl ?_
    refine v_i2l dX11_best_19 rfl ?_
    refine v_lconst dX11_best_20 kl_0 ?_
    refine v_ldc2 dX11_best_21 q2154 ?_
    refine cM_352 (Ok.bind h) ⟨Nat.le_of_ble_eq_true rfl, Nat.le_of_ble_eq_true rfl⟩ (Nat.le_of_ble_eq_true rfl) dX11_best_24 (fun r5 z_r5 h => ?_)
    refine v_if_eq (tgt := 34) dX11_best_27 rfl (fun c6 => ?_) (fun c6 => ?_)
    · have h := Ok.pos h c6
      refine v_iconst dX11_best_34 ic_0 ?_
      have h := Ok.ret h
      exact h
    · have h := Ok.neg h c6
      refine v_iconst dX11_best_30 ic_1 ?_
      refine v_goto (tgt := 35) dX11_best_31 rfl ?_
      have h := Ok.ret h
      exact h
def fM_without (s : tt_St) (x1 : Int32) (x2 : Int32) : Option (Int64 × tt_St) :=
  nm (wrI s 0 0 0 (0 : Int32)) fun s1 => (fM_isEvent s1 x1).bind fun r2 => if r2.1 = 0 then some ((0 : Int64), r2.2) else (fM_isPerson r2.2 x2 (2 : Int32)).bind fun r4 => if r4.1 = 0 then some ((0 : Int64), r4.2) else (fM_goesWithout r4.2 x1).bind fun r6 => (fM_behind r6 x2).bind fun r7 => some (r7.1, r7.2)
abbrev rM_without : Room := { frames := 12, cells := 0, slots := 0, locals := 277 }
set_option maxHeartbeats 4000000 in
theorem mM_without (l : Launch) (D : va_G) (dA : Nat → ClassId) (A : Nat → Prop) (lc : Nat → Nat → Nat) (s : tt_St) (x1 : Int32) (x2 : Int32) {Q : Option Value → (Nat → Nat → Nat) → tt_St → Prop} (h : Ok (fM_without s x1 x2) (fun r => Q (some (.long r.1)) lc r.2)) : tt_Sp (XM l D dA A) yX11_without cX11_without 3 (some .long) rM_without [.ref (lc 0 0), .int x1, .int x2] lc s Q := by
  refine tt_Sp.ofV plM kokM (Nat.le_of_ble_eq_true rfl) ?_
  show tt_V (XM l D dA A) cX11_without (RX11, 3, (some .long), rM_without, tt_nt) (tt_fn (XM l D dA A) (RX11, 3, (some .long), rM_without, tt_nt) Q) 0 [(0, .ref (lc 0 0)), (1, .int x1), (2, .int x2)] [] lc s 0 0
  unfold fM_without at h
  refine v_aload_n 0 dX11_without_0 rfl ?_
  refine v_iconst dX11_without_1 ic_0 ?_
  refine pM_1 dX11_without_2 ?_
  refine v_nmS (fun s1 e_s1 => ?_)
  have h := Ok.nm h e_s1
  refine v_aload_n 0 dX11_without_5 rfl ?_
  refine v_iload_n 1 dX11_without_6 rfl ?_
  refine cM_413 (Ok.bind h) ⟨Nat.le_of_ble_eq_true rfl, Nat.le_of_ble_eq_true rfl⟩ (Nat.le_of_ble_eq_true rfl) dX11_without_7 (fun r2 z_r2 h => ?_)
  refine v_if_eq (tgt := 22) dX11_without_10 rfl (fun c3 => ?_) (fun c3 => ?_)
  · have h := Ok.pos h c3
    refine v_lconst dX11_without_22 kl_0 ?_
    have h := Ok.ret h
    exact v_lret rfl (Nat.zero_le _) (Nat.zero_le _) dX11_without_23 h
  · have h := Ok.neg h c3
    refine v_aload_n 0 dX11_without_13 rfl ?_
    refine v_iload_n 2 dX11_without_14 rfl ?_
    refine v_iconst dX11_without_15 ic_2 ?_
    refine cM_459 (Ok.bind h) ⟨Nat.le_of_ble_eq_true rfl, Nat.le_of_ble_eq_true rfl⟩ (Nat.le_of_ble_eq_true rfl) dX11_without_16 (fun r4 z_r4 h => ?_)
    refine v_if_ne (tgt := 24) dX11_without_19 rfl (fun c5 => ?_) (fun c5 => ?_)
    · have h := Ok.neg h c5
      refine v_aload_n 0 dX11_without_24 rfl ?_
      refine v_iload_n 1 dX11_without_25 rfl ?_
      refine cM_462 (Ok.bind h) ⟨Nat.le_of_ble_eq_true rfl, Nat.le_of_ble_eq_true rfl⟩ (Nat.le_of_ble_eq_true rfl) dX11_without_26 (fun r6 h => ?_)
      refine v_aload_n 0 dX11_without_29 rfl ?_
      refine v_iload_n 2 dX11_without_30 rfl ?_
      refine cM_456 (Ok.bind h) ⟨Nat.le_of_ble_eq_true rfl, Nat.le_of_ble_eq_true rfl⟩ (Nat.le_of_ble_eq_true rfl) dX11_without_31 (fun r7 h => ?_)
      have h := Ok.ret h
      exact v_lret rfl (Nat.zero_le _) (Nat.zero_le _) dX11_without_34 h
    · have h := Ok.pos h c5
      refine v_lconst dX11_without_22 kl_0 ?_
      have h := Ok.ret h
      exact v_lret rfl (Nat.zero_le _) (Nat.zero_le _) dX11_without_23 h
def fM_undone (s : tt_St) (x1 : Int32) : Option (Int32 × tt_St) :=
  nm (wrI s 0 0 0 (0 : Int32)) fun s1 => (fM_isEvent s1 x1).bind fun r2 => if r2.1 = 0 then some ((0 : Int32), r2.2) else (fM_goesWithout r2.2 x1).bind fun r4 => nm (rdI r4 0 0 49) fun v5 => (fM_goesOver r4).bind fun r6 => some (v5, r6)
abbrev rM_undone : Room := { frames := 11, cells := 0, slots := 0, locals := 255 }
set_option maxHeartbeats 4000000 in
theorem mM_undone (l : Launch) (D : va_G) (dA : Nat → ClassId) (A : Nat → Prop) (lc : Nat → Nat → Nat) (s : tt_St) (x1 : Int32) {Q : Option Value → (Nat → Nat → Nat) → tt_St → Prop} (h : Ok (fM_undone s x1) (fun r => Q (some (.int r.1)) lc r.2)) : tt_Sp (XM l D dA A) yX11_undone cX11_undone 3 (some .int) rM_undone [.ref (lc 0 0), .int x1] lc s Q := by
  refine tt_Sp.ofV plM kokM (Nat.le_of_ble_eq_true rfl) ?_
  show tt_V (XM l D dA A) cX11_undone (RX11, 3, (some .int), rM_undone, tt_nt) (tt_fn (XM l D dA A) (RX11, 3, (some .int), rM_undone, tt_nt) Q) 0 [(0, .ref (lc 0 0)), (1, .int x1)] [] lc s 0 0
  unfold fM_undone at h
  refine v_aload_n 0 dX11_undone_0 rfl ?_
  refine v_iconst dX11_undone_1 ic_0 ?_
  refine pM_1 dX11_undone_2 ?_
  refine v_nmS (fun s1 e_s1 => ?_)
  have h := Ok.nm h e_s1
  refine v_aload_n 0 dX11_undone_5 rfl ?_
  refine v_iload_n 1 dX11_undone_6 rfl ?_
  refine cM_413 (Ok.bind h) ⟨Nat.le_of_ble_eq_true rfl, Nat.le_of_ble_eq_true rfl⟩ (Nat.le_of_ble_eq_true rfl) dX11_undone_7 (fun r2 z_r2 h => ?_)
  refine v_if_ne (tgt := 15) dX11_undone_10 rfl (fun c3 => ?_) (fun c3 => ?_)
  · have h := Ok.neg h c3
    refine v_aload_n 0 dX11_undone_15 rfl ?_
    refine v_iload_n 1 dX11_undone_16 rfl ?_
    refine cM_462 (Ok.bind h) ⟨Nat.le_of_ble_eq_true rfl, Nat.le_of_ble_eq_true rfl⟩ (Nat.le_of_ble_eq_true rfl) dX11_undone_17 (fun r4 h => ?_)
    refine v_aload_n 0 dX11_undone_20 rfl ?_
    refine gM_334 dX11_undone_21 ?_
    refine v_nmI (fun v5 e_v5 => ?_)
    have h := Ok.nm h e_v5
    refine v_istore_n [(2, .int v5), (0, .ref (lc 0 0)), (1, .int x1)] dX11_undone_24 (Nat.le_of_ble_eq_true rfl) rfl ?_
    refine v_aload_n 1 dX11_undone_25 rfl ?_
    refine cM_403 (Ok.bind h) ⟨Nat.le_of_ble_eq_true rfl, Nat.le_of_ble_eq_true rfl⟩ (Nat.le_of_ble_eq_true rfl) dX11_undone_26 (fun r6 h => ?_)
    refine v_iload_n 0 dX11_undone_29 rfl ?_
    have h := Ok.ret h
    exact v_iret rfl (Nat.zero_le _) (Nat.zero_le _) dX11_undone_30 h
  · have h := Ok.pos h c3
    refine v_iconst dX11_undone_13 ic_0 ?_
    have h := Ok.ret h
    exact v_iret rfl (Nat.zero_le _) (Nat.zero_le _) dX11_undone_14 h
def fM_shift_L62 (x1 : Int32) (x2 : Int32) (a12 : Int32 × tt_St) : Option ((Int32 × tt_St) ⊕ (Int32 × tt_St)) :=
  if (rdI a12.2 0 0 5) < a12.1 then some (.inr (a12.1, a12.2)) else (if a12.1 = x2 then (fM_goes a12.2 x1).bind fun r17 => some r17 else some a12.2 : Option (tt_St)).bind fun t15 => if (rdI t15 0 0 5) ≤ a12.1 then some (.inl ((a12.1 + 1 : Int32), t15)) else if a12.1 = x1 then some (.inl ((a12.1 + 1 : Int32), t15)) else (fM_goes t15 a12.1).bind fun r20 => some (.inl ((a12.1 + 1 : Int32), r20))
def fM_shift (s : tt_St) (x1 : Int32) (x2 : Int32) (x3 : Int32) : Option (Int64 × tt_St) :=
  nm (wrI s 0 0 0 (0 : Int32)) fun s1 => (fM_isEvent s1 x1).bind fun r2 => if r2.1 = 0 then some ((0 : Int64), r2.2) else (fM_within x2.toInt64 (0 : Int64) ((rdI r2.2 0 0 5).toInt64)).bind fun r4 => (if r4 = 0 then some (0 : Int32) else (fM_within x3.toInt64 (0 : Int64) (9 : Int64)).bind fun r7 => if r7 = 0 then some (0 : Int32) else some (1 : Int32) : Option (Int32)).bind fun t5 => (fM_needs r2.2 t5 (2 : Int32) (1 : Int32)).bind fun r9 => if r9.1 = 0 then some ((0 : Int64), r9.2) else (fM_begins r9.2).bind fun r11 => (itr (fM_shift_L62 x1 x2) tt_fuel ((0 : Int32), r11)).bind fun b13 => (fM_behind b13.2 x3).bind fun r21 => some (r21.1, r21.2)
abbrev rM_shift : Room := { frames := 12, cells := 0, slots := 0, locals := 277 }
set_option maxHeartbeats 4000000 in
theorem mM_shift (l : Launch) (D : va_G) (dA : Nat → ClassId) (A : Nat → Prop) (lc : Nat → Nat → Nat) (s : tt_St) (x1 : Int32) (x2 : Int32) (x3 : Int32) {Q : Option Value → (Nat → Nat → Nat) → tt_St → Prop} (h : Ok (fM_shift s x1 x2 x3) (fun r => Q (some (.long r.1)) lc r.2)) : tt_Sp (XM l D dA A) yX11_shift cX11_shift 5 (some .long) rM_shift [.ref (lc 0 0), .int x1, .int x2, .int x3] lc s Q := by
  refine tt_Sp.ofV plM kokM (Nat.le_of_ble_eq_true rfl) ?_
  show tt_V (XM l D dA A) cX11_shift (RX11, 5, (some .long), rM_shift, tt_nt) (tt_fn (XM l D dA A) (RX11, 5, (some .long), rM_shift, tt_nt) Q) 0 [(0, .ref (lc 0 0)), (1, .int x1), (2, .int x2), (3, .int x3)] [] lc s 0 0
  unfold fM_shift at h
  refine v_aload_n 0 dX11_shift_0 rfl ?_
  refine v_iconst dX11_shift_1 ic_0 ?_
  refine pM_1 dX11_shift_2 ?_
  refine v_nmS (fun s1 e_s1 => ?_)
  have h := Ok.nm h e_s1
  refine v_aload_n 0 dX11_shift_5 rfl ?_
  refine v_iload_n 1 dX11_shift_6 rfl ?_
  refine cM_413 (Ok.bind h) ⟨Nat.le_of_ble_eq_true rfl, Nat.le_of_ble_eq_true rfl⟩ (Nat.le_of_ble_eq_true rfl) dX11_shift_7 (fun r2 z_r2 h => ?_)
  refine v_if_eq (tgt := 53) dX11_shift_10 rfl (fun c3 => ?_) (fun c3 => ?_)
  · have h := Ok.pos h c3
    refine v_lconst dX11_shift_53 kl_0 ?_
    have h := Ok.ret h
    exact v_lret rfl (Nat.zero_le _) (Nat.zero_le _) dX11_shift_54 h
  · have h := Ok.neg h c3
    refine v_aload_n 0 dX11_shift_13 rfl ?_
    refine v_iload_n 2 dX11_shift_14 rfl ?_
    refine v_i2l dX11_shift_15 rfl ?_
    refine v_lconst dX11_shift_16 kl_0 ?_
    refine v_aload_n 0 dX11_shift_17 rfl ?_
    refine gM_17 dX11_shift_18 ?_
    refine v_i2l dX11_shift_21 rfl ?_
    refine cM_352 (Ok.bind h) ⟨Nat.le_of_ble_eq_true rfl, Nat.le_of_ble_eq_true rfl⟩ (Nat.le_of_ble_eq_true rfl) dX11_shift_22 (fun r4 z_r4 h => ?_)
    have h := Ok.join (PJ := fun t5 : Int32 => tt_V (XM l D dA A) cX11_shift (RX11, 5, (some .long), rM_shift, tt_nt) (tt_fn (XM l D dA A) (RX11, 5, (some .long), rM_shift, tt_nt) Q) 45 [(0, .ref (lc 0 0)), (1, .int x1), (2, .int x2), (3, .int x3)] [.int t5, .ref (lc 0 0)] lc r2.2 0 0) h (fun t5 h => by
      refine v_iconst dX11_shift_45 ic_2 ?_
      refine v_iconst dX11_shift_46 ic_1 ?_
      refine cM_346 (Ok.bind h) ⟨Nat.le_of_ble_eq_true rfl, Nat.le_of_ble_eq_true rfl⟩ (Nat.le_of_ble_eq_true rfl) dX11_shift_47 (fun r9 z_r9 h => ?_)
      refine v_if_ne (tgt := 55) dX11_shift_50 rfl (fun c10 => ?_) (fun c10 => ?_)
      · have h := Ok.neg h c10
        refine v_aload_n 0 dX11_shift_55 rfl ?_
        refine cM_340 (Ok.bind h) ⟨Nat.le_of_ble_eq_true rfl, Nat.le_of_ble_eq_true rfl⟩ (Nat.le_of_ble_eq_true rfl) dX11_shift_56 (fun r11 h => ?_)
        refine v_iconst dX11_shift_59 ic_0 ?_
        refine v_istore [(4, .int (0 : Int32)), (0, .ref (lc 0 0)), (1, .int x1), (2, .int x2), (3, .int x3)] dX11_shift_60 (Nat.le_of_ble_eq_true rfl) rfl ?_
        refine v_sub [1, 2, 3, 4, 0] rfl ?_
        refine itr_loop (P := fun a12 : Int32 × tt_St => tt_V (XM l D dA A) cX11_shift (RX11, 5, (some .long), rM_shift, tt_nt) (tt_fn (XM l D dA A) (RX11, 5, (some .long), rM_shift, tt_nt) Q) 62 [(0, .ref (lc 0 0)), (1, .int x1), (2, .int x2), (3, .int x3), (4, .int a12.1)] [] lc a12.2 0 0) (PE := fun b13 : Int32 × tt_St => tt_V (XM l D dA A) cX11_shift (RX11, 5, (some .long), rM_shift, tt_nt) (tt_fn (XM l D dA A) (RX11, 5, (some .long), rM_shift, tt_nt) Q) 109 [(0, .ref (lc 0 0)), (1, .int x1), (2, .int x2), (3, .int x3), (4, .int b13.1)] [] lc b13.2 0 0) h (fun b13 h => ?_) (fun a12 h => ?_)
        · refine v_aload_n 0 dX11_shift_109 rfl ?_
          refine v_iload_n 3 dX11_shift_110 rfl ?_
          refine cM_456 (Ok.bind h) ⟨Nat.le_of_ble_eq_true rfl, Nat.le_of_ble_eq_true rfl⟩ (Nat.le_of_ble_eq_true rfl) dX11_shift_111 (fun r21 h => ?_)
          have h := Ok.ret h
          exact v_lret rfl (Nat.zero_le _) (Nat.zero_le _) dX11_shift_114 h
        · have h : Ok (fM_shift_L62 x1 x2 a12) _ := h
          unfold fM_shift_L62 at h
          refine v_iload 4 dX11_shift_62 rfl ?_
          refine v_aload_n 0 dX11_shift_64 rfl ?_
          refine gM_17 dX11_shift_65 ?_
          refine v_icmp_gt (tgt := 109) dX11_shift_68 rfl (fun c14 => ?_) (fun c14 => ?_)
          · have h := Ok.pos h c14
            have h := Ok.ret h
            exact h
          · have h := Ok.neg h c14
            refine v_iload 4 dX11_shift_71 rfl ?_
            refine v_iload_n 2 dX11_shift_73 rfl ?_
            have h := Ok.join (PJ := fun t15 : tt_St => tt_V (XM l D dA A) cX11_shift (RX11, 5, (some .long), rM_shift, tt_nt) (tt_fn (XM l D dA A) (RX11, 5, (some .long), rM_shift, tt_nt) Q) 82 [(0, .ref (lc 0 0)), (1, .int x1), (2, .int x2), (3, .int x3), (4, .int a12.1)] [] lc t15 0 0) h (fun t15 h => by
              refine v_iload 4 dX11_shift_82 rfl ?_
              refine v_aload_n 0 dX11_shift_84 rfl ?_
              refine gM_17 dX11_shift_85 ?_
              refine v_icmp_ge (tgt := 103) dX11_shift_88 rfl (fun c18 => ?_) (fun c18 => ?_)
              · have h := Ok.pos h c18
                refine v_iinc (v := (a12.1 + 1 : Int32)) 4 [(4, .int (a12.1 + 1 : Int32)), (0, .ref (lc 0 0)), (1, .int x1), (2, .int x2), (3, .int x3)] dX11_shift_103 rfl (by rw [ic_1]) (Nat.le_of_ble_eq_true rfl) rfl ?_
                refine v_goto (tgt := 62) dX11_shift_106 rfl ?_
                refine v_sub [1, 2, 3, 4, 0] rfl ?_
                have h := Ok.ret h
                exact h
              · have h := Ok.neg h c18
                refine v_iload 4 dX11_shift_91 rfl ?_
                refine v_iload_n 1 dX11_shift_93 rfl ?_
                refine v_icmp_eq (tgt := 103) dX11_shift_94 rfl (fun c19 => ?_) (fun c19 => ?_)
                · have h := Ok.pos h c19
                  refine v_iinc (v := (a12.1 + 1 : Int32)) 4 [(4, .int (a12.1 + 1 : Int32)), (0, .ref (lc 0 0)), (1, .int x1), (2, .int x2), (3, .int x3)] dX11_shift_103 rfl (by rw [ic_1]) (Nat.le_of_ble_eq_true rfl) rfl ?_
                  refine v_goto (tgt := 62) dX11_shift_106 rfl ?_
                  refine v_sub [1, 2, 3, 4, 0] rfl ?_
                  have h := Ok.ret h
                  exact h
                · have h := Ok.neg h c19
                  refine v_aload_n 0 dX11_shift_97 rfl ?_
                  refine v_iload 4 dX11_shift_98 rfl ?_
                  refine cM_343 (Ok.bind h) ⟨Nat.le_of_ble_eq_true rfl, Nat.le_of_ble_eq_true rfl⟩ (Nat.le_of_ble_eq_true rfl) dX11_shift_100 (fun r20 h => ?_)
                  refine v_iinc (v := (a12.1 + 1 : Int32)) 4 [(4, .int (a12.1 + 1 : Int32)), (0, .ref (lc 0 0)), (1, .int x1), (2, .int x2), (3, .int x3)] dX11_shift_103 rfl (by rw [ic_1]) (Nat.le_of_ble_eq_true rfl) rfl ?_
                  refine v_goto (tgt := 62) dX11_shift_106 rfl ?_
                  refine v_sub [1, 2, 3, 4, 0] rfl ?_
                  have h := Ok.ret h
                  exact h)
            refine v_icmp_ne (tgt := 82) dX11_shift_74 rfl (fun c16 => ?_) (fun c16 => ?_)
            · have h := Ok.neg h c16
              have h := Ok.ret h
              exact h
            · have h := Ok.pos h c16
              refine v_aload_n 0 dX11_shift_77 rfl ?_
              refine v_iload_n 1 dX11_shift_78 rfl ?_
              refine cM_343 (Ok.bind h) ⟨Nat.le_of_ble_eq_true rfl, Nat.le_of_ble_eq_true rfl⟩ (Nat.le_of_ble_eq_true rfl) dX11_shift_79 (fun r17 h => ?_)
              have h := Ok.ret h
              exact h
      · have h := Ok.pos h c10
        refine v_lconst dX11_shift_53 kl_0 ?_
        have h := Ok.ret h
        exact v_lret rfl (Nat.zero_le _) (Nat.zero_le _) dX11_shift_54 h)
    refine v_if_eq (tgt := 44) dX11_shift_25 rfl (fun c6 => ?_) (fun c6 => ?_)
    · have h := Ok.pos h c6
      refine v_iconst dX11_shift_44 ic_0 ?_
      have h := Ok.ret h
      exact h
    · have h := Ok.neg h c6
      refine v_iload_n 3 dX11_shift_28 rfl ?_
      refine v_i2l dX11_shift_29 rfl ?_
      refine v_lconst dX11_shift_30 kl_0 ?_
      refine v_ldc2 dX11_shift_31 q2131 ?_
      refine cM_352 (Ok.bind h) ⟨Nat.le_of_ble_eq_true rfl, Nat.le_of_ble_eq_true rfl⟩ (Nat.le_of_ble_eq_true rfl) dX11_shift_34 (fun r7 z_r7 h => ?_)
      refine v_if_eq (tgt := 44) dX11_shift_37 rfl (fun c8 => ?_) (fun c8 => ?_)
      · have h := Ok.pos h c8
        refine v_iconst dX11_shift_44 ic_0 ?_
        have h := Ok.ret h
        exact h
      · have h := Ok.neg h c8
        refine v_iconst dX11_shift_40 ic_1 ?_
        refine v_goto (tgt := 45) dX11_shift_41 rfl ?_
        have h := Ok.ret h
        exact h
def fM_after_L30 (x1 : Int32) (a7 : Int32 × tt_St) : Option ((Int32 × tt_St) ⊕ (Int32 × tt_St)) :=
  if x1 < a7.1 then some (.inr (a7.1, a7.2)) else (fM_goes a7.2 a7.1).bind fun r10 => some (.inl ((a7.1 + 1 : Int32), r10))
def fM_after (s : tt_St) (x1 : Int32) (x2 : Int32) : Option (Int64 × tt_St) :=
  nm (wrI s 0 0 0 (0 : Int32)) fun s1 => (fM_isEvent s1 x1).bind fun r2 => if r2.1 = 0 then some ((0 : Int64), r2.2) else (fM_isPerson r2.2 x2 (2 : Int32)).bind fun r4 => if r4.1 = 0 then some ((0 : Int64), r4.2) else (fM_begins r4.2).bind fun r6 => (itr (fM_after_L30 x1) tt_fuel ((0 : Int32), r6)).bind fun b8 => (fM_behind b8.2 x2).bind fun r11 => some (r11.1, r11.2)
abbrev rM_after : Room := { frames := 12, cells := 0, slots := 0, locals := 277 }
set_option maxHeartbeats 4000000 in
theorem mM_after (l : Launch) (D : va_G) (dA : Nat → ClassId) (A : Nat → Prop) (lc : Nat → Nat → Nat) (s : tt_St) (x1 : Int32) (x2 : Int32) {Q : Option Value → (Nat → Nat → Nat) → tt_St → Prop} (h : Ok (fM_after s x1 x2) (fun r => Q (some (.long r.1)) lc r.2)) : tt_Sp (XM l D dA A) yX11_after cX11_after 4 (some .long) rM_after [.ref (lc 0 0), .int x1, .int x2] lc s Q := by
  refine tt_Sp.ofV plM kokM (Nat.le_of_ble_eq_true rfl) ?_
  show tt_V (XM l D dA A) cX11_after (RX11, 4, (some .long), rM_after, tt_nt) (tt_fn (XM l D dA A) (RX11, 4, (some .long), rM_after, tt_nt) Q) 0 [(0, .ref (lc 0 0)), (1, .int x1), (2, .int x2)] [] lc s 0 0
  unfold fM_after at h
  refine v_aload_n 0 dX11_after_0 rfl ?_
  refine v_iconst dX11_after_1 ic_0 ?_
  refine pM_1 dX11_after_2 ?_
  refine v_nmS (fun s1 e_s1 => ?_)
  have h := Ok.nm h e_s1
  refine v_aload_n 0 dX11_after_5 rfl ?_
  refine v_iload_n 1 dX11_after_6 rfl ?_
  refine cM_413 (Ok.bind h) ⟨Nat.le_of_ble_eq_true rfl, Nat.le_of_ble_eq_true rfl⟩ (Nat.le_of_ble_eq_true rfl) dX11_after_7 (fun r2 z_r2 h => ?_)
  refine v_if_eq (tgt := 22) dX11_after_10 rfl (fun c3 => ?_) (fun c3 => ?_)
  · have h := Ok.pos h c3
    refine v_lconst dX11_after_22 kl_0 ?_
    have h := Ok.ret h
    exact v_lret rfl (Nat.zero_le _) (Nat.zero_le _) dX11_after_23 h
  · have h := Ok.neg h c3
    refine v_aload_n 0 dX11_after_13 rfl ?_
    refine v_iload_n 2 dX11_after_14 rfl ?_
    refine v_iconst dX11_after_15 ic_2 ?_
    refine cM_459 (Ok.bind h) ⟨Nat.le_of_ble_eq_true rfl, Nat.le_of_ble_eq_true rfl⟩ (Nat.le_of_ble_eq_true rfl) dX11_after_16 (fun r4 z_r4 h => ?_)
    refine v_if_ne (tgt := 24) dX11_after_19 rfl (fun c5 => ?_) (fun c5 => ?_)
    · have h := Ok.neg h c5
      refine v_aload_n 0 dX11_after_24 rfl ?_
      refine cM_340 (Ok.bind h) ⟨Nat.le_of_ble_eq_true rfl, Nat.le_of_ble_eq_true rfl⟩ (Nat.le_of_ble_eq_true rfl) dX11_after_25 (fun r6 h => ?_)
      refine v_iconst dX11_after_28 ic_0 ?_
      refine v_istore_n [(3, .int (0 : Int32)), (0, .ref (lc 0 0)), (1, .int x1), (2, .int x2)] dX11_after_29 (Nat.le_of_ble_eq_true rfl) rfl ?_
      refine v_sub [1, 2, 3, 0] rfl ?_
      refine itr_loop (P := fun a7 : Int32 × tt_St => tt_V (XM l D dA A) cX11_after (RX11, 4, (some .long), rM_after, tt_nt) (tt_fn (XM l D dA A) (RX11, 4, (some .long), rM_after, tt_nt) Q) 30 [(0, .ref (lc 0 0)), (1, .int x1), (2, .int x2), (3, .int a7.1)] [] lc a7.2 0 0) (PE := fun b8 : Int32 × tt_St => tt_V (XM l D dA A) cX11_after (RX11, 4, (some .long), rM_after, tt_nt) (tt_fn (XM l D dA A) (RX11, 4, (some .long), rM_after, tt_nt) Q) 46 [(0, .ref (lc 0 0)), (1, .int x1), (2, .int x2), (3, .int b8.1)] [] lc b8.2 0 0) h (fun b8 h => ?_) (fun a7 h => ?_)
      · refine v_aload_n 0 dX11_after_46 rfl ?_
        refine v_iload_n 2 dX11_after_47 rfl ?_
        refine cM_456 (Ok.bind h) ⟨Nat.le_of_ble_eq_true rfl, Nat.le_of_ble_eq_true rfl⟩ (Nat.le_of_ble_eq_true rfl) dX11_after_48 (fun r11 h => ?_)
        have h := Ok.ret h
        exact v_lret rfl (Nat.zero_le _) (Nat.zero_le _) dX11_after_51 h
      · have h : Ok (fM_after_L30 x1 a7) _ := h
        unfold fM_after_L30 at h
        refine v_iload_n 3 dX11_after_30 rfl ?_
        refine v_iload_n 1 dX11_after_31 rfl ?_
        refine v_icmp_gt (tgt := 46) dX11_after_32 rfl (fun c9 => ?_) (fun c9 => ?_)
        · have h := Ok.pos h c9
          have h := Ok.ret h
          exact h
        · have h := Ok.neg h c9
          refine v_aload_n 0 dX11_after_35 rfl ?_
          refine v_iload_n 3 dX11_after_36 rfl ?_
          refine cM_343 (Ok.bind h) ⟨Nat.le_of_ble_eq_true rfl, Nat.le_of_ble_eq_true rfl⟩ (Nat.le_of_ble_eq_true rfl) dX11_after_37 (fun r10 h => ?_)
          refine v_iinc (v := (a7.1 + 1 : Int32)) 3 [(3, .int (a7.1 + 1 : Int32)), (0, .ref (lc 0 0)), (1, .int x1), (2, .int x2)] dX11_after_40 rfl (by rw [ic_1]) (Nat.le_of_ble_eq_true rfl) rfl ?_
          refine v_goto (tgt := 30) dX11_after_43 rfl ?_
          refine v_sub [1, 2, 3, 0] rfl ?_
          have h := Ok.ret h
          exact h
    · have h := Ok.pos h c5
      refine v_lconst dX11_after_22 kl_0 ?_
      have h := Ok.ret h
      exact v_lret rfl (Nat.zero_le _) (Nat.zero_le _) dX11_after_23 h
def fM_usedUp_L24 (x1 : Int32) (a5 : Int32 × Int32 × tt_St) : Option ((Int32 × Int32 × tt_St) ⊕ (Int32 × Int32 × tt_St)) :=
  if (rdI a5.2.2 0 0 5) ≤ a5.2.1 then some (.inr (a5.1, a5.2.1, a5.2.2)) else (fM_goes a5.2.2 a5.2.1).bind fun r8 => if a5.1 = (-1 : Int32) then if inB x1 40 then if (rdI r8 6 0 x1.toNatClampNeg) = 0 then some (.inl (a5.1, (a5.2.1 + 1 : Int32), r8)) else (fM_left r8 x1).bind fun r12 => if r12 = (0 : Int64) then some (.inl (a5.2.1, (a5.2.1 + 1 : Int32), r8)) else some (.inl (a5.1, (a5.2.1 + 1 : Int32), r8)) else none else some (.inl (a5.1, (a5.2.1 + 1 : Int32), r8))
def fM_usedUp (s : tt_St) (x1 : Int32) : Option (Int32 × tt_St) :=
  nm (wrI s 0 0 0 (0 : Int32)) fun s1 => (fM_isOne s1 x1 (1 : Int32)).bind fun r2 => if r2.1 = 0 then some ((0 : Int32), r2.2) else (fM_begins r2.2).bind fun r4 => (itr (fM_usedUp_L24 x1) tt_fuel ((-1 : Int32), (0 : Int32), r4)).bind fun b6 => some (b6.1, b6.2.2)
abbrev rM_usedUp : Room := { frames := 10, cells := 0, slots := 0, locals := 233 }
set_option maxHeartbeats 4000000 in
theorem mM_usedUp (l : Launch) (D : va_G) (dA : Nat → ClassId) (A : Nat → Prop) (lc : Nat → Nat → Nat) (s : tt_St) (x1 : Int32) {Q : Option Value → (Nat → Nat → Nat) → tt_St → Prop} (h : Ok (fM_usedUp s x1) (fun r => Q (some (.int r.1)) lc r.2)) : tt_Sp (XM l D dA A) yX11_usedUp cX11_usedUp 4 (some .int) rM_usedUp [.ref (lc 0 0), .int x1] lc s Q := by
  refine tt_Sp.ofV plM kokM (Nat.le_of_ble_eq_true rfl) ?_
  show tt_V (XM l D dA A) cX11_usedUp (RX11, 4, (some .int), rM_usedUp, tt_nt) (tt_fn (XM l D dA A) (RX11, 4, (some .int), rM_usedUp, tt_nt) Q) 0 [(0, .ref (lc 0 0)), (1, .int x1)] [] lc s 0 0
  unfold fM_usedUp at h
  refine v_aload_n 0 dX11_usedUp_0 rfl ?_
  refine v_iconst dX11_usedUp_1 ic_0 ?_
  refine pM_1 dX11_usedUp_2 ?_
  refine v_nmS (fun s1 e_s1 => ?_)
  have h := Ok.nm h e_s1
  refine v_aload_n 0 dX11_usedUp_5 rfl ?_
  refine v_iload_n 1 dX11_usedUp_6 rfl ?_
  refine v_iconst dX11_usedUp_7 ic_1 ?_
  refine cM_374 (Ok.bind h) ⟨Nat.le_of_ble_eq_true rfl, Nat.le_of_ble_eq_true rfl⟩ (Nat.le_of_ble_eq_true rfl) dX11_usedUp_8 (fun r2 z_r2 h => ?_)
  refine v_if_ne (tgt := 16) dX11_usedUp_11 rfl (fun c3 => ?_) (fun c3 => ?_)
  · have h := Ok.neg h c3
    refine v_iconst dX11_usedUp_16 ic_m1 ?_
    refine v_istore_n [(2, .int (-1 : Int32)), (0, .ref (lc 0 0)), (1, .int x1)] dX11_usedUp_17 (Nat.le_of_ble_eq_true rfl) rfl ?_
    refine v_aload_n 1 dX11_usedUp_18 rfl ?_
    refine cM_340 (Ok.bind h) ⟨Nat.le_of_ble_eq_true rfl, Nat.le_of_ble_eq_true rfl⟩ (Nat.le_of_ble_eq_true rfl) dX11_usedUp_19 (fun r4 h => ?_)
    refine v_iconst dX11_usedUp_22 ic_0 ?_
    refine v_istore_n [(3, .int (0 : Int32)), (2, .int (-1 : Int32)), (0, .ref (lc 0 0)), (1, .int x1)] dX11_usedUp_23 (Nat.le_of_ble_eq_true rfl) rfl ?_
    refine v_sub [2, 3, 1, 0] rfl ?_
    refine itr_loop (P := fun a5 : Int32 × Int32 × tt_St => tt_V (XM l D dA A) cX11_usedUp (RX11, 4, (some .int), rM_usedUp, tt_nt) (tt_fn (XM l D dA A) (RX11, 4, (some .int), rM_usedUp, tt_nt) Q) 24 [(0, .ref (lc 0 0)), (1, .int x1), (2, .int a5.1), (3, .int a5.2.1)] [] lc a5.2.2 0 0) (PE := fun b6 : Int32 × Int32 × tt_St => tt_V (XM l D dA A) cX11_usedUp (RX11, 4, (some .int), rM_usedUp, tt_nt) (tt_fn (XM l D dA A) (RX11, 4, (some .int), rM_usedUp, tt_nt) Q) 69 [(0, .ref (lc 0 0)), (1, .int x1), (2, .int b6.1), (3, .int b6.2.1)] [] lc b6.2.2 0 0) h (fun b6 h => ?_) (fun a5 h => ?_)
    · refine v_iload_n 2 dX11_usedUp_69 rfl ?_
      have h := Ok.ret h
      exact v_iret rfl (Nat.zero_le _) (Nat.zero_le _) dX11_usedUp_70 h
    · have h : Ok (fM_usedUp_L24 x1 a5) _ := h
      unfold fM_usedUp_L24 at h
      refine v_iload_n 3 dX11_usedUp_24 rfl ?_
      refine v_aload_n 0 dX11_usedUp_25 rfl ?_
      refine gM_17 dX11_usedUp_26 ?_
      refine v_icmp_ge (tgt := 69) dX11_usedUp_29 rfl (fun c7 => ?_) (fun c7 => ?_)
      · have h := Ok.pos h c7
        have h := Ok.ret h
        exact h
      · have h := Ok.neg h c7
        refine v_aload_n 0 dX11_usedUp_32 rfl ?_
        refine v_iload_n 3 dX11_usedUp_33 rfl ?_
        refine cM_343 (Ok.bind h) ⟨Nat.le_of_ble_eq_true rfl, Nat.le_of_ble_eq_true rfl⟩ (Nat.le_of_ble_eq_true rfl) dX11_usedUp_34 (fun r8 h => ?_)
        refine v_iload_n 2 dX11_usedUp_37 rfl ?_
        refine v_iconst dX11_usedUp_38 ic_m1 ?_
        refine v_icmp_ne (tgt := 63) dX11_usedUp_39 rfl (fun c9 => ?_) (fun c9 => ?_)
        · have h := Ok.neg h c9
          refine v_iinc (v := (a5.2.1 + 1 : Int32)) 3 [(3, .int (a5.2.1 + 1 : Int32)), (0, .ref (lc 0 0)), (1, .int x1), (2, .int a5.1)] dX11_usedUp_63 rfl (by rw [ic_1]) (Nat.le_of_ble_eq_true rfl) rfl ?_
          refine v_goto (tgt := 24) dX11_usedUp_66 rfl ?_
          refine v_sub [1, 2, 3, 0] rfl ?_
          have h := Ok.ret h
          exact h
        · have h := Ok.pos h c9
          refine v_aload_n 0 dX11_usedUp_42 rfl ?_
          refine gM_29 dX11_usedUp_43 ?_
          refine v_iload_n 1 dX11_usedUp_46 rfl ?_
          obtain ⟨g10, h⟩ := Ok.guard h
          refine lM_6 g10 dX11_usedUp_47 ?_
          refine v_if_eq (tgt := 63) dX11_usedUp_48 rfl (fun c11 => ?_) (fun c11 => ?_)
          · have h := Ok.pos h c11
            refine v_iinc (v := (a5.2.1 + 1 : Int32)) 3 [(3, .int (a5.2.1 + 1 : Int32)), (0, .ref (lc 0 0)), (1, .int x1), (2, .int a5.1)] dX11_usedUp_63 rfl (by rw [ic_1]) (Nat.le_of_ble_eq_true rfl) rfl ?_
            refine v_goto (tgt := 24) dX11_usedUp_66 rfl ?_
            refine v_sub [1, 2, 3, 0] rfl ?_
            have h := Ok.ret h
            exact h
          · have h := Ok.neg h c11
            refine v_aload_n 0 dX11_usedUp_51 rfl ?_
            refine v_iload_n 1 dX11_usedUp_52 rfl ?_
            refine cM_175 (Ok.bind h) ⟨Nat.le_of_ble_eq_true rfl, Nat.le_of_ble_eq_true rfl⟩ (Nat.le_of_ble_eq_true rfl) dX11_usedUp_53 (fun r12 h => ?_)
            refine v_lconst dX11_usedUp_56 kl_0 ?_
            refine v_lif_ne (tgt := 63) dX11_usedUp_57 dX11_usedUp_58 rfl (fun c13 => ?_) (fun c13 => ?_)
            · have h := Ok.neg h c13
              refine v_iinc (v := (a5.2.1 + 1 : Int32)) 3 [(3, .int (a5.2.1 + 1 : Int32)), (0, .ref (lc 0 0)), (1, .int x1), (2, .int a5.1)] dX11_usedUp_63 rfl (by rw [ic_1]) (Nat.le_of_ble_eq_true rfl) rfl ?_
              refine v_goto (tgt := 24) dX11_usedUp_66 rfl ?_
              refine v_sub [1, 2, 3, 0] rfl ?_
              have h := Ok.ret h
              exact h
            · have h := Ok.pos h c13
              refine v_iload_n 3 dX11_usedUp_61 rfl ?_
              refine v_istore_n [(2, .int a5.2.1), (0, .ref (lc 0 0)), (1, .int x1), (3, .int a5.2.1)] dX11_usedUp_62 (Nat.le_of_ble_eq_true rfl) rfl ?_
              refine v_iinc (v := (a5.2.1 + 1 : Int32)) 3 [(3, .int (a5.2.1 + 1 : Int32)), (2, .int a5.2.1), (0, .ref (lc 0 0)), (1, .int x1)] dX11_usedUp_63 rfl (by rw [ic_1]) (Nat.le_of_ble_eq_true rfl) rfl ?_
              refine v_goto (tgt := 24) dX11_usedUp_66 rfl ?_
              refine v_sub [2, 3, 1, 0] rfl ?_
              have h := Ok.ret h
              exact h
  · have h := Ok.pos h c3
    refine v_iconst dX11_usedUp_14 ic_0 ?_
    have h := Ok.ret h
    exact v_iret rfl (Nat.zero_le _) (Nat.zero_le _) dX11_usedUp_15 h
def fM_isOf (s : tt_St) (x1 : Int32) (x2 : Int32) : Option (Int32) :=
  if inB x1 160 then if (rdI s 2 0 x1.toNatClampNeg) = (4 : Int32) then if (rdI s 3 0 x1.toNatClampNeg) = x2 then some (1 : Int32) else some (0 : Int32) else (if (rdI s 2 0 x1.toNatClampNeg) = (5 : Int32) then some (.inl ()) else if (rdI s 2 0 x1.toNatClampNeg) = (8 : Int32) then some (.inl ()) else some (.inr (0 : Int32)) : Option ((Unit) ⊕ (Int32))).bind fun q_t3 => orRet q_t3 fun t3 => (fM_tell s x1 (0 : Int32)).bind fun r6 => if r6 = x2 then some (1 : Int32) else some (0 : Int32) else none
abbrev rM_isOf : Room := { frames := 1, cells := 0, slots := 0, locals := 22 }
set_option maxHeartbeats 4000000 in
theorem mM_isOf (l : Launch) (D : va_G) (dA : Nat → ClassId) (A : Nat → Prop) (lc : Nat → Nat → Nat) (s : tt_St) (x1 : Int32) (x2 : Int32) {Q : Option Value → (Nat → Nat → Nat) → tt_St → Prop} (h : Ok (fM_isOf s x1 x2) (fun r => zB r → Q (some (.int r)) lc s)) : tt_Sp (XM l D dA A) yX11_isOf cX11_isOf 3 (some .boolean) rM_isOf [.ref (lc 0 0), .int x1, .int x2] lc s Q := by
  refine tt_Sp.ofV plM kokM (Nat.le_of_ble_eq_true rfl) ?_
  show tt_V (XM l D dA A) cX11_isOf (RX11, 3, (some .boolean), rM_isOf, tt_nt) (tt_fn (XM l D dA A) (RX11, 3, (some .boolean), rM_isOf, tt_nt) Q) 0 [(0, .ref (lc 0 0)), (1, .int x1), (2, .int x2)] [] lc s 0 0
  unfold fM_isOf at h
  refine v_aload_n 0 dX11_isOf_0 rfl ?_
  refine gM_14 dX11_isOf_1 ?_
  refine v_iload_n 1 dX11_isOf_4 rfl ?_
  obtain ⟨g1, h⟩ := Ok.guard h
  refine lM_2 g1 dX11_isOf_5 ?_
  refine v_iconst dX11_isOf_6 ic_4 ?_
  refine v_icmp_ne (tgt := 28) dX11_isOf_7 rfl (fun c2 => ?_) (fun c2 => ?_)
  · have h := Ok.neg h c2
    refine v_aload_n 0 dX11_isOf_28 rfl ?_
    refine gM_14 dX11_isOf_29 ?_
    refine v_iload_n 1 dX11_isOf_32 rfl ?_
    refine lM_2 g1 dX11_isOf_33 ?_
    refine v_iconst dX11_isOf_34 ic_5 ?_
    have h := Ok.joinR (PJ := fun t3 : Unit => tt_V (XM l D dA A) cX11_isOf (RX11, 3, (some .boolean), rM_isOf, tt_nt) (tt_fn (XM l D dA A) (RX11, 3, (some .boolean), rM_isOf, tt_nt) Q) 49 [(0, .ref (lc 0 0)), (1, .int x1), (2, .int x2)] [] lc s 0 0) h (fun t3 h => by
      refine v_aload_n 0 dX11_isOf_49 rfl ?_
      refine v_iload_n 1 dX11_isOf_50 rfl ?_
      refine v_iconst dX11_isOf_51 ic_0 ?_
      refine cM_289 (Ok.bind h) ⟨Nat.le_of_ble_eq_true rfl, Nat.le_of_ble_eq_true rfl⟩ (Nat.le_of_ble_eq_true rfl) dX11_isOf_52 (fun r6 h => ?_)
      refine v_iload_n 2 dX11_isOf_55 rfl ?_
      refine v_icmp_ne (tgt := 63) dX11_isOf_56 rfl (fun c7 => ?_) (fun c7 => ?_)
      · have h := Ok.neg h c7
        refine v_iconst dX11_isOf_63 ic_0 ?_
        have h := Ok.ret h
        exact v_zret rfl zB_0 (Nat.zero_le _) (Nat.zero_le _) dX11_isOf_64 (h zB_0)
      · have h := Ok.pos h c7
        refine v_iconst dX11_isOf_59 ic_1 ?_
        refine v_goto (tgt := 64) dX11_isOf_60 rfl ?_
        have h := Ok.ret h
        exact v_zret rfl zB_1 (Nat.zero_le _) (Nat.zero_le _) dX11_isOf_64 (h zB_1))
    refine v_icmp_eq (tgt := 49) dX11_isOf_35 rfl (fun c4 => ?_) (fun c4 => ?_)
    · have h := Ok.pos h c4
      have h := Ok.ret h
      exact h
    · have h := Ok.neg h c4
      refine v_aload_n 0 dX11_isOf_38 rfl ?_
      refine gM_14 dX11_isOf_39 ?_
      refine v_iload_n 1 dX11_isOf_42 rfl ?_
      refine lM_2 g1 dX11_isOf_43 ?_
      refine v_bipush dX11_isOf_44 kb_8 ?_
      refine v_icmp_ne (tgt := 63) dX11_isOf_46 rfl (fun c5 => ?_) (fun c5 => ?_)
      · have h := Ok.neg h c5
        refine v_iconst dX11_isOf_63 ic_0 ?_
        have h := Ok.ret h
        exact v_zret rfl zB_0 (Nat.zero_le _) (Nat.zero_le _) dX11_isOf_64 (h zB_0)
      · have h := Ok.pos h c5
        have h := Ok.ret h
        exact h
  · have h := Ok.pos h c2
    refine v_aload_n 0 dX11_isOf_10 rfl ?_
    refine gM_20 dX11_isOf_11 ?_
    refine v_iload_n 1 dX11_isOf_14 rfl ?_
    refine lM_3 g1 dX11_isOf_15 ?_
    refine v_iload_n 2 dX11_isOf_16 rfl ?_
    refine v_icmp_ne (tgt := 24) dX11_isOf_17 rfl (fun c8 => ?_) (fun c8 => ?_)
    · have h := Ok.neg h c8
      refine v_iconst dX11_isOf_24 ic_0 ?_
      refine v_goto (tgt := 64) dX11_isOf_25 rfl ?_
      have h := Ok.ret h
      exact v_zret rfl zB_0 (Nat.zero_le _) (Nat.zero_le _) dX11_isOf_64 (h zB_0)
    · have h := Ok.pos h c8
      refine v_iconst dX11_isOf_20 ic_1 ?_
      refine v_goto (tgt := 64) dX11_isOf_21 rfl ?_
      have h := Ok.ret h
      exact v_zret rfl zB_1 (Nat.zero_le _) (Nat.zero_le _) dX11_isOf_64 (h zB_1)
theorem cM_465 {l : Launch} {D : va_G} {dA : Nat → ClassId} {A : Nat → Prop} {lc : Nat → Nat → Nat} {s : tt_St} {cc : ByteArray} {nl : Nat} {rt : Option FieldType} {rm : Room} {tn : tt_Tn} {Q : tt_Fin} {pc : Nat} {lv : List (Nat × Value)} {rest : List Value} {ck cn : Nat} {x1 : Int32} {x2 : Int32} {K : Int32 → Prop} (h : Ok (fM_isOf s x1 x2) K) (hR : 1 + 1 ≤ rm.frames ∧ 8 + (3 + 11) + 22 ≤ rm.locals) (hW : (rest.map fun v => v.category).sum ≤ 8) (d : decode cc pc = .ok (.invokevirtual 465, 3)) (kk : ∀ r, zB r → K r → tt_V (XM l D dA A) cc (RX11, nl, rt, rm, tn) Q (pc + 3) lv (.int r :: rest) lc s ck cn) (hf : ck ≤ rm.cells ∧ cn ≤ rm.slots := by exact ⟨Nat.zero_le _, Nat.zero_le _⟩) : tt_V (XM l D dA A) cc (RX11, nl, rt, rm, tn) Q pc lv (.int x2 :: .int x1 :: .ref (lc 0 0) :: rest) lc s ck cn :=
  v_callV (kd := 0) (i := 0) (nA := 2) (As := [.int x1, .int x2]) lvM_0 oM rfl (mM_isOf l D dA A lc s x1 x2 (Q := (fun v lc' s' => ∃ r, zB r ∧ K r ∧ v = some (.int r) ∧ lc' = lc ∧ s' = s)) (h.mono (fun r hr => fun hz => ⟨r, hz, hr, rfl, rfl, rfl⟩))) (lw_V q2421 q2423 qs125 q154 q2424) (by decide +kernel) rfl hR hW hf d rfl (fun v lc' s' q => by obtain ⟨r, hz, hr, e1, e2, e3⟩ := q; rw [e1, e2, e3]; exact kk r hz hr)
def fM_heaviest_L68 (a9 : Int32 × Int64 × Int32 × tt_St) (a14 : Int32 × tt_St) : Option ((Int32 × tt_St) ⊕ (Int32 × tt_St)) :=
  if (rdI a14.2 0 0 5) ≤ a14.1 then some (.inr (a14.1, a14.2)) else (fM_isOf a14.2 a14.1 a9.2.2.1).bind fun r17 => if r17 = 0 then (fM_goes a14.2 a14.1).bind fun r19 => some (.inl ((a14.1 + 1 : Int32), r19)) else some (.inl ((a14.1 + 1 : Int32), a14.2))
def fM_heaviest_L51 (x1 : Int32) (a9 : Int32 × Int64 × Int32 × tt_St) : Option ((Int32 × Int64 × Int32 × tt_St) ⊕ (Int32 × Int64 × Int32 × tt_St)) :=
  (fM_eventsOf a9.2.2.2 (4 : Int32)).bind fun r11 => if r11 ≤ a9.2.2.1 then some (.inr (a9.1, a9.2.1, a9.2.2.1, a9.2.2.2)) else (fM_begins a9.2.2.2).bind fun r13 => (itr (fM_heaviest_L68 a9) tt_fuel ((0 : Int32), r13)).bind fun b15 => if a9.1 = (-1 : Int32) then (fM_bearsAll b15.2 x1).bind fun r21 => some (.inl (a9.2.2.1, r21, (a9.2.2.1 + 1 : Int32), b15.2)) else (fM_bearsAll b15.2 x1).bind fun r22 => if r22 < a9.2.1 then (fM_bearsAll b15.2 x1).bind fun r24 => some (.inl (a9.2.2.1, r24, (a9.2.2.1 + 1 : Int32), b15.2)) else some (.inl (a9.1, a9.2.1, (a9.2.2.1 + 1 : Int32), b15.2))
def fM_heaviest (s : tt_St) (x1 : Int32) (x2 : Int32) : Option (Int64 × tt_St) :=
  nm (wrI s 0 0 0 (0 : Int32)) fun s1 => (fM_within x1.toInt64 (0 : Int64) (9 : Int64)).bind fun r2 => (if r2 = 0 then some (0 : Int32) else (fM_within x2.toInt64 (0 : Int64) (1 : Int64)).bind fun r5 => if r5 = 0 then some (0 : Int32) else some (1 : Int32) : Option (Int32)).bind fun t3 => (fM_needs s1 t3 (1 : Int32) (1 : Int32)).bind fun r7 => if r7.1 = 0 then some ((0 : Int64), r7.2) else (itr (fM_heaviest_L51 x1) tt_fuel ((-1 : Int32), (0 : Int64), (0 : Int32), r7.2)).bind fun b10 => (fM_goesOver b10.2.2.2).bind fun r25 => if x2 = 0 then some (b10.1.toInt64, r25) else some (b10.2.1, r25)
abbrev rM_heaviest : Room := { frames := 11, cells := 0, slots := 0, locals := 254 }
set_option maxHeartbeats 4000000 in
theorem mM_heaviest (l : Launch) (D : va_G) (dA : Nat → ClassId) (A : Nat → Prop) (lc : Nat → Nat → Nat) (s : tt_St) (x1 : Int32) (x2 : Int32) {Q : Option Value → (Nat → Nat → Nat) → tt_St → Prop} (h : Ok (fM_heaviest s x1 x2) (fun r => Q (some (.long r.1)) lc r.2)) : tt_Sp (XM l D dA A) yX11_heaviest cX11_heaviest 8 (some .long) rM_heaviest [.ref (lc 0 0), .int x1, .int x2] lc s Q := by
  refine tt_Sp.ofV plM kokM (Nat.le_of_ble_eq_true rfl) ?_
  show tt_V (XM l D dA A) cX11_heaviest (RX11, 8, (some .long), rM_heaviest, tt_nt) (tt_fn (XM l D dA A) (RX11, 8, (some .long), rM_heaviest, tt_nt) Q) 0 [(0, .ref (lc 0 0)), (1, .int x1), (2, .int x2)] [] lc s 0 0
  unfold fM_heaviest at h
  refine v_aload_n 0 dX11_heaviest_0 rfl ?_
  refine v_iconst dX11_heaviest_1 ic_0 ?_
  refine pM_1 dX11_heaviest_2 ?_
  refine v_nmS (fun s1 e_s1 => ?_)
  have h := Ok.nm h e_s1
  refine v_aload_n 0 dX11_heaviest_5 rfl ?_
  refine v_iload_n 1 dX11_heaviest_6 rfl ?_
  refine v_i2l dX11_heaviest_7 rfl ?_
  refine v_lconst dX11_heaviest_8 kl_0 ?_
  refine v_ldc2 dX11_heaviest_9 q2131 ?_
  refine cM_352 (Ok.bind h) ⟨Nat.le_of_ble_eq_true rfl, Nat.le_of_ble_eq_true rfl⟩ (Nat.le_of_ble_eq_true rfl) dX11_heaviest_12 (fun r2 z_r2 h => ?_)
  have h := Ok.join (PJ := fun t3 : Int32 => tt_V (XM l D dA A) cX11_heaviest (RX11, 8, (some .long), rM_heaviest, tt_nt) (tt_fn (XM l D dA A) (RX11, 8, (some .long), rM_heaviest, tt_nt) Q) 33 [(0, .ref (lc 0 0)), (1, .int x1), (2, .int x2)] [.int t3, .ref (lc 0 0)] lc s1 0 0) h (fun t3 h => by
    refine v_iconst dX11_heaviest_33 ic_1 ?_
    refine v_iconst dX11_heaviest_34 ic_1 ?_
    refine cM_346 (Ok.bind h) ⟨Nat.le_of_ble_eq_true rfl, Nat.le_of_ble_eq_true rfl⟩ (Nat.le_of_ble_eq_true rfl) dX11_heaviest_35 (fun r7 z_r7 h => ?_)
    refine v_if_ne (tgt := 43) dX11_heaviest_38 rfl (fun c8 => ?_) (fun c8 => ?_)
    · have h := Ok.neg h c8
      refine v_iconst dX11_heaviest_43 ic_m1 ?_
      refine v_istore_n [(3, .int (-1 : Int32)), (0, .ref (lc 0 0)), (1, .int x1), (2, .int x2)] dX11_heaviest_44 (Nat.le_of_ble_eq_true rfl) rfl ?_
      refine v_lconst dX11_heaviest_45 kl_0 ?_
      refine v_lstore [(4, .long (0 : Int64)), (3, .int (-1 : Int32)), (0, .ref (lc 0 0)), (1, .int x1), (2, .int x2)] dX11_heaviest_46 (Nat.le_of_ble_eq_true rfl) rfl ?_
      refine v_iconst dX11_heaviest_48 ic_0 ?_
      refine v_istore [(6, .int (0 : Int32)), (4, .long (0 : Int64)), (3, .int (-1 : Int32)), (0, .ref (lc 0 0)), (1, .int x1), (2, .int x2)] dX11_heaviest_49 (Nat.le_of_ble_eq_true rfl) rfl ?_
      refine v_sub [3, 4, 5, 2, 1, 0] rfl ?_
      refine itr_loop (P := fun a9 : Int32 × Int64 × Int32 × tt_St => tt_V (XM l D dA A) cX11_heaviest (RX11, 8, (some .long), rM_heaviest, tt_nt) (tt_fn (XM l D dA A) (RX11, 8, (some .long), rM_heaviest, tt_nt) Q) 51 [(0, .ref (lc 0 0)), (1, .int x1), (2, .int x2), (3, .int a9.1), (4, .long a9.2.1), (6, .int a9.2.2.1)] [] lc a9.2.2.2 0 0) (PE := fun b10 : Int32 × Int64 × Int32 × tt_St => tt_V (XM l D dA A) cX11_heaviest (RX11, 8, (some .long), rM_heaviest, tt_nt) (tt_fn (XM l D dA A) (RX11, 8, (some .long), rM_heaviest, tt_nt) Q) 135 [(0, .ref (lc 0 0)), (1, .int x1), (2, .int x2), (3, .int b10.1), (4, .long b10.2.1), (6, .int b10.2.2.1)] [] lc b10.2.2.2 0 0) h (fun b10 h => ?_) (fun a9 h => ?_)
      · refine v_aload_n 0 dX11_heaviest_135 rfl ?_
        refine cM_403 (Ok.bind h) ⟨Nat.le_of_ble_eq_true rfl, Nat.le_of_ble_eq_true rfl⟩ (Nat.le_of_ble_eq_true rfl) dX11_heaviest_136 (fun r25 h => ?_)
        refine v_iload_n 2 dX11_heaviest_139 rfl ?_
        refine v_if_ne (tgt := 148) dX11_heaviest_140 rfl (fun c26 => ?_) (fun c26 => ?_)
        · have h := Ok.neg h c26
          refine v_lload 4 dX11_heaviest_148 rfl ?_
          have h := Ok.ret h
          exact v_lret rfl (Nat.zero_le _) (Nat.zero_le _) dX11_heaviest_150 h
        · have h := Ok.pos h c26
          refine v_iload_n 3 dX11_heaviest_143 rfl ?_
          refine v_i2l dX11_heaviest_144 rfl ?_
          refine v_goto (tgt := 150) dX11_heaviest_145 rfl ?_
          have h := Ok.ret h
          exact v_lret rfl (Nat.zero_le _) (Nat.zero_le _) dX11_heaviest_150 h
      · have h : Ok (fM_heaviest_L51 x1 a9) _ := h
        unfold fM_heaviest_L51 at h
        refine v_iload 5 dX11_heaviest_51 rfl ?_
        refine v_aload_n 0 dX11_heaviest_53 rfl ?_
        refine v_iconst dX11_heaviest_54 ic_4 ?_
        refine cM_362 (Ok.bind h) ⟨Nat.le_of_ble_eq_true rfl, Nat.le_of_ble_eq_true rfl⟩ (Nat.le_of_ble_eq_true rfl) dX11_heaviest_55 (fun r11 h => ?_)
        refine v_icmp_ge (tgt := 135) dX11_heaviest_58 rfl (fun c12 => ?_) (fun c12 => ?_)
        · have h := Ok.pos h c12
          have h := Ok.ret h
          exact h
        · have h := Ok.neg h c12
          refine v_aload_n 0 dX11_heaviest_61 rfl ?_
          refine cM_340 (Ok.bind h) ⟨Nat.le_of_ble_eq_true rfl, Nat.le_of_ble_eq_true rfl⟩ (Nat.le_of_ble_eq_true rfl) dX11_heaviest_62 (fun r13 h => ?_)
          refine v_iconst dX11_heaviest_65 ic_0 ?_
          refine v_istore [(7, .int (0 : Int32)), (0, .ref (lc 0 0)), (1, .int x1), (2, .int x2), (3, .int a9.1), (4, .long a9.2.1), (6, .int a9.2.2.1)] dX11_heaviest_66 (Nat.le_of_ble_eq_true rfl) rfl ?_
          refine v_sub [1, 2, 3, 4, 5, 6, 0] rfl ?_
          refine itr_loop (P := fun a14 : Int32 × tt_St => tt_V (XM l D dA A) cX11_heaviest (RX11, 8, (some .long), rM_heaviest, tt_nt) (tt_fn (XM l D dA A) (RX11, 8, (some .long), rM_heaviest, tt_nt) Q) 68 [(0, .ref (lc 0 0)), (1, .int x1), (2, .int x2), (3, .int a9.1), (4, .long a9.2.1), (6, .int a9.2.2.1), (7, .int a14.1)] [] lc a14.2 0 0) (PE := fun b15 : Int32 × tt_St => tt_V (XM l D dA A) cX11_heaviest (RX11, 8, (some .long), rM_heaviest, tt_nt) (tt_fn (XM l D dA A) (RX11, 8, (some .long), rM_heaviest, tt_nt) Q) 100 [(0, .ref (lc 0 0)), (1, .int x1), (2, .int x2), (3, .int a9.1), (4, .long a9.2.1), (6, .int a9.2.2.1), (7, .int b15.1)] [] lc b15.2 0 0) h (fun b15 h => ?_) (fun a14 h => ?_)
          · refine v_iload_n 3 dX11_heaviest_100 rfl ?_
            refine v_iconst dX11_heaviest_101 ic_m1 ?_
            refine v_icmp_eq (tgt := 119) dX11_heaviest_102 rfl (fun c20 => ?_) (fun c20 => ?_)
            · have h := Ok.pos h c20
              refine v_iload 5 dX11_heaviest_119 rfl ?_
              refine v_istore_n [(3, .int a9.2.2.1), (0, .ref (lc 0 0)), (1, .int x1), (2, .int x2), (4, .long a9.2.1), (6, .int a9.2.2.1), (7, .int b15.1)] dX11_heaviest_121 (Nat.le_of_ble_eq_true rfl) rfl ?_
              refine v_aload_n 1 dX11_heaviest_122 rfl ?_
              refine v_iload_n 2 dX11_heaviest_123 rfl ?_
              refine cM_437 (Ok.bind h) ⟨Nat.le_of_ble_eq_true rfl, Nat.le_of_ble_eq_true rfl⟩ (Nat.le_of_ble_eq_true rfl) dX11_heaviest_124 (fun r21 h => ?_)
              refine v_lstore [(4, .long r21), (3, .int a9.2.2.1), (0, .ref (lc 0 0)), (1, .int x1), (2, .int x2), (6, .int a9.2.2.1), (7, .int b15.1)] dX11_heaviest_127 (Nat.le_of_ble_eq_true rfl) rfl ?_
              refine v_iinc (v := (a9.2.2.1 + 1 : Int32)) 5 [(6, .int (a9.2.2.1 + 1 : Int32)), (4, .long r21), (3, .int a9.2.2.1), (0, .ref (lc 0 0)), (1, .int x1), (2, .int x2), (7, .int b15.1)] dX11_heaviest_129 rfl (by rw [ic_1]) (Nat.le_of_ble_eq_true rfl) rfl ?_
              refine v_goto (tgt := 51) dX11_heaviest_132 rfl ?_
              refine v_sub [3, 4, 5, 2, 1, 0] rfl ?_
              have h := Ok.ret h
              exact h
            · have h := Ok.neg h c20
              refine v_aload_n 0 dX11_heaviest_105 rfl ?_
              refine v_iload_n 1 dX11_heaviest_106 rfl ?_
              refine cM_437 (Ok.bind h) ⟨Nat.le_of_ble_eq_true rfl, Nat.le_of_ble_eq_true rfl⟩ (Nat.le_of_ble_eq_true rfl) dX11_heaviest_107 (fun r22 h => ?_)
              refine v_lload 4 dX11_heaviest_110 rfl ?_
              refine v_lif_lt (tgt := 119) dX11_heaviest_112 dX11_heaviest_113 rfl (fun c23 => ?_) (fun c23 => ?_)
              · have h := Ok.pos h c23
                refine v_iload 5 dX11_heaviest_119 rfl ?_
                refine v_istore_n [(3, .int a9.2.2.1), (0, .ref (lc 0 0)), (1, .int x1), (2, .int x2), (4, .long a9.2.1), (6, .int a9.2.2.1), (7, .int b15.1)] dX11_heaviest_121 (Nat.le_of_ble_eq_true rfl) rfl ?_
                refine v_aload_n 1 dX11_heaviest_122 rfl ?_
                refine v_iload_n 2 dX11_heaviest_123 rfl ?_
                refine cM_437 (Ok.bind h) ⟨Nat.le_of_ble_eq_true rfl, Nat.le_of_ble_eq_true rfl⟩ (Nat.le_of_ble_eq_true rfl) dX11_heaviest_124 (fun r24 h => ?_)
                refine v_lstore [(4, .long r24), (3, .int a9.2.2.1), (0, .ref (lc 0 0)), (1, .int x1), (2, .int x2), (6, .int a9.2.2.1), (7, .int b15.1)] dX11_heaviest_127 (Nat.le_of_ble_eq_true rfl) rfl ?_
                refine v_iinc (v := (a9.2.2.1 + 1 : Int32)) 5 [(6, .int (a9.2.2.1 + 1 : Int32)), (4, .long r24), (3, .int a9.2.2.1), (0, .ref (lc 0 0)), (1, .int x1), (2, .int x2), (7, .int b15.1)] dX11_heaviest_129 rfl (by rw [ic_1]) (Nat.le_of_ble_eq_true rfl) rfl ?_
                refine v_goto (tgt := 51) dX11_heaviest_132 rfl ?_
                refine v_sub [3, 4, 5, 2, 1, 0] rfl ?_
                have h := Ok.ret h
                exact h
              · have h := Ok.neg h c23
                refine v_goto (tgt := 129) dX11_heaviest_116 rfl ?_
                refine v_iinc (v := (a9.2.2.1 + 1 : Int32)) 5 [(6, .int (a9.2.2.1 + 1 : Int32)), (0, .ref (lc 0 0)), (1, .int x1), (2, .int x2), (3, .int a9.1), (4, .long a9.2.1), (7, .int b15.1)] dX11_heaviest_129 rfl (by rw [ic_1]) (Nat.le_of_ble_eq_true rfl) rfl ?_
                refine v_goto (tgt := 51) dX11_heaviest_132 rfl ?_
                refine v_sub [1, 2, 3, 4, 5, 0] rfl ?_
                have h := Ok.ret h
                exact h
          · have h : Ok (fM_heaviest_L68 a9 a14) _ := h
            unfold fM_heaviest_L68 at h
            refine v_iload 6 dX11_heaviest_68 rfl ?_
            refine v_aload_n 0 dX11_heaviest_70 rfl ?_
            refine gM_17 dX11_heaviest_71 ?_
            refine v_icmp_ge (tgt := 100) dX11_heaviest_74 rfl (fun c16 => ?_) (fun c16 => ?_)
            · have h := Ok.pos h c16
              have h := Ok.ret h
              exact h
            · have h := Ok.neg h c16
              refine v_aload_n 0 dX11_heaviest_77 rfl ?_
              refine v_iload 6 dX11_heaviest_78 rfl ?_
              refine v_iload 5 dX11_heaviest_80 rfl ?_
              refine cM_465 (Ok.bind h) ⟨Nat.le_of_ble_eq_true rfl, Nat.le_of_ble_eq_true rfl⟩ (Nat.le_of_ble_eq_true rfl) dX11_heaviest_82 (fun r17 z_r17 h => ?_)
              refine v_if_ne (tgt := 94) dX11_heaviest_85 rfl (fun c18 => ?_) (fun c18 => ?_)
              · have h := Ok.neg h c18
                refine v_iinc (v := (a14.1 + 1 : Int32)) 6 [(7, .int (a14.1 + 1 : Int32)), (0, .ref (lc 0 0)), (1, .int x1), (2, .int x2), (3, .int a9.1), (4, .long a9.2.1), (6, .int a9.2.2.1)] dX11_heaviest_94 rfl (by rw [ic_1]) (Nat.le_of_ble_eq_true rfl) rfl ?_
                refine v_goto (tgt := 68) dX11_heaviest_97 rfl ?_
                refine v_sub [1, 2, 3, 4, 5, 6, 0] rfl ?_
                have h := Ok.ret h
                exact h
              · have h := Ok.pos h c18
                refine v_aload_n 0 dX11_heaviest_88 rfl ?_
                refine v_iload 6 dX11_heaviest_89 rfl ?_
                refine cM_343 (Ok.bind h) ⟨Nat.le_of_ble_eq_true rfl, Nat.le_of_ble_eq_true rfl⟩ (Nat.le_of_ble_eq_true rfl) dX11_heaviest_91 (fun r19 h => ?_)
                refine v_iinc (v := (a14.1 + 1 : Int32)) 6 [(7, .int (a14.1 + 1 : Int32)), (0, .ref (lc 0 0)), (1, .int x1), (2, .int x2), (3, .int a9.1), (4, .long a9.2.1), (6, .int a9.2.2.1)] dX11_heaviest_94 rfl (by rw [ic_1]) (Nat.le_of_ble_eq_true rfl) rfl ?_
                refine v_goto (tgt := 68) dX11_heaviest_97 rfl ?_
                refine v_sub [1, 2, 3, 4, 5, 6, 0] rfl ?_
                have h := Ok.ret h
                exact h
    · have h := Ok.pos h c8
      refine v_lconst dX11_heaviest_41 kl_0 ?_
      have h := Ok.ret h
      exact v_lret rfl (Nat.zero_le _) (Nat.zero_le _) dX11_heaviest_42 h)
  refine v_if_eq (tgt := 32) dX11_heaviest_15 rfl (fun c4 => ?_) (fun c4 => ?_)
  · have h := Ok.pos h c4
    refine v_iconst dX11_heaviest_32 ic_0 ?_
    have h := Ok.ret h
    exact h
  · have h := Ok.neg h c4
    refine v_iload_n 2 dX11_heaviest_18 rfl ?_
    refine v_i2l dX11_heaviest_19 rfl ?_
    refine v_lconst dX11_heaviest_20 kl_0 ?_
    refine v_lconst dX11_heaviest_21 kl_1 ?_
    refine cM_352 (Ok.bind h) ⟨Nat.le_of_ble_eq_true rfl, Nat.le_of_ble_eq_true rfl⟩ (Nat.le_of_ble_eq_true rfl) dX11_heaviest_22 (fun r5 z_r5 h => ?_)
    refine v_if_eq (tgt := 32) dX11_heaviest_25 rfl (fun c6 => ?_) (fun c6 => ?_)
    · have h := Ok.pos h c6
      refine v_iconst dX11_heaviest_32 ic_0 ?_
      have h := Ok.ret h
      exact h
    · have h := Ok.neg h c6
      refine v_iconst dX11_heaviest_28 ic_1 ?_
      refine v_goto (tgt := 33) dX11_heaviest_29 rfl ?_
      have h := Ok.ret h
      exact h
def fM_spared_L57 (x1 : Int32) (r3 : Int32 × tt_St) (a9 : Int32 × Int32) : Option ((Int32 × Int32) ⊕ (Int32 × Int32)) :=
  if (rdI r3.2 0 0 5) ≤ a9.2 then some (.inr (a9.1, a9.2)) else if inB a9.2 160 then if (rdI r3.2 2 0 a9.2.toNatClampNeg) = (6 : Int32) then (fM_tell r3.2 a9.2 (0 : Int32)).bind fun r14 => if r14 = x1 then some (.inl (a9.2, (a9.2 + 1 : Int32))) else some (.inl (a9.1, (a9.2 + 1 : Int32))) else some (.inl (a9.1, (a9.2 + 1 : Int32))) else none
def fM_spared (s : tt_St) (x1 : Int32) : Option (Int64 × tt_St) :=
  nm (wrI s 0 0 0 (0 : Int32)) fun s1 => (fM_within x1.toInt64 (1 : Int64) (9 : Int64)).bind fun r2 => (fM_needs s1 r2 (1 : Int32) (1 : Int32)).bind fun r3 => if r3.1 = 0 then some ((0 : Int64), r3.2) else if inB x1 10 then if (rdI r3.2 27 0 x1.toNatClampNeg) = (1 : Int32) then (fM_bearsAll r3.2 x1).bind fun r7 => nm (r7 + ((rdI r3.2 28 0 x1.toNatClampNeg).toInt64)) fun v8 => (itr (fM_spared_L57 x1 r3) tt_fuel ((-1 : Int32), (0 : Int32))).bind fun b10 => (fM_goesWithout r3.2 b10.1).bind fun r16 => (fM_behind r16 x1).bind fun r17 => some (r17.1 - v8, r17.2) else some ((0 : Int64), r3.2) else none
abbrev rM_spared : Room := { frames := 12, cells := 0, slots := 0, locals := 277 }
set_option maxHeartbeats 4000000 in
theorem mM_spared (l : Launch) (D : va_G) (dA : Nat → ClassId) (A : Nat → Prop) (lc : Nat → Nat → Nat) (s : tt_St) (x1 : Int32) {Q : Option Value → (Nat → Nat → Nat) → tt_St → Prop} (h : Ok (fM_spared s x1) (fun r => Q (some (.long r.1)) lc r.2)) : tt_Sp (XM l D dA A) yX11_spared cX11_spared 6 (some .long) rM_spared [.ref (lc 0 0), .int x1] lc s Q := by
  refine tt_Sp.ofV plM kokM (Nat.le_of_ble_eq_true rfl) ?_
  show tt_V (XM l D dA A) cX11_spared (RX11, 6, (some .long), rM_spared, tt_nt) (tt_fn (XM l D dA A) (RX11, 6, (some .long), rM_spared, tt_nt) Q) 0 [(0, .ref (lc 0 0)), (1, .int x1)] [] lc s 0 0
  unfold fM_spared at h
  refine v_aload_n 0 dX11_spared_0 rfl ?_
  refine v_iconst dX11_spared_1 ic_0 ?_
  refine pM_1 dX11_spared_2 ?_
  refine v_nmS (fun s1 e_s1 => ?_)
  have h := Ok.nm h e_s1
  refine v_aload_n 0 dX11_spared_5 rfl ?_
  refine v_iload_n 1 dX11_spared_6 rfl ?_
  refine v_i2l dX11_spared_7 rfl ?_
  refine v_lconst dX11_spared_8 kl_1 ?_
  refine v_ldc2 dX11_spared_9 q2131 ?_
  refine cM_352 (Ok.bind h) ⟨Nat.le_of_ble_eq_true rfl, Nat.le_of_ble_eq_true rfl⟩ (Nat.le_of_ble_eq_true rfl) dX11_spared_12 (fun r2 z_r2 h => ?_)
  refine v_iconst dX11_spared_15 ic_1 ?_
  refine v_iconst dX11_spared_16 ic_1 ?_
  refine cM_346 (Ok.bind h) ⟨Nat.le_of_ble_eq_true rfl, Nat.le_of_ble_eq_true rfl⟩ (Nat.le_of_ble_eq_true rfl) dX11_spared_17 (fun r3 z_r3 h => ?_)
  refine v_if_ne (tgt := 25) dX11_spared_20 rfl (fun c4 => ?_) (fun c4 => ?_)
  · have h := Ok.neg h c4
    refine v_aload_n 0 dX11_spared_25 rfl ?_
    refine gM_94 dX11_spared_26 ?_
    refine v_iload_n 1 dX11_spared_29 rfl ?_
    obtain ⟨g5, h⟩ := Ok.guard h
    refine lM_27 g5 dX11_spared_30 ?_
    refine v_iconst dX11_spared_31 ic_1 ?_
    refine v_icmp_eq (tgt := 37) dX11_spared_32 rfl (fun c6 => ?_) (fun c6 => ?_)
    · have h := Ok.pos h c6
      refine v_aload_n 0 dX11_spared_37 rfl ?_
      refine v_iload_n 1 dX11_spared_38 rfl ?_
      refine cM_437 (Ok.bind h) ⟨Nat.le_of_ble_eq_true rfl, Nat.le_of_ble_eq_true rfl⟩ (Nat.le_of_ble_eq_true rfl) dX11_spared_39 (fun r7 h => ?_)
      refine v_aload_n 0 dX11_spared_42 rfl ?_
      refine gM_97 dX11_spared_43 ?_
      refine v_iload_n 1 dX11_spared_46 rfl ?_
      refine lM_28 g5 dX11_spared_47 ?_
      refine v_i2l dX11_spared_48 rfl ?_
      refine v_ladd dX11_spared_49 ?_
      refine v_nmL (fun v8 e_v8 => ?_)
      have h := Ok.nm h e_v8
      refine v_lstore_n [(2, .long v8), (0, .ref (lc 0 0)), (1, .int x1)] dX11_spared_50 (Nat.le_of_ble_eq_true rfl) rfl ?_
      refine v_iconst dX11_spared_51 ic_m1 ?_
      refine v_istore [(4, .int (-1 : Int32)), (2, .long v8), (0, .ref (lc 0 0)), (1, .int x1)] dX11_spared_52 (Nat.le_of_ble_eq_true rfl) rfl ?_
      refine v_iconst dX11_spared_54 ic_0 ?_
      refine v_istore [(5, .int (0 : Int32)), (4, .int (-1 : Int32)), (2, .long v8), (0, .ref (lc 0 0)), (1, .int x1)] dX11_spared_55 (Nat.le_of_ble_eq_true rfl) rfl ?_
      refine v_sub [3, 4, 2, 1, 0] rfl ?_
      refine itr_loop (P := fun a9 : Int32 × Int32 => tt_V (XM l D dA A) cX11_spared (RX11, 6, (some .long), rM_spared, tt_nt) (tt_fn (XM l D dA A) (RX11, 6, (some .long), rM_spared, tt_nt) Q) 57 [(0, .ref (lc 0 0)), (1, .int x1), (2, .long v8), (4, .int a9.1), (5, .int a9.2)] [] lc r3.2 0 0) (PE := fun b10 : Int32 × Int32 => tt_V (XM l D dA A) cX11_spared (RX11, 6, (some .long), rM_spared, tt_nt) (tt_fn (XM l D dA A) (RX11, 6, (some .long), rM_spared, tt_nt) Q) 104 [(0, .ref (lc 0 0)), (1, .int x1), (2, .long v8), (4, .int b10.1), (5, .int b10.2)] [] lc r3.2 0 0) h (fun b10 h => ?_) (fun a9 h => ?_)
      · refine v_aload_n 0 dX11_spared_104 rfl ?_
        refine v_iload 3 dX11_spared_105 rfl ?_
        refine cM_462 (Ok.bind h) ⟨Nat.le_of_ble_eq_true rfl, Nat.le_of_ble_eq_true rfl⟩ (Nat.le_of_ble_eq_true rfl) dX11_spared_107 (fun r16 h => ?_)
        refine v_aload_n 0 dX11_spared_110 rfl ?_
        refine v_iload_n 1 dX11_spared_111 rfl ?_
        refine cM_456 (Ok.bind h) ⟨Nat.le_of_ble_eq_true rfl, Nat.le_of_ble_eq_true rfl⟩ (Nat.le_of_ble_eq_true rfl) dX11_spared_112 (fun r17 h => ?_)
        refine v_lload_n 2 dX11_spared_115 rfl ?_
        refine v_lsub dX11_spared_116 ?_
        have h := Ok.ret h
        exact v_lret rfl (Nat.zero_le _) (Nat.zero_le _) dX11_spared_117 h
      · have h : Ok (fM_spared_L57 x1 r3 a9) _ := h
        unfold fM_spared_L57 at h
        refine v_iload 4 dX11_spared_57 rfl ?_
        refine v_aload_n 0 dX11_spared_59 rfl ?_
        refine gM_17 dX11_spared_60 ?_
        refine v_icmp_ge (tgt := 104) dX11_spared_63 rfl (fun c11 => ?_) (fun c11 => ?_)
        · have h := Ok.pos h c11
          have h := Ok.ret h
          exact h
        · have h := Ok.neg h c11
          refine v_aload_n 0 dX11_spared_66 rfl ?_
          refine gM_14 dX11_spared_67 ?_
          refine v_iload 4 dX11_spared_70 rfl ?_
          obtain ⟨g12, h⟩ := Ok.guard h
          refine lM_2 g12 dX11_spared_72 ?_
          refine v_bipush dX11_spared_73 kb_6 ?_
          refine v_icmp_ne (tgt := 94) dX11_spared_75 rfl (fun c13 => ?_) (fun c13 => ?_)
          · have h := Ok.neg h c13
            refine v_iload 3 dX11_spared_94 rfl ?_
            refine v_istore [(4, .int a9.1), (0, .ref (lc 0 0)), (1, .int x1), (2, .long v8), (5, .int a9.2)] dX11_spared_96 (Nat.le_of_ble_eq_true rfl) rfl ?_
            refine v_iinc (v := (a9.2 + 1 : Int32)) 4 [(5, .int (a9.2 + 1 : Int32)), (4, .int a9.1), (0, .ref (lc 0 0)), (1, .int x1), (2, .long v8)] dX11_spared_98 rfl (by rw [ic_1]) (Nat.le_of_ble_eq_true rfl) rfl ?_
            refine v_goto (tgt := 57) dX11_spared_101 rfl ?_
            refine v_sub [2, 3, 4, 1, 0] rfl ?_
            have h := Ok.ret h
            exact h
          · have h := Ok.pos h c13
            refine v_aload_n 0 dX11_spared_78 rfl ?_
            refine v_iload 4 dX11_spared_79 rfl ?_
            refine v_iconst dX11_spared_81 ic_0 ?_
            refine cM_289 (Ok.bind h) ⟨Nat.le_of_ble_eq_true rfl, Nat.le_of_ble_eq_true rfl⟩ (Nat.le_of_ble_eq_true rfl) dX11_spared_82 (fun r14 h => ?_)
            refine v_iload_n 1 dX11_spared_85 rfl ?_
            refine v_icmp_ne (tgt := 94) dX11_spared_86 rfl (fun c15 => ?_) (fun c15 => ?_)
            · have h := Ok.neg h c15
              refine v_iload 3 dX11_spared_94 rfl ?_
              refine v_istore [(4, .int a9.1), (0, .ref (lc 0 0)), (1, .int x1), (2, .long v8), (5, .int a9.2)] dX11_spared_96 (Nat.le_of_ble_eq_true rfl) rfl ?_
              refine v_iinc (v := (a9.2 + 1 : Int32)) 4 [(5, .int (a9.2 + 1 : Int32)), (4, .int a9.1), (0, .ref (lc 0 0)), (1, .int x1), (2, .long v8)] dX11_spared_98 rfl (by rw [ic_1]) (Nat.le_of_ble_eq_true rfl) rfl ?_
              refine v_goto (tgt := 57) dX11_spared_101 rfl ?_
              refine v_sub [2, 3, 4, 1, 0] rfl ?_
              have h := Ok.ret h
              exact h
            · have h := Ok.pos h c15
              refine v_iload 4 dX11_spared_89 rfl ?_
              refine v_goto (tgt := 96) dX11_spared_91 rfl ?_
              refine v_istore [(4, .int a9.2), (0, .ref (lc 0 0)), (1, .int x1), (2, .long v8), (5, .int a9.2)] dX11_spared_96 (Nat.le_of_ble_eq_true rfl) rfl ?_
              refine v_iinc (v := (a9.2 + 1 : Int32)) 4 [(5, .int (a9.2 + 1 : Int32)), (4, .int a9.2), (0, .ref (lc 0 0)), (1, .int x1), (2, .long v8)] dX11_spared_98 rfl (by rw [ic_1]) (Nat.le_of_ble_eq_true rfl) rfl ?_
              refine v_goto (tgt := 57) dX11_spared_101 rfl ?_
              refine v_sub [2, 3, 4, 1, 0] rfl ?_
              have h := Ok.ret h
              exact h
    · have h := Ok.neg h c6
      refine v_lconst dX11_spared_35 kl_0 ?_
      have h := Ok.ret h
      exact v_lret rfl (Nat.zero_le _) (Nat.zero_le _) dX11_spared_36 h
  · have h := Ok.pos h c4
    refine v_lconst dX11_spared_23 kl_0 ?_
    have h := Ok.ret h
    exact v_lret rfl (Nat.zero_le _) (Nat.zero_le _) dX11_spared_24 h
def fM_cover_L59 (x1 : Int32) (x2 : Int32) (x3 : Int32) (r9 : Int32 × tt_St) (a11 : Int64 × Int32) : Option ((Int64 × Int32) ⊕ (Int64 × Int32)) :=
  if (40 : Int32) ≤ a11.2 then some (.inr (a11.1, a11.2)) else (fM_isIn r9.2 a11.2 x1).bind fun r14 => if r14 = 0 then some (.inl (a11.1, (a11.2 + 1 : Int32))) else if inB a11.2 40 then nm (if (rdI r9.2 9 0 a11.2.toNatClampNeg) ≤ x2 then x2.toInt64 else (rdI r9.2 9 0 a11.2.toNatClampNeg).toInt64) fun t17 => (fM_top r9.2 a11.2).bind fun r20 => (fM_least r20.toInt64 x3.toInt64).bind fun r21 => if r21 ≤ t17 then nm (a11.1 + (0 : Int64)) fun v23 => some (.inl (v23, (a11.2 + 1 : Int32))) else nm (a11.1 + (r21 - t17)) fun v24 => some (.inl (v24, (a11.2 + 1 : Int32))) else none
def fM_cover (s : tt_St) (x1 : Int32) (x2 : Int32) (x3 : Int32) : Option (Int32 × tt_St) :=
  nm (wrI s 0 0 0 (0 : Int32)) fun s1 => (fM_within x1.toInt64 (0 : Int64) (11 : Int64)).bind fun r2 => (if r2 = 0 then some (0 : Int32) else (fM_isHeight x2).bind fun r5 => if r5 = 0 then some (0 : Int32) else (fM_within x3.toInt64 x2.toInt64 (1000000000 : Int64)).bind fun r7 => if r7 = 0 then some (0 : Int32) else some (1 : Int32) : Option (Int32)).bind fun t3 => (fM_needs s1 t3 (1 : Int32) (1 : Int32)).bind fun r9 => if r9.1 = 0 then some ((0 : Int32), r9.2) else (itr (fM_cover_L59 x1 x2 x3 r9) tt_fuel ((0 : Int64), (0 : Int32))).bind fun b12 => some (b12.1.toInt32, r9.2)
abbrev rM_cover : Room := { frames := 2, cells := 0, slots := 0, locals := 45 }
set_option maxHeartbeats 4000000 in
theorem mM_cover (l : Launch) (D : va_G) (dA : Nat → ClassId) (A : Nat → Prop) (lc : Nat → Nat → Nat) (s : tt_St) (x1 : Int32) (x2 : Int32) (x3 : Int32) {Q : Option Value → (Nat → Nat → Nat) → tt_St → Prop} (h : Ok (fM_cover s x1 x2 x3) (fun r => Q (some (.int r.1)) lc r.2)) : tt_Sp (XM l D dA A) yX11_cover cX11_cover 11 (some .int) rM_cover [.ref (lc 0 0), .int x1, .int x2, .int x3] lc s Q := by
  refine tt_Sp.ofV plM kokM (Nat.le_of_ble_eq_true rfl) ?_
  show tt_V (XM l D dA A) cX11_cover (RX11, 11, (some .int), rM_cover, tt_nt) (tt_fn (XM l D dA A) (RX11, 11, (some .int), rM_cover, tt_nt) Q) 0 [(0, .ref (lc 0 0)), (1, .int x1), (2, .int x2), (3, .int x3)] [] lc s 0 0
  unfold fM_cover at h
  refine v_aload_n 0 dX11_cover_0 rfl ?_
  refine v_iconst dX11_cover_1 ic_0 ?_
  refine pM_1 dX11_cover_2 ?_
  refine v_nmS (fun s1 e_s1 => ?_)
  have h := Ok.nm h e_s1
  refine v_aload_n 0 dX11_cover_5 rfl ?_
  refine v_iload_n 1 dX11_cover_6 rfl ?_
  refine v_i2l dX11_cover_7 rfl ?_
  refine v_lconst dX11_cover_8 kl_0 ?_
  refine v_ldc2 dX11_cover_9 q1917 ?_
  refine cM_352 (Ok.bind h) ⟨Nat.le_of_ble_eq_true rfl, Nat.le_of_ble_eq_true rfl⟩ (Nat.le_of_ble_eq_true rfl) dX11_cover_12 (fun r2 z_r2 h => ?_)
  have h := Ok.join (PJ := fun t3 : Int32 => tt_V (XM l D dA A) cX11_cover (RX11, 11, (some .int), rM_cover, tt_nt) (tt_fn (XM l D dA A) (RX11, 11, (some .int), rM_cover, tt_nt) Q) 43 [(0, .ref (lc 0 0)), (1, .int x1), (2, .int x2), (3, .int x3)] [.int t3, .ref (lc 0 0)] lc s1 0 0) h (fun t3 h => by
    refine v_iconst dX11_cover_43 ic_1 ?_
    refine v_iconst dX11_cover_44 ic_1 ?_
    refine cM_346 (Ok.bind h) ⟨Nat.le_of_ble_eq_true rfl, Nat.le_of_ble_eq_true rfl⟩ (Nat.le_of_ble_eq_true rfl) dX11_cover_45 (fun r9 z_r9 h => ?_)
    refine v_if_ne (tgt := 53) dX11_cover_48 rfl (fun c10 => ?_) (fun c10 => ?_)
    · have h := Ok.neg h c10
      refine v_lconst dX11_cover_53 kl_0 ?_
      refine v_lstore [(4, .long (0 : Int64)), (0, .ref (lc 0 0)), (1, .int x1), (2, .int x2), (3, .int x3)] dX11_cover_54 (Nat.le_of_ble_eq_true rfl) rfl ?_
      refine v_iconst dX11_cover_56 ic_0 ?_
      refine v_istore [(6, .int (0 : Int32)), (4, .long (0 : Int64)), (0, .ref (lc 0 0)), (1, .int x1), (2, .int x2), (3, .int x3)] dX11_cover_57 (Nat.le_of_ble_eq_true rfl) rfl ?_
      refine v_sub [2, 3, 4, 5, 1, 0] rfl ?_
      refine itr_loop (P := fun a11 : Int64 × Int32 => tt_V (XM l D dA A) cX11_cover (RX11, 11, (some .int), rM_cover, tt_nt) (tt_fn (XM l D dA A) (RX11, 11, (some .int), rM_cover, tt_nt) Q) 59 [(0, .ref (lc 0 0)), (1, .int x1), (2, .int x2), (3, .int x3), (4, .long a11.1), (6, .int a11.2)] [] lc r9.2 0 0) (PE := fun b12 : Int64 × Int32 => tt_V (XM l D dA A) cX11_cover (RX11, 11, (some .int), rM_cover, tt_nt) (tt_fn (XM l D dA A) (RX11, 11, (some .int), rM_cover, tt_nt) Q) 147 [(0, .ref (lc 0 0)), (1, .int x1), (2, .int x2), (3, .int x3), (4, .long b12.1), (6, .int b12.2)] [] lc r9.2 0 0) h (fun b12 h => ?_) (fun a11 h => ?_)
      · refine v_lload 4 dX11_cover_147 rfl ?_
        refine v_l2i dX11_cover_149 rfl ?_
        have h := Ok.ret h
        exact v_iret rfl (Nat.zero_le _) (Nat.zero_le _) dX11_cover_150 h
      · have h : Ok (fM_cover_L59 x1 x2 x3 r9 a11) _ := h
        unfold fM_cover_L59 at h
        refine v_iload 5 dX11_cover_59 rfl ?_
        refine v_bipush dX11_cover_61 kb_40 ?_
        refine v_icmp_ge (tgt := 147) dX11_cover_63 rfl (fun c13 => ?_) (fun c13 => ?_)
        · have h := Ok.pos h c13
          have h := Ok.ret h
          exact h
        · have h := Ok.neg h c13
          refine v_aload_n 0 dX11_cover_66 rfl ?_
          refine v_iload 5 dX11_cover_67 rfl ?_
          refine v_iload_n 1 dX11_cover_69 rfl ?_
          refine cM_283 (Ok.bind h) ⟨Nat.le_of_ble_eq_true rfl, Nat.le_of_ble_eq_true rfl⟩ (Nat.le_of_ble_eq_true rfl) dX11_cover_70 (fun r14 z_r14 h => ?_)
          refine v_if_ne (tgt := 79) dX11_cover_73 rfl (fun c15 => ?_) (fun c15 => ?_)
          · have h := Ok.neg h c15
            refine v_aload_n 0 dX11_cover_79 rfl ?_
            refine gM_39 dX11_cover_80 ?_
            refine v_iload 5 dX11_cover_83 rfl ?_
            obtain ⟨g16, h⟩ := Ok.guard h
            refine lM_9 g16 dX11_cover_85 ?_
            refine v_iload_n 2 dX11_cover_86 rfl ?_
            have J18 : ∀ t17, t17 = (if (rdI r9.2 9 0 a11.2.toNatClampNeg) ≤ x2 then x2.toInt64 else (rdI r9.2 9 0 a11.2.toNatClampNeg).toInt64) → tt_V (XM l D dA A) cX11_cover (RX11, 11, (some .int), rM_cover, tt_nt) (tt_fn (XM l D dA A) (RX11, 11, (some .int), rM_cover, tt_nt) Q) 103 [(0, .ref (lc 0 0)), (1, .int x1), (2, .int x2), (3, .int x3), (4, .long a11.1), (6, .int a11.2)] [.long t17] lc r9.2 0 0 := fun t17 e_t17 => by
              have h := Ok.nm h e_t17
              refine v_lstore [(7, .long t17), (0, .ref (lc 0 0)), (1, .int x1), (2, .int x2), (3, .int x3), (4, .long a11.1), (6, .int a11.2)] dX11_cover_103 (Nat.le_of_ble_eq_true rfl) rfl ?_
              refine v_aload_n 1 dX11_cover_105 rfl ?_
              refine v_iload 6 dX11_cover_106 rfl ?_
              refine cM_165 (Ok.bind h) ⟨Nat.le_of_ble_eq_true rfl, Nat.le_of_ble_eq_true rfl⟩ (Nat.le_of_ble_eq_true rfl) dX11_cover_108 (fun r20 h => ?_)
              refine v_i2l dX11_cover_111 rfl ?_
              refine v_iload_n 4 dX11_cover_112 rfl ?_
              refine v_i2l dX11_cover_113 rfl ?_
              refine cM_179 (Ok.bind h) ⟨Nat.le_of_ble_eq_true rfl, Nat.le_of_ble_eq_true rfl⟩ (Nat.le_of_ble_eq_true rfl) dX11_cover_114 (fun r21 h => ?_)
              refine v_lstore [(9, .long r21), (7, .long t17), (0, .ref (lc 0 0)), (1, .int x1), (2, .int x2), (3, .int x3), (4, .long a11.1), (6, .int a11.2)] dX11_cover_117 (Nat.le_of_ble_eq_true rfl) rfl ?_
              refine v_lload 6 dX11_cover_119 rfl ?_
              refine v_lload 0 dX11_cover_121 rfl ?_
              refine v_lload 1 dX11_cover_123 rfl ?_
              refine v_lif_le (tgt := 137) dX11_cover_125 dX11_cover_126 rfl (fun c22 => ?_) (fun c22 => ?_)
              · have h := Ok.pos h c22
                refine v_lconst dX11_cover_137 kl_0 ?_
                refine v_ladd dX11_cover_138 ?_
                refine v_nmL (fun v23 e_v23 => ?_)
                have h := Ok.nm h e_v23
                refine v_lstore [(4, .long v23), (9, .long r21), (7, .long t17), (0, .ref (lc 0 0)), (1, .int x1), (2, .int x2), (3, .int x3), (6, .int a11.2)] dX11_cover_139 (Nat.le_of_ble_eq_true rfl) rfl ?_
                refine v_iinc (v := (a11.2 + 1 : Int32)) 7 [(6, .int (a11.2 + 1 : Int32)), (4, .long v23), (9, .long r21), (7, .long t17), (0, .ref (lc 0 0)), (1, .int x1), (2, .int x2), (3, .int x3)] dX11_cover_141 rfl (by rw [ic_1]) (Nat.le_of_ble_eq_true rfl) rfl ?_
                refine v_goto (tgt := 59) dX11_cover_144 rfl ?_
                refine v_sub [4, 5, 6, 7, 1, 0] rfl ?_
                have h := Ok.ret h
                exact h
              · have h := Ok.neg h c22
                refine v_lload 0 dX11_cover_129 rfl ?_
                refine v_lload 1 dX11_cover_131 rfl ?_
                refine v_lsub dX11_cover_133 ?_
                refine v_goto (tgt := 138) dX11_cover_134 rfl ?_
                refine v_ladd dX11_cover_138 ?_
                refine v_nmL (fun v24 e_v24 => ?_)
                have h := Ok.nm h e_v24
                refine v_lstore [(4, .long v24), (9, .long r21), (7, .long t17), (0, .ref (lc 0 0)), (1, .int x1), (2, .int x2), (3, .int x3), (6, .int a11.2)] dX11_cover_139 (Nat.le_of_ble_eq_true rfl) rfl ?_
                refine v_iinc (v := (a11.2 + 1 : Int32)) 7 [(6, .int (a11.2 + 1 : Int32)), (4, .long v24), (9, .long r21), (7, .long t17), (0, .ref (lc 0 0)), (1, .int x1), (2, .int x2), (3, .int x3)] dX11_cover_141 rfl (by rw [ic_1]) (Nat.le_of_ble_eq_true rfl) rfl ?_
                refine v_goto (tgt := 59) dX11_cover_144 rfl ?_
                refine v_sub [4, 5, 6, 7, 1, 0] rfl ?_
                have h := Ok.ret h
                exact h
            refine v_icmp_le (tgt := 101) dX11_cover_87 rfl (fun c19 => ?_) (fun c19 => ?_)
            · refine v_iload_n 2 dX11_cover_101 rfl ?_
              refine v_i2l dX11_cover_102 rfl ?_
              exact J18 _ (by rw [if_pos c19])
            · refine v_aload_n 0 dX11_cover_90 rfl ?_
              refine gM_39 dX11_cover_91 ?_
              refine v_iload 5 dX11_cover_94 rfl ?_
              refine lM_9 g16 dX11_cover_96 ?_
              refine v_i2l dX11_cover_97 rfl ?_
              refine v_goto (tgt := 103) dX11_cover_98 rfl ?_
              exact J18 _ (by rw [if_neg c19])
          · have h := Ok.pos h c15
            refine v_goto (tgt := 141) dX11_cover_76 rfl ?_
            refine v_iinc (v := (a11.2 + 1 : Int32)) 5 [(6, .int (a11.2 + 1 : Int32)), (0, .ref (lc 0 0)), (1, .int x1), (2, .int x2), (3, .int x3), (4, .long a11.1)] dX11_cover_141 rfl (by rw [ic_1]) (Nat.le_of_ble_eq_true rfl) rfl ?_
            refine v_goto (tgt := 59) dX11_cover_144 rfl ?_
            refine v_sub [1, 2, 3, 4, 5, 0] rfl ?_
            have h := Ok.ret h
            exact h
    · have h := Ok.pos h c10
      refine v_iconst dX11_cover_51 ic_0 ?_
      have h := Ok.ret h
      exact v_iret rfl (Nat.zero_le _) (Nat.zero_le _) dX11_cover_52 h)
  refine v_if_eq (tgt := 42) dX11_cover_15 rfl (fun c4 => ?_) (fun c4 => ?_)
  · have h := Ok.pos h c4
    refine v_iconst dX11_cover_42 ic_0 ?_
    have h := Ok.ret h
    exact h
  · have h := Ok.neg h c4
    refine v_iload_n 2 dX11_cover_18 rfl ?_
    refine cM_426 (Ok.bind h) ⟨Nat.le_of_ble_eq_true rfl, Nat.le_of_ble_eq_true rfl⟩ (Nat.le_of_ble_eq_true rfl) dX11_cover_19 (fun r5 z_r5 h => ?_)
    refine v_if_eq (tgt := 42) dX11_cover_22 rfl (fun c6 => ?_) (fun c6 => ?_)
    · have h := Ok.pos h c6
      refine v_iconst dX11_cover_42 ic_0 ?_
      have h := Ok.ret h
      exact h
    · have h := Ok.neg h c6
      refine v_iload_n 3 dX11_cover_25 rfl ?_
      refine v_i2l dX11_cover_26 rfl ?_
      refine v_iload_n 2 dX11_cover_27 rfl ?_
      refine v_i2l dX11_cover_28 rfl ?_
      refine v_ldc2 dX11_cover_29 q2165 ?_
      refine cM_352 (Ok.bind h) ⟨Nat.le_of_ble_eq_true rfl, Nat.le_of_ble_eq_true rfl⟩ (Nat.le_of_ble_eq_true rfl) dX11_cover_32 (fun r7 z_r7 h => ?_)
      refine v_if_eq (tgt := 42) dX11_cover_35 rfl (fun c8 => ?_) (fun c8 => ?_)
      · have h := Ok.pos h c8
        refine v_iconst dX11_cover_42 ic_0 ?_
        have h := Ok.ret h
        exact h
      · have h := Ok.neg h c8
        refine v_iconst dX11_cover_38 ic_1 ?_
        refine v_goto (tgt := 43) dX11_cover_39 rfl ?_
        have h := Ok.ret h
        exact h
def fM_reach_L48 (x1 : Int32) (r6 : tt_St) (a9 : Int64 × Int32) : Option ((Int64 × Int32) ⊕ (Int64 × Int32)) :=
  if (40 : Int32) ≤ a9.2 then some (.inr (a9.1, a9.2)) else if inB x1 40 then (fM_isIn r6 a9.2 (rdI r6 8 0 x1.toNatClampNeg)).bind fun r13 => if r13 = 0 then nm (a9.1 + (0 : Int64)) fun v15 => some (.inl (v15, (a9.2 + 1 : Int32))) else if inB a9.2 40 then if (rdI r6 9 0 x1.toNatClampNeg) ≤ (rdI r6 9 0 a9.2.toNatClampNeg) then nm (a9.1 + (0 : Int64)) fun v18 => some (.inl (v18, (a9.2 + 1 : Int32))) else (fM_holeOf r6 a9.2).bind fun r19 => (fM_canTake r6 (24 : Int32) a9.2).bind fun r20 => nm (a9.1 + (r19.toInt64 + r20)) fun v21 => some (.inl (v21, (a9.2 + 1 : Int32))) else none else none
def fM_reach (s : tt_St) (x1 : Int32) : Option (Int64 × tt_St) :=
  nm (wrI s 0 0 0 (0 : Int32)) fun s1 => (fM_isOne s1 x1 (1 : Int32)).bind fun r2 => if r2.1 = 0 then some ((0 : Int64), r2.2) else (fM_left r2.2 x1).bind fun r4 => if r4 = (0 : Int64) then some ((-1 : Int64), r2.2) else (fM_clearsHarm r2.2 (24 : Int32)).bind fun r6 => (fM_holeOf r6 x1).bind fun r7 => nm (r7.toInt64 + (1 : Int64)) fun v8 => (itr (fM_reach_L48 x1 r6) tt_fuel (v8, (0 : Int32))).bind fun b10 => some (b10.1, r6)
abbrev rM_reach : Room := { frames := 2, cells := 0, slots := 0, locals := 47 }
set_option maxHeartbeats 4000000 in
theorem mM_reach (l : Launch) (D : va_G) (dA : Nat → ClassId) (A : Nat → Prop) (lc : Nat → Nat → Nat) (s : tt_St) (x1 : Int32) {Q : Option Value → (Nat → Nat → Nat) → tt_St → Prop} (h : Ok (fM_reach s x1) (fun r => Q (some (.long r.1)) lc r.2)) : tt_Sp (XM l D dA A) yX11_reach cX11_reach 5 (some .long) rM_reach [.ref (lc 0 0), .int x1] lc s Q := by
  refine tt_Sp.ofV plM kokM (Nat.le_of_ble_eq_true rfl) ?_
  show tt_V (XM l D dA A) cX11_reach (RX11, 5, (some .long), rM_reach, tt_nt) (tt_fn (XM l D dA A) (RX11, 5, (some .long), rM_reach, tt_nt) Q) 0 [(0, .ref (lc 0 0)), (1, .int x1)] [] lc s 0 0
  unfold fM_reach at h
  refine v_aload_n 0 dX11_reach_0 rfl ?_
  refine v_iconst dX11_reach_1 ic_0 ?_
  refine pM_1 dX11_reach_2 ?_
  refine v_nmS (fun s1 e_s1 => ?_)
  have h := Ok.nm h e_s1
  refine v_aload_n 0 dX11_reach_5 rfl ?_
  refine v_iload_n 1 dX11_reach_6 rfl ?_
  refine v_iconst dX11_reach_7 ic_1 ?_
  refine cM_374 (Ok.bind h) ⟨Nat.le_of_ble_eq_true rfl, Nat.le_of_ble_eq_true rfl⟩ (Nat.le_of_ble_eq_true rfl) dX11_reach_8 (fun r2 z_r2 h => ?_)
  refine v_if_ne (tgt := 16) dX11_reach_11 rfl (fun c3 => ?_) (fun c3 => ?_)
  · have h := Ok.neg h c3
    refine v_aload_n 0 dX11_reach_16 rfl ?_
    refine v_iload_n 1 dX11_reach_17 rfl ?_
    refine cM_175 (Ok.bind h) ⟨Nat.le_of_ble_eq_true rfl, Nat.le_of_ble_eq_true rfl⟩ (Nat.le_of_ble_eq_true rfl) dX11_reach_18 (fun r4 h => ?_)
    refine v_lconst dX11_reach_21 kl_0 ?_
    refine v_lif_ne (tgt := 30) dX11_reach_22 dX11_reach_23 rfl (fun c5 => ?_) (fun c5 => ?_)
    · have h := Ok.neg h c5
      refine v_aload_n 0 dX11_reach_30 rfl ?_
      refine v_bipush dX11_reach_31 kb_24 ?_
      refine cM_145 (Ok.bind h) ⟨Nat.le_of_ble_eq_true rfl, Nat.le_of_ble_eq_true rfl⟩ (Nat.le_of_ble_eq_true rfl) dX11_reach_33 (fun r6 h => ?_)
      refine v_aload_n 0 dX11_reach_36 rfl ?_
      refine v_iload_n 1 dX11_reach_37 rfl ?_
      refine cM_172 (Ok.bind h) ⟨Nat.le_of_ble_eq_true rfl, Nat.le_of_ble_eq_true rfl⟩ (Nat.le_of_ble_eq_true rfl) dX11_reach_38 (fun r7 h => ?_)
      refine v_i2l dX11_reach_41 rfl ?_
      refine v_lconst dX11_reach_42 kl_1 ?_
      refine v_ladd dX11_reach_43 ?_
      refine v_nmL (fun v8 e_v8 => ?_)
      have h := Ok.nm h e_v8
      refine v_lstore_n [(2, .long v8), (0, .ref (lc 0 0)), (1, .int x1)] dX11_reach_44 (Nat.le_of_ble_eq_true rfl) rfl ?_
      refine v_iconst dX11_reach_45 ic_0 ?_
      refine v_istore [(4, .int (0 : Int32)), (2, .long v8), (0, .ref (lc 0 0)), (1, .int x1)] dX11_reach_46 (Nat.le_of_ble_eq_true rfl) rfl ?_
      refine v_sub [2, 3, 1, 0] rfl ?_
      refine itr_loop (P := fun a9 : Int64 × Int32 => tt_V (XM l D dA A) cX11_reach (RX11, 5, (some .long), rM_reach, tt_nt) (tt_fn (XM l D dA A) (RX11, 5, (some .long), rM_reach, tt_nt) Q) 48 [(0, .ref (lc 0 0)), (1, .int x1), (2, .long a9.1), (4, .int a9.2)] [] lc r6 0 0) (PE := fun b10 : Int64 × Int32 => tt_V (XM l D dA A) cX11_reach (RX11, 5, (some .long), rM_reach, tt_nt) (tt_fn (XM l D dA A) (RX11, 5, (some .long), rM_reach, tt_nt) Q) 115 [(0, .ref (lc 0 0)), (1, .int x1), (2, .long b10.1), (4, .int b10.2)] [] lc r6 0 0) h (fun b10 h => ?_) (fun a9 h => ?_)
      · refine v_lload_n 2 dX11_reach_115 rfl ?_
        have h := Ok.ret h
        exact v_lret rfl (Nat.zero_le _) (Nat.zero_le _) dX11_reach_116 h
      · have h : Ok (fM_reach_L48 x1 r6 a9) _ := h
        unfold fM_reach_L48 at h
        refine v_iload 3 dX11_reach_48 rfl ?_
        refine v_bipush dX11_reach_50 kb_40 ?_
        refine v_icmp_ge (tgt := 115) dX11_reach_52 rfl (fun c11 => ?_) (fun c11 => ?_)
        · have h := Ok.pos h c11
          have h := Ok.ret h
          exact h
        · have h := Ok.neg h c11
          refine v_lload_n 2 dX11_reach_55 rfl ?_
          refine v_aload_n 0 dX11_reach_56 rfl ?_
          refine v_iload 3 dX11_reach_57 rfl ?_
          refine v_aload_n 0 dX11_reach_59 rfl ?_
          refine gM_36 dX11_reach_60 ?_
          refine v_iload_n 1 dX11_reach_63 rfl ?_
          obtain ⟨g12, h⟩ := Ok.guard h
          refine lM_8 g12 dX11_reach_64 ?_
          refine cM_283 (Ok.bind h) ⟨Nat.le_of_ble_eq_true rfl, Nat.le_of_ble_eq_true rfl⟩ (Nat.le_of_ble_eq_true rfl) dX11_reach_65 (fun r13 z_r13 h => ?_)
          refine v_if_eq (tgt := 106) dX11_reach_68 rfl (fun c14 => ?_) (fun c14 => ?_)
          · have h := Ok.pos h c14
            refine v_lconst dX11_reach_106 kl_0 ?_
            refine v_ladd dX11_reach_107 ?_
            refine v_nmL (fun v15 e_v15 => ?_)
            have h := Ok.nm h e_v15
            refine v_lstore_n [(2, .long v15), (0, .ref (lc 0 0)), (1, .int x1), (4, .int a9.2)] dX11_reach_108 (Nat.le_of_ble_eq_true rfl) rfl ?_
            refine v_iinc (v := (a9.2 + 1 : Int32)) 3 [(4, .int (a9.2 + 1 : Int32)), (2, .long v15), (0, .ref (lc 0 0)), (1, .int x1)] dX11_reach_109 rfl (by rw [ic_1]) (Nat.le_of_ble_eq_true rfl) rfl ?_
            refine v_goto (tgt := 48) dX11_reach_112 rfl ?_
            refine v_sub [2, 3, 1, 0] rfl ?_
            have h := Ok.ret h
            exact h
          · have h := Ok.neg h c14
            refine v_aload_n 0 dX11_reach_71 rfl ?_
            refine gM_39 dX11_reach_72 ?_
            refine v_iload 3 dX11_reach_75 rfl ?_
            obtain ⟨g16, h⟩ := Ok.guard h
            refine lM_9 g16 dX11_reach_77 ?_
            refine v_aload_n 0 dX11_reach_78 rfl ?_
            refine gM_39 dX11_reach_79 ?_
            refine v_iload_n 1 dX11_reach_82 rfl ?_
            refine lM_9 g12 dX11_reach_83 ?_
            refine v_icmp_ge (tgt := 106) dX11_reach_84 rfl (fun c17 => ?_) (fun c17 => ?_)
            · have h := Ok.pos h c17
              refine v_lconst dX11_reach_106 kl_0 ?_
              refine v_ladd dX11_reach_107 ?_
              refine v_nmL (fun v18 e_v18 => ?_)
              have h := Ok.nm h e_v18
              refine v_lstore_n [(2, .long v18), (0, .ref (lc 0 0)), (1, .int x1), (4, .int a9.2)] dX11_reach_108 (Nat.le_of_ble_eq_true rfl) rfl ?_
              refine v_iinc (v := (a9.2 + 1 : Int32)) 3 [(4, .int (a9.2 + 1 : Int32)), (2, .long v18), (0, .ref (lc 0 0)), (1, .int x1)] dX11_reach_109 rfl (by rw [ic_1]) (Nat.le_of_ble_eq_true rfl) rfl ?_
              refine v_goto (tgt := 48) dX11_reach_112 rfl ?_
              refine v_sub [2, 3, 1, 0] rfl ?_
              have h := Ok.ret h
              exact h
            · have h := Ok.neg h c17
              refine v_aload_n 0 dX11_reach_87 rfl ?_
              refine v_iload 3 dX11_reach_88 rfl ?_
              refine cM_172 (Ok.bind h) ⟨Nat.le_of_ble_eq_true rfl, Nat.le_of_ble_eq_true rfl⟩ (Nat.le_of_ble_eq_true rfl) dX11_reach_90 (fun r19 h => ?_)
              refine v_i2l dX11_reach_93 rfl ?_
              refine v_aload_n 0 dX11_reach_94 rfl ?_
              refine v_bipush dX11_reach_95 kb_24 ?_
              refine v_iload 3 dX11_reach_97 rfl ?_
              refine cM_183 (Ok.bind h) ⟨Nat.le_of_ble_eq_true rfl, Nat.le_of_ble_eq_true rfl⟩ (Nat.le_of_ble_eq_true rfl) dX11_reach_99 (fun r20 h => ?_)
              refine v_ladd dX11_reach_102 ?_
              refine v_goto (tgt := 107) dX11_reach_103 rfl ?_
              refine v_ladd dX11_reach_107 ?_
              refine v_nmL (fun v21 e_v21 => ?_)
              have h := Ok.nm h e_v21
              refine v_lstore_n [(2, .long v21), (0, .ref (lc 0 0)), (1, .int x1), (4, .int a9.2)] dX11_reach_108 (Nat.le_of_ble_eq_true rfl) rfl ?_
              refine v_iinc (v := (a9.2 + 1 : Int32)) 3 [(4, .int (a9.2 + 1 : Int32)), (2, .long v21), (0, .ref (lc 0 0)), (1, .int x1)] dX11_reach_109 rfl (by rw [ic_1]) (Nat.le_of_ble_eq_true rfl) rfl ?_
              refine v_goto (tgt := 48) dX11_reach_112 rfl ?_
              refine v_sub [2, 3, 1, 0] rfl ?_
              have h := Ok.ret h
              exact h
    · have h := Ok.pos h c5
      refine v_ldc2 dX11_reach_26 q2251 ?_
      have h := Ok.ret h
      exact v_lret rfl (Nat.zero_le _) (Nat.zero_le _) dX11_reach_29 h
  · have h := Ok.pos h c3
    refine v_lconst dX11_reach_14 kl_0 ?_
    have h := Ok.ret h
    exact v_lret rfl (Nat.zero_le _) (Nat.zero_le _) dX11_reach_15 h
def fM_widest_L51 (x1 : Int32) (r7 : Int32 × tt_St) (a9 : Int32 × Int32 × Int32) : Option ((Int32 × Int32 × Int32) ⊕ (Int32 × Int32 × Int32)) :=
  (fM_layersOf r7.2 x1).bind fun r11 => if r11 ≤ a9.2.2 then some (.inr (a9.1, a9.2.1, a9.2.2)) else (fM_rungOf r7.2 x1 a9.2.2).bind fun r13 => (fM_holeOf r7.2 r13).bind fun r14 => if a9.2.1 < r14 then (fM_holeOf r7.2 r13).bind fun r16 => some (.inl (r13, r16, (a9.2.2 + 1 : Int32))) else some (.inl (a9.1, a9.2.1, (a9.2.2 + 1 : Int32)))
def fM_widest (s : tt_St) (x1 : Int32) (x2 : Int32) : Option (Int32 × tt_St) :=
  nm (wrI s 0 0 0 (0 : Int32)) fun s1 => (fM_within x1.toInt64 (0 : Int64) (11 : Int64)).bind fun r2 => (if r2 = 0 then some (0 : Int32) else (fM_within x2.toInt64 (0 : Int64) (1 : Int64)).bind fun r5 => if r5 = 0 then some (0 : Int32) else some (1 : Int32) : Option (Int32)).bind fun t3 => (fM_needs s1 t3 (1 : Int32) (1 : Int32)).bind fun r7 => if r7.1 = 0 then some ((0 : Int32), r7.2) else (itr (fM_widest_L51 x1 r7) tt_fuel ((-1 : Int32), (0 : Int32), (0 : Int32))).bind fun b10 => if x2 = 0 then some (b10.1, r7.2) else some (b10.2.1, r7.2)
abbrev rM_widest : Room := { frames := 1, cells := 0, slots := 0, locals := 25 }
set_option maxHeartbeats 4000000 in
theorem mM_widest (l : Launch) (D : va_G) (dA : Nat → ClassId) (A : Nat → Prop) (lc : Nat → Nat → Nat) (s : tt_St) (x1 : Int32) (x2 : Int32) {Q : Option Value → (Nat → Nat → Nat) → tt_St → Prop} (h : Ok (fM_widest s x1 x2) (fun r => Q (some (.int r.1)) lc r.2)) : tt_Sp (XM l D dA A) yX11_widest cX11_widest 7 (some .int) rM_widest [.ref (lc 0 0), .int x1, .int x2] lc s Q := by
  refine tt_Sp.ofV plM kokM (Nat.le_of_ble_eq_true rfl) ?_
  show tt_V (XM l D dA A) cX11_widest (RX11, 7, (some .int), rM_widest, tt_nt) (tt_fn (XM l D dA A) (RX11, 7, (some .int), rM_widest, tt_nt) Q) 0 [(0, .ref (lc 0 0)), (1, .int x1), (2, .int x2)] [] lc s 0 0
  unfold fM_widest at h
  refine v_aload_n 0 dX11_widest_0 rfl ?_
  refine v_iconst dX11_widest_1 ic_0 ?_
  refine pM_1 dX11_widest_2 ?_
  refine v_nmS (fun s1 e_s1 => ?_)
  have h := Ok.nm h e_s1
  refine v_aload_n 0 dX11_widest_5 rfl ?_
  refine v_iload_n 1 dX11_widest_6 rfl ?_
  refine v_i2l dX11_widest_7 rfl ?_
  refine v_lconst dX11_widest_8 kl_0 ?_
  refine v_ldc2 dX11_widest_9 q1917 ?_
  refine cM_352 (Ok.bind h) ⟨Nat.le_of_ble_eq_true rfl, Nat.le_of_ble_eq_true rfl⟩ (Nat.le_of_ble_eq_true rfl) dX11_widest_12 (fun r2 z_r2 h => ?_)
  have h := Ok.join (PJ := fun t3 : Int32 => tt_V (XM l D dA A) cX11_widest (RX11, 7, (some .int), rM_widest, tt_nt) (tt_fn (XM l D dA A) (RX11, 7, (some .int), rM_widest, tt_nt) Q) 33 [(0, .ref (lc 0 0)), (1, .int x1), (2, .int x2)] [.int t3, .ref (lc 0 0)] lc s1 0 0) h (fun t3 h => by
    refine v_iconst dX11_widest_33 ic_1 ?_
    refine v_iconst dX11_widest_34 ic_1 ?_
    refine cM_346 (Ok.bind h) ⟨Nat.le_of_ble_eq_true rfl, Nat.le_of_ble_eq_true rfl⟩ (Nat.le_of_ble_eq_true rfl) dX11_widest_35 (fun r7 z_r7 h => ?_)
    refine v_if_ne (tgt := 43) dX11_widest_38 rfl (fun c8 => ?_) (fun c8 => ?_)
    · have h := Ok.neg h c8
      refine v_iconst dX11_widest_43 ic_m1 ?_
      refine v_istore_n [(3, .int (-1 : Int32)), (0, .ref (lc 0 0)), (1, .int x1), (2, .int x2)] dX11_widest_44 (Nat.le_of_ble_eq_true rfl) rfl ?_
      refine v_iconst dX11_widest_45 ic_0 ?_
      refine v_istore [(4, .int (0 : Int32)), (3, .int (-1 : Int32)), (0, .ref (lc 0 0)), (1, .int x1), (2, .int x2)] dX11_widest_46 (Nat.le_of_ble_eq_true rfl) rfl ?_
      refine v_iconst dX11_widest_48 ic_0 ?_
      refine v_istore [(5, .int (0 : Int32)), (4, .int (0 : Int32)), (3, .int (-1 : Int32)), (0, .ref (lc 0 0)), (1, .int x1), (2, .int x2)] dX11_widest_49 (Nat.le_of_ble_eq_true rfl) rfl ?_
      refine v_sub [3, 4, 5, 2, 1, 0] rfl ?_
      refine itr_loop (P := fun a9 : Int32 × Int32 × Int32 => tt_V (XM l D dA A) cX11_widest (RX11, 7, (some .int), rM_widest, tt_nt) (tt_fn (XM l D dA A) (RX11, 7, (some .int), rM_widest, tt_nt) Q) 51 [(0, .ref (lc 0 0)), (1, .int x1), (2, .int x2), (3, .int a9.1), (4, .int a9.2.1), (5, .int a9.2.2)] [] lc r7.2 0 0) (PE := fun b10 : Int32 × Int32 × Int32 => tt_V (XM l D dA A) cX11_widest (RX11, 7, (some .int), rM_widest, tt_nt) (tt_fn (XM l D dA A) (RX11, 7, (some .int), rM_widest, tt_nt) Q) 101 [(0, .ref (lc 0 0)), (1, .int x1), (2, .int x2), (3, .int b10.1), (4, .int b10.2.1), (5, .int b10.2.2)] [] lc r7.2 0 0) h (fun b10 h => ?_) (fun a9 h => ?_)
      · refine v_iload_n 2 dX11_widest_101 rfl ?_
        refine v_if_ne (tgt := 109) dX11_widest_102 rfl (fun c17 => ?_) (fun c17 => ?_)
        · have h := Ok.neg h c17
          refine v_iload 4 dX11_widest_109 rfl ?_
          have h := Ok.ret h
          exact v_iret rfl (Nat.zero_le _) (Nat.zero_le _) dX11_widest_111 h
        · have h := Ok.pos h c17
          refine v_iload_n 3 dX11_widest_105 rfl ?_
          refine v_goto (tgt := 111) dX11_widest_106 rfl ?_
          have h := Ok.ret h
          exact v_iret rfl (Nat.zero_le _) (Nat.zero_le _) dX11_widest_111 h
      · have h : Ok (fM_widest_L51 x1 r7 a9) _ := h
        unfold fM_widest_L51 at h
        refine v_iload 5 dX11_widest_51 rfl ?_
        refine v_aload_n 0 dX11_widest_53 rfl ?_
        refine v_iload_n 1 dX11_widest_54 rfl ?_
        refine cM_169 (Ok.bind h) ⟨Nat.le_of_ble_eq_true rfl, Nat.le_of_ble_eq_true rfl⟩ (Nat.le_of_ble_eq_true rfl) dX11_widest_55 (fun r11 h => ?_)
        refine v_icmp_ge (tgt := 101) dX11_widest_58 rfl (fun c12 => ?_) (fun c12 => ?_)
        · have h := Ok.pos h c12
          have h := Ok.ret h
          exact h
        · have h := Ok.neg h c12
          refine v_aload_n 0 dX11_widest_61 rfl ?_
          refine v_iload_n 1 dX11_widest_62 rfl ?_
          refine v_iload 5 dX11_widest_63 rfl ?_
          refine cM_161 (Ok.bind h) ⟨Nat.le_of_ble_eq_true rfl, Nat.le_of_ble_eq_true rfl⟩ (Nat.le_of_ble_eq_true rfl) dX11_widest_65 (fun r13 h => ?_)
          refine v_istore [(6, .int r13), (0, .ref (lc 0 0)), (1, .int x1), (2, .int x2), (3, .int a9.1), (4, .int a9.2.1), (5, .int a9.2.2)] dX11_widest_68 (Nat.le_of_ble_eq_true rfl) rfl ?_
          refine v_aload_n 1 dX11_widest_70 rfl ?_
          refine v_iload 0 dX11_widest_71 rfl ?_
          refine cM_172 (Ok.bind h) ⟨Nat.le_of_ble_eq_true rfl, Nat.le_of_ble_eq_true rfl⟩ (Nat.le_of_ble_eq_true rfl) dX11_widest_73 (fun r14 h => ?_)
          refine v_iload 5 dX11_widest_76 rfl ?_
          refine v_icmp_gt (tgt := 84) dX11_widest_78 rfl (fun c15 => ?_) (fun c15 => ?_)
          · have h := Ok.pos h c15
            refine v_iload 0 dX11_widest_84 rfl ?_
            refine v_istore_n [(3, .int r13), (6, .int r13), (0, .ref (lc 0 0)), (1, .int x1), (2, .int x2), (4, .int a9.2.1), (5, .int a9.2.2)] dX11_widest_86 (Nat.le_of_ble_eq_true rfl) rfl ?_
            refine v_aload_n 2 dX11_widest_87 rfl ?_
            refine v_iload 1 dX11_widest_88 rfl ?_
            refine cM_172 (Ok.bind h) ⟨Nat.le_of_ble_eq_true rfl, Nat.le_of_ble_eq_true rfl⟩ (Nat.le_of_ble_eq_true rfl) dX11_widest_90 (fun r16 h => ?_)
            refine v_istore [(4, .int r16), (3, .int r13), (6, .int r13), (0, .ref (lc 0 0)), (1, .int x1), (2, .int x2), (5, .int a9.2.2)] dX11_widest_93 (Nat.le_of_ble_eq_true rfl) rfl ?_
            refine v_iinc (v := (a9.2.2 + 1 : Int32)) 6 [(5, .int (a9.2.2 + 1 : Int32)), (4, .int r16), (3, .int r13), (6, .int r13), (0, .ref (lc 0 0)), (1, .int x1), (2, .int x2)] dX11_widest_95 rfl (by rw [ic_1]) (Nat.le_of_ble_eq_true rfl) rfl ?_
            refine v_goto (tgt := 51) dX11_widest_98 rfl ?_
            refine v_sub [4, 5, 6, 2, 1, 0] rfl ?_
            have h := Ok.ret h
            exact h
          · have h := Ok.neg h c15
            refine v_goto (tgt := 95) dX11_widest_81 rfl ?_
            refine v_iinc (v := (a9.2.2 + 1 : Int32)) 6 [(5, .int (a9.2.2 + 1 : Int32)), (6, .int r13), (0, .ref (lc 0 0)), (1, .int x1), (2, .int x2), (3, .int a9.1), (4, .int a9.2.1)] dX11_widest_95 rfl (by rw [ic_1]) (Nat.le_of_ble_eq_true rfl) rfl ?_
            refine v_goto (tgt := 51) dX11_widest_98 rfl ?_
            refine v_sub [2, 3, 4, 5, 6, 0] rfl ?_
            have h := Ok.ret h
            exact h
    · have h := Ok.pos h c8
      refine v_iconst dX11_widest_41 ic_0 ?_
      have h := Ok.ret h
      exact v_iret rfl (Nat.zero_le _) (Nat.zero_le _) dX11_widest_42 h)
  refine v_if_eq (tgt := 32) dX11_widest_15 rfl (fun c4 => ?_) (fun c4 => ?_)
  · have h := Ok.pos h c4
    refine v_iconst dX11_widest_32 ic_0 ?_
    have h := Ok.ret h
    exact h
  · have h := Ok.neg h c4
    refine v_iload_n 2 dX11_widest_18 rfl ?_
    refine v_i2l dX11_widest_19 rfl ?_
    refine v_lconst dX11_widest_20 kl_0 ?_
    refine v_lconst dX11_widest_21 kl_1 ?_
    refine cM_352 (Ok.bind h) ⟨Nat.le_of_ble_eq_true rfl, Nat.le_of_ble_eq_true rfl⟩ (Nat.le_of_ble_eq_true rfl) dX11_widest_22 (fun r5 z_r5 h => ?_)
    refine v_if_eq (tgt := 32) dX11_widest_25 rfl (fun c6 => ?_) (fun c6 => ?_)
    · have h := Ok.pos h c6
      refine v_iconst dX11_widest_32 ic_0 ?_
      have h := Ok.ret h
      exact h
    · have h := Ok.neg h c6
      refine v_iconst dX11_widest_28 ic_1 ?_
      refine v_goto (tgt := 33) dX11_widest_29 rfl ?_
      have h := Ok.ret h
      exact h
def fM_strongest_L30 (r3 : Int32 × tt_St) (a5 : Int32 × Int64 × Int32) : Option ((Int32 × Int64 × Int32) ⊕ (Int32 × Int64 × Int32)) :=
  if (12 : Int32) ≤ a5.2.2 then some (.inr (a5.1, a5.2.1, a5.2.2)) else (fM_ofYear r3.2 a5.2.2 (6 : Int32)).bind fun r8 => if a5.2.1 < r8 then (fM_ofYear r3.2 a5.2.2 (6 : Int32)).bind fun r10 => some (.inl (a5.2.2, r10, (a5.2.2 + 1 : Int32))) else some (.inl (a5.1, a5.2.1, (a5.2.2 + 1 : Int32)))
def fM_strongest (s : tt_St) (x1 : Int32) : Option (Int64 × tt_St) :=
  nm (wrI s 0 0 0 (0 : Int32)) fun s1 => (fM_within x1.toInt64 (0 : Int64) (1 : Int64)).bind fun r2 => (fM_needs s1 r2 (1 : Int32) (1 : Int32)).bind fun r3 => if r3.1 = 0 then some ((0 : Int64), r3.2) else (itr (fM_strongest_L30 r3) tt_fuel ((-1 : Int32), (0 : Int64), (0 : Int32))).bind fun b6 => if x1 = 0 then some (b6.1.toInt64, r3.2) else some (b6.2.1, r3.2)
abbrev rM_strongest : Room := { frames := 2, cells := 0, slots := 0, locals := 47 }
set_option maxHeartbeats 4000000 in
theorem mM_strongest (l : Launch) (D : va_G) (dA : Nat → ClassId) (A : Nat → Prop) (lc : Nat → Nat → Nat) (s : tt_St) (x1 : Int32) {Q : Option Value → (Nat → Nat → Nat) → tt_St → Prop} (h : Ok (fM_strongest s x1) (fun r => Q (some (.long r.1)) lc r.2)) : tt_Sp (XM l D dA A) yX11_strongest cX11_strongest 6 (some .long) rM_strongest [.ref (lc 0 0), .int x1] lc s Q := by
  refine tt_Sp.ofV plM kokM (Nat.le_of_ble_eq_true rfl) ?_
  show tt_V (XM l D dA A) cX11_strongest (RX11, 6, (some .long), rM_strongest, tt_nt) (tt_fn (XM l D dA A) (RX11, 6, (some .long), rM_strongest, tt_nt) Q) 0 [(0, .ref (lc 0 0)), (1, .int x1)] [] lc s 0 0
  unfold fM_strongest at h
  refine v_aload_n 0 dX11_strongest_0 rfl ?_
  refine v_iconst dX11_strongest_1 ic_0 ?_
  refine pM_1 dX11_strongest_2 ?_
  refine v_nmS (fun s1 e_s1 => ?_)
  have h := Ok.nm h e_s1
  refine v_aload_n 0 dX11_strongest_5 rfl ?_
  refine v_iload_n 1 dX11_strongest_6 rfl ?_
  refine v_i2l dX11_strongest_7 rfl ?_
  refine v_lconst dX11_strongest_8 kl_0 ?_
  refine v_lconst dX11_strongest_9 kl_1 ?_
  refine cM_352 (Ok.bind h) ⟨Nat.le_of_ble_eq_true rfl, Nat.le_of_ble_eq_true rfl⟩ (Nat.le_of_ble_eq_true rfl) dX11_strongest_10 (fun r2 z_r2 h => ?_)
  refine v_iconst dX11_strongest_13 ic_1 ?_
  refine v_iconst dX11_strongest_14 ic_1 ?_
  refine cM_346 (Ok.bind h) ⟨Nat.le_of_ble_eq_true rfl, Nat.le_of_ble_eq_true rfl⟩ (Nat.le_of_ble_eq_true rfl) dX11_strongest_15 (fun r3 z_r3 h => ?_)
  refine v_if_ne (tgt := 23) dX11_strongest_18 rfl (fun c4 => ?_) (fun c4 => ?_)
  · have h := Ok.neg h c4
    refine v_iconst dX11_strongest_23 ic_m1 ?_
    refine v_istore_n [(2, .int (-1 : Int32)), (0, .ref (lc 0 0)), (1, .int x1)] dX11_strongest_24 (Nat.le_of_ble_eq_true rfl) rfl ?_
    refine v_lconst dX11_strongest_25 kl_0 ?_
    refine v_lstore_n [(3, .long (0 : Int64)), (2, .int (-1 : Int32)), (0, .ref (lc 0 0)), (1, .int x1)] dX11_strongest_26 (Nat.le_of_ble_eq_true rfl) rfl ?_
    refine v_iconst dX11_strongest_27 ic_0 ?_
    refine v_istore [(5, .int (0 : Int32)), (3, .long (0 : Int64)), (2, .int (-1 : Int32)), (0, .ref (lc 0 0)), (1, .int x1)] dX11_strongest_28 (Nat.le_of_ble_eq_true rfl) rfl ?_
    refine v_sub [3, 4, 2, 1, 0] rfl ?_
    refine itr_loop (P := fun a5 : Int32 × Int64 × Int32 => tt_V (XM l D dA A) cX11_strongest (RX11, 6, (some .long), rM_strongest, tt_nt) (tt_fn (XM l D dA A) (RX11, 6, (some .long), rM_strongest, tt_nt) Q) 30 [(0, .ref (lc 0 0)), (1, .int x1), (2, .int a5.1), (3, .long a5.2.1), (5, .int a5.2.2)] [] lc r3.2 0 0) (PE := fun b6 : Int32 × Int64 × Int32 => tt_V (XM l D dA A) cX11_strongest (RX11, 6, (some .long), rM_strongest, tt_nt) (tt_fn (XM l D dA A) (RX11, 6, (some .long), rM_strongest, tt_nt) Q) 71 [(0, .ref (lc 0 0)), (1, .int x1), (2, .int b6.1), (3, .long b6.2.1), (5, .int b6.2.2)] [] lc r3.2 0 0) h (fun b6 h => ?_) (fun a5 h => ?_)
    · refine v_iload_n 1 dX11_strongest_71 rfl ?_
      refine v_if_ne (tgt := 80) dX11_strongest_72 rfl (fun c11 => ?_) (fun c11 => ?_)
      · have h := Ok.neg h c11
        refine v_lload_n 3 dX11_strongest_80 rfl ?_
        have h := Ok.ret h
        exact v_lret rfl (Nat.zero_le _) (Nat.zero_le _) dX11_strongest_81 h
      · have h := Ok.pos h c11
        refine v_iload_n 2 dX11_strongest_75 rfl ?_
        refine v_i2l dX11_strongest_76 rfl ?_
        refine v_goto (tgt := 81) dX11_strongest_77 rfl ?_
        have h := Ok.ret h
        exact v_lret rfl (Nat.zero_le _) (Nat.zero_le _) dX11_strongest_81 h
    · have h : Ok (fM_strongest_L30 r3 a5) _ := h
      unfold fM_strongest_L30 at h
      refine v_iload 4 dX11_strongest_30 rfl ?_
      refine v_bipush dX11_strongest_32 kb_12 ?_
      refine v_icmp_ge (tgt := 71) dX11_strongest_34 rfl (fun c7 => ?_) (fun c7 => ?_)
      · have h := Ok.pos h c7
        have h := Ok.ret h
        exact h
      · have h := Ok.neg h c7
        refine v_aload_n 0 dX11_strongest_37 rfl ?_
        refine v_iload 4 dX11_strongest_38 rfl ?_
        refine v_bipush dX11_strongest_40 kb_6 ?_
        refine cM_423 (Ok.bind h) ⟨Nat.le_of_ble_eq_true rfl, Nat.le_of_ble_eq_true rfl⟩ (Nat.le_of_ble_eq_true rfl) dX11_strongest_42 (fun r8 h => ?_)
        refine v_lload_n 3 dX11_strongest_45 rfl ?_
        refine v_lif_gt (tgt := 53) dX11_strongest_46 dX11_strongest_47 rfl (fun c9 => ?_) (fun c9 => ?_)
        · have h := Ok.pos h c9
          refine v_iload 4 dX11_strongest_53 rfl ?_
          refine v_istore_n [(2, .int a5.2.2), (0, .ref (lc 0 0)), (1, .int x1), (3, .long a5.2.1), (5, .int a5.2.2)] dX11_strongest_55 (Nat.le_of_ble_eq_true rfl) rfl ?_
          refine v_aload_n 1 dX11_strongest_56 rfl ?_
          refine v_iload 4 dX11_strongest_57 rfl ?_
          refine v_bipush dX11_strongest_59 kb_6 ?_
          refine cM_423 (Ok.bind h) ⟨Nat.le_of_ble_eq_true rfl, Nat.le_of_ble_eq_true rfl⟩ (Nat.le_of_ble_eq_true rfl) dX11_strongest_61 (fun r10 h => ?_)
          refine v_lstore_n [(3, .long r10), (2, .int a5.2.2), (0, .ref (lc 0 0)), (1, .int x1), (5, .int a5.2.2)] dX11_strongest_64 (Nat.le_of_ble_eq_true rfl) rfl ?_
          refine v_iinc (v := (a5.2.2 + 1 : Int32)) 4 [(5, .int (a5.2.2 + 1 : Int32)), (3, .long r10), (2, .int a5.2.2), (0, .ref (lc 0 0)), (1, .int x1)] dX11_strongest_65 rfl (by rw [ic_1]) (Nat.le_of_ble_eq_true rfl) rfl ?_
          refine v_goto (tgt := 30) dX11_strongest_68 rfl ?_
          refine v_sub [3, 4, 2, 1, 0] rfl ?_
          have h := Ok.ret h
          exact h
        · have h := Ok.neg h c9
          refine v_goto (tgt := 65) dX11_strongest_50 rfl ?_
          refine v_iinc (v := (a5.2.2 + 1 : Int32)) 4 [(5, .int (a5.2.2 + 1 : Int32)), (0, .ref (lc 0 0)), (1, .int x1), (2, .int a5.1), (3, .long a5.2.1)] dX11_strongest_65 rfl (by rw [ic_1]) (Nat.le_of_ble_eq_true rfl) rfl ?_
          refine v_goto (tgt := 30) dX11_strongest_68 rfl ?_
          refine v_sub [1, 2, 3, 4, 0] rfl ?_
          have h := Ok.ret h
          exact h
  · have h := Ok.pos h c4
    refine v_lconst dX11_strongest_21 kl_0 ?_
    have h := Ok.ret h
    exact v_lret rfl (Nat.zero_le _) (Nat.zero_le _) dX11_strongest_22 h
def fM_holds_L63 (x1 : Int32) (r9 : Int32 × tt_St) (r11 : Int32) (a12 : Int32) : Option ((Int32) ⊕ (Int32) ⊕ (Int32 × tt_St)) :=
  if r11 = (-1 : Int32) then some (.inr (.inl a12)) else if inB r11 40 then if (rdI r9.2 12 0 r11.toNatClampNeg) ≤ a12 then some (.inr (.inl a12)) else if inB (((4 : Int32) * r11) + a12) 160 then if (rdI r9.2 13 0 (((4 : Int32) * r11) + a12).toNatClampNeg) = x1 then some (.inr (.inr (rdI r9.2 14 0 (((4 : Int32) * r11) + a12).toNatClampNeg, r9.2))) else some (.inl (a12 + 1 : Int32)) else none else none
def fM_holds (s : tt_St) (x1 : Int32) (x2 : Int32) (x3 : Int32) : Option (Int32 × tt_St) :=
  nm (wrI s 0 0 0 (0 : Int32)) fun s1 => (fM_within x1.toInt64 (0 : Int64) (9 : Int64)).bind fun r2 => (if r2 = 0 then some (0 : Int32) else (fM_within x2.toInt64 (0 : Int64) (11 : Int64)).bind fun r5 => if r5 = 0 then some (0 : Int32) else (fM_isHeight x3).bind fun r7 => if r7 = 0 then some (0 : Int32) else some (1 : Int32) : Option (Int32)).bind fun t3 => (fM_needs s1 t3 (1 : Int32) (1 : Int32)).bind fun r9 => if r9.1 = 0 then some ((0 : Int32), r9.2) else (fM_layerAt r9.2 x2 x3).bind fun r11 => (itr (fM_holds_L63 x1 r9 r11) tt_fuel (0 : Int32)).bind fun q_b13 => orRet q_b13 fun b13 => some ((0 : Int32), r9.2)
abbrev rM_holds : Room := { frames := 2, cells := 0, slots := 0, locals := 45 }
set_option maxHeartbeats 4000000 in
theorem mM_holds (l : Launch) (D : va_G) (dA : Nat → ClassId) (A : Nat → Prop) (lc : Nat → Nat → Nat) (s : tt_St) (x1 : Int32) (x2 : Int32) (x3 : Int32) {Q : Option Value → (Nat → Nat → Nat) → tt_St → Prop} (h : Ok (fM_holds s x1 x2 x3) (fun r => Q (some (.int r.1)) lc r.2)) : tt_Sp (XM l D dA A) yX11_holds cX11_holds 6 (some .int) rM_holds [.ref (lc 0 0), .int x1, .int x2, .int x3] lc s Q := by
  refine tt_Sp.ofV plM kokM (Nat.le_of_ble_eq_true rfl) ?_
  show tt_V (XM l D dA A) cX11_holds (RX11, 6, (some .int), rM_holds, tt_nt) (tt_fn (XM l D dA A) (RX11, 6, (some .int), rM_holds, tt_nt) Q) 0 [(0, .ref (lc 0 0)), (1, .int x1), (2, .int x2), (3, .int x3)] [] lc s 0 0
  unfold fM_holds at h
  refine v_aload_n 0 dX11_holds_0 rfl ?_
  refine v_iconst dX11_holds_1 ic_0 ?_
  refine pM_1 dX11_holds_2 ?_
  refine v_nmS (fun s1 e_s1 => ?_)
  have h := Ok.nm h e_s1
  refine v_aload_n 0 dX11_holds_5 rfl ?_
  refine v_iload_n 1 dX11_holds_6 rfl ?_
  refine v_i2l dX11_holds_7 rfl ?_
  refine v_lconst dX11_holds_8 kl_0 ?_
  refine v_ldc2 dX11_holds_9 q2131 ?_
  refine cM_352 (Ok.bind h) ⟨Nat.le_of_ble_eq_true rfl, Nat.le_of_ble_eq_true rfl⟩ (Nat.le_of_ble_eq_true rfl) dX11_holds_12 (fun r2 z_r2 h => ?_)
  have h := Ok.join (PJ := fun t3 : Int32 => tt_V (XM l D dA A) cX11_holds (RX11, 6, (some .int), rM_holds, tt_nt) (tt_fn (XM l D dA A) (RX11, 6, (some .int), rM_holds, tt_nt) Q) 42 [(0, .ref (lc 0 0)), (1, .int x1), (2, .int x2), (3, .int x3)] [.int t3, .ref (lc 0 0)] lc s1 0 0) h (fun t3 h => by
    refine v_iconst dX11_holds_42 ic_1 ?_
    refine v_iconst dX11_holds_43 ic_1 ?_
    refine cM_346 (Ok.bind h) ⟨Nat.le_of_ble_eq_true rfl, Nat.le_of_ble_eq_true rfl⟩ (Nat.le_of_ble_eq_true rfl) dX11_holds_44 (fun r9 z_r9 h => ?_)
    refine v_if_ne (tgt := 52) dX11_holds_47 rfl (fun c10 => ?_) (fun c10 => ?_)
    · have h := Ok.neg h c10
      refine v_aload_n 0 dX11_holds_52 rfl ?_
      refine v_iload_n 2 dX11_holds_53 rfl ?_
      refine v_iload_n 3 dX11_holds_54 rfl ?_
      refine cM_429 (Ok.bind h) ⟨Nat.le_of_ble_eq_true rfl, Nat.le_of_ble_eq_true rfl⟩ (Nat.le_of_ble_eq_true rfl) dX11_holds_55 (fun r11 h => ?_)
      refine v_istore [(4, .int r11), (0, .ref (lc 0 0)), (1, .int x1), (2, .int x2), (3, .int x3)] dX11_holds_58 (Nat.le_of_ble_eq_true rfl) rfl ?_
      refine v_iconst dX11_holds_60 ic_0 ?_
      refine v_istore [(5, .int (0 : Int32)), (4, .int r11), (0, .ref (lc 0 0)), (1, .int x1), (2, .int x2), (3, .int x3)] dX11_holds_61 (Nat.le_of_ble_eq_true rfl) rfl ?_
      refine v_sub [2, 3, 1, 0] rfl ?_
      refine itr_loopR (P := fun a12 : Int32 => tt_V (XM l D dA A) cX11_holds (RX11, 6, (some .int), rM_holds, tt_nt) (tt_fn (XM l D dA A) (RX11, 6, (some .int), rM_holds, tt_nt) Q) 63 [(0, .ref (lc 0 0)), (1, .int x1), (4, .int r11), (5, .int a12)] [] lc r9.2 0 0) (PE := fun b13 : Int32 => tt_V (XM l D dA A) cX11_holds (RX11, 6, (some .int), rM_holds, tt_nt) (tt_fn (XM l D dA A) (RX11, 6, (some .int), rM_holds, tt_nt) Q) 116 [(0, .ref (lc 0 0)), (1, .int x1), (4, .int r11), (5, .int b13)] [] lc r9.2 0 0) h (fun b13 h => ?_) (fun a12 h => ?_)
      · refine v_iconst dX11_holds_116 ic_0 ?_
        have h := Ok.ret h
        exact v_iret rfl (Nat.zero_le _) (Nat.zero_le _) dX11_holds_117 h
      · have h : Ok (fM_holds_L63 x1 r9 r11 a12) _ := h
        unfold fM_holds_L63 at h
        refine v_iload 2 dX11_holds_63 rfl ?_
        refine v_iconst dX11_holds_65 ic_m1 ?_
        refine v_icmp_eq (tgt := 116) dX11_holds_66 rfl (fun c14 => ?_) (fun c14 => ?_)
        · have h := Ok.pos h c14
          have h := Ok.ret h
          exact h
        · have h := Ok.neg h c14
          refine v_iload 3 dX11_holds_69 rfl ?_
          refine v_aload_n 0 dX11_holds_71 rfl ?_
          refine gM_48 dX11_holds_72 ?_
          refine v_iload 2 dX11_holds_75 rfl ?_
          obtain ⟨g15, h⟩ := Ok.guard h
          refine lM_12 g15 dX11_holds_77 ?_
          refine v_icmp_ge (tgt := 116) dX11_holds_78 rfl (fun c16 => ?_) (fun c16 => ?_)
          · have h := Ok.pos h c16
            have h := Ok.ret h
            exact h
          · have h := Ok.neg h c16
            refine v_aload_n 0 dX11_holds_81 rfl ?_
            refine gM_51 dX11_holds_82 ?_
            refine v_iconst dX11_holds_85 ic_4 ?_
            refine v_iload 2 dX11_holds_86 rfl ?_
            refine v_imul dX11_holds_88 ?_
            refine v_iload 3 dX11_holds_89 rfl ?_
            refine v_iadd dX11_holds_91 ?_
            obtain ⟨g17, h⟩ := Ok.guard h
            refine lM_13 g17 dX11_holds_92 ?_
            refine v_iload_n 1 dX11_holds_93 rfl ?_
            refine v_icmp_ne (tgt := 110) dX11_holds_94 rfl (fun c18 => ?_) (fun c18 => ?_)
            · have h := Ok.neg h c18
              refine v_iinc (v := (a12 + 1 : Int32)) 3 [(5, .int (a12 + 1 : Int32)), (0, .ref (lc 0 0)), (1, .int x1), (4, .int r11)] dX11_holds_110 rfl (by rw [ic_1]) (Nat.le_of_ble_eq_true rfl) rfl ?_
              refine v_goto (tgt := 63) dX11_holds_113 rfl ?_
              refine v_sub [1, 2, 3, 0] rfl ?_
              have h := Ok.ret h
              exact h
            · have h := Ok.pos h c18
              refine v_aload_n 0 dX11_holds_97 rfl ?_
              refine gM_54 dX11_holds_98 ?_
              refine v_iconst dX11_holds_101 ic_4 ?_
              refine v_iload 2 dX11_holds_102 rfl ?_
              refine v_imul dX11_holds_104 ?_
              refine v_iload 3 dX11_holds_105 rfl ?_
              refine v_iadd dX11_holds_107 ?_
              refine lM_14 g17 dX11_holds_108 ?_
              have h := Ok.ret h
              exact v_iret rfl (Nat.zero_le _) (Nat.zero_le _) dX11_holds_109 h
    · have h := Ok.pos h c10
      refine v_iconst dX11_holds_50 ic_0 ?_
      have h := Ok.ret h
      exact v_iret rfl (Nat.zero_le _) (Nat.zero_le _) dX11_holds_51 h)
  refine v_if_eq (tgt := 41) dX11_holds_15 rfl (fun c4 => ?_) (fun c4 => ?_)
  · have h := Ok.pos h c4
    refine v_iconst dX11_holds_41 ic_0 ?_
    have h := Ok.ret h
    exact h
  · have h := Ok.neg h c4
    refine v_iload_n 2 dX11_holds_18 rfl ?_
    refine v_i2l dX11_holds_19 rfl ?_
    refine v_lconst dX11_holds_20 kl_0 ?_
    refine v_ldc2 dX11_holds_21 q1917 ?_
    refine cM_352 (Ok.bind h) ⟨Nat.le_of_ble_eq_true rfl, Nat.le_of_ble_eq_true rfl⟩ (Nat.le_of_ble_eq_true rfl) dX11_holds_24 (fun r5 z_r5 h => ?_)
    refine v_if_eq (tgt := 41) dX11_holds_27 rfl (fun c6 => ?_) (fun c6 => ?_)
    · have h := Ok.pos h c6
      refine v_iconst dX11_holds_41 ic_0 ?_
      have h := Ok.ret h
      exact h
    · have h := Ok.neg h c6
      refine v_iload_n 3 dX11_holds_30 rfl ?_
      refine cM_426 (Ok.bind h) ⟨Nat.le_of_ble_eq_true rfl, Nat.le_of_ble_eq_true rfl⟩ (Nat.le_of_ble_eq_true rfl) dX11_holds_31 (fun r7 z_r7 h => ?_)
      refine v_if_eq (tgt := 41) dX11_holds_34 rfl (fun c8 => ?_) (fun c8 => ?_)
      · have h := Ok.pos h c8
        refine v_iconst dX11_holds_41 ic_0 ?_
        have h := Ok.ret h
        exact h
      · have h := Ok.neg h c8
        refine v_iconst dX11_holds_37 ic_1 ?_
        refine v_goto (tgt := 42) dX11_holds_38 rfl ?_
        have h := Ok.ret h
        exact h
def fM_spent_L9 (s1 : tt_St) (a2 : Int64 × Int32) : Option ((Int64 × Int32) ⊕ (Int64 × Int32)) :=
  if (40 : Int32) ≤ a2.2 then some (.inr (a2.1, a2.2)) else if inB a2.2 40 then if (rdI s1 6 0 a2.2.toNatClampNeg) = 0 then nm (a2.1 ||| (0 : Int64)) fun v7 => some (.inl (v7, (a2.2 + 1 : Int32))) else (fM_left s1 a2.2).bind fun r8 => if r8 = (0 : Int64) then nm (a2.1 ||| ((1 : Int64) <<< (a2.2.toInt64 &&& 63))) fun v11 => some (.inl (v11, (a2.2 + 1 : Int32))) else nm (a2.1 ||| (0 : Int64)) fun v10 => some (.inl (v10, (a2.2 + 1 : Int32))) else none
def fM_spent (s : tt_St) : Option (Int64 × tt_St) :=
  nm (wrI s 0 0 0 (0 : Int32)) fun s1 => (itr (fM_spent_L9 s1) tt_fuel ((0 : Int64), (0 : Int32))).bind fun b3 => some (b3.1, s1)
abbrev rM_spent : Room := { frames := 1, cells := 0, slots := 0, locals := 21 }
set_option maxHeartbeats 4000000 in
theorem mM_spent (l : Launch) (D : va_G) (dA : Nat → ClassId) (A : Nat → Prop) (lc : Nat → Nat → Nat) (s : tt_St) {Q : Option Value → (Nat → Nat → Nat) → tt_St → Prop} (h : Ok (fM_spent s) (fun r => Q (some (.long r.1)) lc r.2)) : tt_Sp (XM l D dA A) yX11_spent cX11_spent 4 (some .long) rM_spent [.ref (lc 0 0)] lc s Q := by
  refine tt_Sp.ofV plM kokM (Nat.le_of_ble_eq_true rfl) ?_
  show tt_V (XM l D dA A) cX11_spent (RX11, 4, (some .long), rM_spent, tt_nt) (tt_fn (XM l D dA A) (RX11, 4, (some .long), rM_spent, tt_nt) Q) 0 [(0, .ref (lc 0 0))] [] lc s 0 0
  unfold fM_spent at h
  refine v_aload_n 0 dX11_spent_0 rfl ?_
  refine v_iconst dX11_spent_1 ic_0 ?_
  refine pM_1 dX11_spent_2 ?_
  refine v_nmS (fun s1 e_s1 => ?_)
  have h := Ok.nm h e_s1
  refine v_lconst dX11_spent_5 kl_0 ?_
  refine v_lstore_n [(1, .long (0 : Int64)), (0, .ref (lc 0 0))] dX11_spent_6 (Nat.le_of_ble_eq_true rfl) rfl ?_
  refine v_iconst dX11_spent_7 ic_0 ?_
  refine v_istore_n [(3, .int (0 : Int32)), (1, .long (0 : Int64)), (0, .ref (lc 0 0))] dX11_spent_8 (Nat.le_of_ble_eq_true rfl) rfl ?_
  refine v_sub [2, 1, 0] rfl ?_
  refine itr_loop (P := fun a2 : Int64 × Int32 => tt_V (XM l D dA A) cX11_spent (RX11, 4, (some .long), rM_spent, tt_nt) (tt_fn (XM l D dA A) (RX11, 4, (some .long), rM_spent, tt_nt) Q) 9 [(0, .ref (lc 0 0)), (1, .long a2.1), (3, .int a2.2)] [] lc s1 0 0) (PE := fun b3 : Int64 × Int32 => tt_V (XM l D dA A) cX11_spent (RX11, 4, (some .long), rM_spent, tt_nt) (tt_fn (XM l D dA A) (RX11, 4, (some .long), rM_spent, tt_nt) Q) 50 [(0, .ref (lc 0 0)), (1, .long b3.1), (3, .int b3.2)] [] lc s1 0 0) h (fun b3 h => ?_) (fun a2 h => ?_)
  · refine v_lload_n 1 dX11_spent_50 rfl ?_
    have h := Ok.ret h
    exact v_lret rfl (Nat.zero_le _) (Nat.zero_le _) dX11_spent_51 h
  · have h : Ok (fM_spent_L9 s1 a2) _ := h
    unfold fM_spent_L9 at h
    refine v_iload_n 2 dX11_spent_9 rfl ?_
    refine v_bipush dX11_spent_10 kb_40 ?_
    refine v_icmp_ge (tgt := 50) dX11_spent_12 rfl (fun c4 => ?_) (fun c4 => ?_)
    · have h := Ok.pos h c4
      have h := Ok.ret h
      exact h
    · have h := Ok.neg h c4
      refine v_lload_n 1 dX11_spent_15 rfl ?_
      refine v_aload_n 0 dX11_spent_16 rfl ?_
      refine gM_29 dX11_spent_17 ?_
      refine v_iload_n 2 dX11_spent_20 rfl ?_
      obtain ⟨g5, h⟩ := Ok.guard h
      refine lM_6 g5 dX11_spent_21 ?_
      refine v_if_eq (tgt := 41) dX11_spent_22 rfl (fun c6 => ?_) (fun c6 => ?_)
      · have h := Ok.pos h c6
        refine v_lconst dX11_spent_41 kl_0 ?_
        refine v_lor dX11_spent_42 ?_
        refine v_nmL (fun v7 e_v7 => ?_)
        have h := Ok.nm h e_v7
        refine v_lstore_n [(1, .long v7), (0, .ref (lc 0 0)), (3, .int a2.2)] dX11_spent_43 (Nat.le_of_ble_eq_true rfl) rfl ?_
        refine v_iinc (v := (a2.2 + 1 : Int32)) 2 [(3, .int (a2.2 + 1 : Int32)), (1, .long v7), (0, .ref (lc 0 0))] dX11_spent_44 rfl (by rw [ic_1]) (Nat.le_of_ble_eq_true rfl) rfl ?_
        refine v_goto (tgt := 9) dX11_spent_47 rfl ?_
        refine v_sub [2, 1, 0] rfl ?_
        have h := Ok.ret h
        exact h
      · have h := Ok.neg h c6
        refine v_aload_n 0 dX11_spent_25 rfl ?_
        refine v_iload_n 2 dX11_spent_26 rfl ?_
        refine cM_175 (Ok.bind h) ⟨Nat.le_of_ble_eq_true rfl, Nat.le_of_ble_eq_true rfl⟩ (Nat.le_of_ble_eq_true rfl) dX11_spent_27 (fun r8 h => ?_)
        refine v_lconst dX11_spent_30 kl_0 ?_
        refine v_lif_ne (tgt := 41) dX11_spent_31 dX11_spent_32 rfl (fun c9 => ?_) (fun c9 => ?_)
        · have h := Ok.neg h c9
          refine v_lconst dX11_spent_41 kl_0 ?_
          refine v_lor dX11_spent_42 ?_
          refine v_nmL (fun v10 e_v10 => ?_)
          have h := Ok.nm h e_v10
          refine v_lstore_n [(1, .long v10), (0, .ref (lc 0 0)), (3, .int a2.2)] dX11_spent_43 (Nat.le_of_ble_eq_true rfl) rfl ?_
          refine v_iinc (v := (a2.2 + 1 : Int32)) 2 [(3, .int (a2.2 + 1 : Int32)), (1, .long v10), (0, .ref (lc 0 0))] dX11_spent_44 rfl (by rw [ic_1]) (Nat.le_of_ble_eq_true rfl) rfl ?_
          refine v_goto (tgt := 9) dX11_spent_47 rfl ?_
          refine v_sub [2, 1, 0] rfl ?_
          have h := Ok.ret h
          exact h
        · have h := Ok.pos h c9
          refine v_lconst dX11_spent_35 kl_1 ?_
          refine v_iload_n 2 dX11_spent_36 rfl ?_
          refine v_lshl dX11_spent_37 rfl ?_
          refine v_goto (tgt := 42) dX11_spent_38 rfl ?_
          refine v_lor dX11_spent_42 ?_
          refine v_nmL (fun v11 e_v11 => ?_)
          have h := Ok.nm h e_v11
          refine v_lstore_n [(1, .long v11), (0, .ref (lc 0 0)), (3, .int a2.2)] dX11_spent_43 (Nat.le_of_ble_eq_true rfl) rfl ?_
          refine v_iinc (v := (a2.2 + 1 : Int32)) 2 [(3, .int (a2.2 + 1 : Int32)), (1, .long v11), (0, .ref (lc 0 0))] dX11_spent_44 rfl (by rw [ic_1]) (Nat.le_of_ble_eq_true rfl) rfl ?_
          refine v_goto (tgt := 9) dX11_spent_47 rfl ?_
          refine v_sub [2, 1, 0] rfl ?_
          have h := Ok.ret h
          exact h
def fM_status (s : tt_St) (x1 : Int32) : Option (Int32 × tt_St) :=
  nm (wrI s 0 0 0 (0 : Int32)) fun s1 => (fM_within x1.toInt64 (0 : Int64) (2 : Int64)).bind fun r2 => if r2 = 0 then some ((-1 : Int32), s1) else if inB x1 3 then some (rdI s1 1 0 x1.toNatClampNeg, s1) else none
abbrev rM_status : Room := { frames := 1, cells := 0, slots := 0, locals := 25 }
set_option maxHeartbeats 4000000 in
theorem mM_status (l : Launch) (D : va_G) (dA : Nat → ClassId) (A : Nat → Prop) (lc : Nat → Nat → Nat) (s : tt_St) (x1 : Int32) {Q : Option Value → (Nat → Nat → Nat) → tt_St → Prop} (h : Ok (fM_status s x1) (fun r => Q (some (.int r.1)) lc r.2)) : tt_Sp (XM l D dA A) yX11_status cX11_status 2 (some .int) rM_status [.ref (lc 0 0), .int x1] lc s Q := by
  refine tt_Sp.ofV plM kokM (Nat.le_of_ble_eq_true rfl) ?_
  show tt_V (XM l D dA A) cX11_status (RX11, 2, (some .int), rM_status, tt_nt) (tt_fn (XM l D dA A) (RX11, 2, (some .int), rM_status, tt_nt) Q) 0 [(0, .ref (lc 0 0)), (1, .int x1)] [] lc s 0 0
  unfold fM_status at h
  refine v_aload_n 0 dX11_status_0 rfl ?_
  refine v_iconst dX11_status_1 ic_0 ?_
  refine pM_1 dX11_status_2 ?_
  refine v_nmS (fun s1 e_s1 => ?_)
  have h := Ok.nm h e_s1
  refine v_iload_n 1 dX11_status_5 rfl ?_
  refine v_i2l dX11_status_6 rfl ?_
  refine v_lconst dX11_status_7 kl_0 ?_
  refine v_ldc2 dX11_status_8 q2088 ?_
  refine cM_352 (Ok.bind h) ⟨Nat.le_of_ble_eq_true rfl, Nat.le_of_ble_eq_true rfl⟩ (Nat.le_of_ble_eq_true rfl) dX11_status_11 (fun r2 z_r2 h => ?_)
  refine v_if_eq (tgt := 26) dX11_status_14 rfl (fun c3 => ?_) (fun c3 => ?_)
  · have h := Ok.pos h c3
    refine v_iconst dX11_status_26 ic_m1 ?_
    have h := Ok.ret h
    exact v_iret rfl (Nat.zero_le _) (Nat.zero_le _) dX11_status_27 h
  · have h := Ok.neg h c3
    refine v_aload_n 0 dX11_status_17 rfl ?_
    refine gM_7 dX11_status_18 ?_
    refine v_iload_n 1 dX11_status_21 rfl ?_
    obtain ⟨g4, h⟩ := Ok.guard h
    refine lM_1 g4 dX11_status_22 ?_
    refine v_goto (tgt := 27) dX11_status_23 rfl ?_
    have h := Ok.ret h
    exact v_iret rfl (Nat.zero_le _) (Nat.zero_le _) dX11_status_27 h
