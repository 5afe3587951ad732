set_option maxRecDepth 100000
def fM_rankOf (s : tt_St) (x1 : Int32) (x2 : Int32) : Option (Int64) :=
  if (rdI s 0 0 32) = 0 then (fM_roomOf s x1 x2).bind fun r6 => some (-r6) else if (rdI s 0 0 32) = (2 : Int32) then (fM_rungOf s x2 (0 : Int32)).bind fun r4 => if inB r4 40 then some ((rdI s 9 0 r4.toNatClampNeg).toInt64) else none else if (rdI s 0 0 32) = (1 : Int32) then some ((-x2).toInt64) else some x2.toInt64
abbrev rM_rankOf : Room := { frames := 3, cells := 0, slots := 0, locals := 70 }
set_option maxHeartbeats 4000000 in
theorem mM_rankOf (l : Launch) (D : va_G) (dA : Nat → ClassId) (A : Nat → Prop) (lc : Nat → Nat → Nat) (s : tt_St) (x1 : Int32) (x2 : Int32) {Q : Option Value → (Nat → Nat → Nat) → tt_St → Prop} (h : Ok (fM_rankOf s x1 x2) (fun r => Q (some (.long r)) lc s)) : tt_Sp (XM l D dA A) yX11_rankOf cX11_rankOf 3 (some .long) rM_rankOf [.ref (lc 0 0), .int x1, .int x2] lc s Q := by
  refine tt_Sp.ofV plM kokM (Nat.le_of_ble_eq_true rfl) ?_
  show tt_V (XM l D dA A) cX11_rankOf (RX11, 3, (some .long), rM_rankOf, tt_nt) (tt_fn (XM l D dA A) (RX11, 3, (some .long), rM_rankOf, tt_nt) Q) 0 [(0, .ref (lc 0 0)), (1, .int x1), (2, .int x2)] [] lc s 0 0
  unfold fM_rankOf at h
  refine v_aload_n 0 dX11_rankOf_0 rfl ?_
  refine gM_158 dX11_rankOf_1 ?_
  refine v_if_ne (tgt := 15) dX11_rankOf_4 rfl (fun c1 => ?_) (fun c1 => ?_)
  · have h := Ok.neg h c1
    refine v_aload_n 0 dX11_rankOf_15 rfl ?_
    refine gM_158 dX11_rankOf_16 ?_
    refine v_iconst dX11_rankOf_19 ic_2 ?_
    refine v_icmp_ne (tgt := 36) dX11_rankOf_20 rfl (fun c2 => ?_) (fun c2 => ?_)
    · have h := Ok.neg h c2
      refine v_aload_n 0 dX11_rankOf_36 rfl ?_
      refine gM_158 dX11_rankOf_37 ?_
      refine v_iconst dX11_rankOf_40 ic_1 ?_
      refine v_icmp_ne (tgt := 50) dX11_rankOf_41 rfl (fun c3 => ?_) (fun c3 => ?_)
      · have h := Ok.neg h c3
        refine v_iload_n 2 dX11_rankOf_50 rfl ?_
        refine v_i2l dX11_rankOf_51 rfl ?_
        have h := Ok.ret h
        exact v_lret rfl (Nat.zero_le _) (Nat.zero_le _) dX11_rankOf_52 h
      · have h := Ok.pos h c3
        refine v_iload_n 2 dX11_rankOf_44 rfl ?_
        refine v_ineg dX11_rankOf_45 ?_
        refine v_i2l dX11_rankOf_46 rfl ?_
        refine v_goto (tgt := 52) dX11_rankOf_47 rfl ?_
        have h := Ok.ret h
        exact v_lret rfl (Nat.zero_le _) (Nat.zero_le _) dX11_rankOf_52 h
    · have h := Ok.pos h c2
      refine v_aload_n 0 dX11_rankOf_23 rfl ?_
      refine gM_39 dX11_rankOf_24 ?_
      refine v_aload_n 0 dX11_rankOf_27 rfl ?_
      refine v_iload_n 2 dX11_rankOf_28 rfl ?_
      refine v_iconst dX11_rankOf_29 ic_0 ?_
      refine cM_161 (Ok.bind h) ⟨Nat.le_of_ble_eq_true rfl, Nat.le_of_ble_eq_true rfl⟩ (Nat.le_of_ble_eq_true rfl) dX11_rankOf_30 (fun r4 h => ?_)
      obtain ⟨g5, h⟩ := Ok.guard h
      refine lM_9 g5 dX11_rankOf_33 ?_
      refine v_i2l dX11_rankOf_34 rfl ?_
      have h := Ok.ret h
      exact v_lret rfl (Nat.zero_le _) (Nat.zero_le _) dX11_rankOf_35 h
  · have h := Ok.pos h c1
    refine v_aload_n 0 dX11_rankOf_7 rfl ?_
    refine v_iload_n 1 dX11_rankOf_8 rfl ?_
    refine v_iload_n 2 dX11_rankOf_9 rfl ?_
    refine cM_219 (Ok.bind h) ⟨Nat.le_of_ble_eq_true rfl, Nat.le_of_ble_eq_true rfl⟩ (Nat.le_of_ble_eq_true rfl) dX11_rankOf_10 (fun r6 h => ?_)
    refine v_lneg dX11_rankOf_13 ?_
    have h := Ok.ret h
    exact v_lret rfl (Nat.zero_le _) (Nat.zero_le _) dX11_rankOf_14 h
theorem cM_222 {l : Launch} {D : va_G} {dA : Nat → ClassId} {A : Nat → Prop} {lc : Nat → Nat → Nat} {s : tt_St} {cc : ByteArray} {nl : Nat} {rt : Option FieldType} {rm : Room} {tn : tt_Tn} {Q : tt_Fin} {pc : Nat} {lv : List (Nat × Value)} {rest : List Value} {ck cn : Nat} {x1 : Int32} {x2 : Int32} {K : Int64 → Prop} (h : Ok (fM_rankOf s x1 x2) K) (hR : 3 + 1 ≤ rm.frames ∧ 8 + (3 + 11) + 70 ≤ rm.locals) (hW : (rest.map fun v => v.category).sum ≤ 8) (d : decode cc pc = .ok (.invokevirtual 222, 3)) (kk : ∀ r, K r → tt_V (XM l D dA A) cc (RX11, nl, rt, rm, tn) Q (pc + 3) lv (.long r :: rest) lc s ck cn) (hf : ck ≤ rm.cells ∧ cn ≤ rm.slots := by exact ⟨Nat.zero_le _, Nat.zero_le _⟩) : tt_V (XM l D dA A) cc (RX11, nl, rt, rm, tn) Q pc lv (.int x2 :: .int x1 :: .ref (lc 0 0) :: rest) lc s ck cn :=
  v_callV (kd := 0) (i := 0) (nA := 2) (As := [.int x1, .int x2]) lvM_0 oM rfl (mM_rankOf l D dA A lc s x1 x2 (Q := (fun v lc' s' => ∃ r, K r ∧ v = some (.long r) ∧ lc' = lc ∧ s' = s)) (h.mono (fun r hr => ⟨r, hr, rfl, rfl, rfl⟩))) (lw_V q2067 q2069 qs84 q154 q2070) (by decide +kernel) rfl hR hW hf d rfl (fun v lc' s' q => by obtain ⟨r, hr, e1, e2, e3⟩ := q; rw [e1, e2, e3]; exact kk r hr)
def fM_picked_L34 (s : tt_St) (x1 : Int32) (a1 : Int32) (a8 : Int32 × Int32) : Option ((Int32 × Int32) ⊕ (Int32 × Int32)) :=
  if (12 : Int32) ≤ a8.2 then some (.inr (a8.1, a8.2)) else if a8.2 = a1 then some (.inl (a8.1, (a8.2 + 1 : Int32))) else (fM_isOff s x1 a8.2).bind fun r12 => if r12 = 0 then some (.inl (a8.1, (a8.2 + 1 : Int32))) else (fM_isGap s a8.2).bind fun r14 => if r14 = 0 then (fM_rankOf s x1 a8.2).bind fun r16 => (fM_rankOf s x1 a1).bind fun r17 => if r16 < r17 then nm (a8.1 + (1 : Int32)) fun v19 => some (.inl (v19, (a8.2 + 1 : Int32))) else (fM_rankOf s x1 a8.2).bind fun r20 => (fM_rankOf s x1 a1).bind fun r21 => if r20 = r21 then if a1 ≤ a8.2 then nm (a8.1 + (0 : Int32)) fun v25 => some (.inl (v25, (a8.2 + 1 : Int32))) else nm (a8.1 + (1 : Int32)) fun v26 => some (.inl (v26, (a8.2 + 1 : Int32))) else nm (a8.1 + (0 : Int32)) fun v23 => some (.inl (v23, (a8.2 + 1 : Int32))) else some (.inl (a8.1, (a8.2 + 1 : Int32)))
def fM_picked_L2 (s : tt_St) (x1 : Int32) (x2 : Int32) (a1 : Int32) : Option ((Int32) ⊕ (Int32) ⊕ (Int32)) :=
  if (12 : Int32) ≤ a1 then some (.inr (.inl a1)) else (fM_isOff s x1 a1).bind fun r4 => if r4 = 0 then some (.inl (a1 + 1 : Int32)) else (fM_isGap s a1).bind fun r6 => if r6 = 0 then (itr (fM_picked_L34 s x1 a1) tt_fuel ((0 : Int32), (0 : Int32))).bind fun b9 => if b9.1 = x2 then some (.inr (.inr a1)) else some (.inl (a1 + 1 : Int32)) else some (.inl (a1 + 1 : Int32))
def fM_picked (s : tt_St) (x1 : Int32) (x2 : Int32) : Option (Int32) :=
  (itr (fM_picked_L2 s x1 x2) tt_fuel (0 : Int32)).bind fun q_b2 => orRet q_b2 fun b2 => some (-1 : Int32)
abbrev rM_picked : Room := { frames := 4, cells := 0, slots := 0, locals := 92 }
set_option maxHeartbeats 4000000 in
theorem mM_picked (l : Launch) (D : va_G) (dA : Nat → ClassId) (A : Nat → Prop) (lc : Nat → Nat → Nat) (s : tt_St) (x1 : Int32) (x2 : Int32) {Q : Option Value → (Nat → Nat → Nat) → tt_St → Prop} (h : Ok (fM_picked s x1 x2) (fun r => Q (some (.int r)) lc s)) : tt_Sp (XM l D dA A) yX11_picked cX11_picked 6 (some .int) rM_picked [.ref (lc 0 0), .int x1, .int x2] lc s Q := by
  refine tt_Sp.ofV plM kokM (Nat.le_of_ble_eq_true rfl) ?_
  show tt_V (XM l D dA A) cX11_picked (RX11, 6, (some .int), rM_picked, tt_nt) (tt_fn (XM l D dA A) (RX11, 6, (some .int), rM_picked, tt_nt) Q) 0 [(0, .ref (lc 0 0)), (1, .int x1), (2, .int x2)] [] lc s 0 0
  unfold fM_picked at h
  refine v_iconst dX11_picked_0 ic_0 ?_
  refine v_istore_n [(3, .int (0 : Int32)), (0, .ref (lc 0 0)), (1, .int x1), (2, .int x2)] dX11_picked_1 (Nat.le_of_ble_eq_true rfl) rfl ?_
  refine v_sub [1, 2, 3, 0] rfl ?_
  refine itr_loopR (P := fun a1 : Int32 => tt_V (XM l D dA A) cX11_picked (RX11, 6, (some .int), rM_picked, tt_nt) (tt_fn (XM l D dA A) (RX11, 6, (some .int), rM_picked, tt_nt) Q) 2 [(0, .ref (lc 0 0)), (1, .int x1), (2, .int x2), (3, .int a1)] [] lc s 0 0) (PE := fun b2 : Int32 => tt_V (XM l D dA A) cX11_picked (RX11, 6, (some .int), rM_picked, tt_nt) (tt_fn (XM l D dA A) (RX11, 6, (some .int), rM_picked, tt_nt) Q) 139 [(0, .ref (lc 0 0)), (1, .int x1), (2, .int x2), (3, .int b2)] [] lc s 0 0) h (fun b2 h => ?_) (fun a1 h => ?_)
  · refine v_iconst dX11_picked_139 ic_m1 ?_
    have h := Ok.ret h
    exact v_iret rfl (Nat.zero_le _) (Nat.zero_le _) dX11_picked_140 h
  · have h : Ok (fM_picked_L2 s x1 x2 a1) _ := h
    unfold fM_picked_L2 at h
    refine v_iload_n 3 dX11_picked_2 rfl ?_
    refine v_bipush dX11_picked_3 kb_12 ?_
    refine v_icmp_ge (tgt := 139) dX11_picked_5 rfl (fun c3 => ?_) (fun c3 => ?_)
    · have h := Ok.pos h c3
      have h := Ok.ret h
      exact h
    · have h := Ok.neg h c3
      refine v_aload_n 0 dX11_picked_8 rfl ?_
      refine v_iload_n 1 dX11_picked_9 rfl ?_
      refine v_iload_n 3 dX11_picked_10 rfl ?_
      refine cM_197 (Ok.bind h) ⟨Nat.le_of_ble_eq_true rfl, Nat.le_of_ble_eq_true rfl⟩ (Nat.le_of_ble_eq_true rfl) dX11_picked_11 (fun r4 z_r4 h => ?_)
      refine v_if_eq (tgt := 133) dX11_picked_14 rfl (fun c5 => ?_) (fun c5 => ?_)
      · have h := Ok.pos h c5
        refine v_iinc (v := (a1 + 1 : Int32)) 3 [(3, .int (a1 + 1 : Int32)), (0, .ref (lc 0 0)), (1, .int x1), (2, .int x2)] dX11_picked_133 rfl (by rw [ic_1]) (Nat.le_of_ble_eq_true rfl) rfl ?_
        refine v_goto (tgt := 2) dX11_picked_136 rfl ?_
        refine v_sub [1, 2, 3, 0] rfl ?_
        have h := Ok.ret h
        exact h
      · have h := Ok.neg h c5
        refine v_aload_n 0 dX11_picked_17 rfl ?_
        refine v_iload_n 3 dX11_picked_18 rfl ?_
        refine cM_205 (Ok.bind h) ⟨Nat.le_of_ble_eq_true rfl, Nat.le_of_ble_eq_true rfl⟩ (Nat.le_of_ble_eq_true rfl) dX11_picked_19 (fun r6 z_r6 h => ?_)
        refine v_if_eq (tgt := 28) dX11_picked_22 rfl (fun c7 => ?_) (fun c7 => ?_)
        · have h := Ok.pos h c7
          refine v_iconst dX11_picked_28 ic_0 ?_
          refine v_istore [(4, .int (0 : Int32)), (0, .ref (lc 0 0)), (1, .int x1), (2, .int x2), (3, .int a1)] dX11_picked_29 (Nat.le_of_ble_eq_true rfl) rfl ?_
          refine v_iconst dX11_picked_31 ic_0 ?_
          refine v_istore [(5, .int (0 : Int32)), (4, .int (0 : Int32)), (0, .ref (lc 0 0)), (1, .int x1), (2, .int x2), (3, .int a1)] dX11_picked_32 (Nat.le_of_ble_eq_true rfl) rfl ?_
          refine v_sub [2, 3, 4, 5, 1, 0] rfl ?_
          refine itr_loop (P := fun a8 : Int32 × Int32 => tt_V (XM l D dA A) cX11_picked (RX11, 6, (some .int), rM_picked, tt_nt) (tt_fn (XM l D dA A) (RX11, 6, (some .int), rM_picked, tt_nt) Q) 34 [(0, .ref (lc 0 0)), (1, .int x1), (2, .int x2), (3, .int a1), (4, .int a8.1), (5, .int a8.2)] [] lc s 0 0) (PE := fun b9 : Int32 × Int32 => tt_V (XM l D dA A) cX11_picked (RX11, 6, (some .int), rM_picked, tt_nt) (tt_fn (XM l D dA A) (RX11, 6, (some .int), rM_picked, tt_nt) Q) 125 [(0, .ref (lc 0 0)), (1, .int x1), (2, .int x2), (3, .int a1), (4, .int b9.1), (5, .int b9.2)] [] lc s 0 0) h (fun b9 h => ?_) (fun a8 h => ?_)
          · refine v_iload 4 dX11_picked_125 rfl ?_
            refine v_iload_n 2 dX11_picked_127 rfl ?_
            refine v_icmp_ne (tgt := 133) dX11_picked_128 rfl (fun c27 => ?_) (fun c27 => ?_)
            · have h := Ok.neg h c27
              refine v_iinc (v := (a1 + 1 : Int32)) 3 [(3, .int (a1 + 1 : Int32)), (0, .ref (lc 0 0)), (1, .int x1), (2, .int x2), (4, .int b9.1), (5, .int b9.2)] dX11_picked_133 rfl (by rw [ic_1]) (Nat.le_of_ble_eq_true rfl) rfl ?_
              refine v_goto (tgt := 2) dX11_picked_136 rfl ?_
              refine v_sub [1, 2, 3, 0] rfl ?_
              have h := Ok.ret h
              exact h
            · have h := Ok.pos h c27
              refine v_iload_n 3 dX11_picked_131 rfl ?_
              have h := Ok.ret h
              exact v_iret rfl (Nat.zero_le _) (Nat.zero_le _) dX11_picked_132 h
          · have h : Ok (fM_picked_L34 s x1 a1 a8) _ := h
            unfold fM_picked_L34 at h
            refine v_iload 5 dX11_picked_34 rfl ?_
            refine v_bipush dX11_picked_36 kb_12 ?_
            refine v_icmp_ge (tgt := 125) dX11_picked_38 rfl (fun c10 => ?_) (fun c10 => ?_)
            · have h := Ok.pos h c10
              have h := Ok.ret h
              exact h
            · have h := Ok.neg h c10
              refine v_iload 5 dX11_picked_41 rfl ?_
              refine v_iload_n 3 dX11_picked_43 rfl ?_
              refine v_icmp_eq (tgt := 119) dX11_picked_44 rfl (fun c11 => ?_) (fun c11 => ?_)
              · have h := Ok.pos h c11
                refine v_iinc (v := (a8.2 + 1 : Int32)) 5 [(5, .int (a8.2 + 1 : Int32)), (0, .ref (lc 0 0)), (1, .int x1), (2, .int x2), (3, .int a1), (4, .int a8.1)] dX11_picked_119 rfl (by rw [ic_1]) (Nat.le_of_ble_eq_true rfl) rfl ?_
                refine v_goto (tgt := 34) dX11_picked_122 rfl ?_
                refine v_sub [1, 2, 3, 4, 5, 0] rfl ?_
                have h := Ok.ret h
                exact h
              · have h := Ok.neg h c11
                refine v_aload_n 0 dX11_picked_47 rfl ?_
                refine v_iload_n 1 dX11_picked_48 rfl ?_
                refine v_iload 5 dX11_picked_49 rfl ?_
                refine cM_197 (Ok.bind h) ⟨Nat.le_of_ble_eq_true rfl, Nat.le_of_ble_eq_true rfl⟩ (Nat.le_of_ble_eq_true rfl) dX11_picked_51 (fun r12 z_r12 h => ?_)
                refine v_if_eq (tgt := 119) dX11_picked_54 rfl (fun c13 => ?_) (fun c13 => ?_)
                · have h := Ok.pos h c13
                  refine v_iinc (v := (a8.2 + 1 : Int32)) 5 [(5, .int (a8.2 + 1 : Int32)), (0, .ref (lc 0 0)), (1, .int x1), (2, .int x2), (3, .int a1), (4, .int a8.1)] dX11_picked_119 rfl (by rw [ic_1]) (Nat.le_of_ble_eq_true rfl) rfl ?_
                  refine v_goto (tgt := 34) dX11_picked_122 rfl ?_
                  refine v_sub [1, 2, 3, 4, 5, 0] rfl ?_
                  have h := Ok.ret h
                  exact h
                · have h := Ok.neg h c13
                  refine v_aload_n 0 dX11_picked_57 rfl ?_
                  refine v_iload 5 dX11_picked_58 rfl ?_
                  refine cM_205 (Ok.bind h) ⟨Nat.le_of_ble_eq_true rfl, Nat.le_of_ble_eq_true rfl⟩ (Nat.le_of_ble_eq_true rfl) dX11_picked_60 (fun r14 z_r14 h => ?_)
                  refine v_if_eq (tgt := 69) dX11_picked_63 rfl (fun c15 => ?_) (fun c15 => ?_)
                  · have h := Ok.pos h c15
                    refine v_iload 4 dX11_picked_69 rfl ?_
                    refine v_aload_n 0 dX11_picked_71 rfl ?_
                    refine v_iload_n 1 dX11_picked_72 rfl ?_
                    refine v_iload 5 dX11_picked_73 rfl ?_
                    refine cM_222 (Ok.bind h) ⟨Nat.le_of_ble_eq_true rfl, Nat.le_of_ble_eq_true rfl⟩ (Nat.le_of_ble_eq_true rfl) dX11_picked_75 (fun r16 h => ?_)
                    refine v_aload_n 0 dX11_picked_78 rfl ?_
                    refine v_iload_n 1 dX11_picked_79 rfl ?_
                    refine v_iload_n 3 dX11_picked_80 rfl ?_
                    refine cM_222 (Ok.bind h) ⟨Nat.le_of_ble_eq_true rfl, Nat.le_of_ble_eq_true rfl⟩ (Nat.le_of_ble_eq_true rfl) dX11_picked_81 (fun r17 h => ?_)
                    refine v_lif_lt (tgt := 111) dX11_picked_84 dX11_picked_85 rfl (fun c18 => ?_) (fun c18 => ?_)
                    · have h := Ok.pos h c18
                      refine v_iconst dX11_picked_111 ic_1 ?_
                      refine v_goto (tgt := 116) dX11_picked_112 rfl ?_
                      refine v_iadd dX11_picked_116 ?_
                      refine v_nmI (fun v19 e_v19 => ?_)
                      have h := Ok.nm h e_v19
                      refine v_istore [(4, .int v19), (0, .ref (lc 0 0)), (1, .int x1), (2, .int x2), (3, .int a1), (5, .int a8.2)] dX11_picked_117 (Nat.le_of_ble_eq_true rfl) rfl ?_
                      refine v_iinc (v := (a8.2 + 1 : Int32)) 5 [(5, .int (a8.2 + 1 : Int32)), (4, .int v19), (0, .ref (lc 0 0)), (1, .int x1), (2, .int x2), (3, .int a1)] dX11_picked_119 rfl (by rw [ic_1]) (Nat.le_of_ble_eq_true rfl) rfl ?_
                      refine v_goto (tgt := 34) dX11_picked_122 rfl ?_
                      refine v_sub [2, 3, 4, 5, 1, 0] rfl ?_
                      have h := Ok.ret h
                      exact h
                    · have h := Ok.neg h c18
                      refine v_aload_n 0 dX11_picked_88 rfl ?_
                      refine v_iload_n 1 dX11_picked_89 rfl ?_
                      refine v_iload 5 dX11_picked_90 rfl ?_
                      refine cM_222 (Ok.bind h) ⟨Nat.le_of_ble_eq_true rfl, Nat.le_of_ble_eq_true rfl⟩ (Nat.le_of_ble_eq_true rfl) dX11_picked_92 (fun r20 h => ?_)
                      refine v_aload_n 0 dX11_picked_95 rfl ?_
                      refine v_iload_n 1 dX11_picked_96 rfl ?_
                      refine v_iload_n 3 dX11_picked_97 rfl ?_
                      refine cM_222 (Ok.bind h) ⟨Nat.le_of_ble_eq_true rfl, Nat.le_of_ble_eq_true rfl⟩ (Nat.le_of_ble_eq_true rfl) dX11_picked_98 (fun r21 h => ?_)
                      refine v_lif_ne (tgt := 115) dX11_picked_101 dX11_picked_102 rfl (fun c22 => ?_) (fun c22 => ?_)
                      · have h := Ok.neg h c22
                        refine v_iconst dX11_picked_115 ic_0 ?_
                        refine v_iadd dX11_picked_116 ?_
                        refine v_nmI (fun v23 e_v23 => ?_)
                        have h := Ok.nm h e_v23
                        refine v_istore [(4, .int v23), (0, .ref (lc 0 0)), (1, .int x1), (2, .int x2), (3, .int a1), (5, .int a8.2)] dX11_picked_117 (Nat.le_of_ble_eq_true rfl) rfl ?_
                        refine v_iinc (v := (a8.2 + 1 : Int32)) 5 [(5, .int (a8.2 + 1 : Int32)), (4, .int v23), (0, .ref (lc 0 0)), (1, .int x1), (2, .int x2), (3, .int a1)] dX11_picked_119 rfl (by rw [ic_1]) (Nat.le_of_ble_eq_true rfl) rfl ?_
                        refine v_goto (tgt := 34) dX11_picked_122 rfl ?_
                        refine v_sub [2, 3, 4, 5, 1, 0] rfl ?_
                        have h := Ok.ret h
                        exact h
                      · have h := Ok.pos h c22
                        refine v_iload 5 dX11_picked_105 rfl ?_
                        refine v_iload_n 3 dX11_picked_107 rfl ?_
                        refine v_icmp_ge (tgt := 115) dX11_picked_108 rfl (fun c24 => ?_) (fun c24 => ?_)
                        · have h := Ok.pos h c24
                          refine v_iconst dX11_picked_115 ic_0 ?_
                          refine v_iadd dX11_picked_116 ?_
                          refine v_nmI (fun v25 e_v25 => ?_)
                          have h := Ok.nm h e_v25
                          refine v_istore [(4, .int v25), (0, .ref (lc 0 0)), (1, .int x1), (2, .int x2), (3, .int a1), (5, .int a8.2)] dX11_picked_117 (Nat.le_of_ble_eq_true rfl) rfl ?_
                          refine v_iinc (v := (a8.2 + 1 : Int32)) 5 [(5, .int (a8.2 + 1 : Int32)), (4, .int v25), (0, .ref (lc 0 0)), (1, .int x1), (2, .int x2), (3, .int a1)] dX11_picked_119 rfl (by rw [ic_1]) (Nat.le_of_ble_eq_true rfl) rfl ?_
                          refine v_goto (tgt := 34) dX11_picked_122 rfl ?_
                          refine v_sub [2, 3, 4, 5, 1, 0] rfl ?_
                          have h := Ok.ret h
                          exact h
                        · have h := Ok.neg h c24
                          refine v_iconst dX11_picked_111 ic_1 ?_
                          refine v_goto (tgt := 116) dX11_picked_112 rfl ?_
                          refine v_iadd dX11_picked_116 ?_
                          refine v_nmI (fun v26 e_v26 => ?_)
                          have h := Ok.nm h e_v26
                          refine v_istore [(4, .int v26), (0, .ref (lc 0 0)), (1, .int x1), (2, .int x2), (3, .int a1), (5, .int a8.2)] dX11_picked_117 (Nat.le_of_ble_eq_true rfl) rfl ?_
                          refine v_iinc (v := (a8.2 + 1 : Int32)) 5 [(5, .int (a8.2 + 1 : Int32)), (4, .int v26), (0, .ref (lc 0 0)), (1, .int x1), (2, .int x2), (3, .int a1)] dX11_picked_119 rfl (by rw [ic_1]) (Nat.le_of_ble_eq_true rfl) rfl ?_
                          refine v_goto (tgt := 34) dX11_picked_122 rfl ?_
                          refine v_sub [2, 3, 4, 5, 1, 0] rfl ?_
                          have h := Ok.ret h
                          exact h
                  · have h := Ok.neg h c15
                    refine v_goto (tgt := 119) dX11_picked_66 rfl ?_
                    refine v_iinc (v := (a8.2 + 1 : Int32)) 5 [(5, .int (a8.2 + 1 : Int32)), (0, .ref (lc 0 0)), (1, .int x1), (2, .int x2), (3, .int a1), (4, .int a8.1)] dX11_picked_119 rfl (by rw [ic_1]) (Nat.le_of_ble_eq_true rfl) rfl ?_
                    refine v_goto (tgt := 34) dX11_picked_122 rfl ?_
                    refine v_sub [1, 2, 3, 4, 5, 0] rfl ?_
                    have h := Ok.ret h
                    exact h
        · have h := Ok.neg h c7
          refine v_goto (tgt := 133) dX11_picked_25 rfl ?_
          refine v_iinc (v := (a1 + 1 : Int32)) 3 [(3, .int (a1 + 1 : Int32)), (0, .ref (lc 0 0)), (1, .int x1), (2, .int x2)] dX11_picked_133 rfl (by rw [ic_1]) (Nat.le_of_ble_eq_true rfl) rfl ?_
          refine v_goto (tgt := 2) dX11_picked_136 rfl ?_
          refine v_sub [1, 2, 3, 0] rfl ?_
          have h := Ok.ret h
          exact h
theorem cM_225 {l : Launch} {D : va_G} {dA : Nat → ClassId} {A : Nat → Prop} {lc : Nat → Nat → Nat} {s : tt_St} {cc : ByteArray} {nl : Nat} {rt : Option FieldType} {rm : Room} {tn : tt_Tn} {Q : tt_Fin} {pc : Nat} {lv : List (Nat × Value)} {rest : List Value} {ck cn : Nat} {x1 : Int32} {x2 : Int32} {K : Int32 → Prop} (h : Ok (fM_picked s x1 x2) K) (hR : 4 + 1 ≤ rm.frames ∧ 8 + (6 + 11) + 92 ≤ rm.locals) (hW : (rest.map fun v => v.category).sum ≤ 8) (d : decode cc pc = .ok (.invokevirtual 225, 3)) (kk : ∀ r, K r → tt_V (XM l D dA A) cc (RX11, nl, rt, rm, tn) Q (pc + 3) lv (.int r :: rest) lc s ck cn) (hf : ck ≤ rm.cells ∧ cn ≤ rm.slots := by exact ⟨Nat.zero_le _, Nat.zero_le _⟩) : tt_V (XM l D dA A) cc (RX11, nl, rt, rm, tn) Q pc lv (.int x2 :: .int x1 :: .ref (lc 0 0) :: rest) lc s ck cn :=
  v_callV (kd := 0) (i := 0) (nA := 2) (As := [.int x1, .int x2]) lvM_0 oM rfl (mM_picked l D dA A lc s x1 x2 (Q := (fun v lc' s' => ∃ r, K r ∧ v = some (.int r) ∧ lc' = lc ∧ s' = s)) (h.mono (fun r hr => ⟨r, hr, rfl, rfl, rfl⟩))) (lw_V q2063 q2065 qs83 q154 q2066) (by decide +kernel) rfl hR hW hf d rfl (fun v lc' s' q => by obtain ⟨r, hr, e1, e2, e3⟩ := q; rw [e1, e2, e3]; exact kk r hr)
def fM_byFull_L47 (x1 : Int32) (b3 : Int32 × Int32 × tt_St) (a8 : Int64 × Int32 × tt_St) : Option ((Int64 × Int32 × tt_St) ⊕ (Int64 × Int32 × tt_St)) :=
  if b3.1 ≤ a8.2.1 then some (.inr (a8.1, a8.2.1, a8.2.2)) else if inB a8.2.1 12 then (fM_fills a8.2.2 x1 (rdI a8.2.2 41 0 a8.2.1.toNatClampNeg) a8.1).bind fun r12 => some (.inl (r12.1, (a8.2.1 + 1 : Int32), r12.2)) else none
def fM_byFull_L11 (x1 : Int32) (a2 : Int32 × Int32 × tt_St) : Option ((Int32 × Int32 × tt_St) ⊕ (Int32 × Int32 × tt_St)) :=
  if a2.2.1 = (-1 : Int32) then some (.inr (a2.1, a2.2.1, a2.2.2)) else if inB a2.1 12 then nm (wrI a2.2.2 41 0 a2.1.toNatClampNeg a2.2.1) fun s6 => (fM_picked s6 x1 (a2.1 + 1 : Int32)).bind fun r7 => some (.inl ((a2.1 + 1 : Int32), r7, s6)) else none
def fM_byFull (s : tt_St) (x1 : Int32) (x2 : Int64) : Option (tt_St) :=
  (fM_picked s x1 (0 : Int32)).bind fun r1 => (itr (fM_byFull_L11 x1) tt_fuel ((0 : Int32), r1, s)).bind fun b3 => (itr (fM_byFull_L47 x1 b3) tt_fuel (x2, (0 : Int32), b3.2.2)).bind fun b9 => nm (if b3.1 = 0 then (3 : Int32) else (2 : Int32)) fun t13 => if inB (((7 : Int32) * x1) + t13) 175 then nm (wrL b9.2.2 26 0 (((7 : Int32) * x1) + t13).toNatClampNeg ((rdL b9.2.2 26 0 (((7 : Int32) * x1) + t13).toNatClampNeg) + b9.1)) fun s17 => some s17 else none
abbrev rM_byFull : Room := { frames := 5, cells := 0, slots := 0, locals := 117 }
set_option maxHeartbeats 4000000 in
theorem mM_byFull (l : Launch) (D : va_G) (dA : Nat → ClassId) (A : Nat → Prop) (lc : Nat → Nat → Nat) (s : tt_St) (x1 : Int32) (x2 : Int64) {Q : Option Value → (Nat → Nat → Nat) → tt_St → Prop} (h : Ok (fM_byFull s x1 x2) (fun r => Q none lc r)) : tt_Sp (XM l D dA A) yX11_byFull cX11_byFull 8 none rM_byFull [.ref (lc 0 0), .int x1, .long x2] lc s Q := by
  refine tt_Sp.ofV plM kokM (Nat.le_of_ble_eq_true rfl) ?_
  show tt_V (XM l D dA A) cX11_byFull (RX11, 8, none, rM_byFull, tt_nt) (tt_fn (XM l D dA A) (RX11, 8, none, rM_byFull, tt_nt) Q) 0 [(0, .ref (lc 0 0)), (1, .int x1), (2, .long x2)] [] lc s 0 0
  unfold fM_byFull at h
  refine v_iconst dX11_byFull_0 ic_0 ?_
  refine v_istore [(4, .int (0 : Int32)), (0, .ref (lc 0 0)), (1, .int x1), (2, .long x2)] dX11_byFull_1 (Nat.le_of_ble_eq_true rfl) rfl ?_
  refine v_aload_n 1 dX11_byFull_3 rfl ?_
  refine v_iload_n 2 dX11_byFull_4 rfl ?_
  refine v_iconst dX11_byFull_5 ic_0 ?_
  refine cM_225 (Ok.bind h) ⟨Nat.le_of_ble_eq_true rfl, Nat.le_of_ble_eq_true rfl⟩ (Nat.le_of_ble_eq_true rfl) dX11_byFull_6 (fun r1 h => ?_)
  refine v_istore [(5, .int r1), (4, .int (0 : Int32)), (0, .ref (lc 0 0)), (1, .int x1), (2, .long x2)] dX11_byFull_9 (Nat.le_of_ble_eq_true rfl) rfl ?_
  refine v_sub [2, 3, 4, 1, 0] rfl ?_
  refine itr_loop (P := fun a2 : Int32 × Int32 × tt_St => tt_V (XM l D dA A) cX11_byFull (RX11, 8, none, rM_byFull, tt_nt) (tt_fn (XM l D dA A) (RX11, 8, none, rM_byFull, tt_nt) Q) 11 [(0, .ref (lc 0 0)), (1, .int x1), (2, .long x2), (4, .int a2.1), (5, .int a2.2.1)] [] lc a2.2.2 0 0) (PE := fun b3 : Int32 × Int32 × tt_St => tt_V (XM l D dA A) cX11_byFull (RX11, 8, none, rM_byFull, tt_nt) (tt_fn (XM l D dA A) (RX11, 8, none, rM_byFull, tt_nt) Q) 41 [(0, .ref (lc 0 0)), (1, .int x1), (2, .long x2), (4, .int b3.1), (5, .int b3.2.1)] [] lc b3.2.2 0 0) h (fun b3 h => ?_) (fun a2 h => ?_)
  · refine v_lload_n 2 dX11_byFull_41 rfl ?_
    refine v_lstore [(5, .long x2), (0, .ref (lc 0 0)), (1, .int x1), (2, .long x2), (4, .int b3.1)] dX11_byFull_42 (Nat.le_of_ble_eq_true rfl) rfl ?_
    refine v_iconst dX11_byFull_44 ic_0 ?_
    refine v_istore [(7, .int (0 : Int32)), (5, .long x2), (0, .ref (lc 0 0)), (1, .int x1), (2, .long x2), (4, .int b3.1)] dX11_byFull_45 (Nat.le_of_ble_eq_true rfl) rfl ?_
    refine v_sub [2, 3, 5, 1, 0] rfl ?_
    refine itr_loop (P := fun a8 : Int64 × Int32 × tt_St => tt_V (XM l D dA A) cX11_byFull (RX11, 8, none, rM_byFull, tt_nt) (tt_fn (XM l D dA A) (RX11, 8, none, rM_byFull, tt_nt) Q) 47 [(0, .ref (lc 0 0)), (1, .int x1), (4, .int b3.1), (5, .long a8.1), (7, .int a8.2.1)] [] lc a8.2.2 0 0) (PE := fun b9 : Int64 × Int32 × tt_St => tt_V (XM l D dA A) cX11_byFull (RX11, 8, none, rM_byFull, tt_nt) (tt_fn (XM l D dA A) (RX11, 8, none, rM_byFull, tt_nt) Q) 76 [(0, .ref (lc 0 0)), (1, .int x1), (4, .int b3.1), (5, .long b9.1), (7, .int b9.2.1)] [] lc b9.2.2 0 0) h (fun b9 h => ?_) (fun a8 h => ?_)
    · refine v_aload_n 0 dX11_byFull_76 rfl ?_
      refine gM_91 dX11_byFull_77 ?_
      refine v_bipush dX11_byFull_80 kb_7 ?_
      refine v_iload_n 1 dX11_byFull_82 rfl ?_
      refine v_imul dX11_byFull_83 ?_
      refine v_iload 2 dX11_byFull_84 rfl ?_
      have J14 : ∀ t13, t13 = (if b3.1 = 0 then (3 : Int32) else (2 : Int32)) → tt_V (XM l D dA A) cX11_byFull (RX11, 8, none, rM_byFull, tt_nt) (tt_fn (XM l D dA A) (RX11, 8, none, rM_byFull, tt_nt) Q) 94 [(5, .long b9.1)] [.int t13, .int ((7 : Int32) * x1), .ref (lc 26 0)] lc b9.2.2 0 0 := fun t13 e_t13 => by
        have h := Ok.nm h e_t13
        refine v_iadd dX11_byFull_94 ?_
        refine v_dup2_11 dX11_byFull_95 rfl rfl ?_
        obtain ⟨g16, h⟩ := Ok.guard h
        refine lM_26 g16 dX11_byFull_96 ?_
        refine v_lload 0 dX11_byFull_97 rfl ?_
        refine v_ladd dX11_byFull_99 ?_
        refine sM_26 g16 dX11_byFull_100 ?_
        refine v_nmS (fun s17 e_s17 => ?_)
        have h := Ok.nm h e_s17
        have h := Ok.ret h
        exact v_vret rfl (Nat.zero_le _) (Nat.zero_le _) dX11_byFull_101 h
      refine v_if_ne (tgt := 93) dX11_byFull_86 rfl (fun c15 => ?_) (fun c15 => ?_)
      · refine v_iconst dX11_byFull_93 ic_2 ?_
        refine v_sub [3] rfl ?_
        exact J14 _ (by rw [if_neg c15])
      · refine v_iconst dX11_byFull_89 ic_3 ?_
        refine v_goto (tgt := 94) dX11_byFull_90 rfl ?_
        refine v_sub [3] rfl ?_
        exact J14 _ (by rw [if_pos c15])
    · have h : Ok (fM_byFull_L47 x1 b3 a8) _ := h
      unfold fM_byFull_L47 at h
      refine v_iload 4 dX11_byFull_47 rfl ?_
      refine v_iload 2 dX11_byFull_49 rfl ?_
      refine v_icmp_ge (tgt := 76) dX11_byFull_51 rfl (fun c10 => ?_) (fun c10 => ?_)
      · have h := Ok.pos h c10
        have h := Ok.ret h
        exact h
      · have h := Ok.neg h c10
        refine v_aload_n 0 dX11_byFull_54 rfl ?_
        refine v_iload_n 1 dX11_byFull_55 rfl ?_
        refine v_aload_n 0 dX11_byFull_56 rfl ?_
        refine gM_124 dX11_byFull_57 ?_
        refine v_iload 4 dX11_byFull_60 rfl ?_
        obtain ⟨g11, h⟩ := Ok.guard h
        refine lM_41 g11 dX11_byFull_62 ?_
        refine v_lload 3 dX11_byFull_63 rfl ?_
        refine cM_215 (Ok.bind h) ⟨Nat.le_of_ble_eq_true rfl, Nat.le_of_ble_eq_true rfl⟩ (Nat.le_of_ble_eq_true rfl) dX11_byFull_65 (fun r12 h => ?_)
        refine v_lstore [(5, .long r12.1), (0, .ref (lc 0 0)), (1, .int x1), (4, .int b3.1), (7, .int a8.2.1)] dX11_byFull_68 (Nat.le_of_ble_eq_true rfl) rfl ?_
        refine v_iinc (v := (a8.2.1 + 1 : Int32)) 4 [(7, .int (a8.2.1 + 1 : Int32)), (5, .long r12.1), (0, .ref (lc 0 0)), (1, .int x1), (4, .int b3.1)] dX11_byFull_70 rfl (by rw [ic_1]) (Nat.le_of_ble_eq_true rfl) rfl ?_
        refine v_goto (tgt := 47) dX11_byFull_73 rfl ?_
        refine v_sub [2, 3, 4, 1, 0] rfl ?_
        have h := Ok.ret h
        exact h
  · have h : Ok (fM_byFull_L11 x1 a2) _ := h
    unfold fM_byFull_L11 at h
    refine v_iload 4 dX11_byFull_11 rfl ?_
    refine v_iconst dX11_byFull_13 ic_m1 ?_
    refine v_icmp_eq (tgt := 41) dX11_byFull_14 rfl (fun c4 => ?_) (fun c4 => ?_)
    · have h := Ok.pos h c4
      have h := Ok.ret h
      exact h
    · have h := Ok.neg h c4
      refine v_aload_n 0 dX11_byFull_17 rfl ?_
      refine gM_124 dX11_byFull_18 ?_
      refine v_iload 3 dX11_byFull_21 rfl ?_
      refine v_iload 4 dX11_byFull_23 rfl ?_
      obtain ⟨g5, h⟩ := Ok.guard h
      refine sM_41 g5 dX11_byFull_25 ?_
      refine v_nmS (fun s6 e_s6 => ?_)
      have h := Ok.nm h e_s6
      refine v_iinc (v := (a2.1 + 1 : Int32)) 3 [(4, .int (a2.1 + 1 : Int32)), (0, .ref (lc 0 0)), (1, .int x1), (2, .long x2), (5, .int a2.2.1)] dX11_byFull_26 rfl (by rw [ic_1]) (Nat.le_of_ble_eq_true rfl) rfl ?_
      refine v_aload_n 1 dX11_byFull_29 rfl ?_
      refine v_iload_n 2 dX11_byFull_30 rfl ?_
      refine v_iload 0 dX11_byFull_31 rfl ?_
      refine cM_225 (Ok.bind h) ⟨Nat.le_of_ble_eq_true rfl, Nat.le_of_ble_eq_true rfl⟩ (Nat.le_of_ble_eq_true rfl) dX11_byFull_33 (fun r7 h => ?_)
      refine v_istore [(5, .int r7), (4, .int (a2.1 + 1 : Int32)), (0, .ref (lc 0 0)), (1, .int x1), (2, .long x2)] dX11_byFull_36 (Nat.le_of_ble_eq_true rfl) rfl ?_
      refine v_goto (tgt := 11) dX11_byFull_38 rfl ?_
      refine v_sub [2, 3, 4, 1, 0] rfl ?_
      have h := Ok.ret h
      exact h
theorem cM_261 {l : Launch} {D : va_G} {dA : Nat → ClassId} {A : Nat → Prop} {lc : Nat → Nat → Nat} {s : tt_St} {cc : ByteArray} {nl : Nat} {rt : Option FieldType} {rm : Room} {tn : tt_Tn} {Q : tt_Fin} {pc : Nat} {lv : List (Nat × Value)} {rest : List Value} {ck cn : Nat} {x1 : Int32} {x2 : Int64} {K : tt_St → Prop} (h : Ok (fM_byFull s x1 x2) K) (hR : 5 + 1 ≤ rm.frames ∧ 8 + (8 + 11) + 117 ≤ rm.locals) (hW : (rest.map fun v => v.category).sum ≤ 8) (d : decode cc pc = .ok (.invokevirtual 261, 3)) (kk : ∀ r, K r → tt_V (XM l D dA A) cc (RX11, nl, rt, rm, tn) Q (pc + 3) lv rest lc r ck cn) (hf : ck ≤ rm.cells ∧ cn ≤ rm.slots := by exact ⟨Nat.zero_le _, Nat.zero_le _⟩) : tt_V (XM l D dA A) cc (RX11, nl, rt, rm, tn) Q pc lv (.long x2 :: .int x1 :: .ref (lc 0 0) :: rest) lc s ck cn :=
  v_callV (kd := 0) (i := 0) (nA := 2) (As := [.int x1, .long x2]) lvM_0 oM rfl (mM_byFull l D dA A lc s x1 x2 (Q := (fun v lc' s' => ∃ r, K r ∧ v = none ∧ lc' = lc ∧ s' = r)) (h.mono (fun r hr => ⟨r, hr, rfl, rfl, rfl⟩))) (lw_V q2059 q2061 qs82 q154 q2062) (by decide +kernel) rfl hR hW hf d rfl (fun v lc' s' q => by obtain ⟨r, hr, e1, e2, e3⟩ := q; rw [e1, e2, e3]; exact kk r hr)
def fM_laysAside_L62 (x1 : Int32) (a9 : Int32 × tt_St) : Option ((Int32 × tt_St) ⊕ (Int32 × tt_St)) :=
  if (7 : Int32) ≤ a9.1 then some (.inr (a9.1, a9.2)) else if inB (((7 : Int32) * x1) + a9.1) 175 then if inB a9.1 7 then nm (wrL a9.2 45 0 a9.1.toNatClampNeg (rdL a9.2 26 0 (((7 : Int32) * x1) + a9.1).toNatClampNeg)) fun s14 => some (.inl ((a9.1 + 1 : Int32), s14)) else none else none
def fM_laysAside_L2 (x1 : Int32) (a1 : Int32 × tt_St) : Option ((Int32 × tt_St) ⊕ (Int32 × tt_St)) :=
  if (40 : Int32) ≤ a1.1 then some (.inr (a1.1, a1.2)) else if inB a1.1 40 then nm (wrL a1.2 42 0 a1.1.toNatClampNeg (rdL a1.2 15 0 a1.1.toNatClampNeg)) fun s5 => if inB (((40 : Int32) * x1) + a1.1) 1000 then nm (wrL s5 43 0 a1.1.toNatClampNeg (rdL s5 21 0 (((40 : Int32) * x1) + a1.1).toNatClampNeg)) fun s7 => nm (wrL s7 44 0 a1.1.toNatClampNeg (rdL s7 22 0 (((40 : Int32) * x1) + a1.1).toNatClampNeg)) fun s8 => some (.inl ((a1.1 + 1 : Int32), s8)) else none else none
def fM_laysAside (s : tt_St) (x1 : Int32) : Option (tt_St) :=
  (itr (fM_laysAside_L2 x1) tt_fuel ((0 : Int32), s)).bind fun b2 => (itr (fM_laysAside_L62 x1) tt_fuel ((0 : Int32), b2.2)).bind fun b10 => some b10.2
abbrev rM_laysAside : Room := { frames := 0, cells := 0, slots := 0, locals := 0 }
set_option maxHeartbeats 4000000 in
theorem mM_laysAside (l : Launch) (D : va_G) (dA : Nat → ClassId) (A : Nat → Prop) (lc : Nat → Nat → Nat) (s : tt_St) (x1 : Int32) {Q : Option Value → (Nat → Nat → Nat) → tt_St → Prop} (h : Ok (fM_laysAside s x1) (fun r => Q none lc r)) : tt_Sp (XM l D dA A) yX11_laysAside cX11_laysAside 3 none rM_laysAside [.ref (lc 0 0), .int x1] lc s Q := by
  refine tt_Sp.ofV plM kokM (Nat.le_of_ble_eq_true rfl) ?_
  show tt_V (XM l D dA A) cX11_laysAside (RX11, 3, none, rM_laysAside, tt_nt) (tt_fn (XM l D dA A) (RX11, 3, none, rM_laysAside, tt_nt) Q) 0 [(0, .ref (lc 0 0)), (1, .int x1)] [] lc s 0 0
  unfold fM_laysAside at h
  refine v_iconst dX11_laysAside_0 ic_0 ?_
  refine v_istore_n [(2, .int (0 : Int32)), (0, .ref (lc 0 0)), (1, .int x1)] dX11_laysAside_1 (Nat.le_of_ble_eq_true rfl) rfl ?_
  refine v_sub [1, 2, 0] rfl ?_
  refine itr_loop (P := fun a1 : Int32 × tt_St => tt_V (XM l D dA A) cX11_laysAside (RX11, 3, none, rM_laysAside, tt_nt) (tt_fn (XM l D dA A) (RX11, 3, none, rM_laysAside, tt_nt) Q) 2 [(0, .ref (lc 0 0)), (1, .int x1), (2, .int a1.1)] [] lc a1.2 0 0) (PE := fun b2 : Int32 × tt_St => tt_V (XM l D dA A) cX11_laysAside (RX11, 3, none, rM_laysAside, tt_nt) (tt_fn (XM l D dA A) (RX11, 3, none, rM_laysAside, tt_nt) Q) 60 [(0, .ref (lc 0 0)), (1, .int x1), (2, .int b2.1)] [] lc b2.2 0 0) h (fun b2 h => ?_) (fun a1 h => ?_)
  · refine v_iconst dX11_laysAside_60 ic_0 ?_
    refine v_istore_n [(2, .int (0 : Int32)), (0, .ref (lc 0 0)), (1, .int x1)] dX11_laysAside_61 (Nat.le_of_ble_eq_true rfl) rfl ?_
    refine v_sub [1, 2, 0] rfl ?_
    refine itr_loop (P := fun a9 : Int32 × tt_St => tt_V (XM l D dA A) cX11_laysAside (RX11, 3, none, rM_laysAside, tt_nt) (tt_fn (XM l D dA A) (RX11, 3, none, rM_laysAside, tt_nt) Q) 62 [(0, .ref (lc 0 0)), (1, .int x1), (2, .int a9.1)] [] lc a9.2 0 0) (PE := fun b10 : Int32 × tt_St => tt_V (XM l D dA A) cX11_laysAside (RX11, 3, none, rM_laysAside, tt_nt) (tt_fn (XM l D dA A) (RX11, 3, none, rM_laysAside, tt_nt) Q) 91 [(0, .ref (lc 0 0)), (1, .int x1), (2, .int b10.1)] [] lc b10.2 0 0) h (fun b10 h => ?_) (fun a9 h => ?_)
    · have h := Ok.ret h
      exact v_vret rfl (Nat.zero_le _) (Nat.zero_le _) dX11_laysAside_91 h
    · have h : Ok (fM_laysAside_L62 x1 a9) _ := h
      unfold fM_laysAside_L62 at h
      refine v_iload_n 2 dX11_laysAside_62 rfl ?_
      refine v_bipush dX11_laysAside_63 kb_7 ?_
      refine v_icmp_ge (tgt := 91) dX11_laysAside_65 rfl (fun c11 => ?_) (fun c11 => ?_)
      · have h := Ok.pos h c11
        have h := Ok.ret h
        exact h
      · have h := Ok.neg h c11
        refine v_aload_n 0 dX11_laysAside_68 rfl ?_
        refine gM_136 dX11_laysAside_69 ?_
        refine v_iload_n 2 dX11_laysAside_72 rfl ?_
        refine v_aload_n 0 dX11_laysAside_73 rfl ?_
        refine gM_91 dX11_laysAside_74 ?_
        refine v_bipush dX11_laysAside_77 kb_7 ?_
        refine v_iload_n 1 dX11_laysAside_79 rfl ?_
        refine v_imul dX11_laysAside_80 ?_
        refine v_iload_n 2 dX11_laysAside_81 rfl ?_
        refine v_iadd dX11_laysAside_82 ?_
        obtain ⟨g12, h⟩ := Ok.guard h
        refine lM_26 g12 dX11_laysAside_83 ?_
        obtain ⟨g13, h⟩ := Ok.guard h
        refine sM_45 g13 dX11_laysAside_84 ?_
        refine v_nmS (fun s14 e_s14 => ?_)
        have h := Ok.nm h e_s14
        refine v_iinc (v := (a9.1 + 1 : Int32)) 2 [(2, .int (a9.1 + 1 : Int32)), (0, .ref (lc 0 0)), (1, .int x1)] dX11_laysAside_85 rfl (by rw [ic_1]) (Nat.le_of_ble_eq_true rfl) rfl ?_
        refine v_goto (tgt := 62) dX11_laysAside_88 rfl ?_
        refine v_sub [1, 2, 0] rfl ?_
        have h := Ok.ret h
        exact h
  · have h : Ok (fM_laysAside_L2 x1 a1) _ := h
    unfold fM_laysAside_L2 at h
    refine v_iload_n 2 dX11_laysAside_2 rfl ?_
    refine v_bipush dX11_laysAside_3 kb_40 ?_
    refine v_icmp_ge (tgt := 60) dX11_laysAside_5 rfl (fun c3 => ?_) (fun c3 => ?_)
    · have h := Ok.pos h c3
      have h := Ok.ret h
      exact h
    · have h := Ok.neg h c3
      refine v_aload_n 0 dX11_laysAside_8 rfl ?_
      refine gM_127 dX11_laysAside_9 ?_
      refine v_iload_n 2 dX11_laysAside_12 rfl ?_
      refine v_aload_n 0 dX11_laysAside_13 rfl ?_
      refine gM_57 dX11_laysAside_14 ?_
      refine v_iload_n 2 dX11_laysAside_17 rfl ?_
      obtain ⟨g4, h⟩ := Ok.guard h
      refine lM_15 g4 dX11_laysAside_18 ?_
      refine sM_42 g4 dX11_laysAside_19 ?_
      refine v_nmS (fun s5 e_s5 => ?_)
      have h := Ok.nm h e_s5
      refine v_aload_n 0 dX11_laysAside_20 rfl ?_
      refine gM_130 dX11_laysAside_21 ?_
      refine v_iload_n 2 dX11_laysAside_24 rfl ?_
      refine v_aload_n 0 dX11_laysAside_25 rfl ?_
      refine gM_76 dX11_laysAside_26 ?_
      refine v_bipush dX11_laysAside_29 kb_40 ?_
      refine v_iload_n 1 dX11_laysAside_31 rfl ?_
      refine v_imul dX11_laysAside_32 ?_
      refine v_iload_n 2 dX11_laysAside_33 rfl ?_
      refine v_iadd dX11_laysAside_34 ?_
      obtain ⟨g6, h⟩ := Ok.guard h
      refine lM_21 g6 dX11_laysAside_35 ?_
      refine sM_43 g4 dX11_laysAside_36 ?_
      refine v_nmS (fun s7 e_s7 => ?_)
      have h := Ok.nm h e_s7
      refine v_aload_n 0 dX11_laysAside_37 rfl ?_
      refine gM_133 dX11_laysAside_38 ?_
      refine v_iload_n 2 dX11_laysAside_41 rfl ?_
      refine v_aload_n 0 dX11_laysAside_42 rfl ?_
      refine gM_79 dX11_laysAside_43 ?_
      refine v_bipush dX11_laysAside_46 kb_40 ?_
      refine v_iload_n 1 dX11_laysAside_48 rfl ?_
      refine v_imul dX11_laysAside_49 ?_
      refine v_iload_n 2 dX11_laysAside_50 rfl ?_
      refine v_iadd dX11_laysAside_51 ?_
      refine lM_22 g6 dX11_laysAside_52 ?_
      refine sM_44 g4 dX11_laysAside_53 ?_
      refine v_nmS (fun s8 e_s8 => ?_)
      have h := Ok.nm h e_s8
      refine v_iinc (v := (a1.1 + 1 : Int32)) 2 [(2, .int (a1.1 + 1 : Int32)), (0, .ref (lc 0 0)), (1, .int x1)] dX11_laysAside_54 rfl (by rw [ic_1]) (Nat.le_of_ble_eq_true rfl) rfl ?_
      refine v_goto (tgt := 2) dX11_laysAside_57 rfl ?_
      refine v_sub [1, 2, 0] rfl ?_
      have h := Ok.ret h
      exact h
theorem cM_228 {l : Launch} {D : va_G} {dA : Nat → ClassId} {A : Nat → Prop} {lc : Nat → Nat → Nat} {s : tt_St} {cc : ByteArray} {nl : Nat} {rt : Option FieldType} {rm : Room} {tn : tt_Tn} {Q : tt_Fin} {pc : Nat} {lv : List (Nat × Value)} {rest : List Value} {ck cn : Nat} {x1 : Int32} {K : tt_St → Prop} (h : Ok (fM_laysAside s x1) K) (hR : 0 + 1 ≤ rm.frames ∧ 8 + (3 + 11) + 0 ≤ rm.locals) (hW : (rest.map fun v => v.category).sum ≤ 8) (d : decode cc pc = .ok (.invokevirtual 228, 3)) (kk : ∀ r, K r → tt_V (XM l D dA A) cc (RX11, nl, rt, rm, tn) Q (pc + 3) lv rest lc r ck cn) (hf : ck ≤ rm.cells ∧ cn ≤ rm.slots := by exact ⟨Nat.zero_le _, Nat.zero_le _⟩) : tt_V (XM l D dA A) cc (RX11, nl, rt, rm, tn) Q pc lv (.int x1 :: .ref (lc 0 0) :: rest) lc s ck cn :=
  v_callV (kd := 0) (i := 0) (nA := 1) (As := [.int x1]) lvM_0 oM rfl (mM_laysAside l D dA A lc s x1 (Q := (fun v lc' s' => ∃ r, K r ∧ v = none ∧ lc' = lc ∧ s' = r)) (h.mono (fun r hr => ⟨r, hr, rfl, rfl, rfl⟩))) (lw_V q2000 q2002 qs68 q154 q2003) (by decide +kernel) rfl hR hW hf d rfl (fun v lc' s' q => by obtain ⟨r, hr, e1, e2, e3⟩ := q; rw [e1, e2, e3]; exact kk r hr)
def fM_laysBack_L69 (x1 : Int32) (a10 : Int32 × tt_St) : Option ((Int32 × tt_St) ⊕ (Int32 × tt_St)) :=
  if (7 : Int32) ≤ a10.1 then some (.inr (a10.1, a10.2)) else if inB a10.1 7 then if inB (((7 : Int32) * x1) + a10.1) 175 then nm (wrL a10.2 26 0 (((7 : Int32) * x1) + a10.1).toNatClampNeg (rdL a10.2 45 0 a10.1.toNatClampNeg)) fun s15 => some (.inl ((a10.1 + 1 : Int32), s15)) else none else none
def fM_laysBack_L2 (x1 : Int32) (a1 : Int32 × tt_St) : Option ((Int32 × tt_St) ⊕ (Int32 × tt_St)) :=
  if (40 : Int32) ≤ a1.1 then some (.inr (a1.1, a1.2)) else if inB a1.1 40 then nm (wrL a1.2 15 0 a1.1.toNatClampNeg (rdL a1.2 42 0 a1.1.toNatClampNeg)) fun s5 => if inB (((40 : Int32) * x1) + a1.1) 1000 then nm (wrL s5 21 0 (((40 : Int32) * x1) + a1.1).toNatClampNeg (rdL s5 43 0 a1.1.toNatClampNeg)) fun s7 => nm (wrL s7 22 0 (((40 : Int32) * x1) + a1.1).toNatClampNeg (rdL s7 44 0 a1.1.toNatClampNeg)) fun s8 => nm (wrL s8 38 0 a1.1.toNatClampNeg (0 : Int64)) fun s9 => some (.inl ((a1.1 + 1 : Int32), s9)) else none else none
def fM_laysBack (s : tt_St) (x1 : Int32) : Option (tt_St) :=
  (itr (fM_laysBack_L2 x1) tt_fuel ((0 : Int32), s)).bind fun b2 => (itr (fM_laysBack_L69 x1) tt_fuel ((0 : Int32), b2.2)).bind fun b11 => some b11.2
abbrev rM_laysBack : Room := { frames := 0, cells := 0, slots := 0, locals := 0 }
set_option maxHeartbeats 4000000 in
theorem mM_laysBack (l : Launch) (D : va_G) (dA : Nat → ClassId) (A : Nat → Prop) (lc : Nat → Nat → Nat) (s : tt_St) (x1 : Int32) {Q : Option Value → (Nat → Nat → Nat) → tt_St → Prop} (h : Ok (fM_laysBack s x1) (fun r => Q none lc r)) : tt_Sp (XM l D dA A) yX11_laysBack cX11_laysBack 3 none rM_laysBack [.ref (lc 0 0), .int x1] lc s Q := by
  refine tt_Sp.ofV plM kokM (Nat.le_of_ble_eq_true rfl) ?_
  show tt_V (XM l D dA A) cX11_laysBack (RX11, 3, none, rM_laysBack, tt_nt) (tt_fn (XM l D dA A) (RX11, 3, none, rM_laysBack, tt_nt) Q) 0 [(0, .ref (lc 0 0)), (1, .int x1)] [] lc s 0 0
  unfold fM_laysBack at h
  refine v_iconst dX11_laysBack_0 ic_0 ?_
  refine v_istore_n [(2, .int (0 : Int32)), (0, .ref (lc 0 0)), (1, .int x1)] dX11_laysBack_1 (Nat.le_of_ble_eq_true rfl) rfl ?_
  refine v_sub [1, 2, 0] rfl ?_
  refine itr_loop (P := fun a1 : Int32 × tt_St => tt_V (XM l D dA A) cX11_laysBack (RX11, 3, none, rM_laysBack, tt_nt) (tt_fn (XM l D dA A) (RX11, 3, none, rM_laysBack, tt_nt) Q) 2 [(0, .ref (lc 0 0)), (1, .int x1), (2, .int a1.1)] [] lc a1.2 0 0) (PE := fun b2 : Int32 × tt_St => tt_V (XM l D dA A) cX11_laysBack (RX11, 3, none, rM_laysBack, tt_nt) (tt_fn (XM l D dA A) (RX11, 3, none, rM_laysBack, tt_nt) Q) 67 [(0, .ref (lc 0 0)), (1, .int x1), (2, .int b2.1)] [] lc b2.2 0 0) h (fun b2 h => ?_) (fun a1 h => ?_)
  · refine v_iconst dX11_laysBack_67 ic_0 ?_
    refine v_istore_n [(2, .int (0 : Int32)), (0, .ref (lc 0 0)), (1, .int x1)] dX11_laysBack_68 (Nat.le_of_ble_eq_true rfl) rfl ?_
    refine v_sub [1, 2, 0] rfl ?_
    refine itr_loop (P := fun a10 : Int32 × tt_St => tt_V (XM l D dA A) cX11_laysBack (RX11, 3, none, rM_laysBack, tt_nt) (tt_fn (XM l D dA A) (RX11, 3, none, rM_laysBack, tt_nt) Q) 69 [(0, .ref (lc 0 0)), (1, .int x1), (2, .int a10.1)] [] lc a10.2 0 0) (PE := fun b11 : Int32 × tt_St => tt_V (XM l D dA A) cX11_laysBack (RX11, 3, none, rM_laysBack, tt_nt) (tt_fn (XM l D dA A) (RX11, 3, none, rM_laysBack, tt_nt) Q) 98 [(0, .ref (lc 0 0)), (1, .int x1), (2, .int b11.1)] [] lc b11.2 0 0) h (fun b11 h => ?_) (fun a10 h => ?_)
    · have h := Ok.ret h
      exact v_vret rfl (Nat.zero_le _) (Nat.zero_le _) dX11_laysBack_98 h
    · have h : Ok (fM_laysBack_L69 x1 a10) _ := h
      unfold fM_laysBack_L69 at h
      refine v_iload_n 2 dX11_laysBack_69 rfl ?_
      refine v_bipush dX11_laysBack_70 kb_7 ?_
      refine v_icmp_ge (tgt := 98) dX11_laysBack_72 rfl (fun c12 => ?_) (fun c12 => ?_)
      · have h := Ok.pos h c12
        have h := Ok.ret h
        exact h
      · have h := Ok.neg h c12
        refine v_aload_n 0 dX11_laysBack_75 rfl ?_
        refine gM_91 dX11_laysBack_76 ?_
        refine v_bipush dX11_laysBack_79 kb_7 ?_
        refine v_iload_n 1 dX11_laysBack_81 rfl ?_
        refine v_imul dX11_laysBack_82 ?_
        refine v_iload_n 2 dX11_laysBack_83 rfl ?_
        refine v_iadd dX11_laysBack_84 ?_
        refine v_aload_n 0 dX11_laysBack_85 rfl ?_
        refine gM_136 dX11_laysBack_86 ?_
        refine v_iload_n 2 dX11_laysBack_89 rfl ?_
        obtain ⟨g13, h⟩ := Ok.guard h
        refine lM_45 g13 dX11_laysBack_90 ?_
        obtain ⟨g14, h⟩ := Ok.guard h
        refine sM_26 g14 dX11_laysBack_91 ?_
        refine v_nmS (fun s15 e_s15 => ?_)
        have h := Ok.nm h e_s15
        refine v_iinc (v := (a10.1 + 1 : Int32)) 2 [(2, .int (a10.1 + 1 : Int32)), (0, .ref (lc 0 0)), (1, .int x1)] dX11_laysBack_92 rfl (by rw [ic_1]) (Nat.le_of_ble_eq_true rfl) rfl ?_
        refine v_goto (tgt := 69) dX11_laysBack_95 rfl ?_
        refine v_sub [1, 2, 0] rfl ?_
        have h := Ok.ret h
        exact h
  · have h : Ok (fM_laysBack_L2 x1 a1) _ := h
    unfold fM_laysBack_L2 at h
    refine v_iload_n 2 dX11_laysBack_2 rfl ?_
    refine v_bipush dX11_laysBack_3 kb_40 ?_
    refine v_icmp_ge (tgt := 67) dX11_laysBack_5 rfl (fun c3 => ?_) (fun c3 => ?_)
    · have h := Ok.pos h c3
      have h := Ok.ret h
      exact h
    · have h := Ok.neg h c3
      refine v_aload_n 0 dX11_laysBack_8 rfl ?_
      refine gM_57 dX11_laysBack_9 ?_
      refine v_iload_n 2 dX11_laysBack_12 rfl ?_
      refine v_aload_n 0 dX11_laysBack_13 rfl ?_
      refine gM_127 dX11_laysBack_14 ?_
      refine v_iload_n 2 dX11_laysBack_17 rfl ?_
      obtain ⟨g4, h⟩ := Ok.guard h
      refine lM_42 g4 dX11_laysBack_18 ?_
      refine sM_15 g4 dX11_laysBack_19 ?_
      refine v_nmS (fun s5 e_s5 => ?_)
      have h := Ok.nm h e_s5
      refine v_aload_n 0 dX11_laysBack_20 rfl ?_
      refine gM_76 dX11_laysBack_21 ?_
      refine v_bipush dX11_laysBack_24 kb_40 ?_
      refine v_iload_n 1 dX11_laysBack_26 rfl ?_
      refine v_imul dX11_laysBack_27 ?_
      refine v_iload_n 2 dX11_laysBack_28 rfl ?_
      refine v_iadd dX11_laysBack_29 ?_
      refine v_aload_n 0 dX11_laysBack_30 rfl ?_
      refine gM_130 dX11_laysBack_31 ?_
      refine v_iload_n 2 dX11_laysBack_34 rfl ?_
      refine lM_43 g4 dX11_laysBack_35 ?_
      obtain ⟨g6, h⟩ := Ok.guard h
      refine sM_21 g6 dX11_laysBack_36 ?_
      refine v_nmS (fun s7 e_s7 => ?_)
      have h := Ok.nm h e_s7
      refine v_aload_n 0 dX11_laysBack_37 rfl ?_
      refine gM_79 dX11_laysBack_38 ?_
      refine v_bipush dX11_laysBack_41 kb_40 ?_
      refine v_iload_n 1 dX11_laysBack_43 rfl ?_
      refine v_imul dX11_laysBack_44 ?_
      refine v_iload_n 2 dX11_laysBack_45 rfl ?_
      refine v_iadd dX11_laysBack_46 ?_
      refine v_aload_n 0 dX11_laysBack_47 rfl ?_
      refine gM_133 dX11_laysBack_48 ?_
      refine v_iload_n 2 dX11_laysBack_51 rfl ?_
      refine lM_44 g4 dX11_laysBack_52 ?_
      refine sM_22 g6 dX11_laysBack_53 ?_
      refine v_nmS (fun s8 e_s8 => ?_)
      have h := Ok.nm h e_s8
      refine v_aload_n 0 dX11_laysBack_54 rfl ?_
      refine gM_115 dX11_laysBack_55 ?_
      refine v_iload_n 2 dX11_laysBack_58 rfl ?_
      refine v_lconst dX11_laysBack_59 kl_0 ?_
      refine sM_38 g4 dX11_laysBack_60 ?_
      refine v_nmS (fun s9 e_s9 => ?_)
      have h := Ok.nm h e_s9
      refine v_iinc (v := (a1.1 + 1 : Int32)) 2 [(2, .int (a1.1 + 1 : Int32)), (0, .ref (lc 0 0)), (1, .int x1)] dX11_laysBack_61 rfl (by rw [ic_1]) (Nat.le_of_ble_eq_true rfl) rfl ?_
      refine v_goto (tgt := 2) dX11_laysBack_64 rfl ?_
      refine v_sub [1, 2, 0] rfl ?_
      have h := Ok.ret h
      exact h
theorem cM_238 {l : Launch} {D : va_G} {dA : Nat → ClassId} {A : Nat → Prop} {lc : Nat → Nat → Nat} {s : tt_St} {cc : ByteArray} {nl : Nat} {rt : Option FieldType} {rm : Room} {tn : tt_Tn} {Q : tt_Fin} {pc : Nat} {lv : List (Nat × Value)} {rest : List Value} {ck cn : Nat} {x1 : Int32} {K : tt_St → Prop} (h : Ok (fM_laysBack s x1) K) (hR : 0 + 1 ≤ rm.frames ∧ 8 + (3 + 11) + 0 ≤ rm.locals) (hW : (rest.map fun v => v.category).sum ≤ 8) (d : decode cc pc = .ok (.invokevirtual 238, 3)) (kk : ∀ r, K r → tt_V (XM l D dA A) cc (RX11, nl, rt, rm, tn) Q (pc + 3) lv rest lc r ck cn) (hf : ck ≤ rm.cells ∧ cn ≤ rm.slots := by exact ⟨Nat.zero_le _, Nat.zero_le _⟩) : tt_V (XM l D dA A) cc (RX11, nl, rt, rm, tn) Q pc lv (.int x1 :: .ref (lc 0 0) :: rest) lc s ck cn :=
  v_callV (kd := 0) (i := 0) (nA := 1) (As := [.int x1]) lvM_0 oM rfl (mM_laysBack l D dA A lc s x1 (Q := (fun v lc' s' => ∃ r, K r ∧ v = none ∧ lc' = lc ∧ s' = r)) (h.mono (fun r hr => ⟨r, hr, rfl, rfl, rfl⟩))) (lw_V q2055 q2057 qs81 q154 q2058) (by decide +kernel) rfl hR hW hf d rfl (fun v lc' s' q => by obtain ⟨r, hr, e1, e2, e3⟩ := q; rw [e1, e2, e3]; exact kk r hr)
def fM_laysFair_L19  (a4 : Int32 × tt_St) : Option ((Int32 × tt_St) ⊕ (Int32 × tt_St)) :=
  if (40 : Int32) ≤ a4.1 then some (.inr (a4.1, a4.2)) else if inB a4.1 40 then nm (wrL a4.2 39 0 a4.1.toNatClampNeg (rdL a4.2 38 0 a4.1.toNatClampNeg)) fun s8 => some (.inl ((a4.1 + 1 : Int32), s8)) else none
def fM_laysFair (s : tt_St) (x1 : Int32) (x2 : Int64) : Option (tt_St) :=
  (fM_laysAside s x1).bind fun r1 => (fM_laysLike r1 x1).bind fun r2 => (fM_byShares r2 x1 x2).bind fun r3 => (itr (fM_laysFair_L19) tt_fuel ((0 : Int32), r3)).bind fun b5 => (fM_laysBack b5.2 x1).bind fun r9 => some r9
abbrev rM_laysFair : Room := { frames := 4, cells := 0, slots := 0, locals := 101 }
set_option maxHeartbeats 4000000 in
theorem mM_laysFair (l : Launch) (D : va_G) (dA : Nat → ClassId) (A : Nat → Prop) (lc : Nat → Nat → Nat) (s : tt_St) (x1 : Int32) (x2 : Int64) {Q : Option Value → (Nat → Nat → Nat) → tt_St → Prop} (h : Ok (fM_laysFair s x1 x2) (fun r => Q none lc r)) : tt_Sp (XM l D dA A) yX11_laysFair cX11_laysFair 5 none rM_laysFair [.ref (lc 0 0), .int x1, .long x2] lc s Q := by
  refine tt_Sp.ofV plM kokM (Nat.le_of_ble_eq_true rfl) ?_
  show tt_V (XM l D dA A) cX11_laysFair (RX11, 5, none, rM_laysFair, tt_nt) (tt_fn (XM l D dA A) (RX11, 5, none, rM_laysFair, tt_nt) Q) 0 [(0, .ref (lc 0 0)), (1, .int x1), (2, .long x2)] [] lc s 0 0
  unfold fM_laysFair at h
  refine v_aload_n 0 dX11_laysFair_0 rfl ?_
  refine v_iload_n 1 dX11_laysFair_1 rfl ?_
  refine cM_228 (Ok.bind h) ⟨Nat.le_of_ble_eq_true rfl, Nat.le_of_ble_eq_true rfl⟩ (Nat.le_of_ble_eq_true rfl) dX11_laysFair_2 (fun r1 h => ?_)
  refine v_aload_n 0 dX11_laysFair_5 rfl ?_
  refine v_iload_n 1 dX11_laysFair_6 rfl ?_
  refine cM_231 (Ok.bind h) ⟨Nat.le_of_ble_eq_true rfl, Nat.le_of_ble_eq_true rfl⟩ (Nat.le_of_ble_eq_true rfl) dX11_laysFair_7 (fun r2 h => ?_)
  refine v_aload_n 0 dX11_laysFair_10 rfl ?_
  refine v_iload_n 1 dX11_laysFair_11 rfl ?_
  refine v_lload_n 2 dX11_laysFair_12 rfl ?_
  refine cM_234 (Ok.bind h) ⟨Nat.le_of_ble_eq_true rfl, Nat.le_of_ble_eq_true rfl⟩ (Nat.le_of_ble_eq_true rfl) dX11_laysFair_13 (fun r3 h => ?_)
  refine v_iconst dX11_laysFair_16 ic_0 ?_
  refine v_istore [(4, .int (0 : Int32)), (0, .ref (lc 0 0)), (1, .int x1), (2, .long x2)] dX11_laysFair_17 (Nat.le_of_ble_eq_true rfl) rfl ?_
  refine v_sub [1, 2, 0] rfl ?_
  refine itr_loop (P := fun a4 : Int32 × tt_St => tt_V (XM l D dA A) cX11_laysFair (RX11, 5, none, rM_laysFair, tt_nt) (tt_fn (XM l D dA A) (RX11, 5, none, rM_laysFair, tt_nt) Q) 19 [(0, .ref (lc 0 0)), (1, .int x1), (4, .int a4.1)] [] lc a4.2 0 0) (PE := fun b5 : Int32 × tt_St => tt_V (XM l D dA A) cX11_laysFair (RX11, 5, none, rM_laysFair, tt_nt) (tt_fn (XM l D dA A) (RX11, 5, none, rM_laysFair, tt_nt) Q) 46 [(0, .ref (lc 0 0)), (1, .int x1), (4, .int b5.1)] [] lc b5.2 0 0) h (fun b5 h => ?_) (fun a4 h => ?_)
  · refine v_aload_n 0 dX11_laysFair_46 rfl ?_
    refine v_iload_n 1 dX11_laysFair_47 rfl ?_
    refine cM_238 (Ok.bind h) ⟨Nat.le_of_ble_eq_true rfl, Nat.le_of_ble_eq_true rfl⟩ (Nat.le_of_ble_eq_true rfl) dX11_laysFair_48 (fun r9 h => ?_)
    have h := Ok.ret h
    exact v_vret rfl (Nat.zero_le _) (Nat.zero_le _) dX11_laysFair_51 h
  · have h : Ok (fM_laysFair_L19 a4) _ := h
    unfold fM_laysFair_L19 at h
    refine v_iload 2 dX11_laysFair_19 rfl ?_
    refine v_bipush dX11_laysFair_21 kb_40 ?_
    refine v_icmp_ge (tgt := 46) dX11_laysFair_23 rfl (fun c6 => ?_) (fun c6 => ?_)
    · have h := Ok.pos h c6
      have h := Ok.ret h
      exact h
    · have h := Ok.neg h c6
      refine v_aload_n 0 dX11_laysFair_26 rfl ?_
      refine gM_118 dX11_laysFair_27 ?_
      refine v_iload 2 dX11_laysFair_30 rfl ?_
      refine v_aload_n 0 dX11_laysFair_32 rfl ?_
      refine gM_115 dX11_laysFair_33 ?_
      refine v_iload 2 dX11_laysFair_36 rfl ?_
      obtain ⟨g7, h⟩ := Ok.guard h
      refine lM_38 g7 dX11_laysFair_38 ?_
      refine sM_39 g7 dX11_laysFair_39 ?_
      refine v_nmS (fun s8 e_s8 => ?_)
      have h := Ok.nm h e_s8
      refine v_iinc (v := (a4.1 + 1 : Int32)) 2 [(4, .int (a4.1 + 1 : Int32)), (0, .ref (lc 0 0)), (1, .int x1)] dX11_laysFair_40 rfl (by rw [ic_1]) (Nat.le_of_ble_eq_true rfl) rfl ?_
      refine v_goto (tgt := 19) dX11_laysFair_43 rfl ?_
      refine v_sub [1, 2, 0] rfl ?_
      have h := Ok.ret h
      exact h
theorem cM_258 {l : Launch} {D : va_G} {dA : Nat → ClassId} {A : Nat → Prop} {lc : Nat → Nat → Nat} {s : tt_St} {cc : ByteArray} {nl : Nat} {rt : Option FieldType} {rm : Room} {tn : tt_Tn} {Q : tt_Fin} {pc : Nat} {lv : List (Nat × Value)} {rest : List Value} {ck cn : Nat} {x1 : Int32} {x2 : Int64} {K : tt_St → Prop} (h : Ok (fM_laysFair s x1 x2) K) (hR : 4 + 1 ≤ rm.frames ∧ 8 + (5 + 11) + 101 ≤ rm.locals) (hW : (rest.map fun v => v.category).sum ≤ 8) (d : decode cc pc = .ok (.invokevirtual 258, 3)) (kk : ∀ r, K r → tt_V (XM l D dA A) cc (RX11, nl, rt, rm, tn) Q (pc + 3) lv rest lc r ck cn) (hf : ck ≤ rm.cells ∧ cn ≤ rm.slots := by exact ⟨Nat.zero_le _, Nat.zero_le _⟩) : tt_V (XM l D dA A) cc (RX11, nl, rt, rm, tn) Q pc lv (.long x2 :: .int x1 :: .ref (lc 0 0) :: rest) lc s ck cn :=
  v_callV (kd := 0) (i := 0) (nA := 2) (As := [.int x1, .long x2]) lvM_0 oM rfl (mM_laysFair l D dA A lc s x1 x2 (Q := (fun v lc' s' => ∃ r, K r ∧ v = none ∧ lc' = lc ∧ s' = r)) (h.mono (fun r hr => ⟨r, hr, rfl, rfl, rfl⟩))) (lw_V q1996 q1998 qs67 q154 q1999) (by decide +kernel) rfl hR hW hf d rfl (fun v lc' s' q => by obtain ⟨r, hr, e1, e2, e3⟩ := q; rw [e1, e2, e3]; exact kk r hr)
def fM_laysUnlike_L5 (x1 : Int32) (a1 : Int64 × Int32 × tt_St) : Option ((Int64 × Int32 × tt_St) ⊕ (Int64 × Int32 × tt_St)) :=
  if (40 : Int32) ≤ a1.2.1 then some (.inr (a1.1, a1.2.1, a1.2.2)) else if inB a1.2.1 40 then nm (x1.toInt64 * ((rdL a1.2.2 38 0 a1.2.1.toNatClampNeg) - (rdL a1.2.2 39 0 a1.2.1.toNatClampNeg))) fun v5 => nm (if v5 ≤ (0 : Int64) then (0 : Int64) else v5) fun t6 => nm (wrL a1.2.2 36 0 a1.2.1.toNatClampNeg t6) fun s9 => nm (a1.1 + (rdL s9 36 0 a1.2.1.toNatClampNeg)) fun v10 => some (.inl (v10, (a1.2.1 + 1 : Int32), s9)) else none
def fM_laysUnlike (s : tt_St) (x1 : Int32) : Option (Int64 × tt_St) :=
  (itr (fM_laysUnlike_L5 x1) tt_fuel ((0 : Int64), (0 : Int32), s)).bind fun b2 => some (b2.1, b2.2.2)
abbrev rM_laysUnlike : Room := { frames := 0, cells := 0, slots := 0, locals := 0 }
set_option maxHeartbeats 4000000 in
theorem mM_laysUnlike (l : Launch) (D : va_G) (dA : Nat → ClassId) (A : Nat → Prop) (lc : Nat → Nat → Nat) (s : tt_St) (x1 : Int32) {Q : Option Value → (Nat → Nat → Nat) → tt_St → Prop} (h : Ok (fM_laysUnlike s x1) (fun r => Q (some (.long r.1)) lc r.2)) : tt_Sp (XM l D dA A) yX11_laysUnlike cX11_laysUnlike 7 (some .long) rM_laysUnlike [.ref (lc 0 0), .int x1] lc s Q := by
  refine tt_Sp.ofV plM kokM (Nat.le_of_ble_eq_true rfl) ?_
  show tt_V (XM l D dA A) cX11_laysUnlike (RX11, 7, (some .long), rM_laysUnlike, tt_nt) (tt_fn (XM l D dA A) (RX11, 7, (some .long), rM_laysUnlike, tt_nt) Q) 0 [(0, .ref (lc 0 0)), (1, .int x1)] [] lc s 0 0
  unfold fM_laysUnlike at h
  refine v_lconst dX11_laysUnlike_0 kl_0 ?_
  refine v_lstore_n [(2, .long (0 : Int64)), (0, .ref (lc 0 0)), (1, .int x1)] dX11_laysUnlike_1 (Nat.le_of_ble_eq_true rfl) rfl ?_
  refine v_iconst dX11_laysUnlike_2 ic_0 ?_
  refine v_istore [(4, .int (0 : Int32)), (2, .long (0 : Int64)), (0, .ref (lc 0 0)), (1, .int x1)] dX11_laysUnlike_3 (Nat.le_of_ble_eq_true rfl) rfl ?_
  refine v_sub [2, 3, 1, 0] rfl ?_
  refine itr_loop (P := fun a1 : Int64 × Int32 × tt_St => tt_V (XM l D dA A) cX11_laysUnlike (RX11, 7, (some .long), rM_laysUnlike, tt_nt) (tt_fn (XM l D dA A) (RX11, 7, (some .long), rM_laysUnlike, tt_nt) Q) 5 [(0, .ref (lc 0 0)), (1, .int x1), (2, .long a1.1), (4, .int a1.2.1)] [] lc a1.2.2 0 0) (PE := fun b2 : Int64 × Int32 × tt_St => tt_V (XM l D dA A) cX11_laysUnlike (RX11, 7, (some .long), rM_laysUnlike, tt_nt) (tt_fn (XM l D dA A) (RX11, 7, (some .long), rM_laysUnlike, tt_nt) Q) 68 [(0, .ref (lc 0 0)), (1, .int x1), (2, .long b2.1), (4, .int b2.2.1)] [] lc b2.2.2 0 0) h (fun b2 h => ?_) (fun a1 h => ?_)
  · refine v_lload_n 2 dX11_laysUnlike_68 rfl ?_
    have h := Ok.ret h
    exact v_lret rfl (Nat.zero_le _) (Nat.zero_le _) dX11_laysUnlike_69 h
  · have h : Ok (fM_laysUnlike_L5 x1 a1) _ := h
    unfold fM_laysUnlike_L5 at h
    refine v_iload 3 dX11_laysUnlike_5 rfl ?_
    refine v_bipush dX11_laysUnlike_7 kb_40 ?_
    refine v_icmp_ge (tgt := 68) dX11_laysUnlike_9 rfl (fun c3 => ?_) (fun c3 => ?_)
    · have h := Ok.pos h c3
      have h := Ok.ret h
      exact h
    · have h := Ok.neg h c3
      refine v_iload_n 1 dX11_laysUnlike_12 rfl ?_
      refine v_i2l dX11_laysUnlike_13 rfl ?_
      refine v_aload_n 0 dX11_laysUnlike_14 rfl ?_
      refine gM_115 dX11_laysUnlike_15 ?_
      refine v_iload 3 dX11_laysUnlike_18 rfl ?_
      obtain ⟨g4, h⟩ := Ok.guard h
      refine lM_38 g4 dX11_laysUnlike_20 ?_
      refine v_aload_n 0 dX11_laysUnlike_21 rfl ?_
      refine gM_118 dX11_laysUnlike_22 ?_
      refine v_iload 3 dX11_laysUnlike_25 rfl ?_
      refine lM_39 g4 dX11_laysUnlike_27 ?_
      refine v_lsub dX11_laysUnlike_28 ?_
      refine v_lmul dX11_laysUnlike_29 ?_
      refine v_nmL (fun v5 e_v5 => ?_)
      have h := Ok.nm h e_v5
      refine v_lstore [(5, .long v5), (0, .ref (lc 0 0)), (1, .int x1), (2, .long a1.1), (4, .int a1.2.1)] dX11_laysUnlike_30 (Nat.le_of_ble_eq_true rfl) rfl ?_
      refine v_aload_n 1 dX11_laysUnlike_32 rfl ?_
      refine gM_109 dX11_laysUnlike_33 ?_
      refine v_iload 4 dX11_laysUnlike_36 rfl ?_
      refine v_lload 0 dX11_laysUnlike_38 rfl ?_
      refine v_lconst dX11_laysUnlike_40 kl_0 ?_
      have J7 : ∀ t6, t6 = (if v5 ≤ (0 : Int64) then (0 : Int64) else v5) → tt_V (XM l D dA A) cX11_laysUnlike (RX11, 7, (some .long), rM_laysUnlike, tt_nt) (tt_fn (XM l D dA A) (RX11, 7, (some .long), rM_laysUnlike, tt_nt) Q) 51 [(0, .ref (lc 0 0)), (1, .int x1), (2, .long a1.1), (4, .int a1.2.1)] [.long t6, .int a1.2.1, .ref (lc 36 0)] lc a1.2.2 0 0 := fun t6 e_t6 => by
        have h := Ok.nm h e_t6
        refine sM_36 g4 dX11_laysUnlike_51 ?_
        refine v_nmS (fun s9 e_s9 => ?_)
        have h := Ok.nm h e_s9
        refine v_lload_n 2 dX11_laysUnlike_52 rfl ?_
        refine v_aload_n 0 dX11_laysUnlike_53 rfl ?_
        refine gM_109 dX11_laysUnlike_54 ?_
        refine v_iload 3 dX11_laysUnlike_57 rfl ?_
        refine lM_36 g4 dX11_laysUnlike_59 ?_
        refine v_ladd dX11_laysUnlike_60 ?_
        refine v_nmL (fun v10 e_v10 => ?_)
        have h := Ok.nm h e_v10
        refine v_lstore_n [(2, .long v10), (0, .ref (lc 0 0)), (1, .int x1), (4, .int a1.2.1)] dX11_laysUnlike_61 (Nat.le_of_ble_eq_true rfl) rfl ?_
        refine v_iinc (v := (a1.2.1 + 1 : Int32)) 3 [(4, .int (a1.2.1 + 1 : Int32)), (2, .long v10), (0, .ref (lc 0 0)), (1, .int x1)] dX11_laysUnlike_62 rfl (by rw [ic_1]) (Nat.le_of_ble_eq_true rfl) rfl ?_
        refine v_goto (tgt := 5) dX11_laysUnlike_65 rfl ?_
        refine v_sub [2, 3, 1, 0] rfl ?_
        have h := Ok.ret h
        exact h
      refine v_lif_le (tgt := 50) dX11_laysUnlike_41 dX11_laysUnlike_42 rfl (fun c8 => ?_) (fun c8 => ?_)
      · refine v_lconst dX11_laysUnlike_50 kl_0 ?_
        refine v_sub [1, 2, 3, 4] rfl ?_
        exact J7 _ (by rw [if_pos c8])
      · refine v_lload 0 dX11_laysUnlike_45 rfl ?_
        refine v_goto (tgt := 51) dX11_laysUnlike_47 rfl ?_
        refine v_sub [1, 2, 3, 4] rfl ?_
        exact J7 _ (by rw [if_neg c8])
theorem cM_241 {l : Launch} {D : va_G} {dA : Nat → ClassId} {A : Nat → Prop} {lc : Nat → Nat → Nat} {s : tt_St} {cc : ByteArray} {nl : Nat} {rt : Option FieldType} {rm : Room} {tn : tt_Tn} {Q : tt_Fin} {pc : Nat} {lv : List (Nat × Value)} {rest : List Value} {ck cn : Nat} {x1 : Int32} {K : Int64 × tt_St → Prop} (h : Ok (fM_laysUnlike s x1) K) (hR : 0 + 1 ≤ rm.frames ∧ 8 + (7 + 11) + 0 ≤ rm.locals) (hW : (rest.map fun v => v.category).sum ≤ 8) (d : decode cc pc = .ok (.invokevirtual 241, 3)) (kk : ∀ r, K r → tt_V (XM l D dA A) cc (RX11, nl, rt, rm, tn) Q (pc + 3) lv (.long r.1 :: rest) lc r.2 ck cn) (hf : ck ≤ rm.cells ∧ cn ≤ rm.slots := by exact ⟨Nat.zero_le _, Nat.zero_le _⟩) : tt_V (XM l D dA A) cc (RX11, nl, rt, rm, tn) Q pc lv (.int x1 :: .ref (lc 0 0) :: rest) lc s ck cn :=
  v_callV (kd := 0) (i := 0) (nA := 1) (As := [.int x1]) lvM_0 oM rfl (mM_laysUnlike l D dA A lc s x1 (Q := (fun v lc' s' => ∃ r, K r ∧ v = some (.long r.1) ∧ lc' = lc ∧ s' = r.2)) (h.mono (fun r hr => ⟨r, hr, rfl, rfl, rfl⟩))) (lw_V q2079 q2081 qs87 q154 q2082) (by decide +kernel) rfl hR hW hf d rfl (fun v lc' s' q => by obtain ⟨r, hr, e1, e2, e3⟩ := q; rw [e1, e2, e3]; exact kk r hr)
def fM_contributes_L90 (x1 : Int32) (a14 : Int32 × tt_St) : Option ((Int32 × tt_St) ⊕ (Int32 × tt_St)) :=
  if (40 : Int32) ≤ a14.1 then some (.inr (a14.1, a14.2)) else if inB a14.1 40 then nm ((rdL a14.2 37 0 a14.1.toNatClampNeg) - (rdL a14.2 46 0 a14.1.toNatClampNeg)) fun v18 => nm (wrL a14.2 38 0 a14.1.toNatClampNeg ((rdL a14.2 38 0 a14.1.toNatClampNeg) + v18)) fun s19 => nm (wrL s19 15 0 a14.1.toNatClampNeg ((rdL s19 15 0 a14.1.toNatClampNeg) + v18)) fun s20 => if inB (((40 : Int32) * x1) + a14.1) 1000 then nm (wrL s20 21 0 (((40 : Int32) * x1) + a14.1).toNatClampNeg ((rdL s20 21 0 (((40 : Int32) * x1) + a14.1).toNatClampNeg) + v18)) fun s22 => nm (wrL s22 23 0 (((40 : Int32) * x1) + a14.1).toNatClampNeg ((rdL s22 23 0 (((40 : Int32) * x1) + a14.1).toNatClampNeg) + v18)) fun s23 => some (.inl ((a14.1 + 1 : Int32), s23)) else none else none
def fM_contributes_L46  (a7 : Int32 × tt_St) : Option ((Int32 × tt_St) ⊕ (Int32 × tt_St)) :=
  if (40 : Int32) ≤ a7.1 then some (.inr (a7.1, a7.2)) else if inB a7.1 40 then nm (wrL a7.2 46 0 a7.1.toNatClampNeg (rdL a7.2 37 0 a7.1.toNatClampNeg)) fun s11 => some (.inl ((a7.1 + 1 : Int32), s11)) else none
def fM_contributes (s : tt_St) (x1 : Int32) : Option (tt_St) :=
  (fM_laysUnlike s (1 : Int32)).bind fun r1 => (fM_laysUnlike r1.2 (-1 : Int32)).bind fun r2 => (fM_least r1.1 r2.1).bind fun r3 => if r3 = (0 : Int64) then some r2.2 else (fM_laysUnlike r2.2 (1 : Int32)).bind fun r5 => (fM_shares r5.2 r3 (40 : Int32)).bind fun r6 => (itr (fM_contributes_L46) tt_fuel ((0 : Int32), r6)).bind fun b8 => (fM_laysUnlike b8.2 (-1 : Int32)).bind fun r12 => (fM_shares r12.2 r3 (40 : Int32)).bind fun r13 => (itr (fM_contributes_L90 x1) tt_fuel ((0 : Int32), r13)).bind fun b15 => some b15.2
abbrev rM_contributes : Room := { frames := 2, cells := 0, slots := 0, locals := 52 }
set_option maxHeartbeats 4000000 in
theorem mM_contributes (l : Launch) (D : va_G) (dA : Nat → ClassId) (A : Nat → Prop) (lc : Nat → Nat → Nat) (s : tt_St) (x1 : Int32) {Q : Option Value → (Nat → Nat → Nat) → tt_St → Prop} (h : Ok (fM_contributes s x1) (fun r => Q none lc r)) : tt_Sp (XM l D dA A) yX11_contributes cX11_contributes 11 none rM_contributes [.ref (lc 0 0), .int x1] lc s Q := by
  refine tt_Sp.ofV plM kokM (Nat.le_of_ble_eq_true rfl) ?_
  show tt_V (XM l D dA A) cX11_contributes (RX11, 11, none, rM_contributes, tt_nt) (tt_fn (XM l D dA A) (RX11, 11, none, rM_contributes, tt_nt) Q) 0 [(0, .ref (lc 0 0)), (1, .int x1)] [] lc s 0 0
  unfold fM_contributes at h
  refine v_aload_n 0 dX11_contributes_0 rfl ?_
  refine v_iconst dX11_contributes_1 ic_1 ?_
  refine cM_241 (Ok.bind h) ⟨Nat.le_of_ble_eq_true rfl, Nat.le_of_ble_eq_true rfl⟩ (Nat.le_of_ble_eq_true rfl) dX11_contributes_2 (fun r1 h => ?_)
  refine v_lstore_n [(2, .long r1.1), (0, .ref (lc 0 0)), (1, .int x1)] dX11_contributes_5 (Nat.le_of_ble_eq_true rfl) rfl ?_
  refine v_aload_n 1 dX11_contributes_6 rfl ?_
  refine v_iconst dX11_contributes_7 ic_m1 ?_
  refine cM_241 (Ok.bind h) ⟨Nat.le_of_ble_eq_true rfl, Nat.le_of_ble_eq_true rfl⟩ (Nat.le_of_ble_eq_true rfl) dX11_contributes_8 (fun r2 h => ?_)
  refine v_lstore [(4, .long r2.1), (2, .long r1.1), (0, .ref (lc 0 0)), (1, .int x1)] dX11_contributes_11 (Nat.le_of_ble_eq_true rfl) rfl ?_
  refine v_lload_n 1 dX11_contributes_13 rfl ?_
  refine v_lload 0 dX11_contributes_14 rfl ?_
  refine cM_179 (Ok.bind h) ⟨Nat.le_of_ble_eq_true rfl, Nat.le_of_ble_eq_true rfl⟩ (Nat.le_of_ble_eq_true rfl) dX11_contributes_16 (fun r3 h => ?_)
  refine v_lstore [(6, .long r3), (4, .long r2.1), (2, .long r1.1), (0, .ref (lc 0 0)), (1, .int x1)] dX11_contributes_19 (Nat.le_of_ble_eq_true rfl) rfl ?_
  refine v_lload 0 dX11_contributes_21 rfl ?_
  refine v_lconst dX11_contributes_23 kl_0 ?_
  refine v_lif_ne (tgt := 29) dX11_contributes_24 dX11_contributes_25 rfl (fun c4 => ?_) (fun c4 => ?_)
  · have h := Ok.neg h c4
    refine v_aload_n 3 dX11_contributes_29 rfl ?_
    refine v_iconst dX11_contributes_30 ic_1 ?_
    refine cM_241 (Ok.bind h) ⟨Nat.le_of_ble_eq_true rfl, Nat.le_of_ble_eq_true rfl⟩ (Nat.le_of_ble_eq_true rfl) dX11_contributes_31 (fun r5 h => ?_)
    refine v_pop2_2 dX11_contributes_34 rfl ?_
    refine v_aload_n 3 dX11_contributes_35 rfl ?_
    refine v_lload 0 dX11_contributes_36 rfl ?_
    refine v_bipush dX11_contributes_38 kb_40 ?_
    refine cM_211 (Ok.bind h) ⟨Nat.le_of_ble_eq_true rfl, Nat.le_of_ble_eq_true rfl⟩ (Nat.le_of_ble_eq_true rfl) dX11_contributes_40 (fun r6 h => ?_)
    refine v_iconst dX11_contributes_43 ic_0 ?_
    refine v_istore [(8, .int (0 : Int32)), (6, .long r3), (4, .long r2.1), (2, .long r1.1), (0, .ref (lc 0 0)), (1, .int x1)] dX11_contributes_44 (Nat.le_of_ble_eq_true rfl) rfl ?_
    refine v_sub [4, 5, 1, 0] rfl ?_
    refine itr_loop (P := fun a7 : Int32 × tt_St => tt_V (XM l D dA A) cX11_contributes (RX11, 11, none, rM_contributes, tt_nt) (tt_fn (XM l D dA A) (RX11, 11, none, rM_contributes, tt_nt) Q) 46 [(0, .ref (lc 0 0)), (1, .int x1), (6, .long r3), (8, .int a7.1)] [] lc a7.2 0 0) (PE := fun b8 : Int32 × tt_St => tt_V (XM l D dA A) cX11_contributes (RX11, 11, none, rM_contributes, tt_nt) (tt_fn (XM l D dA A) (RX11, 11, none, rM_contributes, tt_nt) Q) 73 [(0, .ref (lc 0 0)), (1, .int x1), (6, .long r3), (8, .int b8.1)] [] lc b8.2 0 0) h (fun b8 h => ?_) (fun a7 h => ?_)
    · refine v_aload_n 0 dX11_contributes_73 rfl ?_
      refine v_iconst dX11_contributes_74 ic_m1 ?_
      refine cM_241 (Ok.bind h) ⟨Nat.le_of_ble_eq_true rfl, Nat.le_of_ble_eq_true rfl⟩ (Nat.le_of_ble_eq_true rfl) dX11_contributes_75 (fun r12 h => ?_)
      refine v_pop2_2 dX11_contributes_78 rfl ?_
      refine v_aload_n 0 dX11_contributes_79 rfl ?_
      refine v_lload 2 dX11_contributes_80 rfl ?_
      refine v_bipush dX11_contributes_82 kb_40 ?_
      refine cM_211 (Ok.bind h) ⟨Nat.le_of_ble_eq_true rfl, Nat.le_of_ble_eq_true rfl⟩ (Nat.le_of_ble_eq_true rfl) dX11_contributes_84 (fun r13 h => ?_)
      refine v_iconst dX11_contributes_87 ic_0 ?_
      refine v_istore [(8, .int (0 : Int32)), (0, .ref (lc 0 0)), (1, .int x1), (6, .long r3)] dX11_contributes_88 (Nat.le_of_ble_eq_true rfl) rfl ?_
      refine v_sub [1, 2, 0] rfl ?_
      refine itr_loop (P := fun a14 : Int32 × tt_St => tt_V (XM l D dA A) cX11_contributes (RX11, 11, none, rM_contributes, tt_nt) (tt_fn (XM l D dA A) (RX11, 11, none, rM_contributes, tt_nt) Q) 90 [(0, .ref (lc 0 0)), (1, .int x1), (8, .int a14.1)] [] lc a14.2 0 0) (PE := fun b15 : Int32 × tt_St => tt_V (XM l D dA A) cX11_contributes (RX11, 11, none, rM_contributes, tt_nt) (tt_fn (XM l D dA A) (RX11, 11, none, rM_contributes, tt_nt) Q) 178 [(0, .ref (lc 0 0)), (1, .int x1), (8, .int b15.1)] [] lc b15.2 0 0) h (fun b15 h => ?_) (fun a14 h => ?_)
      · have h := Ok.ret h
        exact v_vret rfl (Nat.zero_le _) (Nat.zero_le _) dX11_contributes_178 h
      · have h : Ok (fM_contributes_L90 x1 a14) _ := h
        unfold fM_contributes_L90 at h
        refine v_iload 2 dX11_contributes_90 rfl ?_
        refine v_bipush dX11_contributes_92 kb_40 ?_
        refine v_icmp_ge (tgt := 178) dX11_contributes_94 rfl (fun c16 => ?_) (fun c16 => ?_)
        · have h := Ok.pos h c16
          have h := Ok.ret h
          exact h
        · have h := Ok.neg h c16
          refine v_aload_n 0 dX11_contributes_97 rfl ?_
          refine gM_112 dX11_contributes_98 ?_
          refine v_iload 2 dX11_contributes_101 rfl ?_
          obtain ⟨g17, h⟩ := Ok.guard h
          refine lM_37 g17 dX11_contributes_103 ?_
          refine v_aload_n 0 dX11_contributes_104 rfl ?_
          refine gM_139 dX11_contributes_105 ?_
          refine v_iload 2 dX11_contributes_108 rfl ?_
          refine lM_46 g17 dX11_contributes_110 ?_
          refine v_lsub dX11_contributes_111 ?_
          refine v_nmL (fun v18 e_v18 => ?_)
          have h := Ok.nm h e_v18
          refine v_lstore [(9, .long v18), (0, .ref (lc 0 0)), (1, .int x1), (8, .int a14.1)] dX11_contributes_112 (Nat.le_of_ble_eq_true rfl) rfl ?_
          refine v_aload_n 1 dX11_contributes_114 rfl ?_
          refine gM_115 dX11_contributes_115 ?_
          refine v_iload 3 dX11_contributes_118 rfl ?_
          refine v_dup2_11 dX11_contributes_120 rfl rfl ?_
          refine lM_38 g17 dX11_contributes_121 ?_
          refine v_lload 0 dX11_contributes_122 rfl ?_
          refine v_ladd dX11_contributes_124 ?_
          refine sM_38 g17 dX11_contributes_125 ?_
          refine v_nmS (fun s19 e_s19 => ?_)
          have h := Ok.nm h e_s19
          refine v_aload_n 1 dX11_contributes_126 rfl ?_
          refine gM_57 dX11_contributes_127 ?_
          refine v_iload 3 dX11_contributes_130 rfl ?_
          refine v_dup2_11 dX11_contributes_132 rfl rfl ?_
          refine lM_15 g17 dX11_contributes_133 ?_
          refine v_lload 0 dX11_contributes_134 rfl ?_
          refine v_ladd dX11_contributes_136 ?_
          refine sM_15 g17 dX11_contributes_137 ?_
          refine v_nmS (fun s20 e_s20 => ?_)
          have h := Ok.nm h e_s20
          refine v_aload_n 1 dX11_contributes_138 rfl ?_
          refine gM_76 dX11_contributes_139 ?_
          refine v_bipush dX11_contributes_142 kb_40 ?_
          refine v_iload_n 2 dX11_contributes_144 rfl ?_
          refine v_imul dX11_contributes_145 ?_
          refine v_iload 3 dX11_contributes_146 rfl ?_
          refine v_iadd dX11_contributes_148 ?_
          refine v_dup2_11 dX11_contributes_149 rfl rfl ?_
          obtain ⟨g21, h⟩ := Ok.guard h
          refine lM_21 g21 dX11_contributes_150 ?_
          refine v_lload 0 dX11_contributes_151 rfl ?_
          refine v_ladd dX11_contributes_153 ?_
          refine sM_21 g21 dX11_contributes_154 ?_
          refine v_nmS (fun s22 e_s22 => ?_)
          have h := Ok.nm h e_s22
          refine v_aload_n 1 dX11_contributes_155 rfl ?_
          refine gM_82 dX11_contributes_156 ?_
          refine v_bipush dX11_contributes_159 kb_40 ?_
          refine v_iload_n 2 dX11_contributes_161 rfl ?_
          refine v_imul dX11_contributes_162 ?_
          refine v_iload 3 dX11_contributes_163 rfl ?_
          refine v_iadd dX11_contributes_165 ?_
          refine v_dup2_11 dX11_contributes_166 rfl rfl ?_
          refine lM_23 g21 dX11_contributes_167 ?_
          refine v_lload 0 dX11_contributes_168 rfl ?_
          refine v_ladd dX11_contributes_170 ?_
          refine sM_23 g21 dX11_contributes_171 ?_
          refine v_nmS (fun s23 e_s23 => ?_)
          have h := Ok.nm h e_s23
          refine v_iinc (v := (a14.1 + 1 : Int32)) 3 [(8, .int (a14.1 + 1 : Int32)), (9, .long v18), (0, .ref (lc 0 0)), (1, .int x1)] dX11_contributes_172 rfl (by rw [ic_1]) (Nat.le_of_ble_eq_true rfl) rfl ?_
          refine v_goto (tgt := 90) dX11_contributes_175 rfl ?_
          refine v_sub [2, 3, 0] rfl ?_
          have h := Ok.ret h
          exact h
    · have h : Ok (fM_contributes_L46 a7) _ := h
      unfold fM_contributes_L46 at h
      refine v_iload 3 dX11_contributes_46 rfl ?_
      refine v_bipush dX11_contributes_48 kb_40 ?_
      refine v_icmp_ge (tgt := 73) dX11_contributes_50 rfl (fun c9 => ?_) (fun c9 => ?_)
      · have h := Ok.pos h c9
        have h := Ok.ret h
        exact h
      · have h := Ok.neg h c9
        refine v_aload_n 0 dX11_contributes_53 rfl ?_
        refine gM_139 dX11_contributes_54 ?_
        refine v_iload 3 dX11_contributes_57 rfl ?_
        refine v_aload_n 0 dX11_contributes_59 rfl ?_
        refine gM_112 dX11_contributes_60 ?_
        refine v_iload 3 dX11_contributes_63 rfl ?_
        obtain ⟨g10, h⟩ := Ok.guard h
        refine lM_37 g10 dX11_contributes_65 ?_
        refine sM_46 g10 dX11_contributes_66 ?_
        refine v_nmS (fun s11 e_s11 => ?_)
        have h := Ok.nm h e_s11
        refine v_iinc (v := (a7.1 + 1 : Int32)) 3 [(8, .int (a7.1 + 1 : Int32)), (0, .ref (lc 0 0)), (1, .int x1), (6, .long r3)] dX11_contributes_67 rfl (by rw [ic_1]) (Nat.le_of_ble_eq_true rfl) rfl ?_
        refine v_goto (tgt := 46) dX11_contributes_70 rfl ?_
        refine v_sub [1, 2, 3, 0] rfl ?_
        have h := Ok.ret h
        exact h
  · have h := Ok.pos h c4
    have h := Ok.ret h
    exact v_vret rfl (Nat.zero_le _) (Nat.zero_le _) dX11_contributes_28 h
theorem cM_264 {l : Launch} {D : va_G} {dA : Nat → ClassId} {A : Nat → Prop} {lc : Nat → Nat → Nat} {s : tt_St} {cc : ByteArray} {nl : Nat} {rt : Option FieldType} {rm : Room} {tn : tt_Tn} {Q : tt_Fin} {pc : Nat} {lv : List (Nat × Value)} {rest : List Value} {ck cn : Nat} {x1 : Int32} {K : tt_St → Prop} (h : Ok (fM_contributes s x1) K) (hR : 2 + 1 ≤ rm.frames ∧ 8 + (11 + 11) + 52 ≤ rm.locals) (hW : (rest.map fun v => v.category).sum ≤ 8) (d : decode cc pc = .ok (.invokevirtual 264, 3)) (kk : ∀ r, K r → tt_V (XM l D dA A) cc (RX11, nl, rt, rm, tn) Q (pc + 3) lv rest lc r ck cn) (hf : ck ≤ rm.cells ∧ cn ≤ rm.slots := by exact ⟨Nat.zero_le _, Nat.zero_le _⟩) : tt_V (XM l D dA A) cc (RX11, nl, rt, rm, tn) Q pc lv (.int x1 :: .ref (lc 0 0) :: rest) lc s ck cn :=
  v_callV (kd := 0) (i := 0) (nA := 1) (As := [.int x1]) lvM_0 oM rfl (mM_contributes l D dA A lc s x1 (Q := (fun v lc' s' => ∃ r, K r ∧ v = none ∧ lc' = lc ∧ s' = r)) (h.mono (fun r hr => ⟨r, hr, rfl, rfl, rfl⟩))) (lw_V q2075 q2077 qs86 q154 q2078) (by decide +kernel) rfl hR hW hf d rfl (fun v lc' s' q => by obtain ⟨r, hr, e1, e2, e3⟩ := q; rw [e1, e2, e3]; exact kk r hr)
def fM_levelled_L5 (s : tt_St) (x1 : Int64) (a1 : Int64 × Int32) : Option ((Int64 × Int32) ⊕ (Int64 × Int32)) :=
  if (12 : Int32) ≤ a1.2 then some (.inr (a1.1, a1.2)) else if inB a1.2 12 then (fM_least x1 (rdL s 47 0 a1.2.toNatClampNeg)).bind fun r5 => nm (a1.1 + r5) fun v6 => some (.inl (v6, (a1.2 + 1 : Int32))) else none
def fM_levelled (s : tt_St) (x1 : Int64) : Option (Int64) :=
  (itr (fM_levelled_L5 s x1) tt_fuel ((0 : Int64), (0 : Int32))).bind fun b2 => some b2.1
abbrev rM_levelled : Room := { frames := 1, cells := 0, slots := 0, locals := 23 }
set_option maxHeartbeats 4000000 in
theorem mM_levelled (l : Launch) (D : va_G) (dA : Nat → ClassId) (A : Nat → Prop) (lc : Nat → Nat → Nat) (s : tt_St) (x1 : Int64) {Q : Option Value → (Nat → Nat → Nat) → tt_St → Prop} (h : Ok (fM_levelled s x1) (fun r => Q (some (.long r)) lc s)) : tt_Sp (XM l D dA A) yX11_levelled cX11_levelled 6 (some .long) rM_levelled [.ref (lc 0 0), .long x1] lc s Q := by
  refine tt_Sp.ofV plM kokM (Nat.le_of_ble_eq_true rfl) ?_
  show tt_V (XM l D dA A) cX11_levelled (RX11, 6, (some .long), rM_levelled, tt_nt) (tt_fn (XM l D dA A) (RX11, 6, (some .long), rM_levelled, tt_nt) Q) 0 [(0, .ref (lc 0 0)), (1, .long x1)] [] lc s 0 0
  unfold fM_levelled at h
  refine v_lconst dX11_levelled_0 kl_0 ?_
  refine v_lstore_n [(3, .long (0 : Int64)), (0, .ref (lc 0 0)), (1, .long x1)] dX11_levelled_1 (Nat.le_of_ble_eq_true rfl) rfl ?_
  refine v_iconst dX11_levelled_2 ic_0 ?_
  refine v_istore [(5, .int (0 : Int32)), (3, .long (0 : Int64)), (0, .ref (lc 0 0)), (1, .long x1)] dX11_levelled_3 (Nat.le_of_ble_eq_true rfl) rfl ?_
  refine v_sub [2, 3, 1, 0] rfl ?_
  refine itr_loop (P := fun a1 : Int64 × Int32 => tt_V (XM l D dA A) cX11_levelled (RX11, 6, (some .long), rM_levelled, tt_nt) (tt_fn (XM l D dA A) (RX11, 6, (some .long), rM_levelled, tt_nt) Q) 5 [(0, .ref (lc 0 0)), (1, .long x1), (3, .long a1.1), (5, .int a1.2)] [] lc s 0 0) (PE := fun b2 : Int64 × Int32 => tt_V (XM l D dA A) cX11_levelled (RX11, 6, (some .long), rM_levelled, tt_nt) (tt_fn (XM l D dA A) (RX11, 6, (some .long), rM_levelled, tt_nt) Q) 32 [(0, .ref (lc 0 0)), (1, .long x1), (3, .long b2.1), (5, .int b2.2)] [] lc s 0 0) h (fun b2 h => ?_) (fun a1 h => ?_)
  · refine v_lload_n 2 dX11_levelled_32 rfl ?_
    have h := Ok.ret h
    exact v_lret rfl (Nat.zero_le _) (Nat.zero_le _) dX11_levelled_33 h
  · have h : Ok (fM_levelled_L5 s x1 a1) _ := h
    unfold fM_levelled_L5 at h
    refine v_iload 3 dX11_levelled_5 rfl ?_
    refine v_bipush dX11_levelled_7 kb_12 ?_
    refine v_icmp_ge (tgt := 32) dX11_levelled_9 rfl (fun c3 => ?_) (fun c3 => ?_)
    · have h := Ok.pos h c3
      have h := Ok.ret h
      exact h
    · have h := Ok.neg h c3
      refine v_lload_n 2 dX11_levelled_12 rfl ?_
      refine v_lload_n 1 dX11_levelled_13 rfl ?_
      refine v_aload_n 0 dX11_levelled_14 rfl ?_
      refine gM_142 dX11_levelled_15 ?_
      refine v_iload 3 dX11_levelled_18 rfl ?_
      obtain ⟨g4, h⟩ := Ok.guard h
      refine lM_47 g4 dX11_levelled_20 ?_
      refine cM_179 (Ok.bind h) ⟨Nat.le_of_ble_eq_true rfl, Nat.le_of_ble_eq_true rfl⟩ (Nat.le_of_ble_eq_true rfl) dX11_levelled_21 (fun r5 h => ?_)
      refine v_ladd dX11_levelled_24 ?_
      refine v_nmL (fun v6 e_v6 => ?_)
      have h := Ok.nm h e_v6
      refine v_lstore_n [(3, .long v6), (0, .ref (lc 0 0)), (1, .long x1), (5, .int a1.2)] dX11_levelled_25 (Nat.le_of_ble_eq_true rfl) rfl ?_
      refine v_iinc (v := (a1.2 + 1 : Int32)) 3 [(5, .int (a1.2 + 1 : Int32)), (3, .long v6), (0, .ref (lc 0 0)), (1, .long x1)] dX11_levelled_26 rfl (by rw [ic_1]) (Nat.le_of_ble_eq_true rfl) rfl ?_
      refine v_goto (tgt := 5) dX11_levelled_29 rfl ?_
      refine v_sub [2, 3, 1, 0] rfl ?_
      have h := Ok.ret h
      exact h
theorem cM_248 {l : Launch} {D : va_G} {dA : Nat → ClassId} {A : Nat → Prop} {lc : Nat → Nat → Nat} {s : tt_St} {cc : ByteArray} {nl : Nat} {rt : Option FieldType} {rm : Room} {tn : tt_Tn} {Q : tt_Fin} {pc : Nat} {lv : List (Nat × Value)} {rest : List Value} {ck cn : Nat} {x1 : Int64} {K : Int64 → Prop} (h : Ok (fM_levelled s x1) K) (hR : 1 + 1 ≤ rm.frames ∧ 8 + (6 + 11) + 23 ≤ rm.locals) (hW : (rest.map fun v => v.category).sum ≤ 8) (d : decode cc pc = .ok (.invokevirtual 248, 3)) (kk : ∀ r, K r → tt_V (XM l D dA A) cc (RX11, nl, rt, rm, tn) Q (pc + 3) lv (.long r :: rest) lc s ck cn) (hf : ck ≤ rm.cells ∧ cn ≤ rm.slots := by exact ⟨Nat.zero_le _, Nat.zero_le _⟩) : tt_V (XM l D dA A) cc (RX11, nl, rt, rm, tn) Q pc lv (.long x1 :: .ref (lc 0 0) :: rest) lc s ck cn :=
  v_callV (kd := 0) (i := 0) (nA := 1) (As := [.long x1]) lvM_0 oM rfl (mM_levelled l D dA A lc s x1 (Q := (fun v lc' s' => ∃ r, K r ∧ v = some (.long r) ∧ lc' = lc ∧ s' = s)) (h.mono (fun r hr => ⟨r, hr, rfl, rfl, rfl⟩))) (lw_V q2089 q2091 qs89 q154 q2092) (by decide +kernel) rfl hR hW hf d rfl (fun v lc' s' q => by obtain ⟨r, hr, e1, e2, e3⟩ := q; rw [e1, e2, e3]; exact kk r hr)
def fM_byLevel_L233 (x1 : Int32) (a36 : Int32 × tt_St) : Option ((Int32 × tt_St) ⊕ (Int32 × tt_St)) :=
  if (12 : Int32) ≤ a36.1 then some (.inr (a36.1, a36.2)) else if inB a36.1 12 then if (rdL a36.2 40 0 a36.1.toNatClampNeg) ≤ (0 : Int64) then some (.inl ((a36.1 + 1 : Int32), a36.2)) else (fM_fills a36.2 x1 a36.1 (rdL a36.2 40 0 a36.1.toNatClampNeg)).bind fun r41 => some (.inl ((a36.1 + 1 : Int32), r41.2)) else none
def fM_byLevel_L125 (x1 : Int32) (b13 : Int64 × Int64) (a21 : Int32 × Int64 × Int32 × tt_St) : Option ((Int32 × Int64 × Int32 × tt_St) ⊕ (Int32 × Int64 × Int32 × tt_St)) :=
  if (12 : Int32) ≤ a21.2.2.1 then some (.inr (a21.1, a21.2.1, a21.2.2.1, a21.2.2.2)) else if inB a21.2.2.1 12 then nm (wrL a21.2.2.2 40 0 a21.2.2.1.toNatClampNeg (0 : Int64)) fun s25 => (fM_isOff s25 x1 a21.2.2.1).bind fun r26 => if r26 = 0 then some (.inl (a21.1, a21.2.1, (a21.2.2.1 + 1 : Int32), s25)) else (fM_isGap s25 a21.2.2.1).bind fun r28 => if r28 = 0 then (fM_least b13.1 (rdL s25 47 0 a21.2.2.1.toNatClampNeg)).bind fun r30 => nm (wrL s25 40 0 a21.2.2.1.toNatClampNeg r30) fun s31 => if a21.2.1 = (0 : Int64) then some (.inl ((a21.1 + 1 : Int32), a21.2.1, (a21.2.2.1 + 1 : Int32), s31)) else if b13.1 < (rdL s31 47 0 a21.2.2.1.toNatClampNeg) then nm (wrL s31 40 0 a21.2.2.1.toNatClampNeg ((rdL s31 40 0 a21.2.2.1.toNatClampNeg) + (1 : Int64))) fun s34 => nm (a21.2.1 - (1 : Int64)) fun v35 => some (.inl ((a21.1 + 1 : Int32), v35, (a21.2.2.1 + 1 : Int32), s34)) else some (.inl ((a21.1 + 1 : Int32), a21.2.1, (a21.2.2.1 + 1 : Int32), s31)) else some (.inl (a21.1, a21.2.1, (a21.2.2.1 + 1 : Int32), s25)) else none
def fM_byLevel_L61 (x2 : Int64) (b2 : Int32 × tt_St) (a12 : Int64 × Int64) : Option ((Int64 × Int64) ⊕ (Int64 × Int64)) :=
  if a12.2 ≤ a12.1 then some (.inr (a12.1, a12.2)) else nm (((a12.1 + a12.2) + (1 : Int64)) / (2 : Int64)) fun v15 => (fM_levelled b2.2 v15).bind fun r16 => if x2 < r16 then nm (v15 - (1 : Int64)) fun v18 => some (.inl (a12.1, v18)) else some (.inl (v15, a12.2))
def fM_byLevel_L3 (x1 : Int32) (a1 : Int32 × tt_St) : Option ((Int32 × tt_St) ⊕ (Int32 × tt_St)) :=
  if (12 : Int32) ≤ a1.1 then some (.inr (a1.1, a1.2)) else (fM_isOff a1.2 x1 a1.1).bind fun r4 => (if r4 = 0 then some (0 : Int64) else (fM_isGap a1.2 a1.1).bind fun r7 => if r7 = 0 then (fM_roomOf a1.2 x1 a1.1).bind fun r9 => some r9 else some (0 : Int64) : Option (Int64)).bind fun t5 => if inB a1.1 12 then nm (wrL a1.2 47 0 a1.1.toNatClampNeg t5) fun s11 => some (.inl ((a1.1 + 1 : Int32), s11)) else none
def fM_byLevel (s : tt_St) (x1 : Int32) (x2 : Int64) : Option (tt_St) :=
  (itr (fM_byLevel_L3 x1) tt_fuel ((0 : Int32), s)).bind fun b2 => (itr (fM_byLevel_L61 x2 b2) tt_fuel ((0 : Int64), (2000000000 : Int64))).bind fun b13 => (fM_levelled b2.2 b13.1).bind fun r19 => nm (x2 - r19) fun v20 => (itr (fM_byLevel_L125 x1 b13) tt_fuel ((0 : Int32), v20, (0 : Int32), b2.2)).bind fun b22 => (itr (fM_byLevel_L233 x1) tt_fuel ((0 : Int32), b22.2.2.2)).bind fun b37 => nm (if b22.1 = 0 then (3 : Int32) else (2 : Int32)) fun t42 => if inB (((7 : Int32) * x1) + t42) 175 then nm (wrL b37.2 26 0 (((7 : Int32) * x1) + t42).toNatClampNeg ((rdL b37.2 26 0 (((7 : Int32) * x1) + t42).toNatClampNeg) + b22.2.1)) fun s46 => some s46 else none
abbrev rM_byLevel : Room := { frames := 3, cells := 0, slots := 0, locals := 77 }
set_option maxHeartbeats 4000000 in
theorem mM_byLevel (l : Launch) (D : va_G) (dA : Nat → ClassId) (A : Nat → Prop) (lc : Nat → Nat → Nat) (s : tt_St) (x1 : Int32) (x2 : Int64) {Q : Option Value → (Nat → Nat → Nat) → tt_St → Prop} (h : Ok (fM_byLevel s x1 x2) (fun r => Q none lc r)) : tt_Sp (XM l D dA A) yX11_byLevel cX11_byLevel 12 none rM_byLevel [.ref (lc 0 0), .int x1, .long x2] lc s Q := by
  refine tt_Sp.ofV plM kokM (Nat.le_of_ble_eq_true rfl) ?_
  show tt_V (XM l D dA A) cX11_byLevel (RX11, 12, none, rM_byLevel, tt_nt) (tt_fn (XM l D dA A) (RX11, 12, none, rM_byLevel, tt_nt) Q) 0 [(0, .ref (lc 0 0)), (1, .int x1), (2, .long x2)] [] lc s 0 0
  unfold fM_byLevel at h
  refine v_iconst dX11_byLevel_0 ic_0 ?_
  refine v_istore [(4, .int (0 : Int32)), (0, .ref (lc 0 0)), (1, .int x1), (2, .long x2)] dX11_byLevel_1 (Nat.le_of_ble_eq_true rfl) rfl ?_
  refine v_sub [1, 2, 3, 0] rfl ?_
  refine itr_loop (P := fun a1 : Int32 × tt_St => tt_V (XM l D dA A) cX11_byLevel (RX11, 12, none, rM_byLevel, tt_nt) (tt_fn (XM l D dA A) (RX11, 12, none, rM_byLevel, tt_nt) Q) 3 [(0, .ref (lc 0 0)), (1, .int x1), (2, .long x2), (4, .int a1.1)] [] lc a1.2 0 0) (PE := fun b2 : Int32 × tt_St => tt_V (XM l D dA A) cX11_byLevel (RX11, 12, none, rM_byLevel, tt_nt) (tt_fn (XM l D dA A) (RX11, 12, none, rM_byLevel, tt_nt) Q) 53 [(0, .ref (lc 0 0)), (1, .int x1), (2, .long x2), (4, .int b2.1)] [] lc b2.2 0 0) h (fun b2 h => ?_) (fun a1 h => ?_)
  · refine v_lconst dX11_byLevel_53 kl_0 ?_
    refine v_lstore [(4, .long (0 : Int64)), (0, .ref (lc 0 0)), (1, .int x1), (2, .long x2)] dX11_byLevel_54 (Nat.le_of_ble_eq_true rfl) rfl ?_
    refine v_ldc2 dX11_byLevel_56 q2087 ?_
    refine v_lstore [(6, .long (2000000000 : Int64)), (4, .long (0 : Int64)), (0, .ref (lc 0 0)), (1, .int x1), (2, .long x2)] dX11_byLevel_59 (Nat.le_of_ble_eq_true rfl) rfl ?_
    refine v_sub [2, 3, 4, 1, 0] rfl ?_
    refine itr_loop (P := fun a12 : Int64 × Int64 => tt_V (XM l D dA A) cX11_byLevel (RX11, 12, none, rM_byLevel, tt_nt) (tt_fn (XM l D dA A) (RX11, 12, none, rM_byLevel, tt_nt) Q) 61 [(0, .ref (lc 0 0)), (1, .int x1), (2, .long x2), (4, .long a12.1), (6, .long a12.2)] [] lc b2.2 0 0) (PE := fun b13 : Int64 × Int64 => tt_V (XM l D dA A) cX11_byLevel (RX11, 12, none, rM_byLevel, tt_nt) (tt_fn (XM l D dA A) (RX11, 12, none, rM_byLevel, tt_nt) Q) 109 [(0, .ref (lc 0 0)), (1, .int x1), (2, .long x2), (4, .long b13.1), (6, .long b13.2)] [] lc b2.2 0 0) h (fun b13 h => ?_) (fun a12 h => ?_)
    · refine v_iconst dX11_byLevel_109 ic_0 ?_
      refine v_istore [(8, .int (0 : Int32)), (0, .ref (lc 0 0)), (1, .int x1), (2, .long x2), (4, .long b13.1), (6, .long b13.2)] dX11_byLevel_110 (Nat.le_of_ble_eq_true rfl) rfl ?_
      refine v_lload_n 3 dX11_byLevel_112 rfl ?_
      refine v_aload_n 1 dX11_byLevel_113 rfl ?_
      refine v_lload 4 dX11_byLevel_114 rfl ?_
      refine cM_248 (Ok.bind h) ⟨Nat.le_of_ble_eq_true rfl, Nat.le_of_ble_eq_true rfl⟩ (Nat.le_of_ble_eq_true rfl) dX11_byLevel_116 (fun r19 h => ?_)
      refine v_lsub dX11_byLevel_119 ?_
      refine v_nmL (fun v20 e_v20 => ?_)
      have h := Ok.nm h e_v20
      refine v_lstore [(9, .long v20), (8, .int (0 : Int32)), (0, .ref (lc 0 0)), (1, .int x1), (2, .long x2), (4, .long b13.1), (6, .long b13.2)] dX11_byLevel_120 (Nat.le_of_ble_eq_true rfl) rfl ?_
      refine v_iconst dX11_byLevel_122 ic_0 ?_
      refine v_istore [(11, .int (0 : Int32)), (9, .long v20), (8, .int (0 : Int32)), (0, .ref (lc 0 0)), (1, .int x1), (2, .long x2), (4, .long b13.1), (6, .long b13.2)] dX11_byLevel_123 (Nat.le_of_ble_eq_true rfl) rfl ?_
      refine v_sub [3, 4, 6, 2, 1, 0] rfl ?_
      refine itr_loop (P := fun a21 : Int32 × Int64 × Int32 × tt_St => tt_V (XM l D dA A) cX11_byLevel (RX11, 12, none, rM_byLevel, tt_nt) (tt_fn (XM l D dA A) (RX11, 12, none, rM_byLevel, tt_nt) Q) 125 [(0, .ref (lc 0 0)), (1, .int x1), (4, .long b13.1), (8, .int a21.1), (9, .long a21.2.1), (11, .int a21.2.2.1)] [] lc a21.2.2.2 0 0) (PE := fun b22 : Int32 × Int64 × Int32 × tt_St => tt_V (XM l D dA A) cX11_byLevel (RX11, 12, none, rM_byLevel, tt_nt) (tt_fn (XM l D dA A) (RX11, 12, none, rM_byLevel, tt_nt) Q) 230 [(0, .ref (lc 0 0)), (1, .int x1), (4, .long b13.1), (8, .int b22.1), (9, .long b22.2.1), (11, .int b22.2.2.1)] [] lc b22.2.2.2 0 0) h (fun b22 h => ?_) (fun a21 h => ?_)
      · refine v_iconst dX11_byLevel_230 ic_0 ?_
        refine v_istore [(11, .int (0 : Int32)), (0, .ref (lc 0 0)), (1, .int x1), (4, .long b13.1), (8, .int b22.1), (9, .long b22.2.1)] dX11_byLevel_231 (Nat.le_of_ble_eq_true rfl) rfl ?_
        refine v_sub [1, 2, 4, 5, 0] rfl ?_
        refine itr_loop (P := fun a36 : Int32 × tt_St => tt_V (XM l D dA A) cX11_byLevel (RX11, 12, none, rM_byLevel, tt_nt) (tt_fn (XM l D dA A) (RX11, 12, none, rM_byLevel, tt_nt) Q) 233 [(0, .ref (lc 0 0)), (1, .int x1), (8, .int b22.1), (9, .long b22.2.1), (11, .int a36.1)] [] lc a36.2 0 0) (PE := fun b37 : Int32 × tt_St => tt_V (XM l D dA A) cX11_byLevel (RX11, 12, none, rM_byLevel, tt_nt) (tt_fn (XM l D dA A) (RX11, 12, none, rM_byLevel, tt_nt) Q) 273 [(0, .ref (lc 0 0)), (1, .int x1), (8, .int b22.1), (9, .long b22.2.1), (11, .int b37.1)] [] lc b37.2 0 0) h (fun b37 h => ?_) (fun a36 h => ?_)
        · refine v_aload_n 0 dX11_byLevel_273 rfl ?_
          refine gM_91 dX11_byLevel_274 ?_
          refine v_bipush dX11_byLevel_277 kb_7 ?_
          refine v_iload_n 1 dX11_byLevel_279 rfl ?_
          refine v_imul dX11_byLevel_280 ?_
          refine v_iload 2 dX11_byLevel_281 rfl ?_
          have J43 : ∀ t42, t42 = (if b22.1 = 0 then (3 : Int32) else (2 : Int32)) → tt_V (XM l D dA A) cX11_byLevel (RX11, 12, none, rM_byLevel, tt_nt) (tt_fn (XM l D dA A) (RX11, 12, none, rM_byLevel, tt_nt) Q) 291 [(9, .long b22.2.1)] [.int t42, .int ((7 : Int32) * x1), .ref (lc 26 0)] lc b37.2 0 0 := fun t42 e_t42 => by
            have h := Ok.nm h e_t42
            refine v_iadd dX11_byLevel_291 ?_
            refine v_dup2_11 dX11_byLevel_292 rfl rfl ?_
            obtain ⟨g45, h⟩ := Ok.guard h
            refine lM_26 g45 dX11_byLevel_293 ?_
            refine v_lload 0 dX11_byLevel_294 rfl ?_
            refine v_ladd dX11_byLevel_296 ?_
            refine sM_26 g45 dX11_byLevel_297 ?_
            refine v_nmS (fun s46 e_s46 => ?_)
            have h := Ok.nm h e_s46
            have h := Ok.ret h
            exact v_vret rfl (Nat.zero_le _) (Nat.zero_le _) dX11_byLevel_298 h
          refine v_if_ne (tgt := 290) dX11_byLevel_283 rfl (fun c44 => ?_) (fun c44 => ?_)
          · refine v_iconst dX11_byLevel_290 ic_2 ?_
            refine v_sub [3] rfl ?_
            exact J43 _ (by rw [if_neg c44])
          · refine v_iconst dX11_byLevel_286 ic_3 ?_
            refine v_goto (tgt := 291) dX11_byLevel_287 rfl ?_
            refine v_sub [3] rfl ?_
            exact J43 _ (by rw [if_pos c44])
        · have h : Ok (fM_byLevel_L233 x1 a36) _ := h
          unfold fM_byLevel_L233 at h
          refine v_iload 4 dX11_byLevel_233 rfl ?_
          refine v_bipush dX11_byLevel_235 kb_12 ?_
          refine v_icmp_ge (tgt := 273) dX11_byLevel_237 rfl (fun c38 => ?_) (fun c38 => ?_)
          · have h := Ok.pos h c38
            have h := Ok.ret h
            exact h
          · have h := Ok.neg h c38
            refine v_aload_n 0 dX11_byLevel_240 rfl ?_
            refine gM_121 dX11_byLevel_241 ?_
            refine v_iload 4 dX11_byLevel_244 rfl ?_
            obtain ⟨g39, h⟩ := Ok.guard h
            refine lM_40 g39 dX11_byLevel_246 ?_
            refine v_lconst dX11_byLevel_247 kl_0 ?_
            refine v_lif_le (tgt := 267) dX11_byLevel_248 dX11_byLevel_249 rfl (fun c40 => ?_) (fun c40 => ?_)
            · have h := Ok.pos h c40
              refine v_iinc (v := (a36.1 + 1 : Int32)) 4 [(11, .int (a36.1 + 1 : Int32)), (0, .ref (lc 0 0)), (1, .int x1), (8, .int b22.1), (9, .long b22.2.1)] dX11_byLevel_267 rfl (by rw [ic_1]) (Nat.le_of_ble_eq_true rfl) rfl ?_
              refine v_goto (tgt := 233) dX11_byLevel_270 rfl ?_
              refine v_sub [1, 2, 3, 4, 0] rfl ?_
              have h := Ok.ret h
              exact h
            · have h := Ok.neg h c40
              refine v_aload_n 0 dX11_byLevel_252 rfl ?_
              refine v_iload_n 1 dX11_byLevel_253 rfl ?_
              refine v_iload 4 dX11_byLevel_254 rfl ?_
              refine v_aload_n 0 dX11_byLevel_256 rfl ?_
              refine gM_121 dX11_byLevel_257 ?_
              refine v_iload 4 dX11_byLevel_260 rfl ?_
              refine lM_40 g39 dX11_byLevel_262 ?_
              refine cM_215 (Ok.bind h) ⟨Nat.le_of_ble_eq_true rfl, Nat.le_of_ble_eq_true rfl⟩ (Nat.le_of_ble_eq_true rfl) dX11_byLevel_263 (fun r41 h => ?_)
              refine v_pop2_2 dX11_byLevel_266 rfl ?_
              refine v_iinc (v := (a36.1 + 1 : Int32)) 4 [(11, .int (a36.1 + 1 : Int32)), (0, .ref (lc 0 0)), (1, .int x1), (8, .int b22.1), (9, .long b22.2.1)] dX11_byLevel_267 rfl (by rw [ic_1]) (Nat.le_of_ble_eq_true rfl) rfl ?_
              refine v_goto (tgt := 233) dX11_byLevel_270 rfl ?_
              refine v_sub [1, 2, 3, 4, 0] rfl ?_
              have h := Ok.ret h
              exact h
      · have h : Ok (fM_byLevel_L125 x1 b13 a21) _ := h
        unfold fM_byLevel_L125 at h
        refine v_iload 5 dX11_byLevel_125 rfl ?_
        refine v_bipush dX11_byLevel_127 kb_12 ?_
        refine v_icmp_ge (tgt := 230) dX11_byLevel_129 rfl (fun c23 => ?_) (fun c23 => ?_)
        · have h := Ok.pos h c23
          have h := Ok.ret h
          exact h
        · have h := Ok.neg h c23
          refine v_aload_n 0 dX11_byLevel_132 rfl ?_
          refine gM_121 dX11_byLevel_133 ?_
          refine v_iload 5 dX11_byLevel_136 rfl ?_
          refine v_lconst dX11_byLevel_138 kl_0 ?_
          obtain ⟨g24, h⟩ := Ok.guard h
          refine sM_40 g24 dX11_byLevel_139 ?_
          refine v_nmS (fun s25 e_s25 => ?_)
          have h := Ok.nm h e_s25
          refine v_aload_n 0 dX11_byLevel_140 rfl ?_
          refine v_iload_n 1 dX11_byLevel_141 rfl ?_
          refine v_iload 5 dX11_byLevel_142 rfl ?_
          refine cM_197 (Ok.bind h) ⟨Nat.le_of_ble_eq_true rfl, Nat.le_of_ble_eq_true rfl⟩ (Nat.le_of_ble_eq_true rfl) dX11_byLevel_144 (fun r26 z_r26 h => ?_)
          refine v_if_eq (tgt := 224) dX11_byLevel_147 rfl (fun c27 => ?_) (fun c27 => ?_)
          · have h := Ok.pos h c27
            refine v_iinc (v := (a21.2.2.1 + 1 : Int32)) 5 [(11, .int (a21.2.2.1 + 1 : Int32)), (0, .ref (lc 0 0)), (1, .int x1), (4, .long b13.1), (8, .int a21.1), (9, .long a21.2.1)] dX11_byLevel_224 rfl (by rw [ic_1]) (Nat.le_of_ble_eq_true rfl) rfl ?_
            refine v_goto (tgt := 125) dX11_byLevel_227 rfl ?_
            refine v_sub [1, 2, 3, 4, 5, 0] rfl ?_
            have h := Ok.ret h
            exact h
          · have h := Ok.neg h c27
            refine v_aload_n 0 dX11_byLevel_150 rfl ?_
            refine v_iload 5 dX11_byLevel_151 rfl ?_
            refine cM_205 (Ok.bind h) ⟨Nat.le_of_ble_eq_true rfl, Nat.le_of_ble_eq_true rfl⟩ (Nat.le_of_ble_eq_true rfl) dX11_byLevel_153 (fun r28 z_r28 h => ?_)
            refine v_if_eq (tgt := 162) dX11_byLevel_156 rfl (fun c29 => ?_) (fun c29 => ?_)
            · have h := Ok.pos h c29
              refine v_iinc (v := (a21.1 + 1 : Int32)) 3 [(8, .int (a21.1 + 1 : Int32)), (0, .ref (lc 0 0)), (1, .int x1), (4, .long b13.1), (9, .long a21.2.1), (11, .int a21.2.2.1)] dX11_byLevel_162 rfl (by rw [ic_1]) (Nat.le_of_ble_eq_true rfl) rfl ?_
              refine v_aload_n 1 dX11_byLevel_165 rfl ?_
              refine gM_121 dX11_byLevel_166 ?_
              refine v_iload 5 dX11_byLevel_169 rfl ?_
              refine v_lload 3 dX11_byLevel_171 rfl ?_
              refine v_aload_n 1 dX11_byLevel_173 rfl ?_
              refine gM_142 dX11_byLevel_174 ?_
              refine v_iload 5 dX11_byLevel_177 rfl ?_
              refine lM_47 g24 dX11_byLevel_179 ?_
              refine cM_179 (Ok.bind h) ⟨Nat.le_of_ble_eq_true rfl, Nat.le_of_ble_eq_true rfl⟩ (Nat.le_of_ble_eq_true rfl) dX11_byLevel_180 (fun r30 h => ?_)
              refine sM_40 g24 dX11_byLevel_183 ?_
              refine v_nmS (fun s31 e_s31 => ?_)
              have h := Ok.nm h e_s31
              refine v_lload 4 dX11_byLevel_184 rfl ?_
              refine v_lconst dX11_byLevel_186 kl_0 ?_
              refine v_lif_eq (tgt := 224) dX11_byLevel_187 dX11_byLevel_188 rfl (fun c32 => ?_) (fun c32 => ?_)
              · have h := Ok.pos h c32
                refine v_iinc (v := (a21.2.2.1 + 1 : Int32)) 5 [(11, .int (a21.2.2.1 + 1 : Int32)), (8, .int (a21.1 + 1 : Int32)), (0, .ref (lc 0 0)), (1, .int x1), (4, .long b13.1), (9, .long a21.2.1)] dX11_byLevel_224 rfl (by rw [ic_1]) (Nat.le_of_ble_eq_true rfl) rfl ?_
                refine v_goto (tgt := 125) dX11_byLevel_227 rfl ?_
                refine v_sub [2, 3, 4, 1, 5, 0] rfl ?_
                have h := Ok.ret h
                exact h
              · have h := Ok.neg h c32
                refine v_aload_n 1 dX11_byLevel_191 rfl ?_
                refine gM_142 dX11_byLevel_192 ?_
                refine v_iload 5 dX11_byLevel_195 rfl ?_
                refine lM_47 g24 dX11_byLevel_197 ?_
                refine v_lload 3 dX11_byLevel_198 rfl ?_
                refine v_lif_gt (tgt := 207) dX11_byLevel_200 dX11_byLevel_201 rfl (fun c33 => ?_) (fun c33 => ?_)
                · have h := Ok.pos h c33
                  refine v_aload_n 1 dX11_byLevel_207 rfl ?_
                  refine gM_121 dX11_byLevel_208 ?_
                  refine v_iload 5 dX11_byLevel_211 rfl ?_
                  refine v_dup2_11 dX11_byLevel_213 rfl rfl ?_
                  refine lM_40 g24 dX11_byLevel_214 ?_
                  refine v_lconst dX11_byLevel_215 kl_1 ?_
                  refine v_ladd dX11_byLevel_216 ?_
                  refine sM_40 g24 dX11_byLevel_217 ?_
                  refine v_nmS (fun s34 e_s34 => ?_)
                  have h := Ok.nm h e_s34
                  refine v_lload 4 dX11_byLevel_218 rfl ?_
                  refine v_lconst dX11_byLevel_220 kl_1 ?_
                  refine v_lsub dX11_byLevel_221 ?_
                  refine v_nmL (fun v35 e_v35 => ?_)
                  have h := Ok.nm h e_v35
                  refine v_lstore [(9, .long v35), (8, .int (a21.1 + 1 : Int32)), (0, .ref (lc 0 0)), (1, .int x1), (4, .long b13.1), (11, .int a21.2.2.1)] dX11_byLevel_222 (Nat.le_of_ble_eq_true rfl) rfl ?_
                  refine v_iinc (v := (a21.2.2.1 + 1 : Int32)) 5 [(11, .int (a21.2.2.1 + 1 : Int32)), (9, .long v35), (8, .int (a21.1 + 1 : Int32)), (0, .ref (lc 0 0)), (1, .int x1), (4, .long b13.1)] dX11_byLevel_224 rfl (by rw [ic_1]) (Nat.le_of_ble_eq_true rfl) rfl ?_
                  refine v_goto (tgt := 125) dX11_byLevel_227 rfl ?_
                  refine v_sub [3, 4, 5, 2, 1, 0] rfl ?_
                  have h := Ok.ret h
                  exact h
                · have h := Ok.neg h c33
                  refine v_goto (tgt := 224) dX11_byLevel_204 rfl ?_
                  refine v_iinc (v := (a21.2.2.1 + 1 : Int32)) 5 [(11, .int (a21.2.2.1 + 1 : Int32)), (8, .int (a21.1 + 1 : Int32)), (0, .ref (lc 0 0)), (1, .int x1), (4, .long b13.1), (9, .long a21.2.1)] dX11_byLevel_224 rfl (by rw [ic_1]) (Nat.le_of_ble_eq_true rfl) rfl ?_
                  refine v_goto (tgt := 125) dX11_byLevel_227 rfl ?_
                  refine v_sub [2, 3, 4, 1, 5, 0] rfl ?_
                  have h := Ok.ret h
                  exact h
            · have h := Ok.neg h c29
              refine v_goto (tgt := 224) dX11_byLevel_159 rfl ?_
              refine v_iinc (v := (a21.2.2.1 + 1 : Int32)) 5 [(11, .int (a21.2.2.1 + 1 : Int32)), (0, .ref (lc 0 0)), (1, .int x1), (4, .long b13.1), (8, .int a21.1), (9, .long a21.2.1)] dX11_byLevel_224 rfl (by rw [ic_1]) (Nat.le_of_ble_eq_true rfl) rfl ?_
              refine v_goto (tgt := 125) dX11_byLevel_227 rfl ?_
              refine v_sub [1, 2, 3, 4, 5, 0] rfl ?_
              have h := Ok.ret h
              exact h
    · have h : Ok (fM_byLevel_L61 x2 b2 a12) _ := h
      unfold fM_byLevel_L61 at h
      refine v_lload 3 dX11_byLevel_61 rfl ?_
      refine v_lload 4 dX11_byLevel_63 rfl ?_
      refine v_lif_ge (tgt := 109) dX11_byLevel_65 dX11_byLevel_66 rfl (fun c14 => ?_) (fun c14 => ?_)
      · have h := Ok.pos h c14
        have h := Ok.ret h
        exact h
      · have h := Ok.neg h c14
        refine v_lload 3 dX11_byLevel_69 rfl ?_
        refine v_lload 4 dX11_byLevel_71 rfl ?_
        refine v_ladd dX11_byLevel_73 ?_
        refine v_lconst dX11_byLevel_74 kl_1 ?_
        refine v_ladd dX11_byLevel_75 ?_
        refine v_ldc2 dX11_byLevel_76 q2088 ?_
        refine v_ldiv dX11_byLevel_79 (by decide) ?_
        refine v_nmL (fun v15 e_v15 => ?_)
        have h := Ok.nm h e_v15
        refine v_lstore [(8, .long v15), (0, .ref (lc 0 0)), (1, .int x1), (2, .long x2), (4, .long a12.1), (6, .long a12.2)] dX11_byLevel_80 (Nat.le_of_ble_eq_true rfl) rfl ?_
        refine v_aload_n 1 dX11_byLevel_82 rfl ?_
        refine v_lload 0 dX11_byLevel_83 rfl ?_
        refine cM_248 (Ok.bind h) ⟨Nat.le_of_ble_eq_true rfl, Nat.le_of_ble_eq_true rfl⟩ (Nat.le_of_ble_eq_true rfl) dX11_byLevel_85 (fun r16 h => ?_)
        refine v_lload_n 3 dX11_byLevel_88 rfl ?_
        refine v_lif_gt (tgt := 100) dX11_byLevel_89 dX11_byLevel_90 rfl (fun c17 => ?_) (fun c17 => ?_)
        · have h := Ok.pos h c17
          refine v_lload 0 dX11_byLevel_100 rfl ?_
          refine v_lconst dX11_byLevel_102 kl_1 ?_
          refine v_lsub dX11_byLevel_103 ?_
          refine v_nmL (fun v18 e_v18 => ?_)
          have h := Ok.nm h e_v18
          refine v_lstore [(6, .long v18), (8, .long v15), (0, .ref (lc 0 0)), (1, .int x1), (2, .long x2), (4, .long a12.1)] dX11_byLevel_104 (Nat.le_of_ble_eq_true rfl) rfl ?_
          refine v_goto (tgt := 61) dX11_byLevel_106 rfl ?_
          refine v_sub [2, 3, 4, 5, 0] rfl ?_
          have h := Ok.ret h
          exact h
        · have h := Ok.neg h c17
          refine v_lload 0 dX11_byLevel_93 rfl ?_
          refine v_lstore [(4, .long v15), (8, .long v15), (0, .ref (lc 0 0)), (1, .int x1), (2, .long x2), (6, .long a12.2)] dX11_byLevel_95 (Nat.le_of_ble_eq_true rfl) rfl ?_
          refine v_goto (tgt := 106) dX11_byLevel_97 rfl ?_
          refine v_goto (tgt := 61) dX11_byLevel_106 rfl ?_
          refine v_sub [2, 3, 4, 0, 5] rfl ?_
          have h := Ok.ret h
          exact h
  · have h : Ok (fM_byLevel_L3 x1 a1) _ := h
    unfold fM_byLevel_L3 at h
    refine v_iload 3 dX11_byLevel_3 rfl ?_
    refine v_bipush dX11_byLevel_5 kb_12 ?_
    refine v_icmp_ge (tgt := 53) dX11_byLevel_7 rfl (fun c3 => ?_) (fun c3 => ?_)
    · have h := Ok.pos h c3
      have h := Ok.ret h
      exact h
    · have h := Ok.neg h c3
      refine v_aload_n 0 dX11_byLevel_10 rfl ?_
      refine gM_142 dX11_byLevel_11 ?_
      refine v_iload 3 dX11_byLevel_14 rfl ?_
      refine v_aload_n 0 dX11_byLevel_16 rfl ?_
      refine v_iload_n 1 dX11_byLevel_17 rfl ?_
      refine v_iload 3 dX11_byLevel_18 rfl ?_
      refine cM_197 (Ok.bind h) ⟨Nat.le_of_ble_eq_true rfl, Nat.le_of_ble_eq_true rfl⟩ (Nat.le_of_ble_eq_true rfl) dX11_byLevel_20 (fun r4 z_r4 h => ?_)
      have h := Ok.join (PJ := fun t5 : Int64 => tt_V (XM l D dA A) cX11_byLevel (RX11, 12, none, rM_byLevel, tt_nt) (tt_fn (XM l D dA A) (RX11, 12, none, rM_byLevel, tt_nt) Q) 46 [(0, .ref (lc 0 0)), (1, .int x1), (2, .long x2), (4, .int a1.1)] [.long t5, .int a1.1, .ref (lc 47 0)] lc a1.2 0 0) h (fun t5 h => by
        obtain ⟨g10, h⟩ := Ok.guard h
        refine sM_47 g10 dX11_byLevel_46 ?_
        refine v_nmS (fun s11 e_s11 => ?_)
        have h := Ok.nm h e_s11
        refine v_iinc (v := (a1.1 + 1 : Int32)) 3 [(4, .int (a1.1 + 1 : Int32)), (0, .ref (lc 0 0)), (1, .int x1), (2, .long x2)] dX11_byLevel_47 rfl (by rw [ic_1]) (Nat.le_of_ble_eq_true rfl) rfl ?_
        refine v_goto (tgt := 3) dX11_byLevel_50 rfl ?_
        refine v_sub [1, 2, 3, 0] rfl ?_
        have h := Ok.ret h
        exact h)
      refine v_if_eq (tgt := 45) dX11_byLevel_23 rfl (fun c6 => ?_) (fun c6 => ?_)
      · have h := Ok.pos h c6
        refine v_lconst dX11_byLevel_45 kl_0 ?_
        have h := Ok.ret h
        exact h
      · have h := Ok.neg h c6
        refine v_aload_n 0 dX11_byLevel_26 rfl ?_
        refine v_iload 3 dX11_byLevel_27 rfl ?_
        refine cM_205 (Ok.bind h) ⟨Nat.le_of_ble_eq_true rfl, Nat.le_of_ble_eq_true rfl⟩ (Nat.le_of_ble_eq_true rfl) dX11_byLevel_29 (fun r7 z_r7 h => ?_)
        refine v_if_ne (tgt := 45) dX11_byLevel_32 rfl (fun c8 => ?_) (fun c8 => ?_)
        · have h := Ok.neg h c8
          refine v_lconst dX11_byLevel_45 kl_0 ?_
          have h := Ok.ret h
          exact h
        · have h := Ok.pos h c8
          refine v_aload_n 0 dX11_byLevel_35 rfl ?_
          refine v_iload_n 1 dX11_byLevel_36 rfl ?_
          refine v_iload 3 dX11_byLevel_37 rfl ?_
          refine cM_219 (Ok.bind h) ⟨Nat.le_of_ble_eq_true rfl, Nat.le_of_ble_eq_true rfl⟩ (Nat.le_of_ble_eq_true rfl) dX11_byLevel_39 (fun r9 h => ?_)
          refine v_goto (tgt := 46) dX11_byLevel_42 rfl ?_
          have h := Ok.ret h
          exact h
theorem cM_267 {l : Launch} {D : va_G} {dA : Nat → ClassId} {A : Nat → Prop} {lc : Nat → Nat → Nat} {s : tt_St} {cc : ByteArray} {nl : Nat} {rt : Option FieldType} {rm : Room} {tn : tt_Tn} {Q : tt_Fin} {pc : Nat} {lv : List (Nat × Value)} {rest : List Value} {ck cn : Nat} {x1 : Int32} {x2 : Int64} {K : tt_St → Prop} (h : Ok (fM_byLevel s x1 x2) K) (hR : 3 + 1 ≤ rm.frames ∧ 8 + (12 + 11) + 77 ≤ rm.locals) (hW : (rest.map fun v => v.category).sum ≤ 8) (d : decode cc pc = .ok (.invokevirtual 267, 3)) (kk : ∀ r, K r → tt_V (XM l D dA A) cc (RX11, nl, rt, rm, tn) Q (pc + 3) lv rest lc r ck cn) (hf : ck ≤ rm.cells ∧ cn ≤ rm.slots := by exact ⟨Nat.zero_le _, Nat.zero_le _⟩) : tt_V (XM l D dA A) cc (RX11, nl, rt, rm, tn) Q pc lv (.long x2 :: .int x1 :: .ref (lc 0 0) :: rest) lc s ck cn :=
  v_callV (kd := 0) (i := 0) (nA := 2) (As := [.int x1, .long x2]) lvM_0 oM rfl (mM_byLevel l D dA A lc s x1 x2 (Q := (fun v lc' s' => ∃ r, K r ∧ v = none ∧ lc' = lc ∧ s' = r)) (h.mono (fun r hr => ⟨r, hr, rfl, rfl, rfl⟩))) (lw_V q2083 q2085 qs88 q154 q2086) (by decide +kernel) rfl hR hW hf d rfl (fun v lc' s' q => by obtain ⟨r, hr, e1, e2, e3⟩ := q; rw [e1, e2, e3]; exact kk r hr)
def fM_fallsOn (s : tt_St) (x1 : Int32) (x2 : Int32) (x3 : Int64) : Option (tt_St) :=
  if inB (((7 : Int32) * x1) + x2) 175 then nm (wrL s 26 0 (((7 : Int32) * x1) + x2).toNatClampNeg ((rdL s 26 0 (((7 : Int32) * x1) + x2).toNatClampNeg) + x3)) fun s2 => some s2 else none
abbrev rM_fallsOn : Room := { frames := 0, cells := 0, slots := 0, locals := 0 }
set_option maxHeartbeats 4000000 in
theorem mM_fallsOn (l : Launch) (D : va_G) (dA : Nat → ClassId) (A : Nat → Prop) (lc : Nat → Nat → Nat) (s : tt_St) (x1 : Int32) (x2 : Int32) (x3 : Int64) {Q : Option Value → (Nat → Nat → Nat) → tt_St → Prop} (h : Ok (fM_fallsOn s x1 x2 x3) (fun r => Q none lc r)) : tt_Sp (XM l D dA A) yX11_fallsOn cX11_fallsOn 5 none rM_fallsOn [.ref (lc 0 0), .int x1, .int x2, .long x3] lc s Q := by
  refine tt_Sp.ofV plM kokM (Nat.le_of_ble_eq_true rfl) ?_
  show tt_V (XM l D dA A) cX11_fallsOn (RX11, 5, none, rM_fallsOn, tt_nt) (tt_fn (XM l D dA A) (RX11, 5, none, rM_fallsOn, tt_nt) Q) 0 [(0, .ref (lc 0 0)), (1, .int x1), (2, .int x2), (3, .long x3)] [] lc s 0 0
  unfold fM_fallsOn at h
  refine v_aload_n 0 dX11_fallsOn_0 rfl ?_
  refine gM_91 dX11_fallsOn_1 ?_
  refine v_bipush dX11_fallsOn_4 kb_7 ?_
  refine v_iload_n 1 dX11_fallsOn_6 rfl ?_
  refine v_imul dX11_fallsOn_7 ?_
  refine v_iload_n 2 dX11_fallsOn_8 rfl ?_
  refine v_iadd dX11_fallsOn_9 ?_
  refine v_dup2_11 dX11_fallsOn_10 rfl rfl ?_
  obtain ⟨g1, h⟩ := Ok.guard h
  refine lM_26 g1 dX11_fallsOn_11 ?_
  refine v_lload_n 3 dX11_fallsOn_12 rfl ?_
  refine v_ladd dX11_fallsOn_13 ?_
  refine sM_26 g1 dX11_fallsOn_14 ?_
  refine v_nmS (fun s2 e_s2 => ?_)
  have h := Ok.nm h e_s2
  have h := Ok.ret h
  exact v_vret rfl (Nat.zero_le _) (Nat.zero_le _) dX11_fallsOn_15 h
theorem cM_254 {l : Launch} {D : va_G} {dA : Nat → ClassId} {A : Nat → Prop} {lc : Nat → Nat → Nat} {s : tt_St} {cc : ByteArray} {nl : Nat} {rt : Option FieldType} {rm : Room} {tn : tt_Tn} {Q : tt_Fin} {pc : Nat} {lv : List (Nat × Value)} {rest : List Value} {ck cn : Nat} {x1 : Int32} {x2 : Int32} {x3 : Int64} {K : tt_St → Prop} (h : Ok (fM_fallsOn s x1 x2 x3) K) (hR : 0 + 1 ≤ rm.frames ∧ 8 + (5 + 11) + 0 ≤ rm.locals) (hW : (rest.map fun v => v.category).sum ≤ 8) (d : decode cc pc = .ok (.invokevirtual 254, 3)) (kk : ∀ r, K r → tt_V (XM l D dA A) cc (RX11, nl, rt, rm, tn) Q (pc + 3) lv rest lc r ck cn) (hf : ck ≤ rm.cells ∧ cn ≤ rm.slots := by exact ⟨Nat.zero_le _, Nat.zero_le _⟩) : tt_V (XM l D dA A) cc (RX11, nl, rt, rm, tn) Q pc lv (.long x3 :: .int x2 :: .int x1 :: .ref (lc 0 0) :: rest) lc s ck cn :=
  v_callV (kd := 0) (i := 0) (nA := 3) (As := [.int x1, .int x2, .long x3]) lvM_0 oM rfl (mM_fallsOn l D dA A lc s x1 x2 x3 (Q := (fun v lc' s' => ∃ r, K r ∧ v = none ∧ lc' = lc ∧ s' = r)) (h.mono (fun r hr => ⟨r, hr, rfl, rfl, rfl⟩))) (lw_V q2106 q2108 qs93 q154 q2109) (by decide +kernel) rfl hR hW hf d rfl (fun v lc' s' q => by obtain ⟨r, hr, e1, e2, e3⟩ := q; rw [e1, e2, e3]; exact kk r hr)
def fM_splits_L106 (x1 : Int32) (x2 : Int32) (a14 : Int64 × Int32 × tt_St) : Option ((Int64 × Int32 × tt_St) ⊕ (Int64 × Int32 × tt_St)) :=
  if (rdI a14.2.2 12 0 x2.toNatClampNeg) ≤ a14.2.1 then some (.inr (a14.1, a14.2.1, a14.2.2)) else if inB (((4 : Int32) * x2) + a14.2.1) 160 then nm (if a14.1 ≤ (0 : Int64) then (0 : Int64) else (1 : Int64)) fun t18 => nm ((((rdL a14.2.2 38 0 x2.toNatClampNeg) * ((rdI a14.2.2 14 0 (((4 : Int32) * x2) + a14.2.1).toNatClampNeg).toInt64)) / (10 : Int64)) + t18) fun v21 => nm (if a14.1 ≤ (0 : Int64) then (0 : Int64) else (1 : Int64)) fun t22 => nm (a14.1 - t22) fun v25 => nm (rdI a14.2.2 13 0 (((4 : Int32) * x2) + a14.2.1).toNatClampNeg) fun v26 => if inB ((((160 : Int32) * x1) + ((4 : Int32) * x2)) + a14.2.1) 4000 then nm (wrI a14.2.2 24 0 ((((160 : Int32) * x1) + ((4 : Int32) * x2)) + a14.2.1).toNatClampNeg ((rdI a14.2.2 24 0 ((((160 : Int32) * x1) + ((4 : Int32) * x2)) + a14.2.1).toNatClampNeg) + v21.toInt32)) fun s28 => if v26 = 0 then (fM_fallsOn s28 x1 (0 : Int32) v21).bind fun r38 => some (.inl (v25, (a14.2.1 + 1 : Int32), r38)) else if inB v26 10 then if (rdI s28 27 0 v26.toNatClampNeg) = 0 then if inB (((10 : Int32) * x1) + v26) 250 then nm (wrL s28 25 0 (((10 : Int32) * x1) + v26).toNatClampNeg ((rdL s28 25 0 (((10 : Int32) * x1) + v26).toNatClampNeg) + v21)) fun s37 => some (.inl (v25, (a14.2.1 + 1 : Int32), s37)) else none else nm (if (rdI s28 27 0 v26.toNatClampNeg) = (1 : Int32) then (5 : Int32) else (6 : Int32)) fun t32 => (fM_fallsOn s28 x1 t32 v21).bind fun r35 => some (.inl (v25, (a14.2.1 + 1 : Int32), r35)) else none else none else none
def fM_splits_L58 (s : tt_St) (x2 : Int32) (a9 : Int64 × Int32) : Option ((Int64 × Int32) ⊕ (Int64 × Int32)) :=
  if (rdI s 12 0 x2.toNatClampNeg) ≤ a9.2 then some (.inr (a9.1, a9.2)) else if inB (((4 : Int32) * x2) + a9.2) 160 then nm (a9.1 - (((rdL s 38 0 x2.toNatClampNeg) * ((rdI s 14 0 (((4 : Int32) * x2) + a9.2).toNatClampNeg).toInt64)) / (10 : Int64))) fun v13 => some (.inl (v13, (a9.2 + 1 : Int32))) else none
def fM_splits_L5 (s : tt_St) (x2 : Int32) (a1 : Int32 × Int32) : Option ((Int32 × Int32) ⊕ (Int32 × Int32)) :=
  if inB x2 40 then if (rdI s 12 0 x2.toNatClampNeg) ≤ a1.2 then some (.inr (a1.1, a1.2)) else if inB (((4 : Int32) * x2) + a1.2) 160 then nm (a1.1 + (rdI s 14 0 (((4 : Int32) * x2) + a1.2).toNatClampNeg)) fun v6 => some (.inl (v6, (a1.2 + 1 : Int32))) else none else none
def fM_splits (s : tt_St) (x1 : Int32) (x2 : Int32) : Option (tt_St) :=
  (itr (fM_splits_L5 s x2) tt_fuel ((0 : Int32), (0 : Int32))).bind fun b2 => if inB x2 40 then nm (((rdL s 38 0 x2.toNatClampNeg) * b2.1.toInt64) / (10 : Int64)) fun v8 => (itr (fM_splits_L58 s x2) tt_fuel (v8, (0 : Int32))).bind fun b10 => (itr (fM_splits_L106 x1 x2) tt_fuel (b10.1, (0 : Int32), s)).bind fun b15 => (fM_fallsOn b15.2.2 x1 (4 : Int32) ((rdL b15.2.2 38 0 x2.toNatClampNeg) - v8)).bind fun r39 => some r39 else none
abbrev rM_splits : Room := { frames := 1, cells := 0, slots := 0, locals := 24 }
set_option maxHeartbeats 4000000 in
theorem mM_splits (l : Launch) (D : va_G) (dA : Nat → ClassId) (A : Nat → Prop) (lc : Nat → Nat → Nat) (s : tt_St) (x1 : Int32) (x2 : Int32) {Q : Option Value → (Nat → Nat → Nat) → tt_St → Prop} (h : Ok (fM_splits s x1 x2) (fun r => Q none lc r)) : tt_Sp (XM l D dA A) yX11_splits cX11_splits 12 none rM_splits [.ref (lc 0 0), .int x1, .int x2] lc s Q := by
  refine tt_Sp.ofV plM kokM (Nat.le_of_ble_eq_true rfl) ?_
  show tt_V (XM l D dA A) cX11_splits (RX11, 12, none, rM_splits, tt_nt) (tt_fn (XM l D dA A) (RX11, 12, none, rM_splits, tt_nt) Q) 0 [(0, .ref (lc 0 0)), (1, .int x1), (2, .int x2)] [] lc s 0 0
  unfold fM_splits at h
  refine v_iconst dX11_splits_0 ic_0 ?_
  refine v_istore_n [(3, .int (0 : Int32)), (0, .ref (lc 0 0)), (1, .int x1), (2, .int x2)] dX11_splits_1 (Nat.le_of_ble_eq_true rfl) rfl ?_
  refine v_iconst dX11_splits_2 ic_0 ?_
  refine v_istore [(4, .int (0 : Int32)), (3, .int (0 : Int32)), (0, .ref (lc 0 0)), (1, .int x1), (2, .int x2)] dX11_splits_3 (Nat.le_of_ble_eq_true rfl) rfl ?_
  refine v_sub [2, 3, 4, 1, 0] rfl ?_
  refine itr_loop (P := fun a1 : Int32 × Int32 => tt_V (XM l D dA A) cX11_splits (RX11, 12, none, rM_splits, tt_nt) (tt_fn (XM l D dA A) (RX11, 12, none, rM_splits, tt_nt) Q) 5 [(0, .ref (lc 0 0)), (1, .int x1), (2, .int x2), (3, .int a1.1), (4, .int a1.2)] [] lc s 0 0) (PE := fun b2 : Int32 × Int32 => tt_V (XM l D dA A) cX11_splits (RX11, 12, none, rM_splits, tt_nt) (tt_fn (XM l D dA A) (RX11, 12, none, rM_splits, tt_nt) Q) 36 [(0, .ref (lc 0 0)), (1, .int x1), (2, .int x2), (3, .int b2.1), (4, .int b2.2)] [] lc s 0 0) h (fun b2 h => ?_) (fun a1 h => ?_)
  · refine v_aload_n 0 dX11_splits_36 rfl ?_
    refine gM_115 dX11_splits_37 ?_
    refine v_iload_n 2 dX11_splits_40 rfl ?_
    obtain ⟨g7, h⟩ := Ok.guard h
    refine lM_38 g7 dX11_splits_41 ?_
    refine v_iload_n 3 dX11_splits_42 rfl ?_
    refine v_i2l dX11_splits_43 rfl ?_
    refine v_lmul dX11_splits_44 ?_
    refine v_ldc2 dX11_splits_45 q2105 ?_
    refine v_ldiv dX11_splits_48 (by decide) ?_
    refine v_nmL (fun v8 e_v8 => ?_)
    have h := Ok.nm h e_v8
    refine v_lstore [(4, .long v8), (0, .ref (lc 0 0)), (1, .int x1), (2, .int x2), (3, .int b2.1)] dX11_splits_49 (Nat.le_of_ble_eq_true rfl) rfl ?_
    refine v_lload 0 dX11_splits_51 rfl ?_
    refine v_lstore [(6, .long v8), (4, .long v8), (0, .ref (lc 0 0)), (1, .int x1), (2, .int x2), (3, .int b2.1)] dX11_splits_53 (Nat.le_of_ble_eq_true rfl) rfl ?_
    refine v_iconst dX11_splits_55 ic_0 ?_
    refine v_istore [(8, .int (0 : Int32)), (6, .long v8), (4, .long v8), (0, .ref (lc 0 0)), (1, .int x1), (2, .int x2), (3, .int b2.1)] dX11_splits_56 (Nat.le_of_ble_eq_true rfl) rfl ?_
    refine v_sub [3, 4, 5, 2, 1, 0] rfl ?_
    refine itr_loop (P := fun a9 : Int64 × Int32 => tt_V (XM l D dA A) cX11_splits (RX11, 12, none, rM_splits, tt_nt) (tt_fn (XM l D dA A) (RX11, 12, none, rM_splits, tt_nt) Q) 58 [(0, .ref (lc 0 0)), (1, .int x1), (2, .int x2), (4, .long v8), (6, .long a9.1), (8, .int a9.2)] [] lc s 0 0) (PE := fun b10 : Int64 × Int32 => tt_V (XM l D dA A) cX11_splits (RX11, 12, none, rM_splits, tt_nt) (tt_fn (XM l D dA A) (RX11, 12, none, rM_splits, tt_nt) Q) 103 [(0, .ref (lc 0 0)), (1, .int x1), (2, .int x2), (4, .long v8), (6, .long b10.1), (8, .int b10.2)] [] lc s 0 0) h (fun b10 h => ?_) (fun a9 h => ?_)
    · refine v_iconst dX11_splits_103 ic_0 ?_
      refine v_istore [(8, .int (0 : Int32)), (0, .ref (lc 0 0)), (1, .int x1), (2, .int x2), (4, .long v8), (6, .long b10.1)] dX11_splits_104 (Nat.le_of_ble_eq_true rfl) rfl ?_
      refine v_sub [1, 2, 3, 4, 5, 0] rfl ?_
      refine itr_loop (P := fun a14 : Int64 × Int32 × tt_St => tt_V (XM l D dA A) cX11_splits (RX11, 12, none, rM_splits, tt_nt) (tt_fn (XM l D dA A) (RX11, 12, none, rM_splits, tt_nt) Q) 106 [(0, .ref (lc 0 0)), (1, .int x1), (2, .int x2), (4, .long v8), (6, .long a14.1), (8, .int a14.2.1)] [] lc a14.2.2 0 0) (PE := fun b15 : Int64 × Int32 × tt_St => tt_V (XM l D dA A) cX11_splits (RX11, 12, none, rM_splits, tt_nt) (tt_fn (XM l D dA A) (RX11, 12, none, rM_splits, tt_nt) Q) 284 [(0, .ref (lc 0 0)), (1, .int x1), (2, .int x2), (4, .long v8), (6, .long b15.1), (8, .int b15.2.1)] [] lc b15.2.2 0 0) h (fun b15 h => ?_) (fun a14 h => ?_)
      · refine v_aload_n 0 dX11_splits_284 rfl ?_
        refine v_iload_n 1 dX11_splits_285 rfl ?_
        refine v_iconst dX11_splits_286 ic_4 ?_
        refine v_aload_n 0 dX11_splits_287 rfl ?_
        refine gM_115 dX11_splits_288 ?_
        refine v_iload_n 2 dX11_splits_291 rfl ?_
        refine lM_38 g7 dX11_splits_292 ?_
        refine v_lload 3 dX11_splits_293 rfl ?_
        refine v_lsub dX11_splits_295 ?_
        refine cM_254 (Ok.bind h) ⟨Nat.le_of_ble_eq_true rfl, Nat.le_of_ble_eq_true rfl⟩ (Nat.le_of_ble_eq_true rfl) dX11_splits_296 (fun r39 h => ?_)
        have h := Ok.ret h
        exact v_vret rfl (Nat.zero_le _) (Nat.zero_le _) dX11_splits_299 h
      · have h : Ok (fM_splits_L106 x1 x2 a14) _ := h
        unfold fM_splits_L106 at h
        refine v_iload 5 dX11_splits_106 rfl ?_
        refine v_aload_n 0 dX11_splits_108 rfl ?_
        refine gM_48 dX11_splits_109 ?_
        refine v_iload_n 2 dX11_splits_112 rfl ?_
        refine lM_12 g7 dX11_splits_113 ?_
        refine v_icmp_ge (tgt := 284) dX11_splits_114 rfl (fun c16 => ?_) (fun c16 => ?_)
        · have h := Ok.pos h c16
          have h := Ok.ret h
          exact h
        · have h := Ok.neg h c16
          refine v_aload_n 0 dX11_splits_117 rfl ?_
          refine gM_115 dX11_splits_118 ?_
          refine v_iload_n 2 dX11_splits_121 rfl ?_
          refine lM_38 g7 dX11_splits_122 ?_
          refine v_aload_n 0 dX11_splits_123 rfl ?_
          refine gM_54 dX11_splits_124 ?_
          refine v_iconst dX11_splits_127 ic_4 ?_
          refine v_iload_n 2 dX11_splits_128 rfl ?_
          refine v_imul dX11_splits_129 ?_
          refine v_iload 5 dX11_splits_130 rfl ?_
          refine v_iadd dX11_splits_132 ?_
          obtain ⟨g17, h⟩ := Ok.guard h
          refine lM_14 g17 dX11_splits_133 ?_
          refine v_i2l dX11_splits_134 rfl ?_
          refine v_lmul dX11_splits_135 ?_
          refine v_ldc2 dX11_splits_136 q2105 ?_
          refine v_ldiv dX11_splits_139 (by decide) ?_
          refine v_lload 4 dX11_splits_140 rfl ?_
          refine v_lconst dX11_splits_142 kl_0 ?_
          have J19 : ∀ t18, t18 = (if a14.1 ≤ (0 : Int64) then (0 : Int64) else (1 : Int64)) → tt_V (XM l D dA A) cX11_splits (RX11, 12, none, rM_splits, tt_nt) (tt_fn (XM l D dA A) (RX11, 12, none, rM_splits, tt_nt) Q) 152 [(0, .ref (lc 0 0)), (1, .int x1), (2, .int x2), (4, .long v8), (6, .long a14.1), (8, .int a14.2.1)] [.long t18, .long (((rdL a14.2.2 38 0 x2.toNatClampNeg) * ((rdI a14.2.2 14 0 (((4 : Int32) * x2) + a14.2.1).toNatClampNeg).toInt64)) / (10 : Int64))] lc a14.2.2 0 0 := fun t18 e_t18 => by
            have h := Ok.nm h e_t18
            refine v_ladd dX11_splits_152 ?_
            refine v_nmL (fun v21 e_v21 => ?_)
            have h := Ok.nm h e_v21
            refine v_lstore [(9, .long v21), (0, .ref (lc 0 0)), (1, .int x1), (2, .int x2), (4, .long v8), (6, .long a14.1), (8, .int a14.2.1)] dX11_splits_153 (Nat.le_of_ble_eq_true rfl) rfl ?_
            refine v_lload 5 dX11_splits_155 rfl ?_
            refine v_lload 5 dX11_splits_157 rfl ?_
            refine v_lconst dX11_splits_159 kl_0 ?_
            have J23 : ∀ t22, t22 = (if a14.1 ≤ (0 : Int64) then (0 : Int64) else (1 : Int64)) → tt_V (XM l D dA A) cX11_splits (RX11, 12, none, rM_splits, tt_nt) (tt_fn (XM l D dA A) (RX11, 12, none, rM_splits, tt_nt) Q) 169 [(0, .ref (lc 0 0)), (1, .int x1), (2, .int x2), (4, .long v8), (8, .int a14.2.1), (9, .long v21)] [.long t22, .long a14.1] lc a14.2.2 0 0 := fun t22 e_t22 => by
              have h := Ok.nm h e_t22
              refine v_lsub dX11_splits_169 ?_
              refine v_nmL (fun v25 e_v25 => ?_)
              have h := Ok.nm h e_v25
              refine v_lstore [(6, .long v25), (0, .ref (lc 0 0)), (1, .int x1), (2, .int x2), (4, .long v8), (8, .int a14.2.1), (9, .long v21)] dX11_splits_170 (Nat.le_of_ble_eq_true rfl) rfl ?_
              refine v_aload_n 1 dX11_splits_172 rfl ?_
              refine gM_51 dX11_splits_173 ?_
              refine v_iconst dX11_splits_176 ic_4 ?_
              refine v_iload_n 3 dX11_splits_177 rfl ?_
              refine v_imul dX11_splits_178 ?_
              refine v_iload 5 dX11_splits_179 rfl ?_
              refine v_iadd dX11_splits_181 ?_
              refine lM_13 g17 dX11_splits_182 ?_
              refine v_nmI (fun v26 e_v26 => ?_)
              have h := Ok.nm h e_v26
              refine v_istore [(11, .int v26), (6, .long v25), (0, .ref (lc 0 0)), (1, .int x1), (2, .int x2), (4, .long v8), (8, .int a14.2.1), (9, .long v21)] dX11_splits_183 (Nat.le_of_ble_eq_true rfl) rfl ?_
              refine v_aload_n 2 dX11_splits_185 rfl ?_
              refine gM_85 dX11_splits_186 ?_
              refine v_sipush dX11_splits_189 ks_160 ?_
              refine v_iload_n 3 dX11_splits_192 rfl ?_
              refine v_imul dX11_splits_193 ?_
              refine v_iconst dX11_splits_194 ic_4 ?_
              refine v_iload_n 4 dX11_splits_195 rfl ?_
              refine v_imul dX11_splits_196 ?_
              refine v_iadd dX11_splits_197 ?_
              refine v_iload 6 dX11_splits_198 rfl ?_
              refine v_iadd dX11_splits_200 ?_
              refine v_dup2_11 dX11_splits_201 rfl rfl ?_
              obtain ⟨g27, h⟩ := Ok.guard h
              refine lM_24 g27 dX11_splits_202 ?_
              refine v_lload 7 dX11_splits_203 rfl ?_
              refine v_l2i dX11_splits_205 rfl ?_
              refine v_iadd dX11_splits_206 ?_
              refine sM_24 g27 dX11_splits_207 ?_
              refine v_nmS (fun s28 e_s28 => ?_)
              have h := Ok.nm h e_s28
              refine v_iload 0 dX11_splits_208 rfl ?_
              refine v_if_ne (tgt := 224) dX11_splits_210 rfl (fun c29 => ?_) (fun c29 => ?_)
              · have h := Ok.neg h c29
                refine v_aload_n 2 dX11_splits_224 rfl ?_
                refine gM_94 dX11_splits_225 ?_
                refine v_iload 0 dX11_splits_228 rfl ?_
                obtain ⟨g30, h⟩ := Ok.guard h
                refine lM_27 g30 dX11_splits_230 ?_
                refine v_if_ne (tgt := 254) dX11_splits_231 rfl (fun c31 => ?_) (fun c31 => ?_)
                · have h := Ok.neg h c31
                  refine v_aload_n 2 dX11_splits_254 rfl ?_
                  refine v_iload_n 3 dX11_splits_255 rfl ?_
                  refine v_aload_n 2 dX11_splits_256 rfl ?_
                  refine gM_94 dX11_splits_257 ?_
                  refine v_iload 0 dX11_splits_260 rfl ?_
                  refine lM_27 g30 dX11_splits_262 ?_
                  refine v_iconst dX11_splits_263 ic_1 ?_
                  have J33 : ∀ t32, t32 = (if (rdI s28 27 0 v26.toNatClampNeg) = (1 : Int32) then (5 : Int32) else (6 : Int32)) → tt_V (XM l D dA A) cX11_splits (RX11, 12, none, rM_splits, tt_nt) (tt_fn (XM l D dA A) (RX11, 12, none, rM_splits, tt_nt) Q) 273 [(0, .ref (lc 0 0)), (1, .int x1), (2, .int x2), (4, .long v8), (6, .long v25), (8, .int a14.2.1), (9, .long v21)] [.int t32, .int x1, .ref (lc 0 0)] lc s28 0 0 := fun t32 e_t32 => by
                    have h := Ok.nm h e_t32
                    refine v_lload 6 dX11_splits_273 rfl ?_
                    refine cM_254 (Ok.bind h) ⟨Nat.le_of_ble_eq_true rfl, Nat.le_of_ble_eq_true rfl⟩ (Nat.le_of_ble_eq_true rfl) dX11_splits_275 (fun r35 h => ?_)
                    refine v_iinc (v := (a14.2.1 + 1 : Int32)) 5 [(8, .int (a14.2.1 + 1 : Int32)), (0, .ref (lc 0 0)), (1, .int x1), (2, .int x2), (4, .long v8), (6, .long v25), (9, .long v21)] dX11_splits_278 rfl (by rw [ic_1]) (Nat.le_of_ble_eq_true rfl) rfl ?_
                    refine v_goto (tgt := 106) dX11_splits_281 rfl ?_
                    refine v_sub [1, 2, 3, 4, 5, 0] rfl ?_
                    have h := Ok.ret h
                    exact h
                  refine v_icmp_ne (tgt := 271) dX11_splits_264 rfl (fun c34 => ?_) (fun c34 => ?_)
                  · refine v_bipush dX11_splits_271 kb_6 ?_
                    refine v_sub [2, 3, 4, 5, 1, 6, 7] rfl ?_
                    exact J33 _ (by rw [if_neg c34])
                  · refine v_iconst dX11_splits_267 ic_5 ?_
                    refine v_goto (tgt := 273) dX11_splits_268 rfl ?_
                    refine v_sub [2, 3, 4, 5, 1, 6, 7] rfl ?_
                    exact J33 _ (by rw [if_pos c34])
                · have h := Ok.pos h c31
                  refine v_aload_n 2 dX11_splits_234 rfl ?_
                  refine gM_88 dX11_splits_235 ?_
                  refine v_bipush dX11_splits_238 kb_10 ?_
                  refine v_iload_n 3 dX11_splits_240 rfl ?_
                  refine v_imul dX11_splits_241 ?_
                  refine v_iload 0 dX11_splits_242 rfl ?_
                  refine v_iadd dX11_splits_244 ?_
                  refine v_dup2_11 dX11_splits_245 rfl rfl ?_
                  obtain ⟨g36, h⟩ := Ok.guard h
                  refine lM_25 g36 dX11_splits_246 ?_
                  refine v_lload 7 dX11_splits_247 rfl ?_
                  refine v_ladd dX11_splits_249 ?_
                  refine sM_25 g36 dX11_splits_250 ?_
                  refine v_nmS (fun s37 e_s37 => ?_)
                  have h := Ok.nm h e_s37
                  refine v_goto (tgt := 278) dX11_splits_251 rfl ?_
                  refine v_iinc (v := (a14.2.1 + 1 : Int32)) 6 [(8, .int (a14.2.1 + 1 : Int32)), (11, .int v26), (6, .long v25), (0, .ref (lc 0 0)), (1, .int x1), (2, .int x2), (4, .long v8), (9, .long v21)] dX11_splits_278 rfl (by rw [ic_1]) (Nat.le_of_ble_eq_true rfl) rfl ?_
                  refine v_goto (tgt := 106) dX11_splits_281 rfl ?_
                  refine v_sub [3, 4, 5, 6, 2, 0] rfl ?_
                  have h := Ok.ret h
                  exact h
              · have h := Ok.pos h c29
                refine v_aload_n 2 dX11_splits_213 rfl ?_
                refine v_iload_n 3 dX11_splits_214 rfl ?_
                refine v_iconst dX11_splits_215 ic_0 ?_
                refine v_lload 7 dX11_splits_216 rfl ?_
                refine cM_254 (Ok.bind h) ⟨Nat.le_of_ble_eq_true rfl, Nat.le_of_ble_eq_true rfl⟩ (Nat.le_of_ble_eq_true rfl) dX11_splits_218 (fun r38 h => ?_)
                refine v_goto (tgt := 278) dX11_splits_221 rfl ?_
                refine v_iinc (v := (a14.2.1 + 1 : Int32)) 6 [(8, .int (a14.2.1 + 1 : Int32)), (11, .int v26), (6, .long v25), (0, .ref (lc 0 0)), (1, .int x1), (2, .int x2), (4, .long v8), (9, .long v21)] dX11_splits_278 rfl (by rw [ic_1]) (Nat.le_of_ble_eq_true rfl) rfl ?_
                refine v_goto (tgt := 106) dX11_splits_281 rfl ?_
                refine v_sub [3, 4, 5, 6, 2, 0] rfl ?_
                have h := Ok.ret h
                exact h
            refine v_lif_le (tgt := 168) dX11_splits_160 dX11_splits_161 rfl (fun c24 => ?_) (fun c24 => ?_)
            · refine v_lconst dX11_splits_168 kl_0 ?_
              refine v_sub [1, 2, 3, 4, 6, 0] rfl ?_
              exact J23 _ (by rw [if_pos c24])
            · refine v_lconst dX11_splits_164 kl_1 ?_
              refine v_goto (tgt := 169) dX11_splits_165 rfl ?_
              refine v_sub [1, 2, 3, 4, 6, 0] rfl ?_
              exact J23 _ (by rw [if_neg c24])
          refine v_lif_le (tgt := 151) dX11_splits_143 dX11_splits_144 rfl (fun c20 => ?_) (fun c20 => ?_)
          · refine v_lconst dX11_splits_151 kl_0 ?_
            exact J19 _ (by rw [if_pos c20])
          · refine v_lconst dX11_splits_147 kl_1 ?_
            refine v_goto (tgt := 152) dX11_splits_148 rfl ?_
            exact J19 _ (by rw [if_neg c20])
    · have h : Ok (fM_splits_L58 s x2 a9) _ := h
      unfold fM_splits_L58 at h
      refine v_iload 5 dX11_splits_58 rfl ?_
      refine v_aload_n 0 dX11_splits_60 rfl ?_
      refine gM_48 dX11_splits_61 ?_
      refine v_iload_n 2 dX11_splits_64 rfl ?_
      refine lM_12 g7 dX11_splits_65 ?_
      refine v_icmp_ge (tgt := 103) dX11_splits_66 rfl (fun c11 => ?_) (fun c11 => ?_)
      · have h := Ok.pos h c11
        have h := Ok.ret h
        exact h
      · have h := Ok.neg h c11
        refine v_lload 4 dX11_splits_69 rfl ?_
        refine v_aload_n 0 dX11_splits_71 rfl ?_
        refine gM_115 dX11_splits_72 ?_
        refine v_iload_n 2 dX11_splits_75 rfl ?_
        refine lM_38 g7 dX11_splits_76 ?_
        refine v_aload_n 0 dX11_splits_77 rfl ?_
        refine gM_54 dX11_splits_78 ?_
        refine v_iconst dX11_splits_81 ic_4 ?_
        refine v_iload_n 2 dX11_splits_82 rfl ?_
        refine v_imul dX11_splits_83 ?_
        refine v_iload 5 dX11_splits_84 rfl ?_
        refine v_iadd dX11_splits_86 ?_
        obtain ⟨g12, h⟩ := Ok.guard h
        refine lM_14 g12 dX11_splits_87 ?_
        refine v_i2l dX11_splits_88 rfl ?_
        refine v_lmul dX11_splits_89 ?_
        refine v_ldc2 dX11_splits_90 q2105 ?_
        refine v_ldiv dX11_splits_93 (by decide) ?_
        refine v_lsub dX11_splits_94 ?_
        refine v_nmL (fun v13 e_v13 => ?_)
        have h := Ok.nm h e_v13
        refine v_lstore [(6, .long v13), (0, .ref (lc 0 0)), (1, .int x1), (2, .int x2), (4, .long v8), (8, .int a9.2)] dX11_splits_95 (Nat.le_of_ble_eq_true rfl) rfl ?_
        refine v_iinc (v := (a9.2 + 1 : Int32)) 5 [(8, .int (a9.2 + 1 : Int32)), (6, .long v13), (0, .ref (lc 0 0)), (1, .int x1), (2, .int x2), (4, .long v8)] dX11_splits_97 rfl (by rw [ic_1]) (Nat.le_of_ble_eq_true rfl) rfl ?_
        refine v_goto (tgt := 58) dX11_splits_100 rfl ?_
        refine v_sub [2, 3, 4, 5, 1, 0] rfl ?_
        have h := Ok.ret h
        exact h
  · have h : Ok (fM_splits_L5 s x2 a1) _ := h
    unfold fM_splits_L5 at h
    refine v_iload 4 dX11_splits_5 rfl ?_
    refine v_aload_n 0 dX11_splits_7 rfl ?_
    refine gM_48 dX11_splits_8 ?_
    refine v_iload_n 2 dX11_splits_11 rfl ?_
    obtain ⟨g3, h⟩ := Ok.guard h
    refine lM_12 g3 dX11_splits_12 ?_
    refine v_icmp_ge (tgt := 36) dX11_splits_13 rfl (fun c4 => ?_) (fun c4 => ?_)
    · have h := Ok.pos h c4
      have h := Ok.ret h
      exact h
    · have h := Ok.neg h c4
      refine v_iload_n 3 dX11_splits_16 rfl ?_
      refine v_aload_n 0 dX11_splits_17 rfl ?_
      refine gM_54 dX11_splits_18 ?_
      refine v_iconst dX11_splits_21 ic_4 ?_
      refine v_iload_n 2 dX11_splits_22 rfl ?_
      refine v_imul dX11_splits_23 ?_
      refine v_iload 4 dX11_splits_24 rfl ?_
      refine v_iadd dX11_splits_26 ?_
      obtain ⟨g5, h⟩ := Ok.guard h
      refine lM_14 g5 dX11_splits_27 ?_
      refine v_iadd dX11_splits_28 ?_
      refine v_nmI (fun v6 e_v6 => ?_)
      have h := Ok.nm h e_v6
      refine v_istore_n [(3, .int v6), (0, .ref (lc 0 0)), (1, .int x1), (2, .int x2), (4, .int a1.2)] dX11_splits_29 (Nat.le_of_ble_eq_true rfl) rfl ?_
      refine v_iinc (v := (a1.2 + 1 : Int32)) 4 [(4, .int (a1.2 + 1 : Int32)), (3, .int v6), (0, .ref (lc 0 0)), (1, .int x1), (2, .int x2)] dX11_splits_30 rfl (by rw [ic_1]) (Nat.le_of_ble_eq_true rfl) rfl ?_
      refine v_goto (tgt := 5) dX11_splits_33 rfl ?_
      refine v_sub [2, 3, 4, 1, 0] rfl ?_
      have h := Ok.ret h
      exact h
theorem cM_273 {l : Launch} {D : va_G} {dA : Nat → ClassId} {A : Nat → Prop} {lc : Nat → Nat → Nat} {s : tt_St} {cc : ByteArray} {nl : Nat} {rt : Option FieldType} {rm : Room} {tn : tt_Tn} {Q : tt_Fin} {pc : Nat} {lv : List (Nat × Value)} {rest : List Value} {ck cn : Nat} {x1 : Int32} {x2 : Int32} {K : tt_St → Prop} (h : Ok (fM_splits s x1 x2) K) (hR : 1 + 1 ≤ rm.frames ∧ 8 + (12 + 11) + 24 ≤ rm.locals) (hW : (rest.map fun v => v.category).sum ≤ 8) (d : decode cc pc = .ok (.invokevirtual 273, 3)) (kk : ∀ r, K r → tt_V (XM l D dA A) cc (RX11, nl, rt, rm, tn) Q (pc + 3) lv rest lc r ck cn) (hf : ck ≤ rm.cells ∧ cn ≤ rm.slots := by exact ⟨Nat.zero_le _, Nat.zero_le _⟩) : tt_V (XM l D dA A) cc (RX11, nl, rt, rm, tn) Q pc lv (.int x2 :: .int x1 :: .ref (lc 0 0) :: rest) lc s ck cn :=
  v_callV (kd := 0) (i := 0) (nA := 2) (As := [.int x1, .int x2]) lvM_0 oM rfl (mM_splits l D dA A lc s x1 x2 (Q := (fun v lc' s' => ∃ r, K r ∧ v = none ∧ lc' = lc ∧ s' = r)) (h.mono (fun r hr => ⟨r, hr, rfl, rfl, rfl⟩))) (lw_V q2101 q2103 qs92 q154 q2104) (by decide +kernel) rfl hR hW hf d rfl (fun v lc' s' q => by obtain ⟨r, hr, e1, e2, e3⟩ := q; rw [e1, e2, e3]; exact kk r hr)
def fM_spreads_L98 (x1 : Int32) (a18 : Int32 × tt_St) : Option ((Int32 × tt_St) ⊕ (Int32 × tt_St)) :=
  if (40 : Int32) ≤ a18.1 then some (.inr (a18.1, a18.2)) else if inB a18.1 40 then if (rdL a18.2 38 0 a18.1.toNatClampNeg) ≤ (0 : Int64) then some (.inl ((a18.1 + 1 : Int32), a18.2)) else (fM_splits a18.2 x1 a18.1).bind fun r23 => some (.inl ((a18.1 + 1 : Int32), r23)) else none
def fM_spreads_L3  (a1 : Int32 × tt_St) : Option ((Int32 × tt_St) ⊕ (Int32 × tt_St)) :=
  if (40 : Int32) ≤ a1.1 then some (.inr (a1.1, a1.2)) else if inB a1.1 40 then nm (wrL a1.2 38 0 a1.1.toNatClampNeg (0 : Int64)) fun s5 => some (.inl ((a1.1 + 1 : Int32), s5)) else none
def fM_spreads (s : tt_St) (x1 : Int32) (x2 : Int64) : Option (tt_St) :=
  (itr (fM_spreads_L3) tt_fuel ((0 : Int32), s)).bind fun b2 => (if (rdI b2.2 0 0 31) = (2 : Int32) then (fM_laysFair b2.2 x1 x2).bind fun r15 => (fM_byFull r15 x1 x2).bind fun r16 => (fM_contributes r16 x1).bind fun r17 => some r17 else if (rdI b2.2 0 0 31) = (3 : Int32) then (fM_byLevel b2.2 x1 x2).bind fun r14 => some r14 else (if (rdI b2.2 0 0 31) = 0 then (fM_laysLike b2.2 x1).bind fun r12 => some r12 else (fM_laysSizes b2.2 x1).bind fun r11 => some r11 : Option (tt_St)).bind fun t9 => (fM_byShares t9 x1 x2).bind fun r13 => some r13 : Option (tt_St)).bind fun t6 => (itr (fM_spreads_L98 x1) tt_fuel ((0 : Int32), t6)).bind fun b19 => some b19.2
abbrev rM_spreads : Room := { frames := 6, cells := 0, slots := 0, locals := 144 }
set_option maxHeartbeats 4000000 in
theorem mM_spreads (l : Launch) (D : va_G) (dA : Nat → ClassId) (A : Nat → Prop) (lc : Nat → Nat → Nat) (s : tt_St) (x1 : Int32) (x2 : Int64) {Q : Option Value → (Nat → Nat → Nat) → tt_St → Prop} (h : Ok (fM_spreads s x1 x2) (fun r => Q none lc r)) : tt_Sp (XM l D dA A) yX11_spreads cX11_spreads 5 none rM_spreads [.ref (lc 0 0), .int x1, .long x2] lc s Q := by
  refine tt_Sp.ofV plM kokM (Nat.le_of_ble_eq_true rfl) ?_
  show tt_V (XM l D dA A) cX11_spreads (RX11, 5, none, rM_spreads, tt_nt) (tt_fn (XM l D dA A) (RX11, 5, none, rM_spreads, tt_nt) Q) 0 [(0, .ref (lc 0 0)), (1, .int x1), (2, .long x2)] [] lc s 0 0
  unfold fM_spreads at h
  refine v_iconst dX11_spreads_0 ic_0 ?_
  refine v_istore [(4, .int (0 : Int32)), (0, .ref (lc 0 0)), (1, .int x1), (2, .long x2)] dX11_spreads_1 (Nat.le_of_ble_eq_true rfl) rfl ?_
  refine v_sub [1, 2, 3, 0] rfl ?_
  refine itr_loop (P := fun a1 : Int32 × tt_St => tt_V (XM l D dA A) cX11_spreads (RX11, 5, none, rM_spreads, tt_nt) (tt_fn (XM l D dA A) (RX11, 5, none, rM_spreads, tt_nt) Q) 3 [(0, .ref (lc 0 0)), (1, .int x1), (2, .long x2), (4, .int a1.1)] [] lc a1.2 0 0) (PE := fun b2 : Int32 × tt_St => tt_V (XM l D dA A) cX11_spreads (RX11, 5, none, rM_spreads, tt_nt) (tt_fn (XM l D dA A) (RX11, 5, none, rM_spreads, tt_nt) Q) 24 [(0, .ref (lc 0 0)), (1, .int x1), (2, .long x2), (4, .int b2.1)] [] lc b2.2 0 0) h (fun b2 h => ?_) (fun a1 h => ?_)
  · refine v_aload_n 0 dX11_spreads_24 rfl ?_
    refine gM_155 dX11_spreads_25 ?_
    refine v_iconst dX11_spreads_28 ic_2 ?_
    have h := Ok.join (PJ := fun t6 : tt_St => tt_V (XM l D dA A) cX11_spreads (RX11, 5, none, rM_spreads, tt_nt) (tt_fn (XM l D dA A) (RX11, 5, none, rM_spreads, tt_nt) Q) 95 [(0, .ref (lc 0 0)), (1, .int x1)] [] lc t6 0 0) h (fun t6 h => by
      refine v_iconst dX11_spreads_95 ic_0 ?_
      refine v_istore [(4, .int (0 : Int32)), (0, .ref (lc 0 0)), (1, .int x1)] dX11_spreads_96 (Nat.le_of_ble_eq_true rfl) rfl ?_
      refine v_sub [1, 2, 0] rfl ?_
      refine itr_loop (P := fun a18 : Int32 × tt_St => tt_V (XM l D dA A) cX11_spreads (RX11, 5, none, rM_spreads, tt_nt) (tt_fn (XM l D dA A) (RX11, 5, none, rM_spreads, tt_nt) Q) 98 [(0, .ref (lc 0 0)), (1, .int x1), (4, .int a18.1)] [] lc a18.2 0 0) (PE := fun b19 : Int32 × tt_St => tt_V (XM l D dA A) cX11_spreads (RX11, 5, none, rM_spreads, tt_nt) (tt_fn (XM l D dA A) (RX11, 5, none, rM_spreads, tt_nt) Q) 130 [(0, .ref (lc 0 0)), (1, .int x1), (4, .int b19.1)] [] lc b19.2 0 0) h (fun b19 h => ?_) (fun a18 h => ?_)
      · have h := Ok.ret h
        exact v_vret rfl (Nat.zero_le _) (Nat.zero_le _) dX11_spreads_130 h
      · have h : Ok (fM_spreads_L98 x1 a18) _ := h
        unfold fM_spreads_L98 at h
        refine v_iload 2 dX11_spreads_98 rfl ?_
        refine v_bipush dX11_spreads_100 kb_40 ?_
        refine v_icmp_ge (tgt := 130) dX11_spreads_102 rfl (fun c20 => ?_) (fun c20 => ?_)
        · have h := Ok.pos h c20
          have h := Ok.ret h
          exact h
        · have h := Ok.neg h c20
          refine v_aload_n 0 dX11_spreads_105 rfl ?_
          refine gM_115 dX11_spreads_106 ?_
          refine v_iload 2 dX11_spreads_109 rfl ?_
          obtain ⟨g21, h⟩ := Ok.guard h
          refine lM_38 g21 dX11_spreads_111 ?_
          refine v_lconst dX11_spreads_112 kl_0 ?_
          refine v_lif_le (tgt := 124) dX11_spreads_113 dX11_spreads_114 rfl (fun c22 => ?_) (fun c22 => ?_)
          · have h := Ok.pos h c22
            refine v_iinc (v := (a18.1 + 1 : Int32)) 2 [(4, .int (a18.1 + 1 : Int32)), (0, .ref (lc 0 0)), (1, .int x1)] dX11_spreads_124 rfl (by rw [ic_1]) (Nat.le_of_ble_eq_true rfl) rfl ?_
            refine v_goto (tgt := 98) dX11_spreads_127 rfl ?_
            refine v_sub [1, 2, 0] rfl ?_
            have h := Ok.ret h
            exact h
          · have h := Ok.neg h c22
            refine v_aload_n 0 dX11_spreads_117 rfl ?_
            refine v_iload_n 1 dX11_spreads_118 rfl ?_
            refine v_iload 2 dX11_spreads_119 rfl ?_
            refine cM_273 (Ok.bind h) ⟨Nat.le_of_ble_eq_true rfl, Nat.le_of_ble_eq_true rfl⟩ (Nat.le_of_ble_eq_true rfl) dX11_spreads_121 (fun r23 h => ?_)
            refine v_iinc (v := (a18.1 + 1 : Int32)) 2 [(4, .int (a18.1 + 1 : Int32)), (0, .ref (lc 0 0)), (1, .int x1)] dX11_spreads_124 rfl (by rw [ic_1]) (Nat.le_of_ble_eq_true rfl) rfl ?_
            refine v_goto (tgt := 98) dX11_spreads_127 rfl ?_
            refine v_sub [1, 2, 0] rfl ?_
            have h := Ok.ret h
            exact h)
    refine v_icmp_ne (tgt := 52) dX11_spreads_29 rfl (fun c7 => ?_) (fun c7 => ?_)
    · have h := Ok.neg h c7
      refine v_aload_n 0 dX11_spreads_52 rfl ?_
      refine gM_155 dX11_spreads_53 ?_
      refine v_iconst dX11_spreads_56 ic_3 ?_
      refine v_icmp_ne (tgt := 69) dX11_spreads_57 rfl (fun c8 => ?_) (fun c8 => ?_)
      · have h := Ok.neg h c8
        refine v_aload_n 0 dX11_spreads_69 rfl ?_
        refine gM_155 dX11_spreads_70 ?_
        have h := Ok.join (PJ := fun t9 : tt_St => tt_V (XM l D dA A) cX11_spreads (RX11, 5, none, rM_spreads, tt_nt) (tt_fn (XM l D dA A) (RX11, 5, none, rM_spreads, tt_nt) Q) 89 [(0, .ref (lc 0 0)), (1, .int x1), (2, .long x2)] [] lc t9 0 0) h (fun t9 h => by
          refine v_aload_n 0 dX11_spreads_89 rfl ?_
          refine v_iload_n 1 dX11_spreads_90 rfl ?_
          refine v_lload_n 2 dX11_spreads_91 rfl ?_
          refine cM_234 (Ok.bind h) ⟨Nat.le_of_ble_eq_true rfl, Nat.le_of_ble_eq_true rfl⟩ (Nat.le_of_ble_eq_true rfl) dX11_spreads_92 (fun r13 h => ?_)
          refine v_sub [0, 1] rfl ?_
          have h := Ok.ret h
          exact h)
        refine v_if_ne (tgt := 84) dX11_spreads_73 rfl (fun c10 => ?_) (fun c10 => ?_)
        · have h := Ok.neg h c10
          refine v_aload_n 0 dX11_spreads_84 rfl ?_
          refine v_iload_n 1 dX11_spreads_85 rfl ?_
          refine cM_270 (Ok.bind h) ⟨Nat.le_of_ble_eq_true rfl, Nat.le_of_ble_eq_true rfl⟩ (Nat.le_of_ble_eq_true rfl) dX11_spreads_86 (fun r11 h => ?_)
          refine v_sub [0, 1, 2] rfl ?_
          have h := Ok.ret h
          exact h
        · have h := Ok.pos h c10
          refine v_aload_n 0 dX11_spreads_76 rfl ?_
          refine v_iload_n 1 dX11_spreads_77 rfl ?_
          refine cM_231 (Ok.bind h) ⟨Nat.le_of_ble_eq_true rfl, Nat.le_of_ble_eq_true rfl⟩ (Nat.le_of_ble_eq_true rfl) dX11_spreads_78 (fun r12 h => ?_)
          refine v_goto (tgt := 89) dX11_spreads_81 rfl ?_
          refine v_sub [0, 1, 2] rfl ?_
          have h := Ok.ret h
          exact h
      · have h := Ok.pos h c8
        refine v_aload_n 0 dX11_spreads_60 rfl ?_
        refine v_iload_n 1 dX11_spreads_61 rfl ?_
        refine v_lload_n 2 dX11_spreads_62 rfl ?_
        refine cM_267 (Ok.bind h) ⟨Nat.le_of_ble_eq_true rfl, Nat.le_of_ble_eq_true rfl⟩ (Nat.le_of_ble_eq_true rfl) dX11_spreads_63 (fun r14 h => ?_)
        refine v_goto (tgt := 95) dX11_spreads_66 rfl ?_
        refine v_sub [0, 1] rfl ?_
        have h := Ok.ret h
        exact h
    · have h := Ok.pos h c7
      refine v_aload_n 0 dX11_spreads_32 rfl ?_
      refine v_iload_n 1 dX11_spreads_33 rfl ?_
      refine v_lload_n 2 dX11_spreads_34 rfl ?_
      refine cM_258 (Ok.bind h) ⟨Nat.le_of_ble_eq_true rfl, Nat.le_of_ble_eq_true rfl⟩ (Nat.le_of_ble_eq_true rfl) dX11_spreads_35 (fun r15 h => ?_)
      refine v_aload_n 0 dX11_spreads_38 rfl ?_
      refine v_iload_n 1 dX11_spreads_39 rfl ?_
      refine v_lload_n 2 dX11_spreads_40 rfl ?_
      refine cM_261 (Ok.bind h) ⟨Nat.le_of_ble_eq_true rfl, Nat.le_of_ble_eq_true rfl⟩ (Nat.le_of_ble_eq_true rfl) dX11_spreads_41 (fun r16 h => ?_)
      refine v_aload_n 0 dX11_spreads_44 rfl ?_
      refine v_iload_n 1 dX11_spreads_45 rfl ?_
      refine cM_264 (Ok.bind h) ⟨Nat.le_of_ble_eq_true rfl, Nat.le_of_ble_eq_true rfl⟩ (Nat.le_of_ble_eq_true rfl) dX11_spreads_46 (fun r17 h => ?_)
      refine v_goto (tgt := 95) dX11_spreads_49 rfl ?_
      refine v_sub [0, 1] rfl ?_
      have h := Ok.ret h
      exact h
  · have h : Ok (fM_spreads_L3 a1) _ := h
    unfold fM_spreads_L3 at h
    refine v_iload 3 dX11_spreads_3 rfl ?_
    refine v_bipush dX11_spreads_5 kb_40 ?_
    refine v_icmp_ge (tgt := 24) dX11_spreads_7 rfl (fun c3 => ?_) (fun c3 => ?_)
    · have h := Ok.pos h c3
      have h := Ok.ret h
      exact h
    · have h := Ok.neg h c3
      refine v_aload_n 0 dX11_spreads_10 rfl ?_
      refine gM_115 dX11_spreads_11 ?_
      refine v_iload 3 dX11_spreads_14 rfl ?_
      refine v_lconst dX11_spreads_16 kl_0 ?_
      obtain ⟨g4, h⟩ := Ok.guard h
      refine sM_38 g4 dX11_spreads_17 ?_
      refine v_nmS (fun s5 e_s5 => ?_)
      have h := Ok.nm h e_s5
      refine v_iinc (v := (a1.1 + 1 : Int32)) 3 [(4, .int (a1.1 + 1 : Int32)), (0, .ref (lc 0 0)), (1, .int x1), (2, .long x2)] dX11_spreads_18 rfl (by rw [ic_1]) (Nat.le_of_ble_eq_true rfl) rfl ?_
      refine v_goto (tgt := 3) dX11_spreads_21 rfl ?_
      refine v_sub [1, 2, 3, 0] rfl ?_
      have h := Ok.ret h
      exact h
theorem cM_325 {l : Launch} {D : va_G} {dA : Nat → ClassId} {A : Nat → Prop} {lc : Nat → Nat → Nat} {s : tt_St} {cc : ByteArray} {nl : Nat} {rt : Option FieldType} {rm : Room} {tn : tt_Tn} {Q : tt_Fin} {pc : Nat} {lv : List (Nat × Value)} {rest : List Value} {ck cn : Nat} {x1 : Int32} {x2 : Int64} {K : tt_St → Prop} (h : Ok (fM_spreads s x1 x2) K) (hR : 6 + 1 ≤ rm.frames ∧ 8 + (5 + 11) + 144 ≤ rm.locals) (hW : (rest.map fun v => v.category).sum ≤ 8) (d : decode cc pc = .ok (.invokevirtual 325, 3)) (kk : ∀ r, K r → tt_V (XM l D dA A) cc (RX11, nl, rt, rm, tn) Q (pc + 3) lv rest lc r ck cn) (hf : ck ≤ rm.cells ∧ cn ≤ rm.slots := by exact ⟨Nat.zero_le _, Nat.zero_le _⟩) : tt_V (XM l D dA A) cc (RX11, nl, rt, rm, tn) Q pc lv (.long x2 :: .int x1 :: .ref (lc 0 0) :: rest) lc s ck cn :=
  v_callV (kd := 0) (i := 0) (nA := 2) (As := [.int x1, .long x2]) lvM_0 oM rfl (mM_spreads l D dA A lc s x1 x2 (Q := (fun v lc' s' => ∃ r, K r ∧ v = none ∧ lc' = lc ∧ s' = r)) (h.mono (fun r hr => ⟨r, hr, rfl, rfl, rfl⟩))) (lw_V q1992 q1994 qs66 q154 q1995) (by decide +kernel) rfl hR hW hf d rfl (fun v lc' s' q => by obtain ⟨r, hr, e1, e2, e3⟩ := q; rw [e1, e2, e3]; exact kk r hr)
def fM_insuredOf_L5 (s : tt_St) (x1 : Int32) (a1 : Int64 × Int32) : Option ((Int64 × Int32) ⊕ (Int64 × Int32)) :=
  if (7 : Int32) ≤ a1.2 then some (.inr (a1.1, a1.2)) else if inB (((7 : Int32) * x1) + a1.2) 175 then nm (a1.1 + (rdL s 26 0 (((7 : Int32) * x1) + a1.2).toNatClampNeg)) fun v5 => some (.inl (v5, (a1.2 + 1 : Int32))) else none
def fM_insuredOf (s : tt_St) (x1 : Int32) : Option (Int64) :=
  (itr (fM_insuredOf_L5 s x1) tt_fuel ((0 : Int64), (0 : Int32))).bind fun b2 => some b2.1
abbrev rM_insuredOf : Room := { frames := 0, cells := 0, slots := 0, locals := 0 }
set_option maxHeartbeats 4000000 in
theorem mM_insuredOf (l : Launch) (D : va_G) (dA : Nat → ClassId) (A : Nat → Prop) (lc : Nat → Nat → Nat) (s : tt_St) (x1 : Int32) {Q : Option Value → (Nat → Nat → Nat) → tt_St → Prop} (h : Ok (fM_insuredOf s x1) (fun r => Q (some (.long r)) lc s)) : tt_Sp (XM l D dA A) yX11_insuredOf cX11_insuredOf 5 (some .long) rM_insuredOf [.ref (lc 0 0), .int x1] lc s Q := by
  refine tt_Sp.ofV plM kokM (Nat.le_of_ble_eq_true rfl) ?_
  show tt_V (XM l D dA A) cX11_insuredOf (RX11, 5, (some .long), rM_insuredOf, tt_nt) (tt_fn (XM l D dA A) (RX11, 5, (some .long), rM_insuredOf, tt_nt) Q) 0 [(0, .ref (lc 0 0)), (1, .int x1)] [] lc s 0 0
  unfold fM_insuredOf at h
  refine v_lconst dX11_insuredOf_0 kl_0 ?_
  refine v_lstore_n [(2, .long (0 : Int64)), (0, .ref (lc 0 0)), (1, .int x1)] dX11_insuredOf_1 (Nat.le_of_ble_eq_true rfl) rfl ?_
  refine v_iconst dX11_insuredOf_2 ic_0 ?_
  refine v_istore [(4, .int (0 : Int32)), (2, .long (0 : Int64)), (0, .ref (lc 0 0)), (1, .int x1)] dX11_insuredOf_3 (Nat.le_of_ble_eq_true rfl) rfl ?_
  refine v_sub [2, 3, 1, 0] rfl ?_
  refine itr_loop (P := fun a1 : Int64 × Int32 => tt_V (XM l D dA A) cX11_insuredOf (RX11, 5, (some .long), rM_insuredOf, tt_nt) (tt_fn (XM l D dA A) (RX11, 5, (some .long), rM_insuredOf, tt_nt) Q) 5 [(0, .ref (lc 0 0)), (1, .int x1), (2, .long a1.1), (4, .int a1.2)] [] lc s 0 0) (PE := fun b2 : Int64 × Int32 => tt_V (XM l D dA A) cX11_insuredOf (RX11, 5, (some .long), rM_insuredOf, tt_nt) (tt_fn (XM l D dA A) (RX11, 5, (some .long), rM_insuredOf, tt_nt) Q) 33 [(0, .ref (lc 0 0)), (1, .int x1), (2, .long b2.1), (4, .int b2.2)] [] lc s 0 0) h (fun b2 h => ?_) (fun a1 h => ?_)
  · refine v_lload_n 2 dX11_insuredOf_33 rfl ?_
    have h := Ok.ret h
    exact v_lret rfl (Nat.zero_le _) (Nat.zero_le _) dX11_insuredOf_34 h
  · have h : Ok (fM_insuredOf_L5 s x1 a1) _ := h
    unfold fM_insuredOf_L5 at h
    refine v_iload 3 dX11_insuredOf_5 rfl ?_
    refine v_bipush dX11_insuredOf_7 kb_7 ?_
    refine v_icmp_ge (tgt := 33) dX11_insuredOf_9 rfl (fun c3 => ?_) (fun c3 => ?_)
    · have h := Ok.pos h c3
      have h := Ok.ret h
      exact h
    · have h := Ok.neg h c3
      refine v_lload_n 2 dX11_insuredOf_12 rfl ?_
      refine v_aload_n 0 dX11_insuredOf_13 rfl ?_
      refine gM_91 dX11_insuredOf_14 ?_
      refine v_bipush dX11_insuredOf_17 kb_7 ?_
      refine v_iload_n 1 dX11_insuredOf_19 rfl ?_
      refine v_imul dX11_insuredOf_20 ?_
      refine v_iload 3 dX11_insuredOf_21 rfl ?_
      refine v_iadd dX11_insuredOf_23 ?_
      obtain ⟨g4, h⟩ := Ok.guard h
      refine lM_26 g4 dX11_insuredOf_24 ?_
      refine v_ladd dX11_insuredOf_25 ?_
      refine v_nmL (fun v5 e_v5 => ?_)
      have h := Ok.nm h e_v5
      refine v_lstore_n [(2, .long v5), (0, .ref (lc 0 0)), (1, .int x1), (4, .int a1.2)] dX11_insuredOf_26 (Nat.le_of_ble_eq_true rfl) rfl ?_
      refine v_iinc (v := (a1.2 + 1 : Int32)) 3 [(4, .int (a1.2 + 1 : Int32)), (2, .long v5), (0, .ref (lc 0 0)), (1, .int x1)] dX11_insuredOf_27 rfl (by rw [ic_1]) (Nat.le_of_ble_eq_true rfl) rfl ?_
      refine v_goto (tgt := 5) dX11_insuredOf_30 rfl ?_
      refine v_sub [2, 3, 1, 0] rfl ?_
      have h := Ok.ret h
      exact h
theorem cM_277 {l : Launch} {D : va_G} {dA : Nat → ClassId} {A : Nat → Prop} {lc : Nat → Nat → Nat} {s : tt_St} {cc : ByteArray} {nl : Nat} {rt : Option FieldType} {rm : Room} {tn : tt_Tn} {Q : tt_Fin} {pc : Nat} {lv : List (Nat × Value)} {rest : List Value} {ck cn : Nat} {x1 : Int32} {K : Int64 → Prop} (h : Ok (fM_insuredOf s x1) K) (hR : 0 + 1 ≤ rm.frames ∧ 8 + (5 + 11) + 0 ≤ rm.locals) (hW : (rest.map fun v => v.category).sum ≤ 8) (d : decode cc pc = .ok (.invokevirtual 277, 3)) (kk : ∀ r, K r → tt_V (XM l D dA A) cc (RX11, nl, rt, rm, tn) Q (pc + 3) lv (.long r :: rest) lc s ck cn) (hf : ck ≤ rm.cells ∧ cn ≤ rm.slots := by exact ⟨Nat.zero_le _, Nat.zero_le _⟩) : tt_V (XM l D dA A) cc (RX11, nl, rt, rm, tn) Q pc lv (.int x1 :: .ref (lc 0 0) :: rest) lc s ck cn :=
  v_callV (kd := 0) (i := 0) (nA := 1) (As := [.int x1]) lvM_0 oM rfl (mM_insuredOf l D dA A lc s x1 (Q := (fun v lc' s' => ∃ r, K r ∧ v = some (.long r) ∧ lc' = lc ∧ s' = s)) (h.mono (fun r hr => ⟨r, hr, rfl, rfl, rfl⟩))) (lw_V q2175 q2177 qs101 q154 q2178) (by decide +kernel) rfl hR hW hf d rfl (fun v lc' s' q => by obtain ⟨r, hr, e1, e2, e3⟩ := q; rw [e1, e2, e3]; exact kk r hr)
def fM_bearsOf (s : tt_St) (x1 : Int32) (x2 : Int32) : Option (Int64) :=
  if x2 = 0 then (fM_insuredOf s x1).bind fun r3 => some r3 else if inB (((10 : Int32) * x1) + x2) 250 then some (rdL s 25 0 (((10 : Int32) * x1) + x2).toNatClampNeg) else none
abbrev rM_bearsOf : Room := { frames := 1, cells := 0, slots := 0, locals := 24 }
set_option maxHeartbeats 4000000 in
theorem mM_bearsOf (l : Launch) (D : va_G) (dA : Nat → ClassId) (A : Nat → Prop) (lc : Nat → Nat → Nat) (s : tt_St) (x1 : Int32) (x2 : Int32) {Q : Option Value → (Nat → Nat → Nat) → tt_St → Prop} (h : Ok (fM_bearsOf s x1 x2) (fun r => Q (some (.long r)) lc s)) : tt_Sp (XM l D dA A) yX11_bearsOf cX11_bearsOf 3 (some .long) rM_bearsOf [.ref (lc 0 0), .int x1, .int x2] lc s Q := by
  refine tt_Sp.ofV plM kokM (Nat.le_of_ble_eq_true rfl) ?_
  show tt_V (XM l D dA A) cX11_bearsOf (RX11, 3, (some .long), rM_bearsOf, tt_nt) (tt_fn (XM l D dA A) (RX11, 3, (some .long), rM_bearsOf, tt_nt) Q) 0 [(0, .ref (lc 0 0)), (1, .int x1), (2, .int x2)] [] lc s 0 0
  unfold fM_bearsOf at h
  refine v_iload_n 2 dX11_bearsOf_0 rfl ?_
  refine v_if_ne (tgt := 12) dX11_bearsOf_1 rfl (fun c1 => ?_) (fun c1 => ?_)
  · have h := Ok.neg h c1
    refine v_aload_n 0 dX11_bearsOf_12 rfl ?_
    refine gM_88 dX11_bearsOf_13 ?_
    refine v_bipush dX11_bearsOf_16 kb_10 ?_
    refine v_iload_n 1 dX11_bearsOf_18 rfl ?_
    refine v_imul dX11_bearsOf_19 ?_
    refine v_iload_n 2 dX11_bearsOf_20 rfl ?_
    refine v_iadd dX11_bearsOf_21 ?_
    obtain ⟨g2, h⟩ := Ok.guard h
    refine lM_25 g2 dX11_bearsOf_22 ?_
    have h := Ok.ret h
    exact v_lret rfl (Nat.zero_le _) (Nat.zero_le _) dX11_bearsOf_23 h
  · have h := Ok.pos h c1
    refine v_aload_n 0 dX11_bearsOf_4 rfl ?_
    refine v_iload_n 1 dX11_bearsOf_5 rfl ?_
    refine cM_277 (Ok.bind h) ⟨Nat.le_of_ble_eq_true rfl, Nat.le_of_ble_eq_true rfl⟩ (Nat.le_of_ble_eq_true rfl) dX11_bearsOf_6 (fun r3 h => ?_)
    refine v_goto (tgt := 23) dX11_bearsOf_9 rfl ?_
    have h := Ok.ret h
    exact v_lret rfl (Nat.zero_le _) (Nat.zero_le _) dX11_bearsOf_23 h
theorem cM_280 {l : Launch} {D : va_G} {dA : Nat → ClassId} {A : Nat → Prop} {lc : Nat → Nat → Nat} {s : tt_St} {cc : ByteArray} {nl : Nat} {rt : Option FieldType} {rm : Room} {tn : tt_Tn} {Q : tt_Fin} {pc : Nat} {lv : List (Nat × Value)} {rest : List Value} {ck cn : Nat} {x1 : Int32} {x2 : Int32} {K : Int64 → Prop} (h : Ok (fM_bearsOf s x1 x2) K) (hR : 1 + 1 ≤ rm.frames ∧ 8 + (3 + 11) + 24 ≤ rm.locals) (hW : (rest.map fun v => v.category).sum ≤ 8) (d : decode cc pc = .ok (.invokevirtual 280, 3)) (kk : ∀ r, K r → tt_V (XM l D dA A) cc (RX11, nl, rt, rm, tn) Q (pc + 3) lv (.long r :: rest) lc s ck cn) (hf : ck ≤ rm.cells ∧ cn ≤ rm.slots := by exact ⟨Nat.zero_le _, Nat.zero_le _⟩) : tt_V (XM l D dA A) cc (RX11, nl, rt, rm, tn) Q pc lv (.int x2 :: .int x1 :: .ref (lc 0 0) :: rest) lc s ck cn :=
  v_callV (kd := 0) (i := 0) (nA := 2) (As := [.int x1, .int x2]) lvM_0 oM rfl (mM_bearsOf l D dA A lc s x1 x2 (Q := (fun v lc' s' => ∃ r, K r ∧ v = some (.long r) ∧ lc' = lc ∧ s' = s)) (h.mono (fun r hr => ⟨r, hr, rfl, rfl, rfl⟩))) (lw_V q2301 q2303 qs115 q154 q2304) (by decide +kernel) rfl hR hW hf d rfl (fun v lc' s' q => by obtain ⟨r, hr, e1, e2, e3⟩ := q; rw [e1, e2, e3]; exact kk r hr)
def fM_bearsAll_L5 (s : tt_St) (x1 : Int32) (a1 : Int64 × Int32) : Option ((Int64 × Int32) ⊕ (Int64 × Int32)) :=
  if (24 : Int32) ≤ a1.2 then some (.inr (a1.1, a1.2)) else if inB a1.2 25 then if (rdI s 7 0 a1.2.toNatClampNeg) = 0 then nm (a1.1 + (0 : Int64)) fun v6 => some (.inl (v6, (a1.2 + 1 : Int32))) else (fM_bearsOf s a1.2 x1).bind fun r7 => nm (a1.1 + r7) fun v8 => some (.inl (v8, (a1.2 + 1 : Int32))) else none
def fM_bearsAll (s : tt_St) (x1 : Int32) : Option (Int64) :=
  (itr (fM_bearsAll_L5 s x1) tt_fuel ((0 : Int64), (0 : Int32))).bind fun b2 => some b2.1
abbrev rM_bearsAll : Room := { frames := 2, cells := 0, slots := 0, locals := 46 }
set_option maxHeartbeats 4000000 in
theorem mM_bearsAll (l : Launch) (D : va_G) (dA : Nat → ClassId) (A : Nat → Prop) (lc : Nat → Nat → Nat) (s : tt_St) (x1 : Int32) {Q : Option Value → (Nat → Nat → Nat) → tt_St → Prop} (h : Ok (fM_bearsAll s x1) (fun r => Q (some (.long r)) lc s)) : tt_Sp (XM l D dA A) yX11_bearsAll cX11_bearsAll 5 (some .long) rM_bearsAll [.ref (lc 0 0), .int x1] lc s Q := by
  refine tt_Sp.ofV plM kokM (Nat.le_of_ble_eq_true rfl) ?_
  show tt_V (XM l D dA A) cX11_bearsAll (RX11, 5, (some .long), rM_bearsAll, tt_nt) (tt_fn (XM l D dA A) (RX11, 5, (some .long), rM_bearsAll, tt_nt) Q) 0 [(0, .ref (lc 0 0)), (1, .int x1)] [] lc s 0 0
  unfold fM_bearsAll at h
  refine v_lconst dX11_bearsAll_0 kl_0 ?_
  refine v_lstore_n [(2, .long (0 : Int64)), (0, .ref (lc 0 0)), (1, .int x1)] dX11_bearsAll_1 (Nat.le_of_ble_eq_true rfl) rfl ?_
  refine v_iconst dX11_bearsAll_2 ic_0 ?_
  refine v_istore [(4, .int (0 : Int32)), (2, .long (0 : Int64)), (0, .ref (lc 0 0)), (1, .int x1)] dX11_bearsAll_3 (Nat.le_of_ble_eq_true rfl) rfl ?_
  refine v_sub [2, 3, 1, 0] rfl ?_
  refine itr_loop (P := fun a1 : Int64 × Int32 => tt_V (XM l D dA A) cX11_bearsAll (RX11, 5, (some .long), rM_bearsAll, tt_nt) (tt_fn (XM l D dA A) (RX11, 5, (some .long), rM_bearsAll, tt_nt) Q) 5 [(0, .ref (lc 0 0)), (1, .int x1), (2, .long a1.1), (4, .int a1.2)] [] lc s 0 0) (PE := fun b2 : Int64 × Int32 => tt_V (XM l D dA A) cX11_bearsAll (RX11, 5, (some .long), rM_bearsAll, tt_nt) (tt_fn (XM l D dA A) (RX11, 5, (some .long), rM_bearsAll, tt_nt) Q) 42 [(0, .ref (lc 0 0)), (1, .int x1), (2, .long b2.1), (4, .int b2.2)] [] lc s 0 0) h (fun b2 h => ?_) (fun a1 h => ?_)
  · refine v_lload_n 2 dX11_bearsAll_42 rfl ?_
    have h := Ok.ret h
    exact v_lret rfl (Nat.zero_le _) (Nat.zero_le _) dX11_bearsAll_43 h
  · have h : Ok (fM_bearsAll_L5 s x1 a1) _ := h
    unfold fM_bearsAll_L5 at h
    refine v_iload 3 dX11_bearsAll_5 rfl ?_
    refine v_bipush dX11_bearsAll_7 kb_24 ?_
    refine v_icmp_ge (tgt := 42) dX11_bearsAll_9 rfl (fun c3 => ?_) (fun c3 => ?_)
    · have h := Ok.pos h c3
      have h := Ok.ret h
      exact h
    · have h := Ok.neg h c3
      refine v_lload_n 2 dX11_bearsAll_12 rfl ?_
      refine v_aload_n 0 dX11_bearsAll_13 rfl ?_
      refine gM_33 dX11_bearsAll_14 ?_
      refine v_iload 3 dX11_bearsAll_17 rfl ?_
      obtain ⟨g4, h⟩ := Ok.guard h
      refine lM_7 g4 dX11_bearsAll_19 ?_
      refine v_if_eq (tgt := 33) dX11_bearsAll_20 rfl (fun c5 => ?_) (fun c5 => ?_)
      · have h := Ok.pos h c5
        refine v_lconst dX11_bearsAll_33 kl_0 ?_
        refine v_ladd dX11_bearsAll_34 ?_
        refine v_nmL (fun v6 e_v6 => ?_)
        have h := Ok.nm h e_v6
        refine v_lstore_n [(2, .long v6), (0, .ref (lc 0 0)), (1, .int x1), (4, .int a1.2)] dX11_bearsAll_35 (Nat.le_of_ble_eq_true rfl) rfl ?_
        refine v_iinc (v := (a1.2 + 1 : Int32)) 3 [(4, .int (a1.2 + 1 : Int32)), (2, .long v6), (0, .ref (lc 0 0)), (1, .int x1)] dX11_bearsAll_36 rfl (by rw [ic_1]) (Nat.le_of_ble_eq_true rfl) rfl ?_
        refine v_goto (tgt := 5) dX11_bearsAll_39 rfl ?_
        refine v_sub [2, 3, 1, 0] rfl ?_
        have h := Ok.ret h
        exact h
      · have h := Ok.neg h c5
        refine v_aload_n 0 dX11_bearsAll_23 rfl ?_
        refine v_iload 3 dX11_bearsAll_24 rfl ?_
        refine v_iload_n 1 dX11_bearsAll_26 rfl ?_
        refine cM_280 (Ok.bind h) ⟨Nat.le_of_ble_eq_true rfl, Nat.le_of_ble_eq_true rfl⟩ (Nat.le_of_ble_eq_true rfl) dX11_bearsAll_27 (fun r7 h => ?_)
        refine v_goto (tgt := 34) dX11_bearsAll_30 rfl ?_
        refine v_ladd dX11_bearsAll_34 ?_
        refine v_nmL (fun v8 e_v8 => ?_)
        have h := Ok.nm h e_v8
        refine v_lstore_n [(2, .long v8), (0, .ref (lc 0 0)), (1, .int x1), (4, .int a1.2)] dX11_bearsAll_35 (Nat.le_of_ble_eq_true rfl) rfl ?_
        refine v_iinc (v := (a1.2 + 1 : Int32)) 3 [(4, .int (a1.2 + 1 : Int32)), (2, .long v8), (0, .ref (lc 0 0)), (1, .int x1)] dX11_bearsAll_36 rfl (by rw [ic_1]) (Nat.le_of_ble_eq_true rfl) rfl ?_
        refine v_goto (tgt := 5) dX11_bearsAll_39 rfl ?_
        refine v_sub [2, 3, 1, 0] rfl ?_
        have h := Ok.ret h
        exact h
theorem cM_437 {l : Launch} {D : va_G} {dA : Nat → ClassId} {A : Nat → Prop} {lc : Nat → Nat → Nat} {s : tt_St} {cc : ByteArray} {nl : Nat} {rt : Option FieldType} {rm : Room} {tn : tt_Tn} {Q : tt_Fin} {pc : Nat} {lv : List (Nat × Value)} {rest : List Value} {ck cn : Nat} {x1 : Int32} {K : Int64 → Prop} (h : Ok (fM_bearsAll s x1) K) (hR : 2 + 1 ≤ rm.frames ∧ 8 + (5 + 11) + 46 ≤ rm.locals) (hW : (rest.map fun v => v.category).sum ≤ 8) (d : decode cc pc = .ok (.invokevirtual 437, 3)) (kk : ∀ r, K r → tt_V (XM l D dA A) cc (RX11, nl, rt, rm, tn) Q (pc + 3) lv (.long r :: rest) lc s ck cn) (hf : ck ≤ rm.cells ∧ cn ≤ rm.slots := by exact ⟨Nat.zero_le _, Nat.zero_le _⟩) : tt_V (XM l D dA A) cc (RX11, nl, rt, rm, tn) Q pc lv (.int x1 :: .ref (lc 0 0) :: rest) lc s ck cn :=
  v_callV (kd := 0) (i := 0) (nA := 1) (As := [.int x1]) lvM_0 oM rfl (mM_bearsAll l D dA A lc s x1 (Q := (fun v lc' s' => ∃ r, K r ∧ v = some (.long r) ∧ lc' = lc ∧ s' = s)) (h.mono (fun r hr => ⟨r, hr, rfl, rfl, rfl⟩))) (lw_V q2313 q2315 qs116 q154 q2316) (by decide +kernel) rfl hR hW hf d rfl (fun v lc' s' q => by obtain ⟨r, hr, e1, e2, e3⟩ := q; rw [e1, e2, e3]; exact kk r hr)
def fM_canPlace_L23 (s : tt_St) (x1 : Int32) (x2 : Int32) (x3 : Int32) (a5 : Int32) : Option ((Int32) ⊕ (Int32) ⊕ (Int32)) :=
  if (40 : Int32) ≤ a5 then some (.inr (.inl a5)) else (fM_isIn s a5 x1).bind fun r8 => if r8 = 0 then some (.inl (a5 + 1 : Int32)) else (fM_top s a5).bind fun r10 => if r10 ≤ x2 then some (.inl (a5 + 1 : Int32)) else if inB a5 40 then if (x2 + x3) ≤ (rdI s 9 0 a5.toNatClampNeg) then some (.inl (a5 + 1 : Int32)) else some (.inr (.inr (0 : Int32))) else none
def fM_canPlace (s : tt_St) (x1 : Int32) (x2 : Int32) (x3 : Int32) : Option (Int32) :=
  (fM_isLacking s x1).bind fun r1 => if r1 = 0 then (fM_layersOf s x1).bind fun r3 => if r3 = (6 : Int32) then some (0 : Int32) else (itr (fM_canPlace_L23 s x1 x2 x3) tt_fuel (0 : Int32)).bind fun q_b6 => orRet q_b6 fun b6 => some (1 : Int32) else some (0 : Int32)
abbrev rM_canPlace : Room := { frames := 1, cells := 0, slots := 0, locals := 22 }
set_option maxHeartbeats 4000000 in
theorem mM_canPlace (l : Launch) (D : va_G) (dA : Nat → ClassId) (A : Nat → Prop) (lc : Nat → Nat → Nat) (s : tt_St) (x1 : Int32) (x2 : Int32) (x3 : Int32) {Q : Option Value → (Nat → Nat → Nat) → tt_St → Prop} (h : Ok (fM_canPlace s x1 x2 x3) (fun r => zB r → Q (some (.int r)) lc s)) : tt_Sp (XM l D dA A) yX11_canPlace cX11_canPlace 5 (some .boolean) rM_canPlace [.ref (lc 0 0), .int x1, .int x2, .int x3] lc s Q := by
  refine tt_Sp.ofV plM kokM (Nat.le_of_ble_eq_true rfl) ?_
  show tt_V (XM l D dA A) cX11_canPlace (RX11, 5, (some .boolean), rM_canPlace, tt_nt) (tt_fn (XM l D dA A) (RX11, 5, (some .boolean), rM_canPlace, tt_nt) Q) 0 [(0, .ref (lc 0 0)), (1, .int x1), (2, .int x2), (3, .int x3)] [] lc s 0 0
  unfold fM_canPlace at h
  refine v_aload_n 0 dX11_canPlace_0 rfl ?_
  refine v_iload_n 1 dX11_canPlace_1 rfl ?_
  refine cM_201 (Ok.bind h) ⟨Nat.le_of_ble_eq_true rfl, Nat.le_of_ble_eq_true rfl⟩ (Nat.le_of_ble_eq_true rfl) dX11_canPlace_2 (fun r1 z_r1 h => ?_)
  refine v_if_ne (tgt := 18) dX11_canPlace_5 rfl (fun c2 => ?_) (fun c2 => ?_)
  · have h := Ok.neg h c2
    refine v_iconst dX11_canPlace_18 ic_0 ?_
    have h := Ok.ret h
    exact v_zret rfl zB_0 (Nat.zero_le _) (Nat.zero_le _) dX11_canPlace_19 (h zB_0)
  · have h := Ok.pos h c2
    refine v_aload_n 0 dX11_canPlace_8 rfl ?_
    refine v_iload_n 1 dX11_canPlace_9 rfl ?_
    refine cM_169 (Ok.bind h) ⟨Nat.le_of_ble_eq_true rfl, Nat.le_of_ble_eq_true rfl⟩ (Nat.le_of_ble_eq_true rfl) dX11_canPlace_10 (fun r3 h => ?_)
    refine v_bipush dX11_canPlace_13 kb_6 ?_
    refine v_icmp_ne (tgt := 20) dX11_canPlace_15 rfl (fun c4 => ?_) (fun c4 => ?_)
    · have h := Ok.neg h c4
      refine v_iconst dX11_canPlace_20 ic_0 ?_
      refine v_istore [(4, .int (0 : Int32)), (0, .ref (lc 0 0)), (1, .int x1), (2, .int x2), (3, .int x3)] dX11_canPlace_21 (Nat.le_of_ble_eq_true rfl) rfl ?_
      refine v_sub [1, 2, 3, 4, 0] rfl ?_
      refine itr_loopR (P := fun a5 : Int32 => tt_V (XM l D dA A) cX11_canPlace (RX11, 5, (some .boolean), rM_canPlace, tt_nt) (tt_fn (XM l D dA A) (RX11, 5, (some .boolean), rM_canPlace, tt_nt) Q) 23 [(0, .ref (lc 0 0)), (1, .int x1), (2, .int x2), (3, .int x3), (4, .int a5)] [] lc s 0 0) (PE := fun b6 : Int32 => tt_V (XM l D dA A) cX11_canPlace (RX11, 5, (some .boolean), rM_canPlace, tt_nt) (tt_fn (XM l D dA A) (RX11, 5, (some .boolean), rM_canPlace, tt_nt) Q) 71 [(0, .ref (lc 0 0)), (1, .int x1), (2, .int x2), (3, .int x3), (4, .int b6)] [] lc s 0 0) h (fun b6 h => ?_) (fun a5 h => ?_)
      · refine v_iconst dX11_canPlace_71 ic_1 ?_
        have h := Ok.ret h
        exact v_zret rfl zB_1 (Nat.zero_le _) (Nat.zero_le _) dX11_canPlace_72 (h zB_1)
      · have h : Ok (fM_canPlace_L23 s x1 x2 x3 a5) _ := h
        unfold fM_canPlace_L23 at h
        refine v_iload 4 dX11_canPlace_23 rfl ?_
        refine v_bipush dX11_canPlace_25 kb_40 ?_
        refine v_icmp_ge (tgt := 71) dX11_canPlace_27 rfl (fun c7 => ?_) (fun c7 => ?_)
        · have h := Ok.pos h c7
          have h := Ok.ret h
          exact h
        · have h := Ok.neg h c7
          refine v_aload_n 0 dX11_canPlace_30 rfl ?_
          refine v_iload 4 dX11_canPlace_31 rfl ?_
          refine v_iload_n 1 dX11_canPlace_33 rfl ?_
          refine cM_283 (Ok.bind h) ⟨Nat.le_of_ble_eq_true rfl, Nat.le_of_ble_eq_true rfl⟩ (Nat.le_of_ble_eq_true rfl) dX11_canPlace_34 (fun r8 z_r8 h => ?_)
          refine v_if_eq (tgt := 65) dX11_canPlace_37 rfl (fun c9 => ?_) (fun c9 => ?_)
          · have h := Ok.pos h c9
            refine v_iinc (v := (a5 + 1 : Int32)) 4 [(4, .int (a5 + 1 : Int32)), (0, .ref (lc 0 0)), (1, .int x1), (2, .int x2), (3, .int x3)] dX11_canPlace_65 rfl (by rw [ic_1]) (Nat.le_of_ble_eq_true rfl) rfl ?_
            refine v_goto (tgt := 23) dX11_canPlace_68 rfl ?_
            refine v_sub [1, 2, 3, 4, 0] rfl ?_
            have h := Ok.ret h
            exact h
          · have h := Ok.neg h c9
            refine v_iload_n 2 dX11_canPlace_40 rfl ?_
            refine v_aload_n 0 dX11_canPlace_41 rfl ?_
            refine v_iload 4 dX11_canPlace_42 rfl ?_
            refine cM_165 (Ok.bind h) ⟨Nat.le_of_ble_eq_true rfl, Nat.le_of_ble_eq_true rfl⟩ (Nat.le_of_ble_eq_true rfl) dX11_canPlace_44 (fun r10 h => ?_)
            refine v_icmp_ge (tgt := 65) dX11_canPlace_47 rfl (fun c11 => ?_) (fun c11 => ?_)
            · have h := Ok.pos h c11
              refine v_iinc (v := (a5 + 1 : Int32)) 4 [(4, .int (a5 + 1 : Int32)), (0, .ref (lc 0 0)), (1, .int x1), (2, .int x2), (3, .int x3)] dX11_canPlace_65 rfl (by rw [ic_1]) (Nat.le_of_ble_eq_true rfl) rfl ?_
              refine v_goto (tgt := 23) dX11_canPlace_68 rfl ?_
              refine v_sub [1, 2, 3, 4, 0] rfl ?_
              have h := Ok.ret h
              exact h
            · have h := Ok.neg h c11
              refine v_aload_n 0 dX11_canPlace_50 rfl ?_
              refine gM_39 dX11_canPlace_51 ?_
              refine v_iload 4 dX11_canPlace_54 rfl ?_
              obtain ⟨g12, h⟩ := Ok.guard h
              refine lM_9 g12 dX11_canPlace_56 ?_
              refine v_iload_n 2 dX11_canPlace_57 rfl ?_
              refine v_iload_n 3 dX11_canPlace_58 rfl ?_
              refine v_iadd dX11_canPlace_59 ?_
              refine v_icmp_ge (tgt := 65) dX11_canPlace_60 rfl (fun c13 => ?_) (fun c13 => ?_)
              · have h := Ok.pos h c13
                refine v_iinc (v := (a5 + 1 : Int32)) 4 [(4, .int (a5 + 1 : Int32)), (0, .ref (lc 0 0)), (1, .int x1), (2, .int x2), (3, .int x3)] dX11_canPlace_65 rfl (by rw [ic_1]) (Nat.le_of_ble_eq_true rfl) rfl ?_
                refine v_goto (tgt := 23) dX11_canPlace_68 rfl ?_
                refine v_sub [1, 2, 3, 4, 0] rfl ?_
                have h := Ok.ret h
                exact h
              · have h := Ok.neg h c13
                refine v_iconst dX11_canPlace_63 ic_0 ?_
                have h := Ok.ret h
                exact v_zret rfl zB_0 (Nat.zero_le _) (Nat.zero_le _) dX11_canPlace_64 (h zB_0)
    · have h := Ok.pos h c4
      refine v_iconst dX11_canPlace_18 ic_0 ?_
      have h := Ok.ret h
      exact v_zret rfl zB_0 (Nat.zero_le _) (Nat.zero_le _) dX11_canPlace_19 (h zB_0)
theorem cM_292 {l : Launch} {D : va_G} {dA : Nat → ClassId} {A : Nat → Prop} {lc : Nat → Nat → Nat} {s : tt_St} {cc : ByteArray} {nl : Nat} {rt : Option FieldType} {rm : Room} {tn : tt_Tn} {Q : tt_Fin} {pc : Nat} {lv : List (Nat × Value)} {rest : List Value} {ck cn : Nat} {x1 : Int32} {x2 : Int32} {x3 : Int32} {K : Int32 → Prop} (h : Ok (fM_canPlace s x1 x2 x3) K) (hR : 1 + 1 ≤ rm.frames ∧ 8 + (5 + 11) + 22 ≤ rm.locals) (hW : (rest.map fun v => v.category).sum ≤ 8) (d : decode cc pc = .ok (.invokevirtual 292, 3)) (kk : ∀ r, zB r → K r → tt_V (XM l D dA A) cc (RX11, nl, rt, rm, tn) Q (pc + 3) lv (.int r :: rest) lc s ck cn) (hf : ck ≤ rm.cells ∧ cn ≤ rm.slots := by exact ⟨Nat.zero_le _, Nat.zero_le _⟩) : tt_V (XM l D dA A) cc (RX11, nl, rt, rm, tn) Q pc lv (.int x3 :: .int x2 :: .int x1 :: .ref (lc 0 0) :: rest) lc s ck cn :=
  v_callV (kd := 0) (i := 0) (nA := 3) (As := [.int x1, .int x2, .int x3]) lvM_0 oM rfl (mM_canPlace l D dA A lc s x1 x2 x3 (Q := (fun v lc' s' => ∃ r, zB r ∧ K r ∧ v = some (.int r) ∧ lc' = lc ∧ s' = s)) (h.mono (fun r hr => fun hz => ⟨r, hz, hr, rfl, rfl, rfl⟩))) (lw_V q1932 q1934 qs51 q154 q1935) (by decide +kernel) rfl hR hW hf d rfl (fun v lc' s' q => by obtain ⟨r, hz, hr, e1, e2, e3⟩ := q; rw [e1, e2, e3]; exact kk r hz hr)
def fM_signedTenths_L4 (s : tt_St) (x1 : Int32) (a1 : Int32 × Int32) : Option ((Int32 × Int32) ⊕ (Int32 × Int32)) :=
  if inB x1 40 then if (rdI s 12 0 x1.toNatClampNeg) ≤ a1.2 then some (.inr (a1.1, a1.2)) else if inB (((4 : Int32) * x1) + a1.2) 160 then nm (a1.1 + (rdI s 14 0 (((4 : Int32) * x1) + a1.2).toNatClampNeg)) fun v6 => some (.inl (v6, (a1.2 + 1 : Int32))) else none else none
def fM_signedTenths (s : tt_St) (x1 : Int32) : Option (Int32) :=
  (itr (fM_signedTenths_L4 s x1) tt_fuel ((0 : Int32), (0 : Int32))).bind fun b2 => some b2.1
abbrev rM_signedTenths : Room := { frames := 0, cells := 0, slots := 0, locals := 0 }
set_option maxHeartbeats 4000000 in
theorem mM_signedTenths (l : Launch) (D : va_G) (dA : Nat → ClassId) (A : Nat → Prop) (lc : Nat → Nat → Nat) (s : tt_St) (x1 : Int32) {Q : Option Value → (Nat → Nat → Nat) → tt_St → Prop} (h : Ok (fM_signedTenths s x1) (fun r => Q (some (.int r)) lc s)) : tt_Sp (XM l D dA A) yX11_signedTenths cX11_signedTenths 4 (some .int) rM_signedTenths [.ref (lc 0 0), .int x1] lc s Q := by
  refine tt_Sp.ofV plM kokM (Nat.le_of_ble_eq_true rfl) ?_
  show tt_V (XM l D dA A) cX11_signedTenths (RX11, 4, (some .int), rM_signedTenths, tt_nt) (tt_fn (XM l D dA A) (RX11, 4, (some .int), rM_signedTenths, tt_nt) Q) 0 [(0, .ref (lc 0 0)), (1, .int x1)] [] lc s 0 0
  unfold fM_signedTenths at h
  refine v_iconst dX11_signedTenths_0 ic_0 ?_
  refine v_istore_n [(2, .int (0 : Int32)), (0, .ref (lc 0 0)), (1, .int x1)] dX11_signedTenths_1 (Nat.le_of_ble_eq_true rfl) rfl ?_
  refine v_iconst dX11_signedTenths_2 ic_0 ?_
  refine v_istore_n [(3, .int (0 : Int32)), (2, .int (0 : Int32)), (0, .ref (lc 0 0)), (1, .int x1)] dX11_signedTenths_3 (Nat.le_of_ble_eq_true rfl) rfl ?_
  refine v_sub [2, 3, 1, 0] rfl ?_
  refine itr_loop (P := fun a1 : Int32 × Int32 => tt_V (XM l D dA A) cX11_signedTenths (RX11, 4, (some .int), rM_signedTenths, tt_nt) (tt_fn (XM l D dA A) (RX11, 4, (some .int), rM_signedTenths, tt_nt) Q) 4 [(0, .ref (lc 0 0)), (1, .int x1), (2, .int a1.1), (3, .int a1.2)] [] lc s 0 0) (PE := fun b2 : Int32 × Int32 => tt_V (XM l D dA A) cX11_signedTenths (RX11, 4, (some .int), rM_signedTenths, tt_nt) (tt_fn (XM l D dA A) (RX11, 4, (some .int), rM_signedTenths, tt_nt) Q) 33 [(0, .ref (lc 0 0)), (1, .int x1), (2, .int b2.1), (3, .int b2.2)] [] lc s 0 0) h (fun b2 h => ?_) (fun a1 h => ?_)
  · refine v_iload_n 2 dX11_signedTenths_33 rfl ?_
    have h := Ok.ret h
    exact v_iret rfl (Nat.zero_le _) (Nat.zero_le _) dX11_signedTenths_34 h
  · have h : Ok (fM_signedTenths_L4 s x1 a1) _ := h
    unfold fM_signedTenths_L4 at h
    refine v_iload_n 3 dX11_signedTenths_4 rfl ?_
    refine v_aload_n 0 dX11_signedTenths_5 rfl ?_
    refine gM_48 dX11_signedTenths_6 ?_
    refine v_iload_n 1 dX11_signedTenths_9 rfl ?_
    obtain ⟨g3, h⟩ := Ok.guard h
    refine lM_12 g3 dX11_signedTenths_10 ?_
    refine v_icmp_ge (tgt := 33) dX11_signedTenths_11 rfl (fun c4 => ?_) (fun c4 => ?_)
    · have h := Ok.pos h c4
      have h := Ok.ret h
      exact h
    · have h := Ok.neg h c4
      refine v_iload_n 2 dX11_signedTenths_14 rfl ?_
      refine v_aload_n 0 dX11_signedTenths_15 rfl ?_
      refine gM_54 dX11_signedTenths_16 ?_
      refine v_iconst dX11_signedTenths_19 ic_4 ?_
      refine v_iload_n 1 dX11_signedTenths_20 rfl ?_
      refine v_imul dX11_signedTenths_21 ?_
      refine v_iload_n 3 dX11_signedTenths_22 rfl ?_
      refine v_iadd dX11_signedTenths_23 ?_
      obtain ⟨g5, h⟩ := Ok.guard h
      refine lM_14 g5 dX11_signedTenths_24 ?_
      refine v_iadd dX11_signedTenths_25 ?_
      refine v_nmI (fun v6 e_v6 => ?_)
      have h := Ok.nm h e_v6
      refine v_istore_n [(2, .int v6), (0, .ref (lc 0 0)), (1, .int x1), (3, .int a1.2)] dX11_signedTenths_26 (Nat.le_of_ble_eq_true rfl) rfl ?_
      refine v_iinc (v := (a1.2 + 1 : Int32)) 3 [(3, .int (a1.2 + 1 : Int32)), (2, .int v6), (0, .ref (lc 0 0)), (1, .int x1)] dX11_signedTenths_27 rfl (by rw [ic_1]) (Nat.le_of_ble_eq_true rfl) rfl ?_
      refine v_goto (tgt := 4) dX11_signedTenths_30 rfl ?_
      refine v_sub [2, 3, 1, 0] rfl ?_
      have h := Ok.ret h
      exact h
theorem cM_286 {l : Launch} {D : va_G} {dA : Nat → ClassId} {A : Nat → Prop} {lc : Nat → Nat → Nat} {s : tt_St} {cc : ByteArray} {nl : Nat} {rt : Option FieldType} {rm : Room} {tn : tt_Tn} {Q : tt_Fin} {pc : Nat} {lv : List (Nat × Value)} {rest : List Value} {ck cn : Nat} {x1 : Int32} {K : Int32 → Prop} (h : Ok (fM_signedTenths s x1) K) (hR : 0 + 1 ≤ rm.frames ∧ 8 + (4 + 11) + 0 ≤ rm.locals) (hW : (rest.map fun v => v.category).sum ≤ 8) (d : decode cc pc = .ok (.invokevirtual 286, 3)) (kk : ∀ r, K r → tt_V (XM l D dA A) cc (RX11, nl, rt, rm, tn) Q (pc + 3) lv (.int r :: rest) lc s ck cn) (hf : ck ≤ rm.cells ∧ cn ≤ rm.slots := by exact ⟨Nat.zero_le _, Nat.zero_le _⟩) : tt_V (XM l D dA A) cc (RX11, nl, rt, rm, tn) Q pc lv (.int x1 :: .ref (lc 0 0) :: rest) lc s ck cn :=
  v_callV (kd := 0) (i := 0) (nA := 1) (As := [.int x1]) lvM_0 oM rfl (mM_signedTenths l D dA A lc s x1 (Q := (fun v lc' s' => ∃ r, K r ∧ v = some (.int r) ∧ lc' = lc ∧ s' = s)) (h.mono (fun r hr => ⟨r, hr, rfl, rfl, rfl⟩))) (lw_V q2136 q2138 qs99 q154 q2139) (by decide +kernel) rfl hR hW hf d rfl (fun v lc' s' q => by obtain ⟨r, hr, e1, e2, e3⟩ := q; rw [e1, e2, e3]; exact kk r hr)
def fM_canSign_L47 (s : tt_St) (x1 : Int32) (x2 : Int32) (a7 : Int32) : Option ((Int32) ⊕ (Int32) ⊕ (Int32)) :=
  if (rdI s 12 0 x1.toNatClampNeg) ≤ a7 then some (.inr (.inl a7)) else if inB (((4 : Int32) * x1) + a7) 160 then if (rdI s 13 0 (((4 : Int32) * x1) + a7).toNatClampNeg) = x2 then some (.inr (.inr (0 : Int32))) else some (.inl (a7 + 1 : Int32)) else none
def fM_canSign (s : tt_St) (x1 : Int32) (x2 : Int32) (x3 : Int32) : Option (Int32) :=
  if inB x1 40 then if (rdI s 6 0 x1.toNatClampNeg) = 0 then some (0 : Int32) else if (rdI s 12 0 x1.toNatClampNeg) = (4 : Int32) then some (0 : Int32) else (fM_signedTenths s x1).bind fun r4 => if (10 : Int32) < (r4 + x3) then some (0 : Int32) else if (rdL s 15 0 x1.toNatClampNeg) ≤ (0 : Int64) then (itr (fM_canSign_L47 s x1 x2) tt_fuel (0 : Int32)).bind fun q_b8 => orRet q_b8 fun b8 => some (1 : Int32) else some (0 : Int32) else none
abbrev rM_canSign : Room := { frames := 1, cells := 0, slots := 0, locals := 23 }
set_option maxHeartbeats 4000000 in
theorem mM_canSign (l : Launch) (D : va_G) (dA : Nat → ClassId) (A : Nat → Prop) (lc : Nat → Nat → Nat) (s : tt_St) (x1 : Int32) (x2 : Int32) (x3 : Int32) {Q : Option Value → (Nat → Nat → Nat) → tt_St → Prop} (h : Ok (fM_canSign s x1 x2 x3) (fun r => zB r → Q (some (.int r)) lc s)) : tt_Sp (XM l D dA A) yX11_canSign cX11_canSign 5 (some .boolean) rM_canSign [.ref (lc 0 0), .int x1, .int x2, .int x3] lc s Q := by
  refine tt_Sp.ofV plM kokM (Nat.le_of_ble_eq_true rfl) ?_
  show tt_V (XM l D dA A) cX11_canSign (RX11, 5, (some .boolean), rM_canSign, tt_nt) (tt_fn (XM l D dA A) (RX11, 5, (some .boolean), rM_canSign, tt_nt) Q) 0 [(0, .ref (lc 0 0)), (1, .int x1), (2, .int x2), (3, .int x3)] [] lc s 0 0
  unfold fM_canSign at h
  refine v_aload_n 0 dX11_canSign_0 rfl ?_
  refine gM_29 dX11_canSign_1 ?_
  refine v_iload_n 1 dX11_canSign_4 rfl ?_
  obtain ⟨g1, h⟩ := Ok.guard h
  refine lM_6 g1 dX11_canSign_5 ?_
  refine v_if_eq (tgt := 42) dX11_canSign_6 rfl (fun c2 => ?_) (fun c2 => ?_)
  · have h := Ok.pos h c2
    refine v_iconst dX11_canSign_42 ic_0 ?_
    have h := Ok.ret h
    exact v_zret rfl zB_0 (Nat.zero_le _) (Nat.zero_le _) dX11_canSign_43 (h zB_0)
  · have h := Ok.neg h c2
    refine v_aload_n 0 dX11_canSign_9 rfl ?_
    refine gM_48 dX11_canSign_10 ?_
    refine v_iload_n 1 dX11_canSign_13 rfl ?_
    refine lM_12 g1 dX11_canSign_14 ?_
    refine v_iconst dX11_canSign_15 ic_4 ?_
    refine v_icmp_eq (tgt := 42) dX11_canSign_16 rfl (fun c3 => ?_) (fun c3 => ?_)
    · have h := Ok.pos h c3
      refine v_iconst dX11_canSign_42 ic_0 ?_
      have h := Ok.ret h
      exact v_zret rfl zB_0 (Nat.zero_le _) (Nat.zero_le _) dX11_canSign_43 (h zB_0)
    · have h := Ok.neg h c3
      refine v_aload_n 0 dX11_canSign_19 rfl ?_
      refine v_iload_n 1 dX11_canSign_20 rfl ?_
      refine cM_286 (Ok.bind h) ⟨Nat.le_of_ble_eq_true rfl, Nat.le_of_ble_eq_true rfl⟩ (Nat.le_of_ble_eq_true rfl) dX11_canSign_21 (fun r4 h => ?_)
      refine v_iload_n 3 dX11_canSign_24 rfl ?_
      refine v_iadd dX11_canSign_25 ?_
      refine v_bipush dX11_canSign_26 kb_10 ?_
      refine v_icmp_gt (tgt := 42) dX11_canSign_28 rfl (fun c5 => ?_) (fun c5 => ?_)
      · have h := Ok.pos h c5
        refine v_iconst dX11_canSign_42 ic_0 ?_
        have h := Ok.ret h
        exact v_zret rfl zB_0 (Nat.zero_le _) (Nat.zero_le _) dX11_canSign_43 (h zB_0)
      · have h := Ok.neg h c5
        refine v_aload_n 0 dX11_canSign_31 rfl ?_
        refine gM_57 dX11_canSign_32 ?_
        refine v_iload_n 1 dX11_canSign_35 rfl ?_
        refine lM_15 g1 dX11_canSign_36 ?_
        refine v_lconst dX11_canSign_37 kl_0 ?_
        refine v_lif_le (tgt := 44) dX11_canSign_38 dX11_canSign_39 rfl (fun c6 => ?_) (fun c6 => ?_)
        · have h := Ok.pos h c6
          refine v_iconst dX11_canSign_44 ic_0 ?_
          refine v_istore [(4, .int (0 : Int32)), (0, .ref (lc 0 0)), (1, .int x1), (2, .int x2), (3, .int x3)] dX11_canSign_45 (Nat.le_of_ble_eq_true rfl) rfl ?_
          refine v_sub [1, 2, 3, 0] rfl ?_
          refine itr_loopR (P := fun a7 : Int32 => tt_V (XM l D dA A) cX11_canSign (RX11, 5, (some .boolean), rM_canSign, tt_nt) (tt_fn (XM l D dA A) (RX11, 5, (some .boolean), rM_canSign, tt_nt) Q) 47 [(0, .ref (lc 0 0)), (1, .int x1), (2, .int x2), (4, .int a7)] [] lc s 0 0) (PE := fun b8 : Int32 => tt_V (XM l D dA A) cX11_canSign (RX11, 5, (some .boolean), rM_canSign, tt_nt) (tt_fn (XM l D dA A) (RX11, 5, (some .boolean), rM_canSign, tt_nt) Q) 81 [(0, .ref (lc 0 0)), (1, .int x1), (2, .int x2), (4, .int b8)] [] lc s 0 0) h (fun b8 h => ?_) (fun a7 h => ?_)
          · refine v_iconst dX11_canSign_81 ic_1 ?_
            have h := Ok.ret h
            exact v_zret rfl zB_1 (Nat.zero_le _) (Nat.zero_le _) dX11_canSign_82 (h zB_1)
          · have h : Ok (fM_canSign_L47 s x1 x2 a7) _ := h
            unfold fM_canSign_L47 at h
            refine v_iload 3 dX11_canSign_47 rfl ?_
            refine v_aload_n 0 dX11_canSign_49 rfl ?_
            refine gM_48 dX11_canSign_50 ?_
            refine v_iload_n 1 dX11_canSign_53 rfl ?_
            refine lM_12 g1 dX11_canSign_54 ?_
            refine v_icmp_ge (tgt := 81) dX11_canSign_55 rfl (fun c9 => ?_) (fun c9 => ?_)
            · have h := Ok.pos h c9
              have h := Ok.ret h
              exact h
            · have h := Ok.neg h c9
              refine v_aload_n 0 dX11_canSign_58 rfl ?_
              refine gM_51 dX11_canSign_59 ?_
              refine v_iconst dX11_canSign_62 ic_4 ?_
              refine v_iload_n 1 dX11_canSign_63 rfl ?_
              refine v_imul dX11_canSign_64 ?_
              refine v_iload 3 dX11_canSign_65 rfl ?_
              refine v_iadd dX11_canSign_67 ?_
              obtain ⟨g10, h⟩ := Ok.guard h
              refine lM_13 g10 dX11_canSign_68 ?_
              refine v_iload_n 2 dX11_canSign_69 rfl ?_
              refine v_icmp_ne (tgt := 75) dX11_canSign_70 rfl (fun c11 => ?_) (fun c11 => ?_)
              · have h := Ok.neg h c11
                refine v_iinc (v := (a7 + 1 : Int32)) 3 [(4, .int (a7 + 1 : Int32)), (0, .ref (lc 0 0)), (1, .int x1), (2, .int x2)] dX11_canSign_75 rfl (by rw [ic_1]) (Nat.le_of_ble_eq_true rfl) rfl ?_
                refine v_goto (tgt := 47) dX11_canSign_78 rfl ?_
                refine v_sub [1, 2, 3, 0] rfl ?_
                have h := Ok.ret h
                exact h
              · have h := Ok.pos h c11
                refine v_iconst dX11_canSign_73 ic_0 ?_
                have h := Ok.ret h
                exact v_zret rfl zB_0 (Nat.zero_le _) (Nat.zero_le _) dX11_canSign_74 (h zB_0)
        · have h := Ok.neg h c6
          refine v_iconst dX11_canSign_42 ic_0 ?_
          have h := Ok.ret h
          exact v_zret rfl zB_0 (Nat.zero_le _) (Nat.zero_le _) dX11_canSign_43 (h zB_0)
theorem cM_296 {l : Launch} {D : va_G} {dA : Nat → ClassId} {A : Nat → Prop} {lc : Nat → Nat → Nat} {s : tt_St} {cc : ByteArray} {nl : Nat} {rt : Option FieldType} {rm : Room} {tn : tt_Tn} {Q : tt_Fin} {pc : Nat} {lv : List (Nat × Value)} {rest : List Value} {ck cn : Nat} {x1 : Int32} {x2 : Int32} {x3 : Int32} {K : Int32 → Prop} (h : Ok (fM_canSign s x1 x2 x3) K) (hR : 1 + 1 ≤ rm.frames ∧ 8 + (5 + 11) + 23 ≤ rm.locals) (hW : (rest.map fun v => v.category).sum ≤ 8) (d : decode cc pc = .ok (.invokevirtual 296, 3)) (kk : ∀ r, zB r → K r → tt_V (XM l D dA A) cc (RX11, nl, rt, rm, tn) Q (pc + 3) lv (.int r :: rest) lc s ck cn) (hf : ck ≤ rm.cells ∧ cn ≤ rm.slots := by exact ⟨Nat.zero_le _, Nat.zero_le _⟩) : tt_V (XM l D dA A) cc (RX11, nl, rt, rm, tn) Q pc lv (.int x3 :: .int x2 :: .int x1 :: .ref (lc 0 0) :: rest) lc s ck cn :=
  v_callV (kd := 0) (i := 0) (nA := 3) (As := [.int x1, .int x2, .int x3]) lvM_0 oM rfl (mM_canSign l D dA A lc s x1 x2 x3 (Q := (fun v lc' s' => ∃ r, zB r ∧ K r ∧ v = some (.int r) ∧ lc' = lc ∧ s' = s)) (h.mono (fun r hr => fun hz => ⟨r, hz, hr, rfl, rfl, rfl⟩))) (lw_V q2132 q2134 qs98 q154 q2135) (by decide +kernel) rfl hR hW hf d rfl (fun v lc' s' q => by obtain ⟨r, hz, hr, e1, e2, e3⟩ := q; rw [e1, e2, e3]; exact kk r hz hr)
def fM_can (s : tt_St) (x1 : Int32) : Option (Int32) :=
  if inB x1 160 then if (rdI s 2 0 x1.toNatClampNeg) = 0 then (fM_tell s x1 (0 : Int32)).bind fun r3 => (fM_tell s x1 (1 : Int32)).bind fun r4 => (fM_tell s x1 (2 : Int32)).bind fun r5 => (fM_canPlace s r3 r4 r5).bind fun r6 => some r6 else if (rdI s 2 0 x1.toNatClampNeg) = 1 then (fM_tell s x1 (0 : Int32)).bind fun r8 => (fM_tell s x1 (1 : Int32)).bind fun r9 => (fM_tell s x1 (2 : Int32)).bind fun r10 => (fM_canSign s r8 r9 r10).bind fun r11 => some r11 else if (rdI s 2 0 x1.toNatClampNeg) = 2 then (fM_tell s x1 (0 : Int32)).bind fun r13 => (fM_isLacking s r13).bind fun r14 => if r14 = 0 then (fM_tell s x1 (0 : Int32)).bind fun r16 => (fM_isGap s r16).bind fun r17 => if r17 = 0 then some (0 : Int32) else some (1 : Int32) else some (0 : Int32) else if (rdI s 2 0 x1.toNatClampNeg) = 3 then some (1 : Int32) else if (rdI s 2 0 x1.toNatClampNeg) = 4 then some (1 : Int32) else if (rdI s 2 0 x1.toNatClampNeg) = 5 then (fM_tell s x1 (0 : Int32)).bind fun r22 => if inB r22 25 then if zb (rdI s 7 0 r22.toNatClampNeg) then some (rdI s 7 0 r22.toNatClampNeg) else none else none else if (rdI s 2 0 x1.toNatClampNeg) = 6 then (fM_tell s x1 (0 : Int32)).bind fun r26 => if inB r26 10 then if (rdI s 27 0 r26.toNatClampNeg) = 0 then some (1 : Int32) else some (0 : Int32) else none else if (rdI s 2 0 x1.toNatClampNeg) = 7 then (fM_tell s x1 (0 : Int32)).bind fun r30 => if inB r30 10 then if (rdI s 27 0 r30.toNatClampNeg) = 0 then some (1 : Int32) else some (0 : Int32) else none else if (rdI s 2 0 x1.toNatClampNeg) = 8 then (fM_tell s x1 (0 : Int32)).bind fun r34 => if inB r34 25 then if zb (rdI s 7 0 r34.toNatClampNeg) then some (rdI s 7 0 r34.toNatClampNeg) else none else none else some (1 : Int32) else none
abbrev rM_can : Room := { frames := 2, cells := 0, slots := 0, locals := 47 }
set_option maxHeartbeats 4000000 in
theorem mM_can (l : Launch) (D : va_G) (dA : Nat → ClassId) (A : Nat → Prop) (lc : Nat → Nat → Nat) (s : tt_St) (x1 : Int32) {Q : Option Value → (Nat → Nat → Nat) → tt_St → Prop} (h : Ok (fM_can s x1) (fun r => zB r → Q (some (.int r)) lc s)) : tt_Sp (XM l D dA A) yX11_can cX11_can 2 (some .boolean) rM_can [.ref (lc 0 0), .int x1] lc s Q := by
  refine tt_Sp.ofV plM kokM (Nat.le_of_ble_eq_true rfl) ?_
  show tt_V (XM l D dA A) cX11_can (RX11, 2, (some .boolean), rM_can, tt_nt) (tt_fn (XM l D dA A) (RX11, 2, (some .boolean), rM_can, tt_nt) Q) 0 [(0, .ref (lc 0 0)), (1, .int x1)] [] lc s 0 0
  unfold fM_can at h
  refine v_aload_n 0 dX11_can_0 rfl ?_
  refine gM_14 dX11_can_1 ?_
  refine v_iload_n 1 dX11_can_4 rfl ?_
  obtain ⟨g1, h⟩ := Ok.guard h
  refine lM_2 g1 dX11_can_5 ?_
  rcases Decidable.em ((rdI s 2 0 x1.toNatClampNeg) = 0) with c2 | c2
  · have h := Ok.pos h c2
    refine v_tableIn (v := 0) (tgt := 56) dX11_can_6 c2 (by decide) (by decide) rfl rfl ?_
    refine v_aload_n 0 dX11_can_56 rfl ?_
    refine v_aload_n 0 dX11_can_57 rfl ?_
    refine v_iload_n 1 dX11_can_58 rfl ?_
    refine v_iconst dX11_can_59 ic_0 ?_
    refine cM_289 (Ok.bind h) ⟨Nat.le_of_ble_eq_true rfl, Nat.le_of_ble_eq_true rfl⟩ (Nat.le_of_ble_eq_true rfl) dX11_can_60 (fun r3 h => ?_)
    refine v_aload_n 0 dX11_can_63 rfl ?_
    refine v_iload_n 1 dX11_can_64 rfl ?_
    refine v_iconst dX11_can_65 ic_1 ?_
    refine cM_289 (Ok.bind h) ⟨Nat.le_of_ble_eq_true rfl, Nat.le_of_ble_eq_true rfl⟩ (Nat.le_of_ble_eq_true rfl) dX11_can_66 (fun r4 h => ?_)
    refine v_aload_n 0 dX11_can_69 rfl ?_
    refine v_iload_n 1 dX11_can_70 rfl ?_
    refine v_iconst dX11_can_71 ic_2 ?_
    refine cM_289 (Ok.bind h) ⟨Nat.le_of_ble_eq_true rfl, Nat.le_of_ble_eq_true rfl⟩ (Nat.le_of_ble_eq_true rfl) dX11_can_72 (fun r5 h => ?_)
    refine cM_292 (Ok.bind h) ⟨Nat.le_of_ble_eq_true rfl, Nat.le_of_ble_eq_true rfl⟩ (Nat.le_of_ble_eq_true rfl) dX11_can_75 (fun r6 z_r6 h => ?_)
    have h := Ok.ret h
    exact v_zret rfl z_r6 (Nat.zero_le _) (Nat.zero_le _) dX11_can_78 (h z_r6)
  · have h := Ok.neg h c2
    rcases Decidable.em ((rdI s 2 0 x1.toNatClampNeg) = 1) with c7 | c7
    · have h := Ok.pos h c7
      refine v_tableIn (v := 1) (tgt := 79) dX11_can_6 c7 (by decide) (by decide) rfl rfl ?_
      refine v_aload_n 0 dX11_can_79 rfl ?_
      refine v_aload_n 0 dX11_can_80 rfl ?_
      refine v_iload_n 1 dX11_can_81 rfl ?_
      refine v_iconst dX11_can_82 ic_0 ?_
      refine cM_289 (Ok.bind h) ⟨Nat.le_of_ble_eq_true rfl, Nat.le_of_ble_eq_true rfl⟩ (Nat.le_of_ble_eq_true rfl) dX11_can_83 (fun r8 h => ?_)
      refine v_aload_n 0 dX11_can_86 rfl ?_
      refine v_iload_n 1 dX11_can_87 rfl ?_
      refine v_iconst dX11_can_88 ic_1 ?_
      refine cM_289 (Ok.bind h) ⟨Nat.le_of_ble_eq_true rfl, Nat.le_of_ble_eq_true rfl⟩ (Nat.le_of_ble_eq_true rfl) dX11_can_89 (fun r9 h => ?_)
      refine v_aload_n 0 dX11_can_92 rfl ?_
      refine v_iload_n 1 dX11_can_93 rfl ?_
      refine v_iconst dX11_can_94 ic_2 ?_
      refine cM_289 (Ok.bind h) ⟨Nat.le_of_ble_eq_true rfl, Nat.le_of_ble_eq_true rfl⟩ (Nat.le_of_ble_eq_true rfl) dX11_can_95 (fun r10 h => ?_)
      refine cM_296 (Ok.bind h) ⟨Nat.le_of_ble_eq_true rfl, Nat.le_of_ble_eq_true rfl⟩ (Nat.le_of_ble_eq_true rfl) dX11_can_98 (fun r11 z_r11 h => ?_)
      have h := Ok.ret h
      exact v_zret rfl z_r11 (Nat.zero_le _) (Nat.zero_le _) dX11_can_101 (h z_r11)
    · have h := Ok.neg h c7
      rcases Decidable.em ((rdI s 2 0 x1.toNatClampNeg) = 2) with c12 | c12
      · have h := Ok.pos h c12
        refine v_tableIn (v := 2) (tgt := 102) dX11_can_6 c12 (by decide) (by decide) rfl rfl ?_
        refine v_aload_n 0 dX11_can_102 rfl ?_
        refine v_aload_n 0 dX11_can_103 rfl ?_
        refine v_iload_n 1 dX11_can_104 rfl ?_
        refine v_iconst dX11_can_105 ic_0 ?_
        refine cM_289 (Ok.bind h) ⟨Nat.le_of_ble_eq_true rfl, Nat.le_of_ble_eq_true rfl⟩ (Nat.le_of_ble_eq_true rfl) dX11_can_106 (fun r13 h => ?_)
        refine cM_201 (Ok.bind h) ⟨Nat.le_of_ble_eq_true rfl, Nat.le_of_ble_eq_true rfl⟩ (Nat.le_of_ble_eq_true rfl) dX11_can_109 (fun r14 z_r14 h => ?_)
        refine v_if_ne (tgt := 132) dX11_can_112 rfl (fun c15 => ?_) (fun c15 => ?_)
        · have h := Ok.neg h c15
          refine v_iconst dX11_can_132 ic_0 ?_
          have h := Ok.ret h
          exact v_zret rfl zB_0 (Nat.zero_le _) (Nat.zero_le _) dX11_can_133 (h zB_0)
        · have h := Ok.pos h c15
          refine v_aload_n 0 dX11_can_115 rfl ?_
          refine v_aload_n 0 dX11_can_116 rfl ?_
          refine v_iload_n 1 dX11_can_117 rfl ?_
          refine v_iconst dX11_can_118 ic_0 ?_
          refine cM_289 (Ok.bind h) ⟨Nat.le_of_ble_eq_true rfl, Nat.le_of_ble_eq_true rfl⟩ (Nat.le_of_ble_eq_true rfl) dX11_can_119 (fun r16 h => ?_)
          refine cM_205 (Ok.bind h) ⟨Nat.le_of_ble_eq_true rfl, Nat.le_of_ble_eq_true rfl⟩ (Nat.le_of_ble_eq_true rfl) dX11_can_122 (fun r17 z_r17 h => ?_)
          refine v_if_eq (tgt := 132) dX11_can_125 rfl (fun c18 => ?_) (fun c18 => ?_)
          · have h := Ok.pos h c18
            refine v_iconst dX11_can_132 ic_0 ?_
            have h := Ok.ret h
            exact v_zret rfl zB_0 (Nat.zero_le _) (Nat.zero_le _) dX11_can_133 (h zB_0)
          · have h := Ok.neg h c18
            refine v_iconst dX11_can_128 ic_1 ?_
            refine v_goto (tgt := 133) dX11_can_129 rfl ?_
            have h := Ok.ret h
            exact v_zret rfl zB_1 (Nat.zero_le _) (Nat.zero_le _) dX11_can_133 (h zB_1)
      · have h := Ok.neg h c12
        rcases Decidable.em ((rdI s 2 0 x1.toNatClampNeg) = 3) with c19 | c19
        · have h := Ok.pos h c19
          refine v_tableIn (v := 3) (tgt := 166) dX11_can_6 c19 (by decide) (by decide) rfl rfl ?_
          refine v_iconst dX11_can_166 ic_1 ?_
          have h := Ok.ret h
          exact v_zret rfl zB_1 (Nat.zero_le _) (Nat.zero_le _) dX11_can_167 (h zB_1)
        · have h := Ok.neg h c19
          rcases Decidable.em ((rdI s 2 0 x1.toNatClampNeg) = 4) with c20 | c20
          · have h := Ok.pos h c20
            refine v_tableIn (v := 4) (tgt := 166) dX11_can_6 c20 (by decide) (by decide) rfl rfl ?_
            refine v_iconst dX11_can_166 ic_1 ?_
            have h := Ok.ret h
            exact v_zret rfl zB_1 (Nat.zero_le _) (Nat.zero_le _) dX11_can_167 (h zB_1)
          · have h := Ok.neg h c20
            rcases Decidable.em ((rdI s 2 0 x1.toNatClampNeg) = 5) with c21 | c21
            · have h := Ok.pos h c21
              refine v_tableIn (v := 5) (tgt := 134) dX11_can_6 c21 (by decide) (by decide) rfl rfl ?_
              refine v_aload_n 0 dX11_can_134 rfl ?_
              refine gM_33 dX11_can_135 ?_
              refine v_aload_n 0 dX11_can_138 rfl ?_
              refine v_iload_n 1 dX11_can_139 rfl ?_
              refine v_iconst dX11_can_140 ic_0 ?_
              refine cM_289 (Ok.bind h) ⟨Nat.le_of_ble_eq_true rfl, Nat.le_of_ble_eq_true rfl⟩ (Nat.le_of_ble_eq_true rfl) dX11_can_141 (fun r22 h => ?_)
              obtain ⟨g23, h⟩ := Ok.guard h
              refine lM_7 g23 dX11_can_144 ?_
              obtain ⟨g24, h⟩ := Ok.guard h
              have h := Ok.ret h
              exact v_zret rfl (zb_zB g24) (Nat.zero_le _) (Nat.zero_le _) dX11_can_145 (h (zb_zB g24))
            · have h := Ok.neg h c21
              rcases Decidable.em ((rdI s 2 0 x1.toNatClampNeg) = 6) with c25 | c25
              · have h := Ok.pos h c25
                refine v_tableIn (v := 6) (tgt := 146) dX11_can_6 c25 (by decide) (by decide) rfl rfl ?_
                refine v_aload_n 0 dX11_can_146 rfl ?_
                refine gM_94 dX11_can_147 ?_
                refine v_aload_n 0 dX11_can_150 rfl ?_
                refine v_iload_n 1 dX11_can_151 rfl ?_
                refine v_iconst dX11_can_152 ic_0 ?_
                refine cM_289 (Ok.bind h) ⟨Nat.le_of_ble_eq_true rfl, Nat.le_of_ble_eq_true rfl⟩ (Nat.le_of_ble_eq_true rfl) dX11_can_153 (fun r26 h => ?_)
                obtain ⟨g27, h⟩ := Ok.guard h
                refine lM_27 g27 dX11_can_156 ?_
                refine v_if_ne (tgt := 164) dX11_can_157 rfl (fun c28 => ?_) (fun c28 => ?_)
                · have h := Ok.neg h c28
                  refine v_iconst dX11_can_164 ic_0 ?_
                  have h := Ok.ret h
                  exact v_zret rfl zB_0 (Nat.zero_le _) (Nat.zero_le _) dX11_can_165 (h zB_0)
                · have h := Ok.pos h c28
                  refine v_iconst dX11_can_160 ic_1 ?_
                  refine v_goto (tgt := 165) dX11_can_161 rfl ?_
                  have h := Ok.ret h
                  exact v_zret rfl zB_1 (Nat.zero_le _) (Nat.zero_le _) dX11_can_165 (h zB_1)
              · have h := Ok.neg h c25
                rcases Decidable.em ((rdI s 2 0 x1.toNatClampNeg) = 7) with c29 | c29
                · have h := Ok.pos h c29
                  refine v_tableIn (v := 7) (tgt := 146) dX11_can_6 c29 (by decide) (by decide) rfl rfl ?_
                  refine v_aload_n 0 dX11_can_146 rfl ?_
                  refine gM_94 dX11_can_147 ?_
                  refine v_aload_n 0 dX11_can_150 rfl ?_
                  refine v_iload_n 1 dX11_can_151 rfl ?_
                  refine v_iconst dX11_can_152 ic_0 ?_
                  refine cM_289 (Ok.bind h) ⟨Nat.le_of_ble_eq_true rfl, Nat.le_of_ble_eq_true rfl⟩ (Nat.le_of_ble_eq_true rfl) dX11_can_153 (fun r30 h => ?_)
                  obtain ⟨g31, h⟩ := Ok.guard h
                  refine lM_27 g31 dX11_can_156 ?_
                  refine v_if_ne (tgt := 164) dX11_can_157 rfl (fun c32 => ?_) (fun c32 => ?_)
                  · have h := Ok.neg h c32
                    refine v_iconst dX11_can_164 ic_0 ?_
                    have h := Ok.ret h
                    exact v_zret rfl zB_0 (Nat.zero_le _) (Nat.zero_le _) dX11_can_165 (h zB_0)
                  · have h := Ok.pos h c32
                    refine v_iconst dX11_can_160 ic_1 ?_
                    refine v_goto (tgt := 165) dX11_can_161 rfl ?_
                    have h := Ok.ret h
                    exact v_zret rfl zB_1 (Nat.zero_le _) (Nat.zero_le _) dX11_can_165 (h zB_1)
                · have h := Ok.neg h c29
                  rcases Decidable.em ((rdI s 2 0 x1.toNatClampNeg) = 8) with c33 | c33
                  · have h := Ok.pos h c33
                    refine v_tableIn (v := 8) (tgt := 134) dX11_can_6 c33 (by decide) (by decide) rfl rfl ?_
                    refine v_aload_n 0 dX11_can_134 rfl ?_
                    refine gM_33 dX11_can_135 ?_
                    refine v_aload_n 0 dX11_can_138 rfl ?_
                    refine v_iload_n 1 dX11_can_139 rfl ?_
                    refine v_iconst dX11_can_140 ic_0 ?_
                    refine cM_289 (Ok.bind h) ⟨Nat.le_of_ble_eq_true rfl, Nat.le_of_ble_eq_true rfl⟩ (Nat.le_of_ble_eq_true rfl) dX11_can_141 (fun r34 h => ?_)
                    obtain ⟨g35, h⟩ := Ok.guard h
                    refine lM_7 g35 dX11_can_144 ?_
                    obtain ⟨g36, h⟩ := Ok.guard h
                    have h := Ok.ret h
                    exact v_zret rfl (zb_zB g36) (Nat.zero_le _) (Nat.zero_le _) dX11_can_145 (h (zb_zB g36))
                  · have h := Ok.neg h c33
                    have a_c2 : (rdI s 2 0 x1.toNatClampNeg).toInt ≠ 0 := fun q => c2 (Int32.toInt_inj.mp (q.trans (by decide)))
                    have a_c7 : (rdI s 2 0 x1.toNatClampNeg).toInt ≠ 1 := fun q => c7 (Int32.toInt_inj.mp (q.trans (by decide)))
                    have a_c12 : (rdI s 2 0 x1.toNatClampNeg).toInt ≠ 2 := fun q => c12 (Int32.toInt_inj.mp (q.trans (by decide)))
                    have a_c19 : (rdI s 2 0 x1.toNatClampNeg).toInt ≠ 3 := fun q => c19 (Int32.toInt_inj.mp (q.trans (by decide)))
                    have a_c20 : (rdI s 2 0 x1.toNatClampNeg).toInt ≠ 4 := fun q => c20 (Int32.toInt_inj.mp (q.trans (by decide)))
                    have a_c21 : (rdI s 2 0 x1.toNatClampNeg).toInt ≠ 5 := fun q => c21 (Int32.toInt_inj.mp (q.trans (by decide)))
                    have a_c25 : (rdI s 2 0 x1.toNatClampNeg).toInt ≠ 6 := fun q => c25 (Int32.toInt_inj.mp (q.trans (by decide)))
                    have a_c29 : (rdI s 2 0 x1.toNatClampNeg).toInt ≠ 7 := fun q => c29 (Int32.toInt_inj.mp (q.trans (by decide)))
                    have a_c33 : (rdI s 2 0 x1.toNatClampNeg).toInt ≠ 8 := fun q => c33 (Int32.toInt_inj.mp (q.trans (by decide)))
                    refine v_tableOut (tgt := 166) dX11_can_6 (by omega) rfl ?_
                    refine v_iconst dX11_can_166 ic_1 ?_
                    have h := Ok.ret h
                    exact v_zret rfl zB_1 (Nat.zero_le _) (Nat.zero_le _) dX11_can_167 (h zB_1)
theorem cM_328 {l : Launch} {D : va_G} {dA : Nat → ClassId} {A : Nat → Prop} {lc : Nat → Nat → Nat} {s : tt_St} {cc : ByteArray} {nl : Nat} {rt : Option FieldType} {rm : Room} {tn : tt_Tn} {Q : tt_Fin} {pc : Nat} {lv : List (Nat × Value)} {rest : List Value} {ck cn : Nat} {x1 : Int32} {K : Int32 → Prop} (h : Ok (fM_can s x1) K) (hR : 2 + 1 ≤ rm.frames ∧ 8 + (2 + 11) + 47 ≤ rm.locals) (hW : (rest.map fun v => v.category).sum ≤ 8) (d : decode cc pc = .ok (.invokevirtual 328, 3)) (kk : ∀ r, zB r → K r → tt_V (XM l D dA A) cc (RX11, nl, rt, rm, tn) Q (pc + 3) lv (.int r :: rest) lc s ck cn) (hf : ck ≤ rm.cells ∧ cn ≤ rm.slots := by exact ⟨Nat.zero_le _, Nat.zero_le _⟩) : tt_V (XM l D dA A) cc (RX11, nl, rt, rm, tn) Q pc lv (.int x1 :: .ref (lc 0 0) :: rest) lc s ck cn :=
  v_callV (kd := 0) (i := 0) (nA := 1) (As := [.int x1]) lvM_0 oM rfl (mM_can l D dA A lc s x1 (Q := (fun v lc' s' => ∃ r, zB r ∧ K r ∧ v = some (.int r) ∧ lc' = lc ∧ s' = s)) (h.mono (fun r hr => fun hz => ⟨r, hz, hr, rfl, rfl, rfl⟩))) (lw_V q2215 q2217 qs107 q154 q2218) (by decide +kernel) rfl hR hW hf d rfl (fun v lc' s' q => by obtain ⟨r, hz, hr, e1, e2, e3⟩ := q; rw [e1, e2, e3]; exact kk r hz hr)
def fM_grows (s : tt_St) (x1 : Int32) (x2 : Int32) : Option (tt_St) :=
  if inB x1 25 then nm (wrL s 20 0 x1.toNatClampNeg ((rdL s 20 0 x1.toNatClampNeg) + x2.toInt64)) fun s2 => nm (wrI s2 19 0 x1.toNatClampNeg ((rdI s2 19 0 x1.toNatClampNeg) + (1 : Int32))) fun s3 => (fM_spreads s3 x1 x2.toInt64).bind fun r4 => some r4 else none
abbrev rM_grows : Room := { frames := 7, cells := 0, slots := 0, locals := 168 }
set_option maxHeartbeats 4000000 in
theorem mM_grows (l : Launch) (D : va_G) (dA : Nat → ClassId) (A : Nat → Prop) (lc : Nat → Nat → Nat) (s : tt_St) (x1 : Int32) (x2 : Int32) {Q : Option Value → (Nat → Nat → Nat) → tt_St → Prop} (h : Ok (fM_grows s x1 x2) (fun r => Q none lc r)) : tt_Sp (XM l D dA A) yX11_grows cX11_grows 3 none rM_grows [.ref (lc 0 0), .int x1, .int x2] lc s Q := by
  refine tt_Sp.ofV plM kokM (Nat.le_of_ble_eq_true rfl) ?_
  show tt_V (XM l D dA A) cX11_grows (RX11, 3, none, rM_grows, tt_nt) (tt_fn (XM l D dA A) (RX11, 3, none, rM_grows, tt_nt) Q) 0 [(0, .ref (lc 0 0)), (1, .int x1), (2, .int x2)] [] lc s 0 0
  unfold fM_grows at h
  refine v_aload_n 0 dX11_grows_0 rfl ?_
  refine gM_73 dX11_grows_1 ?_
  refine v_iload_n 1 dX11_grows_4 rfl ?_
  refine v_dup2_11 dX11_grows_5 rfl rfl ?_
  obtain ⟨g1, h⟩ := Ok.guard h
  refine lM_20 g1 dX11_grows_6 ?_
  refine v_iload_n 2 dX11_grows_7 rfl ?_
  refine v_i2l dX11_grows_8 rfl ?_
  refine v_ladd dX11_grows_9 ?_
  refine sM_20 g1 dX11_grows_10 ?_
  refine v_nmS (fun s2 e_s2 => ?_)
  have h := Ok.nm h e_s2
  refine v_aload_n 0 dX11_grows_11 rfl ?_
  refine gM_70 dX11_grows_12 ?_
  refine v_iload_n 1 dX11_grows_15 rfl ?_
  refine v_dup2_11 dX11_grows_16 rfl rfl ?_
  refine lM_19 g1 dX11_grows_17 ?_
  refine v_iconst dX11_grows_18 ic_1 ?_
  refine v_iadd dX11_grows_19 ?_
  refine sM_19 g1 dX11_grows_20 ?_
  refine v_nmS (fun s3 e_s3 => ?_)
  have h := Ok.nm h e_s3
  refine v_aload_n 0 dX11_grows_21 rfl ?_
  refine v_iload_n 1 dX11_grows_22 rfl ?_
  refine v_iload_n 2 dX11_grows_23 rfl ?_
  refine v_i2l dX11_grows_24 rfl ?_
  refine cM_325 (Ok.bind h) ⟨Nat.le_of_ble_eq_true rfl, Nat.le_of_ble_eq_true rfl⟩ (Nat.le_of_ble_eq_true rfl) dX11_grows_25 (fun r4 h => ?_)
  have h := Ok.ret h
  exact v_vret rfl (Nat.zero_le _) (Nat.zero_le _) dX11_grows_28 h
theorem cM_316 {l : Launch} {D : va_G} {dA : Nat → ClassId} {A : Nat → Prop} {lc : Nat → Nat → Nat} {s : tt_St} {cc : ByteArray} {nl : Nat} {rt : Option FieldType} {rm : Room} {tn : tt_Tn} {Q : tt_Fin} {pc : Nat} {lv : List (Nat × Value)} {rest : List Value} {ck cn : Nat} {x1 : Int32} {x2 : Int32} {K : tt_St → Prop} (h : Ok (fM_grows s x1 x2) K) (hR : 7 + 1 ≤ rm.frames ∧ 8 + (3 + 11) + 168 ≤ rm.locals) (hW : (rest.map fun v => v.category).sum ≤ 8) (d : decode cc pc = .ok (.invokevirtual 316, 3)) (kk : ∀ r, K r → tt_V (XM l D dA A) cc (RX11, nl, rt, rm, tn) Q (pc + 3) lv rest lc r ck cn) (hf : ck ≤ rm.cells ∧ cn ≤ rm.slots := by exact ⟨Nat.zero_le _, Nat.zero_le _⟩) : tt_V (XM l D dA A) cc (RX11, nl, rt, rm, tn) Q pc lv (.int x2 :: .int x1 :: .ref (lc 0 0) :: rest) lc s ck cn :=
  v_callV (kd := 0) (i := 0) (nA := 2) (As := [.int x1, .int x2]) lvM_0 oM rfl (mM_grows l D dA A lc s x1 x2 (Q := (fun v lc' s' => ∃ r, K r ∧ v = none ∧ lc' = lc ∧ s' = r)) (h.mono (fun r hr => ⟨r, hr, rfl, rfl, rfl⟩))) (lw_V q2110 q2112 qs94 q154 q2113) (by decide +kernel) rfl hR hW hf d rfl (fun v lc' s' q => by obtain ⟨r, hr, e1, e2, e3⟩ := q; rw [e1, e2, e3]; exact kk r hr)
def fM_harms (s : tt_St) (x1 : Int32) : Option (tt_St) :=
  if inB x1 160 then nm (rdI s 3 0 x1.toNatClampNeg) fun v2 => if inB v2 25 then nm (wrI s 7 0 v2.toNatClampNeg (1 : Int32)) fun s4 => (fM_tell s4 x1 (0 : Int32)).bind fun r5 => nm (wrI s4 16 0 v2.toNatClampNeg r5) fun s6 => (fM_tell s6 x1 (1 : Int32)).bind fun r7 => nm (wrI s6 17 0 v2.toNatClampNeg r7) fun s8 => (fM_tell s8 x1 (2 : Int32)).bind fun r9 => nm (wrI s8 18 0 v2.toNatClampNeg r9) fun s10 => (fM_tell s10 x1 (3 : Int32)).bind fun r11 => nm (wrL s10 20 0 v2.toNatClampNeg r11.toInt64) fun s12 => (fM_spreads s12 v2 (rdL s12 20 0 v2.toNatClampNeg)).bind fun r13 => some r13 else none else none
abbrev rM_harms : Room := { frames := 7, cells := 0, slots := 0, locals := 168 }
set_option maxHeartbeats 4000000 in
theorem mM_harms (l : Launch) (D : va_G) (dA : Nat → ClassId) (A : Nat → Prop) (lc : Nat → Nat → Nat) (s : tt_St) (x1 : Int32) {Q : Option Value → (Nat → Nat → Nat) → tt_St → Prop} (h : Ok (fM_harms s x1) (fun r => Q none lc r)) : tt_Sp (XM l D dA A) yX11_harms cX11_harms 3 none rM_harms [.ref (lc 0 0), .int x1] lc s Q := by
  refine tt_Sp.ofV plM kokM (Nat.le_of_ble_eq_true rfl) ?_
  show tt_V (XM l D dA A) cX11_harms (RX11, 3, none, rM_harms, tt_nt) (tt_fn (XM l D dA A) (RX11, 3, none, rM_harms, tt_nt) Q) 0 [(0, .ref (lc 0 0)), (1, .int x1)] [] lc s 0 0
  unfold fM_harms at h
  refine v_aload_n 0 dX11_harms_0 rfl ?_
  refine gM_20 dX11_harms_1 ?_
  refine v_iload_n 1 dX11_harms_4 rfl ?_
  obtain ⟨g1, h⟩ := Ok.guard h
  refine lM_3 g1 dX11_harms_5 ?_
  refine v_nmI (fun v2 e_v2 => ?_)
  have h := Ok.nm h e_v2
  refine v_istore_n [(2, .int v2), (0, .ref (lc 0 0)), (1, .int x1)] dX11_harms_6 (Nat.le_of_ble_eq_true rfl) rfl ?_
  refine v_aload_n 1 dX11_harms_7 rfl ?_
  refine gM_33 dX11_harms_8 ?_
  refine v_iload_n 0 dX11_harms_11 rfl ?_
  refine v_iconst dX11_harms_12 ic_1 ?_
  obtain ⟨g3, h⟩ := Ok.guard h
  refine sM_7 zB_1 g3 dX11_harms_13 ?_
  refine v_nmS (fun s4 e_s4 => ?_)
  have h := Ok.nm h e_s4
  refine v_aload_n 1 dX11_harms_14 rfl ?_
  refine gM_61 dX11_harms_15 ?_
  refine v_iload_n 0 dX11_harms_18 rfl ?_
  refine v_aload_n 1 dX11_harms_19 rfl ?_
  refine v_iload_n 2 dX11_harms_20 rfl ?_
  refine v_iconst dX11_harms_21 ic_0 ?_
  refine cM_289 (Ok.bind h) ⟨Nat.le_of_ble_eq_true rfl, Nat.le_of_ble_eq_true rfl⟩ (Nat.le_of_ble_eq_true rfl) dX11_harms_22 (fun r5 h => ?_)
  refine sM_16 g3 dX11_harms_25 ?_
  refine v_nmS (fun s6 e_s6 => ?_)
  have h := Ok.nm h e_s6
  refine v_aload_n 1 dX11_harms_26 rfl ?_
  refine gM_64 dX11_harms_27 ?_
  refine v_iload_n 0 dX11_harms_30 rfl ?_
  refine v_aload_n 1 dX11_harms_31 rfl ?_
  refine v_iload_n 2 dX11_harms_32 rfl ?_
  refine v_iconst dX11_harms_33 ic_1 ?_
  refine cM_289 (Ok.bind h) ⟨Nat.le_of_ble_eq_true rfl, Nat.le_of_ble_eq_true rfl⟩ (Nat.le_of_ble_eq_true rfl) dX11_harms_34 (fun r7 h => ?_)
  refine sM_17 g3 dX11_harms_37 ?_
  refine v_nmS (fun s8 e_s8 => ?_)
  have h := Ok.nm h e_s8
  refine v_aload_n 1 dX11_harms_38 rfl ?_
  refine gM_67 dX11_harms_39 ?_
  refine v_iload_n 0 dX11_harms_42 rfl ?_
  refine v_aload_n 1 dX11_harms_43 rfl ?_
  refine v_iload_n 2 dX11_harms_44 rfl ?_
  refine v_iconst dX11_harms_45 ic_2 ?_
  refine cM_289 (Ok.bind h) ⟨Nat.le_of_ble_eq_true rfl, Nat.le_of_ble_eq_true rfl⟩ (Nat.le_of_ble_eq_true rfl) dX11_harms_46 (fun r9 h => ?_)
  refine sM_18 g3 dX11_harms_49 ?_
  refine v_nmS (fun s10 e_s10 => ?_)
  have h := Ok.nm h e_s10
  refine v_aload_n 1 dX11_harms_50 rfl ?_
  refine gM_73 dX11_harms_51 ?_
  refine v_iload_n 0 dX11_harms_54 rfl ?_
  refine v_aload_n 1 dX11_harms_55 rfl ?_
  refine v_iload_n 2 dX11_harms_56 rfl ?_
  refine v_iconst dX11_harms_57 ic_3 ?_
  refine cM_289 (Ok.bind h) ⟨Nat.le_of_ble_eq_true rfl, Nat.le_of_ble_eq_true rfl⟩ (Nat.le_of_ble_eq_true rfl) dX11_harms_58 (fun r11 h => ?_)
  refine v_i2l dX11_harms_61 rfl ?_
  refine sM_20 g3 dX11_harms_62 ?_
  refine v_nmS (fun s12 e_s12 => ?_)
  have h := Ok.nm h e_s12
  refine v_aload_n 1 dX11_harms_63 rfl ?_
  refine v_iload_n 0 dX11_harms_64 rfl ?_
  refine v_aload_n 1 dX11_harms_65 rfl ?_
  refine gM_73 dX11_harms_66 ?_
  refine v_iload_n 0 dX11_harms_69 rfl ?_
  refine lM_20 g3 dX11_harms_70 ?_
  refine cM_325 (Ok.bind h) ⟨Nat.le_of_ble_eq_true rfl, Nat.le_of_ble_eq_true rfl⟩ (Nat.le_of_ble_eq_true rfl) dX11_harms_71 (fun r13 h => ?_)
  have h := Ok.ret h
  exact v_vret rfl (Nat.zero_le _) (Nat.zero_le _) dX11_harms_74 h
theorem cM_313 {l : Launch} {D : va_G} {dA : Nat → ClassId} {A : Nat → Prop} {lc : Nat → Nat → Nat} {s : tt_St} {cc : ByteArray} {nl : Nat} {rt : Option FieldType} {rm : Room} {tn : tt_Tn} {Q : tt_Fin} {pc : Nat} {lv : List (Nat × Value)} {rest : List Value} {ck cn : Nat} {x1 : Int32} {K : tt_St → Prop} (h : Ok (fM_harms s x1) K) (hR : 7 + 1 ≤ rm.frames ∧ 8 + (3 + 11) + 168 ≤ rm.locals) (hW : (rest.map fun v => v.category).sum ≤ 8) (d : decode cc pc = .ok (.invokevirtual 313, 3)) (kk : ∀ r, K r → tt_V (XM l D dA A) cc (RX11, nl, rt, rm, tn) Q (pc + 3) lv rest lc r ck cn) (hf : ck ≤ rm.cells ∧ cn ≤ rm.slots := by exact ⟨Nat.zero_le _, Nat.zero_le _⟩) : tt_V (XM l D dA A) cc (RX11, nl, rt, rm, tn) Q pc lv (.int x1 :: .ref (lc 0 0) :: rest) lc s ck cn :=
  v_callV (kd := 0) (i := 0) (nA := 1) (As := [.int x1]) lvM_0 oM rfl (mM_harms l D dA A lc s x1 (Q := (fun v lc' s' => ∃ r, K r ∧ v = none ∧ lc' = lc ∧ s' = r)) (h.mono (fun r hr => ⟨r, hr, rfl, rfl, rfl⟩))) (lw_V q1988 q1990 qs65 q154 q1991) (by decide +kernel) rfl hR hW hf d rfl (fun v lc' s' q => by obtain ⟨r, hr, e1, e2, e3⟩ := q; rw [e1, e2, e3]; exact kk r hr)
def fM_places (s : tt_St) (x1 : Int32) : Option (tt_St) :=
  if inB x1 160 then nm (rdI s 3 0 x1.toNatClampNeg) fun v2 => if inB v2 40 then nm (wrI s 6 0 v2.toNatClampNeg (1 : Int32)) fun s4 => (fM_tell s4 x1 (0 : Int32)).bind fun r5 => nm (wrI s4 8 0 v2.toNatClampNeg r5) fun s6 => (fM_tell s6 x1 (1 : Int32)).bind fun r7 => nm (wrI s6 9 0 v2.toNatClampNeg r7) fun s8 => (fM_tell s8 x1 (2 : Int32)).bind fun r9 => nm (wrI s8 10 0 v2.toNatClampNeg r9) fun s10 => (fM_tell s10 x1 (3 : Int32)).bind fun r11 => nm (wrI s10 11 0 v2.toNatClampNeg r11) fun s12 => (fM_stacks s12 v2).bind fun r13 => some r13 else none else none
abbrev rM_places : Room := { frames := 2, cells := 0, slots := 0, locals := 46 }
set_option maxHeartbeats 4000000 in
theorem mM_places (l : Launch) (D : va_G) (dA : Nat → ClassId) (A : Nat → Prop) (lc : Nat → Nat → Nat) (s : tt_St) (x1 : Int32) {Q : Option Value → (Nat → Nat → Nat) → tt_St → Prop} (h : Ok (fM_places s x1) (fun r => Q none lc r)) : tt_Sp (XM l D dA A) yX11_places cX11_places 3 none rM_places [.ref (lc 0 0), .int x1] lc s Q := by
  refine tt_Sp.ofV plM kokM (Nat.le_of_ble_eq_true rfl) ?_
  show tt_V (XM l D dA A) cX11_places (RX11, 3, none, rM_places, tt_nt) (tt_fn (XM l D dA A) (RX11, 3, none, rM_places, tt_nt) Q) 0 [(0, .ref (lc 0 0)), (1, .int x1)] [] lc s 0 0
  unfold fM_places at h
  refine v_aload_n 0 dX11_places_0 rfl ?_
  refine gM_20 dX11_places_1 ?_
  refine v_iload_n 1 dX11_places_4 rfl ?_
  obtain ⟨g1, h⟩ := Ok.guard h
  refine lM_3 g1 dX11_places_5 ?_
  refine v_nmI (fun v2 e_v2 => ?_)
  have h := Ok.nm h e_v2
  refine v_istore_n [(2, .int v2), (0, .ref (lc 0 0)), (1, .int x1)] dX11_places_6 (Nat.le_of_ble_eq_true rfl) rfl ?_
  refine v_aload_n 1 dX11_places_7 rfl ?_
  refine gM_29 dX11_places_8 ?_
  refine v_iload_n 0 dX11_places_11 rfl ?_
  refine v_iconst dX11_places_12 ic_1 ?_
  obtain ⟨g3, h⟩ := Ok.guard h
  refine sM_6 zB_1 g3 dX11_places_13 ?_
  refine v_nmS (fun s4 e_s4 => ?_)
  have h := Ok.nm h e_s4
  refine v_aload_n 1 dX11_places_14 rfl ?_
  refine gM_36 dX11_places_15 ?_
  refine v_iload_n 0 dX11_places_18 rfl ?_
  refine v_aload_n 1 dX11_places_19 rfl ?_
  refine v_iload_n 2 dX11_places_20 rfl ?_
  refine v_iconst dX11_places_21 ic_0 ?_
  refine cM_289 (Ok.bind h) ⟨Nat.le_of_ble_eq_true rfl, Nat.le_of_ble_eq_true rfl⟩ (Nat.le_of_ble_eq_true rfl) dX11_places_22 (fun r5 h => ?_)
  refine sM_8 g3 dX11_places_25 ?_
  refine v_nmS (fun s6 e_s6 => ?_)
  have h := Ok.nm h e_s6
  refine v_aload_n 1 dX11_places_26 rfl ?_
  refine gM_39 dX11_places_27 ?_
  refine v_iload_n 0 dX11_places_30 rfl ?_
  refine v_aload_n 1 dX11_places_31 rfl ?_
  refine v_iload_n 2 dX11_places_32 rfl ?_
  refine v_iconst dX11_places_33 ic_1 ?_
  refine cM_289 (Ok.bind h) ⟨Nat.le_of_ble_eq_true rfl, Nat.le_of_ble_eq_true rfl⟩ (Nat.le_of_ble_eq_true rfl) dX11_places_34 (fun r7 h => ?_)
  refine sM_9 g3 dX11_places_37 ?_
  refine v_nmS (fun s8 e_s8 => ?_)
  have h := Ok.nm h e_s8
  refine v_aload_n 1 dX11_places_38 rfl ?_
  refine gM_42 dX11_places_39 ?_
  refine v_iload_n 0 dX11_places_42 rfl ?_
  refine v_aload_n 1 dX11_places_43 rfl ?_
  refine v_iload_n 2 dX11_places_44 rfl ?_
  refine v_iconst dX11_places_45 ic_2 ?_
  refine cM_289 (Ok.bind h) ⟨Nat.le_of_ble_eq_true rfl, Nat.le_of_ble_eq_true rfl⟩ (Nat.le_of_ble_eq_true rfl) dX11_places_46 (fun r9 h => ?_)
  refine sM_10 g3 dX11_places_49 ?_
  refine v_nmS (fun s10 e_s10 => ?_)
  have h := Ok.nm h e_s10
  refine v_aload_n 1 dX11_places_50 rfl ?_
  refine gM_45 dX11_places_51 ?_
  refine v_iload_n 0 dX11_places_54 rfl ?_
  refine v_aload_n 1 dX11_places_55 rfl ?_
  refine v_iload_n 2 dX11_places_56 rfl ?_
  refine v_iconst dX11_places_57 ic_3 ?_
  refine cM_289 (Ok.bind h) ⟨Nat.le_of_ble_eq_true rfl, Nat.le_of_ble_eq_true rfl⟩ (Nat.le_of_ble_eq_true rfl) dX11_places_58 (fun r11 h => ?_)
  refine sM_11 g3 dX11_places_61 ?_
  refine v_nmS (fun s12 e_s12 => ?_)
  have h := Ok.nm h e_s12
  refine v_aload_n 1 dX11_places_62 rfl ?_
  refine v_iload_n 0 dX11_places_63 rfl ?_
  refine cM_322 (Ok.bind h) ⟨Nat.le_of_ble_eq_true rfl, Nat.le_of_ble_eq_true rfl⟩ (Nat.le_of_ble_eq_true rfl) dX11_places_64 (fun r13 h => ?_)
  have h := Ok.ret h
  exact v_vret rfl (Nat.zero_le _) (Nat.zero_le _) dX11_places_67 h
theorem cM_299 {l : Launch} {D : va_G} {dA : Nat → ClassId} {A : Nat → Prop} {lc : Nat → Nat → Nat} {s : tt_St} {cc : ByteArray} {nl : Nat} {rt : Option FieldType} {rm : Room} {tn : tt_Tn} {Q : tt_Fin} {pc : Nat} {lv : List (Nat × Value)} {rest : List Value} {ck cn : Nat} {x1 : Int32} {K : tt_St → Prop} (h : Ok (fM_places s x1) K) (hR : 2 + 1 ≤ rm.frames ∧ 8 + (3 + 11) + 46 ≤ rm.locals) (hW : (rest.map fun v => v.category).sum ≤ 8) (d : decode cc pc = .ok (.invokevirtual 299, 3)) (kk : ∀ r, K r → tt_V (XM l D dA A) cc (RX11, nl, rt, rm, tn) Q (pc + 3) lv rest lc r ck cn) (hf : ck ≤ rm.cells ∧ cn ≤ rm.slots := by exact ⟨Nat.zero_le _, Nat.zero_le _⟩) : tt_V (XM l D dA A) cc (RX11, nl, rt, rm, tn) Q pc lv (.int x1 :: .ref (lc 0 0) :: rest) lc s ck cn :=
  v_callV (kd := 0) (i := 0) (nA := 1) (As := [.int x1]) lvM_0 oM rfl (mM_places l D dA A lc s x1 (Q := (fun v lc' s' => ∃ r, K r ∧ v = none ∧ lc' = lc ∧ s' = r)) (h.mono (fun r hr => ⟨r, hr, rfl, rfl, rfl⟩))) (lw_V q1968 q1970 qs60 q154 q1971) (by decide +kernel) rfl hR hW hf d rfl (fun v lc' s' q => by obtain ⟨r, hr, e1, e2, e3⟩ := q; rw [e1, e2, e3]; exact kk r hr)
def fM_reopens_L2 (x1 : Int32) (a1 : Int32 × tt_St) : Option ((Int32 × tt_St) ⊕ (Int32 × tt_St)) :=
  if (40 : Int32) ≤ a1.1 then some (.inr (a1.1, a1.2)) else if inB a1.1 40 then if inB (((40 : Int32) * x1) + a1.1) 1000 then nm (wrL a1.2 15 0 a1.1.toNatClampNeg ((rdL a1.2 15 0 a1.1.toNatClampNeg) - (rdL a1.2 21 0 (((40 : Int32) * x1) + a1.1).toNatClampNeg))) fun s6 => some (.inl ((a1.1 + 1 : Int32), s6)) else none else none
def fM_reopens (s : tt_St) (x1 : Int32) : Option (tt_St) :=
  (itr (fM_reopens_L2 x1) tt_fuel ((0 : Int32), s)).bind fun b2 => (fM_clearsHarm b2.2 x1).bind fun r7 => if inB x1 25 then (fM_spreads r7 x1 (rdL r7 20 0 x1.toNatClampNeg)).bind fun r9 => some r9 else none
abbrev rM_reopens : Room := { frames := 7, cells := 0, slots := 0, locals := 168 }
set_option maxHeartbeats 4000000 in
theorem mM_reopens (l : Launch) (D : va_G) (dA : Nat → ClassId) (A : Nat → Prop) (lc : Nat → Nat → Nat) (s : tt_St) (x1 : Int32) {Q : Option Value → (Nat → Nat → Nat) → tt_St → Prop} (h : Ok (fM_reopens s x1) (fun r => Q none lc r)) : tt_Sp (XM l D dA A) yX11_reopens cX11_reopens 3 none rM_reopens [.ref (lc 0 0), .int x1] lc s Q := by
  refine tt_Sp.ofV plM kokM (Nat.le_of_ble_eq_true rfl) ?_
  show tt_V (XM l D dA A) cX11_reopens (RX11, 3, none, rM_reopens, tt_nt) (tt_fn (XM l D dA A) (RX11, 3, none, rM_reopens, tt_nt) Q) 0 [(0, .ref (lc 0 0)), (1, .int x1)] [] lc s 0 0
  unfold fM_reopens at h
  refine v_iconst dX11_reopens_0 ic_0 ?_
  refine v_istore_n [(2, .int (0 : Int32)), (0, .ref (lc 0 0)), (1, .int x1)] dX11_reopens_1 (Nat.le_of_ble_eq_true rfl) rfl ?_
  refine v_sub [1, 2, 0] rfl ?_
  refine itr_loop (P := fun a1 : Int32 × tt_St => tt_V (XM l D dA A) cX11_reopens (RX11, 3, none, rM_reopens, tt_nt) (tt_fn (XM l D dA A) (RX11, 3, none, rM_reopens, tt_nt) Q) 2 [(0, .ref (lc 0 0)), (1, .int x1), (2, .int a1.1)] [] lc a1.2 0 0) (PE := fun b2 : Int32 × tt_St => tt_V (XM l D dA A) cX11_reopens (RX11, 3, none, rM_reopens, tt_nt) (tt_fn (XM l D dA A) (RX11, 3, none, rM_reopens, tt_nt) Q) 34 [(0, .ref (lc 0 0)), (1, .int x1), (2, .int b2.1)] [] lc b2.2 0 0) h (fun b2 h => ?_) (fun a1 h => ?_)
  · refine v_aload_n 0 dX11_reopens_34 rfl ?_
    refine v_iload_n 1 dX11_reopens_35 rfl ?_
    refine cM_145 (Ok.bind h) ⟨Nat.le_of_ble_eq_true rfl, Nat.le_of_ble_eq_true rfl⟩ (Nat.le_of_ble_eq_true rfl) dX11_reopens_36 (fun r7 h => ?_)
    refine v_aload_n 0 dX11_reopens_39 rfl ?_
    refine v_iload_n 1 dX11_reopens_40 rfl ?_
    refine v_aload_n 0 dX11_reopens_41 rfl ?_
    refine gM_73 dX11_reopens_42 ?_
    refine v_iload_n 1 dX11_reopens_45 rfl ?_
    obtain ⟨g8, h⟩ := Ok.guard h
    refine lM_20 g8 dX11_reopens_46 ?_
    refine cM_325 (Ok.bind h) ⟨Nat.le_of_ble_eq_true rfl, Nat.le_of_ble_eq_true rfl⟩ (Nat.le_of_ble_eq_true rfl) dX11_reopens_47 (fun r9 h => ?_)
    have h := Ok.ret h
    exact v_vret rfl (Nat.zero_le _) (Nat.zero_le _) dX11_reopens_50 h
  · have h : Ok (fM_reopens_L2 x1 a1) _ := h
    unfold fM_reopens_L2 at h
    refine v_iload_n 2 dX11_reopens_2 rfl ?_
    refine v_bipush dX11_reopens_3 kb_40 ?_
    refine v_icmp_ge (tgt := 34) dX11_reopens_5 rfl (fun c3 => ?_) (fun c3 => ?_)
    · have h := Ok.pos h c3
      have h := Ok.ret h
      exact h
    · have h := Ok.neg h c3
      refine v_aload_n 0 dX11_reopens_8 rfl ?_
      refine gM_57 dX11_reopens_9 ?_
      refine v_iload_n 2 dX11_reopens_12 rfl ?_
      refine v_dup2_11 dX11_reopens_13 rfl rfl ?_
      obtain ⟨g4, h⟩ := Ok.guard h
      refine lM_15 g4 dX11_reopens_14 ?_
      refine v_aload_n 0 dX11_reopens_15 rfl ?_
      refine gM_76 dX11_reopens_16 ?_
      refine v_bipush dX11_reopens_19 kb_40 ?_
      refine v_iload_n 1 dX11_reopens_21 rfl ?_
      refine v_imul dX11_reopens_22 ?_
      refine v_iload_n 2 dX11_reopens_23 rfl ?_
      refine v_iadd dX11_reopens_24 ?_
      obtain ⟨g5, h⟩ := Ok.guard h
      refine lM_21 g5 dX11_reopens_25 ?_
      refine v_lsub dX11_reopens_26 ?_
      refine sM_15 g4 dX11_reopens_27 ?_
      refine v_nmS (fun s6 e_s6 => ?_)
      have h := Ok.nm h e_s6
      refine v_iinc (v := (a1.1 + 1 : Int32)) 2 [(2, .int (a1.1 + 1 : Int32)), (0, .ref (lc 0 0)), (1, .int x1)] dX11_reopens_28 rfl (by rw [ic_1]) (Nat.le_of_ble_eq_true rfl) rfl ?_
      refine v_goto (tgt := 2) dX11_reopens_31 rfl ?_
      refine v_sub [1, 2, 0] rfl ?_
      have h := Ok.ret h
      exact h
theorem cM_319 {l : Launch} {D : va_G} {dA : Nat → ClassId} {A : Nat → Prop} {lc : Nat → Nat → Nat} {s : tt_St} {cc : ByteArray} {nl : Nat} {rt : Option FieldType} {rm : Room} {tn : tt_Tn} {Q : tt_Fin} {pc : Nat} {lv : List (Nat × Value)} {rest : List Value} {ck cn : Nat} {x1 : Int32} {K : tt_St → Prop} (h : Ok (fM_reopens s x1) K) (hR : 7 + 1 ≤ rm.frames ∧ 8 + (3 + 11) + 168 ≤ rm.locals) (hW : (rest.map fun v => v.category).sum ≤ 8) (d : decode cc pc = .ok (.invokevirtual 319, 3)) (kk : ∀ r, K r → tt_V (XM l D dA A) cc (RX11, nl, rt, rm, tn) Q (pc + 3) lv rest lc r ck cn) (hf : ck ≤ rm.cells ∧ cn ≤ rm.slots := by exact ⟨Nat.zero_le _, Nat.zero_le _⟩) : tt_V (XM l D dA A) cc (RX11, nl, rt, rm, tn) Q pc lv (.int x1 :: .ref (lc 0 0) :: rest) lc s ck cn :=
  v_callV (kd := 0) (i := 0) (nA := 1) (As := [.int x1]) lvM_0 oM rfl (mM_reopens l D dA A lc s x1 (Q := (fun v lc' s' => ∃ r, K r ∧ v = none ∧ lc' = lc ∧ s' = r)) (h.mono (fun r hr => ⟨r, hr, rfl, rfl, rfl⟩))) (lw_V q2114 q2116 qs95 q154 q2117) (by decide +kernel) rfl hR hW hf d rfl (fun v lc' s' q => by obtain ⟨r, hr, e1, e2, e3⟩ := q; rw [e1, e2, e3]; exact kk r hr)
def fM_rulesAre (s : tt_St) (x1 : Int32) (x2 : Int32) (x3 : Int32) : Option (tt_St) :=
  nm (wrI s 0 0 30 x1) fun s1 => nm (wrI s1 0 0 31 x2) fun s2 => nm (wrI s2 0 0 32 x3) fun s3 => some s3
abbrev rM_rulesAre : Room := { frames := 0, cells := 0, slots := 0, locals := 0 }
set_option maxHeartbeats 4000000 in
theorem mM_rulesAre (l : Launch) (D : va_G) (dA : Nat → ClassId) (A : Nat → Prop) (lc : Nat → Nat → Nat) (s : tt_St) (x1 : Int32) (x2 : Int32) (x3 : Int32) {Q : Option Value → (Nat → Nat → Nat) → tt_St → Prop} (h : Ok (fM_rulesAre s x1 x2 x3) (fun r => Q none lc r)) : tt_Sp (XM l D dA A) yX11_rulesAre cX11_rulesAre 4 none rM_rulesAre [.ref (lc 0 0), .int x1, .int x2, .int x3] lc s Q := by
  refine tt_Sp.ofV plM kokM (Nat.le_of_ble_eq_true rfl) ?_
  show tt_V (XM l D dA A) cX11_rulesAre (RX11, 4, none, rM_rulesAre, tt_nt) (tt_fn (XM l D dA A) (RX11, 4, none, rM_rulesAre, tt_nt) Q) 0 [(0, .ref (lc 0 0)), (1, .int x1), (2, .int x2), (3, .int x3)] [] lc s 0 0
  unfold fM_rulesAre at h
  refine v_aload_n 0 dX11_rulesAre_0 rfl ?_
  refine v_iload_n 1 dX11_rulesAre_1 rfl ?_
  refine pM_152 dX11_rulesAre_2 ?_
  refine v_nmS (fun s1 e_s1 => ?_)
  have h := Ok.nm h e_s1
  refine v_aload_n 0 dX11_rulesAre_5 rfl ?_
  refine v_iload_n 2 dX11_rulesAre_6 rfl ?_
  refine pM_155 dX11_rulesAre_7 ?_
  refine v_nmS (fun s2 e_s2 => ?_)
  have h := Ok.nm h e_s2
  refine v_aload_n 0 dX11_rulesAre_10 rfl ?_
  refine v_iload_n 3 dX11_rulesAre_11 rfl ?_
  refine pM_158 dX11_rulesAre_12 ?_
  refine v_nmS (fun s3 e_s3 => ?_)
  have h := Ok.nm h e_s3
  have h := Ok.ret h
  exact v_vret rfl (Nat.zero_le _) (Nat.zero_le _) dX11_rulesAre_15 h
theorem cM_310 {l : Launch} {D : va_G} {dA : Nat → ClassId} {A : Nat → Prop} {lc : Nat → Nat → Nat} {s : tt_St} {cc : ByteArray} {nl : Nat} {rt : Option FieldType} {rm : Room} {tn : tt_Tn} {Q : tt_Fin} {pc : Nat} {lv : List (Nat × Value)} {rest : List Value} {ck cn : Nat} {x1 : Int32} {x2 : Int32} {x3 : Int32} {K : tt_St → Prop} (h : Ok (fM_rulesAre s x1 x2 x3) K) (hR : 0 + 1 ≤ rm.frames ∧ 8 + (4 + 11) + 0 ≤ rm.locals) (hW : (rest.map fun v => v.category).sum ≤ 8) (d : decode cc pc = .ok (.invokevirtual 310, 3)) (kk : ∀ r, K r → tt_V (XM l D dA A) cc (RX11, nl, rt, rm, tn) Q (pc + 3) lv rest lc r ck cn) (hf : ck ≤ rm.cells ∧ cn ≤ rm.slots := by exact ⟨Nat.zero_le _, Nat.zero_le _⟩) : tt_V (XM l D dA A) cc (RX11, nl, rt, rm, tn) Q pc lv (.int x3 :: .int x2 :: .int x1 :: .ref (lc 0 0) :: rest) lc s ck cn :=
  v_callV (kd := 0) (i := 0) (nA := 3) (As := [.int x1, .int x2, .int x3]) lvM_0 oM rfl (mM_rulesAre l D dA A lc s x1 x2 x3 (Q := (fun v lc' s' => ∃ r, K r ∧ v = none ∧ lc' = lc ∧ s' = r)) (h.mono (fun r hr => ⟨r, hr, rfl, rfl, rfl⟩))) (lw_V q1984 q1986 qs64 q154 q1987) (by decide +kernel) rfl hR hW hf d rfl (fun v lc' s' q => by obtain ⟨r, hr, e1, e2, e3⟩ := q; rw [e1, e2, e3]; exact kk r hr)
def fM_signs (s : tt_St) (x1 : Int32) (x2 : Int32) (x3 : Int32) : Option (tt_St) :=
  if inB x1 40 then if inB (((4 : Int32) * x1) + (rdI s 12 0 x1.toNatClampNeg)) 160 then nm (wrI s 13 0 (((4 : Int32) * x1) + (rdI s 12 0 x1.toNatClampNeg)).toNatClampNeg x2) fun s3 => if inB (((4 : Int32) * x1) + (rdI s3 12 0 x1.toNatClampNeg)) 160 then nm (wrI s3 14 0 (((4 : Int32) * x1) + (rdI s3 12 0 x1.toNatClampNeg)).toNatClampNeg x3) fun s5 => nm (wrI s5 12 0 x1.toNatClampNeg ((rdI s5 12 0 x1.toNatClampNeg) + (1 : Int32))) fun s6 => some s6 else none else none else none
abbrev rM_signs : Room := { frames := 0, cells := 0, slots := 0, locals := 0 }
set_option maxHeartbeats 4000000 in
theorem mM_signs (l : Launch) (D : va_G) (dA : Nat → ClassId) (A : Nat → Prop) (lc : Nat → Nat → Nat) (s : tt_St) (x1 : Int32) (x2 : Int32) (x3 : Int32) {Q : Option Value → (Nat → Nat → Nat) → tt_St → Prop} (h : Ok (fM_signs s x1 x2 x3) (fun r => Q none lc r)) : tt_Sp (XM l D dA A) yX11_signs cX11_signs 4 none rM_signs [.ref (lc 0 0), .int x1, .int x2, .int x3] lc s Q := by
  refine tt_Sp.ofV plM kokM (Nat.le_of_ble_eq_true rfl) ?_
  show tt_V (XM l D dA A) cX11_signs (RX11, 4, none, rM_signs, tt_nt) (tt_fn (XM l D dA A) (RX11, 4, none, rM_signs, tt_nt) Q) 0 [(0, .ref (lc 0 0)), (1, .int x1), (2, .int x2), (3, .int x3)] [] lc s 0 0
  unfold fM_signs at h
  refine v_aload_n 0 dX11_signs_0 rfl ?_
  refine gM_51 dX11_signs_1 ?_
  refine v_iconst dX11_signs_4 ic_4 ?_
  refine v_iload_n 1 dX11_signs_5 rfl ?_
  refine v_imul dX11_signs_6 ?_
  refine v_aload_n 0 dX11_signs_7 rfl ?_
  refine gM_48 dX11_signs_8 ?_
  refine v_iload_n 1 dX11_signs_11 rfl ?_
  obtain ⟨g1, h⟩ := Ok.guard h
  refine lM_12 g1 dX11_signs_12 ?_
  refine v_iadd dX11_signs_13 ?_
  refine v_iload_n 2 dX11_signs_14 rfl ?_
  obtain ⟨g2, h⟩ := Ok.guard h
  refine sM_13 g2 dX11_signs_15 ?_
  refine v_nmS (fun s3 e_s3 => ?_)
  have h := Ok.nm h e_s3
  refine v_aload_n 0 dX11_signs_16 rfl ?_
  refine gM_54 dX11_signs_17 ?_
  refine v_iconst dX11_signs_20 ic_4 ?_
  refine v_iload_n 1 dX11_signs_21 rfl ?_
  refine v_imul dX11_signs_22 ?_
  refine v_aload_n 0 dX11_signs_23 rfl ?_
  refine gM_48 dX11_signs_24 ?_
  refine v_iload_n 1 dX11_signs_27 rfl ?_
  refine lM_12 g1 dX11_signs_28 ?_
  refine v_iadd dX11_signs_29 ?_
  refine v_iload_n 3 dX11_signs_30 rfl ?_
  obtain ⟨g4, h⟩ := Ok.guard h
  refine sM_14 g4 dX11_signs_31 ?_
  refine v_nmS (fun s5 e_s5 => ?_)
  have h := Ok.nm h e_s5
  refine v_aload_n 0 dX11_signs_32 rfl ?_
  refine gM_48 dX11_signs_33 ?_
  refine v_iload_n 1 dX11_signs_36 rfl ?_
  refine v_dup2_11 dX11_signs_37 rfl rfl ?_
  refine lM_12 g1 dX11_signs_38 ?_
  refine v_iconst dX11_signs_39 ic_1 ?_
  refine v_iadd dX11_signs_40 ?_
  refine sM_12 g1 dX11_signs_41 ?_
  refine v_nmS (fun s6 e_s6 => ?_)
  have h := Ok.nm h e_s6
  have h := Ok.ret h
  exact v_vret rfl (Nat.zero_le _) (Nat.zero_le _) dX11_signs_42 h
theorem cM_302 {l : Launch} {D : va_G} {dA : Nat → ClassId} {A : Nat → Prop} {lc : Nat → Nat → Nat} {s : tt_St} {cc : ByteArray} {nl : Nat} {rt : Option FieldType} {rm : Room} {tn : tt_Tn} {Q : tt_Fin} {pc : Nat} {lv : List (Nat × Value)} {rest : List Value} {ck cn : Nat} {x1 : Int32} {x2 : Int32} {x3 : Int32} {K : tt_St → Prop} (h : Ok (fM_signs s x1 x2 x3) K) (hR : 0 + 1 ≤ rm.frames ∧ 8 + (4 + 11) + 0 ≤ rm.locals) (hW : (rest.map fun v => v.category).sum ≤ 8) (d : decode cc pc = .ok (.invokevirtual 302, 3)) (kk : ∀ r, K r → tt_V (XM l D dA A) cc (RX11, nl, rt, rm, tn) Q (pc + 3) lv rest lc r ck cn) (hf : ck ≤ rm.cells ∧ cn ≤ rm.slots := by exact ⟨Nat.zero_le _, Nat.zero_le _⟩) : tt_V (XM l D dA A) cc (RX11, nl, rt, rm, tn) Q pc lv (.int x3 :: .int x2 :: .int x1 :: .ref (lc 0 0) :: rest) lc s ck cn :=
  v_callV (kd := 0) (i := 0) (nA := 3) (As := [.int x1, .int x2, .int x3]) lvM_0 oM rfl (mM_signs l D dA A lc s x1 x2 x3 (Q := (fun v lc' s' => ∃ r, K r ∧ v = none ∧ lc' = lc ∧ s' = r)) (h.mono (fun r hr => ⟨r, hr, rfl, rfl, rfl⟩))) (lw_V q1980 q1982 qs63 q154 q1983) (by decide +kernel) rfl hR hW hf d rfl (fun v lc' s' q => by obtain ⟨r, hr, e1, e2, e3⟩ := q; rw [e1, e2, e3]; exact kk r hr)
def fM_does (s : tt_St) (x1 : Int32) : Option (tt_St) :=
  (fM_tell s x1 (0 : Int32)).bind fun r1 => if inB x1 160 then if (rdI s 2 0 x1.toNatClampNeg) = 0 then (fM_places s x1).bind fun r4 => some r4 else if (rdI s 2 0 x1.toNatClampNeg) = 1 then (fM_tell s x1 (1 : Int32)).bind fun r6 => (fM_tell s x1 (2 : Int32)).bind fun r7 => (fM_signs s r1 r6 r7).bind fun r8 => some r8 else if (rdI s 2 0 x1.toNatClampNeg) = 2 then nm (wrI s 0 0 29 ((rdI s 0 0 29) ||| ((1 : Int32) <<< (r1 &&& 31)))) fun s10 => some s10 else if (rdI s 2 0 x1.toNatClampNeg) = 3 then if (rdI s 0 0 48) = 0 then (fM_tell s x1 (1 : Int32)).bind fun r13 => (fM_tell s x1 (2 : Int32)).bind fun r14 => (fM_rulesAre s r1 r13 r14).bind fun r15 => some r15 else some s else if (rdI s 2 0 x1.toNatClampNeg) = 4 then (fM_harms s x1).bind fun r17 => some r17 else if (rdI s 2 0 x1.toNatClampNeg) = 5 then (fM_tell s x1 (1 : Int32)).bind fun r19 => (fM_grows s r1 r19).bind fun r20 => some r20 else if (rdI s 2 0 x1.toNatClampNeg) = 6 then if inB r1 10 then nm (wrI s 27 0 r1.toNatClampNeg (1 : Int32)) fun s23 => (fM_tell s23 x1 (1 : Int32)).bind fun r24 => nm (wrI s23 28 0 r1.toNatClampNeg r24) fun s25 => some s25 else none else if (rdI s 2 0 x1.toNatClampNeg) = 7 then if inB r1 10 then nm (wrI s 27 0 r1.toNatClampNeg (2 : Int32)) fun s28 => some s28 else none else (fM_reopens s r1).bind fun r29 => some r29 else none
abbrev rM_does : Room := { frames := 8, cells := 0, slots := 0, locals := 190 }
set_option maxHeartbeats 4000000 in
theorem mM_does (l : Launch) (D : va_G) (dA : Nat → ClassId) (A : Nat → Prop) (lc : Nat → Nat → Nat) (s : tt_St) (x1 : Int32) {Q : Option Value → (Nat → Nat → Nat) → tt_St → Prop} (h : Ok (fM_does s x1) (fun r => Q none lc r)) : tt_Sp (XM l D dA A) yX11_does cX11_does 3 none rM_does [.ref (lc 0 0), .int x1] lc s Q := by
  refine tt_Sp.ofV plM kokM (Nat.le_of_ble_eq_true rfl) ?_
  show tt_V (XM l D dA A) cX11_does (RX11, 3, none, rM_does, tt_nt) (tt_fn (XM l D dA A) (RX11, 3, none, rM_does, tt_nt) Q) 0 [(0, .ref (lc 0 0)), (1, .int x1)] [] lc s 0 0
  unfold fM_does at h
  refine v_aload_n 0 dX11_does_0 rfl ?_
  refine v_iload_n 1 dX11_does_1 rfl ?_
  refine v_iconst dX11_does_2 ic_0 ?_
  refine cM_289 (Ok.bind h) ⟨Nat.le_of_ble_eq_true rfl, Nat.le_of_ble_eq_true rfl⟩ (Nat.le_of_ble_eq_true rfl) dX11_does_3 (fun r1 h => ?_)
  refine v_istore_n [(2, .int r1), (0, .ref (lc 0 0)), (1, .int x1)] dX11_does_6 (Nat.le_of_ble_eq_true rfl) rfl ?_
  refine v_aload_n 1 dX11_does_7 rfl ?_
  refine gM_14 dX11_does_8 ?_
  refine v_iload_n 2 dX11_does_11 rfl ?_
  obtain ⟨g2, h⟩ := Ok.guard h
  refine lM_2 g2 dX11_does_12 ?_
  rcases Decidable.em ((rdI s 2 0 x1.toNatClampNeg) = 0) with c3 | c3
  · have h := Ok.pos h c3
    refine v_tableIn (v := 0) (tgt := 60) dX11_does_13 c3 (by decide) (by decide) rfl rfl ?_
    refine v_aload_n 1 dX11_does_60 rfl ?_
    refine v_iload_n 2 dX11_does_61 rfl ?_
    refine cM_299 (Ok.bind h) ⟨Nat.le_of_ble_eq_true rfl, Nat.le_of_ble_eq_true rfl⟩ (Nat.le_of_ble_eq_true rfl) dX11_does_62 (fun r4 h => ?_)
    refine v_goto (tgt := 189) dX11_does_65 rfl ?_
    have h := Ok.ret h
    exact v_vret rfl (Nat.zero_le _) (Nat.zero_le _) dX11_does_189 h
  · have h := Ok.neg h c3
    rcases Decidable.em ((rdI s 2 0 x1.toNatClampNeg) = 1) with c5 | c5
    · have h := Ok.pos h c5
      refine v_tableIn (v := 1) (tgt := 68) dX11_does_13 c5 (by decide) (by decide) rfl rfl ?_
      refine v_aload_n 1 dX11_does_68 rfl ?_
      refine v_iload_n 0 dX11_does_69 rfl ?_
      refine v_aload_n 1 dX11_does_70 rfl ?_
      refine v_iload_n 2 dX11_does_71 rfl ?_
      refine v_iconst dX11_does_72 ic_1 ?_
      refine cM_289 (Ok.bind h) ⟨Nat.le_of_ble_eq_true rfl, Nat.le_of_ble_eq_true rfl⟩ (Nat.le_of_ble_eq_true rfl) dX11_does_73 (fun r6 h => ?_)
      refine v_aload_n 1 dX11_does_76 rfl ?_
      refine v_iload_n 2 dX11_does_77 rfl ?_
      refine v_iconst dX11_does_78 ic_2 ?_
      refine cM_289 (Ok.bind h) ⟨Nat.le_of_ble_eq_true rfl, Nat.le_of_ble_eq_true rfl⟩ (Nat.le_of_ble_eq_true rfl) dX11_does_79 (fun r7 h => ?_)
      refine cM_302 (Ok.bind h) ⟨Nat.le_of_ble_eq_true rfl, Nat.le_of_ble_eq_true rfl⟩ (Nat.le_of_ble_eq_true rfl) dX11_does_82 (fun r8 h => ?_)
      refine v_goto (tgt := 189) dX11_does_85 rfl ?_
      have h := Ok.ret h
      exact v_vret rfl (Nat.zero_le _) (Nat.zero_le _) dX11_does_189 h
    · have h := Ok.neg h c5
      rcases Decidable.em ((rdI s 2 0 x1.toNatClampNeg) = 2) with c9 | c9
      · have h := Ok.pos h c9
        refine v_tableIn (v := 2) (tgt := 88) dX11_does_13 c9 (by decide) (by decide) rfl rfl ?_
        refine v_aload_n 1 dX11_does_88 rfl ?_
        refine v_dup dX11_does_89 rfl ?_
        refine gM_149 dX11_does_90 ?_
        refine v_iconst dX11_does_93 ic_1 ?_
        refine v_iload_n 0 dX11_does_94 rfl ?_
        refine v_ishl dX11_does_95 ?_
        refine v_ior dX11_does_96 ?_
        refine pM_149 dX11_does_97 ?_
        refine v_nmS (fun s10 e_s10 => ?_)
        have h := Ok.nm h e_s10
        refine v_goto (tgt := 189) dX11_does_100 rfl ?_
        have h := Ok.ret h
        exact v_vret rfl (Nat.zero_le _) (Nat.zero_le _) dX11_does_189 h
      · have h := Ok.neg h c9
        rcases Decidable.em ((rdI s 2 0 x1.toNatClampNeg) = 3) with c11 | c11
        · have h := Ok.pos h c11
          refine v_tableIn (v := 3) (tgt := 103) dX11_does_13 c11 (by decide) (by decide) rfl rfl ?_
          refine v_aload_n 1 dX11_does_103 rfl ?_
          refine gM_306 dX11_does_104 ?_
          refine v_if_ne (tgt := 189) dX11_does_107 rfl (fun c12 => ?_) (fun c12 => ?_)
          · have h := Ok.neg h c12
            have h := Ok.ret h
            exact v_vret rfl (Nat.zero_le _) (Nat.zero_le _) dX11_does_189 h
          · have h := Ok.pos h c12
            refine v_aload_n 1 dX11_does_110 rfl ?_
            refine v_iload_n 0 dX11_does_111 rfl ?_
            refine v_aload_n 1 dX11_does_112 rfl ?_
            refine v_iload_n 2 dX11_does_113 rfl ?_
            refine v_iconst dX11_does_114 ic_1 ?_
            refine cM_289 (Ok.bind h) ⟨Nat.le_of_ble_eq_true rfl, Nat.le_of_ble_eq_true rfl⟩ (Nat.le_of_ble_eq_true rfl) dX11_does_115 (fun r13 h => ?_)
            refine v_aload_n 1 dX11_does_118 rfl ?_
            refine v_iload_n 2 dX11_does_119 rfl ?_
            refine v_iconst dX11_does_120 ic_2 ?_
            refine cM_289 (Ok.bind h) ⟨Nat.le_of_ble_eq_true rfl, Nat.le_of_ble_eq_true rfl⟩ (Nat.le_of_ble_eq_true rfl) dX11_does_121 (fun r14 h => ?_)
            refine cM_310 (Ok.bind h) ⟨Nat.le_of_ble_eq_true rfl, Nat.le_of_ble_eq_true rfl⟩ (Nat.le_of_ble_eq_true rfl) dX11_does_124 (fun r15 h => ?_)
            refine v_goto (tgt := 189) dX11_does_127 rfl ?_
            have h := Ok.ret h
            exact v_vret rfl (Nat.zero_le _) (Nat.zero_le _) dX11_does_189 h
        · have h := Ok.neg h c11
          rcases Decidable.em ((rdI s 2 0 x1.toNatClampNeg) = 4) with c16 | c16
          · have h := Ok.pos h c16
            refine v_tableIn (v := 4) (tgt := 130) dX11_does_13 c16 (by decide) (by decide) rfl rfl ?_
            refine v_aload_n 1 dX11_does_130 rfl ?_
            refine v_iload_n 2 dX11_does_131 rfl ?_
            refine cM_313 (Ok.bind h) ⟨Nat.le_of_ble_eq_true rfl, Nat.le_of_ble_eq_true rfl⟩ (Nat.le_of_ble_eq_true rfl) dX11_does_132 (fun r17 h => ?_)
            refine v_goto (tgt := 189) dX11_does_135 rfl ?_
            have h := Ok.ret h
            exact v_vret rfl (Nat.zero_le _) (Nat.zero_le _) dX11_does_189 h
          · have h := Ok.neg h c16
            rcases Decidable.em ((rdI s 2 0 x1.toNatClampNeg) = 5) with c18 | c18
            · have h := Ok.pos h c18
              refine v_tableIn (v := 5) (tgt := 138) dX11_does_13 c18 (by decide) (by decide) rfl rfl ?_
              refine v_aload_n 1 dX11_does_138 rfl ?_
              refine v_iload_n 0 dX11_does_139 rfl ?_
              refine v_aload_n 1 dX11_does_140 rfl ?_
              refine v_iload_n 2 dX11_does_141 rfl ?_
              refine v_iconst dX11_does_142 ic_1 ?_
              refine cM_289 (Ok.bind h) ⟨Nat.le_of_ble_eq_true rfl, Nat.le_of_ble_eq_true rfl⟩ (Nat.le_of_ble_eq_true rfl) dX11_does_143 (fun r19 h => ?_)
              refine cM_316 (Ok.bind h) ⟨Nat.le_of_ble_eq_true rfl, Nat.le_of_ble_eq_true rfl⟩ (Nat.le_of_ble_eq_true rfl) dX11_does_146 (fun r20 h => ?_)
              refine v_goto (tgt := 189) dX11_does_149 rfl ?_
              have h := Ok.ret h
              exact v_vret rfl (Nat.zero_le _) (Nat.zero_le _) dX11_does_189 h
            · have h := Ok.neg h c18
              rcases Decidable.em ((rdI s 2 0 x1.toNatClampNeg) = 6) with c21 | c21
              · have h := Ok.pos h c21
                refine v_tableIn (v := 6) (tgt := 152) dX11_does_13 c21 (by decide) (by decide) rfl rfl ?_
                refine v_aload_n 1 dX11_does_152 rfl ?_
                refine gM_94 dX11_does_153 ?_
                refine v_iload_n 0 dX11_does_156 rfl ?_
                refine v_iconst dX11_does_157 ic_1 ?_
                obtain ⟨g22, h⟩ := Ok.guard h
                refine sM_27 g22 dX11_does_158 ?_
                refine v_nmS (fun s23 e_s23 => ?_)
                have h := Ok.nm h e_s23
                refine v_aload_n 1 dX11_does_159 rfl ?_
                refine gM_97 dX11_does_160 ?_
                refine v_iload_n 0 dX11_does_163 rfl ?_
                refine v_aload_n 1 dX11_does_164 rfl ?_
                refine v_iload_n 2 dX11_does_165 rfl ?_
                refine v_iconst dX11_does_166 ic_1 ?_
                refine cM_289 (Ok.bind h) ⟨Nat.le_of_ble_eq_true rfl, Nat.le_of_ble_eq_true rfl⟩ (Nat.le_of_ble_eq_true rfl) dX11_does_167 (fun r24 h => ?_)
                refine sM_28 g22 dX11_does_170 ?_
                refine v_nmS (fun s25 e_s25 => ?_)
                have h := Ok.nm h e_s25
                refine v_goto (tgt := 189) dX11_does_171 rfl ?_
                have h := Ok.ret h
                exact v_vret rfl (Nat.zero_le _) (Nat.zero_le _) dX11_does_189 h
              · have h := Ok.neg h c21
                rcases Decidable.em ((rdI s 2 0 x1.toNatClampNeg) = 7) with c26 | c26
                · have h := Ok.pos h c26
                  refine v_tableIn (v := 7) (tgt := 174) dX11_does_13 c26 (by decide) (by decide) rfl rfl ?_
                  refine v_aload_n 1 dX11_does_174 rfl ?_
                  refine gM_94 dX11_does_175 ?_
                  refine v_iload_n 0 dX11_does_178 rfl ?_
                  refine v_iconst dX11_does_179 ic_2 ?_
                  obtain ⟨g27, h⟩ := Ok.guard h
                  refine sM_27 g27 dX11_does_180 ?_
                  refine v_nmS (fun s28 e_s28 => ?_)
                  have h := Ok.nm h e_s28
                  refine v_goto (tgt := 189) dX11_does_181 rfl ?_
                  have h := Ok.ret h
                  exact v_vret rfl (Nat.zero_le _) (Nat.zero_le _) dX11_does_189 h
                · have h := Ok.neg h c26
                  have a_c3 : (rdI s 2 0 x1.toNatClampNeg).toInt ≠ 0 := fun q => c3 (Int32.toInt_inj.mp (q.trans (by decide)))
                  have a_c5 : (rdI s 2 0 x1.toNatClampNeg).toInt ≠ 1 := fun q => c5 (Int32.toInt_inj.mp (q.trans (by decide)))
                  have a_c9 : (rdI s 2 0 x1.toNatClampNeg).toInt ≠ 2 := fun q => c9 (Int32.toInt_inj.mp (q.trans (by decide)))
                  have a_c11 : (rdI s 2 0 x1.toNatClampNeg).toInt ≠ 3 := fun q => c11 (Int32.toInt_inj.mp (q.trans (by decide)))
                  have a_c16 : (rdI s 2 0 x1.toNatClampNeg).toInt ≠ 4 := fun q => c16 (Int32.toInt_inj.mp (q.trans (by decide)))
                  have a_c18 : (rdI s 2 0 x1.toNatClampNeg).toInt ≠ 5 := fun q => c18 (Int32.toInt_inj.mp (q.trans (by decide)))
                  have a_c21 : (rdI s 2 0 x1.toNatClampNeg).toInt ≠ 6 := fun q => c21 (Int32.toInt_inj.mp (q.trans (by decide)))
                  have a_c26 : (rdI s 2 0 x1.toNatClampNeg).toInt ≠ 7 := fun q => c26 (Int32.toInt_inj.mp (q.trans (by decide)))
                  refine v_tableOut (tgt := 184) dX11_does_13 (by omega) rfl ?_
                  refine v_aload_n 1 dX11_does_184 rfl ?_
                  refine v_iload_n 0 dX11_does_185 rfl ?_
                  refine cM_319 (Ok.bind h) ⟨Nat.le_of_ble_eq_true rfl, Nat.le_of_ble_eq_true rfl⟩ (Nat.le_of_ble_eq_true rfl) dX11_does_186 (fun r29 h => ?_)
                  have h := Ok.ret h
                  exact v_vret rfl (Nat.zero_le _) (Nat.zero_le _) dX11_does_189 h
theorem cM_331 {l : Launch} {D : va_G} {dA : Nat → ClassId} {A : Nat → Prop} {lc : Nat → Nat → Nat} {s : tt_St} {cc : ByteArray} {nl : Nat} {rt : Option FieldType} {rm : Room} {tn : tt_Tn} {Q : tt_Fin} {pc : Nat} {lv : List (Nat × Value)} {rest : List Value} {ck cn : Nat} {x1 : Int32} {K : tt_St → Prop} (h : Ok (fM_does s x1) K) (hR : 8 + 1 ≤ rm.frames ∧ 8 + (3 + 11) + 190 ≤ rm.locals) (hW : (rest.map fun v => v.category).sum ≤ 8) (d : decode cc pc = .ok (.invokevirtual 331, 3)) (kk : ∀ r, K r → tt_V (XM l D dA A) cc (RX11, nl, rt, rm, tn) Q (pc + 3) lv rest lc r ck cn) (hf : ck ≤ rm.cells ∧ cn ≤ rm.slots := by exact ⟨Nat.zero_le _, Nat.zero_le _⟩) : tt_V (XM l D dA A) cc (RX11, nl, rt, rm, tn) Q pc lv (.int x1 :: .ref (lc 0 0) :: rest) lc s ck cn :=
  v_callV (kd := 0) (i := 0) (nA := 1) (As := [.int x1]) lvM_0 oM rfl (mM_does l D dA A lc s x1 (Q := (fun v lc' s' => ∃ r, K r ∧ v = none ∧ lc' = lc ∧ s' = r)) (h.mono (fun r hr => ⟨r, hr, rfl, rfl, rfl⟩))) (lw_V q1960 q1962 qs58 q154 q1963) (by decide +kernel) rfl hR hW hf d rfl (fun v lc' s' q => by obtain ⟨r, hr, e1, e2, e3⟩ := q; rw [e1, e2, e3]; exact kk r hr)
def fM_goes (s : tt_St) (x1 : Int32) : Option (tt_St) :=
  (fM_can s x1).bind fun r1 => if r1 = 0 then nm (wrI s 0 0 49 ((rdI s 0 0 49) + (1 : Int32))) fun s3 => some s3 else (fM_does s x1).bind fun r4 => some r4
abbrev rM_goes : Room := { frames := 9, cells := 0, slots := 0, locals := 212 }
set_option maxHeartbeats 4000000 in
theorem mM_goes (l : Launch) (D : va_G) (dA : Nat → ClassId) (A : Nat → Prop) (lc : Nat → Nat → Nat) (s : tt_St) (x1 : Int32) {Q : Option Value → (Nat → Nat → Nat) → tt_St → Prop} (h : Ok (fM_goes s x1) (fun r => Q none lc r)) : tt_Sp (XM l D dA A) yX11_goes cX11_goes 2 none rM_goes [.ref (lc 0 0), .int x1] lc s Q := by
  refine tt_Sp.ofV plM kokM (Nat.le_of_ble_eq_true rfl) ?_
  show tt_V (XM l D dA A) cX11_goes (RX11, 2, none, rM_goes, tt_nt) (tt_fn (XM l D dA A) (RX11, 2, none, rM_goes, tt_nt) Q) 0 [(0, .ref (lc 0 0)), (1, .int x1)] [] lc s 0 0
  unfold fM_goes at h
  refine v_aload_n 0 dX11_goes_0 rfl ?_
  refine v_iload_n 1 dX11_goes_1 rfl ?_
  refine cM_328 (Ok.bind h) ⟨Nat.le_of_ble_eq_true rfl, Nat.le_of_ble_eq_true rfl⟩ (Nat.le_of_ble_eq_true rfl) dX11_goes_2 (fun r1 z_r1 h => ?_)
  refine v_if_eq (tgt := 16) dX11_goes_5 rfl (fun c2 => ?_) (fun c2 => ?_)
  · have h := Ok.pos h c2
    refine v_aload_n 0 dX11_goes_16 rfl ?_
    refine v_dup dX11_goes_17 rfl ?_
    refine gM_334 dX11_goes_18 ?_
    refine v_iconst dX11_goes_21 ic_1 ?_
    refine v_iadd dX11_goes_22 ?_
    refine pM_334 dX11_goes_23 ?_
    refine v_nmS (fun s3 e_s3 => ?_)
    have h := Ok.nm h e_s3
    have h := Ok.ret h
    exact v_vret rfl (Nat.zero_le _) (Nat.zero_le _) dX11_goes_26 h
  · have h := Ok.neg h c2
    refine v_aload_n 0 dX11_goes_8 rfl ?_
    refine v_iload_n 1 dX11_goes_9 rfl ?_
    refine cM_331 (Ok.bind h) ⟨Nat.le_of_ble_eq_true rfl, Nat.le_of_ble_eq_true rfl⟩ (Nat.le_of_ble_eq_true rfl) dX11_goes_10 (fun r4 h => ?_)
    refine v_goto (tgt := 26) dX11_goes_13 rfl ?_
    have h := Ok.ret h
    exact v_vret rfl (Nat.zero_le _) (Nat.zero_le _) dX11_goes_26 h
theorem cM_343 {l : Launch} {D : va_G} {dA : Nat → ClassId} {A : Nat → Prop} {lc : Nat → Nat → Nat} {s : tt_St} {cc : ByteArray} {nl : Nat} {rt : Option FieldType} {rm : Room} {tn : tt_Tn} {Q : tt_Fin} {pc : Nat} {lv : List (Nat × Value)} {rest : List Value} {ck cn : Nat} {x1 : Int32} {K : tt_St → Prop} (h : Ok (fM_goes s x1) K) (hR : 9 + 1 ≤ rm.frames ∧ 8 + (2 + 11) + 212 ≤ rm.locals) (hW : (rest.map fun v => v.category).sum ≤ 8) (d : decode cc pc = .ok (.invokevirtual 343, 3)) (kk : ∀ r, K r → tt_V (XM l D dA A) cc (RX11, nl, rt, rm, tn) Q (pc + 3) lv rest lc r ck cn) (hf : ck ≤ rm.cells ∧ cn ≤ rm.slots := by exact ⟨Nat.zero_le _, Nat.zero_le _⟩) : tt_V (XM l D dA A) cc (RX11, nl, rt, rm, tn) Q pc lv (.int x1 :: .ref (lc 0 0) :: rest) lc s ck cn :=
  v_callV (kd := 0) (i := 0) (nA := 1) (As := [.int x1]) lvM_0 oM rfl (mM_goes l D dA A lc s x1 (Q := (fun v lc' s' => ∃ r, K r ∧ v = none ∧ lc' = lc ∧ s' = r)) (h.mono (fun r hr => ⟨r, hr, rfl, rfl, rfl⟩))) (lw_V q2211 q2213 qs106 q154 q2214) (by decide +kernel) rfl hR hW hf d rfl (fun v lc' s' q => by obtain ⟨r, hr, e1, e2, e3⟩ := q; rw [e1, e2, e3]; exact kk r hr)
def fM_begins (s : tt_St) : Option (tt_St) :=
  (fM_clears s).bind fun r1 => nm (wrI r1 0 0 49 (0 : Int32)) fun s2 => some s2
abbrev rM_begins : Room := { frames := 2, cells := 0, slots := 0, locals := 43 }
set_option maxHeartbeats 4000000 in
theorem mM_begins (l : Launch) (D : va_G) (dA : Nat → ClassId) (A : Nat → Prop) (lc : Nat → Nat → Nat) (s : tt_St) {Q : Option Value → (Nat → Nat → Nat) → tt_St → Prop} (h : Ok (fM_begins s) (fun r => Q none lc r)) : tt_Sp (XM l D dA A) yX11_begins cX11_begins 1 none rM_begins [.ref (lc 0 0)] lc s Q := by
  refine tt_Sp.ofV plM kokM (Nat.le_of_ble_eq_true rfl) ?_
  show tt_V (XM l D dA A) cX11_begins (RX11, 1, none, rM_begins, tt_nt) (tt_fn (XM l D dA A) (RX11, 1, none, rM_begins, tt_nt) Q) 0 [(0, .ref (lc 0 0))] [] lc s 0 0
  unfold fM_begins at h
  refine v_aload_n 0 dX11_begins_0 rfl ?_
  refine cM_337 (Ok.bind h) ⟨Nat.le_of_ble_eq_true rfl, Nat.le_of_ble_eq_true rfl⟩ (Nat.le_of_ble_eq_true rfl) dX11_begins_1 (fun r1 h => ?_)
  refine v_aload_n 0 dX11_begins_4 rfl ?_
  refine v_iconst dX11_begins_5 ic_0 ?_
  refine pM_334 dX11_begins_6 ?_
  refine v_nmS (fun s2 e_s2 => ?_)
  have h := Ok.nm h e_s2
  have h := Ok.ret h
  exact v_vret rfl (Nat.zero_le _) (Nat.zero_le _) dX11_begins_9 h
theorem cM_340 {l : Launch} {D : va_G} {dA : Nat → ClassId} {A : Nat → Prop} {lc : Nat → Nat → Nat} {s : tt_St} {cc : ByteArray} {nl : Nat} {rt : Option FieldType} {rm : Room} {tn : tt_Tn} {Q : tt_Fin} {pc : Nat} {lv : List (Nat × Value)} {rest : List Value} {ck cn : Nat} {K : tt_St → Prop} (h : Ok (fM_begins s) K) (hR : 2 + 1 ≤ rm.frames ∧ 8 + (1 + 11) + 43 ≤ rm.locals) (hW : (rest.map fun v => v.category).sum ≤ 8) (d : decode cc pc = .ok (.invokevirtual 340, 3)) (kk : ∀ r, K r → tt_V (XM l D dA A) cc (RX11, nl, rt, rm, tn) Q (pc + 3) lv rest lc r ck cn) (hf : ck ≤ rm.cells ∧ cn ≤ rm.slots := by exact ⟨Nat.zero_le _, Nat.zero_le _⟩) : tt_V (XM l D dA A) cc (RX11, nl, rt, rm, tn) Q pc lv (.ref (lc 0 0) :: rest) lc s ck cn :=
  v_callV (kd := 0) (i := 0) (nA := 0) (As := []) lvM_0 oM rfl (mM_begins l D dA A lc s (Q := (fun v lc' s' => ∃ r, K r ∧ v = none ∧ lc' = lc ∧ s' = r)) (h.mono (fun r hr => ⟨r, hr, rfl, rfl, rfl⟩))) (lw_V q2203 q2205 qs104 q154 q2206) (by decide +kernel) rfl hR hW hf d rfl (fun v lc' s' q => by obtain ⟨r, hr, e1, e2, e3⟩ := q; rw [e1, e2, e3]; exact kk r hr)
def fM_goesOver_L6  (a2 : Int32 × tt_St) : Option ((Int32 × tt_St) ⊕ (Int32 × tt_St)) :=
  if (rdI a2.2 0 0 5) ≤ a2.1 then some (.inr (a2.1, a2.2)) else (fM_goes a2.2 a2.1).bind fun r5 => some (.inl ((a2.1 + 1 : Int32), r5))
def fM_goesOver (s : tt_St) : Option (tt_St) :=
  (fM_begins s).bind fun r1 => (itr (fM_goesOver_L6) tt_fuel ((0 : Int32), r1)).bind fun b3 => some b3.2
abbrev rM_goesOver : Room := { frames := 10, cells := 0, slots := 0, locals := 233 }
set_option maxHeartbeats 4000000 in
theorem mM_goesOver (l : Launch) (D : va_G) (dA : Nat → ClassId) (A : Nat → Prop) (lc : Nat → Nat → Nat) (s : tt_St) {Q : Option Value → (Nat → Nat → Nat) → tt_St → Prop} (h : Ok (fM_goesOver s) (fun r => Q none lc r)) : tt_Sp (XM l D dA A) yX11_goesOver cX11_goesOver 2 none rM_goesOver [.ref (lc 0 0)] lc s Q := by
  refine tt_Sp.ofV plM kokM (Nat.le_of_ble_eq_true rfl) ?_
  show tt_V (XM l D dA A) cX11_goesOver (RX11, 2, none, rM_goesOver, tt_nt) (tt_fn (XM l D dA A) (RX11, 2, none, rM_goesOver, tt_nt) Q) 0 [(0, .ref (lc 0 0))] [] lc s 0 0
  unfold fM_goesOver at h
  refine v_aload_n 0 dX11_goesOver_0 rfl ?_
  refine cM_340 (Ok.bind h) ⟨Nat.le_of_ble_eq_true rfl, Nat.le_of_ble_eq_true rfl⟩ (Nat.le_of_ble_eq_true rfl) dX11_goesOver_1 (fun r1 h => ?_)
  refine v_iconst dX11_goesOver_4 ic_0 ?_
  refine v_istore_n [(1, .int (0 : Int32)), (0, .ref (lc 0 0))] dX11_goesOver_5 (Nat.le_of_ble_eq_true rfl) rfl ?_
  refine v_sub [1, 0] rfl ?_
  refine itr_loop (P := fun a2 : Int32 × tt_St => tt_V (XM l D dA A) cX11_goesOver (RX11, 2, none, rM_goesOver, tt_nt) (tt_fn (XM l D dA A) (RX11, 2, none, rM_goesOver, tt_nt) Q) 6 [(0, .ref (lc 0 0)), (1, .int a2.1)] [] lc a2.2 0 0) (PE := fun b3 : Int32 × tt_St => tt_V (XM l D dA A) cX11_goesOver (RX11, 2, none, rM_goesOver, tt_nt) (tt_fn (XM l D dA A) (RX11, 2, none, rM_goesOver, tt_nt) Q) 25 [(0, .ref (lc 0 0)), (1, .int b3.1)] [] lc b3.2 0 0) h (fun b3 h => ?_) (fun a2 h => ?_)
  · have h := Ok.ret h
    exact v_vret rfl (Nat.zero_le _) (Nat.zero_le _) dX11_goesOver_25 h
  · have h : Ok (fM_goesOver_L6 a2) _ := h
    unfold fM_goesOver_L6 at h
    refine v_iload_n 1 dX11_goesOver_6 rfl ?_
    refine v_aload_n 0 dX11_goesOver_7 rfl ?_
    refine gM_17 dX11_goesOver_8 ?_
    refine v_icmp_ge (tgt := 25) dX11_goesOver_11 rfl (fun c4 => ?_) (fun c4 => ?_)
    · have h := Ok.pos h c4
      have h := Ok.ret h
      exact h
    · have h := Ok.neg h c4
      refine v_aload_n 0 dX11_goesOver_14 rfl ?_
      refine v_iload_n 1 dX11_goesOver_15 rfl ?_
      refine cM_343 (Ok.bind h) ⟨Nat.le_of_ble_eq_true rfl, Nat.le_of_ble_eq_true rfl⟩ (Nat.le_of_ble_eq_true rfl) dX11_goesOver_16 (fun r5 h => ?_)
      refine v_iinc (v := (a2.1 + 1 : Int32)) 1 [(1, .int (a2.1 + 1 : Int32)), (0, .ref (lc 0 0))] dX11_goesOver_19 rfl (by rw [ic_1]) (Nat.le_of_ble_eq_true rfl) rfl ?_
      refine v_goto (tgt := 6) dX11_goesOver_22 rfl ?_
      refine v_sub [1, 0] rfl ?_
      have h := Ok.ret h
      exact h
theorem cM_403 {l : Launch} {D : va_G} {dA : Nat → ClassId} {A : Nat → Prop} {lc : Nat → Nat → Nat} {s : tt_St} {cc : ByteArray} {nl : Nat} {rt : Option FieldType} {rm : Room} {tn : tt_Tn} {Q : tt_Fin} {pc : Nat} {lv : List (Nat × Value)} {rest : List Value} {ck cn : Nat} {K : tt_St → Prop} (h : Ok (fM_goesOver s) K) (hR : 10 + 1 ≤ rm.frames ∧ 8 + (2 + 11) + 233 ≤ rm.locals) (hW : (rest.map fun v => v.category).sum ≤ 8) (d : decode cc pc = .ok (.invokevirtual 403, 3)) (kk : ∀ r, K r → tt_V (XM l D dA A) cc (RX11, nl, rt, rm, tn) Q (pc + 3) lv rest lc r ck cn) (hf : ck ≤ rm.cells ∧ cn ≤ rm.slots := by exact ⟨Nat.zero_le _, Nat.zero_le _⟩) : tt_V (XM l D dA A) cc (RX11, nl, rt, rm, tn) Q pc lv (.ref (lc 0 0) :: rest) lc s ck cn :=
  v_callV (kd := 0) (i := 0) (nA := 0) (As := []) lvM_0 oM rfl (mM_goesOver l D dA A lc s (Q := (fun v lc' s' => ∃ r, K r ∧ v = none ∧ lc' = lc ∧ s' = r)) (h.mono (fun r hr => ⟨r, hr, rfl, rfl, rfl⟩))) (lw_V q2199 q2201 qs103 q154 q2202) (by decide +kernel) rfl hR hW hf d rfl (fun v lc' s' q => by obtain ⟨r, hr, e1, e2, e3⟩ := q; rw [e1, e2, e3]; exact kk r hr)
