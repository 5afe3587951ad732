set_option maxRecDepth 100000
def fM_thrown (s : tt_St) : Option (Int32) :=
  some (rdI s 0 0 0)
abbrev rM_thrown : Room := { frames := 0, cells := 0, slots := 0, locals := 0 }
set_option maxHeartbeats 4000000 in
theorem mM_thrown (l : Launch) (D : va_G) (dA : Nat → ClassId) (A : Nat → Prop) (lc : Nat → Nat → Nat) (s : tt_St) {Q : Option Value → (Nat → Nat → Nat) → tt_St → Prop} (h : Ok (fM_thrown s) (fun r => Q (some (.int r)) lc s)) : tt_Sp (XM l D dA A) yX11_thrown cX11_thrown 1 (some .int) rM_thrown [.ref (lc 0 0)] lc s Q := by
  refine tt_Sp.ofV plM kokM (Nat.le_of_ble_eq_true rfl) ?_
  show tt_V (XM l D dA A) cX11_thrown (RX11, 1, (some .int), rM_thrown, tt_nt) (tt_fn (XM l D dA A) (RX11, 1, (some .int), rM_thrown, tt_nt) Q) 0 [(0, .ref (lc 0 0))] [] lc s 0 0
  unfold fM_thrown at h
  refine v_aload_n 0 dX11_thrown_0 rfl ?_
  refine gM_1 dX11_thrown_1 ?_
  have h := Ok.ret h
  exact v_iret rfl (Nat.zero_le _) (Nat.zero_le _) dX11_thrown_4 h
def fM_needs (s : tt_St) (x1 : Int32) (x2 : Int32) (x3 : Int32) : Option (Int32 × tt_St) :=
  (if x1 = 0 then if (rdI s 0 0 0) = 0 then nm (wrI s 0 0 0 x2) fun s4 => if inB x3 3 then nm (wrI s4 1 0 x3.toNatClampNeg ((rdI s4 1 0 x3.toNatClampNeg) + (1 : Int32))) fun s6 => some s6 else none else some s else some s : Option (tt_St)).bind fun t1 => if (rdI t1 0 0 0) = 0 then some ((1 : Int32), t1) else some ((0 : Int32), t1)
abbrev rM_needs : Room := { frames := 0, cells := 0, slots := 0, locals := 0 }
set_option maxHeartbeats 4000000 in
theorem mM_needs (l : Launch) (D : va_G) (dA : Nat → ClassId) (A : Nat → Prop) (lc : Nat → Nat → Nat) (s : tt_St) (x1 : Int32) (x2 : Int32) (x3 : Int32) {Q : Option Value → (Nat → Nat → Nat) → tt_St → Prop} (h : Ok (fM_needs s x1 x2 x3) (fun r => zB r.1 → Q (some (.int r.1)) lc r.2)) : tt_Sp (XM l D dA A) yX11_needs cX11_needs 4 (some .boolean) rM_needs [.ref (lc 0 0), .int x1, .int x2, .int x3] lc s Q := by
  refine tt_Sp.ofV plM kokM (Nat.le_of_ble_eq_true rfl) ?_
  show tt_V (XM l D dA A) cX11_needs (RX11, 4, (some .boolean), rM_needs, tt_nt) (tt_fn (XM l D dA A) (RX11, 4, (some .boolean), rM_needs, tt_nt) Q) 0 [(0, .ref (lc 0 0)), (1, .int x1), (2, .int x2), (3, .int x3)] [] lc s 0 0
  unfold fM_needs at h
  refine v_iload_n 1 dX11_needs_0 rfl ?_
  have h := Ok.join (PJ := fun t1 : tt_St => tt_V (XM l D dA A) cX11_needs (RX11, 4, (some .boolean), rM_needs, tt_nt) (tt_fn (XM l D dA A) (RX11, 4, (some .boolean), rM_needs, tt_nt) Q) 26 [(0, .ref (lc 0 0))] [] lc t1 0 0) h (fun t1 h => by
    refine v_aload_n 0 dX11_needs_26 rfl ?_
    refine gM_1 dX11_needs_27 ?_
    refine v_if_ne (tgt := 37) dX11_needs_30 rfl (fun c7 => ?_) (fun c7 => ?_)
    · have h := Ok.neg h c7
      refine v_iconst dX11_needs_37 ic_0 ?_
      have h := Ok.ret h
      exact v_zret rfl zB_0 (Nat.zero_le _) (Nat.zero_le _) dX11_needs_38 (h zB_0)
    · have h := Ok.pos h c7
      refine v_iconst dX11_needs_33 ic_1 ?_
      refine v_goto (tgt := 38) dX11_needs_34 rfl ?_
      have h := Ok.ret h
      exact v_zret rfl zB_1 (Nat.zero_le _) (Nat.zero_le _) dX11_needs_38 (h zB_1))
  refine v_if_ne (tgt := 26) dX11_needs_1 rfl (fun c2 => ?_) (fun c2 => ?_)
  · have h := Ok.neg h c2
    refine v_sub [0] rfl ?_
    have h := Ok.ret h
    exact h
  · have h := Ok.pos h c2
    refine v_aload_n 0 dX11_needs_4 rfl ?_
    refine gM_1 dX11_needs_5 ?_
    refine v_if_ne (tgt := 26) dX11_needs_8 rfl (fun c3 => ?_) (fun c3 => ?_)
    · have h := Ok.neg h c3
      refine v_sub [0] rfl ?_
      have h := Ok.ret h
      exact h
    · have h := Ok.pos h c3
      refine v_aload_n 0 dX11_needs_11 rfl ?_
      refine v_iload_n 2 dX11_needs_12 rfl ?_
      refine pM_1 dX11_needs_13 ?_
      refine v_nmS (fun s4 e_s4 => ?_)
      have h := Ok.nm h e_s4
      refine v_aload_n 0 dX11_needs_16 rfl ?_
      refine gM_7 dX11_needs_17 ?_
      refine v_iload_n 3 dX11_needs_20 rfl ?_
      refine v_dup2_11 dX11_needs_21 rfl rfl ?_
      obtain ⟨g5, h⟩ := Ok.guard h
      refine lM_1 g5 dX11_needs_22 ?_
      refine v_iconst dX11_needs_23 ic_1 ?_
      refine v_iadd dX11_needs_24 ?_
      refine sM_1 g5 dX11_needs_25 ?_
      refine v_nmS (fun s6 e_s6 => ?_)
      have h := Ok.nm h e_s6
      refine v_sub [0] rfl ?_
      have h := Ok.ret h
      exact h
theorem cM_346 {l : Launch} {D : va_G} {dA : Nat → ClassId} {A : Nat → Prop} {lc : Nat → Nat → Nat} {s : tt_St} {cc : ByteArray} {nl : Nat} {rt : Option FieldType} {rm : Room} {tn : tt_Tn} {Q : tt_Fin} {pc : Nat} {lv : List (Nat × Value)} {rest : List Value} {ck cn : Nat} {x1 : Int32} {x2 : Int32} {x3 : Int32} {K : Int32 × tt_St → Prop} (h : Ok (fM_needs s x1 x2 x3) K) (hR : 0 + 1 ≤ rm.frames ∧ 8 + (4 + 11) + 0 ≤ rm.locals) (hW : (rest.map fun v => v.category).sum ≤ 8) (d : decode cc pc = .ok (.invokevirtual 346, 3)) (kk : ∀ r, zB r.1 → K r → tt_V (XM l D dA A) cc (RX11, nl, rt, rm, tn) Q (pc + 3) lv (.int r.1 :: rest) lc r.2 ck cn) (hf : ck ≤ rm.cells ∧ cn ≤ rm.slots := by exact ⟨Nat.zero_le _, Nat.zero_le _⟩) : tt_V (XM l D dA A) cc (RX11, nl, rt, rm, tn) Q pc lv (.int x3 :: .int x2 :: .int x1 :: .ref (lc 0 0) :: rest) lc s ck cn :=
  v_callV (kd := 0) (i := 0) (nA := 3) (As := [.int x1, .int x2, .int x3]) lvM_0 oM rfl (mM_needs l D dA A lc s x1 x2 x3 (Q := (fun v lc' s' => ∃ r, zB r.1 ∧ K r ∧ v = some (.int r.1) ∧ lc' = lc ∧ s' = r.2)) (h.mono (fun r hr => fun hz => ⟨r, hz, hr, rfl, rfl, rfl⟩))) (lw_V q1924 q1926 qs49 q154 q1927) (by decide +kernel) rfl hR hW hf d rfl (fun v lc' s' q => by obtain ⟨r, hz, hr, e1, e2, e3⟩ := q; rw [e1, e2, e3]; exact kk r hz hr)
def fM_within (x0 : Int64) (x2 : Int64) (x4 : Int64) : Option (Int32) :=
  if x0 < x2 then some (0 : Int32) else if x4 < x0 then some (0 : Int32) else some (1 : Int32)
abbrev rM_within : Room := { frames := 0, cells := 0, slots := 0, locals := 0 }
set_option maxHeartbeats 4000000 in
theorem mM_within (l : Launch) (D : va_G) (dA : Nat → ClassId) (A : Nat → Prop) (lc : Nat → Nat → Nat) (s : tt_St) (x0 : Int64) (x2 : Int64) (x4 : Int64) {Q : Option Value → (Nat → Nat → Nat) → tt_St → Prop} (h : Ok (fM_within x0 x2 x4) (fun r => zB r → Q (some (.int r)) lc s)) : tt_Sp (XM l D dA A) yX11_within cX11_within 6 (some .boolean) rM_within [.long x0, .long x2, .long x4] lc s Q := by
  refine tt_Sp.ofV plM kokM (Nat.le_of_ble_eq_true rfl) ?_
  show tt_V (XM l D dA A) cX11_within (RX11, 6, (some .boolean), rM_within, tt_nt) (tt_fn (XM l D dA A) (RX11, 6, (some .boolean), rM_within, tt_nt) Q) 0 [(0, .long x0), (2, .long x2), (4, .long x4)] [] lc s 0 0
  unfold fM_within at h
  refine v_lload_n 0 dX11_within_0 rfl ?_
  refine v_lload_n 1 dX11_within_1 rfl ?_
  refine v_lif_lt (tgt := 17) dX11_within_2 dX11_within_3 rfl (fun c1 => ?_) (fun c1 => ?_)
  · have h := Ok.pos h c1
    refine v_iconst dX11_within_17 ic_0 ?_
    have h := Ok.ret h
    exact v_zret rfl zB_0 (Nat.zero_le _) (Nat.zero_le _) dX11_within_18 (h zB_0)
  · have h := Ok.neg h c1
    refine v_lload_n 0 dX11_within_6 rfl ?_
    refine v_lload 2 dX11_within_7 rfl ?_
    refine v_lif_gt (tgt := 17) dX11_within_9 dX11_within_10 rfl (fun c2 => ?_) (fun c2 => ?_)
    · have h := Ok.pos h c2
      refine v_iconst dX11_within_17 ic_0 ?_
      have h := Ok.ret h
      exact v_zret rfl zB_0 (Nat.zero_le _) (Nat.zero_le _) dX11_within_18 (h zB_0)
    · have h := Ok.neg h c2
      refine v_iconst dX11_within_13 ic_1 ?_
      refine v_goto (tgt := 18) dX11_within_14 rfl ?_
      have h := Ok.ret h
      exact v_zret rfl zB_1 (Nat.zero_le _) (Nat.zero_le _) dX11_within_18 (h zB_1)
theorem cM_352 {l : Launch} {D : va_G} {dA : Nat → ClassId} {A : Nat → Prop} {lc : Nat → Nat → Nat} {s : tt_St} {cc : ByteArray} {nl : Nat} {rt : Option FieldType} {rm : Room} {tn : tt_Tn} {Q : tt_Fin} {pc : Nat} {lv : List (Nat × Value)} {rest : List Value} {ck cn : Nat} {x0 : Int64} {x2 : Int64} {x4 : Int64} {K : Int32 → Prop} (h : Ok (fM_within x0 x2 x4) K) (hR : 0 + 1 ≤ rm.frames ∧ 8 + (6 + 11) + 0 ≤ rm.locals) (hW : (rest.map fun v => v.category).sum ≤ 8) (d : decode cc pc = .ok (.invokestatic 352, 3)) (kk : ∀ r, zB r → K r → tt_V (XM l D dA A) cc (RX11, nl, rt, rm, tn) Q (pc + 3) lv (.int r :: rest) lc s ck cn) (hf : ck ≤ rm.cells ∧ cn ≤ rm.slots := by exact ⟨Nat.zero_le _, Nat.zero_le _⟩) : tt_V (XM l D dA A) cc (RX11, nl, rt, rm, tn) Q pc lv (.long x4 :: .long x2 :: .long x0 :: rest) lc s ck cn :=
  v_callS (nA := 3) (As := [.long x0, .long x2, .long x4]) (mM_within l D dA A lc s x0 x2 x4 (Q := (fun v lc' s' => ∃ r, zB r ∧ K r ∧ v = some (.int r) ∧ lc' = lc ∧ s' = s)) (h.mono (fun r hr => fun hz => ⟨r, hz, hr, rfl, rfl, rfl⟩))) (lw_S q1918 q1919 q154 q1920) (by decide +kernel) rfl hR hW hf d rfl (fun v lc' s' q => by obtain ⟨r, hz, hr, e1, e2, e3⟩ := q; rw [e1, e2, e3]; exact kk r hz hr)
def fM_least (x0 : Int64) (x2 : Int64) : Option (Int64) :=
  if x2 ≤ x0 then some x2 else some x0
abbrev rM_least : Room := { frames := 0, cells := 0, slots := 0, locals := 0 }
set_option maxHeartbeats 4000000 in
theorem mM_least (l : Launch) (D : va_G) (dA : Nat → ClassId) (A : Nat → Prop) (lc : Nat → Nat → Nat) (s : tt_St) (x0 : Int64) (x2 : Int64) {Q : Option Value → (Nat → Nat → Nat) → tt_St → Prop} (h : Ok (fM_least x0 x2) (fun r => Q (some (.long r)) lc s)) : tt_Sp (XM l D dA A) yX11_least cX11_least 4 (some .long) rM_least [.long x0, .long x2] lc s Q := by
  refine tt_Sp.ofV plM kokM (Nat.le_of_ble_eq_true rfl) ?_
  show tt_V (XM l D dA A) cX11_least (RX11, 4, (some .long), rM_least, tt_nt) (tt_fn (XM l D dA A) (RX11, 4, (some .long), rM_least, tt_nt) Q) 0 [(0, .long x0), (2, .long x2)] [] lc s 0 0
  unfold fM_least at h
  refine v_lload_n 0 dX11_least_0 rfl ?_
  refine v_lload_n 1 dX11_least_1 rfl ?_
  refine v_lif_ge (tgt := 10) dX11_least_2 dX11_least_3 rfl (fun c1 => ?_) (fun c1 => ?_)
  · have h := Ok.pos h c1
    refine v_lload_n 1 dX11_least_10 rfl ?_
    have h := Ok.ret h
    exact v_lret rfl (Nat.zero_le _) (Nat.zero_le _) dX11_least_11 h
  · have h := Ok.neg h c1
    refine v_lload_n 0 dX11_least_6 rfl ?_
    refine v_goto (tgt := 11) dX11_least_7 rfl ?_
    have h := Ok.ret h
    exact v_lret rfl (Nat.zero_le _) (Nat.zero_le _) dX11_least_11 h
theorem cM_179 {l : Launch} {D : va_G} {dA : Nat → ClassId} {A : Nat → Prop} {lc : Nat → Nat → Nat} {s : tt_St} {cc : ByteArray} {nl : Nat} {rt : Option FieldType} {rm : Room} {tn : tt_Tn} {Q : tt_Fin} {pc : Nat} {lv : List (Nat × Value)} {rest : List Value} {ck cn : Nat} {x0 : Int64} {x2 : Int64} {K : Int64 → Prop} (h : Ok (fM_least x0 x2) K) (hR : 0 + 1 ≤ rm.frames ∧ 8 + (4 + 11) + 0 ≤ rm.locals) (hW : (rest.map fun v => v.category).sum ≤ 8) (d : decode cc pc = .ok (.invokestatic 179, 3)) (kk : ∀ r, K r → tt_V (XM l D dA A) cc (RX11, nl, rt, rm, tn) Q (pc + 3) lv (.long r :: rest) lc s ck cn) (hf : ck ≤ rm.cells ∧ cn ≤ rm.slots := by exact ⟨Nat.zero_le _, Nat.zero_le _⟩) : tt_V (XM l D dA A) cc (RX11, nl, rt, rm, tn) Q pc lv (.long x2 :: .long x0 :: rest) lc s ck cn :=
  v_callS (nA := 2) (As := [.long x0, .long x2]) (mM_least l D dA A lc s x0 x2 (Q := (fun v lc' s' => ∃ r, K r ∧ v = some (.long r) ∧ lc' = lc ∧ s' = s)) (h.mono (fun r hr => ⟨r, hr, rfl, rfl, rfl⟩))) (lw_S q2044 q2045 q154 q2046) (by decide +kernel) rfl hR hW hf d rfl (fun v lc' s' q => by obtain ⟨r, hr, e1, e2, e3⟩ := q; rw [e1, e2, e3]; exact kk r hr)
def fM_tell (s : tt_St) (x1 : Int32) (x2 : Int32) : Option (Int32) :=
  if inB (((4 : Int32) * x1) + x2) 640 then some (rdI s 4 0 (((4 : Int32) * x1) + x2).toNatClampNeg) else none
abbrev rM_tell : Room := { frames := 0, cells := 0, slots := 0, locals := 0 }
set_option maxHeartbeats 4000000 in
theorem mM_tell (l : Launch) (D : va_G) (dA : Nat → ClassId) (A : Nat → Prop) (lc : Nat → Nat → Nat) (s : tt_St) (x1 : Int32) (x2 : Int32) {Q : Option Value → (Nat → Nat → Nat) → tt_St → Prop} (h : Ok (fM_tell s x1 x2) (fun r => Q (some (.int r)) lc s)) : tt_Sp (XM l D dA A) yX11_tell cX11_tell 3 (some .int) rM_tell [.ref (lc 0 0), .int x1, .int x2] lc s Q := by
  refine tt_Sp.ofV plM kokM (Nat.le_of_ble_eq_true rfl) ?_
  show tt_V (XM l D dA A) cX11_tell (RX11, 3, (some .int), rM_tell, tt_nt) (tt_fn (XM l D dA A) (RX11, 3, (some .int), rM_tell, tt_nt) Q) 0 [(0, .ref (lc 0 0)), (1, .int x1), (2, .int x2)] [] lc s 0 0
  unfold fM_tell at h
  refine v_aload_n 0 dX11_tell_0 rfl ?_
  refine gM_11 dX11_tell_1 ?_
  refine v_iconst dX11_tell_4 ic_4 ?_
  refine v_iload_n 1 dX11_tell_5 rfl ?_
  refine v_imul dX11_tell_6 ?_
  refine v_iload_n 2 dX11_tell_7 rfl ?_
  refine v_iadd dX11_tell_8 ?_
  obtain ⟨g1, h⟩ := Ok.guard h
  refine lM_4 g1 dX11_tell_9 ?_
  have h := Ok.ret h
  exact v_iret rfl (Nat.zero_le _) (Nat.zero_le _) dX11_tell_10 h
theorem cM_289 {l : Launch} {D : va_G} {dA : Nat → ClassId} {A : Nat → Prop} {lc : Nat → Nat → Nat} {s : tt_St} {cc : ByteArray} {nl : Nat} {rt : Option FieldType} {rm : Room} {tn : tt_Tn} {Q : tt_Fin} {pc : Nat} {lv : List (Nat × Value)} {rest : List Value} {ck cn : Nat} {x1 : Int32} {x2 : Int32} {K : Int32 → Prop} (h : Ok (fM_tell s x1 x2) K) (hR : 0 + 1 ≤ rm.frames ∧ 8 + (3 + 11) + 0 ≤ rm.locals) (hW : (rest.map fun v => v.category).sum ≤ 8) (d : decode cc pc = .ok (.invokevirtual 289, 3)) (kk : ∀ r, K r → tt_V (XM l D dA A) cc (RX11, nl, rt, rm, tn) Q (pc + 3) lv (.int r :: rest) lc s ck cn) (hf : ck ≤ rm.cells ∧ cn ≤ rm.slots := by exact ⟨Nat.zero_le _, Nat.zero_le _⟩) : tt_V (XM l D dA A) cc (RX11, nl, rt, rm, tn) Q pc lv (.int x2 :: .int x1 :: .ref (lc 0 0) :: rest) lc s ck cn :=
  v_callV (kd := 0) (i := 0) (nA := 2) (As := [.int x1, .int x2]) lvM_0 oM rfl (mM_tell l D dA A lc s x1 x2 (Q := (fun v lc' s' => ∃ r, K r ∧ v = some (.int r) ∧ lc' = lc ∧ s' = s)) (h.mono (fun r hr => ⟨r, hr, rfl, rfl, rfl⟩))) (lw_V q1964 q1966 qs59 q154 q1967) (by decide +kernel) rfl hR hW hf d rfl (fun v lc' s' q => by obtain ⟨r, hr, e1, e2, e3⟩ := q; rw [e1, e2, e3]; exact kk r hr)
def fM_notes (s : tt_St) (x1 : Int32) (x2 : Int32) (x3 : Int32) (x4 : Int32) (x5 : Int32) (x6 : Int32) : Option (tt_St) :=
  if inB (rdI s 0 0 5) 160 then nm (wrI s 2 0 (rdI s 0 0 5).toNatClampNeg x1) fun s2 => if inB ((4 : Int32) * (rdI s2 0 0 5)) 640 then nm (wrI s2 4 0 ((4 : Int32) * (rdI s2 0 0 5)).toNatClampNeg x2) fun s4 => if inB (((4 : Int32) * (rdI s4 0 0 5)) + (1 : Int32)) 640 then nm (wrI s4 4 0 (((4 : Int32) * (rdI s4 0 0 5)) + (1 : Int32)).toNatClampNeg x3) fun s6 => if inB (((4 : Int32) * (rdI s6 0 0 5)) + (2 : Int32)) 640 then nm (wrI s6 4 0 (((4 : Int32) * (rdI s6 0 0 5)) + (2 : Int32)).toNatClampNeg x4) fun s8 => if inB (((4 : Int32) * (rdI s8 0 0 5)) + (3 : Int32)) 640 then nm (wrI s8 4 0 (((4 : Int32) * (rdI s8 0 0 5)) + (3 : Int32)).toNatClampNeg x5) fun s10 => if inB (rdI s10 0 0 5) 160 then nm (wrI s10 3 0 (rdI s10 0 0 5).toNatClampNeg x6) fun s12 => nm (wrI s12 0 0 5 ((rdI s12 0 0 5) + (1 : Int32))) fun s13 => some s13 else none else none else none else none else none else none
abbrev rM_notes : Room := { frames := 0, cells := 0, slots := 0, locals := 0 }
set_option maxHeartbeats 4000000 in
theorem mM_notes (l : Launch) (D : va_G) (dA : Nat → ClassId) (A : Nat → Prop) (lc : Nat → Nat → Nat) (s : tt_St) (x1 : Int32) (x2 : Int32) (x3 : Int32) (x4 : Int32) (x5 : Int32) (x6 : Int32) {Q : Option Value → (Nat → Nat → Nat) → tt_St → Prop} (h : Ok (fM_notes s x1 x2 x3 x4 x5 x6) (fun r => Q none lc r)) : tt_Sp (XM l D dA A) yX11_notes cX11_notes 7 none rM_notes [.ref (lc 0 0), .int x1, .int x2, .int x3, .int x4, .int x5, .int x6] lc s Q := by
  refine tt_Sp.ofV plM kokM (Nat.le_of_ble_eq_true rfl) ?_
  show tt_V (XM l D dA A) cX11_notes (RX11, 7, none, rM_notes, tt_nt) (tt_fn (XM l D dA A) (RX11, 7, none, rM_notes, tt_nt) Q) 0 [(0, .ref (lc 0 0)), (1, .int x1), (2, .int x2), (3, .int x3), (4, .int x4), (5, .int x5), (6, .int x6)] [] lc s 0 0
  unfold fM_notes at h
  refine v_aload_n 0 dX11_notes_0 rfl ?_
  refine gM_14 dX11_notes_1 ?_
  refine v_aload_n 0 dX11_notes_4 rfl ?_
  refine gM_17 dX11_notes_5 ?_
  refine v_iload_n 1 dX11_notes_8 rfl ?_
  obtain ⟨g1, h⟩ := Ok.guard h
  refine sM_2 g1 dX11_notes_9 ?_
  refine v_nmS (fun s2 e_s2 => ?_)
  have h := Ok.nm h e_s2
  refine v_aload_n 0 dX11_notes_10 rfl ?_
  refine gM_11 dX11_notes_11 ?_
  refine v_iconst dX11_notes_14 ic_4 ?_
  refine v_aload_n 0 dX11_notes_15 rfl ?_
  refine gM_17 dX11_notes_16 ?_
  refine v_imul dX11_notes_19 ?_
  refine v_iload_n 2 dX11_notes_20 rfl ?_
  obtain ⟨g3, h⟩ := Ok.guard h
  refine sM_4 g3 dX11_notes_21 ?_
  refine v_nmS (fun s4 e_s4 => ?_)
  have h := Ok.nm h e_s4
  refine v_aload_n 0 dX11_notes_22 rfl ?_
  refine gM_11 dX11_notes_23 ?_
  refine v_iconst dX11_notes_26 ic_4 ?_
  refine v_aload_n 0 dX11_notes_27 rfl ?_
  refine gM_17 dX11_notes_28 ?_
  refine v_imul dX11_notes_31 ?_
  refine v_iconst dX11_notes_32 ic_1 ?_
  refine v_iadd dX11_notes_33 ?_
  refine v_iload_n 3 dX11_notes_34 rfl ?_
  obtain ⟨g5, h⟩ := Ok.guard h
  refine sM_4 g5 dX11_notes_35 ?_
  refine v_nmS (fun s6 e_s6 => ?_)
  have h := Ok.nm h e_s6
  refine v_aload_n 0 dX11_notes_36 rfl ?_
  refine gM_11 dX11_notes_37 ?_
  refine v_iconst dX11_notes_40 ic_4 ?_
  refine v_aload_n 0 dX11_notes_41 rfl ?_
  refine gM_17 dX11_notes_42 ?_
  refine v_imul dX11_notes_45 ?_
  refine v_iconst dX11_notes_46 ic_2 ?_
  refine v_iadd dX11_notes_47 ?_
  refine v_iload 4 dX11_notes_48 rfl ?_
  obtain ⟨g7, h⟩ := Ok.guard h
  refine sM_4 g7 dX11_notes_50 ?_
  refine v_nmS (fun s8 e_s8 => ?_)
  have h := Ok.nm h e_s8
  refine v_aload_n 0 dX11_notes_51 rfl ?_
  refine gM_11 dX11_notes_52 ?_
  refine v_iconst dX11_notes_55 ic_4 ?_
  refine v_aload_n 0 dX11_notes_56 rfl ?_
  refine gM_17 dX11_notes_57 ?_
  refine v_imul dX11_notes_60 ?_
  refine v_iconst dX11_notes_61 ic_3 ?_
  refine v_iadd dX11_notes_62 ?_
  refine v_iload 5 dX11_notes_63 rfl ?_
  obtain ⟨g9, h⟩ := Ok.guard h
  refine sM_4 g9 dX11_notes_65 ?_
  refine v_nmS (fun s10 e_s10 => ?_)
  have h := Ok.nm h e_s10
  refine v_aload_n 0 dX11_notes_66 rfl ?_
  refine gM_20 dX11_notes_67 ?_
  refine v_aload_n 0 dX11_notes_70 rfl ?_
  refine gM_17 dX11_notes_71 ?_
  refine v_iload 6 dX11_notes_74 rfl ?_
  obtain ⟨g11, h⟩ := Ok.guard h
  refine sM_3 g11 dX11_notes_76 ?_
  refine v_nmS (fun s12 e_s12 => ?_)
  have h := Ok.nm h e_s12
  refine v_aload_n 0 dX11_notes_77 rfl ?_
  refine v_dup dX11_notes_78 rfl ?_
  refine gM_17 dX11_notes_79 ?_
  refine v_iconst dX11_notes_82 ic_1 ?_
  refine v_iadd dX11_notes_83 ?_
  refine pM_17 dX11_notes_84 ?_
  refine v_nmS (fun s13 e_s13 => ?_)
  have h := Ok.nm h e_s13
  have h := Ok.ret h
  exact v_vret rfl (Nat.zero_le _) (Nat.zero_le _) dX11_notes_87 h
theorem cM_368 {l : Launch} {D : va_G} {dA : Nat → ClassId} {A : Nat → Prop} {lc : Nat → Nat → Nat} {s : tt_St} {cc : ByteArray} {nl : Nat} {rt : Option FieldType} {rm : Room} {tn : tt_Tn} {Q : tt_Fin} {pc : Nat} {lv : List (Nat × Value)} {rest : List Value} {ck cn : Nat} {x1 : Int32} {x2 : Int32} {x3 : Int32} {x4 : Int32} {x5 : Int32} {x6 : Int32} {K : tt_St → Prop} (h : Ok (fM_notes s x1 x2 x3 x4 x5 x6) K) (hR : 0 + 1 ≤ rm.frames ∧ 8 + (7 + 11) + 0 ≤ rm.locals) (hW : (rest.map fun v => v.category).sum ≤ 8) (d : decode cc pc = .ok (.invokevirtual 368, 3)) (kk : ∀ r, K r → tt_V (XM l D dA A) cc (RX11, nl, rt, rm, tn) Q (pc + 3) lv rest lc r ck cn) (hf : ck ≤ rm.cells ∧ cn ≤ rm.slots := by exact ⟨Nat.zero_le _, Nat.zero_le _⟩) : tt_V (XM l D dA A) cc (RX11, nl, rt, rm, tn) Q pc lv (.int x6 :: .int x5 :: .int x4 :: .int x3 :: .int x2 :: .int x1 :: .ref (lc 0 0) :: rest) lc s ck cn :=
  v_callV (kd := 0) (i := 0) (nA := 6) (As := [.int x1, .int x2, .int x3, .int x4, .int x5, .int x6]) lvM_0 oM rfl (mM_notes l D dA A lc s x1 x2 x3 x4 x5 x6 (Q := (fun v lc' s' => ∃ r, K r ∧ v = none ∧ lc' = lc ∧ s' = r)) (h.mono (fun r hr => ⟨r, hr, rfl, rfl, rfl⟩))) (lw_V q1956 q1958 qs57 q154 q1959) (by decide +kernel) rfl hR hW hf d rfl (fun v lc' s' q => by obtain ⟨r, hr, e1, e2, e3⟩ := q; rw [e1, e2, e3]; exact kk r hr)
def fM_eventsOf_L4 (s : tt_St) (x1 : Int32) (a1 : Int32 × Int32) : Option ((Int32 × Int32) ⊕ (Int32 × Int32)) :=
  if (rdI s 0 0 5) ≤ a1.2 then some (.inr (a1.1, a1.2)) else if inB a1.2 160 then if (rdI s 2 0 a1.2.toNatClampNeg) = x1 then nm (a1.1 + (1 : Int32)) fun v7 => some (.inl (v7, (a1.2 + 1 : Int32))) else nm (a1.1 + (0 : Int32)) fun v6 => some (.inl (v6, (a1.2 + 1 : Int32))) else none
def fM_eventsOf (s : tt_St) (x1 : Int32) : Option (Int32) :=
  (itr (fM_eventsOf_L4 s x1) tt_fuel ((0 : Int32), (0 : Int32))).bind fun b2 => some b2.1
abbrev rM_eventsOf : Room := { frames := 0, cells := 0, slots := 0, locals := 0 }
set_option maxHeartbeats 4000000 in
theorem mM_eventsOf (l : Launch) (D : va_G) (dA : Nat → ClassId) (A : Nat → Prop) (lc : Nat → Nat → Nat) (s : tt_St) (x1 : Int32) {Q : Option Value → (Nat → Nat → Nat) → tt_St → Prop} (h : Ok (fM_eventsOf s x1) (fun r => Q (some (.int r)) lc s)) : tt_Sp (XM l D dA A) yX11_eventsOf cX11_eventsOf 4 (some .int) rM_eventsOf [.ref (lc 0 0), .int x1] lc s Q := by
  refine tt_Sp.ofV plM kokM (Nat.le_of_ble_eq_true rfl) ?_
  show tt_V (XM l D dA A) cX11_eventsOf (RX11, 4, (some .int), rM_eventsOf, tt_nt) (tt_fn (XM l D dA A) (RX11, 4, (some .int), rM_eventsOf, tt_nt) Q) 0 [(0, .ref (lc 0 0)), (1, .int x1)] [] lc s 0 0
  unfold fM_eventsOf at h
  refine v_iconst dX11_eventsOf_0 ic_0 ?_
  refine v_istore_n [(2, .int (0 : Int32)), (0, .ref (lc 0 0)), (1, .int x1)] dX11_eventsOf_1 (Nat.le_of_ble_eq_true rfl) rfl ?_
  refine v_iconst dX11_eventsOf_2 ic_0 ?_
  refine v_istore_n [(3, .int (0 : Int32)), (2, .int (0 : Int32)), (0, .ref (lc 0 0)), (1, .int x1)] dX11_eventsOf_3 (Nat.le_of_ble_eq_true rfl) rfl ?_
  refine v_sub [2, 3, 1, 0] rfl ?_
  refine itr_loop (P := fun a1 : Int32 × Int32 => tt_V (XM l D dA A) cX11_eventsOf (RX11, 4, (some .int), rM_eventsOf, tt_nt) (tt_fn (XM l D dA A) (RX11, 4, (some .int), rM_eventsOf, tt_nt) Q) 4 [(0, .ref (lc 0 0)), (1, .int x1), (2, .int a1.1), (3, .int a1.2)] [] lc s 0 0) (PE := fun b2 : Int32 × Int32 => tt_V (XM l D dA A) cX11_eventsOf (RX11, 4, (some .int), rM_eventsOf, tt_nt) (tt_fn (XM l D dA A) (RX11, 4, (some .int), rM_eventsOf, tt_nt) Q) 36 [(0, .ref (lc 0 0)), (1, .int x1), (2, .int b2.1), (3, .int b2.2)] [] lc s 0 0) h (fun b2 h => ?_) (fun a1 h => ?_)
  · refine v_iload_n 2 dX11_eventsOf_36 rfl ?_
    have h := Ok.ret h
    exact v_iret rfl (Nat.zero_le _) (Nat.zero_le _) dX11_eventsOf_37 h
  · have h : Ok (fM_eventsOf_L4 s x1 a1) _ := h
    unfold fM_eventsOf_L4 at h
    refine v_iload_n 3 dX11_eventsOf_4 rfl ?_
    refine v_aload_n 0 dX11_eventsOf_5 rfl ?_
    refine gM_17 dX11_eventsOf_6 ?_
    refine v_icmp_ge (tgt := 36) dX11_eventsOf_9 rfl (fun c3 => ?_) (fun c3 => ?_)
    · have h := Ok.pos h c3
      have h := Ok.ret h
      exact h
    · have h := Ok.neg h c3
      refine v_iload_n 2 dX11_eventsOf_12 rfl ?_
      refine v_aload_n 0 dX11_eventsOf_13 rfl ?_
      refine gM_14 dX11_eventsOf_14 ?_
      refine v_iload_n 3 dX11_eventsOf_17 rfl ?_
      obtain ⟨g4, h⟩ := Ok.guard h
      refine lM_2 g4 dX11_eventsOf_18 ?_
      refine v_iload_n 1 dX11_eventsOf_19 rfl ?_
      refine v_icmp_ne (tgt := 27) dX11_eventsOf_20 rfl (fun c5 => ?_) (fun c5 => ?_)
      · have h := Ok.neg h c5
        refine v_iconst dX11_eventsOf_27 ic_0 ?_
        refine v_iadd dX11_eventsOf_28 ?_
        refine v_nmI (fun v6 e_v6 => ?_)
        have h := Ok.nm h e_v6
        refine v_istore_n [(2, .int v6), (0, .ref (lc 0 0)), (1, .int x1), (3, .int a1.2)] dX11_eventsOf_29 (Nat.le_of_ble_eq_true rfl) rfl ?_
        refine v_iinc (v := (a1.2 + 1 : Int32)) 3 [(3, .int (a1.2 + 1 : Int32)), (2, .int v6), (0, .ref (lc 0 0)), (1, .int x1)] dX11_eventsOf_30 rfl (by rw [ic_1]) (Nat.le_of_ble_eq_true rfl) rfl ?_
        refine v_goto (tgt := 4) dX11_eventsOf_33 rfl ?_
        refine v_sub [2, 3, 1, 0] rfl ?_
        have h := Ok.ret h
        exact h
      · have h := Ok.pos h c5
        refine v_iconst dX11_eventsOf_23 ic_1 ?_
        refine v_goto (tgt := 28) dX11_eventsOf_24 rfl ?_
        refine v_iadd dX11_eventsOf_28 ?_
        refine v_nmI (fun v7 e_v7 => ?_)
        have h := Ok.nm h e_v7
        refine v_istore_n [(2, .int v7), (0, .ref (lc 0 0)), (1, .int x1), (3, .int a1.2)] dX11_eventsOf_29 (Nat.le_of_ble_eq_true rfl) rfl ?_
        refine v_iinc (v := (a1.2 + 1 : Int32)) 3 [(3, .int (a1.2 + 1 : Int32)), (2, .int v7), (0, .ref (lc 0 0)), (1, .int x1)] dX11_eventsOf_30 rfl (by rw [ic_1]) (Nat.le_of_ble_eq_true rfl) rfl ?_
        refine v_goto (tgt := 4) dX11_eventsOf_33 rfl ?_
        refine v_sub [2, 3, 1, 0] rfl ?_
        have h := Ok.ret h
        exact h
theorem cM_362 {l : Launch} {D : va_G} {dA : Nat → ClassId} {A : Nat → Prop} {lc : Nat → Nat → Nat} {s : tt_St} {cc : ByteArray} {nl : Nat} {rt : Option FieldType} {rm : Room} {tn : tt_Tn} {Q : tt_Fin} {pc : Nat} {lv : List (Nat × Value)} {rest : List Value} {ck cn : Nat} {x1 : Int32} {K : Int32 → Prop} (h : Ok (fM_eventsOf s x1) K) (hR : 0 + 1 ≤ rm.frames ∧ 8 + (4 + 11) + 0 ≤ rm.locals) (hW : (rest.map fun v => v.category).sum ≤ 8) (d : decode cc pc = .ok (.invokevirtual 362, 3)) (kk : ∀ r, K r → tt_V (XM l D dA A) cc (RX11, nl, rt, rm, tn) Q (pc + 3) lv (.int r :: rest) lc s ck cn) (hf : ck ≤ rm.cells ∧ cn ≤ rm.slots := by exact ⟨Nat.zero_le _, Nat.zero_le _⟩) : tt_V (XM l D dA A) cc (RX11, nl, rt, rm, tn) Q pc lv (.int x1 :: .ref (lc 0 0) :: rest) lc s ck cn :=
  v_callV (kd := 0) (i := 0) (nA := 1) (As := [.int x1]) lvM_0 oM rfl (mM_eventsOf l D dA A lc s x1 (Q := (fun v lc' s' => ∃ r, K r ∧ v = some (.int r) ∧ lc' = lc ∧ s' = s)) (h.mono (fun r hr => ⟨r, hr, rfl, rfl, rfl⟩))) (lw_V q1928 q1930 qs50 q154 q1931) (by decide +kernel) rfl hR hW hf d rfl (fun v lc' s' q => by obtain ⟨r, hr, e1, e2, e3⟩ := q; rw [e1, e2, e3]; exact kk r hr)
def fM_clearsHarm_L106 (x1 : Int32) (a18 : Int32 × tt_St) : Option ((Int32 × tt_St) ⊕ (Int32 × tt_St)) :=
  if (7 : Int32) ≤ a18.1 then some (.inr (a18.1, a18.2)) else if inB (((7 : Int32) * x1) + a18.1) 175 then nm (wrL a18.2 26 0 (((7 : Int32) * x1) + a18.1).toNatClampNeg (0 : Int64)) fun s22 => some (.inl ((a18.1 + 1 : Int32), s22)) else none
def fM_clearsHarm_L80 (x1 : Int32) (a13 : Int32 × tt_St) : Option ((Int32 × tt_St) ⊕ (Int32 × tt_St)) :=
  if (10 : Int32) ≤ a13.1 then some (.inr (a13.1, a13.2)) else if inB (((10 : Int32) * x1) + a13.1) 250 then nm (wrL a13.2 25 0 (((10 : Int32) * x1) + a13.1).toNatClampNeg (0 : Int64)) fun s17 => some (.inl ((a13.1 + 1 : Int32), s17)) else none
def fM_clearsHarm_L52 (x1 : Int32) (a8 : Int32 × tt_St) : Option ((Int32 × tt_St) ⊕ (Int32 × tt_St)) :=
  if (160 : Int32) ≤ a8.1 then some (.inr (a8.1, a8.2)) else if inB (((160 : Int32) * x1) + a8.1) 4000 then nm (wrI a8.2 24 0 (((160 : Int32) * x1) + a8.1).toNatClampNeg (0 : Int32)) fun s12 => some (.inl ((a8.1 + 1 : Int32), s12)) else none
def fM_clearsHarm_L2 (x1 : Int32) (a1 : Int32 × tt_St) : Option ((Int32 × tt_St) ⊕ (Int32 × tt_St)) :=
  if (40 : Int32) ≤ a1.1 then some (.inr (a1.1, a1.2)) else if inB (((40 : Int32) * x1) + a1.1) 1000 then nm (wrL a1.2 21 0 (((40 : Int32) * x1) + a1.1).toNatClampNeg (0 : Int64)) fun s5 => nm (wrL s5 22 0 (((40 : Int32) * x1) + a1.1).toNatClampNeg (0 : Int64)) fun s6 => nm (wrL s6 23 0 (((40 : Int32) * x1) + a1.1).toNatClampNeg (0 : Int64)) fun s7 => some (.inl ((a1.1 + 1 : Int32), s7)) else none
def fM_clearsHarm (s : tt_St) (x1 : Int32) : Option (tt_St) :=
  (itr (fM_clearsHarm_L2 x1) tt_fuel ((0 : Int32), s)).bind fun b2 => (itr (fM_clearsHarm_L52 x1) tt_fuel ((0 : Int32), b2.2)).bind fun b9 => (itr (fM_clearsHarm_L80 x1) tt_fuel ((0 : Int32), b9.2)).bind fun b14 => (itr (fM_clearsHarm_L106 x1) tt_fuel ((0 : Int32), b14.2)).bind fun b19 => some b19.2
abbrev rM_clearsHarm : Room := { frames := 0, cells := 0, slots := 0, locals := 0 }
set_option maxHeartbeats 4000000 in
theorem mM_clearsHarm (l : Launch) (D : va_G) (dA : Nat → ClassId) (A : Nat → Prop) (lc : Nat → Nat → Nat) (s : tt_St) (x1 : Int32) {Q : Option Value → (Nat → Nat → Nat) → tt_St → Prop} (h : Ok (fM_clearsHarm s x1) (fun r => Q none lc r)) : tt_Sp (XM l D dA A) yX11_clearsHarm cX11_clearsHarm 3 none rM_clearsHarm [.ref (lc 0 0), .int x1] lc s Q := by
  refine tt_Sp.ofV plM kokM (Nat.le_of_ble_eq_true rfl) ?_
  show tt_V (XM l D dA A) cX11_clearsHarm (RX11, 3, none, rM_clearsHarm, tt_nt) (tt_fn (XM l D dA A) (RX11, 3, none, rM_clearsHarm, tt_nt) Q) 0 [(0, .ref (lc 0 0)), (1, .int x1)] [] lc s 0 0
  unfold fM_clearsHarm at h
  refine v_iconst dX11_clearsHarm_0 ic_0 ?_
  refine v_istore_n [(2, .int (0 : Int32)), (0, .ref (lc 0 0)), (1, .int x1)] dX11_clearsHarm_1 (Nat.le_of_ble_eq_true rfl) rfl ?_
  refine v_sub [1, 2, 0] rfl ?_
  refine itr_loop (P := fun a1 : Int32 × tt_St => tt_V (XM l D dA A) cX11_clearsHarm (RX11, 3, none, rM_clearsHarm, tt_nt) (tt_fn (XM l D dA A) (RX11, 3, none, rM_clearsHarm, tt_nt) Q) 2 [(0, .ref (lc 0 0)), (1, .int x1), (2, .int a1.1)] [] lc a1.2 0 0) (PE := fun b2 : Int32 × tt_St => tt_V (XM l D dA A) cX11_clearsHarm (RX11, 3, none, rM_clearsHarm, tt_nt) (tt_fn (XM l D dA A) (RX11, 3, none, rM_clearsHarm, tt_nt) Q) 50 [(0, .ref (lc 0 0)), (1, .int x1), (2, .int b2.1)] [] lc b2.2 0 0) h (fun b2 h => ?_) (fun a1 h => ?_)
  · refine v_iconst dX11_clearsHarm_50 ic_0 ?_
    refine v_istore_n [(2, .int (0 : Int32)), (0, .ref (lc 0 0)), (1, .int x1)] dX11_clearsHarm_51 (Nat.le_of_ble_eq_true rfl) rfl ?_
    refine v_sub [1, 2, 0] rfl ?_
    refine itr_loop (P := fun a8 : Int32 × tt_St => tt_V (XM l D dA A) cX11_clearsHarm (RX11, 3, none, rM_clearsHarm, tt_nt) (tt_fn (XM l D dA A) (RX11, 3, none, rM_clearsHarm, tt_nt) Q) 52 [(0, .ref (lc 0 0)), (1, .int x1), (2, .int a8.1)] [] lc a8.2 0 0) (PE := fun b9 : Int32 × tt_St => tt_V (XM l D dA A) cX11_clearsHarm (RX11, 3, none, rM_clearsHarm, tt_nt) (tt_fn (XM l D dA A) (RX11, 3, none, rM_clearsHarm, tt_nt) Q) 78 [(0, .ref (lc 0 0)), (1, .int x1), (2, .int b9.1)] [] lc b9.2 0 0) h (fun b9 h => ?_) (fun a8 h => ?_)
    · refine v_iconst dX11_clearsHarm_78 ic_0 ?_
      refine v_istore_n [(2, .int (0 : Int32)), (0, .ref (lc 0 0)), (1, .int x1)] dX11_clearsHarm_79 (Nat.le_of_ble_eq_true rfl) rfl ?_
      refine v_sub [1, 2, 0] rfl ?_
      refine itr_loop (P := fun a13 : Int32 × tt_St => tt_V (XM l D dA A) cX11_clearsHarm (RX11, 3, none, rM_clearsHarm, tt_nt) (tt_fn (XM l D dA A) (RX11, 3, none, rM_clearsHarm, tt_nt) Q) 80 [(0, .ref (lc 0 0)), (1, .int x1), (2, .int a13.1)] [] lc a13.2 0 0) (PE := fun b14 : Int32 × tt_St => tt_V (XM l D dA A) cX11_clearsHarm (RX11, 3, none, rM_clearsHarm, tt_nt) (tt_fn (XM l D dA A) (RX11, 3, none, rM_clearsHarm, tt_nt) Q) 104 [(0, .ref (lc 0 0)), (1, .int x1), (2, .int b14.1)] [] lc b14.2 0 0) h (fun b14 h => ?_) (fun a13 h => ?_)
      · refine v_iconst dX11_clearsHarm_104 ic_0 ?_
        refine v_istore_n [(2, .int (0 : Int32)), (0, .ref (lc 0 0)), (1, .int x1)] dX11_clearsHarm_105 (Nat.le_of_ble_eq_true rfl) rfl ?_
        refine v_sub [1, 2, 0] rfl ?_
        refine itr_loop (P := fun a18 : Int32 × tt_St => tt_V (XM l D dA A) cX11_clearsHarm (RX11, 3, none, rM_clearsHarm, tt_nt) (tt_fn (XM l D dA A) (RX11, 3, none, rM_clearsHarm, tt_nt) Q) 106 [(0, .ref (lc 0 0)), (1, .int x1), (2, .int a18.1)] [] lc a18.2 0 0) (PE := fun b19 : Int32 × tt_St => tt_V (XM l D dA A) cX11_clearsHarm (RX11, 3, none, rM_clearsHarm, tt_nt) (tt_fn (XM l D dA A) (RX11, 3, none, rM_clearsHarm, tt_nt) Q) 130 [(0, .ref (lc 0 0)), (1, .int x1), (2, .int b19.1)] [] lc b19.2 0 0) h (fun b19 h => ?_) (fun a18 h => ?_)
        · have h := Ok.ret h
          exact v_vret rfl (Nat.zero_le _) (Nat.zero_le _) dX11_clearsHarm_130 h
        · have h : Ok (fM_clearsHarm_L106 x1 a18) _ := h
          unfold fM_clearsHarm_L106 at h
          refine v_iload_n 2 dX11_clearsHarm_106 rfl ?_
          refine v_bipush dX11_clearsHarm_107 kb_7 ?_
          refine v_icmp_ge (tgt := 130) dX11_clearsHarm_109 rfl (fun c20 => ?_) (fun c20 => ?_)
          · have h := Ok.pos h c20
            have h := Ok.ret h
            exact h
          · have h := Ok.neg h c20
            refine v_aload_n 0 dX11_clearsHarm_112 rfl ?_
            refine gM_91 dX11_clearsHarm_113 ?_
            refine v_bipush dX11_clearsHarm_116 kb_7 ?_
            refine v_iload_n 1 dX11_clearsHarm_118 rfl ?_
            refine v_imul dX11_clearsHarm_119 ?_
            refine v_iload_n 2 dX11_clearsHarm_120 rfl ?_
            refine v_iadd dX11_clearsHarm_121 ?_
            refine v_lconst dX11_clearsHarm_122 kl_0 ?_
            obtain ⟨g21, h⟩ := Ok.guard h
            refine sM_26 g21 dX11_clearsHarm_123 ?_
            refine v_nmS (fun s22 e_s22 => ?_)
            have h := Ok.nm h e_s22
            refine v_iinc (v := (a18.1 + 1 : Int32)) 2 [(2, .int (a18.1 + 1 : Int32)), (0, .ref (lc 0 0)), (1, .int x1)] dX11_clearsHarm_124 rfl (by rw [ic_1]) (Nat.le_of_ble_eq_true rfl) rfl ?_
            refine v_goto (tgt := 106) dX11_clearsHarm_127 rfl ?_
            refine v_sub [1, 2, 0] rfl ?_
            have h := Ok.ret h
            exact h
      · have h : Ok (fM_clearsHarm_L80 x1 a13) _ := h
        unfold fM_clearsHarm_L80 at h
        refine v_iload_n 2 dX11_clearsHarm_80 rfl ?_
        refine v_bipush dX11_clearsHarm_81 kb_10 ?_
        refine v_icmp_ge (tgt := 104) dX11_clearsHarm_83 rfl (fun c15 => ?_) (fun c15 => ?_)
        · have h := Ok.pos h c15
          have h := Ok.ret h
          exact h
        · have h := Ok.neg h c15
          refine v_aload_n 0 dX11_clearsHarm_86 rfl ?_
          refine gM_88 dX11_clearsHarm_87 ?_
          refine v_bipush dX11_clearsHarm_90 kb_10 ?_
          refine v_iload_n 1 dX11_clearsHarm_92 rfl ?_
          refine v_imul dX11_clearsHarm_93 ?_
          refine v_iload_n 2 dX11_clearsHarm_94 rfl ?_
          refine v_iadd dX11_clearsHarm_95 ?_
          refine v_lconst dX11_clearsHarm_96 kl_0 ?_
          obtain ⟨g16, h⟩ := Ok.guard h
          refine sM_25 g16 dX11_clearsHarm_97 ?_
          refine v_nmS (fun s17 e_s17 => ?_)
          have h := Ok.nm h e_s17
          refine v_iinc (v := (a13.1 + 1 : Int32)) 2 [(2, .int (a13.1 + 1 : Int32)), (0, .ref (lc 0 0)), (1, .int x1)] dX11_clearsHarm_98 rfl (by rw [ic_1]) (Nat.le_of_ble_eq_true rfl) rfl ?_
          refine v_goto (tgt := 80) dX11_clearsHarm_101 rfl ?_
          refine v_sub [1, 2, 0] rfl ?_
          have h := Ok.ret h
          exact h
    · have h : Ok (fM_clearsHarm_L52 x1 a8) _ := h
      unfold fM_clearsHarm_L52 at h
      refine v_iload_n 2 dX11_clearsHarm_52 rfl ?_
      refine v_sipush dX11_clearsHarm_53 ks_160 ?_
      refine v_icmp_ge (tgt := 78) dX11_clearsHarm_56 rfl (fun c10 => ?_) (fun c10 => ?_)
      · have h := Ok.pos h c10
        have h := Ok.ret h
        exact h
      · have h := Ok.neg h c10
        refine v_aload_n 0 dX11_clearsHarm_59 rfl ?_
        refine gM_85 dX11_clearsHarm_60 ?_
        refine v_sipush dX11_clearsHarm_63 ks_160 ?_
        refine v_iload_n 1 dX11_clearsHarm_66 rfl ?_
        refine v_imul dX11_clearsHarm_67 ?_
        refine v_iload_n 2 dX11_clearsHarm_68 rfl ?_
        refine v_iadd dX11_clearsHarm_69 ?_
        refine v_iconst dX11_clearsHarm_70 ic_0 ?_
        obtain ⟨g11, h⟩ := Ok.guard h
        refine sM_24 g11 dX11_clearsHarm_71 ?_
        refine v_nmS (fun s12 e_s12 => ?_)
        have h := Ok.nm h e_s12
        refine v_iinc (v := (a8.1 + 1 : Int32)) 2 [(2, .int (a8.1 + 1 : Int32)), (0, .ref (lc 0 0)), (1, .int x1)] dX11_clearsHarm_72 rfl (by rw [ic_1]) (Nat.le_of_ble_eq_true rfl) rfl ?_
        refine v_goto (tgt := 52) dX11_clearsHarm_75 rfl ?_
        refine v_sub [1, 2, 0] rfl ?_
        have h := Ok.ret h
        exact h
  · have h : Ok (fM_clearsHarm_L2 x1 a1) _ := h
    unfold fM_clearsHarm_L2 at h
    refine v_iload_n 2 dX11_clearsHarm_2 rfl ?_
    refine v_bipush dX11_clearsHarm_3 kb_40 ?_
    refine v_icmp_ge (tgt := 50) dX11_clearsHarm_5 rfl (fun c3 => ?_) (fun c3 => ?_)
    · have h := Ok.pos h c3
      have h := Ok.ret h
      exact h
    · have h := Ok.neg h c3
      refine v_aload_n 0 dX11_clearsHarm_8 rfl ?_
      refine gM_76 dX11_clearsHarm_9 ?_
      refine v_bipush dX11_clearsHarm_12 kb_40 ?_
      refine v_iload_n 1 dX11_clearsHarm_14 rfl ?_
      refine v_imul dX11_clearsHarm_15 ?_
      refine v_iload_n 2 dX11_clearsHarm_16 rfl ?_
      refine v_iadd dX11_clearsHarm_17 ?_
      refine v_lconst dX11_clearsHarm_18 kl_0 ?_
      obtain ⟨g4, h⟩ := Ok.guard h
      refine sM_21 g4 dX11_clearsHarm_19 ?_
      refine v_nmS (fun s5 e_s5 => ?_)
      have h := Ok.nm h e_s5
      refine v_aload_n 0 dX11_clearsHarm_20 rfl ?_
      refine gM_79 dX11_clearsHarm_21 ?_
      refine v_bipush dX11_clearsHarm_24 kb_40 ?_
      refine v_iload_n 1 dX11_clearsHarm_26 rfl ?_
      refine v_imul dX11_clearsHarm_27 ?_
      refine v_iload_n 2 dX11_clearsHarm_28 rfl ?_
      refine v_iadd dX11_clearsHarm_29 ?_
      refine v_lconst dX11_clearsHarm_30 kl_0 ?_
      refine sM_22 g4 dX11_clearsHarm_31 ?_
      refine v_nmS (fun s6 e_s6 => ?_)
      have h := Ok.nm h e_s6
      refine v_aload_n 0 dX11_clearsHarm_32 rfl ?_
      refine gM_82 dX11_clearsHarm_33 ?_
      refine v_bipush dX11_clearsHarm_36 kb_40 ?_
      refine v_iload_n 1 dX11_clearsHarm_38 rfl ?_
      refine v_imul dX11_clearsHarm_39 ?_
      refine v_iload_n 2 dX11_clearsHarm_40 rfl ?_
      refine v_iadd dX11_clearsHarm_41 ?_
      refine v_lconst dX11_clearsHarm_42 kl_0 ?_
      refine sM_23 g4 dX11_clearsHarm_43 ?_
      refine v_nmS (fun s7 e_s7 => ?_)
      have h := Ok.nm h e_s7
      refine v_iinc (v := (a1.1 + 1 : Int32)) 2 [(2, .int (a1.1 + 1 : Int32)), (0, .ref (lc 0 0)), (1, .int x1)] dX11_clearsHarm_44 rfl (by rw [ic_1]) (Nat.le_of_ble_eq_true rfl) rfl ?_
      refine v_goto (tgt := 2) dX11_clearsHarm_47 rfl ?_
      refine v_sub [1, 2, 0] rfl ?_
      have h := Ok.ret h
      exact h
theorem cM_145 {l : Launch} {D : va_G} {dA : Nat → ClassId} {A : Nat → Prop} {lc : Nat → Nat → Nat} {s : tt_St} {cc : ByteArray} {nl : Nat} {rt : Option FieldType} {rm : Room} {tn : tt_Tn} {Q : tt_Fin} {pc : Nat} {lv : List (Nat × Value)} {rest : List Value} {ck cn : Nat} {x1 : Int32} {K : tt_St → Prop} (h : Ok (fM_clearsHarm s x1) K) (hR : 0 + 1 ≤ rm.frames ∧ 8 + (3 + 11) + 0 ≤ rm.locals) (hW : (rest.map fun v => v.category).sum ≤ 8) (d : decode cc pc = .ok (.invokevirtual 145, 3)) (kk : ∀ r, K r → tt_V (XM l D dA A) cc (RX11, nl, rt, rm, tn) Q (pc + 3) lv rest lc r ck cn) (hf : ck ≤ rm.cells ∧ cn ≤ rm.slots := by exact ⟨Nat.zero_le _, Nat.zero_le _⟩) : tt_V (XM l D dA A) cc (RX11, nl, rt, rm, tn) Q pc lv (.int x1 :: .ref (lc 0 0) :: rest) lc s ck cn :=
  v_callV (kd := 0) (i := 0) (nA := 1) (As := [.int x1]) lvM_0 oM rfl (mM_clearsHarm l D dA A lc s x1 (Q := (fun v lc' s' => ∃ r, K r ∧ v = none ∧ lc' = lc ∧ s' = r)) (h.mono (fun r hr => ⟨r, hr, rfl, rfl, rfl⟩))) (lw_V q2118 q2120 qs96 q154 q2121) (by decide +kernel) rfl hR hW hf d rfl (fun v lc' s' q => by obtain ⟨r, hr, e1, e2, e3⟩ := q; rw [e1, e2, e3]; exact kk r hr)
def fM_clears_L105  (a22 : Int32 × tt_St) : Option ((Int32 × tt_St) ⊕ (Int32 × tt_St)) :=
  if (12 : Int32) ≤ a22.1 then some (.inr (a22.1, a22.2)) else if inB a22.1 12 then nm (wrI a22.2 34 0 a22.1.toNatClampNeg (0 : Int32)) fun s26 => some (.inl ((a22.1 + 1 : Int32), s26)) else none
def fM_clears_L77  (a16 : Int32 × tt_St) : Option ((Int32 × tt_St) ⊕ (Int32 × tt_St)) :=
  if (10 : Int32) ≤ a16.1 then some (.inr (a16.1, a16.2)) else if inB a16.1 10 then nm (wrI a16.2 27 0 a16.1.toNatClampNeg (0 : Int32)) fun s20 => nm (wrI s20 28 0 a16.1.toNatClampNeg (0 : Int32)) fun s21 => some (.inl ((a16.1 + 1 : Int32), s21)) else none
def fM_clears_L37  (a8 : Int32 × tt_St) : Option ((Int32 × tt_St) ⊕ (Int32 × tt_St)) :=
  if (24 : Int32) < a8.1 then some (.inr (a8.1, a8.2)) else if inB a8.1 25 then nm (wrI a8.2 7 0 a8.1.toNatClampNeg (0 : Int32)) fun s12 => nm (wrI s12 19 0 a8.1.toNatClampNeg (0 : Int32)) fun s13 => nm (wrL s13 20 0 a8.1.toNatClampNeg (0 : Int64)) fun s14 => (fM_clearsHarm s14 a8.1).bind fun r15 => some (.inl ((a8.1 + 1 : Int32), r15)) else none
def fM_clears_L2  (a1 : Int32 × tt_St) : Option ((Int32 × tt_St) ⊕ (Int32 × tt_St)) :=
  if (40 : Int32) ≤ a1.1 then some (.inr (a1.1, a1.2)) else if inB a1.1 40 then nm (wrI a1.2 6 0 a1.1.toNatClampNeg (0 : Int32)) fun s5 => nm (wrI s5 12 0 a1.1.toNatClampNeg (0 : Int32)) fun s6 => nm (wrL s6 15 0 a1.1.toNatClampNeg (0 : Int64)) fun s7 => some (.inl ((a1.1 + 1 : Int32), s7)) else none
def fM_clears (s : tt_St) : Option (tt_St) :=
  (itr (fM_clears_L2) tt_fuel ((0 : Int32), s)).bind fun b2 => (itr (fM_clears_L37) tt_fuel ((0 : Int32), b2.2)).bind fun b9 => (itr (fM_clears_L77) tt_fuel ((0 : Int32), b9.2)).bind fun b17 => (itr (fM_clears_L105) tt_fuel ((0 : Int32), b17.2)).bind fun b23 => nm (wrI b23.2 0 0 29 (0 : Int32)) fun s27 => nm (wrI s27 0 0 30 (0 : Int32)) fun s28 => nm (wrI s28 0 0 31 (0 : Int32)) fun s29 => nm (wrI s29 0 0 32 (0 : Int32)) fun s30 => some s30
abbrev rM_clears : Room := { frames := 1, cells := 0, slots := 0, locals := 22 }
set_option maxHeartbeats 4000000 in
theorem mM_clears (l : Launch) (D : va_G) (dA : Nat → ClassId) (A : Nat → Prop) (lc : Nat → Nat → Nat) (s : tt_St) {Q : Option Value → (Nat → Nat → Nat) → tt_St → Prop} (h : Ok (fM_clears s) (fun r => Q none lc r)) : tt_Sp (XM l D dA A) yX11_clears cX11_clears 2 none rM_clears [.ref (lc 0 0)] lc s Q := by
  refine tt_Sp.ofV plM kokM (Nat.le_of_ble_eq_true rfl) ?_
  show tt_V (XM l D dA A) cX11_clears (RX11, 2, none, rM_clears, tt_nt) (tt_fn (XM l D dA A) (RX11, 2, none, rM_clears, tt_nt) Q) 0 [(0, .ref (lc 0 0))] [] lc s 0 0
  unfold fM_clears at h
  refine v_iconst dX11_clears_0 ic_0 ?_
  refine v_istore_n [(1, .int (0 : Int32)), (0, .ref (lc 0 0))] dX11_clears_1 (Nat.le_of_ble_eq_true rfl) rfl ?_
  refine v_sub [1, 0] rfl ?_
  refine itr_loop (P := fun a1 : Int32 × tt_St => tt_V (XM l D dA A) cX11_clears (RX11, 2, none, rM_clears, tt_nt) (tt_fn (XM l D dA A) (RX11, 2, none, rM_clears, tt_nt) Q) 2 [(0, .ref (lc 0 0)), (1, .int a1.1)] [] lc a1.2 0 0) (PE := fun b2 : Int32 × tt_St => tt_V (XM l D dA A) cX11_clears (RX11, 2, none, rM_clears, tt_nt) (tt_fn (XM l D dA A) (RX11, 2, none, rM_clears, tt_nt) Q) 35 [(0, .ref (lc 0 0)), (1, .int b2.1)] [] lc b2.2 0 0) h (fun b2 h => ?_) (fun a1 h => ?_)
  · refine v_iconst dX11_clears_35 ic_0 ?_
    refine v_istore_n [(1, .int (0 : Int32)), (0, .ref (lc 0 0))] dX11_clears_36 (Nat.le_of_ble_eq_true rfl) rfl ?_
    refine v_sub [1, 0] rfl ?_
    refine itr_loop (P := fun a8 : Int32 × tt_St => tt_V (XM l D dA A) cX11_clears (RX11, 2, none, rM_clears, tt_nt) (tt_fn (XM l D dA A) (RX11, 2, none, rM_clears, tt_nt) Q) 37 [(0, .ref (lc 0 0)), (1, .int a8.1)] [] lc a8.2 0 0) (PE := fun b9 : Int32 × tt_St => tt_V (XM l D dA A) cX11_clears (RX11, 2, none, rM_clears, tt_nt) (tt_fn (XM l D dA A) (RX11, 2, none, rM_clears, tt_nt) Q) 75 [(0, .ref (lc 0 0)), (1, .int b9.1)] [] lc b9.2 0 0) h (fun b9 h => ?_) (fun a8 h => ?_)
    · refine v_iconst dX11_clears_75 ic_0 ?_
      refine v_istore_n [(1, .int (0 : Int32)), (0, .ref (lc 0 0))] dX11_clears_76 (Nat.le_of_ble_eq_true rfl) rfl ?_
      refine v_sub [1, 0] rfl ?_
      refine itr_loop (P := fun a16 : Int32 × tt_St => tt_V (XM l D dA A) cX11_clears (RX11, 2, none, rM_clears, tt_nt) (tt_fn (XM l D dA A) (RX11, 2, none, rM_clears, tt_nt) Q) 77 [(0, .ref (lc 0 0)), (1, .int a16.1)] [] lc a16.2 0 0) (PE := fun b17 : Int32 × tt_St => tt_V (XM l D dA A) cX11_clears (RX11, 2, none, rM_clears, tt_nt) (tt_fn (XM l D dA A) (RX11, 2, none, rM_clears, tt_nt) Q) 103 [(0, .ref (lc 0 0)), (1, .int b17.1)] [] lc b17.2 0 0) h (fun b17 h => ?_) (fun a16 h => ?_)
      · refine v_iconst dX11_clears_103 ic_0 ?_
        refine v_istore_n [(1, .int (0 : Int32)), (0, .ref (lc 0 0))] dX11_clears_104 (Nat.le_of_ble_eq_true rfl) rfl ?_
        refine v_sub [1, 0] rfl ?_
        refine itr_loop (P := fun a22 : Int32 × tt_St => tt_V (XM l D dA A) cX11_clears (RX11, 2, none, rM_clears, tt_nt) (tt_fn (XM l D dA A) (RX11, 2, none, rM_clears, tt_nt) Q) 105 [(0, .ref (lc 0 0)), (1, .int a22.1)] [] lc a22.2 0 0) (PE := fun b23 : Int32 × tt_St => tt_V (XM l D dA A) cX11_clears (RX11, 2, none, rM_clears, tt_nt) (tt_fn (XM l D dA A) (RX11, 2, none, rM_clears, tt_nt) Q) 124 [(0, .ref (lc 0 0)), (1, .int b23.1)] [] lc b23.2 0 0) h (fun b23 h => ?_) (fun a22 h => ?_)
        · refine v_aload_n 0 dX11_clears_124 rfl ?_
          refine v_iconst dX11_clears_125 ic_0 ?_
          refine pM_149 dX11_clears_126 ?_
          refine v_nmS (fun s27 e_s27 => ?_)
          have h := Ok.nm h e_s27
          refine v_aload_n 0 dX11_clears_129 rfl ?_
          refine v_iconst dX11_clears_130 ic_0 ?_
          refine pM_152 dX11_clears_131 ?_
          refine v_nmS (fun s28 e_s28 => ?_)
          have h := Ok.nm h e_s28
          refine v_aload_n 0 dX11_clears_134 rfl ?_
          refine v_iconst dX11_clears_135 ic_0 ?_
          refine pM_155 dX11_clears_136 ?_
          refine v_nmS (fun s29 e_s29 => ?_)
          have h := Ok.nm h e_s29
          refine v_aload_n 0 dX11_clears_139 rfl ?_
          refine v_iconst dX11_clears_140 ic_0 ?_
          refine pM_158 dX11_clears_141 ?_
          refine v_nmS (fun s30 e_s30 => ?_)
          have h := Ok.nm h e_s30
          have h := Ok.ret h
          exact v_vret rfl (Nat.zero_le _) (Nat.zero_le _) dX11_clears_144 h
        · have h : Ok (fM_clears_L105 a22) _ := h
          unfold fM_clears_L105 at h
          refine v_iload_n 1 dX11_clears_105 rfl ?_
          refine v_bipush dX11_clears_106 kb_12 ?_
          refine v_icmp_ge (tgt := 124) dX11_clears_108 rfl (fun c24 => ?_) (fun c24 => ?_)
          · have h := Ok.pos h c24
            have h := Ok.ret h
            exact h
          · have h := Ok.neg h c24
            refine v_aload_n 0 dX11_clears_111 rfl ?_
            refine gM_103 dX11_clears_112 ?_
            refine v_iload_n 1 dX11_clears_115 rfl ?_
            refine v_iconst dX11_clears_116 ic_0 ?_
            obtain ⟨g25, h⟩ := Ok.guard h
            refine sM_34 g25 dX11_clears_117 ?_
            refine v_nmS (fun s26 e_s26 => ?_)
            have h := Ok.nm h e_s26
            refine v_iinc (v := (a22.1 + 1 : Int32)) 1 [(1, .int (a22.1 + 1 : Int32)), (0, .ref (lc 0 0))] dX11_clears_118 rfl (by rw [ic_1]) (Nat.le_of_ble_eq_true rfl) rfl ?_
            refine v_goto (tgt := 105) dX11_clears_121 rfl ?_
            refine v_sub [1, 0] rfl ?_
            have h := Ok.ret h
            exact h
      · have h : Ok (fM_clears_L77 a16) _ := h
        unfold fM_clears_L77 at h
        refine v_iload_n 1 dX11_clears_77 rfl ?_
        refine v_bipush dX11_clears_78 kb_10 ?_
        refine v_icmp_ge (tgt := 103) dX11_clears_80 rfl (fun c18 => ?_) (fun c18 => ?_)
        · have h := Ok.pos h c18
          have h := Ok.ret h
          exact h
        · have h := Ok.neg h c18
          refine v_aload_n 0 dX11_clears_83 rfl ?_
          refine gM_94 dX11_clears_84 ?_
          refine v_iload_n 1 dX11_clears_87 rfl ?_
          refine v_iconst dX11_clears_88 ic_0 ?_
          obtain ⟨g19, h⟩ := Ok.guard h
          refine sM_27 g19 dX11_clears_89 ?_
          refine v_nmS (fun s20 e_s20 => ?_)
          have h := Ok.nm h e_s20
          refine v_aload_n 0 dX11_clears_90 rfl ?_
          refine gM_97 dX11_clears_91 ?_
          refine v_iload_n 1 dX11_clears_94 rfl ?_
          refine v_iconst dX11_clears_95 ic_0 ?_
          refine sM_28 g19 dX11_clears_96 ?_
          refine v_nmS (fun s21 e_s21 => ?_)
          have h := Ok.nm h e_s21
          refine v_iinc (v := (a16.1 + 1 : Int32)) 1 [(1, .int (a16.1 + 1 : Int32)), (0, .ref (lc 0 0))] dX11_clears_97 rfl (by rw [ic_1]) (Nat.le_of_ble_eq_true rfl) rfl ?_
          refine v_goto (tgt := 77) dX11_clears_100 rfl ?_
          refine v_sub [1, 0] rfl ?_
          have h := Ok.ret h
          exact h
    · have h : Ok (fM_clears_L37 a8) _ := h
      unfold fM_clears_L37 at h
      refine v_iload_n 1 dX11_clears_37 rfl ?_
      refine v_bipush dX11_clears_38 kb_24 ?_
      refine v_icmp_gt (tgt := 75) dX11_clears_40 rfl (fun c10 => ?_) (fun c10 => ?_)
      · have h := Ok.pos h c10
        have h := Ok.ret h
        exact h
      · have h := Ok.neg h c10
        refine v_aload_n 0 dX11_clears_43 rfl ?_
        refine gM_33 dX11_clears_44 ?_
        refine v_iload_n 1 dX11_clears_47 rfl ?_
        refine v_iconst dX11_clears_48 ic_0 ?_
        obtain ⟨g11, h⟩ := Ok.guard h
        refine sM_7 zB_0 g11 dX11_clears_49 ?_
        refine v_nmS (fun s12 e_s12 => ?_)
        have h := Ok.nm h e_s12
        refine v_aload_n 0 dX11_clears_50 rfl ?_
        refine gM_70 dX11_clears_51 ?_
        refine v_iload_n 1 dX11_clears_54 rfl ?_
        refine v_iconst dX11_clears_55 ic_0 ?_
        refine sM_19 g11 dX11_clears_56 ?_
        refine v_nmS (fun s13 e_s13 => ?_)
        have h := Ok.nm h e_s13
        refine v_aload_n 0 dX11_clears_57 rfl ?_
        refine gM_73 dX11_clears_58 ?_
        refine v_iload_n 1 dX11_clears_61 rfl ?_
        refine v_lconst dX11_clears_62 kl_0 ?_
        refine sM_20 g11 dX11_clears_63 ?_
        refine v_nmS (fun s14 e_s14 => ?_)
        have h := Ok.nm h e_s14
        refine v_aload_n 0 dX11_clears_64 rfl ?_
        refine v_iload_n 1 dX11_clears_65 rfl ?_
        refine cM_145 (Ok.bind h) ⟨Nat.le_of_ble_eq_true rfl, Nat.le_of_ble_eq_true rfl⟩ (Nat.le_of_ble_eq_true rfl) dX11_clears_66 (fun r15 h => ?_)
        refine v_iinc (v := (a8.1 + 1 : Int32)) 1 [(1, .int (a8.1 + 1 : Int32)), (0, .ref (lc 0 0))] dX11_clears_69 rfl (by rw [ic_1]) (Nat.le_of_ble_eq_true rfl) rfl ?_
        refine v_goto (tgt := 37) dX11_clears_72 rfl ?_
        refine v_sub [1, 0] rfl ?_
        have h := Ok.ret h
        exact h
  · have h : Ok (fM_clears_L2 a1) _ := h
    unfold fM_clears_L2 at h
    refine v_iload_n 1 dX11_clears_2 rfl ?_
    refine v_bipush dX11_clears_3 kb_40 ?_
    refine v_icmp_ge (tgt := 35) dX11_clears_5 rfl (fun c3 => ?_) (fun c3 => ?_)
    · have h := Ok.pos h c3
      have h := Ok.ret h
      exact h
    · have h := Ok.neg h c3
      refine v_aload_n 0 dX11_clears_8 rfl ?_
      refine gM_29 dX11_clears_9 ?_
      refine v_iload_n 1 dX11_clears_12 rfl ?_
      refine v_iconst dX11_clears_13 ic_0 ?_
      obtain ⟨g4, h⟩ := Ok.guard h
      refine sM_6 zB_0 g4 dX11_clears_14 ?_
      refine v_nmS (fun s5 e_s5 => ?_)
      have h := Ok.nm h e_s5
      refine v_aload_n 0 dX11_clears_15 rfl ?_
      refine gM_48 dX11_clears_16 ?_
      refine v_iload_n 1 dX11_clears_19 rfl ?_
      refine v_iconst dX11_clears_20 ic_0 ?_
      refine sM_12 g4 dX11_clears_21 ?_
      refine v_nmS (fun s6 e_s6 => ?_)
      have h := Ok.nm h e_s6
      refine v_aload_n 0 dX11_clears_22 rfl ?_
      refine gM_57 dX11_clears_23 ?_
      refine v_iload_n 1 dX11_clears_26 rfl ?_
      refine v_lconst dX11_clears_27 kl_0 ?_
      refine sM_15 g4 dX11_clears_28 ?_
      refine v_nmS (fun s7 e_s7 => ?_)
      have h := Ok.nm h e_s7
      refine v_iinc (v := (a1.1 + 1 : Int32)) 1 [(1, .int (a1.1 + 1 : Int32)), (0, .ref (lc 0 0))] dX11_clears_29 rfl (by rw [ic_1]) (Nat.le_of_ble_eq_true rfl) rfl ?_
      refine v_goto (tgt := 2) dX11_clears_32 rfl ?_
      refine v_sub [1, 0] rfl ?_
      have h := Ok.ret h
      exact h
theorem cM_337 {l : Launch} {D : va_G} {dA : Nat → ClassId} {A : Nat → Prop} {lc : Nat → Nat → Nat} {s : tt_St} {cc : ByteArray} {nl : Nat} {rt : Option FieldType} {rm : Room} {tn : tt_Tn} {Q : tt_Fin} {pc : Nat} {lv : List (Nat × Value)} {rest : List Value} {ck cn : Nat} {K : tt_St → Prop} (h : Ok (fM_clears s) K) (hR : 1 + 1 ≤ rm.frames ∧ 8 + (2 + 11) + 22 ≤ rm.locals) (hW : (rest.map fun v => v.category).sum ≤ 8) (d : decode cc pc = .ok (.invokevirtual 337, 3)) (kk : ∀ r, K r → tt_V (XM l D dA A) cc (RX11, nl, rt, rm, tn) Q (pc + 3) lv rest lc r ck cn) (hf : ck ≤ rm.cells ∧ cn ≤ rm.slots := by exact ⟨Nat.zero_le _, Nat.zero_le _⟩) : tt_V (XM l D dA A) cc (RX11, nl, rt, rm, tn) Q pc lv (.ref (lc 0 0) :: rest) lc s ck cn :=
  v_callV (kd := 0) (i := 0) (nA := 0) (As := []) lvM_0 oM rfl (mM_clears l D dA A lc s (Q := (fun v lc' s' => ∃ r, K r ∧ v = none ∧ lc' = lc ∧ s' = r)) (h.mono (fun r hr => ⟨r, hr, rfl, rfl, rfl⟩))) (lw_V q2207 q2209 qs105 q154 q2210) (by decide +kernel) rfl hR hW hf d rfl (fun v lc' s' q => by obtain ⟨r, hr, e1, e2, e3⟩ := q; rw [e1, e2, e3]; exact kk r hr)
def fM_isIn (s : tt_St) (x1 : Int32) (x2 : Int32) : Option (Int32) :=
  if inB x1 40 then if (rdI s 6 0 x1.toNatClampNeg) = 0 then some (0 : Int32) else if (rdI s 8 0 x1.toNatClampNeg) = x2 then some (1 : Int32) else some (0 : Int32) else none
abbrev rM_isIn : Room := { frames := 0, cells := 0, slots := 0, locals := 0 }
set_option maxHeartbeats 4000000 in
theorem mM_isIn (l : Launch) (D : va_G) (dA : Nat → ClassId) (A : Nat → Prop) (lc : Nat → Nat → Nat) (s : tt_St) (x1 : Int32) (x2 : Int32) {Q : Option Value → (Nat → Nat → Nat) → tt_St → Prop} (h : Ok (fM_isIn s x1 x2) (fun r => zB r → Q (some (.int r)) lc s)) : tt_Sp (XM l D dA A) yX11_isIn cX11_isIn 3 (some .boolean) rM_isIn [.ref (lc 0 0), .int x1, .int x2] lc s Q := by
  refine tt_Sp.ofV plM kokM (Nat.le_of_ble_eq_true rfl) ?_
  show tt_V (XM l D dA A) cX11_isIn (RX11, 3, (some .boolean), rM_isIn, tt_nt) (tt_fn (XM l D dA A) (RX11, 3, (some .boolean), rM_isIn, tt_nt) Q) 0 [(0, .ref (lc 0 0)), (1, .int x1), (2, .int x2)] [] lc s 0 0
  unfold fM_isIn at h
  refine v_aload_n 0 dX11_isIn_0 rfl ?_
  refine gM_29 dX11_isIn_1 ?_
  refine v_iload_n 1 dX11_isIn_4 rfl ?_
  obtain ⟨g1, h⟩ := Ok.guard h
  refine lM_6 g1 dX11_isIn_5 ?_
  refine v_if_eq (tgt := 23) dX11_isIn_6 rfl (fun c2 => ?_) (fun c2 => ?_)
  · have h := Ok.pos h c2
    refine v_iconst dX11_isIn_23 ic_0 ?_
    have h := Ok.ret h
    exact v_zret rfl zB_0 (Nat.zero_le _) (Nat.zero_le _) dX11_isIn_24 (h zB_0)
  · have h := Ok.neg h c2
    refine v_aload_n 0 dX11_isIn_9 rfl ?_
    refine gM_36 dX11_isIn_10 ?_
    refine v_iload_n 1 dX11_isIn_13 rfl ?_
    refine lM_8 g1 dX11_isIn_14 ?_
    refine v_iload_n 2 dX11_isIn_15 rfl ?_
    refine v_icmp_ne (tgt := 23) dX11_isIn_16 rfl (fun c3 => ?_) (fun c3 => ?_)
    · have h := Ok.neg h c3
      refine v_iconst dX11_isIn_23 ic_0 ?_
      have h := Ok.ret h
      exact v_zret rfl zB_0 (Nat.zero_le _) (Nat.zero_le _) dX11_isIn_24 (h zB_0)
    · have h := Ok.pos h c3
      refine v_iconst dX11_isIn_19 ic_1 ?_
      refine v_goto (tgt := 24) dX11_isIn_20 rfl ?_
      have h := Ok.ret h
      exact v_zret rfl zB_1 (Nat.zero_le _) (Nat.zero_le _) dX11_isIn_24 (h zB_1)
theorem cM_283 {l : Launch} {D : va_G} {dA : Nat → ClassId} {A : Nat → Prop} {lc : Nat → Nat → Nat} {s : tt_St} {cc : ByteArray} {nl : Nat} {rt : Option FieldType} {rm : Room} {tn : tt_Tn} {Q : tt_Fin} {pc : Nat} {lv : List (Nat × Value)} {rest : List Value} {ck cn : Nat} {x1 : Int32} {x2 : Int32} {K : Int32 → Prop} (h : Ok (fM_isIn s x1 x2) K) (hR : 0 + 1 ≤ rm.frames ∧ 8 + (3 + 11) + 0 ≤ rm.locals) (hW : (rest.map fun v => v.category).sum ≤ 8) (d : decode cc pc = .ok (.invokevirtual 283, 3)) (kk : ∀ r, zB r → K r → tt_V (XM l D dA A) cc (RX11, nl, rt, rm, tn) Q (pc + 3) lv (.int r :: rest) lc s ck cn) (hf : ck ≤ rm.cells ∧ cn ≤ rm.slots := by exact ⟨Nat.zero_le _, Nat.zero_le _⟩) : tt_V (XM l D dA A) cc (RX11, nl, rt, rm, tn) Q pc lv (.int x2 :: .int x1 :: .ref (lc 0 0) :: rest) lc s ck cn :=
  v_callV (kd := 0) (i := 0) (nA := 2) (As := [.int x1, .int x2]) lvM_0 oM rfl (mM_isIn l D dA A lc s x1 x2 (Q := (fun v lc' s' => ∃ r, zB r ∧ K r ∧ v = some (.int r) ∧ lc' = lc ∧ s' = s)) (h.mono (fun r hr => fun hz => ⟨r, hz, hr, rfl, rfl, rfl⟩))) (lw_V q1944 q1946 qs54 q154 q1947) (by decide +kernel) rfl hR hW hf d rfl (fun v lc' s' q => by obtain ⟨r, hz, hr, e1, e2, e3⟩ := q; rw [e1, e2, e3]; exact kk r hz hr)
def fM_top (s : tt_St) (x1 : Int32) : Option (Int32) :=
  if inB x1 40 then some ((rdI s 9 0 x1.toNatClampNeg) + (rdI s 10 0 x1.toNatClampNeg)) else none
abbrev rM_top : Room := { frames := 0, cells := 0, slots := 0, locals := 0 }
set_option maxHeartbeats 4000000 in
theorem mM_top (l : Launch) (D : va_G) (dA : Nat → ClassId) (A : Nat → Prop) (lc : Nat → Nat → Nat) (s : tt_St) (x1 : Int32) {Q : Option Value → (Nat → Nat → Nat) → tt_St → Prop} (h : Ok (fM_top s x1) (fun r => Q (some (.int r)) lc s)) : tt_Sp (XM l D dA A) yX11_top cX11_top 2 (some .int) rM_top [.ref (lc 0 0), .int x1] lc s Q := by
  refine tt_Sp.ofV plM kokM (Nat.le_of_ble_eq_true rfl) ?_
  show tt_V (XM l D dA A) cX11_top (RX11, 2, (some .int), rM_top, tt_nt) (tt_fn (XM l D dA A) (RX11, 2, (some .int), rM_top, tt_nt) Q) 0 [(0, .ref (lc 0 0)), (1, .int x1)] [] lc s 0 0
  unfold fM_top at h
  refine v_aload_n 0 dX11_top_0 rfl ?_
  refine gM_39 dX11_top_1 ?_
  refine v_iload_n 1 dX11_top_4 rfl ?_
  obtain ⟨g1, h⟩ := Ok.guard h
  refine lM_9 g1 dX11_top_5 ?_
  refine v_aload_n 0 dX11_top_6 rfl ?_
  refine gM_42 dX11_top_7 ?_
  refine v_iload_n 1 dX11_top_10 rfl ?_
  refine lM_10 g1 dX11_top_11 ?_
  refine v_iadd dX11_top_12 ?_
  have h := Ok.ret h
  exact v_iret rfl (Nat.zero_le _) (Nat.zero_le _) dX11_top_13 h
theorem cM_165 {l : Launch} {D : va_G} {dA : Nat → ClassId} {A : Nat → Prop} {lc : Nat → Nat → Nat} {s : tt_St} {cc : ByteArray} {nl : Nat} {rt : Option FieldType} {rm : Room} {tn : tt_Tn} {Q : tt_Fin} {pc : Nat} {lv : List (Nat × Value)} {rest : List Value} {ck cn : Nat} {x1 : Int32} {K : Int32 → Prop} (h : Ok (fM_top s x1) K) (hR : 0 + 1 ≤ rm.frames ∧ 8 + (2 + 11) + 0 ≤ rm.locals) (hW : (rest.map fun v => v.category).sum ≤ 8) (d : decode cc pc = .ok (.invokevirtual 165, 3)) (kk : ∀ r, K r → tt_V (XM l D dA A) cc (RX11, nl, rt, rm, tn) Q (pc + 3) lv (.int r :: rest) lc s ck cn) (hf : ck ≤ rm.cells ∧ cn ≤ rm.slots := by exact ⟨Nat.zero_le _, Nat.zero_le _⟩) : tt_V (XM l D dA A) cc (RX11, nl, rt, rm, tn) Q pc lv (.int x1 :: .ref (lc 0 0) :: rest) lc s ck cn :=
  v_callV (kd := 0) (i := 0) (nA := 1) (As := [.int x1]) lvM_0 oM rfl (mM_top l D dA A lc s x1 (Q := (fun v lc' s' => ∃ r, K r ∧ v = some (.int r) ∧ lc' = lc ∧ s' = s)) (h.mono (fun r hr => ⟨r, hr, rfl, rfl, rfl⟩))) (lw_V q1948 q1950 qs55 q154 q1951) (by decide +kernel) rfl hR hW hf d rfl (fun v lc' s' q => by obtain ⟨r, hr, e1, e2, e3⟩ := q; rw [e1, e2, e3]; exact kk r hr)
def fM_left (s : tt_St) (x1 : Int32) : Option (Int64) :=
  if inB x1 40 then some ((((rdI s 10 0 x1.toNatClampNeg).toInt64) * ((rdI s 11 0 x1.toNatClampNeg).toInt64)) - (rdL s 15 0 x1.toNatClampNeg)) else none
abbrev rM_left : Room := { frames := 0, cells := 0, slots := 0, locals := 0 }
set_option maxHeartbeats 4000000 in
theorem mM_left (l : Launch) (D : va_G) (dA : Nat → ClassId) (A : Nat → Prop) (lc : Nat → Nat → Nat) (s : tt_St) (x1 : Int32) {Q : Option Value → (Nat → Nat → Nat) → tt_St → Prop} (h : Ok (fM_left s x1) (fun r => Q (some (.long r)) lc s)) : tt_Sp (XM l D dA A) yX11_left cX11_left 2 (some .long) rM_left [.ref (lc 0 0), .int x1] lc s Q := by
  refine tt_Sp.ofV plM kokM (Nat.le_of_ble_eq_true rfl) ?_
  show tt_V (XM l D dA A) cX11_left (RX11, 2, (some .long), rM_left, tt_nt) (tt_fn (XM l D dA A) (RX11, 2, (some .long), rM_left, tt_nt) Q) 0 [(0, .ref (lc 0 0)), (1, .int x1)] [] lc s 0 0
  unfold fM_left at h
  refine v_aload_n 0 dX11_left_0 rfl ?_
  refine gM_42 dX11_left_1 ?_
  refine v_iload_n 1 dX11_left_4 rfl ?_
  obtain ⟨g1, h⟩ := Ok.guard h
  refine lM_10 g1 dX11_left_5 ?_
  refine v_i2l dX11_left_6 rfl ?_
  refine v_aload_n 0 dX11_left_7 rfl ?_
  refine gM_45 dX11_left_8 ?_
  refine v_iload_n 1 dX11_left_11 rfl ?_
  refine lM_11 g1 dX11_left_12 ?_
  refine v_i2l dX11_left_13 rfl ?_
  refine v_lmul dX11_left_14 ?_
  refine v_aload_n 0 dX11_left_15 rfl ?_
  refine gM_57 dX11_left_16 ?_
  refine v_iload_n 1 dX11_left_19 rfl ?_
  refine lM_15 g1 dX11_left_20 ?_
  refine v_lsub dX11_left_21 ?_
  have h := Ok.ret h
  exact v_lret rfl (Nat.zero_le _) (Nat.zero_le _) dX11_left_22 h
theorem cM_175 {l : Launch} {D : va_G} {dA : Nat → ClassId} {A : Nat → Prop} {lc : Nat → Nat → Nat} {s : tt_St} {cc : ByteArray} {nl : Nat} {rt : Option FieldType} {rm : Room} {tn : tt_Tn} {Q : tt_Fin} {pc : Nat} {lv : List (Nat × Value)} {rest : List Value} {ck cn : Nat} {x1 : Int32} {K : Int64 → Prop} (h : Ok (fM_left s x1) K) (hR : 0 + 1 ≤ rm.frames ∧ 8 + (2 + 11) + 0 ≤ rm.locals) (hW : (rest.map fun v => v.category).sum ≤ 8) (d : decode cc pc = .ok (.invokevirtual 175, 3)) (kk : ∀ r, K r → tt_V (XM l D dA A) cc (RX11, nl, rt, rm, tn) Q (pc + 3) lv (.long r :: rest) lc s ck cn) (hf : ck ≤ rm.cells ∧ cn ≤ rm.slots := by exact ⟨Nat.zero_le _, Nat.zero_le _⟩) : tt_V (XM l D dA A) cc (RX11, nl, rt, rm, tn) Q pc lv (.int x1 :: .ref (lc 0 0) :: rest) lc s ck cn :=
  v_callV (kd := 0) (i := 0) (nA := 1) (As := [.int x1]) lvM_0 oM rfl (mM_left l D dA A lc s x1 (Q := (fun v lc' s' => ∃ r, K r ∧ v = some (.long r) ∧ lc' = lc ∧ s' = s)) (h.mono (fun r hr => ⟨r, hr, rfl, rfl, rfl⟩))) (lw_V q2051 q2053 qs80 q154 q2054) (by decide +kernel) rfl hR hW hf d rfl (fun v lc' s' q => by obtain ⟨r, hr, e1, e2, e3⟩ := q; rw [e1, e2, e3]; exact kk r hr)
def fM_rungOf (s : tt_St) (x1 : Int32) (x2 : Int32) : Option (Int32) :=
  if inB x1 12 then if (rdI s 34 0 x1.toNatClampNeg) ≤ x2 then some (-1 : Int32) else if inB (((6 : Int32) * x1) + x2) 72 then some (rdI s 33 0 (((6 : Int32) * x1) + x2).toNatClampNeg) else none else none
abbrev rM_rungOf : Room := { frames := 0, cells := 0, slots := 0, locals := 0 }
set_option maxHeartbeats 4000000 in
theorem mM_rungOf (l : Launch) (D : va_G) (dA : Nat → ClassId) (A : Nat → Prop) (lc : Nat → Nat → Nat) (s : tt_St) (x1 : Int32) (x2 : Int32) {Q : Option Value → (Nat → Nat → Nat) → tt_St → Prop} (h : Ok (fM_rungOf s x1 x2) (fun r => Q (some (.int r)) lc s)) : tt_Sp (XM l D dA A) yX11_rungOf cX11_rungOf 3 (some .int) rM_rungOf [.ref (lc 0 0), .int x1, .int x2] lc s Q := by
  refine tt_Sp.ofV plM kokM (Nat.le_of_ble_eq_true rfl) ?_
  show tt_V (XM l D dA A) cX11_rungOf (RX11, 3, (some .int), rM_rungOf, tt_nt) (tt_fn (XM l D dA A) (RX11, 3, (some .int), rM_rungOf, tt_nt) Q) 0 [(0, .ref (lc 0 0)), (1, .int x1), (2, .int x2)] [] lc s 0 0
  unfold fM_rungOf at h
  refine v_iload_n 2 dX11_rungOf_0 rfl ?_
  refine v_aload_n 0 dX11_rungOf_1 rfl ?_
  refine gM_103 dX11_rungOf_2 ?_
  refine v_iload_n 1 dX11_rungOf_5 rfl ?_
  obtain ⟨g1, h⟩ := Ok.guard h
  refine lM_34 g1 dX11_rungOf_6 ?_
  refine v_icmp_ge (tgt := 24) dX11_rungOf_7 rfl (fun c2 => ?_) (fun c2 => ?_)
  · have h := Ok.pos h c2
    refine v_iconst dX11_rungOf_24 ic_m1 ?_
    have h := Ok.ret h
    exact v_iret rfl (Nat.zero_le _) (Nat.zero_le _) dX11_rungOf_25 h
  · have h := Ok.neg h c2
    refine v_aload_n 0 dX11_rungOf_10 rfl ?_
    refine gM_100 dX11_rungOf_11 ?_
    refine v_bipush dX11_rungOf_14 kb_6 ?_
    refine v_iload_n 1 dX11_rungOf_16 rfl ?_
    refine v_imul dX11_rungOf_17 ?_
    refine v_iload_n 2 dX11_rungOf_18 rfl ?_
    refine v_iadd dX11_rungOf_19 ?_
    obtain ⟨g3, h⟩ := Ok.guard h
    refine lM_33 g3 dX11_rungOf_20 ?_
    refine v_goto (tgt := 25) dX11_rungOf_21 rfl ?_
    have h := Ok.ret h
    exact v_iret rfl (Nat.zero_le _) (Nat.zero_le _) dX11_rungOf_25 h
theorem cM_161 {l : Launch} {D : va_G} {dA : Nat → ClassId} {A : Nat → Prop} {lc : Nat → Nat → Nat} {s : tt_St} {cc : ByteArray} {nl : Nat} {rt : Option FieldType} {rm : Room} {tn : tt_Tn} {Q : tt_Fin} {pc : Nat} {lv : List (Nat × Value)} {rest : List Value} {ck cn : Nat} {x1 : Int32} {x2 : Int32} {K : Int32 → Prop} (h : Ok (fM_rungOf s x1 x2) K) (hR : 0 + 1 ≤ rm.frames ∧ 8 + (3 + 11) + 0 ≤ rm.locals) (hW : (rest.map fun v => v.category).sum ≤ 8) (d : decode cc pc = .ok (.invokevirtual 161, 3)) (kk : ∀ r, K r → tt_V (XM l D dA A) cc (RX11, nl, rt, rm, tn) Q (pc + 3) lv (.int r :: rest) lc s ck cn) (hf : ck ≤ rm.cells ∧ cn ≤ rm.slots := by exact ⟨Nat.zero_le _, Nat.zero_le _⟩) : tt_V (XM l D dA A) cc (RX11, nl, rt, rm, tn) Q pc lv (.int x2 :: .int x1 :: .ref (lc 0 0) :: rest) lc s ck cn :=
  v_callV (kd := 0) (i := 0) (nA := 2) (As := [.int x1, .int x2]) lvM_0 oM rfl (mM_rungOf l D dA A lc s x1 x2 (Q := (fun v lc' s' => ∃ r, K r ∧ v = some (.int r) ∧ lc' = lc ∧ s' = s)) (h.mono (fun r hr => ⟨r, hr, rfl, rfl, rfl⟩))) (lw_V q1976 q1978 qs62 q154 q1979) (by decide +kernel) rfl hR hW hf d rfl (fun v lc' s' q => by obtain ⟨r, hr, e1, e2, e3⟩ := q; rw [e1, e2, e3]; exact kk r hr)
def fM_layersOf (s : tt_St) (x1 : Int32) : Option (Int32) :=
  if inB x1 12 then some (rdI s 34 0 x1.toNatClampNeg) else none
abbrev rM_layersOf : Room := { frames := 0, cells := 0, slots := 0, locals := 0 }
set_option maxHeartbeats 4000000 in
theorem mM_layersOf (l : Launch) (D : va_G) (dA : Nat → ClassId) (A : Nat → Prop) (lc : Nat → Nat → Nat) (s : tt_St) (x1 : Int32) {Q : Option Value → (Nat → Nat → Nat) → tt_St → Prop} (h : Ok (fM_layersOf s x1) (fun r => Q (some (.int r)) lc s)) : tt_Sp (XM l D dA A) yX11_layersOf cX11_layersOf 2 (some .int) rM_layersOf [.ref (lc 0 0), .int x1] lc s Q := by
  refine tt_Sp.ofV plM kokM (Nat.le_of_ble_eq_true rfl) ?_
  show tt_V (XM l D dA A) cX11_layersOf (RX11, 2, (some .int), rM_layersOf, tt_nt) (tt_fn (XM l D dA A) (RX11, 2, (some .int), rM_layersOf, tt_nt) Q) 0 [(0, .ref (lc 0 0)), (1, .int x1)] [] lc s 0 0
  unfold fM_layersOf at h
  refine v_aload_n 0 dX11_layersOf_0 rfl ?_
  refine gM_103 dX11_layersOf_1 ?_
  refine v_iload_n 1 dX11_layersOf_4 rfl ?_
  obtain ⟨g1, h⟩ := Ok.guard h
  refine lM_34 g1 dX11_layersOf_5 ?_
  have h := Ok.ret h
  exact v_iret rfl (Nat.zero_le _) (Nat.zero_le _) dX11_layersOf_6 h
theorem cM_169 {l : Launch} {D : va_G} {dA : Nat → ClassId} {A : Nat → Prop} {lc : Nat → Nat → Nat} {s : tt_St} {cc : ByteArray} {nl : Nat} {rt : Option FieldType} {rm : Room} {tn : tt_Tn} {Q : tt_Fin} {pc : Nat} {lv : List (Nat × Value)} {rest : List Value} {ck cn : Nat} {x1 : Int32} {K : Int32 → Prop} (h : Ok (fM_layersOf s x1) K) (hR : 0 + 1 ≤ rm.frames ∧ 8 + (2 + 11) + 0 ≤ rm.locals) (hW : (rest.map fun v => v.category).sum ≤ 8) (d : decode cc pc = .ok (.invokevirtual 169, 3)) (kk : ∀ r, K r → tt_V (XM l D dA A) cc (RX11, nl, rt, rm, tn) Q (pc + 3) lv (.int r :: rest) lc s ck cn) (hf : ck ≤ rm.cells ∧ cn ≤ rm.slots := by exact ⟨Nat.zero_le _, Nat.zero_le _⟩) : tt_V (XM l D dA A) cc (RX11, nl, rt, rm, tn) Q pc lv (.int x1 :: .ref (lc 0 0) :: rest) lc s ck cn :=
  v_callV (kd := 0) (i := 0) (nA := 1) (As := [.int x1]) lvM_0 oM rfl (mM_layersOf l D dA A lc s x1 (Q := (fun v lc' s' => ∃ r, K r ∧ v = some (.int r) ∧ lc' = lc ∧ s' = s)) (h.mono (fun r hr => ⟨r, hr, rfl, rfl, rfl⟩))) (lw_V q1940 q1942 qs53 q154 q1943) (by decide +kernel) rfl hR hW hf d rfl (fun v lc' s' q => by obtain ⟨r, hr, e1, e2, e3⟩ := q; rw [e1, e2, e3]; exact kk r hr)
def fM_stacks_L102 (v2 : Int32) (a16 : Int32 × Int32 × tt_St) : Option ((Int32 × Int32 × tt_St) ⊕ (Int32 × Int32 × tt_St)) :=
  if (rdI a16.2.2 34 0 v2.toNatClampNeg) ≤ a16.1 then some (.inr (a16.1, a16.2.1, a16.2.2)) else (fM_rungOf a16.2.2 v2 a16.1).bind fun r19 => (fM_rungOf a16.2.2 v2 a16.1).bind fun r20 => if inB r20 40 then if inB r19 40 then nm (wrI a16.2.2 35 0 r19.toNatClampNeg ((rdI a16.2.2 9 0 r20.toNatClampNeg) - a16.2.1)) fun s23 => (fM_rungOf s23 v2 a16.1).bind fun r24 => (fM_top s23 r24).bind fun r25 => some (.inl ((a16.1 + 1 : Int32), r25, s23)) else none else none
def fM_stacks_L14 (x1 : Int32) (v2 : Int32) (a5 : Int32 × tt_St) : Option ((Int32 × tt_St) ⊕ (Int32 × tt_St)) :=
  if a5.1 ≤ 0 then some (.inr (a5.1, a5.2)) else if inB ((((6 : Int32) * v2) + a5.1) - (1 : Int32)) 72 then if inB (rdI a5.2 33 0 ((((6 : Int32) * v2) + a5.1) - (1 : Int32)).toNatClampNeg) 40 then if (rdI a5.2 9 0 (rdI a5.2 33 0 ((((6 : Int32) * v2) + a5.1) - (1 : Int32)).toNatClampNeg).toNatClampNeg) ≤ (rdI a5.2 9 0 x1.toNatClampNeg) then some (.inr (a5.1, a5.2)) else if inB (((6 : Int32) * v2) + a5.1) 72 then nm (wrI a5.2 33 0 (((6 : Int32) * v2) + a5.1).toNatClampNeg (rdI a5.2 33 0 ((((6 : Int32) * v2) + a5.1) - (1 : Int32)).toNatClampNeg)) fun s12 => some (.inl ((a5.1 + (-1) : Int32), s12)) else none else none else none
def fM_stacks (s : tt_St) (x1 : Int32) : Option (tt_St) :=
  if inB x1 40 then nm (rdI s 8 0 x1.toNatClampNeg) fun v2 => if inB v2 12 then nm (rdI s 34 0 v2.toNatClampNeg) fun v4 => (itr (fM_stacks_L14 x1 v2) tt_fuel (v4, s)).bind fun b6 => if inB (((6 : Int32) * v2) + b6.1) 72 then nm (wrI b6.2 33 0 (((6 : Int32) * v2) + b6.1).toNatClampNeg x1) fun s14 => nm (wrI s14 34 0 v2.toNatClampNeg ((rdI s14 34 0 v2.toNatClampNeg) + (1 : Int32))) fun s15 => (itr (fM_stacks_L102 v2) tt_fuel ((0 : Int32), (0 : Int32), s15)).bind fun b17 => some b17.2.2 else none else none else none
abbrev rM_stacks : Room := { frames := 1, cells := 0, slots := 0, locals := 22 }
set_option maxHeartbeats 4000000 in
theorem mM_stacks (l : Launch) (D : va_G) (dA : Nat → ClassId) (A : Nat → Prop) (lc : Nat → Nat → Nat) (s : tt_St) (x1 : Int32) {Q : Option Value → (Nat → Nat → Nat) → tt_St → Prop} (h : Ok (fM_stacks s x1) (fun r => Q none lc r)) : tt_Sp (XM l D dA A) yX11_stacks cX11_stacks 5 none rM_stacks [.ref (lc 0 0), .int x1] lc s Q := by
  refine tt_Sp.ofV plM kokM (Nat.le_of_ble_eq_true rfl) ?_
  show tt_V (XM l D dA A) cX11_stacks (RX11, 5, none, rM_stacks, tt_nt) (tt_fn (XM l D dA A) (RX11, 5, none, rM_stacks, tt_nt) Q) 0 [(0, .ref (lc 0 0)), (1, .int x1)] [] lc s 0 0
  unfold fM_stacks at h
  refine v_aload_n 0 dX11_stacks_0 rfl ?_
  refine gM_36 dX11_stacks_1 ?_
  refine v_iload_n 1 dX11_stacks_4 rfl ?_
  obtain ⟨g1, h⟩ := Ok.guard h
  refine lM_8 g1 dX11_stacks_5 ?_
  refine v_nmI (fun v2 e_v2 => ?_)
  have h := Ok.nm h e_v2
  refine v_istore_n [(2, .int v2), (0, .ref (lc 0 0)), (1, .int x1)] dX11_stacks_6 (Nat.le_of_ble_eq_true rfl) rfl ?_
  refine v_aload_n 1 dX11_stacks_7 rfl ?_
  refine gM_103 dX11_stacks_8 ?_
  refine v_iload_n 0 dX11_stacks_11 rfl ?_
  obtain ⟨g3, h⟩ := Ok.guard h
  refine lM_34 g3 dX11_stacks_12 ?_
  refine v_nmI (fun v4 e_v4 => ?_)
  have h := Ok.nm h e_v4
  refine v_istore_n [(3, .int v4), (2, .int v2), (0, .ref (lc 0 0)), (1, .int x1)] dX11_stacks_13 (Nat.le_of_ble_eq_true rfl) rfl ?_
  refine v_sub [2, 3, 1, 0] rfl ?_
  refine itr_loop (P := fun a5 : Int32 × tt_St => tt_V (XM l D dA A) cX11_stacks (RX11, 5, none, rM_stacks, tt_nt) (tt_fn (XM l D dA A) (RX11, 5, none, rM_stacks, tt_nt) Q) 14 [(0, .ref (lc 0 0)), (1, .int x1), (2, .int v2), (3, .int a5.1)] [] lc a5.2 0 0) (PE := fun b6 : Int32 × tt_St => tt_V (XM l D dA A) cX11_stacks (RX11, 5, none, rM_stacks, tt_nt) (tt_fn (XM l D dA A) (RX11, 5, none, rM_stacks, tt_nt) Q) 75 [(0, .ref (lc 0 0)), (1, .int x1), (2, .int v2), (3, .int b6.1)] [] lc b6.2 0 0) h (fun b6 h => ?_) (fun a5 h => ?_)
  · refine v_aload_n 0 dX11_stacks_75 rfl ?_
    refine gM_100 dX11_stacks_76 ?_
    refine v_bipush dX11_stacks_79 kb_6 ?_
    refine v_iload_n 2 dX11_stacks_81 rfl ?_
    refine v_imul dX11_stacks_82 ?_
    refine v_iload_n 3 dX11_stacks_83 rfl ?_
    refine v_iadd dX11_stacks_84 ?_
    refine v_iload_n 1 dX11_stacks_85 rfl ?_
    obtain ⟨g13, h⟩ := Ok.guard h
    refine sM_33 g13 dX11_stacks_86 ?_
    refine v_nmS (fun s14 e_s14 => ?_)
    have h := Ok.nm h e_s14
    refine v_aload_n 0 dX11_stacks_87 rfl ?_
    refine gM_103 dX11_stacks_88 ?_
    refine v_iload_n 2 dX11_stacks_91 rfl ?_
    refine v_dup2_11 dX11_stacks_92 rfl rfl ?_
    refine lM_34 g3 dX11_stacks_93 ?_
    refine v_iconst dX11_stacks_94 ic_1 ?_
    refine v_iadd dX11_stacks_95 ?_
    refine sM_34 g3 dX11_stacks_96 ?_
    refine v_nmS (fun s15 e_s15 => ?_)
    have h := Ok.nm h e_s15
    refine v_iconst dX11_stacks_97 ic_0 ?_
    refine v_istore [(4, .int (0 : Int32)), (0, .ref (lc 0 0)), (1, .int x1), (2, .int v2), (3, .int b6.1)] dX11_stacks_98 (Nat.le_of_ble_eq_true rfl) rfl ?_
    refine v_iconst dX11_stacks_100 ic_0 ?_
    refine v_istore_n [(3, .int (0 : Int32)), (4, .int (0 : Int32)), (0, .ref (lc 0 0)), (1, .int x1), (2, .int v2)] dX11_stacks_101 (Nat.le_of_ble_eq_true rfl) rfl ?_
    refine v_sub [2, 4, 0, 1] rfl ?_
    refine itr_loop (P := fun a16 : Int32 × Int32 × tt_St => tt_V (XM l D dA A) cX11_stacks (RX11, 5, none, rM_stacks, tt_nt) (tt_fn (XM l D dA A) (RX11, 5, none, rM_stacks, tt_nt) Q) 102 [(0, .ref (lc 0 0)), (2, .int v2), (3, .int a16.1), (4, .int a16.2.1)] [] lc a16.2.2 0 0) (PE := fun b17 : Int32 × Int32 × tt_St => tt_V (XM l D dA A) cX11_stacks (RX11, 5, none, rM_stacks, tt_nt) (tt_fn (XM l D dA A) (RX11, 5, none, rM_stacks, tt_nt) Q) 155 [(0, .ref (lc 0 0)), (2, .int v2), (3, .int b17.1), (4, .int b17.2.1)] [] lc b17.2.2 0 0) h (fun b17 h => ?_) (fun a16 h => ?_)
    · have h := Ok.ret h
      exact v_vret rfl (Nat.zero_le _) (Nat.zero_le _) dX11_stacks_155 h
    · have h : Ok (fM_stacks_L102 v2 a16) _ := h
      unfold fM_stacks_L102 at h
      refine v_iload_n 2 dX11_stacks_102 rfl ?_
      refine v_aload_n 0 dX11_stacks_103 rfl ?_
      refine gM_103 dX11_stacks_104 ?_
      refine v_iload_n 1 dX11_stacks_107 rfl ?_
      refine lM_34 g3 dX11_stacks_108 ?_
      refine v_icmp_ge (tgt := 155) dX11_stacks_109 rfl (fun c18 => ?_) (fun c18 => ?_)
      · have h := Ok.pos h c18
        have h := Ok.ret h
        exact h
      · have h := Ok.neg h c18
        refine v_aload_n 0 dX11_stacks_112 rfl ?_
        refine gM_106 dX11_stacks_113 ?_
        refine v_aload_n 0 dX11_stacks_116 rfl ?_
        refine v_iload_n 1 dX11_stacks_117 rfl ?_
        refine v_iload_n 2 dX11_stacks_118 rfl ?_
        refine cM_161 (Ok.bind h) ⟨Nat.le_of_ble_eq_true rfl, Nat.le_of_ble_eq_true rfl⟩ (Nat.le_of_ble_eq_true rfl) dX11_stacks_119 (fun r19 h => ?_)
        refine v_aload_n 0 dX11_stacks_122 rfl ?_
        refine gM_39 dX11_stacks_123 ?_
        refine v_aload_n 0 dX11_stacks_126 rfl ?_
        refine v_iload_n 1 dX11_stacks_127 rfl ?_
        refine v_iload_n 2 dX11_stacks_128 rfl ?_
        refine cM_161 (Ok.bind h) ⟨Nat.le_of_ble_eq_true rfl, Nat.le_of_ble_eq_true rfl⟩ (Nat.le_of_ble_eq_true rfl) dX11_stacks_129 (fun r20 h => ?_)
        obtain ⟨g21, h⟩ := Ok.guard h
        refine lM_9 g21 dX11_stacks_132 ?_
        refine v_iload 3 dX11_stacks_133 rfl ?_
        refine v_isub dX11_stacks_135 ?_
        obtain ⟨g22, h⟩ := Ok.guard h
        refine sM_35 g22 dX11_stacks_136 ?_
        refine v_nmS (fun s23 e_s23 => ?_)
        have h := Ok.nm h e_s23
        refine v_aload_n 0 dX11_stacks_137 rfl ?_
        refine v_aload_n 0 dX11_stacks_138 rfl ?_
        refine v_iload_n 1 dX11_stacks_139 rfl ?_
        refine v_iload_n 2 dX11_stacks_140 rfl ?_
        refine cM_161 (Ok.bind h) ⟨Nat.le_of_ble_eq_true rfl, Nat.le_of_ble_eq_true rfl⟩ (Nat.le_of_ble_eq_true rfl) dX11_stacks_141 (fun r24 h => ?_)
        refine cM_165 (Ok.bind h) ⟨Nat.le_of_ble_eq_true rfl, Nat.le_of_ble_eq_true rfl⟩ (Nat.le_of_ble_eq_true rfl) dX11_stacks_144 (fun r25 h => ?_)
        refine v_istore [(4, .int r25), (0, .ref (lc 0 0)), (2, .int v2), (3, .int a16.1)] dX11_stacks_147 (Nat.le_of_ble_eq_true rfl) rfl ?_
        refine v_iinc (v := (a16.1 + 1 : Int32)) 3 [(3, .int (a16.1 + 1 : Int32)), (4, .int r25), (0, .ref (lc 0 0)), (2, .int v2)] dX11_stacks_149 rfl (by rw [ic_1]) (Nat.le_of_ble_eq_true rfl) rfl ?_
        refine v_goto (tgt := 102) dX11_stacks_152 rfl ?_
        refine v_sub [2, 3, 0, 1] rfl ?_
        have h := Ok.ret h
        exact h
  · have h : Ok (fM_stacks_L14 x1 v2 a5) _ := h
    unfold fM_stacks_L14 at h
    refine v_iload_n 3 dX11_stacks_14 rfl ?_
    refine v_if_le (tgt := 75) dX11_stacks_15 rfl (fun c7 => ?_) (fun c7 => ?_)
    · have h := Ok.pos h c7
      have h := Ok.ret h
      exact h
    · have h := Ok.neg h c7
      refine v_aload_n 0 dX11_stacks_18 rfl ?_
      refine gM_39 dX11_stacks_19 ?_
      refine v_aload_n 0 dX11_stacks_22 rfl ?_
      refine gM_100 dX11_stacks_23 ?_
      refine v_bipush dX11_stacks_26 kb_6 ?_
      refine v_iload_n 2 dX11_stacks_28 rfl ?_
      refine v_imul dX11_stacks_29 ?_
      refine v_iload_n 3 dX11_stacks_30 rfl ?_
      refine v_iadd dX11_stacks_31 ?_
      refine v_iconst dX11_stacks_32 ic_1 ?_
      refine v_isub dX11_stacks_33 ?_
      obtain ⟨g8, h⟩ := Ok.guard h
      refine lM_33 g8 dX11_stacks_34 ?_
      obtain ⟨g9, h⟩ := Ok.guard h
      refine lM_9 g9 dX11_stacks_35 ?_
      refine v_aload_n 0 dX11_stacks_36 rfl ?_
      refine gM_39 dX11_stacks_37 ?_
      refine v_iload_n 1 dX11_stacks_40 rfl ?_
      refine lM_9 g1 dX11_stacks_41 ?_
      refine v_icmp_le (tgt := 75) dX11_stacks_42 rfl (fun c10 => ?_) (fun c10 => ?_)
      · have h := Ok.pos h c10
        have h := Ok.ret h
        exact h
      · have h := Ok.neg h c10
        refine v_aload_n 0 dX11_stacks_45 rfl ?_
        refine gM_100 dX11_stacks_46 ?_
        refine v_bipush dX11_stacks_49 kb_6 ?_
        refine v_iload_n 2 dX11_stacks_51 rfl ?_
        refine v_imul dX11_stacks_52 ?_
        refine v_iload_n 3 dX11_stacks_53 rfl ?_
        refine v_iadd dX11_stacks_54 ?_
        refine v_aload_n 0 dX11_stacks_55 rfl ?_
        refine gM_100 dX11_stacks_56 ?_
        refine v_bipush dX11_stacks_59 kb_6 ?_
        refine v_iload_n 2 dX11_stacks_61 rfl ?_
        refine v_imul dX11_stacks_62 ?_
        refine v_iload_n 3 dX11_stacks_63 rfl ?_
        refine v_iadd dX11_stacks_64 ?_
        refine v_iconst dX11_stacks_65 ic_1 ?_
        refine v_isub dX11_stacks_66 ?_
        refine lM_33 g8 dX11_stacks_67 ?_
        obtain ⟨g11, h⟩ := Ok.guard h
        refine sM_33 g11 dX11_stacks_68 ?_
        refine v_nmS (fun s12 e_s12 => ?_)
        have h := Ok.nm h e_s12
        refine v_iinc (v := (a5.1 + (-1) : Int32)) 3 [(3, .int (a5.1 + (-1) : Int32)), (0, .ref (lc 0 0)), (1, .int x1), (2, .int v2)] dX11_stacks_69 rfl (by rw [ic_m1]) (Nat.le_of_ble_eq_true rfl) rfl ?_
        refine v_goto (tgt := 14) dX11_stacks_72 rfl ?_
        refine v_sub [1, 2, 3, 0] rfl ?_
        have h := Ok.ret h
        exact h
theorem cM_322 {l : Launch} {D : va_G} {dA : Nat → ClassId} {A : Nat → Prop} {lc : Nat → Nat → Nat} {s : tt_St} {cc : ByteArray} {nl : Nat} {rt : Option FieldType} {rm : Room} {tn : tt_Tn} {Q : tt_Fin} {pc : Nat} {lv : List (Nat × Value)} {rest : List Value} {ck cn : Nat} {x1 : Int32} {K : tt_St → Prop} (h : Ok (fM_stacks s x1) K) (hR : 1 + 1 ≤ rm.frames ∧ 8 + (5 + 11) + 22 ≤ rm.locals) (hW : (rest.map fun v => v.category).sum ≤ 8) (d : decode cc pc = .ok (.invokevirtual 322, 3)) (kk : ∀ r, K r → tt_V (XM l D dA A) cc (RX11, nl, rt, rm, tn) Q (pc + 3) lv rest lc r ck cn) (hf : ck ≤ rm.cells ∧ cn ≤ rm.slots := by exact ⟨Nat.zero_le _, Nat.zero_le _⟩) : tt_V (XM l D dA A) cc (RX11, nl, rt, rm, tn) Q pc lv (.int x1 :: .ref (lc 0 0) :: rest) lc s ck cn :=
  v_callV (kd := 0) (i := 0) (nA := 1) (As := [.int x1]) lvM_0 oM rfl (mM_stacks l D dA A lc s x1 (Q := (fun v lc' s' => ∃ r, K r ∧ v = none ∧ lc' = lc ∧ s' = r)) (h.mono (fun r hr => ⟨r, hr, rfl, rfl, rfl⟩))) (lw_V q1972 q1974 qs61 q154 q1975) (by decide +kernel) rfl hR hW hf d rfl (fun v lc' s' q => by obtain ⟨r, hr, e1, e2, e3⟩ := q; rw [e1, e2, e3]; exact kk r hr)
def fM_isGap (s : tt_St) (x1 : Int32) : Option (Int32) :=
  (fM_layersOf s x1).bind fun r1 => if r1 = 0 then some (1 : Int32) else some (0 : Int32)
abbrev rM_isGap : Room := { frames := 1, cells := 0, slots := 0, locals := 21 }
set_option maxHeartbeats 4000000 in
theorem mM_isGap (l : Launch) (D : va_G) (dA : Nat → ClassId) (A : Nat → Prop) (lc : Nat → Nat → Nat) (s : tt_St) (x1 : Int32) {Q : Option Value → (Nat → Nat → Nat) → tt_St → Prop} (h : Ok (fM_isGap s x1) (fun r => zB r → Q (some (.int r)) lc s)) : tt_Sp (XM l D dA A) yX11_isGap cX11_isGap 2 (some .boolean) rM_isGap [.ref (lc 0 0), .int x1] lc s Q := by
  refine tt_Sp.ofV plM kokM (Nat.le_of_ble_eq_true rfl) ?_
  show tt_V (XM l D dA A) cX11_isGap (RX11, 2, (some .boolean), rM_isGap, tt_nt) (tt_fn (XM l D dA A) (RX11, 2, (some .boolean), rM_isGap, tt_nt) Q) 0 [(0, .ref (lc 0 0)), (1, .int x1)] [] lc s 0 0
  unfold fM_isGap at h
  refine v_aload_n 0 dX11_isGap_0 rfl ?_
  refine v_iload_n 1 dX11_isGap_1 rfl ?_
  refine cM_169 (Ok.bind h) ⟨Nat.le_of_ble_eq_true rfl, Nat.le_of_ble_eq_true rfl⟩ (Nat.le_of_ble_eq_true rfl) dX11_isGap_2 (fun r1 h => ?_)
  refine v_if_ne (tgt := 12) dX11_isGap_5 rfl (fun c2 => ?_) (fun c2 => ?_)
  · have h := Ok.neg h c2
    refine v_iconst dX11_isGap_12 ic_0 ?_
    have h := Ok.ret h
    exact v_zret rfl zB_0 (Nat.zero_le _) (Nat.zero_le _) dX11_isGap_13 (h zB_0)
  · have h := Ok.pos h c2
    refine v_iconst dX11_isGap_8 ic_1 ?_
    refine v_goto (tgt := 13) dX11_isGap_9 rfl ?_
    have h := Ok.ret h
    exact v_zret rfl zB_1 (Nat.zero_le _) (Nat.zero_le _) dX11_isGap_13 (h zB_1)
theorem cM_205 {l : Launch} {D : va_G} {dA : Nat → ClassId} {A : Nat → Prop} {lc : Nat → Nat → Nat} {s : tt_St} {cc : ByteArray} {nl : Nat} {rt : Option FieldType} {rm : Room} {tn : tt_Tn} {Q : tt_Fin} {pc : Nat} {lv : List (Nat × Value)} {rest : List Value} {ck cn : Nat} {x1 : Int32} {K : Int32 → Prop} (h : Ok (fM_isGap s x1) K) (hR : 1 + 1 ≤ rm.frames ∧ 8 + (2 + 11) + 21 ≤ rm.locals) (hW : (rest.map fun v => v.category).sum ≤ 8) (d : decode cc pc = .ok (.invokevirtual 205, 3)) (kk : ∀ r, zB r → K r → tt_V (XM l D dA A) cc (RX11, nl, rt, rm, tn) Q (pc + 3) lv (.int r :: rest) lc s ck cn) (hf : ck ≤ rm.cells ∧ cn ≤ rm.slots := by exact ⟨Nat.zero_le _, Nat.zero_le _⟩) : tt_V (XM l D dA A) cc (RX11, nl, rt, rm, tn) Q pc lv (.int x1 :: .ref (lc 0 0) :: rest) lc s ck cn :=
  v_callV (kd := 0) (i := 0) (nA := 1) (As := [.int x1]) lvM_0 oM rfl (mM_isGap l D dA A lc s x1 (Q := (fun v lc' s' => ∃ r, zB r ∧ K r ∧ v = some (.int r) ∧ lc' = lc ∧ s' = s)) (h.mono (fun r hr => fun hz => ⟨r, hz, hr, rfl, rfl, rfl⟩))) (lw_V q2028 q2030 qs75 q154 q2031) (by decide +kernel) rfl hR hW hf d rfl (fun v lc' s' q => by obtain ⟨r, hz, hr, e1, e2, e3⟩ := q; rw [e1, e2, e3]; exact kk r hz hr)
def fM_holeOf (s : tt_St) (x1 : Int32) : Option (Int32) :=
  if inB x1 40 then some (rdI s 35 0 x1.toNatClampNeg) else none
abbrev rM_holeOf : Room := { frames := 0, cells := 0, slots := 0, locals := 0 }
set_option maxHeartbeats 4000000 in
theorem mM_holeOf (l : Launch) (D : va_G) (dA : Nat → ClassId) (A : Nat → Prop) (lc : Nat → Nat → Nat) (s : tt_St) (x1 : Int32) {Q : Option Value → (Nat → Nat → Nat) → tt_St → Prop} (h : Ok (fM_holeOf s x1) (fun r => Q (some (.int r)) lc s)) : tt_Sp (XM l D dA A) yX11_holeOf cX11_holeOf 2 (some .int) rM_holeOf [.ref (lc 0 0), .int x1] lc s Q := by
  refine tt_Sp.ofV plM kokM (Nat.le_of_ble_eq_true rfl) ?_
  show tt_V (XM l D dA A) cX11_holeOf (RX11, 2, (some .int), rM_holeOf, tt_nt) (tt_fn (XM l D dA A) (RX11, 2, (some .int), rM_holeOf, tt_nt) Q) 0 [(0, .ref (lc 0 0)), (1, .int x1)] [] lc s 0 0
  unfold fM_holeOf at h
  refine v_aload_n 0 dX11_holeOf_0 rfl ?_
  refine gM_106 dX11_holeOf_1 ?_
  refine v_iload_n 1 dX11_holeOf_4 rfl ?_
  obtain ⟨g1, h⟩ := Ok.guard h
  refine lM_35 g1 dX11_holeOf_5 ?_
  have h := Ok.ret h
  exact v_iret rfl (Nat.zero_le _) (Nat.zero_le _) dX11_holeOf_6 h
theorem cM_172 {l : Launch} {D : va_G} {dA : Nat → ClassId} {A : Nat → Prop} {lc : Nat → Nat → Nat} {s : tt_St} {cc : ByteArray} {nl : Nat} {rt : Option FieldType} {rm : Room} {tn : tt_Tn} {Q : tt_Fin} {pc : Nat} {lv : List (Nat × Value)} {rest : List Value} {ck cn : Nat} {x1 : Int32} {K : Int32 → Prop} (h : Ok (fM_holeOf s x1) K) (hR : 0 + 1 ≤ rm.frames ∧ 8 + (2 + 11) + 0 ≤ rm.locals) (hW : (rest.map fun v => v.category).sum ≤ 8) (d : decode cc pc = .ok (.invokevirtual 172, 3)) (kk : ∀ r, K r → tt_V (XM l D dA A) cc (RX11, nl, rt, rm, tn) Q (pc + 3) lv (.int r :: rest) lc s ck cn) (hf : ck ≤ rm.cells ∧ cn ≤ rm.slots := by exact ⟨Nat.zero_le _, Nat.zero_le _⟩) : tt_V (XM l D dA A) cc (RX11, nl, rt, rm, tn) Q pc lv (.int x1 :: .ref (lc 0 0) :: rest) lc s ck cn :=
  v_callV (kd := 0) (i := 0) (nA := 1) (As := [.int x1]) lvM_0 oM rfl (mM_holeOf l D dA A lc s x1 (Q := (fun v lc' s' => ∃ r, K r ∧ v = some (.int r) ∧ lc' = lc ∧ s' = s)) (h.mono (fun r hr => ⟨r, hr, rfl, rfl, rfl⟩))) (lw_V q2040 q2042 qs78 q154 q2043) (by decide +kernel) rfl hR hW hf d rfl (fun v lc' s' q => by obtain ⟨r, hr, e1, e2, e3⟩ := q; rw [e1, e2, e3]; exact kk r hr)
def fM_holeLeft (s : tt_St) (x1 : Int32) (x2 : Int32) : Option (Int64) :=
  (fM_holeOf s x2).bind fun r1 => if inB (((40 : Int32) * x1) + x2) 1000 then nm (r1.toInt64 - (rdL s 22 0 (((40 : Int32) * x1) + x2).toNatClampNeg)) fun v3 => if v3 ≤ (0 : Int64) then some (0 : Int64) else some v3 else none
abbrev rM_holeLeft : Room := { frames := 1, cells := 0, slots := 0, locals := 21 }
set_option maxHeartbeats 4000000 in
theorem mM_holeLeft (l : Launch) (D : va_G) (dA : Nat → ClassId) (A : Nat → Prop) (lc : Nat → Nat → Nat) (s : tt_St) (x1 : Int32) (x2 : Int32) {Q : Option Value → (Nat → Nat → Nat) → tt_St → Prop} (h : Ok (fM_holeLeft s x1 x2) (fun r => Q (some (.long r)) lc s)) : tt_Sp (XM l D dA A) yX11_holeLeft cX11_holeLeft 5 (some .long) rM_holeLeft [.ref (lc 0 0), .int x1, .int x2] lc s Q := by
  refine tt_Sp.ofV plM kokM (Nat.le_of_ble_eq_true rfl) ?_
  show tt_V (XM l D dA A) cX11_holeLeft (RX11, 5, (some .long), rM_holeLeft, tt_nt) (tt_fn (XM l D dA A) (RX11, 5, (some .long), rM_holeLeft, tt_nt) Q) 0 [(0, .ref (lc 0 0)), (1, .int x1), (2, .int x2)] [] lc s 0 0
  unfold fM_holeLeft at h
  refine v_aload_n 0 dX11_holeLeft_0 rfl ?_
  refine v_iload_n 2 dX11_holeLeft_1 rfl ?_
  refine cM_172 (Ok.bind h) ⟨Nat.le_of_ble_eq_true rfl, Nat.le_of_ble_eq_true rfl⟩ (Nat.le_of_ble_eq_true rfl) dX11_holeLeft_2 (fun r1 h => ?_)
  refine v_i2l dX11_holeLeft_5 rfl ?_
  refine v_aload_n 0 dX11_holeLeft_6 rfl ?_
  refine gM_79 dX11_holeLeft_7 ?_
  refine v_bipush dX11_holeLeft_10 kb_40 ?_
  refine v_iload_n 1 dX11_holeLeft_12 rfl ?_
  refine v_imul dX11_holeLeft_13 ?_
  refine v_iload_n 2 dX11_holeLeft_14 rfl ?_
  refine v_iadd dX11_holeLeft_15 ?_
  obtain ⟨g2, h⟩ := Ok.guard h
  refine lM_22 g2 dX11_holeLeft_16 ?_
  refine v_lsub dX11_holeLeft_17 ?_
  refine v_nmL (fun v3 e_v3 => ?_)
  have h := Ok.nm h e_v3
  refine v_lstore_n [(3, .long v3), (0, .ref (lc 0 0)), (1, .int x1), (2, .int x2)] dX11_holeLeft_18 (Nat.le_of_ble_eq_true rfl) rfl ?_
  refine v_lload_n 0 dX11_holeLeft_19 rfl ?_
  refine v_lconst dX11_holeLeft_20 kl_0 ?_
  refine v_lif_le (tgt := 29) dX11_holeLeft_21 dX11_holeLeft_22 rfl (fun c4 => ?_) (fun c4 => ?_)
  · have h := Ok.pos h c4
    refine v_lconst dX11_holeLeft_29 kl_0 ?_
    have h := Ok.ret h
    exact v_lret rfl (Nat.zero_le _) (Nat.zero_le _) dX11_holeLeft_30 h
  · have h := Ok.neg h c4
    refine v_lload_n 0 dX11_holeLeft_25 rfl ?_
    refine v_goto (tgt := 30) dX11_holeLeft_26 rfl ?_
    have h := Ok.ret h
    exact v_lret rfl (Nat.zero_le _) (Nat.zero_le _) dX11_holeLeft_30 h
theorem cM_187 {l : Launch} {D : va_G} {dA : Nat → ClassId} {A : Nat → Prop} {lc : Nat → Nat → Nat} {s : tt_St} {cc : ByteArray} {nl : Nat} {rt : Option FieldType} {rm : Room} {tn : tt_Tn} {Q : tt_Fin} {pc : Nat} {lv : List (Nat × Value)} {rest : List Value} {ck cn : Nat} {x1 : Int32} {x2 : Int32} {K : Int64 → Prop} (h : Ok (fM_holeLeft s x1 x2) K) (hR : 1 + 1 ≤ rm.frames ∧ 8 + (5 + 11) + 21 ≤ rm.locals) (hW : (rest.map fun v => v.category).sum ≤ 8) (d : decode cc pc = .ok (.invokevirtual 187, 3)) (kk : ∀ r, K r → tt_V (XM l D dA A) cc (RX11, nl, rt, rm, tn) Q (pc + 3) lv (.long r :: rest) lc s ck cn) (hf : ck ≤ rm.cells ∧ cn ≤ rm.slots := by exact ⟨Nat.zero_le _, Nat.zero_le _⟩) : tt_V (XM l D dA A) cc (RX11, nl, rt, rm, tn) Q pc lv (.int x2 :: .int x1 :: .ref (lc 0 0) :: rest) lc s ck cn :=
  v_callV (kd := 0) (i := 0) (nA := 2) (As := [.int x1, .int x2]) lvM_0 oM rfl (mM_holeLeft l D dA A lc s x1 x2 (Q := (fun v lc' s' => ∃ r, K r ∧ v = some (.long r) ∧ lc' = lc ∧ s' = s)) (h.mono (fun r hr => ⟨r, hr, rfl, rfl, rfl⟩))) (lw_V q2036 q2038 qs77 q154 q2039) (by decide +kernel) rfl hR hW hf d rfl (fun v lc' s' q => by obtain ⟨r, hr, e1, e2, e3⟩ := q; rw [e1, e2, e3]; exact kk r hr)
def fM_canTake (s : tt_St) (x1 : Int32) (x2 : Int32) : Option (Int64) :=
  if inB x2 40 then if inB (((40 : Int32) * x1) + x2) 1000 then (fM_left s x2).bind fun r3 => (fM_least (((rdI s 10 0 x2.toNatClampNeg).toInt64) - (rdL s 21 0 (((40 : Int32) * x1) + x2).toNatClampNeg)) r3).bind fun r4 => some r4 else none else none
abbrev rM_canTake : Room := { frames := 1, cells := 0, slots := 0, locals := 23 }
set_option maxHeartbeats 4000000 in
theorem mM_canTake (l : Launch) (D : va_G) (dA : Nat → ClassId) (A : Nat → Prop) (lc : Nat → Nat → Nat) (s : tt_St) (x1 : Int32) (x2 : Int32) {Q : Option Value → (Nat → Nat → Nat) → tt_St → Prop} (h : Ok (fM_canTake s x1 x2) (fun r => Q (some (.long r)) lc s)) : tt_Sp (XM l D dA A) yX11_canTake cX11_canTake 3 (some .long) rM_canTake [.ref (lc 0 0), .int x1, .int x2] lc s Q := by
  refine tt_Sp.ofV plM kokM (Nat.le_of_ble_eq_true rfl) ?_
  show tt_V (XM l D dA A) cX11_canTake (RX11, 3, (some .long), rM_canTake, tt_nt) (tt_fn (XM l D dA A) (RX11, 3, (some .long), rM_canTake, tt_nt) Q) 0 [(0, .ref (lc 0 0)), (1, .int x1), (2, .int x2)] [] lc s 0 0
  unfold fM_canTake at h
  refine v_aload_n 0 dX11_canTake_0 rfl ?_
  refine gM_42 dX11_canTake_1 ?_
  refine v_iload_n 2 dX11_canTake_4 rfl ?_
  obtain ⟨g1, h⟩ := Ok.guard h
  refine lM_10 g1 dX11_canTake_5 ?_
  refine v_i2l dX11_canTake_6 rfl ?_
  refine v_aload_n 0 dX11_canTake_7 rfl ?_
  refine gM_76 dX11_canTake_8 ?_
  refine v_bipush dX11_canTake_11 kb_40 ?_
  refine v_iload_n 1 dX11_canTake_13 rfl ?_
  refine v_imul dX11_canTake_14 ?_
  refine v_iload_n 2 dX11_canTake_15 rfl ?_
  refine v_iadd dX11_canTake_16 ?_
  obtain ⟨g2, h⟩ := Ok.guard h
  refine lM_21 g2 dX11_canTake_17 ?_
  refine v_lsub dX11_canTake_18 ?_
  refine v_aload_n 0 dX11_canTake_19 rfl ?_
  refine v_iload_n 2 dX11_canTake_20 rfl ?_
  refine cM_175 (Ok.bind h) ⟨Nat.le_of_ble_eq_true rfl, Nat.le_of_ble_eq_true rfl⟩ (Nat.le_of_ble_eq_true rfl) dX11_canTake_21 (fun r3 h => ?_)
  refine cM_179 (Ok.bind h) ⟨Nat.le_of_ble_eq_true rfl, Nat.le_of_ble_eq_true rfl⟩ (Nat.le_of_ble_eq_true rfl) dX11_canTake_24 (fun r4 h => ?_)
  have h := Ok.ret h
  exact v_lret rfl (Nat.zero_le _) (Nat.zero_le _) dX11_canTake_27 h
theorem cM_183 {l : Launch} {D : va_G} {dA : Nat → ClassId} {A : Nat → Prop} {lc : Nat → Nat → Nat} {s : tt_St} {cc : ByteArray} {nl : Nat} {rt : Option FieldType} {rm : Room} {tn : tt_Tn} {Q : tt_Fin} {pc : Nat} {lv : List (Nat × Value)} {rest : List Value} {ck cn : Nat} {x1 : Int32} {x2 : Int32} {K : Int64 → Prop} (h : Ok (fM_canTake s x1 x2) K) (hR : 1 + 1 ≤ rm.frames ∧ 8 + (3 + 11) + 23 ≤ rm.locals) (hW : (rest.map fun v => v.category).sum ≤ 8) (d : decode cc pc = .ok (.invokevirtual 183, 3)) (kk : ∀ r, K r → tt_V (XM l D dA A) cc (RX11, nl, rt, rm, tn) Q (pc + 3) lv (.long r :: rest) lc s ck cn) (hf : ck ≤ rm.cells ∧ cn ≤ rm.slots := by exact ⟨Nat.zero_le _, Nat.zero_le _⟩) : tt_V (XM l D dA A) cc (RX11, nl, rt, rm, tn) Q pc lv (.int x2 :: .int x1 :: .ref (lc 0 0) :: rest) lc s ck cn :=
  v_callV (kd := 0) (i := 0) (nA := 2) (As := [.int x1, .int x2]) lvM_0 oM rfl (mM_canTake l D dA A lc s x1 x2 (Q := (fun v lc' s' => ∃ r, K r ∧ v = some (.long r) ∧ lc' = lc ∧ s' = s)) (h.mono (fun r hr => ⟨r, hr, rfl, rfl, rfl⟩))) (lw_V q2047 q2049 qs79 q154 q2050) (by decide +kernel) rfl hR hW hf d rfl (fun v lc' s' q => by obtain ⟨r, hr, e1, e2, e3⟩ := q; rw [e1, e2, e3]; exact kk r hr)
def fM_roomOf_L5 (s : tt_St) (x1 : Int32) (x2 : Int32) (a1 : Int64 × Int32) : Option ((Int64 × Int32) ⊕ (Int64 × Int32)) :=
  (fM_layersOf s x2).bind fun r3 => if r3 ≤ a1.2 then some (.inr (a1.1, a1.2)) else (fM_rungOf s x2 a1.2).bind fun r5 => (fM_canTake s x1 r5).bind fun r6 => (fM_rungOf s x2 a1.2).bind fun r7 => (fM_holeLeft s x1 r7).bind fun r8 => nm (a1.1 + (r6 + r8)) fun v9 => some (.inl (v9, (a1.2 + 1 : Int32)))
def fM_roomOf (s : tt_St) (x1 : Int32) (x2 : Int32) : Option (Int64) :=
  (itr (fM_roomOf_L5 s x1 x2) tt_fuel ((0 : Int64), (0 : Int32))).bind fun b2 => some b2.1
abbrev rM_roomOf : Room := { frames := 2, cells := 0, slots := 0, locals := 45 }
set_option maxHeartbeats 4000000 in
theorem mM_roomOf (l : Launch) (D : va_G) (dA : Nat → ClassId) (A : Nat → Prop) (lc : Nat → Nat → Nat) (s : tt_St) (x1 : Int32) (x2 : Int32) {Q : Option Value → (Nat → Nat → Nat) → tt_St → Prop} (h : Ok (fM_roomOf s x1 x2) (fun r => Q (some (.long r)) lc s)) : tt_Sp (XM l D dA A) yX11_roomOf cX11_roomOf 6 (some .long) rM_roomOf [.ref (lc 0 0), .int x1, .int x2] lc s Q := by
  refine tt_Sp.ofV plM kokM (Nat.le_of_ble_eq_true rfl) ?_
  show tt_V (XM l D dA A) cX11_roomOf (RX11, 6, (some .long), rM_roomOf, tt_nt) (tt_fn (XM l D dA A) (RX11, 6, (some .long), rM_roomOf, tt_nt) Q) 0 [(0, .ref (lc 0 0)), (1, .int x1), (2, .int x2)] [] lc s 0 0
  unfold fM_roomOf at h
  refine v_lconst dX11_roomOf_0 kl_0 ?_
  refine v_lstore_n [(3, .long (0 : Int64)), (0, .ref (lc 0 0)), (1, .int x1), (2, .int x2)] dX11_roomOf_1 (Nat.le_of_ble_eq_true rfl) rfl ?_
  refine v_iconst dX11_roomOf_2 ic_0 ?_
  refine v_istore [(5, .int (0 : Int32)), (3, .long (0 : Int64)), (0, .ref (lc 0 0)), (1, .int x1), (2, .int x2)] dX11_roomOf_3 (Nat.le_of_ble_eq_true rfl) rfl ?_
  refine v_sub [2, 3, 4, 1, 0] rfl ?_
  refine itr_loop (P := fun a1 : Int64 × Int32 => tt_V (XM l D dA A) cX11_roomOf (RX11, 6, (some .long), rM_roomOf, tt_nt) (tt_fn (XM l D dA A) (RX11, 6, (some .long), rM_roomOf, tt_nt) Q) 5 [(0, .ref (lc 0 0)), (1, .int x1), (2, .int x2), (3, .long a1.1), (5, .int a1.2)] [] lc s 0 0) (PE := fun b2 : Int64 × Int32 => tt_V (XM l D dA A) cX11_roomOf (RX11, 6, (some .long), rM_roomOf, tt_nt) (tt_fn (XM l D dA A) (RX11, 6, (some .long), rM_roomOf, tt_nt) Q) 49 [(0, .ref (lc 0 0)), (1, .int x1), (2, .int x2), (3, .long b2.1), (5, .int b2.2)] [] lc s 0 0) h (fun b2 h => ?_) (fun a1 h => ?_)
  · refine v_lload_n 3 dX11_roomOf_49 rfl ?_
    have h := Ok.ret h
    exact v_lret rfl (Nat.zero_le _) (Nat.zero_le _) dX11_roomOf_50 h
  · have h : Ok (fM_roomOf_L5 s x1 x2 a1) _ := h
    unfold fM_roomOf_L5 at h
    refine v_iload 4 dX11_roomOf_5 rfl ?_
    refine v_aload_n 0 dX11_roomOf_7 rfl ?_
    refine v_iload_n 2 dX11_roomOf_8 rfl ?_
    refine cM_169 (Ok.bind h) ⟨Nat.le_of_ble_eq_true rfl, Nat.le_of_ble_eq_true rfl⟩ (Nat.le_of_ble_eq_true rfl) dX11_roomOf_9 (fun r3 h => ?_)
    refine v_icmp_ge (tgt := 49) dX11_roomOf_12 rfl (fun c4 => ?_) (fun c4 => ?_)
    · have h := Ok.pos h c4
      have h := Ok.ret h
      exact h
    · have h := Ok.neg h c4
      refine v_lload_n 3 dX11_roomOf_15 rfl ?_
      refine v_aload_n 0 dX11_roomOf_16 rfl ?_
      refine v_iload_n 1 dX11_roomOf_17 rfl ?_
      refine v_aload_n 0 dX11_roomOf_18 rfl ?_
      refine v_iload_n 2 dX11_roomOf_19 rfl ?_
      refine v_iload 4 dX11_roomOf_20 rfl ?_
      refine cM_161 (Ok.bind h) ⟨Nat.le_of_ble_eq_true rfl, Nat.le_of_ble_eq_true rfl⟩ (Nat.le_of_ble_eq_true rfl) dX11_roomOf_22 (fun r5 h => ?_)
      refine cM_183 (Ok.bind h) ⟨Nat.le_of_ble_eq_true rfl, Nat.le_of_ble_eq_true rfl⟩ (Nat.le_of_ble_eq_true rfl) dX11_roomOf_25 (fun r6 h => ?_)
      refine v_aload_n 0 dX11_roomOf_28 rfl ?_
      refine v_iload_n 1 dX11_roomOf_29 rfl ?_
      refine v_aload_n 0 dX11_roomOf_30 rfl ?_
      refine v_iload_n 2 dX11_roomOf_31 rfl ?_
      refine v_iload 4 dX11_roomOf_32 rfl ?_
      refine cM_161 (Ok.bind h) ⟨Nat.le_of_ble_eq_true rfl, Nat.le_of_ble_eq_true rfl⟩ (Nat.le_of_ble_eq_true rfl) dX11_roomOf_34 (fun r7 h => ?_)
      refine cM_187 (Ok.bind h) ⟨Nat.le_of_ble_eq_true rfl, Nat.le_of_ble_eq_true rfl⟩ (Nat.le_of_ble_eq_true rfl) dX11_roomOf_37 (fun r8 h => ?_)
      refine v_ladd dX11_roomOf_40 ?_
      refine v_ladd dX11_roomOf_41 ?_
      refine v_nmL (fun v9 e_v9 => ?_)
      have h := Ok.nm h e_v9
      refine v_lstore_n [(3, .long v9), (0, .ref (lc 0 0)), (1, .int x1), (2, .int x2), (5, .int a1.2)] dX11_roomOf_42 (Nat.le_of_ble_eq_true rfl) rfl ?_
      refine v_iinc (v := (a1.2 + 1 : Int32)) 4 [(5, .int (a1.2 + 1 : Int32)), (3, .long v9), (0, .ref (lc 0 0)), (1, .int x1), (2, .int x2)] dX11_roomOf_43 rfl (by rw [ic_1]) (Nat.le_of_ble_eq_true rfl) rfl ?_
      refine v_goto (tgt := 5) dX11_roomOf_46 rfl ?_
      refine v_sub [2, 3, 4, 1, 0] rfl ?_
      have h := Ok.ret h
      exact h
theorem cM_219 {l : Launch} {D : va_G} {dA : Nat → ClassId} {A : Nat → Prop} {lc : Nat → Nat → Nat} {s : tt_St} {cc : ByteArray} {nl : Nat} {rt : Option FieldType} {rm : Room} {tn : tt_Tn} {Q : tt_Fin} {pc : Nat} {lv : List (Nat × Value)} {rest : List Value} {ck cn : Nat} {x1 : Int32} {x2 : Int32} {K : Int64 → Prop} (h : Ok (fM_roomOf s x1 x2) K) (hR : 2 + 1 ≤ rm.frames ∧ 8 + (6 + 11) + 45 ≤ rm.locals) (hW : (rest.map fun v => v.category).sum ≤ 8) (d : decode cc pc = .ok (.invokevirtual 219, 3)) (kk : ∀ r, K r → tt_V (XM l D dA A) cc (RX11, nl, rt, rm, tn) Q (pc + 3) lv (.long r :: rest) lc s ck cn) (hf : ck ≤ rm.cells ∧ cn ≤ rm.slots := by exact ⟨Nat.zero_le _, Nat.zero_le _⟩) : tt_V (XM l D dA A) cc (RX11, nl, rt, rm, tn) Q pc lv (.int x2 :: .int x1 :: .ref (lc 0 0) :: rest) lc s ck cn :=
  v_callV (kd := 0) (i := 0) (nA := 2) (As := [.int x1, .int x2]) lvM_0 oM rfl (mM_roomOf l D dA A lc s x1 x2 (Q := (fun v lc' s' => ∃ r, K r ∧ v = some (.long r) ∧ lc' = lc ∧ s' = s)) (h.mono (fun r hr => ⟨r, hr, rfl, rfl, rfl⟩))) (lw_V q2071 q2073 qs85 q154 q2074) (by decide +kernel) rfl hR hW hf d rfl (fun v lc' s' q => by obtain ⟨r, hr, e1, e2, e3⟩ := q; rw [e1, e2, e3]; exact kk r hr)
def fM_sizesOf_L5 (s : tt_St) (x1 : Int32) (a1 : Int64 × Int32) : Option ((Int64 × Int32) ⊕ (Int64 × Int32)) :=
  (fM_layersOf s x1).bind fun r3 => if r3 ≤ a1.2 then some (.inr (a1.1, a1.2)) else (fM_rungOf s x1 a1.2).bind fun r5 => if inB r5 40 then nm (a1.1 + ((rdI s 10 0 r5.toNatClampNeg).toInt64)) fun v7 => some (.inl (v7, (a1.2 + 1 : Int32))) else none
def fM_sizesOf (s : tt_St) (x1 : Int32) : Option (Int64) :=
  (itr (fM_sizesOf_L5 s x1) tt_fuel ((0 : Int64), (0 : Int32))).bind fun b2 => some b2.1
abbrev rM_sizesOf : Room := { frames := 1, cells := 0, slots := 0, locals := 22 }
set_option maxHeartbeats 4000000 in
theorem mM_sizesOf (l : Launch) (D : va_G) (dA : Nat → ClassId) (A : Nat → Prop) (lc : Nat → Nat → Nat) (s : tt_St) (x1 : Int32) {Q : Option Value → (Nat → Nat → Nat) → tt_St → Prop} (h : Ok (fM_sizesOf s x1) (fun r => Q (some (.long r)) lc s)) : tt_Sp (XM l D dA A) yX11_sizesOf cX11_sizesOf 5 (some .long) rM_sizesOf [.ref (lc 0 0), .int x1] lc s Q := by
  refine tt_Sp.ofV plM kokM (Nat.le_of_ble_eq_true rfl) ?_
  show tt_V (XM l D dA A) cX11_sizesOf (RX11, 5, (some .long), rM_sizesOf, tt_nt) (tt_fn (XM l D dA A) (RX11, 5, (some .long), rM_sizesOf, tt_nt) Q) 0 [(0, .ref (lc 0 0)), (1, .int x1)] [] lc s 0 0
  unfold fM_sizesOf at h
  refine v_lconst dX11_sizesOf_0 kl_0 ?_
  refine v_lstore_n [(2, .long (0 : Int64)), (0, .ref (lc 0 0)), (1, .int x1)] dX11_sizesOf_1 (Nat.le_of_ble_eq_true rfl) rfl ?_
  refine v_iconst dX11_sizesOf_2 ic_0 ?_
  refine v_istore [(4, .int (0 : Int32)), (2, .long (0 : Int64)), (0, .ref (lc 0 0)), (1, .int x1)] dX11_sizesOf_3 (Nat.le_of_ble_eq_true rfl) rfl ?_
  refine v_sub [2, 3, 1, 0] rfl ?_
  refine itr_loop (P := fun a1 : Int64 × Int32 => tt_V (XM l D dA A) cX11_sizesOf (RX11, 5, (some .long), rM_sizesOf, tt_nt) (tt_fn (XM l D dA A) (RX11, 5, (some .long), rM_sizesOf, tt_nt) Q) 5 [(0, .ref (lc 0 0)), (1, .int x1), (2, .long a1.1), (4, .int a1.2)] [] lc s 0 0) (PE := fun b2 : Int64 × Int32 => tt_V (XM l D dA A) cX11_sizesOf (RX11, 5, (some .long), rM_sizesOf, tt_nt) (tt_fn (XM l D dA A) (RX11, 5, (some .long), rM_sizesOf, tt_nt) Q) 37 [(0, .ref (lc 0 0)), (1, .int x1), (2, .long b2.1), (4, .int b2.2)] [] lc s 0 0) h (fun b2 h => ?_) (fun a1 h => ?_)
  · refine v_lload_n 2 dX11_sizesOf_37 rfl ?_
    have h := Ok.ret h
    exact v_lret rfl (Nat.zero_le _) (Nat.zero_le _) dX11_sizesOf_38 h
  · have h : Ok (fM_sizesOf_L5 s x1 a1) _ := h
    unfold fM_sizesOf_L5 at h
    refine v_iload 3 dX11_sizesOf_5 rfl ?_
    refine v_aload_n 0 dX11_sizesOf_7 rfl ?_
    refine v_iload_n 1 dX11_sizesOf_8 rfl ?_
    refine cM_169 (Ok.bind h) ⟨Nat.le_of_ble_eq_true rfl, Nat.le_of_ble_eq_true rfl⟩ (Nat.le_of_ble_eq_true rfl) dX11_sizesOf_9 (fun r3 h => ?_)
    refine v_icmp_ge (tgt := 37) dX11_sizesOf_12 rfl (fun c4 => ?_) (fun c4 => ?_)
    · have h := Ok.pos h c4
      have h := Ok.ret h
      exact h
    · have h := Ok.neg h c4
      refine v_lload_n 2 dX11_sizesOf_15 rfl ?_
      refine v_aload_n 0 dX11_sizesOf_16 rfl ?_
      refine gM_42 dX11_sizesOf_17 ?_
      refine v_aload_n 0 dX11_sizesOf_20 rfl ?_
      refine v_iload_n 1 dX11_sizesOf_21 rfl ?_
      refine v_iload 3 dX11_sizesOf_22 rfl ?_
      refine cM_161 (Ok.bind h) ⟨Nat.le_of_ble_eq_true rfl, Nat.le_of_ble_eq_true rfl⟩ (Nat.le_of_ble_eq_true rfl) dX11_sizesOf_24 (fun r5 h => ?_)
      obtain ⟨g6, h⟩ := Ok.guard h
      refine lM_10 g6 dX11_sizesOf_27 ?_
      refine v_i2l dX11_sizesOf_28 rfl ?_
      refine v_ladd dX11_sizesOf_29 ?_
      refine v_nmL (fun v7 e_v7 => ?_)
      have h := Ok.nm h e_v7
      refine v_lstore_n [(2, .long v7), (0, .ref (lc 0 0)), (1, .int x1), (4, .int a1.2)] dX11_sizesOf_30 (Nat.le_of_ble_eq_true rfl) rfl ?_
      refine v_iinc (v := (a1.2 + 1 : Int32)) 3 [(4, .int (a1.2 + 1 : Int32)), (2, .long v7), (0, .ref (lc 0 0)), (1, .int x1)] dX11_sizesOf_31 rfl (by rw [ic_1]) (Nat.le_of_ble_eq_true rfl) rfl ?_
      refine v_goto (tgt := 5) dX11_sizesOf_34 rfl ?_
      refine v_sub [2, 3, 1, 0] rfl ?_
      have h := Ok.ret h
      exact h
theorem cM_208 {l : Launch} {D : va_G} {dA : Nat → ClassId} {A : Nat → Prop} {lc : Nat → Nat → Nat} {s : tt_St} {cc : ByteArray} {nl : Nat} {rt : Option FieldType} {rm : Room} {tn : tt_Tn} {Q : tt_Fin} {pc : Nat} {lv : List (Nat × Value)} {rest : List Value} {ck cn : Nat} {x1 : Int32} {K : Int64 → Prop} (h : Ok (fM_sizesOf s x1) K) (hR : 1 + 1 ≤ rm.frames ∧ 8 + (5 + 11) + 22 ≤ rm.locals) (hW : (rest.map fun v => v.category).sum ≤ 8) (d : decode cc pc = .ok (.invokevirtual 208, 3)) (kk : ∀ r, K r → tt_V (XM l D dA A) cc (RX11, nl, rt, rm, tn) Q (pc + 3) lv (.long r :: rest) lc s ck cn) (hf : ck ≤ rm.cells ∧ cn ≤ rm.slots := by exact ⟨Nat.zero_le _, Nat.zero_le _⟩) : tt_V (XM l D dA A) cc (RX11, nl, rt, rm, tn) Q pc lv (.int x1 :: .ref (lc 0 0) :: rest) lc s ck cn :=
  v_callV (kd := 0) (i := 0) (nA := 1) (As := [.int x1]) lvM_0 oM rfl (mM_sizesOf l D dA A lc s x1 (Q := (fun v lc' s' => ∃ r, K r ∧ v = some (.long r) ∧ lc' = lc ∧ s' = s)) (h.mono (fun r hr => ⟨r, hr, rfl, rfl, rfl⟩))) (lw_V q2097 q2099 qs91 q154 q2100) (by decide +kernel) rfl hR hW hf d rfl (fun v lc' s' q => by obtain ⟨r, hr, e1, e2, e3⟩ := q; rw [e1, e2, e3]; exact kk r hr)
def fM_offsBy_L6 (x2 : Int32) (x3 : Int32) (x4 : Int32) (a1 : Int32 × Int32) : Option ((Int32 × Int32) ⊕ (Int32 × Int32)) :=
  if x3 < a1.2 then some (.inr (a1.1, a1.2)) else nm (if x4 = (2 : Int32) then (1 : Int32) else (if x4 = (1 : Int32) then (if a1.2 = x3 then (1 : Int32) else (if x4 = 0 then (if a1.2 ≤ x2 then (1 : Int32) else (if x4 = (3 : Int32) then (if a1.2 ≤ x2 then (1 : Int32) else (if a1.2 = x3 then (1 : Int32) else (0 : Int32))) else (0 : Int32))) else (if x4 = (3 : Int32) then (if a1.2 ≤ x2 then (1 : Int32) else (if a1.2 = x3 then (1 : Int32) else (0 : Int32))) else (0 : Int32)))) else (if x4 = 0 then (if a1.2 ≤ x2 then (1 : Int32) else (if x4 = (3 : Int32) then (if a1.2 ≤ x2 then (1 : Int32) else (if a1.2 = x3 then (1 : Int32) else (0 : Int32))) else (0 : Int32))) else (if x4 = (3 : Int32) then (if a1.2 ≤ x2 then (1 : Int32) else (if a1.2 = x3 then (1 : Int32) else (0 : Int32))) else (0 : Int32))))) fun t4 => if t4 = 0 then nm (a1.1 ||| (0 : Int32)) fun v26 => some (.inl (v26, (a1.2 + 1 : Int32))) else nm (a1.1 ||| ((1 : Int32) <<< (a1.2 &&& 31))) fun v27 => some (.inl (v27, (a1.2 + 1 : Int32)))
def fM_offsBy (x1 : Int32) (x2 : Int32) (x3 : Int32) (x4 : Int32) : Option (Int32) :=
  (itr (fM_offsBy_L6 x2 x3 x4) tt_fuel ((0 : Int32), x1)).bind fun b2 => some b2.1
abbrev rM_offsBy : Room := { frames := 0, cells := 0, slots := 0, locals := 0 }
set_option maxHeartbeats 4000000 in
theorem mM_offsBy (l : Launch) (D : va_G) (dA : Nat → ClassId) (A : Nat → Prop) (lc : Nat → Nat → Nat) (s : tt_St) (x1 : Int32) (x2 : Int32) (x3 : Int32) (x4 : Int32) {Q : Option Value → (Nat → Nat → Nat) → tt_St → Prop} (h : Ok (fM_offsBy x1 x2 x3 x4) (fun r => Q (some (.int r)) lc s)) : tt_Sp (XM l D dA A) yX11_offsBy cX11_offsBy 8 (some .int) rM_offsBy [.ref (lc 0 0), .int x1, .int x2, .int x3, .int x4] lc s Q := by
  refine tt_Sp.ofV plM kokM (Nat.le_of_ble_eq_true rfl) ?_
  show tt_V (XM l D dA A) cX11_offsBy (RX11, 8, (some .int), rM_offsBy, tt_nt) (tt_fn (XM l D dA A) (RX11, 8, (some .int), rM_offsBy, tt_nt) Q) 0 [(0, .ref (lc 0 0)), (1, .int x1), (2, .int x2), (3, .int x3), (4, .int x4)] [] lc s 0 0
  unfold fM_offsBy at h
  refine v_iconst dX11_offsBy_0 ic_0 ?_
  refine v_istore [(5, .int (0 : Int32)), (0, .ref (lc 0 0)), (1, .int x1), (2, .int x2), (3, .int x3), (4, .int x4)] dX11_offsBy_1 (Nat.le_of_ble_eq_true rfl) rfl ?_
  refine v_iload_n 2 dX11_offsBy_3 rfl ?_
  refine v_istore [(6, .int x1), (5, .int (0 : Int32)), (0, .ref (lc 0 0)), (1, .int x1), (2, .int x2), (3, .int x3), (4, .int x4)] dX11_offsBy_4 (Nat.le_of_ble_eq_true rfl) rfl ?_
  refine v_sub [4, 5, 6, 1, 0] rfl ?_
  refine itr_loop (P := fun a1 : Int32 × Int32 => tt_V (XM l D dA A) cX11_offsBy (RX11, 8, (some .int), rM_offsBy, tt_nt) (tt_fn (XM l D dA A) (RX11, 8, (some .int), rM_offsBy, tt_nt) Q) 6 [(2, .int x2), (3, .int x3), (4, .int x4), (5, .int a1.1), (6, .int a1.2)] [] lc s 0 0) (PE := fun b2 : Int32 × Int32 => tt_V (XM l D dA A) cX11_offsBy (RX11, 8, (some .int), rM_offsBy, tt_nt) (tt_fn (XM l D dA A) (RX11, 8, (some .int), rM_offsBy, tt_nt) Q) 90 [(2, .int x2), (3, .int x3), (4, .int x4), (5, .int b2.1), (6, .int b2.2)] [] lc s 0 0) h (fun b2 h => ?_) (fun a1 h => ?_)
  · refine v_iload 3 dX11_offsBy_90 rfl ?_
    have h := Ok.ret h
    exact v_iret rfl (Nat.zero_le _) (Nat.zero_le _) dX11_offsBy_92 h
  · have h : Ok (fM_offsBy_L6 x2 x3 x4 a1) _ := h
    unfold fM_offsBy_L6 at h
    refine v_iload 4 dX11_offsBy_6 rfl ?_
    refine v_iload_n 1 dX11_offsBy_8 rfl ?_
    refine v_icmp_gt (tgt := 90) dX11_offsBy_9 rfl (fun c3 => ?_) (fun c3 => ?_)
    · have h := Ok.pos h c3
      have h := Ok.ret h
      exact h
    · have h := Ok.neg h c3
      refine v_iload 2 dX11_offsBy_12 rfl ?_
      refine v_iconst dX11_offsBy_14 ic_2 ?_
      have J5 : ∀ t4, t4 = (if x4 = (2 : Int32) then (1 : Int32) else (if x4 = (1 : Int32) then (if a1.2 = x3 then (1 : Int32) else (if x4 = 0 then (if a1.2 ≤ x2 then (1 : Int32) else (if x4 = (3 : Int32) then (if a1.2 ≤ x2 then (1 : Int32) else (if a1.2 = x3 then (1 : Int32) else (0 : Int32))) else (0 : Int32))) else (if x4 = (3 : Int32) then (if a1.2 ≤ x2 then (1 : Int32) else (if a1.2 = x3 then (1 : Int32) else (0 : Int32))) else (0 : Int32)))) else (if x4 = 0 then (if a1.2 ≤ x2 then (1 : Int32) else (if x4 = (3 : Int32) then (if a1.2 ≤ x2 then (1 : Int32) else (if a1.2 = x3 then (1 : Int32) else (0 : Int32))) else (0 : Int32))) else (if x4 = (3 : Int32) then (if a1.2 ≤ x2 then (1 : Int32) else (if a1.2 = x3 then (1 : Int32) else (0 : Int32))) else (0 : Int32))))) → tt_V (XM l D dA A) cX11_offsBy (RX11, 8, (some .int), rM_offsBy, tt_nt) (tt_fn (XM l D dA A) (RX11, 8, (some .int), rM_offsBy, tt_nt) Q) 64 [(2, .int x2), (3, .int x3), (4, .int x4), (5, .int a1.1), (6, .int a1.2)] [.int t4] lc s 0 0 := fun t4 e_t4 => by
        have h := Ok.nm h e_t4
        refine v_istore [(7, .int t4), (2, .int x2), (3, .int x3), (4, .int x4), (5, .int a1.1), (6, .int a1.2)] dX11_offsBy_64 (Nat.le_of_ble_eq_true rfl) rfl ?_
        refine v_iload 4 dX11_offsBy_66 rfl ?_
        refine v_iload 0 dX11_offsBy_68 rfl ?_
        refine v_if_eq (tgt := 80) dX11_offsBy_70 rfl (fun c25 => ?_) (fun c25 => ?_)
        · have h := Ok.pos h c25
          refine v_iconst dX11_offsBy_80 ic_0 ?_
          refine v_ior dX11_offsBy_81 ?_
          refine v_nmI (fun v26 e_v26 => ?_)
          have h := Ok.nm h e_v26
          refine v_istore [(5, .int v26), (7, .int t4), (2, .int x2), (3, .int x3), (4, .int x4), (6, .int a1.2)] dX11_offsBy_82 (Nat.le_of_ble_eq_true rfl) rfl ?_
          refine v_iinc (v := (a1.2 + 1 : Int32)) 5 [(6, .int (a1.2 + 1 : Int32)), (5, .int v26), (7, .int t4), (2, .int x2), (3, .int x3), (4, .int x4)] dX11_offsBy_84 rfl (by rw [ic_1]) (Nat.le_of_ble_eq_true rfl) rfl ?_
          refine v_goto (tgt := 6) dX11_offsBy_87 rfl ?_
          refine v_sub [3, 4, 5, 1, 0] rfl ?_
          have h := Ok.ret h
          exact h
        · have h := Ok.neg h c25
          refine v_iconst dX11_offsBy_73 ic_1 ?_
          refine v_iload 5 dX11_offsBy_74 rfl ?_
          refine v_ishl dX11_offsBy_76 ?_
          refine v_goto (tgt := 81) dX11_offsBy_77 rfl ?_
          refine v_ior dX11_offsBy_81 ?_
          refine v_nmI (fun v27 e_v27 => ?_)
          have h := Ok.nm h e_v27
          refine v_istore [(5, .int v27), (7, .int t4), (2, .int x2), (3, .int x3), (4, .int x4), (6, .int a1.2)] dX11_offsBy_82 (Nat.le_of_ble_eq_true rfl) rfl ?_
          refine v_iinc (v := (a1.2 + 1 : Int32)) 5 [(6, .int (a1.2 + 1 : Int32)), (5, .int v27), (7, .int t4), (2, .int x2), (3, .int x3), (4, .int x4)] dX11_offsBy_84 rfl (by rw [ic_1]) (Nat.le_of_ble_eq_true rfl) rfl ?_
          refine v_goto (tgt := 6) dX11_offsBy_87 rfl ?_
          refine v_sub [3, 4, 5, 1, 0] rfl ?_
          have h := Ok.ret h
          exact h
      refine v_icmp_eq (tgt := 59) dX11_offsBy_15 rfl (fun c6 => ?_) (fun c6 => ?_)
      · refine v_iconst dX11_offsBy_59 ic_1 ?_
        refine v_goto (tgt := 64) dX11_offsBy_60 rfl ?_
        exact J5 _ (by rw [if_pos c6])
      · refine v_iload 2 dX11_offsBy_18 rfl ?_
        refine v_iconst dX11_offsBy_20 ic_1 ?_
        refine v_icmp_ne (tgt := 30) dX11_offsBy_21 rfl (fun c7 => ?_) (fun c7 => ?_)
        · refine v_iload 2 dX11_offsBy_30 rfl ?_
          refine v_if_ne (tgt := 41) dX11_offsBy_32 rfl (fun c8 => ?_) (fun c8 => ?_)
          · refine v_iload 2 dX11_offsBy_41 rfl ?_
            refine v_iconst dX11_offsBy_43 ic_3 ?_
            refine v_icmp_ne (tgt := 63) dX11_offsBy_44 rfl (fun c9 => ?_) (fun c9 => ?_)
            · refine v_iconst dX11_offsBy_63 ic_0 ?_
              exact J5 _ (by rw [if_neg c6, if_neg c7, if_neg c8, if_neg c9])
            · refine v_iload 4 dX11_offsBy_47 rfl ?_
              refine v_iload_n 0 dX11_offsBy_49 rfl ?_
              refine v_icmp_le (tgt := 59) dX11_offsBy_50 rfl (fun c10 => ?_) (fun c10 => ?_)
              · refine v_iconst dX11_offsBy_59 ic_1 ?_
                refine v_goto (tgt := 64) dX11_offsBy_60 rfl ?_
                exact J5 _ (by rw [if_neg c6, if_neg c7, if_neg c8, if_pos c9, if_pos c10])
              · refine v_iload 4 dX11_offsBy_53 rfl ?_
                refine v_iload_n 1 dX11_offsBy_55 rfl ?_
                refine v_icmp_ne (tgt := 63) dX11_offsBy_56 rfl (fun c11 => ?_) (fun c11 => ?_)
                · refine v_iconst dX11_offsBy_63 ic_0 ?_
                  exact J5 _ (by rw [if_neg c6, if_neg c7, if_neg c8, if_pos c9, if_neg c10, if_neg c11])
                · refine v_iconst dX11_offsBy_59 ic_1 ?_
                  refine v_goto (tgt := 64) dX11_offsBy_60 rfl ?_
                  exact J5 _ (by rw [if_neg c6, if_neg c7, if_neg c8, if_pos c9, if_neg c10, if_pos c11])
          · refine v_iload 4 dX11_offsBy_35 rfl ?_
            refine v_iload_n 0 dX11_offsBy_37 rfl ?_
            refine v_icmp_le (tgt := 59) dX11_offsBy_38 rfl (fun c12 => ?_) (fun c12 => ?_)
            · refine v_iconst dX11_offsBy_59 ic_1 ?_
              refine v_goto (tgt := 64) dX11_offsBy_60 rfl ?_
              exact J5 _ (by rw [if_neg c6, if_neg c7, if_pos c8, if_pos c12])
            · refine v_iload 2 dX11_offsBy_41 rfl ?_
              refine v_iconst dX11_offsBy_43 ic_3 ?_
              refine v_icmp_ne (tgt := 63) dX11_offsBy_44 rfl (fun c13 => ?_) (fun c13 => ?_)
              · refine v_iconst dX11_offsBy_63 ic_0 ?_
                exact J5 _ (by rw [if_neg c6, if_neg c7, if_pos c8, if_neg c12, if_neg c13])
              · refine v_iload 4 dX11_offsBy_47 rfl ?_
                refine v_iload_n 0 dX11_offsBy_49 rfl ?_
                refine v_icmp_le (tgt := 59) dX11_offsBy_50 rfl (fun c14 => ?_) (fun c14 => ?_)
                · refine v_iconst dX11_offsBy_59 ic_1 ?_
                  refine v_goto (tgt := 64) dX11_offsBy_60 rfl ?_
                  exact J5 _ (by rw [if_neg c6, if_neg c7, if_pos c8, if_neg c12, if_pos c13, if_pos c14])
                · refine v_iload 4 dX11_offsBy_53 rfl ?_
                  refine v_iload_n 1 dX11_offsBy_55 rfl ?_
                  refine v_icmp_ne (tgt := 63) dX11_offsBy_56 rfl (fun c15 => ?_) (fun c15 => ?_)
                  · refine v_iconst dX11_offsBy_63 ic_0 ?_
                    exact J5 _ (by rw [if_neg c6, if_neg c7, if_pos c8, if_neg c12, if_pos c13, if_neg c14, if_neg c15])
                  · refine v_iconst dX11_offsBy_59 ic_1 ?_
                    refine v_goto (tgt := 64) dX11_offsBy_60 rfl ?_
                    exact J5 _ (by rw [if_neg c6, if_neg c7, if_pos c8, if_neg c12, if_pos c13, if_neg c14, if_pos c15])
        · refine v_iload 4 dX11_offsBy_24 rfl ?_
          refine v_iload_n 1 dX11_offsBy_26 rfl ?_
          refine v_icmp_eq (tgt := 59) dX11_offsBy_27 rfl (fun c16 => ?_) (fun c16 => ?_)
          · refine v_iconst dX11_offsBy_59 ic_1 ?_
            refine v_goto (tgt := 64) dX11_offsBy_60 rfl ?_
            exact J5 _ (by rw [if_neg c6, if_pos c7, if_pos c16])
          · refine v_iload 2 dX11_offsBy_30 rfl ?_
            refine v_if_ne (tgt := 41) dX11_offsBy_32 rfl (fun c17 => ?_) (fun c17 => ?_)
            · refine v_iload 2 dX11_offsBy_41 rfl ?_
              refine v_iconst dX11_offsBy_43 ic_3 ?_
              refine v_icmp_ne (tgt := 63) dX11_offsBy_44 rfl (fun c18 => ?_) (fun c18 => ?_)
              · refine v_iconst dX11_offsBy_63 ic_0 ?_
                exact J5 _ (by rw [if_neg c6, if_pos c7, if_neg c16, if_neg c17, if_neg c18])
              · refine v_iload 4 dX11_offsBy_47 rfl ?_
                refine v_iload_n 0 dX11_offsBy_49 rfl ?_
                refine v_icmp_le (tgt := 59) dX11_offsBy_50 rfl (fun c19 => ?_) (fun c19 => ?_)
                · refine v_iconst dX11_offsBy_59 ic_1 ?_
                  refine v_goto (tgt := 64) dX11_offsBy_60 rfl ?_
                  exact J5 _ (by rw [if_neg c6, if_pos c7, if_neg c16, if_neg c17, if_pos c18, if_pos c19])
                · refine v_iload 4 dX11_offsBy_53 rfl ?_
                  refine v_iload_n 1 dX11_offsBy_55 rfl ?_
                  refine v_icmp_ne (tgt := 63) dX11_offsBy_56 rfl (fun c20 => ?_) (fun c20 => ?_)
                  · refine v_iconst dX11_offsBy_63 ic_0 ?_
                    exact J5 _ (by rw [if_neg c6, if_pos c7, if_neg c16, if_neg c17, if_pos c18, if_neg c19, if_neg c20])
                  · refine v_iconst dX11_offsBy_59 ic_1 ?_
                    refine v_goto (tgt := 64) dX11_offsBy_60 rfl ?_
                    exact J5 _ (by rw [if_neg c6, if_pos c7, if_neg c16, if_neg c17, if_pos c18, if_neg c19, if_pos c20])
            · refine v_iload 4 dX11_offsBy_35 rfl ?_
              refine v_iload_n 0 dX11_offsBy_37 rfl ?_
              refine v_icmp_le (tgt := 59) dX11_offsBy_38 rfl (fun c21 => ?_) (fun c21 => ?_)
              · refine v_iconst dX11_offsBy_59 ic_1 ?_
                refine v_goto (tgt := 64) dX11_offsBy_60 rfl ?_
                exact J5 _ (by rw [if_neg c6, if_pos c7, if_neg c16, if_pos c17, if_pos c21])
              · refine v_iload 2 dX11_offsBy_41 rfl ?_
                refine v_iconst dX11_offsBy_43 ic_3 ?_
                refine v_icmp_ne (tgt := 63) dX11_offsBy_44 rfl (fun c22 => ?_) (fun c22 => ?_)
                · refine v_iconst dX11_offsBy_63 ic_0 ?_
                  exact J5 _ (by rw [if_neg c6, if_pos c7, if_neg c16, if_pos c17, if_neg c21, if_neg c22])
                · refine v_iload 4 dX11_offsBy_47 rfl ?_
                  refine v_iload_n 0 dX11_offsBy_49 rfl ?_
                  refine v_icmp_le (tgt := 59) dX11_offsBy_50 rfl (fun c23 => ?_) (fun c23 => ?_)
                  · refine v_iconst dX11_offsBy_59 ic_1 ?_
                    refine v_goto (tgt := 64) dX11_offsBy_60 rfl ?_
                    exact J5 _ (by rw [if_neg c6, if_pos c7, if_neg c16, if_pos c17, if_neg c21, if_pos c22, if_pos c23])
                  · refine v_iload 4 dX11_offsBy_53 rfl ?_
                    refine v_iload_n 1 dX11_offsBy_55 rfl ?_
                    refine v_icmp_ne (tgt := 63) dX11_offsBy_56 rfl (fun c24 => ?_) (fun c24 => ?_)
                    · refine v_iconst dX11_offsBy_63 ic_0 ?_
                      exact J5 _ (by rw [if_neg c6, if_pos c7, if_neg c16, if_pos c17, if_neg c21, if_pos c22, if_neg c23, if_neg c24])
                    · refine v_iconst dX11_offsBy_59 ic_1 ?_
                      refine v_goto (tgt := 64) dX11_offsBy_60 rfl ?_
                      exact J5 _ (by rw [if_neg c6, if_pos c7, if_neg c16, if_pos c17, if_neg c21, if_pos c22, if_neg c23, if_pos c24])
theorem cM_190 {l : Launch} {D : va_G} {dA : Nat → ClassId} {A : Nat → Prop} {lc : Nat → Nat → Nat} {s : tt_St} {cc : ByteArray} {nl : Nat} {rt : Option FieldType} {rm : Room} {tn : tt_Tn} {Q : tt_Fin} {pc : Nat} {lv : List (Nat × Value)} {rest : List Value} {ck cn : Nat} {x1 : Int32} {x2 : Int32} {x3 : Int32} {x4 : Int32} {K : Int32 → Prop} (h : Ok (fM_offsBy x1 x2 x3 x4) K) (hR : 0 + 1 ≤ rm.frames ∧ 8 + (8 + 11) + 0 ≤ rm.locals) (hW : (rest.map fun v => v.category).sum ≤ 8) (d : decode cc pc = .ok (.invokevirtual 190, 3)) (kk : ∀ r, K r → tt_V (XM l D dA A) cc (RX11, nl, rt, rm, tn) Q (pc + 3) lv (.int r :: rest) lc s ck cn) (hf : ck ≤ rm.cells ∧ cn ≤ rm.slots := by exact ⟨Nat.zero_le _, Nat.zero_le _⟩) : tt_V (XM l D dA A) cc (RX11, nl, rt, rm, tn) Q pc lv (.int x4 :: .int x3 :: .int x2 :: .int x1 :: .ref (lc 0 0) :: rest) lc s ck cn :=
  v_callV (kd := 0) (i := 0) (nA := 4) (As := [.int x1, .int x2, .int x3, .int x4]) lvM_0 oM rfl (mM_offsBy l D dA A lc s x1 x2 x3 x4 (Q := (fun v lc' s' => ∃ r, K r ∧ v = some (.int r) ∧ lc' = lc ∧ s' = s)) (h.mono (fun r hr => ⟨r, hr, rfl, rfl, rfl⟩))) (lw_V q2012 q2014 qs71 q154 q2015) (by decide +kernel) rfl hR hW hf d rfl (fun v lc' s' q => by obtain ⟨r, hr, e1, e2, e3⟩ := q; rw [e1, e2, e3]; exact kk r hr)
def fM_isOff (s : tt_St) (x1 : Int32) (x2 : Int32) : Option (Int32) :=
  if inB x1 25 then (fM_offsBy (rdI s 16 0 x1.toNatClampNeg) (rdI s 17 0 x1.toNatClampNeg) (rdI s 18 0 x1.toNatClampNeg) (rdI s 0 0 30)).bind fun r2 => if ((r2 >>> (x2 &&& 31)) &&& (1 : Int32)) = (1 : Int32) then some (1 : Int32) else some (0 : Int32) else none
abbrev rM_isOff : Room := { frames := 1, cells := 0, slots := 0, locals := 27 }
set_option maxHeartbeats 4000000 in
theorem mM_isOff (l : Launch) (D : va_G) (dA : Nat → ClassId) (A : Nat → Prop) (lc : Nat → Nat → Nat) (s : tt_St) (x1 : Int32) (x2 : Int32) {Q : Option Value → (Nat → Nat → Nat) → tt_St → Prop} (h : Ok (fM_isOff s x1 x2) (fun r => zB r → Q (some (.int r)) lc s)) : tt_Sp (XM l D dA A) yX11_isOff cX11_isOff 3 (some .boolean) rM_isOff [.ref (lc 0 0), .int x1, .int x2] lc s Q := by
  refine tt_Sp.ofV plM kokM (Nat.le_of_ble_eq_true rfl) ?_
  show tt_V (XM l D dA A) cX11_isOff (RX11, 3, (some .boolean), rM_isOff, tt_nt) (tt_fn (XM l D dA A) (RX11, 3, (some .boolean), rM_isOff, tt_nt) Q) 0 [(0, .ref (lc 0 0)), (1, .int x1), (2, .int x2)] [] lc s 0 0
  unfold fM_isOff at h
  refine v_aload_n 0 dX11_isOff_0 rfl ?_
  refine v_aload_n 0 dX11_isOff_1 rfl ?_
  refine gM_61 dX11_isOff_2 ?_
  refine v_iload_n 1 dX11_isOff_5 rfl ?_
  obtain ⟨g1, h⟩ := Ok.guard h
  refine lM_16 g1 dX11_isOff_6 ?_
  refine v_aload_n 0 dX11_isOff_7 rfl ?_
  refine gM_64 dX11_isOff_8 ?_
  refine v_iload_n 1 dX11_isOff_11 rfl ?_
  refine lM_17 g1 dX11_isOff_12 ?_
  refine v_aload_n 0 dX11_isOff_13 rfl ?_
  refine gM_67 dX11_isOff_14 ?_
  refine v_iload_n 1 dX11_isOff_17 rfl ?_
  refine lM_18 g1 dX11_isOff_18 ?_
  refine v_aload_n 0 dX11_isOff_19 rfl ?_
  refine gM_152 dX11_isOff_20 ?_
  refine cM_190 (Ok.bind h) ⟨Nat.le_of_ble_eq_true rfl, Nat.le_of_ble_eq_true rfl⟩ (Nat.le_of_ble_eq_true rfl) dX11_isOff_23 (fun r2 h => ?_)
  refine v_iload_n 2 dX11_isOff_26 rfl ?_
  refine v_ishr dX11_isOff_27 ?_
  refine v_iconst dX11_isOff_28 ic_1 ?_
  refine v_iand dX11_isOff_29 ?_
  refine v_iconst dX11_isOff_30 ic_1 ?_
  refine v_icmp_ne (tgt := 38) dX11_isOff_31 rfl (fun c3 => ?_) (fun c3 => ?_)
  · have h := Ok.neg h c3
    refine v_iconst dX11_isOff_38 ic_0 ?_
    have h := Ok.ret h
    exact v_zret rfl zB_0 (Nat.zero_le _) (Nat.zero_le _) dX11_isOff_39 (h zB_0)
  · have h := Ok.pos h c3
    refine v_iconst dX11_isOff_34 ic_1 ?_
    refine v_goto (tgt := 39) dX11_isOff_35 rfl ?_
    have h := Ok.ret h
    exact v_zret rfl zB_1 (Nat.zero_le _) (Nat.zero_le _) dX11_isOff_39 (h zB_1)
theorem cM_197 {l : Launch} {D : va_G} {dA : Nat → ClassId} {A : Nat → Prop} {lc : Nat → Nat → Nat} {s : tt_St} {cc : ByteArray} {nl : Nat} {rt : Option FieldType} {rm : Room} {tn : tt_Tn} {Q : tt_Fin} {pc : Nat} {lv : List (Nat × Value)} {rest : List Value} {ck cn : Nat} {x1 : Int32} {x2 : Int32} {K : Int32 → Prop} (h : Ok (fM_isOff s x1 x2) K) (hR : 1 + 1 ≤ rm.frames ∧ 8 + (3 + 11) + 27 ≤ rm.locals) (hW : (rest.map fun v => v.category).sum ≤ 8) (d : decode cc pc = .ok (.invokevirtual 197, 3)) (kk : ∀ r, zB r → K r → tt_V (XM l D dA A) cc (RX11, nl, rt, rm, tn) Q (pc + 3) lv (.int r :: rest) lc s ck cn) (hf : ck ≤ rm.cells ∧ cn ≤ rm.slots := by exact ⟨Nat.zero_le _, Nat.zero_le _⟩) : tt_V (XM l D dA A) cc (RX11, nl, rt, rm, tn) Q pc lv (.int x2 :: .int x1 :: .ref (lc 0 0) :: rest) lc s ck cn :=
  v_callV (kd := 0) (i := 0) (nA := 2) (As := [.int x1, .int x2]) lvM_0 oM rfl (mM_isOff l D dA A lc s x1 x2 (Q := (fun v lc' s' => ∃ r, zB r ∧ K r ∧ v = some (.int r) ∧ lc' = lc ∧ s' = s)) (h.mono (fun r hr => fun hz => ⟨r, hz, hr, rfl, rfl, rfl⟩))) (lw_V q2008 q2010 qs70 q154 q2011) (by decide +kernel) rfl hR hW hf d rfl (fun v lc' s' q => by obtain ⟨r, hz, hr, e1, e2, e3⟩ := q; rw [e1, e2, e3]; exact kk r hz hr)
def fM_isLacking (s : tt_St) (x1 : Int32) : Option (Int32) :=
  if (((rdI s 0 0 29) >>> (x1 &&& 31)) &&& (1 : Int32)) = (1 : Int32) then some (1 : Int32) else some (0 : Int32)
abbrev rM_isLacking : Room := { frames := 0, cells := 0, slots := 0, locals := 0 }
set_option maxHeartbeats 4000000 in
theorem mM_isLacking (l : Launch) (D : va_G) (dA : Nat → ClassId) (A : Nat → Prop) (lc : Nat → Nat → Nat) (s : tt_St) (x1 : Int32) {Q : Option Value → (Nat → Nat → Nat) → tt_St → Prop} (h : Ok (fM_isLacking s x1) (fun r => zB r → Q (some (.int r)) lc s)) : tt_Sp (XM l D dA A) yX11_isLacking cX11_isLacking 2 (some .boolean) rM_isLacking [.ref (lc 0 0), .int x1] lc s Q := by
  refine tt_Sp.ofV plM kokM (Nat.le_of_ble_eq_true rfl) ?_
  show tt_V (XM l D dA A) cX11_isLacking (RX11, 2, (some .boolean), rM_isLacking, tt_nt) (tt_fn (XM l D dA A) (RX11, 2, (some .boolean), rM_isLacking, tt_nt) Q) 0 [(0, .ref (lc 0 0)), (1, .int x1)] [] lc s 0 0
  unfold fM_isLacking at h
  refine v_aload_n 0 dX11_isLacking_0 rfl ?_
  refine gM_149 dX11_isLacking_1 ?_
  refine v_iload_n 1 dX11_isLacking_4 rfl ?_
  refine v_ishr dX11_isLacking_5 ?_
  refine v_iconst dX11_isLacking_6 ic_1 ?_
  refine v_iand dX11_isLacking_7 ?_
  refine v_iconst dX11_isLacking_8 ic_1 ?_
  refine v_icmp_ne (tgt := 16) dX11_isLacking_9 rfl (fun c1 => ?_) (fun c1 => ?_)
  · have h := Ok.neg h c1
    refine v_iconst dX11_isLacking_16 ic_0 ?_
    have h := Ok.ret h
    exact v_zret rfl zB_0 (Nat.zero_le _) (Nat.zero_le _) dX11_isLacking_17 (h zB_0)
  · have h := Ok.pos h c1
    refine v_iconst dX11_isLacking_12 ic_1 ?_
    refine v_goto (tgt := 17) dX11_isLacking_13 rfl ?_
    have h := Ok.ret h
    exact v_zret rfl zB_1 (Nat.zero_le _) (Nat.zero_le _) dX11_isLacking_17 (h zB_1)
theorem cM_201 {l : Launch} {D : va_G} {dA : Nat → ClassId} {A : Nat → Prop} {lc : Nat → Nat → Nat} {s : tt_St} {cc : ByteArray} {nl : Nat} {rt : Option FieldType} {rm : Room} {tn : tt_Tn} {Q : tt_Fin} {pc : Nat} {lv : List (Nat × Value)} {rest : List Value} {ck cn : Nat} {x1 : Int32} {K : Int32 → Prop} (h : Ok (fM_isLacking s x1) K) (hR : 0 + 1 ≤ rm.frames ∧ 8 + (2 + 11) + 0 ≤ rm.locals) (hW : (rest.map fun v => v.category).sum ≤ 8) (d : decode cc pc = .ok (.invokevirtual 201, 3)) (kk : ∀ r, zB r → K r → tt_V (XM l D dA A) cc (RX11, nl, rt, rm, tn) Q (pc + 3) lv (.int r :: rest) lc s ck cn) (hf : ck ≤ rm.cells ∧ cn ≤ rm.slots := by exact ⟨Nat.zero_le _, Nat.zero_le _⟩) : tt_V (XM l D dA A) cc (RX11, nl, rt, rm, tn) Q pc lv (.int x1 :: .ref (lc 0 0) :: rest) lc s ck cn :=
  v_callV (kd := 0) (i := 0) (nA := 1) (As := [.int x1]) lvM_0 oM rfl (mM_isLacking l D dA A lc s x1 (Q := (fun v lc' s' => ∃ r, zB r ∧ K r ∧ v = some (.int r) ∧ lc' = lc ∧ s' = s)) (h.mono (fun r hr => fun hz => ⟨r, hz, hr, rfl, rfl, rfl⟩))) (lw_V q1936 q1938 qs52 q154 q1939) (by decide +kernel) rfl hR hW hf d rfl (fun v lc' s' q => by obtain ⟨r, hz, hr, e1, e2, e3⟩ := q; rw [e1, e2, e3]; exact kk r hz hr)
def fM_weightSum_L5 (s : tt_St) (x1 : Int32) (a1 : Int64 × Int32) : Option ((Int64 × Int32) ⊕ (Int64 × Int32)) :=
  if x1 ≤ a1.2 then some (.inr (a1.1, a1.2)) else if inB a1.2 40 then nm (a1.1 + (rdL s 36 0 a1.2.toNatClampNeg)) fun v5 => some (.inl (v5, (a1.2 + 1 : Int32))) else none
def fM_weightSum (s : tt_St) (x1 : Int32) : Option (Int64) :=
  (itr (fM_weightSum_L5 s x1) tt_fuel ((0 : Int64), (0 : Int32))).bind fun b2 => some b2.1
abbrev rM_weightSum : Room := { frames := 0, cells := 0, slots := 0, locals := 0 }
set_option maxHeartbeats 4000000 in
theorem mM_weightSum (l : Launch) (D : va_G) (dA : Nat → ClassId) (A : Nat → Prop) (lc : Nat → Nat → Nat) (s : tt_St) (x1 : Int32) {Q : Option Value → (Nat → Nat → Nat) → tt_St → Prop} (h : Ok (fM_weightSum s x1) (fun r => Q (some (.long r)) lc s)) : tt_Sp (XM l D dA A) yX11_weightSum cX11_weightSum 5 (some .long) rM_weightSum [.ref (lc 0 0), .int x1] lc s Q := by
  refine tt_Sp.ofV plM kokM (Nat.le_of_ble_eq_true rfl) ?_
  show tt_V (XM l D dA A) cX11_weightSum (RX11, 5, (some .long), rM_weightSum, tt_nt) (tt_fn (XM l D dA A) (RX11, 5, (some .long), rM_weightSum, tt_nt) Q) 0 [(0, .ref (lc 0 0)), (1, .int x1)] [] lc s 0 0
  unfold fM_weightSum at h
  refine v_lconst dX11_weightSum_0 kl_0 ?_
  refine v_lstore_n [(2, .long (0 : Int64)), (0, .ref (lc 0 0)), (1, .int x1)] dX11_weightSum_1 (Nat.le_of_ble_eq_true rfl) rfl ?_
  refine v_iconst dX11_weightSum_2 ic_0 ?_
  refine v_istore [(4, .int (0 : Int32)), (2, .long (0 : Int64)), (0, .ref (lc 0 0)), (1, .int x1)] dX11_weightSum_3 (Nat.le_of_ble_eq_true rfl) rfl ?_
  refine v_sub [2, 3, 1, 0] rfl ?_
  refine itr_loop (P := fun a1 : Int64 × Int32 => tt_V (XM l D dA A) cX11_weightSum (RX11, 5, (some .long), rM_weightSum, tt_nt) (tt_fn (XM l D dA A) (RX11, 5, (some .long), rM_weightSum, tt_nt) Q) 5 [(0, .ref (lc 0 0)), (1, .int x1), (2, .long a1.1), (4, .int a1.2)] [] lc s 0 0) (PE := fun b2 : Int64 × Int32 => tt_V (XM l D dA A) cX11_weightSum (RX11, 5, (some .long), rM_weightSum, tt_nt) (tt_fn (XM l D dA A) (RX11, 5, (some .long), rM_weightSum, tt_nt) Q) 27 [(0, .ref (lc 0 0)), (1, .int x1), (2, .long b2.1), (4, .int b2.2)] [] lc s 0 0) h (fun b2 h => ?_) (fun a1 h => ?_)
  · refine v_lload_n 2 dX11_weightSum_27 rfl ?_
    have h := Ok.ret h
    exact v_lret rfl (Nat.zero_le _) (Nat.zero_le _) dX11_weightSum_28 h
  · have h : Ok (fM_weightSum_L5 s x1 a1) _ := h
    unfold fM_weightSum_L5 at h
    refine v_iload 3 dX11_weightSum_5 rfl ?_
    refine v_iload_n 1 dX11_weightSum_7 rfl ?_
    refine v_icmp_ge (tgt := 27) dX11_weightSum_8 rfl (fun c3 => ?_) (fun c3 => ?_)
    · have h := Ok.pos h c3
      have h := Ok.ret h
      exact h
    · have h := Ok.neg h c3
      refine v_lload_n 2 dX11_weightSum_11 rfl ?_
      refine v_aload_n 0 dX11_weightSum_12 rfl ?_
      refine gM_109 dX11_weightSum_13 ?_
      refine v_iload 3 dX11_weightSum_16 rfl ?_
      obtain ⟨g4, h⟩ := Ok.guard h
      refine lM_36 g4 dX11_weightSum_18 ?_
      refine v_ladd dX11_weightSum_19 ?_
      refine v_nmL (fun v5 e_v5 => ?_)
      have h := Ok.nm h e_v5
      refine v_lstore_n [(2, .long v5), (0, .ref (lc 0 0)), (1, .int x1), (4, .int a1.2)] dX11_weightSum_20 (Nat.le_of_ble_eq_true rfl) rfl ?_
      refine v_iinc (v := (a1.2 + 1 : Int32)) 3 [(4, .int (a1.2 + 1 : Int32)), (2, .long v5), (0, .ref (lc 0 0)), (1, .int x1)] dX11_weightSum_21 rfl (by rw [ic_1]) (Nat.le_of_ble_eq_true rfl) rfl ?_
      refine v_goto (tgt := 5) dX11_weightSum_24 rfl ?_
      refine v_sub [2, 3, 1, 0] rfl ?_
      have h := Ok.ret h
      exact h
theorem cM_194 {l : Launch} {D : va_G} {dA : Nat → ClassId} {A : Nat → Prop} {lc : Nat → Nat → Nat} {s : tt_St} {cc : ByteArray} {nl : Nat} {rt : Option FieldType} {rm : Room} {tn : tt_Tn} {Q : tt_Fin} {pc : Nat} {lv : List (Nat × Value)} {rest : List Value} {ck cn : Nat} {x1 : Int32} {K : Int64 → Prop} (h : Ok (fM_weightSum s x1) K) (hR : 0 + 1 ≤ rm.frames ∧ 8 + (5 + 11) + 0 ≤ rm.locals) (hW : (rest.map fun v => v.category).sum ≤ 8) (d : decode cc pc = .ok (.invokevirtual 194, 3)) (kk : ∀ r, K r → tt_V (XM l D dA A) cc (RX11, nl, rt, rm, tn) Q (pc + 3) lv (.long r :: rest) lc s ck cn) (hf : ck ≤ rm.cells ∧ cn ≤ rm.slots := by exact ⟨Nat.zero_le _, Nat.zero_le _⟩) : tt_V (XM l D dA A) cc (RX11, nl, rt, rm, tn) Q pc lv (.int x1 :: .ref (lc 0 0) :: rest) lc s ck cn :=
  v_callV (kd := 0) (i := 0) (nA := 1) (As := [.int x1]) lvM_0 oM rfl (mM_weightSum l D dA A lc s x1 (Q := (fun v lc' s' => ∃ r, K r ∧ v = some (.long r) ∧ lc' = lc ∧ s' = s)) (h.mono (fun r hr => ⟨r, hr, rfl, rfl, rfl⟩))) (lw_V q2020 q2022 qs73 q154 q2023) (by decide +kernel) rfl hR hW hf d rfl (fun v lc' s' q => by obtain ⟨r, hr, e1, e2, e3⟩ := q; rw [e1, e2, e3]; exact kk r hr)
def fM_shares_L75 (x3 : Int32) (a9 : Int64 × Int32 × tt_St) : Option ((Int64 × Int32 × tt_St) ⊕ (Int64 × Int32 × tt_St)) :=
  if x3 ≤ a9.2.1 then some (.inr (a9.1, a9.2.1, a9.2.2)) else if a9.1 = (0 : Int64) then some (.inl (a9.1, (a9.2.1 + 1 : Int32), a9.2.2)) else if inB a9.2.1 40 then if (rdL a9.2.2 36 0 a9.2.1.toNatClampNeg) = (0 : Int64) then some (.inl (a9.1, (a9.2.1 + 1 : Int32), a9.2.2)) else nm (wrL a9.2.2 37 0 a9.2.1.toNatClampNeg ((rdL a9.2.2 37 0 a9.2.1.toNatClampNeg) + (1 : Int64))) fun s15 => nm (a9.1 - (1 : Int64)) fun v16 => some (.inl (v16, (a9.2.1 + 1 : Int32), s15)) else none
def fM_shares_L13 (x1 : Int64) (x3 : Int32) (r1 : Int64) (a2 : Int64 × Int32 × tt_St) : Option ((Int64 × Int32 × tt_St) ⊕ (Int64 × Int32 × tt_St)) :=
  if x3 ≤ a2.2.1 then some (.inr (a2.1, a2.2.1, a2.2.2)) else if ¬ r1 = 0 then if inB a2.2.1 40 then nm (wrL a2.2.2 37 0 a2.2.1.toNatClampNeg (((x1 / r1) * (rdL a2.2.2 36 0 a2.2.1.toNatClampNeg)) + (((x1 - x1 / r1 * r1) * (rdL a2.2.2 36 0 a2.2.1.toNatClampNeg)) / r1))) fun s7 => nm (a2.1 - (rdL s7 37 0 a2.2.1.toNatClampNeg)) fun v8 => some (.inl (v8, (a2.2.1 + 1 : Int32), s7)) else none else none
def fM_shares (s : tt_St) (x1 : Int64) (x3 : Int32) : Option (tt_St) :=
  (fM_weightSum s x3).bind fun r1 => (itr (fM_shares_L13 x1 x3 r1) tt_fuel (x1, (0 : Int32), s)).bind fun b3 => (itr (fM_shares_L75 x3) tt_fuel (b3.1, (0 : Int32), b3.2.2)).bind fun b10 => some b10.2.2
abbrev rM_shares : Room := { frames := 1, cells := 0, slots := 0, locals := 24 }
set_option maxHeartbeats 4000000 in
theorem mM_shares (l : Launch) (D : va_G) (dA : Nat → ClassId) (A : Nat → Prop) (lc : Nat → Nat → Nat) (s : tt_St) (x1 : Int64) (x3 : Int32) {Q : Option Value → (Nat → Nat → Nat) → tt_St → Prop} (h : Ok (fM_shares s x1 x3) (fun r => Q none lc r)) : tt_Sp (XM l D dA A) yX11_shares cX11_shares 9 none rM_shares [.ref (lc 0 0), .long x1, .int x3] lc s Q := by
  refine tt_Sp.ofV plM kokM (Nat.le_of_ble_eq_true rfl) ?_
  show tt_V (XM l D dA A) cX11_shares (RX11, 9, none, rM_shares, tt_nt) (tt_fn (XM l D dA A) (RX11, 9, none, rM_shares, tt_nt) Q) 0 [(0, .ref (lc 0 0)), (1, .long x1), (3, .int x3)] [] lc s 0 0
  unfold fM_shares at h
  refine v_aload_n 0 dX11_shares_0 rfl ?_
  refine v_iload_n 2 dX11_shares_1 rfl ?_
  refine cM_194 (Ok.bind h) ⟨Nat.le_of_ble_eq_true rfl, Nat.le_of_ble_eq_true rfl⟩ (Nat.le_of_ble_eq_true rfl) dX11_shares_2 (fun r1 h => ?_)
  refine v_lstore [(4, .long r1), (0, .ref (lc 0 0)), (1, .long x1), (3, .int x3)] dX11_shares_5 (Nat.le_of_ble_eq_true rfl) rfl ?_
  refine v_lload_n 2 dX11_shares_7 rfl ?_
  refine v_lstore [(6, .long x1), (4, .long r1), (0, .ref (lc 0 0)), (1, .long x1), (3, .int x3)] dX11_shares_8 (Nat.le_of_ble_eq_true rfl) rfl ?_
  refine v_iconst dX11_shares_10 ic_0 ?_
  refine v_istore [(8, .int (0 : Int32)), (6, .long x1), (4, .long r1), (0, .ref (lc 0 0)), (1, .long x1), (3, .int x3)] dX11_shares_11 (Nat.le_of_ble_eq_true rfl) rfl ?_
  refine v_sub [3, 4, 5, 2, 1, 0] rfl ?_
  refine itr_loop (P := fun a2 : Int64 × Int32 × tt_St => tt_V (XM l D dA A) cX11_shares (RX11, 9, none, rM_shares, tt_nt) (tt_fn (XM l D dA A) (RX11, 9, none, rM_shares, tt_nt) Q) 13 [(0, .ref (lc 0 0)), (1, .long x1), (3, .int x3), (4, .long r1), (6, .long a2.1), (8, .int a2.2.1)] [] lc a2.2.2 0 0) (PE := fun b3 : Int64 × Int32 × tt_St => tt_V (XM l D dA A) cX11_shares (RX11, 9, none, rM_shares, tt_nt) (tt_fn (XM l D dA A) (RX11, 9, none, rM_shares, tt_nt) Q) 72 [(0, .ref (lc 0 0)), (1, .long x1), (3, .int x3), (4, .long r1), (6, .long b3.1), (8, .int b3.2.1)] [] lc b3.2.2 0 0) h (fun b3 h => ?_) (fun a2 h => ?_)
  · refine v_iconst dX11_shares_72 ic_0 ?_
    refine v_istore [(8, .int (0 : Int32)), (0, .ref (lc 0 0)), (1, .long x1), (3, .int x3), (4, .long r1), (6, .long b3.1)] dX11_shares_73 (Nat.le_of_ble_eq_true rfl) rfl ?_
    refine v_sub [1, 3, 5, 0] rfl ?_
    refine itr_loop (P := fun a9 : Int64 × Int32 × tt_St => tt_V (XM l D dA A) cX11_shares (RX11, 9, none, rM_shares, tt_nt) (tt_fn (XM l D dA A) (RX11, 9, none, rM_shares, tt_nt) Q) 75 [(0, .ref (lc 0 0)), (3, .int x3), (6, .long a9.1), (8, .int a9.2.1)] [] lc a9.2.2 0 0) (PE := fun b10 : Int64 × Int32 × tt_St => tt_V (XM l D dA A) cX11_shares (RX11, 9, none, rM_shares, tt_nt) (tt_fn (XM l D dA A) (RX11, 9, none, rM_shares, tt_nt) Q) 126 [(0, .ref (lc 0 0)), (3, .int x3), (6, .long b10.1), (8, .int b10.2.1)] [] lc b10.2.2 0 0) h (fun b10 h => ?_) (fun a9 h => ?_)
    · have h := Ok.ret h
      exact v_vret rfl (Nat.zero_le _) (Nat.zero_le _) dX11_shares_126 h
    · have h : Ok (fM_shares_L75 x3 a9) _ := h
      unfold fM_shares_L75 at h
      refine v_iload 3 dX11_shares_75 rfl ?_
      refine v_iload_n 1 dX11_shares_77 rfl ?_
      refine v_icmp_ge (tgt := 126) dX11_shares_78 rfl (fun c11 => ?_) (fun c11 => ?_)
      · have h := Ok.pos h c11
        have h := Ok.ret h
        exact h
      · have h := Ok.neg h c11
        refine v_lload 2 dX11_shares_81 rfl ?_
        refine v_lconst dX11_shares_83 kl_0 ?_
        refine v_lif_eq (tgt := 120) dX11_shares_84 dX11_shares_85 rfl (fun c12 => ?_) (fun c12 => ?_)
        · have h := Ok.pos h c12
          refine v_iinc (v := (a9.2.1 + 1 : Int32)) 3 [(8, .int (a9.2.1 + 1 : Int32)), (0, .ref (lc 0 0)), (3, .int x3), (6, .long a9.1)] dX11_shares_120 rfl (by rw [ic_1]) (Nat.le_of_ble_eq_true rfl) rfl ?_
          refine v_goto (tgt := 75) dX11_shares_123 rfl ?_
          refine v_sub [1, 2, 3, 0] rfl ?_
          have h := Ok.ret h
          exact h
        · have h := Ok.neg h c12
          refine v_aload_n 0 dX11_shares_88 rfl ?_
          refine gM_109 dX11_shares_89 ?_
          refine v_iload 3 dX11_shares_92 rfl ?_
          obtain ⟨g13, h⟩ := Ok.guard h
          refine lM_36 g13 dX11_shares_94 ?_
          refine v_lconst dX11_shares_95 kl_0 ?_
          refine v_lif_ne (tgt := 103) dX11_shares_96 dX11_shares_97 rfl (fun c14 => ?_) (fun c14 => ?_)
          · have h := Ok.neg h c14
            refine v_aload_n 0 dX11_shares_103 rfl ?_
            refine gM_112 dX11_shares_104 ?_
            refine v_iload 3 dX11_shares_107 rfl ?_
            refine v_dup2_11 dX11_shares_109 rfl rfl ?_
            refine lM_37 g13 dX11_shares_110 ?_
            refine v_lconst dX11_shares_111 kl_1 ?_
            refine v_ladd dX11_shares_112 ?_
            refine sM_37 g13 dX11_shares_113 ?_
            refine v_nmS (fun s15 e_s15 => ?_)
            have h := Ok.nm h e_s15
            refine v_lload 2 dX11_shares_114 rfl ?_
            refine v_lconst dX11_shares_116 kl_1 ?_
            refine v_lsub dX11_shares_117 ?_
            refine v_nmL (fun v16 e_v16 => ?_)
            have h := Ok.nm h e_v16
            refine v_lstore [(6, .long v16), (0, .ref (lc 0 0)), (3, .int x3), (8, .int a9.2.1)] dX11_shares_118 (Nat.le_of_ble_eq_true rfl) rfl ?_
            refine v_iinc (v := (a9.2.1 + 1 : Int32)) 3 [(8, .int (a9.2.1 + 1 : Int32)), (6, .long v16), (0, .ref (lc 0 0)), (3, .int x3)] dX11_shares_120 rfl (by rw [ic_1]) (Nat.le_of_ble_eq_true rfl) rfl ?_
            refine v_goto (tgt := 75) dX11_shares_123 rfl ?_
            refine v_sub [2, 3, 1, 0] rfl ?_
            have h := Ok.ret h
            exact h
          · have h := Ok.pos h c14
            refine v_goto (tgt := 120) dX11_shares_100 rfl ?_
            refine v_iinc (v := (a9.2.1 + 1 : Int32)) 3 [(8, .int (a9.2.1 + 1 : Int32)), (0, .ref (lc 0 0)), (3, .int x3), (6, .long a9.1)] dX11_shares_120 rfl (by rw [ic_1]) (Nat.le_of_ble_eq_true rfl) rfl ?_
            refine v_goto (tgt := 75) dX11_shares_123 rfl ?_
            refine v_sub [1, 2, 3, 0] rfl ?_
            have h := Ok.ret h
            exact h
  · have h : Ok (fM_shares_L13 x1 x3 r1 a2) _ := h
    unfold fM_shares_L13 at h
    refine v_iload 5 dX11_shares_13 rfl ?_
    refine v_iload_n 2 dX11_shares_15 rfl ?_
    refine v_icmp_ge (tgt := 72) dX11_shares_16 rfl (fun c4 => ?_) (fun c4 => ?_)
    · have h := Ok.pos h c4
      have h := Ok.ret h
      exact h
    · have h := Ok.neg h c4
      refine v_aload_n 0 dX11_shares_19 rfl ?_
      refine gM_112 dX11_shares_20 ?_
      refine v_iload 5 dX11_shares_23 rfl ?_
      refine v_lload_n 1 dX11_shares_25 rfl ?_
      refine v_lload 3 dX11_shares_26 rfl ?_
      obtain ⟨g5, h⟩ := Ok.guard h
      refine v_ldiv dX11_shares_28 g5 ?_
      refine v_aload_n 0 dX11_shares_29 rfl ?_
      refine gM_109 dX11_shares_30 ?_
      refine v_iload 5 dX11_shares_33 rfl ?_
      obtain ⟨g6, h⟩ := Ok.guard h
      refine lM_36 g6 dX11_shares_35 ?_
      refine v_lmul dX11_shares_36 ?_
      refine v_lload_n 1 dX11_shares_37 rfl ?_
      refine v_lload 3 dX11_shares_38 rfl ?_
      refine v_lrem dX11_shares_40 g5 ?_
      refine v_aload_n 0 dX11_shares_41 rfl ?_
      refine gM_109 dX11_shares_42 ?_
      refine v_iload 5 dX11_shares_45 rfl ?_
      refine lM_36 g6 dX11_shares_47 ?_
      refine v_lmul dX11_shares_48 ?_
      refine v_lload 3 dX11_shares_49 rfl ?_
      refine v_ldiv dX11_shares_51 g5 ?_
      refine v_ladd dX11_shares_52 ?_
      refine sM_37 g6 dX11_shares_53 ?_
      refine v_nmS (fun s7 e_s7 => ?_)
      have h := Ok.nm h e_s7
      refine v_lload 4 dX11_shares_54 rfl ?_
      refine v_aload_n 0 dX11_shares_56 rfl ?_
      refine gM_112 dX11_shares_57 ?_
      refine v_iload 5 dX11_shares_60 rfl ?_
      refine lM_37 g6 dX11_shares_62 ?_
      refine v_lsub dX11_shares_63 ?_
      refine v_nmL (fun v8 e_v8 => ?_)
      have h := Ok.nm h e_v8
      refine v_lstore [(6, .long v8), (0, .ref (lc 0 0)), (1, .long x1), (3, .int x3), (4, .long r1), (8, .int a2.2.1)] dX11_shares_64 (Nat.le_of_ble_eq_true rfl) rfl ?_
      refine v_iinc (v := (a2.2.1 + 1 : Int32)) 5 [(8, .int (a2.2.1 + 1 : Int32)), (6, .long v8), (0, .ref (lc 0 0)), (1, .long x1), (3, .int x3), (4, .long r1)] dX11_shares_66 rfl (by rw [ic_1]) (Nat.le_of_ble_eq_true rfl) rfl ?_
      refine v_goto (tgt := 13) dX11_shares_69 rfl ?_
      refine v_sub [2, 3, 4, 5, 1, 0] rfl ?_
      have h := Ok.ret h
      exact h
theorem cM_211 {l : Launch} {D : va_G} {dA : Nat → ClassId} {A : Nat → Prop} {lc : Nat → Nat → Nat} {s : tt_St} {cc : ByteArray} {nl : Nat} {rt : Option FieldType} {rm : Room} {tn : tt_Tn} {Q : tt_Fin} {pc : Nat} {lv : List (Nat × Value)} {rest : List Value} {ck cn : Nat} {x1 : Int64} {x3 : Int32} {K : tt_St → Prop} (h : Ok (fM_shares s x1 x3) K) (hR : 1 + 1 ≤ rm.frames ∧ 8 + (9 + 11) + 24 ≤ rm.locals) (hW : (rest.map fun v => v.category).sum ≤ 8) (d : decode cc pc = .ok (.invokevirtual 211, 3)) (kk : ∀ r, K r → tt_V (XM l D dA A) cc (RX11, nl, rt, rm, tn) Q (pc + 3) lv rest lc r ck cn) (hf : ck ≤ rm.cells ∧ cn ≤ rm.slots := by exact ⟨Nat.zero_le _, Nat.zero_le _⟩) : tt_V (XM l D dA A) cc (RX11, nl, rt, rm, tn) Q pc lv (.int x3 :: .long x1 :: .ref (lc 0 0) :: rest) lc s ck cn :=
  v_callV (kd := 0) (i := 0) (nA := 2) (As := [.long x1, .int x3]) lvM_0 oM rfl (mM_shares l D dA A lc s x1 x3 (Q := (fun v lc' s' => ∃ r, K r ∧ v = none ∧ lc' = lc ∧ s' = r)) (h.mono (fun r hr => ⟨r, hr, rfl, rfl, rfl⟩))) (lw_V q2024 q2026 qs74 q154 q2027) (by decide +kernel) rfl hR hW hf d rfl (fun v lc' s' q => by obtain ⟨r, hr, e1, e2, e3⟩ := q; rw [e1, e2, e3]; exact kk r hr)
def fM_fills_L6 (x1 : Int32) (x2 : Int32) (a1 : Int64 × Int32 × tt_St) : Option ((Int64 × Int32 × tt_St) ⊕ (Int64 × Int32 × tt_St)) :=
  (fM_layersOf a1.2.2 x2).bind fun r3 => if r3 ≤ a1.2.1 then some (.inr (a1.1, a1.2.1, a1.2.2)) else (fM_rungOf a1.2.2 x2 a1.2.1).bind fun r5 => (fM_holeLeft a1.2.2 x1 r5).bind fun r6 => (fM_least a1.1 r6).bind fun r7 => if inB (((40 : Int32) * x1) + r5) 1000 then nm (wrL a1.2.2 22 0 (((40 : Int32) * x1) + r5).toNatClampNeg ((rdL a1.2.2 22 0 (((40 : Int32) * x1) + r5).toNatClampNeg) + r7)) fun s9 => if inB (((7 : Int32) * x1) + (1 : Int32)) 175 then nm (wrL s9 26 0 (((7 : Int32) * x1) + (1 : Int32)).toNatClampNeg ((rdL s9 26 0 (((7 : Int32) * x1) + (1 : Int32)).toNatClampNeg) + r7)) fun s11 => nm (a1.1 - r7) fun v12 => (fM_canTake s11 x1 r5).bind fun r13 => (fM_least v12 r13).bind fun r14 => nm (wrL s11 21 0 (((40 : Int32) * x1) + r5).toNatClampNeg ((rdL s11 21 0 (((40 : Int32) * x1) + r5).toNatClampNeg) + r14)) fun s15 => if inB r5 40 then nm (wrL s15 15 0 r5.toNatClampNeg ((rdL s15 15 0 r5.toNatClampNeg) + r14)) fun s17 => nm (wrL s17 38 0 r5.toNatClampNeg ((rdL s17 38 0 r5.toNatClampNeg) + r14)) fun s18 => nm (v12 - r14) fun v19 => some (.inl (v19, (a1.2.1 + 1 : Int32), s18)) else none else none else none
def fM_fills (s : tt_St) (x1 : Int32) (x2 : Int32) (x3 : Int64) : Option (Int64 × tt_St) :=
  (itr (fM_fills_L6 x1 x2) tt_fuel (x3, (0 : Int32), s)).bind fun b2 => some (b2.1, b2.2.2)
abbrev rM_fills : Room := { frames := 2, cells := 0, slots := 0, locals := 45 }
set_option maxHeartbeats 4000000 in
theorem mM_fills (l : Launch) (D : va_G) (dA : Nat → ClassId) (A : Nat → Prop) (lc : Nat → Nat → Nat) (s : tt_St) (x1 : Int32) (x2 : Int32) (x3 : Int64) {Q : Option Value → (Nat → Nat → Nat) → tt_St → Prop} (h : Ok (fM_fills s x1 x2 x3) (fun r => Q (some (.long r.1)) lc r.2)) : tt_Sp (XM l D dA A) yX11_fills cX11_fills 13 (some .long) rM_fills [.ref (lc 0 0), .int x1, .int x2, .long x3] lc s Q := by
  refine tt_Sp.ofV plM kokM (Nat.le_of_ble_eq_true rfl) ?_
  show tt_V (XM l D dA A) cX11_fills (RX11, 13, (some .long), rM_fills, tt_nt) (tt_fn (XM l D dA A) (RX11, 13, (some .long), rM_fills, tt_nt) Q) 0 [(0, .ref (lc 0 0)), (1, .int x1), (2, .int x2), (3, .long x3)] [] lc s 0 0
  unfold fM_fills at h
  refine v_lload_n 3 dX11_fills_0 rfl ?_
  refine v_lstore [(5, .long x3), (0, .ref (lc 0 0)), (1, .int x1), (2, .int x2), (3, .long x3)] dX11_fills_1 (Nat.le_of_ble_eq_true rfl) rfl ?_
  refine v_iconst dX11_fills_3 ic_0 ?_
  refine v_istore [(7, .int (0 : Int32)), (5, .long x3), (0, .ref (lc 0 0)), (1, .int x1), (2, .int x2), (3, .long x3)] dX11_fills_4 (Nat.le_of_ble_eq_true rfl) rfl ?_
  refine v_sub [2, 3, 4, 1, 0] rfl ?_
  refine itr_loop (P := fun a1 : Int64 × Int32 × tt_St => tt_V (XM l D dA A) cX11_fills (RX11, 13, (some .long), rM_fills, tt_nt) (tt_fn (XM l D dA A) (RX11, 13, (some .long), rM_fills, tt_nt) Q) 6 [(0, .ref (lc 0 0)), (1, .int x1), (2, .int x2), (5, .long a1.1), (7, .int a1.2.1)] [] lc a1.2.2 0 0) (PE := fun b2 : Int64 × Int32 × tt_St => tt_V (XM l D dA A) cX11_fills (RX11, 13, (some .long), rM_fills, tt_nt) (tt_fn (XM l D dA A) (RX11, 13, (some .long), rM_fills, tt_nt) Q) 147 [(0, .ref (lc 0 0)), (1, .int x1), (2, .int x2), (5, .long b2.1), (7, .int b2.2.1)] [] lc b2.2.2 0 0) h (fun b2 h => ?_) (fun a1 h => ?_)
  · refine v_lload 3 dX11_fills_147 rfl ?_
    have h := Ok.ret h
    exact v_lret rfl (Nat.zero_le _) (Nat.zero_le _) dX11_fills_149 h
  · have h : Ok (fM_fills_L6 x1 x2 a1) _ := h
    unfold fM_fills_L6 at h
    refine v_iload 4 dX11_fills_6 rfl ?_
    refine v_aload_n 0 dX11_fills_8 rfl ?_
    refine v_iload_n 2 dX11_fills_9 rfl ?_
    refine cM_169 (Ok.bind h) ⟨Nat.le_of_ble_eq_true rfl, Nat.le_of_ble_eq_true rfl⟩ (Nat.le_of_ble_eq_true rfl) dX11_fills_10 (fun r3 h => ?_)
    refine v_icmp_ge (tgt := 147) dX11_fills_13 rfl (fun c4 => ?_) (fun c4 => ?_)
    · have h := Ok.pos h c4
      have h := Ok.ret h
      exact h
    · have h := Ok.neg h c4
      refine v_aload_n 0 dX11_fills_16 rfl ?_
      refine v_iload_n 2 dX11_fills_17 rfl ?_
      refine v_iload 4 dX11_fills_18 rfl ?_
      refine cM_161 (Ok.bind h) ⟨Nat.le_of_ble_eq_true rfl, Nat.le_of_ble_eq_true rfl⟩ (Nat.le_of_ble_eq_true rfl) dX11_fills_20 (fun r5 h => ?_)
      refine v_istore [(8, .int r5), (0, .ref (lc 0 0)), (1, .int x1), (2, .int x2), (5, .long a1.1), (7, .int a1.2.1)] dX11_fills_23 (Nat.le_of_ble_eq_true rfl) rfl ?_
      refine v_lload 4 dX11_fills_25 rfl ?_
      refine v_aload_n 1 dX11_fills_27 rfl ?_
      refine v_iload_n 2 dX11_fills_28 rfl ?_
      refine v_iload 0 dX11_fills_29 rfl ?_
      refine cM_187 (Ok.bind h) ⟨Nat.le_of_ble_eq_true rfl, Nat.le_of_ble_eq_true rfl⟩ (Nat.le_of_ble_eq_true rfl) dX11_fills_31 (fun r6 h => ?_)
      refine cM_179 (Ok.bind h) ⟨Nat.le_of_ble_eq_true rfl, Nat.le_of_ble_eq_true rfl⟩ (Nat.le_of_ble_eq_true rfl) dX11_fills_34 (fun r7 h => ?_)
      refine v_lstore [(9, .long r7), (8, .int r5), (0, .ref (lc 0 0)), (1, .int x1), (2, .int x2), (5, .long a1.1), (7, .int a1.2.1)] dX11_fills_37 (Nat.le_of_ble_eq_true rfl) rfl ?_
      refine v_aload_n 2 dX11_fills_39 rfl ?_
      refine gM_79 dX11_fills_40 ?_
      refine v_bipush dX11_fills_43 kb_40 ?_
      refine v_iload_n 3 dX11_fills_45 rfl ?_
      refine v_imul dX11_fills_46 ?_
      refine v_iload 1 dX11_fills_47 rfl ?_
      refine v_iadd dX11_fills_49 ?_
      refine v_dup2_11 dX11_fills_50 rfl rfl ?_
      obtain ⟨g8, h⟩ := Ok.guard h
      refine lM_22 g8 dX11_fills_51 ?_
      refine v_lload 0 dX11_fills_52 rfl ?_
      refine v_ladd dX11_fills_54 ?_
      refine sM_22 g8 dX11_fills_55 ?_
      refine v_nmS (fun s9 e_s9 => ?_)
      have h := Ok.nm h e_s9
      refine v_aload_n 2 dX11_fills_56 rfl ?_
      refine gM_91 dX11_fills_57 ?_
      refine v_bipush dX11_fills_60 kb_7 ?_
      refine v_iload_n 3 dX11_fills_62 rfl ?_
      refine v_imul dX11_fills_63 ?_
      refine v_iconst dX11_fills_64 ic_1 ?_
      refine v_iadd dX11_fills_65 ?_
      refine v_dup2_11 dX11_fills_66 rfl rfl ?_
      obtain ⟨g10, h⟩ := Ok.guard h
      refine lM_26 g10 dX11_fills_67 ?_
      refine v_lload 0 dX11_fills_68 rfl ?_
      refine v_ladd dX11_fills_70 ?_
      refine sM_26 g10 dX11_fills_71 ?_
      refine v_nmS (fun s11 e_s11 => ?_)
      have h := Ok.nm h e_s11
      refine v_lload 5 dX11_fills_72 rfl ?_
      refine v_lload 0 dX11_fills_74 rfl ?_
      refine v_lsub dX11_fills_76 ?_
      refine v_nmL (fun v12 e_v12 => ?_)
      have h := Ok.nm h e_v12
      refine v_lstore [(5, .long v12), (9, .long r7), (8, .int r5), (0, .ref (lc 0 0)), (1, .int x1), (2, .int x2), (7, .int a1.2.1)] dX11_fills_77 (Nat.le_of_ble_eq_true rfl) rfl ?_
      refine v_lload 0 dX11_fills_79 rfl ?_
      refine v_aload_n 3 dX11_fills_81 rfl ?_
      refine v_iload_n 4 dX11_fills_82 rfl ?_
      refine v_iload 2 dX11_fills_83 rfl ?_
      refine cM_183 (Ok.bind h) ⟨Nat.le_of_ble_eq_true rfl, Nat.le_of_ble_eq_true rfl⟩ (Nat.le_of_ble_eq_true rfl) dX11_fills_85 (fun r13 h => ?_)
      refine cM_179 (Ok.bind h) ⟨Nat.le_of_ble_eq_true rfl, Nat.le_of_ble_eq_true rfl⟩ (Nat.le_of_ble_eq_true rfl) dX11_fills_88 (fun r14 h => ?_)
      refine v_lstore [(11, .long r14), (5, .long v12), (9, .long r7), (8, .int r5), (0, .ref (lc 0 0)), (1, .int x1), (2, .int x2), (7, .int a1.2.1)] dX11_fills_91 (Nat.le_of_ble_eq_true rfl) rfl ?_
      refine v_aload_n 4 dX11_fills_93 rfl ?_
      refine gM_76 dX11_fills_94 ?_
      refine v_bipush dX11_fills_97 kb_40 ?_
      refine v_iload_n 5 dX11_fills_99 rfl ?_
      refine v_imul dX11_fills_100 ?_
      refine v_iload 3 dX11_fills_101 rfl ?_
      refine v_iadd dX11_fills_103 ?_
      refine v_dup2_11 dX11_fills_104 rfl rfl ?_
      refine lM_21 g8 dX11_fills_105 ?_
      refine v_lload 0 dX11_fills_106 rfl ?_
      refine v_ladd dX11_fills_108 ?_
      refine sM_21 g8 dX11_fills_109 ?_
      refine v_nmS (fun s15 e_s15 => ?_)
      have h := Ok.nm h e_s15
      refine v_aload_n 4 dX11_fills_110 rfl ?_
      refine gM_57 dX11_fills_111 ?_
      refine v_iload 3 dX11_fills_114 rfl ?_
      refine v_dup2_11 dX11_fills_116 rfl rfl ?_
      obtain ⟨g16, h⟩ := Ok.guard h
      refine lM_15 g16 dX11_fills_117 ?_
      refine v_lload 0 dX11_fills_118 rfl ?_
      refine v_ladd dX11_fills_120 ?_
      refine sM_15 g16 dX11_fills_121 ?_
      refine v_nmS (fun s17 e_s17 => ?_)
      have h := Ok.nm h e_s17
      refine v_aload_n 4 dX11_fills_122 rfl ?_
      refine gM_115 dX11_fills_123 ?_
      refine v_iload 3 dX11_fills_126 rfl ?_
      refine v_dup2_11 dX11_fills_128 rfl rfl ?_
      refine lM_38 g16 dX11_fills_129 ?_
      refine v_lload 0 dX11_fills_130 rfl ?_
      refine v_ladd dX11_fills_132 ?_
      refine sM_38 g16 dX11_fills_133 ?_
      refine v_nmS (fun s18 e_s18 => ?_)
      have h := Ok.nm h e_s18
      refine v_lload 1 dX11_fills_134 rfl ?_
      refine v_lload 0 dX11_fills_136 rfl ?_
      refine v_lsub dX11_fills_138 ?_
      refine v_nmL (fun v19 e_v19 => ?_)
      have h := Ok.nm h e_v19
      refine v_lstore [(5, .long v19), (11, .long r14), (9, .long r7), (8, .int r5), (0, .ref (lc 0 0)), (1, .int x1), (2, .int x2), (7, .int a1.2.1)] dX11_fills_139 (Nat.le_of_ble_eq_true rfl) rfl ?_
      refine v_iinc (v := (a1.2.1 + 1 : Int32)) 7 [(7, .int (a1.2.1 + 1 : Int32)), (5, .long v19), (11, .long r14), (9, .long r7), (8, .int r5), (0, .ref (lc 0 0)), (1, .int x1), (2, .int x2)] dX11_fills_141 rfl (by rw [ic_1]) (Nat.le_of_ble_eq_true rfl) rfl ?_
      refine v_goto (tgt := 6) dX11_fills_144 rfl ?_
      refine v_sub [5, 6, 7, 1, 0] rfl ?_
      have h := Ok.ret h
      exact h
theorem cM_215 {l : Launch} {D : va_G} {dA : Nat → ClassId} {A : Nat → Prop} {lc : Nat → Nat → Nat} {s : tt_St} {cc : ByteArray} {nl : Nat} {rt : Option FieldType} {rm : Room} {tn : tt_Tn} {Q : tt_Fin} {pc : Nat} {lv : List (Nat × Value)} {rest : List Value} {ck cn : Nat} {x1 : Int32} {x2 : Int32} {x3 : Int64} {K : Int64 × tt_St → Prop} (h : Ok (fM_fills s x1 x2 x3) K) (hR : 2 + 1 ≤ rm.frames ∧ 8 + (13 + 11) + 45 ≤ rm.locals) (hW : (rest.map fun v => v.category).sum ≤ 8) (d : decode cc pc = .ok (.invokevirtual 215, 3)) (kk : ∀ r, K r → tt_V (XM l D dA A) cc (RX11, nl, rt, rm, tn) Q (pc + 3) lv (.long r.1 :: rest) lc r.2 ck cn) (hf : ck ≤ rm.cells ∧ cn ≤ rm.slots := by exact ⟨Nat.zero_le _, Nat.zero_le _⟩) : tt_V (XM l D dA A) cc (RX11, nl, rt, rm, tn) Q pc lv (.long x3 :: .int x2 :: .int x1 :: .ref (lc 0 0) :: rest) lc s ck cn :=
  v_callV (kd := 0) (i := 0) (nA := 3) (As := [.int x1, .int x2, .long x3]) lvM_0 oM rfl (mM_fills l D dA A lc s x1 x2 x3 (Q := (fun v lc' s' => ∃ r, K r ∧ v = some (.long r.1) ∧ lc' = lc ∧ s' = r.2)) (h.mono (fun r hr => ⟨r, hr, rfl, rfl, rfl⟩))) (lw_V q2032 q2034 qs76 q154 q2035) (by decide +kernel) rfl hR hW hf d rfl (fun v lc' s' q => by obtain ⟨r, hr, e1, e2, e3⟩ := q; rw [e1, e2, e3]; exact kk r hr)
def fM_laysLike_L2 (x1 : Int32) (a1 : Int32 × tt_St) : Option ((Int32 × tt_St) ⊕ (Int32 × tt_St)) :=
  if (12 : Int32) ≤ a1.1 then some (.inr (a1.1, a1.2)) else (fM_isOff a1.2 x1 a1.1).bind fun r4 => (if r4 = 0 then some (0 : Int64) else (fM_isLacking a1.2 a1.1).bind fun r7 => if r7 = 0 then some (1 : Int64) else some (0 : Int64) : Option (Int64)).bind fun t5 => if inB a1.1 40 then nm (wrL a1.2 36 0 a1.1.toNatClampNeg t5) fun s10 => some (.inl ((a1.1 + 1 : Int32), s10)) else none
def fM_laysLike (s : tt_St) (x1 : Int32) : Option (tt_St) :=
  (itr (fM_laysLike_L2 x1) tt_fuel ((0 : Int32), s)).bind fun b2 => some b2.2
abbrev rM_laysLike : Room := { frames := 2, cells := 0, slots := 0, locals := 49 }
set_option maxHeartbeats 4000000 in
theorem mM_laysLike (l : Launch) (D : va_G) (dA : Nat → ClassId) (A : Nat → Prop) (lc : Nat → Nat → Nat) (s : tt_St) (x1 : Int32) {Q : Option Value → (Nat → Nat → Nat) → tt_St → Prop} (h : Ok (fM_laysLike s x1) (fun r => Q none lc r)) : tt_Sp (XM l D dA A) yX11_laysLike cX11_laysLike 3 none rM_laysLike [.ref (lc 0 0), .int x1] lc s Q := by
  refine tt_Sp.ofV plM kokM (Nat.le_of_ble_eq_true rfl) ?_
  show tt_V (XM l D dA A) cX11_laysLike (RX11, 3, none, rM_laysLike, tt_nt) (tt_fn (XM l D dA A) (RX11, 3, none, rM_laysLike, tt_nt) Q) 0 [(0, .ref (lc 0 0)), (1, .int x1)] [] lc s 0 0
  unfold fM_laysLike at h
  refine v_iconst dX11_laysLike_0 ic_0 ?_
  refine v_istore_n [(2, .int (0 : Int32)), (0, .ref (lc 0 0)), (1, .int x1)] dX11_laysLike_1 (Nat.le_of_ble_eq_true rfl) rfl ?_
  refine v_sub [1, 2, 0] rfl ?_
  refine itr_loop (P := fun a1 : Int32 × tt_St => tt_V (XM l D dA A) cX11_laysLike (RX11, 3, none, rM_laysLike, tt_nt) (tt_fn (XM l D dA A) (RX11, 3, none, rM_laysLike, tt_nt) Q) 2 [(0, .ref (lc 0 0)), (1, .int x1), (2, .int a1.1)] [] lc a1.2 0 0) (PE := fun b2 : Int32 × tt_St => tt_V (XM l D dA A) cX11_laysLike (RX11, 3, none, rM_laysLike, tt_nt) (tt_fn (XM l D dA A) (RX11, 3, none, rM_laysLike, tt_nt) Q) 42 [(0, .ref (lc 0 0)), (1, .int x1), (2, .int b2.1)] [] lc b2.2 0 0) h (fun b2 h => ?_) (fun a1 h => ?_)
  · have h := Ok.ret h
    exact v_vret rfl (Nat.zero_le _) (Nat.zero_le _) dX11_laysLike_42 h
  · have h : Ok (fM_laysLike_L2 x1 a1) _ := h
    unfold fM_laysLike_L2 at h
    refine v_iload_n 2 dX11_laysLike_2 rfl ?_
    refine v_bipush dX11_laysLike_3 kb_12 ?_
    refine v_icmp_ge (tgt := 42) dX11_laysLike_5 rfl (fun c3 => ?_) (fun c3 => ?_)
    · have h := Ok.pos h c3
      have h := Ok.ret h
      exact h
    · have h := Ok.neg h c3
      refine v_aload_n 0 dX11_laysLike_8 rfl ?_
      refine gM_109 dX11_laysLike_9 ?_
      refine v_iload_n 2 dX11_laysLike_12 rfl ?_
      refine v_aload_n 0 dX11_laysLike_13 rfl ?_
      refine v_iload_n 1 dX11_laysLike_14 rfl ?_
      refine v_iload_n 2 dX11_laysLike_15 rfl ?_
      refine cM_197 (Ok.bind h) ⟨Nat.le_of_ble_eq_true rfl, Nat.le_of_ble_eq_true rfl⟩ (Nat.le_of_ble_eq_true rfl) dX11_laysLike_16 (fun r4 z_r4 h => ?_)
      have h := Ok.join (PJ := fun t5 : Int64 => tt_V (XM l D dA A) cX11_laysLike (RX11, 3, none, rM_laysLike, tt_nt) (tt_fn (XM l D dA A) (RX11, 3, none, rM_laysLike, tt_nt) Q) 35 [(0, .ref (lc 0 0)), (1, .int x1), (2, .int a1.1)] [.long t5, .int a1.1, .ref (lc 36 0)] lc a1.2 0 0) h (fun t5 h => by
        obtain ⟨g9, h⟩ := Ok.guard h
        refine sM_36 g9 dX11_laysLike_35 ?_
        refine v_nmS (fun s10 e_s10 => ?_)
        have h := Ok.nm h e_s10
        refine v_iinc (v := (a1.1 + 1 : Int32)) 2 [(2, .int (a1.1 + 1 : Int32)), (0, .ref (lc 0 0)), (1, .int x1)] dX11_laysLike_36 rfl (by rw [ic_1]) (Nat.le_of_ble_eq_true rfl) rfl ?_
        refine v_goto (tgt := 2) dX11_laysLike_39 rfl ?_
        refine v_sub [1, 2, 0] rfl ?_
        have h := Ok.ret h
        exact h)
      refine v_if_eq (tgt := 34) dX11_laysLike_19 rfl (fun c6 => ?_) (fun c6 => ?_)
      · have h := Ok.pos h c6
        refine v_lconst dX11_laysLike_34 kl_0 ?_
        have h := Ok.ret h
        exact h
      · have h := Ok.neg h c6
        refine v_aload_n 0 dX11_laysLike_22 rfl ?_
        refine v_iload_n 2 dX11_laysLike_23 rfl ?_
        refine cM_201 (Ok.bind h) ⟨Nat.le_of_ble_eq_true rfl, Nat.le_of_ble_eq_true rfl⟩ (Nat.le_of_ble_eq_true rfl) dX11_laysLike_24 (fun r7 z_r7 h => ?_)
        refine v_if_ne (tgt := 34) dX11_laysLike_27 rfl (fun c8 => ?_) (fun c8 => ?_)
        · have h := Ok.neg h c8
          refine v_lconst dX11_laysLike_34 kl_0 ?_
          have h := Ok.ret h
          exact h
        · have h := Ok.pos h c8
          refine v_lconst dX11_laysLike_30 kl_1 ?_
          refine v_goto (tgt := 35) dX11_laysLike_31 rfl ?_
          have h := Ok.ret h
          exact h
theorem cM_231 {l : Launch} {D : va_G} {dA : Nat → ClassId} {A : Nat → Prop} {lc : Nat → Nat → Nat} {s : tt_St} {cc : ByteArray} {nl : Nat} {rt : Option FieldType} {rm : Room} {tn : tt_Tn} {Q : tt_Fin} {pc : Nat} {lv : List (Nat × Value)} {rest : List Value} {ck cn : Nat} {x1 : Int32} {K : tt_St → Prop} (h : Ok (fM_laysLike s x1) K) (hR : 2 + 1 ≤ rm.frames ∧ 8 + (3 + 11) + 49 ≤ rm.locals) (hW : (rest.map fun v => v.category).sum ≤ 8) (d : decode cc pc = .ok (.invokevirtual 231, 3)) (kk : ∀ r, K r → tt_V (XM l D dA A) cc (RX11, nl, rt, rm, tn) Q (pc + 3) lv rest lc r ck cn) (hf : ck ≤ rm.cells ∧ cn ≤ rm.slots := by exact ⟨Nat.zero_le _, Nat.zero_le _⟩) : tt_V (XM l D dA A) cc (RX11, nl, rt, rm, tn) Q pc lv (.int x1 :: .ref (lc 0 0) :: rest) lc s ck cn :=
  v_callV (kd := 0) (i := 0) (nA := 1) (As := [.int x1]) lvM_0 oM rfl (mM_laysLike l D dA A lc s x1 (Q := (fun v lc' s' => ∃ r, K r ∧ v = none ∧ lc' = lc ∧ s' = r)) (h.mono (fun r hr => ⟨r, hr, rfl, rfl, rfl⟩))) (lw_V q2004 q2006 qs69 q154 q2007) (by decide +kernel) rfl hR hW hf d rfl (fun v lc' s' q => by obtain ⟨r, hr, e1, e2, e3⟩ := q; rw [e1, e2, e3]; exact kk r hr)
def fM_laysSizes_L83 (x1 : Int32) (b2 : Int64 × Int32 × Int32) (a17 : Int32 × tt_St) : Option ((Int32 × tt_St) ⊕ (Int32 × tt_St)) :=
  if (12 : Int32) ≤ a17.1 then some (.inr (a17.1, a17.2)) else (fM_isOff a17.2 x1 a17.1).bind fun r20 => (if r20 = 0 then some (0 : Int64) else (fM_isLacking a17.2 a17.1).bind fun r23 => if r23 = 0 then if b2.2.1 = 0 then some (1 : Int64) else (fM_isGap a17.2 a17.1).bind fun r26 => if r26 = 0 then (fM_sizesOf a17.2 a17.1).bind fun r28 => some r28 else if ¬ b2.2.1.toInt64 = 0 then some (b2.1 / b2.2.1.toInt64) else none else some (0 : Int64) : Option (Int64)).bind fun t21 => if inB a17.1 40 then nm (wrL a17.2 36 0 a17.1.toNatClampNeg t21) fun s31 => some (.inl ((a17.1 + 1 : Int32), s31)) else none
def fM_laysSizes_L8 (s : tt_St) (x1 : Int32) (a1 : Int64 × Int32 × Int32) : Option ((Int64 × Int32 × Int32) ⊕ (Int64 × Int32 × Int32)) :=
  if (12 : Int32) ≤ a1.2.2 then some (.inr (a1.1, a1.2.1, a1.2.2)) else (fM_isOff s x1 a1.2.2).bind fun r4 => (if r4 = 0 then some (0 : Int32) else (fM_isGap s a1.2.2).bind fun r7 => if r7 = 0 then some (1 : Int32) else some (0 : Int32) : Option (Int32)).bind fun t5 => nm (if t5 = 0 then (0 : Int32) else (1 : Int32)) fun t9 => nm (a1.2.1 + t9) fun v12 => if t5 = 0 then nm (a1.1 + (0 : Int64)) fun v14 => some (.inl (v14, v12, (a1.2.2 + 1 : Int32))) else (fM_sizesOf s a1.2.2).bind fun r15 => nm (a1.1 + r15) fun v16 => some (.inl (v16, v12, (a1.2.2 + 1 : Int32)))
def fM_laysSizes (s : tt_St) (x1 : Int32) : Option (tt_St) :=
  (itr (fM_laysSizes_L8 s x1) tt_fuel ((0 : Int64), (0 : Int32), (0 : Int32))).bind fun b2 => (itr (fM_laysSizes_L83 x1 b2) tt_fuel ((0 : Int32), s)).bind fun b18 => some b18.2
abbrev rM_laysSizes : Room := { frames := 2, cells := 0, slots := 0, locals := 49 }
set_option maxHeartbeats 4000000 in
theorem mM_laysSizes (l : Launch) (D : va_G) (dA : Nat → ClassId) (A : Nat → Prop) (lc : Nat → Nat → Nat) (s : tt_St) (x1 : Int32) {Q : Option Value → (Nat → Nat → Nat) → tt_St → Prop} (h : Ok (fM_laysSizes s x1) (fun r => Q none lc r)) : tt_Sp (XM l D dA A) yX11_laysSizes cX11_laysSizes 7 none rM_laysSizes [.ref (lc 0 0), .int x1] lc s Q := by
  refine tt_Sp.ofV plM kokM (Nat.le_of_ble_eq_true rfl) ?_
  show tt_V (XM l D dA A) cX11_laysSizes (RX11, 7, none, rM_laysSizes, tt_nt) (tt_fn (XM l D dA A) (RX11, 7, none, rM_laysSizes, tt_nt) Q) 0 [(0, .ref (lc 0 0)), (1, .int x1)] [] lc s 0 0
  unfold fM_laysSizes at h
  refine v_lconst dX11_laysSizes_0 kl_0 ?_
  refine v_lstore_n [(2, .long (0 : Int64)), (0, .ref (lc 0 0)), (1, .int x1)] dX11_laysSizes_1 (Nat.le_of_ble_eq_true rfl) rfl ?_
  refine v_iconst dX11_laysSizes_2 ic_0 ?_
  refine v_istore [(4, .int (0 : Int32)), (2, .long (0 : Int64)), (0, .ref (lc 0 0)), (1, .int x1)] dX11_laysSizes_3 (Nat.le_of_ble_eq_true rfl) rfl ?_
  refine v_iconst dX11_laysSizes_5 ic_0 ?_
  refine v_istore [(5, .int (0 : Int32)), (4, .int (0 : Int32)), (2, .long (0 : Int64)), (0, .ref (lc 0 0)), (1, .int x1)] dX11_laysSizes_6 (Nat.le_of_ble_eq_true rfl) rfl ?_
  refine v_sub [3, 4, 2, 1, 0] rfl ?_
  refine itr_loop (P := fun a1 : Int64 × Int32 × Int32 => tt_V (XM l D dA A) cX11_laysSizes (RX11, 7, none, rM_laysSizes, tt_nt) (tt_fn (XM l D dA A) (RX11, 7, none, rM_laysSizes, tt_nt) Q) 8 [(0, .ref (lc 0 0)), (1, .int x1), (2, .long a1.1), (4, .int a1.2.1), (5, .int a1.2.2)] [] lc s 0 0) (PE := fun b2 : Int64 × Int32 × Int32 => tt_V (XM l D dA A) cX11_laysSizes (RX11, 7, none, rM_laysSizes, tt_nt) (tt_fn (XM l D dA A) (RX11, 7, none, rM_laysSizes, tt_nt) Q) 80 [(0, .ref (lc 0 0)), (1, .int x1), (2, .long b2.1), (4, .int b2.2.1), (5, .int b2.2.2)] [] lc s 0 0) h (fun b2 h => ?_) (fun a1 h => ?_)
  · refine v_iconst dX11_laysSizes_80 ic_0 ?_
    refine v_istore [(5, .int (0 : Int32)), (0, .ref (lc 0 0)), (1, .int x1), (2, .long b2.1), (4, .int b2.2.1)] dX11_laysSizes_81 (Nat.le_of_ble_eq_true rfl) rfl ?_
    refine v_sub [1, 2, 3, 4, 0] rfl ?_
    refine itr_loop (P := fun a17 : Int32 × tt_St => tt_V (XM l D dA A) cX11_laysSizes (RX11, 7, none, rM_laysSizes, tt_nt) (tt_fn (XM l D dA A) (RX11, 7, none, rM_laysSizes, tt_nt) Q) 83 [(0, .ref (lc 0 0)), (1, .int x1), (2, .long b2.1), (4, .int b2.2.1), (5, .int a17.1)] [] lc a17.2 0 0) (PE := fun b18 : Int32 × tt_St => tt_V (XM l D dA A) cX11_laysSizes (RX11, 7, none, rM_laysSizes, tt_nt) (tt_fn (XM l D dA A) (RX11, 7, none, rM_laysSizes, tt_nt) Q) 158 [(0, .ref (lc 0 0)), (1, .int x1), (2, .long b2.1), (4, .int b2.2.1), (5, .int b18.1)] [] lc b18.2 0 0) h (fun b18 h => ?_) (fun a17 h => ?_)
    · have h := Ok.ret h
      exact v_vret rfl (Nat.zero_le _) (Nat.zero_le _) dX11_laysSizes_158 h
    · have h : Ok (fM_laysSizes_L83 x1 b2 a17) _ := h
      unfold fM_laysSizes_L83 at h
      refine v_iload 4 dX11_laysSizes_83 rfl ?_
      refine v_bipush dX11_laysSizes_85 kb_12 ?_
      refine v_icmp_ge (tgt := 158) dX11_laysSizes_87 rfl (fun c19 => ?_) (fun c19 => ?_)
      · have h := Ok.pos h c19
        have h := Ok.ret h
        exact h
      · have h := Ok.neg h c19
        refine v_aload_n 0 dX11_laysSizes_90 rfl ?_
        refine gM_109 dX11_laysSizes_91 ?_
        refine v_iload 4 dX11_laysSizes_94 rfl ?_
        refine v_aload_n 0 dX11_laysSizes_96 rfl ?_
        refine v_iload_n 1 dX11_laysSizes_97 rfl ?_
        refine v_iload 4 dX11_laysSizes_98 rfl ?_
        refine cM_197 (Ok.bind h) ⟨Nat.le_of_ble_eq_true rfl, Nat.le_of_ble_eq_true rfl⟩ (Nat.le_of_ble_eq_true rfl) dX11_laysSizes_100 (fun r20 z_r20 h => ?_)
        have h := Ok.join (PJ := fun t21 : Int64 => tt_V (XM l D dA A) cX11_laysSizes (RX11, 7, none, rM_laysSizes, tt_nt) (tt_fn (XM l D dA A) (RX11, 7, none, rM_laysSizes, tt_nt) Q) 151 [(0, .ref (lc 0 0)), (1, .int x1), (2, .long b2.1), (4, .int b2.2.1), (5, .int a17.1)] [.long t21, .int a17.1, .ref (lc 36 0)] lc a17.2 0 0) h (fun t21 h => by
          obtain ⟨g30, h⟩ := Ok.guard h
          refine sM_36 g30 dX11_laysSizes_151 ?_
          refine v_nmS (fun s31 e_s31 => ?_)
          have h := Ok.nm h e_s31
          refine v_iinc (v := (a17.1 + 1 : Int32)) 4 [(5, .int (a17.1 + 1 : Int32)), (0, .ref (lc 0 0)), (1, .int x1), (2, .long b2.1), (4, .int b2.2.1)] dX11_laysSizes_152 rfl (by rw [ic_1]) (Nat.le_of_ble_eq_true rfl) rfl ?_
          refine v_goto (tgt := 83) dX11_laysSizes_155 rfl ?_
          refine v_sub [1, 2, 3, 4, 0] rfl ?_
          have h := Ok.ret h
          exact h)
        refine v_if_eq (tgt := 115) dX11_laysSizes_103 rfl (fun c22 => ?_) (fun c22 => ?_)
        · have h := Ok.pos h c22
          refine v_lconst dX11_laysSizes_115 kl_0 ?_
          refine v_goto (tgt := 151) dX11_laysSizes_116 rfl ?_
          have h := Ok.ret h
          exact h
        · have h := Ok.neg h c22
          refine v_aload_n 0 dX11_laysSizes_106 rfl ?_
          refine v_iload 4 dX11_laysSizes_107 rfl ?_
          refine cM_201 (Ok.bind h) ⟨Nat.le_of_ble_eq_true rfl, Nat.le_of_ble_eq_true rfl⟩ (Nat.le_of_ble_eq_true rfl) dX11_laysSizes_109 (fun r23 z_r23 h => ?_)
          refine v_if_eq (tgt := 119) dX11_laysSizes_112 rfl (fun c24 => ?_) (fun c24 => ?_)
          · have h := Ok.pos h c24
            refine v_iload 3 dX11_laysSizes_119 rfl ?_
            refine v_if_ne (tgt := 128) dX11_laysSizes_121 rfl (fun c25 => ?_) (fun c25 => ?_)
            · have h := Ok.neg h c25
              refine v_aload_n 0 dX11_laysSizes_128 rfl ?_
              refine v_iload 4 dX11_laysSizes_129 rfl ?_
              refine cM_205 (Ok.bind h) ⟨Nat.le_of_ble_eq_true rfl, Nat.le_of_ble_eq_true rfl⟩ (Nat.le_of_ble_eq_true rfl) dX11_laysSizes_131 (fun r26 z_r26 h => ?_)
              refine v_if_eq (tgt := 145) dX11_laysSizes_134 rfl (fun c27 => ?_) (fun c27 => ?_)
              · have h := Ok.pos h c27
                refine v_aload_n 0 dX11_laysSizes_145 rfl ?_
                refine v_iload 4 dX11_laysSizes_146 rfl ?_
                refine cM_208 (Ok.bind h) ⟨Nat.le_of_ble_eq_true rfl, Nat.le_of_ble_eq_true rfl⟩ (Nat.le_of_ble_eq_true rfl) dX11_laysSizes_148 (fun r28 h => ?_)
                have h := Ok.ret h
                exact h
              · have h := Ok.neg h c27
                refine v_lload_n 2 dX11_laysSizes_137 rfl ?_
                refine v_iload 3 dX11_laysSizes_138 rfl ?_
                refine v_i2l dX11_laysSizes_140 rfl ?_
                obtain ⟨g29, h⟩ := Ok.guard h
                refine v_ldiv dX11_laysSizes_141 g29 ?_
                refine v_goto (tgt := 151) dX11_laysSizes_142 rfl ?_
                have h := Ok.ret h
                exact h
            · have h := Ok.pos h c25
              refine v_lconst dX11_laysSizes_124 kl_1 ?_
              refine v_goto (tgt := 151) dX11_laysSizes_125 rfl ?_
              have h := Ok.ret h
              exact h
          · have h := Ok.neg h c24
            refine v_lconst dX11_laysSizes_115 kl_0 ?_
            refine v_goto (tgt := 151) dX11_laysSizes_116 rfl ?_
            have h := Ok.ret h
            exact h
  · have h : Ok (fM_laysSizes_L8 s x1 a1) _ := h
    unfold fM_laysSizes_L8 at h
    refine v_iload 4 dX11_laysSizes_8 rfl ?_
    refine v_bipush dX11_laysSizes_10 kb_12 ?_
    refine v_icmp_ge (tgt := 80) dX11_laysSizes_12 rfl (fun c3 => ?_) (fun c3 => ?_)
    · have h := Ok.pos h c3
      have h := Ok.ret h
      exact h
    · have h := Ok.neg h c3
      refine v_aload_n 0 dX11_laysSizes_15 rfl ?_
      refine v_iload_n 1 dX11_laysSizes_16 rfl ?_
      refine v_iload 4 dX11_laysSizes_17 rfl ?_
      refine cM_197 (Ok.bind h) ⟨Nat.le_of_ble_eq_true rfl, Nat.le_of_ble_eq_true rfl⟩ (Nat.le_of_ble_eq_true rfl) dX11_laysSizes_19 (fun r4 z_r4 h => ?_)
      have h := Ok.join (PJ := fun t5 : Int32 => tt_V (XM l D dA A) cX11_laysSizes (RX11, 7, none, rM_laysSizes, tt_nt) (tt_fn (XM l D dA A) (RX11, 7, none, rM_laysSizes, tt_nt) Q) 39 [(0, .ref (lc 0 0)), (1, .int x1), (2, .long a1.1), (4, .int a1.2.1), (5, .int a1.2.2)] [.int t5] lc s 0 0) h (fun t5 h => by
        refine v_istore [(6, .int t5), (0, .ref (lc 0 0)), (1, .int x1), (2, .long a1.1), (4, .int a1.2.1), (5, .int a1.2.2)] dX11_laysSizes_39 (Nat.le_of_ble_eq_true rfl) rfl ?_
        refine v_iload 4 dX11_laysSizes_41 rfl ?_
        refine v_iload 0 dX11_laysSizes_43 rfl ?_
        have J10 : ∀ t9, t9 = (if t5 = 0 then (0 : Int32) else (1 : Int32)) → tt_V (XM l D dA A) cX11_laysSizes (RX11, 7, none, rM_laysSizes, tt_nt) (tt_fn (XM l D dA A) (RX11, 7, none, rM_laysSizes, tt_nt) Q) 53 [(0, .ref (lc 0 0)), (1, .int x1), (2, .long a1.1), (5, .int a1.2.2), (6, .int t5)] [.int t9, .int a1.2.1] lc s 0 0 := fun t9 e_t9 => by
          have h := Ok.nm h e_t9
          refine v_iadd dX11_laysSizes_53 ?_
          refine v_nmI (fun v12 e_v12 => ?_)
          have h := Ok.nm h e_v12
          refine v_istore [(4, .int v12), (0, .ref (lc 0 0)), (1, .int x1), (2, .long a1.1), (5, .int a1.2.2), (6, .int t5)] dX11_laysSizes_54 (Nat.le_of_ble_eq_true rfl) rfl ?_
          refine v_lload_n 3 dX11_laysSizes_56 rfl ?_
          refine v_iload 5 dX11_laysSizes_57 rfl ?_
          refine v_if_eq (tgt := 71) dX11_laysSizes_59 rfl (fun c13 => ?_) (fun c13 => ?_)
          · have h := Ok.pos h c13
            refine v_lconst dX11_laysSizes_71 kl_0 ?_
            refine v_ladd dX11_laysSizes_72 ?_
            refine v_nmL (fun v14 e_v14 => ?_)
            have h := Ok.nm h e_v14
            refine v_lstore_n [(2, .long v14), (4, .int v12), (0, .ref (lc 0 0)), (1, .int x1), (5, .int a1.2.2), (6, .int t5)] dX11_laysSizes_73 (Nat.le_of_ble_eq_true rfl) rfl ?_
            refine v_iinc (v := (a1.2.2 + 1 : Int32)) 4 [(5, .int (a1.2.2 + 1 : Int32)), (2, .long v14), (4, .int v12), (0, .ref (lc 0 0)), (1, .int x1), (6, .int t5)] dX11_laysSizes_74 rfl (by rw [ic_1]) (Nat.le_of_ble_eq_true rfl) rfl ?_
            refine v_goto (tgt := 8) dX11_laysSizes_77 rfl ?_
            refine v_sub [3, 4, 1, 2, 0] rfl ?_
            have h := Ok.ret h
            exact h
          · have h := Ok.neg h c13
            refine v_aload_n 1 dX11_laysSizes_62 rfl ?_
            refine v_iload 4 dX11_laysSizes_63 rfl ?_
            refine cM_208 (Ok.bind h) ⟨Nat.le_of_ble_eq_true rfl, Nat.le_of_ble_eq_true rfl⟩ (Nat.le_of_ble_eq_true rfl) dX11_laysSizes_65 (fun r15 h => ?_)
            refine v_goto (tgt := 72) dX11_laysSizes_68 rfl ?_
            refine v_ladd dX11_laysSizes_72 ?_
            refine v_nmL (fun v16 e_v16 => ?_)
            have h := Ok.nm h e_v16
            refine v_lstore_n [(2, .long v16), (4, .int v12), (0, .ref (lc 0 0)), (1, .int x1), (5, .int a1.2.2), (6, .int t5)] dX11_laysSizes_73 (Nat.le_of_ble_eq_true rfl) rfl ?_
            refine v_iinc (v := (a1.2.2 + 1 : Int32)) 4 [(5, .int (a1.2.2 + 1 : Int32)), (2, .long v16), (4, .int v12), (0, .ref (lc 0 0)), (1, .int x1), (6, .int t5)] dX11_laysSizes_74 rfl (by rw [ic_1]) (Nat.le_of_ble_eq_true rfl) rfl ?_
            refine v_goto (tgt := 8) dX11_laysSizes_77 rfl ?_
            refine v_sub [3, 4, 1, 2, 0] rfl ?_
            have h := Ok.ret h
            exact h
        refine v_if_eq (tgt := 52) dX11_laysSizes_45 rfl (fun c11 => ?_) (fun c11 => ?_)
        · refine v_iconst dX11_laysSizes_52 ic_0 ?_
          refine v_sub [1, 2, 3, 5, 0] rfl ?_
          exact J10 _ (by rw [if_pos c11])
        · refine v_iconst dX11_laysSizes_48 ic_1 ?_
          refine v_goto (tgt := 53) dX11_laysSizes_49 rfl ?_
          refine v_sub [1, 2, 3, 5, 0] rfl ?_
          exact J10 _ (by rw [if_neg c11]))
      refine v_if_eq (tgt := 38) dX11_laysSizes_22 rfl (fun c6 => ?_) (fun c6 => ?_)
      · have h := Ok.pos h c6
        refine v_iconst dX11_laysSizes_38 ic_0 ?_
        have h := Ok.ret h
        exact h
      · have h := Ok.neg h c6
        refine v_aload_n 0 dX11_laysSizes_25 rfl ?_
        refine v_iload 4 dX11_laysSizes_26 rfl ?_
        refine cM_205 (Ok.bind h) ⟨Nat.le_of_ble_eq_true rfl, Nat.le_of_ble_eq_true rfl⟩ (Nat.le_of_ble_eq_true rfl) dX11_laysSizes_28 (fun r7 z_r7 h => ?_)
        refine v_if_ne (tgt := 38) dX11_laysSizes_31 rfl (fun c8 => ?_) (fun c8 => ?_)
        · have h := Ok.neg h c8
          refine v_iconst dX11_laysSizes_38 ic_0 ?_
          have h := Ok.ret h
          exact h
        · have h := Ok.pos h c8
          refine v_iconst dX11_laysSizes_34 ic_1 ?_
          refine v_goto (tgt := 39) dX11_laysSizes_35 rfl ?_
          have h := Ok.ret h
          exact h
theorem cM_270 {l : Launch} {D : va_G} {dA : Nat → ClassId} {A : Nat → Prop} {lc : Nat → Nat → Nat} {s : tt_St} {cc : ByteArray} {nl : Nat} {rt : Option FieldType} {rm : Room} {tn : tt_Tn} {Q : tt_Fin} {pc : Nat} {lv : List (Nat × Value)} {rest : List Value} {ck cn : Nat} {x1 : Int32} {K : tt_St → Prop} (h : Ok (fM_laysSizes s x1) K) (hR : 2 + 1 ≤ rm.frames ∧ 8 + (7 + 11) + 49 ≤ rm.locals) (hW : (rest.map fun v => v.category).sum ≤ 8) (d : decode cc pc = .ok (.invokevirtual 270, 3)) (kk : ∀ r, K r → tt_V (XM l D dA A) cc (RX11, nl, rt, rm, tn) Q (pc + 3) lv rest lc r ck cn) (hf : ck ≤ rm.cells ∧ cn ≤ rm.slots := by exact ⟨Nat.zero_le _, Nat.zero_le _⟩) : tt_V (XM l D dA A) cc (RX11, nl, rt, rm, tn) Q pc lv (.int x1 :: .ref (lc 0 0) :: rest) lc s ck cn :=
  v_callV (kd := 0) (i := 0) (nA := 1) (As := [.int x1]) lvM_0 oM rfl (mM_laysSizes l D dA A lc s x1 (Q := (fun v lc' s' => ∃ r, K r ∧ v = none ∧ lc' = lc ∧ s' = r)) (h.mono (fun r hr => ⟨r, hr, rfl, rfl, rfl⟩))) (lw_V q2093 q2095 qs90 q154 q2096) (by decide +kernel) rfl hR hW hf d rfl (fun v lc' s' q => by obtain ⟨r, hr, e1, e2, e3⟩ := q; rw [e1, e2, e3]; exact kk r hr)
def fM_byShares_L67 (x1 : Int32) (a10 : Int32 × tt_St) : Option ((Int32 × tt_St) ⊕ (Int32 × tt_St)) :=
  if (12 : Int32) ≤ a10.1 then some (.inr (a10.1, a10.2)) else if inB a10.1 12 then if (rdL a10.2 40 0 a10.1.toNatClampNeg) = (0 : Int64) then some (.inl ((a10.1 + 1 : Int32), a10.2)) else (fM_isGap a10.2 a10.1).bind fun r15 => if r15 = 0 then if inB (((7 : Int32) * x1) + (2 : Int32)) 175 then (fM_fills a10.2 x1 a10.1 (rdL a10.2 40 0 a10.1.toNatClampNeg)).bind fun r18 => nm (wrL r18.2 26 0 (((7 : Int32) * x1) + (2 : Int32)).toNatClampNeg ((rdL a10.2 26 0 (((7 : Int32) * x1) + (2 : Int32)).toNatClampNeg) + r18.1)) fun s19 => some (.inl ((a10.1 + 1 : Int32), s19)) else none else if inB (((7 : Int32) * x1) + (3 : Int32)) 175 then nm (wrL a10.2 26 0 (((7 : Int32) * x1) + (3 : Int32)).toNatClampNeg ((rdL a10.2 26 0 (((7 : Int32) * x1) + (3 : Int32)).toNatClampNeg) + (rdL a10.2 40 0 a10.1.toNatClampNeg))) fun s21 => some (.inl ((a10.1 + 1 : Int32), s21)) else none else none
def fM_byShares_L37  (a4 : Int32 × tt_St) : Option ((Int32 × tt_St) ⊕ (Int32 × tt_St)) :=
  if (12 : Int32) ≤ a4.1 then some (.inr (a4.1, a4.2)) else if inB a4.1 40 then if inB a4.1 12 then nm (wrL a4.2 40 0 a4.1.toNatClampNeg (rdL a4.2 37 0 a4.1.toNatClampNeg)) fun s9 => some (.inl ((a4.1 + 1 : Int32), s9)) else none else none
def fM_byShares (s : tt_St) (x1 : Int32) (x2 : Int64) : Option (tt_St) :=
  (fM_weightSum s (12 : Int32)).bind fun r1 => if r1 = (0 : Int64) then if inB (((7 : Int32) * x1) + (3 : Int32)) 175 then nm (wrL s 26 0 (((7 : Int32) * x1) + (3 : Int32)).toNatClampNeg ((rdL s 26 0 (((7 : Int32) * x1) + (3 : Int32)).toNatClampNeg) + x2)) fun s23 => some s23 else none else (fM_shares s x2 (12 : Int32)).bind fun r3 => (itr (fM_byShares_L37) tt_fuel ((0 : Int32), r3)).bind fun b5 => (itr (fM_byShares_L67 x1) tt_fuel ((0 : Int32), b5.2)).bind fun b11 => some b11.2
abbrev rM_byShares : Room := { frames := 3, cells := 0, slots := 0, locals := 77 }
set_option maxHeartbeats 4000000 in
theorem mM_byShares (l : Launch) (D : va_G) (dA : Nat → ClassId) (A : Nat → Prop) (lc : Nat → Nat → Nat) (s : tt_St) (x1 : Int32) (x2 : Int64) {Q : Option Value → (Nat → Nat → Nat) → tt_St → Prop} (h : Ok (fM_byShares s x1 x2) (fun r => Q none lc r)) : tt_Sp (XM l D dA A) yX11_byShares cX11_byShares 5 none rM_byShares [.ref (lc 0 0), .int x1, .long x2] lc s Q := by
  refine tt_Sp.ofV plM kokM (Nat.le_of_ble_eq_true rfl) ?_
  show tt_V (XM l D dA A) cX11_byShares (RX11, 5, none, rM_byShares, tt_nt) (tt_fn (XM l D dA A) (RX11, 5, none, rM_byShares, tt_nt) Q) 0 [(0, .ref (lc 0 0)), (1, .int x1), (2, .long x2)] [] lc s 0 0
  unfold fM_byShares at h
  refine v_aload_n 0 dX11_byShares_0 rfl ?_
  refine v_bipush dX11_byShares_1 kb_12 ?_
  refine cM_194 (Ok.bind h) ⟨Nat.le_of_ble_eq_true rfl, Nat.le_of_ble_eq_true rfl⟩ (Nat.le_of_ble_eq_true rfl) dX11_byShares_3 (fun r1 h => ?_)
  refine v_lconst dX11_byShares_6 kl_0 ?_
  refine v_lif_ne (tgt := 27) dX11_byShares_7 dX11_byShares_8 rfl (fun c2 => ?_) (fun c2 => ?_)
  · have h := Ok.neg h c2
    refine v_aload_n 0 dX11_byShares_27 rfl ?_
    refine v_lload_n 2 dX11_byShares_28 rfl ?_
    refine v_bipush dX11_byShares_29 kb_12 ?_
    refine cM_211 (Ok.bind h) ⟨Nat.le_of_ble_eq_true rfl, Nat.le_of_ble_eq_true rfl⟩ (Nat.le_of_ble_eq_true rfl) dX11_byShares_31 (fun r3 h => ?_)
    refine v_iconst dX11_byShares_34 ic_0 ?_
    refine v_istore [(4, .int (0 : Int32)), (0, .ref (lc 0 0)), (1, .int x1), (2, .long x2)] dX11_byShares_35 (Nat.le_of_ble_eq_true rfl) rfl ?_
    refine v_sub [1, 2, 0] rfl ?_
    refine itr_loop (P := fun a4 : Int32 × tt_St => tt_V (XM l D dA A) cX11_byShares (RX11, 5, none, rM_byShares, tt_nt) (tt_fn (XM l D dA A) (RX11, 5, none, rM_byShares, tt_nt) Q) 37 [(0, .ref (lc 0 0)), (1, .int x1), (4, .int a4.1)] [] lc a4.2 0 0) (PE := fun b5 : Int32 × tt_St => tt_V (XM l D dA A) cX11_byShares (RX11, 5, none, rM_byShares, tt_nt) (tt_fn (XM l D dA A) (RX11, 5, none, rM_byShares, tt_nt) Q) 64 [(0, .ref (lc 0 0)), (1, .int x1), (4, .int b5.1)] [] lc b5.2 0 0) h (fun b5 h => ?_) (fun a4 h => ?_)
    · refine v_iconst dX11_byShares_64 ic_0 ?_
      refine v_istore [(4, .int (0 : Int32)), (0, .ref (lc 0 0)), (1, .int x1)] dX11_byShares_65 (Nat.le_of_ble_eq_true rfl) rfl ?_
      refine v_sub [1, 2, 0] rfl ?_
      refine itr_loop (P := fun a10 : Int32 × tt_St => tt_V (XM l D dA A) cX11_byShares (RX11, 5, none, rM_byShares, tt_nt) (tt_fn (XM l D dA A) (RX11, 5, none, rM_byShares, tt_nt) Q) 67 [(0, .ref (lc 0 0)), (1, .int x1), (4, .int a10.1)] [] lc a10.2 0 0) (PE := fun b11 : Int32 × tt_St => tt_V (XM l D dA A) cX11_byShares (RX11, 5, none, rM_byShares, tt_nt) (tt_fn (XM l D dA A) (RX11, 5, none, rM_byShares, tt_nt) Q) 156 [(0, .ref (lc 0 0)), (1, .int x1), (4, .int b11.1)] [] lc b11.2 0 0) h (fun b11 h => ?_) (fun a10 h => ?_)
      · have h := Ok.ret h
        exact v_vret rfl (Nat.zero_le _) (Nat.zero_le _) dX11_byShares_156 h
      · have h : Ok (fM_byShares_L67 x1 a10) _ := h
        unfold fM_byShares_L67 at h
        refine v_iload 2 dX11_byShares_67 rfl ?_
        refine v_bipush dX11_byShares_69 kb_12 ?_
        refine v_icmp_ge (tgt := 156) dX11_byShares_71 rfl (fun c12 => ?_) (fun c12 => ?_)
        · have h := Ok.pos h c12
          have h := Ok.ret h
          exact h
        · have h := Ok.neg h c12
          refine v_aload_n 0 dX11_byShares_74 rfl ?_
          refine gM_121 dX11_byShares_75 ?_
          refine v_iload 2 dX11_byShares_78 rfl ?_
          obtain ⟨g13, h⟩ := Ok.guard h
          refine lM_40 g13 dX11_byShares_80 ?_
          refine v_lconst dX11_byShares_81 kl_0 ?_
          refine v_lif_ne (tgt := 89) dX11_byShares_82 dX11_byShares_83 rfl (fun c14 => ?_) (fun c14 => ?_)
          · have h := Ok.neg h c14
            refine v_aload_n 0 dX11_byShares_89 rfl ?_
            refine v_iload 2 dX11_byShares_90 rfl ?_
            refine cM_205 (Ok.bind h) ⟨Nat.le_of_ble_eq_true rfl, Nat.le_of_ble_eq_true rfl⟩ (Nat.le_of_ble_eq_true rfl) dX11_byShares_92 (fun r15 z_r15 h => ?_)
            refine v_if_eq (tgt := 122) dX11_byShares_95 rfl (fun c16 => ?_) (fun c16 => ?_)
            · have h := Ok.pos h c16
              refine v_aload_n 0 dX11_byShares_122 rfl ?_
              refine gM_91 dX11_byShares_123 ?_
              refine v_bipush dX11_byShares_126 kb_7 ?_
              refine v_iload_n 1 dX11_byShares_128 rfl ?_
              refine v_imul dX11_byShares_129 ?_
              refine v_iconst dX11_byShares_130 ic_2 ?_
              refine v_iadd dX11_byShares_131 ?_
              refine v_dup2_11 dX11_byShares_132 rfl rfl ?_
              obtain ⟨g17, h⟩ := Ok.guard h
              refine lM_26 g17 dX11_byShares_133 ?_
              refine v_aload_n 0 dX11_byShares_134 rfl ?_
              refine v_iload_n 1 dX11_byShares_135 rfl ?_
              refine v_iload 2 dX11_byShares_136 rfl ?_
              refine v_aload_n 0 dX11_byShares_138 rfl ?_
              refine gM_121 dX11_byShares_139 ?_
              refine v_iload 2 dX11_byShares_142 rfl ?_
              refine lM_40 g13 dX11_byShares_144 ?_
              refine cM_215 (Ok.bind h) ⟨Nat.le_of_ble_eq_true rfl, Nat.le_of_ble_eq_true rfl⟩ (Nat.le_of_ble_eq_true rfl) dX11_byShares_145 (fun r18 h => ?_)
              refine v_ladd dX11_byShares_148 ?_
              refine sM_26 g17 dX11_byShares_149 ?_
              refine v_nmS (fun s19 e_s19 => ?_)
              have h := Ok.nm h e_s19
              refine v_iinc (v := (a10.1 + 1 : Int32)) 2 [(4, .int (a10.1 + 1 : Int32)), (0, .ref (lc 0 0)), (1, .int x1)] dX11_byShares_150 rfl (by rw [ic_1]) (Nat.le_of_ble_eq_true rfl) rfl ?_
              refine v_goto (tgt := 67) dX11_byShares_153 rfl ?_
              refine v_sub [1, 2, 0] rfl ?_
              have h := Ok.ret h
              exact h
            · have h := Ok.neg h c16
              refine v_aload_n 0 dX11_byShares_98 rfl ?_
              refine gM_91 dX11_byShares_99 ?_
              refine v_bipush dX11_byShares_102 kb_7 ?_
              refine v_iload_n 1 dX11_byShares_104 rfl ?_
              refine v_imul dX11_byShares_105 ?_
              refine v_iconst dX11_byShares_106 ic_3 ?_
              refine v_iadd dX11_byShares_107 ?_
              refine v_dup2_11 dX11_byShares_108 rfl rfl ?_
              obtain ⟨g20, h⟩ := Ok.guard h
              refine lM_26 g20 dX11_byShares_109 ?_
              refine v_aload_n 0 dX11_byShares_110 rfl ?_
              refine gM_121 dX11_byShares_111 ?_
              refine v_iload 2 dX11_byShares_114 rfl ?_
              refine lM_40 g13 dX11_byShares_116 ?_
              refine v_ladd dX11_byShares_117 ?_
              refine sM_26 g20 dX11_byShares_118 ?_
              refine v_nmS (fun s21 e_s21 => ?_)
              have h := Ok.nm h e_s21
              refine v_goto (tgt := 150) dX11_byShares_119 rfl ?_
              refine v_iinc (v := (a10.1 + 1 : Int32)) 2 [(4, .int (a10.1 + 1 : Int32)), (0, .ref (lc 0 0)), (1, .int x1)] dX11_byShares_150 rfl (by rw [ic_1]) (Nat.le_of_ble_eq_true rfl) rfl ?_
              refine v_goto (tgt := 67) dX11_byShares_153 rfl ?_
              refine v_sub [1, 2, 0] rfl ?_
              have h := Ok.ret h
              exact h
          · have h := Ok.pos h c14
            refine v_goto (tgt := 150) dX11_byShares_86 rfl ?_
            refine v_iinc (v := (a10.1 + 1 : Int32)) 2 [(4, .int (a10.1 + 1 : Int32)), (0, .ref (lc 0 0)), (1, .int x1)] dX11_byShares_150 rfl (by rw [ic_1]) (Nat.le_of_ble_eq_true rfl) rfl ?_
            refine v_goto (tgt := 67) dX11_byShares_153 rfl ?_
            refine v_sub [1, 2, 0] rfl ?_
            have h := Ok.ret h
            exact h
    · have h : Ok (fM_byShares_L37 a4) _ := h
      unfold fM_byShares_L37 at h
      refine v_iload 2 dX11_byShares_37 rfl ?_
      refine v_bipush dX11_byShares_39 kb_12 ?_
      refine v_icmp_ge (tgt := 64) dX11_byShares_41 rfl (fun c6 => ?_) (fun c6 => ?_)
      · have h := Ok.pos h c6
        have h := Ok.ret h
        exact h
      · have h := Ok.neg h c6
        refine v_aload_n 0 dX11_byShares_44 rfl ?_
        refine gM_121 dX11_byShares_45 ?_
        refine v_iload 2 dX11_byShares_48 rfl ?_
        refine v_aload_n 0 dX11_byShares_50 rfl ?_
        refine gM_112 dX11_byShares_51 ?_
        refine v_iload 2 dX11_byShares_54 rfl ?_
        obtain ⟨g7, h⟩ := Ok.guard h
        refine lM_37 g7 dX11_byShares_56 ?_
        obtain ⟨g8, h⟩ := Ok.guard h
        refine sM_40 g8 dX11_byShares_57 ?_
        refine v_nmS (fun s9 e_s9 => ?_)
        have h := Ok.nm h e_s9
        refine v_iinc (v := (a4.1 + 1 : Int32)) 2 [(4, .int (a4.1 + 1 : Int32)), (0, .ref (lc 0 0)), (1, .int x1)] dX11_byShares_58 rfl (by rw [ic_1]) (Nat.le_of_ble_eq_true rfl) rfl ?_
        refine v_goto (tgt := 37) dX11_byShares_61 rfl ?_
        refine v_sub [1, 2, 0] rfl ?_
        have h := Ok.ret h
        exact h
  · have h := Ok.pos h c2
    refine v_aload_n 0 dX11_byShares_11 rfl ?_
    refine gM_91 dX11_byShares_12 ?_
    refine v_bipush dX11_byShares_15 kb_7 ?_
    refine v_iload_n 1 dX11_byShares_17 rfl ?_
    refine v_imul dX11_byShares_18 ?_
    refine v_iconst dX11_byShares_19 ic_3 ?_
    refine v_iadd dX11_byShares_20 ?_
    refine v_dup2_11 dX11_byShares_21 rfl rfl ?_
    obtain ⟨g22, h⟩ := Ok.guard h
    refine lM_26 g22 dX11_byShares_22 ?_
    refine v_lload_n 2 dX11_byShares_23 rfl ?_
    refine v_ladd dX11_byShares_24 ?_
    refine sM_26 g22 dX11_byShares_25 ?_
    refine v_nmS (fun s23 e_s23 => ?_)
    have h := Ok.nm h e_s23
    have h := Ok.ret h
    exact v_vret rfl (Nat.zero_le _) (Nat.zero_le _) dX11_byShares_26 h
theorem cM_234 {l : Launch} {D : va_G} {dA : Nat → ClassId} {A : Nat → Prop} {lc : Nat → Nat → Nat} {s : tt_St} {cc : ByteArray} {nl : Nat} {rt : Option FieldType} {rm : Room} {tn : tt_Tn} {Q : tt_Fin} {pc : Nat} {lv : List (Nat × Value)} {rest : List Value} {ck cn : Nat} {x1 : Int32} {x2 : Int64} {K : tt_St → Prop} (h : Ok (fM_byShares s x1 x2) K) (hR : 3 + 1 ≤ rm.frames ∧ 8 + (5 + 11) + 77 ≤ rm.locals) (hW : (rest.map fun v => v.category).sum ≤ 8) (d : decode cc pc = .ok (.invokevirtual 234, 3)) (kk : ∀ r, K r → tt_V (XM l D dA A) cc (RX11, nl, rt, rm, tn) Q (pc + 3) lv rest lc r ck cn) (hf : ck ≤ rm.cells ∧ cn ≤ rm.slots := by exact ⟨Nat.zero_le _, Nat.zero_le _⟩) : tt_V (XM l D dA A) cc (RX11, nl, rt, rm, tn) Q pc lv (.long x2 :: .int x1 :: .ref (lc 0 0) :: rest) lc s ck cn :=
  v_callV (kd := 0) (i := 0) (nA := 2) (As := [.int x1, .long x2]) lvM_0 oM rfl (mM_byShares l D dA A lc s x1 x2 (Q := (fun v lc' s' => ∃ r, K r ∧ v = none ∧ lc' = lc ∧ s' = r)) (h.mono (fun r hr => ⟨r, hr, rfl, rfl, rfl⟩))) (lw_V q2016 q2018 qs72 q154 q2019) (by decide +kernel) rfl hR hW hf d rfl (fun v lc' s' q => by obtain ⟨r, hr, e1, e2, e3⟩ := q; rw [e1, e2, e3]; exact kk r hr)
