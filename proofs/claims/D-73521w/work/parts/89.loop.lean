set_option maxRecDepth 100000
def fL_disp (L : Nat) (xs : Nat → Int32) (s : tt_SL) (x4 x : Int32) : Option tt_SL :=
  if x = 0 then fL_case_0 L xs s x4 else if x = 1 then fL_case_1 L xs s x4 else if x = 2 then fL_case_2 L xs s x4 else if x = 3 then fL_case_3 L xs s x4 else if x = 4 then fL_case_4 L xs s x4 else if x = 5 then fL_case_5 L xs s x4 else if x = 6 then fL_case_6 L xs s x4 else if x = 7 then fL_case_7 L xs s x4 else if x = 8 then fL_case_8 L xs s x4 else if x = 9 then fL_case_9 L xs s x4 else if x = 10 then fL_case_10 L xs s x4 else if x = 11 then fL_case_11 L xs s x4 else if x = 12 then fL_case_12 L xs s x4 else if x = 13 then fL_case_13 L xs s x4 else if x = 14 then fL_case_14 L xs s x4 else if x = 15 then fL_case_15 L xs s x4 else if x = 16 then fL_case_16 L xs s x4 else if x = 17 then fL_case_17 L xs s x4 else if x = 18 then fL_case_18 L xs s x4 else if x = 19 then fL_case_19 L xs s x4 else if x = 20 then fL_case_20 L xs s x4 else if x = 21 then fL_case_21 L xs s x4 else if x = 22 then fL_case_22 L xs s x4 else if x = 23 then fL_case_23 L xs s x4 else if x = 24 then fL_case_24 L xs s x4 else if x = 25 then none else if x = 26 then fL_case_26 L xs s x4 else if x = 27 then fL_case_27 L xs s x4 else if x = 28 then fL_case_28 L xs s x4 else if x = 29 then fL_case_29 L xs s x4 else if x = 30 then fL_case_30 L xs s x4 else if x = 31 then fL_case_31 L xs s x4 else if x = 32 then fL_case_32 L xs s x4 else if x = 33 then fL_case_33 L xs s x4 else if x = 34 then fL_case_34 L xs s x4 else if x = 35 then fL_case_35 L xs s x4 else if x = 36 then fL_case_36 L xs s x4 else if x = 37 then fL_case_37 L xs s x4 else if x = 38 then fL_case_38 L xs s x4 else if x = 39 then fL_case_39 L xs s x4 else if x = 40 then fL_case_40 L xs s x4 else if x = 41 then fL_case_41 L xs s x4 else if x = 42 then fL_case_42 L xs s x4 else if x = 43 then fL_case_43 L xs s x4 else if x = 44 then fL_case_44 L xs s x4 else if x = 45 then fL_case_45 L xs s x4 else if x = 46 then fL_case_46 L xs s x4 else if x = 47 then fL_case_47 L xs s x4 else if x = 48 then fL_case_48 L xs s x4 else if x = 49 then fL_case_49 L xs s x4 else some s
def fL_step (L : Nat) (xs : Nat → Int32) (a : Int32 × tt_SL) : Option ((Int32 × tt_SL) ⊕ Unit) :=
  if Int32.ofNat L - 6 < a.1 then some (.inr ()) else if inB a.1 L then (fL_disp L xs a.2 a.1 (xs a.1.toNatClampNeg &&& 63)).bind fun s => some (.inl (a.1 + 6, s)) else none
/-- the size of the heap at the start -/
def tt_sz (n0 : Nat) : tt_Tn := fun _ _ s0 => s0.heap.size = n0
def tt_lawFin : tt_Fin := fun below args s0 => lw_Z below args s0
theorem lw_retG {p : Program} {l : Launch} {e : Env} {s : State} {m : MethodId} {args : Array Value} {below : List Frame} {meth : Method} {c : Code} (hx : p.tables.exec = Jvm.exec) (hb : c.code = code) (hr : meth.sig.returnType = ret) (hlocks : meth.locks = false) {pc : Nat} {H : Heap} {ls : Array Slot} (hdg : decode code pc = .ok (.ireturn, 1)) : W p l e room_1 s m args below meth c H [] 601024 7293034 (lw_Z below args s) (F0 m pc ls [.int 1]) := by
  intro T hT X
  obtain ⟨fs, hret, hrun, hended, hW, hframe⟩ := X.leave (v := some (.int 1)) (hlocks := hlocks) (fun h => by rw [hr] at h; cases h)
  have hmeth' : T.vm.method? m = some meth := X.method'
  refine ⟨T.setFrames fs, ?_, .returned (some (.int 1)), hrun, hended, rfl, ⟨_, rfl⟩, hW, hframe⟩
  jvm_step X.here [X.here.top, hx, hb, hdg, hmeth', hr, ret, narrow_b1]
  (try refine ⟨rfl, ?_⟩); (try refine ⟨rfl, ?_⟩)
  first | (intro acts; rw [hret _ acts rfl rfl rfl]) | rw [hret _ _ rfl rfl rfl]
  exact Steps.refl _
theorem v_lawret {l : Launch} {D : va_G} {dA : Nat → ClassId} {pz b L n0 : Nat} {xs : Nat → Int32} {lc : Nat → Nat → Nat} {s : tt_SL} {lv : List (Nat × Value)} {pc ck cn : Nat} (hk1 : ck ≤ 601024) (hk2 : cn ≤ 7293034) (d : decode code pc = .ok (.ireturn, 1)) : tt_V (XL l D dA (fun q => n0 ≤ q) pz b L xs) code (RX0, 8, ret, room_1, tt_sz n0) tt_lawFin pc lv [.int 1] lc s ck cn := by
  intro p1 e R s0 m args below meth c H locs ls C1 hP hS hl
  have hRe : R = room_1 := C1.2.2.2.2.2.2.2.1
  have hn : s0.heap.size = n0 := C1.2.2.2.2.2.2.2.2.2.2
  rw [hRe]
  refine W.widen hk1 hk2 (va_forget (fun q hq => ?_) (lw_retG C1.1 C1.2.1 C1.2.2.2.2.2.1 C1.2.2.2.2.2.2.1 d))
  rw [hn]
  exact hS.2.2 q hq
def lw_loopP (l : Launch) (D : va_G) (dA : Nat → ClassId) (pz b L n0 : Nat) (xs : Nat → Int32) : Int32 × tt_SL → Prop := (fun a : Int32 × tt_SL => ∀ (lc : Nat → Nat → Nat) (ck cn : Nat), ck + 60 * (400 - a.1.toNatClampNeg) ≤ 601024 → cn + 600 * (400 - a.1.toNatClampNeg) ≤ 7293034 → tt_V (XL l D dA (fun q => n0 ≤ q) pz b L xs) code (RX0, 8, ret, room_1, tt_sz n0) tt_lawFin 23 [(0, .ref b), (1, .ref (lc 0 0)), (2, .ref (lc 300 0)), (3, .ref (lc 400 0)), (4, .int a.1)] [] lc a.2 ck cn)
theorem i32_add6 {i : Int32} {L : Nat} (hL : L ≤ 384) (g : inB i L = true) : (i + 6).toNatClampNeg = i.toNatClampNeg + 6 := by
  have h1 := inB_vp g
  have h2 : ¬ i < 0 := fun q => h1 (Or.inl q)
  have h3 := inB_lt g
  have h4 : (0 : Int) ≤ i.toInt := by
    have h5 : (0 : Int32) ≤ i := Int32.not_lt.mp h2
    exact Int32.le_iff_toInt_le.mp h5
  have h6 : i.toNatClampNeg = i.toInt.toNat := rfl
  have h7 : i.toInt < 384 := by omega
  have h8 : (i + 6).toInt = i.toInt + 6 := by
    rw [Int32.toInt_add]
    show (i.toInt + 6).bmod (2 ^ 32) = _
    rw [Int.bmod_def]
    omega
  show (i + 6).toInt.toNat = _
  rw [h8, h6]
  omega
theorem lw_next {l : Launch} {D : va_G} {dA : Nat → ClassId} {pz b L n0 : Nat} {xs : Nat → Int32} (hL : L ≤ 384) {i : Int32} {r : tt_SL} {lc : Nat → Nat → Nat} {ck cn : Nat} (g : inB i L = true) (hk1 : ck + 60 * (394 - i.toNatClampNeg) ≤ 601024) (hk2 : cn + 600 * (394 - i.toNatClampNeg) ≤ 7293034) (h : Ok (some (Sum.inl (i + 6, r) : (Int32 × tt_SL) ⊕ Unit)) (fun q => Sum.casesOn (motive := fun _ => Prop) q (lw_loopP l D dA pz b L n0 xs) (fun _ => True))) : tt_V (XL l D dA (fun q => n0 ≤ q) pz b L xs) code (RX0, 8, ret, room_1, tt_sz n0) tt_lawFin 3740 [(0, .ref b), (1, .ref (lc 0 0)), (2, .ref (lc 300 0)), (3, .ref (lc 400 0)), (4, .int i)] [] lc r ck cn := by
  have h := Ok.ret h
  have h : lw_loopP l D dA pz b L n0 xs (i + 6, r) := h
  have e := i32_add6 hL g
  refine v_iinc (v := i + 6) 4 [(4, .int (i + 6)), (0, .ref b), (1, .ref (lc 0 0)), (2, .ref (lc 300 0)), (3, .ref (lc 400 0))] dL_law_3740 rfl (by rw [ic_6]) (Nat.le_of_ble_eq_true rfl) rfl ?_
  refine v_goto (tgt := 23) dL_law_3743 rfl ?_
  refine v_sub [1, 2, 3, 4, 0] rfl ?_
  exact h lc ck cn (by show _ + _ * (400 - (i + 6).toNatClampNeg) ≤ _; omega) (by show _ + _ * (400 - (i + 6).toNatClampNeg) ≤ _; omega)
set_option maxHeartbeats 4000000 in
theorem lw_loop {l : Launch} {D : va_G} {dA : Nat → ClassId} {pz b L n0 : Nat} {xs : Nat → Int32} (hl9 : l.stackTraces = false) (hL : L ≤ 384) : ∀ (n : Nat) (a : Int32 × tt_SL), Ok (itr (fL_step L xs) n a) (fun _ => True) → lw_loopP l D dA pz b L n0 xs a := by
  refine itr_sound (fun a h lc ck cn hk1 hk2 => ?_)
  show tt_V (XL l D dA (fun q => n0 ≤ q) pz b L xs) code (RX0, 8, ret, room_1, tt_sz n0) tt_lawFin 23 [(0, .ref b), (1, .ref (lc 0 0)), (2, .ref (lc 300 0)), (3, .ref (lc 400 0)), (4, .int a.1)] [] lc a.2 ck cn
  unfold fL_step at h
  refine v_iload 4 dL_law_23 rfl ?_
  refine v_aload_n 0 dL_law_25 rfl ?_
  refine v_slen dL_law_26 ?_
  refine v_bipush dL_law_27 kb_6 ?_
  refine v_isub dL_law_29 ?_
  refine v_icmp_gt (tgt := 3746) dL_law_30 rfl (fun c1 => ?_) (fun c1 => ?_)
  · refine v_iconst dL_law_3746 ic_1 ?_
    exact v_lawret (by omega) (by omega) dL_law_3747
  · have h := Ok.neg h c1
    obtain ⟨g, h⟩ := Ok.guard h
    have hlt := inB_lt g
    refine v_aload_n 0 dL_law_33 rfl ?_
    refine v_iload 4 dL_law_34 rfl ?_
    refine v_sld g dL_law_36 ?_
    refine v_bipush dL_law_37 kb_63 ?_
    refine v_iand dL_law_39 ?_
    have h := Ok.bind h
    generalize (xs a.1.toNatClampNeg &&& 63) = x at h ⊢
    have hr1 : (601024 : Nat) ≤ room_1.cells := Nat.le_of_ble_eq_true rfl
    have hr2 : (7293034 : Nat) ≤ room_1.slots := Nat.le_of_ble_eq_true rfl
    unfold fL_disp at h
    rcases Decidable.em (x = 0) with c_0 | c_0
    · have h := Ok.pos h c_0
      refine v_tableIn (v := 0) (tgt := 256) dL_law_40 c_0 (by decide) (by decide) rfl rfl ?_
      exact lcase_0 hl9 (by omega) (by omega) (h.mono fun r hr lc' ha ck' cn' h1 h2 => lw_next hL g (by omega) (by omega) hr)
    have h := Ok.neg h c_0
    rcases Decidable.em (x = 1) with c_1 | c_1
    · have h := Ok.pos h c_1
      refine v_tableIn (v := 1) (tgt := 348) dL_law_40 c_1 (by decide) (by decide) rfl rfl ?_
      exact lcase_1 hl9 (by omega) (by omega) (h.mono fun r hr lc' ha ck' cn' h1 h2 => lw_next hL g (by omega) (by omega) hr)
    have h := Ok.neg h c_1
    rcases Decidable.em (x = 2) with c_2 | c_2
    · have h := Ok.pos h c_2
      refine v_tableIn (v := 2) (tgt := 428) dL_law_40 c_2 (by decide) (by decide) rfl rfl ?_
      exact lcase_2 hl9 (by omega) (by omega) (h.mono fun r hr lc' ha ck' cn' h1 h2 => lw_next hL g (by omega) (by omega) hr)
    have h := Ok.neg h c_2
    rcases Decidable.em (x = 3) with c_3 | c_3
    · have h := Ok.pos h c_3
      refine v_tableIn (v := 3) (tgt := 484) dL_law_40 c_3 (by decide) (by decide) rfl rfl ?_
      exact lcase_3 hl9 (by omega) (by omega) (h.mono fun r hr lc' ha ck' cn' h1 h2 => lw_next hL g (by omega) (by omega) hr)
    have h := Ok.neg h c_3
    rcases Decidable.em (x = 4) with c_4 | c_4
    · have h := Ok.pos h c_4
      refine v_tableIn (v := 4) (tgt := 564) dL_law_40 c_4 (by decide) (by decide) rfl rfl ?_
      exact lcase_4 hl9 (by omega) (by omega) (h.mono fun r hr lc' ha ck' cn' h1 h2 => lw_next hL g (by omega) (by omega) hr)
    have h := Ok.neg h c_4
    rcases Decidable.em (x = 5) with c_5 | c_5
    · have h := Ok.pos h c_5
      refine v_tableIn (v := 5) (tgt := 656) dL_law_40 c_5 (by decide) (by decide) rfl rfl ?_
      exact lcase_5 hl9 (by omega) (by omega) (h.mono fun r hr lc' ha ck' cn' h1 h2 => lw_next hL g (by omega) (by omega) hr)
    have h := Ok.neg h c_5
    rcases Decidable.em (x = 6) with c_6 | c_6
    · have h := Ok.pos h c_6
      refine v_tableIn (v := 6) (tgt := 723) dL_law_40 c_6 (by decide) (by decide) rfl rfl ?_
      exact lcase_6 hl9 (by omega) (by omega) (h.mono fun r hr lc' ha ck' cn' h1 h2 => lw_next hL g (by omega) (by omega) hr)
    have h := Ok.neg h c_6
    rcases Decidable.em (x = 7) with c_7 | c_7
    · have h := Ok.pos h c_7
      refine v_tableIn (v := 7) (tgt := 791) dL_law_40 c_7 (by decide) (by decide) rfl rfl ?_
      exact lcase_7 hl9 (by omega) (by omega) (h.mono fun r hr lc' ha ck' cn' h1 h2 => lw_next hL g (by omega) (by omega) hr)
    have h := Ok.neg h c_7
    rcases Decidable.em (x = 8) with c_8 | c_8
    · have h := Ok.pos h c_8
      refine v_tableIn (v := 8) (tgt := 847) dL_law_40 c_8 (by decide) (by decide) rfl rfl ?_
      exact lcase_8 hl9 (by omega) (by omega) (h.mono fun r hr lc' ha ck' cn' h1 h2 => lw_next hL g (by omega) (by omega) hr)
    have h := Ok.neg h c_8
    rcases Decidable.em (x = 9) with c_9 | c_9
    · have h := Ok.pos h c_9
      refine v_tableIn (v := 9) (tgt := 902) dL_law_40 c_9 (by decide) (by decide) rfl rfl ?_
      exact lcase_9 hl9 (by omega) (by omega) (h.mono fun r hr lc' ha ck' cn' h1 h2 => lw_next hL g (by omega) (by omega) hr)
    have h := Ok.neg h c_9
    rcases Decidable.em (x = 10) with c_10 | c_10
    · have h := Ok.pos h c_10
      refine v_tableIn (v := 10) (tgt := 915) dL_law_40 c_10 (by decide) (by decide) rfl rfl ?_
      exact lcase_10 hl9 (by omega) (by omega) (h.mono fun r hr lc' ha ck' cn' h1 h2 => lw_next hL g (by omega) (by omega) hr)
    have h := Ok.neg h c_10
    rcases Decidable.em (x = 11) with c_11 | c_11
    · have h := Ok.pos h c_11
      refine v_tableIn (v := 11) (tgt := 971) dL_law_40 c_11 (by decide) (by decide) rfl rfl ?_
      exact lcase_11 hl9 (by omega) (by omega) (h.mono fun r hr lc' ha ck' cn' h1 h2 => lw_next hL g (by omega) (by omega) hr)
    have h := Ok.neg h c_11
    rcases Decidable.em (x = 12) with c_12 | c_12
    · have h := Ok.pos h c_12
      refine v_tableIn (v := 12) (tgt := 1039) dL_law_40 c_12 (by decide) (by decide) rfl rfl ?_
      exact lcase_12 hl9 (by omega) (by omega) (h.mono fun r hr lc' ha ck' cn' h1 h2 => lw_next hL g (by omega) (by omega) hr)
    have h := Ok.neg h c_12
    rcases Decidable.em (x = 13) with c_13 | c_13
    · have h := Ok.pos h c_13
      refine v_tableIn (v := 13) (tgt := 1106) dL_law_40 c_13 (by decide) (by decide) rfl rfl ?_
      exact lcase_13 hl9 (by omega) (by omega) (h.mono fun r hr lc' ha ck' cn' h1 h2 => lw_next hL g (by omega) (by omega) hr)
    have h := Ok.neg h c_13
    rcases Decidable.em (x = 14) with c_14 | c_14
    · have h := Ok.pos h c_14
      refine v_tableIn (v := 14) (tgt := 1185) dL_law_40 c_14 (by decide) (by decide) rfl rfl ?_
      exact lcase_14 hl9 (by omega) (by omega) (h.mono fun r hr lc' ha ck' cn' h1 h2 => lw_next hL g (by omega) (by omega) hr)
    have h := Ok.neg h c_14
    rcases Decidable.em (x = 15) with c_15 | c_15
    · have h := Ok.pos h c_15
      refine v_tableIn (v := 15) (tgt := 1252) dL_law_40 c_15 (by decide) (by decide) rfl rfl ?_
      exact lcase_15 hl9 (by omega) (by omega) (h.mono fun r hr lc' ha ck' cn' h1 h2 => lw_next hL g (by omega) (by omega) hr)
    have h := Ok.neg h c_15
    rcases Decidable.em (x = 16) with c_16 | c_16
    · have h := Ok.pos h c_16
      refine v_tableIn (v := 16) (tgt := 1320) dL_law_40 c_16 (by decide) (by decide) rfl rfl ?_
      exact lcase_16 hl9 (by omega) (by omega) (h.mono fun r hr lc' ha ck' cn' h1 h2 => lw_next hL g (by omega) (by omega) hr)
    have h := Ok.neg h c_16
    rcases Decidable.em (x = 17) with c_17 | c_17
    · have h := Ok.pos h c_17
      refine v_tableIn (v := 17) (tgt := 1388) dL_law_40 c_17 (by decide) (by decide) rfl rfl ?_
      exact lcase_17 hl9 (by omega) (by omega) (h.mono fun r hr lc' ha ck' cn' h1 h2 => lw_next hL g (by omega) (by omega) hr)
    have h := Ok.neg h c_17
    rcases Decidable.em (x = 18) with c_18 | c_18
    · have h := Ok.pos h c_18
      refine v_tableIn (v := 18) (tgt := 1455) dL_law_40 c_18 (by decide) (by decide) rfl rfl ?_
      exact lcase_18 hl9 (by omega) (by omega) (h.mono fun r hr lc' ha ck' cn' h1 h2 => lw_next hL g (by omega) (by omega) hr)
    have h := Ok.neg h c_18
    rcases Decidable.em (x = 19) with c_19 | c_19
    · have h := Ok.pos h c_19
      refine v_tableIn (v := 19) (tgt := 1522) dL_law_40 c_19 (by decide) (by decide) rfl rfl ?_
      exact lcase_19 hl9 (by omega) (by omega) (h.mono fun r hr lc' ha ck' cn' h1 h2 => lw_next hL g (by omega) (by omega) hr)
    have h := Ok.neg h c_19
    rcases Decidable.em (x = 20) with c_20 | c_20
    · have h := Ok.pos h c_20
      refine v_tableIn (v := 20) (tgt := 1589) dL_law_40 c_20 (by decide) (by decide) rfl rfl ?_
      exact lcase_20 hl9 (by omega) (by omega) (h.mono fun r hr lc' ha ck' cn' h1 h2 => lw_next hL g (by omega) (by omega) hr)
    have h := Ok.neg h c_20
    rcases Decidable.em (x = 21) with c_21 | c_21
    · have h := Ok.pos h c_21
      refine v_tableIn (v := 21) (tgt := 1656) dL_law_40 c_21 (by decide) (by decide) rfl rfl ?_
      exact lcase_21 hl9 (by omega) (by omega) (h.mono fun r hr lc' ha ck' cn' h1 h2 => lw_next hL g (by omega) (by omega) hr)
    have h := Ok.neg h c_21
    rcases Decidable.em (x = 22) with c_22 | c_22
    · have h := Ok.pos h c_22
      refine v_tableIn (v := 22) (tgt := 1723) dL_law_40 c_22 (by decide) (by decide) rfl rfl ?_
      exact lcase_22 hl9 (by omega) (by omega) (h.mono fun r hr lc' ha ck' cn' h1 h2 => lw_next hL g (by omega) (by omega) hr)
    have h := Ok.neg h c_22
    rcases Decidable.em (x = 23) with c_23 | c_23
    · have h := Ok.pos h c_23
      refine v_tableIn (v := 23) (tgt := 1790) dL_law_40 c_23 (by decide) (by decide) rfl rfl ?_
      exact lcase_23 hl9 (by omega) (by omega) (h.mono fun r hr lc' ha ck' cn' h1 h2 => lw_next hL g (by omega) (by omega) hr)
    have h := Ok.neg h c_23
    rcases Decidable.em (x = 24) with c_24 | c_24
    · have h := Ok.pos h c_24
      refine v_tableIn (v := 24) (tgt := 1857) dL_law_40 c_24 (by decide) (by decide) rfl rfl ?_
      exact lcase_24 hl9 (by omega) (by omega) (h.mono fun r hr lc' ha ck' cn' h1 h2 => lw_next hL g (by omega) (by omega) hr)
    have h := Ok.neg h c_24
    rcases Decidable.em (x = 25) with c_25 | c_25
    · have h := Ok.pos h c_25
      exact Ok.stuck h
    have h := Ok.neg h c_25
    rcases Decidable.em (x = 26) with c_26 | c_26
    · have h := Ok.pos h c_26
      refine v_tableIn (v := 26) (tgt := 1968) dL_law_40 c_26 (by decide) (by decide) rfl rfl ?_
      exact lcase_26 hl9 (by omega) (by omega) (h.mono fun r hr lc' ha ck' cn' h1 h2 => lw_next hL g (by omega) (by omega) hr)
    have h := Ok.neg h c_26
    rcases Decidable.em (x = 27) with c_27 | c_27
    · have h := Ok.pos h c_27
      refine v_tableIn (v := 27) (tgt := 2060) dL_law_40 c_27 (by decide) (by decide) rfl rfl ?_
      exact lcase_27 hl9 (by omega) (by omega) (h.mono fun r hr lc' ha ck' cn' h1 h2 => lw_next hL g (by omega) (by omega) hr)
    have h := Ok.neg h c_27
    rcases Decidable.em (x = 28) with c_28 | c_28
    · have h := Ok.pos h c_28
      refine v_tableIn (v := 28) (tgt := 2163) dL_law_40 c_28 (by decide) (by decide) rfl rfl ?_
      exact lcase_28 hl9 (by omega) (by omega) (h.mono fun r hr lc' ha ck' cn' h1 h2 => lw_next hL g (by omega) (by omega) hr)
    have h := Ok.neg h c_28
    rcases Decidable.em (x = 29) with c_29 | c_29
    · have h := Ok.pos h c_29
      refine v_tableIn (v := 29) (tgt := 2266) dL_law_40 c_29 (by decide) (by decide) rfl rfl ?_
      exact lcase_29 hl9 (by omega) (by omega) (h.mono fun r hr lc' ha ck' cn' h1 h2 => lw_next hL g (by omega) (by omega) hr)
    have h := Ok.neg h c_29
    rcases Decidable.em (x = 30) with c_30 | c_30
    · have h := Ok.pos h c_30
      refine v_tableIn (v := 30) (tgt := 2369) dL_law_40 c_30 (by decide) (by decide) rfl rfl ?_
      exact lcase_30 hl9 (by omega) (by omega) (h.mono fun r hr lc' ha ck' cn' h1 h2 => lw_next hL g (by omega) (by omega) hr)
    have h := Ok.neg h c_30
    rcases Decidable.em (x = 31) with c_31 | c_31
    · have h := Ok.pos h c_31
      refine v_tableIn (v := 31) (tgt := 2472) dL_law_40 c_31 (by decide) (by decide) rfl rfl ?_
      exact lcase_31 hl9 (by omega) (by omega) (h.mono fun r hr lc' ha ck' cn' h1 h2 => lw_next hL g (by omega) (by omega) hr)
    have h := Ok.neg h c_31
    rcases Decidable.em (x = 32) with c_32 | c_32
    · have h := Ok.pos h c_32
      refine v_tableIn (v := 32) (tgt := 2563) dL_law_40 c_32 (by decide) (by decide) rfl rfl ?_
      exact lcase_32 hl9 (by omega) (by omega) (h.mono fun r hr lc' ha ck' cn' h1 h2 => lw_next hL g (by omega) (by omega) hr)
    have h := Ok.neg h c_32
    rcases Decidable.em (x = 33) with c_33 | c_33
    · have h := Ok.pos h c_33
      refine v_tableIn (v := 33) (tgt := 2655) dL_law_40 c_33 (by decide) (by decide) rfl rfl ?_
      exact lcase_33 hl9 (by omega) (by omega) (h.mono fun r hr lc' ha ck' cn' h1 h2 => lw_next hL g (by omega) (by omega) hr)
    have h := Ok.neg h c_33
    rcases Decidable.em (x = 34) with c_34 | c_34
    · have h := Ok.pos h c_34
      refine v_tableIn (v := 34) (tgt := 2746) dL_law_40 c_34 (by decide) (by decide) rfl rfl ?_
      exact lcase_34 hl9 (by omega) (by omega) (h.mono fun r hr lc' ha ck' cn' h1 h2 => lw_next hL g (by omega) (by omega) hr)
    have h := Ok.neg h c_34
    rcases Decidable.em (x = 35) with c_35 | c_35
    · have h := Ok.pos h c_35
      refine v_tableIn (v := 35) (tgt := 2813) dL_law_40 c_35 (by decide) (by decide) rfl rfl ?_
      exact lcase_35 hl9 (by omega) (by omega) (h.mono fun r hr lc' ha ck' cn' h1 h2 => lw_next hL g (by omega) (by omega) hr)
    have h := Ok.neg h c_35
    rcases Decidable.em (x = 36) with c_36 | c_36
    · have h := Ok.pos h c_36
      refine v_tableIn (v := 36) (tgt := 2880) dL_law_40 c_36 (by decide) (by decide) rfl rfl ?_
      exact lcase_36 hl9 (by omega) (by omega) (h.mono fun r hr lc' ha ck' cn' h1 h2 => lw_next hL g (by omega) (by omega) hr)
    have h := Ok.neg h c_36
    rcases Decidable.em (x = 37) with c_37 | c_37
    · have h := Ok.pos h c_37
      refine v_tableIn (v := 37) (tgt := 2936) dL_law_40 c_37 (by decide) (by decide) rfl rfl ?_
      exact lcase_37 hl9 (by omega) (by omega) (h.mono fun r hr lc' ha ck' cn' h1 h2 => lw_next hL g (by omega) (by omega) hr)
    have h := Ok.neg h c_37
    rcases Decidable.em (x = 38) with c_38 | c_38
    · have h := Ok.pos h c_38
      refine v_tableIn (v := 38) (tgt := 2991) dL_law_40 c_38 (by decide) (by decide) rfl rfl ?_
      exact lcase_38 hl9 (by omega) (by omega) (h.mono fun r hr lc' ha ck' cn' h1 h2 => lw_next hL g (by omega) (by omega) hr)
    have h := Ok.neg h c_38
    rcases Decidable.em (x = 39) with c_39 | c_39
    · have h := Ok.pos h c_39
      refine v_tableIn (v := 39) (tgt := 3070) dL_law_40 c_39 (by decide) (by decide) rfl rfl ?_
      exact lcase_39 hl9 (by omega) (by omega) (h.mono fun r hr lc' ha ck' cn' h1 h2 => lw_next hL g (by omega) (by omega) hr)
    have h := Ok.neg h c_39
    rcases Decidable.em (x = 40) with c_40 | c_40
    · have h := Ok.pos h c_40
      refine v_tableIn (v := 40) (tgt := 3137) dL_law_40 c_40 (by decide) (by decide) rfl rfl ?_
      exact lcase_40 hl9 (by omega) (by omega) (h.mono fun r hr lc' ha ck' cn' h1 h2 => lw_next hL g (by omega) (by omega) hr)
    have h := Ok.neg h c_40
    rcases Decidable.em (x = 41) with c_41 | c_41
    · have h := Ok.pos h c_41
      refine v_tableIn (v := 41) (tgt := 3193) dL_law_40 c_41 (by decide) (by decide) rfl rfl ?_
      exact lcase_41 hl9 (by omega) (by omega) (h.mono fun r hr lc' ha ck' cn' h1 h2 => lw_next hL g (by omega) (by omega) hr)
    have h := Ok.neg h c_41
    rcases Decidable.em (x = 42) with c_42 | c_42
    · have h := Ok.pos h c_42
      refine v_tableIn (v := 42) (tgt := 3260) dL_law_40 c_42 (by decide) (by decide) rfl rfl ?_
      exact lcase_42 hl9 (by omega) (by omega) (h.mono fun r hr lc' ha ck' cn' h1 h2 => lw_next hL g (by omega) (by omega) hr)
    have h := Ok.neg h c_42
    rcases Decidable.em (x = 43) with c_43 | c_43
    · have h := Ok.pos h c_43
      refine v_tableIn (v := 43) (tgt := 3340) dL_law_40 c_43 (by decide) (by decide) rfl rfl ?_
      exact lcase_43 hl9 (by omega) (by omega) (h.mono fun r hr lc' ha ck' cn' h1 h2 => lw_next hL g (by omega) (by omega) hr)
    have h := Ok.neg h c_43
    rcases Decidable.em (x = 44) with c_44 | c_44
    · have h := Ok.pos h c_44
      refine v_tableIn (v := 44) (tgt := 3395) dL_law_40 c_44 (by decide) (by decide) rfl rfl ?_
      exact lcase_44 hl9 (by omega) (by omega) (h.mono fun r hr lc' ha ck' cn' h1 h2 => lw_next hL g (by omega) (by omega) hr)
    have h := Ok.neg h c_44
    rcases Decidable.em (x = 45) with c_45 | c_45
    · have h := Ok.pos h c_45
      refine v_tableIn (v := 45) (tgt := 3498) dL_law_40 c_45 (by decide) (by decide) rfl rfl ?_
      exact lcase_45 hl9 (by omega) (by omega) (h.mono fun r hr lc' ha ck' cn' h1 h2 => lw_next hL g (by omega) (by omega) hr)
    have h := Ok.neg h c_45
    rcases Decidable.em (x = 46) with c_46 | c_46
    · have h := Ok.pos h c_46
      refine v_tableIn (v := 46) (tgt := 3566) dL_law_40 c_46 (by decide) (by decide) rfl rfl ?_
      exact lcase_46 hl9 (by omega) (by omega) (h.mono fun r hr lc' ha ck' cn' h1 h2 => lw_next hL g (by omega) (by omega) hr)
    have h := Ok.neg h c_46
    rcases Decidable.em (x = 47) with c_47 | c_47
    · have h := Ok.pos h c_47
      refine v_tableIn (v := 47) (tgt := 3621) dL_law_40 c_47 (by decide) (by decide) rfl rfl ?_
      exact lcase_47 hl9 (by omega) (by omega) (h.mono fun r hr lc' ha ck' cn' h1 h2 => lw_next hL g (by omega) (by omega) hr)
    have h := Ok.neg h c_47
    rcases Decidable.em (x = 48) with c_48 | c_48
    · have h := Ok.pos h c_48
      refine v_tableIn (v := 48) (tgt := 3701) dL_law_40 c_48 (by decide) (by decide) rfl rfl ?_
      exact lcase_48 hl9 (by omega) (by omega) (h.mono fun r hr lc' ha ck' cn' h1 h2 => lw_next hL g (by omega) (by omega) hr)
    have h := Ok.neg h c_48
    rcases Decidable.em (x = 49) with c_49 | c_49
    · have h := Ok.pos h c_49
      refine v_tableIn (v := 49) (tgt := 3715) dL_law_40 c_49 (by decide) (by decide) rfl rfl ?_
      exact lcase_49 hl9 (by omega) (by omega) (h.mono fun r hr lc' ha ck' cn' h1 h2 => lw_next hL g (by omega) (by omega) hr)
    have h := Ok.neg h c_49
    have a_0 : x.toInt ≠ 0 := fun q => c_0 (Int32.toInt_inj.mp (q.trans (by decide)))
    have a_1 : x.toInt ≠ 1 := fun q => c_1 (Int32.toInt_inj.mp (q.trans (by decide)))
    have a_2 : x.toInt ≠ 2 := fun q => c_2 (Int32.toInt_inj.mp (q.trans (by decide)))
    have a_3 : x.toInt ≠ 3 := fun q => c_3 (Int32.toInt_inj.mp (q.trans (by decide)))
    have a_4 : x.toInt ≠ 4 := fun q => c_4 (Int32.toInt_inj.mp (q.trans (by decide)))
    have a_5 : x.toInt ≠ 5 := fun q => c_5 (Int32.toInt_inj.mp (q.trans (by decide)))
    have a_6 : x.toInt ≠ 6 := fun q => c_6 (Int32.toInt_inj.mp (q.trans (by decide)))
    have a_7 : x.toInt ≠ 7 := fun q => c_7 (Int32.toInt_inj.mp (q.trans (by decide)))
    have a_8 : x.toInt ≠ 8 := fun q => c_8 (Int32.toInt_inj.mp (q.trans (by decide)))
    have a_9 : x.toInt ≠ 9 := fun q => c_9 (Int32.toInt_inj.mp (q.trans (by decide)))
    have a_10 : x.toInt ≠ 10 := fun q => c_10 (Int32.toInt_inj.mp (q.trans (by decide)))
    have a_11 : x.toInt ≠ 11 := fun q => c_11 (Int32.toInt_inj.mp (q.trans (by decide)))
    have a_12 : x.toInt ≠ 12 := fun q => c_12 (Int32.toInt_inj.mp (q.trans (by decide)))
    have a_13 : x.toInt ≠ 13 := fun q => c_13 (Int32.toInt_inj.mp (q.trans (by decide)))
    have a_14 : x.toInt ≠ 14 := fun q => c_14 (Int32.toInt_inj.mp (q.trans (by decide)))
    have a_15 : x.toInt ≠ 15 := fun q => c_15 (Int32.toInt_inj.mp (q.trans (by decide)))
    have a_16 : x.toInt ≠ 16 := fun q => c_16 (Int32.toInt_inj.mp (q.trans (by decide)))
    have a_17 : x.toInt ≠ 17 := fun q => c_17 (Int32.toInt_inj.mp (q.trans (by decide)))
    have a_18 : x.toInt ≠ 18 := fun q => c_18 (Int32.toInt_inj.mp (q.trans (by decide)))
    have a_19 : x.toInt ≠ 19 := fun q => c_19 (Int32.toInt_inj.mp (q.trans (by decide)))
    have a_20 : x.toInt ≠ 20 := fun q => c_20 (Int32.toInt_inj.mp (q.trans (by decide)))
    have a_21 : x.toInt ≠ 21 := fun q => c_21 (Int32.toInt_inj.mp (q.trans (by decide)))
    have a_22 : x.toInt ≠ 22 := fun q => c_22 (Int32.toInt_inj.mp (q.trans (by decide)))
    have a_23 : x.toInt ≠ 23 := fun q => c_23 (Int32.toInt_inj.mp (q.trans (by decide)))
    have a_24 : x.toInt ≠ 24 := fun q => c_24 (Int32.toInt_inj.mp (q.trans (by decide)))
    have a_25 : x.toInt ≠ 25 := fun q => c_25 (Int32.toInt_inj.mp (q.trans (by decide)))
    have a_26 : x.toInt ≠ 26 := fun q => c_26 (Int32.toInt_inj.mp (q.trans (by decide)))
    have a_27 : x.toInt ≠ 27 := fun q => c_27 (Int32.toInt_inj.mp (q.trans (by decide)))
    have a_28 : x.toInt ≠ 28 := fun q => c_28 (Int32.toInt_inj.mp (q.trans (by decide)))
    have a_29 : x.toInt ≠ 29 := fun q => c_29 (Int32.toInt_inj.mp (q.trans (by decide)))
    have a_30 : x.toInt ≠ 30 := fun q => c_30 (Int32.toInt_inj.mp (q.trans (by decide)))
    have a_31 : x.toInt ≠ 31 := fun q => c_31 (Int32.toInt_inj.mp (q.trans (by decide)))
    have a_32 : x.toInt ≠ 32 := fun q => c_32 (Int32.toInt_inj.mp (q.trans (by decide)))
    have a_33 : x.toInt ≠ 33 := fun q => c_33 (Int32.toInt_inj.mp (q.trans (by decide)))
    have a_34 : x.toInt ≠ 34 := fun q => c_34 (Int32.toInt_inj.mp (q.trans (by decide)))
    have a_35 : x.toInt ≠ 35 := fun q => c_35 (Int32.toInt_inj.mp (q.trans (by decide)))
    have a_36 : x.toInt ≠ 36 := fun q => c_36 (Int32.toInt_inj.mp (q.trans (by decide)))
    have a_37 : x.toInt ≠ 37 := fun q => c_37 (Int32.toInt_inj.mp (q.trans (by decide)))
    have a_38 : x.toInt ≠ 38 := fun q => c_38 (Int32.toInt_inj.mp (q.trans (by decide)))
    have a_39 : x.toInt ≠ 39 := fun q => c_39 (Int32.toInt_inj.mp (q.trans (by decide)))
    have a_40 : x.toInt ≠ 40 := fun q => c_40 (Int32.toInt_inj.mp (q.trans (by decide)))
    have a_41 : x.toInt ≠ 41 := fun q => c_41 (Int32.toInt_inj.mp (q.trans (by decide)))
    have a_42 : x.toInt ≠ 42 := fun q => c_42 (Int32.toInt_inj.mp (q.trans (by decide)))
    have a_43 : x.toInt ≠ 43 := fun q => c_43 (Int32.toInt_inj.mp (q.trans (by decide)))
    have a_44 : x.toInt ≠ 44 := fun q => c_44 (Int32.toInt_inj.mp (q.trans (by decide)))
    have a_45 : x.toInt ≠ 45 := fun q => c_45 (Int32.toInt_inj.mp (q.trans (by decide)))
    have a_46 : x.toInt ≠ 46 := fun q => c_46 (Int32.toInt_inj.mp (q.trans (by decide)))
    have a_47 : x.toInt ≠ 47 := fun q => c_47 (Int32.toInt_inj.mp (q.trans (by decide)))
    have a_48 : x.toInt ≠ 48 := fun q => c_48 (Int32.toInt_inj.mp (q.trans (by decide)))
    have a_49 : x.toInt ≠ 49 := fun q => c_49 (Int32.toInt_inj.mp (q.trans (by decide)))
    refine v_tableOut (tgt := 3740) dL_law_40 (by omega) rfl ?_
    have h := Ok.ret h
    exact lw_next hL g (by omega) (by omega) h
