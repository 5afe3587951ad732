set_option maxRecDepth 100000
theorem lvT_0 {l : Launch} {D : va_G} {dA : Nat → ClassId} {A : Nat → Prop} {pz : Nat} {s : tt_S3} : xV (XT l D dA A pz) s 0 0 := rfl
theorem oT_0 {l : Launch} {D : va_G} {dA : Nat → ClassId} {A : Nat → Prop} {pz : Nat} {lc : Nat → Nat → Nat} {s : tt_S3} : tt_ent (XT l D dA A pz) lc s 0 0 = .inr (8, [.ref (lc 100 0), .ref (lc 200 0), .ref (lc 107 24), .ref (lc 1 0), .ref (lc 4 0), .ref (lc 6 0), .ref (lc 9 0), .int (rdI s.2.2 0 0 7), .int (rdI s.2.2 0 0 8)]) := rfl
theorem gT_X1_45_0 {l : Launch} {D : va_G} {dA : Nat → ClassId} {A : Nat → Prop} {pz : Nat} {lc : Nat → Nat → Nat} {s : tt_S3} {cc : ByteArray} {nl : Nat} {rt : Option FieldType} {rm : Room} {tn : tt_Tn} {Q : tt_Fin} {pc : Nat} {lv : List (Nat × Value)} {rest : List Value} {ck cn : Nat} (d : decode cc pc = .ok (.getfield 45, 3)) (kk : tt_V (XT l D dA A pz) cc (RX1, nl, rt, rm, tn) Q (pc + 3) lv (.ref (lc 9 0) :: rest) lc s ck cn) : tt_V (XT l D dA A pz) cc (RX1, nl, rt, rm, tn) Q pc lv (.ref (lc 0 0) :: rest) lc s ck cn := v_get (p := 6) lvT_0 oT_0 rfl in_X1 (by decide) q898 (.inl rfl) rfl d kk
theorem lvT_9 {l : Launch} {D : va_G} {dA : Nat → ClassId} {A : Nat → Prop} {pz : Nat} {s : tt_S3} : xV (XT l D dA A pz) s 9 0 := rfl
theorem aT_9 {l : Launch} {D : va_G} {dA : Nat → ClassId} {A : Nat → Prop} {pz : Nat} {lc : Nat → Nat → Nat} {s : tt_S3} : tt_ent (XT l D dA A pz) lc s 9 0 = .inl (dA 0, 3, .inl (rdI s.2.2 9 0)) := rfl
theorem lT_9 {l : Launch} {D : va_G} {dA : Nat → ClassId} {A : Nat → Prop} {pz : Nat} {lc : Nat → Nat → Nat} {s : tt_S3} {cc : ByteArray} {Y : tt_Y} {Q : tt_Fin} {pc : Nat} {lv : List (Nat × Value)} {rest : List Value} {ck cn : Nat} {j : Int32} (g : inB j 3 = true) (d : decode cc pc = .ok (.iaload, 1)) (kk : tt_V (XT l D dA A pz) cc Y Q (pc + 1) lv (.int (rdI s.2.2 9 0 j.toNatClampNeg) :: rest) lc s ck cn) : tt_V (XT l D dA A pz) cc Y Q pc lv (.int j :: .ref (lc 9 0) :: rest) lc s ck cn := v_iald (t := 0) lvT_9 aT_9 rfl g d kk
theorem sT_9 {l : Launch} {D : va_G} {dA : Nat → ClassId} {A : Nat → Prop} {pz : Nat} {lc : Nat → Nat → Nat} {s : tt_S3} {cc : ByteArray} {Y : tt_Y} {Q : tt_Fin} {pc : Nat} {lv : List (Nat × Value)} {rest : List Value} {ck cn : Nat} {j x : Int32} (g : inB j 3 = true) (d : decode cc pc = .ok (.iastore, 1)) (kk : tt_V (XT l D dA A pz) cc Y Q (pc + 1) lv rest lc (s.1, s.2.1, wrI s.2.2 9 0 j.toNatClampNeg x) ck cn) : tt_V (XT l D dA A pz) cc Y Q pc lv (.int x :: .int j :: .ref (lc 9 0) :: rest) lc s ck cn := v_iast (s' := (s.1, s.2.1, wrI s.2.2 9 0 j.toNatClampNeg x)) (t := 0) lvT_9 aT_9 (by rw [aT_9]; show _ = Sum.inl (dA 0, 3, Sum.inl (upd (rdI s.2.2 9 0) j.toNatClampNeg x)); rw [← tt_updI]) (fun kd' i' h => eT_own (by intro a; exact tt_own_wrI h)) (fun _ _ z => z) rfl g d kk
theorem nT_9 {l : Launch} {D : va_G} {dA : Nat → ClassId} {A : Nat → Prop} {pz : Nat} {lc : Nat → Nat → Nat} {s : tt_S3} {cc : ByteArray} {Y : tt_Y} {Q : tt_Fin} {pc : Nat} {lv : List (Nat × Value)} {rest : List Value} {ck cn : Nat} (d : decode cc pc = .ok (.arraylength, 1)) (kk : tt_V (XT l D dA A pz) cc Y Q (pc + 1) lv (.int 3 :: rest) lc s ck cn) : tt_V (XT l D dA A pz) cc Y Q pc lv (.ref (lc 9 0) :: rest) lc s ck cn := v_alen (t := 0) lvT_9 aT_9 rfl rfl d kk
def fT_within (s : tt_S3) (x1 : Int32) (x2 : Int32) (x3 : Int32) : Option ((tt_S3) ⊕ (Nat × tt_S3)) :=
  (if x1 < x2 then some (.inl ()) else if x3 < x1 then some (.inl ()) else some (.inr (.inl s)) : Option ((Unit) ⊕ ((tt_S3) ⊕ (Nat × tt_S3)))).bind fun q_t1 => orRet q_t1 fun t1 => if inB (1 : Int32) 3 then nm (s.1, s.2.1, wrI s.2.2 9 0 (1 : Int32).toNatClampNeg ((rdI s.2.2 9 0 (1 : Int32).toNatClampNeg) + (1 : Int32))) fun s5 => some (.inr (1, s5)) else none
abbrev rmT_within : Room := { frames := 7, cells := 1, slots := 6, locals := 117 }
set_option maxHeartbeats 4000000 in
theorem mT_within (l : Launch) (D : va_G) (dA : Nat → ClassId) (A : Nat → Prop) (pz : Nat) (hl9 : l.stackTraces = false) (lc : Nat → Nat → Nat) (s : tt_S3) (x1 : Int32) (x2 : Int32) (x3 : Int32) {Q : Option Value → (Nat → Nat → Nat) → tt_S3 → Prop} {QX : String → (Nat → Nat → Nat) → tt_S3 → Prop} (h : Ok (fT_within s x1 x2 x3) (fun q => Sum.casesOn (motive := fun _ => Prop) q (fun r => Q none lc r) (fun e => QX (tt_exn e.1) lc e.2))) : tt_SpX (XT l D dA A pz) yX1_within cX1_within 4 none rmT_within [.ref (lc 0 0), .int x1, .int x2, .int x3] lc s Q QX := by
  refine tt_SpX.ofV plX1 kokT (Nat.le_of_ble_eq_true rfl) ?_
  show tt_V (XT l D dA A pz) cX1_within (RX1, 4, none, rmT_within, tt_ne) (tt_fx (XT l D dA A pz) (RX1, 4, none, rmT_within, tt_ne) Q QX) 0 [(0, .ref (lc 0 0)), (1, .int x1), (2, .int x2), (3, .int x3)] [] lc s 0 0
  unfold fT_within at h
  refine v_iload_n 1 dX1_within_0 rfl ?_
  refine v_iload_n 2 dX1_within_1 rfl ?_
  have h := Ok.joinR (PJ := fun t1 : Unit => tt_V (XT l D dA A pz) cX1_within (RX1, 4, none, rmT_within, tt_ne) (tt_fx (XT l D dA A pz) (RX1, 4, none, rmT_within, tt_ne) Q QX) 11 [(0, .ref (lc 0 0))] [] lc s 0 0) h (fun t1 h => by
    refine v_aload_n 0 dX1_within_11 rfl ?_
    refine gT_X1_45_0 dX1_within_12 ?_
    refine v_iconst dX1_within_15 ic_1 ?_
    refine v_dup2_11 dX1_within_16 rfl rfl ?_
    obtain ⟨g4, h⟩ := Ok.guard h
    refine lT_9 g4 dX1_within_17 ?_
    refine v_iconst dX1_within_18 ic_1 ?_
    refine v_iadd dX1_within_19 ?_
    refine sT_9 g4 dX1_within_20 ?_
    refine v_nmS (fun s5 e_s5 => ?_)
    have h := Ok.nm h e_s5
    have h := Ok.ret h
    exact v_throw0 (names := ["java/lang/RuntimeException", "java/lang/Exception"]) hl9 (by decide +kernel) thN q954 q136 knT thW_1 thG_1 kzT (fun _ _ _ h => h) dX1_within_21 dX1_within_24 dX1_within_25 dX1_within_28 (Nat.le_of_ble_eq_true rfl) (Nat.le_of_ble_eq_true rfl) (Nat.le_of_ble_eq_true rfl) (Nat.le_of_ble_eq_true rfl) h)
  refine v_icmp_lt (tgt := 11) dX1_within_2 rfl (fun c2 => ?_) (fun c2 => ?_)
  · have h := Ok.pos h c2
    refine v_sub [0] rfl ?_
    have h := Ok.ret h
    exact h
  · have h := Ok.neg h c2
    refine v_iload_n 1 dX1_within_5 rfl ?_
    refine v_iload_n 3 dX1_within_6 rfl ?_
    refine v_icmp_gt (tgt := 11) dX1_within_7 rfl (fun c3 => ?_) (fun c3 => ?_)
    · have h := Ok.pos h c3
      refine v_sub [0] rfl ?_
      have h := Ok.ret h
      exact h
    · have h := Ok.neg h c3
      have h := Ok.ret h
      exact v_retX (v_vret rfl (Nat.le_of_ble_eq_true rfl) (Nat.le_of_ble_eq_true rfl) dX1_within_10 h)
theorem cT_80_0 {l : Launch} {D : va_G} {dA : Nat → ClassId} {A : Nat → Prop} {pz : Nat} {lc : Nat → Nat → Nat} {s : tt_S3} {cc : ByteArray} {nl : Nat} {rt : Option FieldType} {rm : Room} {tn : tt_Tn} {Q : Option Value → (Nat → Nat → Nat) → tt_S3 → Prop} {QX : String → (Nat → Nat → Nat) → tt_S3 → Prop} {pc : Nat} {lv : List (Nat × Value)} {rest : List Value} {ck cn : Nat} {x1 : Int32} {x2 : Int32} {x3 : Int32} {K : tt_S3 → Prop} {K2 : Nat × tt_S3 → Prop} (h : Ok (fT_within s x1 x2 x3) (fun q => Sum.casesOn (motive := fun _ => Prop) q K K2)) (hl9 : l.stackTraces = false) (hTb : ∀ c m s0, tn c m s0 → tt_ne c m s0) (kx : ∀ e : Nat × tt_S3, K2 e → QX (tt_exn e.1) lc e.2) (hR : 7 + 1 ≤ rm.frames ∧ 8 + (4 + 11) + 117 ≤ rm.locals) (hW : (rest.map fun v => v.category).sum ≤ 8) (d : decode cc pc = .ok (.invokevirtual 80, 3)) (kk : ∀ r, K r → tt_V (XT l D dA A pz) cc (RX1, nl, rt, rm, tn) (tt_fx (XT l D dA A pz) (RX1, nl, rt, rm, tn) Q QX) (pc + 3) lv rest lc r (ck + 1) (cn + 6)) (hf : ck + 1 ≤ rm.cells ∧ cn + 6 ≤ rm.slots) : tt_V (XT l D dA A pz) cc (RX1, nl, rt, rm, tn) (tt_fx (XT l D dA A pz) (RX1, nl, rt, rm, tn) Q QX) pc lv (.int x3 :: .int x2 :: .int x1 :: .ref (lc 0 0) :: rest) lc s ck cn :=
  v_callVX (kd := 0) (i := 0) (nA := 3) (As := [.int x1, .int x2, .int x3]) lvT_0 oT_0 rfl (mT_within l D dA A pz hl9 lc s x1 x2 x3 (Q := (fun v lc' s' => ∃ r, K r ∧ v = none ∧ lc' = lc ∧ s' = r)) (QX := fun E lc' s' => ∃ e : Nat × tt_S3, K2 e ∧ E = tt_exn e.1 ∧ lc' = lc ∧ s' = e.2) (h.mono (fun q hq => by cases q with
    | inl r => exact (fun hr => ⟨r, hr, rfl, rfl, rfl⟩) hq
    | inr e => exact ⟨e, hq, rfl, rfl, rfl⟩))) (lw_V q950 q952 qs19 q127 q953) (by decide +kernel) rfl hR hW hf hTb d rfl (fun E lc' s' q => by obtain ⟨e, hq, e1, e2, e3⟩ := q; rw [e1, e2, e3]; exact kx e hq) (fun v lc' s' q => by obtain ⟨r, hr, e1, e2, e3⟩ := q; rw [e1, e2, e3]; exact kk r hr)
theorem gT_X1_10_0 {l : Launch} {D : va_G} {dA : Nat → ClassId} {A : Nat → Prop} {pz : Nat} {lc : Nat → Nat → Nat} {s : tt_S3} {cc : ByteArray} {nl : Nat} {rt : Option FieldType} {rm : Room} {tn : tt_Tn} {Q : tt_Fin} {pc : Nat} {lv : List (Nat × Value)} {rest : List Value} {ck cn : Nat} (d : decode cc pc = .ok (.getfield 10, 3)) (kk : tt_V (XT l D dA A pz) cc (RX1, nl, rt, rm, tn) Q (pc + 3) lv (.ref (lc 100 0) :: rest) lc s ck cn) : tt_V (XT l D dA A pz) cc (RX1, nl, rt, rm, tn) Q pc lv (.ref (lc 0 0) :: rest) lc s ck cn := v_get (p := 0) lvT_0 oT_0 rfl in_X1 (by decide) q892 (.inl rfl) rfl d kk
theorem lvT_100 {l : Launch} {D : va_G} {dA : Nat → ClassId} {A : Nat → Prop} {pz : Nat} {s : tt_S3} : xV (XT l D dA A pz) s 100 0 := by rw [show (100 : Nat) = 100 + 0 from rfl, lvT_now (by decide)]; exact rfl
theorem oT_100 {l : Launch} {D : va_G} {dA : Nat → ClassId} {A : Nat → Prop} {pz : Nat} {lc : Nat → Nat → Nat} {s : tt_S3} : tt_ent (XT l D dA A pz) lc s 100 0 = .inr (0, [.ref (lc 101 0), .ref (lc 106 0), .ref (lc 121 0), .ref (lc 123 0), .ref (lc 124 0), .ref (lc 125 0), .ref (lc 126 0), .ref (lc 127 0), .ref (lc 128 0), .ref (lc 129 0), .ref (lc 130 0), .ref (lc 131 0), .ref (lc 133 0), .ref (lc 134 0), .ref (lc 114 25), .ref (lc 114 26), .ref (lc 136 0), .int (rdI s.1 0 0 17), .int (rdI s.1 0 0 18), .int (rdI s.1 0 0 19), .int (rdI s.1 0 0 20), .int (rdI s.1 0 0 21), .int (rdI s.1 0 0 22), .int (rdI s.1 0 0 23)]) := eT_now (kd := 0) (by decide)
theorem gT_X1_58_100 {l : Launch} {D : va_G} {dA : Nat → ClassId} {A : Nat → Prop} {pz : Nat} {lc : Nat → Nat → Nat} {s : tt_S3} {cc : ByteArray} {nl : Nat} {rt : Option FieldType} {rm : Room} {tn : tt_Tn} {Q : tt_Fin} {pc : Nat} {lv : List (Nat × Value)} {rest : List Value} {ck cn : Nat} (d : decode cc pc = .ok (.getfield 58, 3)) (kk : tt_V (XT l D dA A pz) cc (RX1, nl, rt, rm, tn) Q (pc + 3) lv (.int (rdI s.1 0 0 21) :: rest) lc s ck cn) : tt_V (XT l D dA A pz) cc (RX1, nl, rt, rm, tn) Q pc lv (.ref (lc 100 0) :: rest) lc s ck cn := v_getN (p := 21) knT lvT_100 oT_100 rfl in_X2 (by decide) q762 (.inl rfl) rfl d kk
theorem gT_X1_70_100 {l : Launch} {D : va_G} {dA : Nat → ClassId} {A : Nat → Prop} {pz : Nat} {lc : Nat → Nat → Nat} {s : tt_S3} {cc : ByteArray} {nl : Nat} {rt : Option FieldType} {rm : Room} {tn : tt_Tn} {Q : tt_Fin} {pc : Nat} {lv : List (Nat × Value)} {rest : List Value} {ck cn : Nat} (d : decode cc pc = .ok (.getfield 70, 3)) (kk : tt_V (XT l D dA A pz) cc (RX1, nl, rt, rm, tn) Q (pc + 3) lv (.int (rdI s.1 0 0 22) :: rest) lc s ck cn) : tt_V (XT l D dA A pz) cc (RX1, nl, rt, rm, tn) Q pc lv (.ref (lc 100 0) :: rest) lc s ck cn := v_getN (p := 22) knT lvT_100 oT_100 rfl in_X2 (by decide) q764 (.inl rfl) rfl d kk
theorem gT_X1_93_0 {l : Launch} {D : va_G} {dA : Nat → ClassId} {A : Nat → Prop} {pz : Nat} {lc : Nat → Nat → Nat} {s : tt_S3} {cc : ByteArray} {nl : Nat} {rt : Option FieldType} {rm : Room} {tn : tt_Tn} {Q : tt_Fin} {pc : Nat} {lv : List (Nat × Value)} {rest : List Value} {ck cn : Nat} (d : decode cc pc = .ok (.getfield 93, 3)) (kk : tt_V (XT l D dA A pz) cc (RX1, nl, rt, rm, tn) Q (pc + 3) lv (.int (rdI s.2.2 0 0 7) :: rest) lc s ck cn) : tt_V (XT l D dA A pz) cc (RX1, nl, rt, rm, tn) Q pc lv (.ref (lc 0 0) :: rest) lc s ck cn := v_get (p := 7) lvT_0 oT_0 rfl in_X1 (by decide) q899 (.inl rfl) rfl d kk
theorem gT_X1_146_100 {l : Launch} {D : va_G} {dA : Nat → ClassId} {A : Nat → Prop} {pz : Nat} {lc : Nat → Nat → Nat} {s : tt_S3} {cc : ByteArray} {nl : Nat} {rt : Option FieldType} {rm : Room} {tn : tt_Tn} {Q : tt_Fin} {pc : Nat} {lv : List (Nat × Value)} {rest : List Value} {ck cn : Nat} (d : decode cc pc = .ok (.getfield 146, 3)) (kk : tt_V (XT l D dA A pz) cc (RX1, nl, rt, rm, tn) Q (pc + 3) lv (.int (rdI s.1 0 0 18) :: rest) lc s ck cn) : tt_V (XT l D dA A pz) cc (RX1, nl, rt, rm, tn) Q pc lv (.ref (lc 100 0) :: rest) lc s ck cn := v_getN (p := 18) knT lvT_100 oT_100 rfl in_X2 (by decide) q756 (.inl rfl) rfl d kk
theorem gT_X1_149_100 {l : Launch} {D : va_G} {dA : Nat → ClassId} {A : Nat → Prop} {pz : Nat} {lc : Nat → Nat → Nat} {s : tt_S3} {cc : ByteArray} {nl : Nat} {rt : Option FieldType} {rm : Room} {tn : tt_Tn} {Q : tt_Fin} {pc : Nat} {lv : List (Nat × Value)} {rest : List Value} {ck cn : Nat} (d : decode cc pc = .ok (.getfield 149, 3)) (kk : tt_V (XT l D dA A pz) cc (RX1, nl, rt, rm, tn) Q (pc + 3) lv (.int (rdI s.1 0 0 19) :: rest) lc s ck cn) : tt_V (XT l D dA A pz) cc (RX1, nl, rt, rm, tn) Q pc lv (.ref (lc 100 0) :: rest) lc s ck cn := v_getN (p := 19) knT lvT_100 oT_100 rfl in_X2 (by decide) q758 (.inl rfl) rfl d kk
theorem gT_X1_152_100 {l : Launch} {D : va_G} {dA : Nat → ClassId} {A : Nat → Prop} {pz : Nat} {lc : Nat → Nat → Nat} {s : tt_S3} {cc : ByteArray} {nl : Nat} {rt : Option FieldType} {rm : Room} {tn : tt_Tn} {Q : tt_Fin} {pc : Nat} {lv : List (Nat × Value)} {rest : List Value} {ck cn : Nat} (d : decode cc pc = .ok (.getfield 152, 3)) (kk : tt_V (XT l D dA A pz) cc (RX1, nl, rt, rm, tn) Q (pc + 3) lv (.int (rdI s.1 0 0 20) :: rest) lc s ck cn) : tt_V (XT l D dA A pz) cc (RX1, nl, rt, rm, tn) Q pc lv (.ref (lc 100 0) :: rest) lc s ck cn := v_getN (p := 20) knT lvT_100 oT_100 rfl in_X2 (by decide) q760 (.inl rfl) rfl d kk
theorem gT_X1_136_100 {l : Launch} {D : va_G} {dA : Nat → ClassId} {A : Nat → Prop} {pz : Nat} {lc : Nat → Nat → Nat} {s : tt_S3} {cc : ByteArray} {nl : Nat} {rt : Option FieldType} {rm : Room} {tn : tt_Tn} {Q : tt_Fin} {pc : Nat} {lv : List (Nat × Value)} {rest : List Value} {ck cn : Nat} (d : decode cc pc = .ok (.getfield 136, 3)) (kk : tt_V (XT l D dA A pz) cc (RX1, nl, rt, rm, tn) Q (pc + 3) lv (.int (rdI s.1 0 0 17) :: rest) lc s ck cn) : tt_V (XT l D dA A pz) cc (RX1, nl, rt, rm, tn) Q pc lv (.ref (lc 100 0) :: rest) lc s ck cn := v_getN (p := 17) knT lvT_100 oT_100 rfl in_X2 (by decide) q754 (.inl rfl) rfl d kk
theorem cT_182_100 {l : Launch} {D : va_G} {dA : Nat → ClassId} {A : Nat → Prop} {pz : Nat} {lc : Nat → Nat → Nat} {s : tt_S3} {cc : ByteArray} {nl : Nat} {rt : Option FieldType} {rm : Room} {tn : tt_Tn} {Q : tt_Fin} {pc : Nat} {lv : List (Nat × Value)} {rest : List Value} {ck cn : Nat} {x1 : Int32} {K : Int32 → Prop} (h : Ok (fW_isGap s.1 x1) K) (hR : 0 + 1 ≤ rm.frames ∧ 8 + (2 + 11) + 0 ≤ rm.locals) (hW : (rest.map fun v => v.category).sum ≤ 8) (d : decode cc pc = .ok (.invokevirtual 182, 3)) (kk : ∀ r, zB r → K r → tt_V (XT l D dA A pz) cc (RX1, nl, rt, rm, tn) Q (pc + 3) lv (.int r :: rest) lc s (ck + 0) (cn + 0)) (hf : ck + 0 ≤ rm.cells ∧ cn + 0 ≤ rm.slots) : tt_V (XT l D dA A pz) cc (RX1, nl, rt, rm, tn) Q pc lv (.int x1 :: .ref (lc 100 0) :: rest) lc s ck cn :=
  v_callV (kd := 100) (i := 0) (nA := 1) (As := [.int x1]) lvT_100 oT_100 rfl (liftNow (Q := (fun v lc' s' => ∃ r, zB r ∧ K r ∧ v = some (.int r) ∧ lc' = lc ∧ s' = s)) (mW_isGap l D dA (aT0 lc s) true (nT0 lc) s.1 x1 (Q := fun v lc' w => lc' = nT0 lc ∧ (fun v lc' s' => ∃ r, zB r ∧ K r ∧ v = some (.int r) ∧ lc' = lc ∧ s' = s) v lc (w, s.2)) (h.mono (fun r hr => fun hz => ⟨rfl, r, hz, hr, rfl, rfl, rfl⟩)))) (lw_V q1238 q481 q482 q128 q483) (by decide +kernel) rfl hR hW hf d rfl (fun v lc' s' q => by obtain ⟨r, hz, hr, e1, e2, e3⟩ := q; rw [e1, e2, e3]; exact kk r hz hr)
def fT_gaps_L4 (s : tt_S3) (a1 : Int32 × Int32) : Option ((Int32 × Int32) ⊕ (Int32 × Int32)) :=
  if (12 : Int32) ≤ a1.2 then some (.inr (a1.1, a1.2)) else (fW_isGap s.1 a1.2).bind fun r4 => if r4 = 0 then some (.inl (a1.1, (a1.2 + 1 : Int32))) else nm (a1.1 ||| ((1 : Int32) <<< (a1.2 &&& 31))) fun v6 => some (.inl (v6, (a1.2 + 1 : Int32)))
def fT_gaps (s : tt_S3) : Option (Int32) :=
  (itr (fT_gaps_L4 s) tt_fuel ((0 : Int32), (0 : Int32))).bind fun b2 => some b2.1
abbrev rmT_gaps : Room := { frames := 1, cells := 0, slots := 0, locals := 21 }
set_option maxHeartbeats 4000000 in
theorem mT_gaps (l : Launch) (D : va_G) (dA : Nat → ClassId) (A : Nat → Prop) (pz : Nat) (lc : Nat → Nat → Nat) (s : tt_S3) {Q : Option Value → (Nat → Nat → Nat) → tt_S3 → Prop} (h : Ok (fT_gaps s) (fun r => Q (some (.int r)) lc s)) : tt_Sp (XT l D dA A pz) yX1_gaps cX1_gaps 3 (some .int) rmT_gaps [.ref (lc 0 0)] lc s Q := by
  refine tt_Sp.ofV plX1 kokT (Nat.le_of_ble_eq_true rfl) ?_
  show tt_V (XT l D dA A pz) cX1_gaps (RX1, 3, (some .int), rmT_gaps, tt_nt) (tt_fn (XT l D dA A pz) (RX1, 3, (some .int), rmT_gaps, tt_nt) Q) 0 [(0, .ref (lc 0 0))] [] lc s 0 0
  unfold fT_gaps at h
  refine v_iconst dX1_gaps_0 ic_0 ?_
  refine v_istore_n [(1, .int (0 : Int32)), (0, .ref (lc 0 0))] dX1_gaps_1 (Nat.le_of_ble_eq_true rfl) rfl ?_
  refine v_iconst dX1_gaps_2 ic_0 ?_
  refine v_istore_n [(2, .int (0 : Int32)), (1, .int (0 : Int32)), (0, .ref (lc 0 0))] dX1_gaps_3 (Nat.le_of_ble_eq_true rfl) rfl ?_
  refine v_sub [2, 1, 0] rfl ?_
  refine itr_loop (P := fun a1 : Int32 × Int32 => tt_V (XT l D dA A pz) cX1_gaps (RX1, 3, (some .int), rmT_gaps, tt_nt) (tt_fn (XT l D dA A pz) (RX1, 3, (some .int), rmT_gaps, tt_nt) Q) 4 [(0, .ref (lc 0 0)), (1, .int a1.1), (2, .int a1.2)] [] lc s 0 0) (PE := fun b2 : Int32 × Int32 => tt_V (XT l D dA A pz) cX1_gaps (RX1, 3, (some .int), rmT_gaps, tt_nt) (tt_fn (XT l D dA A pz) (RX1, 3, (some .int), rmT_gaps, tt_nt) Q) 33 [(0, .ref (lc 0 0)), (1, .int b2.1), (2, .int b2.2)] [] lc s 0 0) h (fun b2 h => ?_) (fun a1 h => ?_)
  · refine v_iload_n 1 dX1_gaps_33 rfl ?_
    have h := Ok.ret h
    exact v_iret rfl (Nat.le_of_ble_eq_true rfl) (Nat.le_of_ble_eq_true rfl) dX1_gaps_34 h
  · have h : Ok (fT_gaps_L4 s a1) _ := h
    unfold fT_gaps_L4 at h
    refine v_iload_n 2 dX1_gaps_4 rfl ?_
    refine v_bipush dX1_gaps_5 kb_12 ?_
    refine v_icmp_ge (tgt := 33) dX1_gaps_7 rfl (fun c3 => ?_) (fun c3 => ?_)
    · have h := Ok.pos h c3
      have h := Ok.ret h
      exact h
    · have h := Ok.neg h c3
      refine v_aload_n 0 dX1_gaps_10 rfl ?_
      refine gT_X1_10_0 dX1_gaps_11 ?_
      refine v_iload_n 2 dX1_gaps_14 rfl ?_
      refine cT_182_100 (Ok.bind h) ⟨Nat.le_of_ble_eq_true rfl, Nat.le_of_ble_eq_true rfl⟩ (Nat.le_of_ble_eq_true rfl) dX1_gaps_15 (fun r4 z_r4 h => ?_) ⟨Nat.le_of_ble_eq_true rfl, Nat.le_of_ble_eq_true rfl⟩
      refine v_if_eq (tgt := 27) dX1_gaps_18 rfl (fun c5 => ?_) (fun c5 => ?_)
      · have h := Ok.pos h c5
        refine v_iinc (v := (a1.2 + 1 : Int32)) 2 [(2, .int (a1.2 + 1 : Int32)), (0, .ref (lc 0 0)), (1, .int a1.1)] dX1_gaps_27 rfl (by rw [ic_1]) (Nat.le_of_ble_eq_true rfl) rfl ?_
        refine v_goto (tgt := 4) dX1_gaps_30 rfl ?_
        refine v_sub [1, 2, 0] rfl ?_
        have h := Ok.ret h
        exact h
      · have h := Ok.neg h c5
        refine v_iload_n 1 dX1_gaps_21 rfl ?_
        refine v_iconst dX1_gaps_22 ic_1 ?_
        refine v_iload_n 2 dX1_gaps_23 rfl ?_
        refine v_ishl dX1_gaps_24 ?_
        refine v_ior dX1_gaps_25 ?_
        refine v_nmI (fun v6 e_v6 => ?_)
        have h := Ok.nm h e_v6
        refine v_istore_n [(1, .int v6), (0, .ref (lc 0 0)), (2, .int a1.2)] dX1_gaps_26 (Nat.le_of_ble_eq_true rfl) rfl ?_
        refine v_iinc (v := (a1.2 + 1 : Int32)) 2 [(2, .int (a1.2 + 1 : Int32)), (1, .int v6), (0, .ref (lc 0 0))] dX1_gaps_27 rfl (by rw [ic_1]) (Nat.le_of_ble_eq_true rfl) rfl ?_
        refine v_goto (tgt := 4) dX1_gaps_30 rfl ?_
        refine v_sub [2, 1, 0] rfl ?_
        have h := Ok.ret h
        exact h
theorem cT_192_0 {l : Launch} {D : va_G} {dA : Nat → ClassId} {A : Nat → Prop} {pz : Nat} {lc : Nat → Nat → Nat} {s : tt_S3} {cc : ByteArray} {nl : Nat} {rt : Option FieldType} {rm : Room} {tn : tt_Tn} {Q : tt_Fin} {pc : Nat} {lv : List (Nat × Value)} {rest : List Value} {ck cn : Nat} {K : Int32 → Prop} (h : Ok (fT_gaps s) K) (hR : 1 + 1 ≤ rm.frames ∧ 8 + (3 + 11) + 21 ≤ rm.locals) (hW : (rest.map fun v => v.category).sum ≤ 8) (d : decode cc pc = .ok (.invokevirtual 192, 3)) (kk : ∀ r, K r → tt_V (XT l D dA A pz) cc (RX1, nl, rt, rm, tn) Q (pc + 3) lv (.int r :: rest) lc s (ck + 0) (cn + 0)) (hf : ck + 0 ≤ rm.cells ∧ cn + 0 ≤ rm.slots) : tt_V (XT l D dA A pz) cc (RX1, nl, rt, rm, tn) Q pc lv (.ref (lc 0 0) :: rest) lc s ck cn :=
  v_callV (kd := 0) (i := 0) (nA := 0) (As := []) lvT_0 oT_0 rfl (mT_gaps l D dA A pz lc s (Q := (fun v lc' s' => ∃ r, K r ∧ v = some (.int r) ∧ lc' = lc ∧ s' = s)) (h.mono (fun r hr => ⟨r, hr, rfl, rfl, rfl⟩))) (lw_V q1234 q1236 qs31 q127 q1237) (by decide +kernel) rfl hR hW hf d rfl (fun v lc' s' q => by obtain ⟨r, hr, e1, e2, e3⟩ := q; rw [e1, e2, e3]; exact kk r hr)
theorem cT_173_100 {l : Launch} {D : va_G} {dA : Nat → ClassId} {A : Nat → Prop} {pz : Nat} {lc : Nat → Nat → Nat} {s : tt_S3} {cc : ByteArray} {nl : Nat} {rt : Option FieldType} {rm : Room} {tn : tt_Tn} {Q : tt_Fin} {pc : Nat} {lv : List (Nat × Value)} {rest : List Value} {ck cn : Nat} {x1 : Int32} {K : Int32 → Prop} (h : Ok (fW_inStatus s.1 x1) K) (hR : 0 + 1 ≤ rm.frames ∧ 8 + (4 + 11) + 0 ≤ rm.locals) (hW : (rest.map fun v => v.category).sum ≤ 8) (d : decode cc pc = .ok (.invokevirtual 173, 3)) (kk : ∀ r, K r → tt_V (XT l D dA A pz) cc (RX1, nl, rt, rm, tn) Q (pc + 3) lv (.int r :: rest) lc s (ck + 0) (cn + 0)) (hf : ck + 0 ≤ rm.cells ∧ cn + 0 ≤ rm.slots) : tt_V (XT l D dA A pz) cc (RX1, nl, rt, rm, tn) Q pc lv (.int x1 :: .ref (lc 100 0) :: rest) lc s ck cn :=
  v_callV (kd := 100) (i := 0) (nA := 1) (As := [.int x1]) lvT_100 oT_100 rfl (liftNow (Q := (fun v lc' s' => ∃ r, K r ∧ v = some (.int r) ∧ lc' = lc ∧ s' = s)) (mW_inStatus l D dA (aT0 lc s) true (nT0 lc) s.1 x1 (Q := fun v lc' w => lc' = nT0 lc ∧ (fun v lc' s' => ∃ r, K r ∧ v = some (.int r) ∧ lc' = lc ∧ s' = s) v lc (w, s.2)) (h.mono (fun r hr => ⟨rfl, r, hr, rfl, rfl, rfl⟩)))) (lw_V q1196 q1197 q1198 q128 q1199) (by decide +kernel) rfl hR hW hf d rfl (fun v lc' s' q => by obtain ⟨r, hr, e1, e2, e3⟩ := q; rw [e1, e2, e3]; exact kk r hr)
theorem gT_X1_66_100 {l : Launch} {D : va_G} {dA : Nat → ClassId} {A : Nat → Prop} {pz : Nat} {lc : Nat → Nat → Nat} {s : tt_S3} {cc : ByteArray} {nl : Nat} {rt : Option FieldType} {rm : Room} {tn : tt_Tn} {Q : tt_Fin} {pc : Nat} {lv : List (Nat × Value)} {rest : List Value} {ck cn : Nat} (d : decode cc pc = .ok (.getfield 66, 3)) (kk : tt_V (XT l D dA A pz) cc (RX1, nl, rt, rm, tn) Q (pc + 3) lv (.ref (lc 101 0) :: rest) lc s ck cn) : tt_V (XT l D dA A pz) cc (RX1, nl, rt, rm, tn) Q pc lv (.ref (lc 100 0) :: rest) lc s ck cn := v_getN (p := 0) knT lvT_100 oT_100 rfl in_X2 (by decide) q727 (.inl rfl) rfl d kk
theorem lvT_101 {l : Launch} {D : va_G} {dA : Nat → ClassId} {A : Nat → Prop} {pz : Nat} {s : tt_S3} : xV (XT l D dA A pz) s 101 0 := by rw [show (101 : Nat) = 100 + 1 from rfl, lvT_now (by decide)]; exact rfl
theorem aT_101 {l : Launch} {D : va_G} {dA : Nat → ClassId} {A : Nat → Prop} {pz : Nat} {lc : Nat → Nat → Nat} {s : tt_S3} : tt_ent (XT l D dA A pz) lc s 101 0 = .inl (dA 2, 40, .inr (.inr (.inr (.inr (fun j => some (lc 102 j)))))) := eT_now (kd := 1) (by decide)
theorem lT_101 {l : Launch} {D : va_G} {dA : Nat → ClassId} {A : Nat → Prop} {pz : Nat} {lc : Nat → Nat → Nat} {s : tt_S3} {cc : ByteArray} {Y : tt_Y} {Q : tt_Fin} {pc : Nat} {lv : List (Nat × Value)} {rest : List Value} {ck cn : Nat} {j : Int32} (g : inB j 40 = true) (d : decode cc pc = .ok (.aaload, 1)) (kk : tt_V (XT l D dA A pz) cc Y Q (pc + 1) lv (.ref (lc 102 j.toNatClampNeg) :: rest) lc s ck cn) : tt_V (XT l D dA A pz) cc Y Q pc lv (.int j :: .ref (lc 101 0) :: rest) lc s ck cn := v_aald (t := 2) lvT_101 aT_101 rfl rfl g d kk
theorem nT_101 {l : Launch} {D : va_G} {dA : Nat → ClassId} {A : Nat → Prop} {pz : Nat} {lc : Nat → Nat → Nat} {s : tt_S3} {cc : ByteArray} {Y : tt_Y} {Q : tt_Fin} {pc : Nat} {lv : List (Nat × Value)} {rest : List Value} {ck cn : Nat} (d : decode cc pc = .ok (.arraylength, 1)) (kk : tt_V (XT l D dA A pz) cc Y Q (pc + 1) lv (.int 40 :: rest) lc s ck cn) : tt_V (XT l D dA A pz) cc Y Q pc lv (.ref (lc 101 0) :: rest) lc s ck cn := v_alen (t := 2) lvT_101 aT_101 rfl rfl d kk
theorem lvT_102 {l : Launch} {D : va_G} {dA : Nat → ClassId} {A : Nat → Prop} {pz : Nat} {s : tt_S3} {i : Nat} (hv : i < 40) : xV (XT l D dA A pz) s 102 i := by rw [show (102 : Nat) = 100 + 2 from rfl, lvT_now (by decide)]; exact hv
theorem oT_102 {l : Launch} {D : va_G} {dA : Nat → ClassId} {A : Nat → Prop} {pz : Nat} {lc : Nat → Nat → Nat} {s : tt_S3} {i : Nat} : tt_ent (XT l D dA A pz) lc s 102 i = .inr (1, [.ref (lc 103 i), .ref (lc 104 i), .ref (lc 105 i), .int (nI i), .int (rdI s.1 2 i 4), .int (rdI s.1 2 i 5), .int (rdI s.1 2 i 6), .int (rdI s.1 2 i 7), .int (rdI s.1 2 i 8), .long (rdL s.1 2 i 9), .int (rdI s.1 2 i 10)]) := eT_now (kd := 2) (by decide)
theorem gT_X1_186_102 {l : Launch} {D : va_G} {dA : Nat → ClassId} {A : Nat → Prop} {pz : Nat} {lc : Nat → Nat → Nat} {s : tt_S3} {cc : ByteArray} {nl : Nat} {rt : Option FieldType} {rm : Room} {tn : tt_Tn} {Q : tt_Fin} {pc : Nat} {lv : List (Nat × Value)} {rest : List Value} {ck cn : Nat} {i : Nat} (hv : i < 40) (d : decode cc pc = .ok (.getfield 186, 3)) (kk : tt_V (XT l D dA A pz) cc (RX1, nl, rt, rm, tn) Q (pc + 3) lv (.int (rdI s.1 2 i 8) :: rest) lc s ck cn) : tt_V (XT l D dA A pz) cc (RX1, nl, rt, rm, tn) Q pc lv (.ref (lc 102 i) :: rest) lc s ck cn := v_getN (p := 8) knT (lvT_102 hv) oT_102 rfl in_X6 (by decide) q363 (.inl rfl) rfl d kk
theorem gT_X1_189_102 {l : Launch} {D : va_G} {dA : Nat → ClassId} {A : Nat → Prop} {pz : Nat} {lc : Nat → Nat → Nat} {s : tt_S3} {cc : ByteArray} {nl : Nat} {rt : Option FieldType} {rm : Room} {tn : tt_Tn} {Q : tt_Fin} {pc : Nat} {lv : List (Nat × Value)} {rest : List Value} {ck cn : Nat} {i : Nat} (hv : i < 40) (d : decode cc pc = .ok (.getfield 189, 3)) (kk : tt_V (XT l D dA A pz) cc (RX1, nl, rt, rm, tn) Q (pc + 3) lv (.ref (lc 103 i) :: rest) lc s ck cn) : tt_V (XT l D dA A pz) cc (RX1, nl, rt, rm, tn) Q pc lv (.ref (lc 102 i) :: rest) lc s ck cn := v_getN (p := 0) knT (lvT_102 hv) oT_102 rfl in_X6 (by decide) q339 (.inl rfl) rfl d kk
theorem lvT_103 {l : Launch} {D : va_G} {dA : Nat → ClassId} {A : Nat → Prop} {pz : Nat} {s : tt_S3} {i : Nat} (hv : i < 40) : xV (XT l D dA A pz) s 103 i := by rw [show (103 : Nat) = 100 + 3 from rfl, lvT_now (by decide)]; exact hv
theorem aT_103 {l : Launch} {D : va_G} {dA : Nat → ClassId} {A : Nat → Prop} {pz : Nat} {lc : Nat → Nat → Nat} {s : tt_S3} {i : Nat} : tt_ent (XT l D dA A pz) lc s 103 i = .inl (dA 0, 4, .inl (rdI s.1 3 i)) := eT_now (kd := 3) (by decide)
theorem lT_103 {l : Launch} {D : va_G} {dA : Nat → ClassId} {A : Nat → Prop} {pz : Nat} {lc : Nat → Nat → Nat} {s : tt_S3} {cc : ByteArray} {Y : tt_Y} {Q : tt_Fin} {pc : Nat} {lv : List (Nat × Value)} {rest : List Value} {ck cn : Nat} {i : Nat} {j : Int32} (hv : i < 40) (g : inB j 4 = true) (d : decode cc pc = .ok (.iaload, 1)) (kk : tt_V (XT l D dA A pz) cc Y Q (pc + 1) lv (.int (rdI s.1 3 i j.toNatClampNeg) :: rest) lc s ck cn) : tt_V (XT l D dA A pz) cc Y Q pc lv (.int j :: .ref (lc 103 i) :: rest) lc s ck cn := v_iald (t := 0) (lvT_103 hv) aT_103 rfl g d kk
theorem nT_103 {l : Launch} {D : va_G} {dA : Nat → ClassId} {A : Nat → Prop} {pz : Nat} {lc : Nat → Nat → Nat} {s : tt_S3} {cc : ByteArray} {Y : tt_Y} {Q : tt_Fin} {pc : Nat} {lv : List (Nat × Value)} {rest : List Value} {ck cn : Nat} {i : Nat} (hv : i < 40) (d : decode cc pc = .ok (.arraylength, 1)) (kk : tt_V (XT l D dA A pz) cc Y Q (pc + 1) lv (.int 4 :: rest) lc s ck cn) : tt_V (XT l D dA A pz) cc Y Q pc lv (.ref (lc 103 i) :: rest) lc s ck cn := v_alen (t := 0) (lvT_103 hv) aT_103 rfl rfl d kk
def fT_signing_L17 (s : tt_S3) (a1 : Int32 × Int32) (a4 : Int32 × Int32) : Option ((Int32 × Int32) ⊕ (Int32 × Int32)) :=
  if inB a1.2 40 then if (rdI s.1 2 a1.2.toNatClampNeg 8) ≤ a4.2 then some (.inr (a4.1, a4.2)) else if inB a4.2 4 then nm (a4.1 ||| ((1 : Int32) <<< ((rdI s.1 3 a1.2.toNatClampNeg a4.2.toNatClampNeg) &&& 31))) fun v9 => some (.inl (v9, (a4.2 + 1 : Int32))) else none else none
def fT_signing_L4 (s : tt_S3) (a1 : Int32 × Int32) : Option ((Int32 × Int32) ⊕ (Int32 × Int32)) :=
  if (rdI s.1 0 0 21) ≤ a1.2 then some (.inr (a1.1, a1.2)) else (itr (fT_signing_L17 s a1) tt_fuel (a1.1, (0 : Int32))).bind fun b5 => some (.inl (b5.1, (a1.2 + 1 : Int32)))
def fT_signing (s : tt_S3) : Option (Int32) :=
  (itr (fT_signing_L4 s) tt_fuel ((0 : Int32), (0 : Int32))).bind fun b2 => some b2.1
abbrev rmT_signing : Room := { frames := 0, cells := 0, slots := 0, locals := 0 }
set_option maxHeartbeats 4000000 in
theorem mT_signing (l : Launch) (D : va_G) (dA : Nat → ClassId) (A : Nat → Prop) (pz : Nat) (lc : Nat → Nat → Nat) (s : tt_S3) {Q : Option Value → (Nat → Nat → Nat) → tt_S3 → Prop} (h : Ok (fT_signing s) (fun r => Q (some (.int r)) lc s)) : tt_Sp (XT l D dA A pz) yX1_signing cX1_signing 4 (some .int) rmT_signing [.ref (lc 0 0)] lc s Q := by
  refine tt_Sp.ofV plX1 kokT (Nat.le_of_ble_eq_true rfl) ?_
  show tt_V (XT l D dA A pz) cX1_signing (RX1, 4, (some .int), rmT_signing, tt_nt) (tt_fn (XT l D dA A pz) (RX1, 4, (some .int), rmT_signing, tt_nt) Q) 0 [(0, .ref (lc 0 0))] [] lc s 0 0
  unfold fT_signing at h
  refine v_iconst dX1_signing_0 ic_0 ?_
  refine v_istore_n [(1, .int (0 : Int32)), (0, .ref (lc 0 0))] dX1_signing_1 (Nat.le_of_ble_eq_true rfl) rfl ?_
  refine v_iconst dX1_signing_2 ic_0 ?_
  refine v_istore_n [(2, .int (0 : Int32)), (1, .int (0 : Int32)), (0, .ref (lc 0 0))] dX1_signing_3 (Nat.le_of_ble_eq_true rfl) rfl ?_
  refine v_sub [2, 1, 0] rfl ?_
  refine itr_loop (P := fun a1 : Int32 × Int32 => tt_V (XT l D dA A pz) cX1_signing (RX1, 4, (some .int), rmT_signing, tt_nt) (tt_fn (XT l D dA A pz) (RX1, 4, (some .int), rmT_signing, tt_nt) Q) 4 [(0, .ref (lc 0 0)), (1, .int a1.1), (2, .int a1.2)] [] lc s 0 0) (PE := fun b2 : Int32 × Int32 => tt_V (XT l D dA A pz) cX1_signing (RX1, 4, (some .int), rmT_signing, tt_nt) (tt_fn (XT l D dA A pz) (RX1, 4, (some .int), rmT_signing, tt_nt) Q) 64 [(0, .ref (lc 0 0)), (1, .int b2.1), (2, .int b2.2)] [] lc s 0 0) h (fun b2 h => ?_) (fun a1 h => ?_)
  · refine v_iload_n 1 dX1_signing_64 rfl ?_
    have h := Ok.ret h
    exact v_iret rfl (Nat.le_of_ble_eq_true rfl) (Nat.le_of_ble_eq_true rfl) dX1_signing_65 h
  · have h : Ok (fT_signing_L4 s a1) _ := h
    unfold fT_signing_L4 at h
    refine v_iload_n 2 dX1_signing_4 rfl ?_
    refine v_aload_n 0 dX1_signing_5 rfl ?_
    refine gT_X1_10_0 dX1_signing_6 ?_
    refine gT_X1_58_100 dX1_signing_9 ?_
    refine v_icmp_ge (tgt := 64) dX1_signing_12 rfl (fun c3 => ?_) (fun c3 => ?_)
    · have h := Ok.pos h c3
      have h := Ok.ret h
      exact h
    · have h := Ok.neg h c3
      refine v_iconst dX1_signing_15 ic_0 ?_
      refine v_istore_n [(3, .int (0 : Int32)), (0, .ref (lc 0 0)), (1, .int a1.1), (2, .int a1.2)] dX1_signing_16 (Nat.le_of_ble_eq_true rfl) rfl ?_
      refine v_sub [1, 2, 3, 0] rfl ?_
      refine itr_loop (P := fun a4 : Int32 × Int32 => tt_V (XT l D dA A pz) cX1_signing (RX1, 4, (some .int), rmT_signing, tt_nt) (tt_fn (XT l D dA A pz) (RX1, 4, (some .int), rmT_signing, tt_nt) Q) 17 [(0, .ref (lc 0 0)), (1, .int a4.1), (2, .int a1.2), (3, .int a4.2)] [] lc s 0 0) (PE := fun b5 : Int32 × Int32 => tt_V (XT l D dA A pz) cX1_signing (RX1, 4, (some .int), rmT_signing, tt_nt) (tt_fn (XT l D dA A pz) (RX1, 4, (some .int), rmT_signing, tt_nt) Q) 58 [(0, .ref (lc 0 0)), (1, .int b5.1), (2, .int a1.2), (3, .int b5.2)] [] lc s 0 0) h (fun b5 h => ?_) (fun a4 h => ?_)
      · refine v_iinc (v := (a1.2 + 1 : Int32)) 2 [(2, .int (a1.2 + 1 : Int32)), (0, .ref (lc 0 0)), (1, .int b5.1), (3, .int b5.2)] dX1_signing_58 rfl (by rw [ic_1]) (Nat.le_of_ble_eq_true rfl) rfl ?_
        refine v_goto (tgt := 4) dX1_signing_61 rfl ?_
        refine v_sub [1, 2, 0] rfl ?_
        have h := Ok.ret h
        exact h
      · have h : Ok (fT_signing_L17 s a1 a4) _ := h
        unfold fT_signing_L17 at h
        refine v_iload_n 3 dX1_signing_17 rfl ?_
        refine v_aload_n 0 dX1_signing_18 rfl ?_
        refine gT_X1_10_0 dX1_signing_19 ?_
        refine gT_X1_66_100 dX1_signing_22 ?_
        refine v_iload_n 2 dX1_signing_25 rfl ?_
        obtain ⟨g6, h⟩ := Ok.guard h
        refine lT_101 g6 dX1_signing_26 ?_
        refine gT_X1_186_102 (inB_lt g6) dX1_signing_27 ?_
        refine v_icmp_ge (tgt := 58) dX1_signing_30 rfl (fun c7 => ?_) (fun c7 => ?_)
        · have h := Ok.pos h c7
          have h := Ok.ret h
          exact h
        · have h := Ok.neg h c7
          refine v_iload_n 1 dX1_signing_33 rfl ?_
          refine v_iconst dX1_signing_34 ic_1 ?_
          refine v_aload_n 0 dX1_signing_35 rfl ?_
          refine gT_X1_10_0 dX1_signing_36 ?_
          refine gT_X1_66_100 dX1_signing_39 ?_
          refine v_iload_n 2 dX1_signing_42 rfl ?_
          refine lT_101 g6 dX1_signing_43 ?_
          refine gT_X1_189_102 (inB_lt g6) dX1_signing_44 ?_
          refine v_iload_n 3 dX1_signing_47 rfl ?_
          obtain ⟨g8, h⟩ := Ok.guard h
          refine lT_103 (inB_lt g6) g8 dX1_signing_48 ?_
          refine v_ishl dX1_signing_49 ?_
          refine v_ior dX1_signing_50 ?_
          refine v_nmI (fun v9 e_v9 => ?_)
          have h := Ok.nm h e_v9
          refine v_istore_n [(1, .int v9), (0, .ref (lc 0 0)), (2, .int a1.2), (3, .int a4.2)] dX1_signing_51 (Nat.le_of_ble_eq_true rfl) rfl ?_
          refine v_iinc (v := (a4.2 + 1 : Int32)) 3 [(3, .int (a4.2 + 1 : Int32)), (1, .int v9), (0, .ref (lc 0 0)), (2, .int a1.2)] dX1_signing_52 rfl (by rw [ic_1]) (Nat.le_of_ble_eq_true rfl) rfl ?_
          refine v_goto (tgt := 17) dX1_signing_55 rfl ?_
          refine v_sub [2, 1, 3, 0] rfl ?_
          have h := Ok.ret h
          exact h
theorem cT_195_0 {l : Launch} {D : va_G} {dA : Nat → ClassId} {A : Nat → Prop} {pz : Nat} {lc : Nat → Nat → Nat} {s : tt_S3} {cc : ByteArray} {nl : Nat} {rt : Option FieldType} {rm : Room} {tn : tt_Tn} {Q : tt_Fin} {pc : Nat} {lv : List (Nat × Value)} {rest : List Value} {ck cn : Nat} {K : Int32 → Prop} (h : Ok (fT_signing s) K) (hR : 0 + 1 ≤ rm.frames ∧ 8 + (4 + 11) + 0 ≤ rm.locals) (hW : (rest.map fun v => v.category).sum ≤ 8) (d : decode cc pc = .ok (.invokevirtual 195, 3)) (kk : ∀ r, K r → tt_V (XT l D dA A pz) cc (RX1, nl, rt, rm, tn) Q (pc + 3) lv (.int r :: rest) lc s (ck + 0) (cn + 0)) (hf : ck + 0 ≤ rm.cells ∧ cn + 0 ≤ rm.slots) : tt_V (XT l D dA A pz) cc (RX1, nl, rt, rm, tn) Q pc lv (.ref (lc 0 0) :: rest) lc s ck cn :=
  v_callV (kd := 0) (i := 0) (nA := 0) (As := []) lvT_0 oT_0 rfl (mT_signing l D dA A pz lc s (Q := (fun v lc' s' => ∃ r, K r ∧ v = some (.int r) ∧ lc' = lc ∧ s' = s)) (h.mono (fun r hr => ⟨r, hr, rfl, rfl, rfl⟩))) (lw_V q1239 q1241 qs32 q127 q1242) (by decide +kernel) rfl hR hW hf d rfl (fun v lc' s' q => by obtain ⟨r, hr, e1, e2, e3⟩ := q; rw [e1, e2, e3]; exact kk r hr)
def fT_told (s : tt_S3) (x1 : Int32) : Option ((Int32 × tt_S3) ⊕ (Nat × tt_S3)) :=
  (fT_within s x1 (0 : Int32) (10 : Int32)).bind fun q_r1 => orThrow q_r1 fun r1 => if x1 = 0 then some (.inl (rdI r1.1 0 0 21, r1)) else if x1 = 1 then some (.inl (rdI r1.1 0 0 22, r1)) else if x1 = 2 then some (.inl (rdI r1.2.2 0 0 7, r1)) else if x1 = 3 then some (.inl (rdI r1.1 0 0 18, r1)) else if x1 = 4 then some (.inl (rdI r1.1 0 0 19, r1)) else if x1 = 5 then some (.inl (rdI r1.1 0 0 20, r1)) else if x1 = 6 then some (.inl (rdI r1.1 0 0 17, r1)) else if x1 = 7 then (fT_gaps r1).bind fun r10 => some (.inl (r10, r1)) else if x1 = 8 then (fW_inStatus r1.1 (x1 - (7 : Int32))).bind fun r12 => some (.inl (r12, r1)) else if x1 = 9 then (fW_inStatus r1.1 (x1 - (7 : Int32))).bind fun r14 => some (.inl (r14, r1)) else (fT_signing r1).bind fun r15 => some (.inl (r15, r1))
abbrev rmT_told : Room := { frames := 8, cells := 1, slots := 6, locals := 140 }
set_option maxHeartbeats 4000000 in
theorem mT_told (l : Launch) (D : va_G) (dA : Nat → ClassId) (A : Nat → Prop) (pz : Nat) (hl9 : l.stackTraces = false) (lc : Nat → Nat → Nat) (s : tt_S3) (x1 : Int32) {Q : Option Value → (Nat → Nat → Nat) → tt_S3 → Prop} {QX : String → (Nat → Nat → Nat) → tt_S3 → Prop} (h : Ok (fT_told s x1) (fun q => Sum.casesOn (motive := fun _ => Prop) q (fun r => Q (some (.int r.1)) lc r.2) (fun e => QX (tt_exn e.1) lc e.2))) : tt_SpX (XT l D dA A pz) yX1_told cX1_told 2 (some .int) rmT_told [.ref (lc 0 0), .int x1] lc s Q QX := by
  refine tt_SpX.ofV plX1 kokT (Nat.le_of_ble_eq_true rfl) ?_
  show tt_V (XT l D dA A pz) cX1_told (RX1, 2, (some .int), rmT_told, tt_ne) (tt_fx (XT l D dA A pz) (RX1, 2, (some .int), rmT_told, tt_ne) Q QX) 0 [(0, .ref (lc 0 0)), (1, .int x1)] [] lc s 0 0
  unfold fT_told at h
  refine v_aload_n 0 dX1_told_0 rfl ?_
  refine v_iload_n 1 dX1_told_1 rfl ?_
  refine v_iconst dX1_told_2 ic_0 ?_
  refine v_bipush dX1_told_3 kb_10 ?_
  refine cT_80_0 (Ok.throws h) hl9 (fun _ _ _ h => h) (fun _ h => h) ⟨Nat.le_of_ble_eq_true rfl, Nat.le_of_ble_eq_true rfl⟩ (Nat.le_of_ble_eq_true rfl) dX1_told_5 (fun r1 h => ?_) ⟨Nat.le_of_ble_eq_true rfl, Nat.le_of_ble_eq_true rfl⟩
  refine v_iload_n 1 dX1_told_8 rfl ?_
  rcases Decidable.em (x1 = 0) with c2 | c2
  · have h := Ok.pos h c2
    refine v_tableIn (v := 0) (tgt := 64) dX1_told_9 c2 (by decide) (by decide) rfl rfl ?_
    refine v_aload_n 0 dX1_told_64 rfl ?_
    refine gT_X1_10_0 dX1_told_65 ?_
    refine gT_X1_58_100 dX1_told_68 ?_
    have h := Ok.ret h
    exact v_retX (v_iret rfl (Nat.le_of_ble_eq_true rfl) (Nat.le_of_ble_eq_true rfl) dX1_told_71 h)
  · have h := Ok.neg h c2
    rcases Decidable.em (x1 = 1) with c3 | c3
    · have h := Ok.pos h c3
      refine v_tableIn (v := 1) (tgt := 72) dX1_told_9 c3 (by decide) (by decide) rfl rfl ?_
      refine v_aload_n 0 dX1_told_72 rfl ?_
      refine gT_X1_10_0 dX1_told_73 ?_
      refine gT_X1_70_100 dX1_told_76 ?_
      have h := Ok.ret h
      exact v_retX (v_iret rfl (Nat.le_of_ble_eq_true rfl) (Nat.le_of_ble_eq_true rfl) dX1_told_79 h)
    · have h := Ok.neg h c3
      rcases Decidable.em (x1 = 2) with c4 | c4
      · have h := Ok.pos h c4
        refine v_tableIn (v := 2) (tgt := 80) dX1_told_9 c4 (by decide) (by decide) rfl rfl ?_
        refine v_aload_n 0 dX1_told_80 rfl ?_
        refine gT_X1_93_0 dX1_told_81 ?_
        have h := Ok.ret h
        exact v_retX (v_iret rfl (Nat.le_of_ble_eq_true rfl) (Nat.le_of_ble_eq_true rfl) dX1_told_84 h)
      · have h := Ok.neg h c4
        rcases Decidable.em (x1 = 3) with c5 | c5
        · have h := Ok.pos h c5
          refine v_tableIn (v := 3) (tgt := 85) dX1_told_9 c5 (by decide) (by decide) rfl rfl ?_
          refine v_aload_n 0 dX1_told_85 rfl ?_
          refine gT_X1_10_0 dX1_told_86 ?_
          refine gT_X1_146_100 dX1_told_89 ?_
          have h := Ok.ret h
          exact v_retX (v_iret rfl (Nat.le_of_ble_eq_true rfl) (Nat.le_of_ble_eq_true rfl) dX1_told_92 h)
        · have h := Ok.neg h c5
          rcases Decidable.em (x1 = 4) with c6 | c6
          · have h := Ok.pos h c6
            refine v_tableIn (v := 4) (tgt := 93) dX1_told_9 c6 (by decide) (by decide) rfl rfl ?_
            refine v_aload_n 0 dX1_told_93 rfl ?_
            refine gT_X1_10_0 dX1_told_94 ?_
            refine gT_X1_149_100 dX1_told_97 ?_
            have h := Ok.ret h
            exact v_retX (v_iret rfl (Nat.le_of_ble_eq_true rfl) (Nat.le_of_ble_eq_true rfl) dX1_told_100 h)
          · have h := Ok.neg h c6
            rcases Decidable.em (x1 = 5) with c7 | c7
            · have h := Ok.pos h c7
              refine v_tableIn (v := 5) (tgt := 101) dX1_told_9 c7 (by decide) (by decide) rfl rfl ?_
              refine v_aload_n 0 dX1_told_101 rfl ?_
              refine gT_X1_10_0 dX1_told_102 ?_
              refine gT_X1_152_100 dX1_told_105 ?_
              have h := Ok.ret h
              exact v_retX (v_iret rfl (Nat.le_of_ble_eq_true rfl) (Nat.le_of_ble_eq_true rfl) dX1_told_108 h)
            · have h := Ok.neg h c7
              rcases Decidable.em (x1 = 6) with c8 | c8
              · have h := Ok.pos h c8
                refine v_tableIn (v := 6) (tgt := 109) dX1_told_9 c8 (by decide) (by decide) rfl rfl ?_
                refine v_aload_n 0 dX1_told_109 rfl ?_
                refine gT_X1_10_0 dX1_told_110 ?_
                refine gT_X1_136_100 dX1_told_113 ?_
                have h := Ok.ret h
                exact v_retX (v_iret rfl (Nat.le_of_ble_eq_true rfl) (Nat.le_of_ble_eq_true rfl) dX1_told_116 h)
              · have h := Ok.neg h c8
                rcases Decidable.em (x1 = 7) with c9 | c9
                · have h := Ok.pos h c9
                  refine v_tableIn (v := 7) (tgt := 117) dX1_told_9 c9 (by decide) (by decide) rfl rfl ?_
                  refine v_aload_n 0 dX1_told_117 rfl ?_
                  refine cT_192_0 (Ok.bind h) ⟨Nat.le_of_ble_eq_true rfl, Nat.le_of_ble_eq_true rfl⟩ (Nat.le_of_ble_eq_true rfl) dX1_told_118 (fun r10 h => ?_) ⟨Nat.le_of_ble_eq_true rfl, Nat.le_of_ble_eq_true rfl⟩
                  have h := Ok.ret h
                  exact v_retX (v_iret rfl (Nat.le_of_ble_eq_true rfl) (Nat.le_of_ble_eq_true rfl) dX1_told_121 h)
                · have h := Ok.neg h c9
                  rcases Decidable.em (x1 = 8) with c11 | c11
                  · have h := Ok.pos h c11
                    refine v_tableIn (v := 8) (tgt := 122) dX1_told_9 c11 (by decide) (by decide) rfl rfl ?_
                    refine v_aload_n 0 dX1_told_122 rfl ?_
                    refine gT_X1_10_0 dX1_told_123 ?_
                    refine v_iload_n 1 dX1_told_126 rfl ?_
                    refine v_bipush dX1_told_127 kb_7 ?_
                    refine v_isub dX1_told_129 ?_
                    refine cT_173_100 (Ok.bind h) ⟨Nat.le_of_ble_eq_true rfl, Nat.le_of_ble_eq_true rfl⟩ (Nat.le_of_ble_eq_true rfl) dX1_told_130 (fun r12 h => ?_) ⟨Nat.le_of_ble_eq_true rfl, Nat.le_of_ble_eq_true rfl⟩
                    have h := Ok.ret h
                    exact v_retX (v_iret rfl (Nat.le_of_ble_eq_true rfl) (Nat.le_of_ble_eq_true rfl) dX1_told_133 h)
                  · have h := Ok.neg h c11
                    rcases Decidable.em (x1 = 9) with c13 | c13
                    · have h := Ok.pos h c13
                      refine v_tableIn (v := 9) (tgt := 122) dX1_told_9 c13 (by decide) (by decide) rfl rfl ?_
                      refine v_aload_n 0 dX1_told_122 rfl ?_
                      refine gT_X1_10_0 dX1_told_123 ?_
                      refine v_iload_n 1 dX1_told_126 rfl ?_
                      refine v_bipush dX1_told_127 kb_7 ?_
                      refine v_isub dX1_told_129 ?_
                      refine cT_173_100 (Ok.bind h) ⟨Nat.le_of_ble_eq_true rfl, Nat.le_of_ble_eq_true rfl⟩ (Nat.le_of_ble_eq_true rfl) dX1_told_130 (fun r14 h => ?_) ⟨Nat.le_of_ble_eq_true rfl, Nat.le_of_ble_eq_true rfl⟩
                      have h := Ok.ret h
                      exact v_retX (v_iret rfl (Nat.le_of_ble_eq_true rfl) (Nat.le_of_ble_eq_true rfl) dX1_told_133 h)
                    · have h := Ok.neg h c13
                      have a_c2 : x1.toInt ≠ 0 := fun q => c2 (Int32.toInt_inj.mp (q.trans (by decide)))
                      have a_c3 : x1.toInt ≠ 1 := fun q => c3 (Int32.toInt_inj.mp (q.trans (by decide)))
                      have a_c4 : x1.toInt ≠ 2 := fun q => c4 (Int32.toInt_inj.mp (q.trans (by decide)))
                      have a_c5 : x1.toInt ≠ 3 := fun q => c5 (Int32.toInt_inj.mp (q.trans (by decide)))
                      have a_c6 : x1.toInt ≠ 4 := fun q => c6 (Int32.toInt_inj.mp (q.trans (by decide)))
                      have a_c7 : x1.toInt ≠ 5 := fun q => c7 (Int32.toInt_inj.mp (q.trans (by decide)))
                      have a_c8 : x1.toInt ≠ 6 := fun q => c8 (Int32.toInt_inj.mp (q.trans (by decide)))
                      have a_c9 : x1.toInt ≠ 7 := fun q => c9 (Int32.toInt_inj.mp (q.trans (by decide)))
                      have a_c11 : x1.toInt ≠ 8 := fun q => c11 (Int32.toInt_inj.mp (q.trans (by decide)))
                      have a_c13 : x1.toInt ≠ 9 := fun q => c13 (Int32.toInt_inj.mp (q.trans (by decide)))
                      refine v_tableOut (tgt := 134) dX1_told_9 (by omega) rfl ?_
                      refine v_aload_n 0 dX1_told_134 rfl ?_
                      refine cT_195_0 (Ok.bind h) ⟨Nat.le_of_ble_eq_true rfl, Nat.le_of_ble_eq_true rfl⟩ (Nat.le_of_ble_eq_true rfl) dX1_told_135 (fun r15 h => ?_) ⟨Nat.le_of_ble_eq_true rfl, Nat.le_of_ble_eq_true rfl⟩
                      have h := Ok.ret h
                      exact v_retX (v_iret rfl (Nat.le_of_ble_eq_true rfl) (Nat.le_of_ble_eq_true rfl) dX1_told_138 h)
def fT_oneOf (s : tt_S3) (x1 : Int32) (x2 : Int32) : Option ((tt_S3) ⊕ (Nat × tt_S3)) :=
  (if x1 < 0 then some (.inl ()) else if x2 ≤ x1 then some (.inl ()) else some (.inr (.inl s)) : Option ((Unit) ⊕ ((tt_S3) ⊕ (Nat × tt_S3)))).bind fun q_t1 => orRet q_t1 fun t1 => if inB (0 : Int32) 3 then nm (s.1, s.2.1, wrI s.2.2 9 0 (0 : Int32).toNatClampNeg ((rdI s.2.2 9 0 (0 : Int32).toNatClampNeg) + (1 : Int32))) fun s5 => some (.inr (0, s5)) else none
abbrev rmT_oneOf : Room := { frames := 7, cells := 1, slots := 6, locals := 117 }
set_option maxHeartbeats 4000000 in
theorem mT_oneOf (l : Launch) (D : va_G) (dA : Nat → ClassId) (A : Nat → Prop) (pz : Nat) (hl9 : l.stackTraces = false) (lc : Nat → Nat → Nat) (s : tt_S3) (x1 : Int32) (x2 : Int32) {Q : Option Value → (Nat → Nat → Nat) → tt_S3 → Prop} {QX : String → (Nat → Nat → Nat) → tt_S3 → Prop} (h : Ok (fT_oneOf s x1 x2) (fun q => Sum.casesOn (motive := fun _ => Prop) q (fun r => Q none lc r) (fun e => QX (tt_exn e.1) lc e.2))) : tt_SpX (XT l D dA A pz) yX1_oneOf cX1_oneOf 3 none rmT_oneOf [.ref (lc 0 0), .int x1, .int x2] lc s Q QX := by
  refine tt_SpX.ofV plX1 kokT (Nat.le_of_ble_eq_true rfl) ?_
  show tt_V (XT l D dA A pz) cX1_oneOf (RX1, 3, none, rmT_oneOf, tt_ne) (tt_fx (XT l D dA A pz) (RX1, 3, none, rmT_oneOf, tt_ne) Q QX) 0 [(0, .ref (lc 0 0)), (1, .int x1), (2, .int x2)] [] lc s 0 0
  unfold fT_oneOf at h
  refine v_iload_n 1 dX1_oneOf_0 rfl ?_
  have h := Ok.joinR (PJ := fun t1 : Unit => tt_V (XT l D dA A pz) cX1_oneOf (RX1, 3, none, rmT_oneOf, tt_ne) (tt_fx (XT l D dA A pz) (RX1, 3, none, rmT_oneOf, tt_ne) Q QX) 10 [(0, .ref (lc 0 0))] [] lc s 0 0) h (fun t1 h => by
    refine v_aload_n 0 dX1_oneOf_10 rfl ?_
    refine gT_X1_45_0 dX1_oneOf_11 ?_
    refine v_iconst dX1_oneOf_14 ic_0 ?_
    refine v_dup2_11 dX1_oneOf_15 rfl rfl ?_
    obtain ⟨g4, h⟩ := Ok.guard h
    refine lT_9 g4 dX1_oneOf_16 ?_
    refine v_iconst dX1_oneOf_17 ic_1 ?_
    refine v_iadd dX1_oneOf_18 ?_
    refine sT_9 g4 dX1_oneOf_19 ?_
    refine v_nmS (fun s5 e_s5 => ?_)
    have h := Ok.nm h e_s5
    have h := Ok.ret h
    exact v_throw0 (names := ["java/lang/RuntimeException", "java/lang/Exception"]) hl9 (by decide +kernel) thN q1030 q157 knT thW_0 thG_0 kzT (fun _ _ _ h => h) dX1_oneOf_20 dX1_oneOf_23 dX1_oneOf_24 dX1_oneOf_27 (Nat.le_of_ble_eq_true rfl) (Nat.le_of_ble_eq_true rfl) (Nat.le_of_ble_eq_true rfl) (Nat.le_of_ble_eq_true rfl) h)
  refine v_if_lt (tgt := 10) dX1_oneOf_1 rfl (fun c2 => ?_) (fun c2 => ?_)
  · have h := Ok.pos h c2
    refine v_sub [0] rfl ?_
    have h := Ok.ret h
    exact h
  · have h := Ok.neg h c2
    refine v_iload_n 1 dX1_oneOf_4 rfl ?_
    refine v_iload_n 2 dX1_oneOf_5 rfl ?_
    refine v_icmp_ge (tgt := 10) dX1_oneOf_6 rfl (fun c3 => ?_) (fun c3 => ?_)
    · have h := Ok.pos h c3
      refine v_sub [0] rfl ?_
      have h := Ok.ret h
      exact h
    · have h := Ok.neg h c3
      have h := Ok.ret h
      exact v_retX (v_vret rfl (Nat.le_of_ble_eq_true rfl) (Nat.le_of_ble_eq_true rfl) dX1_oneOf_9 h)
theorem cT_62_0 {l : Launch} {D : va_G} {dA : Nat → ClassId} {A : Nat → Prop} {pz : Nat} {lc : Nat → Nat → Nat} {s : tt_S3} {cc : ByteArray} {nl : Nat} {rt : Option FieldType} {rm : Room} {tn : tt_Tn} {Q : Option Value → (Nat → Nat → Nat) → tt_S3 → Prop} {QX : String → (Nat → Nat → Nat) → tt_S3 → Prop} {pc : Nat} {lv : List (Nat × Value)} {rest : List Value} {ck cn : Nat} {x1 : Int32} {x2 : Int32} {K : tt_S3 → Prop} {K2 : Nat × tt_S3 → Prop} (h : Ok (fT_oneOf s x1 x2) (fun q => Sum.casesOn (motive := fun _ => Prop) q K K2)) (hl9 : l.stackTraces = false) (hTb : ∀ c m s0, tn c m s0 → tt_ne c m s0) (kx : ∀ e : Nat × tt_S3, K2 e → QX (tt_exn e.1) lc e.2) (hR : 7 + 1 ≤ rm.frames ∧ 8 + (3 + 11) + 117 ≤ rm.locals) (hW : (rest.map fun v => v.category).sum ≤ 8) (d : decode cc pc = .ok (.invokevirtual 62, 3)) (kk : ∀ r, K r → tt_V (XT l D dA A pz) cc (RX1, nl, rt, rm, tn) (tt_fx (XT l D dA A pz) (RX1, nl, rt, rm, tn) Q QX) (pc + 3) lv rest lc r (ck + 1) (cn + 6)) (hf : ck + 1 ≤ rm.cells ∧ cn + 6 ≤ rm.slots) : tt_V (XT l D dA A pz) cc (RX1, nl, rt, rm, tn) (tt_fx (XT l D dA A pz) (RX1, nl, rt, rm, tn) Q QX) pc lv (.int x2 :: .int x1 :: .ref (lc 0 0) :: rest) lc s ck cn :=
  v_callVX (kd := 0) (i := 0) (nA := 2) (As := [.int x1, .int x2]) lvT_0 oT_0 rfl (mT_oneOf l D dA A pz hl9 lc s x1 x2 (Q := (fun v lc' s' => ∃ r, K r ∧ v = none ∧ lc' = lc ∧ s' = r)) (QX := fun E lc' s' => ∃ e : Nat × tt_S3, K2 e ∧ E = tt_exn e.1 ∧ lc' = lc ∧ s' = e.2) (h.mono (fun q hq => by cases q with
    | inl r => exact (fun hr => ⟨r, hr, rfl, rfl, rfl⟩) hq
    | inr e => exact ⟨e, hq, rfl, rfl, rfl⟩))) (lw_V q1026 q1028 qs23 q127 q1029) (by decide +kernel) rfl hR hW hf hTb d rfl (fun E lc' s' q => by obtain ⟨e, hq, e1, e2, e3⟩ := q; rw [e1, e2, e3]; exact kx e hq) (fun v lc' s' q => by obtain ⟨r, hr, e1, e2, e3⟩ := q; rw [e1, e2, e3]; exact kk r hr)
def fT_layerOf (s : tt_S3) (x1 : Int32) : Option ((Nat × tt_S3) ⊕ (Nat × tt_S3)) :=
  (fT_oneOf s x1 (rdI s.1 0 0 21)).bind fun q_r1 => orThrow q_r1 fun r1 => if inB x1 40 then some (.inl (x1.toNatClampNeg, r1)) else none
abbrev rmT_layerOf : Room := { frames := 8, cells := 1, slots := 6, locals := 139 }
set_option maxHeartbeats 4000000 in
theorem mT_layerOf (l : Launch) (D : va_G) (dA : Nat → ClassId) (A : Nat → Prop) (pz : Nat) (hl9 : l.stackTraces = false) (lc : Nat → Nat → Nat) (s : tt_S3) (x1 : Int32) {Q : Option Value → (Nat → Nat → Nat) → tt_S3 → Prop} {QX : String → (Nat → Nat → Nat) → tt_S3 → Prop} (h : Ok (fT_layerOf s x1) (fun q => Sum.casesOn (motive := fun _ => Prop) q (fun r => r.1 < 40 → Q (some (.ref (lc 102 r.1))) lc r.2) (fun e => QX (tt_exn e.1) lc e.2))) : tt_SpX (XT l D dA A pz) yX1_layerOf cX1_layerOf 2 (some (.object "TallTowers$Layer")) rmT_layerOf [.ref (lc 0 0), .int x1] lc s Q QX := by
  refine tt_SpX.ofV plX1 kokT (Nat.le_of_ble_eq_true rfl) ?_
  show tt_V (XT l D dA A pz) cX1_layerOf (RX1, 2, (some (.object "TallTowers$Layer")), rmT_layerOf, tt_ne) (tt_fx (XT l D dA A pz) (RX1, 2, (some (.object "TallTowers$Layer")), rmT_layerOf, tt_ne) Q QX) 0 [(0, .ref (lc 0 0)), (1, .int x1)] [] lc s 0 0
  unfold fT_layerOf at h
  refine v_aload_n 0 dX1_layerOf_0 rfl ?_
  refine v_iload_n 1 dX1_layerOf_1 rfl ?_
  refine v_aload_n 0 dX1_layerOf_2 rfl ?_
  refine gT_X1_10_0 dX1_layerOf_3 ?_
  refine gT_X1_58_100 dX1_layerOf_6 ?_
  refine cT_62_0 (Ok.throws h) hl9 (fun _ _ _ h => h) (fun _ h => h) ⟨Nat.le_of_ble_eq_true rfl, Nat.le_of_ble_eq_true rfl⟩ (Nat.le_of_ble_eq_true rfl) dX1_layerOf_9 (fun r1 h => ?_) ⟨Nat.le_of_ble_eq_true rfl, Nat.le_of_ble_eq_true rfl⟩
  refine v_aload_n 0 dX1_layerOf_12 rfl ?_
  refine gT_X1_10_0 dX1_layerOf_13 ?_
  refine gT_X1_66_100 dX1_layerOf_16 ?_
  refine v_iload_n 1 dX1_layerOf_19 rfl ?_
  obtain ⟨g2, h⟩ := Ok.guard h
  refine lT_101 g2 dX1_layerOf_20 ?_
  have h := Ok.ret h
  exact v_retX (v_aret rfl (Nat.le_of_ble_eq_true rfl) (Nat.le_of_ble_eq_true rfl) dX1_layerOf_21 (h (inB_lt g2)))
theorem cT_117_0 {l : Launch} {D : va_G} {dA : Nat → ClassId} {A : Nat → Prop} {pz : Nat} {lc : Nat → Nat → Nat} {s : tt_S3} {cc : ByteArray} {nl : Nat} {rt : Option FieldType} {rm : Room} {tn : tt_Tn} {Q : Option Value → (Nat → Nat → Nat) → tt_S3 → Prop} {QX : String → (Nat → Nat → Nat) → tt_S3 → Prop} {pc : Nat} {lv : List (Nat × Value)} {rest : List Value} {ck cn : Nat} {x1 : Int32} {K : Nat × tt_S3 → Prop} {K2 : Nat × tt_S3 → Prop} (h : Ok (fT_layerOf s x1) (fun q => Sum.casesOn (motive := fun _ => Prop) q K K2)) (hl9 : l.stackTraces = false) (hTb : ∀ c m s0, tn c m s0 → tt_ne c m s0) (kx : ∀ e : Nat × tt_S3, K2 e → QX (tt_exn e.1) lc e.2) (hR : 8 + 1 ≤ rm.frames ∧ 8 + (2 + 11) + 139 ≤ rm.locals) (hW : (rest.map fun v => v.category).sum ≤ 8) (d : decode cc pc = .ok (.invokevirtual 117, 3)) (kk : ∀ r, r.1 < 40 → K r → tt_V (XT l D dA A pz) cc (RX1, nl, rt, rm, tn) (tt_fx (XT l D dA A pz) (RX1, nl, rt, rm, tn) Q QX) (pc + 3) lv (.ref (lc 102 r.1) :: rest) lc r.2 (ck + 1) (cn + 6)) (hf : ck + 1 ≤ rm.cells ∧ cn + 6 ≤ rm.slots) : tt_V (XT l D dA A pz) cc (RX1, nl, rt, rm, tn) (tt_fx (XT l D dA A pz) (RX1, nl, rt, rm, tn) Q QX) pc lv (.int x1 :: .ref (lc 0 0) :: rest) lc s ck cn :=
  v_callVX (kd := 0) (i := 0) (nA := 1) (As := [.int x1]) lvT_0 oT_0 rfl (mT_layerOf l D dA A pz hl9 lc s x1 (Q := (fun v lc' s' => ∃ r, r.1 < 40 ∧ K r ∧ v = some (.ref (lc 102 r.1)) ∧ lc' = lc ∧ s' = r.2)) (QX := fun E lc' s' => ∃ e : Nat × tt_S3, K2 e ∧ E = tt_exn e.1 ∧ lc' = lc ∧ s' = e.2) (h.mono (fun q hq => by cases q with
    | inl r => exact (fun hr => fun hz => ⟨r, hz, hr, rfl, rfl, rfl⟩) hq
    | inr e => exact ⟨e, hq, rfl, rfl, rfl⟩))) (lw_V q1022 q1024 qs22 q127 q1025) (by decide +kernel) rfl hR hW hf hTb d rfl (fun E lc' s' q => by obtain ⟨e, hq, e1, e2, e3⟩ := q; rw [e1, e2, e3]; exact kx e hq) (fun v lc' s' q => by obtain ⟨r, hz, hr, e1, e2, e3⟩ := q; rw [e1, e2, e3]; exact kk r hz hr)
theorem gT_X1_204_102 {l : Launch} {D : va_G} {dA : Nat → ClassId} {A : Nat → Prop} {pz : Nat} {lc : Nat → Nat → Nat} {s : tt_S3} {cc : ByteArray} {nl : Nat} {rt : Option FieldType} {rm : Room} {tn : tt_Tn} {Q : tt_Fin} {pc : Nat} {lv : List (Nat × Value)} {rest : List Value} {ck cn : Nat} {i : Nat} (hv : i < 40) (d : decode cc pc = .ok (.getfield 204, 3)) (kk : tt_V (XT l D dA A pz) cc (RX1, nl, rt, rm, tn) Q (pc + 3) lv (.int (rdI s.1 2 i 4) :: rest) lc s ck cn) : tt_V (XT l D dA A pz) cc (RX1, nl, rt, rm, tn) Q pc lv (.ref (lc 102 i) :: rest) lc s ck cn := v_getN (p := 4) knT (lvT_102 hv) oT_102 rfl in_X6 (by decide) q352 (.inl rfl) rfl d kk
theorem gT_X1_207_102 {l : Launch} {D : va_G} {dA : Nat → ClassId} {A : Nat → Prop} {pz : Nat} {lc : Nat → Nat → Nat} {s : tt_S3} {cc : ByteArray} {nl : Nat} {rt : Option FieldType} {rm : Room} {tn : tt_Tn} {Q : tt_Fin} {pc : Nat} {lv : List (Nat × Value)} {rest : List Value} {ck cn : Nat} {i : Nat} (hv : i < 40) (d : decode cc pc = .ok (.getfield 207, 3)) (kk : tt_V (XT l D dA A pz) cc (RX1, nl, rt, rm, tn) Q (pc + 3) lv (.int (rdI s.1 2 i 5) :: rest) lc s ck cn) : tt_V (XT l D dA A pz) cc (RX1, nl, rt, rm, tn) Q pc lv (.ref (lc 102 i) :: rest) lc s ck cn := v_getN (p := 5) knT (lvT_102 hv) oT_102 rfl in_X6 (by decide) q355 (.inl rfl) rfl d kk
theorem gT_X1_210_102 {l : Launch} {D : va_G} {dA : Nat → ClassId} {A : Nat → Prop} {pz : Nat} {lc : Nat → Nat → Nat} {s : tt_S3} {cc : ByteArray} {nl : Nat} {rt : Option FieldType} {rm : Room} {tn : tt_Tn} {Q : tt_Fin} {pc : Nat} {lv : List (Nat × Value)} {rest : List Value} {ck cn : Nat} {i : Nat} (hv : i < 40) (d : decode cc pc = .ok (.getfield 210, 3)) (kk : tt_V (XT l D dA A pz) cc (RX1, nl, rt, rm, tn) Q (pc + 3) lv (.int (rdI s.1 2 i 6) :: rest) lc s ck cn) : tt_V (XT l D dA A pz) cc (RX1, nl, rt, rm, tn) Q pc lv (.ref (lc 102 i) :: rest) lc s ck cn := v_getN (p := 6) knT (lvT_102 hv) oT_102 rfl in_X6 (by decide) q358 (.inl rfl) rfl d kk
theorem gT_X1_213_102 {l : Launch} {D : va_G} {dA : Nat → ClassId} {A : Nat → Prop} {pz : Nat} {lc : Nat → Nat → Nat} {s : tt_S3} {cc : ByteArray} {nl : Nat} {rt : Option FieldType} {rm : Room} {tn : tt_Tn} {Q : tt_Fin} {pc : Nat} {lv : List (Nat × Value)} {rest : List Value} {ck cn : Nat} {i : Nat} (hv : i < 40) (d : decode cc pc = .ok (.getfield 213, 3)) (kk : tt_V (XT l D dA A pz) cc (RX1, nl, rt, rm, tn) Q (pc + 3) lv (.int (rdI s.1 2 i 7) :: rest) lc s ck cn) : tt_V (XT l D dA A pz) cc (RX1, nl, rt, rm, tn) Q pc lv (.ref (lc 102 i) :: rest) lc s ck cn := v_getN (p := 7) knT (lvT_102 hv) oT_102 rfl in_X6 (by decide) q360 (.inl rfl) rfl d kk
theorem gT_X1_216_102 {l : Launch} {D : va_G} {dA : Nat → ClassId} {A : Nat → Prop} {pz : Nat} {lc : Nat → Nat → Nat} {s : tt_S3} {cc : ByteArray} {nl : Nat} {rt : Option FieldType} {rm : Room} {tn : tt_Tn} {Q : tt_Fin} {pc : Nat} {lv : List (Nat × Value)} {rest : List Value} {ck cn : Nat} {i : Nat} (hv : i < 40) (d : decode cc pc = .ok (.getfield 216, 3)) (kk : tt_V (XT l D dA A pz) cc (RX1, nl, rt, rm, tn) Q (pc + 3) lv (.long (rdL s.1 2 i 9) :: rest) lc s ck cn) : tt_V (XT l D dA A pz) cc (RX1, nl, rt, rm, tn) Q pc lv (.ref (lc 102 i) :: rest) lc s ck cn := v_getN (p := 9) knT (lvT_102 hv) oT_102 rfl in_X6 (by decide) q366 (.inl rfl) rfl d kk
theorem cT_220_102 {l : Launch} {D : va_G} {dA : Nat → ClassId} {A : Nat → Prop} {pz : Nat} {lc : Nat → Nat → Nat} {s : tt_S3} {cc : ByteArray} {nl : Nat} {rt : Option FieldType} {rm : Room} {tn : tt_Tn} {Q : tt_Fin} {pc : Nat} {lv : List (Nat × Value)} {rest : List Value} {ck cn : Nat} {x0 : Nat} (hx0 : x0 < 40) {K : Int64 → Prop} (h : Ok (fY_left s.1 x0) K) (hR : 0 + 1 ≤ rm.frames ∧ 8 + (1 + 11) + 0 ≤ rm.locals) (hW : (rest.map fun v => v.category).sum ≤ 8) (d : decode cc pc = .ok (.invokevirtual 220, 3)) (kk : ∀ r, K r → tt_V (XT l D dA A pz) cc (RX1, nl, rt, rm, tn) Q (pc + 3) lv (.long r :: rest) lc s (ck + 0) (cn + 0)) (hf : ck + 0 ≤ rm.cells ∧ cn + 0 ≤ rm.slots) : tt_V (XT l D dA A pz) cc (RX1, nl, rt, rm, tn) Q pc lv (.ref (lc 102 x0) :: rest) lc s ck cn :=
  v_callV (kd := 102) (i := x0) (nA := 0) (As := []) (lvT_102 hx0) oT_102 rfl (liftNow (Q := (fun v lc' s' => ∃ r, K r ∧ v = some (.long r) ∧ lc' = lc ∧ s' = s)) (mY_left l D dA (aT0 lc s) true (nT0 lc) s.1 x0 hx0 (Q := fun v lc' w => lc' = nT0 lc ∧ (fun v lc' s' => ∃ r, K r ∧ v = some (.long r) ∧ lc' = lc ∧ s' = s) v lc (w, s.2)) (h.mono (fun r hr => ⟨rfl, r, hr, rfl, rfl, rfl⟩)))) (lw_V q932 q515 q516 q139 q517) (by decide +kernel) rfl hR hW hf d rfl (fun v lc' s' q => by obtain ⟨r, hr, e1, e2, e3⟩ := q; rw [e1, e2, e3]; exact kk r hr)
theorem cT_224_100_102 {l : Launch} {D : va_G} {dA : Nat → ClassId} {A : Nat → Prop} {pz : Nat} {lc : Nat → Nat → Nat} {s : tt_S3} {cc : ByteArray} {nl : Nat} {rt : Option FieldType} {rm : Room} {tn : tt_Tn} {Q : tt_Fin} {pc : Nat} {lv : List (Nat × Value)} {rest : List Value} {ck cn : Nat} {x1 : Nat} (hx1 : x1 < 40) {K : Int32 → Prop} (h : Ok (fW_placeOf s.1 x1) K) (hR : 0 + 1 ≤ rm.frames ∧ 8 + (3 + 11) + 0 ≤ rm.locals) (hW : (rest.map fun v => v.category).sum ≤ 8) (d : decode cc pc = .ok (.invokevirtual 224, 3)) (kk : ∀ r, K r → tt_V (XT l D dA A pz) cc (RX1, nl, rt, rm, tn) Q (pc + 3) lv (.int r :: rest) lc s (ck + 0) (cn + 0)) (hf : ck + 0 ≤ rm.cells ∧ cn + 0 ≤ rm.slots) : tt_V (XT l D dA A pz) cc (RX1, nl, rt, rm, tn) Q pc lv (.ref (lc 102 x1) :: .ref (lc 100 0) :: rest) lc s ck cn :=
  v_callV (kd := 100) (i := 0) (nA := 1) (As := [.ref (lc 102 x1)]) lvT_100 oT_100 rfl (liftNow (Q := (fun v lc' s' => ∃ r, K r ∧ v = some (.int r) ∧ lc' = lc ∧ s' = s)) (mW_placeOf_2 l D dA (aT0 lc s) true (nT0 lc) s.1 x1 hx1 (Q := fun v lc' w => lc' = nT0 lc ∧ (fun v lc' s' => ∃ r, K r ∧ v = some (.int r) ∧ lc' = lc ∧ s' = s) v lc (w, s.2)) (h.mono (fun r hr => ⟨rfl, r, hr, rfl, rfl, rfl⟩)))) (lw_V q1257 q1258 q1259 q128 q1260) (by decide +kernel) rfl hR hW hf d rfl (fun v lc' s' q => by obtain ⟨r, hr, e1, e2, e3⟩ := q; rw [e1, e2, e3]; exact kk r hr)
theorem cT_228_100 {l : Launch} {D : va_G} {dA : Nat → ClassId} {A : Nat → Prop} {pz : Nat} {lc : Nat → Nat → Nat} {s : tt_S3} {cc : ByteArray} {nl : Nat} {rt : Option FieldType} {rm : Room} {tn : tt_Tn} {Q : tt_Fin} {pc : Nat} {lv : List (Nat × Value)} {rest : List Value} {ck cn : Nat} {x1 : Int32} {x2 : Int32} {K : Int32 → Prop} (h : Ok (fW_holeOf s.1 x1 x2) K) (hR : 1 + 1 ≤ rm.frames ∧ 8 + (3 + 11) + 22 ≤ rm.locals) (hW : (rest.map fun v => v.category).sum ≤ 8) (d : decode cc pc = .ok (.invokevirtual 228, 3)) (kk : ∀ r, K r → tt_V (XT l D dA A pz) cc (RX1, nl, rt, rm, tn) Q (pc + 3) lv (.int r :: rest) lc s (ck + 0) (cn + 0)) (hf : ck + 0 ≤ rm.cells ∧ cn + 0 ≤ rm.slots) : tt_V (XT l D dA A pz) cc (RX1, nl, rt, rm, tn) Q pc lv (.int x2 :: .int x1 :: .ref (lc 100 0) :: rest) lc s ck cn :=
  v_callV (kd := 100) (i := 0) (nA := 2) (As := [.int x1, .int x2]) lvT_100 oT_100 rfl (liftNow (Q := (fun v lc' s' => ∃ r, K r ∧ v = some (.int r) ∧ lc' = lc ∧ s' = s)) (mW_holeOf l D dA (aT0 lc s) true (nT0 lc) s.1 x1 x2 (Q := fun v lc' w => lc' = nT0 lc ∧ (fun v lc' s' => ∃ r, K r ∧ v = some (.int r) ∧ lc' = lc ∧ s' = s) v lc (w, s.2)) (h.mono (fun r hr => ⟨rfl, r, hr, rfl, rfl, rfl⟩)))) (lw_V q1261 q497 q498 q128 q499) (by decide +kernel) rfl hR hW hf d rfl (fun v lc' s' q => by obtain ⟨r, hr, e1, e2, e3⟩ := q; rw [e1, e2, e3]; exact kk r hr)
theorem cT_127_102 {l : Launch} {D : va_G} {dA : Nat → ClassId} {A : Nat → Prop} {pz : Nat} {lc : Nat → Nat → Nat} {s : tt_S3} {cc : ByteArray} {nl : Nat} {rt : Option FieldType} {rm : Room} {tn : tt_Tn} {Q : tt_Fin} {pc : Nat} {lv : List (Nat × Value)} {rest : List Value} {ck cn : Nat} {x0 : Nat} (hx0 : x0 < 40) {K : Int32 → Prop} (h : Ok (fY_allTenths s.1 x0) K) (hR : 0 + 1 ≤ rm.frames ∧ 8 + (3 + 11) + 0 ≤ rm.locals) (hW : (rest.map fun v => v.category).sum ≤ 8) (d : decode cc pc = .ok (.invokevirtual 127, 3)) (kk : ∀ r, K r → tt_V (XT l D dA A pz) cc (RX1, nl, rt, rm, tn) Q (pc + 3) lv (.int r :: rest) lc s (ck + 0) (cn + 0)) (hf : ck + 0 ≤ rm.cells ∧ cn + 0 ≤ rm.slots) : tt_V (XT l D dA A pz) cc (RX1, nl, rt, rm, tn) Q pc lv (.ref (lc 102 x0) :: rest) lc s ck cn :=
  v_callV (kd := 102) (i := x0) (nA := 0) (As := []) (lvT_102 hx0) oT_102 rfl (liftNow (Q := (fun v lc' s' => ∃ r, K r ∧ v = some (.int r) ∧ lc' = lc ∧ s' = s)) (mY_allTenths l D dA (aT0 lc s) true (nT0 lc) s.1 x0 hx0 (Q := fun v lc' w => lc' = nT0 lc ∧ (fun v lc' s' => ∃ r, K r ∧ v = some (.int r) ∧ lc' = lc ∧ s' = s) v lc (w, s.2)) (h.mono (fun r hr => ⟨rfl, r, hr, rfl, rfl, rfl⟩)))) (lw_V q1067 q1060 q1061 q139 q1062) (by decide +kernel) rfl hR hW hf d rfl (fun v lc' s' q => by obtain ⟨r, hr, e1, e2, e3⟩ := q; rw [e1, e2, e3]; exact kk r hr)
def fT_layer (s : tt_S3) (x1 : Int32) (x2 : Int32) : Option ((Int64 × tt_S3) ⊕ (Nat × tt_S3)) :=
  (fT_layerOf s x1).bind fun q_r1 => orThrow q_r1 fun r1 => (fT_within r1.2 x2 (0 : Int32) (10 : Int32)).bind fun q_r2 => orThrow q_r2 fun r2 => if x2 = 0 then some (.inl ((rdI r2.1 2 r1.1 4).toInt64, r2)) else if x2 = 1 then some (.inl ((rdI r2.1 2 r1.1 5).toInt64, r2)) else if x2 = 2 then some (.inl ((rdI r2.1 2 r1.1 6).toInt64, r2)) else if x2 = 3 then some (.inl ((rdI r2.1 2 r1.1 7).toInt64, r2)) else if x2 = 4 then some (.inl (rdL r2.1 2 r1.1 9, r2)) else if x2 = 5 then (fY_left r2.1 r1.1).bind fun r9 => some (.inl (r9, r2)) else if x2 = 6 then (fW_placeOf r2.1 r1.1).bind fun r11 => (fW_holeOf r2.1 (rdI r2.1 2 r1.1 4) r11).bind fun r12 => some (.inl (r12.toInt64, r2)) else if x2 = 7 then some (.inl ((rdI r2.1 2 r1.1 8).toInt64, r2)) else if x2 = 8 then (fY_allTenths r2.1 r1.1).bind fun r15 => some (.inl (((10 : Int32) - r15).toInt64, r2)) else if x2 = 9 then (fW_placeOf r2.1 r1.1).bind fun r17 => some (.inl (r17.toInt64, r2)) else (fY_left r2.1 r1.1).bind fun r18 => if r18 = (0 : Int64) then some (.inl ((1 : Int64), r2)) else some (.inl ((0 : Int64), r2))
abbrev rmT_layer : Room := { frames := 9, cells := 2, slots := 12, locals := 160 }
set_option maxHeartbeats 4000000 in
theorem mT_layer (l : Launch) (D : va_G) (dA : Nat → ClassId) (A : Nat → Prop) (pz : Nat) (hl9 : l.stackTraces = false) (lc : Nat → Nat → Nat) (s : tt_S3) (x1 : Int32) (x2 : Int32) {Q : Option Value → (Nat → Nat → Nat) → tt_S3 → Prop} {QX : String → (Nat → Nat → Nat) → tt_S3 → Prop} (h : Ok (fT_layer s x1 x2) (fun q => Sum.casesOn (motive := fun _ => Prop) q (fun r => Q (some (.long r.1)) lc r.2) (fun e => QX (tt_exn e.1) lc e.2))) : tt_SpX (XT l D dA A pz) yX1_layer cX1_layer 4 (some .long) rmT_layer [.ref (lc 0 0), .int x1, .int x2] lc s Q QX := by
  refine tt_SpX.ofV plX1 kokT (Nat.le_of_ble_eq_true rfl) ?_
  show tt_V (XT l D dA A pz) cX1_layer (RX1, 4, (some .long), rmT_layer, tt_ne) (tt_fx (XT l D dA A pz) (RX1, 4, (some .long), rmT_layer, tt_ne) Q QX) 0 [(0, .ref (lc 0 0)), (1, .int x1), (2, .int x2)] [] lc s 0 0
  unfold fT_layer at h
  refine v_aload_n 0 dX1_layer_0 rfl ?_
  refine v_iload_n 1 dX1_layer_1 rfl ?_
  refine cT_117_0 (Ok.throws h) hl9 (fun _ _ _ h => h) (fun _ h => h) ⟨Nat.le_of_ble_eq_true rfl, Nat.le_of_ble_eq_true rfl⟩ (Nat.le_of_ble_eq_true rfl) dX1_layer_2 (fun r1 z_r1 h => ?_) ⟨Nat.le_of_ble_eq_true rfl, Nat.le_of_ble_eq_true rfl⟩
  refine v_astore_n [(3, .ref (lc 102 r1.1)), (0, .ref (lc 0 0)), (1, .int x1), (2, .int x2)] dX1_layer_5 (Nat.le_of_ble_eq_true rfl) rfl ?_
  refine v_aload_n 1 dX1_layer_6 rfl ?_
  refine v_iload_n 3 dX1_layer_7 rfl ?_
  refine v_iconst dX1_layer_8 ic_0 ?_
  refine v_bipush dX1_layer_9 kb_10 ?_
  refine cT_80_0 (Ok.throws h) hl9 (fun _ _ _ h => h) (fun _ h => h) ⟨Nat.le_of_ble_eq_true rfl, Nat.le_of_ble_eq_true rfl⟩ (Nat.le_of_ble_eq_true rfl) dX1_layer_11 (fun r2 h => ?_) ⟨Nat.le_of_ble_eq_true rfl, Nat.le_of_ble_eq_true rfl⟩
  refine v_iload_n 3 dX1_layer_14 rfl ?_
  rcases Decidable.em (x2 = 0) with c3 | c3
  · have h := Ok.pos h c3
    refine v_tableIn (v := 0) (tgt := 68) dX1_layer_15 c3 (by decide) (by decide) rfl rfl ?_
    refine v_aload_n 0 dX1_layer_68 rfl ?_
    refine gT_X1_204_102 z_r1 dX1_layer_69 ?_
    refine v_i2l dX1_layer_72 rfl ?_
    have h := Ok.ret h
    exact v_retX (v_lret rfl (Nat.le_of_ble_eq_true rfl) (Nat.le_of_ble_eq_true rfl) dX1_layer_73 h)
  · have h := Ok.neg h c3
    rcases Decidable.em (x2 = 1) with c4 | c4
    · have h := Ok.pos h c4
      refine v_tableIn (v := 1) (tgt := 74) dX1_layer_15 c4 (by decide) (by decide) rfl rfl ?_
      refine v_aload_n 0 dX1_layer_74 rfl ?_
      refine gT_X1_207_102 z_r1 dX1_layer_75 ?_
      refine v_i2l dX1_layer_78 rfl ?_
      have h := Ok.ret h
      exact v_retX (v_lret rfl (Nat.le_of_ble_eq_true rfl) (Nat.le_of_ble_eq_true rfl) dX1_layer_79 h)
    · have h := Ok.neg h c4
      rcases Decidable.em (x2 = 2) with c5 | c5
      · have h := Ok.pos h c5
        refine v_tableIn (v := 2) (tgt := 80) dX1_layer_15 c5 (by decide) (by decide) rfl rfl ?_
        refine v_aload_n 0 dX1_layer_80 rfl ?_
        refine gT_X1_210_102 z_r1 dX1_layer_81 ?_
        refine v_i2l dX1_layer_84 rfl ?_
        have h := Ok.ret h
        exact v_retX (v_lret rfl (Nat.le_of_ble_eq_true rfl) (Nat.le_of_ble_eq_true rfl) dX1_layer_85 h)
      · have h := Ok.neg h c5
        rcases Decidable.em (x2 = 3) with c6 | c6
        · have h := Ok.pos h c6
          refine v_tableIn (v := 3) (tgt := 86) dX1_layer_15 c6 (by decide) (by decide) rfl rfl ?_
          refine v_aload_n 0 dX1_layer_86 rfl ?_
          refine gT_X1_213_102 z_r1 dX1_layer_87 ?_
          refine v_i2l dX1_layer_90 rfl ?_
          have h := Ok.ret h
          exact v_retX (v_lret rfl (Nat.le_of_ble_eq_true rfl) (Nat.le_of_ble_eq_true rfl) dX1_layer_91 h)
        · have h := Ok.neg h c6
          rcases Decidable.em (x2 = 4) with c7 | c7
          · have h := Ok.pos h c7
            refine v_tableIn (v := 4) (tgt := 92) dX1_layer_15 c7 (by decide) (by decide) rfl rfl ?_
            refine v_aload_n 0 dX1_layer_92 rfl ?_
            refine gT_X1_216_102 z_r1 dX1_layer_93 ?_
            have h := Ok.ret h
            exact v_retX (v_lret rfl (Nat.le_of_ble_eq_true rfl) (Nat.le_of_ble_eq_true rfl) dX1_layer_96 h)
          · have h := Ok.neg h c7
            rcases Decidable.em (x2 = 5) with c8 | c8
            · have h := Ok.pos h c8
              refine v_tableIn (v := 5) (tgt := 97) dX1_layer_15 c8 (by decide) (by decide) rfl rfl ?_
              refine v_aload_n 0 dX1_layer_97 rfl ?_
              refine cT_220_102 z_r1 (Ok.bind h) ⟨Nat.le_of_ble_eq_true rfl, Nat.le_of_ble_eq_true rfl⟩ (Nat.le_of_ble_eq_true rfl) dX1_layer_98 (fun r9 h => ?_) ⟨Nat.le_of_ble_eq_true rfl, Nat.le_of_ble_eq_true rfl⟩
              have h := Ok.ret h
              exact v_retX (v_lret rfl (Nat.le_of_ble_eq_true rfl) (Nat.le_of_ble_eq_true rfl) dX1_layer_101 h)
            · have h := Ok.neg h c8
              rcases Decidable.em (x2 = 6) with c10 | c10
              · have h := Ok.pos h c10
                refine v_tableIn (v := 6) (tgt := 102) dX1_layer_15 c10 (by decide) (by decide) rfl rfl ?_
                refine v_aload_n 1 dX1_layer_102 rfl ?_
                refine gT_X1_10_0 dX1_layer_103 ?_
                refine v_aload_n 0 dX1_layer_106 rfl ?_
                refine gT_X1_204_102 z_r1 dX1_layer_107 ?_
                refine v_aload_n 1 dX1_layer_110 rfl ?_
                refine gT_X1_10_0 dX1_layer_111 ?_
                refine v_aload_n 0 dX1_layer_114 rfl ?_
                refine cT_224_100_102 z_r1 (Ok.bind h) ⟨Nat.le_of_ble_eq_true rfl, Nat.le_of_ble_eq_true rfl⟩ (Nat.le_of_ble_eq_true rfl) dX1_layer_115 (fun r11 h => ?_) ⟨Nat.le_of_ble_eq_true rfl, Nat.le_of_ble_eq_true rfl⟩
                refine cT_228_100 (Ok.bind h) ⟨Nat.le_of_ble_eq_true rfl, Nat.le_of_ble_eq_true rfl⟩ (Nat.le_of_ble_eq_true rfl) dX1_layer_118 (fun r12 h => ?_) ⟨Nat.le_of_ble_eq_true rfl, Nat.le_of_ble_eq_true rfl⟩
                refine v_i2l dX1_layer_121 rfl ?_
                have h := Ok.ret h
                exact v_retX (v_lret rfl (Nat.le_of_ble_eq_true rfl) (Nat.le_of_ble_eq_true rfl) dX1_layer_122 h)
              · have h := Ok.neg h c10
                rcases Decidable.em (x2 = 7) with c13 | c13
                · have h := Ok.pos h c13
                  refine v_tableIn (v := 7) (tgt := 123) dX1_layer_15 c13 (by decide) (by decide) rfl rfl ?_
                  refine v_aload_n 0 dX1_layer_123 rfl ?_
                  refine gT_X1_186_102 z_r1 dX1_layer_124 ?_
                  refine v_i2l dX1_layer_127 rfl ?_
                  have h := Ok.ret h
                  exact v_retX (v_lret rfl (Nat.le_of_ble_eq_true rfl) (Nat.le_of_ble_eq_true rfl) dX1_layer_128 h)
                · have h := Ok.neg h c13
                  rcases Decidable.em (x2 = 8) with c14 | c14
                  · have h := Ok.pos h c14
                    refine v_tableIn (v := 8) (tgt := 129) dX1_layer_15 c14 (by decide) (by decide) rfl rfl ?_
                    refine v_bipush dX1_layer_129 kb_10 ?_
                    refine v_aload_n 0 dX1_layer_131 rfl ?_
                    refine cT_127_102 z_r1 (Ok.bind h) ⟨Nat.le_of_ble_eq_true rfl, Nat.le_of_ble_eq_true rfl⟩ (Nat.le_of_ble_eq_true rfl) dX1_layer_132 (fun r15 h => ?_) ⟨Nat.le_of_ble_eq_true rfl, Nat.le_of_ble_eq_true rfl⟩
                    refine v_isub dX1_layer_135 ?_
                    refine v_i2l dX1_layer_136 rfl ?_
                    have h := Ok.ret h
                    exact v_retX (v_lret rfl (Nat.le_of_ble_eq_true rfl) (Nat.le_of_ble_eq_true rfl) dX1_layer_137 h)
                  · have h := Ok.neg h c14
                    rcases Decidable.em (x2 = 9) with c16 | c16
                    · have h := Ok.pos h c16
                      refine v_tableIn (v := 9) (tgt := 138) dX1_layer_15 c16 (by decide) (by decide) rfl rfl ?_
                      refine v_aload_n 1 dX1_layer_138 rfl ?_
                      refine gT_X1_10_0 dX1_layer_139 ?_
                      refine v_aload_n 0 dX1_layer_142 rfl ?_
                      refine cT_224_100_102 z_r1 (Ok.bind h) ⟨Nat.le_of_ble_eq_true rfl, Nat.le_of_ble_eq_true rfl⟩ (Nat.le_of_ble_eq_true rfl) dX1_layer_143 (fun r17 h => ?_) ⟨Nat.le_of_ble_eq_true rfl, Nat.le_of_ble_eq_true rfl⟩
                      refine v_i2l dX1_layer_146 rfl ?_
                      have h := Ok.ret h
                      exact v_retX (v_lret rfl (Nat.le_of_ble_eq_true rfl) (Nat.le_of_ble_eq_true rfl) dX1_layer_147 h)
                    · have h := Ok.neg h c16
                      have a_c3 : x2.toInt ≠ 0 := fun q => c3 (Int32.toInt_inj.mp (q.trans (by decide)))
                      have a_c4 : x2.toInt ≠ 1 := fun q => c4 (Int32.toInt_inj.mp (q.trans (by decide)))
                      have a_c5 : x2.toInt ≠ 2 := fun q => c5 (Int32.toInt_inj.mp (q.trans (by decide)))
                      have a_c6 : x2.toInt ≠ 3 := fun q => c6 (Int32.toInt_inj.mp (q.trans (by decide)))
                      have a_c7 : x2.toInt ≠ 4 := fun q => c7 (Int32.toInt_inj.mp (q.trans (by decide)))
                      have a_c8 : x2.toInt ≠ 5 := fun q => c8 (Int32.toInt_inj.mp (q.trans (by decide)))
                      have a_c10 : x2.toInt ≠ 6 := fun q => c10 (Int32.toInt_inj.mp (q.trans (by decide)))
                      have a_c13 : x2.toInt ≠ 7 := fun q => c13 (Int32.toInt_inj.mp (q.trans (by decide)))
                      have a_c14 : x2.toInt ≠ 8 := fun q => c14 (Int32.toInt_inj.mp (q.trans (by decide)))
                      have a_c16 : x2.toInt ≠ 9 := fun q => c16 (Int32.toInt_inj.mp (q.trans (by decide)))
                      refine v_tableOut (tgt := 148) dX1_layer_15 (by omega) rfl ?_
                      refine v_aload_n 0 dX1_layer_148 rfl ?_
                      refine cT_220_102 z_r1 (Ok.bind h) ⟨Nat.le_of_ble_eq_true rfl, Nat.le_of_ble_eq_true rfl⟩ (Nat.le_of_ble_eq_true rfl) dX1_layer_149 (fun r18 h => ?_) ⟨Nat.le_of_ble_eq_true rfl, Nat.le_of_ble_eq_true rfl⟩
                      refine v_lconst dX1_layer_152 kl_0 ?_
                      refine v_lif_ne (tgt := 161) dX1_layer_153 dX1_layer_154 rfl (fun c19 => ?_) (fun c19 => ?_)
                      · have h := Ok.neg h c19
                        refine v_lconst dX1_layer_161 kl_0 ?_
                        have h := Ok.ret h
                        exact v_retX (v_lret rfl (Nat.le_of_ble_eq_true rfl) (Nat.le_of_ble_eq_true rfl) dX1_layer_162 h)
                      · have h := Ok.pos h c19
                        refine v_lconst dX1_layer_157 kl_1 ?_
                        refine v_goto (tgt := 162) dX1_layer_158 rfl ?_
                        have h := Ok.ret h
                        exact v_retX (v_lret rfl (Nat.le_of_ble_eq_true rfl) (Nat.le_of_ble_eq_true rfl) dX1_layer_162 h)
def fT_placeOf (s : tt_S3) (x1 : Int32) : Option ((tt_S3) ⊕ (Nat × tt_S3)) :=
  (fT_within s x1 (0 : Int32) (2147483647 : Int32)).bind fun q_r1 => orThrow q_r1 fun r1 => some (.inl r1)
abbrev rmT_placeOf : Room := { frames := 8, cells := 1, slots := 6, locals := 140 }
set_option maxHeartbeats 4000000 in
theorem mT_placeOf (l : Launch) (D : va_G) (dA : Nat → ClassId) (A : Nat → Prop) (pz : Nat) (hl9 : l.stackTraces = false) (lc : Nat → Nat → Nat) (s : tt_S3) (x1 : Int32) {Q : Option Value → (Nat → Nat → Nat) → tt_S3 → Prop} {QX : String → (Nat → Nat → Nat) → tt_S3 → Prop} (h : Ok (fT_placeOf s x1) (fun q => Sum.casesOn (motive := fun _ => Prop) q (fun r => Q none lc r) (fun e => QX (tt_exn e.1) lc e.2))) : tt_SpX (XT l D dA A pz) yX1_placeOf cX1_placeOf 2 none rmT_placeOf [.ref (lc 0 0), .int x1] lc s Q QX := by
  refine tt_SpX.ofV plX1 kokT (Nat.le_of_ble_eq_true rfl) ?_
  show tt_V (XT l D dA A pz) cX1_placeOf (RX1, 2, none, rmT_placeOf, tt_ne) (tt_fx (XT l D dA A pz) (RX1, 2, none, rmT_placeOf, tt_ne) Q QX) 0 [(0, .ref (lc 0 0)), (1, .int x1)] [] lc s 0 0
  unfold fT_placeOf at h
  refine v_aload_n 0 dX1_placeOf_0 rfl ?_
  refine v_iload_n 1 dX1_placeOf_1 rfl ?_
  refine v_iconst dX1_placeOf_2 ic_0 ?_
  refine v_ldc dX1_placeOf_3 q1273 ?_
  refine cT_80_0 (Ok.throws h) hl9 (fun _ _ _ h => h) (fun _ h => h) ⟨Nat.le_of_ble_eq_true rfl, Nat.le_of_ble_eq_true rfl⟩ (Nat.le_of_ble_eq_true rfl) dX1_placeOf_5 (fun r1 h => ?_) ⟨Nat.le_of_ble_eq_true rfl, Nat.le_of_ble_eq_true rfl⟩
  have h := Ok.ret h
  exact v_retX (v_vret rfl (Nat.le_of_ble_eq_true rfl) (Nat.le_of_ble_eq_true rfl) dX1_placeOf_8 h)
theorem cT_232_0 {l : Launch} {D : va_G} {dA : Nat → ClassId} {A : Nat → Prop} {pz : Nat} {lc : Nat → Nat → Nat} {s : tt_S3} {cc : ByteArray} {nl : Nat} {rt : Option FieldType} {rm : Room} {tn : tt_Tn} {Q : Option Value → (Nat → Nat → Nat) → tt_S3 → Prop} {QX : String → (Nat → Nat → Nat) → tt_S3 → Prop} {pc : Nat} {lv : List (Nat × Value)} {rest : List Value} {ck cn : Nat} {x1 : Int32} {K : tt_S3 → Prop} {K2 : Nat × tt_S3 → Prop} (h : Ok (fT_placeOf s x1) (fun q => Sum.casesOn (motive := fun _ => Prop) q K K2)) (hl9 : l.stackTraces = false) (hTb : ∀ c m s0, tn c m s0 → tt_ne c m s0) (kx : ∀ e : Nat × tt_S3, K2 e → QX (tt_exn e.1) lc e.2) (hR : 8 + 1 ≤ rm.frames ∧ 8 + (2 + 11) + 140 ≤ rm.locals) (hW : (rest.map fun v => v.category).sum ≤ 8) (d : decode cc pc = .ok (.invokevirtual 232, 3)) (kk : ∀ r, K r → tt_V (XT l D dA A pz) cc (RX1, nl, rt, rm, tn) (tt_fx (XT l D dA A pz) (RX1, nl, rt, rm, tn) Q QX) (pc + 3) lv rest lc r (ck + 1) (cn + 6)) (hf : ck + 1 ≤ rm.cells ∧ cn + 6 ≤ rm.slots) : tt_V (XT l D dA A pz) cc (RX1, nl, rt, rm, tn) (tt_fx (XT l D dA A pz) (RX1, nl, rt, rm, tn) Q QX) pc lv (.int x1 :: .ref (lc 0 0) :: rest) lc s ck cn :=
  v_callVX (kd := 0) (i := 0) (nA := 1) (As := [.int x1]) lvT_0 oT_0 rfl (mT_placeOf l D dA A pz hl9 lc s x1 (Q := (fun v lc' s' => ∃ r, K r ∧ v = none ∧ lc' = lc ∧ s' = r)) (QX := fun E lc' s' => ∃ e : Nat × tt_S3, K2 e ∧ E = tt_exn e.1 ∧ lc' = lc ∧ s' = e.2) (h.mono (fun q hq => by cases q with
    | inl r => exact (fun hr => ⟨r, hr, rfl, rfl, rfl⟩) hq
    | inr e => exact ⟨e, hq, rfl, rfl, rfl⟩))) (lw_V q1269 q1271 qs33 q127 q1272) (by decide +kernel) rfl hR hW hf hTb d rfl (fun E lc' s' q => by obtain ⟨e, hq, e1, e2, e3⟩ := q; rw [e1, e2, e3]; exact kx e hq) (fun v lc' s' q => by obtain ⟨r, hr, e1, e2, e3⟩ := q; rw [e1, e2, e3]; exact kk r hr)
theorem gT_X1_239_102 {l : Launch} {D : va_G} {dA : Nat → ClassId} {A : Nat → Prop} {pz : Nat} {lc : Nat → Nat → Nat} {s : tt_S3} {cc : ByteArray} {nl : Nat} {rt : Option FieldType} {rm : Room} {tn : tt_Tn} {Q : tt_Fin} {pc : Nat} {lv : List (Nat × Value)} {rest : List Value} {ck cn : Nat} {i : Nat} (hv : i < 40) (d : decode cc pc = .ok (.getfield 239, 3)) (kk : tt_V (XT l D dA A pz) cc (RX1, nl, rt, rm, tn) Q (pc + 3) lv (.ref (lc 105 i) :: rest) lc s ck cn) : tt_V (XT l D dA A pz) cc (RX1, nl, rt, rm, tn) Q pc lv (.ref (lc 102 i) :: rest) lc s ck cn := v_getN (p := 2) knT (lvT_102 hv) oT_102 rfl in_X6 (by decide) q345 (.inl rfl) rfl d kk
theorem lvT_105 {l : Launch} {D : va_G} {dA : Nat → ClassId} {A : Nat → Prop} {pz : Nat} {s : tt_S3} {i : Nat} (hv : i < 40) : xV (XT l D dA A pz) s 105 i := by rw [show (105 : Nat) = 100 + 5 from rfl, lvT_now (by decide)]; exact hv
theorem aT_105 {l : Launch} {D : va_G} {dA : Nat → ClassId} {A : Nat → Prop} {pz : Nat} {lc : Nat → Nat → Nat} {s : tt_S3} {i : Nat} : tt_ent (XT l D dA A pz) lc s 105 i = .inl (dA 1, 4, .inr (.inl (rdL s.1 5 i))) := eT_now (kd := 5) (by decide)
theorem lT_105 {l : Launch} {D : va_G} {dA : Nat → ClassId} {A : Nat → Prop} {pz : Nat} {lc : Nat → Nat → Nat} {s : tt_S3} {cc : ByteArray} {Y : tt_Y} {Q : tt_Fin} {pc : Nat} {lv : List (Nat × Value)} {rest : List Value} {ck cn : Nat} {i : Nat} {j : Int32} (hv : i < 40) (g : inB j 4 = true) (d : decode cc pc = .ok (.laload, 1)) (kk : tt_V (XT l D dA A pz) cc Y Q (pc + 1) lv (.long (rdL s.1 5 i j.toNatClampNeg) :: rest) lc s ck cn) : tt_V (XT l D dA A pz) cc Y Q pc lv (.int j :: .ref (lc 105 i) :: rest) lc s ck cn := v_lald (t := 1) (lvT_105 hv) aT_105 rfl g d kk
theorem nT_105 {l : Launch} {D : va_G} {dA : Nat → ClassId} {A : Nat → Prop} {pz : Nat} {lc : Nat → Nat → Nat} {s : tt_S3} {cc : ByteArray} {Y : tt_Y} {Q : tt_Fin} {pc : Nat} {lv : List (Nat × Value)} {rest : List Value} {ck cn : Nat} {i : Nat} (hv : i < 40) (d : decode cc pc = .ok (.arraylength, 1)) (kk : tt_V (XT l D dA A pz) cc Y Q (pc + 1) lv (.int 4 :: rest) lc s ck cn) : tt_V (XT l D dA A pz) cc Y Q pc lv (.ref (lc 105 i) :: rest) lc s ck cn := v_alen (t := 1) (lvT_105 hv) aT_105 rfl rfl d kk
theorem gT_X1_236_102 {l : Launch} {D : va_G} {dA : Nat → ClassId} {A : Nat → Prop} {pz : Nat} {lc : Nat → Nat → Nat} {s : tt_S3} {cc : ByteArray} {nl : Nat} {rt : Option FieldType} {rm : Room} {tn : tt_Tn} {Q : tt_Fin} {pc : Nat} {lv : List (Nat × Value)} {rest : List Value} {ck cn : Nat} {i : Nat} (hv : i < 40) (d : decode cc pc = .ok (.getfield 236, 3)) (kk : tt_V (XT l D dA A pz) cc (RX1, nl, rt, rm, tn) Q (pc + 3) lv (.ref (lc 104 i) :: rest) lc s ck cn) : tt_V (XT l D dA A pz) cc (RX1, nl, rt, rm, tn) Q pc lv (.ref (lc 102 i) :: rest) lc s ck cn := v_getN (p := 1) knT (lvT_102 hv) oT_102 rfl in_X6 (by decide) q342 (.inl rfl) rfl d kk
theorem lvT_104 {l : Launch} {D : va_G} {dA : Nat → ClassId} {A : Nat → Prop} {pz : Nat} {s : tt_S3} {i : Nat} (hv : i < 40) : xV (XT l D dA A pz) s 104 i := by rw [show (104 : Nat) = 100 + 4 from rfl, lvT_now (by decide)]; exact hv
theorem aT_104 {l : Launch} {D : va_G} {dA : Nat → ClassId} {A : Nat → Prop} {pz : Nat} {lc : Nat → Nat → Nat} {s : tt_S3} {i : Nat} : tt_ent (XT l D dA A pz) lc s 104 i = .inl (dA 0, 4, .inl (rdI s.1 4 i)) := eT_now (kd := 4) (by decide)
theorem lT_104 {l : Launch} {D : va_G} {dA : Nat → ClassId} {A : Nat → Prop} {pz : Nat} {lc : Nat → Nat → Nat} {s : tt_S3} {cc : ByteArray} {Y : tt_Y} {Q : tt_Fin} {pc : Nat} {lv : List (Nat × Value)} {rest : List Value} {ck cn : Nat} {i : Nat} {j : Int32} (hv : i < 40) (g : inB j 4 = true) (d : decode cc pc = .ok (.iaload, 1)) (kk : tt_V (XT l D dA A pz) cc Y Q (pc + 1) lv (.int (rdI s.1 4 i j.toNatClampNeg) :: rest) lc s ck cn) : tt_V (XT l D dA A pz) cc Y Q pc lv (.int j :: .ref (lc 104 i) :: rest) lc s ck cn := v_iald (t := 0) (lvT_104 hv) aT_104 rfl g d kk
theorem nT_104 {l : Launch} {D : va_G} {dA : Nat → ClassId} {A : Nat → Prop} {pz : Nat} {lc : Nat → Nat → Nat} {s : tt_S3} {cc : ByteArray} {Y : tt_Y} {Q : tt_Fin} {pc : Nat} {lv : List (Nat × Value)} {rest : List Value} {ck cn : Nat} {i : Nat} (hv : i < 40) (d : decode cc pc = .ok (.arraylength, 1)) (kk : tt_V (XT l D dA A pz) cc Y Q (pc + 1) lv (.int 4 :: rest) lc s ck cn) : tt_V (XT l D dA A pz) cc Y Q pc lv (.ref (lc 104 i) :: rest) lc s ck cn := v_alen (t := 0) (lvT_104 hv) aT_104 rfl rfl d kk
def fT_signed (s : tt_S3) (x1 : Int32) (x2 : Int32) (x3 : Int32) : Option ((Int64 × tt_S3) ⊕ (Nat × tt_S3)) :=
  (fT_layerOf s x1).bind fun q_r1 => orThrow q_r1 fun r1 => (fT_placeOf r1.2 x2).bind fun q_r2 => orThrow q_r2 fun r2 => (fT_within r2 x3 (0 : Int32) (2 : Int32)).bind fun q_r3 => orThrow q_r3 fun r3 => if x2 < (rdI r3.1 2 r1.1 8) then if x3 = 0 then if inB x2 4 then some (.inl ((rdI r3.1 3 r1.1 x2.toNatClampNeg).toInt64, r3)) else none else if x3 = (1 : Int32) then if inB x2 4 then some (.inl ((rdI r3.1 4 r1.1 x2.toNatClampNeg).toInt64, r3)) else none else if inB x2 4 then some (.inl (rdL r3.1 5 r1.1 x2.toNatClampNeg, r3)) else none else some (.inl ((-1 : Int64), r3))
abbrev rmT_signed : Room := { frames := 9, cells := 3, slots := 18, locals := 161 }
set_option maxHeartbeats 4000000 in
theorem mT_signed (l : Launch) (D : va_G) (dA : Nat → ClassId) (A : Nat → Prop) (pz : Nat) (hl9 : l.stackTraces = false) (lc : Nat → Nat → Nat) (s : tt_S3) (x1 : Int32) (x2 : Int32) (x3 : Int32) {Q : Option Value → (Nat → Nat → Nat) → tt_S3 → Prop} {QX : String → (Nat → Nat → Nat) → tt_S3 → Prop} (h : Ok (fT_signed s x1 x2 x3) (fun q => Sum.casesOn (motive := fun _ => Prop) q (fun r => Q (some (.long r.1)) lc r.2) (fun e => QX (tt_exn e.1) lc e.2))) : tt_SpX (XT l D dA A pz) yX1_signed cX1_signed 5 (some .long) rmT_signed [.ref (lc 0 0), .int x1, .int x2, .int x3] lc s Q QX := by
  refine tt_SpX.ofV plX1 kokT (Nat.le_of_ble_eq_true rfl) ?_
  show tt_V (XT l D dA A pz) cX1_signed (RX1, 5, (some .long), rmT_signed, tt_ne) (tt_fx (XT l D dA A pz) (RX1, 5, (some .long), rmT_signed, tt_ne) Q QX) 0 [(0, .ref (lc 0 0)), (1, .int x1), (2, .int x2), (3, .int x3)] [] lc s 0 0
  unfold fT_signed at h
  refine v_aload_n 0 dX1_signed_0 rfl ?_
  refine v_iload_n 1 dX1_signed_1 rfl ?_
  refine cT_117_0 (Ok.throws h) hl9 (fun _ _ _ h => h) (fun _ h => h) ⟨Nat.le_of_ble_eq_true rfl, Nat.le_of_ble_eq_true rfl⟩ (Nat.le_of_ble_eq_true rfl) dX1_signed_2 (fun r1 z_r1 h => ?_) ⟨Nat.le_of_ble_eq_true rfl, Nat.le_of_ble_eq_true rfl⟩
  refine v_astore [(4, .ref (lc 102 r1.1)), (0, .ref (lc 0 0)), (1, .int x1), (2, .int x2), (3, .int x3)] dX1_signed_5 (Nat.le_of_ble_eq_true rfl) rfl ?_
  refine v_aload_n 1 dX1_signed_7 rfl ?_
  refine v_iload_n 3 dX1_signed_8 rfl ?_
  refine cT_232_0 (Ok.throws h) hl9 (fun _ _ _ h => h) (fun _ h => h) ⟨Nat.le_of_ble_eq_true rfl, Nat.le_of_ble_eq_true rfl⟩ (Nat.le_of_ble_eq_true rfl) dX1_signed_9 (fun r2 h => ?_) ⟨Nat.le_of_ble_eq_true rfl, Nat.le_of_ble_eq_true rfl⟩
  refine v_aload_n 1 dX1_signed_12 rfl ?_
  refine v_iload_n 4 dX1_signed_13 rfl ?_
  refine v_iconst dX1_signed_14 ic_0 ?_
  refine v_iconst dX1_signed_15 ic_2 ?_
  refine cT_80_0 (Ok.throws h) hl9 (fun _ _ _ h => h) (fun _ h => h) ⟨Nat.le_of_ble_eq_true rfl, Nat.le_of_ble_eq_true rfl⟩ (Nat.le_of_ble_eq_true rfl) dX1_signed_16 (fun r3 h => ?_) ⟨Nat.le_of_ble_eq_true rfl, Nat.le_of_ble_eq_true rfl⟩
  refine v_iload_n 3 dX1_signed_19 rfl ?_
  refine v_aload 0 dX1_signed_20 rfl ?_
  refine gT_X1_186_102 z_r1 dX1_signed_22 ?_
  refine v_icmp_lt (tgt := 34) dX1_signed_25 rfl (fun c4 => ?_) (fun c4 => ?_)
  · have h := Ok.pos h c4
    refine v_iload_n 4 dX1_signed_34 rfl ?_
    refine v_if_ne (tgt := 49) dX1_signed_35 rfl (fun c5 => ?_) (fun c5 => ?_)
    · have h := Ok.neg h c5
      refine v_iload_n 4 dX1_signed_49 rfl ?_
      refine v_iconst dX1_signed_50 ic_1 ?_
      refine v_icmp_ne (tgt := 65) dX1_signed_51 rfl (fun c6 => ?_) (fun c6 => ?_)
      · have h := Ok.neg h c6
        refine v_aload 0 dX1_signed_65 rfl ?_
        refine gT_X1_239_102 z_r1 dX1_signed_67 ?_
        refine v_iload_n 3 dX1_signed_70 rfl ?_
        obtain ⟨g7, h⟩ := Ok.guard h
        refine lT_105 z_r1 g7 dX1_signed_71 ?_
        have h := Ok.ret h
        exact v_retX (v_lret rfl (Nat.le_of_ble_eq_true rfl) (Nat.le_of_ble_eq_true rfl) dX1_signed_72 h)
      · have h := Ok.pos h c6
        refine v_aload 0 dX1_signed_54 rfl ?_
        refine gT_X1_236_102 z_r1 dX1_signed_56 ?_
        refine v_iload_n 3 dX1_signed_59 rfl ?_
        obtain ⟨g8, h⟩ := Ok.guard h
        refine lT_104 z_r1 g8 dX1_signed_60 ?_
        refine v_i2l dX1_signed_61 rfl ?_
        refine v_goto (tgt := 72) dX1_signed_62 rfl ?_
        have h := Ok.ret h
        exact v_retX (v_lret rfl (Nat.le_of_ble_eq_true rfl) (Nat.le_of_ble_eq_true rfl) dX1_signed_72 h)
    · have h := Ok.pos h c5
      refine v_aload 0 dX1_signed_38 rfl ?_
      refine gT_X1_189_102 z_r1 dX1_signed_40 ?_
      refine v_iload_n 3 dX1_signed_43 rfl ?_
      obtain ⟨g9, h⟩ := Ok.guard h
      refine lT_103 z_r1 g9 dX1_signed_44 ?_
      refine v_i2l dX1_signed_45 rfl ?_
      refine v_goto (tgt := 72) dX1_signed_46 rfl ?_
      have h := Ok.ret h
      exact v_retX (v_lret rfl (Nat.le_of_ble_eq_true rfl) (Nat.le_of_ble_eq_true rfl) dX1_signed_72 h)
  · have h := Ok.neg h c4
    refine v_ldc2 dX1_signed_28 q1274 ?_
    refine v_goto (tgt := 72) dX1_signed_31 rfl ?_
    have h := Ok.ret h
    exact v_retX (v_lret rfl (Nat.le_of_ble_eq_true rfl) (Nat.le_of_ble_eq_true rfl) dX1_signed_72 h)
def fT_yearOf (s : tt_S3) (x1 : Int32) : Option ((tt_S3) ⊕ (Nat × tt_S3)) :=
  (fT_within s x1 (0 : Int32) (11 : Int32)).bind fun q_r1 => orThrow q_r1 fun r1 => some (.inl r1)
abbrev rmT_yearOf : Room := { frames := 8, cells := 1, slots := 6, locals := 140 }
set_option maxHeartbeats 4000000 in
theorem mT_yearOf (l : Launch) (D : va_G) (dA : Nat → ClassId) (A : Nat → Prop) (pz : Nat) (hl9 : l.stackTraces = false) (lc : Nat → Nat → Nat) (s : tt_S3) (x1 : Int32) {Q : Option Value → (Nat → Nat → Nat) → tt_S3 → Prop} {QX : String → (Nat → Nat → Nat) → tt_S3 → Prop} (h : Ok (fT_yearOf s x1) (fun q => Sum.casesOn (motive := fun _ => Prop) q (fun r => Q none lc r) (fun e => QX (tt_exn e.1) lc e.2))) : tt_SpX (XT l D dA A pz) yX1_yearOf cX1_yearOf 2 none rmT_yearOf [.ref (lc 0 0), .int x1] lc s Q QX := by
  refine tt_SpX.ofV plX1 kokT (Nat.le_of_ble_eq_true rfl) ?_
  show tt_V (XT l D dA A pz) cX1_yearOf (RX1, 2, none, rmT_yearOf, tt_ne) (tt_fx (XT l D dA A pz) (RX1, 2, none, rmT_yearOf, tt_ne) Q QX) 0 [(0, .ref (lc 0 0)), (1, .int x1)] [] lc s 0 0
  unfold fT_yearOf at h
  refine v_aload_n 0 dX1_yearOf_0 rfl ?_
  refine v_iload_n 1 dX1_yearOf_1 rfl ?_
  refine v_iconst dX1_yearOf_2 ic_0 ?_
  refine v_bipush dX1_yearOf_3 kb_11 ?_
  refine cT_80_0 (Ok.throws h) hl9 (fun _ _ _ h => h) (fun _ h => h) ⟨Nat.le_of_ble_eq_true rfl, Nat.le_of_ble_eq_true rfl⟩ (Nat.le_of_ble_eq_true rfl) dX1_yearOf_5 (fun r1 h => ?_) ⟨Nat.le_of_ble_eq_true rfl, Nat.le_of_ble_eq_true rfl⟩
  have h := Ok.ret h
  exact v_retX (v_vret rfl (Nat.le_of_ble_eq_true rfl) (Nat.le_of_ble_eq_true rfl) dX1_yearOf_8 h)
theorem cT_84_0 {l : Launch} {D : va_G} {dA : Nat → ClassId} {A : Nat → Prop} {pz : Nat} {lc : Nat → Nat → Nat} {s : tt_S3} {cc : ByteArray} {nl : Nat} {rt : Option FieldType} {rm : Room} {tn : tt_Tn} {Q : Option Value → (Nat → Nat → Nat) → tt_S3 → Prop} {QX : String → (Nat → Nat → Nat) → tt_S3 → Prop} {pc : Nat} {lv : List (Nat × Value)} {rest : List Value} {ck cn : Nat} {x1 : Int32} {K : tt_S3 → Prop} {K2 : Nat × tt_S3 → Prop} (h : Ok (fT_yearOf s x1) (fun q => Sum.casesOn (motive := fun _ => Prop) q K K2)) (hl9 : l.stackTraces = false) (hTb : ∀ c m s0, tn c m s0 → tt_ne c m s0) (kx : ∀ e : Nat × tt_S3, K2 e → QX (tt_exn e.1) lc e.2) (hR : 8 + 1 ≤ rm.frames ∧ 8 + (2 + 11) + 140 ≤ rm.locals) (hW : (rest.map fun v => v.category).sum ≤ 8) (d : decode cc pc = .ok (.invokevirtual 84, 3)) (kk : ∀ r, K r → tt_V (XT l D dA A pz) cc (RX1, nl, rt, rm, tn) (tt_fx (XT l D dA A pz) (RX1, nl, rt, rm, tn) Q QX) (pc + 3) lv rest lc r (ck + 1) (cn + 6)) (hf : ck + 1 ≤ rm.cells ∧ cn + 6 ≤ rm.slots) : tt_V (XT l D dA A pz) cc (RX1, nl, rt, rm, tn) (tt_fx (XT l D dA A pz) (RX1, nl, rt, rm, tn) Q QX) pc lv (.int x1 :: .ref (lc 0 0) :: rest) lc s ck cn :=
  v_callVX (kd := 0) (i := 0) (nA := 1) (As := [.int x1]) lvT_0 oT_0 rfl (mT_yearOf l D dA A pz hl9 lc s x1 (Q := (fun v lc' s' => ∃ r, K r ∧ v = none ∧ lc' = lc ∧ s' = r)) (QX := fun E lc' s' => ∃ e : Nat × tt_S3, K2 e ∧ E = tt_exn e.1 ∧ lc' = lc ∧ s' = e.2) (h.mono (fun q hq => by cases q with
    | inl r => exact (fun hr => ⟨r, hr, rfl, rfl, rfl⟩) hq
    | inr e => exact ⟨e, hq, rfl, rfl, rfl⟩))) (lw_V q946 q948 qs18 q127 q949) (by decide +kernel) rfl hR hW hf hTb d rfl (fun E lc' s' q => by obtain ⟨e, hq, e1, e2, e3⟩ := q; rw [e1, e2, e3]; exact kx e hq) (fun v lc' s' q => by obtain ⟨r, hr, e1, e2, e3⟩ := q; rw [e1, e2, e3]; exact kk r hr)
theorem gT_X1_243_100 {l : Launch} {D : va_G} {dA : Nat → ClassId} {A : Nat → Prop} {pz : Nat} {lc : Nat → Nat → Nat} {s : tt_S3} {cc : ByteArray} {nl : Nat} {rt : Option FieldType} {rm : Room} {tn : tt_Tn} {Q : tt_Fin} {pc : Nat} {lv : List (Nat × Value)} {rest : List Value} {ck cn : Nat} (d : decode cc pc = .ok (.getfield 243, 3)) (kk : tt_V (XT l D dA A pz) cc (RX1, nl, rt, rm, tn) Q (pc + 3) lv (.ref (lc 123 0) :: rest) lc s ck cn) : tt_V (XT l D dA A pz) cc (RX1, nl, rt, rm, tn) Q pc lv (.ref (lc 100 0) :: rest) lc s ck cn := v_getN (p := 3) knT lvT_100 oT_100 rfl in_X2 (by decide) q733 (.inl rfl) rfl d kk
theorem lvT_123 {l : Launch} {D : va_G} {dA : Nat → ClassId} {A : Nat → Prop} {pz : Nat} {s : tt_S3} : xV (XT l D dA A pz) s 123 0 := by rw [show (123 : Nat) = 100 + 23 from rfl, lvT_now (by decide)]; exact rfl
theorem aT_123 {l : Launch} {D : va_G} {dA : Nat → ClassId} {A : Nat → Prop} {pz : Nat} {lc : Nat → Nat → Nat} {s : tt_S3} : tt_ent (XT l D dA A pz) lc s 123 0 = .inl (dA 0, 12, .inl (rdI s.1 23 0)) := eT_now (kd := 23) (by decide)
theorem lT_123 {l : Launch} {D : va_G} {dA : Nat → ClassId} {A : Nat → Prop} {pz : Nat} {lc : Nat → Nat → Nat} {s : tt_S3} {cc : ByteArray} {Y : tt_Y} {Q : tt_Fin} {pc : Nat} {lv : List (Nat × Value)} {rest : List Value} {ck cn : Nat} {j : Int32} (g : inB j 12 = true) (d : decode cc pc = .ok (.iaload, 1)) (kk : tt_V (XT l D dA A pz) cc Y Q (pc + 1) lv (.int (rdI s.1 23 0 j.toNatClampNeg) :: rest) lc s ck cn) : tt_V (XT l D dA A pz) cc Y Q pc lv (.int j :: .ref (lc 123 0) :: rest) lc s ck cn := v_iald (t := 0) lvT_123 aT_123 rfl g d kk
theorem nT_123 {l : Launch} {D : va_G} {dA : Nat → ClassId} {A : Nat → Prop} {pz : Nat} {lc : Nat → Nat → Nat} {s : tt_S3} {cc : ByteArray} {Y : tt_Y} {Q : tt_Fin} {pc : Nat} {lv : List (Nat × Value)} {rest : List Value} {ck cn : Nat} (d : decode cc pc = .ok (.arraylength, 1)) (kk : tt_V (XT l D dA A pz) cc Y Q (pc + 1) lv (.int 12 :: rest) lc s ck cn) : tt_V (XT l D dA A pz) cc Y Q pc lv (.ref (lc 123 0) :: rest) lc s ck cn := v_alen (t := 0) lvT_123 aT_123 rfl rfl d kk
theorem cT_245_100 {l : Launch} {D : va_G} {dA : Nat → ClassId} {A : Nat → Prop} {pz : Nat} {lc : Nat → Nat → Nat} {s : tt_S3} {cc : ByteArray} {nl : Nat} {rt : Option FieldType} {rm : Room} {tn : tt_Tn} {Q : tt_Fin} {pc : Nat} {lv : List (Nat × Value)} {rest : List Value} {ck cn : Nat} {x1 : Int32} {x2 : Int32} {K : Nat → Prop} (h : Ok (fW_layerAt s.1 x1 x2) K) (hR : 0 + 1 ≤ rm.frames ∧ 8 + (3 + 11) + 0 ≤ rm.locals) (hW : (rest.map fun v => v.category).sum ≤ 8) (d : decode cc pc = .ok (.invokevirtual 245, 3)) (kk : ∀ r, r < 40 → K r → tt_V (XT l D dA A pz) cc (RX1, nl, rt, rm, tn) Q (pc + 3) lv (.ref (lc 102 r) :: rest) lc s (ck + 0) (cn + 0)) (hf : ck + 0 ≤ rm.cells ∧ cn + 0 ≤ rm.slots) : tt_V (XT l D dA A pz) cc (RX1, nl, rt, rm, tn) Q pc lv (.int x2 :: .int x1 :: .ref (lc 100 0) :: rest) lc s ck cn :=
  v_callV (kd := 100) (i := 0) (nA := 2) (As := [.int x1, .int x2]) lvT_100 oT_100 rfl (liftNow (Q := (fun v lc' s' => ∃ r, r < 40 ∧ K r ∧ v = some (.ref (lc 102 r)) ∧ lc' = lc ∧ s' = s)) (mW_layerAt l D dA (aT0 lc s) true (nT0 lc) s.1 x1 x2 (Q := fun v lc' w => lc' = nT0 lc ∧ (fun v lc' s' => ∃ r, r < 40 ∧ K r ∧ v = some (.ref (lc 102 r)) ∧ lc' = lc ∧ s' = s) v lc (w, s.2)) (h.mono (fun r hr => fun hz => ⟨rfl, r, hz, hr, rfl, rfl, rfl⟩)))) (lw_V q1282 q489 q490 q128 q491) (by decide +kernel) rfl hR hW hf d rfl (fun v lc' s' q => by obtain ⟨r, hz, hr, e1, e2, e3⟩ := q; rw [e1, e2, e3]; exact kk r hz hr)
theorem cT_255_102 {l : Launch} {D : va_G} {dA : Nat → ClassId} {A : Nat → Prop} {pz : Nat} {lc : Nat → Nat → Nat} {s : tt_S3} {cc : ByteArray} {nl : Nat} {rt : Option FieldType} {rm : Room} {tn : tt_Tn} {Q : tt_Fin} {pc : Nat} {lv : List (Nat × Value)} {rest : List Value} {ck cn : Nat} {x0 : Nat} (hx0 : x0 < 40) {K : Int32 → Prop} (h : Ok (fY_top s.1 x0) K) (hR : 0 + 1 ≤ rm.frames ∧ 8 + (1 + 11) + 0 ≤ rm.locals) (hW : (rest.map fun v => v.category).sum ≤ 8) (d : decode cc pc = .ok (.invokevirtual 255, 3)) (kk : ∀ r, K r → tt_V (XT l D dA A pz) cc (RX1, nl, rt, rm, tn) Q (pc + 3) lv (.int r :: rest) lc s (ck + 0) (cn + 0)) (hf : ck + 0 ≤ rm.cells ∧ cn + 0 ≤ rm.slots) : tt_V (XT l D dA A pz) cc (RX1, nl, rt, rm, tn) Q pc lv (.ref (lc 102 x0) :: rest) lc s ck cn :=
  v_callV (kd := 102) (i := x0) (nA := 0) (As := []) (lvT_102 hx0) oT_102 rfl (liftNow (Q := (fun v lc' s' => ∃ r, K r ∧ v = some (.int r) ∧ lc' = lc ∧ s' = s)) (mY_top l D dA (aT0 lc s) true (nT0 lc) s.1 x0 hx0 (Q := fun v lc' w => lc' = nT0 lc ∧ (fun v lc' s' => ∃ r, K r ∧ v = some (.int r) ∧ lc' = lc ∧ s' = s) v lc (w, s.2)) (h.mono (fun r hr => ⟨rfl, r, hr, rfl, rfl, rfl⟩)))) (lw_V q1283 q501 q502 q139 q503) (by decide +kernel) rfl hR hW hf d rfl (fun v lc' s' q => by obtain ⟨r, hr, e1, e2, e3⟩ := q; rw [e1, e2, e3]; exact kk r hr)
theorem gT_X1_268_102 {l : Launch} {D : va_G} {dA : Nat → ClassId} {A : Nat → Prop} {pz : Nat} {lc : Nat → Nat → Nat} {s : tt_S3} {cc : ByteArray} {nl : Nat} {rt : Option FieldType} {rm : Room} {tn : tt_Tn} {Q : tt_Fin} {pc : Nat} {lv : List (Nat × Value)} {rest : List Value} {ck cn : Nat} {i : Nat} (hv : i < 40) (d : decode cc pc = .ok (.getfield 268, 3)) (kk : tt_V (XT l D dA A pz) cc (RX1, nl, rt, rm, tn) Q (pc + 3) lv (.int (nI i) :: rest) lc s ck cn) : tt_V (XT l D dA A pz) cc (RX1, nl, rt, rm, tn) Q pc lv (.ref (lc 102 i) :: rest) lc s ck cn := v_getN (p := 3) knT (lvT_102 hv) oT_102 rfl in_X6 (by decide) q349 (.inl rfl) rfl d kk
def fT_at_L15 (x1 : Int32) (x2 : Int32) (r2 : tt_S3) (a3 : Int32) : Option ((Int32) ⊕ (Int32) ⊕ ((Int32 × tt_S3) ⊕ (Nat × tt_S3))) :=
  if inB x1 12 then if (rdI r2.1 23 0 x1.toNatClampNeg) ≤ a3 then some (.inr (.inl a3)) else (fW_layerAt r2.1 x1 a3).bind fun r7 => (fY_top r2.1 r7).bind fun r8 => if r8 ≤ x2 then some (.inl (a3 + 1 : Int32)) else if (rdI r2.1 2 r7 5) ≤ x2 then some (.inr (.inr (.inl (nI r7, r2)))) else some (.inr (.inr (.inl ((-1 : Int32), r2)))) else none
def fT_at (s : tt_S3) (x1 : Int32) (x2 : Int32) : Option ((Int32 × tt_S3) ⊕ (Nat × tt_S3)) :=
  (fT_yearOf s x1).bind fun q_r1 => orThrow q_r1 fun r1 => (fT_within r1 x2 (0 : Int32) (1000000000 : Int32)).bind fun q_r2 => orThrow q_r2 fun r2 => (itr (fT_at_L15 x1 x2 r2) tt_fuel (0 : Int32)).bind fun q_b4 => orRet q_b4 fun b4 => some (.inl ((-2 : Int32), r2))
abbrev rmT_at : Room := { frames := 9, cells := 2, slots := 12, locals := 161 }
set_option maxHeartbeats 4000000 in
theorem mT_at (l : Launch) (D : va_G) (dA : Nat → ClassId) (A : Nat → Prop) (pz : Nat) (hl9 : l.stackTraces = false) (lc : Nat → Nat → Nat) (s : tt_S3) (x1 : Int32) (x2 : Int32) {Q : Option Value → (Nat → Nat → Nat) → tt_S3 → Prop} {QX : String → (Nat → Nat → Nat) → tt_S3 → Prop} (h : Ok (fT_at s x1 x2) (fun q => Sum.casesOn (motive := fun _ => Prop) q (fun r => Q (some (.int r.1)) lc r.2) (fun e => QX (tt_exn e.1) lc e.2))) : tt_SpX (XT l D dA A pz) yX1_at cX1_at 5 (some .int) rmT_at [.ref (lc 0 0), .int x1, .int x2] lc s Q QX := by
  refine tt_SpX.ofV plX1 kokT (Nat.le_of_ble_eq_true rfl) ?_
  show tt_V (XT l D dA A pz) cX1_at (RX1, 5, (some .int), rmT_at, tt_ne) (tt_fx (XT l D dA A pz) (RX1, 5, (some .int), rmT_at, tt_ne) Q QX) 0 [(0, .ref (lc 0 0)), (1, .int x1), (2, .int x2)] [] lc s 0 0
  unfold fT_at at h
  refine v_aload_n 0 dX1_at_0 rfl ?_
  refine v_iload_n 1 dX1_at_1 rfl ?_
  refine cT_84_0 (Ok.throws h) hl9 (fun _ _ _ h => h) (fun _ h => h) ⟨Nat.le_of_ble_eq_true rfl, Nat.le_of_ble_eq_true rfl⟩ (Nat.le_of_ble_eq_true rfl) dX1_at_2 (fun r1 h => ?_) ⟨Nat.le_of_ble_eq_true rfl, Nat.le_of_ble_eq_true rfl⟩
  refine v_aload_n 0 dX1_at_5 rfl ?_
  refine v_iload_n 2 dX1_at_6 rfl ?_
  refine v_iconst dX1_at_7 ic_0 ?_
  refine v_ldc dX1_at_8 q1115 ?_
  refine cT_80_0 (Ok.throws h) hl9 (fun _ _ _ h => h) (fun _ h => h) ⟨Nat.le_of_ble_eq_true rfl, Nat.le_of_ble_eq_true rfl⟩ (Nat.le_of_ble_eq_true rfl) dX1_at_10 (fun r2 h => ?_) ⟨Nat.le_of_ble_eq_true rfl, Nat.le_of_ble_eq_true rfl⟩
  refine v_iconst dX1_at_13 ic_0 ?_
  refine v_istore_n [(3, .int (0 : Int32)), (0, .ref (lc 0 0)), (1, .int x1), (2, .int x2)] dX1_at_14 (Nat.le_of_ble_eq_true rfl) rfl ?_
  refine v_sub [1, 2, 3, 0] rfl ?_
  refine itr_loopR (P := fun a3 : Int32 => tt_V (XT l D dA A pz) cX1_at (RX1, 5, (some .int), rmT_at, tt_ne) (tt_fx (XT l D dA A pz) (RX1, 5, (some .int), rmT_at, tt_ne) Q QX) 15 [(0, .ref (lc 0 0)), (1, .int x1), (2, .int x2), (3, .int a3)] [] lc r2 2 12) (PE := fun b4 : Int32 => tt_V (XT l D dA A pz) cX1_at (RX1, 5, (some .int), rmT_at, tt_ne) (tt_fx (XT l D dA A pz) (RX1, 5, (some .int), rmT_at, tt_ne) Q QX) 73 [(0, .ref (lc 0 0)), (1, .int x1), (2, .int x2), (3, .int b4)] [] lc r2 2 12) h (fun b4 h => ?_) (fun a3 h => ?_)
  · refine v_bipush dX1_at_73 kb_m2 ?_
    have h := Ok.ret h
    exact v_retX (v_iret rfl (Nat.le_of_ble_eq_true rfl) (Nat.le_of_ble_eq_true rfl) dX1_at_75 h)
  · have h : Ok (fT_at_L15 x1 x2 r2 a3) _ := h
    unfold fT_at_L15 at h
    refine v_iload_n 3 dX1_at_15 rfl ?_
    refine v_aload_n 0 dX1_at_16 rfl ?_
    refine gT_X1_10_0 dX1_at_17 ?_
    refine gT_X1_243_100 dX1_at_20 ?_
    refine v_iload_n 1 dX1_at_23 rfl ?_
    obtain ⟨g5, h⟩ := Ok.guard h
    refine lT_123 g5 dX1_at_24 ?_
    refine v_icmp_ge (tgt := 73) dX1_at_25 rfl (fun c6 => ?_) (fun c6 => ?_)
    · have h := Ok.pos h c6
      have h := Ok.ret h
      exact h
    · have h := Ok.neg h c6
      refine v_aload_n 0 dX1_at_28 rfl ?_
      refine gT_X1_10_0 dX1_at_29 ?_
      refine v_iload_n 1 dX1_at_32 rfl ?_
      refine v_iload_n 3 dX1_at_33 rfl ?_
      refine cT_245_100 (Ok.bind h) ⟨Nat.le_of_ble_eq_true rfl, Nat.le_of_ble_eq_true rfl⟩ (Nat.le_of_ble_eq_true rfl) dX1_at_34 (fun r7 z_r7 h => ?_) ⟨Nat.le_of_ble_eq_true rfl, Nat.le_of_ble_eq_true rfl⟩
      refine v_astore [(4, .ref (lc 102 r7)), (0, .ref (lc 0 0)), (1, .int x1), (2, .int x2), (3, .int a3)] dX1_at_37 (Nat.le_of_ble_eq_true rfl) rfl ?_
      refine v_iload_n 3 dX1_at_39 rfl ?_
      refine v_aload 0 dX1_at_40 rfl ?_
      refine cT_255_102 z_r7 (Ok.bind h) ⟨Nat.le_of_ble_eq_true rfl, Nat.le_of_ble_eq_true rfl⟩ (Nat.le_of_ble_eq_true rfl) dX1_at_42 (fun r8 h => ?_) ⟨Nat.le_of_ble_eq_true rfl, Nat.le_of_ble_eq_true rfl⟩
      refine v_icmp_ge (tgt := 67) dX1_at_45 rfl (fun c9 => ?_) (fun c9 => ?_)
      · have h := Ok.pos h c9
        refine v_iinc (v := (a3 + 1 : Int32)) 4 [(3, .int (a3 + 1 : Int32)), (4, .ref (lc 102 r7)), (0, .ref (lc 0 0)), (1, .int x1), (2, .int x2)] dX1_at_67 rfl (by rw [ic_1]) (Nat.le_of_ble_eq_true rfl) rfl ?_
        refine v_goto (tgt := 15) dX1_at_70 rfl ?_
        refine v_sub [2, 3, 4, 0] rfl ?_
        have h := Ok.ret h
        exact h
      · have h := Ok.neg h c9
        refine v_iload_n 3 dX1_at_48 rfl ?_
        refine v_aload 0 dX1_at_49 rfl ?_
        refine gT_X1_207_102 z_r7 dX1_at_51 ?_
        refine v_icmp_ge (tgt := 61) dX1_at_54 rfl (fun c10 => ?_) (fun c10 => ?_)
        · have h := Ok.pos h c10
          refine v_aload 0 dX1_at_61 rfl ?_
          refine gT_X1_268_102 z_r7 dX1_at_63 ?_
          have h := Ok.ret h
          exact v_retX (v_iret rfl (Nat.le_of_ble_eq_true rfl) (Nat.le_of_ble_eq_true rfl) dX1_at_66 h)
        · have h := Ok.neg h c10
          refine v_iconst dX1_at_57 ic_m1 ?_
          refine v_goto (tgt := 66) dX1_at_58 rfl ?_
          have h := Ok.ret h
          exact v_retX (v_iret rfl (Nat.le_of_ble_eq_true rfl) (Nat.le_of_ble_eq_true rfl) dX1_at_66 h)
theorem gT_X1_271_100 {l : Launch} {D : va_G} {dA : Nat → ClassId} {A : Nat → Prop} {pz : Nat} {lc : Nat → Nat → Nat} {s : tt_S3} {cc : ByteArray} {nl : Nat} {rt : Option FieldType} {rm : Room} {tn : tt_Tn} {Q : tt_Fin} {pc : Nat} {lv : List (Nat × Value)} {rest : List Value} {ck cn : Nat} (d : decode cc pc = .ok (.getfield 271, 3)) (kk : tt_V (XT l D dA A pz) cc (RX1, nl, rt, rm, tn) Q (pc + 3) lv (.ref (lc 121 0) :: rest) lc s ck cn) : tt_V (XT l D dA A pz) cc (RX1, nl, rt, rm, tn) Q pc lv (.ref (lc 100 0) :: rest) lc s ck cn := v_getN (p := 2) knT lvT_100 oT_100 rfl in_X2 (by decide) q731 (.inl rfl) rfl d kk
theorem lvT_121 {l : Launch} {D : va_G} {dA : Nat → ClassId} {A : Nat → Prop} {pz : Nat} {s : tt_S3} : xV (XT l D dA A pz) s 121 0 := by rw [show (121 : Nat) = 100 + 21 from rfl, lvT_now (by decide)]; exact rfl
theorem aT_121 {l : Launch} {D : va_G} {dA : Nat → ClassId} {A : Nat → Prop} {pz : Nat} {lc : Nat → Nat → Nat} {s : tt_S3} : tt_ent (XT l D dA A pz) lc s 121 0 = .inl (dA 4, 12, .inr (.inr (.inr (.inr (fun j => some (lc 122 j)))))) := eT_now (kd := 21) (by decide)
theorem lT_121 {l : Launch} {D : va_G} {dA : Nat → ClassId} {A : Nat → Prop} {pz : Nat} {lc : Nat → Nat → Nat} {s : tt_S3} {cc : ByteArray} {Y : tt_Y} {Q : tt_Fin} {pc : Nat} {lv : List (Nat × Value)} {rest : List Value} {ck cn : Nat} {j : Int32} (g : inB j 12 = true) (d : decode cc pc = .ok (.aaload, 1)) (kk : tt_V (XT l D dA A pz) cc Y Q (pc + 1) lv (.ref (lc 122 j.toNatClampNeg) :: rest) lc s ck cn) : tt_V (XT l D dA A pz) cc Y Q pc lv (.int j :: .ref (lc 121 0) :: rest) lc s ck cn := v_aald (t := 4) lvT_121 aT_121 rfl rfl g d kk
theorem nT_121 {l : Launch} {D : va_G} {dA : Nat → ClassId} {A : Nat → Prop} {pz : Nat} {lc : Nat → Nat → Nat} {s : tt_S3} {cc : ByteArray} {Y : tt_Y} {Q : tt_Fin} {pc : Nat} {lv : List (Nat × Value)} {rest : List Value} {ck cn : Nat} (d : decode cc pc = .ok (.arraylength, 1)) (kk : tt_V (XT l D dA A pz) cc Y Q (pc + 1) lv (.int 12 :: rest) lc s ck cn) : tt_V (XT l D dA A pz) cc Y Q pc lv (.ref (lc 121 0) :: rest) lc s ck cn := v_alen (t := 4) lvT_121 aT_121 rfl rfl d kk
theorem lvT_122 {l : Launch} {D : va_G} {dA : Nat → ClassId} {A : Nat → Prop} {pz : Nat} {s : tt_S3} {i : Nat} (hv : i < 12) : xV (XT l D dA A pz) s 122 i := by rw [show (122 : Nat) = 100 + 22 from rfl, lvT_now (by decide)]; exact hv
theorem aT_122 {l : Launch} {D : va_G} {dA : Nat → ClassId} {A : Nat → Prop} {pz : Nat} {lc : Nat → Nat → Nat} {s : tt_S3} {i : Nat} : tt_ent (XT l D dA A pz) lc s 122 i = .inl (dA 0, 6, .inl (rdI s.1 22 i)) := eT_now (kd := 22) (by decide)
theorem lT_122 {l : Launch} {D : va_G} {dA : Nat → ClassId} {A : Nat → Prop} {pz : Nat} {lc : Nat → Nat → Nat} {s : tt_S3} {cc : ByteArray} {Y : tt_Y} {Q : tt_Fin} {pc : Nat} {lv : List (Nat × Value)} {rest : List Value} {ck cn : Nat} {i : Nat} {j : Int32} (hv : i < 12) (g : inB j 6 = true) (d : decode cc pc = .ok (.iaload, 1)) (kk : tt_V (XT l D dA A pz) cc Y Q (pc + 1) lv (.int (rdI s.1 22 i j.toNatClampNeg) :: rest) lc s ck cn) : tt_V (XT l D dA A pz) cc Y Q pc lv (.int j :: .ref (lc 122 i) :: rest) lc s ck cn := v_iald (t := 0) (lvT_122 hv) aT_122 rfl g d kk
theorem nT_122 {l : Launch} {D : va_G} {dA : Nat → ClassId} {A : Nat → Prop} {pz : Nat} {lc : Nat → Nat → Nat} {s : tt_S3} {cc : ByteArray} {Y : tt_Y} {Q : tt_Fin} {pc : Nat} {lv : List (Nat × Value)} {rest : List Value} {ck cn : Nat} {i : Nat} (hv : i < 12) (d : decode cc pc = .ok (.arraylength, 1)) (kk : tt_V (XT l D dA A pz) cc Y Q (pc + 1) lv (.int 6 :: rest) lc s ck cn) : tt_V (XT l D dA A pz) cc Y Q pc lv (.ref (lc 122 i) :: rest) lc s ck cn := v_alen (t := 0) (lvT_122 hv) aT_122 rfl rfl d kk
def fT_rung (s : tt_S3) (x1 : Int32) (x2 : Int32) : Option ((Int32 × tt_S3) ⊕ (Nat × tt_S3)) :=
  (fT_yearOf s x1).bind fun q_r1 => orThrow q_r1 fun r1 => (fT_placeOf r1 x2).bind fun q_r2 => orThrow q_r2 fun r2 => if inB x1 12 then if (rdI r2.1 23 0 x1.toNatClampNeg) ≤ x2 then some (.inl ((-1 : Int32), r2)) else if inB x2 6 then some (.inl (rdI r2.1 22 x1.toNatClampNeg x2.toNatClampNeg, r2)) else none else none
abbrev rmT_rung : Room := { frames := 9, cells := 2, slots := 12, locals := 161 }
set_option maxHeartbeats 4000000 in
theorem mT_rung (l : Launch) (D : va_G) (dA : Nat → ClassId) (A : Nat → Prop) (pz : Nat) (hl9 : l.stackTraces = false) (lc : Nat → Nat → Nat) (s : tt_S3) (x1 : Int32) (x2 : Int32) {Q : Option Value → (Nat → Nat → Nat) → tt_S3 → Prop} {QX : String → (Nat → Nat → Nat) → tt_S3 → Prop} (h : Ok (fT_rung s x1 x2) (fun q => Sum.casesOn (motive := fun _ => Prop) q (fun r => Q (some (.int r.1)) lc r.2) (fun e => QX (tt_exn e.1) lc e.2))) : tt_SpX (XT l D dA A pz) yX1_rung cX1_rung 3 (some .int) rmT_rung [.ref (lc 0 0), .int x1, .int x2] lc s Q QX := by
  refine tt_SpX.ofV plX1 kokT (Nat.le_of_ble_eq_true rfl) ?_
  show tt_V (XT l D dA A pz) cX1_rung (RX1, 3, (some .int), rmT_rung, tt_ne) (tt_fx (XT l D dA A pz) (RX1, 3, (some .int), rmT_rung, tt_ne) Q QX) 0 [(0, .ref (lc 0 0)), (1, .int x1), (2, .int x2)] [] lc s 0 0
  unfold fT_rung at h
  refine v_aload_n 0 dX1_rung_0 rfl ?_
  refine v_iload_n 1 dX1_rung_1 rfl ?_
  refine cT_84_0 (Ok.throws h) hl9 (fun _ _ _ h => h) (fun _ h => h) ⟨Nat.le_of_ble_eq_true rfl, Nat.le_of_ble_eq_true rfl⟩ (Nat.le_of_ble_eq_true rfl) dX1_rung_2 (fun r1 h => ?_) ⟨Nat.le_of_ble_eq_true rfl, Nat.le_of_ble_eq_true rfl⟩
  refine v_aload_n 0 dX1_rung_5 rfl ?_
  refine v_iload_n 2 dX1_rung_6 rfl ?_
  refine cT_232_0 (Ok.throws h) hl9 (fun _ _ _ h => h) (fun _ h => h) ⟨Nat.le_of_ble_eq_true rfl, Nat.le_of_ble_eq_true rfl⟩ (Nat.le_of_ble_eq_true rfl) dX1_rung_7 (fun r2 h => ?_) ⟨Nat.le_of_ble_eq_true rfl, Nat.le_of_ble_eq_true rfl⟩
  refine v_iload_n 2 dX1_rung_10 rfl ?_
  refine v_aload_n 0 dX1_rung_11 rfl ?_
  refine gT_X1_10_0 dX1_rung_12 ?_
  refine gT_X1_243_100 dX1_rung_15 ?_
  refine v_iload_n 1 dX1_rung_18 rfl ?_
  obtain ⟨g3, h⟩ := Ok.guard h
  refine lT_123 g3 dX1_rung_19 ?_
  refine v_icmp_ge (tgt := 37) dX1_rung_20 rfl (fun c4 => ?_) (fun c4 => ?_)
  · have h := Ok.pos h c4
    refine v_iconst dX1_rung_37 ic_m1 ?_
    have h := Ok.ret h
    exact v_retX (v_iret rfl (Nat.le_of_ble_eq_true rfl) (Nat.le_of_ble_eq_true rfl) dX1_rung_38 h)
  · have h := Ok.neg h c4
    refine v_aload_n 0 dX1_rung_23 rfl ?_
    refine gT_X1_10_0 dX1_rung_24 ?_
    refine gT_X1_271_100 dX1_rung_27 ?_
    refine v_iload_n 1 dX1_rung_30 rfl ?_
    refine lT_121 g3 dX1_rung_31 ?_
    refine v_iload_n 2 dX1_rung_32 rfl ?_
    obtain ⟨g5, h⟩ := Ok.guard h
    refine lT_122 (inB_lt g3) g5 dX1_rung_33 ?_
    refine v_goto (tgt := 38) dX1_rung_34 rfl ?_
    have h := Ok.ret h
    exact v_retX (v_iret rfl (Nat.le_of_ble_eq_true rfl) (Nat.le_of_ble_eq_true rfl) dX1_rung_38 h)
theorem gT_X1_73_100 {l : Launch} {D : va_G} {dA : Nat → ClassId} {A : Nat → Prop} {pz : Nat} {lc : Nat → Nat → Nat} {s : tt_S3} {cc : ByteArray} {nl : Nat} {rt : Option FieldType} {rm : Room} {tn : tt_Tn} {Q : tt_Fin} {pc : Nat} {lv : List (Nat × Value)} {rest : List Value} {ck cn : Nat} (d : decode cc pc = .ok (.getfield 73, 3)) (kk : tt_V (XT l D dA A pz) cc (RX1, nl, rt, rm, tn) Q (pc + 3) lv (.ref (lc 106 0) :: rest) lc s ck cn) : tt_V (XT l D dA A pz) cc (RX1, nl, rt, rm, tn) Q pc lv (.ref (lc 100 0) :: rest) lc s ck cn := v_getN (p := 1) knT lvT_100 oT_100 rfl in_X2 (by decide) q729 (.inl rfl) rfl d kk
theorem lvT_106 {l : Launch} {D : va_G} {dA : Nat → ClassId} {A : Nat → Prop} {pz : Nat} {s : tt_S3} : xV (XT l D dA A pz) s 106 0 := by rw [show (106 : Nat) = 100 + 6 from rfl, lvT_now (by decide)]; exact rfl
theorem aT_106 {l : Launch} {D : va_G} {dA : Nat → ClassId} {A : Nat → Prop} {pz : Nat} {lc : Nat → Nat → Nat} {s : tt_S3} : tt_ent (XT l D dA A pz) lc s 106 0 = .inl (dA 3, 24, .inr (.inr (.inr (.inr (fun j => some (lc 107 j)))))) := eT_now (kd := 6) (by decide)
theorem lT_106 {l : Launch} {D : va_G} {dA : Nat → ClassId} {A : Nat → Prop} {pz : Nat} {lc : Nat → Nat → Nat} {s : tt_S3} {cc : ByteArray} {Y : tt_Y} {Q : tt_Fin} {pc : Nat} {lv : List (Nat × Value)} {rest : List Value} {ck cn : Nat} {j : Int32} (g : inB j 24 = true) (d : decode cc pc = .ok (.aaload, 1)) (kk : tt_V (XT l D dA A pz) cc Y Q (pc + 1) lv (.ref (lc 107 j.toNatClampNeg) :: rest) lc s ck cn) : tt_V (XT l D dA A pz) cc Y Q pc lv (.int j :: .ref (lc 106 0) :: rest) lc s ck cn := v_aald (t := 3) lvT_106 aT_106 rfl rfl g d kk
theorem nT_106 {l : Launch} {D : va_G} {dA : Nat → ClassId} {A : Nat → Prop} {pz : Nat} {lc : Nat → Nat → Nat} {s : tt_S3} {cc : ByteArray} {Y : tt_Y} {Q : tt_Fin} {pc : Nat} {lv : List (Nat × Value)} {rest : List Value} {ck cn : Nat} (d : decode cc pc = .ok (.arraylength, 1)) (kk : tt_V (XT l D dA A pz) cc Y Q (pc + 1) lv (.int 24 :: rest) lc s ck cn) : tt_V (XT l D dA A pz) cc Y Q pc lv (.ref (lc 106 0) :: rest) lc s ck cn := v_alen (t := 3) lvT_106 aT_106 rfl rfl d kk
def fT_harmOf (s : tt_S3) (x1 : Int32) : Option ((Nat × tt_S3) ⊕ (Nat × tt_S3)) :=
  (fT_oneOf s x1 (rdI s.1 0 0 22)).bind fun q_r1 => orThrow q_r1 fun r1 => if inB x1 24 then some (.inl (x1.toNatClampNeg, r1)) else none
abbrev rmT_harmOf : Room := { frames := 8, cells := 1, slots := 6, locals := 139 }
set_option maxHeartbeats 4000000 in
theorem mT_harmOf (l : Launch) (D : va_G) (dA : Nat → ClassId) (A : Nat → Prop) (pz : Nat) (hl9 : l.stackTraces = false) (lc : Nat → Nat → Nat) (s : tt_S3) (x1 : Int32) {Q : Option Value → (Nat → Nat → Nat) → tt_S3 → Prop} {QX : String → (Nat → Nat → Nat) → tt_S3 → Prop} (h : Ok (fT_harmOf s x1) (fun q => Sum.casesOn (motive := fun _ => Prop) q (fun r => lvH true r.1 → Q (some (.ref (lc 107 r.1))) lc r.2) (fun e => QX (tt_exn e.1) lc e.2))) : tt_SpX (XT l D dA A pz) yX1_harmOf cX1_harmOf 2 (some (.object "TallTowers$Harm")) rmT_harmOf [.ref (lc 0 0), .int x1] lc s Q QX := by
  refine tt_SpX.ofV plX1 kokT (Nat.le_of_ble_eq_true rfl) ?_
  show tt_V (XT l D dA A pz) cX1_harmOf (RX1, 2, (some (.object "TallTowers$Harm")), rmT_harmOf, tt_ne) (tt_fx (XT l D dA A pz) (RX1, 2, (some (.object "TallTowers$Harm")), rmT_harmOf, tt_ne) Q QX) 0 [(0, .ref (lc 0 0)), (1, .int x1)] [] lc s 0 0
  unfold fT_harmOf at h
  refine v_aload_n 0 dX1_harmOf_0 rfl ?_
  refine v_iload_n 1 dX1_harmOf_1 rfl ?_
  refine v_aload_n 0 dX1_harmOf_2 rfl ?_
  refine gT_X1_10_0 dX1_harmOf_3 ?_
  refine gT_X1_70_100 dX1_harmOf_6 ?_
  refine cT_62_0 (Ok.throws h) hl9 (fun _ _ _ h => h) (fun _ h => h) ⟨Nat.le_of_ble_eq_true rfl, Nat.le_of_ble_eq_true rfl⟩ (Nat.le_of_ble_eq_true rfl) dX1_harmOf_9 (fun r1 h => ?_) ⟨Nat.le_of_ble_eq_true rfl, Nat.le_of_ble_eq_true rfl⟩
  refine v_aload_n 0 dX1_harmOf_12 rfl ?_
  refine gT_X1_10_0 dX1_harmOf_13 ?_
  refine gT_X1_73_100 dX1_harmOf_16 ?_
  refine v_iload_n 1 dX1_harmOf_19 rfl ?_
  obtain ⟨g2, h⟩ := Ok.guard h
  refine lT_106 g2 dX1_harmOf_20 ?_
  have h := Ok.ret h
  exact v_retX (v_aret rfl (Nat.le_of_ble_eq_true rfl) (Nat.le_of_ble_eq_true rfl) dX1_harmOf_21 (h (.inl (inB_lt g2))))
theorem cT_161_0 {l : Launch} {D : va_G} {dA : Nat → ClassId} {A : Nat → Prop} {pz : Nat} {lc : Nat → Nat → Nat} {s : tt_S3} {cc : ByteArray} {nl : Nat} {rt : Option FieldType} {rm : Room} {tn : tt_Tn} {Q : Option Value → (Nat → Nat → Nat) → tt_S3 → Prop} {QX : String → (Nat → Nat → Nat) → tt_S3 → Prop} {pc : Nat} {lv : List (Nat × Value)} {rest : List Value} {ck cn : Nat} {x1 : Int32} {K : Nat × tt_S3 → Prop} {K2 : Nat × tt_S3 → Prop} (h : Ok (fT_harmOf s x1) (fun q => Sum.casesOn (motive := fun _ => Prop) q K K2)) (hl9 : l.stackTraces = false) (hTb : ∀ c m s0, tn c m s0 → tt_ne c m s0) (kx : ∀ e : Nat × tt_S3, K2 e → QX (tt_exn e.1) lc e.2) (hR : 8 + 1 ≤ rm.frames ∧ 8 + (2 + 11) + 139 ≤ rm.locals) (hW : (rest.map fun v => v.category).sum ≤ 8) (d : decode cc pc = .ok (.invokevirtual 161, 3)) (kk : ∀ r, lvH true r.1 → K r → tt_V (XT l D dA A pz) cc (RX1, nl, rt, rm, tn) (tt_fx (XT l D dA A pz) (RX1, nl, rt, rm, tn) Q QX) (pc + 3) lv (.ref (lc 107 r.1) :: rest) lc r.2 (ck + 1) (cn + 6)) (hf : ck + 1 ≤ rm.cells ∧ cn + 6 ≤ rm.slots) : tt_V (XT l D dA A pz) cc (RX1, nl, rt, rm, tn) (tt_fx (XT l D dA A pz) (RX1, nl, rt, rm, tn) Q QX) pc lv (.int x1 :: .ref (lc 0 0) :: rest) lc s ck cn :=
  v_callVX (kd := 0) (i := 0) (nA := 1) (As := [.int x1]) lvT_0 oT_0 rfl (mT_harmOf l D dA A pz hl9 lc s x1 (Q := (fun v lc' s' => ∃ r, lvH true r.1 ∧ K r ∧ v = some (.ref (lc 107 r.1)) ∧ lc' = lc ∧ s' = r.2)) (QX := fun E lc' s' => ∃ e : Nat × tt_S3, K2 e ∧ E = tt_exn e.1 ∧ lc' = lc ∧ s' = e.2) (h.mono (fun q hq => by cases q with
    | inl r => exact (fun hr => fun hz => ⟨r, hz, hr, rfl, rfl, rfl⟩) hq
    | inr e => exact ⟨e, hq, rfl, rfl, rfl⟩))) (lw_V q1167 q1169 qs30 q127 q1170) (by decide +kernel) rfl hR hW hf hTb d rfl (fun E lc' s' q => by obtain ⟨e, hq, e1, e2, e3⟩ := q; rw [e1, e2, e3]; exact kx e hq) (fun v lc' s' q => by obtain ⟨r, hz, hr, e1, e2, e3⟩ := q; rw [e1, e2, e3]; exact kk r hz hr)
theorem lvT_107 {l : Launch} {D : va_G} {dA : Nat → ClassId} {A : Nat → Prop} {pz : Nat} {s : tt_S3} {i : Nat} (hv : lvH true i) : xV (XT l D dA A pz) s 107 i := by rw [show (107 : Nat) = 100 + 7 from rfl, lvT_now (by decide)]; exact hv
theorem oT_107 {l : Launch} {D : va_G} {dA : Nat → ClassId} {A : Nat → Prop} {pz : Nat} {lc : Nat → Nat → Nat} {s : tt_S3} {i : Nat} : tt_ent (XT l D dA A pz) lc s 107 i = .inr (2, [.ref (lc 108 i), .ref (lc 109 i), .ref (lc 110 i), .ref (lc 111 i), .ref (lc 112 i), .ref (lc 113 i), .int (rdI s.1 7 i 6), .int (rdI s.1 7 i 7), .int (rdI s.1 7 i 8), .int (rdI s.1 7 i 9), .long (rdL s.1 7 i 10), .int (rdI s.1 7 i 11)]) := eT_now (kd := 7) (by decide)
theorem gT_X1_275_107 {l : Launch} {D : va_G} {dA : Nat → ClassId} {A : Nat → Prop} {pz : Nat} {lc : Nat → Nat → Nat} {s : tt_S3} {cc : ByteArray} {nl : Nat} {rt : Option FieldType} {rm : Room} {tn : tt_Tn} {Q : tt_Fin} {pc : Nat} {lv : List (Nat × Value)} {rest : List Value} {ck cn : Nat} {i : Nat} (hv : lvH true i) (d : decode cc pc = .ok (.getfield 275, 3)) (kk : tt_V (XT l D dA A pz) cc (RX1, nl, rt, rm, tn) Q (pc + 3) lv (.int (rdI s.1 7 i 6) :: rest) lc s ck cn) : tt_V (XT l D dA A pz) cc (RX1, nl, rt, rm, tn) Q pc lv (.ref (lc 107 i) :: rest) lc s ck cn := v_getN (p := 6) knT (lvT_107 hv) oT_107 rfl in_X7 (by decide) q399 (.inl rfl) rfl d kk
theorem gT_X1_278_107 {l : Launch} {D : va_G} {dA : Nat → ClassId} {A : Nat → Prop} {pz : Nat} {lc : Nat → Nat → Nat} {s : tt_S3} {cc : ByteArray} {nl : Nat} {rt : Option FieldType} {rm : Room} {tn : tt_Tn} {Q : tt_Fin} {pc : Nat} {lv : List (Nat × Value)} {rest : List Value} {ck cn : Nat} {i : Nat} (hv : lvH true i) (d : decode cc pc = .ok (.getfield 278, 3)) (kk : tt_V (XT l D dA A pz) cc (RX1, nl, rt, rm, tn) Q (pc + 3) lv (.int (rdI s.1 7 i 7) :: rest) lc s ck cn) : tt_V (XT l D dA A pz) cc (RX1, nl, rt, rm, tn) Q pc lv (.ref (lc 107 i) :: rest) lc s ck cn := v_getN (p := 7) knT (lvT_107 hv) oT_107 rfl in_X7 (by decide) q401 (.inl rfl) rfl d kk
theorem gT_X1_281_107 {l : Launch} {D : va_G} {dA : Nat → ClassId} {A : Nat → Prop} {pz : Nat} {lc : Nat → Nat → Nat} {s : tt_S3} {cc : ByteArray} {nl : Nat} {rt : Option FieldType} {rm : Room} {tn : tt_Tn} {Q : tt_Fin} {pc : Nat} {lv : List (Nat × Value)} {rest : List Value} {ck cn : Nat} {i : Nat} (hv : lvH true i) (d : decode cc pc = .ok (.getfield 281, 3)) (kk : tt_V (XT l D dA A pz) cc (RX1, nl, rt, rm, tn) Q (pc + 3) lv (.int (rdI s.1 7 i 8) :: rest) lc s ck cn) : tt_V (XT l D dA A pz) cc (RX1, nl, rt, rm, tn) Q pc lv (.ref (lc 107 i) :: rest) lc s ck cn := v_getN (p := 8) knT (lvT_107 hv) oT_107 rfl in_X7 (by decide) q403 (.inl rfl) rfl d kk
theorem gT_X1_284_107 {l : Launch} {D : va_G} {dA : Nat → ClassId} {A : Nat → Prop} {pz : Nat} {lc : Nat → Nat → Nat} {s : tt_S3} {cc : ByteArray} {nl : Nat} {rt : Option FieldType} {rm : Room} {tn : tt_Tn} {Q : tt_Fin} {pc : Nat} {lv : List (Nat × Value)} {rest : List Value} {ck cn : Nat} {i : Nat} (hv : lvH true i) (d : decode cc pc = .ok (.getfield 284, 3)) (kk : tt_V (XT l D dA A pz) cc (RX1, nl, rt, rm, tn) Q (pc + 3) lv (.long (rdL s.1 7 i 10) :: rest) lc s ck cn) : tt_V (XT l D dA A pz) cc (RX1, nl, rt, rm, tn) Q pc lv (.ref (lc 107 i) :: rest) lc s ck cn := v_getN (p := 10) knT (lvT_107 hv) oT_107 rfl in_X7 (by decide) q408 (.inl rfl) rfl d kk
theorem cT_165_107 {l : Launch} {D : va_G} {dA : Nat → ClassId} {A : Nat → Prop} {pz : Nat} {lc : Nat → Nat → Nat} {s : tt_S3} {cc : ByteArray} {nl : Nat} {rt : Option FieldType} {rm : Room} {tn : tt_Tn} {Q : tt_Fin} {pc : Nat} {lv : List (Nat × Value)} {rest : List Value} {ck cn : Nat} {x0 : Nat} {x1 : Int32} (hx0 : lvH true x0) {K : Int64 → Prop} (h : Ok (fB_borne s.1 x0 x1) K) (hR : 0 + 1 ≤ rm.frames ∧ 8 + (5 + 11) + 0 ≤ rm.locals) (hW : (rest.map fun v => v.category).sum ≤ 8) (d : decode cc pc = .ok (.invokevirtual 165, 3)) (kk : ∀ r, K r → tt_V (XT l D dA A pz) cc (RX1, nl, rt, rm, tn) Q (pc + 3) lv (.long r :: rest) lc s (ck + 0) (cn + 0)) (hf : ck + 0 ≤ rm.cells ∧ cn + 0 ≤ rm.slots) : tt_V (XT l D dA A pz) cc (RX1, nl, rt, rm, tn) Q pc lv (.int x1 :: .ref (lc 107 x0) :: rest) lc s ck cn :=
  v_callU (x := ⟨"TallTowers$Harm", "borne", "(I)J"⟩) (owner := "TallTowers$Burden") (kd := 107) (i := x0) (nA := 1) (As := [.int x1]) (lvT_107 hx0) oT_107 rfl (liftNow (Q := (fun v lc' s' => ∃ r, K r ∧ v = some (.long r) ∧ lc' = lc ∧ s' = s)) (mB_borne_7 l D dA (aT0 lc s) true (nT0 lc) s.1 x0 x1 hx0 (Q := fun v lc' w => lc' = nT0 lc ∧ (fun v lc' s' => ∃ r, K r ∧ v = some (.long r) ∧ lc' = lc ∧ s' = s) v lc (w, s.2)) (h.mono (fun r hr => ⟨rfl, r, hr, rfl, rfl, rfl⟩)))) (lw_U q1171 q1172 q1174 q1175 q137 q1176) rfl (by decide +kernel) rfl hR hW hf d rfl (fun v lc' s' q => by obtain ⟨r, hr, e1, e2, e3⟩ := q; rw [e1, e2, e3]; exact kk r hr)
theorem gT_X1_287_107 {l : Launch} {D : va_G} {dA : Nat → ClassId} {A : Nat → Prop} {pz : Nat} {lc : Nat → Nat → Nat} {s : tt_S3} {cc : ByteArray} {nl : Nat} {rt : Option FieldType} {rm : Room} {tn : tt_Tn} {Q : tt_Fin} {pc : Nat} {lv : List (Nat × Value)} {rest : List Value} {ck cn : Nat} {i : Nat} (hv : lvH true i) (d : decode cc pc = .ok (.getfield 287, 3)) (kk : tt_V (XT l D dA A pz) cc (RX1, nl, rt, rm, tn) Q (pc + 3) lv (.int (rdI s.1 7 i 9) :: rest) lc s ck cn) : tt_V (XT l D dA A pz) cc (RX1, nl, rt, rm, tn) Q pc lv (.ref (lc 107 i) :: rest) lc s ck cn := v_getN (p := 9) knT (lvT_107 hv) oT_107 rfl in_X7 (by decide) q405 (.inl rfl) rfl d kk
def fT_damage (s : tt_S3) (x1 : Int32) (x2 : Int32) : Option ((Int64 × tt_S3) ⊕ (Nat × tt_S3)) :=
  (fT_harmOf s x1).bind fun q_r1 => orThrow q_r1 fun r1 => (fT_within r1.2 x2 (0 : Int32) (5 : Int32)).bind fun q_r2 => orThrow q_r2 fun r2 => if x2 = 0 then some (.inl ((rdI r2.1 7 r1.1 6).toInt64, r2)) else if x2 = 1 then some (.inl ((rdI r2.1 7 r1.1 7).toInt64, r2)) else if x2 = 2 then some (.inl ((rdI r2.1 7 r1.1 8).toInt64, r2)) else if x2 = 3 then some (.inl (rdL r2.1 7 r1.1 10, r2)) else if x2 = 4 then (fB_borne r2.1 r1.1 (0 : Int32)).bind fun r8 => some (.inl (r8, r2)) else some (.inl ((rdI r2.1 7 r1.1 9).toInt64, r2))
abbrev rmT_damage : Room := { frames := 9, cells := 2, slots := 12, locals := 160 }
set_option maxHeartbeats 4000000 in
theorem mT_damage (l : Launch) (D : va_G) (dA : Nat → ClassId) (A : Nat → Prop) (pz : Nat) (hl9 : l.stackTraces = false) (lc : Nat → Nat → Nat) (s : tt_S3) (x1 : Int32) (x2 : Int32) {Q : Option Value → (Nat → Nat → Nat) → tt_S3 → Prop} {QX : String → (Nat → Nat → Nat) → tt_S3 → Prop} (h : Ok (fT_damage s x1 x2) (fun q => Sum.casesOn (motive := fun _ => Prop) q (fun r => Q (some (.long r.1)) lc r.2) (fun e => QX (tt_exn e.1) lc e.2))) : tt_SpX (XT l D dA A pz) yX1_damage cX1_damage 4 (some .long) rmT_damage [.ref (lc 0 0), .int x1, .int x2] lc s Q QX := by
  refine tt_SpX.ofV plX1 kokT (Nat.le_of_ble_eq_true rfl) ?_
  show tt_V (XT l D dA A pz) cX1_damage (RX1, 4, (some .long), rmT_damage, tt_ne) (tt_fx (XT l D dA A pz) (RX1, 4, (some .long), rmT_damage, tt_ne) Q QX) 0 [(0, .ref (lc 0 0)), (1, .int x1), (2, .int x2)] [] lc s 0 0
  unfold fT_damage at h
  refine v_aload_n 0 dX1_damage_0 rfl ?_
  refine v_iload_n 1 dX1_damage_1 rfl ?_
  refine cT_161_0 (Ok.throws h) hl9 (fun _ _ _ h => h) (fun _ h => h) ⟨Nat.le_of_ble_eq_true rfl, Nat.le_of_ble_eq_true rfl⟩ (Nat.le_of_ble_eq_true rfl) dX1_damage_2 (fun r1 z_r1 h => ?_) ⟨Nat.le_of_ble_eq_true rfl, Nat.le_of_ble_eq_true rfl⟩
  refine v_astore_n [(3, .ref (lc 107 r1.1)), (0, .ref (lc 0 0)), (1, .int x1), (2, .int x2)] dX1_damage_5 (Nat.le_of_ble_eq_true rfl) rfl ?_
  refine v_aload_n 1 dX1_damage_6 rfl ?_
  refine v_iload_n 3 dX1_damage_7 rfl ?_
  refine v_iconst dX1_damage_8 ic_0 ?_
  refine v_iconst dX1_damage_9 ic_5 ?_
  refine cT_80_0 (Ok.throws h) hl9 (fun _ _ _ h => h) (fun _ h => h) ⟨Nat.le_of_ble_eq_true rfl, Nat.le_of_ble_eq_true rfl⟩ (Nat.le_of_ble_eq_true rfl) dX1_damage_10 (fun r2 h => ?_) ⟨Nat.le_of_ble_eq_true rfl, Nat.le_of_ble_eq_true rfl⟩
  refine v_iload_n 3 dX1_damage_13 rfl ?_
  rcases Decidable.em (x2 = 0) with c3 | c3
  · have h := Ok.pos h c3
    refine v_tableIn (v := 0) (tgt := 48) dX1_damage_14 c3 (by decide) (by decide) rfl rfl ?_
    refine v_aload_n 0 dX1_damage_48 rfl ?_
    refine gT_X1_275_107 z_r1 dX1_damage_49 ?_
    refine v_i2l dX1_damage_52 rfl ?_
    have h := Ok.ret h
    exact v_retX (v_lret rfl (Nat.le_of_ble_eq_true rfl) (Nat.le_of_ble_eq_true rfl) dX1_damage_53 h)
  · have h := Ok.neg h c3
    rcases Decidable.em (x2 = 1) with c4 | c4
    · have h := Ok.pos h c4
      refine v_tableIn (v := 1) (tgt := 54) dX1_damage_14 c4 (by decide) (by decide) rfl rfl ?_
      refine v_aload_n 0 dX1_damage_54 rfl ?_
      refine gT_X1_278_107 z_r1 dX1_damage_55 ?_
      refine v_i2l dX1_damage_58 rfl ?_
      have h := Ok.ret h
      exact v_retX (v_lret rfl (Nat.le_of_ble_eq_true rfl) (Nat.le_of_ble_eq_true rfl) dX1_damage_59 h)
    · have h := Ok.neg h c4
      rcases Decidable.em (x2 = 2) with c5 | c5
      · have h := Ok.pos h c5
        refine v_tableIn (v := 2) (tgt := 60) dX1_damage_14 c5 (by decide) (by decide) rfl rfl ?_
        refine v_aload_n 0 dX1_damage_60 rfl ?_
        refine gT_X1_281_107 z_r1 dX1_damage_61 ?_
        refine v_i2l dX1_damage_64 rfl ?_
        have h := Ok.ret h
        exact v_retX (v_lret rfl (Nat.le_of_ble_eq_true rfl) (Nat.le_of_ble_eq_true rfl) dX1_damage_65 h)
      · have h := Ok.neg h c5
        rcases Decidable.em (x2 = 3) with c6 | c6
        · have h := Ok.pos h c6
          refine v_tableIn (v := 3) (tgt := 66) dX1_damage_14 c6 (by decide) (by decide) rfl rfl ?_
          refine v_aload_n 0 dX1_damage_66 rfl ?_
          refine gT_X1_284_107 z_r1 dX1_damage_67 ?_
          have h := Ok.ret h
          exact v_retX (v_lret rfl (Nat.le_of_ble_eq_true rfl) (Nat.le_of_ble_eq_true rfl) dX1_damage_70 h)
        · have h := Ok.neg h c6
          rcases Decidable.em (x2 = 4) with c7 | c7
          · have h := Ok.pos h c7
            refine v_tableIn (v := 4) (tgt := 71) dX1_damage_14 c7 (by decide) (by decide) rfl rfl ?_
            refine v_aload_n 0 dX1_damage_71 rfl ?_
            refine v_iconst dX1_damage_72 ic_0 ?_
            refine cT_165_107 z_r1 (Ok.bind h) ⟨Nat.le_of_ble_eq_true rfl, Nat.le_of_ble_eq_true rfl⟩ (Nat.le_of_ble_eq_true rfl) dX1_damage_73 (fun r8 h => ?_) ⟨Nat.le_of_ble_eq_true rfl, Nat.le_of_ble_eq_true rfl⟩
            have h := Ok.ret h
            exact v_retX (v_lret rfl (Nat.le_of_ble_eq_true rfl) (Nat.le_of_ble_eq_true rfl) dX1_damage_76 h)
          · have h := Ok.neg h c7
            have a_c3 : x2.toInt ≠ 0 := fun q => c3 (Int32.toInt_inj.mp (q.trans (by decide)))
            have a_c4 : x2.toInt ≠ 1 := fun q => c4 (Int32.toInt_inj.mp (q.trans (by decide)))
            have a_c5 : x2.toInt ≠ 2 := fun q => c5 (Int32.toInt_inj.mp (q.trans (by decide)))
            have a_c6 : x2.toInt ≠ 3 := fun q => c6 (Int32.toInt_inj.mp (q.trans (by decide)))
            have a_c7 : x2.toInt ≠ 4 := fun q => c7 (Int32.toInt_inj.mp (q.trans (by decide)))
            refine v_tableOut (tgt := 77) dX1_damage_14 (by omega) rfl ?_
            refine v_aload_n 0 dX1_damage_77 rfl ?_
            refine gT_X1_287_107 z_r1 dX1_damage_78 ?_
            refine v_i2l dX1_damage_81 rfl ?_
            have h := Ok.ret h
            exact v_retX (v_lret rfl (Nat.le_of_ble_eq_true rfl) (Nat.le_of_ble_eq_true rfl) dX1_damage_82 h)
theorem gT_X1_290_107 {l : Launch} {D : va_G} {dA : Nat → ClassId} {A : Nat → Prop} {pz : Nat} {lc : Nat → Nat → Nat} {s : tt_S3} {cc : ByteArray} {nl : Nat} {rt : Option FieldType} {rm : Room} {tn : tt_Tn} {Q : tt_Fin} {pc : Nat} {lv : List (Nat × Value)} {rest : List Value} {ck cn : Nat} {i : Nat} (hv : lvH true i) (d : decode cc pc = .ok (.getfield 290, 3)) (kk : tt_V (XT l D dA A pz) cc (RX1, nl, rt, rm, tn) Q (pc + 3) lv (.ref (lc 110 i) :: rest) lc s ck cn) : tt_V (XT l D dA A pz) cc (RX1, nl, rt, rm, tn) Q pc lv (.ref (lc 107 i) :: rest) lc s ck cn := v_get (p := 2) (lvT_107 hv) oT_107 rfl in_X7 (by decide) q298 (.inr q296) rfl d kk
theorem lvT_110 {l : Launch} {D : va_G} {dA : Nat → ClassId} {A : Nat → Prop} {pz : Nat} {s : tt_S3} {i : Nat} (hv : lvA true i) : xV (XT l D dA A pz) s 110 i := by rw [show (110 : Nat) = 100 + 10 from rfl, lvT_now (by decide)]; exact hv
theorem aT_110 {l : Launch} {D : va_G} {dA : Nat → ClassId} {A : Nat → Prop} {pz : Nat} {lc : Nat → Nat → Nat} {s : tt_S3} {i : Nat} : tt_ent (XT l D dA A pz) lc s 110 i = .inl (dA 1, 40, .inr (.inl (rdL s.1 10 i))) := eT_now (kd := 10) (by decide)
theorem lT_110 {l : Launch} {D : va_G} {dA : Nat → ClassId} {A : Nat → Prop} {pz : Nat} {lc : Nat → Nat → Nat} {s : tt_S3} {cc : ByteArray} {Y : tt_Y} {Q : tt_Fin} {pc : Nat} {lv : List (Nat × Value)} {rest : List Value} {ck cn : Nat} {i : Nat} {j : Int32} (hv : lvA true i) (g : inB j 40 = true) (d : decode cc pc = .ok (.laload, 1)) (kk : tt_V (XT l D dA A pz) cc Y Q (pc + 1) lv (.long (rdL s.1 10 i j.toNatClampNeg) :: rest) lc s ck cn) : tt_V (XT l D dA A pz) cc Y Q pc lv (.int j :: .ref (lc 110 i) :: rest) lc s ck cn := v_lald (t := 1) (lvT_110 hv) aT_110 rfl g d kk
theorem nT_110 {l : Launch} {D : va_G} {dA : Nat → ClassId} {A : Nat → Prop} {pz : Nat} {lc : Nat → Nat → Nat} {s : tt_S3} {cc : ByteArray} {Y : tt_Y} {Q : tt_Fin} {pc : Nat} {lv : List (Nat × Value)} {rest : List Value} {ck cn : Nat} {i : Nat} (hv : lvA true i) (d : decode cc pc = .ok (.arraylength, 1)) (kk : tt_V (XT l D dA A pz) cc Y Q (pc + 1) lv (.int 40 :: rest) lc s ck cn) : tt_V (XT l D dA A pz) cc Y Q pc lv (.ref (lc 110 i) :: rest) lc s ck cn := v_alen (t := 1) (lvT_110 hv) aT_110 rfl rfl d kk
def fT_took (s : tt_S3) (x1 : Int32) (x2 : Int32) : Option ((Int64 × tt_S3) ⊕ (Nat × tt_S3)) :=
  (fT_harmOf s x1).bind fun q_r1 => orThrow q_r1 fun r1 => (fT_layerOf r1.2 x2).bind fun q_r2 => orThrow q_r2 fun r2 => if inB (nI r2.1) 40 then some (.inl (rdL r2.2.1 10 r1.1 (nI r2.1).toNatClampNeg, r2.2)) else none
abbrev rmT_took : Room := { frames := 9, cells := 2, slots := 12, locals := 160 }
set_option maxHeartbeats 4000000 in
theorem mT_took (l : Launch) (D : va_G) (dA : Nat → ClassId) (A : Nat → Prop) (pz : Nat) (hl9 : l.stackTraces = false) (lc : Nat → Nat → Nat) (s : tt_S3) (x1 : Int32) (x2 : Int32) {Q : Option Value → (Nat → Nat → Nat) → tt_S3 → Prop} {QX : String → (Nat → Nat → Nat) → tt_S3 → Prop} (h : Ok (fT_took s x1 x2) (fun q => Sum.casesOn (motive := fun _ => Prop) q (fun r => Q (some (.long r.1)) lc r.2) (fun e => QX (tt_exn e.1) lc e.2))) : tt_SpX (XT l D dA A pz) yX1_took cX1_took 3 (some .long) rmT_took [.ref (lc 0 0), .int x1, .int x2] lc s Q QX := by
  refine tt_SpX.ofV plX1 kokT (Nat.le_of_ble_eq_true rfl) ?_
  show tt_V (XT l D dA A pz) cX1_took (RX1, 3, (some .long), rmT_took, tt_ne) (tt_fx (XT l D dA A pz) (RX1, 3, (some .long), rmT_took, tt_ne) Q QX) 0 [(0, .ref (lc 0 0)), (1, .int x1), (2, .int x2)] [] lc s 0 0
  unfold fT_took at h
  refine v_aload_n 0 dX1_took_0 rfl ?_
  refine v_iload_n 1 dX1_took_1 rfl ?_
  refine cT_161_0 (Ok.throws h) hl9 (fun _ _ _ h => h) (fun _ h => h) ⟨Nat.le_of_ble_eq_true rfl, Nat.le_of_ble_eq_true rfl⟩ (Nat.le_of_ble_eq_true rfl) dX1_took_2 (fun r1 z_r1 h => ?_) ⟨Nat.le_of_ble_eq_true rfl, Nat.le_of_ble_eq_true rfl⟩
  refine gT_X1_290_107 z_r1 dX1_took_5 ?_
  refine v_aload_n 0 dX1_took_8 rfl ?_
  refine v_iload_n 2 dX1_took_9 rfl ?_
  refine cT_117_0 (Ok.throws h) hl9 (fun _ _ _ h => h) (fun _ h => h) ⟨Nat.le_of_ble_eq_true rfl, Nat.le_of_ble_eq_true rfl⟩ (Nat.le_of_ble_eq_true rfl) dX1_took_10 (fun r2 z_r2 h => ?_) ⟨Nat.le_of_ble_eq_true rfl, Nat.le_of_ble_eq_true rfl⟩
  refine gT_X1_268_102 z_r2 dX1_took_13 ?_
  obtain ⟨g3, h⟩ := Ok.guard h
  refine lT_110 (.inl z_r1) g3 dX1_took_16 ?_
  have h := Ok.ret h
  exact v_retX (v_lret rfl (Nat.le_of_ble_eq_true rfl) (Nat.le_of_ble_eq_true rfl) dX1_took_17 h)
theorem gT_X1_293_107 {l : Launch} {D : va_G} {dA : Nat → ClassId} {A : Nat → Prop} {pz : Nat} {lc : Nat → Nat → Nat} {s : tt_S3} {cc : ByteArray} {nl : Nat} {rt : Option FieldType} {rm : Room} {tn : tt_Tn} {Q : tt_Fin} {pc : Nat} {lv : List (Nat × Value)} {rest : List Value} {ck cn : Nat} {i : Nat} (hv : lvH true i) (d : decode cc pc = .ok (.getfield 293, 3)) (kk : tt_V (XT l D dA A pz) cc (RX1, nl, rt, rm, tn) Q (pc + 3) lv (.ref (lc 111 i) :: rest) lc s ck cn) : tt_V (XT l D dA A pz) cc (RX1, nl, rt, rm, tn) Q pc lv (.ref (lc 107 i) :: rest) lc s ck cn := v_get (p := 3) (lvT_107 hv) oT_107 rfl in_X7 (by decide) q304 (.inr q302) rfl d kk
theorem lvT_111 {l : Launch} {D : va_G} {dA : Nat → ClassId} {A : Nat → Prop} {pz : Nat} {s : tt_S3} {i : Nat} (hv : lvA true i) : xV (XT l D dA A pz) s 111 i := by rw [show (111 : Nat) = 100 + 11 from rfl, lvT_now (by decide)]; exact hv
theorem aT_111 {l : Launch} {D : va_G} {dA : Nat → ClassId} {A : Nat → Prop} {pz : Nat} {lc : Nat → Nat → Nat} {s : tt_S3} {i : Nat} : tt_ent (XT l D dA A pz) lc s 111 i = .inl (dA 1, 40, .inr (.inl (rdL s.1 11 i))) := eT_now (kd := 11) (by decide)
theorem lT_111 {l : Launch} {D : va_G} {dA : Nat → ClassId} {A : Nat → Prop} {pz : Nat} {lc : Nat → Nat → Nat} {s : tt_S3} {cc : ByteArray} {Y : tt_Y} {Q : tt_Fin} {pc : Nat} {lv : List (Nat × Value)} {rest : List Value} {ck cn : Nat} {i : Nat} {j : Int32} (hv : lvA true i) (g : inB j 40 = true) (d : decode cc pc = .ok (.laload, 1)) (kk : tt_V (XT l D dA A pz) cc Y Q (pc + 1) lv (.long (rdL s.1 11 i j.toNatClampNeg) :: rest) lc s ck cn) : tt_V (XT l D dA A pz) cc Y Q pc lv (.int j :: .ref (lc 111 i) :: rest) lc s ck cn := v_lald (t := 1) (lvT_111 hv) aT_111 rfl g d kk
theorem nT_111 {l : Launch} {D : va_G} {dA : Nat → ClassId} {A : Nat → Prop} {pz : Nat} {lc : Nat → Nat → Nat} {s : tt_S3} {cc : ByteArray} {Y : tt_Y} {Q : tt_Fin} {pc : Nat} {lv : List (Nat × Value)} {rest : List Value} {ck cn : Nat} {i : Nat} (hv : lvA true i) (d : decode cc pc = .ok (.arraylength, 1)) (kk : tt_V (XT l D dA A pz) cc Y Q (pc + 1) lv (.int 40 :: rest) lc s ck cn) : tt_V (XT l D dA A pz) cc Y Q pc lv (.ref (lc 111 i) :: rest) lc s ck cn := v_alen (t := 1) (lvT_111 hv) aT_111 rfl rfl d kk
def fT_hole (s : tt_S3) (x1 : Int32) (x2 : Int32) : Option ((Int64 × tt_S3) ⊕ (Nat × tt_S3)) :=
  (fT_harmOf s x1).bind fun q_r1 => orThrow q_r1 fun r1 => (fT_layerOf r1.2 x2).bind fun q_r2 => orThrow q_r2 fun r2 => if inB (nI r2.1) 40 then some (.inl (rdL r2.2.1 11 r1.1 (nI r2.1).toNatClampNeg, r2.2)) else none
abbrev rmT_hole : Room := { frames := 9, cells := 2, slots := 12, locals := 160 }
set_option maxHeartbeats 4000000 in
theorem mT_hole (l : Launch) (D : va_G) (dA : Nat → ClassId) (A : Nat → Prop) (pz : Nat) (hl9 : l.stackTraces = false) (lc : Nat → Nat → Nat) (s : tt_S3) (x1 : Int32) (x2 : Int32) {Q : Option Value → (Nat → Nat → Nat) → tt_S3 → Prop} {QX : String → (Nat → Nat → Nat) → tt_S3 → Prop} (h : Ok (fT_hole s x1 x2) (fun q => Sum.casesOn (motive := fun _ => Prop) q (fun r => Q (some (.long r.1)) lc r.2) (fun e => QX (tt_exn e.1) lc e.2))) : tt_SpX (XT l D dA A pz) yX1_hole cX1_hole 3 (some .long) rmT_hole [.ref (lc 0 0), .int x1, .int x2] lc s Q QX := by
  refine tt_SpX.ofV plX1 kokT (Nat.le_of_ble_eq_true rfl) ?_
  show tt_V (XT l D dA A pz) cX1_hole (RX1, 3, (some .long), rmT_hole, tt_ne) (tt_fx (XT l D dA A pz) (RX1, 3, (some .long), rmT_hole, tt_ne) Q QX) 0 [(0, .ref (lc 0 0)), (1, .int x1), (2, .int x2)] [] lc s 0 0
  unfold fT_hole at h
  refine v_aload_n 0 dX1_hole_0 rfl ?_
  refine v_iload_n 1 dX1_hole_1 rfl ?_
  refine cT_161_0 (Ok.throws h) hl9 (fun _ _ _ h => h) (fun _ h => h) ⟨Nat.le_of_ble_eq_true rfl, Nat.le_of_ble_eq_true rfl⟩ (Nat.le_of_ble_eq_true rfl) dX1_hole_2 (fun r1 z_r1 h => ?_) ⟨Nat.le_of_ble_eq_true rfl, Nat.le_of_ble_eq_true rfl⟩
  refine gT_X1_293_107 z_r1 dX1_hole_5 ?_
  refine v_aload_n 0 dX1_hole_8 rfl ?_
  refine v_iload_n 2 dX1_hole_9 rfl ?_
  refine cT_117_0 (Ok.throws h) hl9 (fun _ _ _ h => h) (fun _ h => h) ⟨Nat.le_of_ble_eq_true rfl, Nat.le_of_ble_eq_true rfl⟩ (Nat.le_of_ble_eq_true rfl) dX1_hole_10 (fun r2 z_r2 h => ?_) ⟨Nat.le_of_ble_eq_true rfl, Nat.le_of_ble_eq_true rfl⟩
  refine gT_X1_268_102 z_r2 dX1_hole_13 ?_
  obtain ⟨g3, h⟩ := Ok.guard h
  refine lT_111 (.inl z_r1) g3 dX1_hole_16 ?_
  have h := Ok.ret h
  exact v_retX (v_lret rfl (Nat.le_of_ble_eq_true rfl) (Nat.le_of_ble_eq_true rfl) dX1_hole_17 h)
theorem gT_X1_296_107 {l : Launch} {D : va_G} {dA : Nat → ClassId} {A : Nat → Prop} {pz : Nat} {lc : Nat → Nat → Nat} {s : tt_S3} {cc : ByteArray} {nl : Nat} {rt : Option FieldType} {rm : Room} {tn : tt_Tn} {Q : tt_Fin} {pc : Nat} {lv : List (Nat × Value)} {rest : List Value} {ck cn : Nat} {i : Nat} (hv : lvH true i) (d : decode cc pc = .ok (.getfield 296, 3)) (kk : tt_V (XT l D dA A pz) cc (RX1, nl, rt, rm, tn) Q (pc + 3) lv (.ref (lc 112 i) :: rest) lc s ck cn) : tt_V (XT l D dA A pz) cc (RX1, nl, rt, rm, tn) Q pc lv (.ref (lc 107 i) :: rest) lc s ck cn := v_get (p := 4) (lvT_107 hv) oT_107 rfl in_X7 (by decide) q307 (.inr q308) rfl d kk
theorem lvT_112 {l : Launch} {D : va_G} {dA : Nat → ClassId} {A : Nat → Prop} {pz : Nat} {s : tt_S3} {i : Nat} (hv : lvA true i) : xV (XT l D dA A pz) s 112 i := by rw [show (112 : Nat) = 100 + 12 from rfl, lvT_now (by decide)]; exact hv
theorem aT_112 {l : Launch} {D : va_G} {dA : Nat → ClassId} {A : Nat → Prop} {pz : Nat} {lc : Nat → Nat → Nat} {s : tt_S3} {i : Nat} : tt_ent (XT l D dA A pz) lc s 112 i = .inl (dA 1, 40, .inr (.inl (rdL s.1 12 i))) := eT_now (kd := 12) (by decide)
theorem lT_112 {l : Launch} {D : va_G} {dA : Nat → ClassId} {A : Nat → Prop} {pz : Nat} {lc : Nat → Nat → Nat} {s : tt_S3} {cc : ByteArray} {Y : tt_Y} {Q : tt_Fin} {pc : Nat} {lv : List (Nat × Value)} {rest : List Value} {ck cn : Nat} {i : Nat} {j : Int32} (hv : lvA true i) (g : inB j 40 = true) (d : decode cc pc = .ok (.laload, 1)) (kk : tt_V (XT l D dA A pz) cc Y Q (pc + 1) lv (.long (rdL s.1 12 i j.toNatClampNeg) :: rest) lc s ck cn) : tt_V (XT l D dA A pz) cc Y Q pc lv (.int j :: .ref (lc 112 i) :: rest) lc s ck cn := v_lald (t := 1) (lvT_112 hv) aT_112 rfl g d kk
theorem nT_112 {l : Launch} {D : va_G} {dA : Nat → ClassId} {A : Nat → Prop} {pz : Nat} {lc : Nat → Nat → Nat} {s : tt_S3} {cc : ByteArray} {Y : tt_Y} {Q : tt_Fin} {pc : Nat} {lv : List (Nat × Value)} {rest : List Value} {ck cn : Nat} {i : Nat} (hv : lvA true i) (d : decode cc pc = .ok (.arraylength, 1)) (kk : tt_V (XT l D dA A pz) cc Y Q (pc + 1) lv (.int 40 :: rest) lc s ck cn) : tt_V (XT l D dA A pz) cc Y Q pc lv (.ref (lc 112 i) :: rest) lc s ck cn := v_alen (t := 1) (lvT_112 hv) aT_112 rfl rfl d kk
def fT_moved (s : tt_S3) (x1 : Int32) (x2 : Int32) : Option ((Int64 × tt_S3) ⊕ (Nat × tt_S3)) :=
  (fT_harmOf s x1).bind fun q_r1 => orThrow q_r1 fun r1 => (fT_layerOf r1.2 x2).bind fun q_r2 => orThrow q_r2 fun r2 => if inB (nI r2.1) 40 then some (.inl (rdL r2.2.1 12 r1.1 (nI r2.1).toNatClampNeg, r2.2)) else none
abbrev rmT_moved : Room := { frames := 9, cells := 2, slots := 12, locals := 160 }
set_option maxHeartbeats 4000000 in
theorem mT_moved (l : Launch) (D : va_G) (dA : Nat → ClassId) (A : Nat → Prop) (pz : Nat) (hl9 : l.stackTraces = false) (lc : Nat → Nat → Nat) (s : tt_S3) (x1 : Int32) (x2 : Int32) {Q : Option Value → (Nat → Nat → Nat) → tt_S3 → Prop} {QX : String → (Nat → Nat → Nat) → tt_S3 → Prop} (h : Ok (fT_moved s x1 x2) (fun q => Sum.casesOn (motive := fun _ => Prop) q (fun r => Q (some (.long r.1)) lc r.2) (fun e => QX (tt_exn e.1) lc e.2))) : tt_SpX (XT l D dA A pz) yX1_moved cX1_moved 3 (some .long) rmT_moved [.ref (lc 0 0), .int x1, .int x2] lc s Q QX := by
  refine tt_SpX.ofV plX1 kokT (Nat.le_of_ble_eq_true rfl) ?_
  show tt_V (XT l D dA A pz) cX1_moved (RX1, 3, (some .long), rmT_moved, tt_ne) (tt_fx (XT l D dA A pz) (RX1, 3, (some .long), rmT_moved, tt_ne) Q QX) 0 [(0, .ref (lc 0 0)), (1, .int x1), (2, .int x2)] [] lc s 0 0
  unfold fT_moved at h
  refine v_aload_n 0 dX1_moved_0 rfl ?_
  refine v_iload_n 1 dX1_moved_1 rfl ?_
  refine cT_161_0 (Ok.throws h) hl9 (fun _ _ _ h => h) (fun _ h => h) ⟨Nat.le_of_ble_eq_true rfl, Nat.le_of_ble_eq_true rfl⟩ (Nat.le_of_ble_eq_true rfl) dX1_moved_2 (fun r1 z_r1 h => ?_) ⟨Nat.le_of_ble_eq_true rfl, Nat.le_of_ble_eq_true rfl⟩
  refine gT_X1_296_107 z_r1 dX1_moved_5 ?_
  refine v_aload_n 0 dX1_moved_8 rfl ?_
  refine v_iload_n 2 dX1_moved_9 rfl ?_
  refine cT_117_0 (Ok.throws h) hl9 (fun _ _ _ h => h) (fun _ h => h) ⟨Nat.le_of_ble_eq_true rfl, Nat.le_of_ble_eq_true rfl⟩ (Nat.le_of_ble_eq_true rfl) dX1_moved_10 (fun r2 z_r2 h => ?_) ⟨Nat.le_of_ble_eq_true rfl, Nat.le_of_ble_eq_true rfl⟩
  refine gT_X1_268_102 z_r2 dX1_moved_13 ?_
  obtain ⟨g3, h⟩ := Ok.guard h
  refine lT_112 (.inl z_r1) g3 dX1_moved_16 ?_
  have h := Ok.ret h
  exact v_retX (v_lret rfl (Nat.le_of_ble_eq_true rfl) (Nat.le_of_ble_eq_true rfl) dX1_moved_17 h)
def fT_insurerOf (s : tt_S3) (x1 : Int32) : Option ((tt_S3) ⊕ (Nat × tt_S3)) :=
  (fT_within s x1 (0 : Int32) (9 : Int32)).bind fun q_r1 => orThrow q_r1 fun r1 => some (.inl r1)
abbrev rmT_insurerOf : Room := { frames := 8, cells := 1, slots := 6, locals := 140 }
set_option maxHeartbeats 4000000 in
theorem mT_insurerOf (l : Launch) (D : va_G) (dA : Nat → ClassId) (A : Nat → Prop) (pz : Nat) (hl9 : l.stackTraces = false) (lc : Nat → Nat → Nat) (s : tt_S3) (x1 : Int32) {Q : Option Value → (Nat → Nat → Nat) → tt_S3 → Prop} {QX : String → (Nat → Nat → Nat) → tt_S3 → Prop} (h : Ok (fT_insurerOf s x1) (fun q => Sum.casesOn (motive := fun _ => Prop) q (fun r => Q none lc r) (fun e => QX (tt_exn e.1) lc e.2))) : tt_SpX (XT l D dA A pz) yX1_insurerOf cX1_insurerOf 2 none rmT_insurerOf [.ref (lc 0 0), .int x1] lc s Q QX := by
  refine tt_SpX.ofV plX1 kokT (Nat.le_of_ble_eq_true rfl) ?_
  show tt_V (XT l D dA A pz) cX1_insurerOf (RX1, 2, none, rmT_insurerOf, tt_ne) (tt_fx (XT l D dA A pz) (RX1, 2, none, rmT_insurerOf, tt_ne) Q QX) 0 [(0, .ref (lc 0 0)), (1, .int x1)] [] lc s 0 0
  unfold fT_insurerOf at h
  refine v_aload_n 0 dX1_insurerOf_0 rfl ?_
  refine v_iload_n 1 dX1_insurerOf_1 rfl ?_
  refine v_iconst dX1_insurerOf_2 ic_0 ?_
  refine v_bipush dX1_insurerOf_3 kb_9 ?_
  refine cT_80_0 (Ok.throws h) hl9 (fun _ _ _ h => h) (fun _ h => h) ⟨Nat.le_of_ble_eq_true rfl, Nat.le_of_ble_eq_true rfl⟩ (Nat.le_of_ble_eq_true rfl) dX1_insurerOf_5 (fun r1 h => ?_) ⟨Nat.le_of_ble_eq_true rfl, Nat.le_of_ble_eq_true rfl⟩
  have h := Ok.ret h
  exact v_retX (v_vret rfl (Nat.le_of_ble_eq_true rfl) (Nat.le_of_ble_eq_true rfl) dX1_insurerOf_8 h)
theorem cT_121_0 {l : Launch} {D : va_G} {dA : Nat → ClassId} {A : Nat → Prop} {pz : Nat} {lc : Nat → Nat → Nat} {s : tt_S3} {cc : ByteArray} {nl : Nat} {rt : Option FieldType} {rm : Room} {tn : tt_Tn} {Q : Option Value → (Nat → Nat → Nat) → tt_S3 → Prop} {QX : String → (Nat → Nat → Nat) → tt_S3 → Prop} {pc : Nat} {lv : List (Nat × Value)} {rest : List Value} {ck cn : Nat} {x1 : Int32} {K : tt_S3 → Prop} {K2 : Nat × tt_S3 → Prop} (h : Ok (fT_insurerOf s x1) (fun q => Sum.casesOn (motive := fun _ => Prop) q K K2)) (hl9 : l.stackTraces = false) (hTb : ∀ c m s0, tn c m s0 → tt_ne c m s0) (kx : ∀ e : Nat × tt_S3, K2 e → QX (tt_exn e.1) lc e.2) (hR : 8 + 1 ≤ rm.frames ∧ 8 + (2 + 11) + 140 ≤ rm.locals) (hW : (rest.map fun v => v.category).sum ≤ 8) (d : decode cc pc = .ok (.invokevirtual 121, 3)) (kk : ∀ r, K r → tt_V (XT l D dA A pz) cc (RX1, nl, rt, rm, tn) (tt_fx (XT l D dA A pz) (RX1, nl, rt, rm, tn) Q QX) (pc + 3) lv rest lc r (ck + 1) (cn + 6)) (hf : ck + 1 ≤ rm.cells ∧ cn + 6 ≤ rm.slots) : tt_V (XT l D dA A pz) cc (RX1, nl, rt, rm, tn) (tt_fx (XT l D dA A pz) (RX1, nl, rt, rm, tn) Q QX) pc lv (.int x1 :: .ref (lc 0 0) :: rest) lc s ck cn :=
  v_callVX (kd := 0) (i := 0) (nA := 1) (As := [.int x1]) lvT_0 oT_0 rfl (mT_insurerOf l D dA A pz hl9 lc s x1 (Q := (fun v lc' s' => ∃ r, K r ∧ v = none ∧ lc' = lc ∧ s' = r)) (QX := fun E lc' s' => ∃ e : Nat × tt_S3, K2 e ∧ E = tt_exn e.1 ∧ lc' = lc ∧ s' = e.2) (h.mono (fun q hq => by cases q with
    | inl r => exact (fun hr => ⟨r, hr, rfl, rfl, rfl⟩) hq
    | inr e => exact ⟨e, hq, rfl, rfl, rfl⟩))) (lw_V q1045 q1047 qs24 q127 q1048) (by decide +kernel) rfl hR hW hf hTb d rfl (fun E lc' s' q => by obtain ⟨e, hq, e1, e2, e3⟩ := q; rw [e1, e2, e3]; exact kx e hq) (fun v lc' s' q => by obtain ⟨r, hr, e1, e2, e3⟩ := q; rw [e1, e2, e3]; exact kk r hr)
def fT_bears (s : tt_S3) (x1 : Int32) (x2 : Int32) : Option ((Int64 × tt_S3) ⊕ (Nat × tt_S3)) :=
  (fT_harmOf s x1).bind fun q_r1 => orThrow q_r1 fun r1 => (fT_insurerOf r1.2 x2).bind fun q_r2 => orThrow q_r2 fun r2 => (fB_borne r2.1 r1.1 x2).bind fun r3 => some (.inl (r3, r2))
abbrev rmT_bears : Room := { frames := 9, cells := 2, slots := 12, locals := 161 }
set_option maxHeartbeats 4000000 in
theorem mT_bears (l : Launch) (D : va_G) (dA : Nat → ClassId) (A : Nat → Prop) (pz : Nat) (hl9 : l.stackTraces = false) (lc : Nat → Nat → Nat) (s : tt_S3) (x1 : Int32) (x2 : Int32) {Q : Option Value → (Nat → Nat → Nat) → tt_S3 → Prop} {QX : String → (Nat → Nat → Nat) → tt_S3 → Prop} (h : Ok (fT_bears s x1 x2) (fun q => Sum.casesOn (motive := fun _ => Prop) q (fun r => Q (some (.long r.1)) lc r.2) (fun e => QX (tt_exn e.1) lc e.2))) : tt_SpX (XT l D dA A pz) yX1_bears cX1_bears 4 (some .long) rmT_bears [.ref (lc 0 0), .int x1, .int x2] lc s Q QX := by
  refine tt_SpX.ofV plX1 kokT (Nat.le_of_ble_eq_true rfl) ?_
  show tt_V (XT l D dA A pz) cX1_bears (RX1, 4, (some .long), rmT_bears, tt_ne) (tt_fx (XT l D dA A pz) (RX1, 4, (some .long), rmT_bears, tt_ne) Q QX) 0 [(0, .ref (lc 0 0)), (1, .int x1), (2, .int x2)] [] lc s 0 0
  unfold fT_bears at h
  refine v_aload_n 0 dX1_bears_0 rfl ?_
  refine v_iload_n 1 dX1_bears_1 rfl ?_
  refine cT_161_0 (Ok.throws h) hl9 (fun _ _ _ h => h) (fun _ h => h) ⟨Nat.le_of_ble_eq_true rfl, Nat.le_of_ble_eq_true rfl⟩ (Nat.le_of_ble_eq_true rfl) dX1_bears_2 (fun r1 z_r1 h => ?_) ⟨Nat.le_of_ble_eq_true rfl, Nat.le_of_ble_eq_true rfl⟩
  refine v_astore_n [(3, .ref (lc 107 r1.1)), (0, .ref (lc 0 0)), (1, .int x1), (2, .int x2)] dX1_bears_5 (Nat.le_of_ble_eq_true rfl) rfl ?_
  refine v_aload_n 1 dX1_bears_6 rfl ?_
  refine v_iload_n 3 dX1_bears_7 rfl ?_
  refine cT_121_0 (Ok.throws h) hl9 (fun _ _ _ h => h) (fun _ h => h) ⟨Nat.le_of_ble_eq_true rfl, Nat.le_of_ble_eq_true rfl⟩ (Nat.le_of_ble_eq_true rfl) dX1_bears_8 (fun r2 h => ?_) ⟨Nat.le_of_ble_eq_true rfl, Nat.le_of_ble_eq_true rfl⟩
  refine v_aload_n 0 dX1_bears_11 rfl ?_
  refine v_iload_n 3 dX1_bears_12 rfl ?_
  refine cT_165_107 z_r1 (Ok.bind h) ⟨Nat.le_of_ble_eq_true rfl, Nat.le_of_ble_eq_true rfl⟩ (Nat.le_of_ble_eq_true rfl) dX1_bears_13 (fun r3 h => ?_) ⟨Nat.le_of_ble_eq_true rfl, Nat.le_of_ble_eq_true rfl⟩
  have h := Ok.ret h
  exact v_retX (v_lret rfl (Nat.le_of_ble_eq_true rfl) (Nat.le_of_ble_eq_true rfl) dX1_bears_16 h)
theorem gT_X1_299_107 {l : Launch} {D : va_G} {dA : Nat → ClassId} {A : Nat → Prop} {pz : Nat} {lc : Nat → Nat → Nat} {s : tt_S3} {cc : ByteArray} {nl : Nat} {rt : Option FieldType} {rm : Room} {tn : tt_Tn} {Q : tt_Fin} {pc : Nat} {lv : List (Nat × Value)} {rest : List Value} {ck cn : Nat} {i : Nat} (hv : lvH true i) (d : decode cc pc = .ok (.getfield 299, 3)) (kk : tt_V (XT l D dA A pz) cc (RX1, nl, rt, rm, tn) Q (pc + 3) lv (.ref (lc 109 i) :: rest) lc s ck cn) : tt_V (XT l D dA A pz) cc (RX1, nl, rt, rm, tn) Q pc lv (.ref (lc 107 i) :: rest) lc s ck cn := v_get (p := 1) (lvT_107 hv) oT_107 rfl in_X7 (by decide) q317 (.inr q318) rfl d kk
theorem lvT_109 {l : Launch} {D : va_G} {dA : Nat → ClassId} {A : Nat → Prop} {pz : Nat} {s : tt_S3} {i : Nat} (hv : lvA true i) : xV (XT l D dA A pz) s 109 i := by rw [show (109 : Nat) = 100 + 9 from rfl, lvT_now (by decide)]; exact hv
theorem aT_109 {l : Launch} {D : va_G} {dA : Nat → ClassId} {A : Nat → Prop} {pz : Nat} {lc : Nat → Nat → Nat} {s : tt_S3} {i : Nat} : tt_ent (XT l D dA A pz) lc s 109 i = .inl (dA 1, 7, .inr (.inl (rdL s.1 9 i))) := eT_now (kd := 9) (by decide)
theorem lT_109 {l : Launch} {D : va_G} {dA : Nat → ClassId} {A : Nat → Prop} {pz : Nat} {lc : Nat → Nat → Nat} {s : tt_S3} {cc : ByteArray} {Y : tt_Y} {Q : tt_Fin} {pc : Nat} {lv : List (Nat × Value)} {rest : List Value} {ck cn : Nat} {i : Nat} {j : Int32} (hv : lvA true i) (g : inB j 7 = true) (d : decode cc pc = .ok (.laload, 1)) (kk : tt_V (XT l D dA A pz) cc Y Q (pc + 1) lv (.long (rdL s.1 9 i j.toNatClampNeg) :: rest) lc s ck cn) : tt_V (XT l D dA A pz) cc Y Q pc lv (.int j :: .ref (lc 109 i) :: rest) lc s ck cn := v_lald (t := 1) (lvT_109 hv) aT_109 rfl g d kk
theorem nT_109 {l : Launch} {D : va_G} {dA : Nat → ClassId} {A : Nat → Prop} {pz : Nat} {lc : Nat → Nat → Nat} {s : tt_S3} {cc : ByteArray} {Y : tt_Y} {Q : tt_Fin} {pc : Nat} {lv : List (Nat × Value)} {rest : List Value} {ck cn : Nat} {i : Nat} (hv : lvA true i) (d : decode cc pc = .ok (.arraylength, 1)) (kk : tt_V (XT l D dA A pz) cc Y Q (pc + 1) lv (.int 7 :: rest) lc s ck cn) : tt_V (XT l D dA A pz) cc Y Q pc lv (.ref (lc 109 i) :: rest) lc s ck cn := v_alen (t := 1) (lvT_109 hv) aT_109 rfl rfl d kk
def fT_falls (s : tt_S3) (x1 : Int32) (x2 : Int32) : Option ((Int64 × tt_S3) ⊕ (Nat × tt_S3)) :=
  (fT_harmOf s x1).bind fun q_r1 => orThrow q_r1 fun r1 => (fT_within r1.2 x2 (0 : Int32) (6 : Int32)).bind fun q_r2 => orThrow q_r2 fun r2 => if inB x2 7 then some (.inl (rdL r2.1 9 r1.1 x2.toNatClampNeg, r2)) else none
abbrev rmT_falls : Room := { frames := 9, cells := 2, slots := 12, locals := 160 }
set_option maxHeartbeats 4000000 in
theorem mT_falls (l : Launch) (D : va_G) (dA : Nat → ClassId) (A : Nat → Prop) (pz : Nat) (hl9 : l.stackTraces = false) (lc : Nat → Nat → Nat) (s : tt_S3) (x1 : Int32) (x2 : Int32) {Q : Option Value → (Nat → Nat → Nat) → tt_S3 → Prop} {QX : String → (Nat → Nat → Nat) → tt_S3 → Prop} (h : Ok (fT_falls s x1 x2) (fun q => Sum.casesOn (motive := fun _ => Prop) q (fun r => Q (some (.long r.1)) lc r.2) (fun e => QX (tt_exn e.1) lc e.2))) : tt_SpX (XT l D dA A pz) yX1_falls cX1_falls 4 (some .long) rmT_falls [.ref (lc 0 0), .int x1, .int x2] lc s Q QX := by
  refine tt_SpX.ofV plX1 kokT (Nat.le_of_ble_eq_true rfl) ?_
  show tt_V (XT l D dA A pz) cX1_falls (RX1, 4, (some .long), rmT_falls, tt_ne) (tt_fx (XT l D dA A pz) (RX1, 4, (some .long), rmT_falls, tt_ne) Q QX) 0 [(0, .ref (lc 0 0)), (1, .int x1), (2, .int x2)] [] lc s 0 0
  unfold fT_falls at h
  refine v_aload_n 0 dX1_falls_0 rfl ?_
  refine v_iload_n 1 dX1_falls_1 rfl ?_
  refine cT_161_0 (Ok.throws h) hl9 (fun _ _ _ h => h) (fun _ h => h) ⟨Nat.le_of_ble_eq_true rfl, Nat.le_of_ble_eq_true rfl⟩ (Nat.le_of_ble_eq_true rfl) dX1_falls_2 (fun r1 z_r1 h => ?_) ⟨Nat.le_of_ble_eq_true rfl, Nat.le_of_ble_eq_true rfl⟩
  refine v_astore_n [(3, .ref (lc 107 r1.1)), (0, .ref (lc 0 0)), (1, .int x1), (2, .int x2)] dX1_falls_5 (Nat.le_of_ble_eq_true rfl) rfl ?_
  refine v_aload_n 1 dX1_falls_6 rfl ?_
  refine v_iload_n 3 dX1_falls_7 rfl ?_
  refine v_iconst dX1_falls_8 ic_0 ?_
  refine v_bipush dX1_falls_9 kb_6 ?_
  refine cT_80_0 (Ok.throws h) hl9 (fun _ _ _ h => h) (fun _ h => h) ⟨Nat.le_of_ble_eq_true rfl, Nat.le_of_ble_eq_true rfl⟩ (Nat.le_of_ble_eq_true rfl) dX1_falls_11 (fun r2 h => ?_) ⟨Nat.le_of_ble_eq_true rfl, Nat.le_of_ble_eq_true rfl⟩
  refine v_aload_n 0 dX1_falls_14 rfl ?_
  refine gT_X1_299_107 z_r1 dX1_falls_15 ?_
  refine v_iload_n 3 dX1_falls_18 rfl ?_
  obtain ⟨g3, h⟩ := Ok.guard h
  refine lT_109 (.inl z_r1) g3 dX1_falls_19 ?_
  have h := Ok.ret h
  exact v_retX (v_lret rfl (Nat.le_of_ble_eq_true rfl) (Nat.le_of_ble_eq_true rfl) dX1_falls_20 h)
theorem cT_302_100 {l : Launch} {D : va_G} {dA : Nat → ClassId} {A : Nat → Prop} {pz : Nat} {lc : Nat → Nat → Nat} {s : tt_S3} {cc : ByteArray} {nl : Nat} {rt : Option FieldType} {rm : Room} {tn : tt_Tn} {Q : tt_Fin} {pc : Nat} {lv : List (Nat × Value)} {rest : List Value} {ck cn : Nat} {x1 : Int32} {K : Int64 → Prop} (h : Ok (fW_borneBy s.1 x1) K) (hR : 1 + 1 ≤ rm.frames ∧ 8 + (8 + 11) + 24 ≤ rm.locals) (hW : (rest.map fun v => v.category).sum ≤ 8) (d : decode cc pc = .ok (.invokevirtual 302, 3)) (kk : ∀ r, K r → tt_V (XT l D dA A pz) cc (RX1, nl, rt, rm, tn) Q (pc + 3) lv (.long r :: rest) lc s (ck + 0) (cn + 0)) (hf : ck + 0 ≤ rm.cells ∧ cn + 0 ≤ rm.slots) : tt_V (XT l D dA A pz) cc (RX1, nl, rt, rm, tn) Q pc lv (.int x1 :: .ref (lc 100 0) :: rest) lc s ck cn :=
  v_callV (kd := 100) (i := 0) (nA := 1) (As := [.int x1]) lvT_100 oT_100 rfl (liftNow (Q := (fun v lc' s' => ∃ r, K r ∧ v = some (.long r) ∧ lc' = lc ∧ s' = s)) (mW_borneBy l D dA (aT0 lc s) true (nT0 lc) s.1 x1 (Q := fun v lc' w => lc' = nT0 lc ∧ (fun v lc' s' => ∃ r, K r ∧ v = some (.long r) ∧ lc' = lc ∧ s' = s) v lc (w, s.2)) (h.mono (fun r hr => ⟨rfl, r, hr, rfl, rfl, rfl⟩)))) (lw_V q1363 q1364 q1365 q128 q1366) (by decide +kernel) rfl hR hW hf d rfl (fun v lc' s' q => by obtain ⟨r, hr, e1, e2, e3⟩ := q; rw [e1, e2, e3]; exact kk r hr)
theorem gT_X1_305_100 {l : Launch} {D : va_G} {dA : Nat → ClassId} {A : Nat → Prop} {pz : Nat} {lc : Nat → Nat → Nat} {s : tt_S3} {cc : ByteArray} {nl : Nat} {rt : Option FieldType} {rm : Room} {tn : tt_Tn} {Q : tt_Fin} {pc : Nat} {lv : List (Nat × Value)} {rest : List Value} {ck cn : Nat} (d : decode cc pc = .ok (.getfield 305, 3)) (kk : tt_V (XT l D dA A pz) cc (RX1, nl, rt, rm, tn) Q (pc + 3) lv (.ref (lc 124 0) :: rest) lc s ck cn) : tt_V (XT l D dA A pz) cc (RX1, nl, rt, rm, tn) Q pc lv (.ref (lc 100 0) :: rest) lc s ck cn := v_getN (p := 4) knT lvT_100 oT_100 rfl in_X2 (by decide) q735 (.inl rfl) rfl d kk
theorem lvT_124 {l : Launch} {D : va_G} {dA : Nat → ClassId} {A : Nat → Prop} {pz : Nat} {s : tt_S3} : xV (XT l D dA A pz) s 124 0 := by rw [show (124 : Nat) = 100 + 24 from rfl, lvT_now (by decide)]; exact rfl
theorem aT_124 {l : Launch} {D : va_G} {dA : Nat → ClassId} {A : Nat → Prop} {pz : Nat} {lc : Nat → Nat → Nat} {s : tt_S3} : tt_ent (XT l D dA A pz) lc s 124 0 = .inl (dA 0, 10, .inl (rdI s.1 24 0)) := eT_now (kd := 24) (by decide)
theorem lT_124 {l : Launch} {D : va_G} {dA : Nat → ClassId} {A : Nat → Prop} {pz : Nat} {lc : Nat → Nat → Nat} {s : tt_S3} {cc : ByteArray} {Y : tt_Y} {Q : tt_Fin} {pc : Nat} {lv : List (Nat × Value)} {rest : List Value} {ck cn : Nat} {j : Int32} (g : inB j 10 = true) (d : decode cc pc = .ok (.iaload, 1)) (kk : tt_V (XT l D dA A pz) cc Y Q (pc + 1) lv (.int (rdI s.1 24 0 j.toNatClampNeg) :: rest) lc s ck cn) : tt_V (XT l D dA A pz) cc Y Q pc lv (.int j :: .ref (lc 124 0) :: rest) lc s ck cn := v_iald (t := 0) lvT_124 aT_124 rfl g d kk
theorem nT_124 {l : Launch} {D : va_G} {dA : Nat → ClassId} {A : Nat → Prop} {pz : Nat} {lc : Nat → Nat → Nat} {s : tt_S3} {cc : ByteArray} {Y : tt_Y} {Q : tt_Fin} {pc : Nat} {lv : List (Nat × Value)} {rest : List Value} {ck cn : Nat} (d : decode cc pc = .ok (.arraylength, 1)) (kk : tt_V (XT l D dA A pz) cc Y Q (pc + 1) lv (.int 10 :: rest) lc s ck cn) : tt_V (XT l D dA A pz) cc Y Q pc lv (.ref (lc 124 0) :: rest) lc s ck cn := v_alen (t := 0) lvT_124 aT_124 rfl rfl d kk
theorem gT_X1_308_100 {l : Launch} {D : va_G} {dA : Nat → ClassId} {A : Nat → Prop} {pz : Nat} {lc : Nat → Nat → Nat} {s : tt_S3} {cc : ByteArray} {nl : Nat} {rt : Option FieldType} {rm : Room} {tn : tt_Tn} {Q : tt_Fin} {pc : Nat} {lv : List (Nat × Value)} {rest : List Value} {ck cn : Nat} (d : decode cc pc = .ok (.getfield 308, 3)) (kk : tt_V (XT l D dA A pz) cc (RX1, nl, rt, rm, tn) Q (pc + 3) lv (.ref (lc 125 0) :: rest) lc s ck cn) : tt_V (XT l D dA A pz) cc (RX1, nl, rt, rm, tn) Q pc lv (.ref (lc 100 0) :: rest) lc s ck cn := v_getN (p := 5) knT lvT_100 oT_100 rfl in_X2 (by decide) q737 (.inl rfl) rfl d kk
theorem lvT_125 {l : Launch} {D : va_G} {dA : Nat → ClassId} {A : Nat → Prop} {pz : Nat} {s : tt_S3} : xV (XT l D dA A pz) s 125 0 := by rw [show (125 : Nat) = 100 + 25 from rfl, lvT_now (by decide)]; exact rfl
theorem aT_125 {l : Launch} {D : va_G} {dA : Nat → ClassId} {A : Nat → Prop} {pz : Nat} {lc : Nat → Nat → Nat} {s : tt_S3} : tt_ent (XT l D dA A pz) lc s 125 0 = .inl (dA 1, 10, .inr (.inl (rdL s.1 25 0))) := eT_now (kd := 25) (by decide)
theorem lT_125 {l : Launch} {D : va_G} {dA : Nat → ClassId} {A : Nat → Prop} {pz : Nat} {lc : Nat → Nat → Nat} {s : tt_S3} {cc : ByteArray} {Y : tt_Y} {Q : tt_Fin} {pc : Nat} {lv : List (Nat × Value)} {rest : List Value} {ck cn : Nat} {j : Int32} (g : inB j 10 = true) (d : decode cc pc = .ok (.laload, 1)) (kk : tt_V (XT l D dA A pz) cc Y Q (pc + 1) lv (.long (rdL s.1 25 0 j.toNatClampNeg) :: rest) lc s ck cn) : tt_V (XT l D dA A pz) cc Y Q pc lv (.int j :: .ref (lc 125 0) :: rest) lc s ck cn := v_lald (t := 1) lvT_125 aT_125 rfl g d kk
theorem nT_125 {l : Launch} {D : va_G} {dA : Nat → ClassId} {A : Nat → Prop} {pz : Nat} {lc : Nat → Nat → Nat} {s : tt_S3} {cc : ByteArray} {Y : tt_Y} {Q : tt_Fin} {pc : Nat} {lv : List (Nat × Value)} {rest : List Value} {ck cn : Nat} (d : decode cc pc = .ok (.arraylength, 1)) (kk : tt_V (XT l D dA A pz) cc Y Q (pc + 1) lv (.int 10 :: rest) lc s ck cn) : tt_V (XT l D dA A pz) cc Y Q pc lv (.ref (lc 125 0) :: rest) lc s ck cn := v_alen (t := 1) lvT_125 aT_125 rfl rfl d kk
theorem cT_311_102 {l : Launch} {D : va_G} {dA : Nat → ClassId} {A : Nat → Prop} {pz : Nat} {lc : Nat → Nat → Nat} {s : tt_S3} {cc : ByteArray} {nl : Nat} {rt : Option FieldType} {rm : Room} {tn : tt_Tn} {Q : tt_Fin} {pc : Nat} {lv : List (Nat × Value)} {rest : List Value} {ck cn : Nat} {x0 : Nat} {x1 : Int32} (hx0 : x0 < 40) {K : Int32 → Prop} (h : Ok (fY_tenthsOf s.1 x0 x1) K) (hR : 0 + 1 ≤ rm.frames ∧ 8 + (3 + 11) + 0 ≤ rm.locals) (hW : (rest.map fun v => v.category).sum ≤ 8) (d : decode cc pc = .ok (.invokevirtual 311, 3)) (kk : ∀ r, K r → tt_V (XT l D dA A pz) cc (RX1, nl, rt, rm, tn) Q (pc + 3) lv (.int r :: rest) lc s (ck + 0) (cn + 0)) (hf : ck + 0 ≤ rm.cells ∧ cn + 0 ≤ rm.slots) : tt_V (XT l D dA A pz) cc (RX1, nl, rt, rm, tn) Q pc lv (.int x1 :: .ref (lc 102 x0) :: rest) lc s ck cn :=
  v_callV (kd := 102) (i := x0) (nA := 1) (As := [.int x1]) (lvT_102 hx0) oT_102 rfl (liftNow (Q := (fun v lc' s' => ∃ r, K r ∧ v = some (.int r) ∧ lc' = lc ∧ s' = s)) (mY_tenthsOf l D dA (aT0 lc s) true (nT0 lc) s.1 x0 x1 hx0 (Q := fun v lc' w => lc' = nT0 lc ∧ (fun v lc' s' => ∃ r, K r ∧ v = some (.int r) ∧ lc' = lc ∧ s' = s) v lc (w, s.2)) (h.mono (fun r hr => ⟨rfl, r, hr, rfl, rfl, rfl⟩)))) (lw_V q1368 q1056 q1057 q139 q1058) (by decide +kernel) rfl hR hW hf d rfl (fun v lc' s' q => by obtain ⟨r, hr, e1, e2, e3⟩ := q; rw [e1, e2, e3]; exact kk r hr)
def fT_insurer_L67 (x1 : Int32) (r2 : tt_S3) (a8 : Int64 × Int32) : Option ((Int64 × Int32) ⊕ (Int64 × Int32)) :=
  if (10 : Int32) ≤ a8.2 then some (.inr (a8.1, a8.2)) else if x1 = 0 then if inB a8.2 10 then nm (a8.1 + (rdL r2.1 25 0 a8.2.toNatClampNeg)) fun v13 => some (.inl (v13, (a8.2 + 1 : Int32))) else none else if a8.2 = x1 then if inB a8.2 10 then nm (a8.1 + (rdL r2.1 25 0 a8.2.toNatClampNeg)) fun v17 => some (.inl (v17, (a8.2 + 1 : Int32))) else none else nm (a8.1 + (0 : Int64)) fun v15 => some (.inl (v15, (a8.2 + 1 : Int32)))
def fT_insurer_L112 (x1 : Int32) (r2 : tt_S3) (a19 : Int64 × Int32) : Option ((Int64 × Int32) ⊕ (Int64 × Int32)) :=
  if (rdI r2.1 0 0 21) ≤ a19.2 then some (.inr (a19.1, a19.2)) else if inB a19.2 40 then (fY_tenthsOf r2.1 a19.2.toNatClampNeg x1).bind fun r23 => if r23 ≤ 0 then nm (a19.1 + (0 : Int64)) fun v25 => some (.inl (v25, (a19.2 + 1 : Int32))) else nm (a19.1 + (1 : Int64)) fun v26 => some (.inl (v26, (a19.2 + 1 : Int32))) else none
def fT_insurer_L160 (x1 : Int32) (r2 : tt_S3) (a27 : Int64 × Int32) : Option ((Int64 × Int32) ⊕ (Int64 × Int32)) :=
  if (rdI r2.1 0 0 21) ≤ a27.2 then some (.inr (a27.1, a27.2)) else if inB a27.2 40 then (fY_left r2.1 a27.2.toNatClampNeg).bind fun r31 => (fY_tenthsOf r2.1 a27.2.toNatClampNeg x1).bind fun r32 => nm (a27.1 + ((r31 * r32.toInt64) / (10 : Int64))) fun v33 => some (.inl (v33, (a27.2 + 1 : Int32))) else none
def fT_insurer (s : tt_S3) (x1 : Int32) (x2 : Int32) : Option ((Int64 × tt_S3) ⊕ (Nat × tt_S3)) :=
  (fT_insurerOf s x1).bind fun q_r1 => orThrow q_r1 fun r1 => (fT_within r1 x2 (0 : Int32) (4 : Int32)).bind fun q_r2 => orThrow q_r2 fun r2 => if x2 = 0 then (fW_borneBy r2.1 x1).bind fun r4 => some (.inl (r4, r2)) else if x2 = 1 then if inB x1 10 then some (.inl ((rdI r2.1 24 0 x1.toNatClampNeg).toInt64, r2)) else none else if x2 = 2 then (itr (fT_insurer_L67 x1 r2) tt_fuel ((0 : Int64), (1 : Int32))).bind fun b9 => some (.inl (b9.1, r2)) else if x2 = 3 then (itr (fT_insurer_L112 x1 r2) tt_fuel ((0 : Int64), (0 : Int32))).bind fun b20 => some (.inl (b20.1, r2)) else (itr (fT_insurer_L160 x1 r2) tt_fuel ((0 : Int64), (0 : Int32))).bind fun b28 => some (.inl (b28.1, r2))
abbrev rmT_insurer : Room := { frames := 9, cells := 2, slots := 12, locals := 161 }
set_option maxHeartbeats 4000000 in
theorem mT_insurer (l : Launch) (D : va_G) (dA : Nat → ClassId) (A : Nat → Prop) (pz : Nat) (hl9 : l.stackTraces = false) (lc : Nat → Nat → Nat) (s : tt_S3) (x1 : Int32) (x2 : Int32) {Q : Option Value → (Nat → Nat → Nat) → tt_S3 → Prop} {QX : String → (Nat → Nat → Nat) → tt_S3 → Prop} (h : Ok (fT_insurer s x1 x2) (fun q => Sum.casesOn (motive := fun _ => Prop) q (fun r => Q (some (.long r.1)) lc r.2) (fun e => QX (tt_exn e.1) lc e.2))) : tt_SpX (XT l D dA A pz) yX1_insurer cX1_insurer 6 (some .long) rmT_insurer [.ref (lc 0 0), .int x1, .int x2] lc s Q QX := by
  refine tt_SpX.ofV plX1 kokT (Nat.le_of_ble_eq_true rfl) ?_
  show tt_V (XT l D dA A pz) cX1_insurer (RX1, 6, (some .long), rmT_insurer, tt_ne) (tt_fx (XT l D dA A pz) (RX1, 6, (some .long), rmT_insurer, tt_ne) Q QX) 0 [(0, .ref (lc 0 0)), (1, .int x1), (2, .int x2)] [] lc s 0 0
  unfold fT_insurer at h
  refine v_aload_n 0 dX1_insurer_0 rfl ?_
  refine v_iload_n 1 dX1_insurer_1 rfl ?_
  refine cT_121_0 (Ok.throws h) hl9 (fun _ _ _ h => h) (fun _ h => h) ⟨Nat.le_of_ble_eq_true rfl, Nat.le_of_ble_eq_true rfl⟩ (Nat.le_of_ble_eq_true rfl) dX1_insurer_2 (fun r1 h => ?_) ⟨Nat.le_of_ble_eq_true rfl, Nat.le_of_ble_eq_true rfl⟩
  refine v_aload_n 0 dX1_insurer_5 rfl ?_
  refine v_iload_n 2 dX1_insurer_6 rfl ?_
  refine v_iconst dX1_insurer_7 ic_0 ?_
  refine v_iconst dX1_insurer_8 ic_4 ?_
  refine cT_80_0 (Ok.throws h) hl9 (fun _ _ _ h => h) (fun _ h => h) ⟨Nat.le_of_ble_eq_true rfl, Nat.le_of_ble_eq_true rfl⟩ (Nat.le_of_ble_eq_true rfl) dX1_insurer_9 (fun r2 h => ?_) ⟨Nat.le_of_ble_eq_true rfl, Nat.le_of_ble_eq_true rfl⟩
  refine v_lconst dX1_insurer_12 kl_0 ?_
  refine v_lstore_n [(3, .long (0 : Int64)), (0, .ref (lc 0 0)), (1, .int x1), (2, .int x2)] dX1_insurer_13 (Nat.le_of_ble_eq_true rfl) rfl ?_
  refine v_iload_n 3 dX1_insurer_14 rfl ?_
  rcases Decidable.em (x2 = 0) with c3 | c3
  · have h := Ok.pos h c3
    refine v_tableIn (v := 0) (tgt := 44) dX1_insurer_15 c3 (by decide) (by decide) rfl rfl ?_
    refine v_aload_n 1 dX1_insurer_44 rfl ?_
    refine gT_X1_10_0 dX1_insurer_45 ?_
    refine v_iload_n 2 dX1_insurer_48 rfl ?_
    refine cT_302_100 (Ok.bind h) ⟨Nat.le_of_ble_eq_true rfl, Nat.le_of_ble_eq_true rfl⟩ (Nat.le_of_ble_eq_true rfl) dX1_insurer_49 (fun r4 h => ?_) ⟨Nat.le_of_ble_eq_true rfl, Nat.le_of_ble_eq_true rfl⟩
    have h := Ok.ret h
    exact v_retX (v_lret rfl (Nat.le_of_ble_eq_true rfl) (Nat.le_of_ble_eq_true rfl) dX1_insurer_52 h)
  · have h := Ok.neg h c3
    rcases Decidable.em (x2 = 1) with c5 | c5
    · have h := Ok.pos h c5
      refine v_tableIn (v := 1) (tgt := 53) dX1_insurer_15 c5 (by decide) (by decide) rfl rfl ?_
      refine v_aload_n 1 dX1_insurer_53 rfl ?_
      refine gT_X1_10_0 dX1_insurer_54 ?_
      refine gT_X1_305_100 dX1_insurer_57 ?_
      refine v_iload_n 2 dX1_insurer_60 rfl ?_
      obtain ⟨g6, h⟩ := Ok.guard h
      refine lT_124 g6 dX1_insurer_61 ?_
      refine v_i2l dX1_insurer_62 rfl ?_
      have h := Ok.ret h
      exact v_retX (v_lret rfl (Nat.le_of_ble_eq_true rfl) (Nat.le_of_ble_eq_true rfl) dX1_insurer_63 h)
    · have h := Ok.neg h c5
      rcases Decidable.em (x2 = 2) with c7 | c7
      · have h := Ok.pos h c7
        refine v_tableIn (v := 2) (tgt := 64) dX1_insurer_15 c7 (by decide) (by decide) rfl rfl ?_
        refine v_iconst dX1_insurer_64 ic_1 ?_
        refine v_istore [(5, .int (1 : Int32)), (3, .long (0 : Int64)), (0, .ref (lc 0 0)), (1, .int x1), (2, .int x2)] dX1_insurer_65 (Nat.le_of_ble_eq_true rfl) rfl ?_
        refine v_sub [2, 3, 1, 0] rfl ?_
        refine itr_loop (P := fun a8 : Int64 × Int32 => tt_V (XT l D dA A pz) cX1_insurer (RX1, 6, (some .long), rmT_insurer, tt_ne) (tt_fx (XT l D dA A pz) (RX1, 6, (some .long), rmT_insurer, tt_ne) Q QX) 67 [(0, .ref (lc 0 0)), (1, .int x1), (3, .long a8.1), (5, .int a8.2)] [] lc r2 2 12) (PE := fun b9 : Int64 × Int32 => tt_V (XT l D dA A pz) cX1_insurer (RX1, 6, (some .long), rmT_insurer, tt_ne) (tt_fx (XT l D dA A pz) (RX1, 6, (some .long), rmT_insurer, tt_ne) Q QX) 107 [(0, .ref (lc 0 0)), (1, .int x1), (3, .long b9.1), (5, .int b9.2)] [] lc r2 2 12) h (fun b9 h => ?_) (fun a8 h => ?_)
        · refine v_lload_n 2 dX1_insurer_107 rfl ?_
          have h := Ok.ret h
          exact v_retX (v_lret rfl (Nat.le_of_ble_eq_true rfl) (Nat.le_of_ble_eq_true rfl) dX1_insurer_108 h)
        · have h : Ok (fT_insurer_L67 x1 r2 a8) _ := h
          unfold fT_insurer_L67 at h
          refine v_iload 3 dX1_insurer_67 rfl ?_
          refine v_bipush dX1_insurer_69 kb_10 ?_
          refine v_icmp_ge (tgt := 107) dX1_insurer_71 rfl (fun c10 => ?_) (fun c10 => ?_)
          · have h := Ok.pos h c10
            have h := Ok.ret h
            exact h
          · have h := Ok.neg h c10
            refine v_lload_n 2 dX1_insurer_74 rfl ?_
            refine v_iload_n 1 dX1_insurer_75 rfl ?_
            refine v_if_eq (tgt := 85) dX1_insurer_76 rfl (fun c11 => ?_) (fun c11 => ?_)
            · have h := Ok.pos h c11
              refine v_aload_n 0 dX1_insurer_85 rfl ?_
              refine gT_X1_10_0 dX1_insurer_86 ?_
              refine gT_X1_308_100 dX1_insurer_89 ?_
              refine v_iload 3 dX1_insurer_92 rfl ?_
              obtain ⟨g12, h⟩ := Ok.guard h
              refine lT_125 g12 dX1_insurer_94 ?_
              refine v_goto (tgt := 99) dX1_insurer_95 rfl ?_
              refine v_ladd dX1_insurer_99 ?_
              refine v_nmL (fun v13 e_v13 => ?_)
              have h := Ok.nm h e_v13
              refine v_lstore_n [(3, .long v13), (0, .ref (lc 0 0)), (1, .int x1), (5, .int a8.2)] dX1_insurer_100 (Nat.le_of_ble_eq_true rfl) rfl ?_
              refine v_iinc (v := (a8.2 + 1 : Int32)) 3 [(5, .int (a8.2 + 1 : Int32)), (3, .long v13), (0, .ref (lc 0 0)), (1, .int x1)] dX1_insurer_101 rfl (by rw [ic_1]) (Nat.le_of_ble_eq_true rfl) rfl ?_
              refine v_goto (tgt := 67) dX1_insurer_104 rfl ?_
              refine v_sub [2, 3, 1, 0] rfl ?_
              have h := Ok.ret h
              exact h
            · have h := Ok.neg h c11
              refine v_iload 3 dX1_insurer_79 rfl ?_
              refine v_iload_n 1 dX1_insurer_81 rfl ?_
              refine v_icmp_ne (tgt := 98) dX1_insurer_82 rfl (fun c14 => ?_) (fun c14 => ?_)
              · have h := Ok.neg h c14
                refine v_lconst dX1_insurer_98 kl_0 ?_
                refine v_ladd dX1_insurer_99 ?_
                refine v_nmL (fun v15 e_v15 => ?_)
                have h := Ok.nm h e_v15
                refine v_lstore_n [(3, .long v15), (0, .ref (lc 0 0)), (1, .int x1), (5, .int a8.2)] dX1_insurer_100 (Nat.le_of_ble_eq_true rfl) rfl ?_
                refine v_iinc (v := (a8.2 + 1 : Int32)) 3 [(5, .int (a8.2 + 1 : Int32)), (3, .long v15), (0, .ref (lc 0 0)), (1, .int x1)] dX1_insurer_101 rfl (by rw [ic_1]) (Nat.le_of_ble_eq_true rfl) rfl ?_
                refine v_goto (tgt := 67) dX1_insurer_104 rfl ?_
                refine v_sub [2, 3, 1, 0] rfl ?_
                have h := Ok.ret h
                exact h
              · have h := Ok.pos h c14
                refine v_aload_n 0 dX1_insurer_85 rfl ?_
                refine gT_X1_10_0 dX1_insurer_86 ?_
                refine gT_X1_308_100 dX1_insurer_89 ?_
                refine v_iload 3 dX1_insurer_92 rfl ?_
                obtain ⟨g16, h⟩ := Ok.guard h
                refine lT_125 g16 dX1_insurer_94 ?_
                refine v_goto (tgt := 99) dX1_insurer_95 rfl ?_
                refine v_ladd dX1_insurer_99 ?_
                refine v_nmL (fun v17 e_v17 => ?_)
                have h := Ok.nm h e_v17
                refine v_lstore_n [(3, .long v17), (0, .ref (lc 0 0)), (1, .int x1), (5, .int a8.2)] dX1_insurer_100 (Nat.le_of_ble_eq_true rfl) rfl ?_
                refine v_iinc (v := (a8.2 + 1 : Int32)) 3 [(5, .int (a8.2 + 1 : Int32)), (3, .long v17), (0, .ref (lc 0 0)), (1, .int x1)] dX1_insurer_101 rfl (by rw [ic_1]) (Nat.le_of_ble_eq_true rfl) rfl ?_
                refine v_goto (tgt := 67) dX1_insurer_104 rfl ?_
                refine v_sub [2, 3, 1, 0] rfl ?_
                have h := Ok.ret h
                exact h
      · have h := Ok.neg h c7
        rcases Decidable.em (x2 = 3) with c18 | c18
        · have h := Ok.pos h c18
          refine v_tableIn (v := 3) (tgt := 109) dX1_insurer_15 c18 (by decide) (by decide) rfl rfl ?_
          refine v_iconst dX1_insurer_109 ic_0 ?_
          refine v_istore [(5, .int (0 : Int32)), (3, .long (0 : Int64)), (0, .ref (lc 0 0)), (1, .int x1), (2, .int x2)] dX1_insurer_110 (Nat.le_of_ble_eq_true rfl) rfl ?_
          refine v_sub [2, 3, 1, 0] rfl ?_
          refine itr_loop (P := fun a19 : Int64 × Int32 => tt_V (XT l D dA A pz) cX1_insurer (RX1, 6, (some .long), rmT_insurer, tt_ne) (tt_fx (XT l D dA A pz) (RX1, 6, (some .long), rmT_insurer, tt_ne) Q QX) 112 [(0, .ref (lc 0 0)), (1, .int x1), (3, .long a19.1), (5, .int a19.2)] [] lc r2 2 12) (PE := fun b20 : Int64 × Int32 => tt_V (XT l D dA A pz) cX1_insurer (RX1, 6, (some .long), rmT_insurer, tt_ne) (tt_fx (XT l D dA A pz) (RX1, 6, (some .long), rmT_insurer, tt_ne) Q QX) 155 [(0, .ref (lc 0 0)), (1, .int x1), (3, .long b20.1), (5, .int b20.2)] [] lc r2 2 12) h (fun b20 h => ?_) (fun a19 h => ?_)
          · refine v_lload_n 2 dX1_insurer_155 rfl ?_
            have h := Ok.ret h
            exact v_retX (v_lret rfl (Nat.le_of_ble_eq_true rfl) (Nat.le_of_ble_eq_true rfl) dX1_insurer_156 h)
          · have h : Ok (fT_insurer_L112 x1 r2 a19) _ := h
            unfold fT_insurer_L112 at h
            refine v_iload 3 dX1_insurer_112 rfl ?_
            refine v_aload_n 0 dX1_insurer_114 rfl ?_
            refine gT_X1_10_0 dX1_insurer_115 ?_
            refine gT_X1_58_100 dX1_insurer_118 ?_
            refine v_icmp_ge (tgt := 155) dX1_insurer_121 rfl (fun c21 => ?_) (fun c21 => ?_)
            · have h := Ok.pos h c21
              have h := Ok.ret h
              exact h
            · have h := Ok.neg h c21
              refine v_lload_n 2 dX1_insurer_124 rfl ?_
              refine v_aload_n 0 dX1_insurer_125 rfl ?_
              refine gT_X1_10_0 dX1_insurer_126 ?_
              refine gT_X1_66_100 dX1_insurer_129 ?_
              refine v_iload 3 dX1_insurer_132 rfl ?_
              obtain ⟨g22, h⟩ := Ok.guard h
              refine lT_101 g22 dX1_insurer_134 ?_
              refine v_iload_n 1 dX1_insurer_135 rfl ?_
              refine cT_311_102 (inB_lt g22) (Ok.bind h) ⟨Nat.le_of_ble_eq_true rfl, Nat.le_of_ble_eq_true rfl⟩ (Nat.le_of_ble_eq_true rfl) dX1_insurer_136 (fun r23 h => ?_) ⟨Nat.le_of_ble_eq_true rfl, Nat.le_of_ble_eq_true rfl⟩
              refine v_if_le (tgt := 146) dX1_insurer_139 rfl (fun c24 => ?_) (fun c24 => ?_)
              · have h := Ok.pos h c24
                refine v_lconst dX1_insurer_146 kl_0 ?_
                refine v_ladd dX1_insurer_147 ?_
                refine v_nmL (fun v25 e_v25 => ?_)
                have h := Ok.nm h e_v25
                refine v_lstore_n [(3, .long v25), (0, .ref (lc 0 0)), (1, .int x1), (5, .int a19.2)] dX1_insurer_148 (Nat.le_of_ble_eq_true rfl) rfl ?_
                refine v_iinc (v := (a19.2 + 1 : Int32)) 3 [(5, .int (a19.2 + 1 : Int32)), (3, .long v25), (0, .ref (lc 0 0)), (1, .int x1)] dX1_insurer_149 rfl (by rw [ic_1]) (Nat.le_of_ble_eq_true rfl) rfl ?_
                refine v_goto (tgt := 112) dX1_insurer_152 rfl ?_
                refine v_sub [2, 3, 1, 0] rfl ?_
                have h := Ok.ret h
                exact h
              · have h := Ok.neg h c24
                refine v_lconst dX1_insurer_142 kl_1 ?_
                refine v_goto (tgt := 147) dX1_insurer_143 rfl ?_
                refine v_ladd dX1_insurer_147 ?_
                refine v_nmL (fun v26 e_v26 => ?_)
                have h := Ok.nm h e_v26
                refine v_lstore_n [(3, .long v26), (0, .ref (lc 0 0)), (1, .int x1), (5, .int a19.2)] dX1_insurer_148 (Nat.le_of_ble_eq_true rfl) rfl ?_
                refine v_iinc (v := (a19.2 + 1 : Int32)) 3 [(5, .int (a19.2 + 1 : Int32)), (3, .long v26), (0, .ref (lc 0 0)), (1, .int x1)] dX1_insurer_149 rfl (by rw [ic_1]) (Nat.le_of_ble_eq_true rfl) rfl ?_
                refine v_goto (tgt := 112) dX1_insurer_152 rfl ?_
                refine v_sub [2, 3, 1, 0] rfl ?_
                have h := Ok.ret h
                exact h
        · have h := Ok.neg h c18
          have a_c3 : x2.toInt ≠ 0 := fun q => c3 (Int32.toInt_inj.mp (q.trans (by decide)))
          have a_c5 : x2.toInt ≠ 1 := fun q => c5 (Int32.toInt_inj.mp (q.trans (by decide)))
          have a_c7 : x2.toInt ≠ 2 := fun q => c7 (Int32.toInt_inj.mp (q.trans (by decide)))
          have a_c18 : x2.toInt ≠ 3 := fun q => c18 (Int32.toInt_inj.mp (q.trans (by decide)))
          refine v_tableOut (tgt := 157) dX1_insurer_15 (by omega) rfl ?_
          refine v_iconst dX1_insurer_157 ic_0 ?_
          refine v_istore [(5, .int (0 : Int32)), (3, .long (0 : Int64)), (0, .ref (lc 0 0)), (1, .int x1), (2, .int x2)] dX1_insurer_158 (Nat.le_of_ble_eq_true rfl) rfl ?_
          refine v_sub [2, 3, 1, 0] rfl ?_
          refine itr_loop (P := fun a27 : Int64 × Int32 => tt_V (XT l D dA A pz) cX1_insurer (RX1, 6, (some .long), rmT_insurer, tt_ne) (tt_fx (XT l D dA A pz) (RX1, 6, (some .long), rmT_insurer, tt_ne) Q QX) 160 [(0, .ref (lc 0 0)), (1, .int x1), (3, .long a27.1), (5, .int a27.2)] [] lc r2 2 12) (PE := fun b28 : Int64 × Int32 => tt_V (XT l D dA A pz) cX1_insurer (RX1, 6, (some .long), rmT_insurer, tt_ne) (tt_fx (XT l D dA A pz) (RX1, 6, (some .long), rmT_insurer, tt_ne) Q QX) 214 [(0, .ref (lc 0 0)), (1, .int x1), (3, .long b28.1), (5, .int b28.2)] [] lc r2 2 12) h (fun b28 h => ?_) (fun a27 h => ?_)
          · refine v_lload_n 2 dX1_insurer_214 rfl ?_
            have h := Ok.ret h
            exact v_retX (v_lret rfl (Nat.le_of_ble_eq_true rfl) (Nat.le_of_ble_eq_true rfl) dX1_insurer_215 h)
          · have h : Ok (fT_insurer_L160 x1 r2 a27) _ := h
            unfold fT_insurer_L160 at h
            refine v_iload 3 dX1_insurer_160 rfl ?_
            refine v_aload_n 0 dX1_insurer_162 rfl ?_
            refine gT_X1_10_0 dX1_insurer_163 ?_
            refine gT_X1_58_100 dX1_insurer_166 ?_
            refine v_icmp_ge (tgt := 214) dX1_insurer_169 rfl (fun c29 => ?_) (fun c29 => ?_)
            · have h := Ok.pos h c29
              have h := Ok.ret h
              exact h
            · have h := Ok.neg h c29
              refine v_lload_n 2 dX1_insurer_172 rfl ?_
              refine v_aload_n 0 dX1_insurer_173 rfl ?_
              refine gT_X1_10_0 dX1_insurer_174 ?_
              refine gT_X1_66_100 dX1_insurer_177 ?_
              refine v_iload 3 dX1_insurer_180 rfl ?_
              obtain ⟨g30, h⟩ := Ok.guard h
              refine lT_101 g30 dX1_insurer_182 ?_
              refine cT_220_102 (inB_lt g30) (Ok.bind h) ⟨Nat.le_of_ble_eq_true rfl, Nat.le_of_ble_eq_true rfl⟩ (Nat.le_of_ble_eq_true rfl) dX1_insurer_183 (fun r31 h => ?_) ⟨Nat.le_of_ble_eq_true rfl, Nat.le_of_ble_eq_true rfl⟩
              refine v_aload_n 0 dX1_insurer_186 rfl ?_
              refine gT_X1_10_0 dX1_insurer_187 ?_
              refine gT_X1_66_100 dX1_insurer_190 ?_
              refine v_iload 3 dX1_insurer_193 rfl ?_
              refine lT_101 g30 dX1_insurer_195 ?_
              refine v_iload_n 1 dX1_insurer_196 rfl ?_
              refine cT_311_102 (inB_lt g30) (Ok.bind h) ⟨Nat.le_of_ble_eq_true rfl, Nat.le_of_ble_eq_true rfl⟩ (Nat.le_of_ble_eq_true rfl) dX1_insurer_197 (fun r32 h => ?_) ⟨Nat.le_of_ble_eq_true rfl, Nat.le_of_ble_eq_true rfl⟩
              refine v_i2l dX1_insurer_200 rfl ?_
              refine v_lmul dX1_insurer_201 ?_
              refine v_ldc2 dX1_insurer_202 q1369 ?_
              refine v_ldiv dX1_insurer_205 (by decide) ?_
              refine v_ladd dX1_insurer_206 ?_
              refine v_nmL (fun v33 e_v33 => ?_)
              have h := Ok.nm h e_v33
              refine v_lstore_n [(3, .long v33), (0, .ref (lc 0 0)), (1, .int x1), (5, .int a27.2)] dX1_insurer_207 (Nat.le_of_ble_eq_true rfl) rfl ?_
              refine v_iinc (v := (a27.2 + 1 : Int32)) 3 [(5, .int (a27.2 + 1 : Int32)), (3, .long v33), (0, .ref (lc 0 0)), (1, .int x1)] dX1_insurer_208 rfl (by rw [ic_1]) (Nat.le_of_ble_eq_true rfl) rfl ?_
              refine v_goto (tgt := 160) dX1_insurer_211 rfl ?_
              refine v_sub [2, 3, 1, 0] rfl ?_
              have h := Ok.ret h
              exact h
def fT_burden_L13 (x1 : Int32) (r1 : tt_S3) (a2 : Int64 × Int32) : Option ((Int64 × Int32) ⊕ (Int64 × Int32)) :=
  if (rdI r1.1 0 0 22) ≤ a2.2 then some (.inr (a2.1, a2.2)) else if inB a2.2 24 then if inB x1 7 then nm (a2.1 + (rdL r1.1 9 a2.2.toNatClampNeg x1.toNatClampNeg)) fun v7 => some (.inl (v7, (a2.2 + 1 : Int32))) else none else none
def fT_burden (s : tt_S3) (x1 : Int32) : Option ((Int64 × tt_S3) ⊕ (Nat × tt_S3)) :=
  (fT_within s x1 (0 : Int32) (6 : Int32)).bind fun q_r1 => orThrow q_r1 fun r1 => (itr (fT_burden_L13 x1 r1) tt_fuel ((0 : Int64), (0 : Int32))).bind fun b3 => some (.inl (b3.1, r1))
abbrev rmT_burden : Room := { frames := 8, cells := 1, slots := 6, locals := 140 }
set_option maxHeartbeats 4000000 in
theorem mT_burden (l : Launch) (D : va_G) (dA : Nat → ClassId) (A : Nat → Prop) (pz : Nat) (hl9 : l.stackTraces = false) (lc : Nat → Nat → Nat) (s : tt_S3) (x1 : Int32) {Q : Option Value → (Nat → Nat → Nat) → tt_S3 → Prop} {QX : String → (Nat → Nat → Nat) → tt_S3 → Prop} (h : Ok (fT_burden s x1) (fun q => Sum.casesOn (motive := fun _ => Prop) q (fun r => Q (some (.long r.1)) lc r.2) (fun e => QX (tt_exn e.1) lc e.2))) : tt_SpX (XT l D dA A pz) yX1_burden cX1_burden 5 (some .long) rmT_burden [.ref (lc 0 0), .int x1] lc s Q QX := by
  refine tt_SpX.ofV plX1 kokT (Nat.le_of_ble_eq_true rfl) ?_
  show tt_V (XT l D dA A pz) cX1_burden (RX1, 5, (some .long), rmT_burden, tt_ne) (tt_fx (XT l D dA A pz) (RX1, 5, (some .long), rmT_burden, tt_ne) Q QX) 0 [(0, .ref (lc 0 0)), (1, .int x1)] [] lc s 0 0
  unfold fT_burden at h
  refine v_aload_n 0 dX1_burden_0 rfl ?_
  refine v_iload_n 1 dX1_burden_1 rfl ?_
  refine v_iconst dX1_burden_2 ic_0 ?_
  refine v_bipush dX1_burden_3 kb_6 ?_
  refine cT_80_0 (Ok.throws h) hl9 (fun _ _ _ h => h) (fun _ h => h) ⟨Nat.le_of_ble_eq_true rfl, Nat.le_of_ble_eq_true rfl⟩ (Nat.le_of_ble_eq_true rfl) dX1_burden_5 (fun r1 h => ?_) ⟨Nat.le_of_ble_eq_true rfl, Nat.le_of_ble_eq_true rfl⟩
  refine v_lconst dX1_burden_8 kl_0 ?_
  refine v_lstore_n [(2, .long (0 : Int64)), (0, .ref (lc 0 0)), (1, .int x1)] dX1_burden_9 (Nat.le_of_ble_eq_true rfl) rfl ?_
  refine v_iconst dX1_burden_10 ic_0 ?_
  refine v_istore [(4, .int (0 : Int32)), (2, .long (0 : Int64)), (0, .ref (lc 0 0)), (1, .int x1)] dX1_burden_11 (Nat.le_of_ble_eq_true rfl) rfl ?_
  refine v_sub [2, 3, 1, 0] rfl ?_
  refine itr_loop (P := fun a2 : Int64 × Int32 => tt_V (XT l D dA A pz) cX1_burden (RX1, 5, (some .long), rmT_burden, tt_ne) (tt_fx (XT l D dA A pz) (RX1, 5, (some .long), rmT_burden, tt_ne) Q QX) 13 [(0, .ref (lc 0 0)), (1, .int x1), (2, .long a2.1), (4, .int a2.2)] [] lc r1 1 6) (PE := fun b3 : Int64 × Int32 => tt_V (XT l D dA A pz) cX1_burden (RX1, 5, (some .long), rmT_burden, tt_ne) (tt_fx (XT l D dA A pz) (RX1, 5, (some .long), rmT_burden, tt_ne) Q QX) 49 [(0, .ref (lc 0 0)), (1, .int x1), (2, .long b3.1), (4, .int b3.2)] [] lc r1 1 6) h (fun b3 h => ?_) (fun a2 h => ?_)
  · refine v_lload_n 2 dX1_burden_49 rfl ?_
    have h := Ok.ret h
    exact v_retX (v_lret rfl (Nat.le_of_ble_eq_true rfl) (Nat.le_of_ble_eq_true rfl) dX1_burden_50 h)
  · have h : Ok (fT_burden_L13 x1 r1 a2) _ := h
    unfold fT_burden_L13 at h
    refine v_iload 3 dX1_burden_13 rfl ?_
    refine v_aload_n 0 dX1_burden_15 rfl ?_
    refine gT_X1_10_0 dX1_burden_16 ?_
    refine gT_X1_70_100 dX1_burden_19 ?_
    refine v_icmp_ge (tgt := 49) dX1_burden_22 rfl (fun c4 => ?_) (fun c4 => ?_)
    · have h := Ok.pos h c4
      have h := Ok.ret h
      exact h
    · have h := Ok.neg h c4
      refine v_lload_n 2 dX1_burden_25 rfl ?_
      refine v_aload_n 0 dX1_burden_26 rfl ?_
      refine gT_X1_10_0 dX1_burden_27 ?_
      refine gT_X1_73_100 dX1_burden_30 ?_
      refine v_iload 3 dX1_burden_33 rfl ?_
      obtain ⟨g5, h⟩ := Ok.guard h
      refine lT_106 g5 dX1_burden_35 ?_
      refine gT_X1_299_107 (.inl (inB_lt g5)) dX1_burden_36 ?_
      refine v_iload_n 1 dX1_burden_39 rfl ?_
      obtain ⟨g6, h⟩ := Ok.guard h
      refine lT_109 (.inl (.inl (inB_lt g5))) g6 dX1_burden_40 ?_
      refine v_ladd dX1_burden_41 ?_
      refine v_nmL (fun v7 e_v7 => ?_)
      have h := Ok.nm h e_v7
      refine v_lstore_n [(2, .long v7), (0, .ref (lc 0 0)), (1, .int x1), (4, .int a2.2)] dX1_burden_42 (Nat.le_of_ble_eq_true rfl) rfl ?_
      refine v_iinc (v := (a2.2 + 1 : Int32)) 3 [(4, .int (a2.2 + 1 : Int32)), (2, .long v7), (0, .ref (lc 0 0)), (1, .int x1)] dX1_burden_43 rfl (by rw [ic_1]) (Nat.le_of_ble_eq_true rfl) rfl ?_
      refine v_goto (tgt := 13) dX1_burden_46 rfl ?_
      refine v_sub [2, 3, 1, 0] rfl ?_
      have h := Ok.ret h
      exact h
def fT_spanOf (s : tt_S3) (x1 : Int32) (x2 : Int32) (x3 : Int32) : Option ((tt_S3) ⊕ (Nat × tt_S3)) :=
  (fT_yearOf s x1).bind fun q_r1 => orThrow q_r1 fun r1 => (fT_within r1 x2 x1 (11 : Int32)).bind fun q_r2 => orThrow q_r2 fun r2 => (fT_within r2 x3 x2 (11 : Int32)).bind fun q_r3 => orThrow q_r3 fun r3 => some (.inl r3)
abbrev rmT_spanOf : Room := { frames := 9, cells := 3, slots := 18, locals := 161 }
set_option maxHeartbeats 4000000 in
theorem mT_spanOf (l : Launch) (D : va_G) (dA : Nat → ClassId) (A : Nat → Prop) (pz : Nat) (hl9 : l.stackTraces = false) (lc : Nat → Nat → Nat) (s : tt_S3) (x1 : Int32) (x2 : Int32) (x3 : Int32) {Q : Option Value → (Nat → Nat → Nat) → tt_S3 → Prop} {QX : String → (Nat → Nat → Nat) → tt_S3 → Prop} (h : Ok (fT_spanOf s x1 x2 x3) (fun q => Sum.casesOn (motive := fun _ => Prop) q (fun r => Q none lc r) (fun e => QX (tt_exn e.1) lc e.2))) : tt_SpX (XT l D dA A pz) yX1_spanOf cX1_spanOf 4 none rmT_spanOf [.ref (lc 0 0), .int x1, .int x2, .int x3] lc s Q QX := by
  refine tt_SpX.ofV plX1 kokT (Nat.le_of_ble_eq_true rfl) ?_
  show tt_V (XT l D dA A pz) cX1_spanOf (RX1, 4, none, rmT_spanOf, tt_ne) (tt_fx (XT l D dA A pz) (RX1, 4, none, rmT_spanOf, tt_ne) Q QX) 0 [(0, .ref (lc 0 0)), (1, .int x1), (2, .int x2), (3, .int x3)] [] lc s 0 0
  unfold fT_spanOf at h
  refine v_aload_n 0 dX1_spanOf_0 rfl ?_
  refine v_iload_n 1 dX1_spanOf_1 rfl ?_
  refine cT_84_0 (Ok.throws h) hl9 (fun _ _ _ h => h) (fun _ h => h) ⟨Nat.le_of_ble_eq_true rfl, Nat.le_of_ble_eq_true rfl⟩ (Nat.le_of_ble_eq_true rfl) dX1_spanOf_2 (fun r1 h => ?_) ⟨Nat.le_of_ble_eq_true rfl, Nat.le_of_ble_eq_true rfl⟩
  refine v_aload_n 0 dX1_spanOf_5 rfl ?_
  refine v_iload_n 2 dX1_spanOf_6 rfl ?_
  refine v_iload_n 1 dX1_spanOf_7 rfl ?_
  refine v_bipush dX1_spanOf_8 kb_11 ?_
  refine cT_80_0 (Ok.throws h) hl9 (fun _ _ _ h => h) (fun _ h => h) ⟨Nat.le_of_ble_eq_true rfl, Nat.le_of_ble_eq_true rfl⟩ (Nat.le_of_ble_eq_true rfl) dX1_spanOf_10 (fun r2 h => ?_) ⟨Nat.le_of_ble_eq_true rfl, Nat.le_of_ble_eq_true rfl⟩
  refine v_aload_n 0 dX1_spanOf_13 rfl ?_
  refine v_iload_n 3 dX1_spanOf_14 rfl ?_
  refine v_iload_n 2 dX1_spanOf_15 rfl ?_
  refine v_bipush dX1_spanOf_16 kb_11 ?_
  refine cT_80_0 (Ok.throws h) hl9 (fun _ _ _ h => h) (fun _ h => h) ⟨Nat.le_of_ble_eq_true rfl, Nat.le_of_ble_eq_true rfl⟩ (Nat.le_of_ble_eq_true rfl) dX1_spanOf_18 (fun r3 h => ?_) ⟨Nat.le_of_ble_eq_true rfl, Nat.le_of_ble_eq_true rfl⟩
  have h := Ok.ret h
  exact v_retX (v_vret rfl (Nat.le_of_ble_eq_true rfl) (Nat.le_of_ble_eq_true rfl) dX1_spanOf_21 h)
theorem cT_156_0 {l : Launch} {D : va_G} {dA : Nat → ClassId} {A : Nat → Prop} {pz : Nat} {lc : Nat → Nat → Nat} {s : tt_S3} {cc : ByteArray} {nl : Nat} {rt : Option FieldType} {rm : Room} {tn : tt_Tn} {Q : Option Value → (Nat → Nat → Nat) → tt_S3 → Prop} {QX : String → (Nat → Nat → Nat) → tt_S3 → Prop} {pc : Nat} {lv : List (Nat × Value)} {rest : List Value} {ck cn : Nat} {x1 : Int32} {x2 : Int32} {x3 : Int32} {K : tt_S3 → Prop} {K2 : Nat × tt_S3 → Prop} (h : Ok (fT_spanOf s x1 x2 x3) (fun q => Sum.casesOn (motive := fun _ => Prop) q K K2)) (hl9 : l.stackTraces = false) (hTb : ∀ c m s0, tn c m s0 → tt_ne c m s0) (kx : ∀ e : Nat × tt_S3, K2 e → QX (tt_exn e.1) lc e.2) (hR : 9 + 1 ≤ rm.frames ∧ 8 + (4 + 11) + 161 ≤ rm.locals) (hW : (rest.map fun v => v.category).sum ≤ 8) (d : decode cc pc = .ok (.invokevirtual 156, 3)) (kk : ∀ r, K r → tt_V (XT l D dA A pz) cc (RX1, nl, rt, rm, tn) (tt_fx (XT l D dA A pz) (RX1, nl, rt, rm, tn) Q QX) (pc + 3) lv rest lc r (ck + 3) (cn + 18)) (hf : ck + 3 ≤ rm.cells ∧ cn + 18 ≤ rm.slots) : tt_V (XT l D dA A pz) cc (RX1, nl, rt, rm, tn) (tt_fx (XT l D dA A pz) (RX1, nl, rt, rm, tn) Q QX) pc lv (.int x3 :: .int x2 :: .int x1 :: .ref (lc 0 0) :: rest) lc s ck cn :=
  v_callVX (kd := 0) (i := 0) (nA := 3) (As := [.int x1, .int x2, .int x3]) lvT_0 oT_0 rfl (mT_spanOf l D dA A pz hl9 lc s x1 x2 x3 (Q := (fun v lc' s' => ∃ r, K r ∧ v = none ∧ lc' = lc ∧ s' = r)) (QX := fun E lc' s' => ∃ e : Nat × tt_S3, K2 e ∧ E = tt_exn e.1 ∧ lc' = lc ∧ s' = e.2) (h.mono (fun q hq => by cases q with
    | inl r => exact (fun hr => ⟨r, hr, rfl, rfl, rfl⟩) hq
    | inr e => exact ⟨e, hq, rfl, rfl, rfl⟩))) (lw_V q1111 q1113 qs26 q127 q1114) (by decide +kernel) rfl hR hW hf hTb d rfl (fun E lc' s' q => by obtain ⟨e, hq, e1, e2, e3⟩ := q; rw [e1, e2, e3]; exact kx e hq) (fun v lc' s' q => by obtain ⟨r, hr, e1, e2, e3⟩ := q; rw [e1, e2, e3]; exact kk r hr)
theorem gT_X1_22_0 {l : Launch} {D : va_G} {dA : Nat → ClassId} {A : Nat → Prop} {pz : Nat} {lc : Nat → Nat → Nat} {s : tt_S3} {cc : ByteArray} {nl : Nat} {rt : Option FieldType} {rm : Room} {tn : tt_Tn} {Q : tt_Fin} {pc : Nat} {lv : List (Nat × Value)} {rest : List Value} {ck cn : Nat} (d : decode cc pc = .ok (.getfield 22, 3)) (kk : tt_V (XT l D dA A pz) cc (RX1, nl, rt, rm, tn) Q (pc + 3) lv (.ref (lc 107 24) :: rest) lc s ck cn) : tt_V (XT l D dA A pz) cc (RX1, nl, rt, rm, tn) Q pc lv (.ref (lc 0 0) :: rest) lc s ck cn := v_get (p := 2) lvT_0 oT_0 rfl in_X1 (by decide) q894 (.inl rfl) rfl d kk
theorem cT_334_107 {l : Launch} {D : va_G} {dA : Nat → ClassId} {A : Nat → Prop} {pz : Nat} {lc : Nat → Nat → Nat} {s : tt_S3} {cc : ByteArray} {nl : Nat} {rt : Option FieldType} {rm : Room} {tn : tt_Tn} {Q : tt_Fin} {pc : Nat} {lv : List (Nat × Value)} {rest : List Value} {ck cn : Nat} {x0 : Nat} (hx0 : lvH true x0) {K : tt_St → Prop} (h : Ok (fH_begins s.1 x0) K) (hR : 2 + 1 ≤ rm.frames ∧ 8 + (1 + 11) + 42 ≤ rm.locals) (hW : (rest.map fun v => v.category).sum ≤ 8) (d : decode cc pc = .ok (.invokevirtual 334, 3)) (kk : ∀ r, K r → tt_V (XT l D dA A pz) cc (RX1, nl, rt, rm, tn) Q (pc + 3) lv rest lc (r, s.2) (ck + 0) (cn + 0)) (hf : ck + 0 ≤ rm.cells ∧ cn + 0 ≤ rm.slots) : tt_V (XT l D dA A pz) cc (RX1, nl, rt, rm, tn) Q pc lv (.ref (lc 107 x0) :: rest) lc s ck cn :=
  v_callV (kd := 107) (i := x0) (nA := 0) (As := []) (lvT_107 hx0) oT_107 rfl (liftNow (Q := (fun v lc' s' => ∃ r, K r ∧ v = none ∧ lc' = lc ∧ s' = (r, s.2))) (mH_begins l D dA (aT0 lc s) true (nT0 lc) s.1 x0 hx0 (Q := fun v lc' w => lc' = nT0 lc ∧ (fun v lc' s' => ∃ r, K r ∧ v = none ∧ lc' = lc ∧ s' = (r, s.2)) v lc (w, s.2)) (h.mono (fun r hr => ⟨rfl, r, hr, rfl, rfl, rfl⟩)))) (lw_V q1539 q709 q2459 q140 q710) (by decide +kernel) rfl hR hW hf d rfl (fun v lc' s' q => by obtain ⟨r, hr, e1, e2, e3⟩ := q; rw [e1, e2, e3]; exact kk r hr)
theorem cT_335_107 {l : Launch} {D : va_G} {dA : Nat → ClassId} {A : Nat → Prop} {pz : Nat} {lc : Nat → Nat → Nat} {s : tt_S3} {cc : ByteArray} {nl : Nat} {rt : Option FieldType} {rm : Room} {tn : tt_Tn} {Q : tt_Fin} {pc : Nat} {lv : List (Nat × Value)} {rest : List Value} {ck cn : Nat} {x0 : Nat} {x1 : Int32} {x2 : Int32} {x3 : Int32} (hx0 : lvH true x0) {K : tt_St → Prop} (h : Ok (fH_goesOn s.1 x0 x1 x2 x3) K) (hR : 0 + 1 ≤ rm.frames ∧ 8 + (4 + 11) + 0 ≤ rm.locals) (hW : (rest.map fun v => v.category).sum ≤ 8) (d : decode cc pc = .ok (.invokevirtual 335, 3)) (kk : ∀ r, K r → tt_V (XT l D dA A pz) cc (RX1, nl, rt, rm, tn) Q (pc + 3) lv rest lc (r, s.2) (ck + 0) (cn + 0)) (hf : ck + 0 ≤ rm.cells ∧ cn + 0 ≤ rm.slots) : tt_V (XT l D dA A pz) cc (RX1, nl, rt, rm, tn) Q pc lv (.int x3 :: .int x2 :: .int x1 :: .ref (lc 107 x0) :: rest) lc s ck cn :=
  v_callV (kd := 107) (i := x0) (nA := 3) (As := [.int x1, .int x2, .int x3]) (lvT_107 hx0) oT_107 rfl (liftNow (Q := (fun v lc' s' => ∃ r, K r ∧ v = none ∧ lc' = lc ∧ s' = (r, s.2))) (mH_goesOn l D dA (aT0 lc s) true (nT0 lc) s.1 x0 x1 x2 x3 hx0 (Q := fun v lc' w => lc' = nT0 lc ∧ (fun v lc' s' => ∃ r, K r ∧ v = none ∧ lc' = lc ∧ s' = (r, s.2)) v lc (w, s.2)) (h.mono (fun r hr => ⟨rfl, r, hr, rfl, rfl, rfl⟩)))) (lw_V q1540 q1123 q1124 q140 q1125) (by decide +kernel) rfl hR hW hf d rfl (fun v lc' s' q => by obtain ⟨r, hr, e1, e2, e3⟩ := q; rw [e1, e2, e3]; exact kk r hr)
def fT_asIfBy (s : tt_S3) (x1 : Int32) (x2 : Int32) (x3 : Int32) : Option (Nat × tt_S3) :=
  (fH_begins s.1 24).bind fun r1 => (fH_goesOn ((r1, s.2).1) 24 x1 x2 x3).bind fun r2 => some (24, (r2, (r1, s.2).2))
abbrev rmT_asIfBy : Room := { frames := 3, cells := 0, slots := 0, locals := 62 }
set_option maxHeartbeats 4000000 in
theorem mT_asIfBy (l : Launch) (D : va_G) (dA : Nat → ClassId) (A : Nat → Prop) (pz : Nat) (lc : Nat → Nat → Nat) (s : tt_S3) (x1 : Int32) (x2 : Int32) (x3 : Int32) {Q : Option Value → (Nat → Nat → Nat) → tt_S3 → Prop} (h : Ok (fT_asIfBy s x1 x2 x3) (fun r => lvH true r.1 → Q (some (.ref (lc 107 r.1))) lc r.2)) : tt_Sp (XT l D dA A pz) yX1_asIfBy cX1_asIfBy 4 (some (.object "TallTowers$Harm")) rmT_asIfBy [.ref (lc 0 0), .int x1, .int x2, .int x3] lc s Q := by
  refine tt_Sp.ofV plX1 kokT (Nat.le_of_ble_eq_true rfl) ?_
  show tt_V (XT l D dA A pz) cX1_asIfBy (RX1, 4, (some (.object "TallTowers$Harm")), rmT_asIfBy, tt_nt) (tt_fn (XT l D dA A pz) (RX1, 4, (some (.object "TallTowers$Harm")), rmT_asIfBy, tt_nt) Q) 0 [(0, .ref (lc 0 0)), (1, .int x1), (2, .int x2), (3, .int x3)] [] lc s 0 0
  unfold fT_asIfBy at h
  refine v_aload_n 0 dX1_asIfBy_0 rfl ?_
  refine gT_X1_22_0 dX1_asIfBy_1 ?_
  refine cT_334_107 (.inr ⟨rfl, rfl⟩) (Ok.bind h) ⟨Nat.le_of_ble_eq_true rfl, Nat.le_of_ble_eq_true rfl⟩ (Nat.le_of_ble_eq_true rfl) dX1_asIfBy_4 (fun r1 h => ?_) ⟨Nat.le_of_ble_eq_true rfl, Nat.le_of_ble_eq_true rfl⟩
  refine v_aload_n 0 dX1_asIfBy_7 rfl ?_
  refine gT_X1_22_0 dX1_asIfBy_8 ?_
  refine v_iload_n 1 dX1_asIfBy_11 rfl ?_
  refine v_iload_n 2 dX1_asIfBy_12 rfl ?_
  refine v_iload_n 3 dX1_asIfBy_13 rfl ?_
  refine cT_335_107 (.inr ⟨rfl, rfl⟩) (Ok.bind h) ⟨Nat.le_of_ble_eq_true rfl, Nat.le_of_ble_eq_true rfl⟩ (Nat.le_of_ble_eq_true rfl) dX1_asIfBy_14 (fun r2 h => ?_) ⟨Nat.le_of_ble_eq_true rfl, Nat.le_of_ble_eq_true rfl⟩
  refine v_aload_n 0 dX1_asIfBy_17 rfl ?_
  refine gT_X1_22_0 dX1_asIfBy_18 ?_
  have h := Ok.ret h
  exact v_aret rfl (Nat.le_of_ble_eq_true rfl) (Nat.le_of_ble_eq_true rfl) dX1_asIfBy_21 (h (.inr ⟨rfl, rfl⟩))
theorem cT_338_0 {l : Launch} {D : va_G} {dA : Nat → ClassId} {A : Nat → Prop} {pz : Nat} {lc : Nat → Nat → Nat} {s : tt_S3} {cc : ByteArray} {nl : Nat} {rt : Option FieldType} {rm : Room} {tn : tt_Tn} {Q : tt_Fin} {pc : Nat} {lv : List (Nat × Value)} {rest : List Value} {ck cn : Nat} {x1 : Int32} {x2 : Int32} {x3 : Int32} {K : Nat × tt_S3 → Prop} (h : Ok (fT_asIfBy s x1 x2 x3) K) (hR : 3 + 1 ≤ rm.frames ∧ 8 + (4 + 11) + 62 ≤ rm.locals) (hW : (rest.map fun v => v.category).sum ≤ 8) (d : decode cc pc = .ok (.invokevirtual 338, 3)) (kk : ∀ r, lvH true r.1 → K r → tt_V (XT l D dA A pz) cc (RX1, nl, rt, rm, tn) Q (pc + 3) lv (.ref (lc 107 r.1) :: rest) lc r.2 (ck + 0) (cn + 0)) (hf : ck + 0 ≤ rm.cells ∧ cn + 0 ≤ rm.slots) : tt_V (XT l D dA A pz) cc (RX1, nl, rt, rm, tn) Q pc lv (.int x3 :: .int x2 :: .int x1 :: .ref (lc 0 0) :: rest) lc s ck cn :=
  v_callV (kd := 0) (i := 0) (nA := 3) (As := [.int x1, .int x2, .int x3]) lvT_0 oT_0 rfl (mT_asIfBy l D dA A pz lc s x1 x2 x3 (Q := (fun v lc' s' => ∃ r, lvH true r.1 ∧ K r ∧ v = some (.ref (lc 107 r.1)) ∧ lc' = lc ∧ s' = r.2)) (h.mono (fun r hr => fun hz => ⟨r, hz, hr, rfl, rfl, rfl⟩))) (lw_V q1535 q1537 qs41 q127 q1538) (by decide +kernel) rfl hR hW hf d rfl (fun v lc' s' q => by obtain ⟨r, hz, hr, e1, e2, e3⟩ := q; rw [e1, e2, e3]; exact kk r hz hr)
theorem cT_342_107 {l : Launch} {D : va_G} {dA : Nat → ClassId} {A : Nat → Prop} {pz : Nat} {lc : Nat → Nat → Nat} {s : tt_S3} {cc : ByteArray} {nl : Nat} {rt : Option FieldType} {rm : Room} {tn : tt_Tn} {Q : tt_Fin} {pc : Nat} {lv : List (Nat × Value)} {rest : List Value} {ck cn : Nat} {x0 : Nat} {x1 : Int32} (hx0 : lvH true x0) {K : Int32 → Prop} (h : Ok (fH_setOff s.1 x0 x1) K) (hR : 0 + 1 ≤ rm.frames ∧ 8 + (3 + 11) + 0 ≤ rm.locals) (hW : (rest.map fun v => v.category).sum ≤ 8) (d : decode cc pc = .ok (.invokevirtual 342, 3)) (kk : ∀ r, K r → tt_V (XT l D dA A pz) cc (RX1, nl, rt, rm, tn) Q (pc + 3) lv (.int r :: rest) lc s (ck + 0) (cn + 0)) (hf : ck + 0 ≤ rm.cells ∧ cn + 0 ≤ rm.slots) : tt_V (XT l D dA A pz) cc (RX1, nl, rt, rm, tn) Q pc lv (.int x1 :: .ref (lc 107 x0) :: rest) lc s ck cn :=
  v_callV (kd := 107) (i := x0) (nA := 1) (As := [.int x1]) (lvT_107 hx0) oT_107 rfl (liftNow (Q := (fun v lc' s' => ∃ r, K r ∧ v = some (.int r) ∧ lc' = lc ∧ s' = s)) (mH_setOff l D dA (aT0 lc s) true (nT0 lc) s.1 x0 x1 hx0 (Q := fun v lc' w => lc' = nT0 lc ∧ (fun v lc' s' => ∃ r, K r ∧ v = some (.int r) ∧ lc' = lc ∧ s' = s) v lc (w, s.2)) (h.mono (fun r hr => ⟨rfl, r, hr, rfl, rfl, rfl⟩)))) (lw_V q1541 q466 q467 q140 q468) (by decide +kernel) rfl hR hW hf d rfl (fun v lc' s' q => by obtain ⟨r, hr, e1, e2, e3⟩ := q; rw [e1, e2, e3]; exact kk r hr)
def fT_offs (s : tt_S3) (x1 : Int32) (x2 : Int32) (x3 : Int32) (x4 : Int32) : Option ((Int32 × tt_S3) ⊕ (Nat × tt_S3)) :=
  (fT_spanOf s x1 x2 x3).bind fun q_r1 => orThrow q_r1 fun r1 => (fT_within r1 x4 (0 : Int32) (3 : Int32)).bind fun q_r2 => orThrow q_r2 fun r2 => (fT_asIfBy r2 x1 x2 x3).bind fun r3 => (fH_setOff r3.2.1 r3.1 x4).bind fun r4 => some (.inl (r4, r3.2))
abbrev rmT_offs : Room := { frames := 10, cells := 4, slots := 24, locals := 184 }
set_option maxHeartbeats 4000000 in
theorem mT_offs (l : Launch) (D : va_G) (dA : Nat → ClassId) (A : Nat → Prop) (pz : Nat) (hl9 : l.stackTraces = false) (lc : Nat → Nat → Nat) (s : tt_S3) (x1 : Int32) (x2 : Int32) (x3 : Int32) (x4 : Int32) {Q : Option Value → (Nat → Nat → Nat) → tt_S3 → Prop} {QX : String → (Nat → Nat → Nat) → tt_S3 → Prop} (h : Ok (fT_offs s x1 x2 x3 x4) (fun q => Sum.casesOn (motive := fun _ => Prop) q (fun r => Q (some (.int r.1)) lc r.2) (fun e => QX (tt_exn e.1) lc e.2))) : tt_SpX (XT l D dA A pz) yX1_offs cX1_offs 5 (some .int) rmT_offs [.ref (lc 0 0), .int x1, .int x2, .int x3, .int x4] lc s Q QX := by
  refine tt_SpX.ofV plX1 kokT (Nat.le_of_ble_eq_true rfl) ?_
  show tt_V (XT l D dA A pz) cX1_offs (RX1, 5, (some .int), rmT_offs, tt_ne) (tt_fx (XT l D dA A pz) (RX1, 5, (some .int), rmT_offs, tt_ne) Q QX) 0 [(0, .ref (lc 0 0)), (1, .int x1), (2, .int x2), (3, .int x3), (4, .int x4)] [] lc s 0 0
  unfold fT_offs at h
  refine v_aload_n 0 dX1_offs_0 rfl ?_
  refine v_iload_n 1 dX1_offs_1 rfl ?_
  refine v_iload_n 2 dX1_offs_2 rfl ?_
  refine v_iload_n 3 dX1_offs_3 rfl ?_
  refine cT_156_0 (Ok.throws h) hl9 (fun _ _ _ h => h) (fun _ h => h) ⟨Nat.le_of_ble_eq_true rfl, Nat.le_of_ble_eq_true rfl⟩ (Nat.le_of_ble_eq_true rfl) dX1_offs_4 (fun r1 h => ?_) ⟨Nat.le_of_ble_eq_true rfl, Nat.le_of_ble_eq_true rfl⟩
  refine v_aload_n 0 dX1_offs_7 rfl ?_
  refine v_iload 4 dX1_offs_8 rfl ?_
  refine v_iconst dX1_offs_10 ic_0 ?_
  refine v_iconst dX1_offs_11 ic_3 ?_
  refine cT_80_0 (Ok.throws h) hl9 (fun _ _ _ h => h) (fun _ h => h) ⟨Nat.le_of_ble_eq_true rfl, Nat.le_of_ble_eq_true rfl⟩ (Nat.le_of_ble_eq_true rfl) dX1_offs_12 (fun r2 h => ?_) ⟨Nat.le_of_ble_eq_true rfl, Nat.le_of_ble_eq_true rfl⟩
  refine v_aload_n 0 dX1_offs_15 rfl ?_
  refine v_iload_n 1 dX1_offs_16 rfl ?_
  refine v_iload_n 2 dX1_offs_17 rfl ?_
  refine v_iload_n 3 dX1_offs_18 rfl ?_
  refine cT_338_0 (Ok.bind h) ⟨Nat.le_of_ble_eq_true rfl, Nat.le_of_ble_eq_true rfl⟩ (Nat.le_of_ble_eq_true rfl) dX1_offs_19 (fun r3 z_r3 h => ?_) ⟨Nat.le_of_ble_eq_true rfl, Nat.le_of_ble_eq_true rfl⟩
  refine v_iload 4 dX1_offs_22 rfl ?_
  refine cT_342_107 z_r3 (Ok.bind h) ⟨Nat.le_of_ble_eq_true rfl, Nat.le_of_ble_eq_true rfl⟩ (Nat.le_of_ble_eq_true rfl) dX1_offs_24 (fun r4 h => ?_) ⟨Nat.le_of_ble_eq_true rfl, Nat.le_of_ble_eq_true rfl⟩
  have h := Ok.ret h
  exact v_retX (v_iret rfl (Nat.le_of_ble_eq_true rfl) (Nat.le_of_ble_eq_true rfl) dX1_offs_27 h)
def fT_lossOf (s : tt_S3) (x1 : Int32) (x2 : Int32) (x3 : Int32) (x4 : Int32) : Option ((tt_S3) ⊕ (Nat × tt_S3)) :=
  (fT_spanOf s x1 x2 x3).bind fun q_r1 => orThrow q_r1 fun r1 => (fT_within r1 x4 (1 : Int32) (1000000000 : Int32)).bind fun q_r2 => orThrow q_r2 fun r2 => some (.inl r2)
abbrev rmT_lossOf : Room := { frames := 10, cells := 4, slots := 24, locals := 184 }
set_option maxHeartbeats 4000000 in
theorem mT_lossOf (l : Launch) (D : va_G) (dA : Nat → ClassId) (A : Nat → Prop) (pz : Nat) (hl9 : l.stackTraces = false) (lc : Nat → Nat → Nat) (s : tt_S3) (x1 : Int32) (x2 : Int32) (x3 : Int32) (x4 : Int32) {Q : Option Value → (Nat → Nat → Nat) → tt_S3 → Prop} {QX : String → (Nat → Nat → Nat) → tt_S3 → Prop} (h : Ok (fT_lossOf s x1 x2 x3 x4) (fun q => Sum.casesOn (motive := fun _ => Prop) q (fun r => Q none lc r) (fun e => QX (tt_exn e.1) lc e.2))) : tt_SpX (XT l D dA A pz) yX1_lossOf cX1_lossOf 5 none rmT_lossOf [.ref (lc 0 0), .int x1, .int x2, .int x3, .int x4] lc s Q QX := by
  refine tt_SpX.ofV plX1 kokT (Nat.le_of_ble_eq_true rfl) ?_
  show tt_V (XT l D dA A pz) cX1_lossOf (RX1, 5, none, rmT_lossOf, tt_ne) (tt_fx (XT l D dA A pz) (RX1, 5, none, rmT_lossOf, tt_ne) Q QX) 0 [(0, .ref (lc 0 0)), (1, .int x1), (2, .int x2), (3, .int x3), (4, .int x4)] [] lc s 0 0
  unfold fT_lossOf at h
  refine v_aload_n 0 dX1_lossOf_0 rfl ?_
  refine v_iload_n 1 dX1_lossOf_1 rfl ?_
  refine v_iload_n 2 dX1_lossOf_2 rfl ?_
  refine v_iload_n 3 dX1_lossOf_3 rfl ?_
  refine cT_156_0 (Ok.throws h) hl9 (fun _ _ _ h => h) (fun _ h => h) ⟨Nat.le_of_ble_eq_true rfl, Nat.le_of_ble_eq_true rfl⟩ (Nat.le_of_ble_eq_true rfl) dX1_lossOf_4 (fun r1 h => ?_) ⟨Nat.le_of_ble_eq_true rfl, Nat.le_of_ble_eq_true rfl⟩
  refine v_aload_n 0 dX1_lossOf_7 rfl ?_
  refine v_iload 4 dX1_lossOf_8 rfl ?_
  refine v_iconst dX1_lossOf_10 ic_1 ?_
  refine v_ldc dX1_lossOf_11 q1115 ?_
  refine cT_80_0 (Ok.throws h) hl9 (fun _ _ _ h => h) (fun _ h => h) ⟨Nat.le_of_ble_eq_true rfl, Nat.le_of_ble_eq_true rfl⟩ (Nat.le_of_ble_eq_true rfl) dX1_lossOf_13 (fun r2 h => ?_) ⟨Nat.le_of_ble_eq_true rfl, Nat.le_of_ble_eq_true rfl⟩
  have h := Ok.ret h
  exact v_retX (v_vret rfl (Nat.le_of_ble_eq_true rfl) (Nat.le_of_ble_eq_true rfl) dX1_lossOf_16 h)
theorem cT_349_0 {l : Launch} {D : va_G} {dA : Nat → ClassId} {A : Nat → Prop} {pz : Nat} {lc : Nat → Nat → Nat} {s : tt_S3} {cc : ByteArray} {nl : Nat} {rt : Option FieldType} {rm : Room} {tn : tt_Tn} {Q : Option Value → (Nat → Nat → Nat) → tt_S3 → Prop} {QX : String → (Nat → Nat → Nat) → tt_S3 → Prop} {pc : Nat} {lv : List (Nat × Value)} {rest : List Value} {ck cn : Nat} {x1 : Int32} {x2 : Int32} {x3 : Int32} {x4 : Int32} {K : tt_S3 → Prop} {K2 : Nat × tt_S3 → Prop} (h : Ok (fT_lossOf s x1 x2 x3 x4) (fun q => Sum.casesOn (motive := fun _ => Prop) q K K2)) (hl9 : l.stackTraces = false) (hTb : ∀ c m s0, tn c m s0 → tt_ne c m s0) (kx : ∀ e : Nat × tt_S3, K2 e → QX (tt_exn e.1) lc e.2) (hR : 10 + 1 ≤ rm.frames ∧ 8 + (5 + 11) + 184 ≤ rm.locals) (hW : (rest.map fun v => v.category).sum ≤ 8) (d : decode cc pc = .ok (.invokevirtual 349, 3)) (kk : ∀ r, K r → tt_V (XT l D dA A pz) cc (RX1, nl, rt, rm, tn) (tt_fx (XT l D dA A pz) (RX1, nl, rt, rm, tn) Q QX) (pc + 3) lv rest lc r (ck + 4) (cn + 24)) (hf : ck + 4 ≤ rm.cells ∧ cn + 24 ≤ rm.slots) : tt_V (XT l D dA A pz) cc (RX1, nl, rt, rm, tn) (tt_fx (XT l D dA A pz) (RX1, nl, rt, rm, tn) Q QX) pc lv (.int x4 :: .int x3 :: .int x2 :: .int x1 :: .ref (lc 0 0) :: rest) lc s ck cn :=
  v_callVX (kd := 0) (i := 0) (nA := 4) (As := [.int x1, .int x2, .int x3, .int x4]) lvT_0 oT_0 rfl (mT_lossOf l D dA A pz hl9 lc s x1 x2 x3 x4 (Q := (fun v lc' s' => ∃ r, K r ∧ v = none ∧ lc' = lc ∧ s' = r)) (QX := fun E lc' s' => ∃ e : Nat × tt_S3, K2 e ∧ E = tt_exn e.1 ∧ lc' = lc ∧ s' = e.2) (h.mono (fun q hq => by cases q with
    | inl r => exact (fun hr => ⟨r, hr, rfl, rfl, rfl⟩) hq
    | inr e => exact ⟨e, hq, rfl, rfl, rfl⟩))) (lw_V q1549 q1551 qs42 q127 q1552) (by decide +kernel) rfl hR hW hf hTb d rfl (fun E lc' s' q => by obtain ⟨e, hq, e1, e2, e3⟩ := q; rw [e1, e2, e3]; exact kx e hq) (fun v lc' s' q => by obtain ⟨r, hr, e1, e2, e3⟩ := q; rw [e1, e2, e3]; exact kk r hr)
theorem cT_362_100_107 {l : Launch} {D : va_G} {dA : Nat → ClassId} {A : Nat → Prop} {pz : Nat} {lc : Nat → Nat → Nat} {s : tt_S3} {cc : ByteArray} {nl : Nat} {rt : Option FieldType} {rm : Room} {tn : tt_Tn} {Q : tt_Fin} {pc : Nat} {lv : List (Nat × Value)} {rest : List Value} {ck cn : Nat} {x1 : Nat} (hx1 : lvH true x1) {K : tt_St → Prop} (h : Ok (fW_weighsByTime s.1 x1) K) (hR : 2 + 1 ≤ rm.frames ∧ 8 + (3 + 11) + 44 ≤ rm.locals) (hW : (rest.map fun v => v.category).sum ≤ 8) (d : decode cc pc = .ok (.invokevirtual 362, 3)) (kk : ∀ r, K r → tt_V (XT l D dA A pz) cc (RX1, nl, rt, rm, tn) Q (pc + 3) lv rest lc (r, s.2) (ck + 0) (cn + 0)) (hf : ck + 0 ≤ rm.cells ∧ cn + 0 ≤ rm.slots) : tt_V (XT l D dA A pz) cc (RX1, nl, rt, rm, tn) Q pc lv (.ref (lc 107 x1) :: .ref (lc 100 0) :: rest) lc s ck cn :=
  v_callV (kd := 100) (i := 0) (nA := 1) (As := [.ref (lc 107 x1)]) lvT_100 oT_100 rfl (liftNow (Q := (fun v lc' s' => ∃ r, K r ∧ v = none ∧ lc' = lc ∧ s' = (r, s.2))) (mW_weighsByTime_7 l D dA (aT0 lc s) true (nT0 lc) s.1 x1 hx1 (Q := fun v lc' w => lc' = nT0 lc ∧ (fun v lc' s' => ∃ r, K r ∧ v = none ∧ lc' = lc ∧ s' = (r, s.2)) v lc (w, s.2)) (h.mono (fun r hr => ⟨rfl, r, hr, rfl, rfl, rfl⟩)))) (lw_V q1583 q458 q459 q128 q460) (by decide +kernel) rfl hR hW hf d rfl (fun v lc' s' q => by obtain ⟨r, hr, e1, e2, e3⟩ := q; rw [e1, e2, e3]; exact kk r hr)
theorem gT_X1_366_100 {l : Launch} {D : va_G} {dA : Nat → ClassId} {A : Nat → Prop} {pz : Nat} {lc : Nat → Nat → Nat} {s : tt_S3} {cc : ByteArray} {nl : Nat} {rt : Option FieldType} {rm : Room} {tn : tt_Tn} {Q : tt_Fin} {pc : Nat} {lv : List (Nat × Value)} {rest : List Value} {ck cn : Nat} (d : decode cc pc = .ok (.getfield 366, 3)) (kk : tt_V (XT l D dA A pz) cc (RX1, nl, rt, rm, tn) Q (pc + 3) lv (.ref (lc 126 0) :: rest) lc s ck cn) : tt_V (XT l D dA A pz) cc (RX1, nl, rt, rm, tn) Q pc lv (.ref (lc 100 0) :: rest) lc s ck cn := v_getN (p := 6) knT lvT_100 oT_100 rfl in_X2 (by decide) q739 (.inl rfl) rfl d kk
theorem gT_X1_369_100 {l : Launch} {D : va_G} {dA : Nat → ClassId} {A : Nat → Prop} {pz : Nat} {lc : Nat → Nat → Nat} {s : tt_S3} {cc : ByteArray} {nl : Nat} {rt : Option FieldType} {rm : Room} {tn : tt_Tn} {Q : tt_Fin} {pc : Nat} {lv : List (Nat × Value)} {rest : List Value} {ck cn : Nat} (d : decode cc pc = .ok (.getfield 369, 3)) (kk : tt_V (XT l D dA A pz) cc (RX1, nl, rt, rm, tn) Q (pc + 3) lv (.ref (lc 127 0) :: rest) lc s ck cn) : tt_V (XT l D dA A pz) cc (RX1, nl, rt, rm, tn) Q pc lv (.ref (lc 100 0) :: rest) lc s ck cn := v_getN (p := 7) knT lvT_100 oT_100 rfl in_X2 (by decide) q741 (.inl rfl) rfl d kk
theorem lvT_126 {l : Launch} {D : va_G} {dA : Nat → ClassId} {A : Nat → Prop} {pz : Nat} {s : tt_S3} : xV (XT l D dA A pz) s 126 0 := by rw [show (126 : Nat) = 100 + 26 from rfl, lvT_now (by decide)]; exact rfl
theorem aT_126 {l : Launch} {D : va_G} {dA : Nat → ClassId} {A : Nat → Prop} {pz : Nat} {lc : Nat → Nat → Nat} {s : tt_S3} : tt_ent (XT l D dA A pz) lc s 126 0 = .inl (dA 1, 12, .inr (.inl (rdL s.1 26 0))) := eT_now (kd := 26) (by decide)
theorem lT_126 {l : Launch} {D : va_G} {dA : Nat → ClassId} {A : Nat → Prop} {pz : Nat} {lc : Nat → Nat → Nat} {s : tt_S3} {cc : ByteArray} {Y : tt_Y} {Q : tt_Fin} {pc : Nat} {lv : List (Nat × Value)} {rest : List Value} {ck cn : Nat} {j : Int32} (g : inB j 12 = true) (d : decode cc pc = .ok (.laload, 1)) (kk : tt_V (XT l D dA A pz) cc Y Q (pc + 1) lv (.long (rdL s.1 26 0 j.toNatClampNeg) :: rest) lc s ck cn) : tt_V (XT l D dA A pz) cc Y Q pc lv (.int j :: .ref (lc 126 0) :: rest) lc s ck cn := v_lald (t := 1) lvT_126 aT_126 rfl g d kk
theorem nT_126 {l : Launch} {D : va_G} {dA : Nat → ClassId} {A : Nat → Prop} {pz : Nat} {lc : Nat → Nat → Nat} {s : tt_S3} {cc : ByteArray} {Y : tt_Y} {Q : tt_Fin} {pc : Nat} {lv : List (Nat × Value)} {rest : List Value} {ck cn : Nat} (d : decode cc pc = .ok (.arraylength, 1)) (kk : tt_V (XT l D dA A pz) cc Y Q (pc + 1) lv (.int 12 :: rest) lc s ck cn) : tt_V (XT l D dA A pz) cc Y Q pc lv (.ref (lc 126 0) :: rest) lc s ck cn := v_alen (t := 1) lvT_126 aT_126 rfl rfl d kk
theorem lvT_127 {l : Launch} {D : va_G} {dA : Nat → ClassId} {A : Nat → Prop} {pz : Nat} {s : tt_S3} : xV (XT l D dA A pz) s 127 0 := by rw [show (127 : Nat) = 100 + 27 from rfl, lvT_now (by decide)]; exact rfl
theorem aT_127 {l : Launch} {D : va_G} {dA : Nat → ClassId} {A : Nat → Prop} {pz : Nat} {lc : Nat → Nat → Nat} {s : tt_S3} : tt_ent (XT l D dA A pz) lc s 127 0 = .inl (dA 1, 12, .inr (.inl (rdL s.1 27 0))) := eT_now (kd := 27) (by decide)
theorem lT_127 {l : Launch} {D : va_G} {dA : Nat → ClassId} {A : Nat → Prop} {pz : Nat} {lc : Nat → Nat → Nat} {s : tt_S3} {cc : ByteArray} {Y : tt_Y} {Q : tt_Fin} {pc : Nat} {lv : List (Nat × Value)} {rest : List Value} {ck cn : Nat} {j : Int32} (g : inB j 12 = true) (d : decode cc pc = .ok (.laload, 1)) (kk : tt_V (XT l D dA A pz) cc Y Q (pc + 1) lv (.long (rdL s.1 27 0 j.toNatClampNeg) :: rest) lc s ck cn) : tt_V (XT l D dA A pz) cc Y Q pc lv (.int j :: .ref (lc 127 0) :: rest) lc s ck cn := v_lald (t := 1) lvT_127 aT_127 rfl g d kk
theorem nT_127 {l : Launch} {D : va_G} {dA : Nat → ClassId} {A : Nat → Prop} {pz : Nat} {lc : Nat → Nat → Nat} {s : tt_S3} {cc : ByteArray} {Y : tt_Y} {Q : tt_Fin} {pc : Nat} {lv : List (Nat × Value)} {rest : List Value} {ck cn : Nat} (d : decode cc pc = .ok (.arraylength, 1)) (kk : tt_V (XT l D dA A pz) cc Y Q (pc + 1) lv (.int 12 :: rest) lc s ck cn) : tt_V (XT l D dA A pz) cc Y Q pc lv (.ref (lc 127 0) :: rest) lc s ck cn := v_alen (t := 1) lvT_127 aT_127 rfl rfl d kk
theorem cT_372_126_127 {l : Launch} {D : va_G} {dA : Nat → ClassId} {A : Nat → Prop} {pz : Nat} {lc : Nat → Nat → Nat} {s : tt_S3} {cc : ByteArray} {nl : Nat} {rt : Option FieldType} {rm : Room} {tn : tt_Tn} {Q : tt_Fin} {pc : Nat} {lv : List (Nat × Value)} {rest : List Value} {ck cn : Nat} {x0 : Int64} {K : tt_St → Prop} (h : Ok (fT_shares_26_27 s.1 x0) K) (hR : 0 + 1 ≤ rm.frames ∧ 8 + (13 + 11) + 0 ≤ rm.locals) (hW : (rest.map fun v => v.category).sum ≤ 8) (d : decode cc pc = .ok (.invokestatic 372, 3)) (kk : ∀ r, K r → tt_V (XT l D dA A pz) cc (RX1, nl, rt, rm, tn) Q (pc + 3) lv rest lc (r, s.2) (ck + 0) (cn + 0)) (hf : ck + 0 ≤ rm.cells ∧ cn + 0 ≤ rm.slots) : tt_V (XT l D dA A pz) cc (RX1, nl, rt, rm, tn) Q pc lv (.ref (lc 127 0) :: .ref (lc 126 0) :: .long x0 :: rest) lc s ck cn :=
  v_callS (nA := 3) (As := [.long x0, .ref (lc 126 0), .ref (lc 127 0)]) (liftNow (Q := (fun v lc' s' => ∃ r, K r ∧ v = none ∧ lc' = lc ∧ s' = (r, s.2))) (mT_shares_26_27 l D dA (aT0 lc s) true (nT0 lc) s.1 x0 (Q := fun v lc' w => lc' = nT0 lc ∧ (fun v lc' s' => ∃ r, K r ∧ v = none ∧ lc' = lc ∧ s' = (r, s.2)) v lc (w, s.2)) (h.mono (fun r hr => ⟨rfl, r, hr, rfl, rfl, rfl⟩)))) (lw_S q1584 q478 q127 q479) (by decide +kernel) rfl hR hW hf d rfl (fun v lc' s' q => by obtain ⟨r, hr, e1, e2, e3⟩ := q; rw [e1, e2, e3]; exact kk r hr)
def fT_share (s : tt_S3) (x1 : Int32) (x2 : Int32) (x3 : Int32) (x4 : Int32) (x5 : Int32) : Option ((Int64 × tt_S3) ⊕ (Nat × tt_S3)) :=
  (fT_lossOf s x1 x2 x3 x4).bind fun q_r1 => orThrow q_r1 fun r1 => (fT_yearOf r1 x5).bind fun q_r2 => orThrow q_r2 fun r2 => (fT_asIfBy r2 x1 x2 x3).bind fun r3 => (fW_weighsByTime r3.2.1 r3.1).bind fun r4 => (fT_shares_26_27 ((r4, r3.2.2).1) x4.toInt64).bind fun r5 => if inB x5 12 then some (.inl (rdL (r5, (r4, r3.2.2).2).1 27 0 x5.toNatClampNeg, (r5, (r4, r3.2.2).2))) else none
abbrev rmT_share : Room := { frames := 11, cells := 5, slots := 30, locals := 208 }
set_option maxHeartbeats 4000000 in
theorem mT_share (l : Launch) (D : va_G) (dA : Nat → ClassId) (A : Nat → Prop) (pz : Nat) (hl9 : l.stackTraces = false) (lc : Nat → Nat → Nat) (s : tt_S3) (x1 : Int32) (x2 : Int32) (x3 : Int32) (x4 : Int32) (x5 : Int32) {Q : Option Value → (Nat → Nat → Nat) → tt_S3 → Prop} {QX : String → (Nat → Nat → Nat) → tt_S3 → Prop} (h : Ok (fT_share s x1 x2 x3 x4 x5) (fun q => Sum.casesOn (motive := fun _ => Prop) q (fun r => Q (some (.long r.1)) lc r.2) (fun e => QX (tt_exn e.1) lc e.2))) : tt_SpX (XT l D dA A pz) yX1_share cX1_share 6 (some .long) rmT_share [.ref (lc 0 0), .int x1, .int x2, .int x3, .int x4, .int x5] lc s Q QX := by
  refine tt_SpX.ofV plX1 kokT (Nat.le_of_ble_eq_true rfl) ?_
  show tt_V (XT l D dA A pz) cX1_share (RX1, 6, (some .long), rmT_share, tt_ne) (tt_fx (XT l D dA A pz) (RX1, 6, (some .long), rmT_share, tt_ne) Q QX) 0 [(0, .ref (lc 0 0)), (1, .int x1), (2, .int x2), (3, .int x3), (4, .int x4), (5, .int x5)] [] lc s 0 0
  unfold fT_share at h
  refine v_aload_n 0 dX1_share_0 rfl ?_
  refine v_iload_n 1 dX1_share_1 rfl ?_
  refine v_iload_n 2 dX1_share_2 rfl ?_
  refine v_iload_n 3 dX1_share_3 rfl ?_
  refine v_iload 4 dX1_share_4 rfl ?_
  refine cT_349_0 (Ok.throws h) hl9 (fun _ _ _ h => h) (fun _ h => h) ⟨Nat.le_of_ble_eq_true rfl, Nat.le_of_ble_eq_true rfl⟩ (Nat.le_of_ble_eq_true rfl) dX1_share_6 (fun r1 h => ?_) ⟨Nat.le_of_ble_eq_true rfl, Nat.le_of_ble_eq_true rfl⟩
  refine v_aload_n 0 dX1_share_9 rfl ?_
  refine v_iload 5 dX1_share_10 rfl ?_
  refine cT_84_0 (Ok.throws h) hl9 (fun _ _ _ h => h) (fun _ h => h) ⟨Nat.le_of_ble_eq_true rfl, Nat.le_of_ble_eq_true rfl⟩ (Nat.le_of_ble_eq_true rfl) dX1_share_12 (fun r2 h => ?_) ⟨Nat.le_of_ble_eq_true rfl, Nat.le_of_ble_eq_true rfl⟩
  refine v_aload_n 0 dX1_share_15 rfl ?_
  refine gT_X1_10_0 dX1_share_16 ?_
  refine v_aload_n 0 dX1_share_19 rfl ?_
  refine v_iload_n 1 dX1_share_20 rfl ?_
  refine v_iload_n 2 dX1_share_21 rfl ?_
  refine v_iload_n 3 dX1_share_22 rfl ?_
  refine cT_338_0 (Ok.bind h) ⟨Nat.le_of_ble_eq_true rfl, Nat.le_of_ble_eq_true rfl⟩ (Nat.le_of_ble_eq_true rfl) dX1_share_23 (fun r3 z_r3 h => ?_) ⟨Nat.le_of_ble_eq_true rfl, Nat.le_of_ble_eq_true rfl⟩
  refine cT_362_100_107 z_r3 (Ok.bind h) ⟨Nat.le_of_ble_eq_true rfl, Nat.le_of_ble_eq_true rfl⟩ (Nat.le_of_ble_eq_true rfl) dX1_share_26 (fun r4 h => ?_) ⟨Nat.le_of_ble_eq_true rfl, Nat.le_of_ble_eq_true rfl⟩
  refine v_iload 4 dX1_share_29 rfl ?_
  refine v_i2l dX1_share_31 rfl ?_
  refine v_aload_n 0 dX1_share_32 rfl ?_
  refine gT_X1_10_0 dX1_share_33 ?_
  refine gT_X1_366_100 dX1_share_36 ?_
  refine v_aload_n 0 dX1_share_39 rfl ?_
  refine gT_X1_10_0 dX1_share_40 ?_
  refine gT_X1_369_100 dX1_share_43 ?_
  refine cT_372_126_127 (Ok.bind h) ⟨Nat.le_of_ble_eq_true rfl, Nat.le_of_ble_eq_true rfl⟩ (Nat.le_of_ble_eq_true rfl) dX1_share_46 (fun r5 h => ?_) ⟨Nat.le_of_ble_eq_true rfl, Nat.le_of_ble_eq_true rfl⟩
  refine v_aload_n 0 dX1_share_49 rfl ?_
  refine gT_X1_10_0 dX1_share_50 ?_
  refine gT_X1_369_100 dX1_share_53 ?_
  refine v_iload 5 dX1_share_56 rfl ?_
  obtain ⟨g6, h⟩ := Ok.guard h
  refine lT_127 g6 dX1_share_58 ?_
  have h := Ok.ret h
  exact v_retX (v_lret rfl (Nat.le_of_ble_eq_true rfl) (Nat.le_of_ble_eq_true rfl) dX1_share_59 h)
theorem cT_376_100_107 {l : Launch} {D : va_G} {dA : Nat → ClassId} {A : Nat → Prop} {pz : Nat} {lc : Nat → Nat → Nat} {s : tt_S3} {cc : ByteArray} {nl : Nat} {rt : Option FieldType} {rm : Room} {tn : tt_Tn} {Q : tt_Fin} {pc : Nat} {lv : List (Nat × Value)} {rest : List Value} {ck cn : Nat} {x1 : Nat} (hx1 : lvH true x1) {K : tt_St → Prop} (h : Ok (fW_weighsBySizes s.1 x1) K) (hR : 3 + 1 ≤ rm.frames ∧ 8 + (9 + 11) + 66 ≤ rm.locals) (hW : (rest.map fun v => v.category).sum ≤ 8) (d : decode cc pc = .ok (.invokevirtual 376, 3)) (kk : ∀ r, K r → tt_V (XT l D dA A pz) cc (RX1, nl, rt, rm, tn) Q (pc + 3) lv rest lc (r, s.2) (ck + 0) (cn + 0)) (hf : ck + 0 ≤ rm.cells ∧ cn + 0 ≤ rm.slots) : tt_V (XT l D dA A pz) cc (RX1, nl, rt, rm, tn) Q pc lv (.ref (lc 107 x1) :: .ref (lc 100 0) :: rest) lc s ck cn :=
  v_callV (kd := 100) (i := 0) (nA := 1) (As := [.ref (lc 107 x1)]) lvT_100 oT_100 rfl (liftNow (Q := (fun v lc' s' => ∃ r, K r ∧ v = none ∧ lc' = lc ∧ s' = (r, s.2))) (mW_weighsBySizes_7 l D dA (aT0 lc s) true (nT0 lc) s.1 x1 hx1 (Q := fun v lc' w => lc' = nT0 lc ∧ (fun v lc' s' => ∃ r, K r ∧ v = none ∧ lc' = lc ∧ s' = (r, s.2)) v lc (w, s.2)) (h.mono (fun r hr => ⟨rfl, r, hr, rfl, rfl, rfl⟩)))) (lw_V q1592 q531 q532 q128 q533) (by decide +kernel) rfl hR hW hf d rfl (fun v lc' s' q => by obtain ⟨r, hr, e1, e2, e3⟩ := q; rw [e1, e2, e3]; exact kk r hr)
def fT_weight (s : tt_S3) (x1 : Int32) (x2 : Int32) (x3 : Int32) (x4 : Int32) : Option ((Int64 × tt_S3) ⊕ (Nat × tt_S3)) :=
  (fT_spanOf s x1 x2 x3).bind fun q_r1 => orThrow q_r1 fun r1 => (fT_yearOf r1 x4).bind fun q_r2 => orThrow q_r2 fun r2 => (fT_asIfBy r2 x1 x2 x3).bind fun r3 => (fW_weighsBySizes r3.2.1 r3.1).bind fun r4 => if inB x4 12 then some (.inl (rdL (r4, r3.2.2).1 26 0 x4.toNatClampNeg, (r4, r3.2.2))) else none
abbrev rmT_weight : Room := { frames := 10, cells := 4, slots := 24, locals := 184 }
set_option maxHeartbeats 4000000 in
theorem mT_weight (l : Launch) (D : va_G) (dA : Nat → ClassId) (A : Nat → Prop) (pz : Nat) (hl9 : l.stackTraces = false) (lc : Nat → Nat → Nat) (s : tt_S3) (x1 : Int32) (x2 : Int32) (x3 : Int32) (x4 : Int32) {Q : Option Value → (Nat → Nat → Nat) → tt_S3 → Prop} {QX : String → (Nat → Nat → Nat) → tt_S3 → Prop} (h : Ok (fT_weight s x1 x2 x3 x4) (fun q => Sum.casesOn (motive := fun _ => Prop) q (fun r => Q (some (.long r.1)) lc r.2) (fun e => QX (tt_exn e.1) lc e.2))) : tt_SpX (XT l D dA A pz) yX1_weight cX1_weight 5 (some .long) rmT_weight [.ref (lc 0 0), .int x1, .int x2, .int x3, .int x4] lc s Q QX := by
  refine tt_SpX.ofV plX1 kokT (Nat.le_of_ble_eq_true rfl) ?_
  show tt_V (XT l D dA A pz) cX1_weight (RX1, 5, (some .long), rmT_weight, tt_ne) (tt_fx (XT l D dA A pz) (RX1, 5, (some .long), rmT_weight, tt_ne) Q QX) 0 [(0, .ref (lc 0 0)), (1, .int x1), (2, .int x2), (3, .int x3), (4, .int x4)] [] lc s 0 0
  unfold fT_weight at h
  refine v_aload_n 0 dX1_weight_0 rfl ?_
  refine v_iload_n 1 dX1_weight_1 rfl ?_
  refine v_iload_n 2 dX1_weight_2 rfl ?_
  refine v_iload_n 3 dX1_weight_3 rfl ?_
  refine cT_156_0 (Ok.throws h) hl9 (fun _ _ _ h => h) (fun _ h => h) ⟨Nat.le_of_ble_eq_true rfl, Nat.le_of_ble_eq_true rfl⟩ (Nat.le_of_ble_eq_true rfl) dX1_weight_4 (fun r1 h => ?_) ⟨Nat.le_of_ble_eq_true rfl, Nat.le_of_ble_eq_true rfl⟩
  refine v_aload_n 0 dX1_weight_7 rfl ?_
  refine v_iload 4 dX1_weight_8 rfl ?_
  refine cT_84_0 (Ok.throws h) hl9 (fun _ _ _ h => h) (fun _ h => h) ⟨Nat.le_of_ble_eq_true rfl, Nat.le_of_ble_eq_true rfl⟩ (Nat.le_of_ble_eq_true rfl) dX1_weight_10 (fun r2 h => ?_) ⟨Nat.le_of_ble_eq_true rfl, Nat.le_of_ble_eq_true rfl⟩
  refine v_aload_n 0 dX1_weight_13 rfl ?_
  refine gT_X1_10_0 dX1_weight_14 ?_
  refine v_aload_n 0 dX1_weight_17 rfl ?_
  refine v_iload_n 1 dX1_weight_18 rfl ?_
  refine v_iload_n 2 dX1_weight_19 rfl ?_
  refine v_iload_n 3 dX1_weight_20 rfl ?_
  refine cT_338_0 (Ok.bind h) ⟨Nat.le_of_ble_eq_true rfl, Nat.le_of_ble_eq_true rfl⟩ (Nat.le_of_ble_eq_true rfl) dX1_weight_21 (fun r3 z_r3 h => ?_) ⟨Nat.le_of_ble_eq_true rfl, Nat.le_of_ble_eq_true rfl⟩
  refine cT_376_100_107 z_r3 (Ok.bind h) ⟨Nat.le_of_ble_eq_true rfl, Nat.le_of_ble_eq_true rfl⟩ (Nat.le_of_ble_eq_true rfl) dX1_weight_24 (fun r4 h => ?_) ⟨Nat.le_of_ble_eq_true rfl, Nat.le_of_ble_eq_true rfl⟩
  refine v_aload_n 0 dX1_weight_27 rfl ?_
  refine gT_X1_10_0 dX1_weight_28 ?_
  refine gT_X1_366_100 dX1_weight_31 ?_
  refine v_iload 4 dX1_weight_34 rfl ?_
  obtain ⟨g5, h⟩ := Ok.guard h
  refine lT_126 g5 dX1_weight_36 ?_
  have h := Ok.ret h
  exact v_retX (v_lret rfl (Nat.le_of_ble_eq_true rfl) (Nat.le_of_ble_eq_true rfl) dX1_weight_37 h)
theorem gT_X1_379_100 {l : Launch} {D : va_G} {dA : Nat → ClassId} {A : Nat → Prop} {pz : Nat} {lc : Nat → Nat → Nat} {s : tt_S3} {cc : ByteArray} {nl : Nat} {rt : Option FieldType} {rm : Room} {tn : tt_Tn} {Q : tt_Fin} {pc : Nat} {lv : List (Nat × Value)} {rest : List Value} {ck cn : Nat} (d : decode cc pc = .ok (.getfield 379, 3)) (kk : tt_V (XT l D dA A pz) cc (RX1, nl, rt, rm, tn) Q (pc + 3) lv (.ref (lc 114 26) :: rest) lc s ck cn) : tt_V (XT l D dA A pz) cc (RX1, nl, rt, rm, tn) Q pc lv (.ref (lc 100 0) :: rest) lc s ck cn := v_getN (p := 15) knT lvT_100 oT_100 rfl in_X2 (by decide) q751 (.inl rfl) rfl d kk
theorem lvT_114 {l : Launch} {D : va_G} {dA : Nat → ClassId} {A : Nat → Prop} {pz : Nat} {s : tt_S3} {i : Nat} (hv : lvF i) : xV (XT l D dA A pz) s 114 i := by rw [show (114 : Nat) = 100 + 14 from rfl, lvT_now (by decide)]; exact hv
theorem oT_114 {l : Launch} {D : va_G} {dA : Nat → ClassId} {A : Nat → Prop} {pz : Nat} {lc : Nat → Nat → Nat} {s : tt_S3} {i : Nat} : tt_ent (XT l D dA A pz) lc s 114 i = .inr (3, [.ref (lc 108 i), .ref (lc 109 i), .ref (lc 110 i), .ref (lc 111 i), .ref (lc 112 i), .ref (lc 113 i)]) := eT_now (kd := 14) (by decide)
theorem cT_383_114 {l : Launch} {D : va_G} {dA : Nat → ClassId} {A : Nat → Prop} {pz : Nat} {lc : Nat → Nat → Nat} {s : tt_S3} {cc : ByteArray} {nl : Nat} {rt : Option FieldType} {rm : Room} {tn : tt_Tn} {Q : tt_Fin} {pc : Nat} {lv : List (Nat × Value)} {rest : List Value} {ck cn : Nat} {x0 : Nat} (hx0 : lvF x0) {K : tt_St → Prop} (h : Ok (fF_begins s.1 x0) K) (hR : 1 + 1 ≤ rm.frames ∧ 8 + (2 + 11) + 21 ≤ rm.locals) (hW : (rest.map fun v => v.category).sum ≤ 8) (d : decode cc pc = .ok (.invokevirtual 383, 3)) (kk : ∀ r, K r → tt_V (XT l D dA A pz) cc (RX1, nl, rt, rm, tn) Q (pc + 3) lv rest lc (r, s.2) (ck + 0) (cn + 0)) (hf : ck + 0 ≤ rm.cells ∧ cn + 0 ≤ rm.slots) : tt_V (XT l D dA A pz) cc (RX1, nl, rt, rm, tn) Q pc lv (.ref (lc 114 x0) :: rest) lc s ck cn :=
  v_callV (kd := 114) (i := x0) (nA := 0) (As := []) (lvT_114 hx0) oT_114 rfl (liftNow (Q := (fun v lc' s' => ∃ r, K r ∧ v = none ∧ lc' = lc ∧ s' = (r, s.2))) (mF_begins_14 l D dA (aT0 lc s) true (nT0 lc) s.1 x0 hx0 (Q := fun v lc' w => lc' = nT0 lc ∧ (fun v lc' s' => ∃ r, K r ∧ v = none ∧ lc' = lc ∧ s' = (r, s.2)) v lc (w, s.2)) (h.mono (fun r hr => ⟨rfl, r, hr, rfl, rfl, rfl⟩)))) (lw_V q1600 q705 q706 q138 q712) (by decide +kernel) rfl hR hW hf d rfl (fun v lc' s' q => by obtain ⟨r, hr, e1, e2, e3⟩ := q; rw [e1, e2, e3]; exact kk r hr)
theorem cT_384_100_107_114 {l : Launch} {D : va_G} {dA : Nat → ClassId} {A : Nat → Prop} {pz : Nat} {lc : Nat → Nat → Nat} {s : tt_S3} {cc : ByteArray} {nl : Nat} {rt : Option FieldType} {rm : Room} {tn : tt_Tn} {Q : tt_Fin} {pc : Nat} {lv : List (Nat × Value)} {rest : List Value} {ck cn : Nat} {x1 : Nat} {x2 : Nat} (hx1 : lvH true x1) (hx2 : lvF x2) {K : tt_St → Prop} (h : Ok (fW_lines s.1 x1 x2) K) (hR : 7 + 1 ≤ rm.frames ∧ 8 + (4 + 11) + 158 ≤ rm.locals) (hW : (rest.map fun v => v.category).sum ≤ 8) (d : decode cc pc = .ok (.invokevirtual 384, 3)) (kk : ∀ r, K r → tt_V (XT l D dA A pz) cc (RX1, nl, rt, rm, tn) Q (pc + 3) lv rest lc (r, s.2) (ck + 0) (cn + 0)) (hf : ck + 0 ≤ rm.cells ∧ cn + 0 ≤ rm.slots) : tt_V (XT l D dA A pz) cc (RX1, nl, rt, rm, tn) Q pc lv (.ref (lc 114 x2) :: .ref (lc 107 x1) :: .ref (lc 100 0) :: rest) lc s ck cn :=
  v_callV (kd := 100) (i := 0) (nA := 2) (As := [.ref (lc 107 x1), .ref (lc 114 x2)]) lvT_100 oT_100 rfl (liftNow (Q := (fun v lc' s' => ∃ r, K r ∧ v = none ∧ lc' = lc ∧ s' = (r, s.2))) (mW_lines_7_14 l D dA (aT0 lc s) true (nT0 lc) s.1 x1 x2 hx1 hx2 (Q := fun v lc' w => lc' = nT0 lc ∧ (fun v lc' s' => ∃ r, K r ∧ v = none ∧ lc' = lc ∧ s' = (r, s.2)) v lc (w, s.2)) (h.mono (fun r hr => ⟨rfl, r, hr, rfl, rfl, rfl⟩)))) (lw_V q1601 q550 q551 q128 q552) (by decide +kernel) rfl hR hW hf d rfl (fun v lc' s' q => by obtain ⟨r, hr, e1, e2, e3⟩ := q; rw [e1, e2, e3]; exact kk r hr)
theorem gT_X1_388_100 {l : Launch} {D : va_G} {dA : Nat → ClassId} {A : Nat → Prop} {pz : Nat} {lc : Nat → Nat → Nat} {s : tt_S3} {cc : ByteArray} {nl : Nat} {rt : Option FieldType} {rm : Room} {tn : tt_Tn} {Q : tt_Fin} {pc : Nat} {lv : List (Nat × Value)} {rest : List Value} {ck cn : Nat} (d : decode cc pc = .ok (.getfield 388, 3)) (kk : tt_V (XT l D dA A pz) cc (RX1, nl, rt, rm, tn) Q (pc + 3) lv (.ref (lc 134 0) :: rest) lc s ck cn) : tt_V (XT l D dA A pz) cc (RX1, nl, rt, rm, tn) Q pc lv (.ref (lc 100 0) :: rest) lc s ck cn := v_getN (p := 13) knT lvT_100 oT_100 rfl in_X2 (by decide) q748 (.inl rfl) rfl d kk
theorem lvT_134 {l : Launch} {D : va_G} {dA : Nat → ClassId} {A : Nat → Prop} {pz : Nat} {s : tt_S3} : xV (XT l D dA A pz) s 134 0 := by rw [show (134 : Nat) = 100 + 34 from rfl, lvT_now (by decide)]; exact rfl
theorem oT_134 {l : Launch} {D : va_G} {dA : Nat → ClassId} {A : Nat → Prop} {pz : Nat} {lc : Nat → Nat → Nat} {s : tt_S3} : tt_ent (XT l D dA A pz) lc s 134 0 = .inr (6, [.ref (lc 135 0), .int (rdI s.1 34 0 1), .ref (lc 133 0), .int (rdI s.1 34 0 3)]) := eT_now (kd := 34) (by decide)
theorem cT_392_134 {l : Launch} {D : va_G} {dA : Nat → ClassId} {A : Nat → Prop} {pz : Nat} {lc : Nat → Nat → Nat} {s : tt_S3} {cc : ByteArray} {nl : Nat} {rt : Option FieldType} {rm : Room} {tn : tt_Tn} {Q : tt_Fin} {pc : Nat} {lv : List (Nat × Value)} {rest : List Value} {ck cn : Nat} {K : Int32 → Prop} (h : Ok (fQ_size s.1) K) (hR : 0 + 1 ≤ rm.frames ∧ 8 + (1 + 11) + 0 ≤ rm.locals) (hW : (rest.map fun v => v.category).sum ≤ 8) (d : decode cc pc = .ok (.invokevirtual 392, 3)) (kk : ∀ r, K r → tt_V (XT l D dA A pz) cc (RX1, nl, rt, rm, tn) Q (pc + 3) lv (.int r :: rest) lc s (ck + 0) (cn + 0)) (hf : ck + 0 ≤ rm.cells ∧ cn + 0 ≤ rm.slots) : tt_V (XT l D dA A pz) cc (RX1, nl, rt, rm, tn) Q pc lv (.ref (lc 134 0) :: rest) lc s ck cn :=
  v_callV (kd := 134) (i := 0) (nA := 0) (As := []) lvT_134 oT_134 rfl (liftNow (Q := (fun v lc' s' => ∃ r, K r ∧ v = some (.int r) ∧ lc' = lc ∧ s' = s)) (mQ_size l D dA (aT0 lc s) true (nT0 lc) s.1 (Q := fun v lc' w => lc' = nT0 lc ∧ (fun v lc' s' => ∃ r, K r ∧ v = some (.int r) ∧ lc' = lc ∧ s' = s) v lc (w, s.2)) (h.mono (fun r hr => ⟨rfl, r, hr, rfl, rfl, rfl⟩)))) (lw_V q1602 q677 q2460 q132 q678) (by decide +kernel) rfl hR hW hf d rfl (fun v lc' s' q => by obtain ⟨r, hr, e1, e2, e3⟩ := q; rw [e1, e2, e3]; exact kk r hr)
theorem cT_396_134 {l : Launch} {D : va_G} {dA : Nat → ClassId} {A : Nat → Prop} {pz : Nat} {lc : Nat → Nat → Nat} {s : tt_S3} {cc : ByteArray} {nl : Nat} {rt : Option FieldType} {rm : Room} {tn : tt_Tn} {Q : tt_Fin} {pc : Nat} {lv : List (Nat × Value)} {rest : List Value} {ck cn : Nat} {K : Option Nat × tt_St → Prop} (h : Ok (fQ_poll s.1) K) (hR : 4 + 1 ≤ rm.frames ∧ 8 + (6 + 11) + 96 ≤ rm.locals) (hW : (rest.map fun v => v.category).sum ≤ 8) (d : decode cc pc = .ok (.invokevirtual 396, 3)) (kk : ∀ r, (∀ t, r.1 = some t → t < 12) → K r → tt_V (XT l D dA A pz) cc (RX1, nl, rt, rm, tn) Q (pc + 3) lv (va_rf (Option.map (lc 132) r.1) :: rest) lc (r.2, s.2) (ck + 0) (cn + 0)) (hf : ck + 0 ≤ rm.cells ∧ cn + 0 ≤ rm.slots) : tt_V (XT l D dA A pz) cc (RX1, nl, rt, rm, tn) Q pc lv (.ref (lc 134 0) :: rest) lc s ck cn :=
  v_callV (kd := 134) (i := 0) (nA := 0) (As := []) lvT_134 oT_134 rfl (liftNow (Q := (fun v lc' s' => ∃ r, (∀ t, r.1 = some t → t < 12) ∧ K r ∧ v = some (va_rf (Option.map (lc 132) r.1)) ∧ lc' = lc ∧ s' = (r.2, s.2))) (mQ_poll l D dA (aT0 lc s) true (nT0 lc) s.1 (Q := fun v lc' w => lc' = nT0 lc ∧ (fun v lc' s' => ∃ r, (∀ t, r.1 = some t → t < 12) ∧ K r ∧ v = some (va_rf (Option.map (lc 132) r.1)) ∧ lc' = lc ∧ s' = (r.2, s.2)) v lc (w, s.2)) (h.mono (fun r hr => fun hz => ⟨rfl, r, hz, hr, rfl, rfl, rfl⟩)))) (lw_V q1603 q691 q692 q132 q693) (by decide +kernel) rfl hR hW hf d rfl (fun v lc' s' q => by obtain ⟨r, hz, hr, e1, e2, e3⟩ := q; rw [e1, e2, e3]; exact kk r hz hr)
theorem cT_399_134 {l : Launch} {D : va_G} {dA : Nat → ClassId} {A : Nat → Prop} {pz : Nat} {lc : Nat → Nat → Nat} {s : tt_S3} {cc : ByteArray} {nl : Nat} {rt : Option FieldType} {rm : Room} {tn : tt_Tn} {Q : tt_Fin} {pc : Nat} {lv : List (Nat × Value)} {rest : List Value} {ck cn : Nat} {K : Option Nat → Prop} (h : Ok (fQ_peek s.1) K) (hR : 0 + 1 ≤ rm.frames ∧ 8 + (1 + 11) + 0 ≤ rm.locals) (hW : (rest.map fun v => v.category).sum ≤ 8) (d : decode cc pc = .ok (.invokevirtual 399, 3)) (kk : ∀ r, (∀ t, r = some t → t < 12) → K r → tt_V (XT l D dA A pz) cc (RX1, nl, rt, rm, tn) Q (pc + 3) lv (va_rf (Option.map (lc 132) r) :: rest) lc s (ck + 0) (cn + 0)) (hf : ck + 0 ≤ rm.cells ∧ cn + 0 ≤ rm.slots) : tt_V (XT l D dA A pz) cc (RX1, nl, rt, rm, tn) Q pc lv (.ref (lc 134 0) :: rest) lc s ck cn :=
  v_callV (kd := 134) (i := 0) (nA := 0) (As := []) lvT_134 oT_134 rfl (liftNow (Q := (fun v lc' s' => ∃ r, (∀ t, r = some t → t < 12) ∧ K r ∧ v = some (va_rf (Option.map (lc 132) r)) ∧ lc' = lc ∧ s' = s)) (mQ_peek l D dA (aT0 lc s) true (nT0 lc) s.1 (Q := fun v lc' w => lc' = nT0 lc ∧ (fun v lc' s' => ∃ r, (∀ t, r = some t → t < 12) ∧ K r ∧ v = some (va_rf (Option.map (lc 132) r)) ∧ lc' = lc ∧ s' = s) v lc (w, s.2)) (h.mono (fun r hr => fun hz => ⟨rfl, r, hz, hr, rfl, rfl, rfl⟩)))) (lw_V q1604 q1605 q1606 q132 q1607) (by decide +kernel) rfl hR hW hf d rfl (fun v lc' s' q => by obtain ⟨r, hz, hr, e1, e2, e3⟩ := q; rw [e1, e2, e3]; exact kk r hz hr)
theorem lvT_132 {l : Launch} {D : va_G} {dA : Nat → ClassId} {A : Nat → Prop} {pz : Nat} {s : tt_S3} {i : Nat} (hv : i < 12) : xV (XT l D dA A pz) s 132 i := by rw [show (132 : Nat) = 100 + 32 from rfl, lvT_now (by decide)]; exact hv
theorem oT_132 {l : Launch} {D : va_G} {dA : Nat → ClassId} {A : Nat → Prop} {pz : Nat} {lc : Nat → Nat → Nat} {s : tt_S3} {i : Nat} : tt_ent (XT l D dA A pz) lc s 132 i = .inr (4, [.int (nI i), .long (rdL s.1 32 i 1), .int (rdI s.1 32 i 2)]) := eT_now (kd := 32) (by decide)
theorem gT_X1_404_132 {l : Launch} {D : va_G} {dA : Nat → ClassId} {A : Nat → Prop} {pz : Nat} {lc : Nat → Nat → Nat} {s : tt_S3} {cc : ByteArray} {nl : Nat} {rt : Option FieldType} {rm : Room} {tn : tt_Tn} {Q : tt_Fin} {pc : Nat} {lv : List (Nat × Value)} {rest : List Value} {ck cn : Nat} {i : Nat} (hv : i < 12) (d : decode cc pc = .ok (.getfield 404, 3)) (kk : tt_V (XT l D dA A pz) cc (RX1, nl, rt, rm, tn) Q (pc + 3) lv (.int (nI i) :: rest) lc s ck cn) : tt_V (XT l D dA A pz) cc (RX1, nl, rt, rm, tn) Q pc lv (.ref (lc 132 i) :: rest) lc s ck cn := v_getN (p := 0) knT (lvT_132 hv) oT_132 rfl in_X8 (by decide) q439 (.inl rfl) rfl d kk
def fT_picks_L64 (x4 : Int32) (a8 : Int32 × tt_S3) : Option ((Int32 × tt_S3) ⊕ (Int32 × tt_S3)) :=
  if x4 ≤ a8.1 then some (.inr (a8.1, a8.2)) else (fQ_poll a8.2.1).bind fun r11 => some (.inl ((a8.1 + 1 : Int32), (r11.2, a8.2.2)))
def fT_picks (s : tt_S3) (x1 : Int32) (x2 : Int32) (x3 : Int32) (x4 : Int32) : Option ((Int32 × tt_S3) ⊕ (Nat × tt_S3)) :=
  (fT_spanOf s x1 x2 x3).bind fun q_r1 => orThrow q_r1 fun r1 => (fT_placeOf r1 x4).bind fun q_r2 => orThrow q_r2 fun r2 => (fF_begins r2.1 26).bind fun r3 => (fT_asIfBy (r3, r2.2) x1 x2 x3).bind fun r4 => (fW_lines r4.2.1 r4.1 26).bind fun r5 => (fQ_size ((r5, r4.2.2).1)).bind fun r6 => if x4 < r6 then (itr (fT_picks_L64 x4) tt_fuel ((0 : Int32), (r5, r4.2.2))).bind fun b9 => (fQ_peek b9.2.1).bind fun r12 => unO r12 12 fun o13 => some (.inl (nI o13, b9.2)) else some (.inl ((-1 : Int32), (r5, r4.2.2)))
abbrev rmT_picks : Room := { frames := 10, cells := 4, slots := 24, locals := 184 }
set_option maxHeartbeats 4000000 in
theorem mT_picks (l : Launch) (D : va_G) (dA : Nat → ClassId) (A : Nat → Prop) (pz : Nat) (hl9 : l.stackTraces = false) (lc : Nat → Nat → Nat) (s : tt_S3) (x1 : Int32) (x2 : Int32) (x3 : Int32) (x4 : Int32) {Q : Option Value → (Nat → Nat → Nat) → tt_S3 → Prop} {QX : String → (Nat → Nat → Nat) → tt_S3 → Prop} (h : Ok (fT_picks s x1 x2 x3 x4) (fun q => Sum.casesOn (motive := fun _ => Prop) q (fun r => Q (some (.int r.1)) lc r.2) (fun e => QX (tt_exn e.1) lc e.2))) : tt_SpX (XT l D dA A pz) yX1_picks cX1_picks 6 (some .int) rmT_picks [.ref (lc 0 0), .int x1, .int x2, .int x3, .int x4] lc s Q QX := by
  refine tt_SpX.ofV plX1 kokT (Nat.le_of_ble_eq_true rfl) ?_
  show tt_V (XT l D dA A pz) cX1_picks (RX1, 6, (some .int), rmT_picks, tt_ne) (tt_fx (XT l D dA A pz) (RX1, 6, (some .int), rmT_picks, tt_ne) Q QX) 0 [(0, .ref (lc 0 0)), (1, .int x1), (2, .int x2), (3, .int x3), (4, .int x4)] [] lc s 0 0
  unfold fT_picks at h
  refine v_aload_n 0 dX1_picks_0 rfl ?_
  refine v_iload_n 1 dX1_picks_1 rfl ?_
  refine v_iload_n 2 dX1_picks_2 rfl ?_
  refine v_iload_n 3 dX1_picks_3 rfl ?_
  refine cT_156_0 (Ok.throws h) hl9 (fun _ _ _ h => h) (fun _ h => h) ⟨Nat.le_of_ble_eq_true rfl, Nat.le_of_ble_eq_true rfl⟩ (Nat.le_of_ble_eq_true rfl) dX1_picks_4 (fun r1 h => ?_) ⟨Nat.le_of_ble_eq_true rfl, Nat.le_of_ble_eq_true rfl⟩
  refine v_aload_n 0 dX1_picks_7 rfl ?_
  refine v_iload 4 dX1_picks_8 rfl ?_
  refine cT_232_0 (Ok.throws h) hl9 (fun _ _ _ h => h) (fun _ h => h) ⟨Nat.le_of_ble_eq_true rfl, Nat.le_of_ble_eq_true rfl⟩ (Nat.le_of_ble_eq_true rfl) dX1_picks_10 (fun r2 h => ?_) ⟨Nat.le_of_ble_eq_true rfl, Nat.le_of_ble_eq_true rfl⟩
  refine v_aload_n 0 dX1_picks_13 rfl ?_
  refine gT_X1_10_0 dX1_picks_14 ?_
  refine gT_X1_379_100 dX1_picks_17 ?_
  refine cT_383_114 (.inr rfl) (Ok.bind h) ⟨Nat.le_of_ble_eq_true rfl, Nat.le_of_ble_eq_true rfl⟩ (Nat.le_of_ble_eq_true rfl) dX1_picks_20 (fun r3 h => ?_) ⟨Nat.le_of_ble_eq_true rfl, Nat.le_of_ble_eq_true rfl⟩
  refine v_aload_n 0 dX1_picks_23 rfl ?_
  refine gT_X1_10_0 dX1_picks_24 ?_
  refine v_aload_n 0 dX1_picks_27 rfl ?_
  refine v_iload_n 1 dX1_picks_28 rfl ?_
  refine v_iload_n 2 dX1_picks_29 rfl ?_
  refine v_iload_n 3 dX1_picks_30 rfl ?_
  refine cT_338_0 (Ok.bind h) ⟨Nat.le_of_ble_eq_true rfl, Nat.le_of_ble_eq_true rfl⟩ (Nat.le_of_ble_eq_true rfl) dX1_picks_31 (fun r4 z_r4 h => ?_) ⟨Nat.le_of_ble_eq_true rfl, Nat.le_of_ble_eq_true rfl⟩
  refine v_aload_n 0 dX1_picks_34 rfl ?_
  refine gT_X1_10_0 dX1_picks_35 ?_
  refine gT_X1_379_100 dX1_picks_38 ?_
  refine cT_384_100_107_114 z_r4 (.inr rfl) (Ok.bind h) ⟨Nat.le_of_ble_eq_true rfl, Nat.le_of_ble_eq_true rfl⟩ (Nat.le_of_ble_eq_true rfl) dX1_picks_41 (fun r5 h => ?_) ⟨Nat.le_of_ble_eq_true rfl, Nat.le_of_ble_eq_true rfl⟩
  refine v_iload 4 dX1_picks_44 rfl ?_
  refine v_aload_n 0 dX1_picks_46 rfl ?_
  refine gT_X1_10_0 dX1_picks_47 ?_
  refine gT_X1_388_100 dX1_picks_50 ?_
  refine cT_392_134 (Ok.bind h) ⟨Nat.le_of_ble_eq_true rfl, Nat.le_of_ble_eq_true rfl⟩ (Nat.le_of_ble_eq_true rfl) dX1_picks_53 (fun r6 h => ?_) ⟨Nat.le_of_ble_eq_true rfl, Nat.le_of_ble_eq_true rfl⟩
  refine v_icmp_lt (tgt := 61) dX1_picks_56 rfl (fun c7 => ?_) (fun c7 => ?_)
  · have h := Ok.pos h c7
    refine v_iconst dX1_picks_61 ic_0 ?_
    refine v_istore [(5, .int (0 : Int32)), (0, .ref (lc 0 0)), (1, .int x1), (2, .int x2), (3, .int x3), (4, .int x4)] dX1_picks_62 (Nat.le_of_ble_eq_true rfl) rfl ?_
    refine v_sub [1, 5, 0] rfl ?_
    refine itr_loop (P := fun a8 : Int32 × tt_S3 => tt_V (XT l D dA A pz) cX1_picks (RX1, 6, (some .int), rmT_picks, tt_ne) (tt_fx (XT l D dA A pz) (RX1, 6, (some .int), rmT_picks, tt_ne) Q QX) 64 [(0, .ref (lc 0 0)), (4, .int x4), (5, .int a8.1)] [] lc a8.2 4 24) (PE := fun b9 : Int32 × tt_S3 => tt_V (XT l D dA A pz) cX1_picks (RX1, 6, (some .int), rmT_picks, tt_ne) (tt_fx (XT l D dA A pz) (RX1, 6, (some .int), rmT_picks, tt_ne) Q QX) 88 [(0, .ref (lc 0 0)), (4, .int x4), (5, .int b9.1)] [] lc b9.2 4 24) h (fun b9 h => ?_) (fun a8 h => ?_)
    · refine v_aload_n 0 dX1_picks_88 rfl ?_
      refine gT_X1_10_0 dX1_picks_89 ?_
      refine gT_X1_388_100 dX1_picks_92 ?_
      refine cT_399_134 (Ok.bind h) ⟨Nat.le_of_ble_eq_true rfl, Nat.le_of_ble_eq_true rfl⟩ (Nat.le_of_ble_eq_true rfl) dX1_picks_95 (fun r12 z_r12 h => ?_) ⟨Nat.le_of_ble_eq_true rfl, Nat.le_of_ble_eq_true rfl⟩
      refine v_castO (fun i hi => lvT_132 (z_r12 i hi)) (fun _ => oT_132) rfl q1608 dX1_picks_98 ?_
      obtain ⟨o13, e_o13, g_o13, h⟩ := Ok.unO h
      rw [e_o13]
      show tt_V (XT l D dA A pz) cX1_picks (RX1, 6, (some .int), rmT_picks, tt_ne) (tt_fx (XT l D dA A pz) (RX1, 6, (some .int), rmT_picks, tt_ne) Q QX) 101 [(0, .ref (lc 0 0)), (4, .int x4), (5, .int b9.1)] [.ref (lc 132 o13)] lc b9.2 4 24
      refine gT_X1_404_132 g_o13 dX1_picks_101 ?_
      have h := Ok.ret h
      exact v_retX (v_iret rfl (Nat.le_of_ble_eq_true rfl) (Nat.le_of_ble_eq_true rfl) dX1_picks_104 h)
    · have h : Ok (fT_picks_L64 x4 a8) _ := h
      unfold fT_picks_L64 at h
      refine v_iload 2 dX1_picks_64 rfl ?_
      refine v_iload 1 dX1_picks_66 rfl ?_
      refine v_icmp_ge (tgt := 88) dX1_picks_68 rfl (fun c10 => ?_) (fun c10 => ?_)
      · have h := Ok.pos h c10
        have h := Ok.ret h
        exact h
      · have h := Ok.neg h c10
        refine v_aload_n 0 dX1_picks_71 rfl ?_
        refine gT_X1_10_0 dX1_picks_72 ?_
        refine gT_X1_388_100 dX1_picks_75 ?_
        refine cT_396_134 (Ok.bind h) ⟨Nat.le_of_ble_eq_true rfl, Nat.le_of_ble_eq_true rfl⟩ (Nat.le_of_ble_eq_true rfl) dX1_picks_78 (fun r11 z_r11 h => ?_) ⟨Nat.le_of_ble_eq_true rfl, Nat.le_of_ble_eq_true rfl⟩
        refine v_popO dX1_picks_81 ?_
        refine v_iinc (v := (a8.1 + 1 : Int32)) 2 [(5, .int (a8.1 + 1 : Int32)), (0, .ref (lc 0 0)), (4, .int x4)] dX1_picks_82 rfl (by rw [ic_1]) (Nat.le_of_ble_eq_true rfl) rfl ?_
        refine v_goto (tgt := 64) dX1_picks_85 rfl ?_
        refine v_sub [1, 2, 0] rfl ?_
        have h := Ok.ret h
        exact h
  · have h := Ok.neg h c7
    refine v_iconst dX1_picks_59 ic_m1 ?_
    have h := Ok.ret h
    exact v_retX (v_iret rfl (Nat.le_of_ble_eq_true rfl) (Nat.le_of_ble_eq_true rfl) dX1_picks_60 h)
def fT_reach_L24 (r1 : Nat × tt_S3) (a4 : Int64 × Int32) : Option ((Int64 × Int32) ⊕ (Int64 × Int32)) :=
  (fW_placeOf r1.2.1 r1.1).bind fun r6 => if r6 < a4.2 then some (.inr (a4.1, a4.2)) else (fW_layerAt r1.2.1 (rdI r1.2.1 2 r1.1 4) a4.2).bind fun r8 => (fW_holeOf r1.2.1 (rdI r1.2.1 2 r1.1 4) a4.2).bind fun r9 => if r8 = r1.1 then nm (a4.1 + (r9.toInt64 + (0 : Int64))) fun v13 => some (.inl (v13, (a4.2 + 1 : Int32))) else (fY_left r1.2.1 r8).bind fun r11 => nm (a4.1 + (r9.toInt64 + (if r11 < ((rdI r1.2.1 2 r8 6).toInt64) then r11 else ((rdI r1.2.1 2 r8 6).toInt64)))) fun v12 => some (.inl (v12, (a4.2 + 1 : Int32)))
def fT_reach (s : tt_S3) (x1 : Int32) : Option ((Int64 × tt_S3) ⊕ (Nat × tt_S3)) :=
  (fT_layerOf s x1).bind fun q_r1 => orThrow q_r1 fun r1 => (fY_left r1.2.1 r1.1).bind fun r2 => if r2 = (0 : Int64) then some (.inl ((-1 : Int64), r1.2)) else (itr (fT_reach_L24 r1) tt_fuel ((1 : Int64), (0 : Int32))).bind fun b5 => some (.inl (b5.1, r1.2))
abbrev rmT_reach : Room := { frames := 9, cells := 1, slots := 6, locals := 160 }
set_option maxHeartbeats 4000000 in
theorem mT_reach (l : Launch) (D : va_G) (dA : Nat → ClassId) (A : Nat → Prop) (pz : Nat) (hl9 : l.stackTraces = false) (lc : Nat → Nat → Nat) (s : tt_S3) (x1 : Int32) {Q : Option Value → (Nat → Nat → Nat) → tt_S3 → Prop} {QX : String → (Nat → Nat → Nat) → tt_S3 → Prop} (h : Ok (fT_reach s x1) (fun q => Sum.casesOn (motive := fun _ => Prop) q (fun r => Q (some (.long r.1)) lc r.2) (fun e => QX (tt_exn e.1) lc e.2))) : tt_SpX (XT l D dA A pz) yX1_reach cX1_reach 7 (some .long) rmT_reach [.ref (lc 0 0), .int x1] lc s Q QX := by
  refine tt_SpX.ofV plX1 kokT (Nat.le_of_ble_eq_true rfl) ?_
  show tt_V (XT l D dA A pz) cX1_reach (RX1, 7, (some .long), rmT_reach, tt_ne) (tt_fx (XT l D dA A pz) (RX1, 7, (some .long), rmT_reach, tt_ne) Q QX) 0 [(0, .ref (lc 0 0)), (1, .int x1)] [] lc s 0 0
  unfold fT_reach at h
  refine v_aload_n 0 dX1_reach_0 rfl ?_
  refine v_iload_n 1 dX1_reach_1 rfl ?_
  refine cT_117_0 (Ok.throws h) hl9 (fun _ _ _ h => h) (fun _ h => h) ⟨Nat.le_of_ble_eq_true rfl, Nat.le_of_ble_eq_true rfl⟩ (Nat.le_of_ble_eq_true rfl) dX1_reach_2 (fun r1 z_r1 h => ?_) ⟨Nat.le_of_ble_eq_true rfl, Nat.le_of_ble_eq_true rfl⟩
  refine v_astore_n [(2, .ref (lc 102 r1.1)), (0, .ref (lc 0 0)), (1, .int x1)] dX1_reach_5 (Nat.le_of_ble_eq_true rfl) rfl ?_
  refine v_aload_n 0 dX1_reach_6 rfl ?_
  refine cT_220_102 z_r1 (Ok.bind h) ⟨Nat.le_of_ble_eq_true rfl, Nat.le_of_ble_eq_true rfl⟩ (Nat.le_of_ble_eq_true rfl) dX1_reach_7 (fun r2 h => ?_) ⟨Nat.le_of_ble_eq_true rfl, Nat.le_of_ble_eq_true rfl⟩
  refine v_lconst dX1_reach_10 kl_0 ?_
  refine v_lif_ne (tgt := 19) dX1_reach_11 dX1_reach_12 rfl (fun c3 => ?_) (fun c3 => ?_)
  · have h := Ok.neg h c3
    refine v_lconst dX1_reach_19 kl_1 ?_
    refine v_lstore_n [(3, .long (1 : Int64)), (2, .ref (lc 102 r1.1)), (0, .ref (lc 0 0)), (1, .int x1)] dX1_reach_20 (Nat.le_of_ble_eq_true rfl) rfl ?_
    refine v_iconst dX1_reach_21 ic_0 ?_
    refine v_istore [(5, .int (0 : Int32)), (3, .long (1 : Int64)), (2, .ref (lc 102 r1.1)), (0, .ref (lc 0 0)), (1, .int x1)] dX1_reach_22 (Nat.le_of_ble_eq_true rfl) rfl ?_
    refine v_sub [3, 2, 1, 0] rfl ?_
    refine itr_loop (P := fun a4 : Int64 × Int32 => tt_V (XT l D dA A pz) cX1_reach (RX1, 7, (some .long), rmT_reach, tt_ne) (tt_fx (XT l D dA A pz) (RX1, 7, (some .long), rmT_reach, tt_ne) Q QX) 24 [(0, .ref (lc 0 0)), (2, .ref (lc 102 r1.1)), (3, .long a4.1), (5, .int a4.2)] [] lc r1.2 1 6) (PE := fun b5 : Int64 × Int32 => tt_V (XT l D dA A pz) cX1_reach (RX1, 7, (some .long), rmT_reach, tt_ne) (tt_fx (XT l D dA A pz) (RX1, 7, (some .long), rmT_reach, tt_ne) Q QX) 100 [(0, .ref (lc 0 0)), (2, .ref (lc 102 r1.1)), (3, .long b5.1), (5, .int b5.2)] [] lc r1.2 1 6) h (fun b5 h => ?_) (fun a4 h => ?_)
    · refine v_lload_n 2 dX1_reach_100 rfl ?_
      have h := Ok.ret h
      exact v_retX (v_lret rfl (Nat.le_of_ble_eq_true rfl) (Nat.le_of_ble_eq_true rfl) dX1_reach_101 h)
    · have h : Ok (fT_reach_L24 r1 a4) _ := h
      unfold fT_reach_L24 at h
      refine v_iload 3 dX1_reach_24 rfl ?_
      refine v_aload_n 0 dX1_reach_26 rfl ?_
      refine gT_X1_10_0 dX1_reach_27 ?_
      refine v_aload_n 1 dX1_reach_30 rfl ?_
      refine cT_224_100_102 z_r1 (Ok.bind h) ⟨Nat.le_of_ble_eq_true rfl, Nat.le_of_ble_eq_true rfl⟩ (Nat.le_of_ble_eq_true rfl) dX1_reach_31 (fun r6 h => ?_) ⟨Nat.le_of_ble_eq_true rfl, Nat.le_of_ble_eq_true rfl⟩
      refine v_icmp_gt (tgt := 100) dX1_reach_34 rfl (fun c7 => ?_) (fun c7 => ?_)
      · have h := Ok.pos h c7
        have h := Ok.ret h
        exact h
      · have h := Ok.neg h c7
        refine v_aload_n 0 dX1_reach_37 rfl ?_
        refine gT_X1_10_0 dX1_reach_38 ?_
        refine v_aload_n 1 dX1_reach_41 rfl ?_
        refine gT_X1_204_102 z_r1 dX1_reach_42 ?_
        refine v_iload 3 dX1_reach_45 rfl ?_
        refine cT_245_100 (Ok.bind h) ⟨Nat.le_of_ble_eq_true rfl, Nat.le_of_ble_eq_true rfl⟩ (Nat.le_of_ble_eq_true rfl) dX1_reach_47 (fun r8 z_r8 h => ?_) ⟨Nat.le_of_ble_eq_true rfl, Nat.le_of_ble_eq_true rfl⟩
        refine v_astore [(6, .ref (lc 102 r8)), (0, .ref (lc 0 0)), (2, .ref (lc 102 r1.1)), (3, .long a4.1), (5, .int a4.2)] dX1_reach_50 (Nat.le_of_ble_eq_true rfl) rfl ?_
        refine v_lload_n 3 dX1_reach_52 rfl ?_
        refine v_aload_n 1 dX1_reach_53 rfl ?_
        refine gT_X1_10_0 dX1_reach_54 ?_
        refine v_aload_n 2 dX1_reach_57 rfl ?_
        refine gT_X1_204_102 z_r1 dX1_reach_58 ?_
        refine v_iload 4 dX1_reach_61 rfl ?_
        refine cT_228_100 (Ok.bind h) ⟨Nat.le_of_ble_eq_true rfl, Nat.le_of_ble_eq_true rfl⟩ (Nat.le_of_ble_eq_true rfl) dX1_reach_63 (fun r9 h => ?_) ⟨Nat.le_of_ble_eq_true rfl, Nat.le_of_ble_eq_true rfl⟩
        refine v_i2l dX1_reach_66 rfl ?_
        refine v_aload 0 dX1_reach_67 rfl ?_
        refine v_aload_n 2 dX1_reach_69 rfl ?_
        refine v_acmp_ne (tgt := 77) (lvT_102 z_r8) (lvT_102 z_r1) dX1_reach_70 rfl (fun c10 => ?_) (fun c10 => ?_)
        · have h := Ok.neg h c10
          refine v_aload 0 dX1_reach_77 rfl ?_
          refine gT_X1_210_102 z_r8 dX1_reach_79 ?_
          refine v_i2l dX1_reach_82 rfl ?_
          refine v_aload 0 dX1_reach_83 rfl ?_
          refine cT_220_102 z_r8 (Ok.bind h) ⟨Nat.le_of_ble_eq_true rfl, Nat.le_of_ble_eq_true rfl⟩ (Nat.le_of_ble_eq_true rfl) dX1_reach_85 (fun r11 h => ?_) ⟨Nat.le_of_ble_eq_true rfl, Nat.le_of_ble_eq_true rfl⟩
          refine v_minL q1714 q508 q143 q509 (Nat.le_of_ble_eq_true rfl) (Nat.le_of_ble_eq_true rfl) (Nat.le_of_ble_eq_true rfl) (Nat.le_of_ble_eq_true rfl) dX1_reach_88 ?_
          refine v_ladd dX1_reach_91 ?_
          refine v_ladd dX1_reach_92 ?_
          refine v_nmL (fun v12 e_v12 => ?_)
          have h := Ok.nm h e_v12
          refine v_lstore_n [(3, .long v12), (6, .ref (lc 102 r8)), (0, .ref (lc 0 0)), (2, .ref (lc 102 r1.1)), (5, .int a4.2)] dX1_reach_93 (Nat.le_of_ble_eq_true rfl) rfl ?_
          refine v_iinc (v := (a4.2 + 1 : Int32)) 4 [(5, .int (a4.2 + 1 : Int32)), (3, .long v12), (6, .ref (lc 102 r8)), (0, .ref (lc 0 0)), (2, .ref (lc 102 r1.1))] dX1_reach_94 rfl (by rw [ic_1]) (Nat.le_of_ble_eq_true rfl) rfl ?_
          refine v_goto (tgt := 24) dX1_reach_97 rfl ?_
          refine v_sub [3, 4, 1, 0] rfl ?_
          have h := Ok.ret h
          exact h
        · have h := Ok.pos h c10
          refine v_lconst dX1_reach_73 kl_0 ?_
          refine v_goto (tgt := 91) dX1_reach_74 rfl ?_
          refine v_ladd dX1_reach_91 ?_
          refine v_ladd dX1_reach_92 ?_
          refine v_nmL (fun v13 e_v13 => ?_)
          have h := Ok.nm h e_v13
          refine v_lstore_n [(3, .long v13), (6, .ref (lc 102 r8)), (0, .ref (lc 0 0)), (2, .ref (lc 102 r1.1)), (5, .int a4.2)] dX1_reach_93 (Nat.le_of_ble_eq_true rfl) rfl ?_
          refine v_iinc (v := (a4.2 + 1 : Int32)) 4 [(5, .int (a4.2 + 1 : Int32)), (3, .long v13), (6, .ref (lc 102 r8)), (0, .ref (lc 0 0)), (2, .ref (lc 102 r1.1))] dX1_reach_94 rfl (by rw [ic_1]) (Nat.le_of_ble_eq_true rfl) rfl ?_
          refine v_goto (tgt := 24) dX1_reach_97 rfl ?_
          refine v_sub [3, 4, 1, 0] rfl ?_
          have h := Ok.ret h
          exact h
  · have h := Ok.pos h c3
    refine v_ldc2 dX1_reach_15 q1274 ?_
    have h := Ok.ret h
    exact v_retX (v_lret rfl (Nat.le_of_ble_eq_true rfl) (Nat.le_of_ble_eq_true rfl) dX1_reach_18 h)
theorem cT_443_100_107 {l : Launch} {D : va_G} {dA : Nat → ClassId} {A : Nat → Prop} {pz : Nat} {lc : Nat → Nat → Nat} {s : tt_S3} {cc : ByteArray} {nl : Nat} {rt : Option FieldType} {rm : Room} {tn : tt_Tn} {Q : tt_Fin} {pc : Nat} {lv : List (Nat × Value)} {rest : List Value} {ck cn : Nat} {x1 : Nat} {x2 : Int64} {x4 : Int32} (hx1 : lvH true x1) {K : Int64 × tt_St → Prop} (h : Ok (fW_paidLessFair s.1 x1 x2 x4) K) (hR : 9 + 1 ≤ rm.frames ∧ 8 + (5 + 11) + 209 ≤ rm.locals) (hW : (rest.map fun v => v.category).sum ≤ 8) (d : decode cc pc = .ok (.invokevirtual 443, 3)) (kk : ∀ r, K r → tt_V (XT l D dA A pz) cc (RX1, nl, rt, rm, tn) Q (pc + 3) lv (.long r.1 :: rest) lc (r.2, s.2) (ck + 0) (cn + 0)) (hf : ck + 0 ≤ rm.cells ∧ cn + 0 ≤ rm.slots) : tt_V (XT l D dA A pz) cc (RX1, nl, rt, rm, tn) Q pc lv (.int x4 :: .long x2 :: .ref (lc 107 x1) :: .ref (lc 100 0) :: rest) lc s ck cn :=
  v_callV (kd := 100) (i := 0) (nA := 3) (As := [.ref (lc 107 x1), .long x2, .int x4]) lvT_100 oT_100 rfl (liftNow (Q := (fun v lc' s' => ∃ r, K r ∧ v = some (.long r.1) ∧ lc' = lc ∧ s' = (r.2, s.2))) (mW_paidLessFair_7 l D dA (aT0 lc s) true (nT0 lc) s.1 x1 x2 x4 hx1 (Q := fun v lc' w => lc' = nT0 lc ∧ (fun v lc' s' => ∃ r, K r ∧ v = some (.long r.1) ∧ lc' = lc ∧ s' = (r.2, s.2)) v lc (w, s.2)) (h.mono (fun r hr => ⟨rfl, r, hr, rfl, rfl, rfl⟩)))) (lw_V q1722 q1723 q1724 q128 q1725) (by decide +kernel) rfl hR hW hf d rfl (fun v lc' s' q => by obtain ⟨r, hr, e1, e2, e3⟩ := q; rw [e1, e2, e3]; exact kk r hr)
def fT_uneven (s : tt_S3) (x1 : Int32) (x2 : Int32) (x3 : Int32) (x4 : Int32) (x5 : Int32) : Option ((Int64 × tt_S3) ⊕ (Nat × tt_S3)) :=
  (fT_layerOf s x5).bind fun q_r1 => orThrow q_r1 fun r1 => (fT_lossOf r1.2 x1 x2 x3 x4).bind fun q_r2 => orThrow q_r2 fun r2 => (fT_asIfBy r2 x1 x2 x3).bind fun r3 => (fW_paidLessFair r3.2.1 r3.1 x4.toInt64 x5).bind fun r4 => some (.inl (r4.1, (r4.2, r3.2.2)))
abbrev rmT_uneven : Room := { frames := 11, cells := 5, slots := 30, locals := 233 }
set_option maxHeartbeats 4000000 in
theorem mT_uneven (l : Launch) (D : va_G) (dA : Nat → ClassId) (A : Nat → Prop) (pz : Nat) (hl9 : l.stackTraces = false) (lc : Nat → Nat → Nat) (s : tt_S3) (x1 : Int32) (x2 : Int32) (x3 : Int32) (x4 : Int32) (x5 : Int32) {Q : Option Value → (Nat → Nat → Nat) → tt_S3 → Prop} {QX : String → (Nat → Nat → Nat) → tt_S3 → Prop} (h : Ok (fT_uneven s x1 x2 x3 x4 x5) (fun q => Sum.casesOn (motive := fun _ => Prop) q (fun r => Q (some (.long r.1)) lc r.2) (fun e => QX (tt_exn e.1) lc e.2))) : tt_SpX (XT l D dA A pz) yX1_uneven cX1_uneven 6 (some .long) rmT_uneven [.ref (lc 0 0), .int x1, .int x2, .int x3, .int x4, .int x5] lc s Q QX := by
  refine tt_SpX.ofV plX1 kokT (Nat.le_of_ble_eq_true rfl) ?_
  show tt_V (XT l D dA A pz) cX1_uneven (RX1, 6, (some .long), rmT_uneven, tt_ne) (tt_fx (XT l D dA A pz) (RX1, 6, (some .long), rmT_uneven, tt_ne) Q QX) 0 [(0, .ref (lc 0 0)), (1, .int x1), (2, .int x2), (3, .int x3), (4, .int x4), (5, .int x5)] [] lc s 0 0
  unfold fT_uneven at h
  refine v_aload_n 0 dX1_uneven_0 rfl ?_
  refine v_iload 5 dX1_uneven_1 rfl ?_
  refine cT_117_0 (Ok.throws h) hl9 (fun _ _ _ h => h) (fun _ h => h) ⟨Nat.le_of_ble_eq_true rfl, Nat.le_of_ble_eq_true rfl⟩ (Nat.le_of_ble_eq_true rfl) dX1_uneven_3 (fun r1 z_r1 h => ?_) ⟨Nat.le_of_ble_eq_true rfl, Nat.le_of_ble_eq_true rfl⟩
  refine v_pop dX1_uneven_6 rfl ?_
  refine v_aload_n 0 dX1_uneven_7 rfl ?_
  refine v_iload_n 1 dX1_uneven_8 rfl ?_
  refine v_iload_n 2 dX1_uneven_9 rfl ?_
  refine v_iload_n 3 dX1_uneven_10 rfl ?_
  refine v_iload 4 dX1_uneven_11 rfl ?_
  refine cT_349_0 (Ok.throws h) hl9 (fun _ _ _ h => h) (fun _ h => h) ⟨Nat.le_of_ble_eq_true rfl, Nat.le_of_ble_eq_true rfl⟩ (Nat.le_of_ble_eq_true rfl) dX1_uneven_13 (fun r2 h => ?_) ⟨Nat.le_of_ble_eq_true rfl, Nat.le_of_ble_eq_true rfl⟩
  refine v_aload_n 0 dX1_uneven_16 rfl ?_
  refine gT_X1_10_0 dX1_uneven_17 ?_
  refine v_aload_n 0 dX1_uneven_20 rfl ?_
  refine v_iload_n 1 dX1_uneven_21 rfl ?_
  refine v_iload_n 2 dX1_uneven_22 rfl ?_
  refine v_iload_n 3 dX1_uneven_23 rfl ?_
  refine cT_338_0 (Ok.bind h) ⟨Nat.le_of_ble_eq_true rfl, Nat.le_of_ble_eq_true rfl⟩ (Nat.le_of_ble_eq_true rfl) dX1_uneven_24 (fun r3 z_r3 h => ?_) ⟨Nat.le_of_ble_eq_true rfl, Nat.le_of_ble_eq_true rfl⟩
  refine v_iload 4 dX1_uneven_27 rfl ?_
  refine v_i2l dX1_uneven_29 rfl ?_
  refine v_iload 5 dX1_uneven_30 rfl ?_
  refine cT_443_100_107 z_r3 (Ok.bind h) ⟨Nat.le_of_ble_eq_true rfl, Nat.le_of_ble_eq_true rfl⟩ (Nat.le_of_ble_eq_true rfl) dX1_uneven_32 (fun r4 h => ?_) ⟨Nat.le_of_ble_eq_true rfl, Nat.le_of_ble_eq_true rfl⟩
  have h := Ok.ret h
  exact v_retX (v_lret rfl (Nat.le_of_ble_eq_true rfl) (Nat.le_of_ble_eq_true rfl) dX1_uneven_35 h)
def fT_widest_L20 (x1 : Int32) (r2 : tt_S3) (a3 : Int32 × Int32 × Int32) : Option ((Int32 × Int32 × Int32) ⊕ (Int32 × Int32 × Int32)) :=
  if inB x1 12 then if (rdI r2.1 23 0 x1.toNatClampNeg) ≤ a3.2.2 then some (.inr (a3.1, a3.2.1, a3.2.2)) else (fW_holeOf r2.1 x1 a3.2.2).bind fun r7 => if a3.2.1 < r7 then if inB a3.2.2 6 then nm (rdI r2.1 22 x1.toNatClampNeg a3.2.2.toNatClampNeg) fun v10 => (fW_holeOf r2.1 x1 a3.2.2).bind fun r11 => some (.inl (v10, r11, (a3.2.2 + 1 : Int32))) else none else some (.inl (a3.1, a3.2.1, (a3.2.2 + 1 : Int32))) else none
def fT_widest (s : tt_S3) (x1 : Int32) (x2 : Int32) : Option ((Int32 × tt_S3) ⊕ (Nat × tt_S3)) :=
  (fT_yearOf s x1).bind fun q_r1 => orThrow q_r1 fun r1 => (fT_within r1 x2 (0 : Int32) (1 : Int32)).bind fun q_r2 => orThrow q_r2 fun r2 => (itr (fT_widest_L20 x1 r2) tt_fuel ((-1 : Int32), (0 : Int32), (0 : Int32))).bind fun b4 => if x2 = 0 then some (.inl (b4.1, r2)) else some (.inl (b4.2.1, r2))
abbrev rmT_widest : Room := { frames := 9, cells := 2, slots := 12, locals := 161 }
set_option maxHeartbeats 4000000 in
theorem mT_widest (l : Launch) (D : va_G) (dA : Nat → ClassId) (A : Nat → Prop) (pz : Nat) (hl9 : l.stackTraces = false) (lc : Nat → Nat → Nat) (s : tt_S3) (x1 : Int32) (x2 : Int32) {Q : Option Value → (Nat → Nat → Nat) → tt_S3 → Prop} {QX : String → (Nat → Nat → Nat) → tt_S3 → Prop} (h : Ok (fT_widest s x1 x2) (fun q => Sum.casesOn (motive := fun _ => Prop) q (fun r => Q (some (.int r.1)) lc r.2) (fun e => QX (tt_exn e.1) lc e.2))) : tt_SpX (XT l D dA A pz) yX1_widest cX1_widest 6 (some .int) rmT_widest [.ref (lc 0 0), .int x1, .int x2] lc s Q QX := by
  refine tt_SpX.ofV plX1 kokT (Nat.le_of_ble_eq_true rfl) ?_
  show tt_V (XT l D dA A pz) cX1_widest (RX1, 6, (some .int), rmT_widest, tt_ne) (tt_fx (XT l D dA A pz) (RX1, 6, (some .int), rmT_widest, tt_ne) Q QX) 0 [(0, .ref (lc 0 0)), (1, .int x1), (2, .int x2)] [] lc s 0 0
  unfold fT_widest at h
  refine v_aload_n 0 dX1_widest_0 rfl ?_
  refine v_iload_n 1 dX1_widest_1 rfl ?_
  refine cT_84_0 (Ok.throws h) hl9 (fun _ _ _ h => h) (fun _ h => h) ⟨Nat.le_of_ble_eq_true rfl, Nat.le_of_ble_eq_true rfl⟩ (Nat.le_of_ble_eq_true rfl) dX1_widest_2 (fun r1 h => ?_) ⟨Nat.le_of_ble_eq_true rfl, Nat.le_of_ble_eq_true rfl⟩
  refine v_aload_n 0 dX1_widest_5 rfl ?_
  refine v_iload_n 2 dX1_widest_6 rfl ?_
  refine v_iconst dX1_widest_7 ic_0 ?_
  refine v_iconst dX1_widest_8 ic_1 ?_
  refine cT_80_0 (Ok.throws h) hl9 (fun _ _ _ h => h) (fun _ h => h) ⟨Nat.le_of_ble_eq_true rfl, Nat.le_of_ble_eq_true rfl⟩ (Nat.le_of_ble_eq_true rfl) dX1_widest_9 (fun r2 h => ?_) ⟨Nat.le_of_ble_eq_true rfl, Nat.le_of_ble_eq_true rfl⟩
  refine v_iconst dX1_widest_12 ic_m1 ?_
  refine v_istore_n [(3, .int (-1 : Int32)), (0, .ref (lc 0 0)), (1, .int x1), (2, .int x2)] dX1_widest_13 (Nat.le_of_ble_eq_true rfl) rfl ?_
  refine v_iconst dX1_widest_14 ic_0 ?_
  refine v_istore [(4, .int (0 : Int32)), (3, .int (-1 : Int32)), (0, .ref (lc 0 0)), (1, .int x1), (2, .int x2)] dX1_widest_15 (Nat.le_of_ble_eq_true rfl) rfl ?_
  refine v_iconst dX1_widest_17 ic_0 ?_
  refine v_istore [(5, .int (0 : Int32)), (4, .int (0 : Int32)), (3, .int (-1 : Int32)), (0, .ref (lc 0 0)), (1, .int x1), (2, .int x2)] dX1_widest_18 (Nat.le_of_ble_eq_true rfl) rfl ?_
  refine v_sub [3, 4, 5, 2, 1, 0] rfl ?_
  refine itr_loop (P := fun a3 : Int32 × Int32 × Int32 => tt_V (XT l D dA A pz) cX1_widest (RX1, 6, (some .int), rmT_widest, tt_ne) (tt_fx (XT l D dA A pz) (RX1, 6, (some .int), rmT_widest, tt_ne) Q QX) 20 [(0, .ref (lc 0 0)), (1, .int x1), (2, .int x2), (3, .int a3.1), (4, .int a3.2.1), (5, .int a3.2.2)] [] lc r2 2 12) (PE := fun b4 : Int32 × Int32 × Int32 => tt_V (XT l D dA A pz) cX1_widest (RX1, 6, (some .int), rmT_widest, tt_ne) (tt_fx (XT l D dA A pz) (RX1, 6, (some .int), rmT_widest, tt_ne) Q QX) 83 [(0, .ref (lc 0 0)), (1, .int x1), (2, .int x2), (3, .int b4.1), (4, .int b4.2.1), (5, .int b4.2.2)] [] lc r2 2 12) h (fun b4 h => ?_) (fun a3 h => ?_)
  · refine v_iload_n 2 dX1_widest_83 rfl ?_
    refine v_if_ne (tgt := 91) dX1_widest_84 rfl (fun c12 => ?_) (fun c12 => ?_)
    · have h := Ok.neg h c12
      refine v_iload 4 dX1_widest_91 rfl ?_
      have h := Ok.ret h
      exact v_retX (v_iret rfl (Nat.le_of_ble_eq_true rfl) (Nat.le_of_ble_eq_true rfl) dX1_widest_93 h)
    · have h := Ok.pos h c12
      refine v_iload_n 3 dX1_widest_87 rfl ?_
      refine v_goto (tgt := 93) dX1_widest_88 rfl ?_
      have h := Ok.ret h
      exact v_retX (v_iret rfl (Nat.le_of_ble_eq_true rfl) (Nat.le_of_ble_eq_true rfl) dX1_widest_93 h)
  · have h : Ok (fT_widest_L20 x1 r2 a3) _ := h
    unfold fT_widest_L20 at h
    refine v_iload 5 dX1_widest_20 rfl ?_
    refine v_aload_n 0 dX1_widest_22 rfl ?_
    refine gT_X1_10_0 dX1_widest_23 ?_
    refine gT_X1_243_100 dX1_widest_26 ?_
    refine v_iload_n 1 dX1_widest_29 rfl ?_
    obtain ⟨g5, h⟩ := Ok.guard h
    refine lT_123 g5 dX1_widest_30 ?_
    refine v_icmp_ge (tgt := 83) dX1_widest_31 rfl (fun c6 => ?_) (fun c6 => ?_)
    · have h := Ok.pos h c6
      have h := Ok.ret h
      exact h
    · have h := Ok.neg h c6
      refine v_aload_n 0 dX1_widest_34 rfl ?_
      refine gT_X1_10_0 dX1_widest_35 ?_
      refine v_iload_n 1 dX1_widest_38 rfl ?_
      refine v_iload 5 dX1_widest_39 rfl ?_
      refine cT_228_100 (Ok.bind h) ⟨Nat.le_of_ble_eq_true rfl, Nat.le_of_ble_eq_true rfl⟩ (Nat.le_of_ble_eq_true rfl) dX1_widest_41 (fun r7 h => ?_) ⟨Nat.le_of_ble_eq_true rfl, Nat.le_of_ble_eq_true rfl⟩
      refine v_iload 4 dX1_widest_44 rfl ?_
      refine v_icmp_gt (tgt := 52) dX1_widest_46 rfl (fun c8 => ?_) (fun c8 => ?_)
      · have h := Ok.pos h c8
        refine v_aload_n 0 dX1_widest_52 rfl ?_
        refine gT_X1_10_0 dX1_widest_53 ?_
        refine gT_X1_271_100 dX1_widest_56 ?_
        refine v_iload_n 1 dX1_widest_59 rfl ?_
        refine lT_121 g5 dX1_widest_60 ?_
        refine v_iload 5 dX1_widest_61 rfl ?_
        obtain ⟨g9, h⟩ := Ok.guard h
        refine lT_122 (inB_lt g5) g9 dX1_widest_63 ?_
        refine v_nmI (fun v10 e_v10 => ?_)
        have h := Ok.nm h e_v10
        refine v_istore_n [(3, .int v10), (0, .ref (lc 0 0)), (1, .int x1), (2, .int x2), (4, .int a3.2.1), (5, .int a3.2.2)] dX1_widest_64 (Nat.le_of_ble_eq_true rfl) rfl ?_
        refine v_aload_n 1 dX1_widest_65 rfl ?_
        refine gT_X1_10_0 dX1_widest_66 ?_
        refine v_iload_n 2 dX1_widest_69 rfl ?_
        refine v_iload 5 dX1_widest_70 rfl ?_
        refine cT_228_100 (Ok.bind h) ⟨Nat.le_of_ble_eq_true rfl, Nat.le_of_ble_eq_true rfl⟩ (Nat.le_of_ble_eq_true rfl) dX1_widest_72 (fun r11 h => ?_) ⟨Nat.le_of_ble_eq_true rfl, Nat.le_of_ble_eq_true rfl⟩
        refine v_istore [(4, .int r11), (3, .int v10), (0, .ref (lc 0 0)), (1, .int x1), (2, .int x2), (5, .int a3.2.2)] dX1_widest_75 (Nat.le_of_ble_eq_true rfl) rfl ?_
        refine v_iinc (v := (a3.2.2 + 1 : Int32)) 5 [(5, .int (a3.2.2 + 1 : Int32)), (4, .int r11), (3, .int v10), (0, .ref (lc 0 0)), (1, .int x1), (2, .int x2)] dX1_widest_77 rfl (by rw [ic_1]) (Nat.le_of_ble_eq_true rfl) rfl ?_
        refine v_goto (tgt := 20) dX1_widest_80 rfl ?_
        refine v_sub [3, 4, 5, 2, 1, 0] rfl ?_
        have h := Ok.ret h
        exact h
      · have h := Ok.neg h c8
        refine v_goto (tgt := 77) dX1_widest_49 rfl ?_
        refine v_iinc (v := (a3.2.2 + 1 : Int32)) 5 [(5, .int (a3.2.2 + 1 : Int32)), (0, .ref (lc 0 0)), (1, .int x1), (2, .int x2), (3, .int a3.1), (4, .int a3.2.1)] dX1_widest_77 rfl (by rw [ic_1]) (Nat.le_of_ble_eq_true rfl) rfl ?_
        refine v_goto (tgt := 20) dX1_widest_80 rfl ?_
        refine v_sub [1, 2, 3, 4, 5, 0] rfl ?_
        have h := Ok.ret h
        exact h
def fT_spent_L4 (s : tt_S3) (a1 : Int64 × Int32) : Option ((Int64 × Int32) ⊕ (Int64 × Int32)) :=
  if (rdI s.1 0 0 21) ≤ a1.2 then some (.inr (a1.1, a1.2)) else if inB a1.2 40 then (fY_left s.1 a1.2.toNatClampNeg).bind fun r5 => if r5 = (0 : Int64) then nm (a1.1 ||| ((1 : Int64) <<< (a1.2.toInt64 &&& 63))) fun v7 => some (.inl (v7, (a1.2 + 1 : Int32))) else some (.inl (a1.1, (a1.2 + 1 : Int32))) else none
def fT_spent (s : tt_S3) : Option (Int64) :=
  (itr (fT_spent_L4 s) tt_fuel ((0 : Int64), (0 : Int32))).bind fun b2 => some b2.1
abbrev rmT_spent : Room := { frames := 1, cells := 0, slots := 0, locals := 20 }
set_option maxHeartbeats 4000000 in
theorem mT_spent (l : Launch) (D : va_G) (dA : Nat → ClassId) (A : Nat → Prop) (pz : Nat) (lc : Nat → Nat → Nat) (s : tt_S3) {Q : Option Value → (Nat → Nat → Nat) → tt_S3 → Prop} (h : Ok (fT_spent s) (fun r => Q (some (.long r)) lc s)) : tt_Sp (XT l D dA A pz) yX1_spent cX1_spent 4 (some .long) rmT_spent [.ref (lc 0 0)] lc s Q := by
  refine tt_Sp.ofV plX1 kokT (Nat.le_of_ble_eq_true rfl) ?_
  show tt_V (XT l D dA A pz) cX1_spent (RX1, 4, (some .long), rmT_spent, tt_nt) (tt_fn (XT l D dA A pz) (RX1, 4, (some .long), rmT_spent, tt_nt) Q) 0 [(0, .ref (lc 0 0))] [] lc s 0 0
  unfold fT_spent at h
  refine v_lconst dX1_spent_0 kl_0 ?_
  refine v_lstore_n [(1, .long (0 : Int64)), (0, .ref (lc 0 0))] dX1_spent_1 (Nat.le_of_ble_eq_true rfl) rfl ?_
  refine v_iconst dX1_spent_2 ic_0 ?_
  refine v_istore_n [(3, .int (0 : Int32)), (1, .long (0 : Int64)), (0, .ref (lc 0 0))] dX1_spent_3 (Nat.le_of_ble_eq_true rfl) rfl ?_
  refine v_sub [2, 1, 0] rfl ?_
  refine itr_loop (P := fun a1 : Int64 × Int32 => tt_V (XT l D dA A pz) cX1_spent (RX1, 4, (some .long), rmT_spent, tt_nt) (tt_fn (XT l D dA A pz) (RX1, 4, (some .long), rmT_spent, tt_nt) Q) 4 [(0, .ref (lc 0 0)), (1, .long a1.1), (3, .int a1.2)] [] lc s 0 0) (PE := fun b2 : Int64 × Int32 => tt_V (XT l D dA A pz) cX1_spent (RX1, 4, (some .long), rmT_spent, tt_nt) (tt_fn (XT l D dA A pz) (RX1, 4, (some .long), rmT_spent, tt_nt) Q) 44 [(0, .ref (lc 0 0)), (1, .long b2.1), (3, .int b2.2)] [] lc s 0 0) h (fun b2 h => ?_) (fun a1 h => ?_)
  · refine v_lload_n 1 dX1_spent_44 rfl ?_
    have h := Ok.ret h
    exact v_lret rfl (Nat.le_of_ble_eq_true rfl) (Nat.le_of_ble_eq_true rfl) dX1_spent_45 h
  · have h : Ok (fT_spent_L4 s a1) _ := h
    unfold fT_spent_L4 at h
    refine v_iload_n 2 dX1_spent_4 rfl ?_
    refine v_aload_n 0 dX1_spent_5 rfl ?_
    refine gT_X1_10_0 dX1_spent_6 ?_
    refine gT_X1_58_100 dX1_spent_9 ?_
    refine v_icmp_ge (tgt := 44) dX1_spent_12 rfl (fun c3 => ?_) (fun c3 => ?_)
    · have h := Ok.pos h c3
      have h := Ok.ret h
      exact h
    · have h := Ok.neg h c3
      refine v_aload_n 0 dX1_spent_15 rfl ?_
      refine gT_X1_10_0 dX1_spent_16 ?_
      refine gT_X1_66_100 dX1_spent_19 ?_
      refine v_iload_n 2 dX1_spent_22 rfl ?_
      obtain ⟨g4, h⟩ := Ok.guard h
      refine lT_101 g4 dX1_spent_23 ?_
      refine cT_220_102 (inB_lt g4) (Ok.bind h) ⟨Nat.le_of_ble_eq_true rfl, Nat.le_of_ble_eq_true rfl⟩ (Nat.le_of_ble_eq_true rfl) dX1_spent_24 (fun r5 h => ?_) ⟨Nat.le_of_ble_eq_true rfl, Nat.le_of_ble_eq_true rfl⟩
      refine v_lconst dX1_spent_27 kl_0 ?_
      refine v_lif_ne (tgt := 38) dX1_spent_28 dX1_spent_29 rfl (fun c6 => ?_) (fun c6 => ?_)
      · have h := Ok.neg h c6
        refine v_iinc (v := (a1.2 + 1 : Int32)) 2 [(3, .int (a1.2 + 1 : Int32)), (0, .ref (lc 0 0)), (1, .long a1.1)] dX1_spent_38 rfl (by rw [ic_1]) (Nat.le_of_ble_eq_true rfl) rfl ?_
        refine v_goto (tgt := 4) dX1_spent_41 rfl ?_
        refine v_sub [1, 2, 0] rfl ?_
        have h := Ok.ret h
        exact h
      · have h := Ok.pos h c6
        refine v_lload_n 1 dX1_spent_32 rfl ?_
        refine v_lconst dX1_spent_33 kl_1 ?_
        refine v_iload_n 2 dX1_spent_34 rfl ?_
        refine v_lshl dX1_spent_35 rfl ?_
        refine v_lor dX1_spent_36 ?_
        refine v_nmL (fun v7 e_v7 => ?_)
        have h := Ok.nm h e_v7
        refine v_lstore_n [(1, .long v7), (0, .ref (lc 0 0)), (3, .int a1.2)] dX1_spent_37 (Nat.le_of_ble_eq_true rfl) rfl ?_
        refine v_iinc (v := (a1.2 + 1 : Int32)) 2 [(3, .int (a1.2 + 1 : Int32)), (1, .long v7), (0, .ref (lc 0 0))] dX1_spent_38 rfl (by rw [ic_1]) (Nat.le_of_ble_eq_true rfl) rfl ?_
        refine v_goto (tgt := 4) dX1_spent_41 rfl ?_
        refine v_sub [2, 1, 0] rfl ?_
        have h := Ok.ret h
        exact h
def fT_status (s : tt_S3) (x1 : Int32) : Option (Int32) :=
  if x1 < 0 then some (-1 : Int32) else if x1 ≤ (2 : Int32) then if inB x1 3 then some (rdI s.2.2 9 0 x1.toNatClampNeg) else none else some (-1 : Int32)
abbrev rmT_status : Room := { frames := 0, cells := 0, slots := 0, locals := 0 }
set_option maxHeartbeats 4000000 in
theorem mT_status (l : Launch) (D : va_G) (dA : Nat → ClassId) (A : Nat → Prop) (pz : Nat) (lc : Nat → Nat → Nat) (s : tt_S3) (x1 : Int32) {Q : Option Value → (Nat → Nat → Nat) → tt_S3 → Prop} (h : Ok (fT_status s x1) (fun r => Q (some (.int r)) lc s)) : tt_Sp (XT l D dA A pz) yX1_status cX1_status 2 (some .int) rmT_status [.ref (lc 0 0), .int x1] lc s Q := by
  refine tt_Sp.ofV plX1 kokT (Nat.le_of_ble_eq_true rfl) ?_
  show tt_V (XT l D dA A pz) cX1_status (RX1, 2, (some .int), rmT_status, tt_nt) (tt_fn (XT l D dA A pz) (RX1, 2, (some .int), rmT_status, tt_nt) Q) 0 [(0, .ref (lc 0 0)), (1, .int x1)] [] lc s 0 0
  unfold fT_status at h
  refine v_iload_n 1 dX1_status_0 rfl ?_
  refine v_if_lt (tgt := 9) dX1_status_1 rfl (fun c1 => ?_) (fun c1 => ?_)
  · have h := Ok.pos h c1
    refine v_iconst dX1_status_9 ic_m1 ?_
    refine v_goto (tgt := 19) dX1_status_10 rfl ?_
    have h := Ok.ret h
    exact v_iret rfl (Nat.le_of_ble_eq_true rfl) (Nat.le_of_ble_eq_true rfl) dX1_status_19 h
  · have h := Ok.neg h c1
    refine v_iload_n 1 dX1_status_4 rfl ?_
    refine v_iconst dX1_status_5 ic_2 ?_
    refine v_icmp_le (tgt := 13) dX1_status_6 rfl (fun c2 => ?_) (fun c2 => ?_)
    · have h := Ok.pos h c2
      refine v_aload_n 0 dX1_status_13 rfl ?_
      refine gT_X1_45_0 dX1_status_14 ?_
      refine v_iload_n 1 dX1_status_17 rfl ?_
      obtain ⟨g3, h⟩ := Ok.guard h
      refine lT_9 g3 dX1_status_18 ?_
      have h := Ok.ret h
      exact v_iret rfl (Nat.le_of_ble_eq_true rfl) (Nat.le_of_ble_eq_true rfl) dX1_status_19 h
    · have h := Ok.neg h c2
      refine v_iconst dX1_status_9 ic_m1 ?_
      refine v_goto (tgt := 19) dX1_status_10 rfl ?_
      have h := Ok.ret h
      exact v_iret rfl (Nat.le_of_ble_eq_true rfl) (Nat.le_of_ble_eq_true rfl) dX1_status_19 h
