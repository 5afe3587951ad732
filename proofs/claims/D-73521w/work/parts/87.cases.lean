set_option maxRecDepth 100000
theorem cLw_place {l : Launch} {D : va_G} {dA : Nat → ClassId} {A : Nat → Prop} {pz b L : Nat} {xs : Nat → Int32} {lc : Nat → Nat → Nat} {s : tt_SL} {cc : ByteArray} {nl : Nat} {rt : Option FieldType} {rm : Room} {tn : tt_Tn} {Q : tt_Fin} {pc : Nat} {lv : List (Nat × Value)} {rest : List Value} {ck cn : Nat} {x1 : Int32} {x2 : Int32} {x3 : Int32} {x4 : Int32} {K : Int32 × tt_SL → Prop} (h : Ok (wrapI (fT_place s.1 x1 x2 x3 x4) s (cd3 none (some 1) (some 2))) K) (hl9 : l.stackTraces = false) (hR : 18 + 1 ≤ rm.frames ∧ 8 + (7 + 11) + 3105 ≤ rm.locals) (hW : (rest.map fun v => v.category).sum ≤ 8) (d : decode cc pc = .ok (.invokestatic 169, 3)) (kk : ∀ r, K r → ∀ lc', tt_agr (XL l D dA A pz b L xs) s lc lc' → tt_V (XL l D dA A pz b L xs) cc (RX0, nl, rt, rm, tn) Q (pc + 3) lv (.int r.1 :: rest) lc' r.2 (ck + 7) (cn + 38)) (hf : ck + 7 ≤ rm.cells ∧ cn + 38 ≤ rm.slots) : tt_V (XL l D dA A pz b L xs) cc (RX0, nl, rt, rm, tn) Q pc lv (.ref (lc 400 0) :: .int x4 :: .int x3 :: .int x2 :: .int x1 :: .ref (lc 0 0) :: rest) lc s ck cn :=
  v_callSW (nA := 6) (As := [.ref (lc 0 0), .int x1, .int x2, .int x3, .int x4, .ref (lc 400 0)]) (mL_place l D dA A pz b L xs hl9 lc s x1 x2 x3 x4 (Q := (fun v lc' s' => ∃ r : Int32 × tt_SL, K r ∧ v = some (Value.int r.1) ∧ tt_agr (XL l D dA A pz b L xs) s lc lc' ∧ s' = r.2)) (h.mono fun r hr lc' ha => ⟨r, hr, rfl, ha, rfl⟩)) (lw_SW q937 q938 q126 q939) (by decide +kernel) rfl hR hW hf d rfl (fun v lc' s' q => by obtain ⟨r, hr, e1, e2, e3⟩ := q; rw [e1, e3]; exact kk r hr lc' e2)
theorem cLm_place {l : Launch} {D : va_G} {dA : Nat → ClassId} {A : Nat → Prop} {pz b L : Nat} {xs : Nat → Int32} {lc : Nat → Nat → Nat} {s : tt_SL} {cc : ByteArray} {nl : Nat} {rt : Option FieldType} {rm : Room} {tn : tt_Tn} {Q : tt_Fin} {pc : Nat} {lv : List (Nat × Value)} {rest : List Value} {ck cn : Nat} {x1 : Int32} {x2 : Int32} {x3 : Int32} {x4 : Int32} {K : Int32 × tt_St → Prop} (h : Ok (fM_place s.2.1 x1 x2 x3 x4) K) (hR : 9 + 1 ≤ rm.frames ∧ 8 + (7 + 11) + 212 ≤ rm.locals) (hW : (rest.map fun v => v.category).sum ≤ 8) (d : decode cc pc = .ok (.invokevirtual 174, 3)) (kk : ∀ r, K r → tt_V (XL l D dA A pz b L xs) cc (RX0, nl, rt, rm, tn) Q (pc + 3) lv (.int r.1 :: rest) lc (s.1, r.2, s.2.2) (ck + 0) (cn + 0)) (hf : ck + 0 ≤ rm.cells ∧ cn + 0 ≤ rm.slots) : tt_V (XL l D dA A pz b L xs) cc (RX0, nl, rt, rm, tn) Q pc lv (.int x4 :: .int x3 :: .int x2 :: .int x1 :: .ref (lc 300 0) :: rest) lc s ck cn :=
  v_callV (kd := 300) (i := 0) (nA := 4) (As := [.int x1, .int x2, .int x3, .int x4]) lvL_300 oL_300 rfl (liftM (Q := (fun v lc' s' => ∃ r : Int32 × tt_St, K r ∧ v = some (Value.int r.1) ∧ lc' = lc ∧ s' = (s.1, r.2, s.2.2))) (mM_place l (DM D) (dMd dA) (aLM lc s) (nTm lc) s.2.1 x1 x2 x3 x4 (Q := fun v lc' w => lc' = nTm lc ∧ (fun v lc' s' => ∃ r : Int32 × tt_St, K r ∧ v = some (Value.int r.1) ∧ lc' = lc ∧ s' = (s.1, r.2, s.2.2)) v lc (s.1, w, s.2.2)) (h.mono fun r hr => ⟨rfl, r, hr, rfl, rfl, rfl⟩))) (lw_V q1913 q1914 q1915 q154 q1916) (by decide +kernel) rfl hR hW hf d rfl (fun v lc' s' q => by obtain ⟨r, hr, e1, e2, e3⟩ := q; rw [e1, e2, e3]; exact kk r hr)
theorem cLm_thrown {l : Launch} {D : va_G} {dA : Nat → ClassId} {A : Nat → Prop} {pz b L : Nat} {xs : Nat → Int32} {lc : Nat → Nat → Nat} {s : tt_SL} {cc : ByteArray} {nl : Nat} {rt : Option FieldType} {rm : Room} {tn : tt_Tn} {Q : tt_Fin} {pc : Nat} {lv : List (Nat × Value)} {rest : List Value} {ck cn : Nat} {K : Int32 → Prop} (h : Ok (fM_thrown s.2.1) K) (hR : 0 + 1 ≤ rm.frames ∧ 8 + (1 + 11) + 0 ≤ rm.locals) (hW : (rest.map fun v => v.category).sum ≤ 8) (d : decode cc pc = .ok (.invokevirtual 175, 3)) (kk : ∀ r, K r → tt_V (XL l D dA A pz b L xs) cc (RX0, nl, rt, rm, tn) Q (pc + 3) lv (.int r :: rest) lc s (ck + 0) (cn + 0)) (hf : ck + 0 ≤ rm.cells ∧ cn + 0 ≤ rm.slots) : tt_V (XL l D dA A pz b L xs) cc (RX0, nl, rt, rm, tn) Q pc lv (.ref (lc 300 0) :: rest) lc s ck cn :=
  v_callV (kd := 300) (i := 0) (nA := 0) (As := []) lvL_300 oL_300 rfl (liftM (Q := (fun v lc' s' => ∃ r : Int32, K r ∧ v = some (Value.int r) ∧ lc' = lc ∧ s' = s)) (mM_thrown l (DM D) (dMd dA) (aLM lc s) (nTm lc) s.2.1 (Q := fun v lc' w => lc' = nTm lc ∧ (fun v lc' s' => ∃ r : Int32, K r ∧ v = some (Value.int r) ∧ lc' = lc ∧ s' = s) v lc (s.1, w, s.2.2)) (h.mono fun r hr => ⟨rfl, r, hr, rfl, rfl, rfl⟩))) (lw_V q1751 q1752 q1753 q154 q1754) (by decide +kernel) rfl hR hW hf d rfl (fun v lc' s' q => by obtain ⟨r, hr, e1, e2, e3⟩ := q; rw [e1, e2, e3]; exact kk r hr)
def fL_case_0 (L : Nat) (xs : Nat → Int32) (s : tt_SL) (x4 : Int32) : Option tt_SL :=
  if inB (x4 + (1 : Int32)) L then if inB (x4 + (2 : Int32)) L then if inB (x4 + (3 : Int32)) L then if inB (x4 + (4 : Int32)) L then (wrapI (fT_place s.1 (xs ((x4 + (1 : Int32)).toNatClampNeg)) (xs ((x4 + (2 : Int32)).toNatClampNeg)) (xs ((x4 + (3 : Int32)).toNatClampNeg)) (xs ((x4 + (4 : Int32)).toNatClampNeg))) s (cd3 none (some 1) (some 2))).bind fun r5 => (fM_place r5.2.2.1 (xs ((x4 + (1 : Int32)).toNatClampNeg)) (xs ((x4 + (2 : Int32)).toNatClampNeg)) (xs ((x4 + (3 : Int32)).toNatClampNeg)) (xs ((x4 + (4 : Int32)).toNatClampNeg))).bind fun r6 => (fM_thrown (r5.2.1, r6.2, r5.2.2.2).2.1).bind fun r7 => if r7 = r5.1 then if r5.1 = 0 then if inB (0 : Int32) 1 then if (rdL (r5.2.1, r6.2, r5.2.2.2).2.2 0 0 ((0 : Int32).toNatClampNeg)) = r6.1.toInt64 then some (r5.2.1, r6.2, r5.2.2.2) else none else none else some (r5.2.1, r6.2, r5.2.2.2) else none else none else none else none else none
set_option maxHeartbeats 4000000 in
theorem lcase_0 {l : Launch} {D : va_G} {dA : Nat → ClassId} {A : Nat → Prop} {pz b L : Nat} {xs : Nat → Int32} (hl9 : l.stackTraces = false) {lc : Nat → Nat → Nat} {s : tt_SL} {x4 : Int32} {ck cn : Nat} {tn : tt_Tn} {Q : tt_Fin} (hk1 : ck + 60 ≤ room_1.cells) (hk2 : cn + 600 ≤ room_1.slots) (h : Ok (fL_case_0 L xs s x4) (fun r => ∀ lc', tt_agr (XL l D dA A pz b L xs) s lc lc' → ∀ ck' cn', ck' ≤ ck + 60 → cn' ≤ cn + 600 → tt_V (XL l D dA A pz b L xs) code (RX0, 8, ret, room_1, tn) Q 3740 [(0, .ref b), (1, .ref (lc' 0 0)), (2, .ref (lc' 300 0)), (3, .ref (lc' 400 0)), (4, .int x4)] [] lc' r ck' cn')) : tt_V (XL l D dA A pz b L xs) code (RX0, 8, ret, room_1, tn) Q 256 [(0, .ref b), (1, .ref (lc 0 0)), (2, .ref (lc 300 0)), (3, .ref (lc 400 0)), (4, .int x4)] [] lc s ck cn := by
  unfold fL_case_0 at h
  refine v_aload_n 1 dL_law_256 rfl ?_
  refine v_aload_n 0 dL_law_257 rfl ?_
  refine v_iload 4 dL_law_258 rfl ?_
  refine v_iconst dL_law_260 ic_1 ?_
  refine v_iadd dL_law_261 ?_
  obtain ⟨g1, h⟩ := Ok.guard h
  refine v_sld g1 dL_law_262 ?_
  refine v_aload_n 0 dL_law_263 rfl ?_
  refine v_iload 4 dL_law_264 rfl ?_
  refine v_iconst dL_law_266 ic_2 ?_
  refine v_iadd dL_law_267 ?_
  obtain ⟨g2, h⟩ := Ok.guard h
  refine v_sld g2 dL_law_268 ?_
  refine v_aload_n 0 dL_law_269 rfl ?_
  refine v_iload 4 dL_law_270 rfl ?_
  refine v_iconst dL_law_272 ic_3 ?_
  refine v_iadd dL_law_273 ?_
  obtain ⟨g3, h⟩ := Ok.guard h
  refine v_sld g3 dL_law_274 ?_
  refine v_aload_n 0 dL_law_275 rfl ?_
  refine v_iload 4 dL_law_276 rfl ?_
  refine v_iconst dL_law_278 ic_4 ?_
  refine v_iadd dL_law_279 ?_
  obtain ⟨g4, h⟩ := Ok.guard h
  refine v_sld g4 dL_law_280 ?_
  refine v_aload_n 3 dL_law_281 rfl ?_
  refine cLw_place (Ok.bind h) hl9 ⟨Nat.le_of_ble_eq_true rfl, Nat.le_of_ble_eq_true rfl⟩ (Nat.le_of_ble_eq_true rfl) dL_law_282 (fun r5 h lc hc => ?_) ⟨by omega, by omega⟩
  rw [← hc 0 0 (.inl lvL_0)]
  rw [← hc 300 0 (.inl lvL_300)]
  rw [← hc 400 0 (.inl lvL_400)]
  have h := Ok.agr h hc (fun _ _ h => h)
  refine v_istore [(5, .int r5.1), (0, .ref b), (1, .ref (lc 0 0)), (2, .ref (lc 300 0)), (3, .ref (lc 400 0)), (4, .int x4)] dL_law_285 (Nat.le_of_ble_eq_true rfl) rfl ?_
  refine v_aload_n 3 dL_law_287 rfl ?_
  refine v_aload_n 1 dL_law_288 rfl ?_
  refine v_iload 5 dL_law_289 rfl ?_
  refine v_iconst dL_law_291 ic_1 ?_
  refine v_iadd dL_law_292 ?_
  refine v_sld g1 dL_law_293 ?_
  refine v_aload_n 1 dL_law_294 rfl ?_
  refine v_iload 5 dL_law_295 rfl ?_
  refine v_iconst dL_law_297 ic_2 ?_
  refine v_iadd dL_law_298 ?_
  refine v_sld g2 dL_law_299 ?_
  refine v_aload_n 1 dL_law_300 rfl ?_
  refine v_iload 5 dL_law_301 rfl ?_
  refine v_iconst dL_law_303 ic_3 ?_
  refine v_iadd dL_law_304 ?_
  refine v_sld g3 dL_law_305 ?_
  refine v_aload_n 1 dL_law_306 rfl ?_
  refine v_iload 5 dL_law_307 rfl ?_
  refine v_iconst dL_law_309 ic_4 ?_
  refine v_iadd dL_law_310 ?_
  refine v_sld g4 dL_law_311 ?_
  refine cLm_place (Ok.bind h) ⟨Nat.le_of_ble_eq_true rfl, Nat.le_of_ble_eq_true rfl⟩ (Nat.le_of_ble_eq_true rfl) dL_law_312 (fun r6 h => ?_) ⟨by omega, by omega⟩
  refine v_istore [(6, .int r6.1), (5, .int r5.1), (0, .ref b), (1, .ref (lc 0 0)), (2, .ref (lc 300 0)), (3, .ref (lc 400 0)), (4, .int x4)] dL_law_315 (Nat.le_of_ble_eq_true rfl) rfl ?_
  refine v_aload_n 4 dL_law_317 rfl ?_
  refine cLm_thrown (Ok.bind h) ⟨Nat.le_of_ble_eq_true rfl, Nat.le_of_ble_eq_true rfl⟩ (Nat.le_of_ble_eq_true rfl) dL_law_318 (fun r7 h => ?_) ⟨by omega, by omega⟩
  refine v_iload 1 dL_law_321 rfl ?_
  refine v_icmp_eq (tgt := 328) dL_law_323 rfl (fun c8 => ?_) (fun c8 => ?_)
  · have h := Ok.pos h c8
    refine v_iload 1 dL_law_328 rfl ?_
    refine v_if_ne (tgt := 345) dL_law_330 rfl (fun c9 => ?_) (fun c9 => ?_)
    · have h := Ok.neg h c9
      refine v_goto (tgt := 3740) dL_law_345 rfl ?_
      refine v_sub [2, 3, 4, 5, 6] rfl ?_
      have h := Ok.ret h
      exact h lc agr_rf _ _ (by omega) (by omega)
    · have h := Ok.pos h c9
      refine v_aload_n 5 dL_law_333 rfl ?_
      refine v_iconst dL_law_334 ic_0 ?_
      obtain ⟨g10, h⟩ := Ok.guard h
      refine lL_400 g10 dL_law_335 ?_
      refine v_iload 0 dL_law_336 rfl ?_
      refine v_i2l dL_law_338 rfl ?_
      refine v_lif_eq (tgt := 345) dL_law_339 dL_law_340 rfl (fun c11 => ?_) (fun c11 => ?_)
      · have h := Ok.pos h c11
        refine v_goto (tgt := 3740) dL_law_345 rfl ?_
        refine v_sub [2, 3, 4, 5, 6] rfl ?_
        have h := Ok.ret h
        exact h lc agr_rf _ _ (by omega) (by omega)
      · have h := Ok.neg h c11
        refine v_iconst dL_law_343 ic_0 ?_
        exact Ok.stuck h
  · have h := Ok.neg h c8
    refine v_iconst dL_law_326 ic_0 ?_
    exact Ok.stuck h
theorem cLw_sign {l : Launch} {D : va_G} {dA : Nat → ClassId} {A : Nat → Prop} {pz b L : Nat} {xs : Nat → Int32} {lc : Nat → Nat → Nat} {s : tt_SL} {cc : ByteArray} {nl : Nat} {rt : Option FieldType} {rm : Room} {tn : tt_Tn} {Q : tt_Fin} {pc : Nat} {lv : List (Nat × Value)} {rest : List Value} {ck cn : Nat} {x1 : Int32} {x2 : Int32} {x3 : Int32} {K : Int32 × tt_SL → Prop} (h : Ok (wrapI (fT_sign s.1 x1 x2 x3) s (cd3 (some 1) (some 2) (some 3))) K) (hl9 : l.stackTraces = false) (hR : 18 + 1 ≤ rm.frames ∧ 8 + (6 + 11) + 3104 ≤ rm.locals) (hW : (rest.map fun v => v.category).sum ≤ 8) (d : decode cc pc = .ok (.invokestatic 179, 3)) (kk : ∀ r, K r → ∀ lc', tt_agr (XL l D dA A pz b L xs) s lc lc' → tt_V (XL l D dA A pz b L xs) cc (RX0, nl, rt, rm, tn) Q (pc + 3) lv (.int r.1 :: rest) lc' r.2 (ck + 6) (cn + 30)) (hf : ck + 6 ≤ rm.cells ∧ cn + 30 ≤ rm.slots) : tt_V (XL l D dA A pz b L xs) cc (RX0, nl, rt, rm, tn) Q pc lv (.ref (lc 400 0) :: .int x3 :: .int x2 :: .int x1 :: .ref (lc 0 0) :: rest) lc s ck cn :=
  v_callSW (nA := 5) (As := [.ref (lc 0 0), .int x1, .int x2, .int x3, .ref (lc 400 0)]) (mL_sign l D dA A pz b L xs hl9 lc s x1 x2 x3 (Q := (fun v lc' s' => ∃ r : Int32 × tt_SL, K r ∧ v = some (Value.int r.1) ∧ tt_agr (XL l D dA A pz b L xs) s lc lc' ∧ s' = r.2)) (h.mono fun r hr lc' ha => ⟨r, hr, rfl, ha, rfl⟩)) (lw_SW q1014 q1015 q126 q1016) (by decide +kernel) rfl hR hW hf d rfl (fun v lc' s' q => by obtain ⟨r, hr, e1, e2, e3⟩ := q; rw [e1, e3]; exact kk r hr lc' e2)
theorem cLm_sign {l : Launch} {D : va_G} {dA : Nat → ClassId} {A : Nat → Prop} {pz b L : Nat} {xs : Nat → Int32} {lc : Nat → Nat → Nat} {s : tt_SL} {cc : ByteArray} {nl : Nat} {rt : Option FieldType} {rm : Room} {tn : tt_Tn} {Q : tt_Fin} {pc : Nat} {lv : List (Nat × Value)} {rest : List Value} {ck cn : Nat} {x1 : Int32} {x2 : Int32} {x3 : Int32} {K : Int32 × tt_St → Prop} (h : Ok (fM_sign s.2.1 x1 x2 x3) K) (hR : 9 + 1 ≤ rm.frames ∧ 8 + (4 + 11) + 212 ≤ rm.locals) (hW : (rest.map fun v => v.category).sum ≤ 8) (d : decode cc pc = .ok (.invokevirtual 182, 3)) (kk : ∀ r, K r → tt_V (XL l D dA A pz b L xs) cc (RX0, nl, rt, rm, tn) Q (pc + 3) lv (.int r.1 :: rest) lc (s.1, r.2, s.2.2) (ck + 0) (cn + 0)) (hf : ck + 0 ≤ rm.cells ∧ cn + 0 ≤ rm.slots) : tt_V (XL l D dA A pz b L xs) cc (RX0, nl, rt, rm, tn) Q pc lv (.int x3 :: .int x2 :: .int x1 :: .ref (lc 300 0) :: rest) lc s ck cn :=
  v_callV (kd := 300) (i := 0) (nA := 3) (As := [.int x1, .int x2, .int x3]) lvL_300 oL_300 rfl (liftM (Q := (fun v lc' s' => ∃ r : Int32 × tt_St, K r ∧ v = some (Value.int r.1) ∧ lc' = lc ∧ s' = (s.1, r.2, s.2.2))) (mM_sign l (DM D) (dMd dA) (aLM lc s) (nTm lc) s.2.1 x1 x2 x3 (Q := fun v lc' w => lc' = nTm lc ∧ (fun v lc' s' => ∃ r : Int32 × tt_St, K r ∧ v = some (Value.int r.1) ∧ lc' = lc ∧ s' = (s.1, r.2, s.2.2)) v lc (s.1, w, s.2.2)) (h.mono fun r hr => ⟨rfl, r, hr, rfl, rfl, rfl⟩))) (lw_V q2122 q2123 q2124 q154 q2125) (by decide +kernel) rfl hR hW hf d rfl (fun v lc' s' q => by obtain ⟨r, hr, e1, e2, e3⟩ := q; rw [e1, e2, e3]; exact kk r hr)
def fL_case_1 (L : Nat) (xs : Nat → Int32) (s : tt_SL) (x4 : Int32) : Option tt_SL :=
  if inB (x4 + (1 : Int32)) L then if inB (x4 + (2 : Int32)) L then if inB (x4 + (3 : Int32)) L then (wrapI (fT_sign s.1 (xs ((x4 + (1 : Int32)).toNatClampNeg)) (xs ((x4 + (2 : Int32)).toNatClampNeg)) (xs ((x4 + (3 : Int32)).toNatClampNeg))) s (cd3 (some 1) (some 2) (some 3))).bind fun r4 => (fM_sign r4.2.2.1 (xs ((x4 + (1 : Int32)).toNatClampNeg)) (xs ((x4 + (2 : Int32)).toNatClampNeg)) (xs ((x4 + (3 : Int32)).toNatClampNeg))).bind fun r5 => (fM_thrown (r4.2.1, r5.2, r4.2.2.2).2.1).bind fun r6 => if r6 = r4.1 then if r4.1 = 0 then if inB (0 : Int32) 1 then if (rdL (r4.2.1, r5.2, r4.2.2.2).2.2 0 0 ((0 : Int32).toNatClampNeg)) = r5.1.toInt64 then some (r4.2.1, r5.2, r4.2.2.2) else none else none else some (r4.2.1, r5.2, r4.2.2.2) else none else none else none else none
set_option maxHeartbeats 4000000 in
theorem lcase_1 {l : Launch} {D : va_G} {dA : Nat → ClassId} {A : Nat → Prop} {pz b L : Nat} {xs : Nat → Int32} (hl9 : l.stackTraces = false) {lc : Nat → Nat → Nat} {s : tt_SL} {x4 : Int32} {ck cn : Nat} {tn : tt_Tn} {Q : tt_Fin} (hk1 : ck + 60 ≤ room_1.cells) (hk2 : cn + 600 ≤ room_1.slots) (h : Ok (fL_case_1 L xs s x4) (fun r => ∀ lc', tt_agr (XL l D dA A pz b L xs) s lc lc' → ∀ ck' cn', ck' ≤ ck + 60 → cn' ≤ cn + 600 → tt_V (XL l D dA A pz b L xs) code (RX0, 8, ret, room_1, tn) Q 3740 [(0, .ref b), (1, .ref (lc' 0 0)), (2, .ref (lc' 300 0)), (3, .ref (lc' 400 0)), (4, .int x4)] [] lc' r ck' cn')) : tt_V (XL l D dA A pz b L xs) code (RX0, 8, ret, room_1, tn) Q 348 [(0, .ref b), (1, .ref (lc 0 0)), (2, .ref (lc 300 0)), (3, .ref (lc 400 0)), (4, .int x4)] [] lc s ck cn := by
  unfold fL_case_1 at h
  refine v_aload_n 1 dL_law_348 rfl ?_
  refine v_aload_n 0 dL_law_349 rfl ?_
  refine v_iload 4 dL_law_350 rfl ?_
  refine v_iconst dL_law_352 ic_1 ?_
  refine v_iadd dL_law_353 ?_
  obtain ⟨g1, h⟩ := Ok.guard h
  refine v_sld g1 dL_law_354 ?_
  refine v_aload_n 0 dL_law_355 rfl ?_
  refine v_iload 4 dL_law_356 rfl ?_
  refine v_iconst dL_law_358 ic_2 ?_
  refine v_iadd dL_law_359 ?_
  obtain ⟨g2, h⟩ := Ok.guard h
  refine v_sld g2 dL_law_360 ?_
  refine v_aload_n 0 dL_law_361 rfl ?_
  refine v_iload 4 dL_law_362 rfl ?_
  refine v_iconst dL_law_364 ic_3 ?_
  refine v_iadd dL_law_365 ?_
  obtain ⟨g3, h⟩ := Ok.guard h
  refine v_sld g3 dL_law_366 ?_
  refine v_aload_n 3 dL_law_367 rfl ?_
  refine cLw_sign (Ok.bind h) hl9 ⟨Nat.le_of_ble_eq_true rfl, Nat.le_of_ble_eq_true rfl⟩ (Nat.le_of_ble_eq_true rfl) dL_law_368 (fun r4 h lc hc => ?_) ⟨by omega, by omega⟩
  rw [← hc 0 0 (.inl lvL_0)]
  rw [← hc 300 0 (.inl lvL_300)]
  rw [← hc 400 0 (.inl lvL_400)]
  have h := Ok.agr h hc (fun _ _ h => h)
  refine v_istore [(5, .int r4.1), (0, .ref b), (1, .ref (lc 0 0)), (2, .ref (lc 300 0)), (3, .ref (lc 400 0)), (4, .int x4)] dL_law_371 (Nat.le_of_ble_eq_true rfl) rfl ?_
  refine v_aload_n 3 dL_law_373 rfl ?_
  refine v_aload_n 1 dL_law_374 rfl ?_
  refine v_iload 5 dL_law_375 rfl ?_
  refine v_iconst dL_law_377 ic_1 ?_
  refine v_iadd dL_law_378 ?_
  refine v_sld g1 dL_law_379 ?_
  refine v_aload_n 1 dL_law_380 rfl ?_
  refine v_iload 5 dL_law_381 rfl ?_
  refine v_iconst dL_law_383 ic_2 ?_
  refine v_iadd dL_law_384 ?_
  refine v_sld g2 dL_law_385 ?_
  refine v_aload_n 1 dL_law_386 rfl ?_
  refine v_iload 5 dL_law_387 rfl ?_
  refine v_iconst dL_law_389 ic_3 ?_
  refine v_iadd dL_law_390 ?_
  refine v_sld g3 dL_law_391 ?_
  refine cLm_sign (Ok.bind h) ⟨Nat.le_of_ble_eq_true rfl, Nat.le_of_ble_eq_true rfl⟩ (Nat.le_of_ble_eq_true rfl) dL_law_392 (fun r5 h => ?_) ⟨by omega, by omega⟩
  refine v_istore [(6, .int r5.1), (5, .int r4.1), (0, .ref b), (1, .ref (lc 0 0)), (2, .ref (lc 300 0)), (3, .ref (lc 400 0)), (4, .int x4)] dL_law_395 (Nat.le_of_ble_eq_true rfl) rfl ?_
  refine v_aload_n 4 dL_law_397 rfl ?_
  refine cLm_thrown (Ok.bind h) ⟨Nat.le_of_ble_eq_true rfl, Nat.le_of_ble_eq_true rfl⟩ (Nat.le_of_ble_eq_true rfl) dL_law_398 (fun r6 h => ?_) ⟨by omega, by omega⟩
  refine v_iload 1 dL_law_401 rfl ?_
  refine v_icmp_eq (tgt := 408) dL_law_403 rfl (fun c7 => ?_) (fun c7 => ?_)
  · have h := Ok.pos h c7
    refine v_iload 1 dL_law_408 rfl ?_
    refine v_if_ne (tgt := 425) dL_law_410 rfl (fun c8 => ?_) (fun c8 => ?_)
    · have h := Ok.neg h c8
      refine v_goto (tgt := 3740) dL_law_425 rfl ?_
      refine v_sub [2, 3, 4, 5, 6] rfl ?_
      have h := Ok.ret h
      exact h lc agr_rf _ _ (by omega) (by omega)
    · have h := Ok.pos h c8
      refine v_aload_n 5 dL_law_413 rfl ?_
      refine v_iconst dL_law_414 ic_0 ?_
      obtain ⟨g9, h⟩ := Ok.guard h
      refine lL_400 g9 dL_law_415 ?_
      refine v_iload 0 dL_law_416 rfl ?_
      refine v_i2l dL_law_418 rfl ?_
      refine v_lif_eq (tgt := 425) dL_law_419 dL_law_420 rfl (fun c10 => ?_) (fun c10 => ?_)
      · have h := Ok.pos h c10
        refine v_goto (tgt := 3740) dL_law_425 rfl ?_
        refine v_sub [2, 3, 4, 5, 6] rfl ?_
        have h := Ok.ret h
        exact h lc agr_rf _ _ (by omega) (by omega)
      · have h := Ok.neg h c10
        refine v_iconst dL_law_423 ic_0 ?_
        exact Ok.stuck h
  · have h := Ok.neg h c7
    refine v_iconst dL_law_406 ic_0 ?_
    exact Ok.stuck h
theorem cLw_lack {l : Launch} {D : va_G} {dA : Nat → ClassId} {A : Nat → Prop} {pz b L : Nat} {xs : Nat → Int32} {lc : Nat → Nat → Nat} {s : tt_SL} {cc : ByteArray} {nl : Nat} {rt : Option FieldType} {rm : Room} {tn : tt_Tn} {Q : tt_Fin} {pc : Nat} {lv : List (Nat × Value)} {rest : List Value} {ck cn : Nat} {x1 : Int32} {K : Int32 × tt_SL → Prop} (h : Ok (wrapI (fT_lack s.1 x1) s (cd3 none (some 1) (some 2))) K) (hl9 : l.stackTraces = false) (hR : 18 + 1 ≤ rm.frames ∧ 8 + (4 + 11) + 3101 ≤ rm.locals) (hW : (rest.map fun v => v.category).sum ≤ 8) (d : decode cc pc = .ok (.invokestatic 183, 3)) (kk : ∀ r, K r → ∀ lc', tt_agr (XL l D dA A pz b L xs) s lc lc' → tt_V (XL l D dA A pz b L xs) cc (RX0, nl, rt, rm, tn) Q (pc + 3) lv (.int r.1 :: rest) lc' r.2 (ck + 4) (cn + 16)) (hf : ck + 4 ≤ rm.cells ∧ cn + 16 ≤ rm.slots) : tt_V (XL l D dA A pz b L xs) cc (RX0, nl, rt, rm, tn) Q pc lv (.ref (lc 400 0) :: .int x1 :: .ref (lc 0 0) :: rest) lc s ck cn :=
  v_callSW (nA := 3) (As := [.ref (lc 0 0), .int x1, .ref (lc 400 0)]) (mL_lack l D dA A pz b L xs hl9 lc s x1 (Q := (fun v lc' s' => ∃ r : Int32 × tt_SL, K r ∧ v = some (Value.int r.1) ∧ tt_agr (XL l D dA A pz b L xs) s lc lc' ∧ s' = r.2)) (h.mono fun r hr lc' ha => ⟨r, hr, rfl, ha, rfl⟩)) (lw_SW q1068 q1069 q126 q1070) (by decide +kernel) rfl hR hW hf d rfl (fun v lc' s' q => by obtain ⟨r, hr, e1, e2, e3⟩ := q; rw [e1, e3]; exact kk r hr lc' e2)
theorem cLm_lack {l : Launch} {D : va_G} {dA : Nat → ClassId} {A : Nat → Prop} {pz b L : Nat} {xs : Nat → Int32} {lc : Nat → Nat → Nat} {s : tt_SL} {cc : ByteArray} {nl : Nat} {rt : Option FieldType} {rm : Room} {tn : tt_Tn} {Q : tt_Fin} {pc : Nat} {lv : List (Nat × Value)} {rest : List Value} {ck cn : Nat} {x1 : Int32} {K : Int32 × tt_St → Prop} (h : Ok (fM_lack s.2.1 x1) K) (hR : 9 + 1 ≤ rm.frames ∧ 8 + (2 + 11) + 212 ≤ rm.locals) (hW : (rest.map fun v => v.category).sum ≤ 8) (d : decode cc pc = .ok (.invokevirtual 186, 3)) (kk : ∀ r, K r → tt_V (XL l D dA A pz b L xs) cc (RX0, nl, rt, rm, tn) Q (pc + 3) lv (.int r.1 :: rest) lc (s.1, r.2, s.2.2) (ck + 0) (cn + 0)) (hf : ck + 0 ≤ rm.cells ∧ cn + 0 ≤ rm.slots) : tt_V (XL l D dA A pz b L xs) cc (RX0, nl, rt, rm, tn) Q pc lv (.int x1 :: .ref (lc 300 0) :: rest) lc s ck cn :=
  v_callV (kd := 300) (i := 0) (nA := 1) (As := [.int x1]) lvL_300 oL_300 rfl (liftM (Q := (fun v lc' s' => ∃ r : Int32 × tt_St, K r ∧ v = some (Value.int r.1) ∧ lc' = lc ∧ s' = (s.1, r.2, s.2.2))) (mM_lack l (DM D) (dMd dA) (aLM lc s) (nTm lc) s.2.1 x1 (Q := fun v lc' w => lc' = nTm lc ∧ (fun v lc' s' => ∃ r : Int32 × tt_St, K r ∧ v = some (Value.int r.1) ∧ lc' = lc ∧ s' = (s.1, r.2, s.2.2)) v lc (s.1, w, s.2.2)) (h.mono fun r hr => ⟨rfl, r, hr, rfl, rfl, rfl⟩))) (lw_V q2140 q2141 q2142 q154 q2143) (by decide +kernel) rfl hR hW hf d rfl (fun v lc' s' q => by obtain ⟨r, hr, e1, e2, e3⟩ := q; rw [e1, e2, e3]; exact kk r hr)
def fL_case_2 (L : Nat) (xs : Nat → Int32) (s : tt_SL) (x4 : Int32) : Option tt_SL :=
  if inB (x4 + (1 : Int32)) L then (wrapI (fT_lack s.1 (xs ((x4 + (1 : Int32)).toNatClampNeg))) s (cd3 none (some 1) (some 2))).bind fun r2 => (fM_lack r2.2.2.1 (xs ((x4 + (1 : Int32)).toNatClampNeg))).bind fun r3 => (fM_thrown (r2.2.1, r3.2, r2.2.2.2).2.1).bind fun r4 => if r4 = r2.1 then if r2.1 = 0 then if inB (0 : Int32) 1 then if (rdL (r2.2.1, r3.2, r2.2.2.2).2.2 0 0 ((0 : Int32).toNatClampNeg)) = r3.1.toInt64 then some (r2.2.1, r3.2, r2.2.2.2) else none else none else some (r2.2.1, r3.2, r2.2.2.2) else none else none
set_option maxHeartbeats 4000000 in
theorem lcase_2 {l : Launch} {D : va_G} {dA : Nat → ClassId} {A : Nat → Prop} {pz b L : Nat} {xs : Nat → Int32} (hl9 : l.stackTraces = false) {lc : Nat → Nat → Nat} {s : tt_SL} {x4 : Int32} {ck cn : Nat} {tn : tt_Tn} {Q : tt_Fin} (hk1 : ck + 60 ≤ room_1.cells) (hk2 : cn + 600 ≤ room_1.slots) (h : Ok (fL_case_2 L xs s x4) (fun r => ∀ lc', tt_agr (XL l D dA A pz b L xs) s lc lc' → ∀ ck' cn', ck' ≤ ck + 60 → cn' ≤ cn + 600 → tt_V (XL l D dA A pz b L xs) code (RX0, 8, ret, room_1, tn) Q 3740 [(0, .ref b), (1, .ref (lc' 0 0)), (2, .ref (lc' 300 0)), (3, .ref (lc' 400 0)), (4, .int x4)] [] lc' r ck' cn')) : tt_V (XL l D dA A pz b L xs) code (RX0, 8, ret, room_1, tn) Q 428 [(0, .ref b), (1, .ref (lc 0 0)), (2, .ref (lc 300 0)), (3, .ref (lc 400 0)), (4, .int x4)] [] lc s ck cn := by
  unfold fL_case_2 at h
  refine v_aload_n 1 dL_law_428 rfl ?_
  refine v_aload_n 0 dL_law_429 rfl ?_
  refine v_iload 4 dL_law_430 rfl ?_
  refine v_iconst dL_law_432 ic_1 ?_
  refine v_iadd dL_law_433 ?_
  obtain ⟨g1, h⟩ := Ok.guard h
  refine v_sld g1 dL_law_434 ?_
  refine v_aload_n 3 dL_law_435 rfl ?_
  refine cLw_lack (Ok.bind h) hl9 ⟨Nat.le_of_ble_eq_true rfl, Nat.le_of_ble_eq_true rfl⟩ (Nat.le_of_ble_eq_true rfl) dL_law_436 (fun r2 h lc hc => ?_) ⟨by omega, by omega⟩
  rw [← hc 0 0 (.inl lvL_0)]
  rw [← hc 300 0 (.inl lvL_300)]
  rw [← hc 400 0 (.inl lvL_400)]
  have h := Ok.agr h hc (fun _ _ h => h)
  refine v_istore [(5, .int r2.1), (0, .ref b), (1, .ref (lc 0 0)), (2, .ref (lc 300 0)), (3, .ref (lc 400 0)), (4, .int x4)] dL_law_439 (Nat.le_of_ble_eq_true rfl) rfl ?_
  refine v_aload_n 3 dL_law_441 rfl ?_
  refine v_aload_n 1 dL_law_442 rfl ?_
  refine v_iload 5 dL_law_443 rfl ?_
  refine v_iconst dL_law_445 ic_1 ?_
  refine v_iadd dL_law_446 ?_
  refine v_sld g1 dL_law_447 ?_
  refine cLm_lack (Ok.bind h) ⟨Nat.le_of_ble_eq_true rfl, Nat.le_of_ble_eq_true rfl⟩ (Nat.le_of_ble_eq_true rfl) dL_law_448 (fun r3 h => ?_) ⟨by omega, by omega⟩
  refine v_istore [(6, .int r3.1), (5, .int r2.1), (0, .ref b), (1, .ref (lc 0 0)), (2, .ref (lc 300 0)), (3, .ref (lc 400 0)), (4, .int x4)] dL_law_451 (Nat.le_of_ble_eq_true rfl) rfl ?_
  refine v_aload_n 4 dL_law_453 rfl ?_
  refine cLm_thrown (Ok.bind h) ⟨Nat.le_of_ble_eq_true rfl, Nat.le_of_ble_eq_true rfl⟩ (Nat.le_of_ble_eq_true rfl) dL_law_454 (fun r4 h => ?_) ⟨by omega, by omega⟩
  refine v_iload 1 dL_law_457 rfl ?_
  refine v_icmp_eq (tgt := 464) dL_law_459 rfl (fun c5 => ?_) (fun c5 => ?_)
  · have h := Ok.pos h c5
    refine v_iload 1 dL_law_464 rfl ?_
    refine v_if_ne (tgt := 481) dL_law_466 rfl (fun c6 => ?_) (fun c6 => ?_)
    · have h := Ok.neg h c6
      refine v_goto (tgt := 3740) dL_law_481 rfl ?_
      refine v_sub [2, 3, 4, 5, 6] rfl ?_
      have h := Ok.ret h
      exact h lc agr_rf _ _ (by omega) (by omega)
    · have h := Ok.pos h c6
      refine v_aload_n 5 dL_law_469 rfl ?_
      refine v_iconst dL_law_470 ic_0 ?_
      obtain ⟨g7, h⟩ := Ok.guard h
      refine lL_400 g7 dL_law_471 ?_
      refine v_iload 0 dL_law_472 rfl ?_
      refine v_i2l dL_law_474 rfl ?_
      refine v_lif_eq (tgt := 481) dL_law_475 dL_law_476 rfl (fun c8 => ?_) (fun c8 => ?_)
      · have h := Ok.pos h c8
        refine v_goto (tgt := 3740) dL_law_481 rfl ?_
        refine v_sub [2, 3, 4, 5, 6] rfl ?_
        have h := Ok.ret h
        exact h lc agr_rf _ _ (by omega) (by omega)
      · have h := Ok.neg h c8
        refine v_iconst dL_law_479 ic_0 ?_
        exact Ok.stuck h
  · have h := Ok.neg h c5
    refine v_iconst dL_law_462 ic_0 ?_
    exact Ok.stuck h
theorem cLw_rules {l : Launch} {D : va_G} {dA : Nat → ClassId} {A : Nat → Prop} {pz b L : Nat} {xs : Nat → Int32} {lc : Nat → Nat → Nat} {s : tt_SL} {cc : ByteArray} {nl : Nat} {rt : Option FieldType} {rm : Room} {tn : tt_Tn} {Q : tt_Fin} {pc : Nat} {lv : List (Nat × Value)} {rest : List Value} {ck cn : Nat} {x1 : Int32} {x2 : Int32} {x3 : Int32} {K : Int32 × tt_SL → Prop} (h : Ok (wrapI (fT_rules s.1 x1 x2 x3) s (cd3 none (some 1) (some 2))) K) (hl9 : l.stackTraces = false) (hR : 18 + 1 ≤ rm.frames ∧ 8 + (6 + 11) + 3103 ≤ rm.locals) (hW : (rest.map fun v => v.category).sum ≤ 8) (d : decode cc pc = .ok (.invokestatic 187, 3)) (kk : ∀ r, K r → ∀ lc', tt_agr (XL l D dA A pz b L xs) s lc lc' → tt_V (XL l D dA A pz b L xs) cc (RX0, nl, rt, rm, tn) Q (pc + 3) lv (.int r.1 :: rest) lc' r.2 (ck + 6) (cn + 30)) (hf : ck + 6 ≤ rm.cells ∧ cn + 30 ≤ rm.slots) : tt_V (XL l D dA A pz b L xs) cc (RX0, nl, rt, rm, tn) Q pc lv (.ref (lc 400 0) :: .int x3 :: .int x2 :: .int x1 :: .ref (lc 0 0) :: rest) lc s ck cn :=
  v_callSW (nA := 5) (As := [.ref (lc 0 0), .int x1, .int x2, .int x3, .ref (lc 400 0)]) (mL_rules l D dA A pz b L xs hl9 lc s x1 x2 x3 (Q := (fun v lc' s' => ∃ r : Int32 × tt_SL, K r ∧ v = some (Value.int r.1) ∧ tt_agr (XL l D dA A pz b L xs) s lc lc' ∧ s' = r.2)) (h.mono fun r hr lc' ha => ⟨r, hr, rfl, ha, rfl⟩)) (lw_SW q1087 q1088 q126 q1089) (by decide +kernel) rfl hR hW hf d rfl (fun v lc' s' q => by obtain ⟨r, hr, e1, e2, e3⟩ := q; rw [e1, e3]; exact kk r hr lc' e2)
theorem cLm_rules {l : Launch} {D : va_G} {dA : Nat → ClassId} {A : Nat → Prop} {pz b L : Nat} {xs : Nat → Int32} {lc : Nat → Nat → Nat} {s : tt_SL} {cc : ByteArray} {nl : Nat} {rt : Option FieldType} {rm : Room} {tn : tt_Tn} {Q : tt_Fin} {pc : Nat} {lv : List (Nat × Value)} {rest : List Value} {ck cn : Nat} {x1 : Int32} {x2 : Int32} {x3 : Int32} {K : Int32 × tt_St → Prop} (h : Ok (fM_rules s.2.1 x1 x2 x3) K) (hR : 9 + 1 ≤ rm.frames ∧ 8 + (4 + 11) + 212 ≤ rm.locals) (hW : (rest.map fun v => v.category).sum ≤ 8) (d : decode cc pc = .ok (.invokevirtual 189, 3)) (kk : ∀ r, K r → tt_V (XL l D dA A pz b L xs) cc (RX0, nl, rt, rm, tn) Q (pc + 3) lv (.int r.1 :: rest) lc (s.1, r.2, s.2.2) (ck + 0) (cn + 0)) (hf : ck + 0 ≤ rm.cells ∧ cn + 0 ≤ rm.slots) : tt_V (XL l D dA A pz b L xs) cc (RX0, nl, rt, rm, tn) Q pc lv (.int x3 :: .int x2 :: .int x1 :: .ref (lc 300 0) :: rest) lc s ck cn :=
  v_callV (kd := 300) (i := 0) (nA := 3) (As := [.int x1, .int x2, .int x3]) lvL_300 oL_300 rfl (liftM (Q := (fun v lc' s' => ∃ r : Int32 × tt_St, K r ∧ v = some (Value.int r.1) ∧ lc' = lc ∧ s' = (s.1, r.2, s.2.2))) (mM_rules l (DM D) (dMd dA) (aLM lc s) (nTm lc) s.2.1 x1 x2 x3 (Q := fun v lc' w => lc' = nTm lc ∧ (fun v lc' s' => ∃ r : Int32 × tt_St, K r ∧ v = some (Value.int r.1) ∧ lc' = lc ∧ s' = (s.1, r.2, s.2.2)) v lc (s.1, w, s.2.2)) (h.mono fun r hr => ⟨rfl, r, hr, rfl, rfl, rfl⟩))) (lw_V q2147 q2148 q2149 q154 q2150) (by decide +kernel) rfl hR hW hf d rfl (fun v lc' s' q => by obtain ⟨r, hr, e1, e2, e3⟩ := q; rw [e1, e2, e3]; exact kk r hr)
def fL_case_3 (L : Nat) (xs : Nat → Int32) (s : tt_SL) (x4 : Int32) : Option tt_SL :=
  if inB (x4 + (1 : Int32)) L then if inB (x4 + (2 : Int32)) L then if inB (x4 + (3 : Int32)) L then (wrapI (fT_rules s.1 (xs ((x4 + (1 : Int32)).toNatClampNeg)) (xs ((x4 + (2 : Int32)).toNatClampNeg)) (xs ((x4 + (3 : Int32)).toNatClampNeg))) s (cd3 none (some 1) (some 2))).bind fun r4 => (fM_rules r4.2.2.1 (xs ((x4 + (1 : Int32)).toNatClampNeg)) (xs ((x4 + (2 : Int32)).toNatClampNeg)) (xs ((x4 + (3 : Int32)).toNatClampNeg))).bind fun r5 => (fM_thrown (r4.2.1, r5.2, r4.2.2.2).2.1).bind fun r6 => if r6 = r4.1 then if r4.1 = 0 then if inB (0 : Int32) 1 then if (rdL (r4.2.1, r5.2, r4.2.2.2).2.2 0 0 ((0 : Int32).toNatClampNeg)) = r5.1.toInt64 then some (r4.2.1, r5.2, r4.2.2.2) else none else none else some (r4.2.1, r5.2, r4.2.2.2) else none else none else none else none
set_option maxHeartbeats 4000000 in
theorem lcase_3 {l : Launch} {D : va_G} {dA : Nat → ClassId} {A : Nat → Prop} {pz b L : Nat} {xs : Nat → Int32} (hl9 : l.stackTraces = false) {lc : Nat → Nat → Nat} {s : tt_SL} {x4 : Int32} {ck cn : Nat} {tn : tt_Tn} {Q : tt_Fin} (hk1 : ck + 60 ≤ room_1.cells) (hk2 : cn + 600 ≤ room_1.slots) (h : Ok (fL_case_3 L xs s x4) (fun r => ∀ lc', tt_agr (XL l D dA A pz b L xs) s lc lc' → ∀ ck' cn', ck' ≤ ck + 60 → cn' ≤ cn + 600 → tt_V (XL l D dA A pz b L xs) code (RX0, 8, ret, room_1, tn) Q 3740 [(0, .ref b), (1, .ref (lc' 0 0)), (2, .ref (lc' 300 0)), (3, .ref (lc' 400 0)), (4, .int x4)] [] lc' r ck' cn')) : tt_V (XL l D dA A pz b L xs) code (RX0, 8, ret, room_1, tn) Q 484 [(0, .ref b), (1, .ref (lc 0 0)), (2, .ref (lc 300 0)), (3, .ref (lc 400 0)), (4, .int x4)] [] lc s ck cn := by
  unfold fL_case_3 at h
  refine v_aload_n 1 dL_law_484 rfl ?_
  refine v_aload_n 0 dL_law_485 rfl ?_
  refine v_iload 4 dL_law_486 rfl ?_
  refine v_iconst dL_law_488 ic_1 ?_
  refine v_iadd dL_law_489 ?_
  obtain ⟨g1, h⟩ := Ok.guard h
  refine v_sld g1 dL_law_490 ?_
  refine v_aload_n 0 dL_law_491 rfl ?_
  refine v_iload 4 dL_law_492 rfl ?_
  refine v_iconst dL_law_494 ic_2 ?_
  refine v_iadd dL_law_495 ?_
  obtain ⟨g2, h⟩ := Ok.guard h
  refine v_sld g2 dL_law_496 ?_
  refine v_aload_n 0 dL_law_497 rfl ?_
  refine v_iload 4 dL_law_498 rfl ?_
  refine v_iconst dL_law_500 ic_3 ?_
  refine v_iadd dL_law_501 ?_
  obtain ⟨g3, h⟩ := Ok.guard h
  refine v_sld g3 dL_law_502 ?_
  refine v_aload_n 3 dL_law_503 rfl ?_
  refine cLw_rules (Ok.bind h) hl9 ⟨Nat.le_of_ble_eq_true rfl, Nat.le_of_ble_eq_true rfl⟩ (Nat.le_of_ble_eq_true rfl) dL_law_504 (fun r4 h lc hc => ?_) ⟨by omega, by omega⟩
  rw [← hc 0 0 (.inl lvL_0)]
  rw [← hc 300 0 (.inl lvL_300)]
  rw [← hc 400 0 (.inl lvL_400)]
  have h := Ok.agr h hc (fun _ _ h => h)
  refine v_istore [(5, .int r4.1), (0, .ref b), (1, .ref (lc 0 0)), (2, .ref (lc 300 0)), (3, .ref (lc 400 0)), (4, .int x4)] dL_law_507 (Nat.le_of_ble_eq_true rfl) rfl ?_
  refine v_aload_n 3 dL_law_509 rfl ?_
  refine v_aload_n 1 dL_law_510 rfl ?_
  refine v_iload 5 dL_law_511 rfl ?_
  refine v_iconst dL_law_513 ic_1 ?_
  refine v_iadd dL_law_514 ?_
  refine v_sld g1 dL_law_515 ?_
  refine v_aload_n 1 dL_law_516 rfl ?_
  refine v_iload 5 dL_law_517 rfl ?_
  refine v_iconst dL_law_519 ic_2 ?_
  refine v_iadd dL_law_520 ?_
  refine v_sld g2 dL_law_521 ?_
  refine v_aload_n 1 dL_law_522 rfl ?_
  refine v_iload 5 dL_law_523 rfl ?_
  refine v_iconst dL_law_525 ic_3 ?_
  refine v_iadd dL_law_526 ?_
  refine v_sld g3 dL_law_527 ?_
  refine cLm_rules (Ok.bind h) ⟨Nat.le_of_ble_eq_true rfl, Nat.le_of_ble_eq_true rfl⟩ (Nat.le_of_ble_eq_true rfl) dL_law_528 (fun r5 h => ?_) ⟨by omega, by omega⟩
  refine v_istore [(6, .int r5.1), (5, .int r4.1), (0, .ref b), (1, .ref (lc 0 0)), (2, .ref (lc 300 0)), (3, .ref (lc 400 0)), (4, .int x4)] dL_law_531 (Nat.le_of_ble_eq_true rfl) rfl ?_
  refine v_aload_n 4 dL_law_533 rfl ?_
  refine cLm_thrown (Ok.bind h) ⟨Nat.le_of_ble_eq_true rfl, Nat.le_of_ble_eq_true rfl⟩ (Nat.le_of_ble_eq_true rfl) dL_law_534 (fun r6 h => ?_) ⟨by omega, by omega⟩
  refine v_iload 1 dL_law_537 rfl ?_
  refine v_icmp_eq (tgt := 544) dL_law_539 rfl (fun c7 => ?_) (fun c7 => ?_)
  · have h := Ok.pos h c7
    refine v_iload 1 dL_law_544 rfl ?_
    refine v_if_ne (tgt := 561) dL_law_546 rfl (fun c8 => ?_) (fun c8 => ?_)
    · have h := Ok.neg h c8
      refine v_goto (tgt := 3740) dL_law_561 rfl ?_
      refine v_sub [2, 3, 4, 5, 6] rfl ?_
      have h := Ok.ret h
      exact h lc agr_rf _ _ (by omega) (by omega)
    · have h := Ok.pos h c8
      refine v_aload_n 5 dL_law_549 rfl ?_
      refine v_iconst dL_law_550 ic_0 ?_
      obtain ⟨g9, h⟩ := Ok.guard h
      refine lL_400 g9 dL_law_551 ?_
      refine v_iload 0 dL_law_552 rfl ?_
      refine v_i2l dL_law_554 rfl ?_
      refine v_lif_eq (tgt := 561) dL_law_555 dL_law_556 rfl (fun c10 => ?_) (fun c10 => ?_)
      · have h := Ok.pos h c10
        refine v_goto (tgt := 3740) dL_law_561 rfl ?_
        refine v_sub [2, 3, 4, 5, 6] rfl ?_
        have h := Ok.ret h
        exact h lc agr_rf _ _ (by omega) (by omega)
      · have h := Ok.neg h c10
        refine v_iconst dL_law_559 ic_0 ?_
        exact Ok.stuck h
  · have h := Ok.neg h c7
    refine v_iconst dL_law_542 ic_0 ?_
    exact Ok.stuck h
theorem cLw_harm {l : Launch} {D : va_G} {dA : Nat → ClassId} {A : Nat → Prop} {pz b L : Nat} {xs : Nat → Int32} {lc : Nat → Nat → Nat} {s : tt_SL} {cc : ByteArray} {nl : Nat} {rt : Option FieldType} {rm : Room} {tn : tt_Tn} {Q : tt_Fin} {pc : Nat} {lv : List (Nat × Value)} {rest : List Value} {ck cn : Nat} {x1 : Int32} {x2 : Int32} {x3 : Int32} {x4 : Int32} {K : Int32 × tt_SL → Prop} (h : Ok (wrapI (fT_harm s.1 x1 x2 x3 x4) s (cd3 none (some 1) (some 2))) K) (hl9 : l.stackTraces = false) (hR : 18 + 1 ≤ rm.frames ∧ 8 + (7 + 11) + 3105 ≤ rm.locals) (hW : (rest.map fun v => v.category).sum ≤ 8) (d : decode cc pc = .ok (.invokestatic 190, 3)) (kk : ∀ r, K r → ∀ lc', tt_agr (XL l D dA A pz b L xs) s lc lc' → tt_V (XL l D dA A pz b L xs) cc (RX0, nl, rt, rm, tn) Q (pc + 3) lv (.int r.1 :: rest) lc' r.2 (ck + 7) (cn + 38)) (hf : ck + 7 ≤ rm.cells ∧ cn + 38 ≤ rm.slots) : tt_V (XL l D dA A pz b L xs) cc (RX0, nl, rt, rm, tn) Q pc lv (.ref (lc 400 0) :: .int x4 :: .int x3 :: .int x2 :: .int x1 :: .ref (lc 0 0) :: rest) lc s ck cn :=
  v_callSW (nA := 6) (As := [.ref (lc 0 0), .int x1, .int x2, .int x3, .int x4, .ref (lc 400 0)]) (mL_harm l D dA A pz b L xs hl9 lc s x1 x2 x3 x4 (Q := (fun v lc' s' => ∃ r : Int32 × tt_SL, K r ∧ v = some (Value.int r.1) ∧ tt_agr (XL l D dA A pz b L xs) s lc lc' ∧ s' = r.2)) (h.mono fun r hr lc' ha => ⟨r, hr, rfl, ha, rfl⟩)) (lw_SW q1104 q1105 q126 q1106) (by decide +kernel) rfl hR hW hf d rfl (fun v lc' s' q => by obtain ⟨r, hr, e1, e2, e3⟩ := q; rw [e1, e3]; exact kk r hr lc' e2)
theorem cLm_harm {l : Launch} {D : va_G} {dA : Nat → ClassId} {A : Nat → Prop} {pz b L : Nat} {xs : Nat → Int32} {lc : Nat → Nat → Nat} {s : tt_SL} {cc : ByteArray} {nl : Nat} {rt : Option FieldType} {rm : Room} {tn : tt_Tn} {Q : tt_Fin} {pc : Nat} {lv : List (Nat × Value)} {rest : List Value} {ck cn : Nat} {x1 : Int32} {x2 : Int32} {x3 : Int32} {x4 : Int32} {K : Int32 × tt_St → Prop} (h : Ok (fM_harm s.2.1 x1 x2 x3 x4) K) (hR : 9 + 1 ≤ rm.frames ∧ 8 + (6 + 11) + 212 ≤ rm.locals) (hW : (rest.map fun v => v.category).sum ≤ 8) (d : decode cc pc = .ok (.invokevirtual 192, 3)) (kk : ∀ r, K r → tt_V (XL l D dA A pz b L xs) cc (RX0, nl, rt, rm, tn) Q (pc + 3) lv (.int r.1 :: rest) lc (s.1, r.2, s.2.2) (ck + 0) (cn + 0)) (hf : ck + 0 ≤ rm.cells ∧ cn + 0 ≤ rm.slots) : tt_V (XL l D dA A pz b L xs) cc (RX0, nl, rt, rm, tn) Q pc lv (.int x4 :: .int x3 :: .int x2 :: .int x1 :: .ref (lc 300 0) :: rest) lc s ck cn :=
  v_callV (kd := 300) (i := 0) (nA := 4) (As := [.int x1, .int x2, .int x3, .int x4]) lvL_300 oL_300 rfl (liftM (Q := (fun v lc' s' => ∃ r : Int32 × tt_St, K r ∧ v = some (Value.int r.1) ∧ lc' = lc ∧ s' = (s.1, r.2, s.2.2))) (mM_harm l (DM D) (dMd dA) (aLM lc s) (nTm lc) s.2.1 x1 x2 x3 x4 (Q := fun v lc' w => lc' = nTm lc ∧ (fun v lc' s' => ∃ r : Int32 × tt_St, K r ∧ v = some (Value.int r.1) ∧ lc' = lc ∧ s' = (s.1, r.2, s.2.2)) v lc (s.1, w, s.2.2)) (h.mono fun r hr => ⟨rfl, r, hr, rfl, rfl, rfl⟩))) (lw_V q2155 q2156 q2157 q154 q2158) (by decide +kernel) rfl hR hW hf d rfl (fun v lc' s' q => by obtain ⟨r, hr, e1, e2, e3⟩ := q; rw [e1, e2, e3]; exact kk r hr)
def fL_case_4 (L : Nat) (xs : Nat → Int32) (s : tt_SL) (x4 : Int32) : Option tt_SL :=
  if inB (x4 + (1 : Int32)) L then if inB (x4 + (2 : Int32)) L then if inB (x4 + (3 : Int32)) L then if inB (x4 + (4 : Int32)) L then (wrapI (fT_harm s.1 (xs ((x4 + (1 : Int32)).toNatClampNeg)) (xs ((x4 + (2 : Int32)).toNatClampNeg)) (xs ((x4 + (3 : Int32)).toNatClampNeg)) (xs ((x4 + (4 : Int32)).toNatClampNeg))) s (cd3 none (some 1) (some 2))).bind fun r5 => (fM_harm r5.2.2.1 (xs ((x4 + (1 : Int32)).toNatClampNeg)) (xs ((x4 + (2 : Int32)).toNatClampNeg)) (xs ((x4 + (3 : Int32)).toNatClampNeg)) (xs ((x4 + (4 : Int32)).toNatClampNeg))).bind fun r6 => (fM_thrown (r5.2.1, r6.2, r5.2.2.2).2.1).bind fun r7 => if r7 = r5.1 then if r5.1 = 0 then if inB (0 : Int32) 1 then if (rdL (r5.2.1, r6.2, r5.2.2.2).2.2 0 0 ((0 : Int32).toNatClampNeg)) = r6.1.toInt64 then some (r5.2.1, r6.2, r5.2.2.2) else none else none else some (r5.2.1, r6.2, r5.2.2.2) else none else none else none else none else none
set_option maxHeartbeats 4000000 in
theorem lcase_4 {l : Launch} {D : va_G} {dA : Nat → ClassId} {A : Nat → Prop} {pz b L : Nat} {xs : Nat → Int32} (hl9 : l.stackTraces = false) {lc : Nat → Nat → Nat} {s : tt_SL} {x4 : Int32} {ck cn : Nat} {tn : tt_Tn} {Q : tt_Fin} (hk1 : ck + 60 ≤ room_1.cells) (hk2 : cn + 600 ≤ room_1.slots) (h : Ok (fL_case_4 L xs s x4) (fun r => ∀ lc', tt_agr (XL l D dA A pz b L xs) s lc lc' → ∀ ck' cn', ck' ≤ ck + 60 → cn' ≤ cn + 600 → tt_V (XL l D dA A pz b L xs) code (RX0, 8, ret, room_1, tn) Q 3740 [(0, .ref b), (1, .ref (lc' 0 0)), (2, .ref (lc' 300 0)), (3, .ref (lc' 400 0)), (4, .int x4)] [] lc' r ck' cn')) : tt_V (XL l D dA A pz b L xs) code (RX0, 8, ret, room_1, tn) Q 564 [(0, .ref b), (1, .ref (lc 0 0)), (2, .ref (lc 300 0)), (3, .ref (lc 400 0)), (4, .int x4)] [] lc s ck cn := by
  unfold fL_case_4 at h
  refine v_aload_n 1 dL_law_564 rfl ?_
  refine v_aload_n 0 dL_law_565 rfl ?_
  refine v_iload 4 dL_law_566 rfl ?_
  refine v_iconst dL_law_568 ic_1 ?_
  refine v_iadd dL_law_569 ?_
  obtain ⟨g1, h⟩ := Ok.guard h
  refine v_sld g1 dL_law_570 ?_
  refine v_aload_n 0 dL_law_571 rfl ?_
  refine v_iload 4 dL_law_572 rfl ?_
  refine v_iconst dL_law_574 ic_2 ?_
  refine v_iadd dL_law_575 ?_
  obtain ⟨g2, h⟩ := Ok.guard h
  refine v_sld g2 dL_law_576 ?_
  refine v_aload_n 0 dL_law_577 rfl ?_
  refine v_iload 4 dL_law_578 rfl ?_
  refine v_iconst dL_law_580 ic_3 ?_
  refine v_iadd dL_law_581 ?_
  obtain ⟨g3, h⟩ := Ok.guard h
  refine v_sld g3 dL_law_582 ?_
  refine v_aload_n 0 dL_law_583 rfl ?_
  refine v_iload 4 dL_law_584 rfl ?_
  refine v_iconst dL_law_586 ic_4 ?_
  refine v_iadd dL_law_587 ?_
  obtain ⟨g4, h⟩ := Ok.guard h
  refine v_sld g4 dL_law_588 ?_
  refine v_aload_n 3 dL_law_589 rfl ?_
  refine cLw_harm (Ok.bind h) hl9 ⟨Nat.le_of_ble_eq_true rfl, Nat.le_of_ble_eq_true rfl⟩ (Nat.le_of_ble_eq_true rfl) dL_law_590 (fun r5 h lc hc => ?_) ⟨by omega, by omega⟩
  rw [← hc 0 0 (.inl lvL_0)]
  rw [← hc 300 0 (.inl lvL_300)]
  rw [← hc 400 0 (.inl lvL_400)]
  have h := Ok.agr h hc (fun _ _ h => h)
  refine v_istore [(5, .int r5.1), (0, .ref b), (1, .ref (lc 0 0)), (2, .ref (lc 300 0)), (3, .ref (lc 400 0)), (4, .int x4)] dL_law_593 (Nat.le_of_ble_eq_true rfl) rfl ?_
  refine v_aload_n 3 dL_law_595 rfl ?_
  refine v_aload_n 1 dL_law_596 rfl ?_
  refine v_iload 5 dL_law_597 rfl ?_
  refine v_iconst dL_law_599 ic_1 ?_
  refine v_iadd dL_law_600 ?_
  refine v_sld g1 dL_law_601 ?_
  refine v_aload_n 1 dL_law_602 rfl ?_
  refine v_iload 5 dL_law_603 rfl ?_
  refine v_iconst dL_law_605 ic_2 ?_
  refine v_iadd dL_law_606 ?_
  refine v_sld g2 dL_law_607 ?_
  refine v_aload_n 1 dL_law_608 rfl ?_
  refine v_iload 5 dL_law_609 rfl ?_
  refine v_iconst dL_law_611 ic_3 ?_
  refine v_iadd dL_law_612 ?_
  refine v_sld g3 dL_law_613 ?_
  refine v_aload_n 1 dL_law_614 rfl ?_
  refine v_iload 5 dL_law_615 rfl ?_
  refine v_iconst dL_law_617 ic_4 ?_
  refine v_iadd dL_law_618 ?_
  refine v_sld g4 dL_law_619 ?_
  refine cLm_harm (Ok.bind h) ⟨Nat.le_of_ble_eq_true rfl, Nat.le_of_ble_eq_true rfl⟩ (Nat.le_of_ble_eq_true rfl) dL_law_620 (fun r6 h => ?_) ⟨by omega, by omega⟩
  refine v_istore [(6, .int r6.1), (5, .int r5.1), (0, .ref b), (1, .ref (lc 0 0)), (2, .ref (lc 300 0)), (3, .ref (lc 400 0)), (4, .int x4)] dL_law_623 (Nat.le_of_ble_eq_true rfl) rfl ?_
  refine v_aload_n 4 dL_law_625 rfl ?_
  refine cLm_thrown (Ok.bind h) ⟨Nat.le_of_ble_eq_true rfl, Nat.le_of_ble_eq_true rfl⟩ (Nat.le_of_ble_eq_true rfl) dL_law_626 (fun r7 h => ?_) ⟨by omega, by omega⟩
  refine v_iload 1 dL_law_629 rfl ?_
  refine v_icmp_eq (tgt := 636) dL_law_631 rfl (fun c8 => ?_) (fun c8 => ?_)
  · have h := Ok.pos h c8
    refine v_iload 1 dL_law_636 rfl ?_
    refine v_if_ne (tgt := 653) dL_law_638 rfl (fun c9 => ?_) (fun c9 => ?_)
    · have h := Ok.neg h c9
      refine v_goto (tgt := 3740) dL_law_653 rfl ?_
      refine v_sub [2, 3, 4, 5, 6] rfl ?_
      have h := Ok.ret h
      exact h lc agr_rf _ _ (by omega) (by omega)
    · have h := Ok.pos h c9
      refine v_aload_n 5 dL_law_641 rfl ?_
      refine v_iconst dL_law_642 ic_0 ?_
      obtain ⟨g10, h⟩ := Ok.guard h
      refine lL_400 g10 dL_law_643 ?_
      refine v_iload 0 dL_law_644 rfl ?_
      refine v_i2l dL_law_646 rfl ?_
      refine v_lif_eq (tgt := 653) dL_law_647 dL_law_648 rfl (fun c11 => ?_) (fun c11 => ?_)
      · have h := Ok.pos h c11
        refine v_goto (tgt := 3740) dL_law_653 rfl ?_
        refine v_sub [2, 3, 4, 5, 6] rfl ?_
        have h := Ok.ret h
        exact h lc agr_rf _ _ (by omega) (by omega)
      · have h := Ok.neg h c11
        refine v_iconst dL_law_651 ic_0 ?_
        exact Ok.stuck h
  · have h := Ok.neg h c8
    refine v_iconst dL_law_634 ic_0 ?_
    exact Ok.stuck h
theorem cLw_grow {l : Launch} {D : va_G} {dA : Nat → ClassId} {A : Nat → Prop} {pz b L : Nat} {xs : Nat → Int32} {lc : Nat → Nat → Nat} {s : tt_SL} {cc : ByteArray} {nl : Nat} {rt : Option FieldType} {rm : Room} {tn : tt_Tn} {Q : tt_Fin} {pc : Nat} {lv : List (Nat × Value)} {rest : List Value} {ck cn : Nat} {x1 : Int32} {x2 : Int32} {K : Int32 × tt_SL → Prop} (h : Ok (wrapL (fT_grow s.1 x1 x2) s (cd3 (some 1) (some 2) (some 3))) K) (hl9 : l.stackTraces = false) (hR : 18 + 1 ≤ rm.frames ∧ 8 + (5 + 11) + 3105 ≤ rm.locals) (hW : (rest.map fun v => v.category).sum ≤ 8) (d : decode cc pc = .ok (.invokestatic 193, 3)) (kk : ∀ r, K r → ∀ lc', tt_agr (XL l D dA A pz b L xs) s lc lc' → tt_V (XL l D dA A pz b L xs) cc (RX0, nl, rt, rm, tn) Q (pc + 3) lv (.int r.1 :: rest) lc' r.2 (ck + 5) (cn + 23)) (hf : ck + 5 ≤ rm.cells ∧ cn + 23 ≤ rm.slots) : tt_V (XL l D dA A pz b L xs) cc (RX0, nl, rt, rm, tn) Q pc lv (.ref (lc 400 0) :: .int x2 :: .int x1 :: .ref (lc 0 0) :: rest) lc s ck cn :=
  v_callSW (nA := 4) (As := [.ref (lc 0 0), .int x1, .int x2, .ref (lc 400 0)]) (mL_grow l D dA A pz b L xs hl9 lc s x1 x2 (Q := (fun v lc' s' => ∃ r : Int32 × tt_SL, K r ∧ v = some (Value.int r.1) ∧ tt_agr (XL l D dA A pz b L xs) s lc lc' ∧ s' = r.2)) (h.mono fun r hr lc' ha => ⟨r, hr, rfl, ha, rfl⟩)) (lw_SW q1160 q1161 q126 q1162) (by decide +kernel) rfl hR hW hf d rfl (fun v lc' s' q => by obtain ⟨r, hr, e1, e2, e3⟩ := q; rw [e1, e3]; exact kk r hr lc' e2)
theorem cLm_grow {l : Launch} {D : va_G} {dA : Nat → ClassId} {A : Nat → Prop} {pz b L : Nat} {xs : Nat → Int32} {lc : Nat → Nat → Nat} {s : tt_SL} {cc : ByteArray} {nl : Nat} {rt : Option FieldType} {rm : Room} {tn : tt_Tn} {Q : tt_Fin} {pc : Nat} {lv : List (Nat × Value)} {rest : List Value} {ck cn : Nat} {x1 : Int32} {x2 : Int32} {K : Int64 × tt_St → Prop} (h : Ok (fM_grow s.2.1 x1 x2) K) (hR : 9 + 1 ≤ rm.frames ∧ 8 + (5 + 11) + 212 ≤ rm.locals) (hW : (rest.map fun v => v.category).sum ≤ 8) (d : decode cc pc = .ok (.invokevirtual 196, 3)) (kk : ∀ r, K r → tt_V (XL l D dA A pz b L xs) cc (RX0, nl, rt, rm, tn) Q (pc + 3) lv (.long r.1 :: rest) lc (s.1, r.2, s.2.2) (ck + 0) (cn + 0)) (hf : ck + 0 ≤ rm.cells ∧ cn + 0 ≤ rm.slots) : tt_V (XL l D dA A pz b L xs) cc (RX0, nl, rt, rm, tn) Q pc lv (.int x2 :: .int x1 :: .ref (lc 300 0) :: rest) lc s ck cn :=
  v_callV (kd := 300) (i := 0) (nA := 2) (As := [.int x1, .int x2]) lvL_300 oL_300 rfl (liftM (Q := (fun v lc' s' => ∃ r : Int64 × tt_St, K r ∧ v = some (Value.long r.1) ∧ lc' = lc ∧ s' = (s.1, r.2, s.2.2))) (mM_grow l (DM D) (dMd dA) (aLM lc s) (nTm lc) s.2.1 x1 x2 (Q := fun v lc' w => lc' = nTm lc ∧ (fun v lc' s' => ∃ r : Int64 × tt_St, K r ∧ v = some (Value.long r.1) ∧ lc' = lc ∧ s' = (s.1, r.2, s.2.2)) v lc (s.1, w, s.2.2)) (h.mono fun r hr => ⟨rfl, r, hr, rfl, rfl, rfl⟩))) (lw_V q2166 q2167 q2168 q154 q2169) (by decide +kernel) rfl hR hW hf d rfl (fun v lc' s' q => by obtain ⟨r, hr, e1, e2, e3⟩ := q; rw [e1, e2, e3]; exact kk r hr)
def fL_case_5 (L : Nat) (xs : Nat → Int32) (s : tt_SL) (x4 : Int32) : Option tt_SL :=
  if inB (x4 + (1 : Int32)) L then if inB (x4 + (2 : Int32)) L then (wrapL (fT_grow s.1 (xs ((x4 + (1 : Int32)).toNatClampNeg)) (xs ((x4 + (2 : Int32)).toNatClampNeg))) s (cd3 (some 1) (some 2) (some 3))).bind fun r3 => (fM_grow r3.2.2.1 (xs ((x4 + (1 : Int32)).toNatClampNeg)) (xs ((x4 + (2 : Int32)).toNatClampNeg))).bind fun r4 => (fM_thrown (r3.2.1, r4.2, r3.2.2.2).2.1).bind fun r5 => if r5 = r3.1 then if r3.1 = 0 then if inB (0 : Int32) 1 then if (rdL (r3.2.1, r4.2, r3.2.2.2).2.2 0 0 ((0 : Int32).toNatClampNeg)) = r4.1 then some (r3.2.1, r4.2, r3.2.2.2) else none else none else some (r3.2.1, r4.2, r3.2.2.2) else none else none else none
set_option maxHeartbeats 4000000 in
theorem lcase_5 {l : Launch} {D : va_G} {dA : Nat → ClassId} {A : Nat → Prop} {pz b L : Nat} {xs : Nat → Int32} (hl9 : l.stackTraces = false) {lc : Nat → Nat → Nat} {s : tt_SL} {x4 : Int32} {ck cn : Nat} {tn : tt_Tn} {Q : tt_Fin} (hk1 : ck + 60 ≤ room_1.cells) (hk2 : cn + 600 ≤ room_1.slots) (h : Ok (fL_case_5 L xs s x4) (fun r => ∀ lc', tt_agr (XL l D dA A pz b L xs) s lc lc' → ∀ ck' cn', ck' ≤ ck + 60 → cn' ≤ cn + 600 → tt_V (XL l D dA A pz b L xs) code (RX0, 8, ret, room_1, tn) Q 3740 [(0, .ref b), (1, .ref (lc' 0 0)), (2, .ref (lc' 300 0)), (3, .ref (lc' 400 0)), (4, .int x4)] [] lc' r ck' cn')) : tt_V (XL l D dA A pz b L xs) code (RX0, 8, ret, room_1, tn) Q 656 [(0, .ref b), (1, .ref (lc 0 0)), (2, .ref (lc 300 0)), (3, .ref (lc 400 0)), (4, .int x4)] [] lc s ck cn := by
  unfold fL_case_5 at h
  refine v_aload_n 1 dL_law_656 rfl ?_
  refine v_aload_n 0 dL_law_657 rfl ?_
  refine v_iload 4 dL_law_658 rfl ?_
  refine v_iconst dL_law_660 ic_1 ?_
  refine v_iadd dL_law_661 ?_
  obtain ⟨g1, h⟩ := Ok.guard h
  refine v_sld g1 dL_law_662 ?_
  refine v_aload_n 0 dL_law_663 rfl ?_
  refine v_iload 4 dL_law_664 rfl ?_
  refine v_iconst dL_law_666 ic_2 ?_
  refine v_iadd dL_law_667 ?_
  obtain ⟨g2, h⟩ := Ok.guard h
  refine v_sld g2 dL_law_668 ?_
  refine v_aload_n 3 dL_law_669 rfl ?_
  refine cLw_grow (Ok.bind h) hl9 ⟨Nat.le_of_ble_eq_true rfl, Nat.le_of_ble_eq_true rfl⟩ (Nat.le_of_ble_eq_true rfl) dL_law_670 (fun r3 h lc hc => ?_) ⟨by omega, by omega⟩
  rw [← hc 0 0 (.inl lvL_0)]
  rw [← hc 300 0 (.inl lvL_300)]
  rw [← hc 400 0 (.inl lvL_400)]
  have h := Ok.agr h hc (fun _ _ h => h)
  refine v_istore [(5, .int r3.1), (0, .ref b), (1, .ref (lc 0 0)), (2, .ref (lc 300 0)), (3, .ref (lc 400 0)), (4, .int x4)] dL_law_673 (Nat.le_of_ble_eq_true rfl) rfl ?_
  refine v_aload_n 3 dL_law_675 rfl ?_
  refine v_aload_n 1 dL_law_676 rfl ?_
  refine v_iload 5 dL_law_677 rfl ?_
  refine v_iconst dL_law_679 ic_1 ?_
  refine v_iadd dL_law_680 ?_
  refine v_sld g1 dL_law_681 ?_
  refine v_aload_n 1 dL_law_682 rfl ?_
  refine v_iload 5 dL_law_683 rfl ?_
  refine v_iconst dL_law_685 ic_2 ?_
  refine v_iadd dL_law_686 ?_
  refine v_sld g2 dL_law_687 ?_
  refine cLm_grow (Ok.bind h) ⟨Nat.le_of_ble_eq_true rfl, Nat.le_of_ble_eq_true rfl⟩ (Nat.le_of_ble_eq_true rfl) dL_law_688 (fun r4 h => ?_) ⟨by omega, by omega⟩
  refine v_lstore [(6, .long r4.1), (5, .int r3.1), (0, .ref b), (1, .ref (lc 0 0)), (2, .ref (lc 300 0)), (3, .ref (lc 400 0)), (4, .int x4)] dL_law_691 (Nat.le_of_ble_eq_true rfl) rfl ?_
  refine v_aload_n 4 dL_law_693 rfl ?_
  refine cLm_thrown (Ok.bind h) ⟨Nat.le_of_ble_eq_true rfl, Nat.le_of_ble_eq_true rfl⟩ (Nat.le_of_ble_eq_true rfl) dL_law_694 (fun r5 h => ?_) ⟨by omega, by omega⟩
  refine v_iload 1 dL_law_697 rfl ?_
  refine v_icmp_eq (tgt := 704) dL_law_699 rfl (fun c6 => ?_) (fun c6 => ?_)
  · have h := Ok.pos h c6
    refine v_iload 1 dL_law_704 rfl ?_
    refine v_if_ne (tgt := 720) dL_law_706 rfl (fun c7 => ?_) (fun c7 => ?_)
    · have h := Ok.neg h c7
      refine v_goto (tgt := 3740) dL_law_720 rfl ?_
      refine v_sub [2, 3, 4, 5, 6] rfl ?_
      have h := Ok.ret h
      exact h lc agr_rf _ _ (by omega) (by omega)
    · have h := Ok.pos h c7
      refine v_aload_n 5 dL_law_709 rfl ?_
      refine v_iconst dL_law_710 ic_0 ?_
      obtain ⟨g8, h⟩ := Ok.guard h
      refine lL_400 g8 dL_law_711 ?_
      refine v_lload 0 dL_law_712 rfl ?_
      refine v_lif_eq (tgt := 720) dL_law_714 dL_law_715 rfl (fun c9 => ?_) (fun c9 => ?_)
      · have h := Ok.pos h c9
        refine v_goto (tgt := 3740) dL_law_720 rfl ?_
        refine v_sub [2, 3, 4, 5, 6] rfl ?_
        have h := Ok.ret h
        exact h lc agr_rf _ _ (by omega) (by omega)
      · have h := Ok.neg h c9
        refine v_iconst dL_law_718 ic_0 ?_
        exact Ok.stuck h
  · have h := Ok.neg h c6
    refine v_iconst dL_law_702 ic_0 ?_
    exact Ok.stuck h
theorem cLw_settle {l : Launch} {D : va_G} {dA : Nat → ClassId} {A : Nat → Prop} {pz b L : Nat} {xs : Nat → Int32} {lc : Nat → Nat → Nat} {s : tt_SL} {cc : ByteArray} {nl : Nat} {rt : Option FieldType} {rm : Room} {tn : tt_Tn} {Q : tt_Fin} {pc : Nat} {lv : List (Nat × Value)} {rest : List Value} {ck cn : Nat} {x1 : Int32} {x2 : Int32} {K : Int32 × tt_SL → Prop} (h : Ok (wrapI (fT_settle s.1 x1 x2) s (cd3 none (some 1) (some 2))) K) (hl9 : l.stackTraces = false) (hR : 18 + 1 ≤ rm.frames ∧ 8 + (5 + 11) + 3102 ≤ rm.locals) (hW : (rest.map fun v => v.category).sum ≤ 8) (d : decode cc pc = .ok (.invokestatic 197, 3)) (kk : ∀ r, K r → ∀ lc', tt_agr (XL l D dA A pz b L xs) s lc lc' → tt_V (XL l D dA A pz b L xs) cc (RX0, nl, rt, rm, tn) Q (pc + 3) lv (.int r.1 :: rest) lc' r.2 (ck + 5) (cn + 23)) (hf : ck + 5 ≤ rm.cells ∧ cn + 23 ≤ rm.slots) : tt_V (XL l D dA A pz b L xs) cc (RX0, nl, rt, rm, tn) Q pc lv (.ref (lc 400 0) :: .int x2 :: .int x1 :: .ref (lc 0 0) :: rest) lc s ck cn :=
  v_callSW (nA := 4) (As := [.ref (lc 0 0), .int x1, .int x2, .ref (lc 400 0)]) (mL_settle l D dA A pz b L xs hl9 lc s x1 x2 (Q := (fun v lc' s' => ∃ r : Int32 × tt_SL, K r ∧ v = some (Value.int r.1) ∧ tt_agr (XL l D dA A pz b L xs) s lc lc' ∧ s' = r.2)) (h.mono fun r hr lc' ha => ⟨r, hr, rfl, ha, rfl⟩)) (lw_SW q1183 q1184 q126 q1185) (by decide +kernel) rfl hR hW hf d rfl (fun v lc' s' q => by obtain ⟨r, hr, e1, e2, e3⟩ := q; rw [e1, e3]; exact kk r hr lc' e2)
theorem cLm_settle {l : Launch} {D : va_G} {dA : Nat → ClassId} {A : Nat → Prop} {pz b L : Nat} {xs : Nat → Int32} {lc : Nat → Nat → Nat} {s : tt_SL} {cc : ByteArray} {nl : Nat} {rt : Option FieldType} {rm : Room} {tn : tt_Tn} {Q : tt_Fin} {pc : Nat} {lv : List (Nat × Value)} {rest : List Value} {ck cn : Nat} {x1 : Int32} {x2 : Int32} {K : Int32 × tt_St → Prop} (h : Ok (fM_settle s.2.1 x1 x2) K) (hR : 9 + 1 ≤ rm.frames ∧ 8 + (3 + 11) + 212 ≤ rm.locals) (hW : (rest.map fun v => v.category).sum ≤ 8) (d : decode cc pc = .ok (.invokevirtual 199, 3)) (kk : ∀ r, K r → tt_V (XL l D dA A pz b L xs) cc (RX0, nl, rt, rm, tn) Q (pc + 3) lv (.int r.1 :: rest) lc (s.1, r.2, s.2.2) (ck + 0) (cn + 0)) (hf : ck + 0 ≤ rm.cells ∧ cn + 0 ≤ rm.slots) : tt_V (XL l D dA A pz b L xs) cc (RX0, nl, rt, rm, tn) Q pc lv (.int x2 :: .int x1 :: .ref (lc 300 0) :: rest) lc s ck cn :=
  v_callV (kd := 300) (i := 0) (nA := 2) (As := [.int x1, .int x2]) lvL_300 oL_300 rfl (liftM (Q := (fun v lc' s' => ∃ r : Int32 × tt_St, K r ∧ v = some (Value.int r.1) ∧ lc' = lc ∧ s' = (s.1, r.2, s.2.2))) (mM_settle l (DM D) (dMd dA) (aLM lc s) (nTm lc) s.2.1 x1 x2 (Q := fun v lc' w => lc' = nTm lc ∧ (fun v lc' s' => ∃ r : Int32 × tt_St, K r ∧ v = some (Value.int r.1) ∧ lc' = lc ∧ s' = (s.1, r.2, s.2.2)) v lc (s.1, w, s.2.2)) (h.mono fun r hr => ⟨rfl, r, hr, rfl, rfl, rfl⟩))) (lw_V q2183 q2184 q2185 q154 q2186) (by decide +kernel) rfl hR hW hf d rfl (fun v lc' s' q => by obtain ⟨r, hr, e1, e2, e3⟩ := q; rw [e1, e2, e3]; exact kk r hr)
def fL_case_6 (L : Nat) (xs : Nat → Int32) (s : tt_SL) (x4 : Int32) : Option tt_SL :=
  if inB (x4 + (1 : Int32)) L then if inB (x4 + (2 : Int32)) L then (wrapI (fT_settle s.1 (xs ((x4 + (1 : Int32)).toNatClampNeg)) (xs ((x4 + (2 : Int32)).toNatClampNeg))) s (cd3 none (some 1) (some 2))).bind fun r3 => (fM_settle r3.2.2.1 (xs ((x4 + (1 : Int32)).toNatClampNeg)) (xs ((x4 + (2 : Int32)).toNatClampNeg))).bind fun r4 => (fM_thrown (r3.2.1, r4.2, r3.2.2.2).2.1).bind fun r5 => if r5 = r3.1 then if r3.1 = 0 then if inB (0 : Int32) 1 then if (rdL (r3.2.1, r4.2, r3.2.2.2).2.2 0 0 ((0 : Int32).toNatClampNeg)) = r4.1.toInt64 then some (r3.2.1, r4.2, r3.2.2.2) else none else none else some (r3.2.1, r4.2, r3.2.2.2) else none else none else none
set_option maxHeartbeats 4000000 in
theorem lcase_6 {l : Launch} {D : va_G} {dA : Nat → ClassId} {A : Nat → Prop} {pz b L : Nat} {xs : Nat → Int32} (hl9 : l.stackTraces = false) {lc : Nat → Nat → Nat} {s : tt_SL} {x4 : Int32} {ck cn : Nat} {tn : tt_Tn} {Q : tt_Fin} (hk1 : ck + 60 ≤ room_1.cells) (hk2 : cn + 600 ≤ room_1.slots) (h : Ok (fL_case_6 L xs s x4) (fun r => ∀ lc', tt_agr (XL l D dA A pz b L xs) s lc lc' → ∀ ck' cn', ck' ≤ ck + 60 → cn' ≤ cn + 600 → tt_V (XL l D dA A pz b L xs) code (RX0, 8, ret, room_1, tn) Q 3740 [(0, .ref b), (1, .ref (lc' 0 0)), (2, .ref (lc' 300 0)), (3, .ref (lc' 400 0)), (4, .int x4)] [] lc' r ck' cn')) : tt_V (XL l D dA A pz b L xs) code (RX0, 8, ret, room_1, tn) Q 723 [(0, .ref b), (1, .ref (lc 0 0)), (2, .ref (lc 300 0)), (3, .ref (lc 400 0)), (4, .int x4)] [] lc s ck cn := by
  unfold fL_case_6 at h
  refine v_aload_n 1 dL_law_723 rfl ?_
  refine v_aload_n 0 dL_law_724 rfl ?_
  refine v_iload 4 dL_law_725 rfl ?_
  refine v_iconst dL_law_727 ic_1 ?_
  refine v_iadd dL_law_728 ?_
  obtain ⟨g1, h⟩ := Ok.guard h
  refine v_sld g1 dL_law_729 ?_
  refine v_aload_n 0 dL_law_730 rfl ?_
  refine v_iload 4 dL_law_731 rfl ?_
  refine v_iconst dL_law_733 ic_2 ?_
  refine v_iadd dL_law_734 ?_
  obtain ⟨g2, h⟩ := Ok.guard h
  refine v_sld g2 dL_law_735 ?_
  refine v_aload_n 3 dL_law_736 rfl ?_
  refine cLw_settle (Ok.bind h) hl9 ⟨Nat.le_of_ble_eq_true rfl, Nat.le_of_ble_eq_true rfl⟩ (Nat.le_of_ble_eq_true rfl) dL_law_737 (fun r3 h lc hc => ?_) ⟨by omega, by omega⟩
  rw [← hc 0 0 (.inl lvL_0)]
  rw [← hc 300 0 (.inl lvL_300)]
  rw [← hc 400 0 (.inl lvL_400)]
  have h := Ok.agr h hc (fun _ _ h => h)
  refine v_istore [(5, .int r3.1), (0, .ref b), (1, .ref (lc 0 0)), (2, .ref (lc 300 0)), (3, .ref (lc 400 0)), (4, .int x4)] dL_law_740 (Nat.le_of_ble_eq_true rfl) rfl ?_
  refine v_aload_n 3 dL_law_742 rfl ?_
  refine v_aload_n 1 dL_law_743 rfl ?_
  refine v_iload 5 dL_law_744 rfl ?_
  refine v_iconst dL_law_746 ic_1 ?_
  refine v_iadd dL_law_747 ?_
  refine v_sld g1 dL_law_748 ?_
  refine v_aload_n 1 dL_law_749 rfl ?_
  refine v_iload 5 dL_law_750 rfl ?_
  refine v_iconst dL_law_752 ic_2 ?_
  refine v_iadd dL_law_753 ?_
  refine v_sld g2 dL_law_754 ?_
  refine cLm_settle (Ok.bind h) ⟨Nat.le_of_ble_eq_true rfl, Nat.le_of_ble_eq_true rfl⟩ (Nat.le_of_ble_eq_true rfl) dL_law_755 (fun r4 h => ?_) ⟨by omega, by omega⟩
  refine v_istore [(6, .int r4.1), (5, .int r3.1), (0, .ref b), (1, .ref (lc 0 0)), (2, .ref (lc 300 0)), (3, .ref (lc 400 0)), (4, .int x4)] dL_law_758 (Nat.le_of_ble_eq_true rfl) rfl ?_
  refine v_aload_n 4 dL_law_760 rfl ?_
  refine cLm_thrown (Ok.bind h) ⟨Nat.le_of_ble_eq_true rfl, Nat.le_of_ble_eq_true rfl⟩ (Nat.le_of_ble_eq_true rfl) dL_law_761 (fun r5 h => ?_) ⟨by omega, by omega⟩
  refine v_iload 1 dL_law_764 rfl ?_
  refine v_icmp_eq (tgt := 771) dL_law_766 rfl (fun c6 => ?_) (fun c6 => ?_)
  · have h := Ok.pos h c6
    refine v_iload 1 dL_law_771 rfl ?_
    refine v_if_ne (tgt := 788) dL_law_773 rfl (fun c7 => ?_) (fun c7 => ?_)
    · have h := Ok.neg h c7
      refine v_goto (tgt := 3740) dL_law_788 rfl ?_
      refine v_sub [2, 3, 4, 5, 6] rfl ?_
      have h := Ok.ret h
      exact h lc agr_rf _ _ (by omega) (by omega)
    · have h := Ok.pos h c7
      refine v_aload_n 5 dL_law_776 rfl ?_
      refine v_iconst dL_law_777 ic_0 ?_
      obtain ⟨g8, h⟩ := Ok.guard h
      refine lL_400 g8 dL_law_778 ?_
      refine v_iload 0 dL_law_779 rfl ?_
      refine v_i2l dL_law_781 rfl ?_
      refine v_lif_eq (tgt := 788) dL_law_782 dL_law_783 rfl (fun c9 => ?_) (fun c9 => ?_)
      · have h := Ok.pos h c9
        refine v_goto (tgt := 3740) dL_law_788 rfl ?_
        refine v_sub [2, 3, 4, 5, 6] rfl ?_
        have h := Ok.ret h
        exact h lc agr_rf _ _ (by omega) (by omega)
      · have h := Ok.neg h c9
        refine v_iconst dL_law_786 ic_0 ?_
        exact Ok.stuck h
  · have h := Ok.neg h c6
    refine v_iconst dL_law_769 ic_0 ?_
    exact Ok.stuck h
theorem cLw_fall {l : Launch} {D : va_G} {dA : Nat → ClassId} {A : Nat → Prop} {pz b L : Nat} {xs : Nat → Int32} {lc : Nat → Nat → Nat} {s : tt_SL} {cc : ByteArray} {nl : Nat} {rt : Option FieldType} {rm : Room} {tn : tt_Tn} {Q : tt_Fin} {pc : Nat} {lv : List (Nat × Value)} {rest : List Value} {ck cn : Nat} {x1 : Int32} {K : Int32 × tt_SL → Prop} (h : Ok (wrapI (fT_fall s.1 x1) s (cd3 none (some 1) (some 2))) K) (hl9 : l.stackTraces = false) (hR : 18 + 1 ≤ rm.frames ∧ 8 + (4 + 11) + 3101 ≤ rm.locals) (hW : (rest.map fun v => v.category).sum ≤ 8) (d : decode cc pc = .ok (.invokestatic 200, 3)) (kk : ∀ r, K r → ∀ lc', tt_agr (XL l D dA A pz b L xs) s lc lc' → tt_V (XL l D dA A pz b L xs) cc (RX0, nl, rt, rm, tn) Q (pc + 3) lv (.int r.1 :: rest) lc' r.2 (ck + 4) (cn + 16)) (hf : ck + 4 ≤ rm.cells ∧ cn + 16 ≤ rm.slots) : tt_V (XL l D dA A pz b L xs) cc (RX0, nl, rt, rm, tn) Q pc lv (.ref (lc 400 0) :: .int x1 :: .ref (lc 0 0) :: rest) lc s ck cn :=
  v_callSW (nA := 3) (As := [.ref (lc 0 0), .int x1, .ref (lc 400 0)]) (mL_fall l D dA A pz b L xs hl9 lc s x1 (Q := (fun v lc' s' => ∃ r : Int32 × tt_SL, K r ∧ v = some (Value.int r.1) ∧ tt_agr (XL l D dA A pz b L xs) s lc lc' ∧ s' = r.2)) (h.mono fun r hr lc' ha => ⟨r, hr, rfl, ha, rfl⟩)) (lw_SW q1200 q1201 q126 q1202) (by decide +kernel) rfl hR hW hf d rfl (fun v lc' s' q => by obtain ⟨r, hr, e1, e2, e3⟩ := q; rw [e1, e3]; exact kk r hr lc' e2)
theorem cLm_fall {l : Launch} {D : va_G} {dA : Nat → ClassId} {A : Nat → Prop} {pz b L : Nat} {xs : Nat → Int32} {lc : Nat → Nat → Nat} {s : tt_SL} {cc : ByteArray} {nl : Nat} {rt : Option FieldType} {rm : Room} {tn : tt_Tn} {Q : tt_Fin} {pc : Nat} {lv : List (Nat × Value)} {rest : List Value} {ck cn : Nat} {x1 : Int32} {K : Int32 × tt_St → Prop} (h : Ok (fM_fall s.2.1 x1) K) (hR : 9 + 1 ≤ rm.frames ∧ 8 + (2 + 11) + 212 ≤ rm.locals) (hW : (rest.map fun v => v.category).sum ≤ 8) (d : decode cc pc = .ok (.invokevirtual 202, 3)) (kk : ∀ r, K r → tt_V (XL l D dA A pz b L xs) cc (RX0, nl, rt, rm, tn) Q (pc + 3) lv (.int r.1 :: rest) lc (s.1, r.2, s.2.2) (ck + 0) (cn + 0)) (hf : ck + 0 ≤ rm.cells ∧ cn + 0 ≤ rm.slots) : tt_V (XL l D dA A pz b L xs) cc (RX0, nl, rt, rm, tn) Q pc lv (.int x1 :: .ref (lc 300 0) :: rest) lc s ck cn :=
  v_callV (kd := 300) (i := 0) (nA := 1) (As := [.int x1]) lvL_300 oL_300 rfl (liftM (Q := (fun v lc' s' => ∃ r : Int32 × tt_St, K r ∧ v = some (Value.int r.1) ∧ lc' = lc ∧ s' = (s.1, r.2, s.2.2))) (mM_fall l (DM D) (dMd dA) (aLM lc s) (nTm lc) s.2.1 x1 (Q := fun v lc' w => lc' = nTm lc ∧ (fun v lc' s' => ∃ r : Int32 × tt_St, K r ∧ v = some (Value.int r.1) ∧ lc' = lc ∧ s' = (s.1, r.2, s.2.2)) v lc (s.1, w, s.2.2)) (h.mono fun r hr => ⟨rfl, r, hr, rfl, rfl, rfl⟩))) (lw_V q2191 q2192 q2193 q154 q2194) (by decide +kernel) rfl hR hW hf d rfl (fun v lc' s' q => by obtain ⟨r, hr, e1, e2, e3⟩ := q; rw [e1, e2, e3]; exact kk r hr)
def fL_case_7 (L : Nat) (xs : Nat → Int32) (s : tt_SL) (x4 : Int32) : Option tt_SL :=
  if inB (x4 + (1 : Int32)) L then (wrapI (fT_fall s.1 (xs ((x4 + (1 : Int32)).toNatClampNeg))) s (cd3 none (some 1) (some 2))).bind fun r2 => (fM_fall r2.2.2.1 (xs ((x4 + (1 : Int32)).toNatClampNeg))).bind fun r3 => (fM_thrown (r2.2.1, r3.2, r2.2.2.2).2.1).bind fun r4 => if r4 = r2.1 then if r2.1 = 0 then if inB (0 : Int32) 1 then if (rdL (r2.2.1, r3.2, r2.2.2.2).2.2 0 0 ((0 : Int32).toNatClampNeg)) = r3.1.toInt64 then some (r2.2.1, r3.2, r2.2.2.2) else none else none else some (r2.2.1, r3.2, r2.2.2.2) else none else none
set_option maxHeartbeats 4000000 in
theorem lcase_7 {l : Launch} {D : va_G} {dA : Nat → ClassId} {A : Nat → Prop} {pz b L : Nat} {xs : Nat → Int32} (hl9 : l.stackTraces = false) {lc : Nat → Nat → Nat} {s : tt_SL} {x4 : Int32} {ck cn : Nat} {tn : tt_Tn} {Q : tt_Fin} (hk1 : ck + 60 ≤ room_1.cells) (hk2 : cn + 600 ≤ room_1.slots) (h : Ok (fL_case_7 L xs s x4) (fun r => ∀ lc', tt_agr (XL l D dA A pz b L xs) s lc lc' → ∀ ck' cn', ck' ≤ ck + 60 → cn' ≤ cn + 600 → tt_V (XL l D dA A pz b L xs) code (RX0, 8, ret, room_1, tn) Q 3740 [(0, .ref b), (1, .ref (lc' 0 0)), (2, .ref (lc' 300 0)), (3, .ref (lc' 400 0)), (4, .int x4)] [] lc' r ck' cn')) : tt_V (XL l D dA A pz b L xs) code (RX0, 8, ret, room_1, tn) Q 791 [(0, .ref b), (1, .ref (lc 0 0)), (2, .ref (lc 300 0)), (3, .ref (lc 400 0)), (4, .int x4)] [] lc s ck cn := by
  unfold fL_case_7 at h
  refine v_aload_n 1 dL_law_791 rfl ?_
  refine v_aload_n 0 dL_law_792 rfl ?_
  refine v_iload 4 dL_law_793 rfl ?_
  refine v_iconst dL_law_795 ic_1 ?_
  refine v_iadd dL_law_796 ?_
  obtain ⟨g1, h⟩ := Ok.guard h
  refine v_sld g1 dL_law_797 ?_
  refine v_aload_n 3 dL_law_798 rfl ?_
  refine cLw_fall (Ok.bind h) hl9 ⟨Nat.le_of_ble_eq_true rfl, Nat.le_of_ble_eq_true rfl⟩ (Nat.le_of_ble_eq_true rfl) dL_law_799 (fun r2 h lc hc => ?_) ⟨by omega, by omega⟩
  rw [← hc 0 0 (.inl lvL_0)]
  rw [← hc 300 0 (.inl lvL_300)]
  rw [← hc 400 0 (.inl lvL_400)]
  have h := Ok.agr h hc (fun _ _ h => h)
  refine v_istore [(5, .int r2.1), (0, .ref b), (1, .ref (lc 0 0)), (2, .ref (lc 300 0)), (3, .ref (lc 400 0)), (4, .int x4)] dL_law_802 (Nat.le_of_ble_eq_true rfl) rfl ?_
  refine v_aload_n 3 dL_law_804 rfl ?_
  refine v_aload_n 1 dL_law_805 rfl ?_
  refine v_iload 5 dL_law_806 rfl ?_
  refine v_iconst dL_law_808 ic_1 ?_
  refine v_iadd dL_law_809 ?_
  refine v_sld g1 dL_law_810 ?_
  refine cLm_fall (Ok.bind h) ⟨Nat.le_of_ble_eq_true rfl, Nat.le_of_ble_eq_true rfl⟩ (Nat.le_of_ble_eq_true rfl) dL_law_811 (fun r3 h => ?_) ⟨by omega, by omega⟩
  refine v_istore [(6, .int r3.1), (5, .int r2.1), (0, .ref b), (1, .ref (lc 0 0)), (2, .ref (lc 300 0)), (3, .ref (lc 400 0)), (4, .int x4)] dL_law_814 (Nat.le_of_ble_eq_true rfl) rfl ?_
  refine v_aload_n 4 dL_law_816 rfl ?_
  refine cLm_thrown (Ok.bind h) ⟨Nat.le_of_ble_eq_true rfl, Nat.le_of_ble_eq_true rfl⟩ (Nat.le_of_ble_eq_true rfl) dL_law_817 (fun r4 h => ?_) ⟨by omega, by omega⟩
  refine v_iload 1 dL_law_820 rfl ?_
  refine v_icmp_eq (tgt := 827) dL_law_822 rfl (fun c5 => ?_) (fun c5 => ?_)
  · have h := Ok.pos h c5
    refine v_iload 1 dL_law_827 rfl ?_
    refine v_if_ne (tgt := 844) dL_law_829 rfl (fun c6 => ?_) (fun c6 => ?_)
    · have h := Ok.neg h c6
      refine v_goto (tgt := 3740) dL_law_844 rfl ?_
      refine v_sub [2, 3, 4, 5, 6] rfl ?_
      have h := Ok.ret h
      exact h lc agr_rf _ _ (by omega) (by omega)
    · have h := Ok.pos h c6
      refine v_aload_n 5 dL_law_832 rfl ?_
      refine v_iconst dL_law_833 ic_0 ?_
      obtain ⟨g7, h⟩ := Ok.guard h
      refine lL_400 g7 dL_law_834 ?_
      refine v_iload 0 dL_law_835 rfl ?_
      refine v_i2l dL_law_837 rfl ?_
      refine v_lif_eq (tgt := 844) dL_law_838 dL_law_839 rfl (fun c8 => ?_) (fun c8 => ?_)
      · have h := Ok.pos h c8
        refine v_goto (tgt := 3740) dL_law_844 rfl ?_
        refine v_sub [2, 3, 4, 5, 6] rfl ?_
        have h := Ok.ret h
        exact h lc agr_rf _ _ (by omega) (by omega)
      · have h := Ok.neg h c8
        refine v_iconst dL_law_842 ic_0 ?_
        exact Ok.stuck h
  · have h := Ok.neg h c5
    refine v_iconst dL_law_825 ic_0 ?_
    exact Ok.stuck h
theorem cLw_reopen {l : Launch} {D : va_G} {dA : Nat → ClassId} {A : Nat → Prop} {pz b L : Nat} {xs : Nat → Int32} {lc : Nat → Nat → Nat} {s : tt_SL} {cc : ByteArray} {nl : Nat} {rt : Option FieldType} {rm : Room} {tn : tt_Tn} {Q : tt_Fin} {pc : Nat} {lv : List (Nat × Value)} {rest : List Value} {ck cn : Nat} {x1 : Int32} {K : Int32 × tt_SL → Prop} (h : Ok (wrapL (fT_reopen s.1 x1) s (cd3 (some 1) none (some 2))) K) (hl9 : l.stackTraces = false) (hR : 18 + 1 ≤ rm.frames ∧ 8 + (4 + 11) + 3104 ≤ rm.locals) (hW : (rest.map fun v => v.category).sum ≤ 8) (d : decode cc pc = .ok (.invokestatic 203, 3)) (kk : ∀ r, K r → ∀ lc', tt_agr (XL l D dA A pz b L xs) s lc lc' → tt_V (XL l D dA A pz b L xs) cc (RX0, nl, rt, rm, tn) Q (pc + 3) lv (.int r.1 :: rest) lc' r.2 (ck + 4) (cn + 16)) (hf : ck + 4 ≤ rm.cells ∧ cn + 16 ≤ rm.slots) : tt_V (XL l D dA A pz b L xs) cc (RX0, nl, rt, rm, tn) Q pc lv (.ref (lc 400 0) :: .int x1 :: .ref (lc 0 0) :: rest) lc s ck cn :=
  v_callSW (nA := 3) (As := [.ref (lc 0 0), .int x1, .ref (lc 400 0)]) (mL_reopen l D dA A pz b L xs hl9 lc s x1 (Q := (fun v lc' s' => ∃ r : Int32 × tt_SL, K r ∧ v = some (Value.int r.1) ∧ tt_agr (XL l D dA A pz b L xs) s lc lc' ∧ s' = r.2)) (h.mono fun r hr lc' ha => ⟨r, hr, rfl, ha, rfl⟩)) (lw_SW q1209 q1210 q126 q1211) (by decide +kernel) rfl hR hW hf d rfl (fun v lc' s' q => by obtain ⟨r, hr, e1, e2, e3⟩ := q; rw [e1, e3]; exact kk r hr lc' e2)
theorem cLm_reopen {l : Launch} {D : va_G} {dA : Nat → ClassId} {A : Nat → Prop} {pz b L : Nat} {xs : Nat → Int32} {lc : Nat → Nat → Nat} {s : tt_SL} {cc : ByteArray} {nl : Nat} {rt : Option FieldType} {rm : Room} {tn : tt_Tn} {Q : tt_Fin} {pc : Nat} {lv : List (Nat × Value)} {rest : List Value} {ck cn : Nat} {x1 : Int32} {K : Int64 × tt_St → Prop} (h : Ok (fM_reopen s.2.1 x1) K) (hR : 9 + 1 ≤ rm.frames ∧ 8 + (4 + 11) + 212 ≤ rm.locals) (hW : (rest.map fun v => v.category).sum ≤ 8) (d : decode cc pc = .ok (.invokevirtual 205, 3)) (kk : ∀ r, K r → tt_V (XL l D dA A pz b L xs) cc (RX0, nl, rt, rm, tn) Q (pc + 3) lv (.long r.1 :: rest) lc (s.1, r.2, s.2.2) (ck + 0) (cn + 0)) (hf : ck + 0 ≤ rm.cells ∧ cn + 0 ≤ rm.slots) : tt_V (XL l D dA A pz b L xs) cc (RX0, nl, rt, rm, tn) Q pc lv (.int x1 :: .ref (lc 300 0) :: rest) lc s ck cn :=
  v_callV (kd := 300) (i := 0) (nA := 1) (As := [.int x1]) lvL_300 oL_300 rfl (liftM (Q := (fun v lc' s' => ∃ r : Int64 × tt_St, K r ∧ v = some (Value.long r.1) ∧ lc' = lc ∧ s' = (s.1, r.2, s.2.2))) (mM_reopen l (DM D) (dMd dA) (aLM lc s) (nTm lc) s.2.1 x1 (Q := fun v lc' w => lc' = nTm lc ∧ (fun v lc' s' => ∃ r : Int64 × tt_St, K r ∧ v = some (Value.long r.1) ∧ lc' = lc ∧ s' = (s.1, r.2, s.2.2)) v lc (s.1, w, s.2.2)) (h.mono fun r hr => ⟨rfl, r, hr, rfl, rfl, rfl⟩))) (lw_V q2179 q2180 q2181 q154 q2182) (by decide +kernel) rfl hR hW hf d rfl (fun v lc' s' q => by obtain ⟨r, hr, e1, e2, e3⟩ := q; rw [e1, e2, e3]; exact kk r hr)
def fL_case_8 (L : Nat) (xs : Nat → Int32) (s : tt_SL) (x4 : Int32) : Option tt_SL :=
  if inB (x4 + (1 : Int32)) L then (wrapL (fT_reopen s.1 (xs ((x4 + (1 : Int32)).toNatClampNeg))) s (cd3 (some 1) none (some 2))).bind fun r2 => (fM_reopen r2.2.2.1 (xs ((x4 + (1 : Int32)).toNatClampNeg))).bind fun r3 => (fM_thrown (r2.2.1, r3.2, r2.2.2.2).2.1).bind fun r4 => if r4 = r2.1 then if r2.1 = 0 then if inB (0 : Int32) 1 then if (rdL (r2.2.1, r3.2, r2.2.2.2).2.2 0 0 ((0 : Int32).toNatClampNeg)) = r3.1 then some (r2.2.1, r3.2, r2.2.2.2) else none else none else some (r2.2.1, r3.2, r2.2.2.2) else none else none
set_option maxHeartbeats 4000000 in
theorem lcase_8 {l : Launch} {D : va_G} {dA : Nat → ClassId} {A : Nat → Prop} {pz b L : Nat} {xs : Nat → Int32} (hl9 : l.stackTraces = false) {lc : Nat → Nat → Nat} {s : tt_SL} {x4 : Int32} {ck cn : Nat} {tn : tt_Tn} {Q : tt_Fin} (hk1 : ck + 60 ≤ room_1.cells) (hk2 : cn + 600 ≤ room_1.slots) (h : Ok (fL_case_8 L xs s x4) (fun r => ∀ lc', tt_agr (XL l D dA A pz b L xs) s lc lc' → ∀ ck' cn', ck' ≤ ck + 60 → cn' ≤ cn + 600 → tt_V (XL l D dA A pz b L xs) code (RX0, 8, ret, room_1, tn) Q 3740 [(0, .ref b), (1, .ref (lc' 0 0)), (2, .ref (lc' 300 0)), (3, .ref (lc' 400 0)), (4, .int x4)] [] lc' r ck' cn')) : tt_V (XL l D dA A pz b L xs) code (RX0, 8, ret, room_1, tn) Q 847 [(0, .ref b), (1, .ref (lc 0 0)), (2, .ref (lc 300 0)), (3, .ref (lc 400 0)), (4, .int x4)] [] lc s ck cn := by
  unfold fL_case_8 at h
  refine v_aload_n 1 dL_law_847 rfl ?_
  refine v_aload_n 0 dL_law_848 rfl ?_
  refine v_iload 4 dL_law_849 rfl ?_
  refine v_iconst dL_law_851 ic_1 ?_
  refine v_iadd dL_law_852 ?_
  obtain ⟨g1, h⟩ := Ok.guard h
  refine v_sld g1 dL_law_853 ?_
  refine v_aload_n 3 dL_law_854 rfl ?_
  refine cLw_reopen (Ok.bind h) hl9 ⟨Nat.le_of_ble_eq_true rfl, Nat.le_of_ble_eq_true rfl⟩ (Nat.le_of_ble_eq_true rfl) dL_law_855 (fun r2 h lc hc => ?_) ⟨by omega, by omega⟩
  rw [← hc 0 0 (.inl lvL_0)]
  rw [← hc 300 0 (.inl lvL_300)]
  rw [← hc 400 0 (.inl lvL_400)]
  have h := Ok.agr h hc (fun _ _ h => h)
  refine v_istore [(5, .int r2.1), (0, .ref b), (1, .ref (lc 0 0)), (2, .ref (lc 300 0)), (3, .ref (lc 400 0)), (4, .int x4)] dL_law_858 (Nat.le_of_ble_eq_true rfl) rfl ?_
  refine v_aload_n 3 dL_law_860 rfl ?_
  refine v_aload_n 1 dL_law_861 rfl ?_
  refine v_iload 5 dL_law_862 rfl ?_
  refine v_iconst dL_law_864 ic_1 ?_
  refine v_iadd dL_law_865 ?_
  refine v_sld g1 dL_law_866 ?_
  refine cLm_reopen (Ok.bind h) ⟨Nat.le_of_ble_eq_true rfl, Nat.le_of_ble_eq_true rfl⟩ (Nat.le_of_ble_eq_true rfl) dL_law_867 (fun r3 h => ?_) ⟨by omega, by omega⟩
  refine v_lstore [(6, .long r3.1), (5, .int r2.1), (0, .ref b), (1, .ref (lc 0 0)), (2, .ref (lc 300 0)), (3, .ref (lc 400 0)), (4, .int x4)] dL_law_870 (Nat.le_of_ble_eq_true rfl) rfl ?_
  refine v_aload_n 4 dL_law_872 rfl ?_
  refine cLm_thrown (Ok.bind h) ⟨Nat.le_of_ble_eq_true rfl, Nat.le_of_ble_eq_true rfl⟩ (Nat.le_of_ble_eq_true rfl) dL_law_873 (fun r4 h => ?_) ⟨by omega, by omega⟩
  refine v_iload 1 dL_law_876 rfl ?_
  refine v_icmp_eq (tgt := 883) dL_law_878 rfl (fun c5 => ?_) (fun c5 => ?_)
  · have h := Ok.pos h c5
    refine v_iload 1 dL_law_883 rfl ?_
    refine v_if_ne (tgt := 899) dL_law_885 rfl (fun c6 => ?_) (fun c6 => ?_)
    · have h := Ok.neg h c6
      refine v_goto (tgt := 3740) dL_law_899 rfl ?_
      refine v_sub [2, 3, 4, 5, 6] rfl ?_
      have h := Ok.ret h
      exact h lc agr_rf _ _ (by omega) (by omega)
    · have h := Ok.pos h c6
      refine v_aload_n 5 dL_law_888 rfl ?_
      refine v_iconst dL_law_889 ic_0 ?_
      obtain ⟨g7, h⟩ := Ok.guard h
      refine lL_400 g7 dL_law_890 ?_
      refine v_lload 0 dL_law_891 rfl ?_
      refine v_lif_eq (tgt := 899) dL_law_893 dL_law_894 rfl (fun c8 => ?_) (fun c8 => ?_)
      · have h := Ok.pos h c8
        refine v_goto (tgt := 3740) dL_law_899 rfl ?_
        refine v_sub [2, 3, 4, 5, 6] rfl ?_
        have h := Ok.ret h
        exact h lc agr_rf _ _ (by omega) (by omega)
      · have h := Ok.neg h c8
        refine v_iconst dL_law_897 ic_0 ?_
        exact Ok.stuck h
  · have h := Ok.neg h c5
    refine v_iconst dL_law_881 ic_0 ?_
    exact Ok.stuck h
theorem cLt_back {l : Launch} {D : va_G} {dA : Nat → ClassId} {A : Nat → Prop} {pz b L : Nat} {xs : Nat → Int32} {lc : Nat → Nat → Nat} {s : tt_SL} {cc : ByteArray} {nl : Nat} {rt : Option FieldType} {rm : Room} {tn : tt_Tn} {Q : tt_Fin} {pc : Nat} {lv : List (Nat × Value)} {rest : List Value} {ck cn : Nat} {K : Int32 × tt_S3 → Prop} (h : Ok (fT_back s.1) K) (hR : 16 + 1 ≤ rm.frames ∧ 8 + (2 + 11) + 379 ≤ rm.locals) (hW : (rest.map fun v => v.category).sum ≤ 8) (d : decode cc pc = .ok (.invokevirtual 206, 3)) (kk : ∀ r, K r → tt_V (XL l D dA A pz b L xs) cc (RX0, nl, rt, rm, tn) Q (pc + 3) lv (.int r.1 :: rest) lc (r.2, s.2) (ck + 0) (cn + 0)) (hf : ck + 0 ≤ rm.cells ∧ cn + 0 ≤ rm.slots) : tt_V (XL l D dA A pz b L xs) cc (RX0, nl, rt, rm, tn) Q pc lv (.ref (lc 0 0) :: rest) lc s ck cn :=
  v_callV (kd := 0) (i := 0) (nA := 0) (As := []) lvL_0 oL_0 rfl (liftT (Q := (fun v lc' s' => ∃ r : Int32 × tt_S3, K r ∧ v = some (Value.int r.1) ∧ lc' = lc ∧ s' = (r.2, s.2))) (mT_back l D dA (aLT A lc s) pz lc s.1 (Q := fun v lc' w => tt_agr (XT l D dA (aLT A lc s) pz) s.1 lc lc' ∧ (fun v lc' s' => ∃ r : Int32 × tt_S3, K r ∧ v = some (Value.int r.1) ∧ lc' = lc ∧ s' = (r.2, s.2)) v lc' (w, s.2)) (h.mono fun r hr => ⟨agr_rf, r, hr, rfl, rfl, rfl⟩))) (lw_V q920 q921 q922 q127 q923) (by decide +kernel) rfl hR hW hf d rfl (fun v lc' s' q => by obtain ⟨r, hr, e1, e2, e3⟩ := q; rw [e1, e2, e3]; exact kk r hr)
theorem cLm_back {l : Launch} {D : va_G} {dA : Nat → ClassId} {A : Nat → Prop} {pz b L : Nat} {xs : Nat → Int32} {lc : Nat → Nat → Nat} {s : tt_SL} {cc : ByteArray} {nl : Nat} {rt : Option FieldType} {rm : Room} {tn : tt_Tn} {Q : tt_Fin} {pc : Nat} {lv : List (Nat × Value)} {rest : List Value} {ck cn : Nat} {K : Int32 × tt_St → Prop} (h : Ok (fM_back s.2.1) K) (hR : 11 + 1 ≤ rm.frames ∧ 8 + (1 + 11) + 254 ≤ rm.locals) (hW : (rest.map fun v => v.category).sum ≤ 8) (d : decode cc pc = .ok (.invokevirtual 209, 3)) (kk : ∀ r, K r → tt_V (XL l D dA A pz b L xs) cc (RX0, nl, rt, rm, tn) Q (pc + 3) lv (.int r.1 :: rest) lc (s.1, r.2, s.2.2) (ck + 0) (cn + 0)) (hf : ck + 0 ≤ rm.cells ∧ cn + 0 ≤ rm.slots) : tt_V (XL l D dA A pz b L xs) cc (RX0, nl, rt, rm, tn) Q pc lv (.ref (lc 300 0) :: rest) lc s ck cn :=
  v_callV (kd := 300) (i := 0) (nA := 0) (As := []) lvL_300 oL_300 rfl (liftM (Q := (fun v lc' s' => ∃ r : Int32 × tt_St, K r ∧ v = some (Value.int r.1) ∧ lc' = lc ∧ s' = (s.1, r.2, s.2.2))) (mM_back l (DM D) (dMd dA) (aLM lc s) (nTm lc) s.2.1 (Q := fun v lc' w => lc' = nTm lc ∧ (fun v lc' s' => ∃ r : Int32 × tt_St, K r ∧ v = some (Value.int r.1) ∧ lc' = lc ∧ s' = (s.1, r.2, s.2.2)) v lc (s.1, w, s.2.2)) (h.mono fun r hr => ⟨rfl, r, hr, rfl, rfl, rfl⟩))) (lw_V q2195 q2196 q2197 q154 q2198) (by decide +kernel) rfl hR hW hf d rfl (fun v lc' s' q => by obtain ⟨r, hr, e1, e2, e3⟩ := q; rw [e1, e2, e3]; exact kk r hr)
def fL_case_9 (L : Nat) (xs : Nat → Int32) (s : tt_SL) (x4 : Int32) : Option tt_SL :=
  (fT_back s.1).bind fun r1 => (fM_back (r1.2, s.2).2.1).bind fun r2 => if r1.1 = r2.1 then some ((r1.2, s.2).1, r2.2, (r1.2, s.2).2.2) else none
set_option maxHeartbeats 4000000 in
theorem lcase_9 {l : Launch} {D : va_G} {dA : Nat → ClassId} {A : Nat → Prop} {pz b L : Nat} {xs : Nat → Int32} (hl9 : l.stackTraces = false) {lc : Nat → Nat → Nat} {s : tt_SL} {x4 : Int32} {ck cn : Nat} {tn : tt_Tn} {Q : tt_Fin} (hk1 : ck + 60 ≤ room_1.cells) (hk2 : cn + 600 ≤ room_1.slots) (h : Ok (fL_case_9 L xs s x4) (fun r => ∀ lc', tt_agr (XL l D dA A pz b L xs) s lc lc' → ∀ ck' cn', ck' ≤ ck + 60 → cn' ≤ cn + 600 → tt_V (XL l D dA A pz b L xs) code (RX0, 8, ret, room_1, tn) Q 3740 [(0, .ref b), (1, .ref (lc' 0 0)), (2, .ref (lc' 300 0)), (3, .ref (lc' 400 0)), (4, .int x4)] [] lc' r ck' cn')) : tt_V (XL l D dA A pz b L xs) code (RX0, 8, ret, room_1, tn) Q 902 [(0, .ref b), (1, .ref (lc 0 0)), (2, .ref (lc 300 0)), (3, .ref (lc 400 0)), (4, .int x4)] [] lc s ck cn := by
  unfold fL_case_9 at h
  refine v_aload_n 1 dL_law_902 rfl ?_
  refine cLt_back (Ok.bind h) ⟨Nat.le_of_ble_eq_true rfl, Nat.le_of_ble_eq_true rfl⟩ (Nat.le_of_ble_eq_true rfl) dL_law_903 (fun r1 h => ?_) ⟨by omega, by omega⟩
  refine v_aload_n 2 dL_law_906 rfl ?_
  refine cLm_back (Ok.bind h) ⟨Nat.le_of_ble_eq_true rfl, Nat.le_of_ble_eq_true rfl⟩ (Nat.le_of_ble_eq_true rfl) dL_law_907 (fun r2 h => ?_) ⟨by omega, by omega⟩
  refine v_icmp_eq (tgt := 3740) dL_law_910 rfl (fun c3 => ?_) (fun c3 => ?_)
  · have h := Ok.pos h c3
    have h := Ok.ret h
    exact h lc agr_rf _ _ (by omega) (by omega)
  · have h := Ok.neg h c3
    refine v_iconst dL_law_913 ic_0 ?_
    exact Ok.stuck h
theorem cLw_told {l : Launch} {D : va_G} {dA : Nat → ClassId} {A : Nat → Prop} {pz b L : Nat} {xs : Nat → Int32} {lc : Nat → Nat → Nat} {s : tt_SL} {cc : ByteArray} {nl : Nat} {rt : Option FieldType} {rm : Room} {tn : tt_Tn} {Q : tt_Fin} {pc : Nat} {lv : List (Nat × Value)} {rest : List Value} {ck cn : Nat} {x1 : Int32} {K : Int32 × tt_SL → Prop} (h : Ok (wrapI (fT_told s.1 x1) s (cd3 none (some 1) none)) K) (hl9 : l.stackTraces = false) (hR : 9 + 1 ≤ rm.frames ∧ 8 + (4 + 11) + 161 ≤ rm.locals) (hW : (rest.map fun v => v.category).sum ≤ 8) (d : decode cc pc = .ok (.invokestatic 210, 3)) (kk : ∀ r, K r → ∀ lc', tt_agr (XL l D dA A pz b L xs) s lc lc' → tt_V (XL l D dA A pz b L xs) cc (RX0, nl, rt, rm, tn) Q (pc + 3) lv (.int r.1 :: rest) lc' r.2 (ck + 1) (cn + 6)) (hf : ck + 1 ≤ rm.cells ∧ cn + 6 ≤ rm.slots) : tt_V (XL l D dA A pz b L xs) cc (RX0, nl, rt, rm, tn) Q pc lv (.ref (lc 400 0) :: .int x1 :: .ref (lc 0 0) :: rest) lc s ck cn :=
  v_callSW (nA := 3) (As := [.ref (lc 0 0), .int x1, .ref (lc 400 0)]) (mL_told l D dA A pz b L xs hl9 lc s x1 (Q := (fun v lc' s' => ∃ r : Int32 × tt_SL, K r ∧ v = some (Value.int r.1) ∧ tt_agr (XL l D dA A pz b L xs) s lc lc' ∧ s' = r.2)) (h.mono fun r hr lc' ha => ⟨r, hr, rfl, ha, rfl⟩)) (lw_SW q1227 q1228 q126 q1229) (by decide +kernel) rfl hR hW hf d rfl (fun v lc' s' q => by obtain ⟨r, hr, e1, e2, e3⟩ := q; rw [e1, e3]; exact kk r hr lc' e2)
theorem cLm_told {l : Launch} {D : va_G} {dA : Nat → ClassId} {A : Nat → Prop} {pz b L : Nat} {xs : Nat → Int32} {lc : Nat → Nat → Nat} {s : tt_SL} {cc : ByteArray} {nl : Nat} {rt : Option FieldType} {rm : Room} {tn : tt_Tn} {Q : tt_Fin} {pc : Nat} {lv : List (Nat × Value)} {rest : List Value} {ck cn : Nat} {x1 : Int32} {K : Int32 × tt_St → Prop} (h : Ok (fM_told s.2.1 x1) K) (hR : 2 + 1 ≤ rm.frames ∧ 8 + (4 + 11) + 42 ≤ rm.locals) (hW : (rest.map fun v => v.category).sum ≤ 8) (d : decode cc pc = .ok (.invokevirtual 212, 3)) (kk : ∀ r, K r → tt_V (XL l D dA A pz b L xs) cc (RX0, nl, rt, rm, tn) Q (pc + 3) lv (.int r.1 :: rest) lc (s.1, r.2, s.2.2) (ck + 0) (cn + 0)) (hf : ck + 0 ≤ rm.cells ∧ cn + 0 ≤ rm.slots) : tt_V (XL l D dA A pz b L xs) cc (RX0, nl, rt, rm, tn) Q pc lv (.int x1 :: .ref (lc 300 0) :: rest) lc s ck cn :=
  v_callV (kd := 300) (i := 0) (nA := 1) (As := [.int x1]) lvL_300 oL_300 rfl (liftM (Q := (fun v lc' s' => ∃ r : Int32 × tt_St, K r ∧ v = some (Value.int r.1) ∧ lc' = lc ∧ s' = (s.1, r.2, s.2.2))) (mM_told l (DM D) (dMd dA) (aLM lc s) (nTm lc) s.2.1 x1 (Q := fun v lc' w => lc' = nTm lc ∧ (fun v lc' s' => ∃ r : Int32 × tt_St, K r ∧ v = some (Value.int r.1) ∧ lc' = lc ∧ s' = (s.1, r.2, s.2.2)) v lc (s.1, w, s.2.2)) (h.mono fun r hr => ⟨rfl, r, hr, rfl, rfl, rfl⟩))) (lw_V q2219 q2220 q2221 q154 q2222) (by decide +kernel) rfl hR hW hf d rfl (fun v lc' s' q => by obtain ⟨r, hr, e1, e2, e3⟩ := q; rw [e1, e2, e3]; exact kk r hr)
def fL_case_10 (L : Nat) (xs : Nat → Int32) (s : tt_SL) (x4 : Int32) : Option tt_SL :=
  if inB (x4 + (1 : Int32)) L then (wrapI (fT_told s.1 (xs ((x4 + (1 : Int32)).toNatClampNeg))) s (cd3 none (some 1) none)).bind fun r2 => (fM_told r2.2.2.1 (xs ((x4 + (1 : Int32)).toNatClampNeg))).bind fun r3 => (fM_thrown (r2.2.1, r3.2, r2.2.2.2).2.1).bind fun r4 => if r4 = r2.1 then if r2.1 = 0 then if inB (0 : Int32) 1 then if (rdL (r2.2.1, r3.2, r2.2.2.2).2.2 0 0 ((0 : Int32).toNatClampNeg)) = r3.1.toInt64 then some (r2.2.1, r3.2, r2.2.2.2) else none else none else some (r2.2.1, r3.2, r2.2.2.2) else none else none
set_option maxHeartbeats 4000000 in
theorem lcase_10 {l : Launch} {D : va_G} {dA : Nat → ClassId} {A : Nat → Prop} {pz b L : Nat} {xs : Nat → Int32} (hl9 : l.stackTraces = false) {lc : Nat → Nat → Nat} {s : tt_SL} {x4 : Int32} {ck cn : Nat} {tn : tt_Tn} {Q : tt_Fin} (hk1 : ck + 60 ≤ room_1.cells) (hk2 : cn + 600 ≤ room_1.slots) (h : Ok (fL_case_10 L xs s x4) (fun r => ∀ lc', tt_agr (XL l D dA A pz b L xs) s lc lc' → ∀ ck' cn', ck' ≤ ck + 60 → cn' ≤ cn + 600 → tt_V (XL l D dA A pz b L xs) code (RX0, 8, ret, room_1, tn) Q 3740 [(0, .ref b), (1, .ref (lc' 0 0)), (2, .ref (lc' 300 0)), (3, .ref (lc' 400 0)), (4, .int x4)] [] lc' r ck' cn')) : tt_V (XL l D dA A pz b L xs) code (RX0, 8, ret, room_1, tn) Q 915 [(0, .ref b), (1, .ref (lc 0 0)), (2, .ref (lc 300 0)), (3, .ref (lc 400 0)), (4, .int x4)] [] lc s ck cn := by
  unfold fL_case_10 at h
  refine v_aload_n 1 dL_law_915 rfl ?_
  refine v_aload_n 0 dL_law_916 rfl ?_
  refine v_iload 4 dL_law_917 rfl ?_
  refine v_iconst dL_law_919 ic_1 ?_
  refine v_iadd dL_law_920 ?_
  obtain ⟨g1, h⟩ := Ok.guard h
  refine v_sld g1 dL_law_921 ?_
  refine v_aload_n 3 dL_law_922 rfl ?_
  refine cLw_told (Ok.bind h) hl9 ⟨Nat.le_of_ble_eq_true rfl, Nat.le_of_ble_eq_true rfl⟩ (Nat.le_of_ble_eq_true rfl) dL_law_923 (fun r2 h lc hc => ?_) ⟨by omega, by omega⟩
  rw [← hc 0 0 (.inl lvL_0)]
  rw [← hc 300 0 (.inl lvL_300)]
  rw [← hc 400 0 (.inl lvL_400)]
  have h := Ok.agr h hc (fun _ _ h => h)
  refine v_istore [(5, .int r2.1), (0, .ref b), (1, .ref (lc 0 0)), (2, .ref (lc 300 0)), (3, .ref (lc 400 0)), (4, .int x4)] dL_law_926 (Nat.le_of_ble_eq_true rfl) rfl ?_
  refine v_aload_n 3 dL_law_928 rfl ?_
  refine v_aload_n 1 dL_law_929 rfl ?_
  refine v_iload 5 dL_law_930 rfl ?_
  refine v_iconst dL_law_932 ic_1 ?_
  refine v_iadd dL_law_933 ?_
  refine v_sld g1 dL_law_934 ?_
  refine cLm_told (Ok.bind h) ⟨Nat.le_of_ble_eq_true rfl, Nat.le_of_ble_eq_true rfl⟩ (Nat.le_of_ble_eq_true rfl) dL_law_935 (fun r3 h => ?_) ⟨by omega, by omega⟩
  refine v_istore [(6, .int r3.1), (5, .int r2.1), (0, .ref b), (1, .ref (lc 0 0)), (2, .ref (lc 300 0)), (3, .ref (lc 400 0)), (4, .int x4)] dL_law_938 (Nat.le_of_ble_eq_true rfl) rfl ?_
  refine v_aload_n 4 dL_law_940 rfl ?_
  refine cLm_thrown (Ok.bind h) ⟨Nat.le_of_ble_eq_true rfl, Nat.le_of_ble_eq_true rfl⟩ (Nat.le_of_ble_eq_true rfl) dL_law_941 (fun r4 h => ?_) ⟨by omega, by omega⟩
  refine v_iload 1 dL_law_944 rfl ?_
  refine v_icmp_eq (tgt := 951) dL_law_946 rfl (fun c5 => ?_) (fun c5 => ?_)
  · have h := Ok.pos h c5
    refine v_iload 1 dL_law_951 rfl ?_
    refine v_if_ne (tgt := 968) dL_law_953 rfl (fun c6 => ?_) (fun c6 => ?_)
    · have h := Ok.neg h c6
      refine v_goto (tgt := 3740) dL_law_968 rfl ?_
      refine v_sub [2, 3, 4, 5, 6] rfl ?_
      have h := Ok.ret h
      exact h lc agr_rf _ _ (by omega) (by omega)
    · have h := Ok.pos h c6
      refine v_aload_n 5 dL_law_956 rfl ?_
      refine v_iconst dL_law_957 ic_0 ?_
      obtain ⟨g7, h⟩ := Ok.guard h
      refine lL_400 g7 dL_law_958 ?_
      refine v_iload 0 dL_law_959 rfl ?_
      refine v_i2l dL_law_961 rfl ?_
      refine v_lif_eq (tgt := 968) dL_law_962 dL_law_963 rfl (fun c8 => ?_) (fun c8 => ?_)
      · have h := Ok.pos h c8
        refine v_goto (tgt := 3740) dL_law_968 rfl ?_
        refine v_sub [2, 3, 4, 5, 6] rfl ?_
        have h := Ok.ret h
        exact h lc agr_rf _ _ (by omega) (by omega)
      · have h := Ok.neg h c8
        refine v_iconst dL_law_966 ic_0 ?_
        exact Ok.stuck h
  · have h := Ok.neg h c5
    refine v_iconst dL_law_949 ic_0 ?_
    exact Ok.stuck h
theorem cLw_event {l : Launch} {D : va_G} {dA : Nat → ClassId} {A : Nat → Prop} {pz b L : Nat} {xs : Nat → Int32} {lc : Nat → Nat → Nat} {s : tt_SL} {cc : ByteArray} {nl : Nat} {rt : Option FieldType} {rm : Room} {tn : tt_Tn} {Q : tt_Fin} {pc : Nat} {lv : List (Nat × Value)} {rest : List Value} {ck cn : Nat} {x1 : Int32} {x2 : Int32} {K : Int32 × tt_SL → Prop} (h : Ok (wrapI (fT_event s.1 x1 x2) s (cd3 (some 1) (some 2) none)) K) (hl9 : l.stackTraces = false) (hR : 9 + 1 ≤ rm.frames ∧ 8 + (5 + 11) + 162 ≤ rm.locals) (hW : (rest.map fun v => v.category).sum ≤ 8) (d : decode cc pc = .ok (.invokestatic 213, 3)) (kk : ∀ r, K r → ∀ lc', tt_agr (XL l D dA A pz b L xs) s lc lc' → tt_V (XL l D dA A pz b L xs) cc (RX0, nl, rt, rm, tn) Q (pc + 3) lv (.int r.1 :: rest) lc' r.2 (ck + 2) (cn + 12)) (hf : ck + 2 ≤ rm.cells ∧ cn + 12 ≤ rm.slots) : tt_V (XL l D dA A pz b L xs) cc (RX0, nl, rt, rm, tn) Q pc lv (.ref (lc 400 0) :: .int x2 :: .int x1 :: .ref (lc 0 0) :: rest) lc s ck cn :=
  v_callSW (nA := 4) (As := [.ref (lc 0 0), .int x1, .int x2, .ref (lc 400 0)]) (mL_event l D dA A pz b L xs hl9 lc s x1 x2 (Q := (fun v lc' s' => ∃ r : Int32 × tt_SL, K r ∧ v = some (Value.int r.1) ∧ tt_agr (XL l D dA A pz b L xs) s lc lc' ∧ s' = r.2)) (h.mono fun r hr lc' ha => ⟨r, hr, rfl, ha, rfl⟩)) (lw_SW q1243 q1244 q126 q1245) (by decide +kernel) rfl hR hW hf d rfl (fun v lc' s' q => by obtain ⟨r, hr, e1, e2, e3⟩ := q; rw [e1, e3]; exact kk r hr lc' e2)
theorem cLm_event {l : Launch} {D : va_G} {dA : Nat → ClassId} {A : Nat → Prop} {pz b L : Nat} {xs : Nat → Int32} {lc : Nat → Nat → Nat} {s : tt_SL} {cc : ByteArray} {nl : Nat} {rt : Option FieldType} {rm : Room} {tn : tt_Tn} {Q : tt_Fin} {pc : Nat} {lv : List (Nat × Value)} {rest : List Value} {ck cn : Nat} {x1 : Int32} {x2 : Int32} {K : Int32 × tt_St → Prop} (h : Ok (fM_event s.2.1 x1 x2) K) (hR : 2 + 1 ≤ rm.frames ∧ 8 + (3 + 11) + 46 ≤ rm.locals) (hW : (rest.map fun v => v.category).sum ≤ 8) (d : decode cc pc = .ok (.invokevirtual 215, 3)) (kk : ∀ r, K r → tt_V (XL l D dA A pz b L xs) cc (RX0, nl, rt, rm, tn) Q (pc + 3) lv (.int r.1 :: rest) lc (s.1, r.2, s.2.2) (ck + 0) (cn + 0)) (hf : ck + 0 ≤ rm.cells ∧ cn + 0 ≤ rm.slots) : tt_V (XL l D dA A pz b L xs) cc (RX0, nl, rt, rm, tn) Q pc lv (.int x2 :: .int x1 :: .ref (lc 300 0) :: rest) lc s ck cn :=
  v_callV (kd := 300) (i := 0) (nA := 2) (As := [.int x1, .int x2]) lvL_300 oL_300 rfl (liftM (Q := (fun v lc' s' => ∃ r : Int32 × tt_St, K r ∧ v = some (Value.int r.1) ∧ lc' = lc ∧ s' = (s.1, r.2, s.2.2))) (mM_event l (DM D) (dMd dA) (aLM lc s) (nTm lc) s.2.1 x1 x2 (Q := fun v lc' w => lc' = nTm lc ∧ (fun v lc' s' => ∃ r : Int32 × tt_St, K r ∧ v = some (Value.int r.1) ∧ lc' = lc ∧ s' = (s.1, r.2, s.2.2)) v lc (s.1, w, s.2.2)) (h.mono fun r hr => ⟨rfl, r, hr, rfl, rfl, rfl⟩))) (lw_V q2231 q2232 q2233 q154 q2234) (by decide +kernel) rfl hR hW hf d rfl (fun v lc' s' q => by obtain ⟨r, hr, e1, e2, e3⟩ := q; rw [e1, e2, e3]; exact kk r hr)
def fL_case_11 (L : Nat) (xs : Nat → Int32) (s : tt_SL) (x4 : Int32) : Option tt_SL :=
  if inB (x4 + (1 : Int32)) L then if inB (x4 + (2 : Int32)) L then (wrapI (fT_event s.1 (xs ((x4 + (1 : Int32)).toNatClampNeg)) (xs ((x4 + (2 : Int32)).toNatClampNeg))) s (cd3 (some 1) (some 2) none)).bind fun r3 => (fM_event r3.2.2.1 (xs ((x4 + (1 : Int32)).toNatClampNeg)) (xs ((x4 + (2 : Int32)).toNatClampNeg))).bind fun r4 => (fM_thrown (r3.2.1, r4.2, r3.2.2.2).2.1).bind fun r5 => if r5 = r3.1 then if r3.1 = 0 then if inB (0 : Int32) 1 then if (rdL (r3.2.1, r4.2, r3.2.2.2).2.2 0 0 ((0 : Int32).toNatClampNeg)) = r4.1.toInt64 then some (r3.2.1, r4.2, r3.2.2.2) else none else none else some (r3.2.1, r4.2, r3.2.2.2) else none else none else none
set_option maxHeartbeats 4000000 in
theorem lcase_11 {l : Launch} {D : va_G} {dA : Nat → ClassId} {A : Nat → Prop} {pz b L : Nat} {xs : Nat → Int32} (hl9 : l.stackTraces = false) {lc : Nat → Nat → Nat} {s : tt_SL} {x4 : Int32} {ck cn : Nat} {tn : tt_Tn} {Q : tt_Fin} (hk1 : ck + 60 ≤ room_1.cells) (hk2 : cn + 600 ≤ room_1.slots) (h : Ok (fL_case_11 L xs s x4) (fun r => ∀ lc', tt_agr (XL l D dA A pz b L xs) s lc lc' → ∀ ck' cn', ck' ≤ ck + 60 → cn' ≤ cn + 600 → tt_V (XL l D dA A pz b L xs) code (RX0, 8, ret, room_1, tn) Q 3740 [(0, .ref b), (1, .ref (lc' 0 0)), (2, .ref (lc' 300 0)), (3, .ref (lc' 400 0)), (4, .int x4)] [] lc' r ck' cn')) : tt_V (XL l D dA A pz b L xs) code (RX0, 8, ret, room_1, tn) Q 971 [(0, .ref b), (1, .ref (lc 0 0)), (2, .ref (lc 300 0)), (3, .ref (lc 400 0)), (4, .int x4)] [] lc s ck cn := by
  unfold fL_case_11 at h
  refine v_aload_n 1 dL_law_971 rfl ?_
  refine v_aload_n 0 dL_law_972 rfl ?_
  refine v_iload 4 dL_law_973 rfl ?_
  refine v_iconst dL_law_975 ic_1 ?_
  refine v_iadd dL_law_976 ?_
  obtain ⟨g1, h⟩ := Ok.guard h
  refine v_sld g1 dL_law_977 ?_
  refine v_aload_n 0 dL_law_978 rfl ?_
  refine v_iload 4 dL_law_979 rfl ?_
  refine v_iconst dL_law_981 ic_2 ?_
  refine v_iadd dL_law_982 ?_
  obtain ⟨g2, h⟩ := Ok.guard h
  refine v_sld g2 dL_law_983 ?_
  refine v_aload_n 3 dL_law_984 rfl ?_
  refine cLw_event (Ok.bind h) hl9 ⟨Nat.le_of_ble_eq_true rfl, Nat.le_of_ble_eq_true rfl⟩ (Nat.le_of_ble_eq_true rfl) dL_law_985 (fun r3 h lc hc => ?_) ⟨by omega, by omega⟩
  rw [← hc 0 0 (.inl lvL_0)]
  rw [← hc 300 0 (.inl lvL_300)]
  rw [← hc 400 0 (.inl lvL_400)]
  have h := Ok.agr h hc (fun _ _ h => h)
  refine v_istore [(5, .int r3.1), (0, .ref b), (1, .ref (lc 0 0)), (2, .ref (lc 300 0)), (3, .ref (lc 400 0)), (4, .int x4)] dL_law_988 (Nat.le_of_ble_eq_true rfl) rfl ?_
  refine v_aload_n 3 dL_law_990 rfl ?_
  refine v_aload_n 1 dL_law_991 rfl ?_
  refine v_iload 5 dL_law_992 rfl ?_
  refine v_iconst dL_law_994 ic_1 ?_
  refine v_iadd dL_law_995 ?_
  refine v_sld g1 dL_law_996 ?_
  refine v_aload_n 1 dL_law_997 rfl ?_
  refine v_iload 5 dL_law_998 rfl ?_
  refine v_iconst dL_law_1000 ic_2 ?_
  refine v_iadd dL_law_1001 ?_
  refine v_sld g2 dL_law_1002 ?_
  refine cLm_event (Ok.bind h) ⟨Nat.le_of_ble_eq_true rfl, Nat.le_of_ble_eq_true rfl⟩ (Nat.le_of_ble_eq_true rfl) dL_law_1003 (fun r4 h => ?_) ⟨by omega, by omega⟩
  refine v_istore [(6, .int r4.1), (5, .int r3.1), (0, .ref b), (1, .ref (lc 0 0)), (2, .ref (lc 300 0)), (3, .ref (lc 400 0)), (4, .int x4)] dL_law_1006 (Nat.le_of_ble_eq_true rfl) rfl ?_
  refine v_aload_n 4 dL_law_1008 rfl ?_
  refine cLm_thrown (Ok.bind h) ⟨Nat.le_of_ble_eq_true rfl, Nat.le_of_ble_eq_true rfl⟩ (Nat.le_of_ble_eq_true rfl) dL_law_1009 (fun r5 h => ?_) ⟨by omega, by omega⟩
  refine v_iload 1 dL_law_1012 rfl ?_
  refine v_icmp_eq (tgt := 1019) dL_law_1014 rfl (fun c6 => ?_) (fun c6 => ?_)
  · have h := Ok.pos h c6
    refine v_iload 1 dL_law_1019 rfl ?_
    refine v_if_ne (tgt := 1036) dL_law_1021 rfl (fun c7 => ?_) (fun c7 => ?_)
    · have h := Ok.neg h c7
      refine v_goto (tgt := 3740) dL_law_1036 rfl ?_
      refine v_sub [2, 3, 4, 5, 6] rfl ?_
      have h := Ok.ret h
      exact h lc agr_rf _ _ (by omega) (by omega)
    · have h := Ok.pos h c7
      refine v_aload_n 5 dL_law_1024 rfl ?_
      refine v_iconst dL_law_1025 ic_0 ?_
      obtain ⟨g8, h⟩ := Ok.guard h
      refine lL_400 g8 dL_law_1026 ?_
      refine v_iload 0 dL_law_1027 rfl ?_
      refine v_i2l dL_law_1029 rfl ?_
      refine v_lif_eq (tgt := 1036) dL_law_1030 dL_law_1031 rfl (fun c9 => ?_) (fun c9 => ?_)
      · have h := Ok.pos h c9
        refine v_goto (tgt := 3740) dL_law_1036 rfl ?_
        refine v_sub [2, 3, 4, 5, 6] rfl ?_
        have h := Ok.ret h
        exact h lc agr_rf _ _ (by omega) (by omega)
      · have h := Ok.neg h c9
        refine v_iconst dL_law_1034 ic_0 ?_
        exact Ok.stuck h
  · have h := Ok.neg h c6
    refine v_iconst dL_law_1017 ic_0 ?_
    exact Ok.stuck h
theorem cLw_layer {l : Launch} {D : va_G} {dA : Nat → ClassId} {A : Nat → Prop} {pz b L : Nat} {xs : Nat → Int32} {lc : Nat → Nat → Nat} {s : tt_SL} {cc : ByteArray} {nl : Nat} {rt : Option FieldType} {rm : Room} {tn : tt_Tn} {Q : tt_Fin} {pc : Nat} {lv : List (Nat × Value)} {rest : List Value} {ck cn : Nat} {x1 : Int32} {x2 : Int32} {K : Int32 × tt_SL → Prop} (h : Ok (wrapL (fT_layer s.1 x1 x2) s (cd3 (some 1) (some 2) none)) K) (hl9 : l.stackTraces = false) (hR : 10 + 1 ≤ rm.frames ∧ 8 + (5 + 11) + 183 ≤ rm.locals) (hW : (rest.map fun v => v.category).sum ≤ 8) (d : decode cc pc = .ok (.invokestatic 216, 3)) (kk : ∀ r, K r → ∀ lc', tt_agr (XL l D dA A pz b L xs) s lc lc' → tt_V (XL l D dA A pz b L xs) cc (RX0, nl, rt, rm, tn) Q (pc + 3) lv (.int r.1 :: rest) lc' r.2 (ck + 2) (cn + 12)) (hf : ck + 2 ≤ rm.cells ∧ cn + 12 ≤ rm.slots) : tt_V (XL l D dA A pz b L xs) cc (RX0, nl, rt, rm, tn) Q pc lv (.ref (lc 400 0) :: .int x2 :: .int x1 :: .ref (lc 0 0) :: rest) lc s ck cn :=
  v_callSW (nA := 4) (As := [.ref (lc 0 0), .int x1, .int x2, .ref (lc 400 0)]) (mL_layer l D dA A pz b L xs hl9 lc s x1 x2 (Q := (fun v lc' s' => ∃ r : Int32 × tt_SL, K r ∧ v = some (Value.int r.1) ∧ tt_agr (XL l D dA A pz b L xs) s lc lc' ∧ s' = r.2)) (h.mono fun r hr lc' ha => ⟨r, hr, rfl, ha, rfl⟩)) (lw_SW q1250 q1251 q126 q1252) (by decide +kernel) rfl hR hW hf d rfl (fun v lc' s' q => by obtain ⟨r, hr, e1, e2, e3⟩ := q; rw [e1, e3]; exact kk r hr lc' e2)
theorem cLm_layer {l : Launch} {D : va_G} {dA : Nat → ClassId} {A : Nat → Prop} {pz b L : Nat} {xs : Nat → Int32} {lc : Nat → Nat → Nat} {s : tt_SL} {cc : ByteArray} {nl : Nat} {rt : Option FieldType} {rm : Room} {tn : tt_Tn} {Q : tt_Fin} {pc : Nat} {lv : List (Nat × Value)} {rest : List Value} {ck cn : Nat} {x1 : Int32} {x2 : Int32} {K : Int64 × tt_St → Prop} (h : Ok (fM_layer s.2.1 x1 x2) K) (hR : 2 + 1 ≤ rm.frames ∧ 8 + (3 + 11) + 47 ≤ rm.locals) (hW : (rest.map fun v => v.category).sum ≤ 8) (d : decode cc pc = .ok (.invokevirtual 218, 3)) (kk : ∀ r, K r → tt_V (XL l D dA A pz b L xs) cc (RX0, nl, rt, rm, tn) Q (pc + 3) lv (.long r.1 :: rest) lc (s.1, r.2, s.2.2) (ck + 0) (cn + 0)) (hf : ck + 0 ≤ rm.cells ∧ cn + 0 ≤ rm.slots) : tt_V (XL l D dA A pz b L xs) cc (RX0, nl, rt, rm, tn) Q pc lv (.int x2 :: .int x1 :: .ref (lc 300 0) :: rest) lc s ck cn :=
  v_callV (kd := 300) (i := 0) (nA := 2) (As := [.int x1, .int x2]) lvL_300 oL_300 rfl (liftM (Q := (fun v lc' s' => ∃ r : Int64 × tt_St, K r ∧ v = some (Value.long r.1) ∧ lc' = lc ∧ s' = (s.1, r.2, s.2.2))) (mM_layer l (DM D) (dMd dA) (aLM lc s) (nTm lc) s.2.1 x1 x2 (Q := fun v lc' w => lc' = nTm lc ∧ (fun v lc' s' => ∃ r : Int64 × tt_St, K r ∧ v = some (Value.long r.1) ∧ lc' = lc ∧ s' = (s.1, r.2, s.2.2)) v lc (s.1, w, s.2.2)) (h.mono fun r hr => ⟨rfl, r, hr, rfl, rfl, rfl⟩))) (lw_V q2239 q2240 q2241 q154 q2242) (by decide +kernel) rfl hR hW hf d rfl (fun v lc' s' q => by obtain ⟨r, hr, e1, e2, e3⟩ := q; rw [e1, e2, e3]; exact kk r hr)
def fL_case_12 (L : Nat) (xs : Nat → Int32) (s : tt_SL) (x4 : Int32) : Option tt_SL :=
  if inB (x4 + (1 : Int32)) L then if inB (x4 + (2 : Int32)) L then (wrapL (fT_layer s.1 (xs ((x4 + (1 : Int32)).toNatClampNeg)) (xs ((x4 + (2 : Int32)).toNatClampNeg))) s (cd3 (some 1) (some 2) none)).bind fun r3 => (fM_layer r3.2.2.1 (xs ((x4 + (1 : Int32)).toNatClampNeg)) (xs ((x4 + (2 : Int32)).toNatClampNeg))).bind fun r4 => (fM_thrown (r3.2.1, r4.2, r3.2.2.2).2.1).bind fun r5 => if r5 = r3.1 then if r3.1 = 0 then if inB (0 : Int32) 1 then if (rdL (r3.2.1, r4.2, r3.2.2.2).2.2 0 0 ((0 : Int32).toNatClampNeg)) = r4.1 then some (r3.2.1, r4.2, r3.2.2.2) else none else none else some (r3.2.1, r4.2, r3.2.2.2) else none else none else none
set_option maxHeartbeats 4000000 in
theorem lcase_12 {l : Launch} {D : va_G} {dA : Nat → ClassId} {A : Nat → Prop} {pz b L : Nat} {xs : Nat → Int32} (hl9 : l.stackTraces = false) {lc : Nat → Nat → Nat} {s : tt_SL} {x4 : Int32} {ck cn : Nat} {tn : tt_Tn} {Q : tt_Fin} (hk1 : ck + 60 ≤ room_1.cells) (hk2 : cn + 600 ≤ room_1.slots) (h : Ok (fL_case_12 L xs s x4) (fun r => ∀ lc', tt_agr (XL l D dA A pz b L xs) s lc lc' → ∀ ck' cn', ck' ≤ ck + 60 → cn' ≤ cn + 600 → tt_V (XL l D dA A pz b L xs) code (RX0, 8, ret, room_1, tn) Q 3740 [(0, .ref b), (1, .ref (lc' 0 0)), (2, .ref (lc' 300 0)), (3, .ref (lc' 400 0)), (4, .int x4)] [] lc' r ck' cn')) : tt_V (XL l D dA A pz b L xs) code (RX0, 8, ret, room_1, tn) Q 1039 [(0, .ref b), (1, .ref (lc 0 0)), (2, .ref (lc 300 0)), (3, .ref (lc 400 0)), (4, .int x4)] [] lc s ck cn := by
  unfold fL_case_12 at h
  refine v_aload_n 1 dL_law_1039 rfl ?_
  refine v_aload_n 0 dL_law_1040 rfl ?_
  refine v_iload 4 dL_law_1041 rfl ?_
  refine v_iconst dL_law_1043 ic_1 ?_
  refine v_iadd dL_law_1044 ?_
  obtain ⟨g1, h⟩ := Ok.guard h
  refine v_sld g1 dL_law_1045 ?_
  refine v_aload_n 0 dL_law_1046 rfl ?_
  refine v_iload 4 dL_law_1047 rfl ?_
  refine v_iconst dL_law_1049 ic_2 ?_
  refine v_iadd dL_law_1050 ?_
  obtain ⟨g2, h⟩ := Ok.guard h
  refine v_sld g2 dL_law_1051 ?_
  refine v_aload_n 3 dL_law_1052 rfl ?_
  refine cLw_layer (Ok.bind h) hl9 ⟨Nat.le_of_ble_eq_true rfl, Nat.le_of_ble_eq_true rfl⟩ (Nat.le_of_ble_eq_true rfl) dL_law_1053 (fun r3 h lc hc => ?_) ⟨by omega, by omega⟩
  rw [← hc 0 0 (.inl lvL_0)]
  rw [← hc 300 0 (.inl lvL_300)]
  rw [← hc 400 0 (.inl lvL_400)]
  have h := Ok.agr h hc (fun _ _ h => h)
  refine v_istore [(5, .int r3.1), (0, .ref b), (1, .ref (lc 0 0)), (2, .ref (lc 300 0)), (3, .ref (lc 400 0)), (4, .int x4)] dL_law_1056 (Nat.le_of_ble_eq_true rfl) rfl ?_
  refine v_aload_n 3 dL_law_1058 rfl ?_
  refine v_aload_n 1 dL_law_1059 rfl ?_
  refine v_iload 5 dL_law_1060 rfl ?_
  refine v_iconst dL_law_1062 ic_1 ?_
  refine v_iadd dL_law_1063 ?_
  refine v_sld g1 dL_law_1064 ?_
  refine v_aload_n 1 dL_law_1065 rfl ?_
  refine v_iload 5 dL_law_1066 rfl ?_
  refine v_iconst dL_law_1068 ic_2 ?_
  refine v_iadd dL_law_1069 ?_
  refine v_sld g2 dL_law_1070 ?_
  refine cLm_layer (Ok.bind h) ⟨Nat.le_of_ble_eq_true rfl, Nat.le_of_ble_eq_true rfl⟩ (Nat.le_of_ble_eq_true rfl) dL_law_1071 (fun r4 h => ?_) ⟨by omega, by omega⟩
  refine v_lstore [(6, .long r4.1), (5, .int r3.1), (0, .ref b), (1, .ref (lc 0 0)), (2, .ref (lc 300 0)), (3, .ref (lc 400 0)), (4, .int x4)] dL_law_1074 (Nat.le_of_ble_eq_true rfl) rfl ?_
  refine v_aload_n 4 dL_law_1076 rfl ?_
  refine cLm_thrown (Ok.bind h) ⟨Nat.le_of_ble_eq_true rfl, Nat.le_of_ble_eq_true rfl⟩ (Nat.le_of_ble_eq_true rfl) dL_law_1077 (fun r5 h => ?_) ⟨by omega, by omega⟩
  refine v_iload 1 dL_law_1080 rfl ?_
  refine v_icmp_eq (tgt := 1087) dL_law_1082 rfl (fun c6 => ?_) (fun c6 => ?_)
  · have h := Ok.pos h c6
    refine v_iload 1 dL_law_1087 rfl ?_
    refine v_if_ne (tgt := 1103) dL_law_1089 rfl (fun c7 => ?_) (fun c7 => ?_)
    · have h := Ok.neg h c7
      refine v_goto (tgt := 3740) dL_law_1103 rfl ?_
      refine v_sub [2, 3, 4, 5, 6] rfl ?_
      have h := Ok.ret h
      exact h lc agr_rf _ _ (by omega) (by omega)
    · have h := Ok.pos h c7
      refine v_aload_n 5 dL_law_1092 rfl ?_
      refine v_iconst dL_law_1093 ic_0 ?_
      obtain ⟨g8, h⟩ := Ok.guard h
      refine lL_400 g8 dL_law_1094 ?_
      refine v_lload 0 dL_law_1095 rfl ?_
      refine v_lif_eq (tgt := 1103) dL_law_1097 dL_law_1098 rfl (fun c9 => ?_) (fun c9 => ?_)
      · have h := Ok.pos h c9
        refine v_goto (tgt := 3740) dL_law_1103 rfl ?_
        refine v_sub [2, 3, 4, 5, 6] rfl ?_
        have h := Ok.ret h
        exact h lc agr_rf _ _ (by omega) (by omega)
      · have h := Ok.neg h c9
        refine v_iconst dL_law_1101 ic_0 ?_
        exact Ok.stuck h
  · have h := Ok.neg h c6
    refine v_iconst dL_law_1085 ic_0 ?_
    exact Ok.stuck h
theorem cLw_signed {l : Launch} {D : va_G} {dA : Nat → ClassId} {A : Nat → Prop} {pz b L : Nat} {xs : Nat → Int32} {lc : Nat → Nat → Nat} {s : tt_SL} {cc : ByteArray} {nl : Nat} {rt : Option FieldType} {rm : Room} {tn : tt_Tn} {Q : tt_Fin} {pc : Nat} {lv : List (Nat × Value)} {rest : List Value} {ck cn : Nat} {x1 : Int32} {x2 : Int32} {x3 : Int32} {K : Int32 × tt_SL → Prop} (h : Ok (wrapL (fT_signed s.1 x1 x2 x3) s (cd3 (some 1) (some 2) none)) K) (hl9 : l.stackTraces = false) (hR : 10 + 1 ≤ rm.frames ∧ 8 + (6 + 11) + 185 ≤ rm.locals) (hW : (rest.map fun v => v.category).sum ≤ 8) (d : decode cc pc = .ok (.invokestatic 219, 3)) (kk : ∀ r, K r → ∀ lc', tt_agr (XL l D dA A pz b L xs) s lc lc' → tt_V (XL l D dA A pz b L xs) cc (RX0, nl, rt, rm, tn) Q (pc + 3) lv (.int r.1 :: rest) lc' r.2 (ck + 3) (cn + 18)) (hf : ck + 3 ≤ rm.cells ∧ cn + 18 ≤ rm.slots) : tt_V (XL l D dA A pz b L xs) cc (RX0, nl, rt, rm, tn) Q pc lv (.ref (lc 400 0) :: .int x3 :: .int x2 :: .int x1 :: .ref (lc 0 0) :: rest) lc s ck cn :=
  v_callSW (nA := 5) (As := [.ref (lc 0 0), .int x1, .int x2, .int x3, .ref (lc 400 0)]) (mL_signed l D dA A pz b L xs hl9 lc s x1 x2 x3 (Q := (fun v lc' s' => ∃ r : Int32 × tt_SL, K r ∧ v = some (Value.int r.1) ∧ tt_agr (XL l D dA A pz b L xs) s lc lc' ∧ s' = r.2)) (h.mono fun r hr lc' ha => ⟨r, hr, rfl, ha, rfl⟩)) (lw_SW q1262 q1263 q126 q1264) (by decide +kernel) rfl hR hW hf d rfl (fun v lc' s' q => by obtain ⟨r, hr, e1, e2, e3⟩ := q; rw [e1, e3]; exact kk r hr lc' e2)
theorem cLm_signed {l : Launch} {D : va_G} {dA : Nat → ClassId} {A : Nat → Prop} {pz b L : Nat} {xs : Nat → Int32} {lc : Nat → Nat → Nat} {s : tt_SL} {cc : ByteArray} {nl : Nat} {rt : Option FieldType} {rm : Room} {tn : tt_Tn} {Q : tt_Fin} {pc : Nat} {lv : List (Nat × Value)} {rest : List Value} {ck cn : Nat} {x1 : Int32} {x2 : Int32} {x3 : Int32} {K : Int64 × tt_St → Prop} (h : Ok (fM_signed s.2.1 x1 x2 x3) K) (hR : 2 + 1 ≤ rm.frames ∧ 8 + (7 + 11) + 47 ≤ rm.locals) (hW : (rest.map fun v => v.category).sum ≤ 8) (d : decode cc pc = .ok (.invokevirtual 221, 3)) (kk : ∀ r, K r → tt_V (XL l D dA A pz b L xs) cc (RX0, nl, rt, rm, tn) Q (pc + 3) lv (.long r.1 :: rest) lc (s.1, r.2, s.2.2) (ck + 0) (cn + 0)) (hf : ck + 0 ≤ rm.cells ∧ cn + 0 ≤ rm.slots) : tt_V (XL l D dA A pz b L xs) cc (RX0, nl, rt, rm, tn) Q pc lv (.int x3 :: .int x2 :: .int x1 :: .ref (lc 300 0) :: rest) lc s ck cn :=
  v_callV (kd := 300) (i := 0) (nA := 3) (As := [.int x1, .int x2, .int x3]) lvL_300 oL_300 rfl (liftM (Q := (fun v lc' s' => ∃ r : Int64 × tt_St, K r ∧ v = some (Value.long r.1) ∧ lc' = lc ∧ s' = (s.1, r.2, s.2.2))) (mM_signed l (DM D) (dMd dA) (aLM lc s) (nTm lc) s.2.1 x1 x2 x3 (Q := fun v lc' w => lc' = nTm lc ∧ (fun v lc' s' => ∃ r : Int64 × tt_St, K r ∧ v = some (Value.long r.1) ∧ lc' = lc ∧ s' = (s.1, r.2, s.2.2)) v lc (s.1, w, s.2.2)) (h.mono fun r hr => ⟨rfl, r, hr, rfl, rfl, rfl⟩))) (lw_V q2247 q2248 q2249 q154 q2250) (by decide +kernel) rfl hR hW hf d rfl (fun v lc' s' q => by obtain ⟨r, hr, e1, e2, e3⟩ := q; rw [e1, e2, e3]; exact kk r hr)
def fL_case_13 (L : Nat) (xs : Nat → Int32) (s : tt_SL) (x4 : Int32) : Option tt_SL :=
  if inB (x4 + (1 : Int32)) L then if inB (x4 + (2 : Int32)) L then if inB (x4 + (3 : Int32)) L then (wrapL (fT_signed s.1 (xs ((x4 + (1 : Int32)).toNatClampNeg)) (xs ((x4 + (2 : Int32)).toNatClampNeg)) (xs ((x4 + (3 : Int32)).toNatClampNeg))) s (cd3 (some 1) (some 2) none)).bind fun r4 => (fM_signed r4.2.2.1 (xs ((x4 + (1 : Int32)).toNatClampNeg)) (xs ((x4 + (2 : Int32)).toNatClampNeg)) (xs ((x4 + (3 : Int32)).toNatClampNeg))).bind fun r5 => (fM_thrown (r4.2.1, r5.2, r4.2.2.2).2.1).bind fun r6 => if r6 = r4.1 then if r4.1 = 0 then if inB (0 : Int32) 1 then if (rdL (r4.2.1, r5.2, r4.2.2.2).2.2 0 0 ((0 : Int32).toNatClampNeg)) = r5.1 then some (r4.2.1, r5.2, r4.2.2.2) else none else none else some (r4.2.1, r5.2, r4.2.2.2) else none else none else none else none
set_option maxHeartbeats 4000000 in
theorem lcase_13 {l : Launch} {D : va_G} {dA : Nat → ClassId} {A : Nat → Prop} {pz b L : Nat} {xs : Nat → Int32} (hl9 : l.stackTraces = false) {lc : Nat → Nat → Nat} {s : tt_SL} {x4 : Int32} {ck cn : Nat} {tn : tt_Tn} {Q : tt_Fin} (hk1 : ck + 60 ≤ room_1.cells) (hk2 : cn + 600 ≤ room_1.slots) (h : Ok (fL_case_13 L xs s x4) (fun r => ∀ lc', tt_agr (XL l D dA A pz b L xs) s lc lc' → ∀ ck' cn', ck' ≤ ck + 60 → cn' ≤ cn + 600 → tt_V (XL l D dA A pz b L xs) code (RX0, 8, ret, room_1, tn) Q 3740 [(0, .ref b), (1, .ref (lc' 0 0)), (2, .ref (lc' 300 0)), (3, .ref (lc' 400 0)), (4, .int x4)] [] lc' r ck' cn')) : tt_V (XL l D dA A pz b L xs) code (RX0, 8, ret, room_1, tn) Q 1106 [(0, .ref b), (1, .ref (lc 0 0)), (2, .ref (lc 300 0)), (3, .ref (lc 400 0)), (4, .int x4)] [] lc s ck cn := by
  unfold fL_case_13 at h
  refine v_aload_n 1 dL_law_1106 rfl ?_
  refine v_aload_n 0 dL_law_1107 rfl ?_
  refine v_iload 4 dL_law_1108 rfl ?_
  refine v_iconst dL_law_1110 ic_1 ?_
  refine v_iadd dL_law_1111 ?_
  obtain ⟨g1, h⟩ := Ok.guard h
  refine v_sld g1 dL_law_1112 ?_
  refine v_aload_n 0 dL_law_1113 rfl ?_
  refine v_iload 4 dL_law_1114 rfl ?_
  refine v_iconst dL_law_1116 ic_2 ?_
  refine v_iadd dL_law_1117 ?_
  obtain ⟨g2, h⟩ := Ok.guard h
  refine v_sld g2 dL_law_1118 ?_
  refine v_aload_n 0 dL_law_1119 rfl ?_
  refine v_iload 4 dL_law_1120 rfl ?_
  refine v_iconst dL_law_1122 ic_3 ?_
  refine v_iadd dL_law_1123 ?_
  obtain ⟨g3, h⟩ := Ok.guard h
  refine v_sld g3 dL_law_1124 ?_
  refine v_aload_n 3 dL_law_1125 rfl ?_
  refine cLw_signed (Ok.bind h) hl9 ⟨Nat.le_of_ble_eq_true rfl, Nat.le_of_ble_eq_true rfl⟩ (Nat.le_of_ble_eq_true rfl) dL_law_1126 (fun r4 h lc hc => ?_) ⟨by omega, by omega⟩
  rw [← hc 0 0 (.inl lvL_0)]
  rw [← hc 300 0 (.inl lvL_300)]
  rw [← hc 400 0 (.inl lvL_400)]
  have h := Ok.agr h hc (fun _ _ h => h)
  refine v_istore [(5, .int r4.1), (0, .ref b), (1, .ref (lc 0 0)), (2, .ref (lc 300 0)), (3, .ref (lc 400 0)), (4, .int x4)] dL_law_1129 (Nat.le_of_ble_eq_true rfl) rfl ?_
  refine v_aload_n 3 dL_law_1131 rfl ?_
  refine v_aload_n 1 dL_law_1132 rfl ?_
  refine v_iload 5 dL_law_1133 rfl ?_
  refine v_iconst dL_law_1135 ic_1 ?_
  refine v_iadd dL_law_1136 ?_
  refine v_sld g1 dL_law_1137 ?_
  refine v_aload_n 1 dL_law_1138 rfl ?_
  refine v_iload 5 dL_law_1139 rfl ?_
  refine v_iconst dL_law_1141 ic_2 ?_
  refine v_iadd dL_law_1142 ?_
  refine v_sld g2 dL_law_1143 ?_
  refine v_aload_n 1 dL_law_1144 rfl ?_
  refine v_iload 5 dL_law_1145 rfl ?_
  refine v_iconst dL_law_1147 ic_3 ?_
  refine v_iadd dL_law_1148 ?_
  refine v_sld g3 dL_law_1149 ?_
  refine cLm_signed (Ok.bind h) ⟨Nat.le_of_ble_eq_true rfl, Nat.le_of_ble_eq_true rfl⟩ (Nat.le_of_ble_eq_true rfl) dL_law_1150 (fun r5 h => ?_) ⟨by omega, by omega⟩
  refine v_lstore [(6, .long r5.1), (5, .int r4.1), (0, .ref b), (1, .ref (lc 0 0)), (2, .ref (lc 300 0)), (3, .ref (lc 400 0)), (4, .int x4)] dL_law_1153 (Nat.le_of_ble_eq_true rfl) rfl ?_
  refine v_aload_n 4 dL_law_1155 rfl ?_
  refine cLm_thrown (Ok.bind h) ⟨Nat.le_of_ble_eq_true rfl, Nat.le_of_ble_eq_true rfl⟩ (Nat.le_of_ble_eq_true rfl) dL_law_1156 (fun r6 h => ?_) ⟨by omega, by omega⟩
  refine v_iload 1 dL_law_1159 rfl ?_
  refine v_icmp_eq (tgt := 1166) dL_law_1161 rfl (fun c7 => ?_) (fun c7 => ?_)
  · have h := Ok.pos h c7
    refine v_iload 1 dL_law_1166 rfl ?_
    refine v_if_ne (tgt := 1182) dL_law_1168 rfl (fun c8 => ?_) (fun c8 => ?_)
    · have h := Ok.neg h c8
      refine v_goto (tgt := 3740) dL_law_1182 rfl ?_
      refine v_sub [2, 3, 4, 5, 6] rfl ?_
      have h := Ok.ret h
      exact h lc agr_rf _ _ (by omega) (by omega)
    · have h := Ok.pos h c8
      refine v_aload_n 5 dL_law_1171 rfl ?_
      refine v_iconst dL_law_1172 ic_0 ?_
      obtain ⟨g9, h⟩ := Ok.guard h
      refine lL_400 g9 dL_law_1173 ?_
      refine v_lload 0 dL_law_1174 rfl ?_
      refine v_lif_eq (tgt := 1182) dL_law_1176 dL_law_1177 rfl (fun c10 => ?_) (fun c10 => ?_)
      · have h := Ok.pos h c10
        refine v_goto (tgt := 3740) dL_law_1182 rfl ?_
        refine v_sub [2, 3, 4, 5, 6] rfl ?_
        have h := Ok.ret h
        exact h lc agr_rf _ _ (by omega) (by omega)
      · have h := Ok.neg h c10
        refine v_iconst dL_law_1180 ic_0 ?_
        exact Ok.stuck h
  · have h := Ok.neg h c7
    refine v_iconst dL_law_1164 ic_0 ?_
    exact Ok.stuck h
theorem cLw_year {l : Launch} {D : va_G} {dA : Nat → ClassId} {A : Nat → Prop} {pz b L : Nat} {xs : Nat → Int32} {lc : Nat → Nat → Nat} {s : tt_SL} {cc : ByteArray} {nl : Nat} {rt : Option FieldType} {rm : Room} {tn : tt_Tn} {Q : tt_Fin} {pc : Nat} {lv : List (Nat × Value)} {rest : List Value} {ck cn : Nat} {x1 : Int32} {x2 : Int32} {K : Int32 × tt_SL → Prop} (h : Ok (wrapL (fT_year s.1 x1 x2) s (cd3 none (some 1) none)) K) (hl9 : l.stackTraces = false) (hR : 10 + 1 ≤ rm.frames ∧ 8 + (5 + 11) + 3103 ≤ rm.locals) (hW : (rest.map fun v => v.category).sum ≤ 8) (d : decode cc pc = .ok (.invokestatic 222, 3)) (kk : ∀ r, K r → ∀ lc', tt_agr (XL l D dA A pz b L xs) s lc lc' → tt_V (XL l D dA A pz b L xs) cc (RX0, nl, rt, rm, tn) Q (pc + 3) lv (.int r.1 :: rest) lc' r.2 (ck + 2) (cn + 12)) (hf : ck + 2 ≤ rm.cells ∧ cn + 12 ≤ rm.slots) : tt_V (XL l D dA A pz b L xs) cc (RX0, nl, rt, rm, tn) Q pc lv (.ref (lc 400 0) :: .int x2 :: .int x1 :: .ref (lc 0 0) :: rest) lc s ck cn :=
  v_callSW (nA := 4) (As := [.ref (lc 0 0), .int x1, .int x2, .ref (lc 400 0)]) (mL_year l D dA A pz b L xs hl9 lc s x1 x2 (Q := (fun v lc' s' => ∃ r : Int32 × tt_SL, K r ∧ v = some (Value.int r.1) ∧ tt_agr (XL l D dA A pz b L xs) s lc lc' ∧ s' = r.2)) (h.mono fun r hr lc' ha => ⟨r, hr, rfl, ha, rfl⟩)) (lw_SW q1275 q1276 q126 q1277) (by decide +kernel) rfl hR hW hf d rfl (fun v lc' s' q => by obtain ⟨r, hr, e1, e2, e3⟩ := q; rw [e1, e3]; exact kk r hr lc' e2)
theorem cLm_year {l : Launch} {D : va_G} {dA : Nat → ClassId} {A : Nat → Prop} {pz b L : Nat} {xs : Nat → Int32} {lc : Nat → Nat → Nat} {s : tt_SL} {cc : ByteArray} {nl : Nat} {rt : Option FieldType} {rm : Room} {tn : tt_Tn} {Q : tt_Fin} {pc : Nat} {lv : List (Nat × Value)} {rest : List Value} {ck cn : Nat} {x1 : Int32} {x2 : Int32} {K : Int64 × tt_St → Prop} (h : Ok (fM_year s.2.1 x1 x2) K) (hR : 2 + 1 ≤ rm.frames ∧ 8 + (4 + 11) + 47 ≤ rm.locals) (hW : (rest.map fun v => v.category).sum ≤ 8) (d : decode cc pc = .ok (.invokevirtual 224, 3)) (kk : ∀ r, K r → tt_V (XL l D dA A pz b L xs) cc (RX0, nl, rt, rm, tn) Q (pc + 3) lv (.long r.1 :: rest) lc (s.1, r.2, s.2.2) (ck + 0) (cn + 0)) (hf : ck + 0 ≤ rm.cells ∧ cn + 0 ≤ rm.slots) : tt_V (XL l D dA A pz b L xs) cc (RX0, nl, rt, rm, tn) Q pc lv (.int x2 :: .int x1 :: .ref (lc 300 0) :: rest) lc s ck cn :=
  v_callV (kd := 300) (i := 0) (nA := 2) (As := [.int x1, .int x2]) lvL_300 oL_300 rfl (liftM (Q := (fun v lc' s' => ∃ r : Int64 × tt_St, K r ∧ v = some (Value.long r.1) ∧ lc' = lc ∧ s' = (s.1, r.2, s.2.2))) (mM_year l (DM D) (dMd dA) (aLM lc s) (nTm lc) s.2.1 x1 x2 (Q := fun v lc' w => lc' = nTm lc ∧ (fun v lc' s' => ∃ r : Int64 × tt_St, K r ∧ v = some (Value.long r.1) ∧ lc' = lc ∧ s' = (s.1, r.2, s.2.2)) v lc (s.1, w, s.2.2)) (h.mono fun r hr => ⟨rfl, r, hr, rfl, rfl, rfl⟩))) (lw_V q2252 q2253 q2254 q154 q2255) (by decide +kernel) rfl hR hW hf d rfl (fun v lc' s' q => by obtain ⟨r, hr, e1, e2, e3⟩ := q; rw [e1, e2, e3]; exact kk r hr)
def fL_case_14 (L : Nat) (xs : Nat → Int32) (s : tt_SL) (x4 : Int32) : Option tt_SL :=
  if inB (x4 + (1 : Int32)) L then if inB (x4 + (2 : Int32)) L then (wrapL (fT_year s.1 (xs ((x4 + (1 : Int32)).toNatClampNeg)) (xs ((x4 + (2 : Int32)).toNatClampNeg))) s (cd3 none (some 1) none)).bind fun r3 => (fM_year r3.2.2.1 (xs ((x4 + (1 : Int32)).toNatClampNeg)) (xs ((x4 + (2 : Int32)).toNatClampNeg))).bind fun r4 => (fM_thrown (r3.2.1, r4.2, r3.2.2.2).2.1).bind fun r5 => if r5 = r3.1 then if r3.1 = 0 then if inB (0 : Int32) 1 then if (rdL (r3.2.1, r4.2, r3.2.2.2).2.2 0 0 ((0 : Int32).toNatClampNeg)) = r4.1 then some (r3.2.1, r4.2, r3.2.2.2) else none else none else some (r3.2.1, r4.2, r3.2.2.2) else none else none else none
set_option maxHeartbeats 4000000 in
theorem lcase_14 {l : Launch} {D : va_G} {dA : Nat → ClassId} {A : Nat → Prop} {pz b L : Nat} {xs : Nat → Int32} (hl9 : l.stackTraces = false) {lc : Nat → Nat → Nat} {s : tt_SL} {x4 : Int32} {ck cn : Nat} {tn : tt_Tn} {Q : tt_Fin} (hk1 : ck + 60 ≤ room_1.cells) (hk2 : cn + 600 ≤ room_1.slots) (h : Ok (fL_case_14 L xs s x4) (fun r => ∀ lc', tt_agr (XL l D dA A pz b L xs) s lc lc' → ∀ ck' cn', ck' ≤ ck + 60 → cn' ≤ cn + 600 → tt_V (XL l D dA A pz b L xs) code (RX0, 8, ret, room_1, tn) Q 3740 [(0, .ref b), (1, .ref (lc' 0 0)), (2, .ref (lc' 300 0)), (3, .ref (lc' 400 0)), (4, .int x4)] [] lc' r ck' cn')) : tt_V (XL l D dA A pz b L xs) code (RX0, 8, ret, room_1, tn) Q 1185 [(0, .ref b), (1, .ref (lc 0 0)), (2, .ref (lc 300 0)), (3, .ref (lc 400 0)), (4, .int x4)] [] lc s ck cn := by
  unfold fL_case_14 at h
  refine v_aload_n 1 dL_law_1185 rfl ?_
  refine v_aload_n 0 dL_law_1186 rfl ?_
  refine v_iload 4 dL_law_1187 rfl ?_
  refine v_iconst dL_law_1189 ic_1 ?_
  refine v_iadd dL_law_1190 ?_
  obtain ⟨g1, h⟩ := Ok.guard h
  refine v_sld g1 dL_law_1191 ?_
  refine v_aload_n 0 dL_law_1192 rfl ?_
  refine v_iload 4 dL_law_1193 rfl ?_
  refine v_iconst dL_law_1195 ic_2 ?_
  refine v_iadd dL_law_1196 ?_
  obtain ⟨g2, h⟩ := Ok.guard h
  refine v_sld g2 dL_law_1197 ?_
  refine v_aload_n 3 dL_law_1198 rfl ?_
  refine cLw_year (Ok.bind h) hl9 ⟨Nat.le_of_ble_eq_true rfl, Nat.le_of_ble_eq_true rfl⟩ (Nat.le_of_ble_eq_true rfl) dL_law_1199 (fun r3 h lc hc => ?_) ⟨by omega, by omega⟩
  rw [← hc 0 0 (.inl lvL_0)]
  rw [← hc 300 0 (.inl lvL_300)]
  rw [← hc 400 0 (.inl lvL_400)]
  have h := Ok.agr h hc (fun _ _ h => h)
  refine v_istore [(5, .int r3.1), (0, .ref b), (1, .ref (lc 0 0)), (2, .ref (lc 300 0)), (3, .ref (lc 400 0)), (4, .int x4)] dL_law_1202 (Nat.le_of_ble_eq_true rfl) rfl ?_
  refine v_aload_n 3 dL_law_1204 rfl ?_
  refine v_aload_n 1 dL_law_1205 rfl ?_
  refine v_iload 5 dL_law_1206 rfl ?_
  refine v_iconst dL_law_1208 ic_1 ?_
  refine v_iadd dL_law_1209 ?_
  refine v_sld g1 dL_law_1210 ?_
  refine v_aload_n 1 dL_law_1211 rfl ?_
  refine v_iload 5 dL_law_1212 rfl ?_
  refine v_iconst dL_law_1214 ic_2 ?_
  refine v_iadd dL_law_1215 ?_
  refine v_sld g2 dL_law_1216 ?_
  refine cLm_year (Ok.bind h) ⟨Nat.le_of_ble_eq_true rfl, Nat.le_of_ble_eq_true rfl⟩ (Nat.le_of_ble_eq_true rfl) dL_law_1217 (fun r4 h => ?_) ⟨by omega, by omega⟩
  refine v_lstore [(6, .long r4.1), (5, .int r3.1), (0, .ref b), (1, .ref (lc 0 0)), (2, .ref (lc 300 0)), (3, .ref (lc 400 0)), (4, .int x4)] dL_law_1220 (Nat.le_of_ble_eq_true rfl) rfl ?_
  refine v_aload_n 4 dL_law_1222 rfl ?_
  refine cLm_thrown (Ok.bind h) ⟨Nat.le_of_ble_eq_true rfl, Nat.le_of_ble_eq_true rfl⟩ (Nat.le_of_ble_eq_true rfl) dL_law_1223 (fun r5 h => ?_) ⟨by omega, by omega⟩
  refine v_iload 1 dL_law_1226 rfl ?_
  refine v_icmp_eq (tgt := 1233) dL_law_1228 rfl (fun c6 => ?_) (fun c6 => ?_)
  · have h := Ok.pos h c6
    refine v_iload 1 dL_law_1233 rfl ?_
    refine v_if_ne (tgt := 1249) dL_law_1235 rfl (fun c7 => ?_) (fun c7 => ?_)
    · have h := Ok.neg h c7
      refine v_goto (tgt := 3740) dL_law_1249 rfl ?_
      refine v_sub [2, 3, 4, 5, 6] rfl ?_
      have h := Ok.ret h
      exact h lc agr_rf _ _ (by omega) (by omega)
    · have h := Ok.pos h c7
      refine v_aload_n 5 dL_law_1238 rfl ?_
      refine v_iconst dL_law_1239 ic_0 ?_
      obtain ⟨g8, h⟩ := Ok.guard h
      refine lL_400 g8 dL_law_1240 ?_
      refine v_lload 0 dL_law_1241 rfl ?_
      refine v_lif_eq (tgt := 1249) dL_law_1243 dL_law_1244 rfl (fun c9 => ?_) (fun c9 => ?_)
      · have h := Ok.pos h c9
        refine v_goto (tgt := 3740) dL_law_1249 rfl ?_
        refine v_sub [2, 3, 4, 5, 6] rfl ?_
        have h := Ok.ret h
        exact h lc agr_rf _ _ (by omega) (by omega)
      · have h := Ok.neg h c9
        refine v_iconst dL_law_1247 ic_0 ?_
        exact Ok.stuck h
  · have h := Ok.neg h c6
    refine v_iconst dL_law_1231 ic_0 ?_
    exact Ok.stuck h
theorem cLw_at {l : Launch} {D : va_G} {dA : Nat → ClassId} {A : Nat → Prop} {pz b L : Nat} {xs : Nat → Int32} {lc : Nat → Nat → Nat} {s : tt_SL} {cc : ByteArray} {nl : Nat} {rt : Option FieldType} {rm : Room} {tn : tt_Tn} {Q : tt_Fin} {pc : Nat} {lv : List (Nat × Value)} {rest : List Value} {ck cn : Nat} {x1 : Int32} {x2 : Int32} {K : Int32 × tt_SL → Prop} (h : Ok (wrapI (fT_at s.1 x1 x2) s (cd3 none (some 1) none)) K) (hl9 : l.stackTraces = false) (hR : 10 + 1 ≤ rm.frames ∧ 8 + (5 + 11) + 185 ≤ rm.locals) (hW : (rest.map fun v => v.category).sum ≤ 8) (d : decode cc pc = .ok (.invokestatic 225, 3)) (kk : ∀ r, K r → ∀ lc', tt_agr (XL l D dA A pz b L xs) s lc lc' → tt_V (XL l D dA A pz b L xs) cc (RX0, nl, rt, rm, tn) Q (pc + 3) lv (.int r.1 :: rest) lc' r.2 (ck + 2) (cn + 12)) (hf : ck + 2 ≤ rm.cells ∧ cn + 12 ≤ rm.slots) : tt_V (XL l D dA A pz b L xs) cc (RX0, nl, rt, rm, tn) Q pc lv (.ref (lc 400 0) :: .int x2 :: .int x1 :: .ref (lc 0 0) :: rest) lc s ck cn :=
  v_callSW (nA := 4) (As := [.ref (lc 0 0), .int x1, .int x2, .ref (lc 400 0)]) (mL_at l D dA A pz b L xs hl9 lc s x1 x2 (Q := (fun v lc' s' => ∃ r : Int32 × tt_SL, K r ∧ v = some (Value.int r.1) ∧ tt_agr (XL l D dA A pz b L xs) s lc lc' ∧ s' = r.2)) (h.mono fun r hr lc' ha => ⟨r, hr, rfl, ha, rfl⟩)) (lw_SW q1300 q1301 q126 q1302) (by decide +kernel) rfl hR hW hf d rfl (fun v lc' s' q => by obtain ⟨r, hr, e1, e2, e3⟩ := q; rw [e1, e3]; exact kk r hr lc' e2)
theorem cLm_at {l : Launch} {D : va_G} {dA : Nat → ClassId} {A : Nat → Prop} {pz b L : Nat} {xs : Nat → Int32} {lc : Nat → Nat → Nat} {s : tt_SL} {cc : ByteArray} {nl : Nat} {rt : Option FieldType} {rm : Room} {tn : tt_Tn} {Q : tt_Fin} {pc : Nat} {lv : List (Nat × Value)} {rest : List Value} {ck cn : Nat} {x1 : Int32} {x2 : Int32} {K : Int32 × tt_St → Prop} (h : Ok (fM_at s.2.1 x1 x2) K) (hR : 2 + 1 ≤ rm.frames ∧ 8 + (5 + 11) + 45 ≤ rm.locals) (hW : (rest.map fun v => v.category).sum ≤ 8) (d : decode cc pc = .ok (.invokevirtual 227, 3)) (kk : ∀ r, K r → tt_V (XL l D dA A pz b L xs) cc (RX0, nl, rt, rm, tn) Q (pc + 3) lv (.int r.1 :: rest) lc (s.1, r.2, s.2.2) (ck + 0) (cn + 0)) (hf : ck + 0 ≤ rm.cells ∧ cn + 0 ≤ rm.slots) : tt_V (XL l D dA A pz b L xs) cc (RX0, nl, rt, rm, tn) Q pc lv (.int x2 :: .int x1 :: .ref (lc 300 0) :: rest) lc s ck cn :=
  v_callV (kd := 300) (i := 0) (nA := 2) (As := [.int x1, .int x2]) lvL_300 oL_300 rfl (liftM (Q := (fun v lc' s' => ∃ r : Int32 × tt_St, K r ∧ v = some (Value.int r.1) ∧ lc' = lc ∧ s' = (s.1, r.2, s.2.2))) (mM_at l (DM D) (dMd dA) (aLM lc s) (nTm lc) s.2.1 x1 x2 (Q := fun v lc' w => lc' = nTm lc ∧ (fun v lc' s' => ∃ r : Int32 × tt_St, K r ∧ v = some (Value.int r.1) ∧ lc' = lc ∧ s' = (s.1, r.2, s.2.2)) v lc (s.1, w, s.2.2)) (h.mono fun r hr => ⟨rfl, r, hr, rfl, rfl, rfl⟩))) (lw_V q2261 q2262 q2263 q154 q2264) (by decide +kernel) rfl hR hW hf d rfl (fun v lc' s' q => by obtain ⟨r, hr, e1, e2, e3⟩ := q; rw [e1, e2, e3]; exact kk r hr)
def fL_case_15 (L : Nat) (xs : Nat → Int32) (s : tt_SL) (x4 : Int32) : Option tt_SL :=
  if inB (x4 + (1 : Int32)) L then if inB (x4 + (2 : Int32)) L then (wrapI (fT_at s.1 (xs ((x4 + (1 : Int32)).toNatClampNeg)) (xs ((x4 + (2 : Int32)).toNatClampNeg))) s (cd3 none (some 1) none)).bind fun r3 => (fM_at r3.2.2.1 (xs ((x4 + (1 : Int32)).toNatClampNeg)) (xs ((x4 + (2 : Int32)).toNatClampNeg))).bind fun r4 => (fM_thrown (r3.2.1, r4.2, r3.2.2.2).2.1).bind fun r5 => if r5 = r3.1 then if r3.1 = 0 then if inB (0 : Int32) 1 then if (rdL (r3.2.1, r4.2, r3.2.2.2).2.2 0 0 ((0 : Int32).toNatClampNeg)) = r4.1.toInt64 then some (r3.2.1, r4.2, r3.2.2.2) else none else none else some (r3.2.1, r4.2, r3.2.2.2) else none else none else none
set_option maxHeartbeats 4000000 in
theorem lcase_15 {l : Launch} {D : va_G} {dA : Nat → ClassId} {A : Nat → Prop} {pz b L : Nat} {xs : Nat → Int32} (hl9 : l.stackTraces = false) {lc : Nat → Nat → Nat} {s : tt_SL} {x4 : Int32} {ck cn : Nat} {tn : tt_Tn} {Q : tt_Fin} (hk1 : ck + 60 ≤ room_1.cells) (hk2 : cn + 600 ≤ room_1.slots) (h : Ok (fL_case_15 L xs s x4) (fun r => ∀ lc', tt_agr (XL l D dA A pz b L xs) s lc lc' → ∀ ck' cn', ck' ≤ ck + 60 → cn' ≤ cn + 600 → tt_V (XL l D dA A pz b L xs) code (RX0, 8, ret, room_1, tn) Q 3740 [(0, .ref b), (1, .ref (lc' 0 0)), (2, .ref (lc' 300 0)), (3, .ref (lc' 400 0)), (4, .int x4)] [] lc' r ck' cn')) : tt_V (XL l D dA A pz b L xs) code (RX0, 8, ret, room_1, tn) Q 1252 [(0, .ref b), (1, .ref (lc 0 0)), (2, .ref (lc 300 0)), (3, .ref (lc 400 0)), (4, .int x4)] [] lc s ck cn := by
  unfold fL_case_15 at h
  refine v_aload_n 1 dL_law_1252 rfl ?_
  refine v_aload_n 0 dL_law_1253 rfl ?_
  refine v_iload 4 dL_law_1254 rfl ?_
  refine v_iconst dL_law_1256 ic_1 ?_
  refine v_iadd dL_law_1257 ?_
  obtain ⟨g1, h⟩ := Ok.guard h
  refine v_sld g1 dL_law_1258 ?_
  refine v_aload_n 0 dL_law_1259 rfl ?_
  refine v_iload 4 dL_law_1260 rfl ?_
  refine v_iconst dL_law_1262 ic_2 ?_
  refine v_iadd dL_law_1263 ?_
  obtain ⟨g2, h⟩ := Ok.guard h
  refine v_sld g2 dL_law_1264 ?_
  refine v_aload_n 3 dL_law_1265 rfl ?_
  refine cLw_at (Ok.bind h) hl9 ⟨Nat.le_of_ble_eq_true rfl, Nat.le_of_ble_eq_true rfl⟩ (Nat.le_of_ble_eq_true rfl) dL_law_1266 (fun r3 h lc hc => ?_) ⟨by omega, by omega⟩
  rw [← hc 0 0 (.inl lvL_0)]
  rw [← hc 300 0 (.inl lvL_300)]
  rw [← hc 400 0 (.inl lvL_400)]
  have h := Ok.agr h hc (fun _ _ h => h)
  refine v_istore [(5, .int r3.1), (0, .ref b), (1, .ref (lc 0 0)), (2, .ref (lc 300 0)), (3, .ref (lc 400 0)), (4, .int x4)] dL_law_1269 (Nat.le_of_ble_eq_true rfl) rfl ?_
  refine v_aload_n 3 dL_law_1271 rfl ?_
  refine v_aload_n 1 dL_law_1272 rfl ?_
  refine v_iload 5 dL_law_1273 rfl ?_
  refine v_iconst dL_law_1275 ic_1 ?_
  refine v_iadd dL_law_1276 ?_
  refine v_sld g1 dL_law_1277 ?_
  refine v_aload_n 1 dL_law_1278 rfl ?_
  refine v_iload 5 dL_law_1279 rfl ?_
  refine v_iconst dL_law_1281 ic_2 ?_
  refine v_iadd dL_law_1282 ?_
  refine v_sld g2 dL_law_1283 ?_
  refine cLm_at (Ok.bind h) ⟨Nat.le_of_ble_eq_true rfl, Nat.le_of_ble_eq_true rfl⟩ (Nat.le_of_ble_eq_true rfl) dL_law_1284 (fun r4 h => ?_) ⟨by omega, by omega⟩
  refine v_istore [(6, .int r4.1), (5, .int r3.1), (0, .ref b), (1, .ref (lc 0 0)), (2, .ref (lc 300 0)), (3, .ref (lc 400 0)), (4, .int x4)] dL_law_1287 (Nat.le_of_ble_eq_true rfl) rfl ?_
  refine v_aload_n 4 dL_law_1289 rfl ?_
  refine cLm_thrown (Ok.bind h) ⟨Nat.le_of_ble_eq_true rfl, Nat.le_of_ble_eq_true rfl⟩ (Nat.le_of_ble_eq_true rfl) dL_law_1290 (fun r5 h => ?_) ⟨by omega, by omega⟩
  refine v_iload 1 dL_law_1293 rfl ?_
  refine v_icmp_eq (tgt := 1300) dL_law_1295 rfl (fun c6 => ?_) (fun c6 => ?_)
  · have h := Ok.pos h c6
    refine v_iload 1 dL_law_1300 rfl ?_
    refine v_if_ne (tgt := 1317) dL_law_1302 rfl (fun c7 => ?_) (fun c7 => ?_)
    · have h := Ok.neg h c7
      refine v_goto (tgt := 3740) dL_law_1317 rfl ?_
      refine v_sub [2, 3, 4, 5, 6] rfl ?_
      have h := Ok.ret h
      exact h lc agr_rf _ _ (by omega) (by omega)
    · have h := Ok.pos h c7
      refine v_aload_n 5 dL_law_1305 rfl ?_
      refine v_iconst dL_law_1306 ic_0 ?_
      obtain ⟨g8, h⟩ := Ok.guard h
      refine lL_400 g8 dL_law_1307 ?_
      refine v_iload 0 dL_law_1308 rfl ?_
      refine v_i2l dL_law_1310 rfl ?_
      refine v_lif_eq (tgt := 1317) dL_law_1311 dL_law_1312 rfl (fun c9 => ?_) (fun c9 => ?_)
      · have h := Ok.pos h c9
        refine v_goto (tgt := 3740) dL_law_1317 rfl ?_
        refine v_sub [2, 3, 4, 5, 6] rfl ?_
        have h := Ok.ret h
        exact h lc agr_rf _ _ (by omega) (by omega)
      · have h := Ok.neg h c9
        refine v_iconst dL_law_1315 ic_0 ?_
        exact Ok.stuck h
  · have h := Ok.neg h c6
    refine v_iconst dL_law_1298 ic_0 ?_
    exact Ok.stuck h
theorem cLw_rung {l : Launch} {D : va_G} {dA : Nat → ClassId} {A : Nat → Prop} {pz b L : Nat} {xs : Nat → Int32} {lc : Nat → Nat → Nat} {s : tt_SL} {cc : ByteArray} {nl : Nat} {rt : Option FieldType} {rm : Room} {tn : tt_Tn} {Q : tt_Fin} {pc : Nat} {lv : List (Nat × Value)} {rest : List Value} {ck cn : Nat} {x1 : Int32} {x2 : Int32} {K : Int32 × tt_SL → Prop} (h : Ok (wrapI (fT_rung s.1 x1 x2) s (cd3 none (some 1) none)) K) (hl9 : l.stackTraces = false) (hR : 10 + 1 ≤ rm.frames ∧ 8 + (5 + 11) + 183 ≤ rm.locals) (hW : (rest.map fun v => v.category).sum ≤ 8) (d : decode cc pc = .ok (.invokestatic 228, 3)) (kk : ∀ r, K r → ∀ lc', tt_agr (XL l D dA A pz b L xs) s lc lc' → tt_V (XL l D dA A pz b L xs) cc (RX0, nl, rt, rm, tn) Q (pc + 3) lv (.int r.1 :: rest) lc' r.2 (ck + 2) (cn + 12)) (hf : ck + 2 ≤ rm.cells ∧ cn + 12 ≤ rm.slots) : tt_V (XL l D dA A pz b L xs) cc (RX0, nl, rt, rm, tn) Q pc lv (.ref (lc 400 0) :: .int x2 :: .int x1 :: .ref (lc 0 0) :: rest) lc s ck cn :=
  v_callSW (nA := 4) (As := [.ref (lc 0 0), .int x1, .int x2, .ref (lc 400 0)]) (mL_rung l D dA A pz b L xs hl9 lc s x1 x2 (Q := (fun v lc' s' => ∃ r : Int32 × tt_SL, K r ∧ v = some (Value.int r.1) ∧ tt_agr (XL l D dA A pz b L xs) s lc lc' ∧ s' = r.2)) (h.mono fun r hr lc' ha => ⟨r, hr, rfl, ha, rfl⟩)) (lw_SW q1307 q1308 q126 q1309) (by decide +kernel) rfl hR hW hf d rfl (fun v lc' s' q => by obtain ⟨r, hr, e1, e2, e3⟩ := q; rw [e1, e3]; exact kk r hr lc' e2)
theorem cLm_rung {l : Launch} {D : va_G} {dA : Nat → ClassId} {A : Nat → Prop} {pz b L : Nat} {xs : Nat → Int32} {lc : Nat → Nat → Nat} {s : tt_SL} {cc : ByteArray} {nl : Nat} {rt : Option FieldType} {rm : Room} {tn : tt_Tn} {Q : tt_Fin} {pc : Nat} {lv : List (Nat × Value)} {rest : List Value} {ck cn : Nat} {x1 : Int32} {x2 : Int32} {K : Int32 × tt_St → Prop} (h : Ok (fM_rung s.2.1 x1 x2) K) (hR : 1 + 1 ≤ rm.frames ∧ 8 + (3 + 11) + 25 ≤ rm.locals) (hW : (rest.map fun v => v.category).sum ≤ 8) (d : decode cc pc = .ok (.invokevirtual 230, 3)) (kk : ∀ r, K r → tt_V (XL l D dA A pz b L xs) cc (RX0, nl, rt, rm, tn) Q (pc + 3) lv (.int r.1 :: rest) lc (s.1, r.2, s.2.2) (ck + 0) (cn + 0)) (hf : ck + 0 ≤ rm.cells ∧ cn + 0 ≤ rm.slots) : tt_V (XL l D dA A pz b L xs) cc (RX0, nl, rt, rm, tn) Q pc lv (.int x2 :: .int x1 :: .ref (lc 300 0) :: rest) lc s ck cn :=
  v_callV (kd := 300) (i := 0) (nA := 2) (As := [.int x1, .int x2]) lvL_300 oL_300 rfl (liftM (Q := (fun v lc' s' => ∃ r : Int32 × tt_St, K r ∧ v = some (Value.int r.1) ∧ lc' = lc ∧ s' = (s.1, r.2, s.2.2))) (mM_rung l (DM D) (dMd dA) (aLM lc s) (nTm lc) s.2.1 x1 x2 (Q := fun v lc' w => lc' = nTm lc ∧ (fun v lc' s' => ∃ r : Int32 × tt_St, K r ∧ v = some (Value.int r.1) ∧ lc' = lc ∧ s' = (s.1, r.2, s.2.2)) v lc (s.1, w, s.2.2)) (h.mono fun r hr => ⟨rfl, r, hr, rfl, rfl, rfl⟩))) (lw_V q2272 q2273 q2274 q154 q2275) (by decide +kernel) rfl hR hW hf d rfl (fun v lc' s' q => by obtain ⟨r, hr, e1, e2, e3⟩ := q; rw [e1, e2, e3]; exact kk r hr)
def fL_case_16 (L : Nat) (xs : Nat → Int32) (s : tt_SL) (x4 : Int32) : Option tt_SL :=
  if inB (x4 + (1 : Int32)) L then if inB (x4 + (2 : Int32)) L then (wrapI (fT_rung s.1 (xs ((x4 + (1 : Int32)).toNatClampNeg)) (xs ((x4 + (2 : Int32)).toNatClampNeg))) s (cd3 none (some 1) none)).bind fun r3 => (fM_rung r3.2.2.1 (xs ((x4 + (1 : Int32)).toNatClampNeg)) (xs ((x4 + (2 : Int32)).toNatClampNeg))).bind fun r4 => (fM_thrown (r3.2.1, r4.2, r3.2.2.2).2.1).bind fun r5 => if r5 = r3.1 then if r3.1 = 0 then if inB (0 : Int32) 1 then if (rdL (r3.2.1, r4.2, r3.2.2.2).2.2 0 0 ((0 : Int32).toNatClampNeg)) = r4.1.toInt64 then some (r3.2.1, r4.2, r3.2.2.2) else none else none else some (r3.2.1, r4.2, r3.2.2.2) else none else none else none
set_option maxHeartbeats 4000000 in
theorem lcase_16 {l : Launch} {D : va_G} {dA : Nat → ClassId} {A : Nat → Prop} {pz b L : Nat} {xs : Nat → Int32} (hl9 : l.stackTraces = false) {lc : Nat → Nat → Nat} {s : tt_SL} {x4 : Int32} {ck cn : Nat} {tn : tt_Tn} {Q : tt_Fin} (hk1 : ck + 60 ≤ room_1.cells) (hk2 : cn + 600 ≤ room_1.slots) (h : Ok (fL_case_16 L xs s x4) (fun r => ∀ lc', tt_agr (XL l D dA A pz b L xs) s lc lc' → ∀ ck' cn', ck' ≤ ck + 60 → cn' ≤ cn + 600 → tt_V (XL l D dA A pz b L xs) code (RX0, 8, ret, room_1, tn) Q 3740 [(0, .ref b), (1, .ref (lc' 0 0)), (2, .ref (lc' 300 0)), (3, .ref (lc' 400 0)), (4, .int x4)] [] lc' r ck' cn')) : tt_V (XL l D dA A pz b L xs) code (RX0, 8, ret, room_1, tn) Q 1320 [(0, .ref b), (1, .ref (lc 0 0)), (2, .ref (lc 300 0)), (3, .ref (lc 400 0)), (4, .int x4)] [] lc s ck cn := by
  unfold fL_case_16 at h
  refine v_aload_n 1 dL_law_1320 rfl ?_
  refine v_aload_n 0 dL_law_1321 rfl ?_
  refine v_iload 4 dL_law_1322 rfl ?_
  refine v_iconst dL_law_1324 ic_1 ?_
  refine v_iadd dL_law_1325 ?_
  obtain ⟨g1, h⟩ := Ok.guard h
  refine v_sld g1 dL_law_1326 ?_
  refine v_aload_n 0 dL_law_1327 rfl ?_
  refine v_iload 4 dL_law_1328 rfl ?_
  refine v_iconst dL_law_1330 ic_2 ?_
  refine v_iadd dL_law_1331 ?_
  obtain ⟨g2, h⟩ := Ok.guard h
  refine v_sld g2 dL_law_1332 ?_
  refine v_aload_n 3 dL_law_1333 rfl ?_
  refine cLw_rung (Ok.bind h) hl9 ⟨Nat.le_of_ble_eq_true rfl, Nat.le_of_ble_eq_true rfl⟩ (Nat.le_of_ble_eq_true rfl) dL_law_1334 (fun r3 h lc hc => ?_) ⟨by omega, by omega⟩
  rw [← hc 0 0 (.inl lvL_0)]
  rw [← hc 300 0 (.inl lvL_300)]
  rw [← hc 400 0 (.inl lvL_400)]
  have h := Ok.agr h hc (fun _ _ h => h)
  refine v_istore [(5, .int r3.1), (0, .ref b), (1, .ref (lc 0 0)), (2, .ref (lc 300 0)), (3, .ref (lc 400 0)), (4, .int x4)] dL_law_1337 (Nat.le_of_ble_eq_true rfl) rfl ?_
  refine v_aload_n 3 dL_law_1339 rfl ?_
  refine v_aload_n 1 dL_law_1340 rfl ?_
  refine v_iload 5 dL_law_1341 rfl ?_
  refine v_iconst dL_law_1343 ic_1 ?_
  refine v_iadd dL_law_1344 ?_
  refine v_sld g1 dL_law_1345 ?_
  refine v_aload_n 1 dL_law_1346 rfl ?_
  refine v_iload 5 dL_law_1347 rfl ?_
  refine v_iconst dL_law_1349 ic_2 ?_
  refine v_iadd dL_law_1350 ?_
  refine v_sld g2 dL_law_1351 ?_
  refine cLm_rung (Ok.bind h) ⟨Nat.le_of_ble_eq_true rfl, Nat.le_of_ble_eq_true rfl⟩ (Nat.le_of_ble_eq_true rfl) dL_law_1352 (fun r4 h => ?_) ⟨by omega, by omega⟩
  refine v_istore [(6, .int r4.1), (5, .int r3.1), (0, .ref b), (1, .ref (lc 0 0)), (2, .ref (lc 300 0)), (3, .ref (lc 400 0)), (4, .int x4)] dL_law_1355 (Nat.le_of_ble_eq_true rfl) rfl ?_
  refine v_aload_n 4 dL_law_1357 rfl ?_
  refine cLm_thrown (Ok.bind h) ⟨Nat.le_of_ble_eq_true rfl, Nat.le_of_ble_eq_true rfl⟩ (Nat.le_of_ble_eq_true rfl) dL_law_1358 (fun r5 h => ?_) ⟨by omega, by omega⟩
  refine v_iload 1 dL_law_1361 rfl ?_
  refine v_icmp_eq (tgt := 1368) dL_law_1363 rfl (fun c6 => ?_) (fun c6 => ?_)
  · have h := Ok.pos h c6
    refine v_iload 1 dL_law_1368 rfl ?_
    refine v_if_ne (tgt := 1385) dL_law_1370 rfl (fun c7 => ?_) (fun c7 => ?_)
    · have h := Ok.neg h c7
      refine v_goto (tgt := 3740) dL_law_1385 rfl ?_
      refine v_sub [2, 3, 4, 5, 6] rfl ?_
      have h := Ok.ret h
      exact h lc agr_rf _ _ (by omega) (by omega)
    · have h := Ok.pos h c7
      refine v_aload_n 5 dL_law_1373 rfl ?_
      refine v_iconst dL_law_1374 ic_0 ?_
      obtain ⟨g8, h⟩ := Ok.guard h
      refine lL_400 g8 dL_law_1375 ?_
      refine v_iload 0 dL_law_1376 rfl ?_
      refine v_i2l dL_law_1378 rfl ?_
      refine v_lif_eq (tgt := 1385) dL_law_1379 dL_law_1380 rfl (fun c9 => ?_) (fun c9 => ?_)
      · have h := Ok.pos h c9
        refine v_goto (tgt := 3740) dL_law_1385 rfl ?_
        refine v_sub [2, 3, 4, 5, 6] rfl ?_
        have h := Ok.ret h
        exact h lc agr_rf _ _ (by omega) (by omega)
      · have h := Ok.neg h c9
        refine v_iconst dL_law_1383 ic_0 ?_
        exact Ok.stuck h
  · have h := Ok.neg h c6
    refine v_iconst dL_law_1366 ic_0 ?_
    exact Ok.stuck h
theorem cLw_damage {l : Launch} {D : va_G} {dA : Nat → ClassId} {A : Nat → Prop} {pz b L : Nat} {xs : Nat → Int32} {lc : Nat → Nat → Nat} {s : tt_SL} {cc : ByteArray} {nl : Nat} {rt : Option FieldType} {rm : Room} {tn : tt_Tn} {Q : tt_Fin} {pc : Nat} {lv : List (Nat × Value)} {rest : List Value} {ck cn : Nat} {x1 : Int32} {x2 : Int32} {K : Int32 × tt_SL → Prop} (h : Ok (wrapL (fT_damage s.1 x1 x2) s (cd3 (some 1) (some 2) none)) K) (hl9 : l.stackTraces = false) (hR : 10 + 1 ≤ rm.frames ∧ 8 + (5 + 11) + 183 ≤ rm.locals) (hW : (rest.map fun v => v.category).sum ≤ 8) (d : decode cc pc = .ok (.invokestatic 231, 3)) (kk : ∀ r, K r → ∀ lc', tt_agr (XL l D dA A pz b L xs) s lc lc' → tt_V (XL l D dA A pz b L xs) cc (RX0, nl, rt, rm, tn) Q (pc + 3) lv (.int r.1 :: rest) lc' r.2 (ck + 2) (cn + 12)) (hf : ck + 2 ≤ rm.cells ∧ cn + 12 ≤ rm.slots) : tt_V (XL l D dA A pz b L xs) cc (RX0, nl, rt, rm, tn) Q pc lv (.ref (lc 400 0) :: .int x2 :: .int x1 :: .ref (lc 0 0) :: rest) lc s ck cn :=
  v_callSW (nA := 4) (As := [.ref (lc 0 0), .int x1, .int x2, .ref (lc 400 0)]) (mL_damage l D dA A pz b L xs hl9 lc s x1 x2 (Q := (fun v lc' s' => ∃ r : Int32 × tt_SL, K r ∧ v = some (Value.int r.1) ∧ tt_agr (XL l D dA A pz b L xs) s lc lc' ∧ s' = r.2)) (h.mono fun r hr lc' ha => ⟨r, hr, rfl, ha, rfl⟩)) (lw_SW q1314 q1315 q126 q1316) (by decide +kernel) rfl hR hW hf d rfl (fun v lc' s' q => by obtain ⟨r, hr, e1, e2, e3⟩ := q; rw [e1, e3]; exact kk r hr lc' e2)
theorem cLm_damage {l : Launch} {D : va_G} {dA : Nat → ClassId} {A : Nat → Prop} {pz b L : Nat} {xs : Nat → Int32} {lc : Nat → Nat → Nat} {s : tt_SL} {cc : ByteArray} {nl : Nat} {rt : Option FieldType} {rm : Room} {tn : tt_Tn} {Q : tt_Fin} {pc : Nat} {lv : List (Nat × Value)} {rest : List Value} {ck cn : Nat} {x1 : Int32} {x2 : Int32} {K : Int64 × tt_St → Prop} (h : Ok (fM_damage s.2.1 x1 x2) K) (hR : 2 + 1 ≤ rm.frames ∧ 8 + (3 + 11) + 46 ≤ rm.locals) (hW : (rest.map fun v => v.category).sum ≤ 8) (d : decode cc pc = .ok (.invokevirtual 233, 3)) (kk : ∀ r, K r → tt_V (XL l D dA A pz b L xs) cc (RX0, nl, rt, rm, tn) Q (pc + 3) lv (.long r.1 :: rest) lc (s.1, r.2, s.2.2) (ck + 0) (cn + 0)) (hf : ck + 0 ≤ rm.cells ∧ cn + 0 ≤ rm.slots) : tt_V (XL l D dA A pz b L xs) cc (RX0, nl, rt, rm, tn) Q pc lv (.int x2 :: .int x1 :: .ref (lc 300 0) :: rest) lc s ck cn :=
  v_callV (kd := 300) (i := 0) (nA := 2) (As := [.int x1, .int x2]) lvL_300 oL_300 rfl (liftM (Q := (fun v lc' s' => ∃ r : Int64 × tt_St, K r ∧ v = some (Value.long r.1) ∧ lc' = lc ∧ s' = (s.1, r.2, s.2.2))) (mM_damage l (DM D) (dMd dA) (aLM lc s) (nTm lc) s.2.1 x1 x2 (Q := fun v lc' w => lc' = nTm lc ∧ (fun v lc' s' => ∃ r : Int64 × tt_St, K r ∧ v = some (Value.long r.1) ∧ lc' = lc ∧ s' = (s.1, r.2, s.2.2)) v lc (s.1, w, s.2.2)) (h.mono fun r hr => ⟨rfl, r, hr, rfl, rfl, rfl⟩))) (lw_V q2276 q2277 q2278 q154 q2279) (by decide +kernel) rfl hR hW hf d rfl (fun v lc' s' q => by obtain ⟨r, hr, e1, e2, e3⟩ := q; rw [e1, e2, e3]; exact kk r hr)
def fL_case_17 (L : Nat) (xs : Nat → Int32) (s : tt_SL) (x4 : Int32) : Option tt_SL :=
  if inB (x4 + (1 : Int32)) L then if inB (x4 + (2 : Int32)) L then (wrapL (fT_damage s.1 (xs ((x4 + (1 : Int32)).toNatClampNeg)) (xs ((x4 + (2 : Int32)).toNatClampNeg))) s (cd3 (some 1) (some 2) none)).bind fun r3 => (fM_damage r3.2.2.1 (xs ((x4 + (1 : Int32)).toNatClampNeg)) (xs ((x4 + (2 : Int32)).toNatClampNeg))).bind fun r4 => (fM_thrown (r3.2.1, r4.2, r3.2.2.2).2.1).bind fun r5 => if r5 = r3.1 then if r3.1 = 0 then if inB (0 : Int32) 1 then if (rdL (r3.2.1, r4.2, r3.2.2.2).2.2 0 0 ((0 : Int32).toNatClampNeg)) = r4.1 then some (r3.2.1, r4.2, r3.2.2.2) else none else none else some (r3.2.1, r4.2, r3.2.2.2) else none else none else none
set_option maxHeartbeats 4000000 in
theorem lcase_17 {l : Launch} {D : va_G} {dA : Nat → ClassId} {A : Nat → Prop} {pz b L : Nat} {xs : Nat → Int32} (hl9 : l.stackTraces = false) {lc : Nat → Nat → Nat} {s : tt_SL} {x4 : Int32} {ck cn : Nat} {tn : tt_Tn} {Q : tt_Fin} (hk1 : ck + 60 ≤ room_1.cells) (hk2 : cn + 600 ≤ room_1.slots) (h : Ok (fL_case_17 L xs s x4) (fun r => ∀ lc', tt_agr (XL l D dA A pz b L xs) s lc lc' → ∀ ck' cn', ck' ≤ ck + 60 → cn' ≤ cn + 600 → tt_V (XL l D dA A pz b L xs) code (RX0, 8, ret, room_1, tn) Q 3740 [(0, .ref b), (1, .ref (lc' 0 0)), (2, .ref (lc' 300 0)), (3, .ref (lc' 400 0)), (4, .int x4)] [] lc' r ck' cn')) : tt_V (XL l D dA A pz b L xs) code (RX0, 8, ret, room_1, tn) Q 1388 [(0, .ref b), (1, .ref (lc 0 0)), (2, .ref (lc 300 0)), (3, .ref (lc 400 0)), (4, .int x4)] [] lc s ck cn := by
  unfold fL_case_17 at h
  refine v_aload_n 1 dL_law_1388 rfl ?_
  refine v_aload_n 0 dL_law_1389 rfl ?_
  refine v_iload 4 dL_law_1390 rfl ?_
  refine v_iconst dL_law_1392 ic_1 ?_
  refine v_iadd dL_law_1393 ?_
  obtain ⟨g1, h⟩ := Ok.guard h
  refine v_sld g1 dL_law_1394 ?_
  refine v_aload_n 0 dL_law_1395 rfl ?_
  refine v_iload 4 dL_law_1396 rfl ?_
  refine v_iconst dL_law_1398 ic_2 ?_
  refine v_iadd dL_law_1399 ?_
  obtain ⟨g2, h⟩ := Ok.guard h
  refine v_sld g2 dL_law_1400 ?_
  refine v_aload_n 3 dL_law_1401 rfl ?_
  refine cLw_damage (Ok.bind h) hl9 ⟨Nat.le_of_ble_eq_true rfl, Nat.le_of_ble_eq_true rfl⟩ (Nat.le_of_ble_eq_true rfl) dL_law_1402 (fun r3 h lc hc => ?_) ⟨by omega, by omega⟩
  rw [← hc 0 0 (.inl lvL_0)]
  rw [← hc 300 0 (.inl lvL_300)]
  rw [← hc 400 0 (.inl lvL_400)]
  have h := Ok.agr h hc (fun _ _ h => h)
  refine v_istore [(5, .int r3.1), (0, .ref b), (1, .ref (lc 0 0)), (2, .ref (lc 300 0)), (3, .ref (lc 400 0)), (4, .int x4)] dL_law_1405 (Nat.le_of_ble_eq_true rfl) rfl ?_
  refine v_aload_n 3 dL_law_1407 rfl ?_
  refine v_aload_n 1 dL_law_1408 rfl ?_
  refine v_iload 5 dL_law_1409 rfl ?_
  refine v_iconst dL_law_1411 ic_1 ?_
  refine v_iadd dL_law_1412 ?_
  refine v_sld g1 dL_law_1413 ?_
  refine v_aload_n 1 dL_law_1414 rfl ?_
  refine v_iload 5 dL_law_1415 rfl ?_
  refine v_iconst dL_law_1417 ic_2 ?_
  refine v_iadd dL_law_1418 ?_
  refine v_sld g2 dL_law_1419 ?_
  refine cLm_damage (Ok.bind h) ⟨Nat.le_of_ble_eq_true rfl, Nat.le_of_ble_eq_true rfl⟩ (Nat.le_of_ble_eq_true rfl) dL_law_1420 (fun r4 h => ?_) ⟨by omega, by omega⟩
  refine v_lstore [(6, .long r4.1), (5, .int r3.1), (0, .ref b), (1, .ref (lc 0 0)), (2, .ref (lc 300 0)), (3, .ref (lc 400 0)), (4, .int x4)] dL_law_1423 (Nat.le_of_ble_eq_true rfl) rfl ?_
  refine v_aload_n 4 dL_law_1425 rfl ?_
  refine cLm_thrown (Ok.bind h) ⟨Nat.le_of_ble_eq_true rfl, Nat.le_of_ble_eq_true rfl⟩ (Nat.le_of_ble_eq_true rfl) dL_law_1426 (fun r5 h => ?_) ⟨by omega, by omega⟩
  refine v_iload 1 dL_law_1429 rfl ?_
  refine v_icmp_eq (tgt := 1436) dL_law_1431 rfl (fun c6 => ?_) (fun c6 => ?_)
  · have h := Ok.pos h c6
    refine v_iload 1 dL_law_1436 rfl ?_
    refine v_if_ne (tgt := 1452) dL_law_1438 rfl (fun c7 => ?_) (fun c7 => ?_)
    · have h := Ok.neg h c7
      refine v_goto (tgt := 3740) dL_law_1452 rfl ?_
      refine v_sub [2, 3, 4, 5, 6] rfl ?_
      have h := Ok.ret h
      exact h lc agr_rf _ _ (by omega) (by omega)
    · have h := Ok.pos h c7
      refine v_aload_n 5 dL_law_1441 rfl ?_
      refine v_iconst dL_law_1442 ic_0 ?_
      obtain ⟨g8, h⟩ := Ok.guard h
      refine lL_400 g8 dL_law_1443 ?_
      refine v_lload 0 dL_law_1444 rfl ?_
      refine v_lif_eq (tgt := 1452) dL_law_1446 dL_law_1447 rfl (fun c9 => ?_) (fun c9 => ?_)
      · have h := Ok.pos h c9
        refine v_goto (tgt := 3740) dL_law_1452 rfl ?_
        refine v_sub [2, 3, 4, 5, 6] rfl ?_
        have h := Ok.ret h
        exact h lc agr_rf _ _ (by omega) (by omega)
      · have h := Ok.neg h c9
        refine v_iconst dL_law_1450 ic_0 ?_
        exact Ok.stuck h
  · have h := Ok.neg h c6
    refine v_iconst dL_law_1434 ic_0 ?_
    exact Ok.stuck h
theorem cLw_took {l : Launch} {D : va_G} {dA : Nat → ClassId} {A : Nat → Prop} {pz b L : Nat} {xs : Nat → Int32} {lc : Nat → Nat → Nat} {s : tt_SL} {cc : ByteArray} {nl : Nat} {rt : Option FieldType} {rm : Room} {tn : tt_Tn} {Q : tt_Fin} {pc : Nat} {lv : List (Nat × Value)} {rest : List Value} {ck cn : Nat} {x1 : Int32} {x2 : Int32} {K : Int32 × tt_SL → Prop} (h : Ok (wrapL (fT_took s.1 x1 x2) s (cd3 (some 1) none none)) K) (hl9 : l.stackTraces = false) (hR : 10 + 1 ≤ rm.frames ∧ 8 + (5 + 11) + 182 ≤ rm.locals) (hW : (rest.map fun v => v.category).sum ≤ 8) (d : decode cc pc = .ok (.invokestatic 234, 3)) (kk : ∀ r, K r → ∀ lc', tt_agr (XL l D dA A pz b L xs) s lc lc' → tt_V (XL l D dA A pz b L xs) cc (RX0, nl, rt, rm, tn) Q (pc + 3) lv (.int r.1 :: rest) lc' r.2 (ck + 2) (cn + 12)) (hf : ck + 2 ≤ rm.cells ∧ cn + 12 ≤ rm.slots) : tt_V (XL l D dA A pz b L xs) cc (RX0, nl, rt, rm, tn) Q pc lv (.ref (lc 400 0) :: .int x2 :: .int x1 :: .ref (lc 0 0) :: rest) lc s ck cn :=
  v_callSW (nA := 4) (As := [.ref (lc 0 0), .int x1, .int x2, .ref (lc 400 0)]) (mL_took l D dA A pz b L xs hl9 lc s x1 x2 (Q := (fun v lc' s' => ∃ r : Int32 × tt_SL, K r ∧ v = some (Value.int r.1) ∧ tt_agr (XL l D dA A pz b L xs) s lc lc' ∧ s' = r.2)) (h.mono fun r hr lc' ha => ⟨r, hr, rfl, ha, rfl⟩)) (lw_SW q1321 q1322 q126 q1323) (by decide +kernel) rfl hR hW hf d rfl (fun v lc' s' q => by obtain ⟨r, hr, e1, e2, e3⟩ := q; rw [e1, e3]; exact kk r hr lc' e2)
theorem cLm_took {l : Launch} {D : va_G} {dA : Nat → ClassId} {A : Nat → Prop} {pz b L : Nat} {xs : Nat → Int32} {lc : Nat → Nat → Nat} {s : tt_SL} {cc : ByteArray} {nl : Nat} {rt : Option FieldType} {rm : Room} {tn : tt_Tn} {Q : tt_Fin} {pc : Nat} {lv : List (Nat × Value)} {rest : List Value} {ck cn : Nat} {x1 : Int32} {x2 : Int32} {K : Int64 × tt_St → Prop} (h : Ok (fM_took s.2.1 x1 x2) K) (hR : 2 + 1 ≤ rm.frames ∧ 8 + (3 + 11) + 47 ≤ rm.locals) (hW : (rest.map fun v => v.category).sum ≤ 8) (d : decode cc pc = .ok (.invokevirtual 236, 3)) (kk : ∀ r, K r → tt_V (XL l D dA A pz b L xs) cc (RX0, nl, rt, rm, tn) Q (pc + 3) lv (.long r.1 :: rest) lc (s.1, r.2, s.2.2) (ck + 0) (cn + 0)) (hf : ck + 0 ≤ rm.cells ∧ cn + 0 ≤ rm.slots) : tt_V (XL l D dA A pz b L xs) cc (RX0, nl, rt, rm, tn) Q pc lv (.int x2 :: .int x1 :: .ref (lc 300 0) :: rest) lc s ck cn :=
  v_callV (kd := 300) (i := 0) (nA := 2) (As := [.int x1, .int x2]) lvL_300 oL_300 rfl (liftM (Q := (fun v lc' s' => ∃ r : Int64 × tt_St, K r ∧ v = some (Value.long r.1) ∧ lc' = lc ∧ s' = (s.1, r.2, s.2.2))) (mM_took l (DM D) (dMd dA) (aLM lc s) (nTm lc) s.2.1 x1 x2 (Q := fun v lc' w => lc' = nTm lc ∧ (fun v lc' s' => ∃ r : Int64 × tt_St, K r ∧ v = some (Value.long r.1) ∧ lc' = lc ∧ s' = (s.1, r.2, s.2.2)) v lc (s.1, w, s.2.2)) (h.mono fun r hr => ⟨rfl, r, hr, rfl, rfl, rfl⟩))) (lw_V q2281 q2282 q2283 q154 q2284) (by decide +kernel) rfl hR hW hf d rfl (fun v lc' s' q => by obtain ⟨r, hr, e1, e2, e3⟩ := q; rw [e1, e2, e3]; exact kk r hr)
def fL_case_18 (L : Nat) (xs : Nat → Int32) (s : tt_SL) (x4 : Int32) : Option tt_SL :=
  if inB (x4 + (1 : Int32)) L then if inB (x4 + (2 : Int32)) L then (wrapL (fT_took s.1 (xs ((x4 + (1 : Int32)).toNatClampNeg)) (xs ((x4 + (2 : Int32)).toNatClampNeg))) s (cd3 (some 1) none none)).bind fun r3 => (fM_took r3.2.2.1 (xs ((x4 + (1 : Int32)).toNatClampNeg)) (xs ((x4 + (2 : Int32)).toNatClampNeg))).bind fun r4 => (fM_thrown (r3.2.1, r4.2, r3.2.2.2).2.1).bind fun r5 => if r5 = r3.1 then if r3.1 = 0 then if inB (0 : Int32) 1 then if (rdL (r3.2.1, r4.2, r3.2.2.2).2.2 0 0 ((0 : Int32).toNatClampNeg)) = r4.1 then some (r3.2.1, r4.2, r3.2.2.2) else none else none else some (r3.2.1, r4.2, r3.2.2.2) else none else none else none
set_option maxHeartbeats 4000000 in
theorem lcase_18 {l : Launch} {D : va_G} {dA : Nat → ClassId} {A : Nat → Prop} {pz b L : Nat} {xs : Nat → Int32} (hl9 : l.stackTraces = false) {lc : Nat → Nat → Nat} {s : tt_SL} {x4 : Int32} {ck cn : Nat} {tn : tt_Tn} {Q : tt_Fin} (hk1 : ck + 60 ≤ room_1.cells) (hk2 : cn + 600 ≤ room_1.slots) (h : Ok (fL_case_18 L xs s x4) (fun r => ∀ lc', tt_agr (XL l D dA A pz b L xs) s lc lc' → ∀ ck' cn', ck' ≤ ck + 60 → cn' ≤ cn + 600 → tt_V (XL l D dA A pz b L xs) code (RX0, 8, ret, room_1, tn) Q 3740 [(0, .ref b), (1, .ref (lc' 0 0)), (2, .ref (lc' 300 0)), (3, .ref (lc' 400 0)), (4, .int x4)] [] lc' r ck' cn')) : tt_V (XL l D dA A pz b L xs) code (RX0, 8, ret, room_1, tn) Q 1455 [(0, .ref b), (1, .ref (lc 0 0)), (2, .ref (lc 300 0)), (3, .ref (lc 400 0)), (4, .int x4)] [] lc s ck cn := by
  unfold fL_case_18 at h
  refine v_aload_n 1 dL_law_1455 rfl ?_
  refine v_aload_n 0 dL_law_1456 rfl ?_
  refine v_iload 4 dL_law_1457 rfl ?_
  refine v_iconst dL_law_1459 ic_1 ?_
  refine v_iadd dL_law_1460 ?_
  obtain ⟨g1, h⟩ := Ok.guard h
  refine v_sld g1 dL_law_1461 ?_
  refine v_aload_n 0 dL_law_1462 rfl ?_
  refine v_iload 4 dL_law_1463 rfl ?_
  refine v_iconst dL_law_1465 ic_2 ?_
  refine v_iadd dL_law_1466 ?_
  obtain ⟨g2, h⟩ := Ok.guard h
  refine v_sld g2 dL_law_1467 ?_
  refine v_aload_n 3 dL_law_1468 rfl ?_
  refine cLw_took (Ok.bind h) hl9 ⟨Nat.le_of_ble_eq_true rfl, Nat.le_of_ble_eq_true rfl⟩ (Nat.le_of_ble_eq_true rfl) dL_law_1469 (fun r3 h lc hc => ?_) ⟨by omega, by omega⟩
  rw [← hc 0 0 (.inl lvL_0)]
  rw [← hc 300 0 (.inl lvL_300)]
  rw [← hc 400 0 (.inl lvL_400)]
  have h := Ok.agr h hc (fun _ _ h => h)
  refine v_istore [(5, .int r3.1), (0, .ref b), (1, .ref (lc 0 0)), (2, .ref (lc 300 0)), (3, .ref (lc 400 0)), (4, .int x4)] dL_law_1472 (Nat.le_of_ble_eq_true rfl) rfl ?_
  refine v_aload_n 3 dL_law_1474 rfl ?_
  refine v_aload_n 1 dL_law_1475 rfl ?_
  refine v_iload 5 dL_law_1476 rfl ?_
  refine v_iconst dL_law_1478 ic_1 ?_
  refine v_iadd dL_law_1479 ?_
  refine v_sld g1 dL_law_1480 ?_
  refine v_aload_n 1 dL_law_1481 rfl ?_
  refine v_iload 5 dL_law_1482 rfl ?_
  refine v_iconst dL_law_1484 ic_2 ?_
  refine v_iadd dL_law_1485 ?_
  refine v_sld g2 dL_law_1486 ?_
  refine cLm_took (Ok.bind h) ⟨Nat.le_of_ble_eq_true rfl, Nat.le_of_ble_eq_true rfl⟩ (Nat.le_of_ble_eq_true rfl) dL_law_1487 (fun r4 h => ?_) ⟨by omega, by omega⟩
  refine v_lstore [(6, .long r4.1), (5, .int r3.1), (0, .ref b), (1, .ref (lc 0 0)), (2, .ref (lc 300 0)), (3, .ref (lc 400 0)), (4, .int x4)] dL_law_1490 (Nat.le_of_ble_eq_true rfl) rfl ?_
  refine v_aload_n 4 dL_law_1492 rfl ?_
  refine cLm_thrown (Ok.bind h) ⟨Nat.le_of_ble_eq_true rfl, Nat.le_of_ble_eq_true rfl⟩ (Nat.le_of_ble_eq_true rfl) dL_law_1493 (fun r5 h => ?_) ⟨by omega, by omega⟩
  refine v_iload 1 dL_law_1496 rfl ?_
  refine v_icmp_eq (tgt := 1503) dL_law_1498 rfl (fun c6 => ?_) (fun c6 => ?_)
  · have h := Ok.pos h c6
    refine v_iload 1 dL_law_1503 rfl ?_
    refine v_if_ne (tgt := 1519) dL_law_1505 rfl (fun c7 => ?_) (fun c7 => ?_)
    · have h := Ok.neg h c7
      refine v_goto (tgt := 3740) dL_law_1519 rfl ?_
      refine v_sub [2, 3, 4, 5, 6] rfl ?_
      have h := Ok.ret h
      exact h lc agr_rf _ _ (by omega) (by omega)
    · have h := Ok.pos h c7
      refine v_aload_n 5 dL_law_1508 rfl ?_
      refine v_iconst dL_law_1509 ic_0 ?_
      obtain ⟨g8, h⟩ := Ok.guard h
      refine lL_400 g8 dL_law_1510 ?_
      refine v_lload 0 dL_law_1511 rfl ?_
      refine v_lif_eq (tgt := 1519) dL_law_1513 dL_law_1514 rfl (fun c9 => ?_) (fun c9 => ?_)
      · have h := Ok.pos h c9
        refine v_goto (tgt := 3740) dL_law_1519 rfl ?_
        refine v_sub [2, 3, 4, 5, 6] rfl ?_
        have h := Ok.ret h
        exact h lc agr_rf _ _ (by omega) (by omega)
      · have h := Ok.neg h c9
        refine v_iconst dL_law_1517 ic_0 ?_
        exact Ok.stuck h
  · have h := Ok.neg h c6
    refine v_iconst dL_law_1501 ic_0 ?_
    exact Ok.stuck h
theorem cLw_hole {l : Launch} {D : va_G} {dA : Nat → ClassId} {A : Nat → Prop} {pz b L : Nat} {xs : Nat → Int32} {lc : Nat → Nat → Nat} {s : tt_SL} {cc : ByteArray} {nl : Nat} {rt : Option FieldType} {rm : Room} {tn : tt_Tn} {Q : tt_Fin} {pc : Nat} {lv : List (Nat × Value)} {rest : List Value} {ck cn : Nat} {x1 : Int32} {x2 : Int32} {K : Int32 × tt_SL → Prop} (h : Ok (wrapL (fT_hole s.1 x1 x2) s (cd3 (some 1) none none)) K) (hl9 : l.stackTraces = false) (hR : 10 + 1 ≤ rm.frames ∧ 8 + (5 + 11) + 182 ≤ rm.locals) (hW : (rest.map fun v => v.category).sum ≤ 8) (d : decode cc pc = .ok (.invokestatic 237, 3)) (kk : ∀ r, K r → ∀ lc', tt_agr (XL l D dA A pz b L xs) s lc lc' → tt_V (XL l D dA A pz b L xs) cc (RX0, nl, rt, rm, tn) Q (pc + 3) lv (.int r.1 :: rest) lc' r.2 (ck + 2) (cn + 12)) (hf : ck + 2 ≤ rm.cells ∧ cn + 12 ≤ rm.slots) : tt_V (XL l D dA A pz b L xs) cc (RX0, nl, rt, rm, tn) Q pc lv (.ref (lc 400 0) :: .int x2 :: .int x1 :: .ref (lc 0 0) :: rest) lc s ck cn :=
  v_callSW (nA := 4) (As := [.ref (lc 0 0), .int x1, .int x2, .ref (lc 400 0)]) (mL_hole l D dA A pz b L xs hl9 lc s x1 x2 (Q := (fun v lc' s' => ∃ r : Int32 × tt_SL, K r ∧ v = some (Value.int r.1) ∧ tt_agr (XL l D dA A pz b L xs) s lc lc' ∧ s' = r.2)) (h.mono fun r hr lc' ha => ⟨r, hr, rfl, ha, rfl⟩)) (lw_SW q1328 q1329 q126 q1330) (by decide +kernel) rfl hR hW hf d rfl (fun v lc' s' q => by obtain ⟨r, hr, e1, e2, e3⟩ := q; rw [e1, e3]; exact kk r hr lc' e2)
theorem cLm_hole {l : Launch} {D : va_G} {dA : Nat → ClassId} {A : Nat → Prop} {pz b L : Nat} {xs : Nat → Int32} {lc : Nat → Nat → Nat} {s : tt_SL} {cc : ByteArray} {nl : Nat} {rt : Option FieldType} {rm : Room} {tn : tt_Tn} {Q : tt_Fin} {pc : Nat} {lv : List (Nat × Value)} {rest : List Value} {ck cn : Nat} {x1 : Int32} {x2 : Int32} {K : Int64 × tt_St → Prop} (h : Ok (fM_hole s.2.1 x1 x2) K) (hR : 2 + 1 ≤ rm.frames ∧ 8 + (3 + 11) + 47 ≤ rm.locals) (hW : (rest.map fun v => v.category).sum ≤ 8) (d : decode cc pc = .ok (.invokevirtual 239, 3)) (kk : ∀ r, K r → tt_V (XL l D dA A pz b L xs) cc (RX0, nl, rt, rm, tn) Q (pc + 3) lv (.long r.1 :: rest) lc (s.1, r.2, s.2.2) (ck + 0) (cn + 0)) (hf : ck + 0 ≤ rm.cells ∧ cn + 0 ≤ rm.slots) : tt_V (XL l D dA A pz b L xs) cc (RX0, nl, rt, rm, tn) Q pc lv (.int x2 :: .int x1 :: .ref (lc 300 0) :: rest) lc s ck cn :=
  v_callV (kd := 300) (i := 0) (nA := 2) (As := [.int x1, .int x2]) lvL_300 oL_300 rfl (liftM (Q := (fun v lc' s' => ∃ r : Int64 × tt_St, K r ∧ v = some (Value.long r.1) ∧ lc' = lc ∧ s' = (s.1, r.2, s.2.2))) (mM_hole l (DM D) (dMd dA) (aLM lc s) (nTm lc) s.2.1 x1 x2 (Q := fun v lc' w => lc' = nTm lc ∧ (fun v lc' s' => ∃ r : Int64 × tt_St, K r ∧ v = some (Value.long r.1) ∧ lc' = lc ∧ s' = (s.1, r.2, s.2.2)) v lc (s.1, w, s.2.2)) (h.mono fun r hr => ⟨rfl, r, hr, rfl, rfl, rfl⟩))) (lw_V q2289 q2290 q2291 q154 q2292) (by decide +kernel) rfl hR hW hf d rfl (fun v lc' s' q => by obtain ⟨r, hr, e1, e2, e3⟩ := q; rw [e1, e2, e3]; exact kk r hr)
def fL_case_19 (L : Nat) (xs : Nat → Int32) (s : tt_SL) (x4 : Int32) : Option tt_SL :=
  if inB (x4 + (1 : Int32)) L then if inB (x4 + (2 : Int32)) L then (wrapL (fT_hole s.1 (xs ((x4 + (1 : Int32)).toNatClampNeg)) (xs ((x4 + (2 : Int32)).toNatClampNeg))) s (cd3 (some 1) none none)).bind fun r3 => (fM_hole r3.2.2.1 (xs ((x4 + (1 : Int32)).toNatClampNeg)) (xs ((x4 + (2 : Int32)).toNatClampNeg))).bind fun r4 => (fM_thrown (r3.2.1, r4.2, r3.2.2.2).2.1).bind fun r5 => if r5 = r3.1 then if r3.1 = 0 then if inB (0 : Int32) 1 then if (rdL (r3.2.1, r4.2, r3.2.2.2).2.2 0 0 ((0 : Int32).toNatClampNeg)) = r4.1 then some (r3.2.1, r4.2, r3.2.2.2) else none else none else some (r3.2.1, r4.2, r3.2.2.2) else none else none else none
set_option maxHeartbeats 4000000 in
theorem lcase_19 {l : Launch} {D : va_G} {dA : Nat → ClassId} {A : Nat → Prop} {pz b L : Nat} {xs : Nat → Int32} (hl9 : l.stackTraces = false) {lc : Nat → Nat → Nat} {s : tt_SL} {x4 : Int32} {ck cn : Nat} {tn : tt_Tn} {Q : tt_Fin} (hk1 : ck + 60 ≤ room_1.cells) (hk2 : cn + 600 ≤ room_1.slots) (h : Ok (fL_case_19 L xs s x4) (fun r => ∀ lc', tt_agr (XL l D dA A pz b L xs) s lc lc' → ∀ ck' cn', ck' ≤ ck + 60 → cn' ≤ cn + 600 → tt_V (XL l D dA A pz b L xs) code (RX0, 8, ret, room_1, tn) Q 3740 [(0, .ref b), (1, .ref (lc' 0 0)), (2, .ref (lc' 300 0)), (3, .ref (lc' 400 0)), (4, .int x4)] [] lc' r ck' cn')) : tt_V (XL l D dA A pz b L xs) code (RX0, 8, ret, room_1, tn) Q 1522 [(0, .ref b), (1, .ref (lc 0 0)), (2, .ref (lc 300 0)), (3, .ref (lc 400 0)), (4, .int x4)] [] lc s ck cn := by
  unfold fL_case_19 at h
  refine v_aload_n 1 dL_law_1522 rfl ?_
  refine v_aload_n 0 dL_law_1523 rfl ?_
  refine v_iload 4 dL_law_1524 rfl ?_
  refine v_iconst dL_law_1526 ic_1 ?_
  refine v_iadd dL_law_1527 ?_
  obtain ⟨g1, h⟩ := Ok.guard h
  refine v_sld g1 dL_law_1528 ?_
  refine v_aload_n 0 dL_law_1529 rfl ?_
  refine v_iload 4 dL_law_1530 rfl ?_
  refine v_iconst dL_law_1532 ic_2 ?_
  refine v_iadd dL_law_1533 ?_
  obtain ⟨g2, h⟩ := Ok.guard h
  refine v_sld g2 dL_law_1534 ?_
  refine v_aload_n 3 dL_law_1535 rfl ?_
  refine cLw_hole (Ok.bind h) hl9 ⟨Nat.le_of_ble_eq_true rfl, Nat.le_of_ble_eq_true rfl⟩ (Nat.le_of_ble_eq_true rfl) dL_law_1536 (fun r3 h lc hc => ?_) ⟨by omega, by omega⟩
  rw [← hc 0 0 (.inl lvL_0)]
  rw [← hc 300 0 (.inl lvL_300)]
  rw [← hc 400 0 (.inl lvL_400)]
  have h := Ok.agr h hc (fun _ _ h => h)
  refine v_istore [(5, .int r3.1), (0, .ref b), (1, .ref (lc 0 0)), (2, .ref (lc 300 0)), (3, .ref (lc 400 0)), (4, .int x4)] dL_law_1539 (Nat.le_of_ble_eq_true rfl) rfl ?_
  refine v_aload_n 3 dL_law_1541 rfl ?_
  refine v_aload_n 1 dL_law_1542 rfl ?_
  refine v_iload 5 dL_law_1543 rfl ?_
  refine v_iconst dL_law_1545 ic_1 ?_
  refine v_iadd dL_law_1546 ?_
  refine v_sld g1 dL_law_1547 ?_
  refine v_aload_n 1 dL_law_1548 rfl ?_
  refine v_iload 5 dL_law_1549 rfl ?_
  refine v_iconst dL_law_1551 ic_2 ?_
  refine v_iadd dL_law_1552 ?_
  refine v_sld g2 dL_law_1553 ?_
  refine cLm_hole (Ok.bind h) ⟨Nat.le_of_ble_eq_true rfl, Nat.le_of_ble_eq_true rfl⟩ (Nat.le_of_ble_eq_true rfl) dL_law_1554 (fun r4 h => ?_) ⟨by omega, by omega⟩
  refine v_lstore [(6, .long r4.1), (5, .int r3.1), (0, .ref b), (1, .ref (lc 0 0)), (2, .ref (lc 300 0)), (3, .ref (lc 400 0)), (4, .int x4)] dL_law_1557 (Nat.le_of_ble_eq_true rfl) rfl ?_
  refine v_aload_n 4 dL_law_1559 rfl ?_
  refine cLm_thrown (Ok.bind h) ⟨Nat.le_of_ble_eq_true rfl, Nat.le_of_ble_eq_true rfl⟩ (Nat.le_of_ble_eq_true rfl) dL_law_1560 (fun r5 h => ?_) ⟨by omega, by omega⟩
  refine v_iload 1 dL_law_1563 rfl ?_
  refine v_icmp_eq (tgt := 1570) dL_law_1565 rfl (fun c6 => ?_) (fun c6 => ?_)
  · have h := Ok.pos h c6
    refine v_iload 1 dL_law_1570 rfl ?_
    refine v_if_ne (tgt := 1586) dL_law_1572 rfl (fun c7 => ?_) (fun c7 => ?_)
    · have h := Ok.neg h c7
      refine v_goto (tgt := 3740) dL_law_1586 rfl ?_
      refine v_sub [2, 3, 4, 5, 6] rfl ?_
      have h := Ok.ret h
      exact h lc agr_rf _ _ (by omega) (by omega)
    · have h := Ok.pos h c7
      refine v_aload_n 5 dL_law_1575 rfl ?_
      refine v_iconst dL_law_1576 ic_0 ?_
      obtain ⟨g8, h⟩ := Ok.guard h
      refine lL_400 g8 dL_law_1577 ?_
      refine v_lload 0 dL_law_1578 rfl ?_
      refine v_lif_eq (tgt := 1586) dL_law_1580 dL_law_1581 rfl (fun c9 => ?_) (fun c9 => ?_)
      · have h := Ok.pos h c9
        refine v_goto (tgt := 3740) dL_law_1586 rfl ?_
        refine v_sub [2, 3, 4, 5, 6] rfl ?_
        have h := Ok.ret h
        exact h lc agr_rf _ _ (by omega) (by omega)
      · have h := Ok.neg h c9
        refine v_iconst dL_law_1584 ic_0 ?_
        exact Ok.stuck h
  · have h := Ok.neg h c6
    refine v_iconst dL_law_1568 ic_0 ?_
    exact Ok.stuck h
theorem cLw_moved {l : Launch} {D : va_G} {dA : Nat → ClassId} {A : Nat → Prop} {pz b L : Nat} {xs : Nat → Int32} {lc : Nat → Nat → Nat} {s : tt_SL} {cc : ByteArray} {nl : Nat} {rt : Option FieldType} {rm : Room} {tn : tt_Tn} {Q : tt_Fin} {pc : Nat} {lv : List (Nat × Value)} {rest : List Value} {ck cn : Nat} {x1 : Int32} {x2 : Int32} {K : Int32 × tt_SL → Prop} (h : Ok (wrapL (fT_moved s.1 x1 x2) s (cd3 (some 1) none none)) K) (hl9 : l.stackTraces = false) (hR : 10 + 1 ≤ rm.frames ∧ 8 + (5 + 11) + 182 ≤ rm.locals) (hW : (rest.map fun v => v.category).sum ≤ 8) (d : decode cc pc = .ok (.invokestatic 240, 3)) (kk : ∀ r, K r → ∀ lc', tt_agr (XL l D dA A pz b L xs) s lc lc' → tt_V (XL l D dA A pz b L xs) cc (RX0, nl, rt, rm, tn) Q (pc + 3) lv (.int r.1 :: rest) lc' r.2 (ck + 2) (cn + 12)) (hf : ck + 2 ≤ rm.cells ∧ cn + 12 ≤ rm.slots) : tt_V (XL l D dA A pz b L xs) cc (RX0, nl, rt, rm, tn) Q pc lv (.ref (lc 400 0) :: .int x2 :: .int x1 :: .ref (lc 0 0) :: rest) lc s ck cn :=
  v_callSW (nA := 4) (As := [.ref (lc 0 0), .int x1, .int x2, .ref (lc 400 0)]) (mL_moved l D dA A pz b L xs hl9 lc s x1 x2 (Q := (fun v lc' s' => ∃ r : Int32 × tt_SL, K r ∧ v = some (Value.int r.1) ∧ tt_agr (XL l D dA A pz b L xs) s lc lc' ∧ s' = r.2)) (h.mono fun r hr lc' ha => ⟨r, hr, rfl, ha, rfl⟩)) (lw_SW q1335 q1336 q126 q1337) (by decide +kernel) rfl hR hW hf d rfl (fun v lc' s' q => by obtain ⟨r, hr, e1, e2, e3⟩ := q; rw [e1, e3]; exact kk r hr lc' e2)
theorem cLm_moved {l : Launch} {D : va_G} {dA : Nat → ClassId} {A : Nat → Prop} {pz b L : Nat} {xs : Nat → Int32} {lc : Nat → Nat → Nat} {s : tt_SL} {cc : ByteArray} {nl : Nat} {rt : Option FieldType} {rm : Room} {tn : tt_Tn} {Q : tt_Fin} {pc : Nat} {lv : List (Nat × Value)} {rest : List Value} {ck cn : Nat} {x1 : Int32} {x2 : Int32} {K : Int64 × tt_St → Prop} (h : Ok (fM_moved s.2.1 x1 x2) K) (hR : 2 + 1 ≤ rm.frames ∧ 8 + (3 + 11) + 47 ≤ rm.locals) (hW : (rest.map fun v => v.category).sum ≤ 8) (d : decode cc pc = .ok (.invokevirtual 242, 3)) (kk : ∀ r, K r → tt_V (XL l D dA A pz b L xs) cc (RX0, nl, rt, rm, tn) Q (pc + 3) lv (.long r.1 :: rest) lc (s.1, r.2, s.2.2) (ck + 0) (cn + 0)) (hf : ck + 0 ≤ rm.cells ∧ cn + 0 ≤ rm.slots) : tt_V (XL l D dA A pz b L xs) cc (RX0, nl, rt, rm, tn) Q pc lv (.int x2 :: .int x1 :: .ref (lc 300 0) :: rest) lc s ck cn :=
  v_callV (kd := 300) (i := 0) (nA := 2) (As := [.int x1, .int x2]) lvL_300 oL_300 rfl (liftM (Q := (fun v lc' s' => ∃ r : Int64 × tt_St, K r ∧ v = some (Value.long r.1) ∧ lc' = lc ∧ s' = (s.1, r.2, s.2.2))) (mM_moved l (DM D) (dMd dA) (aLM lc s) (nTm lc) s.2.1 x1 x2 (Q := fun v lc' w => lc' = nTm lc ∧ (fun v lc' s' => ∃ r : Int64 × tt_St, K r ∧ v = some (Value.long r.1) ∧ lc' = lc ∧ s' = (s.1, r.2, s.2.2)) v lc (s.1, w, s.2.2)) (h.mono fun r hr => ⟨rfl, r, hr, rfl, rfl, rfl⟩))) (lw_V q2293 q2294 q2295 q154 q2296) (by decide +kernel) rfl hR hW hf d rfl (fun v lc' s' q => by obtain ⟨r, hr, e1, e2, e3⟩ := q; rw [e1, e2, e3]; exact kk r hr)
def fL_case_20 (L : Nat) (xs : Nat → Int32) (s : tt_SL) (x4 : Int32) : Option tt_SL :=
  if inB (x4 + (1 : Int32)) L then if inB (x4 + (2 : Int32)) L then (wrapL (fT_moved s.1 (xs ((x4 + (1 : Int32)).toNatClampNeg)) (xs ((x4 + (2 : Int32)).toNatClampNeg))) s (cd3 (some 1) none none)).bind fun r3 => (fM_moved r3.2.2.1 (xs ((x4 + (1 : Int32)).toNatClampNeg)) (xs ((x4 + (2 : Int32)).toNatClampNeg))).bind fun r4 => (fM_thrown (r3.2.1, r4.2, r3.2.2.2).2.1).bind fun r5 => if r5 = r3.1 then if r3.1 = 0 then if inB (0 : Int32) 1 then if (rdL (r3.2.1, r4.2, r3.2.2.2).2.2 0 0 ((0 : Int32).toNatClampNeg)) = r4.1 then some (r3.2.1, r4.2, r3.2.2.2) else none else none else some (r3.2.1, r4.2, r3.2.2.2) else none else none else none
set_option maxHeartbeats 4000000 in
theorem lcase_20 {l : Launch} {D : va_G} {dA : Nat → ClassId} {A : Nat → Prop} {pz b L : Nat} {xs : Nat → Int32} (hl9 : l.stackTraces = false) {lc : Nat → Nat → Nat} {s : tt_SL} {x4 : Int32} {ck cn : Nat} {tn : tt_Tn} {Q : tt_Fin} (hk1 : ck + 60 ≤ room_1.cells) (hk2 : cn + 600 ≤ room_1.slots) (h : Ok (fL_case_20 L xs s x4) (fun r => ∀ lc', tt_agr (XL l D dA A pz b L xs) s lc lc' → ∀ ck' cn', ck' ≤ ck + 60 → cn' ≤ cn + 600 → tt_V (XL l D dA A pz b L xs) code (RX0, 8, ret, room_1, tn) Q 3740 [(0, .ref b), (1, .ref (lc' 0 0)), (2, .ref (lc' 300 0)), (3, .ref (lc' 400 0)), (4, .int x4)] [] lc' r ck' cn')) : tt_V (XL l D dA A pz b L xs) code (RX0, 8, ret, room_1, tn) Q 1589 [(0, .ref b), (1, .ref (lc 0 0)), (2, .ref (lc 300 0)), (3, .ref (lc 400 0)), (4, .int x4)] [] lc s ck cn := by
  unfold fL_case_20 at h
  refine v_aload_n 1 dL_law_1589 rfl ?_
  refine v_aload_n 0 dL_law_1590 rfl ?_
  refine v_iload 4 dL_law_1591 rfl ?_
  refine v_iconst dL_law_1593 ic_1 ?_
  refine v_iadd dL_law_1594 ?_
  obtain ⟨g1, h⟩ := Ok.guard h
  refine v_sld g1 dL_law_1595 ?_
  refine v_aload_n 0 dL_law_1596 rfl ?_
  refine v_iload 4 dL_law_1597 rfl ?_
  refine v_iconst dL_law_1599 ic_2 ?_
  refine v_iadd dL_law_1600 ?_
  obtain ⟨g2, h⟩ := Ok.guard h
  refine v_sld g2 dL_law_1601 ?_
  refine v_aload_n 3 dL_law_1602 rfl ?_
  refine cLw_moved (Ok.bind h) hl9 ⟨Nat.le_of_ble_eq_true rfl, Nat.le_of_ble_eq_true rfl⟩ (Nat.le_of_ble_eq_true rfl) dL_law_1603 (fun r3 h lc hc => ?_) ⟨by omega, by omega⟩
  rw [← hc 0 0 (.inl lvL_0)]
  rw [← hc 300 0 (.inl lvL_300)]
  rw [← hc 400 0 (.inl lvL_400)]
  have h := Ok.agr h hc (fun _ _ h => h)
  refine v_istore [(5, .int r3.1), (0, .ref b), (1, .ref (lc 0 0)), (2, .ref (lc 300 0)), (3, .ref (lc 400 0)), (4, .int x4)] dL_law_1606 (Nat.le_of_ble_eq_true rfl) rfl ?_
  refine v_aload_n 3 dL_law_1608 rfl ?_
  refine v_aload_n 1 dL_law_1609 rfl ?_
  refine v_iload 5 dL_law_1610 rfl ?_
  refine v_iconst dL_law_1612 ic_1 ?_
  refine v_iadd dL_law_1613 ?_
  refine v_sld g1 dL_law_1614 ?_
  refine v_aload_n 1 dL_law_1615 rfl ?_
  refine v_iload 5 dL_law_1616 rfl ?_
  refine v_iconst dL_law_1618 ic_2 ?_
  refine v_iadd dL_law_1619 ?_
  refine v_sld g2 dL_law_1620 ?_
  refine cLm_moved (Ok.bind h) ⟨Nat.le_of_ble_eq_true rfl, Nat.le_of_ble_eq_true rfl⟩ (Nat.le_of_ble_eq_true rfl) dL_law_1621 (fun r4 h => ?_) ⟨by omega, by omega⟩
  refine v_lstore [(6, .long r4.1), (5, .int r3.1), (0, .ref b), (1, .ref (lc 0 0)), (2, .ref (lc 300 0)), (3, .ref (lc 400 0)), (4, .int x4)] dL_law_1624 (Nat.le_of_ble_eq_true rfl) rfl ?_
  refine v_aload_n 4 dL_law_1626 rfl ?_
  refine cLm_thrown (Ok.bind h) ⟨Nat.le_of_ble_eq_true rfl, Nat.le_of_ble_eq_true rfl⟩ (Nat.le_of_ble_eq_true rfl) dL_law_1627 (fun r5 h => ?_) ⟨by omega, by omega⟩
  refine v_iload 1 dL_law_1630 rfl ?_
  refine v_icmp_eq (tgt := 1637) dL_law_1632 rfl (fun c6 => ?_) (fun c6 => ?_)
  · have h := Ok.pos h c6
    refine v_iload 1 dL_law_1637 rfl ?_
    refine v_if_ne (tgt := 1653) dL_law_1639 rfl (fun c7 => ?_) (fun c7 => ?_)
    · have h := Ok.neg h c7
      refine v_goto (tgt := 3740) dL_law_1653 rfl ?_
      refine v_sub [2, 3, 4, 5, 6] rfl ?_
      have h := Ok.ret h
      exact h lc agr_rf _ _ (by omega) (by omega)
    · have h := Ok.pos h c7
      refine v_aload_n 5 dL_law_1642 rfl ?_
      refine v_iconst dL_law_1643 ic_0 ?_
      obtain ⟨g8, h⟩ := Ok.guard h
      refine lL_400 g8 dL_law_1644 ?_
      refine v_lload 0 dL_law_1645 rfl ?_
      refine v_lif_eq (tgt := 1653) dL_law_1647 dL_law_1648 rfl (fun c9 => ?_) (fun c9 => ?_)
      · have h := Ok.pos h c9
        refine v_goto (tgt := 3740) dL_law_1653 rfl ?_
        refine v_sub [2, 3, 4, 5, 6] rfl ?_
        have h := Ok.ret h
        exact h lc agr_rf _ _ (by omega) (by omega)
      · have h := Ok.neg h c9
        refine v_iconst dL_law_1651 ic_0 ?_
        exact Ok.stuck h
  · have h := Ok.neg h c6
    refine v_iconst dL_law_1635 ic_0 ?_
    exact Ok.stuck h
theorem cLw_bears {l : Launch} {D : va_G} {dA : Nat → ClassId} {A : Nat → Prop} {pz b L : Nat} {xs : Nat → Int32} {lc : Nat → Nat → Nat} {s : tt_SL} {cc : ByteArray} {nl : Nat} {rt : Option FieldType} {rm : Room} {tn : tt_Tn} {Q : tt_Fin} {pc : Nat} {lv : List (Nat × Value)} {rest : List Value} {ck cn : Nat} {x1 : Int32} {x2 : Int32} {K : Int32 × tt_SL → Prop} (h : Ok (wrapL (fT_bears s.1 x1 x2) s (cd3 (some 1) (some 2) none)) K) (hl9 : l.stackTraces = false) (hR : 10 + 1 ≤ rm.frames ∧ 8 + (5 + 11) + 184 ≤ rm.locals) (hW : (rest.map fun v => v.category).sum ≤ 8) (d : decode cc pc = .ok (.invokestatic 243, 3)) (kk : ∀ r, K r → ∀ lc', tt_agr (XL l D dA A pz b L xs) s lc lc' → tt_V (XL l D dA A pz b L xs) cc (RX0, nl, rt, rm, tn) Q (pc + 3) lv (.int r.1 :: rest) lc' r.2 (ck + 2) (cn + 12)) (hf : ck + 2 ≤ rm.cells ∧ cn + 12 ≤ rm.slots) : tt_V (XL l D dA A pz b L xs) cc (RX0, nl, rt, rm, tn) Q pc lv (.ref (lc 400 0) :: .int x2 :: .int x1 :: .ref (lc 0 0) :: rest) lc s ck cn :=
  v_callSW (nA := 4) (As := [.ref (lc 0 0), .int x1, .int x2, .ref (lc 400 0)]) (mL_bears l D dA A pz b L xs hl9 lc s x1 x2 (Q := (fun v lc' s' => ∃ r : Int32 × tt_SL, K r ∧ v = some (Value.int r.1) ∧ tt_agr (XL l D dA A pz b L xs) s lc lc' ∧ s' = r.2)) (h.mono fun r hr lc' ha => ⟨r, hr, rfl, ha, rfl⟩)) (lw_SW q1342 q1343 q126 q1344) (by decide +kernel) rfl hR hW hf d rfl (fun v lc' s' q => by obtain ⟨r, hr, e1, e2, e3⟩ := q; rw [e1, e3]; exact kk r hr lc' e2)
theorem cLm_bears {l : Launch} {D : va_G} {dA : Nat → ClassId} {A : Nat → Prop} {pz b L : Nat} {xs : Nat → Int32} {lc : Nat → Nat → Nat} {s : tt_SL} {cc : ByteArray} {nl : Nat} {rt : Option FieldType} {rm : Room} {tn : tt_Tn} {Q : tt_Fin} {pc : Nat} {lv : List (Nat × Value)} {rest : List Value} {ck cn : Nat} {x1 : Int32} {x2 : Int32} {K : Int64 × tt_St → Prop} (h : Ok (fM_bears s.2.1 x1 x2) K) (hR : 2 + 1 ≤ rm.frames ∧ 8 + (3 + 11) + 46 ≤ rm.locals) (hW : (rest.map fun v => v.category).sum ≤ 8) (d : decode cc pc = .ok (.invokevirtual 245, 3)) (kk : ∀ r, K r → tt_V (XL l D dA A pz b L xs) cc (RX0, nl, rt, rm, tn) Q (pc + 3) lv (.long r.1 :: rest) lc (s.1, r.2, s.2.2) (ck + 0) (cn + 0)) (hf : ck + 0 ≤ rm.cells ∧ cn + 0 ≤ rm.slots) : tt_V (XL l D dA A pz b L xs) cc (RX0, nl, rt, rm, tn) Q pc lv (.int x2 :: .int x1 :: .ref (lc 300 0) :: rest) lc s ck cn :=
  v_callV (kd := 300) (i := 0) (nA := 2) (As := [.int x1, .int x2]) lvL_300 oL_300 rfl (liftM (Q := (fun v lc' s' => ∃ r : Int64 × tt_St, K r ∧ v = some (Value.long r.1) ∧ lc' = lc ∧ s' = (s.1, r.2, s.2.2))) (mM_bears l (DM D) (dMd dA) (aLM lc s) (nTm lc) s.2.1 x1 x2 (Q := fun v lc' w => lc' = nTm lc ∧ (fun v lc' s' => ∃ r : Int64 × tt_St, K r ∧ v = some (Value.long r.1) ∧ lc' = lc ∧ s' = (s.1, r.2, s.2.2)) v lc (s.1, w, s.2.2)) (h.mono fun r hr => ⟨rfl, r, hr, rfl, rfl, rfl⟩))) (lw_V q2297 q2298 q2299 q154 q2300) (by decide +kernel) rfl hR hW hf d rfl (fun v lc' s' q => by obtain ⟨r, hr, e1, e2, e3⟩ := q; rw [e1, e2, e3]; exact kk r hr)
def fL_case_21 (L : Nat) (xs : Nat → Int32) (s : tt_SL) (x4 : Int32) : Option tt_SL :=
  if inB (x4 + (1 : Int32)) L then if inB (x4 + (2 : Int32)) L then (wrapL (fT_bears s.1 (xs ((x4 + (1 : Int32)).toNatClampNeg)) (xs ((x4 + (2 : Int32)).toNatClampNeg))) s (cd3 (some 1) (some 2) none)).bind fun r3 => (fM_bears r3.2.2.1 (xs ((x4 + (1 : Int32)).toNatClampNeg)) (xs ((x4 + (2 : Int32)).toNatClampNeg))).bind fun r4 => (fM_thrown (r3.2.1, r4.2, r3.2.2.2).2.1).bind fun r5 => if r5 = r3.1 then if r3.1 = 0 then if inB (0 : Int32) 1 then if (rdL (r3.2.1, r4.2, r3.2.2.2).2.2 0 0 ((0 : Int32).toNatClampNeg)) = r4.1 then some (r3.2.1, r4.2, r3.2.2.2) else none else none else some (r3.2.1, r4.2, r3.2.2.2) else none else none else none
set_option maxHeartbeats 4000000 in
theorem lcase_21 {l : Launch} {D : va_G} {dA : Nat → ClassId} {A : Nat → Prop} {pz b L : Nat} {xs : Nat → Int32} (hl9 : l.stackTraces = false) {lc : Nat → Nat → Nat} {s : tt_SL} {x4 : Int32} {ck cn : Nat} {tn : tt_Tn} {Q : tt_Fin} (hk1 : ck + 60 ≤ room_1.cells) (hk2 : cn + 600 ≤ room_1.slots) (h : Ok (fL_case_21 L xs s x4) (fun r => ∀ lc', tt_agr (XL l D dA A pz b L xs) s lc lc' → ∀ ck' cn', ck' ≤ ck + 60 → cn' ≤ cn + 600 → tt_V (XL l D dA A pz b L xs) code (RX0, 8, ret, room_1, tn) Q 3740 [(0, .ref b), (1, .ref (lc' 0 0)), (2, .ref (lc' 300 0)), (3, .ref (lc' 400 0)), (4, .int x4)] [] lc' r ck' cn')) : tt_V (XL l D dA A pz b L xs) code (RX0, 8, ret, room_1, tn) Q 1656 [(0, .ref b), (1, .ref (lc 0 0)), (2, .ref (lc 300 0)), (3, .ref (lc 400 0)), (4, .int x4)] [] lc s ck cn := by
  unfold fL_case_21 at h
  refine v_aload_n 1 dL_law_1656 rfl ?_
  refine v_aload_n 0 dL_law_1657 rfl ?_
  refine v_iload 4 dL_law_1658 rfl ?_
  refine v_iconst dL_law_1660 ic_1 ?_
  refine v_iadd dL_law_1661 ?_
  obtain ⟨g1, h⟩ := Ok.guard h
  refine v_sld g1 dL_law_1662 ?_
  refine v_aload_n 0 dL_law_1663 rfl ?_
  refine v_iload 4 dL_law_1664 rfl ?_
  refine v_iconst dL_law_1666 ic_2 ?_
  refine v_iadd dL_law_1667 ?_
  obtain ⟨g2, h⟩ := Ok.guard h
  refine v_sld g2 dL_law_1668 ?_
  refine v_aload_n 3 dL_law_1669 rfl ?_
  refine cLw_bears (Ok.bind h) hl9 ⟨Nat.le_of_ble_eq_true rfl, Nat.le_of_ble_eq_true rfl⟩ (Nat.le_of_ble_eq_true rfl) dL_law_1670 (fun r3 h lc hc => ?_) ⟨by omega, by omega⟩
  rw [← hc 0 0 (.inl lvL_0)]
  rw [← hc 300 0 (.inl lvL_300)]
  rw [← hc 400 0 (.inl lvL_400)]
  have h := Ok.agr h hc (fun _ _ h => h)
  refine v_istore [(5, .int r3.1), (0, .ref b), (1, .ref (lc 0 0)), (2, .ref (lc 300 0)), (3, .ref (lc 400 0)), (4, .int x4)] dL_law_1673 (Nat.le_of_ble_eq_true rfl) rfl ?_
  refine v_aload_n 3 dL_law_1675 rfl ?_
  refine v_aload_n 1 dL_law_1676 rfl ?_
  refine v_iload 5 dL_law_1677 rfl ?_
  refine v_iconst dL_law_1679 ic_1 ?_
  refine v_iadd dL_law_1680 ?_
  refine v_sld g1 dL_law_1681 ?_
  refine v_aload_n 1 dL_law_1682 rfl ?_
  refine v_iload 5 dL_law_1683 rfl ?_
  refine v_iconst dL_law_1685 ic_2 ?_
  refine v_iadd dL_law_1686 ?_
  refine v_sld g2 dL_law_1687 ?_
  refine cLm_bears (Ok.bind h) ⟨Nat.le_of_ble_eq_true rfl, Nat.le_of_ble_eq_true rfl⟩ (Nat.le_of_ble_eq_true rfl) dL_law_1688 (fun r4 h => ?_) ⟨by omega, by omega⟩
  refine v_lstore [(6, .long r4.1), (5, .int r3.1), (0, .ref b), (1, .ref (lc 0 0)), (2, .ref (lc 300 0)), (3, .ref (lc 400 0)), (4, .int x4)] dL_law_1691 (Nat.le_of_ble_eq_true rfl) rfl ?_
  refine v_aload_n 4 dL_law_1693 rfl ?_
  refine cLm_thrown (Ok.bind h) ⟨Nat.le_of_ble_eq_true rfl, Nat.le_of_ble_eq_true rfl⟩ (Nat.le_of_ble_eq_true rfl) dL_law_1694 (fun r5 h => ?_) ⟨by omega, by omega⟩
  refine v_iload 1 dL_law_1697 rfl ?_
  refine v_icmp_eq (tgt := 1704) dL_law_1699 rfl (fun c6 => ?_) (fun c6 => ?_)
  · have h := Ok.pos h c6
    refine v_iload 1 dL_law_1704 rfl ?_
    refine v_if_ne (tgt := 1720) dL_law_1706 rfl (fun c7 => ?_) (fun c7 => ?_)
    · have h := Ok.neg h c7
      refine v_goto (tgt := 3740) dL_law_1720 rfl ?_
      refine v_sub [2, 3, 4, 5, 6] rfl ?_
      have h := Ok.ret h
      exact h lc agr_rf _ _ (by omega) (by omega)
    · have h := Ok.pos h c7
      refine v_aload_n 5 dL_law_1709 rfl ?_
      refine v_iconst dL_law_1710 ic_0 ?_
      obtain ⟨g8, h⟩ := Ok.guard h
      refine lL_400 g8 dL_law_1711 ?_
      refine v_lload 0 dL_law_1712 rfl ?_
      refine v_lif_eq (tgt := 1720) dL_law_1714 dL_law_1715 rfl (fun c9 => ?_) (fun c9 => ?_)
      · have h := Ok.pos h c9
        refine v_goto (tgt := 3740) dL_law_1720 rfl ?_
        refine v_sub [2, 3, 4, 5, 6] rfl ?_
        have h := Ok.ret h
        exact h lc agr_rf _ _ (by omega) (by omega)
      · have h := Ok.neg h c9
        refine v_iconst dL_law_1718 ic_0 ?_
        exact Ok.stuck h
  · have h := Ok.neg h c6
    refine v_iconst dL_law_1702 ic_0 ?_
    exact Ok.stuck h
theorem cLw_falls {l : Launch} {D : va_G} {dA : Nat → ClassId} {A : Nat → Prop} {pz b L : Nat} {xs : Nat → Int32} {lc : Nat → Nat → Nat} {s : tt_SL} {cc : ByteArray} {nl : Nat} {rt : Option FieldType} {rm : Room} {tn : tt_Tn} {Q : tt_Fin} {pc : Nat} {lv : List (Nat × Value)} {rest : List Value} {ck cn : Nat} {x1 : Int32} {x2 : Int32} {K : Int32 × tt_SL → Prop} (h : Ok (wrapL (fT_falls s.1 x1 x2) s (cd3 (some 1) (some 2) none)) K) (hl9 : l.stackTraces = false) (hR : 10 + 1 ≤ rm.frames ∧ 8 + (5 + 11) + 183 ≤ rm.locals) (hW : (rest.map fun v => v.category).sum ≤ 8) (d : decode cc pc = .ok (.invokestatic 246, 3)) (kk : ∀ r, K r → ∀ lc', tt_agr (XL l D dA A pz b L xs) s lc lc' → tt_V (XL l D dA A pz b L xs) cc (RX0, nl, rt, rm, tn) Q (pc + 3) lv (.int r.1 :: rest) lc' r.2 (ck + 2) (cn + 12)) (hf : ck + 2 ≤ rm.cells ∧ cn + 12 ≤ rm.slots) : tt_V (XL l D dA A pz b L xs) cc (RX0, nl, rt, rm, tn) Q pc lv (.ref (lc 400 0) :: .int x2 :: .int x1 :: .ref (lc 0 0) :: rest) lc s ck cn :=
  v_callSW (nA := 4) (As := [.ref (lc 0 0), .int x1, .int x2, .ref (lc 400 0)]) (mL_falls l D dA A pz b L xs hl9 lc s x1 x2 (Q := (fun v lc' s' => ∃ r : Int32 × tt_SL, K r ∧ v = some (Value.int r.1) ∧ tt_agr (XL l D dA A pz b L xs) s lc lc' ∧ s' = r.2)) (h.mono fun r hr lc' ha => ⟨r, hr, rfl, ha, rfl⟩)) (lw_SW q1349 q1350 q126 q1351) (by decide +kernel) rfl hR hW hf d rfl (fun v lc' s' q => by obtain ⟨r, hr, e1, e2, e3⟩ := q; rw [e1, e3]; exact kk r hr lc' e2)
theorem cLm_falls {l : Launch} {D : va_G} {dA : Nat → ClassId} {A : Nat → Prop} {pz b L : Nat} {xs : Nat → Int32} {lc : Nat → Nat → Nat} {s : tt_SL} {cc : ByteArray} {nl : Nat} {rt : Option FieldType} {rm : Room} {tn : tt_Tn} {Q : tt_Fin} {pc : Nat} {lv : List (Nat × Value)} {rest : List Value} {ck cn : Nat} {x1 : Int32} {x2 : Int32} {K : Int64 × tt_St → Prop} (h : Ok (fM_falls s.2.1 x1 x2) K) (hR : 2 + 1 ≤ rm.frames ∧ 8 + (3 + 11) + 46 ≤ rm.locals) (hW : (rest.map fun v => v.category).sum ≤ 8) (d : decode cc pc = .ok (.invokevirtual 248, 3)) (kk : ∀ r, K r → tt_V (XL l D dA A pz b L xs) cc (RX0, nl, rt, rm, tn) Q (pc + 3) lv (.long r.1 :: rest) lc (s.1, r.2, s.2.2) (ck + 0) (cn + 0)) (hf : ck + 0 ≤ rm.cells ∧ cn + 0 ≤ rm.slots) : tt_V (XL l D dA A pz b L xs) cc (RX0, nl, rt, rm, tn) Q pc lv (.int x2 :: .int x1 :: .ref (lc 300 0) :: rest) lc s ck cn :=
  v_callV (kd := 300) (i := 0) (nA := 2) (As := [.int x1, .int x2]) lvL_300 oL_300 rfl (liftM (Q := (fun v lc' s' => ∃ r : Int64 × tt_St, K r ∧ v = some (Value.long r.1) ∧ lc' = lc ∧ s' = (s.1, r.2, s.2.2))) (mM_falls l (DM D) (dMd dA) (aLM lc s) (nTm lc) s.2.1 x1 x2 (Q := fun v lc' w => lc' = nTm lc ∧ (fun v lc' s' => ∃ r : Int64 × tt_St, K r ∧ v = some (Value.long r.1) ∧ lc' = lc ∧ s' = (s.1, r.2, s.2.2)) v lc (s.1, w, s.2.2)) (h.mono fun r hr => ⟨rfl, r, hr, rfl, rfl, rfl⟩))) (lw_V q2305 q2306 q2307 q154 q2308) (by decide +kernel) rfl hR hW hf d rfl (fun v lc' s' q => by obtain ⟨r, hr, e1, e2, e3⟩ := q; rw [e1, e2, e3]; exact kk r hr)
def fL_case_22 (L : Nat) (xs : Nat → Int32) (s : tt_SL) (x4 : Int32) : Option tt_SL :=
  if inB (x4 + (1 : Int32)) L then if inB (x4 + (2 : Int32)) L then (wrapL (fT_falls s.1 (xs ((x4 + (1 : Int32)).toNatClampNeg)) (xs ((x4 + (2 : Int32)).toNatClampNeg))) s (cd3 (some 1) (some 2) none)).bind fun r3 => (fM_falls r3.2.2.1 (xs ((x4 + (1 : Int32)).toNatClampNeg)) (xs ((x4 + (2 : Int32)).toNatClampNeg))).bind fun r4 => (fM_thrown (r3.2.1, r4.2, r3.2.2.2).2.1).bind fun r5 => if r5 = r3.1 then if r3.1 = 0 then if inB (0 : Int32) 1 then if (rdL (r3.2.1, r4.2, r3.2.2.2).2.2 0 0 ((0 : Int32).toNatClampNeg)) = r4.1 then some (r3.2.1, r4.2, r3.2.2.2) else none else none else some (r3.2.1, r4.2, r3.2.2.2) else none else none else none
set_option maxHeartbeats 4000000 in
theorem lcase_22 {l : Launch} {D : va_G} {dA : Nat → ClassId} {A : Nat → Prop} {pz b L : Nat} {xs : Nat → Int32} (hl9 : l.stackTraces = false) {lc : Nat → Nat → Nat} {s : tt_SL} {x4 : Int32} {ck cn : Nat} {tn : tt_Tn} {Q : tt_Fin} (hk1 : ck + 60 ≤ room_1.cells) (hk2 : cn + 600 ≤ room_1.slots) (h : Ok (fL_case_22 L xs s x4) (fun r => ∀ lc', tt_agr (XL l D dA A pz b L xs) s lc lc' → ∀ ck' cn', ck' ≤ ck + 60 → cn' ≤ cn + 600 → tt_V (XL l D dA A pz b L xs) code (RX0, 8, ret, room_1, tn) Q 3740 [(0, .ref b), (1, .ref (lc' 0 0)), (2, .ref (lc' 300 0)), (3, .ref (lc' 400 0)), (4, .int x4)] [] lc' r ck' cn')) : tt_V (XL l D dA A pz b L xs) code (RX0, 8, ret, room_1, tn) Q 1723 [(0, .ref b), (1, .ref (lc 0 0)), (2, .ref (lc 300 0)), (3, .ref (lc 400 0)), (4, .int x4)] [] lc s ck cn := by
  unfold fL_case_22 at h
  refine v_aload_n 1 dL_law_1723 rfl ?_
  refine v_aload_n 0 dL_law_1724 rfl ?_
  refine v_iload 4 dL_law_1725 rfl ?_
  refine v_iconst dL_law_1727 ic_1 ?_
  refine v_iadd dL_law_1728 ?_
  obtain ⟨g1, h⟩ := Ok.guard h
  refine v_sld g1 dL_law_1729 ?_
  refine v_aload_n 0 dL_law_1730 rfl ?_
  refine v_iload 4 dL_law_1731 rfl ?_
  refine v_iconst dL_law_1733 ic_2 ?_
  refine v_iadd dL_law_1734 ?_
  obtain ⟨g2, h⟩ := Ok.guard h
  refine v_sld g2 dL_law_1735 ?_
  refine v_aload_n 3 dL_law_1736 rfl ?_
  refine cLw_falls (Ok.bind h) hl9 ⟨Nat.le_of_ble_eq_true rfl, Nat.le_of_ble_eq_true rfl⟩ (Nat.le_of_ble_eq_true rfl) dL_law_1737 (fun r3 h lc hc => ?_) ⟨by omega, by omega⟩
  rw [← hc 0 0 (.inl lvL_0)]
  rw [← hc 300 0 (.inl lvL_300)]
  rw [← hc 400 0 (.inl lvL_400)]
  have h := Ok.agr h hc (fun _ _ h => h)
  refine v_istore [(5, .int r3.1), (0, .ref b), (1, .ref (lc 0 0)), (2, .ref (lc 300 0)), (3, .ref (lc 400 0)), (4, .int x4)] dL_law_1740 (Nat.le_of_ble_eq_true rfl) rfl ?_
  refine v_aload_n 3 dL_law_1742 rfl ?_
  refine v_aload_n 1 dL_law_1743 rfl ?_
  refine v_iload 5 dL_law_1744 rfl ?_
  refine v_iconst dL_law_1746 ic_1 ?_
  refine v_iadd dL_law_1747 ?_
  refine v_sld g1 dL_law_1748 ?_
  refine v_aload_n 1 dL_law_1749 rfl ?_
  refine v_iload 5 dL_law_1750 rfl ?_
  refine v_iconst dL_law_1752 ic_2 ?_
  refine v_iadd dL_law_1753 ?_
  refine v_sld g2 dL_law_1754 ?_
  refine cLm_falls (Ok.bind h) ⟨Nat.le_of_ble_eq_true rfl, Nat.le_of_ble_eq_true rfl⟩ (Nat.le_of_ble_eq_true rfl) dL_law_1755 (fun r4 h => ?_) ⟨by omega, by omega⟩
  refine v_lstore [(6, .long r4.1), (5, .int r3.1), (0, .ref b), (1, .ref (lc 0 0)), (2, .ref (lc 300 0)), (3, .ref (lc 400 0)), (4, .int x4)] dL_law_1758 (Nat.le_of_ble_eq_true rfl) rfl ?_
  refine v_aload_n 4 dL_law_1760 rfl ?_
  refine cLm_thrown (Ok.bind h) ⟨Nat.le_of_ble_eq_true rfl, Nat.le_of_ble_eq_true rfl⟩ (Nat.le_of_ble_eq_true rfl) dL_law_1761 (fun r5 h => ?_) ⟨by omega, by omega⟩
  refine v_iload 1 dL_law_1764 rfl ?_
  refine v_icmp_eq (tgt := 1771) dL_law_1766 rfl (fun c6 => ?_) (fun c6 => ?_)
  · have h := Ok.pos h c6
    refine v_iload 1 dL_law_1771 rfl ?_
    refine v_if_ne (tgt := 1787) dL_law_1773 rfl (fun c7 => ?_) (fun c7 => ?_)
    · have h := Ok.neg h c7
      refine v_goto (tgt := 3740) dL_law_1787 rfl ?_
      refine v_sub [2, 3, 4, 5, 6] rfl ?_
      have h := Ok.ret h
      exact h lc agr_rf _ _ (by omega) (by omega)
    · have h := Ok.pos h c7
      refine v_aload_n 5 dL_law_1776 rfl ?_
      refine v_iconst dL_law_1777 ic_0 ?_
      obtain ⟨g8, h⟩ := Ok.guard h
      refine lL_400 g8 dL_law_1778 ?_
      refine v_lload 0 dL_law_1779 rfl ?_
      refine v_lif_eq (tgt := 1787) dL_law_1781 dL_law_1782 rfl (fun c9 => ?_) (fun c9 => ?_)
      · have h := Ok.pos h c9
        refine v_goto (tgt := 3740) dL_law_1787 rfl ?_
        refine v_sub [2, 3, 4, 5, 6] rfl ?_
        have h := Ok.ret h
        exact h lc agr_rf _ _ (by omega) (by omega)
      · have h := Ok.neg h c9
        refine v_iconst dL_law_1785 ic_0 ?_
        exact Ok.stuck h
  · have h := Ok.neg h c6
    refine v_iconst dL_law_1769 ic_0 ?_
    exact Ok.stuck h
theorem cLw_insurer {l : Launch} {D : va_G} {dA : Nat → ClassId} {A : Nat → Prop} {pz b L : Nat} {xs : Nat → Int32} {lc : Nat → Nat → Nat} {s : tt_SL} {cc : ByteArray} {nl : Nat} {rt : Option FieldType} {rm : Room} {tn : tt_Tn} {Q : tt_Fin} {pc : Nat} {lv : List (Nat × Value)} {rest : List Value} {ck cn : Nat} {x1 : Int32} {x2 : Int32} {K : Int32 × tt_SL → Prop} (h : Ok (wrapL (fT_insurer s.1 x1 x2) s (cd3 none (some 1) none)) K) (hl9 : l.stackTraces = false) (hR : 10 + 1 ≤ rm.frames ∧ 8 + (5 + 11) + 186 ≤ rm.locals) (hW : (rest.map fun v => v.category).sum ≤ 8) (d : decode cc pc = .ok (.invokestatic 249, 3)) (kk : ∀ r, K r → ∀ lc', tt_agr (XL l D dA A pz b L xs) s lc lc' → tt_V (XL l D dA A pz b L xs) cc (RX0, nl, rt, rm, tn) Q (pc + 3) lv (.int r.1 :: rest) lc' r.2 (ck + 2) (cn + 12)) (hf : ck + 2 ≤ rm.cells ∧ cn + 12 ≤ rm.slots) : tt_V (XL l D dA A pz b L xs) cc (RX0, nl, rt, rm, tn) Q pc lv (.ref (lc 400 0) :: .int x2 :: .int x1 :: .ref (lc 0 0) :: rest) lc s ck cn :=
  v_callSW (nA := 4) (As := [.ref (lc 0 0), .int x1, .int x2, .ref (lc 400 0)]) (mL_insurer l D dA A pz b L xs hl9 lc s x1 x2 (Q := (fun v lc' s' => ∃ r : Int32 × tt_SL, K r ∧ v = some (Value.int r.1) ∧ tt_agr (XL l D dA A pz b L xs) s lc lc' ∧ s' = r.2)) (h.mono fun r hr lc' ha => ⟨r, hr, rfl, ha, rfl⟩)) (lw_SW q1356 q1357 q126 q1358) (by decide +kernel) rfl hR hW hf d rfl (fun v lc' s' q => by obtain ⟨r, hr, e1, e2, e3⟩ := q; rw [e1, e3]; exact kk r hr lc' e2)
theorem cLm_insurer {l : Launch} {D : va_G} {dA : Nat → ClassId} {A : Nat → Prop} {pz b L : Nat} {xs : Nat → Int32} {lc : Nat → Nat → Nat} {s : tt_SL} {cc : ByteArray} {nl : Nat} {rt : Option FieldType} {rm : Room} {tn : tt_Tn} {Q : tt_Fin} {pc : Nat} {lv : List (Nat × Value)} {rest : List Value} {ck cn : Nat} {x1 : Int32} {x2 : Int32} {K : Int64 × tt_St → Prop} (h : Ok (fM_insurer s.2.1 x1 x2) K) (hR : 3 + 1 ≤ rm.frames ∧ 8 + (3 + 11) + 70 ≤ rm.locals) (hW : (rest.map fun v => v.category).sum ≤ 8) (d : decode cc pc = .ok (.invokevirtual 251, 3)) (kk : ∀ r, K r → tt_V (XL l D dA A pz b L xs) cc (RX0, nl, rt, rm, tn) Q (pc + 3) lv (.long r.1 :: rest) lc (s.1, r.2, s.2.2) (ck + 0) (cn + 0)) (hf : ck + 0 ≤ rm.cells ∧ cn + 0 ≤ rm.slots) : tt_V (XL l D dA A pz b L xs) cc (RX0, nl, rt, rm, tn) Q pc lv (.int x2 :: .int x1 :: .ref (lc 300 0) :: rest) lc s ck cn :=
  v_callV (kd := 300) (i := 0) (nA := 2) (As := [.int x1, .int x2]) lvL_300 oL_300 rfl (liftM (Q := (fun v lc' s' => ∃ r : Int64 × tt_St, K r ∧ v = some (Value.long r.1) ∧ lc' = lc ∧ s' = (s.1, r.2, s.2.2))) (mM_insurer l (DM D) (dMd dA) (aLM lc s) (nTm lc) s.2.1 x1 x2 (Q := fun v lc' w => lc' = nTm lc ∧ (fun v lc' s' => ∃ r : Int64 × tt_St, K r ∧ v = some (Value.long r.1) ∧ lc' = lc ∧ s' = (s.1, r.2, s.2.2)) v lc (s.1, w, s.2.2)) (h.mono fun r hr => ⟨rfl, r, hr, rfl, rfl, rfl⟩))) (lw_V q2309 q2310 q2311 q154 q2312) (by decide +kernel) rfl hR hW hf d rfl (fun v lc' s' q => by obtain ⟨r, hr, e1, e2, e3⟩ := q; rw [e1, e2, e3]; exact kk r hr)
def fL_case_23 (L : Nat) (xs : Nat → Int32) (s : tt_SL) (x4 : Int32) : Option tt_SL :=
  if inB (x4 + (1 : Int32)) L then if inB (x4 + (2 : Int32)) L then (wrapL (fT_insurer s.1 (xs ((x4 + (1 : Int32)).toNatClampNeg)) (xs ((x4 + (2 : Int32)).toNatClampNeg))) s (cd3 none (some 1) none)).bind fun r3 => (fM_insurer r3.2.2.1 (xs ((x4 + (1 : Int32)).toNatClampNeg)) (xs ((x4 + (2 : Int32)).toNatClampNeg))).bind fun r4 => (fM_thrown (r3.2.1, r4.2, r3.2.2.2).2.1).bind fun r5 => if r5 = r3.1 then if r3.1 = 0 then if inB (0 : Int32) 1 then if (rdL (r3.2.1, r4.2, r3.2.2.2).2.2 0 0 ((0 : Int32).toNatClampNeg)) = r4.1 then some (r3.2.1, r4.2, r3.2.2.2) else none else none else some (r3.2.1, r4.2, r3.2.2.2) else none else none else none
set_option maxHeartbeats 4000000 in
theorem lcase_23 {l : Launch} {D : va_G} {dA : Nat → ClassId} {A : Nat → Prop} {pz b L : Nat} {xs : Nat → Int32} (hl9 : l.stackTraces = false) {lc : Nat → Nat → Nat} {s : tt_SL} {x4 : Int32} {ck cn : Nat} {tn : tt_Tn} {Q : tt_Fin} (hk1 : ck + 60 ≤ room_1.cells) (hk2 : cn + 600 ≤ room_1.slots) (h : Ok (fL_case_23 L xs s x4) (fun r => ∀ lc', tt_agr (XL l D dA A pz b L xs) s lc lc' → ∀ ck' cn', ck' ≤ ck + 60 → cn' ≤ cn + 600 → tt_V (XL l D dA A pz b L xs) code (RX0, 8, ret, room_1, tn) Q 3740 [(0, .ref b), (1, .ref (lc' 0 0)), (2, .ref (lc' 300 0)), (3, .ref (lc' 400 0)), (4, .int x4)] [] lc' r ck' cn')) : tt_V (XL l D dA A pz b L xs) code (RX0, 8, ret, room_1, tn) Q 1790 [(0, .ref b), (1, .ref (lc 0 0)), (2, .ref (lc 300 0)), (3, .ref (lc 400 0)), (4, .int x4)] [] lc s ck cn := by
  unfold fL_case_23 at h
  refine v_aload_n 1 dL_law_1790 rfl ?_
  refine v_aload_n 0 dL_law_1791 rfl ?_
  refine v_iload 4 dL_law_1792 rfl ?_
  refine v_iconst dL_law_1794 ic_1 ?_
  refine v_iadd dL_law_1795 ?_
  obtain ⟨g1, h⟩ := Ok.guard h
  refine v_sld g1 dL_law_1796 ?_
  refine v_aload_n 0 dL_law_1797 rfl ?_
  refine v_iload 4 dL_law_1798 rfl ?_
  refine v_iconst dL_law_1800 ic_2 ?_
  refine v_iadd dL_law_1801 ?_
  obtain ⟨g2, h⟩ := Ok.guard h
  refine v_sld g2 dL_law_1802 ?_
  refine v_aload_n 3 dL_law_1803 rfl ?_
  refine cLw_insurer (Ok.bind h) hl9 ⟨Nat.le_of_ble_eq_true rfl, Nat.le_of_ble_eq_true rfl⟩ (Nat.le_of_ble_eq_true rfl) dL_law_1804 (fun r3 h lc hc => ?_) ⟨by omega, by omega⟩
  rw [← hc 0 0 (.inl lvL_0)]
  rw [← hc 300 0 (.inl lvL_300)]
  rw [← hc 400 0 (.inl lvL_400)]
  have h := Ok.agr h hc (fun _ _ h => h)
  refine v_istore [(5, .int r3.1), (0, .ref b), (1, .ref (lc 0 0)), (2, .ref (lc 300 0)), (3, .ref (lc 400 0)), (4, .int x4)] dL_law_1807 (Nat.le_of_ble_eq_true rfl) rfl ?_
  refine v_aload_n 3 dL_law_1809 rfl ?_
  refine v_aload_n 1 dL_law_1810 rfl ?_
  refine v_iload 5 dL_law_1811 rfl ?_
  refine v_iconst dL_law_1813 ic_1 ?_
  refine v_iadd dL_law_1814 ?_
  refine v_sld g1 dL_law_1815 ?_
  refine v_aload_n 1 dL_law_1816 rfl ?_
  refine v_iload 5 dL_law_1817 rfl ?_
  refine v_iconst dL_law_1819 ic_2 ?_
  refine v_iadd dL_law_1820 ?_
  refine v_sld g2 dL_law_1821 ?_
  refine cLm_insurer (Ok.bind h) ⟨Nat.le_of_ble_eq_true rfl, Nat.le_of_ble_eq_true rfl⟩ (Nat.le_of_ble_eq_true rfl) dL_law_1822 (fun r4 h => ?_) ⟨by omega, by omega⟩
  refine v_lstore [(6, .long r4.1), (5, .int r3.1), (0, .ref b), (1, .ref (lc 0 0)), (2, .ref (lc 300 0)), (3, .ref (lc 400 0)), (4, .int x4)] dL_law_1825 (Nat.le_of_ble_eq_true rfl) rfl ?_
  refine v_aload_n 4 dL_law_1827 rfl ?_
  refine cLm_thrown (Ok.bind h) ⟨Nat.le_of_ble_eq_true rfl, Nat.le_of_ble_eq_true rfl⟩ (Nat.le_of_ble_eq_true rfl) dL_law_1828 (fun r5 h => ?_) ⟨by omega, by omega⟩
  refine v_iload 1 dL_law_1831 rfl ?_
  refine v_icmp_eq (tgt := 1838) dL_law_1833 rfl (fun c6 => ?_) (fun c6 => ?_)
  · have h := Ok.pos h c6
    refine v_iload 1 dL_law_1838 rfl ?_
    refine v_if_ne (tgt := 1854) dL_law_1840 rfl (fun c7 => ?_) (fun c7 => ?_)
    · have h := Ok.neg h c7
      refine v_goto (tgt := 3740) dL_law_1854 rfl ?_
      refine v_sub [2, 3, 4, 5, 6] rfl ?_
      have h := Ok.ret h
      exact h lc agr_rf _ _ (by omega) (by omega)
    · have h := Ok.pos h c7
      refine v_aload_n 5 dL_law_1843 rfl ?_
      refine v_iconst dL_law_1844 ic_0 ?_
      obtain ⟨g8, h⟩ := Ok.guard h
      refine lL_400 g8 dL_law_1845 ?_
      refine v_lload 0 dL_law_1846 rfl ?_
      refine v_lif_eq (tgt := 1854) dL_law_1848 dL_law_1849 rfl (fun c9 => ?_) (fun c9 => ?_)
      · have h := Ok.pos h c9
        refine v_goto (tgt := 3740) dL_law_1854 rfl ?_
        refine v_sub [2, 3, 4, 5, 6] rfl ?_
        have h := Ok.ret h
        exact h lc agr_rf _ _ (by omega) (by omega)
      · have h := Ok.neg h c9
        refine v_iconst dL_law_1852 ic_0 ?_
        exact Ok.stuck h
  · have h := Ok.neg h c6
    refine v_iconst dL_law_1836 ic_0 ?_
    exact Ok.stuck h
theorem cLw_burden {l : Launch} {D : va_G} {dA : Nat → ClassId} {A : Nat → Prop} {pz b L : Nat} {xs : Nat → Int32} {lc : Nat → Nat → Nat} {s : tt_SL} {cc : ByteArray} {nl : Nat} {rt : Option FieldType} {rm : Room} {tn : tt_Tn} {Q : tt_Fin} {pc : Nat} {lv : List (Nat × Value)} {rest : List Value} {ck cn : Nat} {x1 : Int32} {K : Int32 × tt_SL → Prop} (h : Ok (wrapL (fT_burden s.1 x1) s (cd3 none (some 1) none)) K) (hl9 : l.stackTraces = false) (hR : 9 + 1 ≤ rm.frames ∧ 8 + (4 + 11) + 164 ≤ rm.locals) (hW : (rest.map fun v => v.category).sum ≤ 8) (d : decode cc pc = .ok (.invokestatic 252, 3)) (kk : ∀ r, K r → ∀ lc', tt_agr (XL l D dA A pz b L xs) s lc lc' → tt_V (XL l D dA A pz b L xs) cc (RX0, nl, rt, rm, tn) Q (pc + 3) lv (.int r.1 :: rest) lc' r.2 (ck + 1) (cn + 6)) (hf : ck + 1 ≤ rm.cells ∧ cn + 6 ≤ rm.slots) : tt_V (XL l D dA A pz b L xs) cc (RX0, nl, rt, rm, tn) Q pc lv (.ref (lc 400 0) :: .int x1 :: .ref (lc 0 0) :: rest) lc s ck cn :=
  v_callSW (nA := 3) (As := [.ref (lc 0 0), .int x1, .ref (lc 400 0)]) (mL_burden l D dA A pz b L xs hl9 lc s x1 (Q := (fun v lc' s' => ∃ r : Int32 × tt_SL, K r ∧ v = some (Value.int r.1) ∧ tt_agr (XL l D dA A pz b L xs) s lc lc' ∧ s' = r.2)) (h.mono fun r hr lc' ha => ⟨r, hr, rfl, ha, rfl⟩)) (lw_SW q1370 q1371 q126 q1372) (by decide +kernel) rfl hR hW hf d rfl (fun v lc' s' q => by obtain ⟨r, hr, e1, e2, e3⟩ := q; rw [e1, e3]; exact kk r hr lc' e2)
theorem cLm_burden {l : Launch} {D : va_G} {dA : Nat → ClassId} {A : Nat → Prop} {pz b L : Nat} {xs : Nat → Int32} {lc : Nat → Nat → Nat} {s : tt_SL} {cc : ByteArray} {nl : Nat} {rt : Option FieldType} {rm : Room} {tn : tt_Tn} {Q : tt_Fin} {pc : Nat} {lv : List (Nat × Value)} {rest : List Value} {ck cn : Nat} {x1 : Int32} {K : Int64 × tt_St → Prop} (h : Ok (fM_burden s.2.1 x1) K) (hR : 1 + 1 ≤ rm.frames ∧ 8 + (5 + 11) + 25 ≤ rm.locals) (hW : (rest.map fun v => v.category).sum ≤ 8) (d : decode cc pc = .ok (.invokevirtual 254, 3)) (kk : ∀ r, K r → tt_V (XL l D dA A pz b L xs) cc (RX0, nl, rt, rm, tn) Q (pc + 3) lv (.long r.1 :: rest) lc (s.1, r.2, s.2.2) (ck + 0) (cn + 0)) (hf : ck + 0 ≤ rm.cells ∧ cn + 0 ≤ rm.slots) : tt_V (XL l D dA A pz b L xs) cc (RX0, nl, rt, rm, tn) Q pc lv (.int x1 :: .ref (lc 300 0) :: rest) lc s ck cn :=
  v_callV (kd := 300) (i := 0) (nA := 1) (As := [.int x1]) lvL_300 oL_300 rfl (liftM (Q := (fun v lc' s' => ∃ r : Int64 × tt_St, K r ∧ v = some (Value.long r.1) ∧ lc' = lc ∧ s' = (s.1, r.2, s.2.2))) (mM_burden l (DM D) (dMd dA) (aLM lc s) (nTm lc) s.2.1 x1 (Q := fun v lc' w => lc' = nTm lc ∧ (fun v lc' s' => ∃ r : Int64 × tt_St, K r ∧ v = some (Value.long r.1) ∧ lc' = lc ∧ s' = (s.1, r.2, s.2.2)) v lc (s.1, w, s.2.2)) (h.mono fun r hr => ⟨rfl, r, hr, rfl, rfl, rfl⟩))) (lw_V q2325 q2326 q2327 q154 q2328) (by decide +kernel) rfl hR hW hf d rfl (fun v lc' s' q => by obtain ⟨r, hr, e1, e2, e3⟩ := q; rw [e1, e2, e3]; exact kk r hr)
def fL_case_24 (L : Nat) (xs : Nat → Int32) (s : tt_SL) (x4 : Int32) : Option tt_SL :=
  if inB (x4 + (1 : Int32)) L then (wrapL (fT_burden s.1 (xs ((x4 + (1 : Int32)).toNatClampNeg))) s (cd3 none (some 1) none)).bind fun r2 => (fM_burden r2.2.2.1 (xs ((x4 + (1 : Int32)).toNatClampNeg))).bind fun r3 => (fM_thrown (r2.2.1, r3.2, r2.2.2.2).2.1).bind fun r4 => if r4 = r2.1 then if r2.1 = 0 then if inB (0 : Int32) 1 then if (rdL (r2.2.1, r3.2, r2.2.2.2).2.2 0 0 ((0 : Int32).toNatClampNeg)) = r3.1 then some (r2.2.1, r3.2, r2.2.2.2) else none else none else some (r2.2.1, r3.2, r2.2.2.2) else none else none
set_option maxHeartbeats 4000000 in
theorem lcase_24 {l : Launch} {D : va_G} {dA : Nat → ClassId} {A : Nat → Prop} {pz b L : Nat} {xs : Nat → Int32} (hl9 : l.stackTraces = false) {lc : Nat → Nat → Nat} {s : tt_SL} {x4 : Int32} {ck cn : Nat} {tn : tt_Tn} {Q : tt_Fin} (hk1 : ck + 60 ≤ room_1.cells) (hk2 : cn + 600 ≤ room_1.slots) (h : Ok (fL_case_24 L xs s x4) (fun r => ∀ lc', tt_agr (XL l D dA A pz b L xs) s lc lc' → ∀ ck' cn', ck' ≤ ck + 60 → cn' ≤ cn + 600 → tt_V (XL l D dA A pz b L xs) code (RX0, 8, ret, room_1, tn) Q 3740 [(0, .ref b), (1, .ref (lc' 0 0)), (2, .ref (lc' 300 0)), (3, .ref (lc' 400 0)), (4, .int x4)] [] lc' r ck' cn')) : tt_V (XL l D dA A pz b L xs) code (RX0, 8, ret, room_1, tn) Q 1857 [(0, .ref b), (1, .ref (lc 0 0)), (2, .ref (lc 300 0)), (3, .ref (lc 400 0)), (4, .int x4)] [] lc s ck cn := by
  unfold fL_case_24 at h
  refine v_aload_n 1 dL_law_1857 rfl ?_
  refine v_aload_n 0 dL_law_1858 rfl ?_
  refine v_iload 4 dL_law_1859 rfl ?_
  refine v_iconst dL_law_1861 ic_1 ?_
  refine v_iadd dL_law_1862 ?_
  obtain ⟨g1, h⟩ := Ok.guard h
  refine v_sld g1 dL_law_1863 ?_
  refine v_aload_n 3 dL_law_1864 rfl ?_
  refine cLw_burden (Ok.bind h) hl9 ⟨Nat.le_of_ble_eq_true rfl, Nat.le_of_ble_eq_true rfl⟩ (Nat.le_of_ble_eq_true rfl) dL_law_1865 (fun r2 h lc hc => ?_) ⟨by omega, by omega⟩
  rw [← hc 0 0 (.inl lvL_0)]
  rw [← hc 300 0 (.inl lvL_300)]
  rw [← hc 400 0 (.inl lvL_400)]
  have h := Ok.agr h hc (fun _ _ h => h)
  refine v_istore [(5, .int r2.1), (0, .ref b), (1, .ref (lc 0 0)), (2, .ref (lc 300 0)), (3, .ref (lc 400 0)), (4, .int x4)] dL_law_1868 (Nat.le_of_ble_eq_true rfl) rfl ?_
  refine v_aload_n 3 dL_law_1870 rfl ?_
  refine v_aload_n 1 dL_law_1871 rfl ?_
  refine v_iload 5 dL_law_1872 rfl ?_
  refine v_iconst dL_law_1874 ic_1 ?_
  refine v_iadd dL_law_1875 ?_
  refine v_sld g1 dL_law_1876 ?_
  refine cLm_burden (Ok.bind h) ⟨Nat.le_of_ble_eq_true rfl, Nat.le_of_ble_eq_true rfl⟩ (Nat.le_of_ble_eq_true rfl) dL_law_1877 (fun r3 h => ?_) ⟨by omega, by omega⟩
  refine v_lstore [(6, .long r3.1), (5, .int r2.1), (0, .ref b), (1, .ref (lc 0 0)), (2, .ref (lc 300 0)), (3, .ref (lc 400 0)), (4, .int x4)] dL_law_1880 (Nat.le_of_ble_eq_true rfl) rfl ?_
  refine v_aload_n 4 dL_law_1882 rfl ?_
  refine cLm_thrown (Ok.bind h) ⟨Nat.le_of_ble_eq_true rfl, Nat.le_of_ble_eq_true rfl⟩ (Nat.le_of_ble_eq_true rfl) dL_law_1883 (fun r4 h => ?_) ⟨by omega, by omega⟩
  refine v_iload 1 dL_law_1886 rfl ?_
  refine v_icmp_eq (tgt := 1893) dL_law_1888 rfl (fun c5 => ?_) (fun c5 => ?_)
  · have h := Ok.pos h c5
    refine v_iload 1 dL_law_1893 rfl ?_
    refine v_if_ne (tgt := 1909) dL_law_1895 rfl (fun c6 => ?_) (fun c6 => ?_)
    · have h := Ok.neg h c6
      refine v_goto (tgt := 3740) dL_law_1909 rfl ?_
      refine v_sub [2, 3, 4, 5, 6] rfl ?_
      have h := Ok.ret h
      exact h lc agr_rf _ _ (by omega) (by omega)
    · have h := Ok.pos h c6
      refine v_aload_n 5 dL_law_1898 rfl ?_
      refine v_iconst dL_law_1899 ic_0 ?_
      obtain ⟨g7, h⟩ := Ok.guard h
      refine lL_400 g7 dL_law_1900 ?_
      refine v_lload 0 dL_law_1901 rfl ?_
      refine v_lif_eq (tgt := 1909) dL_law_1903 dL_law_1904 rfl (fun c8 => ?_) (fun c8 => ?_)
      · have h := Ok.pos h c8
        refine v_goto (tgt := 3740) dL_law_1909 rfl ?_
        refine v_sub [2, 3, 4, 5, 6] rfl ?_
        have h := Ok.ret h
        exact h lc agr_rf _ _ (by omega) (by omega)
      · have h := Ok.neg h c8
        refine v_iconst dL_law_1907 ic_0 ?_
        exact Ok.stuck h
  · have h := Ok.neg h c5
    refine v_iconst dL_law_1891 ic_0 ?_
    exact Ok.stuck h
theorem cLw_offs {l : Launch} {D : va_G} {dA : Nat → ClassId} {A : Nat → Prop} {pz b L : Nat} {xs : Nat → Int32} {lc : Nat → Nat → Nat} {s : tt_SL} {cc : ByteArray} {nl : Nat} {rt : Option FieldType} {rm : Room} {tn : tt_Tn} {Q : tt_Fin} {pc : Nat} {lv : List (Nat × Value)} {rest : List Value} {ck cn : Nat} {x1 : Int32} {x2 : Int32} {x3 : Int32} {x4 : Int32} {K : Int32 × tt_SL → Prop} (h : Ok (wrapI (fT_offs s.1 x1 x2 x3 x4) s (cd3 none (some 1) none)) K) (hl9 : l.stackTraces = false) (hR : 11 + 1 ≤ rm.frames ∧ 8 + (7 + 11) + 208 ≤ rm.locals) (hW : (rest.map fun v => v.category).sum ≤ 8) (d : decode cc pc = .ok (.invokestatic 258, 3)) (kk : ∀ r, K r → ∀ lc', tt_agr (XL l D dA A pz b L xs) s lc lc' → tt_V (XL l D dA A pz b L xs) cc (RX0, nl, rt, rm, tn) Q (pc + 3) lv (.int r.1 :: rest) lc' r.2 (ck + 4) (cn + 24)) (hf : ck + 4 ≤ rm.cells ∧ cn + 24 ≤ rm.slots) : tt_V (XL l D dA A pz b L xs) cc (RX0, nl, rt, rm, tn) Q pc lv (.ref (lc 400 0) :: .int x4 :: .int x3 :: .int x2 :: .int x1 :: .ref (lc 0 0) :: rest) lc s ck cn :=
  v_callSW (nA := 6) (As := [.ref (lc 0 0), .int x1, .int x2, .int x3, .int x4, .ref (lc 400 0)]) (mL_offs l D dA A pz b L xs hl9 lc s x1 x2 x3 x4 (Q := (fun v lc' s' => ∃ r : Int32 × tt_SL, K r ∧ v = some (Value.int r.1) ∧ tt_agr (XL l D dA A pz b L xs) s lc lc' ∧ s' = r.2)) (h.mono fun r hr lc' ha => ⟨r, hr, rfl, ha, rfl⟩)) (lw_SW q1528 q1529 q126 q1530) (by decide +kernel) rfl hR hW hf d rfl (fun v lc' s' q => by obtain ⟨r, hr, e1, e2, e3⟩ := q; rw [e1, e3]; exact kk r hr lc' e2)
theorem cLm_offs {l : Launch} {D : va_G} {dA : Nat → ClassId} {A : Nat → Prop} {pz b L : Nat} {xs : Nat → Int32} {lc : Nat → Nat → Nat} {s : tt_SL} {cc : ByteArray} {nl : Nat} {rt : Option FieldType} {rm : Room} {tn : tt_Tn} {Q : tt_Fin} {pc : Nat} {lv : List (Nat × Value)} {rest : List Value} {ck cn : Nat} {x1 : Int32} {x2 : Int32} {x3 : Int32} {x4 : Int32} {K : Int32 × tt_St → Prop} (h : Ok (fM_offs s.2.1 x1 x2 x3 x4) K) (hR : 1 + 1 ≤ rm.frames ∧ 8 + (5 + 11) + 27 ≤ rm.locals) (hW : (rest.map fun v => v.category).sum ≤ 8) (d : decode cc pc = .ok (.invokevirtual 260, 3)) (kk : ∀ r, K r → tt_V (XL l D dA A pz b L xs) cc (RX0, nl, rt, rm, tn) Q (pc + 3) lv (.int r.1 :: rest) lc (s.1, r.2, s.2.2) (ck + 0) (cn + 0)) (hf : ck + 0 ≤ rm.cells ∧ cn + 0 ≤ rm.slots) : tt_V (XL l D dA A pz b L xs) cc (RX0, nl, rt, rm, tn) Q pc lv (.int x4 :: .int x3 :: .int x2 :: .int x1 :: .ref (lc 300 0) :: rest) lc s ck cn :=
  v_callV (kd := 300) (i := 0) (nA := 4) (As := [.int x1, .int x2, .int x3, .int x4]) lvL_300 oL_300 rfl (liftM (Q := (fun v lc' s' => ∃ r : Int32 × tt_St, K r ∧ v = some (Value.int r.1) ∧ lc' = lc ∧ s' = (s.1, r.2, s.2.2))) (mM_offs l (DM D) (dMd dA) (aLM lc s) (nTm lc) s.2.1 x1 x2 x3 x4 (Q := fun v lc' w => lc' = nTm lc ∧ (fun v lc' s' => ∃ r : Int32 × tt_St, K r ∧ v = some (Value.int r.1) ∧ lc' = lc ∧ s' = (s.1, r.2, s.2.2)) v lc (s.1, w, s.2.2)) (h.mono fun r hr => ⟨rfl, r, hr, rfl, rfl, rfl⟩))) (lw_V q2333 q2334 q2335 q154 q2336) (by decide +kernel) rfl hR hW hf d rfl (fun v lc' s' q => by obtain ⟨r, hr, e1, e2, e3⟩ := q; rw [e1, e2, e3]; exact kk r hr)
def fL_case_26 (L : Nat) (xs : Nat → Int32) (s : tt_SL) (x4 : Int32) : Option tt_SL :=
  if inB (x4 + (1 : Int32)) L then if inB (x4 + (2 : Int32)) L then if inB (x4 + (3 : Int32)) L then if inB (x4 + (4 : Int32)) L then (wrapI (fT_offs s.1 (xs ((x4 + (1 : Int32)).toNatClampNeg)) (xs ((x4 + (2 : Int32)).toNatClampNeg)) (xs ((x4 + (3 : Int32)).toNatClampNeg)) (xs ((x4 + (4 : Int32)).toNatClampNeg))) s (cd3 none (some 1) none)).bind fun r5 => (fM_offs r5.2.2.1 (xs ((x4 + (1 : Int32)).toNatClampNeg)) (xs ((x4 + (2 : Int32)).toNatClampNeg)) (xs ((x4 + (3 : Int32)).toNatClampNeg)) (xs ((x4 + (4 : Int32)).toNatClampNeg))).bind fun r6 => (fM_thrown (r5.2.1, r6.2, r5.2.2.2).2.1).bind fun r7 => if r7 = r5.1 then if r5.1 = 0 then if inB (0 : Int32) 1 then if (rdL (r5.2.1, r6.2, r5.2.2.2).2.2 0 0 ((0 : Int32).toNatClampNeg)) = r6.1.toInt64 then some (r5.2.1, r6.2, r5.2.2.2) else none else none else some (r5.2.1, r6.2, r5.2.2.2) else none else none else none else none else none
set_option maxHeartbeats 4000000 in
theorem lcase_26 {l : Launch} {D : va_G} {dA : Nat → ClassId} {A : Nat → Prop} {pz b L : Nat} {xs : Nat → Int32} (hl9 : l.stackTraces = false) {lc : Nat → Nat → Nat} {s : tt_SL} {x4 : Int32} {ck cn : Nat} {tn : tt_Tn} {Q : tt_Fin} (hk1 : ck + 60 ≤ room_1.cells) (hk2 : cn + 600 ≤ room_1.slots) (h : Ok (fL_case_26 L xs s x4) (fun r => ∀ lc', tt_agr (XL l D dA A pz b L xs) s lc lc' → ∀ ck' cn', ck' ≤ ck + 60 → cn' ≤ cn + 600 → tt_V (XL l D dA A pz b L xs) code (RX0, 8, ret, room_1, tn) Q 3740 [(0, .ref b), (1, .ref (lc' 0 0)), (2, .ref (lc' 300 0)), (3, .ref (lc' 400 0)), (4, .int x4)] [] lc' r ck' cn')) : tt_V (XL l D dA A pz b L xs) code (RX0, 8, ret, room_1, tn) Q 1968 [(0, .ref b), (1, .ref (lc 0 0)), (2, .ref (lc 300 0)), (3, .ref (lc 400 0)), (4, .int x4)] [] lc s ck cn := by
  unfold fL_case_26 at h
  refine v_aload_n 1 dL_law_1968 rfl ?_
  refine v_aload_n 0 dL_law_1969 rfl ?_
  refine v_iload 4 dL_law_1970 rfl ?_
  refine v_iconst dL_law_1972 ic_1 ?_
  refine v_iadd dL_law_1973 ?_
  obtain ⟨g1, h⟩ := Ok.guard h
  refine v_sld g1 dL_law_1974 ?_
  refine v_aload_n 0 dL_law_1975 rfl ?_
  refine v_iload 4 dL_law_1976 rfl ?_
  refine v_iconst dL_law_1978 ic_2 ?_
  refine v_iadd dL_law_1979 ?_
  obtain ⟨g2, h⟩ := Ok.guard h
  refine v_sld g2 dL_law_1980 ?_
  refine v_aload_n 0 dL_law_1981 rfl ?_
  refine v_iload 4 dL_law_1982 rfl ?_
  refine v_iconst dL_law_1984 ic_3 ?_
  refine v_iadd dL_law_1985 ?_
  obtain ⟨g3, h⟩ := Ok.guard h
  refine v_sld g3 dL_law_1986 ?_
  refine v_aload_n 0 dL_law_1987 rfl ?_
  refine v_iload 4 dL_law_1988 rfl ?_
  refine v_iconst dL_law_1990 ic_4 ?_
  refine v_iadd dL_law_1991 ?_
  obtain ⟨g4, h⟩ := Ok.guard h
  refine v_sld g4 dL_law_1992 ?_
  refine v_aload_n 3 dL_law_1993 rfl ?_
  refine cLw_offs (Ok.bind h) hl9 ⟨Nat.le_of_ble_eq_true rfl, Nat.le_of_ble_eq_true rfl⟩ (Nat.le_of_ble_eq_true rfl) dL_law_1994 (fun r5 h lc hc => ?_) ⟨by omega, by omega⟩
  rw [← hc 0 0 (.inl lvL_0)]
  rw [← hc 300 0 (.inl lvL_300)]
  rw [← hc 400 0 (.inl lvL_400)]
  have h := Ok.agr h hc (fun _ _ h => h)
  refine v_istore [(5, .int r5.1), (0, .ref b), (1, .ref (lc 0 0)), (2, .ref (lc 300 0)), (3, .ref (lc 400 0)), (4, .int x4)] dL_law_1997 (Nat.le_of_ble_eq_true rfl) rfl ?_
  refine v_aload_n 3 dL_law_1999 rfl ?_
  refine v_aload_n 1 dL_law_2000 rfl ?_
  refine v_iload 5 dL_law_2001 rfl ?_
  refine v_iconst dL_law_2003 ic_1 ?_
  refine v_iadd dL_law_2004 ?_
  refine v_sld g1 dL_law_2005 ?_
  refine v_aload_n 1 dL_law_2006 rfl ?_
  refine v_iload 5 dL_law_2007 rfl ?_
  refine v_iconst dL_law_2009 ic_2 ?_
  refine v_iadd dL_law_2010 ?_
  refine v_sld g2 dL_law_2011 ?_
  refine v_aload_n 1 dL_law_2012 rfl ?_
  refine v_iload 5 dL_law_2013 rfl ?_
  refine v_iconst dL_law_2015 ic_3 ?_
  refine v_iadd dL_law_2016 ?_
  refine v_sld g3 dL_law_2017 ?_
  refine v_aload_n 1 dL_law_2018 rfl ?_
  refine v_iload 5 dL_law_2019 rfl ?_
  refine v_iconst dL_law_2021 ic_4 ?_
  refine v_iadd dL_law_2022 ?_
  refine v_sld g4 dL_law_2023 ?_
  refine cLm_offs (Ok.bind h) ⟨Nat.le_of_ble_eq_true rfl, Nat.le_of_ble_eq_true rfl⟩ (Nat.le_of_ble_eq_true rfl) dL_law_2024 (fun r6 h => ?_) ⟨by omega, by omega⟩
  refine v_istore [(6, .int r6.1), (5, .int r5.1), (0, .ref b), (1, .ref (lc 0 0)), (2, .ref (lc 300 0)), (3, .ref (lc 400 0)), (4, .int x4)] dL_law_2027 (Nat.le_of_ble_eq_true rfl) rfl ?_
  refine v_aload_n 4 dL_law_2029 rfl ?_
  refine cLm_thrown (Ok.bind h) ⟨Nat.le_of_ble_eq_true rfl, Nat.le_of_ble_eq_true rfl⟩ (Nat.le_of_ble_eq_true rfl) dL_law_2030 (fun r7 h => ?_) ⟨by omega, by omega⟩
  refine v_iload 1 dL_law_2033 rfl ?_
  refine v_icmp_eq (tgt := 2040) dL_law_2035 rfl (fun c8 => ?_) (fun c8 => ?_)
  · have h := Ok.pos h c8
    refine v_iload 1 dL_law_2040 rfl ?_
    refine v_if_ne (tgt := 2057) dL_law_2042 rfl (fun c9 => ?_) (fun c9 => ?_)
    · have h := Ok.neg h c9
      refine v_goto (tgt := 3740) dL_law_2057 rfl ?_
      refine v_sub [2, 3, 4, 5, 6] rfl ?_
      have h := Ok.ret h
      exact h lc agr_rf _ _ (by omega) (by omega)
    · have h := Ok.pos h c9
      refine v_aload_n 5 dL_law_2045 rfl ?_
      refine v_iconst dL_law_2046 ic_0 ?_
      obtain ⟨g10, h⟩ := Ok.guard h
      refine lL_400 g10 dL_law_2047 ?_
      refine v_iload 0 dL_law_2048 rfl ?_
      refine v_i2l dL_law_2050 rfl ?_
      refine v_lif_eq (tgt := 2057) dL_law_2051 dL_law_2052 rfl (fun c11 => ?_) (fun c11 => ?_)
      · have h := Ok.pos h c11
        refine v_goto (tgt := 3740) dL_law_2057 rfl ?_
        refine v_sub [2, 3, 4, 5, 6] rfl ?_
        have h := Ok.ret h
        exact h lc agr_rf _ _ (by omega) (by omega)
      · have h := Ok.neg h c11
        refine v_iconst dL_law_2055 ic_0 ?_
        exact Ok.stuck h
  · have h := Ok.neg h c8
    refine v_iconst dL_law_2038 ic_0 ?_
    exact Ok.stuck h
theorem cLw_would {l : Launch} {D : va_G} {dA : Nat → ClassId} {A : Nat → Prop} {pz b L : Nat} {xs : Nat → Int32} {lc : Nat → Nat → Nat} {s : tt_SL} {cc : ByteArray} {nl : Nat} {rt : Option FieldType} {rm : Room} {tn : tt_Tn} {Q : tt_Fin} {pc : Nat} {lv : List (Nat × Value)} {rest : List Value} {ck cn : Nat} {x1 : Int32} {x2 : Int32} {x3 : Int32} {x4 : Int32} {x5 : Int32} {K : Int32 × tt_SL → Prop} (h : Ok (wrapL (fT_would s.1 x1 x2 x3 x4 x5) s (cd3 none (some 1) none)) K) (hl9 : l.stackTraces = false) (hR : 14 + 1 ≤ rm.frames ∧ 8 + (8 + 11) + 333 ≤ rm.locals) (hW : (rest.map fun v => v.category).sum ≤ 8) (d : decode cc pc = .ok (.invokestatic 261, 3)) (kk : ∀ r, K r → ∀ lc', tt_agr (XL l D dA A pz b L xs) s lc lc' → tt_V (XL l D dA A pz b L xs) cc (RX0, nl, rt, rm, tn) Q (pc + 3) lv (.int r.1 :: rest) lc' r.2 (ck + 5) (cn + 30)) (hf : ck + 5 ≤ rm.cells ∧ cn + 30 ≤ rm.slots) : tt_V (XL l D dA A pz b L xs) cc (RX0, nl, rt, rm, tn) Q pc lv (.ref (lc 400 0) :: .int x5 :: .int x4 :: .int x3 :: .int x2 :: .int x1 :: .ref (lc 0 0) :: rest) lc s ck cn :=
  v_callSW (nA := 7) (As := [.ref (lc 0 0), .int x1, .int x2, .int x3, .int x4, .int x5, .ref (lc 400 0)]) (mL_would l D dA A pz b L xs hl9 lc s x1 x2 x3 x4 x5 (Q := (fun v lc' s' => ∃ r : Int32 × tt_SL, K r ∧ v = some (Value.int r.1) ∧ tt_agr (XL l D dA A pz b L xs) s lc lc' ∧ s' = r.2)) (h.mono fun r hr lc' ha => ⟨r, hr, rfl, ha, rfl⟩)) (lw_SW q1542 q1543 q126 q1544) (by decide +kernel) rfl hR hW hf d rfl (fun v lc' s' q => by obtain ⟨r, hr, e1, e2, e3⟩ := q; rw [e1, e3]; exact kk r hr lc' e2)
theorem cLm_would {l : Launch} {D : va_G} {dA : Nat → ClassId} {A : Nat → Prop} {pz b L : Nat} {xs : Nat → Int32} {lc : Nat → Nat → Nat} {s : tt_SL} {cc : ByteArray} {nl : Nat} {rt : Option FieldType} {rm : Room} {tn : tt_Tn} {Q : tt_Fin} {pc : Nat} {lv : List (Nat × Value)} {rest : List Value} {ck cn : Nat} {x1 : Int32} {x2 : Int32} {x3 : Int32} {x4 : Int32} {x5 : Int32} {K : Int64 × tt_St → Prop} (h : Ok (fM_would s.2.1 x1 x2 x3 x4 x5) K) (hR : 11 + 1 ≤ rm.frames ∧ 8 + (8 + 11) + 254 ≤ rm.locals) (hW : (rest.map fun v => v.category).sum ≤ 8) (d : decode cc pc = .ok (.invokevirtual 264, 3)) (kk : ∀ r, K r → tt_V (XL l D dA A pz b L xs) cc (RX0, nl, rt, rm, tn) Q (pc + 3) lv (.long r.1 :: rest) lc (s.1, r.2, s.2.2) (ck + 0) (cn + 0)) (hf : ck + 0 ≤ rm.cells ∧ cn + 0 ≤ rm.slots) : tt_V (XL l D dA A pz b L xs) cc (RX0, nl, rt, rm, tn) Q pc lv (.int x5 :: .int x4 :: .int x3 :: .int x2 :: .int x1 :: .ref (lc 300 0) :: rest) lc s ck cn :=
  v_callV (kd := 300) (i := 0) (nA := 5) (As := [.int x1, .int x2, .int x3, .int x4, .int x5]) lvL_300 oL_300 rfl (liftM (Q := (fun v lc' s' => ∃ r : Int64 × tt_St, K r ∧ v = some (Value.long r.1) ∧ lc' = lc ∧ s' = (s.1, r.2, s.2.2))) (mM_would l (DM D) (dMd dA) (aLM lc s) (nTm lc) s.2.1 x1 x2 x3 x4 x5 (Q := fun v lc' w => lc' = nTm lc ∧ (fun v lc' s' => ∃ r : Int64 × tt_St, K r ∧ v = some (Value.long r.1) ∧ lc' = lc ∧ s' = (s.1, r.2, s.2.2)) v lc (s.1, w, s.2.2)) (h.mono fun r hr => ⟨rfl, r, hr, rfl, rfl, rfl⟩))) (lw_V q2337 q2338 q2339 q154 q2340) (by decide +kernel) rfl hR hW hf d rfl (fun v lc' s' q => by obtain ⟨r, hr, e1, e2, e3⟩ := q; rw [e1, e2, e3]; exact kk r hr)
def fL_case_27 (L : Nat) (xs : Nat → Int32) (s : tt_SL) (x4 : Int32) : Option tt_SL :=
  if inB (x4 + (1 : Int32)) L then if inB (x4 + (2 : Int32)) L then if inB (x4 + (3 : Int32)) L then if inB (x4 + (4 : Int32)) L then if inB (x4 + (5 : Int32)) L then (wrapL (fT_would s.1 (xs ((x4 + (1 : Int32)).toNatClampNeg)) (xs ((x4 + (2 : Int32)).toNatClampNeg)) (xs ((x4 + (3 : Int32)).toNatClampNeg)) (xs ((x4 + (4 : Int32)).toNatClampNeg)) (xs ((x4 + (5 : Int32)).toNatClampNeg))) s (cd3 none (some 1) none)).bind fun r6 => (fM_would r6.2.2.1 (xs ((x4 + (1 : Int32)).toNatClampNeg)) (xs ((x4 + (2 : Int32)).toNatClampNeg)) (xs ((x4 + (3 : Int32)).toNatClampNeg)) (xs ((x4 + (4 : Int32)).toNatClampNeg)) (xs ((x4 + (5 : Int32)).toNatClampNeg))).bind fun r7 => (fM_thrown (r6.2.1, r7.2, r6.2.2.2).2.1).bind fun r8 => if r8 = r6.1 then if r6.1 = 0 then if inB (0 : Int32) 1 then if (rdL (r6.2.1, r7.2, r6.2.2.2).2.2 0 0 ((0 : Int32).toNatClampNeg)) = r7.1 then some (r6.2.1, r7.2, r6.2.2.2) else none else none else some (r6.2.1, r7.2, r6.2.2.2) else none else none else none else none else none else none
set_option maxHeartbeats 4000000 in
theorem lcase_27 {l : Launch} {D : va_G} {dA : Nat → ClassId} {A : Nat → Prop} {pz b L : Nat} {xs : Nat → Int32} (hl9 : l.stackTraces = false) {lc : Nat → Nat → Nat} {s : tt_SL} {x4 : Int32} {ck cn : Nat} {tn : tt_Tn} {Q : tt_Fin} (hk1 : ck + 60 ≤ room_1.cells) (hk2 : cn + 600 ≤ room_1.slots) (h : Ok (fL_case_27 L xs s x4) (fun r => ∀ lc', tt_agr (XL l D dA A pz b L xs) s lc lc' → ∀ ck' cn', ck' ≤ ck + 60 → cn' ≤ cn + 600 → tt_V (XL l D dA A pz b L xs) code (RX0, 8, ret, room_1, tn) Q 3740 [(0, .ref b), (1, .ref (lc' 0 0)), (2, .ref (lc' 300 0)), (3, .ref (lc' 400 0)), (4, .int x4)] [] lc' r ck' cn')) : tt_V (XL l D dA A pz b L xs) code (RX0, 8, ret, room_1, tn) Q 2060 [(0, .ref b), (1, .ref (lc 0 0)), (2, .ref (lc 300 0)), (3, .ref (lc 400 0)), (4, .int x4)] [] lc s ck cn := by
  unfold fL_case_27 at h
  refine v_aload_n 1 dL_law_2060 rfl ?_
  refine v_aload_n 0 dL_law_2061 rfl ?_
  refine v_iload 4 dL_law_2062 rfl ?_
  refine v_iconst dL_law_2064 ic_1 ?_
  refine v_iadd dL_law_2065 ?_
  obtain ⟨g1, h⟩ := Ok.guard h
  refine v_sld g1 dL_law_2066 ?_
  refine v_aload_n 0 dL_law_2067 rfl ?_
  refine v_iload 4 dL_law_2068 rfl ?_
  refine v_iconst dL_law_2070 ic_2 ?_
  refine v_iadd dL_law_2071 ?_
  obtain ⟨g2, h⟩ := Ok.guard h
  refine v_sld g2 dL_law_2072 ?_
  refine v_aload_n 0 dL_law_2073 rfl ?_
  refine v_iload 4 dL_law_2074 rfl ?_
  refine v_iconst dL_law_2076 ic_3 ?_
  refine v_iadd dL_law_2077 ?_
  obtain ⟨g3, h⟩ := Ok.guard h
  refine v_sld g3 dL_law_2078 ?_
  refine v_aload_n 0 dL_law_2079 rfl ?_
  refine v_iload 4 dL_law_2080 rfl ?_
  refine v_iconst dL_law_2082 ic_4 ?_
  refine v_iadd dL_law_2083 ?_
  obtain ⟨g4, h⟩ := Ok.guard h
  refine v_sld g4 dL_law_2084 ?_
  refine v_aload_n 0 dL_law_2085 rfl ?_
  refine v_iload 4 dL_law_2086 rfl ?_
  refine v_iconst dL_law_2088 ic_5 ?_
  refine v_iadd dL_law_2089 ?_
  obtain ⟨g5, h⟩ := Ok.guard h
  refine v_sld g5 dL_law_2090 ?_
  refine v_aload_n 3 dL_law_2091 rfl ?_
  refine cLw_would (Ok.bind h) hl9 ⟨Nat.le_of_ble_eq_true rfl, Nat.le_of_ble_eq_true rfl⟩ (Nat.le_of_ble_eq_true rfl) dL_law_2092 (fun r6 h lc hc => ?_) ⟨by omega, by omega⟩
  rw [← hc 0 0 (.inl lvL_0)]
  rw [← hc 300 0 (.inl lvL_300)]
  rw [← hc 400 0 (.inl lvL_400)]
  have h := Ok.agr h hc (fun _ _ h => h)
  refine v_istore [(5, .int r6.1), (0, .ref b), (1, .ref (lc 0 0)), (2, .ref (lc 300 0)), (3, .ref (lc 400 0)), (4, .int x4)] dL_law_2095 (Nat.le_of_ble_eq_true rfl) rfl ?_
  refine v_aload_n 3 dL_law_2097 rfl ?_
  refine v_aload_n 1 dL_law_2098 rfl ?_
  refine v_iload 5 dL_law_2099 rfl ?_
  refine v_iconst dL_law_2101 ic_1 ?_
  refine v_iadd dL_law_2102 ?_
  refine v_sld g1 dL_law_2103 ?_
  refine v_aload_n 1 dL_law_2104 rfl ?_
  refine v_iload 5 dL_law_2105 rfl ?_
  refine v_iconst dL_law_2107 ic_2 ?_
  refine v_iadd dL_law_2108 ?_
  refine v_sld g2 dL_law_2109 ?_
  refine v_aload_n 1 dL_law_2110 rfl ?_
  refine v_iload 5 dL_law_2111 rfl ?_
  refine v_iconst dL_law_2113 ic_3 ?_
  refine v_iadd dL_law_2114 ?_
  refine v_sld g3 dL_law_2115 ?_
  refine v_aload_n 1 dL_law_2116 rfl ?_
  refine v_iload 5 dL_law_2117 rfl ?_
  refine v_iconst dL_law_2119 ic_4 ?_
  refine v_iadd dL_law_2120 ?_
  refine v_sld g4 dL_law_2121 ?_
  refine v_aload_n 1 dL_law_2122 rfl ?_
  refine v_iload 5 dL_law_2123 rfl ?_
  refine v_iconst dL_law_2125 ic_5 ?_
  refine v_iadd dL_law_2126 ?_
  refine v_sld g5 dL_law_2127 ?_
  refine cLm_would (Ok.bind h) ⟨Nat.le_of_ble_eq_true rfl, Nat.le_of_ble_eq_true rfl⟩ (Nat.le_of_ble_eq_true rfl) dL_law_2128 (fun r7 h => ?_) ⟨by omega, by omega⟩
  refine v_lstore [(6, .long r7.1), (5, .int r6.1), (0, .ref b), (1, .ref (lc 0 0)), (2, .ref (lc 300 0)), (3, .ref (lc 400 0)), (4, .int x4)] dL_law_2131 (Nat.le_of_ble_eq_true rfl) rfl ?_
  refine v_aload_n 4 dL_law_2133 rfl ?_
  refine cLm_thrown (Ok.bind h) ⟨Nat.le_of_ble_eq_true rfl, Nat.le_of_ble_eq_true rfl⟩ (Nat.le_of_ble_eq_true rfl) dL_law_2134 (fun r8 h => ?_) ⟨by omega, by omega⟩
  refine v_iload 1 dL_law_2137 rfl ?_
  refine v_icmp_eq (tgt := 2144) dL_law_2139 rfl (fun c9 => ?_) (fun c9 => ?_)
  · have h := Ok.pos h c9
    refine v_iload 1 dL_law_2144 rfl ?_
    refine v_if_ne (tgt := 2160) dL_law_2146 rfl (fun c10 => ?_) (fun c10 => ?_)
    · have h := Ok.neg h c10
      refine v_goto (tgt := 3740) dL_law_2160 rfl ?_
      refine v_sub [2, 3, 4, 5, 6] rfl ?_
      have h := Ok.ret h
      exact h lc agr_rf _ _ (by omega) (by omega)
    · have h := Ok.pos h c10
      refine v_aload_n 5 dL_law_2149 rfl ?_
      refine v_iconst dL_law_2150 ic_0 ?_
      obtain ⟨g11, h⟩ := Ok.guard h
      refine lL_400 g11 dL_law_2151 ?_
      refine v_lload 0 dL_law_2152 rfl ?_
      refine v_lif_eq (tgt := 2160) dL_law_2154 dL_law_2155 rfl (fun c12 => ?_) (fun c12 => ?_)
      · have h := Ok.pos h c12
        refine v_goto (tgt := 3740) dL_law_2160 rfl ?_
        refine v_sub [2, 3, 4, 5, 6] rfl ?_
        have h := Ok.ret h
        exact h lc agr_rf _ _ (by omega) (by omega)
      · have h := Ok.neg h c12
        refine v_iconst dL_law_2158 ic_0 ?_
        exact Ok.stuck h
  · have h := Ok.neg h c9
    refine v_iconst dL_law_2142 ic_0 ?_
    exact Ok.stuck h
theorem cLw_takes {l : Launch} {D : va_G} {dA : Nat → ClassId} {A : Nat → Prop} {pz b L : Nat} {xs : Nat → Int32} {lc : Nat → Nat → Nat} {s : tt_SL} {cc : ByteArray} {nl : Nat} {rt : Option FieldType} {rm : Room} {tn : tt_Tn} {Q : tt_Fin} {pc : Nat} {lv : List (Nat × Value)} {rest : List Value} {ck cn : Nat} {x1 : Int32} {x2 : Int32} {x3 : Int32} {x4 : Int32} {x5 : Int32} {K : Int32 × tt_SL → Prop} (h : Ok (wrapL (fT_takes s.1 x1 x2 x3 x4 x5) s (cd3 (some 1) (some 2) none)) K) (hl9 : l.stackTraces = false) (hR : 14 + 1 ≤ rm.frames ∧ 8 + (8 + 11) + 333 ≤ rm.locals) (hW : (rest.map fun v => v.category).sum ≤ 8) (d : decode cc pc = .ok (.invokestatic 265, 3)) (kk : ∀ r, K r → ∀ lc', tt_agr (XL l D dA A pz b L xs) s lc lc' → tt_V (XL l D dA A pz b L xs) cc (RX0, nl, rt, rm, tn) Q (pc + 3) lv (.int r.1 :: rest) lc' r.2 (ck + 5) (cn + 30)) (hf : ck + 5 ≤ rm.cells ∧ cn + 30 ≤ rm.slots) : tt_V (XL l D dA A pz b L xs) cc (RX0, nl, rt, rm, tn) Q pc lv (.ref (lc 400 0) :: .int x5 :: .int x4 :: .int x3 :: .int x2 :: .int x1 :: .ref (lc 0 0) :: rest) lc s ck cn :=
  v_callSW (nA := 7) (As := [.ref (lc 0 0), .int x1, .int x2, .int x3, .int x4, .int x5, .ref (lc 400 0)]) (mL_takes l D dA A pz b L xs hl9 lc s x1 x2 x3 x4 x5 (Q := (fun v lc' s' => ∃ r : Int32 × tt_SL, K r ∧ v = some (Value.int r.1) ∧ tt_agr (XL l D dA A pz b L xs) s lc lc' ∧ s' = r.2)) (h.mono fun r hr lc' ha => ⟨r, hr, rfl, ha, rfl⟩)) (lw_SW q1562 q1563 q126 q1564) (by decide +kernel) rfl hR hW hf d rfl (fun v lc' s' q => by obtain ⟨r, hr, e1, e2, e3⟩ := q; rw [e1, e3]; exact kk r hr lc' e2)
theorem cLm_takes {l : Launch} {D : va_G} {dA : Nat → ClassId} {A : Nat → Prop} {pz b L : Nat} {xs : Nat → Int32} {lc : Nat → Nat → Nat} {s : tt_SL} {cc : ByteArray} {nl : Nat} {rt : Option FieldType} {rm : Room} {tn : tt_Tn} {Q : tt_Fin} {pc : Nat} {lv : List (Nat × Value)} {rest : List Value} {ck cn : Nat} {x1 : Int32} {x2 : Int32} {x3 : Int32} {x4 : Int32} {x5 : Int32} {K : Int64 × tt_St → Prop} (h : Ok (fM_takes s.2.1 x1 x2 x3 x4 x5) K) (hR : 11 + 1 ≤ rm.frames ∧ 8 + (8 + 11) + 254 ≤ rm.locals) (hW : (rest.map fun v => v.category).sum ≤ 8) (d : decode cc pc = .ok (.invokevirtual 267, 3)) (kk : ∀ r, K r → tt_V (XL l D dA A pz b L xs) cc (RX0, nl, rt, rm, tn) Q (pc + 3) lv (.long r.1 :: rest) lc (s.1, r.2, s.2.2) (ck + 0) (cn + 0)) (hf : ck + 0 ≤ rm.cells ∧ cn + 0 ≤ rm.slots) : tt_V (XL l D dA A pz b L xs) cc (RX0, nl, rt, rm, tn) Q pc lv (.int x5 :: .int x4 :: .int x3 :: .int x2 :: .int x1 :: .ref (lc 300 0) :: rest) lc s ck cn :=
  v_callV (kd := 300) (i := 0) (nA := 5) (As := [.int x1, .int x2, .int x3, .int x4, .int x5]) lvL_300 oL_300 rfl (liftM (Q := (fun v lc' s' => ∃ r : Int64 × tt_St, K r ∧ v = some (Value.long r.1) ∧ lc' = lc ∧ s' = (s.1, r.2, s.2.2))) (mM_takes l (DM D) (dMd dA) (aLM lc s) (nTm lc) s.2.1 x1 x2 x3 x4 x5 (Q := fun v lc' w => lc' = nTm lc ∧ (fun v lc' s' => ∃ r : Int64 × tt_St, K r ∧ v = some (Value.long r.1) ∧ lc' = lc ∧ s' = (s.1, r.2, s.2.2)) v lc (s.1, w, s.2.2)) (h.mono fun r hr => ⟨rfl, r, hr, rfl, rfl, rfl⟩))) (lw_V q2349 q2350 q2351 q154 q2352) (by decide +kernel) rfl hR hW hf d rfl (fun v lc' s' q => by obtain ⟨r, hr, e1, e2, e3⟩ := q; rw [e1, e2, e3]; exact kk r hr)
def fL_case_28 (L : Nat) (xs : Nat → Int32) (s : tt_SL) (x4 : Int32) : Option tt_SL :=
  if inB (x4 + (1 : Int32)) L then if inB (x4 + (2 : Int32)) L then if inB (x4 + (3 : Int32)) L then if inB (x4 + (4 : Int32)) L then if inB (x4 + (5 : Int32)) L then (wrapL (fT_takes s.1 (xs ((x4 + (1 : Int32)).toNatClampNeg)) (xs ((x4 + (2 : Int32)).toNatClampNeg)) (xs ((x4 + (3 : Int32)).toNatClampNeg)) (xs ((x4 + (4 : Int32)).toNatClampNeg)) (xs ((x4 + (5 : Int32)).toNatClampNeg))) s (cd3 (some 1) (some 2) none)).bind fun r6 => (fM_takes r6.2.2.1 (xs ((x4 + (1 : Int32)).toNatClampNeg)) (xs ((x4 + (2 : Int32)).toNatClampNeg)) (xs ((x4 + (3 : Int32)).toNatClampNeg)) (xs ((x4 + (4 : Int32)).toNatClampNeg)) (xs ((x4 + (5 : Int32)).toNatClampNeg))).bind fun r7 => (fM_thrown (r6.2.1, r7.2, r6.2.2.2).2.1).bind fun r8 => if r8 = r6.1 then if r6.1 = 0 then if inB (0 : Int32) 1 then if (rdL (r6.2.1, r7.2, r6.2.2.2).2.2 0 0 ((0 : Int32).toNatClampNeg)) = r7.1 then some (r6.2.1, r7.2, r6.2.2.2) else none else none else some (r6.2.1, r7.2, r6.2.2.2) else none else none else none else none else none else none
set_option maxHeartbeats 4000000 in
theorem lcase_28 {l : Launch} {D : va_G} {dA : Nat → ClassId} {A : Nat → Prop} {pz b L : Nat} {xs : Nat → Int32} (hl9 : l.stackTraces = false) {lc : Nat → Nat → Nat} {s : tt_SL} {x4 : Int32} {ck cn : Nat} {tn : tt_Tn} {Q : tt_Fin} (hk1 : ck + 60 ≤ room_1.cells) (hk2 : cn + 600 ≤ room_1.slots) (h : Ok (fL_case_28 L xs s x4) (fun r => ∀ lc', tt_agr (XL l D dA A pz b L xs) s lc lc' → ∀ ck' cn', ck' ≤ ck + 60 → cn' ≤ cn + 600 → tt_V (XL l D dA A pz b L xs) code (RX0, 8, ret, room_1, tn) Q 3740 [(0, .ref b), (1, .ref (lc' 0 0)), (2, .ref (lc' 300 0)), (3, .ref (lc' 400 0)), (4, .int x4)] [] lc' r ck' cn')) : tt_V (XL l D dA A pz b L xs) code (RX0, 8, ret, room_1, tn) Q 2163 [(0, .ref b), (1, .ref (lc 0 0)), (2, .ref (lc 300 0)), (3, .ref (lc 400 0)), (4, .int x4)] [] lc s ck cn := by
  unfold fL_case_28 at h
  refine v_aload_n 1 dL_law_2163 rfl ?_
  refine v_aload_n 0 dL_law_2164 rfl ?_
  refine v_iload 4 dL_law_2165 rfl ?_
  refine v_iconst dL_law_2167 ic_1 ?_
  refine v_iadd dL_law_2168 ?_
  obtain ⟨g1, h⟩ := Ok.guard h
  refine v_sld g1 dL_law_2169 ?_
  refine v_aload_n 0 dL_law_2170 rfl ?_
  refine v_iload 4 dL_law_2171 rfl ?_
  refine v_iconst dL_law_2173 ic_2 ?_
  refine v_iadd dL_law_2174 ?_
  obtain ⟨g2, h⟩ := Ok.guard h
  refine v_sld g2 dL_law_2175 ?_
  refine v_aload_n 0 dL_law_2176 rfl ?_
  refine v_iload 4 dL_law_2177 rfl ?_
  refine v_iconst dL_law_2179 ic_3 ?_
  refine v_iadd dL_law_2180 ?_
  obtain ⟨g3, h⟩ := Ok.guard h
  refine v_sld g3 dL_law_2181 ?_
  refine v_aload_n 0 dL_law_2182 rfl ?_
  refine v_iload 4 dL_law_2183 rfl ?_
  refine v_iconst dL_law_2185 ic_4 ?_
  refine v_iadd dL_law_2186 ?_
  obtain ⟨g4, h⟩ := Ok.guard h
  refine v_sld g4 dL_law_2187 ?_
  refine v_aload_n 0 dL_law_2188 rfl ?_
  refine v_iload 4 dL_law_2189 rfl ?_
  refine v_iconst dL_law_2191 ic_5 ?_
  refine v_iadd dL_law_2192 ?_
  obtain ⟨g5, h⟩ := Ok.guard h
  refine v_sld g5 dL_law_2193 ?_
  refine v_aload_n 3 dL_law_2194 rfl ?_
  refine cLw_takes (Ok.bind h) hl9 ⟨Nat.le_of_ble_eq_true rfl, Nat.le_of_ble_eq_true rfl⟩ (Nat.le_of_ble_eq_true rfl) dL_law_2195 (fun r6 h lc hc => ?_) ⟨by omega, by omega⟩
  rw [← hc 0 0 (.inl lvL_0)]
  rw [← hc 300 0 (.inl lvL_300)]
  rw [← hc 400 0 (.inl lvL_400)]
  have h := Ok.agr h hc (fun _ _ h => h)
  refine v_istore [(5, .int r6.1), (0, .ref b), (1, .ref (lc 0 0)), (2, .ref (lc 300 0)), (3, .ref (lc 400 0)), (4, .int x4)] dL_law_2198 (Nat.le_of_ble_eq_true rfl) rfl ?_
  refine v_aload_n 3 dL_law_2200 rfl ?_
  refine v_aload_n 1 dL_law_2201 rfl ?_
  refine v_iload 5 dL_law_2202 rfl ?_
  refine v_iconst dL_law_2204 ic_1 ?_
  refine v_iadd dL_law_2205 ?_
  refine v_sld g1 dL_law_2206 ?_
  refine v_aload_n 1 dL_law_2207 rfl ?_
  refine v_iload 5 dL_law_2208 rfl ?_
  refine v_iconst dL_law_2210 ic_2 ?_
  refine v_iadd dL_law_2211 ?_
  refine v_sld g2 dL_law_2212 ?_
  refine v_aload_n 1 dL_law_2213 rfl ?_
  refine v_iload 5 dL_law_2214 rfl ?_
  refine v_iconst dL_law_2216 ic_3 ?_
  refine v_iadd dL_law_2217 ?_
  refine v_sld g3 dL_law_2218 ?_
  refine v_aload_n 1 dL_law_2219 rfl ?_
  refine v_iload 5 dL_law_2220 rfl ?_
  refine v_iconst dL_law_2222 ic_4 ?_
  refine v_iadd dL_law_2223 ?_
  refine v_sld g4 dL_law_2224 ?_
  refine v_aload_n 1 dL_law_2225 rfl ?_
  refine v_iload 5 dL_law_2226 rfl ?_
  refine v_iconst dL_law_2228 ic_5 ?_
  refine v_iadd dL_law_2229 ?_
  refine v_sld g5 dL_law_2230 ?_
  refine cLm_takes (Ok.bind h) ⟨Nat.le_of_ble_eq_true rfl, Nat.le_of_ble_eq_true rfl⟩ (Nat.le_of_ble_eq_true rfl) dL_law_2231 (fun r7 h => ?_) ⟨by omega, by omega⟩
  refine v_lstore [(6, .long r7.1), (5, .int r6.1), (0, .ref b), (1, .ref (lc 0 0)), (2, .ref (lc 300 0)), (3, .ref (lc 400 0)), (4, .int x4)] dL_law_2234 (Nat.le_of_ble_eq_true rfl) rfl ?_
  refine v_aload_n 4 dL_law_2236 rfl ?_
  refine cLm_thrown (Ok.bind h) ⟨Nat.le_of_ble_eq_true rfl, Nat.le_of_ble_eq_true rfl⟩ (Nat.le_of_ble_eq_true rfl) dL_law_2237 (fun r8 h => ?_) ⟨by omega, by omega⟩
  refine v_iload 1 dL_law_2240 rfl ?_
  refine v_icmp_eq (tgt := 2247) dL_law_2242 rfl (fun c9 => ?_) (fun c9 => ?_)
  · have h := Ok.pos h c9
    refine v_iload 1 dL_law_2247 rfl ?_
    refine v_if_ne (tgt := 2263) dL_law_2249 rfl (fun c10 => ?_) (fun c10 => ?_)
    · have h := Ok.neg h c10
      refine v_goto (tgt := 3740) dL_law_2263 rfl ?_
      refine v_sub [2, 3, 4, 5, 6] rfl ?_
      have h := Ok.ret h
      exact h lc agr_rf _ _ (by omega) (by omega)
    · have h := Ok.pos h c10
      refine v_aload_n 5 dL_law_2252 rfl ?_
      refine v_iconst dL_law_2253 ic_0 ?_
      obtain ⟨g11, h⟩ := Ok.guard h
      refine lL_400 g11 dL_law_2254 ?_
      refine v_lload 0 dL_law_2255 rfl ?_
      refine v_lif_eq (tgt := 2263) dL_law_2257 dL_law_2258 rfl (fun c12 => ?_) (fun c12 => ?_)
      · have h := Ok.pos h c12
        refine v_goto (tgt := 3740) dL_law_2263 rfl ?_
        refine v_sub [2, 3, 4, 5, 6] rfl ?_
        have h := Ok.ret h
        exact h lc agr_rf _ _ (by omega) (by omega)
      · have h := Ok.neg h c12
        refine v_iconst dL_law_2261 ic_0 ?_
        exact Ok.stuck h
  · have h := Ok.neg h c9
    refine v_iconst dL_law_2245 ic_0 ?_
    exact Ok.stuck h
theorem cLw_drops {l : Launch} {D : va_G} {dA : Nat → ClassId} {A : Nat → Prop} {pz b L : Nat} {xs : Nat → Int32} {lc : Nat → Nat → Nat} {s : tt_SL} {cc : ByteArray} {nl : Nat} {rt : Option FieldType} {rm : Room} {tn : tt_Tn} {Q : tt_Fin} {pc : Nat} {lv : List (Nat × Value)} {rest : List Value} {ck cn : Nat} {x1 : Int32} {x2 : Int32} {x3 : Int32} {x4 : Int32} {x5 : Int32} {K : Int32 × tt_SL → Prop} (h : Ok (wrapL (fT_drops s.1 x1 x2 x3 x4 x5) s (cd3 none (some 1) none)) K) (hl9 : l.stackTraces = false) (hR : 14 + 1 ≤ rm.frames ∧ 8 + (8 + 11) + 333 ≤ rm.locals) (hW : (rest.map fun v => v.category).sum ≤ 8) (d : decode cc pc = .ok (.invokestatic 268, 3)) (kk : ∀ r, K r → ∀ lc', tt_agr (XL l D dA A pz b L xs) s lc lc' → tt_V (XL l D dA A pz b L xs) cc (RX0, nl, rt, rm, tn) Q (pc + 3) lv (.int r.1 :: rest) lc' r.2 (ck + 5) (cn + 30)) (hf : ck + 5 ≤ rm.cells ∧ cn + 30 ≤ rm.slots) : tt_V (XL l D dA A pz b L xs) cc (RX0, nl, rt, rm, tn) Q pc lv (.ref (lc 400 0) :: .int x5 :: .int x4 :: .int x3 :: .int x2 :: .int x1 :: .ref (lc 0 0) :: rest) lc s ck cn :=
  v_callSW (nA := 7) (As := [.ref (lc 0 0), .int x1, .int x2, .int x3, .int x4, .int x5, .ref (lc 400 0)]) (mL_drops l D dA A pz b L xs hl9 lc s x1 x2 x3 x4 x5 (Q := (fun v lc' s' => ∃ r : Int32 × tt_SL, K r ∧ v = some (Value.int r.1) ∧ tt_agr (XL l D dA A pz b L xs) s lc lc' ∧ s' = r.2)) (h.mono fun r hr lc' ha => ⟨r, hr, rfl, ha, rfl⟩)) (lw_SW q1569 q1570 q126 q1571) (by decide +kernel) rfl hR hW hf d rfl (fun v lc' s' q => by obtain ⟨r, hr, e1, e2, e3⟩ := q; rw [e1, e3]; exact kk r hr lc' e2)
theorem cLm_drops {l : Launch} {D : va_G} {dA : Nat → ClassId} {A : Nat → Prop} {pz b L : Nat} {xs : Nat → Int32} {lc : Nat → Nat → Nat} {s : tt_SL} {cc : ByteArray} {nl : Nat} {rt : Option FieldType} {rm : Room} {tn : tt_Tn} {Q : tt_Fin} {pc : Nat} {lv : List (Nat × Value)} {rest : List Value} {ck cn : Nat} {x1 : Int32} {x2 : Int32} {x3 : Int32} {x4 : Int32} {x5 : Int32} {K : Int64 × tt_St → Prop} (h : Ok (fM_drops s.2.1 x1 x2 x3 x4 x5) K) (hR : 11 + 1 ≤ rm.frames ∧ 8 + (8 + 11) + 254 ≤ rm.locals) (hW : (rest.map fun v => v.category).sum ≤ 8) (d : decode cc pc = .ok (.invokevirtual 270, 3)) (kk : ∀ r, K r → tt_V (XL l D dA A pz b L xs) cc (RX0, nl, rt, rm, tn) Q (pc + 3) lv (.long r.1 :: rest) lc (s.1, r.2, s.2.2) (ck + 0) (cn + 0)) (hf : ck + 0 ≤ rm.cells ∧ cn + 0 ≤ rm.slots) : tt_V (XL l D dA A pz b L xs) cc (RX0, nl, rt, rm, tn) Q pc lv (.int x5 :: .int x4 :: .int x3 :: .int x2 :: .int x1 :: .ref (lc 300 0) :: rest) lc s ck cn :=
  v_callV (kd := 300) (i := 0) (nA := 5) (As := [.int x1, .int x2, .int x3, .int x4, .int x5]) lvL_300 oL_300 rfl (liftM (Q := (fun v lc' s' => ∃ r : Int64 × tt_St, K r ∧ v = some (Value.long r.1) ∧ lc' = lc ∧ s' = (s.1, r.2, s.2.2))) (mM_drops l (DM D) (dMd dA) (aLM lc s) (nTm lc) s.2.1 x1 x2 x3 x4 x5 (Q := fun v lc' w => lc' = nTm lc ∧ (fun v lc' s' => ∃ r : Int64 × tt_St, K r ∧ v = some (Value.long r.1) ∧ lc' = lc ∧ s' = (s.1, r.2, s.2.2)) v lc (s.1, w, s.2.2)) (h.mono fun r hr => ⟨rfl, r, hr, rfl, rfl, rfl⟩))) (lw_V q2353 q2354 q2355 q154 q2356) (by decide +kernel) rfl hR hW hf d rfl (fun v lc' s' q => by obtain ⟨r, hr, e1, e2, e3⟩ := q; rw [e1, e2, e3]; exact kk r hr)
def fL_case_29 (L : Nat) (xs : Nat → Int32) (s : tt_SL) (x4 : Int32) : Option tt_SL :=
  if inB (x4 + (1 : Int32)) L then if inB (x4 + (2 : Int32)) L then if inB (x4 + (3 : Int32)) L then if inB (x4 + (4 : Int32)) L then if inB (x4 + (5 : Int32)) L then (wrapL (fT_drops s.1 (xs ((x4 + (1 : Int32)).toNatClampNeg)) (xs ((x4 + (2 : Int32)).toNatClampNeg)) (xs ((x4 + (3 : Int32)).toNatClampNeg)) (xs ((x4 + (4 : Int32)).toNatClampNeg)) (xs ((x4 + (5 : Int32)).toNatClampNeg))) s (cd3 none (some 1) none)).bind fun r6 => (fM_drops r6.2.2.1 (xs ((x4 + (1 : Int32)).toNatClampNeg)) (xs ((x4 + (2 : Int32)).toNatClampNeg)) (xs ((x4 + (3 : Int32)).toNatClampNeg)) (xs ((x4 + (4 : Int32)).toNatClampNeg)) (xs ((x4 + (5 : Int32)).toNatClampNeg))).bind fun r7 => (fM_thrown (r6.2.1, r7.2, r6.2.2.2).2.1).bind fun r8 => if r8 = r6.1 then if r6.1 = 0 then if inB (0 : Int32) 1 then if (rdL (r6.2.1, r7.2, r6.2.2.2).2.2 0 0 ((0 : Int32).toNatClampNeg)) = r7.1 then some (r6.2.1, r7.2, r6.2.2.2) else none else none else some (r6.2.1, r7.2, r6.2.2.2) else none else none else none else none else none else none
set_option maxHeartbeats 4000000 in
theorem lcase_29 {l : Launch} {D : va_G} {dA : Nat → ClassId} {A : Nat → Prop} {pz b L : Nat} {xs : Nat → Int32} (hl9 : l.stackTraces = false) {lc : Nat → Nat → Nat} {s : tt_SL} {x4 : Int32} {ck cn : Nat} {tn : tt_Tn} {Q : tt_Fin} (hk1 : ck + 60 ≤ room_1.cells) (hk2 : cn + 600 ≤ room_1.slots) (h : Ok (fL_case_29 L xs s x4) (fun r => ∀ lc', tt_agr (XL l D dA A pz b L xs) s lc lc' → ∀ ck' cn', ck' ≤ ck + 60 → cn' ≤ cn + 600 → tt_V (XL l D dA A pz b L xs) code (RX0, 8, ret, room_1, tn) Q 3740 [(0, .ref b), (1, .ref (lc' 0 0)), (2, .ref (lc' 300 0)), (3, .ref (lc' 400 0)), (4, .int x4)] [] lc' r ck' cn')) : tt_V (XL l D dA A pz b L xs) code (RX0, 8, ret, room_1, tn) Q 2266 [(0, .ref b), (1, .ref (lc 0 0)), (2, .ref (lc 300 0)), (3, .ref (lc 400 0)), (4, .int x4)] [] lc s ck cn := by
  unfold fL_case_29 at h
  refine v_aload_n 1 dL_law_2266 rfl ?_
  refine v_aload_n 0 dL_law_2267 rfl ?_
  refine v_iload 4 dL_law_2268 rfl ?_
  refine v_iconst dL_law_2270 ic_1 ?_
  refine v_iadd dL_law_2271 ?_
  obtain ⟨g1, h⟩ := Ok.guard h
  refine v_sld g1 dL_law_2272 ?_
  refine v_aload_n 0 dL_law_2273 rfl ?_
  refine v_iload 4 dL_law_2274 rfl ?_
  refine v_iconst dL_law_2276 ic_2 ?_
  refine v_iadd dL_law_2277 ?_
  obtain ⟨g2, h⟩ := Ok.guard h
  refine v_sld g2 dL_law_2278 ?_
  refine v_aload_n 0 dL_law_2279 rfl ?_
  refine v_iload 4 dL_law_2280 rfl ?_
  refine v_iconst dL_law_2282 ic_3 ?_
  refine v_iadd dL_law_2283 ?_
  obtain ⟨g3, h⟩ := Ok.guard h
  refine v_sld g3 dL_law_2284 ?_
  refine v_aload_n 0 dL_law_2285 rfl ?_
  refine v_iload 4 dL_law_2286 rfl ?_
  refine v_iconst dL_law_2288 ic_4 ?_
  refine v_iadd dL_law_2289 ?_
  obtain ⟨g4, h⟩ := Ok.guard h
  refine v_sld g4 dL_law_2290 ?_
  refine v_aload_n 0 dL_law_2291 rfl ?_
  refine v_iload 4 dL_law_2292 rfl ?_
  refine v_iconst dL_law_2294 ic_5 ?_
  refine v_iadd dL_law_2295 ?_
  obtain ⟨g5, h⟩ := Ok.guard h
  refine v_sld g5 dL_law_2296 ?_
  refine v_aload_n 3 dL_law_2297 rfl ?_
  refine cLw_drops (Ok.bind h) hl9 ⟨Nat.le_of_ble_eq_true rfl, Nat.le_of_ble_eq_true rfl⟩ (Nat.le_of_ble_eq_true rfl) dL_law_2298 (fun r6 h lc hc => ?_) ⟨by omega, by omega⟩
  rw [← hc 0 0 (.inl lvL_0)]
  rw [← hc 300 0 (.inl lvL_300)]
  rw [← hc 400 0 (.inl lvL_400)]
  have h := Ok.agr h hc (fun _ _ h => h)
  refine v_istore [(5, .int r6.1), (0, .ref b), (1, .ref (lc 0 0)), (2, .ref (lc 300 0)), (3, .ref (lc 400 0)), (4, .int x4)] dL_law_2301 (Nat.le_of_ble_eq_true rfl) rfl ?_
  refine v_aload_n 3 dL_law_2303 rfl ?_
  refine v_aload_n 1 dL_law_2304 rfl ?_
  refine v_iload 5 dL_law_2305 rfl ?_
  refine v_iconst dL_law_2307 ic_1 ?_
  refine v_iadd dL_law_2308 ?_
  refine v_sld g1 dL_law_2309 ?_
  refine v_aload_n 1 dL_law_2310 rfl ?_
  refine v_iload 5 dL_law_2311 rfl ?_
  refine v_iconst dL_law_2313 ic_2 ?_
  refine v_iadd dL_law_2314 ?_
  refine v_sld g2 dL_law_2315 ?_
  refine v_aload_n 1 dL_law_2316 rfl ?_
  refine v_iload 5 dL_law_2317 rfl ?_
  refine v_iconst dL_law_2319 ic_3 ?_
  refine v_iadd dL_law_2320 ?_
  refine v_sld g3 dL_law_2321 ?_
  refine v_aload_n 1 dL_law_2322 rfl ?_
  refine v_iload 5 dL_law_2323 rfl ?_
  refine v_iconst dL_law_2325 ic_4 ?_
  refine v_iadd dL_law_2326 ?_
  refine v_sld g4 dL_law_2327 ?_
  refine v_aload_n 1 dL_law_2328 rfl ?_
  refine v_iload 5 dL_law_2329 rfl ?_
  refine v_iconst dL_law_2331 ic_5 ?_
  refine v_iadd dL_law_2332 ?_
  refine v_sld g5 dL_law_2333 ?_
  refine cLm_drops (Ok.bind h) ⟨Nat.le_of_ble_eq_true rfl, Nat.le_of_ble_eq_true rfl⟩ (Nat.le_of_ble_eq_true rfl) dL_law_2334 (fun r7 h => ?_) ⟨by omega, by omega⟩
  refine v_lstore [(6, .long r7.1), (5, .int r6.1), (0, .ref b), (1, .ref (lc 0 0)), (2, .ref (lc 300 0)), (3, .ref (lc 400 0)), (4, .int x4)] dL_law_2337 (Nat.le_of_ble_eq_true rfl) rfl ?_
  refine v_aload_n 4 dL_law_2339 rfl ?_
  refine cLm_thrown (Ok.bind h) ⟨Nat.le_of_ble_eq_true rfl, Nat.le_of_ble_eq_true rfl⟩ (Nat.le_of_ble_eq_true rfl) dL_law_2340 (fun r8 h => ?_) ⟨by omega, by omega⟩
  refine v_iload 1 dL_law_2343 rfl ?_
  refine v_icmp_eq (tgt := 2350) dL_law_2345 rfl (fun c9 => ?_) (fun c9 => ?_)
  · have h := Ok.pos h c9
    refine v_iload 1 dL_law_2350 rfl ?_
    refine v_if_ne (tgt := 2366) dL_law_2352 rfl (fun c10 => ?_) (fun c10 => ?_)
    · have h := Ok.neg h c10
      refine v_goto (tgt := 3740) dL_law_2366 rfl ?_
      refine v_sub [2, 3, 4, 5, 6] rfl ?_
      have h := Ok.ret h
      exact h lc agr_rf _ _ (by omega) (by omega)
    · have h := Ok.pos h c10
      refine v_aload_n 5 dL_law_2355 rfl ?_
      refine v_iconst dL_law_2356 ic_0 ?_
      obtain ⟨g11, h⟩ := Ok.guard h
      refine lL_400 g11 dL_law_2357 ?_
      refine v_lload 0 dL_law_2358 rfl ?_
      refine v_lif_eq (tgt := 2366) dL_law_2360 dL_law_2361 rfl (fun c12 => ?_) (fun c12 => ?_)
      · have h := Ok.pos h c12
        refine v_goto (tgt := 3740) dL_law_2366 rfl ?_
        refine v_sub [2, 3, 4, 5, 6] rfl ?_
        have h := Ok.ret h
        exact h lc agr_rf _ _ (by omega) (by omega)
      · have h := Ok.neg h c12
        refine v_iconst dL_law_2364 ic_0 ?_
        exact Ok.stuck h
  · have h := Ok.neg h c9
    refine v_iconst dL_law_2348 ic_0 ?_
    exact Ok.stuck h
theorem cLw_share {l : Launch} {D : va_G} {dA : Nat → ClassId} {A : Nat → Prop} {pz b L : Nat} {xs : Nat → Int32} {lc : Nat → Nat → Nat} {s : tt_SL} {cc : ByteArray} {nl : Nat} {rt : Option FieldType} {rm : Room} {tn : tt_Tn} {Q : tt_Fin} {pc : Nat} {lv : List (Nat × Value)} {rest : List Value} {ck cn : Nat} {x1 : Int32} {x2 : Int32} {x3 : Int32} {x4 : Int32} {x5 : Int32} {K : Int32 × tt_SL → Prop} (h : Ok (wrapL (fT_share s.1 x1 x2 x3 x4 x5) s (cd3 none (some 1) none)) K) (hl9 : l.stackTraces = false) (hR : 12 + 1 ≤ rm.frames ∧ 8 + (8 + 11) + 233 ≤ rm.locals) (hW : (rest.map fun v => v.category).sum ≤ 8) (d : decode cc pc = .ok (.invokestatic 271, 3)) (kk : ∀ r, K r → ∀ lc', tt_agr (XL l D dA A pz b L xs) s lc lc' → tt_V (XL l D dA A pz b L xs) cc (RX0, nl, rt, rm, tn) Q (pc + 3) lv (.int r.1 :: rest) lc' r.2 (ck + 5) (cn + 30)) (hf : ck + 5 ≤ rm.cells ∧ cn + 30 ≤ rm.slots) : tt_V (XL l D dA A pz b L xs) cc (RX0, nl, rt, rm, tn) Q pc lv (.ref (lc 400 0) :: .int x5 :: .int x4 :: .int x3 :: .int x2 :: .int x1 :: .ref (lc 0 0) :: rest) lc s ck cn :=
  v_callSW (nA := 7) (As := [.ref (lc 0 0), .int x1, .int x2, .int x3, .int x4, .int x5, .ref (lc 400 0)]) (mL_share l D dA A pz b L xs hl9 lc s x1 x2 x3 x4 x5 (Q := (fun v lc' s' => ∃ r : Int32 × tt_SL, K r ∧ v = some (Value.int r.1) ∧ tt_agr (XL l D dA A pz b L xs) s lc lc' ∧ s' = r.2)) (h.mono fun r hr lc' ha => ⟨r, hr, rfl, ha, rfl⟩)) (lw_SW q1576 q1577 q126 q1578) (by decide +kernel) rfl hR hW hf d rfl (fun v lc' s' q => by obtain ⟨r, hr, e1, e2, e3⟩ := q; rw [e1, e3]; exact kk r hr lc' e2)
theorem cLm_share {l : Launch} {D : va_G} {dA : Nat → ClassId} {A : Nat → Prop} {pz b L : Nat} {xs : Nat → Int32} {lc : Nat → Nat → Nat} {s : tt_SL} {cc : ByteArray} {nl : Nat} {rt : Option FieldType} {rm : Room} {tn : tt_Tn} {Q : tt_Fin} {pc : Nat} {lv : List (Nat × Value)} {rest : List Value} {ck cn : Nat} {x1 : Int32} {x2 : Int32} {x3 : Int32} {x4 : Int32} {x5 : Int32} {K : Int64 × tt_St → Prop} (h : Ok (fM_share s.2.1 x1 x2 x3 x4 x5) K) (hR : 3 + 1 ≤ rm.frames ∧ 8 + (6 + 11) + 71 ≤ rm.locals) (hW : (rest.map fun v => v.category).sum ≤ 8) (d : decode cc pc = .ok (.invokevirtual 273, 3)) (kk : ∀ r, K r → tt_V (XL l D dA A pz b L xs) cc (RX0, nl, rt, rm, tn) Q (pc + 3) lv (.long r.1 :: rest) lc (s.1, r.2, s.2.2) (ck + 0) (cn + 0)) (hf : ck + 0 ≤ rm.cells ∧ cn + 0 ≤ rm.slots) : tt_V (XL l D dA A pz b L xs) cc (RX0, nl, rt, rm, tn) Q pc lv (.int x5 :: .int x4 :: .int x3 :: .int x2 :: .int x1 :: .ref (lc 300 0) :: rest) lc s ck cn :=
  v_callV (kd := 300) (i := 0) (nA := 5) (As := [.int x1, .int x2, .int x3, .int x4, .int x5]) lvL_300 oL_300 rfl (liftM (Q := (fun v lc' s' => ∃ r : Int64 × tt_St, K r ∧ v = some (Value.long r.1) ∧ lc' = lc ∧ s' = (s.1, r.2, s.2.2))) (mM_share l (DM D) (dMd dA) (aLM lc s) (nTm lc) s.2.1 x1 x2 x3 x4 x5 (Q := fun v lc' w => lc' = nTm lc ∧ (fun v lc' s' => ∃ r : Int64 × tt_St, K r ∧ v = some (Value.long r.1) ∧ lc' = lc ∧ s' = (s.1, r.2, s.2.2)) v lc (s.1, w, s.2.2)) (h.mono fun r hr => ⟨rfl, r, hr, rfl, rfl, rfl⟩))) (lw_V q2357 q2358 q2359 q154 q2360) (by decide +kernel) rfl hR hW hf d rfl (fun v lc' s' q => by obtain ⟨r, hr, e1, e2, e3⟩ := q; rw [e1, e2, e3]; exact kk r hr)
def fL_case_30 (L : Nat) (xs : Nat → Int32) (s : tt_SL) (x4 : Int32) : Option tt_SL :=
  if inB (x4 + (1 : Int32)) L then if inB (x4 + (2 : Int32)) L then if inB (x4 + (3 : Int32)) L then if inB (x4 + (4 : Int32)) L then if inB (x4 + (5 : Int32)) L then (wrapL (fT_share s.1 (xs ((x4 + (1 : Int32)).toNatClampNeg)) (xs ((x4 + (2 : Int32)).toNatClampNeg)) (xs ((x4 + (3 : Int32)).toNatClampNeg)) (xs ((x4 + (4 : Int32)).toNatClampNeg)) (xs ((x4 + (5 : Int32)).toNatClampNeg))) s (cd3 none (some 1) none)).bind fun r6 => (fM_share r6.2.2.1 (xs ((x4 + (1 : Int32)).toNatClampNeg)) (xs ((x4 + (2 : Int32)).toNatClampNeg)) (xs ((x4 + (3 : Int32)).toNatClampNeg)) (xs ((x4 + (4 : Int32)).toNatClampNeg)) (xs ((x4 + (5 : Int32)).toNatClampNeg))).bind fun r7 => (fM_thrown (r6.2.1, r7.2, r6.2.2.2).2.1).bind fun r8 => if r8 = r6.1 then if r6.1 = 0 then if inB (0 : Int32) 1 then if (rdL (r6.2.1, r7.2, r6.2.2.2).2.2 0 0 ((0 : Int32).toNatClampNeg)) = r7.1 then some (r6.2.1, r7.2, r6.2.2.2) else none else none else some (r6.2.1, r7.2, r6.2.2.2) else none else none else none else none else none else none
set_option maxHeartbeats 4000000 in
theorem lcase_30 {l : Launch} {D : va_G} {dA : Nat → ClassId} {A : Nat → Prop} {pz b L : Nat} {xs : Nat → Int32} (hl9 : l.stackTraces = false) {lc : Nat → Nat → Nat} {s : tt_SL} {x4 : Int32} {ck cn : Nat} {tn : tt_Tn} {Q : tt_Fin} (hk1 : ck + 60 ≤ room_1.cells) (hk2 : cn + 600 ≤ room_1.slots) (h : Ok (fL_case_30 L xs s x4) (fun r => ∀ lc', tt_agr (XL l D dA A pz b L xs) s lc lc' → ∀ ck' cn', ck' ≤ ck + 60 → cn' ≤ cn + 600 → tt_V (XL l D dA A pz b L xs) code (RX0, 8, ret, room_1, tn) Q 3740 [(0, .ref b), (1, .ref (lc' 0 0)), (2, .ref (lc' 300 0)), (3, .ref (lc' 400 0)), (4, .int x4)] [] lc' r ck' cn')) : tt_V (XL l D dA A pz b L xs) code (RX0, 8, ret, room_1, tn) Q 2369 [(0, .ref b), (1, .ref (lc 0 0)), (2, .ref (lc 300 0)), (3, .ref (lc 400 0)), (4, .int x4)] [] lc s ck cn := by
  unfold fL_case_30 at h
  refine v_aload_n 1 dL_law_2369 rfl ?_
  refine v_aload_n 0 dL_law_2370 rfl ?_
  refine v_iload 4 dL_law_2371 rfl ?_
  refine v_iconst dL_law_2373 ic_1 ?_
  refine v_iadd dL_law_2374 ?_
  obtain ⟨g1, h⟩ := Ok.guard h
  refine v_sld g1 dL_law_2375 ?_
  refine v_aload_n 0 dL_law_2376 rfl ?_
  refine v_iload 4 dL_law_2377 rfl ?_
  refine v_iconst dL_law_2379 ic_2 ?_
  refine v_iadd dL_law_2380 ?_
  obtain ⟨g2, h⟩ := Ok.guard h
  refine v_sld g2 dL_law_2381 ?_
  refine v_aload_n 0 dL_law_2382 rfl ?_
  refine v_iload 4 dL_law_2383 rfl ?_
  refine v_iconst dL_law_2385 ic_3 ?_
  refine v_iadd dL_law_2386 ?_
  obtain ⟨g3, h⟩ := Ok.guard h
  refine v_sld g3 dL_law_2387 ?_
  refine v_aload_n 0 dL_law_2388 rfl ?_
  refine v_iload 4 dL_law_2389 rfl ?_
  refine v_iconst dL_law_2391 ic_4 ?_
  refine v_iadd dL_law_2392 ?_
  obtain ⟨g4, h⟩ := Ok.guard h
  refine v_sld g4 dL_law_2393 ?_
  refine v_aload_n 0 dL_law_2394 rfl ?_
  refine v_iload 4 dL_law_2395 rfl ?_
  refine v_iconst dL_law_2397 ic_5 ?_
  refine v_iadd dL_law_2398 ?_
  obtain ⟨g5, h⟩ := Ok.guard h
  refine v_sld g5 dL_law_2399 ?_
  refine v_aload_n 3 dL_law_2400 rfl ?_
  refine cLw_share (Ok.bind h) hl9 ⟨Nat.le_of_ble_eq_true rfl, Nat.le_of_ble_eq_true rfl⟩ (Nat.le_of_ble_eq_true rfl) dL_law_2401 (fun r6 h lc hc => ?_) ⟨by omega, by omega⟩
  rw [← hc 0 0 (.inl lvL_0)]
  rw [← hc 300 0 (.inl lvL_300)]
  rw [← hc 400 0 (.inl lvL_400)]
  have h := Ok.agr h hc (fun _ _ h => h)
  refine v_istore [(5, .int r6.1), (0, .ref b), (1, .ref (lc 0 0)), (2, .ref (lc 300 0)), (3, .ref (lc 400 0)), (4, .int x4)] dL_law_2404 (Nat.le_of_ble_eq_true rfl) rfl ?_
  refine v_aload_n 3 dL_law_2406 rfl ?_
  refine v_aload_n 1 dL_law_2407 rfl ?_
  refine v_iload 5 dL_law_2408 rfl ?_
  refine v_iconst dL_law_2410 ic_1 ?_
  refine v_iadd dL_law_2411 ?_
  refine v_sld g1 dL_law_2412 ?_
  refine v_aload_n 1 dL_law_2413 rfl ?_
  refine v_iload 5 dL_law_2414 rfl ?_
  refine v_iconst dL_law_2416 ic_2 ?_
  refine v_iadd dL_law_2417 ?_
  refine v_sld g2 dL_law_2418 ?_
  refine v_aload_n 1 dL_law_2419 rfl ?_
  refine v_iload 5 dL_law_2420 rfl ?_
  refine v_iconst dL_law_2422 ic_3 ?_
  refine v_iadd dL_law_2423 ?_
  refine v_sld g3 dL_law_2424 ?_
  refine v_aload_n 1 dL_law_2425 rfl ?_
  refine v_iload 5 dL_law_2426 rfl ?_
  refine v_iconst dL_law_2428 ic_4 ?_
  refine v_iadd dL_law_2429 ?_
  refine v_sld g4 dL_law_2430 ?_
  refine v_aload_n 1 dL_law_2431 rfl ?_
  refine v_iload 5 dL_law_2432 rfl ?_
  refine v_iconst dL_law_2434 ic_5 ?_
  refine v_iadd dL_law_2435 ?_
  refine v_sld g5 dL_law_2436 ?_
  refine cLm_share (Ok.bind h) ⟨Nat.le_of_ble_eq_true rfl, Nat.le_of_ble_eq_true rfl⟩ (Nat.le_of_ble_eq_true rfl) dL_law_2437 (fun r7 h => ?_) ⟨by omega, by omega⟩
  refine v_lstore [(6, .long r7.1), (5, .int r6.1), (0, .ref b), (1, .ref (lc 0 0)), (2, .ref (lc 300 0)), (3, .ref (lc 400 0)), (4, .int x4)] dL_law_2440 (Nat.le_of_ble_eq_true rfl) rfl ?_
  refine v_aload_n 4 dL_law_2442 rfl ?_
  refine cLm_thrown (Ok.bind h) ⟨Nat.le_of_ble_eq_true rfl, Nat.le_of_ble_eq_true rfl⟩ (Nat.le_of_ble_eq_true rfl) dL_law_2443 (fun r8 h => ?_) ⟨by omega, by omega⟩
  refine v_iload 1 dL_law_2446 rfl ?_
  refine v_icmp_eq (tgt := 2453) dL_law_2448 rfl (fun c9 => ?_) (fun c9 => ?_)
  · have h := Ok.pos h c9
    refine v_iload 1 dL_law_2453 rfl ?_
    refine v_if_ne (tgt := 2469) dL_law_2455 rfl (fun c10 => ?_) (fun c10 => ?_)
    · have h := Ok.neg h c10
      refine v_goto (tgt := 3740) dL_law_2469 rfl ?_
      refine v_sub [2, 3, 4, 5, 6] rfl ?_
      have h := Ok.ret h
      exact h lc agr_rf _ _ (by omega) (by omega)
    · have h := Ok.pos h c10
      refine v_aload_n 5 dL_law_2458 rfl ?_
      refine v_iconst dL_law_2459 ic_0 ?_
      obtain ⟨g11, h⟩ := Ok.guard h
      refine lL_400 g11 dL_law_2460 ?_
      refine v_lload 0 dL_law_2461 rfl ?_
      refine v_lif_eq (tgt := 2469) dL_law_2463 dL_law_2464 rfl (fun c12 => ?_) (fun c12 => ?_)
      · have h := Ok.pos h c12
        refine v_goto (tgt := 3740) dL_law_2469 rfl ?_
        refine v_sub [2, 3, 4, 5, 6] rfl ?_
        have h := Ok.ret h
        exact h lc agr_rf _ _ (by omega) (by omega)
      · have h := Ok.neg h c12
        refine v_iconst dL_law_2467 ic_0 ?_
        exact Ok.stuck h
  · have h := Ok.neg h c9
    refine v_iconst dL_law_2451 ic_0 ?_
    exact Ok.stuck h
theorem cLw_weight {l : Launch} {D : va_G} {dA : Nat → ClassId} {A : Nat → Prop} {pz b L : Nat} {xs : Nat → Int32} {lc : Nat → Nat → Nat} {s : tt_SL} {cc : ByteArray} {nl : Nat} {rt : Option FieldType} {rm : Room} {tn : tt_Tn} {Q : tt_Fin} {pc : Nat} {lv : List (Nat × Value)} {rest : List Value} {ck cn : Nat} {x1 : Int32} {x2 : Int32} {x3 : Int32} {x4 : Int32} {K : Int32 × tt_SL → Prop} (h : Ok (wrapL (fT_weight s.1 x1 x2 x3 x4) s (cd3 none (some 1) none)) K) (hl9 : l.stackTraces = false) (hR : 11 + 1 ≤ rm.frames ∧ 8 + (7 + 11) + 208 ≤ rm.locals) (hW : (rest.map fun v => v.category).sum ≤ 8) (d : decode cc pc = .ok (.invokestatic 274, 3)) (kk : ∀ r, K r → ∀ lc', tt_agr (XL l D dA A pz b L xs) s lc lc' → tt_V (XL l D dA A pz b L xs) cc (RX0, nl, rt, rm, tn) Q (pc + 3) lv (.int r.1 :: rest) lc' r.2 (ck + 4) (cn + 24)) (hf : ck + 4 ≤ rm.cells ∧ cn + 24 ≤ rm.slots) : tt_V (XL l D dA A pz b L xs) cc (RX0, nl, rt, rm, tn) Q pc lv (.ref (lc 400 0) :: .int x4 :: .int x3 :: .int x2 :: .int x1 :: .ref (lc 0 0) :: rest) lc s ck cn :=
  v_callSW (nA := 6) (As := [.ref (lc 0 0), .int x1, .int x2, .int x3, .int x4, .ref (lc 400 0)]) (mL_weight l D dA A pz b L xs hl9 lc s x1 x2 x3 x4 (Q := (fun v lc' s' => ∃ r : Int32 × tt_SL, K r ∧ v = some (Value.int r.1) ∧ tt_agr (XL l D dA A pz b L xs) s lc lc' ∧ s' = r.2)) (h.mono fun r hr lc' ha => ⟨r, hr, rfl, ha, rfl⟩)) (lw_SW q1585 q1586 q126 q1587) (by decide +kernel) rfl hR hW hf d rfl (fun v lc' s' q => by obtain ⟨r, hr, e1, e2, e3⟩ := q; rw [e1, e3]; exact kk r hr lc' e2)
theorem cLm_weight {l : Launch} {D : va_G} {dA : Nat → ClassId} {A : Nat → Prop} {pz b L : Nat} {xs : Nat → Int32} {lc : Nat → Nat → Nat} {s : tt_SL} {cc : ByteArray} {nl : Nat} {rt : Option FieldType} {rm : Room} {tn : tt_Tn} {Q : tt_Fin} {pc : Nat} {lv : List (Nat × Value)} {rest : List Value} {ck cn : Nat} {x1 : Int32} {x2 : Int32} {x3 : Int32} {x4 : Int32} {K : Int64 × tt_St → Prop} (h : Ok (fM_weight s.2.1 x1 x2 x3 x4) K) (hR : 3 + 1 ≤ rm.frames ∧ 8 + (5 + 11) + 75 ≤ rm.locals) (hW : (rest.map fun v => v.category).sum ≤ 8) (d : decode cc pc = .ok (.invokevirtual 276, 3)) (kk : ∀ r, K r → tt_V (XL l D dA A pz b L xs) cc (RX0, nl, rt, rm, tn) Q (pc + 3) lv (.long r.1 :: rest) lc (s.1, r.2, s.2.2) (ck + 0) (cn + 0)) (hf : ck + 0 ≤ rm.cells ∧ cn + 0 ≤ rm.slots) : tt_V (XL l D dA A pz b L xs) cc (RX0, nl, rt, rm, tn) Q pc lv (.int x4 :: .int x3 :: .int x2 :: .int x1 :: .ref (lc 300 0) :: rest) lc s ck cn :=
  v_callV (kd := 300) (i := 0) (nA := 4) (As := [.int x1, .int x2, .int x3, .int x4]) lvL_300 oL_300 rfl (liftM (Q := (fun v lc' s' => ∃ r : Int64 × tt_St, K r ∧ v = some (Value.long r.1) ∧ lc' = lc ∧ s' = (s.1, r.2, s.2.2))) (mM_weight l (DM D) (dMd dA) (aLM lc s) (nTm lc) s.2.1 x1 x2 x3 x4 (Q := fun v lc' w => lc' = nTm lc ∧ (fun v lc' s' => ∃ r : Int64 × tt_St, K r ∧ v = some (Value.long r.1) ∧ lc' = lc ∧ s' = (s.1, r.2, s.2.2)) v lc (s.1, w, s.2.2)) (h.mono fun r hr => ⟨rfl, r, hr, rfl, rfl, rfl⟩))) (lw_V q2361 q2362 q2363 q154 q2364) (by decide +kernel) rfl hR hW hf d rfl (fun v lc' s' q => by obtain ⟨r, hr, e1, e2, e3⟩ := q; rw [e1, e2, e3]; exact kk r hr)
def fL_case_31 (L : Nat) (xs : Nat → Int32) (s : tt_SL) (x4 : Int32) : Option tt_SL :=
  if inB (x4 + (1 : Int32)) L then if inB (x4 + (2 : Int32)) L then if inB (x4 + (3 : Int32)) L then if inB (x4 + (4 : Int32)) L then (wrapL (fT_weight s.1 (xs ((x4 + (1 : Int32)).toNatClampNeg)) (xs ((x4 + (2 : Int32)).toNatClampNeg)) (xs ((x4 + (3 : Int32)).toNatClampNeg)) (xs ((x4 + (4 : Int32)).toNatClampNeg))) s (cd3 none (some 1) none)).bind fun r5 => (fM_weight r5.2.2.1 (xs ((x4 + (1 : Int32)).toNatClampNeg)) (xs ((x4 + (2 : Int32)).toNatClampNeg)) (xs ((x4 + (3 : Int32)).toNatClampNeg)) (xs ((x4 + (4 : Int32)).toNatClampNeg))).bind fun r6 => (fM_thrown (r5.2.1, r6.2, r5.2.2.2).2.1).bind fun r7 => if r7 = r5.1 then if r5.1 = 0 then if inB (0 : Int32) 1 then if (rdL (r5.2.1, r6.2, r5.2.2.2).2.2 0 0 ((0 : Int32).toNatClampNeg)) = r6.1 then some (r5.2.1, r6.2, r5.2.2.2) else none else none else some (r5.2.1, r6.2, r5.2.2.2) else none else none else none else none else none
set_option maxHeartbeats 4000000 in
theorem lcase_31 {l : Launch} {D : va_G} {dA : Nat → ClassId} {A : Nat → Prop} {pz b L : Nat} {xs : Nat → Int32} (hl9 : l.stackTraces = false) {lc : Nat → Nat → Nat} {s : tt_SL} {x4 : Int32} {ck cn : Nat} {tn : tt_Tn} {Q : tt_Fin} (hk1 : ck + 60 ≤ room_1.cells) (hk2 : cn + 600 ≤ room_1.slots) (h : Ok (fL_case_31 L xs s x4) (fun r => ∀ lc', tt_agr (XL l D dA A pz b L xs) s lc lc' → ∀ ck' cn', ck' ≤ ck + 60 → cn' ≤ cn + 600 → tt_V (XL l D dA A pz b L xs) code (RX0, 8, ret, room_1, tn) Q 3740 [(0, .ref b), (1, .ref (lc' 0 0)), (2, .ref (lc' 300 0)), (3, .ref (lc' 400 0)), (4, .int x4)] [] lc' r ck' cn')) : tt_V (XL l D dA A pz b L xs) code (RX0, 8, ret, room_1, tn) Q 2472 [(0, .ref b), (1, .ref (lc 0 0)), (2, .ref (lc 300 0)), (3, .ref (lc 400 0)), (4, .int x4)] [] lc s ck cn := by
  unfold fL_case_31 at h
  refine v_aload_n 1 dL_law_2472 rfl ?_
  refine v_aload_n 0 dL_law_2473 rfl ?_
  refine v_iload 4 dL_law_2474 rfl ?_
  refine v_iconst dL_law_2476 ic_1 ?_
  refine v_iadd dL_law_2477 ?_
  obtain ⟨g1, h⟩ := Ok.guard h
  refine v_sld g1 dL_law_2478 ?_
  refine v_aload_n 0 dL_law_2479 rfl ?_
  refine v_iload 4 dL_law_2480 rfl ?_
  refine v_iconst dL_law_2482 ic_2 ?_
  refine v_iadd dL_law_2483 ?_
  obtain ⟨g2, h⟩ := Ok.guard h
  refine v_sld g2 dL_law_2484 ?_
  refine v_aload_n 0 dL_law_2485 rfl ?_
  refine v_iload 4 dL_law_2486 rfl ?_
  refine v_iconst dL_law_2488 ic_3 ?_
  refine v_iadd dL_law_2489 ?_
  obtain ⟨g3, h⟩ := Ok.guard h
  refine v_sld g3 dL_law_2490 ?_
  refine v_aload_n 0 dL_law_2491 rfl ?_
  refine v_iload 4 dL_law_2492 rfl ?_
  refine v_iconst dL_law_2494 ic_4 ?_
  refine v_iadd dL_law_2495 ?_
  obtain ⟨g4, h⟩ := Ok.guard h
  refine v_sld g4 dL_law_2496 ?_
  refine v_aload_n 3 dL_law_2497 rfl ?_
  refine cLw_weight (Ok.bind h) hl9 ⟨Nat.le_of_ble_eq_true rfl, Nat.le_of_ble_eq_true rfl⟩ (Nat.le_of_ble_eq_true rfl) dL_law_2498 (fun r5 h lc hc => ?_) ⟨by omega, by omega⟩
  rw [← hc 0 0 (.inl lvL_0)]
  rw [← hc 300 0 (.inl lvL_300)]
  rw [← hc 400 0 (.inl lvL_400)]
  have h := Ok.agr h hc (fun _ _ h => h)
  refine v_istore [(5, .int r5.1), (0, .ref b), (1, .ref (lc 0 0)), (2, .ref (lc 300 0)), (3, .ref (lc 400 0)), (4, .int x4)] dL_law_2501 (Nat.le_of_ble_eq_true rfl) rfl ?_
  refine v_aload_n 3 dL_law_2503 rfl ?_
  refine v_aload_n 1 dL_law_2504 rfl ?_
  refine v_iload 5 dL_law_2505 rfl ?_
  refine v_iconst dL_law_2507 ic_1 ?_
  refine v_iadd dL_law_2508 ?_
  refine v_sld g1 dL_law_2509 ?_
  refine v_aload_n 1 dL_law_2510 rfl ?_
  refine v_iload 5 dL_law_2511 rfl ?_
  refine v_iconst dL_law_2513 ic_2 ?_
  refine v_iadd dL_law_2514 ?_
  refine v_sld g2 dL_law_2515 ?_
  refine v_aload_n 1 dL_law_2516 rfl ?_
  refine v_iload 5 dL_law_2517 rfl ?_
  refine v_iconst dL_law_2519 ic_3 ?_
  refine v_iadd dL_law_2520 ?_
  refine v_sld g3 dL_law_2521 ?_
  refine v_aload_n 1 dL_law_2522 rfl ?_
  refine v_iload 5 dL_law_2523 rfl ?_
  refine v_iconst dL_law_2525 ic_4 ?_
  refine v_iadd dL_law_2526 ?_
  refine v_sld g4 dL_law_2527 ?_
  refine cLm_weight (Ok.bind h) ⟨Nat.le_of_ble_eq_true rfl, Nat.le_of_ble_eq_true rfl⟩ (Nat.le_of_ble_eq_true rfl) dL_law_2528 (fun r6 h => ?_) ⟨by omega, by omega⟩
  refine v_lstore [(6, .long r6.1), (5, .int r5.1), (0, .ref b), (1, .ref (lc 0 0)), (2, .ref (lc 300 0)), (3, .ref (lc 400 0)), (4, .int x4)] dL_law_2531 (Nat.le_of_ble_eq_true rfl) rfl ?_
  refine v_aload_n 4 dL_law_2533 rfl ?_
  refine cLm_thrown (Ok.bind h) ⟨Nat.le_of_ble_eq_true rfl, Nat.le_of_ble_eq_true rfl⟩ (Nat.le_of_ble_eq_true rfl) dL_law_2534 (fun r7 h => ?_) ⟨by omega, by omega⟩
  refine v_iload 1 dL_law_2537 rfl ?_
  refine v_icmp_eq (tgt := 2544) dL_law_2539 rfl (fun c8 => ?_) (fun c8 => ?_)
  · have h := Ok.pos h c8
    refine v_iload 1 dL_law_2544 rfl ?_
    refine v_if_ne (tgt := 2560) dL_law_2546 rfl (fun c9 => ?_) (fun c9 => ?_)
    · have h := Ok.neg h c9
      refine v_goto (tgt := 3740) dL_law_2560 rfl ?_
      refine v_sub [2, 3, 4, 5, 6] rfl ?_
      have h := Ok.ret h
      exact h lc agr_rf _ _ (by omega) (by omega)
    · have h := Ok.pos h c9
      refine v_aload_n 5 dL_law_2549 rfl ?_
      refine v_iconst dL_law_2550 ic_0 ?_
      obtain ⟨g10, h⟩ := Ok.guard h
      refine lL_400 g10 dL_law_2551 ?_
      refine v_lload 0 dL_law_2552 rfl ?_
      refine v_lif_eq (tgt := 2560) dL_law_2554 dL_law_2555 rfl (fun c11 => ?_) (fun c11 => ?_)
      · have h := Ok.pos h c11
        refine v_goto (tgt := 3740) dL_law_2560 rfl ?_
        refine v_sub [2, 3, 4, 5, 6] rfl ?_
        have h := Ok.ret h
        exact h lc agr_rf _ _ (by omega) (by omega)
      · have h := Ok.neg h c11
        refine v_iconst dL_law_2558 ic_0 ?_
        exact Ok.stuck h
  · have h := Ok.neg h c8
    refine v_iconst dL_law_2542 ic_0 ?_
    exact Ok.stuck h
theorem cLw_picks {l : Launch} {D : va_G} {dA : Nat → ClassId} {A : Nat → Prop} {pz b L : Nat} {xs : Nat → Int32} {lc : Nat → Nat → Nat} {s : tt_SL} {cc : ByteArray} {nl : Nat} {rt : Option FieldType} {rm : Room} {tn : tt_Tn} {Q : tt_Fin} {pc : Nat} {lv : List (Nat × Value)} {rest : List Value} {ck cn : Nat} {x1 : Int32} {x2 : Int32} {x3 : Int32} {x4 : Int32} {K : Int32 × tt_SL → Prop} (h : Ok (wrapI (fT_picks s.1 x1 x2 x3 x4) s (cd3 none (some 1) none)) K) (hl9 : l.stackTraces = false) (hR : 11 + 1 ≤ rm.frames ∧ 8 + (7 + 11) + 209 ≤ rm.locals) (hW : (rest.map fun v => v.category).sum ≤ 8) (d : decode cc pc = .ok (.invokestatic 277, 3)) (kk : ∀ r, K r → ∀ lc', tt_agr (XL l D dA A pz b L xs) s lc lc' → tt_V (XL l D dA A pz b L xs) cc (RX0, nl, rt, rm, tn) Q (pc + 3) lv (.int r.1 :: rest) lc' r.2 (ck + 4) (cn + 24)) (hf : ck + 4 ≤ rm.cells ∧ cn + 24 ≤ rm.slots) : tt_V (XL l D dA A pz b L xs) cc (RX0, nl, rt, rm, tn) Q pc lv (.ref (lc 400 0) :: .int x4 :: .int x3 :: .int x2 :: .int x1 :: .ref (lc 0 0) :: rest) lc s ck cn :=
  v_callSW (nA := 6) (As := [.ref (lc 0 0), .int x1, .int x2, .int x3, .int x4, .ref (lc 400 0)]) (mL_picks l D dA A pz b L xs hl9 lc s x1 x2 x3 x4 (Q := (fun v lc' s' => ∃ r : Int32 × tt_SL, K r ∧ v = some (Value.int r.1) ∧ tt_agr (XL l D dA A pz b L xs) s lc lc' ∧ s' = r.2)) (h.mono fun r hr lc' ha => ⟨r, hr, rfl, ha, rfl⟩)) (lw_SW q1593 q1594 q126 q1595) (by decide +kernel) rfl hR hW hf d rfl (fun v lc' s' q => by obtain ⟨r, hr, e1, e2, e3⟩ := q; rw [e1, e3]; exact kk r hr lc' e2)
theorem cLm_picks {l : Launch} {D : va_G} {dA : Nat → ClassId} {A : Nat → Prop} {pz b L : Nat} {xs : Nat → Int32} {lc : Nat → Nat → Nat} {s : tt_SL} {cc : ByteArray} {nl : Nat} {rt : Option FieldType} {rm : Room} {tn : tt_Tn} {Q : tt_Fin} {pc : Nat} {lv : List (Nat × Value)} {rest : List Value} {ck cn : Nat} {x1 : Int32} {x2 : Int32} {x3 : Int32} {x4 : Int32} {K : Int32 × tt_St → Prop} (h : Ok (fM_picks s.2.1 x1 x2 x3 x4) K) (hR : 5 + 1 ≤ rm.frames ∧ 8 + (5 + 11) + 117 ≤ rm.locals) (hW : (rest.map fun v => v.category).sum ≤ 8) (d : decode cc pc = .ok (.invokevirtual 279, 3)) (kk : ∀ r, K r → tt_V (XL l D dA A pz b L xs) cc (RX0, nl, rt, rm, tn) Q (pc + 3) lv (.int r.1 :: rest) lc (s.1, r.2, s.2.2) (ck + 0) (cn + 0)) (hf : ck + 0 ≤ rm.cells ∧ cn + 0 ≤ rm.slots) : tt_V (XL l D dA A pz b L xs) cc (RX0, nl, rt, rm, tn) Q pc lv (.int x4 :: .int x3 :: .int x2 :: .int x1 :: .ref (lc 300 0) :: rest) lc s ck cn :=
  v_callV (kd := 300) (i := 0) (nA := 4) (As := [.int x1, .int x2, .int x3, .int x4]) lvL_300 oL_300 rfl (liftM (Q := (fun v lc' s' => ∃ r : Int32 × tt_St, K r ∧ v = some (Value.int r.1) ∧ lc' = lc ∧ s' = (s.1, r.2, s.2.2))) (mM_picks l (DM D) (dMd dA) (aLM lc s) (nTm lc) s.2.1 x1 x2 x3 x4 (Q := fun v lc' w => lc' = nTm lc ∧ (fun v lc' s' => ∃ r : Int32 × tt_St, K r ∧ v = some (Value.int r.1) ∧ lc' = lc ∧ s' = (s.1, r.2, s.2.2)) v lc (s.1, w, s.2.2)) (h.mono fun r hr => ⟨rfl, r, hr, rfl, rfl, rfl⟩))) (lw_V q2365 q2366 q2367 q154 q2368) (by decide +kernel) rfl hR hW hf d rfl (fun v lc' s' q => by obtain ⟨r, hr, e1, e2, e3⟩ := q; rw [e1, e2, e3]; exact kk r hr)
def fL_case_32 (L : Nat) (xs : Nat → Int32) (s : tt_SL) (x4 : Int32) : Option tt_SL :=
  if inB (x4 + (1 : Int32)) L then if inB (x4 + (2 : Int32)) L then if inB (x4 + (3 : Int32)) L then if inB (x4 + (4 : Int32)) L then (wrapI (fT_picks s.1 (xs ((x4 + (1 : Int32)).toNatClampNeg)) (xs ((x4 + (2 : Int32)).toNatClampNeg)) (xs ((x4 + (3 : Int32)).toNatClampNeg)) (xs ((x4 + (4 : Int32)).toNatClampNeg))) s (cd3 none (some 1) none)).bind fun r5 => (fM_picks r5.2.2.1 (xs ((x4 + (1 : Int32)).toNatClampNeg)) (xs ((x4 + (2 : Int32)).toNatClampNeg)) (xs ((x4 + (3 : Int32)).toNatClampNeg)) (xs ((x4 + (4 : Int32)).toNatClampNeg))).bind fun r6 => (fM_thrown (r5.2.1, r6.2, r5.2.2.2).2.1).bind fun r7 => if r7 = r5.1 then if r5.1 = 0 then if inB (0 : Int32) 1 then if (rdL (r5.2.1, r6.2, r5.2.2.2).2.2 0 0 ((0 : Int32).toNatClampNeg)) = r6.1.toInt64 then some (r5.2.1, r6.2, r5.2.2.2) else none else none else some (r5.2.1, r6.2, r5.2.2.2) else none else none else none else none else none
set_option maxHeartbeats 4000000 in
theorem lcase_32 {l : Launch} {D : va_G} {dA : Nat → ClassId} {A : Nat → Prop} {pz b L : Nat} {xs : Nat → Int32} (hl9 : l.stackTraces = false) {lc : Nat → Nat → Nat} {s : tt_SL} {x4 : Int32} {ck cn : Nat} {tn : tt_Tn} {Q : tt_Fin} (hk1 : ck + 60 ≤ room_1.cells) (hk2 : cn + 600 ≤ room_1.slots) (h : Ok (fL_case_32 L xs s x4) (fun r => ∀ lc', tt_agr (XL l D dA A pz b L xs) s lc lc' → ∀ ck' cn', ck' ≤ ck + 60 → cn' ≤ cn + 600 → tt_V (XL l D dA A pz b L xs) code (RX0, 8, ret, room_1, tn) Q 3740 [(0, .ref b), (1, .ref (lc' 0 0)), (2, .ref (lc' 300 0)), (3, .ref (lc' 400 0)), (4, .int x4)] [] lc' r ck' cn')) : tt_V (XL l D dA A pz b L xs) code (RX0, 8, ret, room_1, tn) Q 2563 [(0, .ref b), (1, .ref (lc 0 0)), (2, .ref (lc 300 0)), (3, .ref (lc 400 0)), (4, .int x4)] [] lc s ck cn := by
  unfold fL_case_32 at h
  refine v_aload_n 1 dL_law_2563 rfl ?_
  refine v_aload_n 0 dL_law_2564 rfl ?_
  refine v_iload 4 dL_law_2565 rfl ?_
  refine v_iconst dL_law_2567 ic_1 ?_
  refine v_iadd dL_law_2568 ?_
  obtain ⟨g1, h⟩ := Ok.guard h
  refine v_sld g1 dL_law_2569 ?_
  refine v_aload_n 0 dL_law_2570 rfl ?_
  refine v_iload 4 dL_law_2571 rfl ?_
  refine v_iconst dL_law_2573 ic_2 ?_
  refine v_iadd dL_law_2574 ?_
  obtain ⟨g2, h⟩ := Ok.guard h
  refine v_sld g2 dL_law_2575 ?_
  refine v_aload_n 0 dL_law_2576 rfl ?_
  refine v_iload 4 dL_law_2577 rfl ?_
  refine v_iconst dL_law_2579 ic_3 ?_
  refine v_iadd dL_law_2580 ?_
  obtain ⟨g3, h⟩ := Ok.guard h
  refine v_sld g3 dL_law_2581 ?_
  refine v_aload_n 0 dL_law_2582 rfl ?_
  refine v_iload 4 dL_law_2583 rfl ?_
  refine v_iconst dL_law_2585 ic_4 ?_
  refine v_iadd dL_law_2586 ?_
  obtain ⟨g4, h⟩ := Ok.guard h
  refine v_sld g4 dL_law_2587 ?_
  refine v_aload_n 3 dL_law_2588 rfl ?_
  refine cLw_picks (Ok.bind h) hl9 ⟨Nat.le_of_ble_eq_true rfl, Nat.le_of_ble_eq_true rfl⟩ (Nat.le_of_ble_eq_true rfl) dL_law_2589 (fun r5 h lc hc => ?_) ⟨by omega, by omega⟩
  rw [← hc 0 0 (.inl lvL_0)]
  rw [← hc 300 0 (.inl lvL_300)]
  rw [← hc 400 0 (.inl lvL_400)]
  have h := Ok.agr h hc (fun _ _ h => h)
  refine v_istore [(5, .int r5.1), (0, .ref b), (1, .ref (lc 0 0)), (2, .ref (lc 300 0)), (3, .ref (lc 400 0)), (4, .int x4)] dL_law_2592 (Nat.le_of_ble_eq_true rfl) rfl ?_
  refine v_aload_n 3 dL_law_2594 rfl ?_
  refine v_aload_n 1 dL_law_2595 rfl ?_
  refine v_iload 5 dL_law_2596 rfl ?_
  refine v_iconst dL_law_2598 ic_1 ?_
  refine v_iadd dL_law_2599 ?_
  refine v_sld g1 dL_law_2600 ?_
  refine v_aload_n 1 dL_law_2601 rfl ?_
  refine v_iload 5 dL_law_2602 rfl ?_
  refine v_iconst dL_law_2604 ic_2 ?_
  refine v_iadd dL_law_2605 ?_
  refine v_sld g2 dL_law_2606 ?_
  refine v_aload_n 1 dL_law_2607 rfl ?_
  refine v_iload 5 dL_law_2608 rfl ?_
  refine v_iconst dL_law_2610 ic_3 ?_
  refine v_iadd dL_law_2611 ?_
  refine v_sld g3 dL_law_2612 ?_
  refine v_aload_n 1 dL_law_2613 rfl ?_
  refine v_iload 5 dL_law_2614 rfl ?_
  refine v_iconst dL_law_2616 ic_4 ?_
  refine v_iadd dL_law_2617 ?_
  refine v_sld g4 dL_law_2618 ?_
  refine cLm_picks (Ok.bind h) ⟨Nat.le_of_ble_eq_true rfl, Nat.le_of_ble_eq_true rfl⟩ (Nat.le_of_ble_eq_true rfl) dL_law_2619 (fun r6 h => ?_) ⟨by omega, by omega⟩
  refine v_istore [(6, .int r6.1), (5, .int r5.1), (0, .ref b), (1, .ref (lc 0 0)), (2, .ref (lc 300 0)), (3, .ref (lc 400 0)), (4, .int x4)] dL_law_2622 (Nat.le_of_ble_eq_true rfl) rfl ?_
  refine v_aload_n 4 dL_law_2624 rfl ?_
  refine cLm_thrown (Ok.bind h) ⟨Nat.le_of_ble_eq_true rfl, Nat.le_of_ble_eq_true rfl⟩ (Nat.le_of_ble_eq_true rfl) dL_law_2625 (fun r7 h => ?_) ⟨by omega, by omega⟩
  refine v_iload 1 dL_law_2628 rfl ?_
  refine v_icmp_eq (tgt := 2635) dL_law_2630 rfl (fun c8 => ?_) (fun c8 => ?_)
  · have h := Ok.pos h c8
    refine v_iload 1 dL_law_2635 rfl ?_
    refine v_if_ne (tgt := 2652) dL_law_2637 rfl (fun c9 => ?_) (fun c9 => ?_)
    · have h := Ok.neg h c9
      refine v_goto (tgt := 3740) dL_law_2652 rfl ?_
      refine v_sub [2, 3, 4, 5, 6] rfl ?_
      have h := Ok.ret h
      exact h lc agr_rf _ _ (by omega) (by omega)
    · have h := Ok.pos h c9
      refine v_aload_n 5 dL_law_2640 rfl ?_
      refine v_iconst dL_law_2641 ic_0 ?_
      obtain ⟨g10, h⟩ := Ok.guard h
      refine lL_400 g10 dL_law_2642 ?_
      refine v_iload 0 dL_law_2643 rfl ?_
      refine v_i2l dL_law_2645 rfl ?_
      refine v_lif_eq (tgt := 2652) dL_law_2646 dL_law_2647 rfl (fun c11 => ?_) (fun c11 => ?_)
      · have h := Ok.pos h c11
        refine v_goto (tgt := 3740) dL_law_2652 rfl ?_
        refine v_sub [2, 3, 4, 5, 6] rfl ?_
        have h := Ok.ret h
        exact h lc agr_rf _ _ (by omega) (by omega)
      · have h := Ok.neg h c11
        refine v_iconst dL_law_2650 ic_0 ?_
        exact Ok.stuck h
  · have h := Ok.neg h c8
    refine v_iconst dL_law_2633 ic_0 ?_
    exact Ok.stuck h
theorem cLw_other {l : Launch} {D : va_G} {dA : Nat → ClassId} {A : Nat → Prop} {pz b L : Nat} {xs : Nat → Int32} {lc : Nat → Nat → Nat} {s : tt_SL} {cc : ByteArray} {nl : Nat} {rt : Option FieldType} {rm : Room} {tn : tt_Tn} {Q : tt_Fin} {pc : Nat} {lv : List (Nat × Value)} {rest : List Value} {ck cn : Nat} {x1 : Int32} {x2 : Int32} {x3 : Int32} {x4 : Int32} {K : Int32 × tt_SL → Prop} (h : Ok (wrapL (fT_other s.1 x1 x2 x3 x4) s (cd3 none (some 1) none)) K) (hl9 : l.stackTraces = false) (hR : 19 + 1 ≤ rm.frames ∧ 8 + (7 + 11) + 449 ≤ rm.locals) (hW : (rest.map fun v => v.category).sum ≤ 8) (d : decode cc pc = .ok (.invokestatic 280, 3)) (kk : ∀ r, K r → ∀ lc', tt_agr (XL l D dA A pz b L xs) s lc lc' → tt_V (XL l D dA A pz b L xs) cc (RX0, nl, rt, rm, tn) Q (pc + 3) lv (.int r.1 :: rest) lc' r.2 (ck + 4) (cn + 24)) (hf : ck + 4 ≤ rm.cells ∧ cn + 24 ≤ rm.slots) : tt_V (XL l D dA A pz b L xs) cc (RX0, nl, rt, rm, tn) Q pc lv (.ref (lc 400 0) :: .int x4 :: .int x3 :: .int x2 :: .int x1 :: .ref (lc 0 0) :: rest) lc s ck cn :=
  v_callSW (nA := 6) (As := [.ref (lc 0 0), .int x1, .int x2, .int x3, .int x4, .ref (lc 400 0)]) (mL_other l D dA A pz b L xs hl9 lc s x1 x2 x3 x4 (Q := (fun v lc' s' => ∃ r : Int32 × tt_SL, K r ∧ v = some (Value.int r.1) ∧ tt_agr (XL l D dA A pz b L xs) s lc lc' ∧ s' = r.2)) (h.mono fun r hr lc' ha => ⟨r, hr, rfl, ha, rfl⟩)) (lw_SW q1609 q1610 q126 q1611) (by decide +kernel) rfl hR hW hf d rfl (fun v lc' s' q => by obtain ⟨r, hr, e1, e2, e3⟩ := q; rw [e1, e3]; exact kk r hr lc' e2)
theorem cLm_other {l : Launch} {D : va_G} {dA : Nat → ClassId} {A : Nat → Prop} {pz b L : Nat} {xs : Nat → Int32} {lc : Nat → Nat → Nat} {s : tt_SL} {cc : ByteArray} {nl : Nat} {rt : Option FieldType} {rm : Room} {tn : tt_Tn} {Q : tt_Fin} {pc : Nat} {lv : List (Nat × Value)} {rest : List Value} {ck cn : Nat} {x1 : Int32} {x2 : Int32} {x3 : Int32} {x4 : Int32} {K : Int64 × tt_St → Prop} (h : Ok (fM_other s.2.1 x1 x2 x3 x4) K) (hR : 12 + 1 ≤ rm.frames ∧ 8 + (5 + 11) + 277 ≤ rm.locals) (hW : (rest.map fun v => v.category).sum ≤ 8) (d : decode cc pc = .ok (.invokevirtual 282, 3)) (kk : ∀ r, K r → tt_V (XL l D dA A pz b L xs) cc (RX0, nl, rt, rm, tn) Q (pc + 3) lv (.long r.1 :: rest) lc (s.1, r.2, s.2.2) (ck + 0) (cn + 0)) (hf : ck + 0 ≤ rm.cells ∧ cn + 0 ≤ rm.slots) : tt_V (XL l D dA A pz b L xs) cc (RX0, nl, rt, rm, tn) Q pc lv (.int x4 :: .int x3 :: .int x2 :: .int x1 :: .ref (lc 300 0) :: rest) lc s ck cn :=
  v_callV (kd := 300) (i := 0) (nA := 4) (As := [.int x1, .int x2, .int x3, .int x4]) lvL_300 oL_300 rfl (liftM (Q := (fun v lc' s' => ∃ r : Int64 × tt_St, K r ∧ v = some (Value.long r.1) ∧ lc' = lc ∧ s' = (s.1, r.2, s.2.2))) (mM_other l (DM D) (dMd dA) (aLM lc s) (nTm lc) s.2.1 x1 x2 x3 x4 (Q := fun v lc' w => lc' = nTm lc ∧ (fun v lc' s' => ∃ r : Int64 × tt_St, K r ∧ v = some (Value.long r.1) ∧ lc' = lc ∧ s' = (s.1, r.2, s.2.2)) v lc (s.1, w, s.2.2)) (h.mono fun r hr => ⟨rfl, r, hr, rfl, rfl, rfl⟩))) (lw_V q2373 q2374 q2375 q154 q2376) (by decide +kernel) rfl hR hW hf d rfl (fun v lc' s' q => by obtain ⟨r, hr, e1, e2, e3⟩ := q; rw [e1, e2, e3]; exact kk r hr)
def fL_case_33 (L : Nat) (xs : Nat → Int32) (s : tt_SL) (x4 : Int32) : Option tt_SL :=
  if inB (x4 + (1 : Int32)) L then if inB (x4 + (2 : Int32)) L then if inB (x4 + (3 : Int32)) L then if inB (x4 + (4 : Int32)) L then (wrapL (fT_other s.1 (xs ((x4 + (1 : Int32)).toNatClampNeg)) (xs ((x4 + (2 : Int32)).toNatClampNeg)) (xs ((x4 + (3 : Int32)).toNatClampNeg)) (xs ((x4 + (4 : Int32)).toNatClampNeg))) s (cd3 none (some 1) none)).bind fun r5 => (fM_other r5.2.2.1 (xs ((x4 + (1 : Int32)).toNatClampNeg)) (xs ((x4 + (2 : Int32)).toNatClampNeg)) (xs ((x4 + (3 : Int32)).toNatClampNeg)) (xs ((x4 + (4 : Int32)).toNatClampNeg))).bind fun r6 => (fM_thrown (r5.2.1, r6.2, r5.2.2.2).2.1).bind fun r7 => if r7 = r5.1 then if r5.1 = 0 then if inB (0 : Int32) 1 then if (rdL (r5.2.1, r6.2, r5.2.2.2).2.2 0 0 ((0 : Int32).toNatClampNeg)) = r6.1 then some (r5.2.1, r6.2, r5.2.2.2) else none else none else some (r5.2.1, r6.2, r5.2.2.2) else none else none else none else none else none
set_option maxHeartbeats 4000000 in
theorem lcase_33 {l : Launch} {D : va_G} {dA : Nat → ClassId} {A : Nat → Prop} {pz b L : Nat} {xs : Nat → Int32} (hl9 : l.stackTraces = false) {lc : Nat → Nat → Nat} {s : tt_SL} {x4 : Int32} {ck cn : Nat} {tn : tt_Tn} {Q : tt_Fin} (hk1 : ck + 60 ≤ room_1.cells) (hk2 : cn + 600 ≤ room_1.slots) (h : Ok (fL_case_33 L xs s x4) (fun r => ∀ lc', tt_agr (XL l D dA A pz b L xs) s lc lc' → ∀ ck' cn', ck' ≤ ck + 60 → cn' ≤ cn + 600 → tt_V (XL l D dA A pz b L xs) code (RX0, 8, ret, room_1, tn) Q 3740 [(0, .ref b), (1, .ref (lc' 0 0)), (2, .ref (lc' 300 0)), (3, .ref (lc' 400 0)), (4, .int x4)] [] lc' r ck' cn')) : tt_V (XL l D dA A pz b L xs) code (RX0, 8, ret, room_1, tn) Q 2655 [(0, .ref b), (1, .ref (lc 0 0)), (2, .ref (lc 300 0)), (3, .ref (lc 400 0)), (4, .int x4)] [] lc s ck cn := by
  unfold fL_case_33 at h
  refine v_aload_n 1 dL_law_2655 rfl ?_
  refine v_aload_n 0 dL_law_2656 rfl ?_
  refine v_iload 4 dL_law_2657 rfl ?_
  refine v_iconst dL_law_2659 ic_1 ?_
  refine v_iadd dL_law_2660 ?_
  obtain ⟨g1, h⟩ := Ok.guard h
  refine v_sld g1 dL_law_2661 ?_
  refine v_aload_n 0 dL_law_2662 rfl ?_
  refine v_iload 4 dL_law_2663 rfl ?_
  refine v_iconst dL_law_2665 ic_2 ?_
  refine v_iadd dL_law_2666 ?_
  obtain ⟨g2, h⟩ := Ok.guard h
  refine v_sld g2 dL_law_2667 ?_
  refine v_aload_n 0 dL_law_2668 rfl ?_
  refine v_iload 4 dL_law_2669 rfl ?_
  refine v_iconst dL_law_2671 ic_3 ?_
  refine v_iadd dL_law_2672 ?_
  obtain ⟨g3, h⟩ := Ok.guard h
  refine v_sld g3 dL_law_2673 ?_
  refine v_aload_n 0 dL_law_2674 rfl ?_
  refine v_iload 4 dL_law_2675 rfl ?_
  refine v_iconst dL_law_2677 ic_4 ?_
  refine v_iadd dL_law_2678 ?_
  obtain ⟨g4, h⟩ := Ok.guard h
  refine v_sld g4 dL_law_2679 ?_
  refine v_aload_n 3 dL_law_2680 rfl ?_
  refine cLw_other (Ok.bind h) hl9 ⟨Nat.le_of_ble_eq_true rfl, Nat.le_of_ble_eq_true rfl⟩ (Nat.le_of_ble_eq_true rfl) dL_law_2681 (fun r5 h lc hc => ?_) ⟨by omega, by omega⟩
  rw [← hc 0 0 (.inl lvL_0)]
  rw [← hc 300 0 (.inl lvL_300)]
  rw [← hc 400 0 (.inl lvL_400)]
  have h := Ok.agr h hc (fun _ _ h => h)
  refine v_istore [(5, .int r5.1), (0, .ref b), (1, .ref (lc 0 0)), (2, .ref (lc 300 0)), (3, .ref (lc 400 0)), (4, .int x4)] dL_law_2684 (Nat.le_of_ble_eq_true rfl) rfl ?_
  refine v_aload_n 3 dL_law_2686 rfl ?_
  refine v_aload_n 1 dL_law_2687 rfl ?_
  refine v_iload 5 dL_law_2688 rfl ?_
  refine v_iconst dL_law_2690 ic_1 ?_
  refine v_iadd dL_law_2691 ?_
  refine v_sld g1 dL_law_2692 ?_
  refine v_aload_n 1 dL_law_2693 rfl ?_
  refine v_iload 5 dL_law_2694 rfl ?_
  refine v_iconst dL_law_2696 ic_2 ?_
  refine v_iadd dL_law_2697 ?_
  refine v_sld g2 dL_law_2698 ?_
  refine v_aload_n 1 dL_law_2699 rfl ?_
  refine v_iload 5 dL_law_2700 rfl ?_
  refine v_iconst dL_law_2702 ic_3 ?_
  refine v_iadd dL_law_2703 ?_
  refine v_sld g3 dL_law_2704 ?_
  refine v_aload_n 1 dL_law_2705 rfl ?_
  refine v_iload 5 dL_law_2706 rfl ?_
  refine v_iconst dL_law_2708 ic_4 ?_
  refine v_iadd dL_law_2709 ?_
  refine v_sld g4 dL_law_2710 ?_
  refine cLm_other (Ok.bind h) ⟨Nat.le_of_ble_eq_true rfl, Nat.le_of_ble_eq_true rfl⟩ (Nat.le_of_ble_eq_true rfl) dL_law_2711 (fun r6 h => ?_) ⟨by omega, by omega⟩
  refine v_lstore [(6, .long r6.1), (5, .int r5.1), (0, .ref b), (1, .ref (lc 0 0)), (2, .ref (lc 300 0)), (3, .ref (lc 400 0)), (4, .int x4)] dL_law_2714 (Nat.le_of_ble_eq_true rfl) rfl ?_
  refine v_aload_n 4 dL_law_2716 rfl ?_
  refine cLm_thrown (Ok.bind h) ⟨Nat.le_of_ble_eq_true rfl, Nat.le_of_ble_eq_true rfl⟩ (Nat.le_of_ble_eq_true rfl) dL_law_2717 (fun r7 h => ?_) ⟨by omega, by omega⟩
  refine v_iload 1 dL_law_2720 rfl ?_
  refine v_icmp_eq (tgt := 2727) dL_law_2722 rfl (fun c8 => ?_) (fun c8 => ?_)
  · have h := Ok.pos h c8
    refine v_iload 1 dL_law_2727 rfl ?_
    refine v_if_ne (tgt := 2743) dL_law_2729 rfl (fun c9 => ?_) (fun c9 => ?_)
    · have h := Ok.neg h c9
      refine v_goto (tgt := 3740) dL_law_2743 rfl ?_
      refine v_sub [2, 3, 4, 5, 6] rfl ?_
      have h := Ok.ret h
      exact h lc agr_rf _ _ (by omega) (by omega)
    · have h := Ok.pos h c9
      refine v_aload_n 5 dL_law_2732 rfl ?_
      refine v_iconst dL_law_2733 ic_0 ?_
      obtain ⟨g10, h⟩ := Ok.guard h
      refine lL_400 g10 dL_law_2734 ?_
      refine v_lload 0 dL_law_2735 rfl ?_
      refine v_lif_eq (tgt := 2743) dL_law_2737 dL_law_2738 rfl (fun c11 => ?_) (fun c11 => ?_)
      · have h := Ok.pos h c11
        refine v_goto (tgt := 3740) dL_law_2743 rfl ?_
        refine v_sub [2, 3, 4, 5, 6] rfl ?_
        have h := Ok.ret h
        exact h lc agr_rf _ _ (by omega) (by omega)
      · have h := Ok.neg h c11
        refine v_iconst dL_law_2741 ic_0 ?_
        exact Ok.stuck h
  · have h := Ok.neg h c8
    refine v_iconst dL_law_2725 ic_0 ?_
    exact Ok.stuck h
theorem cLw_best {l : Launch} {D : va_G} {dA : Nat → ClassId} {A : Nat → Prop} {pz b L : Nat} {xs : Nat → Int32} {lc : Nat → Nat → Nat} {s : tt_SL} {cc : ByteArray} {nl : Nat} {rt : Option FieldType} {rm : Room} {tn : tt_Tn} {Q : tt_Fin} {pc : Nat} {lv : List (Nat × Value)} {rest : List Value} {ck cn : Nat} {x1 : Int32} {x2 : Int32} {K : Int32 × tt_SL → Prop} (h : Ok (wrapL (fT_best s.1 x1 x2) s (cd3 none (some 1) none)) K) (hl9 : l.stackTraces = false) (hR : 19 + 1 ≤ rm.frames ∧ 8 + (5 + 11) + 453 ≤ rm.locals) (hW : (rest.map fun v => v.category).sum ≤ 8) (d : decode cc pc = .ok (.invokestatic 283, 3)) (kk : ∀ r, K r → ∀ lc', tt_agr (XL l D dA A pz b L xs) s lc lc' → tt_V (XL l D dA A pz b L xs) cc (RX0, nl, rt, rm, tn) Q (pc + 3) lv (.int r.1 :: rest) lc' r.2 (ck + 2) (cn + 12)) (hf : ck + 2 ≤ rm.cells ∧ cn + 12 ≤ rm.slots) : tt_V (XL l D dA A pz b L xs) cc (RX0, nl, rt, rm, tn) Q pc lv (.ref (lc 400 0) :: .int x2 :: .int x1 :: .ref (lc 0 0) :: rest) lc s ck cn :=
  v_callSW (nA := 4) (As := [.ref (lc 0 0), .int x1, .int x2, .ref (lc 400 0)]) (mL_best l D dA A pz b L xs hl9 lc s x1 x2 (Q := (fun v lc' s' => ∃ r : Int32 × tt_SL, K r ∧ v = some (Value.int r.1) ∧ tt_agr (XL l D dA A pz b L xs) s lc lc' ∧ s' = r.2)) (h.mono fun r hr lc' ha => ⟨r, hr, rfl, ha, rfl⟩)) (lw_SW q1628 q1629 q126 q1630) (by decide +kernel) rfl hR hW hf d rfl (fun v lc' s' q => by obtain ⟨r, hr, e1, e2, e3⟩ := q; rw [e1, e3]; exact kk r hr lc' e2)
theorem cLm_best {l : Launch} {D : va_G} {dA : Nat → ClassId} {A : Nat → Prop} {pz b L : Nat} {xs : Nat → Int32} {lc : Nat → Nat → Nat} {s : tt_SL} {cc : ByteArray} {nl : Nat} {rt : Option FieldType} {rm : Room} {tn : tt_Tn} {Q : tt_Fin} {pc : Nat} {lv : List (Nat × Value)} {rest : List Value} {ck cn : Nat} {x1 : Int32} {x2 : Int32} {K : Int64 × tt_St → Prop} (h : Ok (fM_best s.2.1 x1 x2) K) (hR : 11 + 1 ≤ rm.frames ∧ 8 + (7 + 11) + 257 ≤ rm.locals) (hW : (rest.map fun v => v.category).sum ≤ 8) (d : decode cc pc = .ok (.invokevirtual 285, 3)) (kk : ∀ r, K r → tt_V (XL l D dA A pz b L xs) cc (RX0, nl, rt, rm, tn) Q (pc + 3) lv (.long r.1 :: rest) lc (s.1, r.2, s.2.2) (ck + 0) (cn + 0)) (hf : ck + 0 ≤ rm.cells ∧ cn + 0 ≤ rm.slots) : tt_V (XL l D dA A pz b L xs) cc (RX0, nl, rt, rm, tn) Q pc lv (.int x2 :: .int x1 :: .ref (lc 300 0) :: rest) lc s ck cn :=
  v_callV (kd := 300) (i := 0) (nA := 2) (As := [.int x1, .int x2]) lvL_300 oL_300 rfl (liftM (Q := (fun v lc' s' => ∃ r : Int64 × tt_St, K r ∧ v = some (Value.long r.1) ∧ lc' = lc ∧ s' = (s.1, r.2, s.2.2))) (mM_best l (DM D) (dMd dA) (aLM lc s) (nTm lc) s.2.1 x1 x2 (Q := fun v lc' w => lc' = nTm lc ∧ (fun v lc' s' => ∃ r : Int64 × tt_St, K r ∧ v = some (Value.long r.1) ∧ lc' = lc ∧ s' = (s.1, r.2, s.2.2)) v lc (s.1, w, s.2.2)) (h.mono fun r hr => ⟨rfl, r, hr, rfl, rfl, rfl⟩))) (lw_V q2385 q2386 q2387 q154 q2388) (by decide +kernel) rfl hR hW hf d rfl (fun v lc' s' q => by obtain ⟨r, hr, e1, e2, e3⟩ := q; rw [e1, e2, e3]; exact kk r hr)
def fL_case_34 (L : Nat) (xs : Nat → Int32) (s : tt_SL) (x4 : Int32) : Option tt_SL :=
  if inB (x4 + (1 : Int32)) L then if inB (x4 + (2 : Int32)) L then (wrapL (fT_best s.1 (xs ((x4 + (1 : Int32)).toNatClampNeg)) (xs ((x4 + (2 : Int32)).toNatClampNeg))) s (cd3 none (some 1) none)).bind fun r3 => (fM_best r3.2.2.1 (xs ((x4 + (1 : Int32)).toNatClampNeg)) (xs ((x4 + (2 : Int32)).toNatClampNeg))).bind fun r4 => (fM_thrown (r3.2.1, r4.2, r3.2.2.2).2.1).bind fun r5 => if r5 = r3.1 then if r3.1 = 0 then if inB (0 : Int32) 1 then if (rdL (r3.2.1, r4.2, r3.2.2.2).2.2 0 0 ((0 : Int32).toNatClampNeg)) = r4.1 then some (r3.2.1, r4.2, r3.2.2.2) else none else none else some (r3.2.1, r4.2, r3.2.2.2) else none else none else none
set_option maxHeartbeats 4000000 in
theorem lcase_34 {l : Launch} {D : va_G} {dA : Nat → ClassId} {A : Nat → Prop} {pz b L : Nat} {xs : Nat → Int32} (hl9 : l.stackTraces = false) {lc : Nat → Nat → Nat} {s : tt_SL} {x4 : Int32} {ck cn : Nat} {tn : tt_Tn} {Q : tt_Fin} (hk1 : ck + 60 ≤ room_1.cells) (hk2 : cn + 600 ≤ room_1.slots) (h : Ok (fL_case_34 L xs s x4) (fun r => ∀ lc', tt_agr (XL l D dA A pz b L xs) s lc lc' → ∀ ck' cn', ck' ≤ ck + 60 → cn' ≤ cn + 600 → tt_V (XL l D dA A pz b L xs) code (RX0, 8, ret, room_1, tn) Q 3740 [(0, .ref b), (1, .ref (lc' 0 0)), (2, .ref (lc' 300 0)), (3, .ref (lc' 400 0)), (4, .int x4)] [] lc' r ck' cn')) : tt_V (XL l D dA A pz b L xs) code (RX0, 8, ret, room_1, tn) Q 2746 [(0, .ref b), (1, .ref (lc 0 0)), (2, .ref (lc 300 0)), (3, .ref (lc 400 0)), (4, .int x4)] [] lc s ck cn := by
  unfold fL_case_34 at h
  refine v_aload_n 1 dL_law_2746 rfl ?_
  refine v_aload_n 0 dL_law_2747 rfl ?_
  refine v_iload 4 dL_law_2748 rfl ?_
  refine v_iconst dL_law_2750 ic_1 ?_
  refine v_iadd dL_law_2751 ?_
  obtain ⟨g1, h⟩ := Ok.guard h
  refine v_sld g1 dL_law_2752 ?_
  refine v_aload_n 0 dL_law_2753 rfl ?_
  refine v_iload 4 dL_law_2754 rfl ?_
  refine v_iconst dL_law_2756 ic_2 ?_
  refine v_iadd dL_law_2757 ?_
  obtain ⟨g2, h⟩ := Ok.guard h
  refine v_sld g2 dL_law_2758 ?_
  refine v_aload_n 3 dL_law_2759 rfl ?_
  refine cLw_best (Ok.bind h) hl9 ⟨Nat.le_of_ble_eq_true rfl, Nat.le_of_ble_eq_true rfl⟩ (Nat.le_of_ble_eq_true rfl) dL_law_2760 (fun r3 h lc hc => ?_) ⟨by omega, by omega⟩
  rw [← hc 0 0 (.inl lvL_0)]
  rw [← hc 300 0 (.inl lvL_300)]
  rw [← hc 400 0 (.inl lvL_400)]
  have h := Ok.agr h hc (fun _ _ h => h)
  refine v_istore [(5, .int r3.1), (0, .ref b), (1, .ref (lc 0 0)), (2, .ref (lc 300 0)), (3, .ref (lc 400 0)), (4, .int x4)] dL_law_2763 (Nat.le_of_ble_eq_true rfl) rfl ?_
  refine v_aload_n 3 dL_law_2765 rfl ?_
  refine v_aload_n 1 dL_law_2766 rfl ?_
  refine v_iload 5 dL_law_2767 rfl ?_
  refine v_iconst dL_law_2769 ic_1 ?_
  refine v_iadd dL_law_2770 ?_
  refine v_sld g1 dL_law_2771 ?_
  refine v_aload_n 1 dL_law_2772 rfl ?_
  refine v_iload 5 dL_law_2773 rfl ?_
  refine v_iconst dL_law_2775 ic_2 ?_
  refine v_iadd dL_law_2776 ?_
  refine v_sld g2 dL_law_2777 ?_
  refine cLm_best (Ok.bind h) ⟨Nat.le_of_ble_eq_true rfl, Nat.le_of_ble_eq_true rfl⟩ (Nat.le_of_ble_eq_true rfl) dL_law_2778 (fun r4 h => ?_) ⟨by omega, by omega⟩
  refine v_lstore [(6, .long r4.1), (5, .int r3.1), (0, .ref b), (1, .ref (lc 0 0)), (2, .ref (lc 300 0)), (3, .ref (lc 400 0)), (4, .int x4)] dL_law_2781 (Nat.le_of_ble_eq_true rfl) rfl ?_
  refine v_aload_n 4 dL_law_2783 rfl ?_
  refine cLm_thrown (Ok.bind h) ⟨Nat.le_of_ble_eq_true rfl, Nat.le_of_ble_eq_true rfl⟩ (Nat.le_of_ble_eq_true rfl) dL_law_2784 (fun r5 h => ?_) ⟨by omega, by omega⟩
  refine v_iload 1 dL_law_2787 rfl ?_
  refine v_icmp_eq (tgt := 2794) dL_law_2789 rfl (fun c6 => ?_) (fun c6 => ?_)
  · have h := Ok.pos h c6
    refine v_iload 1 dL_law_2794 rfl ?_
    refine v_if_ne (tgt := 2810) dL_law_2796 rfl (fun c7 => ?_) (fun c7 => ?_)
    · have h := Ok.neg h c7
      refine v_goto (tgt := 3740) dL_law_2810 rfl ?_
      refine v_sub [2, 3, 4, 5, 6] rfl ?_
      have h := Ok.ret h
      exact h lc agr_rf _ _ (by omega) (by omega)
    · have h := Ok.pos h c7
      refine v_aload_n 5 dL_law_2799 rfl ?_
      refine v_iconst dL_law_2800 ic_0 ?_
      obtain ⟨g8, h⟩ := Ok.guard h
      refine lL_400 g8 dL_law_2801 ?_
      refine v_lload 0 dL_law_2802 rfl ?_
      refine v_lif_eq (tgt := 2810) dL_law_2804 dL_law_2805 rfl (fun c9 => ?_) (fun c9 => ?_)
      · have h := Ok.pos h c9
        refine v_goto (tgt := 3740) dL_law_2810 rfl ?_
        refine v_sub [2, 3, 4, 5, 6] rfl ?_
        have h := Ok.ret h
        exact h lc agr_rf _ _ (by omega) (by omega)
      · have h := Ok.neg h c9
        refine v_iconst dL_law_2808 ic_0 ?_
        exact Ok.stuck h
  · have h := Ok.neg h c6
    refine v_iconst dL_law_2792 ic_0 ?_
    exact Ok.stuck h
theorem cLw_without {l : Launch} {D : va_G} {dA : Nat → ClassId} {A : Nat → Prop} {pz b L : Nat} {xs : Nat → Int32} {lc : Nat → Nat → Nat} {s : tt_SL} {cc : ByteArray} {nl : Nat} {rt : Option FieldType} {rm : Room} {tn : tt_Tn} {Q : tt_Fin} {pc : Nat} {lv : List (Nat × Value)} {rest : List Value} {ck cn : Nat} {x1 : Int32} {x2 : Int32} {K : Int32 × tt_SL → Prop} (h : Ok (wrapL (fT_without s.1 x1 x2) s (cd3 (some 1) (some 2) none)) K) (hl9 : l.stackTraces = false) (hR : 19 + 1 ≤ rm.frames ∧ 8 + (5 + 11) + 445 ≤ rm.locals) (hW : (rest.map fun v => v.category).sum ≤ 8) (d : decode cc pc = .ok (.invokestatic 286, 3)) (kk : ∀ r, K r → ∀ lc', tt_agr (XL l D dA A pz b L xs) s lc lc' → tt_V (XL l D dA A pz b L xs) cc (RX0, nl, rt, rm, tn) Q (pc + 3) lv (.int r.1 :: rest) lc' r.2 (ck + 2) (cn + 12)) (hf : ck + 2 ≤ rm.cells ∧ cn + 12 ≤ rm.slots) : tt_V (XL l D dA A pz b L xs) cc (RX0, nl, rt, rm, tn) Q pc lv (.ref (lc 400 0) :: .int x2 :: .int x1 :: .ref (lc 0 0) :: rest) lc s ck cn :=
  v_callSW (nA := 4) (As := [.ref (lc 0 0), .int x1, .int x2, .ref (lc 400 0)]) (mL_without l D dA A pz b L xs hl9 lc s x1 x2 (Q := (fun v lc' s' => ∃ r : Int32 × tt_SL, K r ∧ v = some (Value.int r.1) ∧ tt_agr (XL l D dA A pz b L xs) s lc lc' ∧ s' = r.2)) (h.mono fun r hr lc' ha => ⟨r, hr, rfl, ha, rfl⟩)) (lw_SW q1635 q1636 q126 q1637) (by decide +kernel) rfl hR hW hf d rfl (fun v lc' s' q => by obtain ⟨r, hr, e1, e2, e3⟩ := q; rw [e1, e3]; exact kk r hr lc' e2)
theorem cLm_without {l : Launch} {D : va_G} {dA : Nat → ClassId} {A : Nat → Prop} {pz b L : Nat} {xs : Nat → Int32} {lc : Nat → Nat → Nat} {s : tt_SL} {cc : ByteArray} {nl : Nat} {rt : Option FieldType} {rm : Room} {tn : tt_Tn} {Q : tt_Fin} {pc : Nat} {lv : List (Nat × Value)} {rest : List Value} {ck cn : Nat} {x1 : Int32} {x2 : Int32} {K : Int64 × tt_St → Prop} (h : Ok (fM_without s.2.1 x1 x2) K) (hR : 12 + 1 ≤ rm.frames ∧ 8 + (3 + 11) + 277 ≤ rm.locals) (hW : (rest.map fun v => v.category).sum ≤ 8) (d : decode cc pc = .ok (.invokevirtual 288, 3)) (kk : ∀ r, K r → tt_V (XL l D dA A pz b L xs) cc (RX0, nl, rt, rm, tn) Q (pc + 3) lv (.long r.1 :: rest) lc (s.1, r.2, s.2.2) (ck + 0) (cn + 0)) (hf : ck + 0 ≤ rm.cells ∧ cn + 0 ≤ rm.slots) : tt_V (XL l D dA A pz b L xs) cc (RX0, nl, rt, rm, tn) Q pc lv (.int x2 :: .int x1 :: .ref (lc 300 0) :: rest) lc s ck cn :=
  v_callV (kd := 300) (i := 0) (nA := 2) (As := [.int x1, .int x2]) lvL_300 oL_300 rfl (liftM (Q := (fun v lc' s' => ∃ r : Int64 × tt_St, K r ∧ v = some (Value.long r.1) ∧ lc' = lc ∧ s' = (s.1, r.2, s.2.2))) (mM_without l (DM D) (dMd dA) (aLM lc s) (nTm lc) s.2.1 x1 x2 (Q := fun v lc' w => lc' = nTm lc ∧ (fun v lc' s' => ∃ r : Int64 × tt_St, K r ∧ v = some (Value.long r.1) ∧ lc' = lc ∧ s' = (s.1, r.2, s.2.2)) v lc (s.1, w, s.2.2)) (h.mono fun r hr => ⟨rfl, r, hr, rfl, rfl, rfl⟩))) (lw_V q2389 q2390 q2391 q154 q2392) (by decide +kernel) rfl hR hW hf d rfl (fun v lc' s' q => by obtain ⟨r, hr, e1, e2, e3⟩ := q; rw [e1, e2, e3]; exact kk r hr)
def fL_case_35 (L : Nat) (xs : Nat → Int32) (s : tt_SL) (x4 : Int32) : Option tt_SL :=
  if inB (x4 + (1 : Int32)) L then if inB (x4 + (2 : Int32)) L then (wrapL (fT_without s.1 (xs ((x4 + (1 : Int32)).toNatClampNeg)) (xs ((x4 + (2 : Int32)).toNatClampNeg))) s (cd3 (some 1) (some 2) none)).bind fun r3 => (fM_without r3.2.2.1 (xs ((x4 + (1 : Int32)).toNatClampNeg)) (xs ((x4 + (2 : Int32)).toNatClampNeg))).bind fun r4 => (fM_thrown (r3.2.1, r4.2, r3.2.2.2).2.1).bind fun r5 => if r5 = r3.1 then if r3.1 = 0 then if inB (0 : Int32) 1 then if (rdL (r3.2.1, r4.2, r3.2.2.2).2.2 0 0 ((0 : Int32).toNatClampNeg)) = r4.1 then some (r3.2.1, r4.2, r3.2.2.2) else none else none else some (r3.2.1, r4.2, r3.2.2.2) else none else none else none
set_option maxHeartbeats 4000000 in
theorem lcase_35 {l : Launch} {D : va_G} {dA : Nat → ClassId} {A : Nat → Prop} {pz b L : Nat} {xs : Nat → Int32} (hl9 : l.stackTraces = false) {lc : Nat → Nat → Nat} {s : tt_SL} {x4 : Int32} {ck cn : Nat} {tn : tt_Tn} {Q : tt_Fin} (hk1 : ck + 60 ≤ room_1.cells) (hk2 : cn + 600 ≤ room_1.slots) (h : Ok (fL_case_35 L xs s x4) (fun r => ∀ lc', tt_agr (XL l D dA A pz b L xs) s lc lc' → ∀ ck' cn', ck' ≤ ck + 60 → cn' ≤ cn + 600 → tt_V (XL l D dA A pz b L xs) code (RX0, 8, ret, room_1, tn) Q 3740 [(0, .ref b), (1, .ref (lc' 0 0)), (2, .ref (lc' 300 0)), (3, .ref (lc' 400 0)), (4, .int x4)] [] lc' r ck' cn')) : tt_V (XL l D dA A pz b L xs) code (RX0, 8, ret, room_1, tn) Q 2813 [(0, .ref b), (1, .ref (lc 0 0)), (2, .ref (lc 300 0)), (3, .ref (lc 400 0)), (4, .int x4)] [] lc s ck cn := by
  unfold fL_case_35 at h
  refine v_aload_n 1 dL_law_2813 rfl ?_
  refine v_aload_n 0 dL_law_2814 rfl ?_
  refine v_iload 4 dL_law_2815 rfl ?_
  refine v_iconst dL_law_2817 ic_1 ?_
  refine v_iadd dL_law_2818 ?_
  obtain ⟨g1, h⟩ := Ok.guard h
  refine v_sld g1 dL_law_2819 ?_
  refine v_aload_n 0 dL_law_2820 rfl ?_
  refine v_iload 4 dL_law_2821 rfl ?_
  refine v_iconst dL_law_2823 ic_2 ?_
  refine v_iadd dL_law_2824 ?_
  obtain ⟨g2, h⟩ := Ok.guard h
  refine v_sld g2 dL_law_2825 ?_
  refine v_aload_n 3 dL_law_2826 rfl ?_
  refine cLw_without (Ok.bind h) hl9 ⟨Nat.le_of_ble_eq_true rfl, Nat.le_of_ble_eq_true rfl⟩ (Nat.le_of_ble_eq_true rfl) dL_law_2827 (fun r3 h lc hc => ?_) ⟨by omega, by omega⟩
  rw [← hc 0 0 (.inl lvL_0)]
  rw [← hc 300 0 (.inl lvL_300)]
  rw [← hc 400 0 (.inl lvL_400)]
  have h := Ok.agr h hc (fun _ _ h => h)
  refine v_istore [(5, .int r3.1), (0, .ref b), (1, .ref (lc 0 0)), (2, .ref (lc 300 0)), (3, .ref (lc 400 0)), (4, .int x4)] dL_law_2830 (Nat.le_of_ble_eq_true rfl) rfl ?_
  refine v_aload_n 3 dL_law_2832 rfl ?_
  refine v_aload_n 1 dL_law_2833 rfl ?_
  refine v_iload 5 dL_law_2834 rfl ?_
  refine v_iconst dL_law_2836 ic_1 ?_
  refine v_iadd dL_law_2837 ?_
  refine v_sld g1 dL_law_2838 ?_
  refine v_aload_n 1 dL_law_2839 rfl ?_
  refine v_iload 5 dL_law_2840 rfl ?_
  refine v_iconst dL_law_2842 ic_2 ?_
  refine v_iadd dL_law_2843 ?_
  refine v_sld g2 dL_law_2844 ?_
  refine cLm_without (Ok.bind h) ⟨Nat.le_of_ble_eq_true rfl, Nat.le_of_ble_eq_true rfl⟩ (Nat.le_of_ble_eq_true rfl) dL_law_2845 (fun r4 h => ?_) ⟨by omega, by omega⟩
  refine v_lstore [(6, .long r4.1), (5, .int r3.1), (0, .ref b), (1, .ref (lc 0 0)), (2, .ref (lc 300 0)), (3, .ref (lc 400 0)), (4, .int x4)] dL_law_2848 (Nat.le_of_ble_eq_true rfl) rfl ?_
  refine v_aload_n 4 dL_law_2850 rfl ?_
  refine cLm_thrown (Ok.bind h) ⟨Nat.le_of_ble_eq_true rfl, Nat.le_of_ble_eq_true rfl⟩ (Nat.le_of_ble_eq_true rfl) dL_law_2851 (fun r5 h => ?_) ⟨by omega, by omega⟩
  refine v_iload 1 dL_law_2854 rfl ?_
  refine v_icmp_eq (tgt := 2861) dL_law_2856 rfl (fun c6 => ?_) (fun c6 => ?_)
  · have h := Ok.pos h c6
    refine v_iload 1 dL_law_2861 rfl ?_
    refine v_if_ne (tgt := 2877) dL_law_2863 rfl (fun c7 => ?_) (fun c7 => ?_)
    · have h := Ok.neg h c7
      refine v_goto (tgt := 3740) dL_law_2877 rfl ?_
      refine v_sub [2, 3, 4, 5, 6] rfl ?_
      have h := Ok.ret h
      exact h lc agr_rf _ _ (by omega) (by omega)
    · have h := Ok.pos h c7
      refine v_aload_n 5 dL_law_2866 rfl ?_
      refine v_iconst dL_law_2867 ic_0 ?_
      obtain ⟨g8, h⟩ := Ok.guard h
      refine lL_400 g8 dL_law_2868 ?_
      refine v_lload 0 dL_law_2869 rfl ?_
      refine v_lif_eq (tgt := 2877) dL_law_2871 dL_law_2872 rfl (fun c9 => ?_) (fun c9 => ?_)
      · have h := Ok.pos h c9
        refine v_goto (tgt := 3740) dL_law_2877 rfl ?_
        refine v_sub [2, 3, 4, 5, 6] rfl ?_
        have h := Ok.ret h
        exact h lc agr_rf _ _ (by omega) (by omega)
      · have h := Ok.neg h c9
        refine v_iconst dL_law_2875 ic_0 ?_
        exact Ok.stuck h
  · have h := Ok.neg h c6
    refine v_iconst dL_law_2859 ic_0 ?_
    exact Ok.stuck h
theorem cLw_undone {l : Launch} {D : va_G} {dA : Nat → ClassId} {A : Nat → Prop} {pz b L : Nat} {xs : Nat → Int32} {lc : Nat → Nat → Nat} {s : tt_SL} {cc : ByteArray} {nl : Nat} {rt : Option FieldType} {rm : Room} {tn : tt_Tn} {Q : tt_Fin} {pc : Nat} {lv : List (Nat × Value)} {rest : List Value} {ck cn : Nat} {x1 : Int32} {K : Int32 × tt_SL → Prop} (h : Ok (wrapI (fT_undone s.1 x1) s (cd3 (some 1) none none)) K) (hl9 : l.stackTraces = false) (hR : 19 + 1 ≤ rm.frames ∧ 8 + (4 + 11) + 444 ≤ rm.locals) (hW : (rest.map fun v => v.category).sum ≤ 8) (d : decode cc pc = .ok (.invokestatic 289, 3)) (kk : ∀ r, K r → ∀ lc', tt_agr (XL l D dA A pz b L xs) s lc lc' → tt_V (XL l D dA A pz b L xs) cc (RX0, nl, rt, rm, tn) Q (pc + 3) lv (.int r.1 :: rest) lc' r.2 (ck + 1) (cn + 6)) (hf : ck + 1 ≤ rm.cells ∧ cn + 6 ≤ rm.slots) : tt_V (XL l D dA A pz b L xs) cc (RX0, nl, rt, rm, tn) Q pc lv (.ref (lc 400 0) :: .int x1 :: .ref (lc 0 0) :: rest) lc s ck cn :=
  v_callSW (nA := 3) (As := [.ref (lc 0 0), .int x1, .ref (lc 400 0)]) (mL_undone l D dA A pz b L xs hl9 lc s x1 (Q := (fun v lc' s' => ∃ r : Int32 × tt_SL, K r ∧ v = some (Value.int r.1) ∧ tt_agr (XL l D dA A pz b L xs) s lc lc' ∧ s' = r.2)) (h.mono fun r hr lc' ha => ⟨r, hr, rfl, ha, rfl⟩)) (lw_SW q1646 q1647 q126 q1648) (by decide +kernel) rfl hR hW hf d rfl (fun v lc' s' q => by obtain ⟨r, hr, e1, e2, e3⟩ := q; rw [e1, e3]; exact kk r hr lc' e2)
theorem cLm_undone {l : Launch} {D : va_G} {dA : Nat → ClassId} {A : Nat → Prop} {pz b L : Nat} {xs : Nat → Int32} {lc : Nat → Nat → Nat} {s : tt_SL} {cc : ByteArray} {nl : Nat} {rt : Option FieldType} {rm : Room} {tn : tt_Tn} {Q : tt_Fin} {pc : Nat} {lv : List (Nat × Value)} {rest : List Value} {ck cn : Nat} {x1 : Int32} {K : Int32 × tt_St → Prop} (h : Ok (fM_undone s.2.1 x1) K) (hR : 11 + 1 ≤ rm.frames ∧ 8 + (3 + 11) + 255 ≤ rm.locals) (hW : (rest.map fun v => v.category).sum ≤ 8) (d : decode cc pc = .ok (.invokevirtual 291, 3)) (kk : ∀ r, K r → tt_V (XL l D dA A pz b L xs) cc (RX0, nl, rt, rm, tn) Q (pc + 3) lv (.int r.1 :: rest) lc (s.1, r.2, s.2.2) (ck + 0) (cn + 0)) (hf : ck + 0 ≤ rm.cells ∧ cn + 0 ≤ rm.slots) : tt_V (XL l D dA A pz b L xs) cc (RX0, nl, rt, rm, tn) Q pc lv (.int x1 :: .ref (lc 300 0) :: rest) lc s ck cn :=
  v_callV (kd := 300) (i := 0) (nA := 1) (As := [.int x1]) lvL_300 oL_300 rfl (liftM (Q := (fun v lc' s' => ∃ r : Int32 × tt_St, K r ∧ v = some (Value.int r.1) ∧ lc' = lc ∧ s' = (s.1, r.2, s.2.2))) (mM_undone l (DM D) (dMd dA) (aLM lc s) (nTm lc) s.2.1 x1 (Q := fun v lc' w => lc' = nTm lc ∧ (fun v lc' s' => ∃ r : Int32 × tt_St, K r ∧ v = some (Value.int r.1) ∧ lc' = lc ∧ s' = (s.1, r.2, s.2.2)) v lc (s.1, w, s.2.2)) (h.mono fun r hr => ⟨rfl, r, hr, rfl, rfl, rfl⟩))) (lw_V q2401 q2402 q2403 q154 q2404) (by decide +kernel) rfl hR hW hf d rfl (fun v lc' s' q => by obtain ⟨r, hr, e1, e2, e3⟩ := q; rw [e1, e2, e3]; exact kk r hr)
def fL_case_36 (L : Nat) (xs : Nat → Int32) (s : tt_SL) (x4 : Int32) : Option tt_SL :=
  if inB (x4 + (1 : Int32)) L then (wrapI (fT_undone s.1 (xs ((x4 + (1 : Int32)).toNatClampNeg))) s (cd3 (some 1) none none)).bind fun r2 => (fM_undone r2.2.2.1 (xs ((x4 + (1 : Int32)).toNatClampNeg))).bind fun r3 => (fM_thrown (r2.2.1, r3.2, r2.2.2.2).2.1).bind fun r4 => if r4 = r2.1 then if r2.1 = 0 then if inB (0 : Int32) 1 then if (rdL (r2.2.1, r3.2, r2.2.2.2).2.2 0 0 ((0 : Int32).toNatClampNeg)) = r3.1.toInt64 then some (r2.2.1, r3.2, r2.2.2.2) else none else none else some (r2.2.1, r3.2, r2.2.2.2) else none else none
set_option maxHeartbeats 4000000 in
theorem lcase_36 {l : Launch} {D : va_G} {dA : Nat → ClassId} {A : Nat → Prop} {pz b L : Nat} {xs : Nat → Int32} (hl9 : l.stackTraces = false) {lc : Nat → Nat → Nat} {s : tt_SL} {x4 : Int32} {ck cn : Nat} {tn : tt_Tn} {Q : tt_Fin} (hk1 : ck + 60 ≤ room_1.cells) (hk2 : cn + 600 ≤ room_1.slots) (h : Ok (fL_case_36 L xs s x4) (fun r => ∀ lc', tt_agr (XL l D dA A pz b L xs) s lc lc' → ∀ ck' cn', ck' ≤ ck + 60 → cn' ≤ cn + 600 → tt_V (XL l D dA A pz b L xs) code (RX0, 8, ret, room_1, tn) Q 3740 [(0, .ref b), (1, .ref (lc' 0 0)), (2, .ref (lc' 300 0)), (3, .ref (lc' 400 0)), (4, .int x4)] [] lc' r ck' cn')) : tt_V (XL l D dA A pz b L xs) code (RX0, 8, ret, room_1, tn) Q 2880 [(0, .ref b), (1, .ref (lc 0 0)), (2, .ref (lc 300 0)), (3, .ref (lc 400 0)), (4, .int x4)] [] lc s ck cn := by
  unfold fL_case_36 at h
  refine v_aload_n 1 dL_law_2880 rfl ?_
  refine v_aload_n 0 dL_law_2881 rfl ?_
  refine v_iload 4 dL_law_2882 rfl ?_
  refine v_iconst dL_law_2884 ic_1 ?_
  refine v_iadd dL_law_2885 ?_
  obtain ⟨g1, h⟩ := Ok.guard h
  refine v_sld g1 dL_law_2886 ?_
  refine v_aload_n 3 dL_law_2887 rfl ?_
  refine cLw_undone (Ok.bind h) hl9 ⟨Nat.le_of_ble_eq_true rfl, Nat.le_of_ble_eq_true rfl⟩ (Nat.le_of_ble_eq_true rfl) dL_law_2888 (fun r2 h lc hc => ?_) ⟨by omega, by omega⟩
  rw [← hc 0 0 (.inl lvL_0)]
  rw [← hc 300 0 (.inl lvL_300)]
  rw [← hc 400 0 (.inl lvL_400)]
  have h := Ok.agr h hc (fun _ _ h => h)
  refine v_istore [(5, .int r2.1), (0, .ref b), (1, .ref (lc 0 0)), (2, .ref (lc 300 0)), (3, .ref (lc 400 0)), (4, .int x4)] dL_law_2891 (Nat.le_of_ble_eq_true rfl) rfl ?_
  refine v_aload_n 3 dL_law_2893 rfl ?_
  refine v_aload_n 1 dL_law_2894 rfl ?_
  refine v_iload 5 dL_law_2895 rfl ?_
  refine v_iconst dL_law_2897 ic_1 ?_
  refine v_iadd dL_law_2898 ?_
  refine v_sld g1 dL_law_2899 ?_
  refine cLm_undone (Ok.bind h) ⟨Nat.le_of_ble_eq_true rfl, Nat.le_of_ble_eq_true rfl⟩ (Nat.le_of_ble_eq_true rfl) dL_law_2900 (fun r3 h => ?_) ⟨by omega, by omega⟩
  refine v_istore [(6, .int r3.1), (5, .int r2.1), (0, .ref b), (1, .ref (lc 0 0)), (2, .ref (lc 300 0)), (3, .ref (lc 400 0)), (4, .int x4)] dL_law_2903 (Nat.le_of_ble_eq_true rfl) rfl ?_
  refine v_aload_n 4 dL_law_2905 rfl ?_
  refine cLm_thrown (Ok.bind h) ⟨Nat.le_of_ble_eq_true rfl, Nat.le_of_ble_eq_true rfl⟩ (Nat.le_of_ble_eq_true rfl) dL_law_2906 (fun r4 h => ?_) ⟨by omega, by omega⟩
  refine v_iload 1 dL_law_2909 rfl ?_
  refine v_icmp_eq (tgt := 2916) dL_law_2911 rfl (fun c5 => ?_) (fun c5 => ?_)
  · have h := Ok.pos h c5
    refine v_iload 1 dL_law_2916 rfl ?_
    refine v_if_ne (tgt := 2933) dL_law_2918 rfl (fun c6 => ?_) (fun c6 => ?_)
    · have h := Ok.neg h c6
      refine v_goto (tgt := 3740) dL_law_2933 rfl ?_
      refine v_sub [2, 3, 4, 5, 6] rfl ?_
      have h := Ok.ret h
      exact h lc agr_rf _ _ (by omega) (by omega)
    · have h := Ok.pos h c6
      refine v_aload_n 5 dL_law_2921 rfl ?_
      refine v_iconst dL_law_2922 ic_0 ?_
      obtain ⟨g7, h⟩ := Ok.guard h
      refine lL_400 g7 dL_law_2923 ?_
      refine v_iload 0 dL_law_2924 rfl ?_
      refine v_i2l dL_law_2926 rfl ?_
      refine v_lif_eq (tgt := 2933) dL_law_2927 dL_law_2928 rfl (fun c8 => ?_) (fun c8 => ?_)
      · have h := Ok.pos h c8
        refine v_goto (tgt := 3740) dL_law_2933 rfl ?_
        refine v_sub [2, 3, 4, 5, 6] rfl ?_
        have h := Ok.ret h
        exact h lc agr_rf _ _ (by omega) (by omega)
      · have h := Ok.neg h c8
        refine v_iconst dL_law_2931 ic_0 ?_
        exact Ok.stuck h
  · have h := Ok.neg h c5
    refine v_iconst dL_law_2914 ic_0 ?_
    exact Ok.stuck h
theorem cLw_spared {l : Launch} {D : va_G} {dA : Nat → ClassId} {A : Nat → Prop} {pz b L : Nat} {xs : Nat → Int32} {lc : Nat → Nat → Nat} {s : tt_SL} {cc : ByteArray} {nl : Nat} {rt : Option FieldType} {rm : Room} {tn : tt_Tn} {Q : tt_Fin} {pc : Nat} {lv : List (Nat × Value)} {rest : List Value} {ck cn : Nat} {x1 : Int32} {K : Int32 × tt_SL → Prop} (h : Ok (wrapL (fT_spared s.1 x1) s (cd3 none (some 1) none)) K) (hl9 : l.stackTraces = false) (hR : 19 + 1 ≤ rm.frames ∧ 8 + (4 + 11) + 445 ≤ rm.locals) (hW : (rest.map fun v => v.category).sum ≤ 8) (d : decode cc pc = .ok (.invokestatic 292, 3)) (kk : ∀ r, K r → ∀ lc', tt_agr (XL l D dA A pz b L xs) s lc lc' → tt_V (XL l D dA A pz b L xs) cc (RX0, nl, rt, rm, tn) Q (pc + 3) lv (.int r.1 :: rest) lc' r.2 (ck + 1) (cn + 6)) (hf : ck + 1 ≤ rm.cells ∧ cn + 6 ≤ rm.slots) : tt_V (XL l D dA A pz b L xs) cc (RX0, nl, rt, rm, tn) Q pc lv (.ref (lc 400 0) :: .int x1 :: .ref (lc 0 0) :: rest) lc s ck cn :=
  v_callSW (nA := 3) (As := [.ref (lc 0 0), .int x1, .ref (lc 400 0)]) (mL_spared l D dA A pz b L xs hl9 lc s x1 (Q := (fun v lc' s' => ∃ r : Int32 × tt_SL, K r ∧ v = some (Value.int r.1) ∧ tt_agr (XL l D dA A pz b L xs) s lc lc' ∧ s' = r.2)) (h.mono fun r hr lc' ha => ⟨r, hr, rfl, ha, rfl⟩)) (lw_SW q1653 q1654 q126 q1655) (by decide +kernel) rfl hR hW hf d rfl (fun v lc' s' q => by obtain ⟨r, hr, e1, e2, e3⟩ := q; rw [e1, e3]; exact kk r hr lc' e2)
theorem cLm_spared {l : Launch} {D : va_G} {dA : Nat → ClassId} {A : Nat → Prop} {pz b L : Nat} {xs : Nat → Int32} {lc : Nat → Nat → Nat} {s : tt_SL} {cc : ByteArray} {nl : Nat} {rt : Option FieldType} {rm : Room} {tn : tt_Tn} {Q : tt_Fin} {pc : Nat} {lv : List (Nat × Value)} {rest : List Value} {ck cn : Nat} {x1 : Int32} {K : Int64 × tt_St → Prop} (h : Ok (fM_spared s.2.1 x1) K) (hR : 12 + 1 ≤ rm.frames ∧ 8 + (6 + 11) + 277 ≤ rm.locals) (hW : (rest.map fun v => v.category).sum ≤ 8) (d : decode cc pc = .ok (.invokevirtual 294, 3)) (kk : ∀ r, K r → tt_V (XL l D dA A pz b L xs) cc (RX0, nl, rt, rm, tn) Q (pc + 3) lv (.long r.1 :: rest) lc (s.1, r.2, s.2.2) (ck + 0) (cn + 0)) (hf : ck + 0 ≤ rm.cells ∧ cn + 0 ≤ rm.slots) : tt_V (XL l D dA A pz b L xs) cc (RX0, nl, rt, rm, tn) Q pc lv (.int x1 :: .ref (lc 300 0) :: rest) lc s ck cn :=
  v_callV (kd := 300) (i := 0) (nA := 1) (As := [.int x1]) lvL_300 oL_300 rfl (liftM (Q := (fun v lc' s' => ∃ r : Int64 × tt_St, K r ∧ v = some (Value.long r.1) ∧ lc' = lc ∧ s' = (s.1, r.2, s.2.2))) (mM_spared l (DM D) (dMd dA) (aLM lc s) (nTm lc) s.2.1 x1 (Q := fun v lc' w => lc' = nTm lc ∧ (fun v lc' s' => ∃ r : Int64 × tt_St, K r ∧ v = some (Value.long r.1) ∧ lc' = lc ∧ s' = (s.1, r.2, s.2.2)) v lc (s.1, w, s.2.2)) (h.mono fun r hr => ⟨rfl, r, hr, rfl, rfl, rfl⟩))) (lw_V q2425 q2426 q2427 q154 q2428) (by decide +kernel) rfl hR hW hf d rfl (fun v lc' s' q => by obtain ⟨r, hr, e1, e2, e3⟩ := q; rw [e1, e2, e3]; exact kk r hr)
def fL_case_37 (L : Nat) (xs : Nat → Int32) (s : tt_SL) (x4 : Int32) : Option tt_SL :=
  if inB (x4 + (1 : Int32)) L then (wrapL (fT_spared s.1 (xs ((x4 + (1 : Int32)).toNatClampNeg))) s (cd3 none (some 1) none)).bind fun r2 => (fM_spared r2.2.2.1 (xs ((x4 + (1 : Int32)).toNatClampNeg))).bind fun r3 => (fM_thrown (r2.2.1, r3.2, r2.2.2.2).2.1).bind fun r4 => if r4 = r2.1 then if r2.1 = 0 then if inB (0 : Int32) 1 then if (rdL (r2.2.1, r3.2, r2.2.2.2).2.2 0 0 ((0 : Int32).toNatClampNeg)) = r3.1 then some (r2.2.1, r3.2, r2.2.2.2) else none else none else some (r2.2.1, r3.2, r2.2.2.2) else none else none
set_option maxHeartbeats 4000000 in
theorem lcase_37 {l : Launch} {D : va_G} {dA : Nat → ClassId} {A : Nat → Prop} {pz b L : Nat} {xs : Nat → Int32} (hl9 : l.stackTraces = false) {lc : Nat → Nat → Nat} {s : tt_SL} {x4 : Int32} {ck cn : Nat} {tn : tt_Tn} {Q : tt_Fin} (hk1 : ck + 60 ≤ room_1.cells) (hk2 : cn + 600 ≤ room_1.slots) (h : Ok (fL_case_37 L xs s x4) (fun r => ∀ lc', tt_agr (XL l D dA A pz b L xs) s lc lc' → ∀ ck' cn', ck' ≤ ck + 60 → cn' ≤ cn + 600 → tt_V (XL l D dA A pz b L xs) code (RX0, 8, ret, room_1, tn) Q 3740 [(0, .ref b), (1, .ref (lc' 0 0)), (2, .ref (lc' 300 0)), (3, .ref (lc' 400 0)), (4, .int x4)] [] lc' r ck' cn')) : tt_V (XL l D dA A pz b L xs) code (RX0, 8, ret, room_1, tn) Q 2936 [(0, .ref b), (1, .ref (lc 0 0)), (2, .ref (lc 300 0)), (3, .ref (lc 400 0)), (4, .int x4)] [] lc s ck cn := by
  unfold fL_case_37 at h
  refine v_aload_n 1 dL_law_2936 rfl ?_
  refine v_aload_n 0 dL_law_2937 rfl ?_
  refine v_iload 4 dL_law_2938 rfl ?_
  refine v_iconst dL_law_2940 ic_1 ?_
  refine v_iadd dL_law_2941 ?_
  obtain ⟨g1, h⟩ := Ok.guard h
  refine v_sld g1 dL_law_2942 ?_
  refine v_aload_n 3 dL_law_2943 rfl ?_
  refine cLw_spared (Ok.bind h) hl9 ⟨Nat.le_of_ble_eq_true rfl, Nat.le_of_ble_eq_true rfl⟩ (Nat.le_of_ble_eq_true rfl) dL_law_2944 (fun r2 h lc hc => ?_) ⟨by omega, by omega⟩
  rw [← hc 0 0 (.inl lvL_0)]
  rw [← hc 300 0 (.inl lvL_300)]
  rw [← hc 400 0 (.inl lvL_400)]
  have h := Ok.agr h hc (fun _ _ h => h)
  refine v_istore [(5, .int r2.1), (0, .ref b), (1, .ref (lc 0 0)), (2, .ref (lc 300 0)), (3, .ref (lc 400 0)), (4, .int x4)] dL_law_2947 (Nat.le_of_ble_eq_true rfl) rfl ?_
  refine v_aload_n 3 dL_law_2949 rfl ?_
  refine v_aload_n 1 dL_law_2950 rfl ?_
  refine v_iload 5 dL_law_2951 rfl ?_
  refine v_iconst dL_law_2953 ic_1 ?_
  refine v_iadd dL_law_2954 ?_
  refine v_sld g1 dL_law_2955 ?_
  refine cLm_spared (Ok.bind h) ⟨Nat.le_of_ble_eq_true rfl, Nat.le_of_ble_eq_true rfl⟩ (Nat.le_of_ble_eq_true rfl) dL_law_2956 (fun r3 h => ?_) ⟨by omega, by omega⟩
  refine v_lstore [(6, .long r3.1), (5, .int r2.1), (0, .ref b), (1, .ref (lc 0 0)), (2, .ref (lc 300 0)), (3, .ref (lc 400 0)), (4, .int x4)] dL_law_2959 (Nat.le_of_ble_eq_true rfl) rfl ?_
  refine v_aload_n 4 dL_law_2961 rfl ?_
  refine cLm_thrown (Ok.bind h) ⟨Nat.le_of_ble_eq_true rfl, Nat.le_of_ble_eq_true rfl⟩ (Nat.le_of_ble_eq_true rfl) dL_law_2962 (fun r4 h => ?_) ⟨by omega, by omega⟩
  refine v_iload 1 dL_law_2965 rfl ?_
  refine v_icmp_eq (tgt := 2972) dL_law_2967 rfl (fun c5 => ?_) (fun c5 => ?_)
  · have h := Ok.pos h c5
    refine v_iload 1 dL_law_2972 rfl ?_
    refine v_if_ne (tgt := 2988) dL_law_2974 rfl (fun c6 => ?_) (fun c6 => ?_)
    · have h := Ok.neg h c6
      refine v_goto (tgt := 3740) dL_law_2988 rfl ?_
      refine v_sub [2, 3, 4, 5, 6] rfl ?_
      have h := Ok.ret h
      exact h lc agr_rf _ _ (by omega) (by omega)
    · have h := Ok.pos h c6
      refine v_aload_n 5 dL_law_2977 rfl ?_
      refine v_iconst dL_law_2978 ic_0 ?_
      obtain ⟨g7, h⟩ := Ok.guard h
      refine lL_400 g7 dL_law_2979 ?_
      refine v_lload 0 dL_law_2980 rfl ?_
      refine v_lif_eq (tgt := 2988) dL_law_2982 dL_law_2983 rfl (fun c8 => ?_) (fun c8 => ?_)
      · have h := Ok.pos h c8
        refine v_goto (tgt := 3740) dL_law_2988 rfl ?_
        refine v_sub [2, 3, 4, 5, 6] rfl ?_
        have h := Ok.ret h
        exact h lc agr_rf _ _ (by omega) (by omega)
      · have h := Ok.neg h c8
        refine v_iconst dL_law_2986 ic_0 ?_
        exact Ok.stuck h
  · have h := Ok.neg h c5
    refine v_iconst dL_law_2970 ic_0 ?_
    exact Ok.stuck h
theorem cLw_shift {l : Launch} {D : va_G} {dA : Nat → ClassId} {A : Nat → Prop} {pz b L : Nat} {xs : Nat → Int32} {lc : Nat → Nat → Nat} {s : tt_SL} {cc : ByteArray} {nl : Nat} {rt : Option FieldType} {rm : Room} {tn : tt_Tn} {Q : tt_Fin} {pc : Nat} {lv : List (Nat × Value)} {rest : List Value} {ck cn : Nat} {x1 : Int32} {x2 : Int32} {x3 : Int32} {K : Int32 × tt_SL → Prop} (h : Ok (wrapL (fT_shift s.1 x1 x2 x3) s (cd3 (some 1) (some 2) none)) K) (hl9 : l.stackTraces = false) (hR : 17 + 1 ≤ rm.frames ∧ 8 + (6 + 11) + 403 ≤ rm.locals) (hW : (rest.map fun v => v.category).sum ≤ 8) (d : decode cc pc = .ok (.invokestatic 295, 3)) (kk : ∀ r, K r → ∀ lc', tt_agr (XL l D dA A pz b L xs) s lc lc' → tt_V (XL l D dA A pz b L xs) cc (RX0, nl, rt, rm, tn) Q (pc + 3) lv (.int r.1 :: rest) lc' r.2 (ck + 3) (cn + 18)) (hf : ck + 3 ≤ rm.cells ∧ cn + 18 ≤ rm.slots) : tt_V (XL l D dA A pz b L xs) cc (RX0, nl, rt, rm, tn) Q pc lv (.ref (lc 400 0) :: .int x3 :: .int x2 :: .int x1 :: .ref (lc 0 0) :: rest) lc s ck cn :=
  v_callSW (nA := 5) (As := [.ref (lc 0 0), .int x1, .int x2, .int x3, .ref (lc 400 0)]) (mL_shift l D dA A pz b L xs hl9 lc s x1 x2 x3 (Q := (fun v lc' s' => ∃ r : Int32 × tt_SL, K r ∧ v = some (Value.int r.1) ∧ tt_agr (XL l D dA A pz b L xs) s lc lc' ∧ s' = r.2)) (h.mono fun r hr lc' ha => ⟨r, hr, rfl, ha, rfl⟩)) (lw_SW q1660 q1661 q126 q1662) (by decide +kernel) rfl hR hW hf d rfl (fun v lc' s' q => by obtain ⟨r, hr, e1, e2, e3⟩ := q; rw [e1, e3]; exact kk r hr lc' e2)
theorem cLm_shift {l : Launch} {D : va_G} {dA : Nat → ClassId} {A : Nat → Prop} {pz b L : Nat} {xs : Nat → Int32} {lc : Nat → Nat → Nat} {s : tt_SL} {cc : ByteArray} {nl : Nat} {rt : Option FieldType} {rm : Room} {tn : tt_Tn} {Q : tt_Fin} {pc : Nat} {lv : List (Nat × Value)} {rest : List Value} {ck cn : Nat} {x1 : Int32} {x2 : Int32} {x3 : Int32} {K : Int64 × tt_St → Prop} (h : Ok (fM_shift s.2.1 x1 x2 x3) K) (hR : 12 + 1 ≤ rm.frames ∧ 8 + (5 + 11) + 277 ≤ rm.locals) (hW : (rest.map fun v => v.category).sum ≤ 8) (d : decode cc pc = .ok (.invokevirtual 297, 3)) (kk : ∀ r, K r → tt_V (XL l D dA A pz b L xs) cc (RX0, nl, rt, rm, tn) Q (pc + 3) lv (.long r.1 :: rest) lc (s.1, r.2, s.2.2) (ck + 0) (cn + 0)) (hf : ck + 0 ≤ rm.cells ∧ cn + 0 ≤ rm.slots) : tt_V (XL l D dA A pz b L xs) cc (RX0, nl, rt, rm, tn) Q pc lv (.int x3 :: .int x2 :: .int x1 :: .ref (lc 300 0) :: rest) lc s ck cn :=
  v_callV (kd := 300) (i := 0) (nA := 3) (As := [.int x1, .int x2, .int x3]) lvL_300 oL_300 rfl (liftM (Q := (fun v lc' s' => ∃ r : Int64 × tt_St, K r ∧ v = some (Value.long r.1) ∧ lc' = lc ∧ s' = (s.1, r.2, s.2.2))) (mM_shift l (DM D) (dMd dA) (aLM lc s) (nTm lc) s.2.1 x1 x2 x3 (Q := fun v lc' w => lc' = nTm lc ∧ (fun v lc' s' => ∃ r : Int64 × tt_St, K r ∧ v = some (Value.long r.1) ∧ lc' = lc ∧ s' = (s.1, r.2, s.2.2)) v lc (s.1, w, s.2.2)) (h.mono fun r hr => ⟨rfl, r, hr, rfl, rfl, rfl⟩))) (lw_V q2405 q2406 q2407 q154 q2408) (by decide +kernel) rfl hR hW hf d rfl (fun v lc' s' q => by obtain ⟨r, hr, e1, e2, e3⟩ := q; rw [e1, e2, e3]; exact kk r hr)
def fL_case_38 (L : Nat) (xs : Nat → Int32) (s : tt_SL) (x4 : Int32) : Option tt_SL :=
  if inB (x4 + (1 : Int32)) L then if inB (x4 + (2 : Int32)) L then if inB (x4 + (3 : Int32)) L then (wrapL (fT_shift s.1 (xs ((x4 + (1 : Int32)).toNatClampNeg)) (xs ((x4 + (2 : Int32)).toNatClampNeg)) (xs ((x4 + (3 : Int32)).toNatClampNeg))) s (cd3 (some 1) (some 2) none)).bind fun r4 => (fM_shift r4.2.2.1 (xs ((x4 + (1 : Int32)).toNatClampNeg)) (xs ((x4 + (2 : Int32)).toNatClampNeg)) (xs ((x4 + (3 : Int32)).toNatClampNeg))).bind fun r5 => (fM_thrown (r4.2.1, r5.2, r4.2.2.2).2.1).bind fun r6 => if r6 = r4.1 then if r4.1 = 0 then if inB (0 : Int32) 1 then if (rdL (r4.2.1, r5.2, r4.2.2.2).2.2 0 0 ((0 : Int32).toNatClampNeg)) = r5.1 then some (r4.2.1, r5.2, r4.2.2.2) else none else none else some (r4.2.1, r5.2, r4.2.2.2) else none else none else none else none
set_option maxHeartbeats 4000000 in
theorem lcase_38 {l : Launch} {D : va_G} {dA : Nat → ClassId} {A : Nat → Prop} {pz b L : Nat} {xs : Nat → Int32} (hl9 : l.stackTraces = false) {lc : Nat → Nat → Nat} {s : tt_SL} {x4 : Int32} {ck cn : Nat} {tn : tt_Tn} {Q : tt_Fin} (hk1 : ck + 60 ≤ room_1.cells) (hk2 : cn + 600 ≤ room_1.slots) (h : Ok (fL_case_38 L xs s x4) (fun r => ∀ lc', tt_agr (XL l D dA A pz b L xs) s lc lc' → ∀ ck' cn', ck' ≤ ck + 60 → cn' ≤ cn + 600 → tt_V (XL l D dA A pz b L xs) code (RX0, 8, ret, room_1, tn) Q 3740 [(0, .ref b), (1, .ref (lc' 0 0)), (2, .ref (lc' 300 0)), (3, .ref (lc' 400 0)), (4, .int x4)] [] lc' r ck' cn')) : tt_V (XL l D dA A pz b L xs) code (RX0, 8, ret, room_1, tn) Q 2991 [(0, .ref b), (1, .ref (lc 0 0)), (2, .ref (lc 300 0)), (3, .ref (lc 400 0)), (4, .int x4)] [] lc s ck cn := by
  unfold fL_case_38 at h
  refine v_aload_n 1 dL_law_2991 rfl ?_
  refine v_aload_n 0 dL_law_2992 rfl ?_
  refine v_iload 4 dL_law_2993 rfl ?_
  refine v_iconst dL_law_2995 ic_1 ?_
  refine v_iadd dL_law_2996 ?_
  obtain ⟨g1, h⟩ := Ok.guard h
  refine v_sld g1 dL_law_2997 ?_
  refine v_aload_n 0 dL_law_2998 rfl ?_
  refine v_iload 4 dL_law_2999 rfl ?_
  refine v_iconst dL_law_3001 ic_2 ?_
  refine v_iadd dL_law_3002 ?_
  obtain ⟨g2, h⟩ := Ok.guard h
  refine v_sld g2 dL_law_3003 ?_
  refine v_aload_n 0 dL_law_3004 rfl ?_
  refine v_iload 4 dL_law_3005 rfl ?_
  refine v_iconst dL_law_3007 ic_3 ?_
  refine v_iadd dL_law_3008 ?_
  obtain ⟨g3, h⟩ := Ok.guard h
  refine v_sld g3 dL_law_3009 ?_
  refine v_aload_n 3 dL_law_3010 rfl ?_
  refine cLw_shift (Ok.bind h) hl9 ⟨Nat.le_of_ble_eq_true rfl, Nat.le_of_ble_eq_true rfl⟩ (Nat.le_of_ble_eq_true rfl) dL_law_3011 (fun r4 h lc hc => ?_) ⟨by omega, by omega⟩
  rw [← hc 0 0 (.inl lvL_0)]
  rw [← hc 300 0 (.inl lvL_300)]
  rw [← hc 400 0 (.inl lvL_400)]
  have h := Ok.agr h hc (fun _ _ h => h)
  refine v_istore [(5, .int r4.1), (0, .ref b), (1, .ref (lc 0 0)), (2, .ref (lc 300 0)), (3, .ref (lc 400 0)), (4, .int x4)] dL_law_3014 (Nat.le_of_ble_eq_true rfl) rfl ?_
  refine v_aload_n 3 dL_law_3016 rfl ?_
  refine v_aload_n 1 dL_law_3017 rfl ?_
  refine v_iload 5 dL_law_3018 rfl ?_
  refine v_iconst dL_law_3020 ic_1 ?_
  refine v_iadd dL_law_3021 ?_
  refine v_sld g1 dL_law_3022 ?_
  refine v_aload_n 1 dL_law_3023 rfl ?_
  refine v_iload 5 dL_law_3024 rfl ?_
  refine v_iconst dL_law_3026 ic_2 ?_
  refine v_iadd dL_law_3027 ?_
  refine v_sld g2 dL_law_3028 ?_
  refine v_aload_n 1 dL_law_3029 rfl ?_
  refine v_iload 5 dL_law_3030 rfl ?_
  refine v_iconst dL_law_3032 ic_3 ?_
  refine v_iadd dL_law_3033 ?_
  refine v_sld g3 dL_law_3034 ?_
  refine cLm_shift (Ok.bind h) ⟨Nat.le_of_ble_eq_true rfl, Nat.le_of_ble_eq_true rfl⟩ (Nat.le_of_ble_eq_true rfl) dL_law_3035 (fun r5 h => ?_) ⟨by omega, by omega⟩
  refine v_lstore [(6, .long r5.1), (5, .int r4.1), (0, .ref b), (1, .ref (lc 0 0)), (2, .ref (lc 300 0)), (3, .ref (lc 400 0)), (4, .int x4)] dL_law_3038 (Nat.le_of_ble_eq_true rfl) rfl ?_
  refine v_aload_n 4 dL_law_3040 rfl ?_
  refine cLm_thrown (Ok.bind h) ⟨Nat.le_of_ble_eq_true rfl, Nat.le_of_ble_eq_true rfl⟩ (Nat.le_of_ble_eq_true rfl) dL_law_3041 (fun r6 h => ?_) ⟨by omega, by omega⟩
  refine v_iload 1 dL_law_3044 rfl ?_
  refine v_icmp_eq (tgt := 3051) dL_law_3046 rfl (fun c7 => ?_) (fun c7 => ?_)
  · have h := Ok.pos h c7
    refine v_iload 1 dL_law_3051 rfl ?_
    refine v_if_ne (tgt := 3067) dL_law_3053 rfl (fun c8 => ?_) (fun c8 => ?_)
    · have h := Ok.neg h c8
      refine v_goto (tgt := 3740) dL_law_3067 rfl ?_
      refine v_sub [2, 3, 4, 5, 6] rfl ?_
      have h := Ok.ret h
      exact h lc agr_rf _ _ (by omega) (by omega)
    · have h := Ok.pos h c8
      refine v_aload_n 5 dL_law_3056 rfl ?_
      refine v_iconst dL_law_3057 ic_0 ?_
      obtain ⟨g9, h⟩ := Ok.guard h
      refine lL_400 g9 dL_law_3058 ?_
      refine v_lload 0 dL_law_3059 rfl ?_
      refine v_lif_eq (tgt := 3067) dL_law_3061 dL_law_3062 rfl (fun c10 => ?_) (fun c10 => ?_)
      · have h := Ok.pos h c10
        refine v_goto (tgt := 3740) dL_law_3067 rfl ?_
        refine v_sub [2, 3, 4, 5, 6] rfl ?_
        have h := Ok.ret h
        exact h lc agr_rf _ _ (by omega) (by omega)
      · have h := Ok.neg h c10
        refine v_iconst dL_law_3065 ic_0 ?_
        exact Ok.stuck h
  · have h := Ok.neg h c7
    refine v_iconst dL_law_3049 ic_0 ?_
    exact Ok.stuck h
theorem cLw_after {l : Launch} {D : va_G} {dA : Nat → ClassId} {A : Nat → Prop} {pz b L : Nat} {xs : Nat → Int32} {lc : Nat → Nat → Nat} {s : tt_SL} {cc : ByteArray} {nl : Nat} {rt : Option FieldType} {rm : Room} {tn : tt_Tn} {Q : tt_Fin} {pc : Nat} {lv : List (Nat × Value)} {rest : List Value} {ck cn : Nat} {x1 : Int32} {x2 : Int32} {K : Int32 × tt_SL → Prop} (h : Ok (wrapL (fT_after s.1 x1 x2) s (cd3 (some 1) (some 2) none)) K) (hl9 : l.stackTraces = false) (hR : 17 + 1 ≤ rm.frames ∧ 8 + (5 + 11) + 402 ≤ rm.locals) (hW : (rest.map fun v => v.category).sum ≤ 8) (d : decode cc pc = .ok (.invokestatic 298, 3)) (kk : ∀ r, K r → ∀ lc', tt_agr (XL l D dA A pz b L xs) s lc lc' → tt_V (XL l D dA A pz b L xs) cc (RX0, nl, rt, rm, tn) Q (pc + 3) lv (.int r.1 :: rest) lc' r.2 (ck + 2) (cn + 12)) (hf : ck + 2 ≤ rm.cells ∧ cn + 12 ≤ rm.slots) : tt_V (XL l D dA A pz b L xs) cc (RX0, nl, rt, rm, tn) Q pc lv (.ref (lc 400 0) :: .int x2 :: .int x1 :: .ref (lc 0 0) :: rest) lc s ck cn :=
  v_callSW (nA := 4) (As := [.ref (lc 0 0), .int x1, .int x2, .ref (lc 400 0)]) (mL_after l D dA A pz b L xs hl9 lc s x1 x2 (Q := (fun v lc' s' => ∃ r : Int32 × tt_SL, K r ∧ v = some (Value.int r.1) ∧ tt_agr (XL l D dA A pz b L xs) s lc lc' ∧ s' = r.2)) (h.mono fun r hr lc' ha => ⟨r, hr, rfl, ha, rfl⟩)) (lw_SW q1667 q1668 q126 q1669) (by decide +kernel) rfl hR hW hf d rfl (fun v lc' s' q => by obtain ⟨r, hr, e1, e2, e3⟩ := q; rw [e1, e3]; exact kk r hr lc' e2)
theorem cLm_after {l : Launch} {D : va_G} {dA : Nat → ClassId} {A : Nat → Prop} {pz b L : Nat} {xs : Nat → Int32} {lc : Nat → Nat → Nat} {s : tt_SL} {cc : ByteArray} {nl : Nat} {rt : Option FieldType} {rm : Room} {tn : tt_Tn} {Q : tt_Fin} {pc : Nat} {lv : List (Nat × Value)} {rest : List Value} {ck cn : Nat} {x1 : Int32} {x2 : Int32} {K : Int64 × tt_St → Prop} (h : Ok (fM_after s.2.1 x1 x2) K) (hR : 12 + 1 ≤ rm.frames ∧ 8 + (4 + 11) + 277 ≤ rm.locals) (hW : (rest.map fun v => v.category).sum ≤ 8) (d : decode cc pc = .ok (.invokevirtual 300, 3)) (kk : ∀ r, K r → tt_V (XL l D dA A pz b L xs) cc (RX0, nl, rt, rm, tn) Q (pc + 3) lv (.long r.1 :: rest) lc (s.1, r.2, s.2.2) (ck + 0) (cn + 0)) (hf : ck + 0 ≤ rm.cells ∧ cn + 0 ≤ rm.slots) : tt_V (XL l D dA A pz b L xs) cc (RX0, nl, rt, rm, tn) Q pc lv (.int x2 :: .int x1 :: .ref (lc 300 0) :: rest) lc s ck cn :=
  v_callV (kd := 300) (i := 0) (nA := 2) (As := [.int x1, .int x2]) lvL_300 oL_300 rfl (liftM (Q := (fun v lc' s' => ∃ r : Int64 × tt_St, K r ∧ v = some (Value.long r.1) ∧ lc' = lc ∧ s' = (s.1, r.2, s.2.2))) (mM_after l (DM D) (dMd dA) (aLM lc s) (nTm lc) s.2.1 x1 x2 (Q := fun v lc' w => lc' = nTm lc ∧ (fun v lc' s' => ∃ r : Int64 × tt_St, K r ∧ v = some (Value.long r.1) ∧ lc' = lc ∧ s' = (s.1, r.2, s.2.2)) v lc (s.1, w, s.2.2)) (h.mono fun r hr => ⟨rfl, r, hr, rfl, rfl, rfl⟩))) (lw_V q2409 q2410 q2411 q154 q2412) (by decide +kernel) rfl hR hW hf d rfl (fun v lc' s' q => by obtain ⟨r, hr, e1, e2, e3⟩ := q; rw [e1, e2, e3]; exact kk r hr)
def fL_case_39 (L : Nat) (xs : Nat → Int32) (s : tt_SL) (x4 : Int32) : Option tt_SL :=
  if inB (x4 + (1 : Int32)) L then if inB (x4 + (2 : Int32)) L then (wrapL (fT_after s.1 (xs ((x4 + (1 : Int32)).toNatClampNeg)) (xs ((x4 + (2 : Int32)).toNatClampNeg))) s (cd3 (some 1) (some 2) none)).bind fun r3 => (fM_after r3.2.2.1 (xs ((x4 + (1 : Int32)).toNatClampNeg)) (xs ((x4 + (2 : Int32)).toNatClampNeg))).bind fun r4 => (fM_thrown (r3.2.1, r4.2, r3.2.2.2).2.1).bind fun r5 => if r5 = r3.1 then if r3.1 = 0 then if inB (0 : Int32) 1 then if (rdL (r3.2.1, r4.2, r3.2.2.2).2.2 0 0 ((0 : Int32).toNatClampNeg)) = r4.1 then some (r3.2.1, r4.2, r3.2.2.2) else none else none else some (r3.2.1, r4.2, r3.2.2.2) else none else none else none
set_option maxHeartbeats 4000000 in
theorem lcase_39 {l : Launch} {D : va_G} {dA : Nat → ClassId} {A : Nat → Prop} {pz b L : Nat} {xs : Nat → Int32} (hl9 : l.stackTraces = false) {lc : Nat → Nat → Nat} {s : tt_SL} {x4 : Int32} {ck cn : Nat} {tn : tt_Tn} {Q : tt_Fin} (hk1 : ck + 60 ≤ room_1.cells) (hk2 : cn + 600 ≤ room_1.slots) (h : Ok (fL_case_39 L xs s x4) (fun r => ∀ lc', tt_agr (XL l D dA A pz b L xs) s lc lc' → ∀ ck' cn', ck' ≤ ck + 60 → cn' ≤ cn + 600 → tt_V (XL l D dA A pz b L xs) code (RX0, 8, ret, room_1, tn) Q 3740 [(0, .ref b), (1, .ref (lc' 0 0)), (2, .ref (lc' 300 0)), (3, .ref (lc' 400 0)), (4, .int x4)] [] lc' r ck' cn')) : tt_V (XL l D dA A pz b L xs) code (RX0, 8, ret, room_1, tn) Q 3070 [(0, .ref b), (1, .ref (lc 0 0)), (2, .ref (lc 300 0)), (3, .ref (lc 400 0)), (4, .int x4)] [] lc s ck cn := by
  unfold fL_case_39 at h
  refine v_aload_n 1 dL_law_3070 rfl ?_
  refine v_aload_n 0 dL_law_3071 rfl ?_
  refine v_iload 4 dL_law_3072 rfl ?_
  refine v_iconst dL_law_3074 ic_1 ?_
  refine v_iadd dL_law_3075 ?_
  obtain ⟨g1, h⟩ := Ok.guard h
  refine v_sld g1 dL_law_3076 ?_
  refine v_aload_n 0 dL_law_3077 rfl ?_
  refine v_iload 4 dL_law_3078 rfl ?_
  refine v_iconst dL_law_3080 ic_2 ?_
  refine v_iadd dL_law_3081 ?_
  obtain ⟨g2, h⟩ := Ok.guard h
  refine v_sld g2 dL_law_3082 ?_
  refine v_aload_n 3 dL_law_3083 rfl ?_
  refine cLw_after (Ok.bind h) hl9 ⟨Nat.le_of_ble_eq_true rfl, Nat.le_of_ble_eq_true rfl⟩ (Nat.le_of_ble_eq_true rfl) dL_law_3084 (fun r3 h lc hc => ?_) ⟨by omega, by omega⟩
  rw [← hc 0 0 (.inl lvL_0)]
  rw [← hc 300 0 (.inl lvL_300)]
  rw [← hc 400 0 (.inl lvL_400)]
  have h := Ok.agr h hc (fun _ _ h => h)
  refine v_istore [(5, .int r3.1), (0, .ref b), (1, .ref (lc 0 0)), (2, .ref (lc 300 0)), (3, .ref (lc 400 0)), (4, .int x4)] dL_law_3087 (Nat.le_of_ble_eq_true rfl) rfl ?_
  refine v_aload_n 3 dL_law_3089 rfl ?_
  refine v_aload_n 1 dL_law_3090 rfl ?_
  refine v_iload 5 dL_law_3091 rfl ?_
  refine v_iconst dL_law_3093 ic_1 ?_
  refine v_iadd dL_law_3094 ?_
  refine v_sld g1 dL_law_3095 ?_
  refine v_aload_n 1 dL_law_3096 rfl ?_
  refine v_iload 5 dL_law_3097 rfl ?_
  refine v_iconst dL_law_3099 ic_2 ?_
  refine v_iadd dL_law_3100 ?_
  refine v_sld g2 dL_law_3101 ?_
  refine cLm_after (Ok.bind h) ⟨Nat.le_of_ble_eq_true rfl, Nat.le_of_ble_eq_true rfl⟩ (Nat.le_of_ble_eq_true rfl) dL_law_3102 (fun r4 h => ?_) ⟨by omega, by omega⟩
  refine v_lstore [(6, .long r4.1), (5, .int r3.1), (0, .ref b), (1, .ref (lc 0 0)), (2, .ref (lc 300 0)), (3, .ref (lc 400 0)), (4, .int x4)] dL_law_3105 (Nat.le_of_ble_eq_true rfl) rfl ?_
  refine v_aload_n 4 dL_law_3107 rfl ?_
  refine cLm_thrown (Ok.bind h) ⟨Nat.le_of_ble_eq_true rfl, Nat.le_of_ble_eq_true rfl⟩ (Nat.le_of_ble_eq_true rfl) dL_law_3108 (fun r5 h => ?_) ⟨by omega, by omega⟩
  refine v_iload 1 dL_law_3111 rfl ?_
  refine v_icmp_eq (tgt := 3118) dL_law_3113 rfl (fun c6 => ?_) (fun c6 => ?_)
  · have h := Ok.pos h c6
    refine v_iload 1 dL_law_3118 rfl ?_
    refine v_if_ne (tgt := 3134) dL_law_3120 rfl (fun c7 => ?_) (fun c7 => ?_)
    · have h := Ok.neg h c7
      refine v_goto (tgt := 3740) dL_law_3134 rfl ?_
      refine v_sub [2, 3, 4, 5, 6] rfl ?_
      have h := Ok.ret h
      exact h lc agr_rf _ _ (by omega) (by omega)
    · have h := Ok.pos h c7
      refine v_aload_n 5 dL_law_3123 rfl ?_
      refine v_iconst dL_law_3124 ic_0 ?_
      obtain ⟨g8, h⟩ := Ok.guard h
      refine lL_400 g8 dL_law_3125 ?_
      refine v_lload 0 dL_law_3126 rfl ?_
      refine v_lif_eq (tgt := 3134) dL_law_3128 dL_law_3129 rfl (fun c9 => ?_) (fun c9 => ?_)
      · have h := Ok.pos h c9
        refine v_goto (tgt := 3740) dL_law_3134 rfl ?_
        refine v_sub [2, 3, 4, 5, 6] rfl ?_
        have h := Ok.ret h
        exact h lc agr_rf _ _ (by omega) (by omega)
      · have h := Ok.neg h c9
        refine v_iconst dL_law_3132 ic_0 ?_
        exact Ok.stuck h
  · have h := Ok.neg h c6
    refine v_iconst dL_law_3116 ic_0 ?_
    exact Ok.stuck h
theorem cLw_usedUp {l : Launch} {D : va_G} {dA : Nat → ClassId} {A : Nat → Prop} {pz b L : Nat} {xs : Nat → Int32} {lc : Nat → Nat → Nat} {s : tt_SL} {cc : ByteArray} {nl : Nat} {rt : Option FieldType} {rm : Room} {tn : tt_Tn} {Q : tt_Fin} {pc : Nat} {lv : List (Nat × Value)} {rest : List Value} {ck cn : Nat} {x1 : Int32} {K : Int32 × tt_SL → Prop} (h : Ok (wrapI (fT_usedUp s.1 x1) s (cd3 (some 1) none none)) K) (hl9 : l.stackTraces = false) (hR : 17 + 1 ≤ rm.frames ∧ 8 + (4 + 11) + 401 ≤ rm.locals) (hW : (rest.map fun v => v.category).sum ≤ 8) (d : decode cc pc = .ok (.invokestatic 301, 3)) (kk : ∀ r, K r → ∀ lc', tt_agr (XL l D dA A pz b L xs) s lc lc' → tt_V (XL l D dA A pz b L xs) cc (RX0, nl, rt, rm, tn) Q (pc + 3) lv (.int r.1 :: rest) lc' r.2 (ck + 1) (cn + 6)) (hf : ck + 1 ≤ rm.cells ∧ cn + 6 ≤ rm.slots) : tt_V (XL l D dA A pz b L xs) cc (RX0, nl, rt, rm, tn) Q pc lv (.ref (lc 400 0) :: .int x1 :: .ref (lc 0 0) :: rest) lc s ck cn :=
  v_callSW (nA := 3) (As := [.ref (lc 0 0), .int x1, .ref (lc 400 0)]) (mL_usedUp l D dA A pz b L xs hl9 lc s x1 (Q := (fun v lc' s' => ∃ r : Int32 × tt_SL, K r ∧ v = some (Value.int r.1) ∧ tt_agr (XL l D dA A pz b L xs) s lc lc' ∧ s' = r.2)) (h.mono fun r hr lc' ha => ⟨r, hr, rfl, ha, rfl⟩)) (lw_SW q1674 q1675 q126 q1676) (by decide +kernel) rfl hR hW hf d rfl (fun v lc' s' q => by obtain ⟨r, hr, e1, e2, e3⟩ := q; rw [e1, e3]; exact kk r hr lc' e2)
theorem cLm_usedUp {l : Launch} {D : va_G} {dA : Nat → ClassId} {A : Nat → Prop} {pz b L : Nat} {xs : Nat → Int32} {lc : Nat → Nat → Nat} {s : tt_SL} {cc : ByteArray} {nl : Nat} {rt : Option FieldType} {rm : Room} {tn : tt_Tn} {Q : tt_Fin} {pc : Nat} {lv : List (Nat × Value)} {rest : List Value} {ck cn : Nat} {x1 : Int32} {K : Int32 × tt_St → Prop} (h : Ok (fM_usedUp s.2.1 x1) K) (hR : 10 + 1 ≤ rm.frames ∧ 8 + (4 + 11) + 233 ≤ rm.locals) (hW : (rest.map fun v => v.category).sum ≤ 8) (d : decode cc pc = .ok (.invokevirtual 303, 3)) (kk : ∀ r, K r → tt_V (XL l D dA A pz b L xs) cc (RX0, nl, rt, rm, tn) Q (pc + 3) lv (.int r.1 :: rest) lc (s.1, r.2, s.2.2) (ck + 0) (cn + 0)) (hf : ck + 0 ≤ rm.cells ∧ cn + 0 ≤ rm.slots) : tt_V (XL l D dA A pz b L xs) cc (RX0, nl, rt, rm, tn) Q pc lv (.int x1 :: .ref (lc 300 0) :: rest) lc s ck cn :=
  v_callV (kd := 300) (i := 0) (nA := 1) (As := [.int x1]) lvL_300 oL_300 rfl (liftM (Q := (fun v lc' s' => ∃ r : Int32 × tt_St, K r ∧ v = some (Value.int r.1) ∧ lc' = lc ∧ s' = (s.1, r.2, s.2.2))) (mM_usedUp l (DM D) (dMd dA) (aLM lc s) (nTm lc) s.2.1 x1 (Q := fun v lc' w => lc' = nTm lc ∧ (fun v lc' s' => ∃ r : Int32 × tt_St, K r ∧ v = some (Value.int r.1) ∧ lc' = lc ∧ s' = (s.1, r.2, s.2.2)) v lc (s.1, w, s.2.2)) (h.mono fun r hr => ⟨rfl, r, hr, rfl, rfl, rfl⟩))) (lw_V q2413 q2414 q2415 q154 q2416) (by decide +kernel) rfl hR hW hf d rfl (fun v lc' s' q => by obtain ⟨r, hr, e1, e2, e3⟩ := q; rw [e1, e2, e3]; exact kk r hr)
def fL_case_40 (L : Nat) (xs : Nat → Int32) (s : tt_SL) (x4 : Int32) : Option tt_SL :=
  if inB (x4 + (1 : Int32)) L then (wrapI (fT_usedUp s.1 (xs ((x4 + (1 : Int32)).toNatClampNeg))) s (cd3 (some 1) none none)).bind fun r2 => (fM_usedUp r2.2.2.1 (xs ((x4 + (1 : Int32)).toNatClampNeg))).bind fun r3 => (fM_thrown (r2.2.1, r3.2, r2.2.2.2).2.1).bind fun r4 => if r4 = r2.1 then if r2.1 = 0 then if inB (0 : Int32) 1 then if (rdL (r2.2.1, r3.2, r2.2.2.2).2.2 0 0 ((0 : Int32).toNatClampNeg)) = r3.1.toInt64 then some (r2.2.1, r3.2, r2.2.2.2) else none else none else some (r2.2.1, r3.2, r2.2.2.2) else none else none
set_option maxHeartbeats 4000000 in
theorem lcase_40 {l : Launch} {D : va_G} {dA : Nat → ClassId} {A : Nat → Prop} {pz b L : Nat} {xs : Nat → Int32} (hl9 : l.stackTraces = false) {lc : Nat → Nat → Nat} {s : tt_SL} {x4 : Int32} {ck cn : Nat} {tn : tt_Tn} {Q : tt_Fin} (hk1 : ck + 60 ≤ room_1.cells) (hk2 : cn + 600 ≤ room_1.slots) (h : Ok (fL_case_40 L xs s x4) (fun r => ∀ lc', tt_agr (XL l D dA A pz b L xs) s lc lc' → ∀ ck' cn', ck' ≤ ck + 60 → cn' ≤ cn + 600 → tt_V (XL l D dA A pz b L xs) code (RX0, 8, ret, room_1, tn) Q 3740 [(0, .ref b), (1, .ref (lc' 0 0)), (2, .ref (lc' 300 0)), (3, .ref (lc' 400 0)), (4, .int x4)] [] lc' r ck' cn')) : tt_V (XL l D dA A pz b L xs) code (RX0, 8, ret, room_1, tn) Q 3137 [(0, .ref b), (1, .ref (lc 0 0)), (2, .ref (lc 300 0)), (3, .ref (lc 400 0)), (4, .int x4)] [] lc s ck cn := by
  unfold fL_case_40 at h
  refine v_aload_n 1 dL_law_3137 rfl ?_
  refine v_aload_n 0 dL_law_3138 rfl ?_
  refine v_iload 4 dL_law_3139 rfl ?_
  refine v_iconst dL_law_3141 ic_1 ?_
  refine v_iadd dL_law_3142 ?_
  obtain ⟨g1, h⟩ := Ok.guard h
  refine v_sld g1 dL_law_3143 ?_
  refine v_aload_n 3 dL_law_3144 rfl ?_
  refine cLw_usedUp (Ok.bind h) hl9 ⟨Nat.le_of_ble_eq_true rfl, Nat.le_of_ble_eq_true rfl⟩ (Nat.le_of_ble_eq_true rfl) dL_law_3145 (fun r2 h lc hc => ?_) ⟨by omega, by omega⟩
  rw [← hc 0 0 (.inl lvL_0)]
  rw [← hc 300 0 (.inl lvL_300)]
  rw [← hc 400 0 (.inl lvL_400)]
  have h := Ok.agr h hc (fun _ _ h => h)
  refine v_istore [(5, .int r2.1), (0, .ref b), (1, .ref (lc 0 0)), (2, .ref (lc 300 0)), (3, .ref (lc 400 0)), (4, .int x4)] dL_law_3148 (Nat.le_of_ble_eq_true rfl) rfl ?_
  refine v_aload_n 3 dL_law_3150 rfl ?_
  refine v_aload_n 1 dL_law_3151 rfl ?_
  refine v_iload 5 dL_law_3152 rfl ?_
  refine v_iconst dL_law_3154 ic_1 ?_
  refine v_iadd dL_law_3155 ?_
  refine v_sld g1 dL_law_3156 ?_
  refine cLm_usedUp (Ok.bind h) ⟨Nat.le_of_ble_eq_true rfl, Nat.le_of_ble_eq_true rfl⟩ (Nat.le_of_ble_eq_true rfl) dL_law_3157 (fun r3 h => ?_) ⟨by omega, by omega⟩
  refine v_istore [(6, .int r3.1), (5, .int r2.1), (0, .ref b), (1, .ref (lc 0 0)), (2, .ref (lc 300 0)), (3, .ref (lc 400 0)), (4, .int x4)] dL_law_3160 (Nat.le_of_ble_eq_true rfl) rfl ?_
  refine v_aload_n 4 dL_law_3162 rfl ?_
  refine cLm_thrown (Ok.bind h) ⟨Nat.le_of_ble_eq_true rfl, Nat.le_of_ble_eq_true rfl⟩ (Nat.le_of_ble_eq_true rfl) dL_law_3163 (fun r4 h => ?_) ⟨by omega, by omega⟩
  refine v_iload 1 dL_law_3166 rfl ?_
  refine v_icmp_eq (tgt := 3173) dL_law_3168 rfl (fun c5 => ?_) (fun c5 => ?_)
  · have h := Ok.pos h c5
    refine v_iload 1 dL_law_3173 rfl ?_
    refine v_if_ne (tgt := 3190) dL_law_3175 rfl (fun c6 => ?_) (fun c6 => ?_)
    · have h := Ok.neg h c6
      refine v_goto (tgt := 3740) dL_law_3190 rfl ?_
      refine v_sub [2, 3, 4, 5, 6] rfl ?_
      have h := Ok.ret h
      exact h lc agr_rf _ _ (by omega) (by omega)
    · have h := Ok.pos h c6
      refine v_aload_n 5 dL_law_3178 rfl ?_
      refine v_iconst dL_law_3179 ic_0 ?_
      obtain ⟨g7, h⟩ := Ok.guard h
      refine lL_400 g7 dL_law_3180 ?_
      refine v_iload 0 dL_law_3181 rfl ?_
      refine v_i2l dL_law_3183 rfl ?_
      refine v_lif_eq (tgt := 3190) dL_law_3184 dL_law_3185 rfl (fun c8 => ?_) (fun c8 => ?_)
      · have h := Ok.pos h c8
        refine v_goto (tgt := 3740) dL_law_3190 rfl ?_
        refine v_sub [2, 3, 4, 5, 6] rfl ?_
        have h := Ok.ret h
        exact h lc agr_rf _ _ (by omega) (by omega)
      · have h := Ok.neg h c8
        refine v_iconst dL_law_3188 ic_0 ?_
        exact Ok.stuck h
  · have h := Ok.neg h c5
    refine v_iconst dL_law_3171 ic_0 ?_
    exact Ok.stuck h
theorem cLw_heaviest {l : Launch} {D : va_G} {dA : Nat → ClassId} {A : Nat → Prop} {pz b L : Nat} {xs : Nat → Int32} {lc : Nat → Nat → Nat} {s : tt_SL} {cc : ByteArray} {nl : Nat} {rt : Option FieldType} {rm : Room} {tn : tt_Tn} {Q : tt_Fin} {pc : Nat} {lv : List (Nat × Value)} {rest : List Value} {ck cn : Nat} {x1 : Int32} {x2 : Int32} {K : Int32 × tt_SL → Prop} (h : Ok (wrapL (fT_heaviest s.1 x1 x2) s (cd3 none (some 1) none)) K) (hl9 : l.stackTraces = false) (hR : 18 + 1 ≤ rm.frames ∧ 8 + (5 + 11) + 430 ≤ rm.locals) (hW : (rest.map fun v => v.category).sum ≤ 8) (d : decode cc pc = .ok (.invokestatic 304, 3)) (kk : ∀ r, K r → ∀ lc', tt_agr (XL l D dA A pz b L xs) s lc lc' → tt_V (XL l D dA A pz b L xs) cc (RX0, nl, rt, rm, tn) Q (pc + 3) lv (.int r.1 :: rest) lc' r.2 (ck + 2) (cn + 12)) (hf : ck + 2 ≤ rm.cells ∧ cn + 12 ≤ rm.slots) : tt_V (XL l D dA A pz b L xs) cc (RX0, nl, rt, rm, tn) Q pc lv (.ref (lc 400 0) :: .int x2 :: .int x1 :: .ref (lc 0 0) :: rest) lc s ck cn :=
  v_callSW (nA := 4) (As := [.ref (lc 0 0), .int x1, .int x2, .ref (lc 400 0)]) (mL_heaviest l D dA A pz b L xs hl9 lc s x1 x2 (Q := (fun v lc' s' => ∃ r : Int32 × tt_SL, K r ∧ v = some (Value.int r.1) ∧ tt_agr (XL l D dA A pz b L xs) s lc lc' ∧ s' = r.2)) (h.mono fun r hr lc' ha => ⟨r, hr, rfl, ha, rfl⟩)) (lw_SW q1681 q1682 q126 q1683) (by decide +kernel) rfl hR hW hf d rfl (fun v lc' s' q => by obtain ⟨r, hr, e1, e2, e3⟩ := q; rw [e1, e3]; exact kk r hr lc' e2)
theorem cLm_heaviest {l : Launch} {D : va_G} {dA : Nat → ClassId} {A : Nat → Prop} {pz b L : Nat} {xs : Nat → Int32} {lc : Nat → Nat → Nat} {s : tt_SL} {cc : ByteArray} {nl : Nat} {rt : Option FieldType} {rm : Room} {tn : tt_Tn} {Q : tt_Fin} {pc : Nat} {lv : List (Nat × Value)} {rest : List Value} {ck cn : Nat} {x1 : Int32} {x2 : Int32} {K : Int64 × tt_St → Prop} (h : Ok (fM_heaviest s.2.1 x1 x2) K) (hR : 11 + 1 ≤ rm.frames ∧ 8 + (8 + 11) + 254 ≤ rm.locals) (hW : (rest.map fun v => v.category).sum ≤ 8) (d : decode cc pc = .ok (.invokevirtual 306, 3)) (kk : ∀ r, K r → tt_V (XL l D dA A pz b L xs) cc (RX0, nl, rt, rm, tn) Q (pc + 3) lv (.long r.1 :: rest) lc (s.1, r.2, s.2.2) (ck + 0) (cn + 0)) (hf : ck + 0 ≤ rm.cells ∧ cn + 0 ≤ rm.slots) : tt_V (XL l D dA A pz b L xs) cc (RX0, nl, rt, rm, tn) Q pc lv (.int x2 :: .int x1 :: .ref (lc 300 0) :: rest) lc s ck cn :=
  v_callV (kd := 300) (i := 0) (nA := 2) (As := [.int x1, .int x2]) lvL_300 oL_300 rfl (liftM (Q := (fun v lc' s' => ∃ r : Int64 × tt_St, K r ∧ v = some (Value.long r.1) ∧ lc' = lc ∧ s' = (s.1, r.2, s.2.2))) (mM_heaviest l (DM D) (dMd dA) (aLM lc s) (nTm lc) s.2.1 x1 x2 (Q := fun v lc' w => lc' = nTm lc ∧ (fun v lc' s' => ∃ r : Int64 × tt_St, K r ∧ v = some (Value.long r.1) ∧ lc' = lc ∧ s' = (s.1, r.2, s.2.2)) v lc (s.1, w, s.2.2)) (h.mono fun r hr => ⟨rfl, r, hr, rfl, rfl, rfl⟩))) (lw_V q2417 q2418 q2419 q154 q2420) (by decide +kernel) rfl hR hW hf d rfl (fun v lc' s' q => by obtain ⟨r, hr, e1, e2, e3⟩ := q; rw [e1, e2, e3]; exact kk r hr)
def fL_case_41 (L : Nat) (xs : Nat → Int32) (s : tt_SL) (x4 : Int32) : Option tt_SL :=
  if inB (x4 + (1 : Int32)) L then if inB (x4 + (2 : Int32)) L then (wrapL (fT_heaviest s.1 (xs ((x4 + (1 : Int32)).toNatClampNeg)) (xs ((x4 + (2 : Int32)).toNatClampNeg))) s (cd3 none (some 1) none)).bind fun r3 => (fM_heaviest r3.2.2.1 (xs ((x4 + (1 : Int32)).toNatClampNeg)) (xs ((x4 + (2 : Int32)).toNatClampNeg))).bind fun r4 => (fM_thrown (r3.2.1, r4.2, r3.2.2.2).2.1).bind fun r5 => if r5 = r3.1 then if r3.1 = 0 then if inB (0 : Int32) 1 then if (rdL (r3.2.1, r4.2, r3.2.2.2).2.2 0 0 ((0 : Int32).toNatClampNeg)) = r4.1 then some (r3.2.1, r4.2, r3.2.2.2) else none else none else some (r3.2.1, r4.2, r3.2.2.2) else none else none else none
set_option maxHeartbeats 4000000 in
theorem lcase_41 {l : Launch} {D : va_G} {dA : Nat → ClassId} {A : Nat → Prop} {pz b L : Nat} {xs : Nat → Int32} (hl9 : l.stackTraces = false) {lc : Nat → Nat → Nat} {s : tt_SL} {x4 : Int32} {ck cn : Nat} {tn : tt_Tn} {Q : tt_Fin} (hk1 : ck + 60 ≤ room_1.cells) (hk2 : cn + 600 ≤ room_1.slots) (h : Ok (fL_case_41 L xs s x4) (fun r => ∀ lc', tt_agr (XL l D dA A pz b L xs) s lc lc' → ∀ ck' cn', ck' ≤ ck + 60 → cn' ≤ cn + 600 → tt_V (XL l D dA A pz b L xs) code (RX0, 8, ret, room_1, tn) Q 3740 [(0, .ref b), (1, .ref (lc' 0 0)), (2, .ref (lc' 300 0)), (3, .ref (lc' 400 0)), (4, .int x4)] [] lc' r ck' cn')) : tt_V (XL l D dA A pz b L xs) code (RX0, 8, ret, room_1, tn) Q 3193 [(0, .ref b), (1, .ref (lc 0 0)), (2, .ref (lc 300 0)), (3, .ref (lc 400 0)), (4, .int x4)] [] lc s ck cn := by
  unfold fL_case_41 at h
  refine v_aload_n 1 dL_law_3193 rfl ?_
  refine v_aload_n 0 dL_law_3194 rfl ?_
  refine v_iload 4 dL_law_3195 rfl ?_
  refine v_iconst dL_law_3197 ic_1 ?_
  refine v_iadd dL_law_3198 ?_
  obtain ⟨g1, h⟩ := Ok.guard h
  refine v_sld g1 dL_law_3199 ?_
  refine v_aload_n 0 dL_law_3200 rfl ?_
  refine v_iload 4 dL_law_3201 rfl ?_
  refine v_iconst dL_law_3203 ic_2 ?_
  refine v_iadd dL_law_3204 ?_
  obtain ⟨g2, h⟩ := Ok.guard h
  refine v_sld g2 dL_law_3205 ?_
  refine v_aload_n 3 dL_law_3206 rfl ?_
  refine cLw_heaviest (Ok.bind h) hl9 ⟨Nat.le_of_ble_eq_true rfl, Nat.le_of_ble_eq_true rfl⟩ (Nat.le_of_ble_eq_true rfl) dL_law_3207 (fun r3 h lc hc => ?_) ⟨by omega, by omega⟩
  rw [← hc 0 0 (.inl lvL_0)]
  rw [← hc 300 0 (.inl lvL_300)]
  rw [← hc 400 0 (.inl lvL_400)]
  have h := Ok.agr h hc (fun _ _ h => h)
  refine v_istore [(5, .int r3.1), (0, .ref b), (1, .ref (lc 0 0)), (2, .ref (lc 300 0)), (3, .ref (lc 400 0)), (4, .int x4)] dL_law_3210 (Nat.le_of_ble_eq_true rfl) rfl ?_
  refine v_aload_n 3 dL_law_3212 rfl ?_
  refine v_aload_n 1 dL_law_3213 rfl ?_
  refine v_iload 5 dL_law_3214 rfl ?_
  refine v_iconst dL_law_3216 ic_1 ?_
  refine v_iadd dL_law_3217 ?_
  refine v_sld g1 dL_law_3218 ?_
  refine v_aload_n 1 dL_law_3219 rfl ?_
  refine v_iload 5 dL_law_3220 rfl ?_
  refine v_iconst dL_law_3222 ic_2 ?_
  refine v_iadd dL_law_3223 ?_
  refine v_sld g2 dL_law_3224 ?_
  refine cLm_heaviest (Ok.bind h) ⟨Nat.le_of_ble_eq_true rfl, Nat.le_of_ble_eq_true rfl⟩ (Nat.le_of_ble_eq_true rfl) dL_law_3225 (fun r4 h => ?_) ⟨by omega, by omega⟩
  refine v_lstore [(6, .long r4.1), (5, .int r3.1), (0, .ref b), (1, .ref (lc 0 0)), (2, .ref (lc 300 0)), (3, .ref (lc 400 0)), (4, .int x4)] dL_law_3228 (Nat.le_of_ble_eq_true rfl) rfl ?_
  refine v_aload_n 4 dL_law_3230 rfl ?_
  refine cLm_thrown (Ok.bind h) ⟨Nat.le_of_ble_eq_true rfl, Nat.le_of_ble_eq_true rfl⟩ (Nat.le_of_ble_eq_true rfl) dL_law_3231 (fun r5 h => ?_) ⟨by omega, by omega⟩
  refine v_iload 1 dL_law_3234 rfl ?_
  refine v_icmp_eq (tgt := 3241) dL_law_3236 rfl (fun c6 => ?_) (fun c6 => ?_)
  · have h := Ok.pos h c6
    refine v_iload 1 dL_law_3241 rfl ?_
    refine v_if_ne (tgt := 3257) dL_law_3243 rfl (fun c7 => ?_) (fun c7 => ?_)
    · have h := Ok.neg h c7
      refine v_goto (tgt := 3740) dL_law_3257 rfl ?_
      refine v_sub [2, 3, 4, 5, 6] rfl ?_
      have h := Ok.ret h
      exact h lc agr_rf _ _ (by omega) (by omega)
    · have h := Ok.pos h c7
      refine v_aload_n 5 dL_law_3246 rfl ?_
      refine v_iconst dL_law_3247 ic_0 ?_
      obtain ⟨g8, h⟩ := Ok.guard h
      refine lL_400 g8 dL_law_3248 ?_
      refine v_lload 0 dL_law_3249 rfl ?_
      refine v_lif_eq (tgt := 3257) dL_law_3251 dL_law_3252 rfl (fun c9 => ?_) (fun c9 => ?_)
      · have h := Ok.pos h c9
        refine v_goto (tgt := 3740) dL_law_3257 rfl ?_
        refine v_sub [2, 3, 4, 5, 6] rfl ?_
        have h := Ok.ret h
        exact h lc agr_rf _ _ (by omega) (by omega)
      · have h := Ok.neg h c9
        refine v_iconst dL_law_3255 ic_0 ?_
        exact Ok.stuck h
  · have h := Ok.neg h c6
    refine v_iconst dL_law_3239 ic_0 ?_
    exact Ok.stuck h
theorem cLw_cover {l : Launch} {D : va_G} {dA : Nat → ClassId} {A : Nat → Prop} {pz b L : Nat} {xs : Nat → Int32} {lc : Nat → Nat → Nat} {s : tt_SL} {cc : ByteArray} {nl : Nat} {rt : Option FieldType} {rm : Room} {tn : tt_Tn} {Q : tt_Fin} {pc : Nat} {lv : List (Nat × Value)} {rest : List Value} {ck cn : Nat} {x1 : Int32} {x2 : Int32} {x3 : Int32} {K : Int32 × tt_SL → Prop} (h : Ok (wrapI (fT_cover s.1 x1 x2 x3) s (cd3 none (some 1) none)) K) (hl9 : l.stackTraces = false) (hR : 10 + 1 ≤ rm.frames ∧ 8 + (6 + 11) + 3103 ≤ rm.locals) (hW : (rest.map fun v => v.category).sum ≤ 8) (d : decode cc pc = .ok (.invokestatic 307, 3)) (kk : ∀ r, K r → ∀ lc', tt_agr (XL l D dA A pz b L xs) s lc lc' → tt_V (XL l D dA A pz b L xs) cc (RX0, nl, rt, rm, tn) Q (pc + 3) lv (.int r.1 :: rest) lc' r.2 (ck + 4) (cn + 20)) (hf : ck + 4 ≤ rm.cells ∧ cn + 20 ≤ rm.slots) : tt_V (XL l D dA A pz b L xs) cc (RX0, nl, rt, rm, tn) Q pc lv (.ref (lc 400 0) :: .int x3 :: .int x2 :: .int x1 :: .ref (lc 0 0) :: rest) lc s ck cn :=
  v_callSW (nA := 5) (As := [.ref (lc 0 0), .int x1, .int x2, .int x3, .ref (lc 400 0)]) (mL_cover l D dA A pz b L xs hl9 lc s x1 x2 x3 (Q := (fun v lc' s' => ∃ r : Int32 × tt_SL, K r ∧ v = some (Value.int r.1) ∧ tt_agr (XL l D dA A pz b L xs) s lc lc' ∧ s' = r.2)) (h.mono fun r hr lc' ha => ⟨r, hr, rfl, ha, rfl⟩)) (lw_SW q1696 q1697 q126 q1698) (by decide +kernel) rfl hR hW hf d rfl (fun v lc' s' q => by obtain ⟨r, hr, e1, e2, e3⟩ := q; rw [e1, e3]; exact kk r hr lc' e2)
theorem cLm_cover {l : Launch} {D : va_G} {dA : Nat → ClassId} {A : Nat → Prop} {pz b L : Nat} {xs : Nat → Int32} {lc : Nat → Nat → Nat} {s : tt_SL} {cc : ByteArray} {nl : Nat} {rt : Option FieldType} {rm : Room} {tn : tt_Tn} {Q : tt_Fin} {pc : Nat} {lv : List (Nat × Value)} {rest : List Value} {ck cn : Nat} {x1 : Int32} {x2 : Int32} {x3 : Int32} {K : Int32 × tt_St → Prop} (h : Ok (fM_cover s.2.1 x1 x2 x3) K) (hR : 2 + 1 ≤ rm.frames ∧ 8 + (11 + 11) + 45 ≤ rm.locals) (hW : (rest.map fun v => v.category).sum ≤ 8) (d : decode cc pc = .ok (.invokevirtual 309, 3)) (kk : ∀ r, K r → tt_V (XL l D dA A pz b L xs) cc (RX0, nl, rt, rm, tn) Q (pc + 3) lv (.int r.1 :: rest) lc (s.1, r.2, s.2.2) (ck + 0) (cn + 0)) (hf : ck + 0 ≤ rm.cells ∧ cn + 0 ≤ rm.slots) : tt_V (XL l D dA A pz b L xs) cc (RX0, nl, rt, rm, tn) Q pc lv (.int x3 :: .int x2 :: .int x1 :: .ref (lc 300 0) :: rest) lc s ck cn :=
  v_callV (kd := 300) (i := 0) (nA := 3) (As := [.int x1, .int x2, .int x3]) lvL_300 oL_300 rfl (liftM (Q := (fun v lc' s' => ∃ r : Int32 × tt_St, K r ∧ v = some (Value.int r.1) ∧ lc' = lc ∧ s' = (s.1, r.2, s.2.2))) (mM_cover l (DM D) (dMd dA) (aLM lc s) (nTm lc) s.2.1 x1 x2 x3 (Q := fun v lc' w => lc' = nTm lc ∧ (fun v lc' s' => ∃ r : Int32 × tt_St, K r ∧ v = some (Value.int r.1) ∧ lc' = lc ∧ s' = (s.1, r.2, s.2.2)) v lc (s.1, w, s.2.2)) (h.mono fun r hr => ⟨rfl, r, hr, rfl, rfl, rfl⟩))) (lw_V q2429 q2430 q2431 q154 q2432) (by decide +kernel) rfl hR hW hf d rfl (fun v lc' s' q => by obtain ⟨r, hr, e1, e2, e3⟩ := q; rw [e1, e2, e3]; exact kk r hr)
def fL_case_42 (L : Nat) (xs : Nat → Int32) (s : tt_SL) (x4 : Int32) : Option tt_SL :=
  if inB (x4 + (1 : Int32)) L then if inB (x4 + (2 : Int32)) L then if inB (x4 + (3 : Int32)) L then (wrapI (fT_cover s.1 (xs ((x4 + (1 : Int32)).toNatClampNeg)) (xs ((x4 + (2 : Int32)).toNatClampNeg)) (xs ((x4 + (3 : Int32)).toNatClampNeg))) s (cd3 none (some 1) none)).bind fun r4 => (fM_cover r4.2.2.1 (xs ((x4 + (1 : Int32)).toNatClampNeg)) (xs ((x4 + (2 : Int32)).toNatClampNeg)) (xs ((x4 + (3 : Int32)).toNatClampNeg))).bind fun r5 => (fM_thrown (r4.2.1, r5.2, r4.2.2.2).2.1).bind fun r6 => if r6 = r4.1 then if r4.1 = 0 then if inB (0 : Int32) 1 then if (rdL (r4.2.1, r5.2, r4.2.2.2).2.2 0 0 ((0 : Int32).toNatClampNeg)) = r5.1.toInt64 then some (r4.2.1, r5.2, r4.2.2.2) else none else none else some (r4.2.1, r5.2, r4.2.2.2) else none else none else none else none
set_option maxHeartbeats 4000000 in
theorem lcase_42 {l : Launch} {D : va_G} {dA : Nat → ClassId} {A : Nat → Prop} {pz b L : Nat} {xs : Nat → Int32} (hl9 : l.stackTraces = false) {lc : Nat → Nat → Nat} {s : tt_SL} {x4 : Int32} {ck cn : Nat} {tn : tt_Tn} {Q : tt_Fin} (hk1 : ck + 60 ≤ room_1.cells) (hk2 : cn + 600 ≤ room_1.slots) (h : Ok (fL_case_42 L xs s x4) (fun r => ∀ lc', tt_agr (XL l D dA A pz b L xs) s lc lc' → ∀ ck' cn', ck' ≤ ck + 60 → cn' ≤ cn + 600 → tt_V (XL l D dA A pz b L xs) code (RX0, 8, ret, room_1, tn) Q 3740 [(0, .ref b), (1, .ref (lc' 0 0)), (2, .ref (lc' 300 0)), (3, .ref (lc' 400 0)), (4, .int x4)] [] lc' r ck' cn')) : tt_V (XL l D dA A pz b L xs) code (RX0, 8, ret, room_1, tn) Q 3260 [(0, .ref b), (1, .ref (lc 0 0)), (2, .ref (lc 300 0)), (3, .ref (lc 400 0)), (4, .int x4)] [] lc s ck cn := by
  unfold fL_case_42 at h
  refine v_aload_n 1 dL_law_3260 rfl ?_
  refine v_aload_n 0 dL_law_3261 rfl ?_
  refine v_iload 4 dL_law_3262 rfl ?_
  refine v_iconst dL_law_3264 ic_1 ?_
  refine v_iadd dL_law_3265 ?_
  obtain ⟨g1, h⟩ := Ok.guard h
  refine v_sld g1 dL_law_3266 ?_
  refine v_aload_n 0 dL_law_3267 rfl ?_
  refine v_iload 4 dL_law_3268 rfl ?_
  refine v_iconst dL_law_3270 ic_2 ?_
  refine v_iadd dL_law_3271 ?_
  obtain ⟨g2, h⟩ := Ok.guard h
  refine v_sld g2 dL_law_3272 ?_
  refine v_aload_n 0 dL_law_3273 rfl ?_
  refine v_iload 4 dL_law_3274 rfl ?_
  refine v_iconst dL_law_3276 ic_3 ?_
  refine v_iadd dL_law_3277 ?_
  obtain ⟨g3, h⟩ := Ok.guard h
  refine v_sld g3 dL_law_3278 ?_
  refine v_aload_n 3 dL_law_3279 rfl ?_
  refine cLw_cover (Ok.bind h) hl9 ⟨Nat.le_of_ble_eq_true rfl, Nat.le_of_ble_eq_true rfl⟩ (Nat.le_of_ble_eq_true rfl) dL_law_3280 (fun r4 h lc hc => ?_) ⟨by omega, by omega⟩
  rw [← hc 0 0 (.inl lvL_0)]
  rw [← hc 300 0 (.inl lvL_300)]
  rw [← hc 400 0 (.inl lvL_400)]
  have h := Ok.agr h hc (fun _ _ h => h)
  refine v_istore [(5, .int r4.1), (0, .ref b), (1, .ref (lc 0 0)), (2, .ref (lc 300 0)), (3, .ref (lc 400 0)), (4, .int x4)] dL_law_3283 (Nat.le_of_ble_eq_true rfl) rfl ?_
  refine v_aload_n 3 dL_law_3285 rfl ?_
  refine v_aload_n 1 dL_law_3286 rfl ?_
  refine v_iload 5 dL_law_3287 rfl ?_
  refine v_iconst dL_law_3289 ic_1 ?_
  refine v_iadd dL_law_3290 ?_
  refine v_sld g1 dL_law_3291 ?_
  refine v_aload_n 1 dL_law_3292 rfl ?_
  refine v_iload 5 dL_law_3293 rfl ?_
  refine v_iconst dL_law_3295 ic_2 ?_
  refine v_iadd dL_law_3296 ?_
  refine v_sld g2 dL_law_3297 ?_
  refine v_aload_n 1 dL_law_3298 rfl ?_
  refine v_iload 5 dL_law_3299 rfl ?_
  refine v_iconst dL_law_3301 ic_3 ?_
  refine v_iadd dL_law_3302 ?_
  refine v_sld g3 dL_law_3303 ?_
  refine cLm_cover (Ok.bind h) ⟨Nat.le_of_ble_eq_true rfl, Nat.le_of_ble_eq_true rfl⟩ (Nat.le_of_ble_eq_true rfl) dL_law_3304 (fun r5 h => ?_) ⟨by omega, by omega⟩
  refine v_istore [(6, .int r5.1), (5, .int r4.1), (0, .ref b), (1, .ref (lc 0 0)), (2, .ref (lc 300 0)), (3, .ref (lc 400 0)), (4, .int x4)] dL_law_3307 (Nat.le_of_ble_eq_true rfl) rfl ?_
  refine v_aload_n 4 dL_law_3309 rfl ?_
  refine cLm_thrown (Ok.bind h) ⟨Nat.le_of_ble_eq_true rfl, Nat.le_of_ble_eq_true rfl⟩ (Nat.le_of_ble_eq_true rfl) dL_law_3310 (fun r6 h => ?_) ⟨by omega, by omega⟩
  refine v_iload 1 dL_law_3313 rfl ?_
  refine v_icmp_eq (tgt := 3320) dL_law_3315 rfl (fun c7 => ?_) (fun c7 => ?_)
  · have h := Ok.pos h c7
    refine v_iload 1 dL_law_3320 rfl ?_
    refine v_if_ne (tgt := 3337) dL_law_3322 rfl (fun c8 => ?_) (fun c8 => ?_)
    · have h := Ok.neg h c8
      refine v_goto (tgt := 3740) dL_law_3337 rfl ?_
      refine v_sub [2, 3, 4, 5, 6] rfl ?_
      have h := Ok.ret h
      exact h lc agr_rf _ _ (by omega) (by omega)
    · have h := Ok.pos h c8
      refine v_aload_n 5 dL_law_3325 rfl ?_
      refine v_iconst dL_law_3326 ic_0 ?_
      obtain ⟨g9, h⟩ := Ok.guard h
      refine lL_400 g9 dL_law_3327 ?_
      refine v_iload 0 dL_law_3328 rfl ?_
      refine v_i2l dL_law_3330 rfl ?_
      refine v_lif_eq (tgt := 3337) dL_law_3331 dL_law_3332 rfl (fun c10 => ?_) (fun c10 => ?_)
      · have h := Ok.pos h c10
        refine v_goto (tgt := 3740) dL_law_3337 rfl ?_
        refine v_sub [2, 3, 4, 5, 6] rfl ?_
        have h := Ok.ret h
        exact h lc agr_rf _ _ (by omega) (by omega)
      · have h := Ok.neg h c10
        refine v_iconst dL_law_3335 ic_0 ?_
        exact Ok.stuck h
  · have h := Ok.neg h c7
    refine v_iconst dL_law_3318 ic_0 ?_
    exact Ok.stuck h
theorem cLw_reach {l : Launch} {D : va_G} {dA : Nat → ClassId} {A : Nat → Prop} {pz b L : Nat} {xs : Nat → Int32} {lc : Nat → Nat → Nat} {s : tt_SL} {cc : ByteArray} {nl : Nat} {rt : Option FieldType} {rm : Room} {tn : tt_Tn} {Q : tt_Fin} {pc : Nat} {lv : List (Nat × Value)} {rest : List Value} {ck cn : Nat} {x1 : Int32} {K : Int32 × tt_SL → Prop} (h : Ok (wrapL (fT_reach s.1 x1) s (cd3 (some 1) none none)) K) (hl9 : l.stackTraces = false) (hR : 10 + 1 ≤ rm.frames ∧ 8 + (4 + 11) + 186 ≤ rm.locals) (hW : (rest.map fun v => v.category).sum ≤ 8) (d : decode cc pc = .ok (.invokestatic 310, 3)) (kk : ∀ r, K r → ∀ lc', tt_agr (XL l D dA A pz b L xs) s lc lc' → tt_V (XL l D dA A pz b L xs) cc (RX0, nl, rt, rm, tn) Q (pc + 3) lv (.int r.1 :: rest) lc' r.2 (ck + 1) (cn + 6)) (hf : ck + 1 ≤ rm.cells ∧ cn + 6 ≤ rm.slots) : tt_V (XL l D dA A pz b L xs) cc (RX0, nl, rt, rm, tn) Q pc lv (.ref (lc 400 0) :: .int x1 :: .ref (lc 0 0) :: rest) lc s ck cn :=
  v_callSW (nA := 3) (As := [.ref (lc 0 0), .int x1, .ref (lc 400 0)]) (mL_reach l D dA A pz b L xs hl9 lc s x1 (Q := (fun v lc' s' => ∃ r : Int32 × tt_SL, K r ∧ v = some (Value.int r.1) ∧ tt_agr (XL l D dA A pz b L xs) s lc lc' ∧ s' = r.2)) (h.mono fun r hr lc' ha => ⟨r, hr, rfl, ha, rfl⟩)) (lw_SW q1707 q1708 q126 q1709) (by decide +kernel) rfl hR hW hf d rfl (fun v lc' s' q => by obtain ⟨r, hr, e1, e2, e3⟩ := q; rw [e1, e3]; exact kk r hr lc' e2)
theorem cLm_reach {l : Launch} {D : va_G} {dA : Nat → ClassId} {A : Nat → Prop} {pz b L : Nat} {xs : Nat → Int32} {lc : Nat → Nat → Nat} {s : tt_SL} {cc : ByteArray} {nl : Nat} {rt : Option FieldType} {rm : Room} {tn : tt_Tn} {Q : tt_Fin} {pc : Nat} {lv : List (Nat × Value)} {rest : List Value} {ck cn : Nat} {x1 : Int32} {K : Int64 × tt_St → Prop} (h : Ok (fM_reach s.2.1 x1) K) (hR : 2 + 1 ≤ rm.frames ∧ 8 + (5 + 11) + 47 ≤ rm.locals) (hW : (rest.map fun v => v.category).sum ≤ 8) (d : decode cc pc = .ok (.invokevirtual 312, 3)) (kk : ∀ r, K r → tt_V (XL l D dA A pz b L xs) cc (RX0, nl, rt, rm, tn) Q (pc + 3) lv (.long r.1 :: rest) lc (s.1, r.2, s.2.2) (ck + 0) (cn + 0)) (hf : ck + 0 ≤ rm.cells ∧ cn + 0 ≤ rm.slots) : tt_V (XL l D dA A pz b L xs) cc (RX0, nl, rt, rm, tn) Q pc lv (.int x1 :: .ref (lc 300 0) :: rest) lc s ck cn :=
  v_callV (kd := 300) (i := 0) (nA := 1) (As := [.int x1]) lvL_300 oL_300 rfl (liftM (Q := (fun v lc' s' => ∃ r : Int64 × tt_St, K r ∧ v = some (Value.long r.1) ∧ lc' = lc ∧ s' = (s.1, r.2, s.2.2))) (mM_reach l (DM D) (dMd dA) (aLM lc s) (nTm lc) s.2.1 x1 (Q := fun v lc' w => lc' = nTm lc ∧ (fun v lc' s' => ∃ r : Int64 × tt_St, K r ∧ v = some (Value.long r.1) ∧ lc' = lc ∧ s' = (s.1, r.2, s.2.2)) v lc (s.1, w, s.2.2)) (h.mono fun r hr => ⟨rfl, r, hr, rfl, rfl, rfl⟩))) (lw_V q2433 q2434 q2435 q154 q2436) (by decide +kernel) rfl hR hW hf d rfl (fun v lc' s' q => by obtain ⟨r, hr, e1, e2, e3⟩ := q; rw [e1, e2, e3]; exact kk r hr)
def fL_case_43 (L : Nat) (xs : Nat → Int32) (s : tt_SL) (x4 : Int32) : Option tt_SL :=
  if inB (x4 + (1 : Int32)) L then (wrapL (fT_reach s.1 (xs ((x4 + (1 : Int32)).toNatClampNeg))) s (cd3 (some 1) none none)).bind fun r2 => (fM_reach r2.2.2.1 (xs ((x4 + (1 : Int32)).toNatClampNeg))).bind fun r3 => (fM_thrown (r2.2.1, r3.2, r2.2.2.2).2.1).bind fun r4 => if r4 = r2.1 then if r2.1 = 0 then if inB (0 : Int32) 1 then if (rdL (r2.2.1, r3.2, r2.2.2.2).2.2 0 0 ((0 : Int32).toNatClampNeg)) = r3.1 then some (r2.2.1, r3.2, r2.2.2.2) else none else none else some (r2.2.1, r3.2, r2.2.2.2) else none else none
set_option maxHeartbeats 4000000 in
theorem lcase_43 {l : Launch} {D : va_G} {dA : Nat → ClassId} {A : Nat → Prop} {pz b L : Nat} {xs : Nat → Int32} (hl9 : l.stackTraces = false) {lc : Nat → Nat → Nat} {s : tt_SL} {x4 : Int32} {ck cn : Nat} {tn : tt_Tn} {Q : tt_Fin} (hk1 : ck + 60 ≤ room_1.cells) (hk2 : cn + 600 ≤ room_1.slots) (h : Ok (fL_case_43 L xs s x4) (fun r => ∀ lc', tt_agr (XL l D dA A pz b L xs) s lc lc' → ∀ ck' cn', ck' ≤ ck + 60 → cn' ≤ cn + 600 → tt_V (XL l D dA A pz b L xs) code (RX0, 8, ret, room_1, tn) Q 3740 [(0, .ref b), (1, .ref (lc' 0 0)), (2, .ref (lc' 300 0)), (3, .ref (lc' 400 0)), (4, .int x4)] [] lc' r ck' cn')) : tt_V (XL l D dA A pz b L xs) code (RX0, 8, ret, room_1, tn) Q 3340 [(0, .ref b), (1, .ref (lc 0 0)), (2, .ref (lc 300 0)), (3, .ref (lc 400 0)), (4, .int x4)] [] lc s ck cn := by
  unfold fL_case_43 at h
  refine v_aload_n 1 dL_law_3340 rfl ?_
  refine v_aload_n 0 dL_law_3341 rfl ?_
  refine v_iload 4 dL_law_3342 rfl ?_
  refine v_iconst dL_law_3344 ic_1 ?_
  refine v_iadd dL_law_3345 ?_
  obtain ⟨g1, h⟩ := Ok.guard h
  refine v_sld g1 dL_law_3346 ?_
  refine v_aload_n 3 dL_law_3347 rfl ?_
  refine cLw_reach (Ok.bind h) hl9 ⟨Nat.le_of_ble_eq_true rfl, Nat.le_of_ble_eq_true rfl⟩ (Nat.le_of_ble_eq_true rfl) dL_law_3348 (fun r2 h lc hc => ?_) ⟨by omega, by omega⟩
  rw [← hc 0 0 (.inl lvL_0)]
  rw [← hc 300 0 (.inl lvL_300)]
  rw [← hc 400 0 (.inl lvL_400)]
  have h := Ok.agr h hc (fun _ _ h => h)
  refine v_istore [(5, .int r2.1), (0, .ref b), (1, .ref (lc 0 0)), (2, .ref (lc 300 0)), (3, .ref (lc 400 0)), (4, .int x4)] dL_law_3351 (Nat.le_of_ble_eq_true rfl) rfl ?_
  refine v_aload_n 3 dL_law_3353 rfl ?_
  refine v_aload_n 1 dL_law_3354 rfl ?_
  refine v_iload 5 dL_law_3355 rfl ?_
  refine v_iconst dL_law_3357 ic_1 ?_
  refine v_iadd dL_law_3358 ?_
  refine v_sld g1 dL_law_3359 ?_
  refine cLm_reach (Ok.bind h) ⟨Nat.le_of_ble_eq_true rfl, Nat.le_of_ble_eq_true rfl⟩ (Nat.le_of_ble_eq_true rfl) dL_law_3360 (fun r3 h => ?_) ⟨by omega, by omega⟩
  refine v_lstore [(6, .long r3.1), (5, .int r2.1), (0, .ref b), (1, .ref (lc 0 0)), (2, .ref (lc 300 0)), (3, .ref (lc 400 0)), (4, .int x4)] dL_law_3363 (Nat.le_of_ble_eq_true rfl) rfl ?_
  refine v_aload_n 4 dL_law_3365 rfl ?_
  refine cLm_thrown (Ok.bind h) ⟨Nat.le_of_ble_eq_true rfl, Nat.le_of_ble_eq_true rfl⟩ (Nat.le_of_ble_eq_true rfl) dL_law_3366 (fun r4 h => ?_) ⟨by omega, by omega⟩
  refine v_iload 1 dL_law_3369 rfl ?_
  refine v_icmp_eq (tgt := 3376) dL_law_3371 rfl (fun c5 => ?_) (fun c5 => ?_)
  · have h := Ok.pos h c5
    refine v_iload 1 dL_law_3376 rfl ?_
    refine v_if_ne (tgt := 3392) dL_law_3378 rfl (fun c6 => ?_) (fun c6 => ?_)
    · have h := Ok.neg h c6
      refine v_goto (tgt := 3740) dL_law_3392 rfl ?_
      refine v_sub [2, 3, 4, 5, 6] rfl ?_
      have h := Ok.ret h
      exact h lc agr_rf _ _ (by omega) (by omega)
    · have h := Ok.pos h c6
      refine v_aload_n 5 dL_law_3381 rfl ?_
      refine v_iconst dL_law_3382 ic_0 ?_
      obtain ⟨g7, h⟩ := Ok.guard h
      refine lL_400 g7 dL_law_3383 ?_
      refine v_lload 0 dL_law_3384 rfl ?_
      refine v_lif_eq (tgt := 3392) dL_law_3386 dL_law_3387 rfl (fun c8 => ?_) (fun c8 => ?_)
      · have h := Ok.pos h c8
        refine v_goto (tgt := 3740) dL_law_3392 rfl ?_
        refine v_sub [2, 3, 4, 5, 6] rfl ?_
        have h := Ok.ret h
        exact h lc agr_rf _ _ (by omega) (by omega)
      · have h := Ok.neg h c8
        refine v_iconst dL_law_3390 ic_0 ?_
        exact Ok.stuck h
  · have h := Ok.neg h c5
    refine v_iconst dL_law_3374 ic_0 ?_
    exact Ok.stuck h
theorem cLw_uneven {l : Launch} {D : va_G} {dA : Nat → ClassId} {A : Nat → Prop} {pz b L : Nat} {xs : Nat → Int32} {lc : Nat → Nat → Nat} {s : tt_SL} {cc : ByteArray} {nl : Nat} {rt : Option FieldType} {rm : Room} {tn : tt_Tn} {Q : tt_Fin} {pc : Nat} {lv : List (Nat × Value)} {rest : List Value} {ck cn : Nat} {x1 : Int32} {x2 : Int32} {x3 : Int32} {x4 : Int32} {x5 : Int32} {K : Int32 × tt_SL → Prop} (h : Ok (wrapL (fT_uneven s.1 x1 x2 x3 x4 x5) s (cd3 (some 1) (some 2) none)) K) (hl9 : l.stackTraces = false) (hR : 12 + 1 ≤ rm.frames ∧ 8 + (8 + 11) + 258 ≤ rm.locals) (hW : (rest.map fun v => v.category).sum ≤ 8) (d : decode cc pc = .ok (.invokestatic 313, 3)) (kk : ∀ r, K r → ∀ lc', tt_agr (XL l D dA A pz b L xs) s lc lc' → tt_V (XL l D dA A pz b L xs) cc (RX0, nl, rt, rm, tn) Q (pc + 3) lv (.int r.1 :: rest) lc' r.2 (ck + 5) (cn + 30)) (hf : ck + 5 ≤ rm.cells ∧ cn + 30 ≤ rm.slots) : tt_V (XL l D dA A pz b L xs) cc (RX0, nl, rt, rm, tn) Q pc lv (.ref (lc 400 0) :: .int x5 :: .int x4 :: .int x3 :: .int x2 :: .int x1 :: .ref (lc 0 0) :: rest) lc s ck cn :=
  v_callSW (nA := 7) (As := [.ref (lc 0 0), .int x1, .int x2, .int x3, .int x4, .int x5, .ref (lc 400 0)]) (mL_uneven l D dA A pz b L xs hl9 lc s x1 x2 x3 x4 x5 (Q := (fun v lc' s' => ∃ r : Int32 × tt_SL, K r ∧ v = some (Value.int r.1) ∧ tt_agr (XL l D dA A pz b L xs) s lc lc' ∧ s' = r.2)) (h.mono fun r hr lc' ha => ⟨r, hr, rfl, ha, rfl⟩)) (lw_SW q1715 q1716 q126 q1717) (by decide +kernel) rfl hR hW hf d rfl (fun v lc' s' q => by obtain ⟨r, hr, e1, e2, e3⟩ := q; rw [e1, e3]; exact kk r hr lc' e2)
theorem cLm_uneven {l : Launch} {D : va_G} {dA : Nat → ClassId} {A : Nat → Prop} {pz b L : Nat} {xs : Nat → Int32} {lc : Nat → Nat → Nat} {s : tt_SL} {cc : ByteArray} {nl : Nat} {rt : Option FieldType} {rm : Room} {tn : tt_Tn} {Q : tt_Fin} {pc : Nat} {lv : List (Nat × Value)} {rest : List Value} {ck cn : Nat} {x1 : Int32} {x2 : Int32} {x3 : Int32} {x4 : Int32} {x5 : Int32} {K : Int64 × tt_St → Prop} (h : Ok (fM_uneven s.2.1 x1 x2 x3 x4 x5) K) (hR : 11 + 1 ≤ rm.frames ∧ 8 + (8 + 11) + 254 ≤ rm.locals) (hW : (rest.map fun v => v.category).sum ≤ 8) (d : decode cc pc = .ok (.invokevirtual 315, 3)) (kk : ∀ r, K r → tt_V (XL l D dA A pz b L xs) cc (RX0, nl, rt, rm, tn) Q (pc + 3) lv (.long r.1 :: rest) lc (s.1, r.2, s.2.2) (ck + 0) (cn + 0)) (hf : ck + 0 ≤ rm.cells ∧ cn + 0 ≤ rm.slots) : tt_V (XL l D dA A pz b L xs) cc (RX0, nl, rt, rm, tn) Q pc lv (.int x5 :: .int x4 :: .int x3 :: .int x2 :: .int x1 :: .ref (lc 300 0) :: rest) lc s ck cn :=
  v_callV (kd := 300) (i := 0) (nA := 5) (As := [.int x1, .int x2, .int x3, .int x4, .int x5]) lvL_300 oL_300 rfl (liftM (Q := (fun v lc' s' => ∃ r : Int64 × tt_St, K r ∧ v = some (Value.long r.1) ∧ lc' = lc ∧ s' = (s.1, r.2, s.2.2))) (mM_uneven l (DM D) (dMd dA) (aLM lc s) (nTm lc) s.2.1 x1 x2 x3 x4 x5 (Q := fun v lc' w => lc' = nTm lc ∧ (fun v lc' s' => ∃ r : Int64 × tt_St, K r ∧ v = some (Value.long r.1) ∧ lc' = lc ∧ s' = (s.1, r.2, s.2.2)) v lc (s.1, w, s.2.2)) (h.mono fun r hr => ⟨rfl, r, hr, rfl, rfl, rfl⟩))) (lw_V q2369 q2370 q2371 q154 q2372) (by decide +kernel) rfl hR hW hf d rfl (fun v lc' s' q => by obtain ⟨r, hr, e1, e2, e3⟩ := q; rw [e1, e2, e3]; exact kk r hr)
def fL_case_44 (L : Nat) (xs : Nat → Int32) (s : tt_SL) (x4 : Int32) : Option tt_SL :=
  if inB (x4 + (1 : Int32)) L then if inB (x4 + (2 : Int32)) L then if inB (x4 + (3 : Int32)) L then if inB (x4 + (4 : Int32)) L then if inB (x4 + (5 : Int32)) L then (wrapL (fT_uneven s.1 (xs ((x4 + (1 : Int32)).toNatClampNeg)) (xs ((x4 + (2 : Int32)).toNatClampNeg)) (xs ((x4 + (3 : Int32)).toNatClampNeg)) (xs ((x4 + (4 : Int32)).toNatClampNeg)) (xs ((x4 + (5 : Int32)).toNatClampNeg))) s (cd3 (some 1) (some 2) none)).bind fun r6 => (fM_uneven r6.2.2.1 (xs ((x4 + (1 : Int32)).toNatClampNeg)) (xs ((x4 + (2 : Int32)).toNatClampNeg)) (xs ((x4 + (3 : Int32)).toNatClampNeg)) (xs ((x4 + (4 : Int32)).toNatClampNeg)) (xs ((x4 + (5 : Int32)).toNatClampNeg))).bind fun r7 => (fM_thrown (r6.2.1, r7.2, r6.2.2.2).2.1).bind fun r8 => if r8 = r6.1 then if r6.1 = 0 then if inB (0 : Int32) 1 then if (rdL (r6.2.1, r7.2, r6.2.2.2).2.2 0 0 ((0 : Int32).toNatClampNeg)) = r7.1 then some (r6.2.1, r7.2, r6.2.2.2) else none else none else some (r6.2.1, r7.2, r6.2.2.2) else none else none else none else none else none else none
set_option maxHeartbeats 4000000 in
theorem lcase_44 {l : Launch} {D : va_G} {dA : Nat → ClassId} {A : Nat → Prop} {pz b L : Nat} {xs : Nat → Int32} (hl9 : l.stackTraces = false) {lc : Nat → Nat → Nat} {s : tt_SL} {x4 : Int32} {ck cn : Nat} {tn : tt_Tn} {Q : tt_Fin} (hk1 : ck + 60 ≤ room_1.cells) (hk2 : cn + 600 ≤ room_1.slots) (h : Ok (fL_case_44 L xs s x4) (fun r => ∀ lc', tt_agr (XL l D dA A pz b L xs) s lc lc' → ∀ ck' cn', ck' ≤ ck + 60 → cn' ≤ cn + 600 → tt_V (XL l D dA A pz b L xs) code (RX0, 8, ret, room_1, tn) Q 3740 [(0, .ref b), (1, .ref (lc' 0 0)), (2, .ref (lc' 300 0)), (3, .ref (lc' 400 0)), (4, .int x4)] [] lc' r ck' cn')) : tt_V (XL l D dA A pz b L xs) code (RX0, 8, ret, room_1, tn) Q 3395 [(0, .ref b), (1, .ref (lc 0 0)), (2, .ref (lc 300 0)), (3, .ref (lc 400 0)), (4, .int x4)] [] lc s ck cn := by
  unfold fL_case_44 at h
  refine v_aload_n 1 dL_law_3395 rfl ?_
  refine v_aload_n 0 dL_law_3396 rfl ?_
  refine v_iload 4 dL_law_3397 rfl ?_
  refine v_iconst dL_law_3399 ic_1 ?_
  refine v_iadd dL_law_3400 ?_
  obtain ⟨g1, h⟩ := Ok.guard h
  refine v_sld g1 dL_law_3401 ?_
  refine v_aload_n 0 dL_law_3402 rfl ?_
  refine v_iload 4 dL_law_3403 rfl ?_
  refine v_iconst dL_law_3405 ic_2 ?_
  refine v_iadd dL_law_3406 ?_
  obtain ⟨g2, h⟩ := Ok.guard h
  refine v_sld g2 dL_law_3407 ?_
  refine v_aload_n 0 dL_law_3408 rfl ?_
  refine v_iload 4 dL_law_3409 rfl ?_
  refine v_iconst dL_law_3411 ic_3 ?_
  refine v_iadd dL_law_3412 ?_
  obtain ⟨g3, h⟩ := Ok.guard h
  refine v_sld g3 dL_law_3413 ?_
  refine v_aload_n 0 dL_law_3414 rfl ?_
  refine v_iload 4 dL_law_3415 rfl ?_
  refine v_iconst dL_law_3417 ic_4 ?_
  refine v_iadd dL_law_3418 ?_
  obtain ⟨g4, h⟩ := Ok.guard h
  refine v_sld g4 dL_law_3419 ?_
  refine v_aload_n 0 dL_law_3420 rfl ?_
  refine v_iload 4 dL_law_3421 rfl ?_
  refine v_iconst dL_law_3423 ic_5 ?_
  refine v_iadd dL_law_3424 ?_
  obtain ⟨g5, h⟩ := Ok.guard h
  refine v_sld g5 dL_law_3425 ?_
  refine v_aload_n 3 dL_law_3426 rfl ?_
  refine cLw_uneven (Ok.bind h) hl9 ⟨Nat.le_of_ble_eq_true rfl, Nat.le_of_ble_eq_true rfl⟩ (Nat.le_of_ble_eq_true rfl) dL_law_3427 (fun r6 h lc hc => ?_) ⟨by omega, by omega⟩
  rw [← hc 0 0 (.inl lvL_0)]
  rw [← hc 300 0 (.inl lvL_300)]
  rw [← hc 400 0 (.inl lvL_400)]
  have h := Ok.agr h hc (fun _ _ h => h)
  refine v_istore [(5, .int r6.1), (0, .ref b), (1, .ref (lc 0 0)), (2, .ref (lc 300 0)), (3, .ref (lc 400 0)), (4, .int x4)] dL_law_3430 (Nat.le_of_ble_eq_true rfl) rfl ?_
  refine v_aload_n 3 dL_law_3432 rfl ?_
  refine v_aload_n 1 dL_law_3433 rfl ?_
  refine v_iload 5 dL_law_3434 rfl ?_
  refine v_iconst dL_law_3436 ic_1 ?_
  refine v_iadd dL_law_3437 ?_
  refine v_sld g1 dL_law_3438 ?_
  refine v_aload_n 1 dL_law_3439 rfl ?_
  refine v_iload 5 dL_law_3440 rfl ?_
  refine v_iconst dL_law_3442 ic_2 ?_
  refine v_iadd dL_law_3443 ?_
  refine v_sld g2 dL_law_3444 ?_
  refine v_aload_n 1 dL_law_3445 rfl ?_
  refine v_iload 5 dL_law_3446 rfl ?_
  refine v_iconst dL_law_3448 ic_3 ?_
  refine v_iadd dL_law_3449 ?_
  refine v_sld g3 dL_law_3450 ?_
  refine v_aload_n 1 dL_law_3451 rfl ?_
  refine v_iload 5 dL_law_3452 rfl ?_
  refine v_iconst dL_law_3454 ic_4 ?_
  refine v_iadd dL_law_3455 ?_
  refine v_sld g4 dL_law_3456 ?_
  refine v_aload_n 1 dL_law_3457 rfl ?_
  refine v_iload 5 dL_law_3458 rfl ?_
  refine v_iconst dL_law_3460 ic_5 ?_
  refine v_iadd dL_law_3461 ?_
  refine v_sld g5 dL_law_3462 ?_
  refine cLm_uneven (Ok.bind h) ⟨Nat.le_of_ble_eq_true rfl, Nat.le_of_ble_eq_true rfl⟩ (Nat.le_of_ble_eq_true rfl) dL_law_3463 (fun r7 h => ?_) ⟨by omega, by omega⟩
  refine v_lstore [(6, .long r7.1), (5, .int r6.1), (0, .ref b), (1, .ref (lc 0 0)), (2, .ref (lc 300 0)), (3, .ref (lc 400 0)), (4, .int x4)] dL_law_3466 (Nat.le_of_ble_eq_true rfl) rfl ?_
  refine v_aload_n 4 dL_law_3468 rfl ?_
  refine cLm_thrown (Ok.bind h) ⟨Nat.le_of_ble_eq_true rfl, Nat.le_of_ble_eq_true rfl⟩ (Nat.le_of_ble_eq_true rfl) dL_law_3469 (fun r8 h => ?_) ⟨by omega, by omega⟩
  refine v_iload 1 dL_law_3472 rfl ?_
  refine v_icmp_eq (tgt := 3479) dL_law_3474 rfl (fun c9 => ?_) (fun c9 => ?_)
  · have h := Ok.pos h c9
    refine v_iload 1 dL_law_3479 rfl ?_
    refine v_if_ne (tgt := 3495) dL_law_3481 rfl (fun c10 => ?_) (fun c10 => ?_)
    · have h := Ok.neg h c10
      refine v_goto (tgt := 3740) dL_law_3495 rfl ?_
      refine v_sub [2, 3, 4, 5, 6] rfl ?_
      have h := Ok.ret h
      exact h lc agr_rf _ _ (by omega) (by omega)
    · have h := Ok.pos h c10
      refine v_aload_n 5 dL_law_3484 rfl ?_
      refine v_iconst dL_law_3485 ic_0 ?_
      obtain ⟨g11, h⟩ := Ok.guard h
      refine lL_400 g11 dL_law_3486 ?_
      refine v_lload 0 dL_law_3487 rfl ?_
      refine v_lif_eq (tgt := 3495) dL_law_3489 dL_law_3490 rfl (fun c12 => ?_) (fun c12 => ?_)
      · have h := Ok.pos h c12
        refine v_goto (tgt := 3740) dL_law_3495 rfl ?_
        refine v_sub [2, 3, 4, 5, 6] rfl ?_
        have h := Ok.ret h
        exact h lc agr_rf _ _ (by omega) (by omega)
      · have h := Ok.neg h c12
        refine v_iconst dL_law_3493 ic_0 ?_
        exact Ok.stuck h
  · have h := Ok.neg h c9
    refine v_iconst dL_law_3477 ic_0 ?_
    exact Ok.stuck h
theorem cLw_widest {l : Launch} {D : va_G} {dA : Nat → ClassId} {A : Nat → Prop} {pz b L : Nat} {xs : Nat → Int32} {lc : Nat → Nat → Nat} {s : tt_SL} {cc : ByteArray} {nl : Nat} {rt : Option FieldType} {rm : Room} {tn : tt_Tn} {Q : tt_Fin} {pc : Nat} {lv : List (Nat × Value)} {rest : List Value} {ck cn : Nat} {x1 : Int32} {x2 : Int32} {K : Int32 × tt_SL → Prop} (h : Ok (wrapI (fT_widest s.1 x1 x2) s (cd3 none (some 1) none)) K) (hl9 : l.stackTraces = false) (hR : 10 + 1 ≤ rm.frames ∧ 8 + (5 + 11) + 186 ≤ rm.locals) (hW : (rest.map fun v => v.category).sum ≤ 8) (d : decode cc pc = .ok (.invokestatic 316, 3)) (kk : ∀ r, K r → ∀ lc', tt_agr (XL l D dA A pz b L xs) s lc lc' → tt_V (XL l D dA A pz b L xs) cc (RX0, nl, rt, rm, tn) Q (pc + 3) lv (.int r.1 :: rest) lc' r.2 (ck + 2) (cn + 12)) (hf : ck + 2 ≤ rm.cells ∧ cn + 12 ≤ rm.slots) : tt_V (XL l D dA A pz b L xs) cc (RX0, nl, rt, rm, tn) Q pc lv (.ref (lc 400 0) :: .int x2 :: .int x1 :: .ref (lc 0 0) :: rest) lc s ck cn :=
  v_callSW (nA := 4) (As := [.ref (lc 0 0), .int x1, .int x2, .ref (lc 400 0)]) (mL_widest l D dA A pz b L xs hl9 lc s x1 x2 (Q := (fun v lc' s' => ∃ r : Int32 × tt_SL, K r ∧ v = some (Value.int r.1) ∧ tt_agr (XL l D dA A pz b L xs) s lc lc' ∧ s' = r.2)) (h.mono fun r hr lc' ha => ⟨r, hr, rfl, ha, rfl⟩)) (lw_SW q1726 q1727 q126 q1728) (by decide +kernel) rfl hR hW hf d rfl (fun v lc' s' q => by obtain ⟨r, hr, e1, e2, e3⟩ := q; rw [e1, e3]; exact kk r hr lc' e2)
theorem cLm_widest {l : Launch} {D : va_G} {dA : Nat → ClassId} {A : Nat → Prop} {pz b L : Nat} {xs : Nat → Int32} {lc : Nat → Nat → Nat} {s : tt_SL} {cc : ByteArray} {nl : Nat} {rt : Option FieldType} {rm : Room} {tn : tt_Tn} {Q : tt_Fin} {pc : Nat} {lv : List (Nat × Value)} {rest : List Value} {ck cn : Nat} {x1 : Int32} {x2 : Int32} {K : Int32 × tt_St → Prop} (h : Ok (fM_widest s.2.1 x1 x2) K) (hR : 1 + 1 ≤ rm.frames ∧ 8 + (7 + 11) + 25 ≤ rm.locals) (hW : (rest.map fun v => v.category).sum ≤ 8) (d : decode cc pc = .ok (.invokevirtual 318, 3)) (kk : ∀ r, K r → tt_V (XL l D dA A pz b L xs) cc (RX0, nl, rt, rm, tn) Q (pc + 3) lv (.int r.1 :: rest) lc (s.1, r.2, s.2.2) (ck + 0) (cn + 0)) (hf : ck + 0 ≤ rm.cells ∧ cn + 0 ≤ rm.slots) : tt_V (XL l D dA A pz b L xs) cc (RX0, nl, rt, rm, tn) Q pc lv (.int x2 :: .int x1 :: .ref (lc 300 0) :: rest) lc s ck cn :=
  v_callV (kd := 300) (i := 0) (nA := 2) (As := [.int x1, .int x2]) lvL_300 oL_300 rfl (liftM (Q := (fun v lc' s' => ∃ r : Int32 × tt_St, K r ∧ v = some (Value.int r.1) ∧ lc' = lc ∧ s' = (s.1, r.2, s.2.2))) (mM_widest l (DM D) (dMd dA) (aLM lc s) (nTm lc) s.2.1 x1 x2 (Q := fun v lc' w => lc' = nTm lc ∧ (fun v lc' s' => ∃ r : Int32 × tt_St, K r ∧ v = some (Value.int r.1) ∧ lc' = lc ∧ s' = (s.1, r.2, s.2.2)) v lc (s.1, w, s.2.2)) (h.mono fun r hr => ⟨rfl, r, hr, rfl, rfl, rfl⟩))) (lw_V q2437 q2438 q2439 q154 q2440) (by decide +kernel) rfl hR hW hf d rfl (fun v lc' s' q => by obtain ⟨r, hr, e1, e2, e3⟩ := q; rw [e1, e2, e3]; exact kk r hr)
def fL_case_45 (L : Nat) (xs : Nat → Int32) (s : tt_SL) (x4 : Int32) : Option tt_SL :=
  if inB (x4 + (1 : Int32)) L then if inB (x4 + (2 : Int32)) L then (wrapI (fT_widest s.1 (xs ((x4 + (1 : Int32)).toNatClampNeg)) (xs ((x4 + (2 : Int32)).toNatClampNeg))) s (cd3 none (some 1) none)).bind fun r3 => (fM_widest r3.2.2.1 (xs ((x4 + (1 : Int32)).toNatClampNeg)) (xs ((x4 + (2 : Int32)).toNatClampNeg))).bind fun r4 => (fM_thrown (r3.2.1, r4.2, r3.2.2.2).2.1).bind fun r5 => if r5 = r3.1 then if r3.1 = 0 then if inB (0 : Int32) 1 then if (rdL (r3.2.1, r4.2, r3.2.2.2).2.2 0 0 ((0 : Int32).toNatClampNeg)) = r4.1.toInt64 then some (r3.2.1, r4.2, r3.2.2.2) else none else none else some (r3.2.1, r4.2, r3.2.2.2) else none else none else none
set_option maxHeartbeats 4000000 in
theorem lcase_45 {l : Launch} {D : va_G} {dA : Nat → ClassId} {A : Nat → Prop} {pz b L : Nat} {xs : Nat → Int32} (hl9 : l.stackTraces = false) {lc : Nat → Nat → Nat} {s : tt_SL} {x4 : Int32} {ck cn : Nat} {tn : tt_Tn} {Q : tt_Fin} (hk1 : ck + 60 ≤ room_1.cells) (hk2 : cn + 600 ≤ room_1.slots) (h : Ok (fL_case_45 L xs s x4) (fun r => ∀ lc', tt_agr (XL l D dA A pz b L xs) s lc lc' → ∀ ck' cn', ck' ≤ ck + 60 → cn' ≤ cn + 600 → tt_V (XL l D dA A pz b L xs) code (RX0, 8, ret, room_1, tn) Q 3740 [(0, .ref b), (1, .ref (lc' 0 0)), (2, .ref (lc' 300 0)), (3, .ref (lc' 400 0)), (4, .int x4)] [] lc' r ck' cn')) : tt_V (XL l D dA A pz b L xs) code (RX0, 8, ret, room_1, tn) Q 3498 [(0, .ref b), (1, .ref (lc 0 0)), (2, .ref (lc 300 0)), (3, .ref (lc 400 0)), (4, .int x4)] [] lc s ck cn := by
  unfold fL_case_45 at h
  refine v_aload_n 1 dL_law_3498 rfl ?_
  refine v_aload_n 0 dL_law_3499 rfl ?_
  refine v_iload 4 dL_law_3500 rfl ?_
  refine v_iconst dL_law_3502 ic_1 ?_
  refine v_iadd dL_law_3503 ?_
  obtain ⟨g1, h⟩ := Ok.guard h
  refine v_sld g1 dL_law_3504 ?_
  refine v_aload_n 0 dL_law_3505 rfl ?_
  refine v_iload 4 dL_law_3506 rfl ?_
  refine v_iconst dL_law_3508 ic_2 ?_
  refine v_iadd dL_law_3509 ?_
  obtain ⟨g2, h⟩ := Ok.guard h
  refine v_sld g2 dL_law_3510 ?_
  refine v_aload_n 3 dL_law_3511 rfl ?_
  refine cLw_widest (Ok.bind h) hl9 ⟨Nat.le_of_ble_eq_true rfl, Nat.le_of_ble_eq_true rfl⟩ (Nat.le_of_ble_eq_true rfl) dL_law_3512 (fun r3 h lc hc => ?_) ⟨by omega, by omega⟩
  rw [← hc 0 0 (.inl lvL_0)]
  rw [← hc 300 0 (.inl lvL_300)]
  rw [← hc 400 0 (.inl lvL_400)]
  have h := Ok.agr h hc (fun _ _ h => h)
  refine v_istore [(5, .int r3.1), (0, .ref b), (1, .ref (lc 0 0)), (2, .ref (lc 300 0)), (3, .ref (lc 400 0)), (4, .int x4)] dL_law_3515 (Nat.le_of_ble_eq_true rfl) rfl ?_
  refine v_aload_n 3 dL_law_3517 rfl ?_
  refine v_aload_n 1 dL_law_3518 rfl ?_
  refine v_iload 5 dL_law_3519 rfl ?_
  refine v_iconst dL_law_3521 ic_1 ?_
  refine v_iadd dL_law_3522 ?_
  refine v_sld g1 dL_law_3523 ?_
  refine v_aload_n 1 dL_law_3524 rfl ?_
  refine v_iload 5 dL_law_3525 rfl ?_
  refine v_iconst dL_law_3527 ic_2 ?_
  refine v_iadd dL_law_3528 ?_
  refine v_sld g2 dL_law_3529 ?_
  refine cLm_widest (Ok.bind h) ⟨Nat.le_of_ble_eq_true rfl, Nat.le_of_ble_eq_true rfl⟩ (Nat.le_of_ble_eq_true rfl) dL_law_3530 (fun r4 h => ?_) ⟨by omega, by omega⟩
  refine v_istore [(6, .int r4.1), (5, .int r3.1), (0, .ref b), (1, .ref (lc 0 0)), (2, .ref (lc 300 0)), (3, .ref (lc 400 0)), (4, .int x4)] dL_law_3533 (Nat.le_of_ble_eq_true rfl) rfl ?_
  refine v_aload_n 4 dL_law_3535 rfl ?_
  refine cLm_thrown (Ok.bind h) ⟨Nat.le_of_ble_eq_true rfl, Nat.le_of_ble_eq_true rfl⟩ (Nat.le_of_ble_eq_true rfl) dL_law_3536 (fun r5 h => ?_) ⟨by omega, by omega⟩
  refine v_iload 1 dL_law_3539 rfl ?_
  refine v_icmp_eq (tgt := 3546) dL_law_3541 rfl (fun c6 => ?_) (fun c6 => ?_)
  · have h := Ok.pos h c6
    refine v_iload 1 dL_law_3546 rfl ?_
    refine v_if_ne (tgt := 3563) dL_law_3548 rfl (fun c7 => ?_) (fun c7 => ?_)
    · have h := Ok.neg h c7
      refine v_goto (tgt := 3740) dL_law_3563 rfl ?_
      refine v_sub [2, 3, 4, 5, 6] rfl ?_
      have h := Ok.ret h
      exact h lc agr_rf _ _ (by omega) (by omega)
    · have h := Ok.pos h c7
      refine v_aload_n 5 dL_law_3551 rfl ?_
      refine v_iconst dL_law_3552 ic_0 ?_
      obtain ⟨g8, h⟩ := Ok.guard h
      refine lL_400 g8 dL_law_3553 ?_
      refine v_iload 0 dL_law_3554 rfl ?_
      refine v_i2l dL_law_3556 rfl ?_
      refine v_lif_eq (tgt := 3563) dL_law_3557 dL_law_3558 rfl (fun c9 => ?_) (fun c9 => ?_)
      · have h := Ok.pos h c9
        refine v_goto (tgt := 3740) dL_law_3563 rfl ?_
        refine v_sub [2, 3, 4, 5, 6] rfl ?_
        have h := Ok.ret h
        exact h lc agr_rf _ _ (by omega) (by omega)
      · have h := Ok.neg h c9
        refine v_iconst dL_law_3561 ic_0 ?_
        exact Ok.stuck h
  · have h := Ok.neg h c6
    refine v_iconst dL_law_3544 ic_0 ?_
    exact Ok.stuck h
theorem cLw_strongest {l : Launch} {D : va_G} {dA : Nat → ClassId} {A : Nat → Prop} {pz b L : Nat} {xs : Nat → Int32} {lc : Nat → Nat → Nat} {s : tt_SL} {cc : ByteArray} {nl : Nat} {rt : Option FieldType} {rm : Room} {tn : tt_Tn} {Q : tt_Fin} {pc : Nat} {lv : List (Nat × Value)} {rest : List Value} {ck cn : Nat} {x1 : Int32} {K : Int32 × tt_SL → Prop} (h : Ok (wrapL (fT_strongest s.1 x1) s (cd3 none (some 1) none)) K) (hl9 : l.stackTraces = false) (hR : 9 + 1 ≤ rm.frames ∧ 8 + (4 + 11) + 3107 ≤ rm.locals) (hW : (rest.map fun v => v.category).sum ≤ 8) (d : decode cc pc = .ok (.invokestatic 319, 3)) (kk : ∀ r, K r → ∀ lc', tt_agr (XL l D dA A pz b L xs) s lc lc' → tt_V (XL l D dA A pz b L xs) cc (RX0, nl, rt, rm, tn) Q (pc + 3) lv (.int r.1 :: rest) lc' r.2 (ck + 1) (cn + 6)) (hf : ck + 1 ≤ rm.cells ∧ cn + 6 ≤ rm.slots) : tt_V (XL l D dA A pz b L xs) cc (RX0, nl, rt, rm, tn) Q pc lv (.ref (lc 400 0) :: .int x1 :: .ref (lc 0 0) :: rest) lc s ck cn :=
  v_callSW (nA := 3) (As := [.ref (lc 0 0), .int x1, .ref (lc 400 0)]) (mL_strongest l D dA A pz b L xs hl9 lc s x1 (Q := (fun v lc' s' => ∃ r : Int32 × tt_SL, K r ∧ v = some (Value.int r.1) ∧ tt_agr (XL l D dA A pz b L xs) s lc lc' ∧ s' = r.2)) (h.mono fun r hr lc' ha => ⟨r, hr, rfl, ha, rfl⟩)) (lw_SW q1733 q1734 q126 q1735) (by decide +kernel) rfl hR hW hf d rfl (fun v lc' s' q => by obtain ⟨r, hr, e1, e2, e3⟩ := q; rw [e1, e3]; exact kk r hr lc' e2)
theorem cLm_strongest {l : Launch} {D : va_G} {dA : Nat → ClassId} {A : Nat → Prop} {pz b L : Nat} {xs : Nat → Int32} {lc : Nat → Nat → Nat} {s : tt_SL} {cc : ByteArray} {nl : Nat} {rt : Option FieldType} {rm : Room} {tn : tt_Tn} {Q : tt_Fin} {pc : Nat} {lv : List (Nat × Value)} {rest : List Value} {ck cn : Nat} {x1 : Int32} {K : Int64 × tt_St → Prop} (h : Ok (fM_strongest s.2.1 x1) K) (hR : 2 + 1 ≤ rm.frames ∧ 8 + (6 + 11) + 47 ≤ rm.locals) (hW : (rest.map fun v => v.category).sum ≤ 8) (d : decode cc pc = .ok (.invokevirtual 321, 3)) (kk : ∀ r, K r → tt_V (XL l D dA A pz b L xs) cc (RX0, nl, rt, rm, tn) Q (pc + 3) lv (.long r.1 :: rest) lc (s.1, r.2, s.2.2) (ck + 0) (cn + 0)) (hf : ck + 0 ≤ rm.cells ∧ cn + 0 ≤ rm.slots) : tt_V (XL l D dA A pz b L xs) cc (RX0, nl, rt, rm, tn) Q pc lv (.int x1 :: .ref (lc 300 0) :: rest) lc s ck cn :=
  v_callV (kd := 300) (i := 0) (nA := 1) (As := [.int x1]) lvL_300 oL_300 rfl (liftM (Q := (fun v lc' s' => ∃ r : Int64 × tt_St, K r ∧ v = some (Value.long r.1) ∧ lc' = lc ∧ s' = (s.1, r.2, s.2.2))) (mM_strongest l (DM D) (dMd dA) (aLM lc s) (nTm lc) s.2.1 x1 (Q := fun v lc' w => lc' = nTm lc ∧ (fun v lc' s' => ∃ r : Int64 × tt_St, K r ∧ v = some (Value.long r.1) ∧ lc' = lc ∧ s' = (s.1, r.2, s.2.2)) v lc (s.1, w, s.2.2)) (h.mono fun r hr => ⟨rfl, r, hr, rfl, rfl, rfl⟩))) (lw_V q2441 q2442 q2443 q154 q2444) (by decide +kernel) rfl hR hW hf d rfl (fun v lc' s' q => by obtain ⟨r, hr, e1, e2, e3⟩ := q; rw [e1, e2, e3]; exact kk r hr)
def fL_case_46 (L : Nat) (xs : Nat → Int32) (s : tt_SL) (x4 : Int32) : Option tt_SL :=
  if inB (x4 + (1 : Int32)) L then (wrapL (fT_strongest s.1 (xs ((x4 + (1 : Int32)).toNatClampNeg))) s (cd3 none (some 1) none)).bind fun r2 => (fM_strongest r2.2.2.1 (xs ((x4 + (1 : Int32)).toNatClampNeg))).bind fun r3 => (fM_thrown (r2.2.1, r3.2, r2.2.2.2).2.1).bind fun r4 => if r4 = r2.1 then if r2.1 = 0 then if inB (0 : Int32) 1 then if (rdL (r2.2.1, r3.2, r2.2.2.2).2.2 0 0 ((0 : Int32).toNatClampNeg)) = r3.1 then some (r2.2.1, r3.2, r2.2.2.2) else none else none else some (r2.2.1, r3.2, r2.2.2.2) else none else none
set_option maxHeartbeats 4000000 in
theorem lcase_46 {l : Launch} {D : va_G} {dA : Nat → ClassId} {A : Nat → Prop} {pz b L : Nat} {xs : Nat → Int32} (hl9 : l.stackTraces = false) {lc : Nat → Nat → Nat} {s : tt_SL} {x4 : Int32} {ck cn : Nat} {tn : tt_Tn} {Q : tt_Fin} (hk1 : ck + 60 ≤ room_1.cells) (hk2 : cn + 600 ≤ room_1.slots) (h : Ok (fL_case_46 L xs s x4) (fun r => ∀ lc', tt_agr (XL l D dA A pz b L xs) s lc lc' → ∀ ck' cn', ck' ≤ ck + 60 → cn' ≤ cn + 600 → tt_V (XL l D dA A pz b L xs) code (RX0, 8, ret, room_1, tn) Q 3740 [(0, .ref b), (1, .ref (lc' 0 0)), (2, .ref (lc' 300 0)), (3, .ref (lc' 400 0)), (4, .int x4)] [] lc' r ck' cn')) : tt_V (XL l D dA A pz b L xs) code (RX0, 8, ret, room_1, tn) Q 3566 [(0, .ref b), (1, .ref (lc 0 0)), (2, .ref (lc 300 0)), (3, .ref (lc 400 0)), (4, .int x4)] [] lc s ck cn := by
  unfold fL_case_46 at h
  refine v_aload_n 1 dL_law_3566 rfl ?_
  refine v_aload_n 0 dL_law_3567 rfl ?_
  refine v_iload 4 dL_law_3568 rfl ?_
  refine v_iconst dL_law_3570 ic_1 ?_
  refine v_iadd dL_law_3571 ?_
  obtain ⟨g1, h⟩ := Ok.guard h
  refine v_sld g1 dL_law_3572 ?_
  refine v_aload_n 3 dL_law_3573 rfl ?_
  refine cLw_strongest (Ok.bind h) hl9 ⟨Nat.le_of_ble_eq_true rfl, Nat.le_of_ble_eq_true rfl⟩ (Nat.le_of_ble_eq_true rfl) dL_law_3574 (fun r2 h lc hc => ?_) ⟨by omega, by omega⟩
  rw [← hc 0 0 (.inl lvL_0)]
  rw [← hc 300 0 (.inl lvL_300)]
  rw [← hc 400 0 (.inl lvL_400)]
  have h := Ok.agr h hc (fun _ _ h => h)
  refine v_istore [(5, .int r2.1), (0, .ref b), (1, .ref (lc 0 0)), (2, .ref (lc 300 0)), (3, .ref (lc 400 0)), (4, .int x4)] dL_law_3577 (Nat.le_of_ble_eq_true rfl) rfl ?_
  refine v_aload_n 3 dL_law_3579 rfl ?_
  refine v_aload_n 1 dL_law_3580 rfl ?_
  refine v_iload 5 dL_law_3581 rfl ?_
  refine v_iconst dL_law_3583 ic_1 ?_
  refine v_iadd dL_law_3584 ?_
  refine v_sld g1 dL_law_3585 ?_
  refine cLm_strongest (Ok.bind h) ⟨Nat.le_of_ble_eq_true rfl, Nat.le_of_ble_eq_true rfl⟩ (Nat.le_of_ble_eq_true rfl) dL_law_3586 (fun r3 h => ?_) ⟨by omega, by omega⟩
  refine v_lstore [(6, .long r3.1), (5, .int r2.1), (0, .ref b), (1, .ref (lc 0 0)), (2, .ref (lc 300 0)), (3, .ref (lc 400 0)), (4, .int x4)] dL_law_3589 (Nat.le_of_ble_eq_true rfl) rfl ?_
  refine v_aload_n 4 dL_law_3591 rfl ?_
  refine cLm_thrown (Ok.bind h) ⟨Nat.le_of_ble_eq_true rfl, Nat.le_of_ble_eq_true rfl⟩ (Nat.le_of_ble_eq_true rfl) dL_law_3592 (fun r4 h => ?_) ⟨by omega, by omega⟩
  refine v_iload 1 dL_law_3595 rfl ?_
  refine v_icmp_eq (tgt := 3602) dL_law_3597 rfl (fun c5 => ?_) (fun c5 => ?_)
  · have h := Ok.pos h c5
    refine v_iload 1 dL_law_3602 rfl ?_
    refine v_if_ne (tgt := 3618) dL_law_3604 rfl (fun c6 => ?_) (fun c6 => ?_)
    · have h := Ok.neg h c6
      refine v_goto (tgt := 3740) dL_law_3618 rfl ?_
      refine v_sub [2, 3, 4, 5, 6] rfl ?_
      have h := Ok.ret h
      exact h lc agr_rf _ _ (by omega) (by omega)
    · have h := Ok.pos h c6
      refine v_aload_n 5 dL_law_3607 rfl ?_
      refine v_iconst dL_law_3608 ic_0 ?_
      obtain ⟨g7, h⟩ := Ok.guard h
      refine lL_400 g7 dL_law_3609 ?_
      refine v_lload 0 dL_law_3610 rfl ?_
      refine v_lif_eq (tgt := 3618) dL_law_3612 dL_law_3613 rfl (fun c8 => ?_) (fun c8 => ?_)
      · have h := Ok.pos h c8
        refine v_goto (tgt := 3740) dL_law_3618 rfl ?_
        refine v_sub [2, 3, 4, 5, 6] rfl ?_
        have h := Ok.ret h
        exact h lc agr_rf _ _ (by omega) (by omega)
      · have h := Ok.neg h c8
        refine v_iconst dL_law_3616 ic_0 ?_
        exact Ok.stuck h
  · have h := Ok.neg h c5
    refine v_iconst dL_law_3600 ic_0 ?_
    exact Ok.stuck h
theorem cLw_holds {l : Launch} {D : va_G} {dA : Nat → ClassId} {A : Nat → Prop} {pz b L : Nat} {xs : Nat → Int32} {lc : Nat → Nat → Nat} {s : tt_SL} {cc : ByteArray} {nl : Nat} {rt : Option FieldType} {rm : Room} {tn : tt_Tn} {Q : tt_Fin} {pc : Nat} {lv : List (Nat × Value)} {rest : List Value} {ck cn : Nat} {x1 : Int32} {x2 : Int32} {x3 : Int32} {K : Int32 × tt_SL → Prop} (h : Ok (wrapI (fT_holds s.1 x1 x2 x3) s (cd3 none (some 1) none)) K) (hl9 : l.stackTraces = false) (hR : 10 + 1 ≤ rm.frames ∧ 8 + (6 + 11) + 3103 ≤ rm.locals) (hW : (rest.map fun v => v.category).sum ≤ 8) (d : decode cc pc = .ok (.invokestatic 322, 3)) (kk : ∀ r, K r → ∀ lc', tt_agr (XL l D dA A pz b L xs) s lc lc' → tt_V (XL l D dA A pz b L xs) cc (RX0, nl, rt, rm, tn) Q (pc + 3) lv (.int r.1 :: rest) lc' r.2 (ck + 4) (cn + 20)) (hf : ck + 4 ≤ rm.cells ∧ cn + 20 ≤ rm.slots) : tt_V (XL l D dA A pz b L xs) cc (RX0, nl, rt, rm, tn) Q pc lv (.ref (lc 400 0) :: .int x3 :: .int x2 :: .int x1 :: .ref (lc 0 0) :: rest) lc s ck cn :=
  v_callSW (nA := 5) (As := [.ref (lc 0 0), .int x1, .int x2, .int x3, .ref (lc 400 0)]) (mL_holds l D dA A pz b L xs hl9 lc s x1 x2 x3 (Q := (fun v lc' s' => ∃ r : Int32 × tt_SL, K r ∧ v = some (Value.int r.1) ∧ tt_agr (XL l D dA A pz b L xs) s lc lc' ∧ s' = r.2)) (h.mono fun r hr lc' ha => ⟨r, hr, rfl, ha, rfl⟩)) (lw_SW q1742 q1743 q126 q1744) (by decide +kernel) rfl hR hW hf d rfl (fun v lc' s' q => by obtain ⟨r, hr, e1, e2, e3⟩ := q; rw [e1, e3]; exact kk r hr lc' e2)
theorem cLm_holds {l : Launch} {D : va_G} {dA : Nat → ClassId} {A : Nat → Prop} {pz b L : Nat} {xs : Nat → Int32} {lc : Nat → Nat → Nat} {s : tt_SL} {cc : ByteArray} {nl : Nat} {rt : Option FieldType} {rm : Room} {tn : tt_Tn} {Q : tt_Fin} {pc : Nat} {lv : List (Nat × Value)} {rest : List Value} {ck cn : Nat} {x1 : Int32} {x2 : Int32} {x3 : Int32} {K : Int32 × tt_St → Prop} (h : Ok (fM_holds s.2.1 x1 x2 x3) K) (hR : 2 + 1 ≤ rm.frames ∧ 8 + (6 + 11) + 45 ≤ rm.locals) (hW : (rest.map fun v => v.category).sum ≤ 8) (d : decode cc pc = .ok (.invokevirtual 324, 3)) (kk : ∀ r, K r → tt_V (XL l D dA A pz b L xs) cc (RX0, nl, rt, rm, tn) Q (pc + 3) lv (.int r.1 :: rest) lc (s.1, r.2, s.2.2) (ck + 0) (cn + 0)) (hf : ck + 0 ≤ rm.cells ∧ cn + 0 ≤ rm.slots) : tt_V (XL l D dA A pz b L xs) cc (RX0, nl, rt, rm, tn) Q pc lv (.int x3 :: .int x2 :: .int x1 :: .ref (lc 300 0) :: rest) lc s ck cn :=
  v_callV (kd := 300) (i := 0) (nA := 3) (As := [.int x1, .int x2, .int x3]) lvL_300 oL_300 rfl (liftM (Q := (fun v lc' s' => ∃ r : Int32 × tt_St, K r ∧ v = some (Value.int r.1) ∧ lc' = lc ∧ s' = (s.1, r.2, s.2.2))) (mM_holds l (DM D) (dMd dA) (aLM lc s) (nTm lc) s.2.1 x1 x2 x3 (Q := fun v lc' w => lc' = nTm lc ∧ (fun v lc' s' => ∃ r : Int32 × tt_St, K r ∧ v = some (Value.int r.1) ∧ lc' = lc ∧ s' = (s.1, r.2, s.2.2)) v lc (s.1, w, s.2.2)) (h.mono fun r hr => ⟨rfl, r, hr, rfl, rfl, rfl⟩))) (lw_V q2445 q2446 q2447 q154 q2448) (by decide +kernel) rfl hR hW hf d rfl (fun v lc' s' q => by obtain ⟨r, hr, e1, e2, e3⟩ := q; rw [e1, e2, e3]; exact kk r hr)
def fL_case_47 (L : Nat) (xs : Nat → Int32) (s : tt_SL) (x4 : Int32) : Option tt_SL :=
  if inB (x4 + (1 : Int32)) L then if inB (x4 + (2 : Int32)) L then if inB (x4 + (3 : Int32)) L then (wrapI (fT_holds s.1 (xs ((x4 + (1 : Int32)).toNatClampNeg)) (xs ((x4 + (2 : Int32)).toNatClampNeg)) (xs ((x4 + (3 : Int32)).toNatClampNeg))) s (cd3 none (some 1) none)).bind fun r4 => (fM_holds r4.2.2.1 (xs ((x4 + (1 : Int32)).toNatClampNeg)) (xs ((x4 + (2 : Int32)).toNatClampNeg)) (xs ((x4 + (3 : Int32)).toNatClampNeg))).bind fun r5 => (fM_thrown (r4.2.1, r5.2, r4.2.2.2).2.1).bind fun r6 => if r6 = r4.1 then if r4.1 = 0 then if inB (0 : Int32) 1 then if (rdL (r4.2.1, r5.2, r4.2.2.2).2.2 0 0 ((0 : Int32).toNatClampNeg)) = r5.1.toInt64 then some (r4.2.1, r5.2, r4.2.2.2) else none else none else some (r4.2.1, r5.2, r4.2.2.2) else none else none else none else none
set_option maxHeartbeats 4000000 in
theorem lcase_47 {l : Launch} {D : va_G} {dA : Nat → ClassId} {A : Nat → Prop} {pz b L : Nat} {xs : Nat → Int32} (hl9 : l.stackTraces = false) {lc : Nat → Nat → Nat} {s : tt_SL} {x4 : Int32} {ck cn : Nat} {tn : tt_Tn} {Q : tt_Fin} (hk1 : ck + 60 ≤ room_1.cells) (hk2 : cn + 600 ≤ room_1.slots) (h : Ok (fL_case_47 L xs s x4) (fun r => ∀ lc', tt_agr (XL l D dA A pz b L xs) s lc lc' → ∀ ck' cn', ck' ≤ ck + 60 → cn' ≤ cn + 600 → tt_V (XL l D dA A pz b L xs) code (RX0, 8, ret, room_1, tn) Q 3740 [(0, .ref b), (1, .ref (lc' 0 0)), (2, .ref (lc' 300 0)), (3, .ref (lc' 400 0)), (4, .int x4)] [] lc' r ck' cn')) : tt_V (XL l D dA A pz b L xs) code (RX0, 8, ret, room_1, tn) Q 3621 [(0, .ref b), (1, .ref (lc 0 0)), (2, .ref (lc 300 0)), (3, .ref (lc 400 0)), (4, .int x4)] [] lc s ck cn := by
  unfold fL_case_47 at h
  refine v_aload_n 1 dL_law_3621 rfl ?_
  refine v_aload_n 0 dL_law_3622 rfl ?_
  refine v_iload 4 dL_law_3623 rfl ?_
  refine v_iconst dL_law_3625 ic_1 ?_
  refine v_iadd dL_law_3626 ?_
  obtain ⟨g1, h⟩ := Ok.guard h
  refine v_sld g1 dL_law_3627 ?_
  refine v_aload_n 0 dL_law_3628 rfl ?_
  refine v_iload 4 dL_law_3629 rfl ?_
  refine v_iconst dL_law_3631 ic_2 ?_
  refine v_iadd dL_law_3632 ?_
  obtain ⟨g2, h⟩ := Ok.guard h
  refine v_sld g2 dL_law_3633 ?_
  refine v_aload_n 0 dL_law_3634 rfl ?_
  refine v_iload 4 dL_law_3635 rfl ?_
  refine v_iconst dL_law_3637 ic_3 ?_
  refine v_iadd dL_law_3638 ?_
  obtain ⟨g3, h⟩ := Ok.guard h
  refine v_sld g3 dL_law_3639 ?_
  refine v_aload_n 3 dL_law_3640 rfl ?_
  refine cLw_holds (Ok.bind h) hl9 ⟨Nat.le_of_ble_eq_true rfl, Nat.le_of_ble_eq_true rfl⟩ (Nat.le_of_ble_eq_true rfl) dL_law_3641 (fun r4 h lc hc => ?_) ⟨by omega, by omega⟩
  rw [← hc 0 0 (.inl lvL_0)]
  rw [← hc 300 0 (.inl lvL_300)]
  rw [← hc 400 0 (.inl lvL_400)]
  have h := Ok.agr h hc (fun _ _ h => h)
  refine v_istore [(5, .int r4.1), (0, .ref b), (1, .ref (lc 0 0)), (2, .ref (lc 300 0)), (3, .ref (lc 400 0)), (4, .int x4)] dL_law_3644 (Nat.le_of_ble_eq_true rfl) rfl ?_
  refine v_aload_n 3 dL_law_3646 rfl ?_
  refine v_aload_n 1 dL_law_3647 rfl ?_
  refine v_iload 5 dL_law_3648 rfl ?_
  refine v_iconst dL_law_3650 ic_1 ?_
  refine v_iadd dL_law_3651 ?_
  refine v_sld g1 dL_law_3652 ?_
  refine v_aload_n 1 dL_law_3653 rfl ?_
  refine v_iload 5 dL_law_3654 rfl ?_
  refine v_iconst dL_law_3656 ic_2 ?_
  refine v_iadd dL_law_3657 ?_
  refine v_sld g2 dL_law_3658 ?_
  refine v_aload_n 1 dL_law_3659 rfl ?_
  refine v_iload 5 dL_law_3660 rfl ?_
  refine v_iconst dL_law_3662 ic_3 ?_
  refine v_iadd dL_law_3663 ?_
  refine v_sld g3 dL_law_3664 ?_
  refine cLm_holds (Ok.bind h) ⟨Nat.le_of_ble_eq_true rfl, Nat.le_of_ble_eq_true rfl⟩ (Nat.le_of_ble_eq_true rfl) dL_law_3665 (fun r5 h => ?_) ⟨by omega, by omega⟩
  refine v_istore [(6, .int r5.1), (5, .int r4.1), (0, .ref b), (1, .ref (lc 0 0)), (2, .ref (lc 300 0)), (3, .ref (lc 400 0)), (4, .int x4)] dL_law_3668 (Nat.le_of_ble_eq_true rfl) rfl ?_
  refine v_aload_n 4 dL_law_3670 rfl ?_
  refine cLm_thrown (Ok.bind h) ⟨Nat.le_of_ble_eq_true rfl, Nat.le_of_ble_eq_true rfl⟩ (Nat.le_of_ble_eq_true rfl) dL_law_3671 (fun r6 h => ?_) ⟨by omega, by omega⟩
  refine v_iload 1 dL_law_3674 rfl ?_
  refine v_icmp_eq (tgt := 3681) dL_law_3676 rfl (fun c7 => ?_) (fun c7 => ?_)
  · have h := Ok.pos h c7
    refine v_iload 1 dL_law_3681 rfl ?_
    refine v_if_ne (tgt := 3698) dL_law_3683 rfl (fun c8 => ?_) (fun c8 => ?_)
    · have h := Ok.neg h c8
      refine v_goto (tgt := 3740) dL_law_3698 rfl ?_
      refine v_sub [2, 3, 4, 5, 6] rfl ?_
      have h := Ok.ret h
      exact h lc agr_rf _ _ (by omega) (by omega)
    · have h := Ok.pos h c8
      refine v_aload_n 5 dL_law_3686 rfl ?_
      refine v_iconst dL_law_3687 ic_0 ?_
      obtain ⟨g9, h⟩ := Ok.guard h
      refine lL_400 g9 dL_law_3688 ?_
      refine v_iload 0 dL_law_3689 rfl ?_
      refine v_i2l dL_law_3691 rfl ?_
      refine v_lif_eq (tgt := 3698) dL_law_3692 dL_law_3693 rfl (fun c10 => ?_) (fun c10 => ?_)
      · have h := Ok.pos h c10
        refine v_goto (tgt := 3740) dL_law_3698 rfl ?_
        refine v_sub [2, 3, 4, 5, 6] rfl ?_
        have h := Ok.ret h
        exact h lc agr_rf _ _ (by omega) (by omega)
      · have h := Ok.neg h c10
        refine v_iconst dL_law_3696 ic_0 ?_
        exact Ok.stuck h
  · have h := Ok.neg h c7
    refine v_iconst dL_law_3679 ic_0 ?_
    exact Ok.stuck h
theorem cLt_spent {l : Launch} {D : va_G} {dA : Nat → ClassId} {A : Nat → Prop} {pz b L : Nat} {xs : Nat → Int32} {lc : Nat → Nat → Nat} {s : tt_SL} {cc : ByteArray} {nl : Nat} {rt : Option FieldType} {rm : Room} {tn : tt_Tn} {Q : tt_Fin} {pc : Nat} {lv : List (Nat × Value)} {rest : List Value} {ck cn : Nat} {K : Int64 → Prop} (h : Ok (fT_spent s.1) K) (hR : 1 + 1 ≤ rm.frames ∧ 8 + (4 + 11) + 20 ≤ rm.locals) (hW : (rest.map fun v => v.category).sum ≤ 8) (d : decode cc pc = .ok (.invokevirtual 325, 3)) (kk : ∀ r, K r → tt_V (XL l D dA A pz b L xs) cc (RX0, nl, rt, rm, tn) Q (pc + 3) lv (.long r :: rest) lc s (ck + 0) (cn + 0)) (hf : ck + 0 ≤ rm.cells ∧ cn + 0 ≤ rm.slots) : tt_V (XL l D dA A pz b L xs) cc (RX0, nl, rt, rm, tn) Q pc lv (.ref (lc 0 0) :: rest) lc s ck cn :=
  v_callV (kd := 0) (i := 0) (nA := 0) (As := []) lvL_0 oL_0 rfl (liftT (Q := (fun v lc' s' => ∃ r : Int64, K r ∧ v = some (Value.long r) ∧ lc' = lc ∧ s' = s)) (mT_spent l D dA (aLT A lc s) pz lc s.1 (Q := fun v lc' w => tt_agr (XT l D dA (aLT A lc s) pz) s.1 lc lc' ∧ (fun v lc' s' => ∃ r : Int64, K r ∧ v = some (Value.long r) ∧ lc' = lc ∧ s' = s) v lc' (w, s.2)) (h.mono fun r hr => ⟨agr_rf, r, hr, rfl, rfl, rfl⟩))) (lw_V q928 q929 q930 q127 q931) (by decide +kernel) rfl hR hW hf d rfl (fun v lc' s' q => by obtain ⟨r, hr, e1, e2, e3⟩ := q; rw [e1, e2, e3]; exact kk r hr)
theorem cLm_spent {l : Launch} {D : va_G} {dA : Nat → ClassId} {A : Nat → Prop} {pz b L : Nat} {xs : Nat → Int32} {lc : Nat → Nat → Nat} {s : tt_SL} {cc : ByteArray} {nl : Nat} {rt : Option FieldType} {rm : Room} {tn : tt_Tn} {Q : tt_Fin} {pc : Nat} {lv : List (Nat × Value)} {rest : List Value} {ck cn : Nat} {K : Int64 × tt_St → Prop} (h : Ok (fM_spent s.2.1) K) (hR : 1 + 1 ≤ rm.frames ∧ 8 + (4 + 11) + 21 ≤ rm.locals) (hW : (rest.map fun v => v.category).sum ≤ 8) (d : decode cc pc = .ok (.invokevirtual 329, 3)) (kk : ∀ r, K r → tt_V (XL l D dA A pz b L xs) cc (RX0, nl, rt, rm, tn) Q (pc + 3) lv (.long r.1 :: rest) lc (s.1, r.2, s.2.2) (ck + 0) (cn + 0)) (hf : ck + 0 ≤ rm.cells ∧ cn + 0 ≤ rm.slots) : tt_V (XL l D dA A pz b L xs) cc (RX0, nl, rt, rm, tn) Q pc lv (.ref (lc 300 0) :: rest) lc s ck cn :=
  v_callV (kd := 300) (i := 0) (nA := 0) (As := []) lvL_300 oL_300 rfl (liftM (Q := (fun v lc' s' => ∃ r : Int64 × tt_St, K r ∧ v = some (Value.long r.1) ∧ lc' = lc ∧ s' = (s.1, r.2, s.2.2))) (mM_spent l (DM D) (dMd dA) (aLM lc s) (nTm lc) s.2.1 (Q := fun v lc' w => lc' = nTm lc ∧ (fun v lc' s' => ∃ r : Int64 × tt_St, K r ∧ v = some (Value.long r.1) ∧ lc' = lc ∧ s' = (s.1, r.2, s.2.2)) v lc (s.1, w, s.2.2)) (h.mono fun r hr => ⟨rfl, r, hr, rfl, rfl, rfl⟩))) (lw_V q2449 q2450 q2451 q154 q2452) (by decide +kernel) rfl hR hW hf d rfl (fun v lc' s' q => by obtain ⟨r, hr, e1, e2, e3⟩ := q; rw [e1, e2, e3]; exact kk r hr)
def fL_case_48 (L : Nat) (xs : Nat → Int32) (s : tt_SL) (x4 : Int32) : Option tt_SL :=
  (fT_spent s.1).bind fun r1 => (fM_spent s.2.1).bind fun r2 => if r1 = r2.1 then some (s.1, r2.2, s.2.2) else none
set_option maxHeartbeats 4000000 in
theorem lcase_48 {l : Launch} {D : va_G} {dA : Nat → ClassId} {A : Nat → Prop} {pz b L : Nat} {xs : Nat → Int32} (hl9 : l.stackTraces = false) {lc : Nat → Nat → Nat} {s : tt_SL} {x4 : Int32} {ck cn : Nat} {tn : tt_Tn} {Q : tt_Fin} (hk1 : ck + 60 ≤ room_1.cells) (hk2 : cn + 600 ≤ room_1.slots) (h : Ok (fL_case_48 L xs s x4) (fun r => ∀ lc', tt_agr (XL l D dA A pz b L xs) s lc lc' → ∀ ck' cn', ck' ≤ ck + 60 → cn' ≤ cn + 600 → tt_V (XL l D dA A pz b L xs) code (RX0, 8, ret, room_1, tn) Q 3740 [(0, .ref b), (1, .ref (lc' 0 0)), (2, .ref (lc' 300 0)), (3, .ref (lc' 400 0)), (4, .int x4)] [] lc' r ck' cn')) : tt_V (XL l D dA A pz b L xs) code (RX0, 8, ret, room_1, tn) Q 3701 [(0, .ref b), (1, .ref (lc 0 0)), (2, .ref (lc 300 0)), (3, .ref (lc 400 0)), (4, .int x4)] [] lc s ck cn := by
  unfold fL_case_48 at h
  refine v_aload_n 1 dL_law_3701 rfl ?_
  refine cLt_spent (Ok.bind h) ⟨Nat.le_of_ble_eq_true rfl, Nat.le_of_ble_eq_true rfl⟩ (Nat.le_of_ble_eq_true rfl) dL_law_3702 (fun r1 h => ?_) ⟨by omega, by omega⟩
  refine v_aload_n 2 dL_law_3705 rfl ?_
  refine cLm_spent (Ok.bind h) ⟨Nat.le_of_ble_eq_true rfl, Nat.le_of_ble_eq_true rfl⟩ (Nat.le_of_ble_eq_true rfl) dL_law_3706 (fun r2 h => ?_) ⟨by omega, by omega⟩
  refine v_lif_eq (tgt := 3740) dL_law_3709 dL_law_3710 rfl (fun c3 => ?_) (fun c3 => ?_)
  · have h := Ok.pos h c3
    have h := Ok.ret h
    exact h lc agr_rf _ _ (by omega) (by omega)
  · have h := Ok.neg h c3
    refine v_iconst dL_law_3713 ic_0 ?_
    exact Ok.stuck h
theorem cLt_status {l : Launch} {D : va_G} {dA : Nat → ClassId} {A : Nat → Prop} {pz b L : Nat} {xs : Nat → Int32} {lc : Nat → Nat → Nat} {s : tt_SL} {cc : ByteArray} {nl : Nat} {rt : Option FieldType} {rm : Room} {tn : tt_Tn} {Q : tt_Fin} {pc : Nat} {lv : List (Nat × Value)} {rest : List Value} {ck cn : Nat} {x1 : Int32} {K : Int32 → Prop} (h : Ok (fT_status s.1 x1) K) (hR : 0 + 1 ≤ rm.frames ∧ 8 + (2 + 11) + 0 ≤ rm.locals) (hW : (rest.map fun v => v.category).sum ≤ 8) (d : decode cc pc = .ok (.invokevirtual 330, 3)) (kk : ∀ r, K r → tt_V (XL l D dA A pz b L xs) cc (RX0, nl, rt, rm, tn) Q (pc + 3) lv (.int r :: rest) lc s (ck + 0) (cn + 0)) (hf : ck + 0 ≤ rm.cells ∧ cn + 0 ≤ rm.slots) : tt_V (XL l D dA A pz b L xs) cc (RX0, nl, rt, rm, tn) Q pc lv (.int x1 :: .ref (lc 0 0) :: rest) lc s ck cn :=
  v_callV (kd := 0) (i := 0) (nA := 1) (As := [.int x1]) lvL_0 oL_0 rfl (liftT (Q := (fun v lc' s' => ∃ r : Int32, K r ∧ v = some (Value.int r) ∧ lc' = lc ∧ s' = s)) (mT_status l D dA (aLT A lc s) pz lc s.1 x1 (Q := fun v lc' w => tt_agr (XT l D dA (aLT A lc s) pz) s.1 lc lc' ∧ (fun v lc' s' => ∃ r : Int32, K r ∧ v = some (Value.int r) ∧ lc' = lc ∧ s' = s) v lc' (w, s.2)) (h.mono fun r hr => ⟨agr_rf, r, hr, rfl, rfl, rfl⟩))) (lw_V q933 q934 q935 q127 q936) (by decide +kernel) rfl hR hW hf d rfl (fun v lc' s' q => by obtain ⟨r, hr, e1, e2, e3⟩ := q; rw [e1, e2, e3]; exact kk r hr)
theorem cLm_status {l : Launch} {D : va_G} {dA : Nat → ClassId} {A : Nat → Prop} {pz b L : Nat} {xs : Nat → Int32} {lc : Nat → Nat → Nat} {s : tt_SL} {cc : ByteArray} {nl : Nat} {rt : Option FieldType} {rm : Room} {tn : tt_Tn} {Q : tt_Fin} {pc : Nat} {lv : List (Nat × Value)} {rest : List Value} {ck cn : Nat} {x1 : Int32} {K : Int32 × tt_St → Prop} (h : Ok (fM_status s.2.1 x1) K) (hR : 1 + 1 ≤ rm.frames ∧ 8 + (2 + 11) + 25 ≤ rm.locals) (hW : (rest.map fun v => v.category).sum ≤ 8) (d : decode cc pc = .ok (.invokevirtual 333, 3)) (kk : ∀ r, K r → tt_V (XL l D dA A pz b L xs) cc (RX0, nl, rt, rm, tn) Q (pc + 3) lv (.int r.1 :: rest) lc (s.1, r.2, s.2.2) (ck + 0) (cn + 0)) (hf : ck + 0 ≤ rm.cells ∧ cn + 0 ≤ rm.slots) : tt_V (XL l D dA A pz b L xs) cc (RX0, nl, rt, rm, tn) Q pc lv (.int x1 :: .ref (lc 300 0) :: rest) lc s ck cn :=
  v_callV (kd := 300) (i := 0) (nA := 1) (As := [.int x1]) lvL_300 oL_300 rfl (liftM (Q := (fun v lc' s' => ∃ r : Int32 × tt_St, K r ∧ v = some (Value.int r.1) ∧ lc' = lc ∧ s' = (s.1, r.2, s.2.2))) (mM_status l (DM D) (dMd dA) (aLM lc s) (nTm lc) s.2.1 x1 (Q := fun v lc' w => lc' = nTm lc ∧ (fun v lc' s' => ∃ r : Int32 × tt_St, K r ∧ v = some (Value.int r.1) ∧ lc' = lc ∧ s' = (s.1, r.2, s.2.2)) v lc (s.1, w, s.2.2)) (h.mono fun r hr => ⟨rfl, r, hr, rfl, rfl, rfl⟩))) (lw_V q2453 q2454 q2455 q154 q2456) (by decide +kernel) rfl hR hW hf d rfl (fun v lc' s' q => by obtain ⟨r, hr, e1, e2, e3⟩ := q; rw [e1, e2, e3]; exact kk r hr)
def fL_case_49 (L : Nat) (xs : Nat → Int32) (s : tt_SL) (x4 : Int32) : Option tt_SL :=
  if inB (x4 + (1 : Int32)) L then (fT_status s.1 (xs ((x4 + (1 : Int32)).toNatClampNeg))).bind fun r2 => (fM_status s.2.1 (xs ((x4 + (1 : Int32)).toNatClampNeg))).bind fun r3 => if r2 = r3.1 then some (s.1, r3.2, s.2.2) else none else none
set_option maxHeartbeats 4000000 in
theorem lcase_49 {l : Launch} {D : va_G} {dA : Nat → ClassId} {A : Nat → Prop} {pz b L : Nat} {xs : Nat → Int32} (hl9 : l.stackTraces = false) {lc : Nat → Nat → Nat} {s : tt_SL} {x4 : Int32} {ck cn : Nat} {tn : tt_Tn} {Q : tt_Fin} (hk1 : ck + 60 ≤ room_1.cells) (hk2 : cn + 600 ≤ room_1.slots) (h : Ok (fL_case_49 L xs s x4) (fun r => ∀ lc', tt_agr (XL l D dA A pz b L xs) s lc lc' → ∀ ck' cn', ck' ≤ ck + 60 → cn' ≤ cn + 600 → tt_V (XL l D dA A pz b L xs) code (RX0, 8, ret, room_1, tn) Q 3740 [(0, .ref b), (1, .ref (lc' 0 0)), (2, .ref (lc' 300 0)), (3, .ref (lc' 400 0)), (4, .int x4)] [] lc' r ck' cn')) : tt_V (XL l D dA A pz b L xs) code (RX0, 8, ret, room_1, tn) Q 3715 [(0, .ref b), (1, .ref (lc 0 0)), (2, .ref (lc 300 0)), (3, .ref (lc 400 0)), (4, .int x4)] [] lc s ck cn := by
  unfold fL_case_49 at h
  refine v_aload_n 1 dL_law_3715 rfl ?_
  refine v_aload_n 0 dL_law_3716 rfl ?_
  refine v_iload 4 dL_law_3717 rfl ?_
  refine v_iconst dL_law_3719 ic_1 ?_
  refine v_iadd dL_law_3720 ?_
  obtain ⟨g1, h⟩ := Ok.guard h
  refine v_sld g1 dL_law_3721 ?_
  refine cLt_status (Ok.bind h) ⟨Nat.le_of_ble_eq_true rfl, Nat.le_of_ble_eq_true rfl⟩ (Nat.le_of_ble_eq_true rfl) dL_law_3722 (fun r2 h => ?_) ⟨by omega, by omega⟩
  refine v_aload_n 2 dL_law_3725 rfl ?_
  refine v_aload_n 0 dL_law_3726 rfl ?_
  refine v_iload 4 dL_law_3727 rfl ?_
  refine v_iconst dL_law_3729 ic_1 ?_
  refine v_iadd dL_law_3730 ?_
  refine v_sld g1 dL_law_3731 ?_
  refine cLm_status (Ok.bind h) ⟨Nat.le_of_ble_eq_true rfl, Nat.le_of_ble_eq_true rfl⟩ (Nat.le_of_ble_eq_true rfl) dL_law_3732 (fun r3 h => ?_) ⟨by omega, by omega⟩
  refine v_icmp_eq (tgt := 3740) dL_law_3735 rfl (fun c4 => ?_) (fun c4 => ?_)
  · have h := Ok.pos h c4
    have h := Ok.ret h
    exact h lc agr_rf _ _ (by omega) (by omega)
  · have h := Ok.neg h c4
    refine v_iconst dL_law_3738 ic_0 ?_
    exact Ok.stuck h
