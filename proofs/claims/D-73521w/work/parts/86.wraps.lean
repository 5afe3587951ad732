set_option maxRecDepth 100000
def hh_place : List (Nat × Nat × Nat × Nat) := [(0, 14, 17, 13), (0, 14, 21, 15)]
abbrev rL_place : Room := { frames := 18, cells := 7, slots := 38, locals := 3105 }
theorem ct_place_1 {l : Launch} {D : va_G} {dA : Nat → ClassId} {A : Nat → Prop} {pz b L : Nat} {xs : Nat → Int32} : tt_ct (XL l D dA A pz b L xs) RX0 hh_place 9 (tt_exn 1) 17 :=
  ⟨[], ⟨0, 14, 17, 13⟩, [⟨0, 14, 21, 15⟩], "java/lang/IllegalArgumentException", rfl, (fun z hz => nomatch hz), by decide, by decide, q940, q209, rfl⟩
theorem ct_place_2 {l : Launch} {D : va_G} {dA : Nat → ClassId} {A : Nat → Prop} {pz b L : Nat} {xs : Nat → Int32} : tt_ct (XL l D dA A pz b L xs) RX0 hh_place 9 (tt_exn 2) 21 :=
  ⟨[⟨0, 14, 17, 13⟩], ⟨0, 14, 21, 15⟩, [], "java/lang/IllegalStateException", rfl, (fun z hz => by cases List.mem_singleton.mp hz; exact ⟨by decide, _, q940, nc_L (a := 2) (c := 1) (by decide) (by decide) (by decide)⟩), by decide, by decide, q941, q983, rfl⟩
set_option maxHeartbeats 4000000 in
theorem mL_place (l : Launch) (D : va_G) (dA : Nat → ClassId) (A : Nat → Prop) (pz b L : Nat) (xs : Nat → Int32) (hl9 : l.stackTraces = false) (lc : Nat → Nat → Nat) (s : tt_SL) (x1 : Int32) (x2 : Int32) (x3 : Int32) (x4 : Int32) {Q : Option Value → (Nat → Nat → Nat) → tt_SL → Prop} (h : Ok (wrapI (fT_place s.1 x1 x2 x3 x4) s (cd3 none (some 1) (some 2))) (fun r => ∀ lc', tt_agr (XL l D dA A pz b L xs) s lc lc' → Q (some (.int r.1)) lc' r.2)) : tt_SpW (XL l D dA A pz b L xs) yX0_place cX0_place 7 (some .int) hh_place rL_place [.ref (lc 0 0), .int x1, .int x2, .int x3, .int x4, .ref (lc 400 0)] lc s Q := by
  refine tt_SpW.ofV plX0 kokL (Nat.le_of_ble_eq_true rfl) ?_
  show tt_V (XL l D dA A pz b L xs) cX0_place (RX0, 7, (some .int), rL_place, tt_hh hh_place) (tt_fn (XL l D dA A pz b L xs) (RX0, 7, (some .int), rL_place, tt_hh hh_place) Q) 0 [(0, .ref (lc 0 0)), (1, .int x1), (2, .int x2), (3, .int x3), (4, .int x4), (5, .ref (lc 400 0))] [] lc s 0 0
  have h := Ok.wrapI h
  refine v_aload 5 dX0_place_0 rfl ?_
  refine v_iconst dX0_place_2 ic_0 ?_
  refine v_aload_n 0 dX0_place_3 rfl ?_
  refine v_iload_n 1 dX0_place_4 rfl ?_
  refine v_iload_n 2 dX0_place_5 rfl ?_
  refine v_iload_n 3 dX0_place_6 rfl ?_
  refine v_iload 4 dX0_place_7 rfl ?_
  refine v_callVXh (hh := hh_place) (kd := 0) (i := 0) (nA := 4) (As := [.int x1, .int x2, .int x3, .int x4]) (rest := [.int 0, .ref (lc 400 0)]) (Q' := (fun v lc' s' => ∃ r : Int32 × tt_S3, (∀ lc'', tt_agr (XL l D dA A pz b L xs) s lc lc'' → Q (some (.int 0)) lc'' (r.2, s.2.1, wrL s.2.2 0 0 0 r.1.toInt64)) ∧ v = some (Value.int r.1) ∧ tt_agr (XL l D dA A pz b L xs) s lc lc' ∧ s' = (r.2, s.2))) (QX' := (fun E lc' s' => ∃ e : Nat × tt_S3, (∃ c, (cd3 none (some 1) (some 2)) e.1 = some c ∧ ∀ lc'', tt_agr (XL l D dA A pz b L xs) s lc lc'' → Q (some (.int c)) lc'' (e.2, s.2)) ∧ E = tt_exn e.1 ∧ tt_agr (XL l D dA A pz b L xs) s lc lc' ∧ s' = (e.2, s.2))) knL lvL_0 oL_0 rfl (liftTX (Q := (fun v lc' s' => ∃ r : Int32 × tt_S3, (∀ lc'', tt_agr (XL l D dA A pz b L xs) s lc lc'' → Q (some (.int 0)) lc'' (r.2, s.2.1, wrL s.2.2 0 0 0 r.1.toInt64)) ∧ v = some (Value.int r.1) ∧ tt_agr (XL l D dA A pz b L xs) s lc lc' ∧ s' = (r.2, s.2))) (QX := (fun E lc' s' => ∃ e : Nat × tt_S3, (∃ c, (cd3 none (some 1) (some 2)) e.1 = some c ∧ ∀ lc'', tt_agr (XL l D dA A pz b L xs) s lc lc'' → Q (some (.int c)) lc'' (e.2, s.2)) ∧ E = tt_exn e.1 ∧ tt_agr (XL l D dA A pz b L xs) s lc lc' ∧ s' = (e.2, s.2))) (mT_place l D dA (aLT A lc s) pz hl9 lc s.1 x1 x2 x3 x4 (Q := (fun v lc' w => tt_agr (XT l D dA (aLT A lc s) pz) s.1 lc lc' ∧ (fun v lc' s' => ∃ r : Int32 × tt_S3, (∀ lc'', tt_agr (XL l D dA A pz b L xs) s lc lc'' → Q (some (.int 0)) lc'' (r.2, s.2.1, wrL s.2.2 0 0 0 r.1.toInt64)) ∧ v = some (Value.int r.1) ∧ tt_agr (XL l D dA A pz b L xs) s lc lc' ∧ s' = (r.2, s.2)) v lc' (w, s.2))) (QX := (fun E lc' w => tt_agr (XT l D dA (aLT A lc s) pz) s.1 lc lc' ∧ (fun E lc' s' => ∃ e : Nat × tt_S3, (∃ c, (cd3 none (some 1) (some 2)) e.1 = some c ∧ ∀ lc'', tt_agr (XL l D dA A pz b L xs) s lc lc'' → Q (some (.int c)) lc'' (e.2, s.2)) ∧ E = tt_exn e.1 ∧ tt_agr (XL l D dA A pz b L xs) s lc lc' ∧ s' = (e.2, s.2)) E lc' (w, s.2))) (h.mono (fun q hq lc' ha => by cases q with
    | inl r => exact ⟨ha, r, hq, rfl, agrL ha, rfl⟩
    | inr e => exact ⟨ha, e, hq, rfl, agrL ha, rfl⟩)))) (lw_V q942 q943 q944 q127 q945) (by decide +kernel) rfl ⟨Nat.le_of_ble_eq_true rfl, Nat.le_of_ble_eq_true rfl⟩ (Nat.le_of_ble_eq_true rfl) ⟨Nat.le_of_ble_eq_true rfl, Nat.le_of_ble_eq_true rfl⟩ (fun _ _ _ h => h) dX0_place_9 rfl (fun E lc' s' q => ?_) (fun v lc' s' q => ?_)
  · obtain ⟨e, ⟨c, hcd, hk⟩, e1, e2, e3⟩ := q
    rw [e1, e3]
    unfold cd3 at hcd
    clear e1 e3 h
    by_cases h0 : e.1 = 0
    · rw [if_pos h0] at hcd
      cases hcd
    by_cases h1 : e.1 = 1
    · rw [if_neg h0, if_pos h1] at hcd
      cases hcd
      rw [h1]
      refine ⟨17, ct_place_1, fun q => ?_⟩
      rw [← e2 0 0 (.inl lvL_0)]
      rw [← e2 400 0 (.inl lvL_400)]
      refine v_astore [(6, .ref q), (0, .ref (lc' 0 0)), (1, .int x1), (2, .int x2), (3, .int x3), (4, .int x4), (5, .ref (lc' 400 0))] dX0_place_17 (Nat.le_of_ble_eq_true rfl) rfl ?_
      refine v_iconst dX0_place_19 ic_1 ?_
      exact v_iret rfl (Nat.le_of_ble_eq_true rfl) (Nat.le_of_ble_eq_true rfl) dX0_place_20 (hk _ e2)
    rw [if_neg h0, if_neg h1] at hcd
    cases hcd
    rw [tt_exn2 h0 h1]
    refine ⟨21, ct_place_2, fun q => ?_⟩
    rw [← e2 0 0 (.inl lvL_0)]
    rw [← e2 400 0 (.inl lvL_400)]
    refine v_astore [(6, .ref q), (0, .ref (lc' 0 0)), (1, .int x1), (2, .int x2), (3, .int x3), (4, .int x4), (5, .ref (lc' 400 0))] dX0_place_21 (Nat.le_of_ble_eq_true rfl) rfl ?_
    refine v_iconst dX0_place_23 ic_2 ?_
    exact v_iret rfl (Nat.le_of_ble_eq_true rfl) (Nat.le_of_ble_eq_true rfl) dX0_place_24 (hk _ e2)
  · obtain ⟨r, hk, e1, e2, e3⟩ := q
    rw [e1, e3]
    clear e1 e3 h
    rw [← e2 0 0 (.inl lvL_0)]
    rw [← e2 400 0 (.inl lvL_400)]
    refine v_i2l dX0_place_12 rfl ?_
    refine sL_400 (by decide) dX0_place_13 ?_
    refine v_goto (tgt := 25) dX0_place_14 rfl ?_
    refine v_iconst dX0_place_25 ic_0 ?_
    exact v_iret rfl (Nat.le_of_ble_eq_true rfl) (Nat.le_of_ble_eq_true rfl) dX0_place_26 (hk _ e2)
def hh_sign : List (Nat × Nat × Nat × Nat) := [(0, 12, 15, 21), (0, 12, 19, 13), (0, 12, 23, 15)]
abbrev rL_sign : Room := { frames := 18, cells := 6, slots := 30, locals := 3104 }
theorem ct_sign_0 {l : Launch} {D : va_G} {dA : Nat → ClassId} {A : Nat → Prop} {pz b L : Nat} {xs : Nat → Int32} : tt_ct (XL l D dA A pz b L xs) RX0 hh_sign 7 (tt_exn 0) 15 :=
  ⟨[], ⟨0, 12, 15, 21⟩, [⟨0, 12, 19, 13⟩, ⟨0, 12, 23, 15⟩], "java/util/NoSuchElementException", rfl, (fun z hz => nomatch hz), by decide, by decide, q1017, q1032, rfl⟩
theorem ct_sign_1 {l : Launch} {D : va_G} {dA : Nat → ClassId} {A : Nat → Prop} {pz b L : Nat} {xs : Nat → Int32} : tt_ct (XL l D dA A pz b L xs) RX0 hh_sign 7 (tt_exn 1) 19 :=
  ⟨[⟨0, 12, 15, 21⟩], ⟨0, 12, 19, 13⟩, [⟨0, 12, 23, 15⟩], "java/lang/IllegalArgumentException", rfl, (fun z hz => by cases List.mem_singleton.mp hz; exact ⟨by decide, _, q1017, nc_L (a := 1) (c := 0) (by decide) (by decide) (by decide)⟩), by decide, by decide, q940, q209, rfl⟩
theorem ct_sign_2 {l : Launch} {D : va_G} {dA : Nat → ClassId} {A : Nat → Prop} {pz b L : Nat} {xs : Nat → Int32} : tt_ct (XL l D dA A pz b L xs) RX0 hh_sign 7 (tt_exn 2) 23 :=
  ⟨[⟨0, 12, 15, 21⟩, ⟨0, 12, 19, 13⟩], ⟨0, 12, 23, 15⟩, [], "java/lang/IllegalStateException", rfl, (fun z hz => by
    simp only [List.mem_cons, List.not_mem_nil, or_false] at hz
    rcases hz with rfl | rfl
    · exact ⟨by decide, _, q1017, nc_L (a := 2) (c := 0) (by decide) (by decide) (by decide)⟩
    · exact ⟨by decide, _, q940, nc_L (a := 2) (c := 1) (by decide) (by decide) (by decide)⟩), by decide, by decide, q941, q983, rfl⟩
set_option maxHeartbeats 4000000 in
theorem mL_sign (l : Launch) (D : va_G) (dA : Nat → ClassId) (A : Nat → Prop) (pz b L : Nat) (xs : Nat → Int32) (hl9 : l.stackTraces = false) (lc : Nat → Nat → Nat) (s : tt_SL) (x1 : Int32) (x2 : Int32) (x3 : Int32) {Q : Option Value → (Nat → Nat → Nat) → tt_SL → Prop} (h : Ok (wrapI (fT_sign s.1 x1 x2 x3) s (cd3 (some 1) (some 2) (some 3))) (fun r => ∀ lc', tt_agr (XL l D dA A pz b L xs) s lc lc' → Q (some (.int r.1)) lc' r.2)) : tt_SpW (XL l D dA A pz b L xs) yX0_sign cX0_sign 6 (some .int) hh_sign rL_sign [.ref (lc 0 0), .int x1, .int x2, .int x3, .ref (lc 400 0)] lc s Q := by
  refine tt_SpW.ofV plX0 kokL (Nat.le_of_ble_eq_true rfl) ?_
  show tt_V (XL l D dA A pz b L xs) cX0_sign (RX0, 6, (some .int), rL_sign, tt_hh hh_sign) (tt_fn (XL l D dA A pz b L xs) (RX0, 6, (some .int), rL_sign, tt_hh hh_sign) Q) 0 [(0, .ref (lc 0 0)), (1, .int x1), (2, .int x2), (3, .int x3), (4, .ref (lc 400 0))] [] lc s 0 0
  have h := Ok.wrapI h
  refine v_aload 4 dX0_sign_0 rfl ?_
  refine v_iconst dX0_sign_2 ic_0 ?_
  refine v_aload_n 0 dX0_sign_3 rfl ?_
  refine v_iload_n 1 dX0_sign_4 rfl ?_
  refine v_iload_n 2 dX0_sign_5 rfl ?_
  refine v_iload_n 3 dX0_sign_6 rfl ?_
  refine v_callVXh (hh := hh_sign) (kd := 0) (i := 0) (nA := 3) (As := [.int x1, .int x2, .int x3]) (rest := [.int 0, .ref (lc 400 0)]) (Q' := (fun v lc' s' => ∃ r : Int32 × tt_S3, (∀ lc'', tt_agr (XL l D dA A pz b L xs) s lc lc'' → Q (some (.int 0)) lc'' (r.2, s.2.1, wrL s.2.2 0 0 0 r.1.toInt64)) ∧ v = some (Value.int r.1) ∧ tt_agr (XL l D dA A pz b L xs) s lc lc' ∧ s' = (r.2, s.2))) (QX' := (fun E lc' s' => ∃ e : Nat × tt_S3, (∃ c, (cd3 (some 1) (some 2) (some 3)) e.1 = some c ∧ ∀ lc'', tt_agr (XL l D dA A pz b L xs) s lc lc'' → Q (some (.int c)) lc'' (e.2, s.2)) ∧ E = tt_exn e.1 ∧ tt_agr (XL l D dA A pz b L xs) s lc lc' ∧ s' = (e.2, s.2))) knL lvL_0 oL_0 rfl (liftTX (Q := (fun v lc' s' => ∃ r : Int32 × tt_S3, (∀ lc'', tt_agr (XL l D dA A pz b L xs) s lc lc'' → Q (some (.int 0)) lc'' (r.2, s.2.1, wrL s.2.2 0 0 0 r.1.toInt64)) ∧ v = some (Value.int r.1) ∧ tt_agr (XL l D dA A pz b L xs) s lc lc' ∧ s' = (r.2, s.2))) (QX := (fun E lc' s' => ∃ e : Nat × tt_S3, (∃ c, (cd3 (some 1) (some 2) (some 3)) e.1 = some c ∧ ∀ lc'', tt_agr (XL l D dA A pz b L xs) s lc lc'' → Q (some (.int c)) lc'' (e.2, s.2)) ∧ E = tt_exn e.1 ∧ tt_agr (XL l D dA A pz b L xs) s lc lc' ∧ s' = (e.2, s.2))) (mT_sign l D dA (aLT A lc s) pz hl9 lc s.1 x1 x2 x3 (Q := (fun v lc' w => tt_agr (XT l D dA (aLT A lc s) pz) s.1 lc lc' ∧ (fun v lc' s' => ∃ r : Int32 × tt_S3, (∀ lc'', tt_agr (XL l D dA A pz b L xs) s lc lc'' → Q (some (.int 0)) lc'' (r.2, s.2.1, wrL s.2.2 0 0 0 r.1.toInt64)) ∧ v = some (Value.int r.1) ∧ tt_agr (XL l D dA A pz b L xs) s lc lc' ∧ s' = (r.2, s.2)) v lc' (w, s.2))) (QX := (fun E lc' w => tt_agr (XT l D dA (aLT A lc s) pz) s.1 lc lc' ∧ (fun E lc' s' => ∃ e : Nat × tt_S3, (∃ c, (cd3 (some 1) (some 2) (some 3)) e.1 = some c ∧ ∀ lc'', tt_agr (XL l D dA A pz b L xs) s lc lc'' → Q (some (.int c)) lc'' (e.2, s.2)) ∧ E = tt_exn e.1 ∧ tt_agr (XL l D dA A pz b L xs) s lc lc' ∧ s' = (e.2, s.2)) E lc' (w, s.2))) (h.mono (fun q hq lc' ha => by cases q with
    | inl r => exact ⟨ha, r, hq, rfl, agrL ha, rfl⟩
    | inr e => exact ⟨ha, e, hq, rfl, agrL ha, rfl⟩)))) (lw_V q1018 q1019 q1020 q127 q1021) (by decide +kernel) rfl ⟨Nat.le_of_ble_eq_true rfl, Nat.le_of_ble_eq_true rfl⟩ (Nat.le_of_ble_eq_true rfl) ⟨Nat.le_of_ble_eq_true rfl, Nat.le_of_ble_eq_true rfl⟩ (fun _ _ _ h => h) dX0_sign_7 rfl (fun E lc' s' q => ?_) (fun v lc' s' q => ?_)
  · obtain ⟨e, ⟨c, hcd, hk⟩, e1, e2, e3⟩ := q
    rw [e1, e3]
    unfold cd3 at hcd
    clear e1 e3 h
    by_cases h0 : e.1 = 0
    · rw [if_pos h0] at hcd
      cases hcd
      rw [h0]
      refine ⟨15, ct_sign_0, fun q => ?_⟩
      rw [← e2 0 0 (.inl lvL_0)]
      rw [← e2 400 0 (.inl lvL_400)]
      refine v_astore [(5, .ref q), (0, .ref (lc' 0 0)), (1, .int x1), (2, .int x2), (3, .int x3), (4, .ref (lc' 400 0))] dX0_sign_15 (Nat.le_of_ble_eq_true rfl) rfl ?_
      refine v_iconst dX0_sign_17 ic_1 ?_
      exact v_iret rfl (Nat.le_of_ble_eq_true rfl) (Nat.le_of_ble_eq_true rfl) dX0_sign_18 (hk _ e2)
    by_cases h1 : e.1 = 1
    · rw [if_neg h0, if_pos h1] at hcd
      cases hcd
      rw [h1]
      refine ⟨19, ct_sign_1, fun q => ?_⟩
      rw [← e2 0 0 (.inl lvL_0)]
      rw [← e2 400 0 (.inl lvL_400)]
      refine v_astore [(5, .ref q), (0, .ref (lc' 0 0)), (1, .int x1), (2, .int x2), (3, .int x3), (4, .ref (lc' 400 0))] dX0_sign_19 (Nat.le_of_ble_eq_true rfl) rfl ?_
      refine v_iconst dX0_sign_21 ic_2 ?_
      exact v_iret rfl (Nat.le_of_ble_eq_true rfl) (Nat.le_of_ble_eq_true rfl) dX0_sign_22 (hk _ e2)
    rw [if_neg h0, if_neg h1] at hcd
    cases hcd
    rw [tt_exn2 h0 h1]
    refine ⟨23, ct_sign_2, fun q => ?_⟩
    rw [← e2 0 0 (.inl lvL_0)]
    rw [← e2 400 0 (.inl lvL_400)]
    refine v_astore [(5, .ref q), (0, .ref (lc' 0 0)), (1, .int x1), (2, .int x2), (3, .int x3), (4, .ref (lc' 400 0))] dX0_sign_23 (Nat.le_of_ble_eq_true rfl) rfl ?_
    refine v_iconst dX0_sign_25 ic_3 ?_
    exact v_iret rfl (Nat.le_of_ble_eq_true rfl) (Nat.le_of_ble_eq_true rfl) dX0_sign_26 (hk _ e2)
  · obtain ⟨r, hk, e1, e2, e3⟩ := q
    rw [e1, e3]
    clear e1 e3 h
    rw [← e2 0 0 (.inl lvL_0)]
    rw [← e2 400 0 (.inl lvL_400)]
    refine v_i2l dX0_sign_10 rfl ?_
    refine sL_400 (by decide) dX0_sign_11 ?_
    refine v_goto (tgt := 27) dX0_sign_12 rfl ?_
    refine v_iconst dX0_sign_27 ic_0 ?_
    exact v_iret rfl (Nat.le_of_ble_eq_true rfl) (Nat.le_of_ble_eq_true rfl) dX0_sign_28 (hk _ e2)
def hh_lack : List (Nat × Nat × Nat × Nat) := [(0, 9, 12, 13), (0, 9, 15, 15)]
abbrev rL_lack : Room := { frames := 18, cells := 4, slots := 16, locals := 3101 }
theorem ct_lack_1 {l : Launch} {D : va_G} {dA : Nat → ClassId} {A : Nat → Prop} {pz b L : Nat} {xs : Nat → Int32} : tt_ct (XL l D dA A pz b L xs) RX0 hh_lack 4 (tt_exn 1) 12 :=
  ⟨[], ⟨0, 9, 12, 13⟩, [⟨0, 9, 15, 15⟩], "java/lang/IllegalArgumentException", rfl, (fun z hz => nomatch hz), by decide, by decide, q940, q209, rfl⟩
theorem ct_lack_2 {l : Launch} {D : va_G} {dA : Nat → ClassId} {A : Nat → Prop} {pz b L : Nat} {xs : Nat → Int32} : tt_ct (XL l D dA A pz b L xs) RX0 hh_lack 4 (tt_exn 2) 15 :=
  ⟨[⟨0, 9, 12, 13⟩], ⟨0, 9, 15, 15⟩, [], "java/lang/IllegalStateException", rfl, (fun z hz => by cases List.mem_singleton.mp hz; exact ⟨by decide, _, q940, nc_L (a := 2) (c := 1) (by decide) (by decide) (by decide)⟩), by decide, by decide, q941, q983, rfl⟩
set_option maxHeartbeats 4000000 in
theorem mL_lack (l : Launch) (D : va_G) (dA : Nat → ClassId) (A : Nat → Prop) (pz b L : Nat) (xs : Nat → Int32) (hl9 : l.stackTraces = false) (lc : Nat → Nat → Nat) (s : tt_SL) (x1 : Int32) {Q : Option Value → (Nat → Nat → Nat) → tt_SL → Prop} (h : Ok (wrapI (fT_lack s.1 x1) s (cd3 none (some 1) (some 2))) (fun r => ∀ lc', tt_agr (XL l D dA A pz b L xs) s lc lc' → Q (some (.int r.1)) lc' r.2)) : tt_SpW (XL l D dA A pz b L xs) yX0_lack cX0_lack 4 (some .int) hh_lack rL_lack [.ref (lc 0 0), .int x1, .ref (lc 400 0)] lc s Q := by
  refine tt_SpW.ofV plX0 kokL (Nat.le_of_ble_eq_true rfl) ?_
  show tt_V (XL l D dA A pz b L xs) cX0_lack (RX0, 4, (some .int), rL_lack, tt_hh hh_lack) (tt_fn (XL l D dA A pz b L xs) (RX0, 4, (some .int), rL_lack, tt_hh hh_lack) Q) 0 [(0, .ref (lc 0 0)), (1, .int x1), (2, .ref (lc 400 0))] [] lc s 0 0
  have h := Ok.wrapI h
  refine v_aload_n 2 dX0_lack_0 rfl ?_
  refine v_iconst dX0_lack_1 ic_0 ?_
  refine v_aload_n 0 dX0_lack_2 rfl ?_
  refine v_iload_n 1 dX0_lack_3 rfl ?_
  refine v_callVXh (hh := hh_lack) (kd := 0) (i := 0) (nA := 1) (As := [.int x1]) (rest := [.int 0, .ref (lc 400 0)]) (Q' := (fun v lc' s' => ∃ r : Int32 × tt_S3, (∀ lc'', tt_agr (XL l D dA A pz b L xs) s lc lc'' → Q (some (.int 0)) lc'' (r.2, s.2.1, wrL s.2.2 0 0 0 r.1.toInt64)) ∧ v = some (Value.int r.1) ∧ tt_agr (XL l D dA A pz b L xs) s lc lc' ∧ s' = (r.2, s.2))) (QX' := (fun E lc' s' => ∃ e : Nat × tt_S3, (∃ c, (cd3 none (some 1) (some 2)) e.1 = some c ∧ ∀ lc'', tt_agr (XL l D dA A pz b L xs) s lc lc'' → Q (some (.int c)) lc'' (e.2, s.2)) ∧ E = tt_exn e.1 ∧ tt_agr (XL l D dA A pz b L xs) s lc lc' ∧ s' = (e.2, s.2))) knL lvL_0 oL_0 rfl (liftTX (Q := (fun v lc' s' => ∃ r : Int32 × tt_S3, (∀ lc'', tt_agr (XL l D dA A pz b L xs) s lc lc'' → Q (some (.int 0)) lc'' (r.2, s.2.1, wrL s.2.2 0 0 0 r.1.toInt64)) ∧ v = some (Value.int r.1) ∧ tt_agr (XL l D dA A pz b L xs) s lc lc' ∧ s' = (r.2, s.2))) (QX := (fun E lc' s' => ∃ e : Nat × tt_S3, (∃ c, (cd3 none (some 1) (some 2)) e.1 = some c ∧ ∀ lc'', tt_agr (XL l D dA A pz b L xs) s lc lc'' → Q (some (.int c)) lc'' (e.2, s.2)) ∧ E = tt_exn e.1 ∧ tt_agr (XL l D dA A pz b L xs) s lc lc' ∧ s' = (e.2, s.2))) (mT_lack l D dA (aLT A lc s) pz hl9 lc s.1 x1 (Q := (fun v lc' w => tt_agr (XT l D dA (aLT A lc s) pz) s.1 lc lc' ∧ (fun v lc' s' => ∃ r : Int32 × tt_S3, (∀ lc'', tt_agr (XL l D dA A pz b L xs) s lc lc'' → Q (some (.int 0)) lc'' (r.2, s.2.1, wrL s.2.2 0 0 0 r.1.toInt64)) ∧ v = some (Value.int r.1) ∧ tt_agr (XL l D dA A pz b L xs) s lc lc' ∧ s' = (r.2, s.2)) v lc' (w, s.2))) (QX := (fun E lc' w => tt_agr (XT l D dA (aLT A lc s) pz) s.1 lc lc' ∧ (fun E lc' s' => ∃ e : Nat × tt_S3, (∃ c, (cd3 none (some 1) (some 2)) e.1 = some c ∧ ∀ lc'', tt_agr (XL l D dA A pz b L xs) s lc lc'' → Q (some (.int c)) lc'' (e.2, s.2)) ∧ E = tt_exn e.1 ∧ tt_agr (XL l D dA A pz b L xs) s lc lc' ∧ s' = (e.2, s.2)) E lc' (w, s.2))) (h.mono (fun q hq lc' ha => by cases q with
    | inl r => exact ⟨ha, r, hq, rfl, agrL ha, rfl⟩
    | inr e => exact ⟨ha, e, hq, rfl, agrL ha, rfl⟩)))) (lw_V q1071 q1072 q1073 q127 q1074) (by decide +kernel) rfl ⟨Nat.le_of_ble_eq_true rfl, Nat.le_of_ble_eq_true rfl⟩ (Nat.le_of_ble_eq_true rfl) ⟨Nat.le_of_ble_eq_true rfl, Nat.le_of_ble_eq_true rfl⟩ (fun _ _ _ h => h) dX0_lack_4 rfl (fun E lc' s' q => ?_) (fun v lc' s' q => ?_)
  · obtain ⟨e, ⟨c, hcd, hk⟩, e1, e2, e3⟩ := q
    rw [e1, e3]
    unfold cd3 at hcd
    clear e1 e3 h
    by_cases h0 : e.1 = 0
    · rw [if_pos h0] at hcd
      cases hcd
    by_cases h1 : e.1 = 1
    · rw [if_neg h0, if_pos h1] at hcd
      cases hcd
      rw [h1]
      refine ⟨12, ct_lack_1, fun q => ?_⟩
      rw [← e2 0 0 (.inl lvL_0)]
      rw [← e2 400 0 (.inl lvL_400)]
      refine v_astore_n [(3, .ref q), (0, .ref (lc' 0 0)), (1, .int x1), (2, .ref (lc' 400 0))] dX0_lack_12 (Nat.le_of_ble_eq_true rfl) rfl ?_
      refine v_iconst dX0_lack_13 ic_1 ?_
      exact v_iret rfl (Nat.le_of_ble_eq_true rfl) (Nat.le_of_ble_eq_true rfl) dX0_lack_14 (hk _ e2)
    rw [if_neg h0, if_neg h1] at hcd
    cases hcd
    rw [tt_exn2 h0 h1]
    refine ⟨15, ct_lack_2, fun q => ?_⟩
    rw [← e2 0 0 (.inl lvL_0)]
    rw [← e2 400 0 (.inl lvL_400)]
    refine v_astore_n [(3, .ref q), (0, .ref (lc' 0 0)), (1, .int x1), (2, .ref (lc' 400 0))] dX0_lack_15 (Nat.le_of_ble_eq_true rfl) rfl ?_
    refine v_iconst dX0_lack_16 ic_2 ?_
    exact v_iret rfl (Nat.le_of_ble_eq_true rfl) (Nat.le_of_ble_eq_true rfl) dX0_lack_17 (hk _ e2)
  · obtain ⟨r, hk, e1, e2, e3⟩ := q
    rw [e1, e3]
    clear e1 e3 h
    rw [← e2 0 0 (.inl lvL_0)]
    rw [← e2 400 0 (.inl lvL_400)]
    refine v_i2l dX0_lack_7 rfl ?_
    refine sL_400 (by decide) dX0_lack_8 ?_
    refine v_goto (tgt := 18) dX0_lack_9 rfl ?_
    refine v_iconst dX0_lack_18 ic_0 ?_
    exact v_iret rfl (Nat.le_of_ble_eq_true rfl) (Nat.le_of_ble_eq_true rfl) dX0_lack_19 (hk _ e2)
def hh_rules : List (Nat × Nat × Nat × Nat) := [(0, 12, 15, 13), (0, 12, 19, 15)]
abbrev rL_rules : Room := { frames := 18, cells := 6, slots := 30, locals := 3103 }
theorem ct_rules_1 {l : Launch} {D : va_G} {dA : Nat → ClassId} {A : Nat → Prop} {pz b L : Nat} {xs : Nat → Int32} : tt_ct (XL l D dA A pz b L xs) RX0 hh_rules 7 (tt_exn 1) 15 :=
  ⟨[], ⟨0, 12, 15, 13⟩, [⟨0, 12, 19, 15⟩], "java/lang/IllegalArgumentException", rfl, (fun z hz => nomatch hz), by decide, by decide, q940, q209, rfl⟩
theorem ct_rules_2 {l : Launch} {D : va_G} {dA : Nat → ClassId} {A : Nat → Prop} {pz b L : Nat} {xs : Nat → Int32} : tt_ct (XL l D dA A pz b L xs) RX0 hh_rules 7 (tt_exn 2) 19 :=
  ⟨[⟨0, 12, 15, 13⟩], ⟨0, 12, 19, 15⟩, [], "java/lang/IllegalStateException", rfl, (fun z hz => by cases List.mem_singleton.mp hz; exact ⟨by decide, _, q940, nc_L (a := 2) (c := 1) (by decide) (by decide) (by decide)⟩), by decide, by decide, q941, q983, rfl⟩
set_option maxHeartbeats 4000000 in
theorem mL_rules (l : Launch) (D : va_G) (dA : Nat → ClassId) (A : Nat → Prop) (pz b L : Nat) (xs : Nat → Int32) (hl9 : l.stackTraces = false) (lc : Nat → Nat → Nat) (s : tt_SL) (x1 : Int32) (x2 : Int32) (x3 : Int32) {Q : Option Value → (Nat → Nat → Nat) → tt_SL → Prop} (h : Ok (wrapI (fT_rules s.1 x1 x2 x3) s (cd3 none (some 1) (some 2))) (fun r => ∀ lc', tt_agr (XL l D dA A pz b L xs) s lc lc' → Q (some (.int r.1)) lc' r.2)) : tt_SpW (XL l D dA A pz b L xs) yX0_rules cX0_rules 6 (some .int) hh_rules rL_rules [.ref (lc 0 0), .int x1, .int x2, .int x3, .ref (lc 400 0)] lc s Q := by
  refine tt_SpW.ofV plX0 kokL (Nat.le_of_ble_eq_true rfl) ?_
  show tt_V (XL l D dA A pz b L xs) cX0_rules (RX0, 6, (some .int), rL_rules, tt_hh hh_rules) (tt_fn (XL l D dA A pz b L xs) (RX0, 6, (some .int), rL_rules, tt_hh hh_rules) Q) 0 [(0, .ref (lc 0 0)), (1, .int x1), (2, .int x2), (3, .int x3), (4, .ref (lc 400 0))] [] lc s 0 0
  have h := Ok.wrapI h
  refine v_aload 4 dX0_rules_0 rfl ?_
  refine v_iconst dX0_rules_2 ic_0 ?_
  refine v_aload_n 0 dX0_rules_3 rfl ?_
  refine v_iload_n 1 dX0_rules_4 rfl ?_
  refine v_iload_n 2 dX0_rules_5 rfl ?_
  refine v_iload_n 3 dX0_rules_6 rfl ?_
  refine v_callVXh (hh := hh_rules) (kd := 0) (i := 0) (nA := 3) (As := [.int x1, .int x2, .int x3]) (rest := [.int 0, .ref (lc 400 0)]) (Q' := (fun v lc' s' => ∃ r : Int32 × tt_S3, (∀ lc'', tt_agr (XL l D dA A pz b L xs) s lc lc'' → Q (some (.int 0)) lc'' (r.2, s.2.1, wrL s.2.2 0 0 0 r.1.toInt64)) ∧ v = some (Value.int r.1) ∧ tt_agr (XL l D dA A pz b L xs) s lc lc' ∧ s' = (r.2, s.2))) (QX' := (fun E lc' s' => ∃ e : Nat × tt_S3, (∃ c, (cd3 none (some 1) (some 2)) e.1 = some c ∧ ∀ lc'', tt_agr (XL l D dA A pz b L xs) s lc lc'' → Q (some (.int c)) lc'' (e.2, s.2)) ∧ E = tt_exn e.1 ∧ tt_agr (XL l D dA A pz b L xs) s lc lc' ∧ s' = (e.2, s.2))) knL lvL_0 oL_0 rfl (liftTX (Q := (fun v lc' s' => ∃ r : Int32 × tt_S3, (∀ lc'', tt_agr (XL l D dA A pz b L xs) s lc lc'' → Q (some (.int 0)) lc'' (r.2, s.2.1, wrL s.2.2 0 0 0 r.1.toInt64)) ∧ v = some (Value.int r.1) ∧ tt_agr (XL l D dA A pz b L xs) s lc lc' ∧ s' = (r.2, s.2))) (QX := (fun E lc' s' => ∃ e : Nat × tt_S3, (∃ c, (cd3 none (some 1) (some 2)) e.1 = some c ∧ ∀ lc'', tt_agr (XL l D dA A pz b L xs) s lc lc'' → Q (some (.int c)) lc'' (e.2, s.2)) ∧ E = tt_exn e.1 ∧ tt_agr (XL l D dA A pz b L xs) s lc lc' ∧ s' = (e.2, s.2))) (mT_rules l D dA (aLT A lc s) pz hl9 lc s.1 x1 x2 x3 (Q := (fun v lc' w => tt_agr (XT l D dA (aLT A lc s) pz) s.1 lc lc' ∧ (fun v lc' s' => ∃ r : Int32 × tt_S3, (∀ lc'', tt_agr (XL l D dA A pz b L xs) s lc lc'' → Q (some (.int 0)) lc'' (r.2, s.2.1, wrL s.2.2 0 0 0 r.1.toInt64)) ∧ v = some (Value.int r.1) ∧ tt_agr (XL l D dA A pz b L xs) s lc lc' ∧ s' = (r.2, s.2)) v lc' (w, s.2))) (QX := (fun E lc' w => tt_agr (XT l D dA (aLT A lc s) pz) s.1 lc lc' ∧ (fun E lc' s' => ∃ e : Nat × tt_S3, (∃ c, (cd3 none (some 1) (some 2)) e.1 = some c ∧ ∀ lc'', tt_agr (XL l D dA A pz b L xs) s lc lc'' → Q (some (.int c)) lc'' (e.2, s.2)) ∧ E = tt_exn e.1 ∧ tt_agr (XL l D dA A pz b L xs) s lc lc' ∧ s' = (e.2, s.2)) E lc' (w, s.2))) (h.mono (fun q hq lc' ha => by cases q with
    | inl r => exact ⟨ha, r, hq, rfl, agrL ha, rfl⟩
    | inr e => exact ⟨ha, e, hq, rfl, agrL ha, rfl⟩)))) (lw_V q1090 q1091 q1092 q127 q1093) (by decide +kernel) rfl ⟨Nat.le_of_ble_eq_true rfl, Nat.le_of_ble_eq_true rfl⟩ (Nat.le_of_ble_eq_true rfl) ⟨Nat.le_of_ble_eq_true rfl, Nat.le_of_ble_eq_true rfl⟩ (fun _ _ _ h => h) dX0_rules_7 rfl (fun E lc' s' q => ?_) (fun v lc' s' q => ?_)
  · obtain ⟨e, ⟨c, hcd, hk⟩, e1, e2, e3⟩ := q
    rw [e1, e3]
    unfold cd3 at hcd
    clear e1 e3 h
    by_cases h0 : e.1 = 0
    · rw [if_pos h0] at hcd
      cases hcd
    by_cases h1 : e.1 = 1
    · rw [if_neg h0, if_pos h1] at hcd
      cases hcd
      rw [h1]
      refine ⟨15, ct_rules_1, fun q => ?_⟩
      rw [← e2 0 0 (.inl lvL_0)]
      rw [← e2 400 0 (.inl lvL_400)]
      refine v_astore [(5, .ref q), (0, .ref (lc' 0 0)), (1, .int x1), (2, .int x2), (3, .int x3), (4, .ref (lc' 400 0))] dX0_rules_15 (Nat.le_of_ble_eq_true rfl) rfl ?_
      refine v_iconst dX0_rules_17 ic_1 ?_
      exact v_iret rfl (Nat.le_of_ble_eq_true rfl) (Nat.le_of_ble_eq_true rfl) dX0_rules_18 (hk _ e2)
    rw [if_neg h0, if_neg h1] at hcd
    cases hcd
    rw [tt_exn2 h0 h1]
    refine ⟨19, ct_rules_2, fun q => ?_⟩
    rw [← e2 0 0 (.inl lvL_0)]
    rw [← e2 400 0 (.inl lvL_400)]
    refine v_astore [(5, .ref q), (0, .ref (lc' 0 0)), (1, .int x1), (2, .int x2), (3, .int x3), (4, .ref (lc' 400 0))] dX0_rules_19 (Nat.le_of_ble_eq_true rfl) rfl ?_
    refine v_iconst dX0_rules_21 ic_2 ?_
    exact v_iret rfl (Nat.le_of_ble_eq_true rfl) (Nat.le_of_ble_eq_true rfl) dX0_rules_22 (hk _ e2)
  · obtain ⟨r, hk, e1, e2, e3⟩ := q
    rw [e1, e3]
    clear e1 e3 h
    rw [← e2 0 0 (.inl lvL_0)]
    rw [← e2 400 0 (.inl lvL_400)]
    refine v_i2l dX0_rules_10 rfl ?_
    refine sL_400 (by decide) dX0_rules_11 ?_
    refine v_goto (tgt := 23) dX0_rules_12 rfl ?_
    refine v_iconst dX0_rules_23 ic_0 ?_
    exact v_iret rfl (Nat.le_of_ble_eq_true rfl) (Nat.le_of_ble_eq_true rfl) dX0_rules_24 (hk _ e2)
def hh_harm : List (Nat × Nat × Nat × Nat) := [(0, 14, 17, 13), (0, 14, 21, 15)]
abbrev rL_harm : Room := { frames := 18, cells := 7, slots := 38, locals := 3105 }
theorem ct_harm_1 {l : Launch} {D : va_G} {dA : Nat → ClassId} {A : Nat → Prop} {pz b L : Nat} {xs : Nat → Int32} : tt_ct (XL l D dA A pz b L xs) RX0 hh_harm 9 (tt_exn 1) 17 :=
  ⟨[], ⟨0, 14, 17, 13⟩, [⟨0, 14, 21, 15⟩], "java/lang/IllegalArgumentException", rfl, (fun z hz => nomatch hz), by decide, by decide, q940, q209, rfl⟩
theorem ct_harm_2 {l : Launch} {D : va_G} {dA : Nat → ClassId} {A : Nat → Prop} {pz b L : Nat} {xs : Nat → Int32} : tt_ct (XL l D dA A pz b L xs) RX0 hh_harm 9 (tt_exn 2) 21 :=
  ⟨[⟨0, 14, 17, 13⟩], ⟨0, 14, 21, 15⟩, [], "java/lang/IllegalStateException", rfl, (fun z hz => by cases List.mem_singleton.mp hz; exact ⟨by decide, _, q940, nc_L (a := 2) (c := 1) (by decide) (by decide) (by decide)⟩), by decide, by decide, q941, q983, rfl⟩
set_option maxHeartbeats 4000000 in
theorem mL_harm (l : Launch) (D : va_G) (dA : Nat → ClassId) (A : Nat → Prop) (pz b L : Nat) (xs : Nat → Int32) (hl9 : l.stackTraces = false) (lc : Nat → Nat → Nat) (s : tt_SL) (x1 : Int32) (x2 : Int32) (x3 : Int32) (x4 : Int32) {Q : Option Value → (Nat → Nat → Nat) → tt_SL → Prop} (h : Ok (wrapI (fT_harm s.1 x1 x2 x3 x4) s (cd3 none (some 1) (some 2))) (fun r => ∀ lc', tt_agr (XL l D dA A pz b L xs) s lc lc' → Q (some (.int r.1)) lc' r.2)) : tt_SpW (XL l D dA A pz b L xs) yX0_harm cX0_harm 7 (some .int) hh_harm rL_harm [.ref (lc 0 0), .int x1, .int x2, .int x3, .int x4, .ref (lc 400 0)] lc s Q := by
  refine tt_SpW.ofV plX0 kokL (Nat.le_of_ble_eq_true rfl) ?_
  show tt_V (XL l D dA A pz b L xs) cX0_harm (RX0, 7, (some .int), rL_harm, tt_hh hh_harm) (tt_fn (XL l D dA A pz b L xs) (RX0, 7, (some .int), rL_harm, tt_hh hh_harm) Q) 0 [(0, .ref (lc 0 0)), (1, .int x1), (2, .int x2), (3, .int x3), (4, .int x4), (5, .ref (lc 400 0))] [] lc s 0 0
  have h := Ok.wrapI h
  refine v_aload 5 dX0_harm_0 rfl ?_
  refine v_iconst dX0_harm_2 ic_0 ?_
  refine v_aload_n 0 dX0_harm_3 rfl ?_
  refine v_iload_n 1 dX0_harm_4 rfl ?_
  refine v_iload_n 2 dX0_harm_5 rfl ?_
  refine v_iload_n 3 dX0_harm_6 rfl ?_
  refine v_iload 4 dX0_harm_7 rfl ?_
  refine v_callVXh (hh := hh_harm) (kd := 0) (i := 0) (nA := 4) (As := [.int x1, .int x2, .int x3, .int x4]) (rest := [.int 0, .ref (lc 400 0)]) (Q' := (fun v lc' s' => ∃ r : Int32 × tt_S3, (∀ lc'', tt_agr (XL l D dA A pz b L xs) s lc lc'' → Q (some (.int 0)) lc'' (r.2, s.2.1, wrL s.2.2 0 0 0 r.1.toInt64)) ∧ v = some (Value.int r.1) ∧ tt_agr (XL l D dA A pz b L xs) s lc lc' ∧ s' = (r.2, s.2))) (QX' := (fun E lc' s' => ∃ e : Nat × tt_S3, (∃ c, (cd3 none (some 1) (some 2)) e.1 = some c ∧ ∀ lc'', tt_agr (XL l D dA A pz b L xs) s lc lc'' → Q (some (.int c)) lc'' (e.2, s.2)) ∧ E = tt_exn e.1 ∧ tt_agr (XL l D dA A pz b L xs) s lc lc' ∧ s' = (e.2, s.2))) knL lvL_0 oL_0 rfl (liftTX (Q := (fun v lc' s' => ∃ r : Int32 × tt_S3, (∀ lc'', tt_agr (XL l D dA A pz b L xs) s lc lc'' → Q (some (.int 0)) lc'' (r.2, s.2.1, wrL s.2.2 0 0 0 r.1.toInt64)) ∧ v = some (Value.int r.1) ∧ tt_agr (XL l D dA A pz b L xs) s lc lc' ∧ s' = (r.2, s.2))) (QX := (fun E lc' s' => ∃ e : Nat × tt_S3, (∃ c, (cd3 none (some 1) (some 2)) e.1 = some c ∧ ∀ lc'', tt_agr (XL l D dA A pz b L xs) s lc lc'' → Q (some (.int c)) lc'' (e.2, s.2)) ∧ E = tt_exn e.1 ∧ tt_agr (XL l D dA A pz b L xs) s lc lc' ∧ s' = (e.2, s.2))) (mT_harm l D dA (aLT A lc s) pz hl9 lc s.1 x1 x2 x3 x4 (Q := (fun v lc' w => tt_agr (XT l D dA (aLT A lc s) pz) s.1 lc lc' ∧ (fun v lc' s' => ∃ r : Int32 × tt_S3, (∀ lc'', tt_agr (XL l D dA A pz b L xs) s lc lc'' → Q (some (.int 0)) lc'' (r.2, s.2.1, wrL s.2.2 0 0 0 r.1.toInt64)) ∧ v = some (Value.int r.1) ∧ tt_agr (XL l D dA A pz b L xs) s lc lc' ∧ s' = (r.2, s.2)) v lc' (w, s.2))) (QX := (fun E lc' w => tt_agr (XT l D dA (aLT A lc s) pz) s.1 lc lc' ∧ (fun E lc' s' => ∃ e : Nat × tt_S3, (∃ c, (cd3 none (some 1) (some 2)) e.1 = some c ∧ ∀ lc'', tt_agr (XL l D dA A pz b L xs) s lc lc'' → Q (some (.int c)) lc'' (e.2, s.2)) ∧ E = tt_exn e.1 ∧ tt_agr (XL l D dA A pz b L xs) s lc lc' ∧ s' = (e.2, s.2)) E lc' (w, s.2))) (h.mono (fun q hq lc' ha => by cases q with
    | inl r => exact ⟨ha, r, hq, rfl, agrL ha, rfl⟩
    | inr e => exact ⟨ha, e, hq, rfl, agrL ha, rfl⟩)))) (lw_V q1107 q1108 q1109 q127 q1110) (by decide +kernel) rfl ⟨Nat.le_of_ble_eq_true rfl, Nat.le_of_ble_eq_true rfl⟩ (Nat.le_of_ble_eq_true rfl) ⟨Nat.le_of_ble_eq_true rfl, Nat.le_of_ble_eq_true rfl⟩ (fun _ _ _ h => h) dX0_harm_9 rfl (fun E lc' s' q => ?_) (fun v lc' s' q => ?_)
  · obtain ⟨e, ⟨c, hcd, hk⟩, e1, e2, e3⟩ := q
    rw [e1, e3]
    unfold cd3 at hcd
    clear e1 e3 h
    by_cases h0 : e.1 = 0
    · rw [if_pos h0] at hcd
      cases hcd
    by_cases h1 : e.1 = 1
    · rw [if_neg h0, if_pos h1] at hcd
      cases hcd
      rw [h1]
      refine ⟨17, ct_harm_1, fun q => ?_⟩
      rw [← e2 0 0 (.inl lvL_0)]
      rw [← e2 400 0 (.inl lvL_400)]
      refine v_astore [(6, .ref q), (0, .ref (lc' 0 0)), (1, .int x1), (2, .int x2), (3, .int x3), (4, .int x4), (5, .ref (lc' 400 0))] dX0_harm_17 (Nat.le_of_ble_eq_true rfl) rfl ?_
      refine v_iconst dX0_harm_19 ic_1 ?_
      exact v_iret rfl (Nat.le_of_ble_eq_true rfl) (Nat.le_of_ble_eq_true rfl) dX0_harm_20 (hk _ e2)
    rw [if_neg h0, if_neg h1] at hcd
    cases hcd
    rw [tt_exn2 h0 h1]
    refine ⟨21, ct_harm_2, fun q => ?_⟩
    rw [← e2 0 0 (.inl lvL_0)]
    rw [← e2 400 0 (.inl lvL_400)]
    refine v_astore [(6, .ref q), (0, .ref (lc' 0 0)), (1, .int x1), (2, .int x2), (3, .int x3), (4, .int x4), (5, .ref (lc' 400 0))] dX0_harm_21 (Nat.le_of_ble_eq_true rfl) rfl ?_
    refine v_iconst dX0_harm_23 ic_2 ?_
    exact v_iret rfl (Nat.le_of_ble_eq_true rfl) (Nat.le_of_ble_eq_true rfl) dX0_harm_24 (hk _ e2)
  · obtain ⟨r, hk, e1, e2, e3⟩ := q
    rw [e1, e3]
    clear e1 e3 h
    rw [← e2 0 0 (.inl lvL_0)]
    rw [← e2 400 0 (.inl lvL_400)]
    refine v_i2l dX0_harm_12 rfl ?_
    refine sL_400 (by decide) dX0_harm_13 ?_
    refine v_goto (tgt := 25) dX0_harm_14 rfl ?_
    refine v_iconst dX0_harm_25 ic_0 ?_
    exact v_iret rfl (Nat.le_of_ble_eq_true rfl) (Nat.le_of_ble_eq_true rfl) dX0_harm_26 (hk _ e2)
def hh_grow : List (Nat × Nat × Nat × Nat) := [(0, 9, 12, 21), (0, 9, 16, 13), (0, 9, 20, 15)]
abbrev rL_grow : Room := { frames := 18, cells := 5, slots := 23, locals := 3105 }
theorem ct_grow_0 {l : Launch} {D : va_G} {dA : Nat → ClassId} {A : Nat → Prop} {pz b L : Nat} {xs : Nat → Int32} : tt_ct (XL l D dA A pz b L xs) RX0 hh_grow 5 (tt_exn 0) 12 :=
  ⟨[], ⟨0, 9, 12, 21⟩, [⟨0, 9, 16, 13⟩, ⟨0, 9, 20, 15⟩], "java/util/NoSuchElementException", rfl, (fun z hz => nomatch hz), by decide, by decide, q1017, q1032, rfl⟩
theorem ct_grow_1 {l : Launch} {D : va_G} {dA : Nat → ClassId} {A : Nat → Prop} {pz b L : Nat} {xs : Nat → Int32} : tt_ct (XL l D dA A pz b L xs) RX0 hh_grow 5 (tt_exn 1) 16 :=
  ⟨[⟨0, 9, 12, 21⟩], ⟨0, 9, 16, 13⟩, [⟨0, 9, 20, 15⟩], "java/lang/IllegalArgumentException", rfl, (fun z hz => by cases List.mem_singleton.mp hz; exact ⟨by decide, _, q1017, nc_L (a := 1) (c := 0) (by decide) (by decide) (by decide)⟩), by decide, by decide, q940, q209, rfl⟩
theorem ct_grow_2 {l : Launch} {D : va_G} {dA : Nat → ClassId} {A : Nat → Prop} {pz b L : Nat} {xs : Nat → Int32} : tt_ct (XL l D dA A pz b L xs) RX0 hh_grow 5 (tt_exn 2) 20 :=
  ⟨[⟨0, 9, 12, 21⟩, ⟨0, 9, 16, 13⟩], ⟨0, 9, 20, 15⟩, [], "java/lang/IllegalStateException", rfl, (fun z hz => by
    simp only [List.mem_cons, List.not_mem_nil, or_false] at hz
    rcases hz with rfl | rfl
    · exact ⟨by decide, _, q1017, nc_L (a := 2) (c := 0) (by decide) (by decide) (by decide)⟩
    · exact ⟨by decide, _, q940, nc_L (a := 2) (c := 1) (by decide) (by decide) (by decide)⟩), by decide, by decide, q941, q983, rfl⟩
set_option maxHeartbeats 4000000 in
theorem mL_grow (l : Launch) (D : va_G) (dA : Nat → ClassId) (A : Nat → Prop) (pz b L : Nat) (xs : Nat → Int32) (hl9 : l.stackTraces = false) (lc : Nat → Nat → Nat) (s : tt_SL) (x1 : Int32) (x2 : Int32) {Q : Option Value → (Nat → Nat → Nat) → tt_SL → Prop} (h : Ok (wrapL (fT_grow s.1 x1 x2) s (cd3 (some 1) (some 2) (some 3))) (fun r => ∀ lc', tt_agr (XL l D dA A pz b L xs) s lc lc' → Q (some (.int r.1)) lc' r.2)) : tt_SpW (XL l D dA A pz b L xs) yX0_grow cX0_grow 5 (some .int) hh_grow rL_grow [.ref (lc 0 0), .int x1, .int x2, .ref (lc 400 0)] lc s Q := by
  refine tt_SpW.ofV plX0 kokL (Nat.le_of_ble_eq_true rfl) ?_
  show tt_V (XL l D dA A pz b L xs) cX0_grow (RX0, 5, (some .int), rL_grow, tt_hh hh_grow) (tt_fn (XL l D dA A pz b L xs) (RX0, 5, (some .int), rL_grow, tt_hh hh_grow) Q) 0 [(0, .ref (lc 0 0)), (1, .int x1), (2, .int x2), (3, .ref (lc 400 0))] [] lc s 0 0
  have h := Ok.wrapL h
  refine v_aload_n 3 dX0_grow_0 rfl ?_
  refine v_iconst dX0_grow_1 ic_0 ?_
  refine v_aload_n 0 dX0_grow_2 rfl ?_
  refine v_iload_n 1 dX0_grow_3 rfl ?_
  refine v_iload_n 2 dX0_grow_4 rfl ?_
  refine v_callVXh (hh := hh_grow) (kd := 0) (i := 0) (nA := 2) (As := [.int x1, .int x2]) (rest := [.int 0, .ref (lc 400 0)]) (Q' := (fun v lc' s' => ∃ r : Int64 × tt_S3, (∀ lc'', tt_agr (XL l D dA A pz b L xs) s lc lc'' → Q (some (.int 0)) lc'' (r.2, s.2.1, wrL s.2.2 0 0 0 r.1)) ∧ v = some (Value.long r.1) ∧ tt_agr (XL l D dA A pz b L xs) s lc lc' ∧ s' = (r.2, s.2))) (QX' := (fun E lc' s' => ∃ e : Nat × tt_S3, (∃ c, (cd3 (some 1) (some 2) (some 3)) e.1 = some c ∧ ∀ lc'', tt_agr (XL l D dA A pz b L xs) s lc lc'' → Q (some (.int c)) lc'' (e.2, s.2)) ∧ E = tt_exn e.1 ∧ tt_agr (XL l D dA A pz b L xs) s lc lc' ∧ s' = (e.2, s.2))) knL lvL_0 oL_0 rfl (liftTX (Q := (fun v lc' s' => ∃ r : Int64 × tt_S3, (∀ lc'', tt_agr (XL l D dA A pz b L xs) s lc lc'' → Q (some (.int 0)) lc'' (r.2, s.2.1, wrL s.2.2 0 0 0 r.1)) ∧ v = some (Value.long r.1) ∧ tt_agr (XL l D dA A pz b L xs) s lc lc' ∧ s' = (r.2, s.2))) (QX := (fun E lc' s' => ∃ e : Nat × tt_S3, (∃ c, (cd3 (some 1) (some 2) (some 3)) e.1 = some c ∧ ∀ lc'', tt_agr (XL l D dA A pz b L xs) s lc lc'' → Q (some (.int c)) lc'' (e.2, s.2)) ∧ E = tt_exn e.1 ∧ tt_agr (XL l D dA A pz b L xs) s lc lc' ∧ s' = (e.2, s.2))) (mT_grow l D dA (aLT A lc s) pz hl9 lc s.1 x1 x2 (Q := (fun v lc' w => tt_agr (XT l D dA (aLT A lc s) pz) s.1 lc lc' ∧ (fun v lc' s' => ∃ r : Int64 × tt_S3, (∀ lc'', tt_agr (XL l D dA A pz b L xs) s lc lc'' → Q (some (.int 0)) lc'' (r.2, s.2.1, wrL s.2.2 0 0 0 r.1)) ∧ v = some (Value.long r.1) ∧ tt_agr (XL l D dA A pz b L xs) s lc lc' ∧ s' = (r.2, s.2)) v lc' (w, s.2))) (QX := (fun E lc' w => tt_agr (XT l D dA (aLT A lc s) pz) s.1 lc lc' ∧ (fun E lc' s' => ∃ e : Nat × tt_S3, (∃ c, (cd3 (some 1) (some 2) (some 3)) e.1 = some c ∧ ∀ lc'', tt_agr (XL l D dA A pz b L xs) s lc lc'' → Q (some (.int c)) lc'' (e.2, s.2)) ∧ E = tt_exn e.1 ∧ tt_agr (XL l D dA A pz b L xs) s lc lc' ∧ s' = (e.2, s.2)) E lc' (w, s.2))) (h.mono (fun q hq lc' ha => by cases q with
    | inl r => exact ⟨ha, r, hq, rfl, agrL ha, rfl⟩
    | inr e => exact ⟨ha, e, hq, rfl, agrL ha, rfl⟩)))) (lw_V q1163 q1164 q1165 q127 q1166) (by decide +kernel) rfl ⟨Nat.le_of_ble_eq_true rfl, Nat.le_of_ble_eq_true rfl⟩ (Nat.le_of_ble_eq_true rfl) ⟨Nat.le_of_ble_eq_true rfl, Nat.le_of_ble_eq_true rfl⟩ (fun _ _ _ h => h) dX0_grow_5 rfl (fun E lc' s' q => ?_) (fun v lc' s' q => ?_)
  · obtain ⟨e, ⟨c, hcd, hk⟩, e1, e2, e3⟩ := q
    rw [e1, e3]
    unfold cd3 at hcd
    clear e1 e3 h
    by_cases h0 : e.1 = 0
    · rw [if_pos h0] at hcd
      cases hcd
      rw [h0]
      refine ⟨12, ct_grow_0, fun q => ?_⟩
      rw [← e2 0 0 (.inl lvL_0)]
      rw [← e2 400 0 (.inl lvL_400)]
      refine v_astore [(4, .ref q), (0, .ref (lc' 0 0)), (1, .int x1), (2, .int x2), (3, .ref (lc' 400 0))] dX0_grow_12 (Nat.le_of_ble_eq_true rfl) rfl ?_
      refine v_iconst dX0_grow_14 ic_1 ?_
      exact v_iret rfl (Nat.le_of_ble_eq_true rfl) (Nat.le_of_ble_eq_true rfl) dX0_grow_15 (hk _ e2)
    by_cases h1 : e.1 = 1
    · rw [if_neg h0, if_pos h1] at hcd
      cases hcd
      rw [h1]
      refine ⟨16, ct_grow_1, fun q => ?_⟩
      rw [← e2 0 0 (.inl lvL_0)]
      rw [← e2 400 0 (.inl lvL_400)]
      refine v_astore [(4, .ref q), (0, .ref (lc' 0 0)), (1, .int x1), (2, .int x2), (3, .ref (lc' 400 0))] dX0_grow_16 (Nat.le_of_ble_eq_true rfl) rfl ?_
      refine v_iconst dX0_grow_18 ic_2 ?_
      exact v_iret rfl (Nat.le_of_ble_eq_true rfl) (Nat.le_of_ble_eq_true rfl) dX0_grow_19 (hk _ e2)
    rw [if_neg h0, if_neg h1] at hcd
    cases hcd
    rw [tt_exn2 h0 h1]
    refine ⟨20, ct_grow_2, fun q => ?_⟩
    rw [← e2 0 0 (.inl lvL_0)]
    rw [← e2 400 0 (.inl lvL_400)]
    refine v_astore [(4, .ref q), (0, .ref (lc' 0 0)), (1, .int x1), (2, .int x2), (3, .ref (lc' 400 0))] dX0_grow_20 (Nat.le_of_ble_eq_true rfl) rfl ?_
    refine v_iconst dX0_grow_22 ic_3 ?_
    exact v_iret rfl (Nat.le_of_ble_eq_true rfl) (Nat.le_of_ble_eq_true rfl) dX0_grow_23 (hk _ e2)
  · obtain ⟨r, hk, e1, e2, e3⟩ := q
    rw [e1, e3]
    clear e1 e3 h
    rw [← e2 0 0 (.inl lvL_0)]
    rw [← e2 400 0 (.inl lvL_400)]
    refine sL_400 (by decide) dX0_grow_8 ?_
    refine v_goto (tgt := 24) dX0_grow_9 rfl ?_
    refine v_iconst dX0_grow_24 ic_0 ?_
    exact v_iret rfl (Nat.le_of_ble_eq_true rfl) (Nat.le_of_ble_eq_true rfl) dX0_grow_25 (hk _ e2)
def hh_settle : List (Nat × Nat × Nat × Nat) := [(0, 10, 13, 13), (0, 10, 17, 15)]
abbrev rL_settle : Room := { frames := 18, cells := 5, slots := 23, locals := 3102 }
theorem ct_settle_1 {l : Launch} {D : va_G} {dA : Nat → ClassId} {A : Nat → Prop} {pz b L : Nat} {xs : Nat → Int32} : tt_ct (XL l D dA A pz b L xs) RX0 hh_settle 5 (tt_exn 1) 13 :=
  ⟨[], ⟨0, 10, 13, 13⟩, [⟨0, 10, 17, 15⟩], "java/lang/IllegalArgumentException", rfl, (fun z hz => nomatch hz), by decide, by decide, q940, q209, rfl⟩
theorem ct_settle_2 {l : Launch} {D : va_G} {dA : Nat → ClassId} {A : Nat → Prop} {pz b L : Nat} {xs : Nat → Int32} : tt_ct (XL l D dA A pz b L xs) RX0 hh_settle 5 (tt_exn 2) 17 :=
  ⟨[⟨0, 10, 13, 13⟩], ⟨0, 10, 17, 15⟩, [], "java/lang/IllegalStateException", rfl, (fun z hz => by cases List.mem_singleton.mp hz; exact ⟨by decide, _, q940, nc_L (a := 2) (c := 1) (by decide) (by decide) (by decide)⟩), by decide, by decide, q941, q983, rfl⟩
set_option maxHeartbeats 4000000 in
theorem mL_settle (l : Launch) (D : va_G) (dA : Nat → ClassId) (A : Nat → Prop) (pz b L : Nat) (xs : Nat → Int32) (hl9 : l.stackTraces = false) (lc : Nat → Nat → Nat) (s : tt_SL) (x1 : Int32) (x2 : Int32) {Q : Option Value → (Nat → Nat → Nat) → tt_SL → Prop} (h : Ok (wrapI (fT_settle s.1 x1 x2) s (cd3 none (some 1) (some 2))) (fun r => ∀ lc', tt_agr (XL l D dA A pz b L xs) s lc lc' → Q (some (.int r.1)) lc' r.2)) : tt_SpW (XL l D dA A pz b L xs) yX0_settle cX0_settle 5 (some .int) hh_settle rL_settle [.ref (lc 0 0), .int x1, .int x2, .ref (lc 400 0)] lc s Q := by
  refine tt_SpW.ofV plX0 kokL (Nat.le_of_ble_eq_true rfl) ?_
  show tt_V (XL l D dA A pz b L xs) cX0_settle (RX0, 5, (some .int), rL_settle, tt_hh hh_settle) (tt_fn (XL l D dA A pz b L xs) (RX0, 5, (some .int), rL_settle, tt_hh hh_settle) Q) 0 [(0, .ref (lc 0 0)), (1, .int x1), (2, .int x2), (3, .ref (lc 400 0))] [] lc s 0 0
  have h := Ok.wrapI h
  refine v_aload_n 3 dX0_settle_0 rfl ?_
  refine v_iconst dX0_settle_1 ic_0 ?_
  refine v_aload_n 0 dX0_settle_2 rfl ?_
  refine v_iload_n 1 dX0_settle_3 rfl ?_
  refine v_iload_n 2 dX0_settle_4 rfl ?_
  refine v_callVXh (hh := hh_settle) (kd := 0) (i := 0) (nA := 2) (As := [.int x1, .int x2]) (rest := [.int 0, .ref (lc 400 0)]) (Q' := (fun v lc' s' => ∃ r : Int32 × tt_S3, (∀ lc'', tt_agr (XL l D dA A pz b L xs) s lc lc'' → Q (some (.int 0)) lc'' (r.2, s.2.1, wrL s.2.2 0 0 0 r.1.toInt64)) ∧ v = some (Value.int r.1) ∧ tt_agr (XL l D dA A pz b L xs) s lc lc' ∧ s' = (r.2, s.2))) (QX' := (fun E lc' s' => ∃ e : Nat × tt_S3, (∃ c, (cd3 none (some 1) (some 2)) e.1 = some c ∧ ∀ lc'', tt_agr (XL l D dA A pz b L xs) s lc lc'' → Q (some (.int c)) lc'' (e.2, s.2)) ∧ E = tt_exn e.1 ∧ tt_agr (XL l D dA A pz b L xs) s lc lc' ∧ s' = (e.2, s.2))) knL lvL_0 oL_0 rfl (liftTX (Q := (fun v lc' s' => ∃ r : Int32 × tt_S3, (∀ lc'', tt_agr (XL l D dA A pz b L xs) s lc lc'' → Q (some (.int 0)) lc'' (r.2, s.2.1, wrL s.2.2 0 0 0 r.1.toInt64)) ∧ v = some (Value.int r.1) ∧ tt_agr (XL l D dA A pz b L xs) s lc lc' ∧ s' = (r.2, s.2))) (QX := (fun E lc' s' => ∃ e : Nat × tt_S3, (∃ c, (cd3 none (some 1) (some 2)) e.1 = some c ∧ ∀ lc'', tt_agr (XL l D dA A pz b L xs) s lc lc'' → Q (some (.int c)) lc'' (e.2, s.2)) ∧ E = tt_exn e.1 ∧ tt_agr (XL l D dA A pz b L xs) s lc lc' ∧ s' = (e.2, s.2))) (mT_settle l D dA (aLT A lc s) pz hl9 lc s.1 x1 x2 (Q := (fun v lc' w => tt_agr (XT l D dA (aLT A lc s) pz) s.1 lc lc' ∧ (fun v lc' s' => ∃ r : Int32 × tt_S3, (∀ lc'', tt_agr (XL l D dA A pz b L xs) s lc lc'' → Q (some (.int 0)) lc'' (r.2, s.2.1, wrL s.2.2 0 0 0 r.1.toInt64)) ∧ v = some (Value.int r.1) ∧ tt_agr (XL l D dA A pz b L xs) s lc lc' ∧ s' = (r.2, s.2)) v lc' (w, s.2))) (QX := (fun E lc' w => tt_agr (XT l D dA (aLT A lc s) pz) s.1 lc lc' ∧ (fun E lc' s' => ∃ e : Nat × tt_S3, (∃ c, (cd3 none (some 1) (some 2)) e.1 = some c ∧ ∀ lc'', tt_agr (XL l D dA A pz b L xs) s lc lc'' → Q (some (.int c)) lc'' (e.2, s.2)) ∧ E = tt_exn e.1 ∧ tt_agr (XL l D dA A pz b L xs) s lc lc' ∧ s' = (e.2, s.2)) E lc' (w, s.2))) (h.mono (fun q hq lc' ha => by cases q with
    | inl r => exact ⟨ha, r, hq, rfl, agrL ha, rfl⟩
    | inr e => exact ⟨ha, e, hq, rfl, agrL ha, rfl⟩)))) (lw_V q1186 q1187 q1188 q127 q1189) (by decide +kernel) rfl ⟨Nat.le_of_ble_eq_true rfl, Nat.le_of_ble_eq_true rfl⟩ (Nat.le_of_ble_eq_true rfl) ⟨Nat.le_of_ble_eq_true rfl, Nat.le_of_ble_eq_true rfl⟩ (fun _ _ _ h => h) dX0_settle_5 rfl (fun E lc' s' q => ?_) (fun v lc' s' q => ?_)
  · obtain ⟨e, ⟨c, hcd, hk⟩, e1, e2, e3⟩ := q
    rw [e1, e3]
    unfold cd3 at hcd
    clear e1 e3 h
    by_cases h0 : e.1 = 0
    · rw [if_pos h0] at hcd
      cases hcd
    by_cases h1 : e.1 = 1
    · rw [if_neg h0, if_pos h1] at hcd
      cases hcd
      rw [h1]
      refine ⟨13, ct_settle_1, fun q => ?_⟩
      rw [← e2 0 0 (.inl lvL_0)]
      rw [← e2 400 0 (.inl lvL_400)]
      refine v_astore [(4, .ref q), (0, .ref (lc' 0 0)), (1, .int x1), (2, .int x2), (3, .ref (lc' 400 0))] dX0_settle_13 (Nat.le_of_ble_eq_true rfl) rfl ?_
      refine v_iconst dX0_settle_15 ic_1 ?_
      exact v_iret rfl (Nat.le_of_ble_eq_true rfl) (Nat.le_of_ble_eq_true rfl) dX0_settle_16 (hk _ e2)
    rw [if_neg h0, if_neg h1] at hcd
    cases hcd
    rw [tt_exn2 h0 h1]
    refine ⟨17, ct_settle_2, fun q => ?_⟩
    rw [← e2 0 0 (.inl lvL_0)]
    rw [← e2 400 0 (.inl lvL_400)]
    refine v_astore [(4, .ref q), (0, .ref (lc' 0 0)), (1, .int x1), (2, .int x2), (3, .ref (lc' 400 0))] dX0_settle_17 (Nat.le_of_ble_eq_true rfl) rfl ?_
    refine v_iconst dX0_settle_19 ic_2 ?_
    exact v_iret rfl (Nat.le_of_ble_eq_true rfl) (Nat.le_of_ble_eq_true rfl) dX0_settle_20 (hk _ e2)
  · obtain ⟨r, hk, e1, e2, e3⟩ := q
    rw [e1, e3]
    clear e1 e3 h
    rw [← e2 0 0 (.inl lvL_0)]
    rw [← e2 400 0 (.inl lvL_400)]
    refine v_i2l dX0_settle_8 rfl ?_
    refine sL_400 (by decide) dX0_settle_9 ?_
    refine v_goto (tgt := 21) dX0_settle_10 rfl ?_
    refine v_iconst dX0_settle_21 ic_0 ?_
    exact v_iret rfl (Nat.le_of_ble_eq_true rfl) (Nat.le_of_ble_eq_true rfl) dX0_settle_22 (hk _ e2)
def hh_fall : List (Nat × Nat × Nat × Nat) := [(0, 9, 12, 13), (0, 9, 15, 15)]
abbrev rL_fall : Room := { frames := 18, cells := 4, slots := 16, locals := 3101 }
theorem ct_fall_1 {l : Launch} {D : va_G} {dA : Nat → ClassId} {A : Nat → Prop} {pz b L : Nat} {xs : Nat → Int32} : tt_ct (XL l D dA A pz b L xs) RX0 hh_fall 4 (tt_exn 1) 12 :=
  ⟨[], ⟨0, 9, 12, 13⟩, [⟨0, 9, 15, 15⟩], "java/lang/IllegalArgumentException", rfl, (fun z hz => nomatch hz), by decide, by decide, q940, q209, rfl⟩
theorem ct_fall_2 {l : Launch} {D : va_G} {dA : Nat → ClassId} {A : Nat → Prop} {pz b L : Nat} {xs : Nat → Int32} : tt_ct (XL l D dA A pz b L xs) RX0 hh_fall 4 (tt_exn 2) 15 :=
  ⟨[⟨0, 9, 12, 13⟩], ⟨0, 9, 15, 15⟩, [], "java/lang/IllegalStateException", rfl, (fun z hz => by cases List.mem_singleton.mp hz; exact ⟨by decide, _, q940, nc_L (a := 2) (c := 1) (by decide) (by decide) (by decide)⟩), by decide, by decide, q941, q983, rfl⟩
set_option maxHeartbeats 4000000 in
theorem mL_fall (l : Launch) (D : va_G) (dA : Nat → ClassId) (A : Nat → Prop) (pz b L : Nat) (xs : Nat → Int32) (hl9 : l.stackTraces = false) (lc : Nat → Nat → Nat) (s : tt_SL) (x1 : Int32) {Q : Option Value → (Nat → Nat → Nat) → tt_SL → Prop} (h : Ok (wrapI (fT_fall s.1 x1) s (cd3 none (some 1) (some 2))) (fun r => ∀ lc', tt_agr (XL l D dA A pz b L xs) s lc lc' → Q (some (.int r.1)) lc' r.2)) : tt_SpW (XL l D dA A pz b L xs) yX0_fall cX0_fall 4 (some .int) hh_fall rL_fall [.ref (lc 0 0), .int x1, .ref (lc 400 0)] lc s Q := by
  refine tt_SpW.ofV plX0 kokL (Nat.le_of_ble_eq_true rfl) ?_
  show tt_V (XL l D dA A pz b L xs) cX0_fall (RX0, 4, (some .int), rL_fall, tt_hh hh_fall) (tt_fn (XL l D dA A pz b L xs) (RX0, 4, (some .int), rL_fall, tt_hh hh_fall) Q) 0 [(0, .ref (lc 0 0)), (1, .int x1), (2, .ref (lc 400 0))] [] lc s 0 0
  have h := Ok.wrapI h
  refine v_aload_n 2 dX0_fall_0 rfl ?_
  refine v_iconst dX0_fall_1 ic_0 ?_
  refine v_aload_n 0 dX0_fall_2 rfl ?_
  refine v_iload_n 1 dX0_fall_3 rfl ?_
  refine v_callVXh (hh := hh_fall) (kd := 0) (i := 0) (nA := 1) (As := [.int x1]) (rest := [.int 0, .ref (lc 400 0)]) (Q' := (fun v lc' s' => ∃ r : Int32 × tt_S3, (∀ lc'', tt_agr (XL l D dA A pz b L xs) s lc lc'' → Q (some (.int 0)) lc'' (r.2, s.2.1, wrL s.2.2 0 0 0 r.1.toInt64)) ∧ v = some (Value.int r.1) ∧ tt_agr (XL l D dA A pz b L xs) s lc lc' ∧ s' = (r.2, s.2))) (QX' := (fun E lc' s' => ∃ e : Nat × tt_S3, (∃ c, (cd3 none (some 1) (some 2)) e.1 = some c ∧ ∀ lc'', tt_agr (XL l D dA A pz b L xs) s lc lc'' → Q (some (.int c)) lc'' (e.2, s.2)) ∧ E = tt_exn e.1 ∧ tt_agr (XL l D dA A pz b L xs) s lc lc' ∧ s' = (e.2, s.2))) knL lvL_0 oL_0 rfl (liftTX (Q := (fun v lc' s' => ∃ r : Int32 × tt_S3, (∀ lc'', tt_agr (XL l D dA A pz b L xs) s lc lc'' → Q (some (.int 0)) lc'' (r.2, s.2.1, wrL s.2.2 0 0 0 r.1.toInt64)) ∧ v = some (Value.int r.1) ∧ tt_agr (XL l D dA A pz b L xs) s lc lc' ∧ s' = (r.2, s.2))) (QX := (fun E lc' s' => ∃ e : Nat × tt_S3, (∃ c, (cd3 none (some 1) (some 2)) e.1 = some c ∧ ∀ lc'', tt_agr (XL l D dA A pz b L xs) s lc lc'' → Q (some (.int c)) lc'' (e.2, s.2)) ∧ E = tt_exn e.1 ∧ tt_agr (XL l D dA A pz b L xs) s lc lc' ∧ s' = (e.2, s.2))) (mT_fall l D dA (aLT A lc s) pz hl9 lc s.1 x1 (Q := (fun v lc' w => tt_agr (XT l D dA (aLT A lc s) pz) s.1 lc lc' ∧ (fun v lc' s' => ∃ r : Int32 × tt_S3, (∀ lc'', tt_agr (XL l D dA A pz b L xs) s lc lc'' → Q (some (.int 0)) lc'' (r.2, s.2.1, wrL s.2.2 0 0 0 r.1.toInt64)) ∧ v = some (Value.int r.1) ∧ tt_agr (XL l D dA A pz b L xs) s lc lc' ∧ s' = (r.2, s.2)) v lc' (w, s.2))) (QX := (fun E lc' w => tt_agr (XT l D dA (aLT A lc s) pz) s.1 lc lc' ∧ (fun E lc' s' => ∃ e : Nat × tt_S3, (∃ c, (cd3 none (some 1) (some 2)) e.1 = some c ∧ ∀ lc'', tt_agr (XL l D dA A pz b L xs) s lc lc'' → Q (some (.int c)) lc'' (e.2, s.2)) ∧ E = tt_exn e.1 ∧ tt_agr (XL l D dA A pz b L xs) s lc lc' ∧ s' = (e.2, s.2)) E lc' (w, s.2))) (h.mono (fun q hq lc' ha => by cases q with
    | inl r => exact ⟨ha, r, hq, rfl, agrL ha, rfl⟩
    | inr e => exact ⟨ha, e, hq, rfl, agrL ha, rfl⟩)))) (lw_V q1203 q1204 q1205 q127 q1206) (by decide +kernel) rfl ⟨Nat.le_of_ble_eq_true rfl, Nat.le_of_ble_eq_true rfl⟩ (Nat.le_of_ble_eq_true rfl) ⟨Nat.le_of_ble_eq_true rfl, Nat.le_of_ble_eq_true rfl⟩ (fun _ _ _ h => h) dX0_fall_4 rfl (fun E lc' s' q => ?_) (fun v lc' s' q => ?_)
  · obtain ⟨e, ⟨c, hcd, hk⟩, e1, e2, e3⟩ := q
    rw [e1, e3]
    unfold cd3 at hcd
    clear e1 e3 h
    by_cases h0 : e.1 = 0
    · rw [if_pos h0] at hcd
      cases hcd
    by_cases h1 : e.1 = 1
    · rw [if_neg h0, if_pos h1] at hcd
      cases hcd
      rw [h1]
      refine ⟨12, ct_fall_1, fun q => ?_⟩
      rw [← e2 0 0 (.inl lvL_0)]
      rw [← e2 400 0 (.inl lvL_400)]
      refine v_astore_n [(3, .ref q), (0, .ref (lc' 0 0)), (1, .int x1), (2, .ref (lc' 400 0))] dX0_fall_12 (Nat.le_of_ble_eq_true rfl) rfl ?_
      refine v_iconst dX0_fall_13 ic_1 ?_
      exact v_iret rfl (Nat.le_of_ble_eq_true rfl) (Nat.le_of_ble_eq_true rfl) dX0_fall_14 (hk _ e2)
    rw [if_neg h0, if_neg h1] at hcd
    cases hcd
    rw [tt_exn2 h0 h1]
    refine ⟨15, ct_fall_2, fun q => ?_⟩
    rw [← e2 0 0 (.inl lvL_0)]
    rw [← e2 400 0 (.inl lvL_400)]
    refine v_astore_n [(3, .ref q), (0, .ref (lc' 0 0)), (1, .int x1), (2, .ref (lc' 400 0))] dX0_fall_15 (Nat.le_of_ble_eq_true rfl) rfl ?_
    refine v_iconst dX0_fall_16 ic_2 ?_
    exact v_iret rfl (Nat.le_of_ble_eq_true rfl) (Nat.le_of_ble_eq_true rfl) dX0_fall_17 (hk _ e2)
  · obtain ⟨r, hk, e1, e2, e3⟩ := q
    rw [e1, e3]
    clear e1 e3 h
    rw [← e2 0 0 (.inl lvL_0)]
    rw [← e2 400 0 (.inl lvL_400)]
    refine v_i2l dX0_fall_7 rfl ?_
    refine sL_400 (by decide) dX0_fall_8 ?_
    refine v_goto (tgt := 18) dX0_fall_9 rfl ?_
    refine v_iconst dX0_fall_18 ic_0 ?_
    exact v_iret rfl (Nat.le_of_ble_eq_true rfl) (Nat.le_of_ble_eq_true rfl) dX0_fall_19 (hk _ e2)
def hh_reopen : List (Nat × Nat × Nat × Nat) := [(0, 8, 11, 21), (0, 8, 14, 15)]
abbrev rL_reopen : Room := { frames := 18, cells := 4, slots := 16, locals := 3104 }
theorem ct_reopen_0 {l : Launch} {D : va_G} {dA : Nat → ClassId} {A : Nat → Prop} {pz b L : Nat} {xs : Nat → Int32} : tt_ct (XL l D dA A pz b L xs) RX0 hh_reopen 4 (tt_exn 0) 11 :=
  ⟨[], ⟨0, 8, 11, 21⟩, [⟨0, 8, 14, 15⟩], "java/util/NoSuchElementException", rfl, (fun z hz => nomatch hz), by decide, by decide, q1017, q1032, rfl⟩
theorem ct_reopen_2 {l : Launch} {D : va_G} {dA : Nat → ClassId} {A : Nat → Prop} {pz b L : Nat} {xs : Nat → Int32} : tt_ct (XL l D dA A pz b L xs) RX0 hh_reopen 4 (tt_exn 2) 14 :=
  ⟨[⟨0, 8, 11, 21⟩], ⟨0, 8, 14, 15⟩, [], "java/lang/IllegalStateException", rfl, (fun z hz => by cases List.mem_singleton.mp hz; exact ⟨by decide, _, q1017, nc_L (a := 2) (c := 0) (by decide) (by decide) (by decide)⟩), by decide, by decide, q941, q983, rfl⟩
set_option maxHeartbeats 4000000 in
theorem mL_reopen (l : Launch) (D : va_G) (dA : Nat → ClassId) (A : Nat → Prop) (pz b L : Nat) (xs : Nat → Int32) (hl9 : l.stackTraces = false) (lc : Nat → Nat → Nat) (s : tt_SL) (x1 : Int32) {Q : Option Value → (Nat → Nat → Nat) → tt_SL → Prop} (h : Ok (wrapL (fT_reopen s.1 x1) s (cd3 (some 1) none (some 2))) (fun r => ∀ lc', tt_agr (XL l D dA A pz b L xs) s lc lc' → Q (some (.int r.1)) lc' r.2)) : tt_SpW (XL l D dA A pz b L xs) yX0_reopen cX0_reopen 4 (some .int) hh_reopen rL_reopen [.ref (lc 0 0), .int x1, .ref (lc 400 0)] lc s Q := by
  refine tt_SpW.ofV plX0 kokL (Nat.le_of_ble_eq_true rfl) ?_
  show tt_V (XL l D dA A pz b L xs) cX0_reopen (RX0, 4, (some .int), rL_reopen, tt_hh hh_reopen) (tt_fn (XL l D dA A pz b L xs) (RX0, 4, (some .int), rL_reopen, tt_hh hh_reopen) Q) 0 [(0, .ref (lc 0 0)), (1, .int x1), (2, .ref (lc 400 0))] [] lc s 0 0
  have h := Ok.wrapL h
  refine v_aload_n 2 dX0_reopen_0 rfl ?_
  refine v_iconst dX0_reopen_1 ic_0 ?_
  refine v_aload_n 0 dX0_reopen_2 rfl ?_
  refine v_iload_n 1 dX0_reopen_3 rfl ?_
  refine v_callVXh (hh := hh_reopen) (kd := 0) (i := 0) (nA := 1) (As := [.int x1]) (rest := [.int 0, .ref (lc 400 0)]) (Q' := (fun v lc' s' => ∃ r : Int64 × tt_S3, (∀ lc'', tt_agr (XL l D dA A pz b L xs) s lc lc'' → Q (some (.int 0)) lc'' (r.2, s.2.1, wrL s.2.2 0 0 0 r.1)) ∧ v = some (Value.long r.1) ∧ tt_agr (XL l D dA A pz b L xs) s lc lc' ∧ s' = (r.2, s.2))) (QX' := (fun E lc' s' => ∃ e : Nat × tt_S3, (∃ c, (cd3 (some 1) none (some 2)) e.1 = some c ∧ ∀ lc'', tt_agr (XL l D dA A pz b L xs) s lc lc'' → Q (some (.int c)) lc'' (e.2, s.2)) ∧ E = tt_exn e.1 ∧ tt_agr (XL l D dA A pz b L xs) s lc lc' ∧ s' = (e.2, s.2))) knL lvL_0 oL_0 rfl (liftTX (Q := (fun v lc' s' => ∃ r : Int64 × tt_S3, (∀ lc'', tt_agr (XL l D dA A pz b L xs) s lc lc'' → Q (some (.int 0)) lc'' (r.2, s.2.1, wrL s.2.2 0 0 0 r.1)) ∧ v = some (Value.long r.1) ∧ tt_agr (XL l D dA A pz b L xs) s lc lc' ∧ s' = (r.2, s.2))) (QX := (fun E lc' s' => ∃ e : Nat × tt_S3, (∃ c, (cd3 (some 1) none (some 2)) e.1 = some c ∧ ∀ lc'', tt_agr (XL l D dA A pz b L xs) s lc lc'' → Q (some (.int c)) lc'' (e.2, s.2)) ∧ E = tt_exn e.1 ∧ tt_agr (XL l D dA A pz b L xs) s lc lc' ∧ s' = (e.2, s.2))) (mT_reopen l D dA (aLT A lc s) pz hl9 lc s.1 x1 (Q := (fun v lc' w => tt_agr (XT l D dA (aLT A lc s) pz) s.1 lc lc' ∧ (fun v lc' s' => ∃ r : Int64 × tt_S3, (∀ lc'', tt_agr (XL l D dA A pz b L xs) s lc lc'' → Q (some (.int 0)) lc'' (r.2, s.2.1, wrL s.2.2 0 0 0 r.1)) ∧ v = some (Value.long r.1) ∧ tt_agr (XL l D dA A pz b L xs) s lc lc' ∧ s' = (r.2, s.2)) v lc' (w, s.2))) (QX := (fun E lc' w => tt_agr (XT l D dA (aLT A lc s) pz) s.1 lc lc' ∧ (fun E lc' s' => ∃ e : Nat × tt_S3, (∃ c, (cd3 (some 1) none (some 2)) e.1 = some c ∧ ∀ lc'', tt_agr (XL l D dA A pz b L xs) s lc lc'' → Q (some (.int c)) lc'' (e.2, s.2)) ∧ E = tt_exn e.1 ∧ tt_agr (XL l D dA A pz b L xs) s lc lc' ∧ s' = (e.2, s.2)) E lc' (w, s.2))) (h.mono (fun q hq lc' ha => by cases q with
    | inl r => exact ⟨ha, r, hq, rfl, agrL ha, rfl⟩
    | inr e => exact ⟨ha, e, hq, rfl, agrL ha, rfl⟩)))) (lw_V q1212 q1213 q1214 q127 q1215) (by decide +kernel) rfl ⟨Nat.le_of_ble_eq_true rfl, Nat.le_of_ble_eq_true rfl⟩ (Nat.le_of_ble_eq_true rfl) ⟨Nat.le_of_ble_eq_true rfl, Nat.le_of_ble_eq_true rfl⟩ (fun _ _ _ h => h) dX0_reopen_4 rfl (fun E lc' s' q => ?_) (fun v lc' s' q => ?_)
  · obtain ⟨e, ⟨c, hcd, hk⟩, e1, e2, e3⟩ := q
    rw [e1, e3]
    unfold cd3 at hcd
    clear e1 e3 h
    by_cases h0 : e.1 = 0
    · rw [if_pos h0] at hcd
      cases hcd
      rw [h0]
      refine ⟨11, ct_reopen_0, fun q => ?_⟩
      rw [← e2 0 0 (.inl lvL_0)]
      rw [← e2 400 0 (.inl lvL_400)]
      refine v_astore_n [(3, .ref q), (0, .ref (lc' 0 0)), (1, .int x1), (2, .ref (lc' 400 0))] dX0_reopen_11 (Nat.le_of_ble_eq_true rfl) rfl ?_
      refine v_iconst dX0_reopen_12 ic_1 ?_
      exact v_iret rfl (Nat.le_of_ble_eq_true rfl) (Nat.le_of_ble_eq_true rfl) dX0_reopen_13 (hk _ e2)
    by_cases h1 : e.1 = 1
    · rw [if_neg h0, if_pos h1] at hcd
      cases hcd
    rw [if_neg h0, if_neg h1] at hcd
    cases hcd
    rw [tt_exn2 h0 h1]
    refine ⟨14, ct_reopen_2, fun q => ?_⟩
    rw [← e2 0 0 (.inl lvL_0)]
    rw [← e2 400 0 (.inl lvL_400)]
    refine v_astore_n [(3, .ref q), (0, .ref (lc' 0 0)), (1, .int x1), (2, .ref (lc' 400 0))] dX0_reopen_14 (Nat.le_of_ble_eq_true rfl) rfl ?_
    refine v_iconst dX0_reopen_15 ic_2 ?_
    exact v_iret rfl (Nat.le_of_ble_eq_true rfl) (Nat.le_of_ble_eq_true rfl) dX0_reopen_16 (hk _ e2)
  · obtain ⟨r, hk, e1, e2, e3⟩ := q
    rw [e1, e3]
    clear e1 e3 h
    rw [← e2 0 0 (.inl lvL_0)]
    rw [← e2 400 0 (.inl lvL_400)]
    refine sL_400 (by decide) dX0_reopen_7 ?_
    refine v_goto (tgt := 17) dX0_reopen_8 rfl ?_
    refine v_iconst dX0_reopen_17 ic_0 ?_
    exact v_iret rfl (Nat.le_of_ble_eq_true rfl) (Nat.le_of_ble_eq_true rfl) dX0_reopen_18 (hk _ e2)
def hh_told : List (Nat × Nat × Nat × Nat) := [(0, 9, 12, 13)]
abbrev rL_told : Room := { frames := 9, cells := 1, slots := 6, locals := 161 }
theorem ct_told_1 {l : Launch} {D : va_G} {dA : Nat → ClassId} {A : Nat → Prop} {pz b L : Nat} {xs : Nat → Int32} : tt_ct (XL l D dA A pz b L xs) RX0 hh_told 4 (tt_exn 1) 12 :=
  ⟨[], ⟨0, 9, 12, 13⟩, [], "java/lang/IllegalArgumentException", rfl, (fun z hz => nomatch hz), by decide, by decide, q940, q209, rfl⟩
set_option maxHeartbeats 4000000 in
theorem mL_told (l : Launch) (D : va_G) (dA : Nat → ClassId) (A : Nat → Prop) (pz b L : Nat) (xs : Nat → Int32) (hl9 : l.stackTraces = false) (lc : Nat → Nat → Nat) (s : tt_SL) (x1 : Int32) {Q : Option Value → (Nat → Nat → Nat) → tt_SL → Prop} (h : Ok (wrapI (fT_told s.1 x1) s (cd3 none (some 1) none)) (fun r => ∀ lc', tt_agr (XL l D dA A pz b L xs) s lc lc' → Q (some (.int r.1)) lc' r.2)) : tt_SpW (XL l D dA A pz b L xs) yX0_told cX0_told 4 (some .int) hh_told rL_told [.ref (lc 0 0), .int x1, .ref (lc 400 0)] lc s Q := by
  refine tt_SpW.ofV plX0 kokL (Nat.le_of_ble_eq_true rfl) ?_
  show tt_V (XL l D dA A pz b L xs) cX0_told (RX0, 4, (some .int), rL_told, tt_hh hh_told) (tt_fn (XL l D dA A pz b L xs) (RX0, 4, (some .int), rL_told, tt_hh hh_told) Q) 0 [(0, .ref (lc 0 0)), (1, .int x1), (2, .ref (lc 400 0))] [] lc s 0 0
  have h := Ok.wrapI h
  refine v_aload_n 2 dX0_told_0 rfl ?_
  refine v_iconst dX0_told_1 ic_0 ?_
  refine v_aload_n 0 dX0_told_2 rfl ?_
  refine v_iload_n 1 dX0_told_3 rfl ?_
  refine v_callVXh (hh := hh_told) (kd := 0) (i := 0) (nA := 1) (As := [.int x1]) (rest := [.int 0, .ref (lc 400 0)]) (Q' := (fun v lc' s' => ∃ r : Int32 × tt_S3, (∀ lc'', tt_agr (XL l D dA A pz b L xs) s lc lc'' → Q (some (.int 0)) lc'' (r.2, s.2.1, wrL s.2.2 0 0 0 r.1.toInt64)) ∧ v = some (Value.int r.1) ∧ tt_agr (XL l D dA A pz b L xs) s lc lc' ∧ s' = (r.2, s.2))) (QX' := (fun E lc' s' => ∃ e : Nat × tt_S3, (∃ c, (cd3 none (some 1) none) e.1 = some c ∧ ∀ lc'', tt_agr (XL l D dA A pz b L xs) s lc lc'' → Q (some (.int c)) lc'' (e.2, s.2)) ∧ E = tt_exn e.1 ∧ tt_agr (XL l D dA A pz b L xs) s lc lc' ∧ s' = (e.2, s.2))) knL lvL_0 oL_0 rfl (liftTX (Q := (fun v lc' s' => ∃ r : Int32 × tt_S3, (∀ lc'', tt_agr (XL l D dA A pz b L xs) s lc lc'' → Q (some (.int 0)) lc'' (r.2, s.2.1, wrL s.2.2 0 0 0 r.1.toInt64)) ∧ v = some (Value.int r.1) ∧ tt_agr (XL l D dA A pz b L xs) s lc lc' ∧ s' = (r.2, s.2))) (QX := (fun E lc' s' => ∃ e : Nat × tt_S3, (∃ c, (cd3 none (some 1) none) e.1 = some c ∧ ∀ lc'', tt_agr (XL l D dA A pz b L xs) s lc lc'' → Q (some (.int c)) lc'' (e.2, s.2)) ∧ E = tt_exn e.1 ∧ tt_agr (XL l D dA A pz b L xs) s lc lc' ∧ s' = (e.2, s.2))) (mT_told l D dA (aLT A lc s) pz hl9 lc s.1 x1 (Q := (fun v lc' w => tt_agr (XT l D dA (aLT A lc s) pz) s.1 lc lc' ∧ (fun v lc' s' => ∃ r : Int32 × tt_S3, (∀ lc'', tt_agr (XL l D dA A pz b L xs) s lc lc'' → Q (some (.int 0)) lc'' (r.2, s.2.1, wrL s.2.2 0 0 0 r.1.toInt64)) ∧ v = some (Value.int r.1) ∧ tt_agr (XL l D dA A pz b L xs) s lc lc' ∧ s' = (r.2, s.2)) v lc' (w, s.2))) (QX := (fun E lc' w => tt_agr (XT l D dA (aLT A lc s) pz) s.1 lc lc' ∧ (fun E lc' s' => ∃ e : Nat × tt_S3, (∃ c, (cd3 none (some 1) none) e.1 = some c ∧ ∀ lc'', tt_agr (XL l D dA A pz b L xs) s lc lc'' → Q (some (.int c)) lc'' (e.2, s.2)) ∧ E = tt_exn e.1 ∧ tt_agr (XL l D dA A pz b L xs) s lc lc' ∧ s' = (e.2, s.2)) E lc' (w, s.2))) (h.mono (fun q hq => by cases q with
    | inl r => exact ⟨agr_rf, r, hq, rfl, agr_rf, rfl⟩
    | inr e => exact ⟨agr_rf, e, hq, rfl, agr_rf, rfl⟩)))) (lw_V q1230 q1231 q1232 q127 q1233) (by decide +kernel) rfl ⟨Nat.le_of_ble_eq_true rfl, Nat.le_of_ble_eq_true rfl⟩ (Nat.le_of_ble_eq_true rfl) ⟨Nat.le_of_ble_eq_true rfl, Nat.le_of_ble_eq_true rfl⟩ (fun _ _ _ h => h) dX0_told_4 rfl (fun E lc' s' q => ?_) (fun v lc' s' q => ?_)
  · obtain ⟨e, ⟨c, hcd, hk⟩, e1, e2, e3⟩ := q
    rw [e1, e3]
    unfold cd3 at hcd
    clear e1 e3 h
    by_cases h0 : e.1 = 0
    · rw [if_pos h0] at hcd
      cases hcd
    by_cases h1 : e.1 = 1
    · rw [if_neg h0, if_pos h1] at hcd
      cases hcd
      rw [h1]
      refine ⟨12, ct_told_1, fun q => ?_⟩
      rw [← e2 0 0 (.inl lvL_0)]
      rw [← e2 400 0 (.inl lvL_400)]
      refine v_astore_n [(3, .ref q), (0, .ref (lc' 0 0)), (1, .int x1), (2, .ref (lc' 400 0))] dX0_told_12 (Nat.le_of_ble_eq_true rfl) rfl ?_
      refine v_iconst dX0_told_13 ic_1 ?_
      exact v_iret rfl (Nat.le_of_ble_eq_true rfl) (Nat.le_of_ble_eq_true rfl) dX0_told_14 (hk _ e2)
    rw [if_neg h0, if_neg h1] at hcd
    cases hcd
  · obtain ⟨r, hk, e1, e2, e3⟩ := q
    rw [e1, e3]
    clear e1 e3 h
    rw [← e2 0 0 (.inl lvL_0)]
    rw [← e2 400 0 (.inl lvL_400)]
    refine v_i2l dX0_told_7 rfl ?_
    refine sL_400 (by decide) dX0_told_8 ?_
    refine v_goto (tgt := 15) dX0_told_9 rfl ?_
    refine v_iconst dX0_told_15 ic_0 ?_
    exact v_iret rfl (Nat.le_of_ble_eq_true rfl) (Nat.le_of_ble_eq_true rfl) dX0_told_16 (hk _ e2)
def hh_event : List (Nat × Nat × Nat × Nat) := [(0, 10, 13, 21), (0, 10, 17, 13)]
abbrev rL_event : Room := { frames := 9, cells := 2, slots := 12, locals := 162 }
theorem ct_event_0 {l : Launch} {D : va_G} {dA : Nat → ClassId} {A : Nat → Prop} {pz b L : Nat} {xs : Nat → Int32} : tt_ct (XL l D dA A pz b L xs) RX0 hh_event 5 (tt_exn 0) 13 :=
  ⟨[], ⟨0, 10, 13, 21⟩, [⟨0, 10, 17, 13⟩], "java/util/NoSuchElementException", rfl, (fun z hz => nomatch hz), by decide, by decide, q1017, q1032, rfl⟩
theorem ct_event_1 {l : Launch} {D : va_G} {dA : Nat → ClassId} {A : Nat → Prop} {pz b L : Nat} {xs : Nat → Int32} : tt_ct (XL l D dA A pz b L xs) RX0 hh_event 5 (tt_exn 1) 17 :=
  ⟨[⟨0, 10, 13, 21⟩], ⟨0, 10, 17, 13⟩, [], "java/lang/IllegalArgumentException", rfl, (fun z hz => by cases List.mem_singleton.mp hz; exact ⟨by decide, _, q1017, nc_L (a := 1) (c := 0) (by decide) (by decide) (by decide)⟩), by decide, by decide, q940, q209, rfl⟩
set_option maxHeartbeats 4000000 in
theorem mL_event (l : Launch) (D : va_G) (dA : Nat → ClassId) (A : Nat → Prop) (pz b L : Nat) (xs : Nat → Int32) (hl9 : l.stackTraces = false) (lc : Nat → Nat → Nat) (s : tt_SL) (x1 : Int32) (x2 : Int32) {Q : Option Value → (Nat → Nat → Nat) → tt_SL → Prop} (h : Ok (wrapI (fT_event s.1 x1 x2) s (cd3 (some 1) (some 2) none)) (fun r => ∀ lc', tt_agr (XL l D dA A pz b L xs) s lc lc' → Q (some (.int r.1)) lc' r.2)) : tt_SpW (XL l D dA A pz b L xs) yX0_event cX0_event 5 (some .int) hh_event rL_event [.ref (lc 0 0), .int x1, .int x2, .ref (lc 400 0)] lc s Q := by
  refine tt_SpW.ofV plX0 kokL (Nat.le_of_ble_eq_true rfl) ?_
  show tt_V (XL l D dA A pz b L xs) cX0_event (RX0, 5, (some .int), rL_event, tt_hh hh_event) (tt_fn (XL l D dA A pz b L xs) (RX0, 5, (some .int), rL_event, tt_hh hh_event) Q) 0 [(0, .ref (lc 0 0)), (1, .int x1), (2, .int x2), (3, .ref (lc 400 0))] [] lc s 0 0
  have h := Ok.wrapI h
  refine v_aload_n 3 dX0_event_0 rfl ?_
  refine v_iconst dX0_event_1 ic_0 ?_
  refine v_aload_n 0 dX0_event_2 rfl ?_
  refine v_iload_n 1 dX0_event_3 rfl ?_
  refine v_iload_n 2 dX0_event_4 rfl ?_
  refine v_callVXh (hh := hh_event) (kd := 0) (i := 0) (nA := 2) (As := [.int x1, .int x2]) (rest := [.int 0, .ref (lc 400 0)]) (Q' := (fun v lc' s' => ∃ r : Int32 × tt_S3, (∀ lc'', tt_agr (XL l D dA A pz b L xs) s lc lc'' → Q (some (.int 0)) lc'' (r.2, s.2.1, wrL s.2.2 0 0 0 r.1.toInt64)) ∧ v = some (Value.int r.1) ∧ tt_agr (XL l D dA A pz b L xs) s lc lc' ∧ s' = (r.2, s.2))) (QX' := (fun E lc' s' => ∃ e : Nat × tt_S3, (∃ c, (cd3 (some 1) (some 2) none) e.1 = some c ∧ ∀ lc'', tt_agr (XL l D dA A pz b L xs) s lc lc'' → Q (some (.int c)) lc'' (e.2, s.2)) ∧ E = tt_exn e.1 ∧ tt_agr (XL l D dA A pz b L xs) s lc lc' ∧ s' = (e.2, s.2))) knL lvL_0 oL_0 rfl (liftTX (Q := (fun v lc' s' => ∃ r : Int32 × tt_S3, (∀ lc'', tt_agr (XL l D dA A pz b L xs) s lc lc'' → Q (some (.int 0)) lc'' (r.2, s.2.1, wrL s.2.2 0 0 0 r.1.toInt64)) ∧ v = some (Value.int r.1) ∧ tt_agr (XL l D dA A pz b L xs) s lc lc' ∧ s' = (r.2, s.2))) (QX := (fun E lc' s' => ∃ e : Nat × tt_S3, (∃ c, (cd3 (some 1) (some 2) none) e.1 = some c ∧ ∀ lc'', tt_agr (XL l D dA A pz b L xs) s lc lc'' → Q (some (.int c)) lc'' (e.2, s.2)) ∧ E = tt_exn e.1 ∧ tt_agr (XL l D dA A pz b L xs) s lc lc' ∧ s' = (e.2, s.2))) (mT_event l D dA (aLT A lc s) pz hl9 lc s.1 x1 x2 (Q := (fun v lc' w => tt_agr (XT l D dA (aLT A lc s) pz) s.1 lc lc' ∧ (fun v lc' s' => ∃ r : Int32 × tt_S3, (∀ lc'', tt_agr (XL l D dA A pz b L xs) s lc lc'' → Q (some (.int 0)) lc'' (r.2, s.2.1, wrL s.2.2 0 0 0 r.1.toInt64)) ∧ v = some (Value.int r.1) ∧ tt_agr (XL l D dA A pz b L xs) s lc lc' ∧ s' = (r.2, s.2)) v lc' (w, s.2))) (QX := (fun E lc' w => tt_agr (XT l D dA (aLT A lc s) pz) s.1 lc lc' ∧ (fun E lc' s' => ∃ e : Nat × tt_S3, (∃ c, (cd3 (some 1) (some 2) none) e.1 = some c ∧ ∀ lc'', tt_agr (XL l D dA A pz b L xs) s lc lc'' → Q (some (.int c)) lc'' (e.2, s.2)) ∧ E = tt_exn e.1 ∧ tt_agr (XL l D dA A pz b L xs) s lc lc' ∧ s' = (e.2, s.2)) E lc' (w, s.2))) (h.mono (fun q hq => by cases q with
    | inl r => exact ⟨agr_rf, r, hq, rfl, agr_rf, rfl⟩
    | inr e => exact ⟨agr_rf, e, hq, rfl, agr_rf, rfl⟩)))) (lw_V q1246 q1247 q1248 q127 q1249) (by decide +kernel) rfl ⟨Nat.le_of_ble_eq_true rfl, Nat.le_of_ble_eq_true rfl⟩ (Nat.le_of_ble_eq_true rfl) ⟨Nat.le_of_ble_eq_true rfl, Nat.le_of_ble_eq_true rfl⟩ (fun _ _ _ h => h) dX0_event_5 rfl (fun E lc' s' q => ?_) (fun v lc' s' q => ?_)
  · obtain ⟨e, ⟨c, hcd, hk⟩, e1, e2, e3⟩ := q
    rw [e1, e3]
    unfold cd3 at hcd
    clear e1 e3 h
    by_cases h0 : e.1 = 0
    · rw [if_pos h0] at hcd
      cases hcd
      rw [h0]
      refine ⟨13, ct_event_0, fun q => ?_⟩
      rw [← e2 0 0 (.inl lvL_0)]
      rw [← e2 400 0 (.inl lvL_400)]
      refine v_astore [(4, .ref q), (0, .ref (lc' 0 0)), (1, .int x1), (2, .int x2), (3, .ref (lc' 400 0))] dX0_event_13 (Nat.le_of_ble_eq_true rfl) rfl ?_
      refine v_iconst dX0_event_15 ic_1 ?_
      exact v_iret rfl (Nat.le_of_ble_eq_true rfl) (Nat.le_of_ble_eq_true rfl) dX0_event_16 (hk _ e2)
    by_cases h1 : e.1 = 1
    · rw [if_neg h0, if_pos h1] at hcd
      cases hcd
      rw [h1]
      refine ⟨17, ct_event_1, fun q => ?_⟩
      rw [← e2 0 0 (.inl lvL_0)]
      rw [← e2 400 0 (.inl lvL_400)]
      refine v_astore [(4, .ref q), (0, .ref (lc' 0 0)), (1, .int x1), (2, .int x2), (3, .ref (lc' 400 0))] dX0_event_17 (Nat.le_of_ble_eq_true rfl) rfl ?_
      refine v_iconst dX0_event_19 ic_2 ?_
      exact v_iret rfl (Nat.le_of_ble_eq_true rfl) (Nat.le_of_ble_eq_true rfl) dX0_event_20 (hk _ e2)
    rw [if_neg h0, if_neg h1] at hcd
    cases hcd
  · obtain ⟨r, hk, e1, e2, e3⟩ := q
    rw [e1, e3]
    clear e1 e3 h
    rw [← e2 0 0 (.inl lvL_0)]
    rw [← e2 400 0 (.inl lvL_400)]
    refine v_i2l dX0_event_8 rfl ?_
    refine sL_400 (by decide) dX0_event_9 ?_
    refine v_goto (tgt := 21) dX0_event_10 rfl ?_
    refine v_iconst dX0_event_21 ic_0 ?_
    exact v_iret rfl (Nat.le_of_ble_eq_true rfl) (Nat.le_of_ble_eq_true rfl) dX0_event_22 (hk _ e2)
def hh_layer : List (Nat × Nat × Nat × Nat) := [(0, 9, 12, 21), (0, 9, 16, 13)]
abbrev rL_layer : Room := { frames := 10, cells := 2, slots := 12, locals := 183 }
theorem ct_layer_0 {l : Launch} {D : va_G} {dA : Nat → ClassId} {A : Nat → Prop} {pz b L : Nat} {xs : Nat → Int32} : tt_ct (XL l D dA A pz b L xs) RX0 hh_layer 5 (tt_exn 0) 12 :=
  ⟨[], ⟨0, 9, 12, 21⟩, [⟨0, 9, 16, 13⟩], "java/util/NoSuchElementException", rfl, (fun z hz => nomatch hz), by decide, by decide, q1017, q1032, rfl⟩
theorem ct_layer_1 {l : Launch} {D : va_G} {dA : Nat → ClassId} {A : Nat → Prop} {pz b L : Nat} {xs : Nat → Int32} : tt_ct (XL l D dA A pz b L xs) RX0 hh_layer 5 (tt_exn 1) 16 :=
  ⟨[⟨0, 9, 12, 21⟩], ⟨0, 9, 16, 13⟩, [], "java/lang/IllegalArgumentException", rfl, (fun z hz => by cases List.mem_singleton.mp hz; exact ⟨by decide, _, q1017, nc_L (a := 1) (c := 0) (by decide) (by decide) (by decide)⟩), by decide, by decide, q940, q209, rfl⟩
set_option maxHeartbeats 4000000 in
theorem mL_layer (l : Launch) (D : va_G) (dA : Nat → ClassId) (A : Nat → Prop) (pz b L : Nat) (xs : Nat → Int32) (hl9 : l.stackTraces = false) (lc : Nat → Nat → Nat) (s : tt_SL) (x1 : Int32) (x2 : Int32) {Q : Option Value → (Nat → Nat → Nat) → tt_SL → Prop} (h : Ok (wrapL (fT_layer s.1 x1 x2) s (cd3 (some 1) (some 2) none)) (fun r => ∀ lc', tt_agr (XL l D dA A pz b L xs) s lc lc' → Q (some (.int r.1)) lc' r.2)) : tt_SpW (XL l D dA A pz b L xs) yX0_layer cX0_layer 5 (some .int) hh_layer rL_layer [.ref (lc 0 0), .int x1, .int x2, .ref (lc 400 0)] lc s Q := by
  refine tt_SpW.ofV plX0 kokL (Nat.le_of_ble_eq_true rfl) ?_
  show tt_V (XL l D dA A pz b L xs) cX0_layer (RX0, 5, (some .int), rL_layer, tt_hh hh_layer) (tt_fn (XL l D dA A pz b L xs) (RX0, 5, (some .int), rL_layer, tt_hh hh_layer) Q) 0 [(0, .ref (lc 0 0)), (1, .int x1), (2, .int x2), (3, .ref (lc 400 0))] [] lc s 0 0
  have h := Ok.wrapL h
  refine v_aload_n 3 dX0_layer_0 rfl ?_
  refine v_iconst dX0_layer_1 ic_0 ?_
  refine v_aload_n 0 dX0_layer_2 rfl ?_
  refine v_iload_n 1 dX0_layer_3 rfl ?_
  refine v_iload_n 2 dX0_layer_4 rfl ?_
  refine v_callVXh (hh := hh_layer) (kd := 0) (i := 0) (nA := 2) (As := [.int x1, .int x2]) (rest := [.int 0, .ref (lc 400 0)]) (Q' := (fun v lc' s' => ∃ r : Int64 × tt_S3, (∀ lc'', tt_agr (XL l D dA A pz b L xs) s lc lc'' → Q (some (.int 0)) lc'' (r.2, s.2.1, wrL s.2.2 0 0 0 r.1)) ∧ v = some (Value.long r.1) ∧ tt_agr (XL l D dA A pz b L xs) s lc lc' ∧ s' = (r.2, s.2))) (QX' := (fun E lc' s' => ∃ e : Nat × tt_S3, (∃ c, (cd3 (some 1) (some 2) none) e.1 = some c ∧ ∀ lc'', tt_agr (XL l D dA A pz b L xs) s lc lc'' → Q (some (.int c)) lc'' (e.2, s.2)) ∧ E = tt_exn e.1 ∧ tt_agr (XL l D dA A pz b L xs) s lc lc' ∧ s' = (e.2, s.2))) knL lvL_0 oL_0 rfl (liftTX (Q := (fun v lc' s' => ∃ r : Int64 × tt_S3, (∀ lc'', tt_agr (XL l D dA A pz b L xs) s lc lc'' → Q (some (.int 0)) lc'' (r.2, s.2.1, wrL s.2.2 0 0 0 r.1)) ∧ v = some (Value.long r.1) ∧ tt_agr (XL l D dA A pz b L xs) s lc lc' ∧ s' = (r.2, s.2))) (QX := (fun E lc' s' => ∃ e : Nat × tt_S3, (∃ c, (cd3 (some 1) (some 2) none) e.1 = some c ∧ ∀ lc'', tt_agr (XL l D dA A pz b L xs) s lc lc'' → Q (some (.int c)) lc'' (e.2, s.2)) ∧ E = tt_exn e.1 ∧ tt_agr (XL l D dA A pz b L xs) s lc lc' ∧ s' = (e.2, s.2))) (mT_layer l D dA (aLT A lc s) pz hl9 lc s.1 x1 x2 (Q := (fun v lc' w => tt_agr (XT l D dA (aLT A lc s) pz) s.1 lc lc' ∧ (fun v lc' s' => ∃ r : Int64 × tt_S3, (∀ lc'', tt_agr (XL l D dA A pz b L xs) s lc lc'' → Q (some (.int 0)) lc'' (r.2, s.2.1, wrL s.2.2 0 0 0 r.1)) ∧ v = some (Value.long r.1) ∧ tt_agr (XL l D dA A pz b L xs) s lc lc' ∧ s' = (r.2, s.2)) v lc' (w, s.2))) (QX := (fun E lc' w => tt_agr (XT l D dA (aLT A lc s) pz) s.1 lc lc' ∧ (fun E lc' s' => ∃ e : Nat × tt_S3, (∃ c, (cd3 (some 1) (some 2) none) e.1 = some c ∧ ∀ lc'', tt_agr (XL l D dA A pz b L xs) s lc lc'' → Q (some (.int c)) lc'' (e.2, s.2)) ∧ E = tt_exn e.1 ∧ tt_agr (XL l D dA A pz b L xs) s lc lc' ∧ s' = (e.2, s.2)) E lc' (w, s.2))) (h.mono (fun q hq => by cases q with
    | inl r => exact ⟨agr_rf, r, hq, rfl, agr_rf, rfl⟩
    | inr e => exact ⟨agr_rf, e, hq, rfl, agr_rf, rfl⟩)))) (lw_V q1253 q1254 q1255 q127 q1256) (by decide +kernel) rfl ⟨Nat.le_of_ble_eq_true rfl, Nat.le_of_ble_eq_true rfl⟩ (Nat.le_of_ble_eq_true rfl) ⟨Nat.le_of_ble_eq_true rfl, Nat.le_of_ble_eq_true rfl⟩ (fun _ _ _ h => h) dX0_layer_5 rfl (fun E lc' s' q => ?_) (fun v lc' s' q => ?_)
  · obtain ⟨e, ⟨c, hcd, hk⟩, e1, e2, e3⟩ := q
    rw [e1, e3]
    unfold cd3 at hcd
    clear e1 e3 h
    by_cases h0 : e.1 = 0
    · rw [if_pos h0] at hcd
      cases hcd
      rw [h0]
      refine ⟨12, ct_layer_0, fun q => ?_⟩
      rw [← e2 0 0 (.inl lvL_0)]
      rw [← e2 400 0 (.inl lvL_400)]
      refine v_astore [(4, .ref q), (0, .ref (lc' 0 0)), (1, .int x1), (2, .int x2), (3, .ref (lc' 400 0))] dX0_layer_12 (Nat.le_of_ble_eq_true rfl) rfl ?_
      refine v_iconst dX0_layer_14 ic_1 ?_
      exact v_iret rfl (Nat.le_of_ble_eq_true rfl) (Nat.le_of_ble_eq_true rfl) dX0_layer_15 (hk _ e2)
    by_cases h1 : e.1 = 1
    · rw [if_neg h0, if_pos h1] at hcd
      cases hcd
      rw [h1]
      refine ⟨16, ct_layer_1, fun q => ?_⟩
      rw [← e2 0 0 (.inl lvL_0)]
      rw [← e2 400 0 (.inl lvL_400)]
      refine v_astore [(4, .ref q), (0, .ref (lc' 0 0)), (1, .int x1), (2, .int x2), (3, .ref (lc' 400 0))] dX0_layer_16 (Nat.le_of_ble_eq_true rfl) rfl ?_
      refine v_iconst dX0_layer_18 ic_2 ?_
      exact v_iret rfl (Nat.le_of_ble_eq_true rfl) (Nat.le_of_ble_eq_true rfl) dX0_layer_19 (hk _ e2)
    rw [if_neg h0, if_neg h1] at hcd
    cases hcd
  · obtain ⟨r, hk, e1, e2, e3⟩ := q
    rw [e1, e3]
    clear e1 e3 h
    rw [← e2 0 0 (.inl lvL_0)]
    rw [← e2 400 0 (.inl lvL_400)]
    refine sL_400 (by decide) dX0_layer_8 ?_
    refine v_goto (tgt := 20) dX0_layer_9 rfl ?_
    refine v_iconst dX0_layer_20 ic_0 ?_
    exact v_iret rfl (Nat.le_of_ble_eq_true rfl) (Nat.le_of_ble_eq_true rfl) dX0_layer_21 (hk _ e2)
def hh_signed : List (Nat × Nat × Nat × Nat) := [(0, 11, 14, 21), (0, 11, 18, 13)]
abbrev rL_signed : Room := { frames := 10, cells := 3, slots := 18, locals := 185 }
theorem ct_signed_0 {l : Launch} {D : va_G} {dA : Nat → ClassId} {A : Nat → Prop} {pz b L : Nat} {xs : Nat → Int32} : tt_ct (XL l D dA A pz b L xs) RX0 hh_signed 7 (tt_exn 0) 14 :=
  ⟨[], ⟨0, 11, 14, 21⟩, [⟨0, 11, 18, 13⟩], "java/util/NoSuchElementException", rfl, (fun z hz => nomatch hz), by decide, by decide, q1017, q1032, rfl⟩
theorem ct_signed_1 {l : Launch} {D : va_G} {dA : Nat → ClassId} {A : Nat → Prop} {pz b L : Nat} {xs : Nat → Int32} : tt_ct (XL l D dA A pz b L xs) RX0 hh_signed 7 (tt_exn 1) 18 :=
  ⟨[⟨0, 11, 14, 21⟩], ⟨0, 11, 18, 13⟩, [], "java/lang/IllegalArgumentException", rfl, (fun z hz => by cases List.mem_singleton.mp hz; exact ⟨by decide, _, q1017, nc_L (a := 1) (c := 0) (by decide) (by decide) (by decide)⟩), by decide, by decide, q940, q209, rfl⟩
set_option maxHeartbeats 4000000 in
theorem mL_signed (l : Launch) (D : va_G) (dA : Nat → ClassId) (A : Nat → Prop) (pz b L : Nat) (xs : Nat → Int32) (hl9 : l.stackTraces = false) (lc : Nat → Nat → Nat) (s : tt_SL) (x1 : Int32) (x2 : Int32) (x3 : Int32) {Q : Option Value → (Nat → Nat → Nat) → tt_SL → Prop} (h : Ok (wrapL (fT_signed s.1 x1 x2 x3) s (cd3 (some 1) (some 2) none)) (fun r => ∀ lc', tt_agr (XL l D dA A pz b L xs) s lc lc' → Q (some (.int r.1)) lc' r.2)) : tt_SpW (XL l D dA A pz b L xs) yX0_signed cX0_signed 6 (some .int) hh_signed rL_signed [.ref (lc 0 0), .int x1, .int x2, .int x3, .ref (lc 400 0)] lc s Q := by
  refine tt_SpW.ofV plX0 kokL (Nat.le_of_ble_eq_true rfl) ?_
  show tt_V (XL l D dA A pz b L xs) cX0_signed (RX0, 6, (some .int), rL_signed, tt_hh hh_signed) (tt_fn (XL l D dA A pz b L xs) (RX0, 6, (some .int), rL_signed, tt_hh hh_signed) Q) 0 [(0, .ref (lc 0 0)), (1, .int x1), (2, .int x2), (3, .int x3), (4, .ref (lc 400 0))] [] lc s 0 0
  have h := Ok.wrapL h
  refine v_aload 4 dX0_signed_0 rfl ?_
  refine v_iconst dX0_signed_2 ic_0 ?_
  refine v_aload_n 0 dX0_signed_3 rfl ?_
  refine v_iload_n 1 dX0_signed_4 rfl ?_
  refine v_iload_n 2 dX0_signed_5 rfl ?_
  refine v_iload_n 3 dX0_signed_6 rfl ?_
  refine v_callVXh (hh := hh_signed) (kd := 0) (i := 0) (nA := 3) (As := [.int x1, .int x2, .int x3]) (rest := [.int 0, .ref (lc 400 0)]) (Q' := (fun v lc' s' => ∃ r : Int64 × tt_S3, (∀ lc'', tt_agr (XL l D dA A pz b L xs) s lc lc'' → Q (some (.int 0)) lc'' (r.2, s.2.1, wrL s.2.2 0 0 0 r.1)) ∧ v = some (Value.long r.1) ∧ tt_agr (XL l D dA A pz b L xs) s lc lc' ∧ s' = (r.2, s.2))) (QX' := (fun E lc' s' => ∃ e : Nat × tt_S3, (∃ c, (cd3 (some 1) (some 2) none) e.1 = some c ∧ ∀ lc'', tt_agr (XL l D dA A pz b L xs) s lc lc'' → Q (some (.int c)) lc'' (e.2, s.2)) ∧ E = tt_exn e.1 ∧ tt_agr (XL l D dA A pz b L xs) s lc lc' ∧ s' = (e.2, s.2))) knL lvL_0 oL_0 rfl (liftTX (Q := (fun v lc' s' => ∃ r : Int64 × tt_S3, (∀ lc'', tt_agr (XL l D dA A pz b L xs) s lc lc'' → Q (some (.int 0)) lc'' (r.2, s.2.1, wrL s.2.2 0 0 0 r.1)) ∧ v = some (Value.long r.1) ∧ tt_agr (XL l D dA A pz b L xs) s lc lc' ∧ s' = (r.2, s.2))) (QX := (fun E lc' s' => ∃ e : Nat × tt_S3, (∃ c, (cd3 (some 1) (some 2) none) e.1 = some c ∧ ∀ lc'', tt_agr (XL l D dA A pz b L xs) s lc lc'' → Q (some (.int c)) lc'' (e.2, s.2)) ∧ E = tt_exn e.1 ∧ tt_agr (XL l D dA A pz b L xs) s lc lc' ∧ s' = (e.2, s.2))) (mT_signed l D dA (aLT A lc s) pz hl9 lc s.1 x1 x2 x3 (Q := (fun v lc' w => tt_agr (XT l D dA (aLT A lc s) pz) s.1 lc lc' ∧ (fun v lc' s' => ∃ r : Int64 × tt_S3, (∀ lc'', tt_agr (XL l D dA A pz b L xs) s lc lc'' → Q (some (.int 0)) lc'' (r.2, s.2.1, wrL s.2.2 0 0 0 r.1)) ∧ v = some (Value.long r.1) ∧ tt_agr (XL l D dA A pz b L xs) s lc lc' ∧ s' = (r.2, s.2)) v lc' (w, s.2))) (QX := (fun E lc' w => tt_agr (XT l D dA (aLT A lc s) pz) s.1 lc lc' ∧ (fun E lc' s' => ∃ e : Nat × tt_S3, (∃ c, (cd3 (some 1) (some 2) none) e.1 = some c ∧ ∀ lc'', tt_agr (XL l D dA A pz b L xs) s lc lc'' → Q (some (.int c)) lc'' (e.2, s.2)) ∧ E = tt_exn e.1 ∧ tt_agr (XL l D dA A pz b L xs) s lc lc' ∧ s' = (e.2, s.2)) E lc' (w, s.2))) (h.mono (fun q hq => by cases q with
    | inl r => exact ⟨agr_rf, r, hq, rfl, agr_rf, rfl⟩
    | inr e => exact ⟨agr_rf, e, hq, rfl, agr_rf, rfl⟩)))) (lw_V q1265 q1266 q1267 q127 q1268) (by decide +kernel) rfl ⟨Nat.le_of_ble_eq_true rfl, Nat.le_of_ble_eq_true rfl⟩ (Nat.le_of_ble_eq_true rfl) ⟨Nat.le_of_ble_eq_true rfl, Nat.le_of_ble_eq_true rfl⟩ (fun _ _ _ h => h) dX0_signed_7 rfl (fun E lc' s' q => ?_) (fun v lc' s' q => ?_)
  · obtain ⟨e, ⟨c, hcd, hk⟩, e1, e2, e3⟩ := q
    rw [e1, e3]
    unfold cd3 at hcd
    clear e1 e3 h
    by_cases h0 : e.1 = 0
    · rw [if_pos h0] at hcd
      cases hcd
      rw [h0]
      refine ⟨14, ct_signed_0, fun q => ?_⟩
      rw [← e2 0 0 (.inl lvL_0)]
      rw [← e2 400 0 (.inl lvL_400)]
      refine v_astore [(5, .ref q), (0, .ref (lc' 0 0)), (1, .int x1), (2, .int x2), (3, .int x3), (4, .ref (lc' 400 0))] dX0_signed_14 (Nat.le_of_ble_eq_true rfl) rfl ?_
      refine v_iconst dX0_signed_16 ic_1 ?_
      exact v_iret rfl (Nat.le_of_ble_eq_true rfl) (Nat.le_of_ble_eq_true rfl) dX0_signed_17 (hk _ e2)
    by_cases h1 : e.1 = 1
    · rw [if_neg h0, if_pos h1] at hcd
      cases hcd
      rw [h1]
      refine ⟨18, ct_signed_1, fun q => ?_⟩
      rw [← e2 0 0 (.inl lvL_0)]
      rw [← e2 400 0 (.inl lvL_400)]
      refine v_astore [(5, .ref q), (0, .ref (lc' 0 0)), (1, .int x1), (2, .int x2), (3, .int x3), (4, .ref (lc' 400 0))] dX0_signed_18 (Nat.le_of_ble_eq_true rfl) rfl ?_
      refine v_iconst dX0_signed_20 ic_2 ?_
      exact v_iret rfl (Nat.le_of_ble_eq_true rfl) (Nat.le_of_ble_eq_true rfl) dX0_signed_21 (hk _ e2)
    rw [if_neg h0, if_neg h1] at hcd
    cases hcd
  · obtain ⟨r, hk, e1, e2, e3⟩ := q
    rw [e1, e3]
    clear e1 e3 h
    rw [← e2 0 0 (.inl lvL_0)]
    rw [← e2 400 0 (.inl lvL_400)]
    refine sL_400 (by decide) dX0_signed_10 ?_
    refine v_goto (tgt := 22) dX0_signed_11 rfl ?_
    refine v_iconst dX0_signed_22 ic_0 ?_
    exact v_iret rfl (Nat.le_of_ble_eq_true rfl) (Nat.le_of_ble_eq_true rfl) dX0_signed_23 (hk _ e2)
def hh_year : List (Nat × Nat × Nat × Nat) := [(0, 9, 12, 13)]
abbrev rL_year : Room := { frames := 10, cells := 2, slots := 12, locals := 3103 }
theorem ct_year_1 {l : Launch} {D : va_G} {dA : Nat → ClassId} {A : Nat → Prop} {pz b L : Nat} {xs : Nat → Int32} : tt_ct (XL l D dA A pz b L xs) RX0 hh_year 5 (tt_exn 1) 12 :=
  ⟨[], ⟨0, 9, 12, 13⟩, [], "java/lang/IllegalArgumentException", rfl, (fun z hz => nomatch hz), by decide, by decide, q940, q209, rfl⟩
set_option maxHeartbeats 4000000 in
theorem mL_year (l : Launch) (D : va_G) (dA : Nat → ClassId) (A : Nat → Prop) (pz b L : Nat) (xs : Nat → Int32) (hl9 : l.stackTraces = false) (lc : Nat → Nat → Nat) (s : tt_SL) (x1 : Int32) (x2 : Int32) {Q : Option Value → (Nat → Nat → Nat) → tt_SL → Prop} (h : Ok (wrapL (fT_year s.1 x1 x2) s (cd3 none (some 1) none)) (fun r => ∀ lc', tt_agr (XL l D dA A pz b L xs) s lc lc' → Q (some (.int r.1)) lc' r.2)) : tt_SpW (XL l D dA A pz b L xs) yX0_year cX0_year 5 (some .int) hh_year rL_year [.ref (lc 0 0), .int x1, .int x2, .ref (lc 400 0)] lc s Q := by
  refine tt_SpW.ofV plX0 kokL (Nat.le_of_ble_eq_true rfl) ?_
  show tt_V (XL l D dA A pz b L xs) cX0_year (RX0, 5, (some .int), rL_year, tt_hh hh_year) (tt_fn (XL l D dA A pz b L xs) (RX0, 5, (some .int), rL_year, tt_hh hh_year) Q) 0 [(0, .ref (lc 0 0)), (1, .int x1), (2, .int x2), (3, .ref (lc 400 0))] [] lc s 0 0
  have h := Ok.wrapL h
  refine v_aload_n 3 dX0_year_0 rfl ?_
  refine v_iconst dX0_year_1 ic_0 ?_
  refine v_aload_n 0 dX0_year_2 rfl ?_
  refine v_iload_n 1 dX0_year_3 rfl ?_
  refine v_iload_n 2 dX0_year_4 rfl ?_
  refine v_callVXh (hh := hh_year) (kd := 0) (i := 0) (nA := 2) (As := [.int x1, .int x2]) (rest := [.int 0, .ref (lc 400 0)]) (Q' := (fun v lc' s' => ∃ r : Int64 × tt_S3, (∀ lc'', tt_agr (XL l D dA A pz b L xs) s lc lc'' → Q (some (.int 0)) lc'' (r.2, s.2.1, wrL s.2.2 0 0 0 r.1)) ∧ v = some (Value.long r.1) ∧ tt_agr (XL l D dA A pz b L xs) s lc lc' ∧ s' = (r.2, s.2))) (QX' := (fun E lc' s' => ∃ e : Nat × tt_S3, (∃ c, (cd3 none (some 1) none) e.1 = some c ∧ ∀ lc'', tt_agr (XL l D dA A pz b L xs) s lc lc'' → Q (some (.int c)) lc'' (e.2, s.2)) ∧ E = tt_exn e.1 ∧ tt_agr (XL l D dA A pz b L xs) s lc lc' ∧ s' = (e.2, s.2))) knL lvL_0 oL_0 rfl (liftTX (Q := (fun v lc' s' => ∃ r : Int64 × tt_S3, (∀ lc'', tt_agr (XL l D dA A pz b L xs) s lc lc'' → Q (some (.int 0)) lc'' (r.2, s.2.1, wrL s.2.2 0 0 0 r.1)) ∧ v = some (Value.long r.1) ∧ tt_agr (XL l D dA A pz b L xs) s lc lc' ∧ s' = (r.2, s.2))) (QX := (fun E lc' s' => ∃ e : Nat × tt_S3, (∃ c, (cd3 none (some 1) none) e.1 = some c ∧ ∀ lc'', tt_agr (XL l D dA A pz b L xs) s lc lc'' → Q (some (.int c)) lc'' (e.2, s.2)) ∧ E = tt_exn e.1 ∧ tt_agr (XL l D dA A pz b L xs) s lc lc' ∧ s' = (e.2, s.2))) (mT_year l D dA (aLT A lc s) pz hl9 lc s.1 x1 x2 (Q := (fun v lc' w => tt_agr (XT l D dA (aLT A lc s) pz) s.1 lc lc' ∧ (fun v lc' s' => ∃ r : Int64 × tt_S3, (∀ lc'', tt_agr (XL l D dA A pz b L xs) s lc lc'' → Q (some (.int 0)) lc'' (r.2, s.2.1, wrL s.2.2 0 0 0 r.1)) ∧ v = some (Value.long r.1) ∧ tt_agr (XL l D dA A pz b L xs) s lc lc' ∧ s' = (r.2, s.2)) v lc' (w, s.2))) (QX := (fun E lc' w => tt_agr (XT l D dA (aLT A lc s) pz) s.1 lc lc' ∧ (fun E lc' s' => ∃ e : Nat × tt_S3, (∃ c, (cd3 none (some 1) none) e.1 = some c ∧ ∀ lc'', tt_agr (XL l D dA A pz b L xs) s lc lc'' → Q (some (.int c)) lc'' (e.2, s.2)) ∧ E = tt_exn e.1 ∧ tt_agr (XL l D dA A pz b L xs) s lc lc' ∧ s' = (e.2, s.2)) E lc' (w, s.2))) (h.mono (fun q hq => by cases q with
    | inl r => exact ⟨agr_rf, r, hq, rfl, agr_rf, rfl⟩
    | inr e => exact ⟨agr_rf, e, hq, rfl, agr_rf, rfl⟩)))) (lw_V q1278 q1279 q1280 q127 q1281) (by decide +kernel) rfl ⟨Nat.le_of_ble_eq_true rfl, Nat.le_of_ble_eq_true rfl⟩ (Nat.le_of_ble_eq_true rfl) ⟨Nat.le_of_ble_eq_true rfl, Nat.le_of_ble_eq_true rfl⟩ (fun _ _ _ h => h) dX0_year_5 rfl (fun E lc' s' q => ?_) (fun v lc' s' q => ?_)
  · obtain ⟨e, ⟨c, hcd, hk⟩, e1, e2, e3⟩ := q
    rw [e1, e3]
    unfold cd3 at hcd
    clear e1 e3 h
    by_cases h0 : e.1 = 0
    · rw [if_pos h0] at hcd
      cases hcd
    by_cases h1 : e.1 = 1
    · rw [if_neg h0, if_pos h1] at hcd
      cases hcd
      rw [h1]
      refine ⟨12, ct_year_1, fun q => ?_⟩
      rw [← e2 0 0 (.inl lvL_0)]
      rw [← e2 400 0 (.inl lvL_400)]
      refine v_astore [(4, .ref q), (0, .ref (lc' 0 0)), (1, .int x1), (2, .int x2), (3, .ref (lc' 400 0))] dX0_year_12 (Nat.le_of_ble_eq_true rfl) rfl ?_
      refine v_iconst dX0_year_14 ic_1 ?_
      exact v_iret rfl (Nat.le_of_ble_eq_true rfl) (Nat.le_of_ble_eq_true rfl) dX0_year_15 (hk _ e2)
    rw [if_neg h0, if_neg h1] at hcd
    cases hcd
  · obtain ⟨r, hk, e1, e2, e3⟩ := q
    rw [e1, e3]
    clear e1 e3 h
    rw [← e2 0 0 (.inl lvL_0)]
    rw [← e2 400 0 (.inl lvL_400)]
    refine sL_400 (by decide) dX0_year_8 ?_
    refine v_goto (tgt := 16) dX0_year_9 rfl ?_
    refine v_iconst dX0_year_16 ic_0 ?_
    exact v_iret rfl (Nat.le_of_ble_eq_true rfl) (Nat.le_of_ble_eq_true rfl) dX0_year_17 (hk _ e2)
def hh_at : List (Nat × Nat × Nat × Nat) := [(0, 10, 13, 13)]
abbrev rL_at : Room := { frames := 10, cells := 2, slots := 12, locals := 185 }
theorem ct_at_1 {l : Launch} {D : va_G} {dA : Nat → ClassId} {A : Nat → Prop} {pz b L : Nat} {xs : Nat → Int32} : tt_ct (XL l D dA A pz b L xs) RX0 hh_at 5 (tt_exn 1) 13 :=
  ⟨[], ⟨0, 10, 13, 13⟩, [], "java/lang/IllegalArgumentException", rfl, (fun z hz => nomatch hz), by decide, by decide, q940, q209, rfl⟩
set_option maxHeartbeats 4000000 in
theorem mL_at (l : Launch) (D : va_G) (dA : Nat → ClassId) (A : Nat → Prop) (pz b L : Nat) (xs : Nat → Int32) (hl9 : l.stackTraces = false) (lc : Nat → Nat → Nat) (s : tt_SL) (x1 : Int32) (x2 : Int32) {Q : Option Value → (Nat → Nat → Nat) → tt_SL → Prop} (h : Ok (wrapI (fT_at s.1 x1 x2) s (cd3 none (some 1) none)) (fun r => ∀ lc', tt_agr (XL l D dA A pz b L xs) s lc lc' → Q (some (.int r.1)) lc' r.2)) : tt_SpW (XL l D dA A pz b L xs) yX0_at cX0_at 5 (some .int) hh_at rL_at [.ref (lc 0 0), .int x1, .int x2, .ref (lc 400 0)] lc s Q := by
  refine tt_SpW.ofV plX0 kokL (Nat.le_of_ble_eq_true rfl) ?_
  show tt_V (XL l D dA A pz b L xs) cX0_at (RX0, 5, (some .int), rL_at, tt_hh hh_at) (tt_fn (XL l D dA A pz b L xs) (RX0, 5, (some .int), rL_at, tt_hh hh_at) Q) 0 [(0, .ref (lc 0 0)), (1, .int x1), (2, .int x2), (3, .ref (lc 400 0))] [] lc s 0 0
  have h := Ok.wrapI h
  refine v_aload_n 3 dX0_at_0 rfl ?_
  refine v_iconst dX0_at_1 ic_0 ?_
  refine v_aload_n 0 dX0_at_2 rfl ?_
  refine v_iload_n 1 dX0_at_3 rfl ?_
  refine v_iload_n 2 dX0_at_4 rfl ?_
  refine v_callVXh (hh := hh_at) (kd := 0) (i := 0) (nA := 2) (As := [.int x1, .int x2]) (rest := [.int 0, .ref (lc 400 0)]) (Q' := (fun v lc' s' => ∃ r : Int32 × tt_S3, (∀ lc'', tt_agr (XL l D dA A pz b L xs) s lc lc'' → Q (some (.int 0)) lc'' (r.2, s.2.1, wrL s.2.2 0 0 0 r.1.toInt64)) ∧ v = some (Value.int r.1) ∧ tt_agr (XL l D dA A pz b L xs) s lc lc' ∧ s' = (r.2, s.2))) (QX' := (fun E lc' s' => ∃ e : Nat × tt_S3, (∃ c, (cd3 none (some 1) none) e.1 = some c ∧ ∀ lc'', tt_agr (XL l D dA A pz b L xs) s lc lc'' → Q (some (.int c)) lc'' (e.2, s.2)) ∧ E = tt_exn e.1 ∧ tt_agr (XL l D dA A pz b L xs) s lc lc' ∧ s' = (e.2, s.2))) knL lvL_0 oL_0 rfl (liftTX (Q := (fun v lc' s' => ∃ r : Int32 × tt_S3, (∀ lc'', tt_agr (XL l D dA A pz b L xs) s lc lc'' → Q (some (.int 0)) lc'' (r.2, s.2.1, wrL s.2.2 0 0 0 r.1.toInt64)) ∧ v = some (Value.int r.1) ∧ tt_agr (XL l D dA A pz b L xs) s lc lc' ∧ s' = (r.2, s.2))) (QX := (fun E lc' s' => ∃ e : Nat × tt_S3, (∃ c, (cd3 none (some 1) none) e.1 = some c ∧ ∀ lc'', tt_agr (XL l D dA A pz b L xs) s lc lc'' → Q (some (.int c)) lc'' (e.2, s.2)) ∧ E = tt_exn e.1 ∧ tt_agr (XL l D dA A pz b L xs) s lc lc' ∧ s' = (e.2, s.2))) (mT_at l D dA (aLT A lc s) pz hl9 lc s.1 x1 x2 (Q := (fun v lc' w => tt_agr (XT l D dA (aLT A lc s) pz) s.1 lc lc' ∧ (fun v lc' s' => ∃ r : Int32 × tt_S3, (∀ lc'', tt_agr (XL l D dA A pz b L xs) s lc lc'' → Q (some (.int 0)) lc'' (r.2, s.2.1, wrL s.2.2 0 0 0 r.1.toInt64)) ∧ v = some (Value.int r.1) ∧ tt_agr (XL l D dA A pz b L xs) s lc lc' ∧ s' = (r.2, s.2)) v lc' (w, s.2))) (QX := (fun E lc' w => tt_agr (XT l D dA (aLT A lc s) pz) s.1 lc lc' ∧ (fun E lc' s' => ∃ e : Nat × tt_S3, (∃ c, (cd3 none (some 1) none) e.1 = some c ∧ ∀ lc'', tt_agr (XL l D dA A pz b L xs) s lc lc'' → Q (some (.int c)) lc'' (e.2, s.2)) ∧ E = tt_exn e.1 ∧ tt_agr (XL l D dA A pz b L xs) s lc lc' ∧ s' = (e.2, s.2)) E lc' (w, s.2))) (h.mono (fun q hq => by cases q with
    | inl r => exact ⟨agr_rf, r, hq, rfl, agr_rf, rfl⟩
    | inr e => exact ⟨agr_rf, e, hq, rfl, agr_rf, rfl⟩)))) (lw_V q1303 q1304 q1305 q127 q1306) (by decide +kernel) rfl ⟨Nat.le_of_ble_eq_true rfl, Nat.le_of_ble_eq_true rfl⟩ (Nat.le_of_ble_eq_true rfl) ⟨Nat.le_of_ble_eq_true rfl, Nat.le_of_ble_eq_true rfl⟩ (fun _ _ _ h => h) dX0_at_5 rfl (fun E lc' s' q => ?_) (fun v lc' s' q => ?_)
  · obtain ⟨e, ⟨c, hcd, hk⟩, e1, e2, e3⟩ := q
    rw [e1, e3]
    unfold cd3 at hcd
    clear e1 e3 h
    by_cases h0 : e.1 = 0
    · rw [if_pos h0] at hcd
      cases hcd
    by_cases h1 : e.1 = 1
    · rw [if_neg h0, if_pos h1] at hcd
      cases hcd
      rw [h1]
      refine ⟨13, ct_at_1, fun q => ?_⟩
      rw [← e2 0 0 (.inl lvL_0)]
      rw [← e2 400 0 (.inl lvL_400)]
      refine v_astore [(4, .ref q), (0, .ref (lc' 0 0)), (1, .int x1), (2, .int x2), (3, .ref (lc' 400 0))] dX0_at_13 (Nat.le_of_ble_eq_true rfl) rfl ?_
      refine v_iconst dX0_at_15 ic_1 ?_
      exact v_iret rfl (Nat.le_of_ble_eq_true rfl) (Nat.le_of_ble_eq_true rfl) dX0_at_16 (hk _ e2)
    rw [if_neg h0, if_neg h1] at hcd
    cases hcd
  · obtain ⟨r, hk, e1, e2, e3⟩ := q
    rw [e1, e3]
    clear e1 e3 h
    rw [← e2 0 0 (.inl lvL_0)]
    rw [← e2 400 0 (.inl lvL_400)]
    refine v_i2l dX0_at_8 rfl ?_
    refine sL_400 (by decide) dX0_at_9 ?_
    refine v_goto (tgt := 17) dX0_at_10 rfl ?_
    refine v_iconst dX0_at_17 ic_0 ?_
    exact v_iret rfl (Nat.le_of_ble_eq_true rfl) (Nat.le_of_ble_eq_true rfl) dX0_at_18 (hk _ e2)
def hh_rung : List (Nat × Nat × Nat × Nat) := [(0, 10, 13, 13)]
abbrev rL_rung : Room := { frames := 10, cells := 2, slots := 12, locals := 183 }
theorem ct_rung_1 {l : Launch} {D : va_G} {dA : Nat → ClassId} {A : Nat → Prop} {pz b L : Nat} {xs : Nat → Int32} : tt_ct (XL l D dA A pz b L xs) RX0 hh_rung 5 (tt_exn 1) 13 :=
  ⟨[], ⟨0, 10, 13, 13⟩, [], "java/lang/IllegalArgumentException", rfl, (fun z hz => nomatch hz), by decide, by decide, q940, q209, rfl⟩
set_option maxHeartbeats 4000000 in
theorem mL_rung (l : Launch) (D : va_G) (dA : Nat → ClassId) (A : Nat → Prop) (pz b L : Nat) (xs : Nat → Int32) (hl9 : l.stackTraces = false) (lc : Nat → Nat → Nat) (s : tt_SL) (x1 : Int32) (x2 : Int32) {Q : Option Value → (Nat → Nat → Nat) → tt_SL → Prop} (h : Ok (wrapI (fT_rung s.1 x1 x2) s (cd3 none (some 1) none)) (fun r => ∀ lc', tt_agr (XL l D dA A pz b L xs) s lc lc' → Q (some (.int r.1)) lc' r.2)) : tt_SpW (XL l D dA A pz b L xs) yX0_rung cX0_rung 5 (some .int) hh_rung rL_rung [.ref (lc 0 0), .int x1, .int x2, .ref (lc 400 0)] lc s Q := by
  refine tt_SpW.ofV plX0 kokL (Nat.le_of_ble_eq_true rfl) ?_
  show tt_V (XL l D dA A pz b L xs) cX0_rung (RX0, 5, (some .int), rL_rung, tt_hh hh_rung) (tt_fn (XL l D dA A pz b L xs) (RX0, 5, (some .int), rL_rung, tt_hh hh_rung) Q) 0 [(0, .ref (lc 0 0)), (1, .int x1), (2, .int x2), (3, .ref (lc 400 0))] [] lc s 0 0
  have h := Ok.wrapI h
  refine v_aload_n 3 dX0_rung_0 rfl ?_
  refine v_iconst dX0_rung_1 ic_0 ?_
  refine v_aload_n 0 dX0_rung_2 rfl ?_
  refine v_iload_n 1 dX0_rung_3 rfl ?_
  refine v_iload_n 2 dX0_rung_4 rfl ?_
  refine v_callVXh (hh := hh_rung) (kd := 0) (i := 0) (nA := 2) (As := [.int x1, .int x2]) (rest := [.int 0, .ref (lc 400 0)]) (Q' := (fun v lc' s' => ∃ r : Int32 × tt_S3, (∀ lc'', tt_agr (XL l D dA A pz b L xs) s lc lc'' → Q (some (.int 0)) lc'' (r.2, s.2.1, wrL s.2.2 0 0 0 r.1.toInt64)) ∧ v = some (Value.int r.1) ∧ tt_agr (XL l D dA A pz b L xs) s lc lc' ∧ s' = (r.2, s.2))) (QX' := (fun E lc' s' => ∃ e : Nat × tt_S3, (∃ c, (cd3 none (some 1) none) e.1 = some c ∧ ∀ lc'', tt_agr (XL l D dA A pz b L xs) s lc lc'' → Q (some (.int c)) lc'' (e.2, s.2)) ∧ E = tt_exn e.1 ∧ tt_agr (XL l D dA A pz b L xs) s lc lc' ∧ s' = (e.2, s.2))) knL lvL_0 oL_0 rfl (liftTX (Q := (fun v lc' s' => ∃ r : Int32 × tt_S3, (∀ lc'', tt_agr (XL l D dA A pz b L xs) s lc lc'' → Q (some (.int 0)) lc'' (r.2, s.2.1, wrL s.2.2 0 0 0 r.1.toInt64)) ∧ v = some (Value.int r.1) ∧ tt_agr (XL l D dA A pz b L xs) s lc lc' ∧ s' = (r.2, s.2))) (QX := (fun E lc' s' => ∃ e : Nat × tt_S3, (∃ c, (cd3 none (some 1) none) e.1 = some c ∧ ∀ lc'', tt_agr (XL l D dA A pz b L xs) s lc lc'' → Q (some (.int c)) lc'' (e.2, s.2)) ∧ E = tt_exn e.1 ∧ tt_agr (XL l D dA A pz b L xs) s lc lc' ∧ s' = (e.2, s.2))) (mT_rung l D dA (aLT A lc s) pz hl9 lc s.1 x1 x2 (Q := (fun v lc' w => tt_agr (XT l D dA (aLT A lc s) pz) s.1 lc lc' ∧ (fun v lc' s' => ∃ r : Int32 × tt_S3, (∀ lc'', tt_agr (XL l D dA A pz b L xs) s lc lc'' → Q (some (.int 0)) lc'' (r.2, s.2.1, wrL s.2.2 0 0 0 r.1.toInt64)) ∧ v = some (Value.int r.1) ∧ tt_agr (XL l D dA A pz b L xs) s lc lc' ∧ s' = (r.2, s.2)) v lc' (w, s.2))) (QX := (fun E lc' w => tt_agr (XT l D dA (aLT A lc s) pz) s.1 lc lc' ∧ (fun E lc' s' => ∃ e : Nat × tt_S3, (∃ c, (cd3 none (some 1) none) e.1 = some c ∧ ∀ lc'', tt_agr (XL l D dA A pz b L xs) s lc lc'' → Q (some (.int c)) lc'' (e.2, s.2)) ∧ E = tt_exn e.1 ∧ tt_agr (XL l D dA A pz b L xs) s lc lc' ∧ s' = (e.2, s.2)) E lc' (w, s.2))) (h.mono (fun q hq => by cases q with
    | inl r => exact ⟨agr_rf, r, hq, rfl, agr_rf, rfl⟩
    | inr e => exact ⟨agr_rf, e, hq, rfl, agr_rf, rfl⟩)))) (lw_V q1310 q1311 q1312 q127 q1313) (by decide +kernel) rfl ⟨Nat.le_of_ble_eq_true rfl, Nat.le_of_ble_eq_true rfl⟩ (Nat.le_of_ble_eq_true rfl) ⟨Nat.le_of_ble_eq_true rfl, Nat.le_of_ble_eq_true rfl⟩ (fun _ _ _ h => h) dX0_rung_5 rfl (fun E lc' s' q => ?_) (fun v lc' s' q => ?_)
  · obtain ⟨e, ⟨c, hcd, hk⟩, e1, e2, e3⟩ := q
    rw [e1, e3]
    unfold cd3 at hcd
    clear e1 e3 h
    by_cases h0 : e.1 = 0
    · rw [if_pos h0] at hcd
      cases hcd
    by_cases h1 : e.1 = 1
    · rw [if_neg h0, if_pos h1] at hcd
      cases hcd
      rw [h1]
      refine ⟨13, ct_rung_1, fun q => ?_⟩
      rw [← e2 0 0 (.inl lvL_0)]
      rw [← e2 400 0 (.inl lvL_400)]
      refine v_astore [(4, .ref q), (0, .ref (lc' 0 0)), (1, .int x1), (2, .int x2), (3, .ref (lc' 400 0))] dX0_rung_13 (Nat.le_of_ble_eq_true rfl) rfl ?_
      refine v_iconst dX0_rung_15 ic_1 ?_
      exact v_iret rfl (Nat.le_of_ble_eq_true rfl) (Nat.le_of_ble_eq_true rfl) dX0_rung_16 (hk _ e2)
    rw [if_neg h0, if_neg h1] at hcd
    cases hcd
  · obtain ⟨r, hk, e1, e2, e3⟩ := q
    rw [e1, e3]
    clear e1 e3 h
    rw [← e2 0 0 (.inl lvL_0)]
    rw [← e2 400 0 (.inl lvL_400)]
    refine v_i2l dX0_rung_8 rfl ?_
    refine sL_400 (by decide) dX0_rung_9 ?_
    refine v_goto (tgt := 17) dX0_rung_10 rfl ?_
    refine v_iconst dX0_rung_17 ic_0 ?_
    exact v_iret rfl (Nat.le_of_ble_eq_true rfl) (Nat.le_of_ble_eq_true rfl) dX0_rung_18 (hk _ e2)
def hh_damage : List (Nat × Nat × Nat × Nat) := [(0, 9, 12, 21), (0, 9, 16, 13)]
abbrev rL_damage : Room := { frames := 10, cells := 2, slots := 12, locals := 183 }
theorem ct_damage_0 {l : Launch} {D : va_G} {dA : Nat → ClassId} {A : Nat → Prop} {pz b L : Nat} {xs : Nat → Int32} : tt_ct (XL l D dA A pz b L xs) RX0 hh_damage 5 (tt_exn 0) 12 :=
  ⟨[], ⟨0, 9, 12, 21⟩, [⟨0, 9, 16, 13⟩], "java/util/NoSuchElementException", rfl, (fun z hz => nomatch hz), by decide, by decide, q1017, q1032, rfl⟩
theorem ct_damage_1 {l : Launch} {D : va_G} {dA : Nat → ClassId} {A : Nat → Prop} {pz b L : Nat} {xs : Nat → Int32} : tt_ct (XL l D dA A pz b L xs) RX0 hh_damage 5 (tt_exn 1) 16 :=
  ⟨[⟨0, 9, 12, 21⟩], ⟨0, 9, 16, 13⟩, [], "java/lang/IllegalArgumentException", rfl, (fun z hz => by cases List.mem_singleton.mp hz; exact ⟨by decide, _, q1017, nc_L (a := 1) (c := 0) (by decide) (by decide) (by decide)⟩), by decide, by decide, q940, q209, rfl⟩
set_option maxHeartbeats 4000000 in
theorem mL_damage (l : Launch) (D : va_G) (dA : Nat → ClassId) (A : Nat → Prop) (pz b L : Nat) (xs : Nat → Int32) (hl9 : l.stackTraces = false) (lc : Nat → Nat → Nat) (s : tt_SL) (x1 : Int32) (x2 : Int32) {Q : Option Value → (Nat → Nat → Nat) → tt_SL → Prop} (h : Ok (wrapL (fT_damage s.1 x1 x2) s (cd3 (some 1) (some 2) none)) (fun r => ∀ lc', tt_agr (XL l D dA A pz b L xs) s lc lc' → Q (some (.int r.1)) lc' r.2)) : tt_SpW (XL l D dA A pz b L xs) yX0_damage cX0_damage 5 (some .int) hh_damage rL_damage [.ref (lc 0 0), .int x1, .int x2, .ref (lc 400 0)] lc s Q := by
  refine tt_SpW.ofV plX0 kokL (Nat.le_of_ble_eq_true rfl) ?_
  show tt_V (XL l D dA A pz b L xs) cX0_damage (RX0, 5, (some .int), rL_damage, tt_hh hh_damage) (tt_fn (XL l D dA A pz b L xs) (RX0, 5, (some .int), rL_damage, tt_hh hh_damage) Q) 0 [(0, .ref (lc 0 0)), (1, .int x1), (2, .int x2), (3, .ref (lc 400 0))] [] lc s 0 0
  have h := Ok.wrapL h
  refine v_aload_n 3 dX0_damage_0 rfl ?_
  refine v_iconst dX0_damage_1 ic_0 ?_
  refine v_aload_n 0 dX0_damage_2 rfl ?_
  refine v_iload_n 1 dX0_damage_3 rfl ?_
  refine v_iload_n 2 dX0_damage_4 rfl ?_
  refine v_callVXh (hh := hh_damage) (kd := 0) (i := 0) (nA := 2) (As := [.int x1, .int x2]) (rest := [.int 0, .ref (lc 400 0)]) (Q' := (fun v lc' s' => ∃ r : Int64 × tt_S3, (∀ lc'', tt_agr (XL l D dA A pz b L xs) s lc lc'' → Q (some (.int 0)) lc'' (r.2, s.2.1, wrL s.2.2 0 0 0 r.1)) ∧ v = some (Value.long r.1) ∧ tt_agr (XL l D dA A pz b L xs) s lc lc' ∧ s' = (r.2, s.2))) (QX' := (fun E lc' s' => ∃ e : Nat × tt_S3, (∃ c, (cd3 (some 1) (some 2) none) e.1 = some c ∧ ∀ lc'', tt_agr (XL l D dA A pz b L xs) s lc lc'' → Q (some (.int c)) lc'' (e.2, s.2)) ∧ E = tt_exn e.1 ∧ tt_agr (XL l D dA A pz b L xs) s lc lc' ∧ s' = (e.2, s.2))) knL lvL_0 oL_0 rfl (liftTX (Q := (fun v lc' s' => ∃ r : Int64 × tt_S3, (∀ lc'', tt_agr (XL l D dA A pz b L xs) s lc lc'' → Q (some (.int 0)) lc'' (r.2, s.2.1, wrL s.2.2 0 0 0 r.1)) ∧ v = some (Value.long r.1) ∧ tt_agr (XL l D dA A pz b L xs) s lc lc' ∧ s' = (r.2, s.2))) (QX := (fun E lc' s' => ∃ e : Nat × tt_S3, (∃ c, (cd3 (some 1) (some 2) none) e.1 = some c ∧ ∀ lc'', tt_agr (XL l D dA A pz b L xs) s lc lc'' → Q (some (.int c)) lc'' (e.2, s.2)) ∧ E = tt_exn e.1 ∧ tt_agr (XL l D dA A pz b L xs) s lc lc' ∧ s' = (e.2, s.2))) (mT_damage l D dA (aLT A lc s) pz hl9 lc s.1 x1 x2 (Q := (fun v lc' w => tt_agr (XT l D dA (aLT A lc s) pz) s.1 lc lc' ∧ (fun v lc' s' => ∃ r : Int64 × tt_S3, (∀ lc'', tt_agr (XL l D dA A pz b L xs) s lc lc'' → Q (some (.int 0)) lc'' (r.2, s.2.1, wrL s.2.2 0 0 0 r.1)) ∧ v = some (Value.long r.1) ∧ tt_agr (XL l D dA A pz b L xs) s lc lc' ∧ s' = (r.2, s.2)) v lc' (w, s.2))) (QX := (fun E lc' w => tt_agr (XT l D dA (aLT A lc s) pz) s.1 lc lc' ∧ (fun E lc' s' => ∃ e : Nat × tt_S3, (∃ c, (cd3 (some 1) (some 2) none) e.1 = some c ∧ ∀ lc'', tt_agr (XL l D dA A pz b L xs) s lc lc'' → Q (some (.int c)) lc'' (e.2, s.2)) ∧ E = tt_exn e.1 ∧ tt_agr (XL l D dA A pz b L xs) s lc lc' ∧ s' = (e.2, s.2)) E lc' (w, s.2))) (h.mono (fun q hq => by cases q with
    | inl r => exact ⟨agr_rf, r, hq, rfl, agr_rf, rfl⟩
    | inr e => exact ⟨agr_rf, e, hq, rfl, agr_rf, rfl⟩)))) (lw_V q1317 q1318 q1319 q127 q1320) (by decide +kernel) rfl ⟨Nat.le_of_ble_eq_true rfl, Nat.le_of_ble_eq_true rfl⟩ (Nat.le_of_ble_eq_true rfl) ⟨Nat.le_of_ble_eq_true rfl, Nat.le_of_ble_eq_true rfl⟩ (fun _ _ _ h => h) dX0_damage_5 rfl (fun E lc' s' q => ?_) (fun v lc' s' q => ?_)
  · obtain ⟨e, ⟨c, hcd, hk⟩, e1, e2, e3⟩ := q
    rw [e1, e3]
    unfold cd3 at hcd
    clear e1 e3 h
    by_cases h0 : e.1 = 0
    · rw [if_pos h0] at hcd
      cases hcd
      rw [h0]
      refine ⟨12, ct_damage_0, fun q => ?_⟩
      rw [← e2 0 0 (.inl lvL_0)]
      rw [← e2 400 0 (.inl lvL_400)]
      refine v_astore [(4, .ref q), (0, .ref (lc' 0 0)), (1, .int x1), (2, .int x2), (3, .ref (lc' 400 0))] dX0_damage_12 (Nat.le_of_ble_eq_true rfl) rfl ?_
      refine v_iconst dX0_damage_14 ic_1 ?_
      exact v_iret rfl (Nat.le_of_ble_eq_true rfl) (Nat.le_of_ble_eq_true rfl) dX0_damage_15 (hk _ e2)
    by_cases h1 : e.1 = 1
    · rw [if_neg h0, if_pos h1] at hcd
      cases hcd
      rw [h1]
      refine ⟨16, ct_damage_1, fun q => ?_⟩
      rw [← e2 0 0 (.inl lvL_0)]
      rw [← e2 400 0 (.inl lvL_400)]
      refine v_astore [(4, .ref q), (0, .ref (lc' 0 0)), (1, .int x1), (2, .int x2), (3, .ref (lc' 400 0))] dX0_damage_16 (Nat.le_of_ble_eq_true rfl) rfl ?_
      refine v_iconst dX0_damage_18 ic_2 ?_
      exact v_iret rfl (Nat.le_of_ble_eq_true rfl) (Nat.le_of_ble_eq_true rfl) dX0_damage_19 (hk _ e2)
    rw [if_neg h0, if_neg h1] at hcd
    cases hcd
  · obtain ⟨r, hk, e1, e2, e3⟩ := q
    rw [e1, e3]
    clear e1 e3 h
    rw [← e2 0 0 (.inl lvL_0)]
    rw [← e2 400 0 (.inl lvL_400)]
    refine sL_400 (by decide) dX0_damage_8 ?_
    refine v_goto (tgt := 20) dX0_damage_9 rfl ?_
    refine v_iconst dX0_damage_20 ic_0 ?_
    exact v_iret rfl (Nat.le_of_ble_eq_true rfl) (Nat.le_of_ble_eq_true rfl) dX0_damage_21 (hk _ e2)
def hh_took : List (Nat × Nat × Nat × Nat) := [(0, 9, 12, 21)]
abbrev rL_took : Room := { frames := 10, cells := 2, slots := 12, locals := 182 }
theorem ct_took_0 {l : Launch} {D : va_G} {dA : Nat → ClassId} {A : Nat → Prop} {pz b L : Nat} {xs : Nat → Int32} : tt_ct (XL l D dA A pz b L xs) RX0 hh_took 5 (tt_exn 0) 12 :=
  ⟨[], ⟨0, 9, 12, 21⟩, [], "java/util/NoSuchElementException", rfl, (fun z hz => nomatch hz), by decide, by decide, q1017, q1032, rfl⟩
set_option maxHeartbeats 4000000 in
theorem mL_took (l : Launch) (D : va_G) (dA : Nat → ClassId) (A : Nat → Prop) (pz b L : Nat) (xs : Nat → Int32) (hl9 : l.stackTraces = false) (lc : Nat → Nat → Nat) (s : tt_SL) (x1 : Int32) (x2 : Int32) {Q : Option Value → (Nat → Nat → Nat) → tt_SL → Prop} (h : Ok (wrapL (fT_took s.1 x1 x2) s (cd3 (some 1) none none)) (fun r => ∀ lc', tt_agr (XL l D dA A pz b L xs) s lc lc' → Q (some (.int r.1)) lc' r.2)) : tt_SpW (XL l D dA A pz b L xs) yX0_took cX0_took 5 (some .int) hh_took rL_took [.ref (lc 0 0), .int x1, .int x2, .ref (lc 400 0)] lc s Q := by
  refine tt_SpW.ofV plX0 kokL (Nat.le_of_ble_eq_true rfl) ?_
  show tt_V (XL l D dA A pz b L xs) cX0_took (RX0, 5, (some .int), rL_took, tt_hh hh_took) (tt_fn (XL l D dA A pz b L xs) (RX0, 5, (some .int), rL_took, tt_hh hh_took) Q) 0 [(0, .ref (lc 0 0)), (1, .int x1), (2, .int x2), (3, .ref (lc 400 0))] [] lc s 0 0
  have h := Ok.wrapL h
  refine v_aload_n 3 dX0_took_0 rfl ?_
  refine v_iconst dX0_took_1 ic_0 ?_
  refine v_aload_n 0 dX0_took_2 rfl ?_
  refine v_iload_n 1 dX0_took_3 rfl ?_
  refine v_iload_n 2 dX0_took_4 rfl ?_
  refine v_callVXh (hh := hh_took) (kd := 0) (i := 0) (nA := 2) (As := [.int x1, .int x2]) (rest := [.int 0, .ref (lc 400 0)]) (Q' := (fun v lc' s' => ∃ r : Int64 × tt_S3, (∀ lc'', tt_agr (XL l D dA A pz b L xs) s lc lc'' → Q (some (.int 0)) lc'' (r.2, s.2.1, wrL s.2.2 0 0 0 r.1)) ∧ v = some (Value.long r.1) ∧ tt_agr (XL l D dA A pz b L xs) s lc lc' ∧ s' = (r.2, s.2))) (QX' := (fun E lc' s' => ∃ e : Nat × tt_S3, (∃ c, (cd3 (some 1) none none) e.1 = some c ∧ ∀ lc'', tt_agr (XL l D dA A pz b L xs) s lc lc'' → Q (some (.int c)) lc'' (e.2, s.2)) ∧ E = tt_exn e.1 ∧ tt_agr (XL l D dA A pz b L xs) s lc lc' ∧ s' = (e.2, s.2))) knL lvL_0 oL_0 rfl (liftTX (Q := (fun v lc' s' => ∃ r : Int64 × tt_S3, (∀ lc'', tt_agr (XL l D dA A pz b L xs) s lc lc'' → Q (some (.int 0)) lc'' (r.2, s.2.1, wrL s.2.2 0 0 0 r.1)) ∧ v = some (Value.long r.1) ∧ tt_agr (XL l D dA A pz b L xs) s lc lc' ∧ s' = (r.2, s.2))) (QX := (fun E lc' s' => ∃ e : Nat × tt_S3, (∃ c, (cd3 (some 1) none none) e.1 = some c ∧ ∀ lc'', tt_agr (XL l D dA A pz b L xs) s lc lc'' → Q (some (.int c)) lc'' (e.2, s.2)) ∧ E = tt_exn e.1 ∧ tt_agr (XL l D dA A pz b L xs) s lc lc' ∧ s' = (e.2, s.2))) (mT_took l D dA (aLT A lc s) pz hl9 lc s.1 x1 x2 (Q := (fun v lc' w => tt_agr (XT l D dA (aLT A lc s) pz) s.1 lc lc' ∧ (fun v lc' s' => ∃ r : Int64 × tt_S3, (∀ lc'', tt_agr (XL l D dA A pz b L xs) s lc lc'' → Q (some (.int 0)) lc'' (r.2, s.2.1, wrL s.2.2 0 0 0 r.1)) ∧ v = some (Value.long r.1) ∧ tt_agr (XL l D dA A pz b L xs) s lc lc' ∧ s' = (r.2, s.2)) v lc' (w, s.2))) (QX := (fun E lc' w => tt_agr (XT l D dA (aLT A lc s) pz) s.1 lc lc' ∧ (fun E lc' s' => ∃ e : Nat × tt_S3, (∃ c, (cd3 (some 1) none none) e.1 = some c ∧ ∀ lc'', tt_agr (XL l D dA A pz b L xs) s lc lc'' → Q (some (.int c)) lc'' (e.2, s.2)) ∧ E = tt_exn e.1 ∧ tt_agr (XL l D dA A pz b L xs) s lc lc' ∧ s' = (e.2, s.2)) E lc' (w, s.2))) (h.mono (fun q hq => by cases q with
    | inl r => exact ⟨agr_rf, r, hq, rfl, agr_rf, rfl⟩
    | inr e => exact ⟨agr_rf, e, hq, rfl, agr_rf, rfl⟩)))) (lw_V q1324 q1325 q1326 q127 q1327) (by decide +kernel) rfl ⟨Nat.le_of_ble_eq_true rfl, Nat.le_of_ble_eq_true rfl⟩ (Nat.le_of_ble_eq_true rfl) ⟨Nat.le_of_ble_eq_true rfl, Nat.le_of_ble_eq_true rfl⟩ (fun _ _ _ h => h) dX0_took_5 rfl (fun E lc' s' q => ?_) (fun v lc' s' q => ?_)
  · obtain ⟨e, ⟨c, hcd, hk⟩, e1, e2, e3⟩ := q
    rw [e1, e3]
    unfold cd3 at hcd
    clear e1 e3 h
    by_cases h0 : e.1 = 0
    · rw [if_pos h0] at hcd
      cases hcd
      rw [h0]
      refine ⟨12, ct_took_0, fun q => ?_⟩
      rw [← e2 0 0 (.inl lvL_0)]
      rw [← e2 400 0 (.inl lvL_400)]
      refine v_astore [(4, .ref q), (0, .ref (lc' 0 0)), (1, .int x1), (2, .int x2), (3, .ref (lc' 400 0))] dX0_took_12 (Nat.le_of_ble_eq_true rfl) rfl ?_
      refine v_iconst dX0_took_14 ic_1 ?_
      exact v_iret rfl (Nat.le_of_ble_eq_true rfl) (Nat.le_of_ble_eq_true rfl) dX0_took_15 (hk _ e2)
    by_cases h1 : e.1 = 1
    · rw [if_neg h0, if_pos h1] at hcd
      cases hcd
    rw [if_neg h0, if_neg h1] at hcd
    cases hcd
  · obtain ⟨r, hk, e1, e2, e3⟩ := q
    rw [e1, e3]
    clear e1 e3 h
    rw [← e2 0 0 (.inl lvL_0)]
    rw [← e2 400 0 (.inl lvL_400)]
    refine sL_400 (by decide) dX0_took_8 ?_
    refine v_goto (tgt := 16) dX0_took_9 rfl ?_
    refine v_iconst dX0_took_16 ic_0 ?_
    exact v_iret rfl (Nat.le_of_ble_eq_true rfl) (Nat.le_of_ble_eq_true rfl) dX0_took_17 (hk _ e2)
def hh_hole : List (Nat × Nat × Nat × Nat) := [(0, 9, 12, 21)]
abbrev rL_hole : Room := { frames := 10, cells := 2, slots := 12, locals := 182 }
theorem ct_hole_0 {l : Launch} {D : va_G} {dA : Nat → ClassId} {A : Nat → Prop} {pz b L : Nat} {xs : Nat → Int32} : tt_ct (XL l D dA A pz b L xs) RX0 hh_hole 5 (tt_exn 0) 12 :=
  ⟨[], ⟨0, 9, 12, 21⟩, [], "java/util/NoSuchElementException", rfl, (fun z hz => nomatch hz), by decide, by decide, q1017, q1032, rfl⟩
set_option maxHeartbeats 4000000 in
theorem mL_hole (l : Launch) (D : va_G) (dA : Nat → ClassId) (A : Nat → Prop) (pz b L : Nat) (xs : Nat → Int32) (hl9 : l.stackTraces = false) (lc : Nat → Nat → Nat) (s : tt_SL) (x1 : Int32) (x2 : Int32) {Q : Option Value → (Nat → Nat → Nat) → tt_SL → Prop} (h : Ok (wrapL (fT_hole s.1 x1 x2) s (cd3 (some 1) none none)) (fun r => ∀ lc', tt_agr (XL l D dA A pz b L xs) s lc lc' → Q (some (.int r.1)) lc' r.2)) : tt_SpW (XL l D dA A pz b L xs) yX0_hole cX0_hole 5 (some .int) hh_hole rL_hole [.ref (lc 0 0), .int x1, .int x2, .ref (lc 400 0)] lc s Q := by
  refine tt_SpW.ofV plX0 kokL (Nat.le_of_ble_eq_true rfl) ?_
  show tt_V (XL l D dA A pz b L xs) cX0_hole (RX0, 5, (some .int), rL_hole, tt_hh hh_hole) (tt_fn (XL l D dA A pz b L xs) (RX0, 5, (some .int), rL_hole, tt_hh hh_hole) Q) 0 [(0, .ref (lc 0 0)), (1, .int x1), (2, .int x2), (3, .ref (lc 400 0))] [] lc s 0 0
  have h := Ok.wrapL h
  refine v_aload_n 3 dX0_hole_0 rfl ?_
  refine v_iconst dX0_hole_1 ic_0 ?_
  refine v_aload_n 0 dX0_hole_2 rfl ?_
  refine v_iload_n 1 dX0_hole_3 rfl ?_
  refine v_iload_n 2 dX0_hole_4 rfl ?_
  refine v_callVXh (hh := hh_hole) (kd := 0) (i := 0) (nA := 2) (As := [.int x1, .int x2]) (rest := [.int 0, .ref (lc 400 0)]) (Q' := (fun v lc' s' => ∃ r : Int64 × tt_S3, (∀ lc'', tt_agr (XL l D dA A pz b L xs) s lc lc'' → Q (some (.int 0)) lc'' (r.2, s.2.1, wrL s.2.2 0 0 0 r.1)) ∧ v = some (Value.long r.1) ∧ tt_agr (XL l D dA A pz b L xs) s lc lc' ∧ s' = (r.2, s.2))) (QX' := (fun E lc' s' => ∃ e : Nat × tt_S3, (∃ c, (cd3 (some 1) none none) e.1 = some c ∧ ∀ lc'', tt_agr (XL l D dA A pz b L xs) s lc lc'' → Q (some (.int c)) lc'' (e.2, s.2)) ∧ E = tt_exn e.1 ∧ tt_agr (XL l D dA A pz b L xs) s lc lc' ∧ s' = (e.2, s.2))) knL lvL_0 oL_0 rfl (liftTX (Q := (fun v lc' s' => ∃ r : Int64 × tt_S3, (∀ lc'', tt_agr (XL l D dA A pz b L xs) s lc lc'' → Q (some (.int 0)) lc'' (r.2, s.2.1, wrL s.2.2 0 0 0 r.1)) ∧ v = some (Value.long r.1) ∧ tt_agr (XL l D dA A pz b L xs) s lc lc' ∧ s' = (r.2, s.2))) (QX := (fun E lc' s' => ∃ e : Nat × tt_S3, (∃ c, (cd3 (some 1) none none) e.1 = some c ∧ ∀ lc'', tt_agr (XL l D dA A pz b L xs) s lc lc'' → Q (some (.int c)) lc'' (e.2, s.2)) ∧ E = tt_exn e.1 ∧ tt_agr (XL l D dA A pz b L xs) s lc lc' ∧ s' = (e.2, s.2))) (mT_hole l D dA (aLT A lc s) pz hl9 lc s.1 x1 x2 (Q := (fun v lc' w => tt_agr (XT l D dA (aLT A lc s) pz) s.1 lc lc' ∧ (fun v lc' s' => ∃ r : Int64 × tt_S3, (∀ lc'', tt_agr (XL l D dA A pz b L xs) s lc lc'' → Q (some (.int 0)) lc'' (r.2, s.2.1, wrL s.2.2 0 0 0 r.1)) ∧ v = some (Value.long r.1) ∧ tt_agr (XL l D dA A pz b L xs) s lc lc' ∧ s' = (r.2, s.2)) v lc' (w, s.2))) (QX := (fun E lc' w => tt_agr (XT l D dA (aLT A lc s) pz) s.1 lc lc' ∧ (fun E lc' s' => ∃ e : Nat × tt_S3, (∃ c, (cd3 (some 1) none none) e.1 = some c ∧ ∀ lc'', tt_agr (XL l D dA A pz b L xs) s lc lc'' → Q (some (.int c)) lc'' (e.2, s.2)) ∧ E = tt_exn e.1 ∧ tt_agr (XL l D dA A pz b L xs) s lc lc' ∧ s' = (e.2, s.2)) E lc' (w, s.2))) (h.mono (fun q hq => by cases q with
    | inl r => exact ⟨agr_rf, r, hq, rfl, agr_rf, rfl⟩
    | inr e => exact ⟨agr_rf, e, hq, rfl, agr_rf, rfl⟩)))) (lw_V q1331 q1332 q1333 q127 q1334) (by decide +kernel) rfl ⟨Nat.le_of_ble_eq_true rfl, Nat.le_of_ble_eq_true rfl⟩ (Nat.le_of_ble_eq_true rfl) ⟨Nat.le_of_ble_eq_true rfl, Nat.le_of_ble_eq_true rfl⟩ (fun _ _ _ h => h) dX0_hole_5 rfl (fun E lc' s' q => ?_) (fun v lc' s' q => ?_)
  · obtain ⟨e, ⟨c, hcd, hk⟩, e1, e2, e3⟩ := q
    rw [e1, e3]
    unfold cd3 at hcd
    clear e1 e3 h
    by_cases h0 : e.1 = 0
    · rw [if_pos h0] at hcd
      cases hcd
      rw [h0]
      refine ⟨12, ct_hole_0, fun q => ?_⟩
      rw [← e2 0 0 (.inl lvL_0)]
      rw [← e2 400 0 (.inl lvL_400)]
      refine v_astore [(4, .ref q), (0, .ref (lc' 0 0)), (1, .int x1), (2, .int x2), (3, .ref (lc' 400 0))] dX0_hole_12 (Nat.le_of_ble_eq_true rfl) rfl ?_
      refine v_iconst dX0_hole_14 ic_1 ?_
      exact v_iret rfl (Nat.le_of_ble_eq_true rfl) (Nat.le_of_ble_eq_true rfl) dX0_hole_15 (hk _ e2)
    by_cases h1 : e.1 = 1
    · rw [if_neg h0, if_pos h1] at hcd
      cases hcd
    rw [if_neg h0, if_neg h1] at hcd
    cases hcd
  · obtain ⟨r, hk, e1, e2, e3⟩ := q
    rw [e1, e3]
    clear e1 e3 h
    rw [← e2 0 0 (.inl lvL_0)]
    rw [← e2 400 0 (.inl lvL_400)]
    refine sL_400 (by decide) dX0_hole_8 ?_
    refine v_goto (tgt := 16) dX0_hole_9 rfl ?_
    refine v_iconst dX0_hole_16 ic_0 ?_
    exact v_iret rfl (Nat.le_of_ble_eq_true rfl) (Nat.le_of_ble_eq_true rfl) dX0_hole_17 (hk _ e2)
def hh_moved : List (Nat × Nat × Nat × Nat) := [(0, 9, 12, 21)]
abbrev rL_moved : Room := { frames := 10, cells := 2, slots := 12, locals := 182 }
theorem ct_moved_0 {l : Launch} {D : va_G} {dA : Nat → ClassId} {A : Nat → Prop} {pz b L : Nat} {xs : Nat → Int32} : tt_ct (XL l D dA A pz b L xs) RX0 hh_moved 5 (tt_exn 0) 12 :=
  ⟨[], ⟨0, 9, 12, 21⟩, [], "java/util/NoSuchElementException", rfl, (fun z hz => nomatch hz), by decide, by decide, q1017, q1032, rfl⟩
set_option maxHeartbeats 4000000 in
theorem mL_moved (l : Launch) (D : va_G) (dA : Nat → ClassId) (A : Nat → Prop) (pz b L : Nat) (xs : Nat → Int32) (hl9 : l.stackTraces = false) (lc : Nat → Nat → Nat) (s : tt_SL) (x1 : Int32) (x2 : Int32) {Q : Option Value → (Nat → Nat → Nat) → tt_SL → Prop} (h : Ok (wrapL (fT_moved s.1 x1 x2) s (cd3 (some 1) none none)) (fun r => ∀ lc', tt_agr (XL l D dA A pz b L xs) s lc lc' → Q (some (.int r.1)) lc' r.2)) : tt_SpW (XL l D dA A pz b L xs) yX0_moved cX0_moved 5 (some .int) hh_moved rL_moved [.ref (lc 0 0), .int x1, .int x2, .ref (lc 400 0)] lc s Q := by
  refine tt_SpW.ofV plX0 kokL (Nat.le_of_ble_eq_true rfl) ?_
  show tt_V (XL l D dA A pz b L xs) cX0_moved (RX0, 5, (some .int), rL_moved, tt_hh hh_moved) (tt_fn (XL l D dA A pz b L xs) (RX0, 5, (some .int), rL_moved, tt_hh hh_moved) Q) 0 [(0, .ref (lc 0 0)), (1, .int x1), (2, .int x2), (3, .ref (lc 400 0))] [] lc s 0 0
  have h := Ok.wrapL h
  refine v_aload_n 3 dX0_moved_0 rfl ?_
  refine v_iconst dX0_moved_1 ic_0 ?_
  refine v_aload_n 0 dX0_moved_2 rfl ?_
  refine v_iload_n 1 dX0_moved_3 rfl ?_
  refine v_iload_n 2 dX0_moved_4 rfl ?_
  refine v_callVXh (hh := hh_moved) (kd := 0) (i := 0) (nA := 2) (As := [.int x1, .int x2]) (rest := [.int 0, .ref (lc 400 0)]) (Q' := (fun v lc' s' => ∃ r : Int64 × tt_S3, (∀ lc'', tt_agr (XL l D dA A pz b L xs) s lc lc'' → Q (some (.int 0)) lc'' (r.2, s.2.1, wrL s.2.2 0 0 0 r.1)) ∧ v = some (Value.long r.1) ∧ tt_agr (XL l D dA A pz b L xs) s lc lc' ∧ s' = (r.2, s.2))) (QX' := (fun E lc' s' => ∃ e : Nat × tt_S3, (∃ c, (cd3 (some 1) none none) e.1 = some c ∧ ∀ lc'', tt_agr (XL l D dA A pz b L xs) s lc lc'' → Q (some (.int c)) lc'' (e.2, s.2)) ∧ E = tt_exn e.1 ∧ tt_agr (XL l D dA A pz b L xs) s lc lc' ∧ s' = (e.2, s.2))) knL lvL_0 oL_0 rfl (liftTX (Q := (fun v lc' s' => ∃ r : Int64 × tt_S3, (∀ lc'', tt_agr (XL l D dA A pz b L xs) s lc lc'' → Q (some (.int 0)) lc'' (r.2, s.2.1, wrL s.2.2 0 0 0 r.1)) ∧ v = some (Value.long r.1) ∧ tt_agr (XL l D dA A pz b L xs) s lc lc' ∧ s' = (r.2, s.2))) (QX := (fun E lc' s' => ∃ e : Nat × tt_S3, (∃ c, (cd3 (some 1) none none) e.1 = some c ∧ ∀ lc'', tt_agr (XL l D dA A pz b L xs) s lc lc'' → Q (some (.int c)) lc'' (e.2, s.2)) ∧ E = tt_exn e.1 ∧ tt_agr (XL l D dA A pz b L xs) s lc lc' ∧ s' = (e.2, s.2))) (mT_moved l D dA (aLT A lc s) pz hl9 lc s.1 x1 x2 (Q := (fun v lc' w => tt_agr (XT l D dA (aLT A lc s) pz) s.1 lc lc' ∧ (fun v lc' s' => ∃ r : Int64 × tt_S3, (∀ lc'', tt_agr (XL l D dA A pz b L xs) s lc lc'' → Q (some (.int 0)) lc'' (r.2, s.2.1, wrL s.2.2 0 0 0 r.1)) ∧ v = some (Value.long r.1) ∧ tt_agr (XL l D dA A pz b L xs) s lc lc' ∧ s' = (r.2, s.2)) v lc' (w, s.2))) (QX := (fun E lc' w => tt_agr (XT l D dA (aLT A lc s) pz) s.1 lc lc' ∧ (fun E lc' s' => ∃ e : Nat × tt_S3, (∃ c, (cd3 (some 1) none none) e.1 = some c ∧ ∀ lc'', tt_agr (XL l D dA A pz b L xs) s lc lc'' → Q (some (.int c)) lc'' (e.2, s.2)) ∧ E = tt_exn e.1 ∧ tt_agr (XL l D dA A pz b L xs) s lc lc' ∧ s' = (e.2, s.2)) E lc' (w, s.2))) (h.mono (fun q hq => by cases q with
    | inl r => exact ⟨agr_rf, r, hq, rfl, agr_rf, rfl⟩
    | inr e => exact ⟨agr_rf, e, hq, rfl, agr_rf, rfl⟩)))) (lw_V q1338 q1339 q1340 q127 q1341) (by decide +kernel) rfl ⟨Nat.le_of_ble_eq_true rfl, Nat.le_of_ble_eq_true rfl⟩ (Nat.le_of_ble_eq_true rfl) ⟨Nat.le_of_ble_eq_true rfl, Nat.le_of_ble_eq_true rfl⟩ (fun _ _ _ h => h) dX0_moved_5 rfl (fun E lc' s' q => ?_) (fun v lc' s' q => ?_)
  · obtain ⟨e, ⟨c, hcd, hk⟩, e1, e2, e3⟩ := q
    rw [e1, e3]
    unfold cd3 at hcd
    clear e1 e3 h
    by_cases h0 : e.1 = 0
    · rw [if_pos h0] at hcd
      cases hcd
      rw [h0]
      refine ⟨12, ct_moved_0, fun q => ?_⟩
      rw [← e2 0 0 (.inl lvL_0)]
      rw [← e2 400 0 (.inl lvL_400)]
      refine v_astore [(4, .ref q), (0, .ref (lc' 0 0)), (1, .int x1), (2, .int x2), (3, .ref (lc' 400 0))] dX0_moved_12 (Nat.le_of_ble_eq_true rfl) rfl ?_
      refine v_iconst dX0_moved_14 ic_1 ?_
      exact v_iret rfl (Nat.le_of_ble_eq_true rfl) (Nat.le_of_ble_eq_true rfl) dX0_moved_15 (hk _ e2)
    by_cases h1 : e.1 = 1
    · rw [if_neg h0, if_pos h1] at hcd
      cases hcd
    rw [if_neg h0, if_neg h1] at hcd
    cases hcd
  · obtain ⟨r, hk, e1, e2, e3⟩ := q
    rw [e1, e3]
    clear e1 e3 h
    rw [← e2 0 0 (.inl lvL_0)]
    rw [← e2 400 0 (.inl lvL_400)]
    refine sL_400 (by decide) dX0_moved_8 ?_
    refine v_goto (tgt := 16) dX0_moved_9 rfl ?_
    refine v_iconst dX0_moved_16 ic_0 ?_
    exact v_iret rfl (Nat.le_of_ble_eq_true rfl) (Nat.le_of_ble_eq_true rfl) dX0_moved_17 (hk _ e2)
def hh_bears : List (Nat × Nat × Nat × Nat) := [(0, 9, 12, 21), (0, 9, 16, 13)]
abbrev rL_bears : Room := { frames := 10, cells := 2, slots := 12, locals := 184 }
theorem ct_bears_0 {l : Launch} {D : va_G} {dA : Nat → ClassId} {A : Nat → Prop} {pz b L : Nat} {xs : Nat → Int32} : tt_ct (XL l D dA A pz b L xs) RX0 hh_bears 5 (tt_exn 0) 12 :=
  ⟨[], ⟨0, 9, 12, 21⟩, [⟨0, 9, 16, 13⟩], "java/util/NoSuchElementException", rfl, (fun z hz => nomatch hz), by decide, by decide, q1017, q1032, rfl⟩
theorem ct_bears_1 {l : Launch} {D : va_G} {dA : Nat → ClassId} {A : Nat → Prop} {pz b L : Nat} {xs : Nat → Int32} : tt_ct (XL l D dA A pz b L xs) RX0 hh_bears 5 (tt_exn 1) 16 :=
  ⟨[⟨0, 9, 12, 21⟩], ⟨0, 9, 16, 13⟩, [], "java/lang/IllegalArgumentException", rfl, (fun z hz => by cases List.mem_singleton.mp hz; exact ⟨by decide, _, q1017, nc_L (a := 1) (c := 0) (by decide) (by decide) (by decide)⟩), by decide, by decide, q940, q209, rfl⟩
set_option maxHeartbeats 4000000 in
theorem mL_bears (l : Launch) (D : va_G) (dA : Nat → ClassId) (A : Nat → Prop) (pz b L : Nat) (xs : Nat → Int32) (hl9 : l.stackTraces = false) (lc : Nat → Nat → Nat) (s : tt_SL) (x1 : Int32) (x2 : Int32) {Q : Option Value → (Nat → Nat → Nat) → tt_SL → Prop} (h : Ok (wrapL (fT_bears s.1 x1 x2) s (cd3 (some 1) (some 2) none)) (fun r => ∀ lc', tt_agr (XL l D dA A pz b L xs) s lc lc' → Q (some (.int r.1)) lc' r.2)) : tt_SpW (XL l D dA A pz b L xs) yX0_bears cX0_bears 5 (some .int) hh_bears rL_bears [.ref (lc 0 0), .int x1, .int x2, .ref (lc 400 0)] lc s Q := by
  refine tt_SpW.ofV plX0 kokL (Nat.le_of_ble_eq_true rfl) ?_
  show tt_V (XL l D dA A pz b L xs) cX0_bears (RX0, 5, (some .int), rL_bears, tt_hh hh_bears) (tt_fn (XL l D dA A pz b L xs) (RX0, 5, (some .int), rL_bears, tt_hh hh_bears) Q) 0 [(0, .ref (lc 0 0)), (1, .int x1), (2, .int x2), (3, .ref (lc 400 0))] [] lc s 0 0
  have h := Ok.wrapL h
  refine v_aload_n 3 dX0_bears_0 rfl ?_
  refine v_iconst dX0_bears_1 ic_0 ?_
  refine v_aload_n 0 dX0_bears_2 rfl ?_
  refine v_iload_n 1 dX0_bears_3 rfl ?_
  refine v_iload_n 2 dX0_bears_4 rfl ?_
  refine v_callVXh (hh := hh_bears) (kd := 0) (i := 0) (nA := 2) (As := [.int x1, .int x2]) (rest := [.int 0, .ref (lc 400 0)]) (Q' := (fun v lc' s' => ∃ r : Int64 × tt_S3, (∀ lc'', tt_agr (XL l D dA A pz b L xs) s lc lc'' → Q (some (.int 0)) lc'' (r.2, s.2.1, wrL s.2.2 0 0 0 r.1)) ∧ v = some (Value.long r.1) ∧ tt_agr (XL l D dA A pz b L xs) s lc lc' ∧ s' = (r.2, s.2))) (QX' := (fun E lc' s' => ∃ e : Nat × tt_S3, (∃ c, (cd3 (some 1) (some 2) none) e.1 = some c ∧ ∀ lc'', tt_agr (XL l D dA A pz b L xs) s lc lc'' → Q (some (.int c)) lc'' (e.2, s.2)) ∧ E = tt_exn e.1 ∧ tt_agr (XL l D dA A pz b L xs) s lc lc' ∧ s' = (e.2, s.2))) knL lvL_0 oL_0 rfl (liftTX (Q := (fun v lc' s' => ∃ r : Int64 × tt_S3, (∀ lc'', tt_agr (XL l D dA A pz b L xs) s lc lc'' → Q (some (.int 0)) lc'' (r.2, s.2.1, wrL s.2.2 0 0 0 r.1)) ∧ v = some (Value.long r.1) ∧ tt_agr (XL l D dA A pz b L xs) s lc lc' ∧ s' = (r.2, s.2))) (QX := (fun E lc' s' => ∃ e : Nat × tt_S3, (∃ c, (cd3 (some 1) (some 2) none) e.1 = some c ∧ ∀ lc'', tt_agr (XL l D dA A pz b L xs) s lc lc'' → Q (some (.int c)) lc'' (e.2, s.2)) ∧ E = tt_exn e.1 ∧ tt_agr (XL l D dA A pz b L xs) s lc lc' ∧ s' = (e.2, s.2))) (mT_bears l D dA (aLT A lc s) pz hl9 lc s.1 x1 x2 (Q := (fun v lc' w => tt_agr (XT l D dA (aLT A lc s) pz) s.1 lc lc' ∧ (fun v lc' s' => ∃ r : Int64 × tt_S3, (∀ lc'', tt_agr (XL l D dA A pz b L xs) s lc lc'' → Q (some (.int 0)) lc'' (r.2, s.2.1, wrL s.2.2 0 0 0 r.1)) ∧ v = some (Value.long r.1) ∧ tt_agr (XL l D dA A pz b L xs) s lc lc' ∧ s' = (r.2, s.2)) v lc' (w, s.2))) (QX := (fun E lc' w => tt_agr (XT l D dA (aLT A lc s) pz) s.1 lc lc' ∧ (fun E lc' s' => ∃ e : Nat × tt_S3, (∃ c, (cd3 (some 1) (some 2) none) e.1 = some c ∧ ∀ lc'', tt_agr (XL l D dA A pz b L xs) s lc lc'' → Q (some (.int c)) lc'' (e.2, s.2)) ∧ E = tt_exn e.1 ∧ tt_agr (XL l D dA A pz b L xs) s lc lc' ∧ s' = (e.2, s.2)) E lc' (w, s.2))) (h.mono (fun q hq => by cases q with
    | inl r => exact ⟨agr_rf, r, hq, rfl, agr_rf, rfl⟩
    | inr e => exact ⟨agr_rf, e, hq, rfl, agr_rf, rfl⟩)))) (lw_V q1345 q1346 q1347 q127 q1348) (by decide +kernel) rfl ⟨Nat.le_of_ble_eq_true rfl, Nat.le_of_ble_eq_true rfl⟩ (Nat.le_of_ble_eq_true rfl) ⟨Nat.le_of_ble_eq_true rfl, Nat.le_of_ble_eq_true rfl⟩ (fun _ _ _ h => h) dX0_bears_5 rfl (fun E lc' s' q => ?_) (fun v lc' s' q => ?_)
  · obtain ⟨e, ⟨c, hcd, hk⟩, e1, e2, e3⟩ := q
    rw [e1, e3]
    unfold cd3 at hcd
    clear e1 e3 h
    by_cases h0 : e.1 = 0
    · rw [if_pos h0] at hcd
      cases hcd
      rw [h0]
      refine ⟨12, ct_bears_0, fun q => ?_⟩
      rw [← e2 0 0 (.inl lvL_0)]
      rw [← e2 400 0 (.inl lvL_400)]
      refine v_astore [(4, .ref q), (0, .ref (lc' 0 0)), (1, .int x1), (2, .int x2), (3, .ref (lc' 400 0))] dX0_bears_12 (Nat.le_of_ble_eq_true rfl) rfl ?_
      refine v_iconst dX0_bears_14 ic_1 ?_
      exact v_iret rfl (Nat.le_of_ble_eq_true rfl) (Nat.le_of_ble_eq_true rfl) dX0_bears_15 (hk _ e2)
    by_cases h1 : e.1 = 1
    · rw [if_neg h0, if_pos h1] at hcd
      cases hcd
      rw [h1]
      refine ⟨16, ct_bears_1, fun q => ?_⟩
      rw [← e2 0 0 (.inl lvL_0)]
      rw [← e2 400 0 (.inl lvL_400)]
      refine v_astore [(4, .ref q), (0, .ref (lc' 0 0)), (1, .int x1), (2, .int x2), (3, .ref (lc' 400 0))] dX0_bears_16 (Nat.le_of_ble_eq_true rfl) rfl ?_
      refine v_iconst dX0_bears_18 ic_2 ?_
      exact v_iret rfl (Nat.le_of_ble_eq_true rfl) (Nat.le_of_ble_eq_true rfl) dX0_bears_19 (hk _ e2)
    rw [if_neg h0, if_neg h1] at hcd
    cases hcd
  · obtain ⟨r, hk, e1, e2, e3⟩ := q
    rw [e1, e3]
    clear e1 e3 h
    rw [← e2 0 0 (.inl lvL_0)]
    rw [← e2 400 0 (.inl lvL_400)]
    refine sL_400 (by decide) dX0_bears_8 ?_
    refine v_goto (tgt := 20) dX0_bears_9 rfl ?_
    refine v_iconst dX0_bears_20 ic_0 ?_
    exact v_iret rfl (Nat.le_of_ble_eq_true rfl) (Nat.le_of_ble_eq_true rfl) dX0_bears_21 (hk _ e2)
def hh_falls : List (Nat × Nat × Nat × Nat) := [(0, 9, 12, 21), (0, 9, 16, 13)]
abbrev rL_falls : Room := { frames := 10, cells := 2, slots := 12, locals := 183 }
theorem ct_falls_0 {l : Launch} {D : va_G} {dA : Nat → ClassId} {A : Nat → Prop} {pz b L : Nat} {xs : Nat → Int32} : tt_ct (XL l D dA A pz b L xs) RX0 hh_falls 5 (tt_exn 0) 12 :=
  ⟨[], ⟨0, 9, 12, 21⟩, [⟨0, 9, 16, 13⟩], "java/util/NoSuchElementException", rfl, (fun z hz => nomatch hz), by decide, by decide, q1017, q1032, rfl⟩
theorem ct_falls_1 {l : Launch} {D : va_G} {dA : Nat → ClassId} {A : Nat → Prop} {pz b L : Nat} {xs : Nat → Int32} : tt_ct (XL l D dA A pz b L xs) RX0 hh_falls 5 (tt_exn 1) 16 :=
  ⟨[⟨0, 9, 12, 21⟩], ⟨0, 9, 16, 13⟩, [], "java/lang/IllegalArgumentException", rfl, (fun z hz => by cases List.mem_singleton.mp hz; exact ⟨by decide, _, q1017, nc_L (a := 1) (c := 0) (by decide) (by decide) (by decide)⟩), by decide, by decide, q940, q209, rfl⟩
set_option maxHeartbeats 4000000 in
theorem mL_falls (l : Launch) (D : va_G) (dA : Nat → ClassId) (A : Nat → Prop) (pz b L : Nat) (xs : Nat → Int32) (hl9 : l.stackTraces = false) (lc : Nat → Nat → Nat) (s : tt_SL) (x1 : Int32) (x2 : Int32) {Q : Option Value → (Nat → Nat → Nat) → tt_SL → Prop} (h : Ok (wrapL (fT_falls s.1 x1 x2) s (cd3 (some 1) (some 2) none)) (fun r => ∀ lc', tt_agr (XL l D dA A pz b L xs) s lc lc' → Q (some (.int r.1)) lc' r.2)) : tt_SpW (XL l D dA A pz b L xs) yX0_falls cX0_falls 5 (some .int) hh_falls rL_falls [.ref (lc 0 0), .int x1, .int x2, .ref (lc 400 0)] lc s Q := by
  refine tt_SpW.ofV plX0 kokL (Nat.le_of_ble_eq_true rfl) ?_
  show tt_V (XL l D dA A pz b L xs) cX0_falls (RX0, 5, (some .int), rL_falls, tt_hh hh_falls) (tt_fn (XL l D dA A pz b L xs) (RX0, 5, (some .int), rL_falls, tt_hh hh_falls) Q) 0 [(0, .ref (lc 0 0)), (1, .int x1), (2, .int x2), (3, .ref (lc 400 0))] [] lc s 0 0
  have h := Ok.wrapL h
  refine v_aload_n 3 dX0_falls_0 rfl ?_
  refine v_iconst dX0_falls_1 ic_0 ?_
  refine v_aload_n 0 dX0_falls_2 rfl ?_
  refine v_iload_n 1 dX0_falls_3 rfl ?_
  refine v_iload_n 2 dX0_falls_4 rfl ?_
  refine v_callVXh (hh := hh_falls) (kd := 0) (i := 0) (nA := 2) (As := [.int x1, .int x2]) (rest := [.int 0, .ref (lc 400 0)]) (Q' := (fun v lc' s' => ∃ r : Int64 × tt_S3, (∀ lc'', tt_agr (XL l D dA A pz b L xs) s lc lc'' → Q (some (.int 0)) lc'' (r.2, s.2.1, wrL s.2.2 0 0 0 r.1)) ∧ v = some (Value.long r.1) ∧ tt_agr (XL l D dA A pz b L xs) s lc lc' ∧ s' = (r.2, s.2))) (QX' := (fun E lc' s' => ∃ e : Nat × tt_S3, (∃ c, (cd3 (some 1) (some 2) none) e.1 = some c ∧ ∀ lc'', tt_agr (XL l D dA A pz b L xs) s lc lc'' → Q (some (.int c)) lc'' (e.2, s.2)) ∧ E = tt_exn e.1 ∧ tt_agr (XL l D dA A pz b L xs) s lc lc' ∧ s' = (e.2, s.2))) knL lvL_0 oL_0 rfl (liftTX (Q := (fun v lc' s' => ∃ r : Int64 × tt_S3, (∀ lc'', tt_agr (XL l D dA A pz b L xs) s lc lc'' → Q (some (.int 0)) lc'' (r.2, s.2.1, wrL s.2.2 0 0 0 r.1)) ∧ v = some (Value.long r.1) ∧ tt_agr (XL l D dA A pz b L xs) s lc lc' ∧ s' = (r.2, s.2))) (QX := (fun E lc' s' => ∃ e : Nat × tt_S3, (∃ c, (cd3 (some 1) (some 2) none) e.1 = some c ∧ ∀ lc'', tt_agr (XL l D dA A pz b L xs) s lc lc'' → Q (some (.int c)) lc'' (e.2, s.2)) ∧ E = tt_exn e.1 ∧ tt_agr (XL l D dA A pz b L xs) s lc lc' ∧ s' = (e.2, s.2))) (mT_falls l D dA (aLT A lc s) pz hl9 lc s.1 x1 x2 (Q := (fun v lc' w => tt_agr (XT l D dA (aLT A lc s) pz) s.1 lc lc' ∧ (fun v lc' s' => ∃ r : Int64 × tt_S3, (∀ lc'', tt_agr (XL l D dA A pz b L xs) s lc lc'' → Q (some (.int 0)) lc'' (r.2, s.2.1, wrL s.2.2 0 0 0 r.1)) ∧ v = some (Value.long r.1) ∧ tt_agr (XL l D dA A pz b L xs) s lc lc' ∧ s' = (r.2, s.2)) v lc' (w, s.2))) (QX := (fun E lc' w => tt_agr (XT l D dA (aLT A lc s) pz) s.1 lc lc' ∧ (fun E lc' s' => ∃ e : Nat × tt_S3, (∃ c, (cd3 (some 1) (some 2) none) e.1 = some c ∧ ∀ lc'', tt_agr (XL l D dA A pz b L xs) s lc lc'' → Q (some (.int c)) lc'' (e.2, s.2)) ∧ E = tt_exn e.1 ∧ tt_agr (XL l D dA A pz b L xs) s lc lc' ∧ s' = (e.2, s.2)) E lc' (w, s.2))) (h.mono (fun q hq => by cases q with
    | inl r => exact ⟨agr_rf, r, hq, rfl, agr_rf, rfl⟩
    | inr e => exact ⟨agr_rf, e, hq, rfl, agr_rf, rfl⟩)))) (lw_V q1352 q1353 q1354 q127 q1355) (by decide +kernel) rfl ⟨Nat.le_of_ble_eq_true rfl, Nat.le_of_ble_eq_true rfl⟩ (Nat.le_of_ble_eq_true rfl) ⟨Nat.le_of_ble_eq_true rfl, Nat.le_of_ble_eq_true rfl⟩ (fun _ _ _ h => h) dX0_falls_5 rfl (fun E lc' s' q => ?_) (fun v lc' s' q => ?_)
  · obtain ⟨e, ⟨c, hcd, hk⟩, e1, e2, e3⟩ := q
    rw [e1, e3]
    unfold cd3 at hcd
    clear e1 e3 h
    by_cases h0 : e.1 = 0
    · rw [if_pos h0] at hcd
      cases hcd
      rw [h0]
      refine ⟨12, ct_falls_0, fun q => ?_⟩
      rw [← e2 0 0 (.inl lvL_0)]
      rw [← e2 400 0 (.inl lvL_400)]
      refine v_astore [(4, .ref q), (0, .ref (lc' 0 0)), (1, .int x1), (2, .int x2), (3, .ref (lc' 400 0))] dX0_falls_12 (Nat.le_of_ble_eq_true rfl) rfl ?_
      refine v_iconst dX0_falls_14 ic_1 ?_
      exact v_iret rfl (Nat.le_of_ble_eq_true rfl) (Nat.le_of_ble_eq_true rfl) dX0_falls_15 (hk _ e2)
    by_cases h1 : e.1 = 1
    · rw [if_neg h0, if_pos h1] at hcd
      cases hcd
      rw [h1]
      refine ⟨16, ct_falls_1, fun q => ?_⟩
      rw [← e2 0 0 (.inl lvL_0)]
      rw [← e2 400 0 (.inl lvL_400)]
      refine v_astore [(4, .ref q), (0, .ref (lc' 0 0)), (1, .int x1), (2, .int x2), (3, .ref (lc' 400 0))] dX0_falls_16 (Nat.le_of_ble_eq_true rfl) rfl ?_
      refine v_iconst dX0_falls_18 ic_2 ?_
      exact v_iret rfl (Nat.le_of_ble_eq_true rfl) (Nat.le_of_ble_eq_true rfl) dX0_falls_19 (hk _ e2)
    rw [if_neg h0, if_neg h1] at hcd
    cases hcd
  · obtain ⟨r, hk, e1, e2, e3⟩ := q
    rw [e1, e3]
    clear e1 e3 h
    rw [← e2 0 0 (.inl lvL_0)]
    rw [← e2 400 0 (.inl lvL_400)]
    refine sL_400 (by decide) dX0_falls_8 ?_
    refine v_goto (tgt := 20) dX0_falls_9 rfl ?_
    refine v_iconst dX0_falls_20 ic_0 ?_
    exact v_iret rfl (Nat.le_of_ble_eq_true rfl) (Nat.le_of_ble_eq_true rfl) dX0_falls_21 (hk _ e2)
def hh_insurer : List (Nat × Nat × Nat × Nat) := [(0, 9, 12, 13)]
abbrev rL_insurer : Room := { frames := 10, cells := 2, slots := 12, locals := 186 }
theorem ct_insurer_1 {l : Launch} {D : va_G} {dA : Nat → ClassId} {A : Nat → Prop} {pz b L : Nat} {xs : Nat → Int32} : tt_ct (XL l D dA A pz b L xs) RX0 hh_insurer 5 (tt_exn 1) 12 :=
  ⟨[], ⟨0, 9, 12, 13⟩, [], "java/lang/IllegalArgumentException", rfl, (fun z hz => nomatch hz), by decide, by decide, q940, q209, rfl⟩
set_option maxHeartbeats 4000000 in
theorem mL_insurer (l : Launch) (D : va_G) (dA : Nat → ClassId) (A : Nat → Prop) (pz b L : Nat) (xs : Nat → Int32) (hl9 : l.stackTraces = false) (lc : Nat → Nat → Nat) (s : tt_SL) (x1 : Int32) (x2 : Int32) {Q : Option Value → (Nat → Nat → Nat) → tt_SL → Prop} (h : Ok (wrapL (fT_insurer s.1 x1 x2) s (cd3 none (some 1) none)) (fun r => ∀ lc', tt_agr (XL l D dA A pz b L xs) s lc lc' → Q (some (.int r.1)) lc' r.2)) : tt_SpW (XL l D dA A pz b L xs) yX0_insurer cX0_insurer 5 (some .int) hh_insurer rL_insurer [.ref (lc 0 0), .int x1, .int x2, .ref (lc 400 0)] lc s Q := by
  refine tt_SpW.ofV plX0 kokL (Nat.le_of_ble_eq_true rfl) ?_
  show tt_V (XL l D dA A pz b L xs) cX0_insurer (RX0, 5, (some .int), rL_insurer, tt_hh hh_insurer) (tt_fn (XL l D dA A pz b L xs) (RX0, 5, (some .int), rL_insurer, tt_hh hh_insurer) Q) 0 [(0, .ref (lc 0 0)), (1, .int x1), (2, .int x2), (3, .ref (lc 400 0))] [] lc s 0 0
  have h := Ok.wrapL h
  refine v_aload_n 3 dX0_insurer_0 rfl ?_
  refine v_iconst dX0_insurer_1 ic_0 ?_
  refine v_aload_n 0 dX0_insurer_2 rfl ?_
  refine v_iload_n 1 dX0_insurer_3 rfl ?_
  refine v_iload_n 2 dX0_insurer_4 rfl ?_
  refine v_callVXh (hh := hh_insurer) (kd := 0) (i := 0) (nA := 2) (As := [.int x1, .int x2]) (rest := [.int 0, .ref (lc 400 0)]) (Q' := (fun v lc' s' => ∃ r : Int64 × tt_S3, (∀ lc'', tt_agr (XL l D dA A pz b L xs) s lc lc'' → Q (some (.int 0)) lc'' (r.2, s.2.1, wrL s.2.2 0 0 0 r.1)) ∧ v = some (Value.long r.1) ∧ tt_agr (XL l D dA A pz b L xs) s lc lc' ∧ s' = (r.2, s.2))) (QX' := (fun E lc' s' => ∃ e : Nat × tt_S3, (∃ c, (cd3 none (some 1) none) e.1 = some c ∧ ∀ lc'', tt_agr (XL l D dA A pz b L xs) s lc lc'' → Q (some (.int c)) lc'' (e.2, s.2)) ∧ E = tt_exn e.1 ∧ tt_agr (XL l D dA A pz b L xs) s lc lc' ∧ s' = (e.2, s.2))) knL lvL_0 oL_0 rfl (liftTX (Q := (fun v lc' s' => ∃ r : Int64 × tt_S3, (∀ lc'', tt_agr (XL l D dA A pz b L xs) s lc lc'' → Q (some (.int 0)) lc'' (r.2, s.2.1, wrL s.2.2 0 0 0 r.1)) ∧ v = some (Value.long r.1) ∧ tt_agr (XL l D dA A pz b L xs) s lc lc' ∧ s' = (r.2, s.2))) (QX := (fun E lc' s' => ∃ e : Nat × tt_S3, (∃ c, (cd3 none (some 1) none) e.1 = some c ∧ ∀ lc'', tt_agr (XL l D dA A pz b L xs) s lc lc'' → Q (some (.int c)) lc'' (e.2, s.2)) ∧ E = tt_exn e.1 ∧ tt_agr (XL l D dA A pz b L xs) s lc lc' ∧ s' = (e.2, s.2))) (mT_insurer l D dA (aLT A lc s) pz hl9 lc s.1 x1 x2 (Q := (fun v lc' w => tt_agr (XT l D dA (aLT A lc s) pz) s.1 lc lc' ∧ (fun v lc' s' => ∃ r : Int64 × tt_S3, (∀ lc'', tt_agr (XL l D dA A pz b L xs) s lc lc'' → Q (some (.int 0)) lc'' (r.2, s.2.1, wrL s.2.2 0 0 0 r.1)) ∧ v = some (Value.long r.1) ∧ tt_agr (XL l D dA A pz b L xs) s lc lc' ∧ s' = (r.2, s.2)) v lc' (w, s.2))) (QX := (fun E lc' w => tt_agr (XT l D dA (aLT A lc s) pz) s.1 lc lc' ∧ (fun E lc' s' => ∃ e : Nat × tt_S3, (∃ c, (cd3 none (some 1) none) e.1 = some c ∧ ∀ lc'', tt_agr (XL l D dA A pz b L xs) s lc lc'' → Q (some (.int c)) lc'' (e.2, s.2)) ∧ E = tt_exn e.1 ∧ tt_agr (XL l D dA A pz b L xs) s lc lc' ∧ s' = (e.2, s.2)) E lc' (w, s.2))) (h.mono (fun q hq => by cases q with
    | inl r => exact ⟨agr_rf, r, hq, rfl, agr_rf, rfl⟩
    | inr e => exact ⟨agr_rf, e, hq, rfl, agr_rf, rfl⟩)))) (lw_V q1359 q1360 q1361 q127 q1362) (by decide +kernel) rfl ⟨Nat.le_of_ble_eq_true rfl, Nat.le_of_ble_eq_true rfl⟩ (Nat.le_of_ble_eq_true rfl) ⟨Nat.le_of_ble_eq_true rfl, Nat.le_of_ble_eq_true rfl⟩ (fun _ _ _ h => h) dX0_insurer_5 rfl (fun E lc' s' q => ?_) (fun v lc' s' q => ?_)
  · obtain ⟨e, ⟨c, hcd, hk⟩, e1, e2, e3⟩ := q
    rw [e1, e3]
    unfold cd3 at hcd
    clear e1 e3 h
    by_cases h0 : e.1 = 0
    · rw [if_pos h0] at hcd
      cases hcd
    by_cases h1 : e.1 = 1
    · rw [if_neg h0, if_pos h1] at hcd
      cases hcd
      rw [h1]
      refine ⟨12, ct_insurer_1, fun q => ?_⟩
      rw [← e2 0 0 (.inl lvL_0)]
      rw [← e2 400 0 (.inl lvL_400)]
      refine v_astore [(4, .ref q), (0, .ref (lc' 0 0)), (1, .int x1), (2, .int x2), (3, .ref (lc' 400 0))] dX0_insurer_12 (Nat.le_of_ble_eq_true rfl) rfl ?_
      refine v_iconst dX0_insurer_14 ic_1 ?_
      exact v_iret rfl (Nat.le_of_ble_eq_true rfl) (Nat.le_of_ble_eq_true rfl) dX0_insurer_15 (hk _ e2)
    rw [if_neg h0, if_neg h1] at hcd
    cases hcd
  · obtain ⟨r, hk, e1, e2, e3⟩ := q
    rw [e1, e3]
    clear e1 e3 h
    rw [← e2 0 0 (.inl lvL_0)]
    rw [← e2 400 0 (.inl lvL_400)]
    refine sL_400 (by decide) dX0_insurer_8 ?_
    refine v_goto (tgt := 16) dX0_insurer_9 rfl ?_
    refine v_iconst dX0_insurer_16 ic_0 ?_
    exact v_iret rfl (Nat.le_of_ble_eq_true rfl) (Nat.le_of_ble_eq_true rfl) dX0_insurer_17 (hk _ e2)
def hh_burden : List (Nat × Nat × Nat × Nat) := [(0, 8, 11, 13)]
abbrev rL_burden : Room := { frames := 9, cells := 1, slots := 6, locals := 164 }
theorem ct_burden_1 {l : Launch} {D : va_G} {dA : Nat → ClassId} {A : Nat → Prop} {pz b L : Nat} {xs : Nat → Int32} : tt_ct (XL l D dA A pz b L xs) RX0 hh_burden 4 (tt_exn 1) 11 :=
  ⟨[], ⟨0, 8, 11, 13⟩, [], "java/lang/IllegalArgumentException", rfl, (fun z hz => nomatch hz), by decide, by decide, q940, q209, rfl⟩
set_option maxHeartbeats 4000000 in
theorem mL_burden (l : Launch) (D : va_G) (dA : Nat → ClassId) (A : Nat → Prop) (pz b L : Nat) (xs : Nat → Int32) (hl9 : l.stackTraces = false) (lc : Nat → Nat → Nat) (s : tt_SL) (x1 : Int32) {Q : Option Value → (Nat → Nat → Nat) → tt_SL → Prop} (h : Ok (wrapL (fT_burden s.1 x1) s (cd3 none (some 1) none)) (fun r => ∀ lc', tt_agr (XL l D dA A pz b L xs) s lc lc' → Q (some (.int r.1)) lc' r.2)) : tt_SpW (XL l D dA A pz b L xs) yX0_burden cX0_burden 4 (some .int) hh_burden rL_burden [.ref (lc 0 0), .int x1, .ref (lc 400 0)] lc s Q := by
  refine tt_SpW.ofV plX0 kokL (Nat.le_of_ble_eq_true rfl) ?_
  show tt_V (XL l D dA A pz b L xs) cX0_burden (RX0, 4, (some .int), rL_burden, tt_hh hh_burden) (tt_fn (XL l D dA A pz b L xs) (RX0, 4, (some .int), rL_burden, tt_hh hh_burden) Q) 0 [(0, .ref (lc 0 0)), (1, .int x1), (2, .ref (lc 400 0))] [] lc s 0 0
  have h := Ok.wrapL h
  refine v_aload_n 2 dX0_burden_0 rfl ?_
  refine v_iconst dX0_burden_1 ic_0 ?_
  refine v_aload_n 0 dX0_burden_2 rfl ?_
  refine v_iload_n 1 dX0_burden_3 rfl ?_
  refine v_callVXh (hh := hh_burden) (kd := 0) (i := 0) (nA := 1) (As := [.int x1]) (rest := [.int 0, .ref (lc 400 0)]) (Q' := (fun v lc' s' => ∃ r : Int64 × tt_S3, (∀ lc'', tt_agr (XL l D dA A pz b L xs) s lc lc'' → Q (some (.int 0)) lc'' (r.2, s.2.1, wrL s.2.2 0 0 0 r.1)) ∧ v = some (Value.long r.1) ∧ tt_agr (XL l D dA A pz b L xs) s lc lc' ∧ s' = (r.2, s.2))) (QX' := (fun E lc' s' => ∃ e : Nat × tt_S3, (∃ c, (cd3 none (some 1) none) e.1 = some c ∧ ∀ lc'', tt_agr (XL l D dA A pz b L xs) s lc lc'' → Q (some (.int c)) lc'' (e.2, s.2)) ∧ E = tt_exn e.1 ∧ tt_agr (XL l D dA A pz b L xs) s lc lc' ∧ s' = (e.2, s.2))) knL lvL_0 oL_0 rfl (liftTX (Q := (fun v lc' s' => ∃ r : Int64 × tt_S3, (∀ lc'', tt_agr (XL l D dA A pz b L xs) s lc lc'' → Q (some (.int 0)) lc'' (r.2, s.2.1, wrL s.2.2 0 0 0 r.1)) ∧ v = some (Value.long r.1) ∧ tt_agr (XL l D dA A pz b L xs) s lc lc' ∧ s' = (r.2, s.2))) (QX := (fun E lc' s' => ∃ e : Nat × tt_S3, (∃ c, (cd3 none (some 1) none) e.1 = some c ∧ ∀ lc'', tt_agr (XL l D dA A pz b L xs) s lc lc'' → Q (some (.int c)) lc'' (e.2, s.2)) ∧ E = tt_exn e.1 ∧ tt_agr (XL l D dA A pz b L xs) s lc lc' ∧ s' = (e.2, s.2))) (mT_burden l D dA (aLT A lc s) pz hl9 lc s.1 x1 (Q := (fun v lc' w => tt_agr (XT l D dA (aLT A lc s) pz) s.1 lc lc' ∧ (fun v lc' s' => ∃ r : Int64 × tt_S3, (∀ lc'', tt_agr (XL l D dA A pz b L xs) s lc lc'' → Q (some (.int 0)) lc'' (r.2, s.2.1, wrL s.2.2 0 0 0 r.1)) ∧ v = some (Value.long r.1) ∧ tt_agr (XL l D dA A pz b L xs) s lc lc' ∧ s' = (r.2, s.2)) v lc' (w, s.2))) (QX := (fun E lc' w => tt_agr (XT l D dA (aLT A lc s) pz) s.1 lc lc' ∧ (fun E lc' s' => ∃ e : Nat × tt_S3, (∃ c, (cd3 none (some 1) none) e.1 = some c ∧ ∀ lc'', tt_agr (XL l D dA A pz b L xs) s lc lc'' → Q (some (.int c)) lc'' (e.2, s.2)) ∧ E = tt_exn e.1 ∧ tt_agr (XL l D dA A pz b L xs) s lc lc' ∧ s' = (e.2, s.2)) E lc' (w, s.2))) (h.mono (fun q hq => by cases q with
    | inl r => exact ⟨agr_rf, r, hq, rfl, agr_rf, rfl⟩
    | inr e => exact ⟨agr_rf, e, hq, rfl, agr_rf, rfl⟩)))) (lw_V q1373 q1374 q1375 q127 q1376) (by decide +kernel) rfl ⟨Nat.le_of_ble_eq_true rfl, Nat.le_of_ble_eq_true rfl⟩ (Nat.le_of_ble_eq_true rfl) ⟨Nat.le_of_ble_eq_true rfl, Nat.le_of_ble_eq_true rfl⟩ (fun _ _ _ h => h) dX0_burden_4 rfl (fun E lc' s' q => ?_) (fun v lc' s' q => ?_)
  · obtain ⟨e, ⟨c, hcd, hk⟩, e1, e2, e3⟩ := q
    rw [e1, e3]
    unfold cd3 at hcd
    clear e1 e3 h
    by_cases h0 : e.1 = 0
    · rw [if_pos h0] at hcd
      cases hcd
    by_cases h1 : e.1 = 1
    · rw [if_neg h0, if_pos h1] at hcd
      cases hcd
      rw [h1]
      refine ⟨11, ct_burden_1, fun q => ?_⟩
      rw [← e2 0 0 (.inl lvL_0)]
      rw [← e2 400 0 (.inl lvL_400)]
      refine v_astore_n [(3, .ref q), (0, .ref (lc' 0 0)), (1, .int x1), (2, .ref (lc' 400 0))] dX0_burden_11 (Nat.le_of_ble_eq_true rfl) rfl ?_
      refine v_iconst dX0_burden_12 ic_1 ?_
      exact v_iret rfl (Nat.le_of_ble_eq_true rfl) (Nat.le_of_ble_eq_true rfl) dX0_burden_13 (hk _ e2)
    rw [if_neg h0, if_neg h1] at hcd
    cases hcd
  · obtain ⟨r, hk, e1, e2, e3⟩ := q
    rw [e1, e3]
    clear e1 e3 h
    rw [← e2 0 0 (.inl lvL_0)]
    rw [← e2 400 0 (.inl lvL_400)]
    refine sL_400 (by decide) dX0_burden_7 ?_
    refine v_goto (tgt := 14) dX0_burden_8 rfl ?_
    refine v_iconst dX0_burden_14 ic_0 ?_
    exact v_iret rfl (Nat.le_of_ble_eq_true rfl) (Nat.le_of_ble_eq_true rfl) dX0_burden_15 (hk _ e2)
def hh_offs : List (Nat × Nat × Nat × Nat) := [(0, 14, 17, 13)]
abbrev rL_offs : Room := { frames := 11, cells := 4, slots := 24, locals := 208 }
theorem ct_offs_1 {l : Launch} {D : va_G} {dA : Nat → ClassId} {A : Nat → Prop} {pz b L : Nat} {xs : Nat → Int32} : tt_ct (XL l D dA A pz b L xs) RX0 hh_offs 9 (tt_exn 1) 17 :=
  ⟨[], ⟨0, 14, 17, 13⟩, [], "java/lang/IllegalArgumentException", rfl, (fun z hz => nomatch hz), by decide, by decide, q940, q209, rfl⟩
set_option maxHeartbeats 4000000 in
theorem mL_offs (l : Launch) (D : va_G) (dA : Nat → ClassId) (A : Nat → Prop) (pz b L : Nat) (xs : Nat → Int32) (hl9 : l.stackTraces = false) (lc : Nat → Nat → Nat) (s : tt_SL) (x1 : Int32) (x2 : Int32) (x3 : Int32) (x4 : Int32) {Q : Option Value → (Nat → Nat → Nat) → tt_SL → Prop} (h : Ok (wrapI (fT_offs s.1 x1 x2 x3 x4) s (cd3 none (some 1) none)) (fun r => ∀ lc', tt_agr (XL l D dA A pz b L xs) s lc lc' → Q (some (.int r.1)) lc' r.2)) : tt_SpW (XL l D dA A pz b L xs) yX0_offs cX0_offs 7 (some .int) hh_offs rL_offs [.ref (lc 0 0), .int x1, .int x2, .int x3, .int x4, .ref (lc 400 0)] lc s Q := by
  refine tt_SpW.ofV plX0 kokL (Nat.le_of_ble_eq_true rfl) ?_
  show tt_V (XL l D dA A pz b L xs) cX0_offs (RX0, 7, (some .int), rL_offs, tt_hh hh_offs) (tt_fn (XL l D dA A pz b L xs) (RX0, 7, (some .int), rL_offs, tt_hh hh_offs) Q) 0 [(0, .ref (lc 0 0)), (1, .int x1), (2, .int x2), (3, .int x3), (4, .int x4), (5, .ref (lc 400 0))] [] lc s 0 0
  have h := Ok.wrapI h
  refine v_aload 5 dX0_offs_0 rfl ?_
  refine v_iconst dX0_offs_2 ic_0 ?_
  refine v_aload_n 0 dX0_offs_3 rfl ?_
  refine v_iload_n 1 dX0_offs_4 rfl ?_
  refine v_iload_n 2 dX0_offs_5 rfl ?_
  refine v_iload_n 3 dX0_offs_6 rfl ?_
  refine v_iload 4 dX0_offs_7 rfl ?_
  refine v_callVXh (hh := hh_offs) (kd := 0) (i := 0) (nA := 4) (As := [.int x1, .int x2, .int x3, .int x4]) (rest := [.int 0, .ref (lc 400 0)]) (Q' := (fun v lc' s' => ∃ r : Int32 × tt_S3, (∀ lc'', tt_agr (XL l D dA A pz b L xs) s lc lc'' → Q (some (.int 0)) lc'' (r.2, s.2.1, wrL s.2.2 0 0 0 r.1.toInt64)) ∧ v = some (Value.int r.1) ∧ tt_agr (XL l D dA A pz b L xs) s lc lc' ∧ s' = (r.2, s.2))) (QX' := (fun E lc' s' => ∃ e : Nat × tt_S3, (∃ c, (cd3 none (some 1) none) e.1 = some c ∧ ∀ lc'', tt_agr (XL l D dA A pz b L xs) s lc lc'' → Q (some (.int c)) lc'' (e.2, s.2)) ∧ E = tt_exn e.1 ∧ tt_agr (XL l D dA A pz b L xs) s lc lc' ∧ s' = (e.2, s.2))) knL lvL_0 oL_0 rfl (liftTX (Q := (fun v lc' s' => ∃ r : Int32 × tt_S3, (∀ lc'', tt_agr (XL l D dA A pz b L xs) s lc lc'' → Q (some (.int 0)) lc'' (r.2, s.2.1, wrL s.2.2 0 0 0 r.1.toInt64)) ∧ v = some (Value.int r.1) ∧ tt_agr (XL l D dA A pz b L xs) s lc lc' ∧ s' = (r.2, s.2))) (QX := (fun E lc' s' => ∃ e : Nat × tt_S3, (∃ c, (cd3 none (some 1) none) e.1 = some c ∧ ∀ lc'', tt_agr (XL l D dA A pz b L xs) s lc lc'' → Q (some (.int c)) lc'' (e.2, s.2)) ∧ E = tt_exn e.1 ∧ tt_agr (XL l D dA A pz b L xs) s lc lc' ∧ s' = (e.2, s.2))) (mT_offs l D dA (aLT A lc s) pz hl9 lc s.1 x1 x2 x3 x4 (Q := (fun v lc' w => tt_agr (XT l D dA (aLT A lc s) pz) s.1 lc lc' ∧ (fun v lc' s' => ∃ r : Int32 × tt_S3, (∀ lc'', tt_agr (XL l D dA A pz b L xs) s lc lc'' → Q (some (.int 0)) lc'' (r.2, s.2.1, wrL s.2.2 0 0 0 r.1.toInt64)) ∧ v = some (Value.int r.1) ∧ tt_agr (XL l D dA A pz b L xs) s lc lc' ∧ s' = (r.2, s.2)) v lc' (w, s.2))) (QX := (fun E lc' w => tt_agr (XT l D dA (aLT A lc s) pz) s.1 lc lc' ∧ (fun E lc' s' => ∃ e : Nat × tt_S3, (∃ c, (cd3 none (some 1) none) e.1 = some c ∧ ∀ lc'', tt_agr (XL l D dA A pz b L xs) s lc lc'' → Q (some (.int c)) lc'' (e.2, s.2)) ∧ E = tt_exn e.1 ∧ tt_agr (XL l D dA A pz b L xs) s lc lc' ∧ s' = (e.2, s.2)) E lc' (w, s.2))) (h.mono (fun q hq => by cases q with
    | inl r => exact ⟨agr_rf, r, hq, rfl, agr_rf, rfl⟩
    | inr e => exact ⟨agr_rf, e, hq, rfl, agr_rf, rfl⟩)))) (lw_V q1531 q1532 q1533 q127 q1534) (by decide +kernel) rfl ⟨Nat.le_of_ble_eq_true rfl, Nat.le_of_ble_eq_true rfl⟩ (Nat.le_of_ble_eq_true rfl) ⟨Nat.le_of_ble_eq_true rfl, Nat.le_of_ble_eq_true rfl⟩ (fun _ _ _ h => h) dX0_offs_9 rfl (fun E lc' s' q => ?_) (fun v lc' s' q => ?_)
  · obtain ⟨e, ⟨c, hcd, hk⟩, e1, e2, e3⟩ := q
    rw [e1, e3]
    unfold cd3 at hcd
    clear e1 e3 h
    by_cases h0 : e.1 = 0
    · rw [if_pos h0] at hcd
      cases hcd
    by_cases h1 : e.1 = 1
    · rw [if_neg h0, if_pos h1] at hcd
      cases hcd
      rw [h1]
      refine ⟨17, ct_offs_1, fun q => ?_⟩
      rw [← e2 0 0 (.inl lvL_0)]
      rw [← e2 400 0 (.inl lvL_400)]
      refine v_astore [(6, .ref q), (0, .ref (lc' 0 0)), (1, .int x1), (2, .int x2), (3, .int x3), (4, .int x4), (5, .ref (lc' 400 0))] dX0_offs_17 (Nat.le_of_ble_eq_true rfl) rfl ?_
      refine v_iconst dX0_offs_19 ic_1 ?_
      exact v_iret rfl (Nat.le_of_ble_eq_true rfl) (Nat.le_of_ble_eq_true rfl) dX0_offs_20 (hk _ e2)
    rw [if_neg h0, if_neg h1] at hcd
    cases hcd
  · obtain ⟨r, hk, e1, e2, e3⟩ := q
    rw [e1, e3]
    clear e1 e3 h
    rw [← e2 0 0 (.inl lvL_0)]
    rw [← e2 400 0 (.inl lvL_400)]
    refine v_i2l dX0_offs_12 rfl ?_
    refine sL_400 (by decide) dX0_offs_13 ?_
    refine v_goto (tgt := 21) dX0_offs_14 rfl ?_
    refine v_iconst dX0_offs_21 ic_0 ?_
    exact v_iret rfl (Nat.le_of_ble_eq_true rfl) (Nat.le_of_ble_eq_true rfl) dX0_offs_22 (hk _ e2)
def hh_would : List (Nat × Nat × Nat × Nat) := [(0, 15, 18, 13)]
abbrev rL_would : Room := { frames := 14, cells := 5, slots := 30, locals := 333 }
theorem ct_would_1 {l : Launch} {D : va_G} {dA : Nat → ClassId} {A : Nat → Prop} {pz b L : Nat} {xs : Nat → Int32} : tt_ct (XL l D dA A pz b L xs) RX0 hh_would 11 (tt_exn 1) 18 :=
  ⟨[], ⟨0, 15, 18, 13⟩, [], "java/lang/IllegalArgumentException", rfl, (fun z hz => nomatch hz), by decide, by decide, q940, q209, rfl⟩
set_option maxHeartbeats 4000000 in
theorem mL_would (l : Launch) (D : va_G) (dA : Nat → ClassId) (A : Nat → Prop) (pz b L : Nat) (xs : Nat → Int32) (hl9 : l.stackTraces = false) (lc : Nat → Nat → Nat) (s : tt_SL) (x1 : Int32) (x2 : Int32) (x3 : Int32) (x4 : Int32) (x5 : Int32) {Q : Option Value → (Nat → Nat → Nat) → tt_SL → Prop} (h : Ok (wrapL (fT_would s.1 x1 x2 x3 x4 x5) s (cd3 none (some 1) none)) (fun r => ∀ lc', tt_agr (XL l D dA A pz b L xs) s lc lc' → Q (some (.int r.1)) lc' r.2)) : tt_SpW (XL l D dA A pz b L xs) yX0_would cX0_would 8 (some .int) hh_would rL_would [.ref (lc 0 0), .int x1, .int x2, .int x3, .int x4, .int x5, .ref (lc 400 0)] lc s Q := by
  refine tt_SpW.ofV plX0 kokL (Nat.le_of_ble_eq_true rfl) ?_
  show tt_V (XL l D dA A pz b L xs) cX0_would (RX0, 8, (some .int), rL_would, tt_hh hh_would) (tt_fn (XL l D dA A pz b L xs) (RX0, 8, (some .int), rL_would, tt_hh hh_would) Q) 0 [(0, .ref (lc 0 0)), (1, .int x1), (2, .int x2), (3, .int x3), (4, .int x4), (5, .int x5), (6, .ref (lc 400 0))] [] lc s 0 0
  have h := Ok.wrapL h
  refine v_aload 6 dX0_would_0 rfl ?_
  refine v_iconst dX0_would_2 ic_0 ?_
  refine v_aload_n 0 dX0_would_3 rfl ?_
  refine v_iload_n 1 dX0_would_4 rfl ?_
  refine v_iload_n 2 dX0_would_5 rfl ?_
  refine v_iload_n 3 dX0_would_6 rfl ?_
  refine v_iload 4 dX0_would_7 rfl ?_
  refine v_iload 5 dX0_would_9 rfl ?_
  refine v_callVXh (hh := hh_would) (kd := 0) (i := 0) (nA := 5) (As := [.int x1, .int x2, .int x3, .int x4, .int x5]) (rest := [.int 0, .ref (lc 400 0)]) (Q' := (fun v lc' s' => ∃ r : Int64 × tt_S3, (∀ lc'', tt_agr (XL l D dA A pz b L xs) s lc lc'' → Q (some (.int 0)) lc'' (r.2, s.2.1, wrL s.2.2 0 0 0 r.1)) ∧ v = some (Value.long r.1) ∧ tt_agr (XL l D dA A pz b L xs) s lc lc' ∧ s' = (r.2, s.2))) (QX' := (fun E lc' s' => ∃ e : Nat × tt_S3, (∃ c, (cd3 none (some 1) none) e.1 = some c ∧ ∀ lc'', tt_agr (XL l D dA A pz b L xs) s lc lc'' → Q (some (.int c)) lc'' (e.2, s.2)) ∧ E = tt_exn e.1 ∧ tt_agr (XL l D dA A pz b L xs) s lc lc' ∧ s' = (e.2, s.2))) knL lvL_0 oL_0 rfl (liftTX (Q := (fun v lc' s' => ∃ r : Int64 × tt_S3, (∀ lc'', tt_agr (XL l D dA A pz b L xs) s lc lc'' → Q (some (.int 0)) lc'' (r.2, s.2.1, wrL s.2.2 0 0 0 r.1)) ∧ v = some (Value.long r.1) ∧ tt_agr (XL l D dA A pz b L xs) s lc lc' ∧ s' = (r.2, s.2))) (QX := (fun E lc' s' => ∃ e : Nat × tt_S3, (∃ c, (cd3 none (some 1) none) e.1 = some c ∧ ∀ lc'', tt_agr (XL l D dA A pz b L xs) s lc lc'' → Q (some (.int c)) lc'' (e.2, s.2)) ∧ E = tt_exn e.1 ∧ tt_agr (XL l D dA A pz b L xs) s lc lc' ∧ s' = (e.2, s.2))) (mT_would l D dA (aLT A lc s) pz hl9 lc s.1 x1 x2 x3 x4 x5 (Q := (fun v lc' w => tt_agr (XT l D dA (aLT A lc s) pz) s.1 lc lc' ∧ (fun v lc' s' => ∃ r : Int64 × tt_S3, (∀ lc'', tt_agr (XL l D dA A pz b L xs) s lc lc'' → Q (some (.int 0)) lc'' (r.2, s.2.1, wrL s.2.2 0 0 0 r.1)) ∧ v = some (Value.long r.1) ∧ tt_agr (XL l D dA A pz b L xs) s lc lc' ∧ s' = (r.2, s.2)) v lc' (w, s.2))) (QX := (fun E lc' w => tt_agr (XT l D dA (aLT A lc s) pz) s.1 lc lc' ∧ (fun E lc' s' => ∃ e : Nat × tt_S3, (∃ c, (cd3 none (some 1) none) e.1 = some c ∧ ∀ lc'', tt_agr (XL l D dA A pz b L xs) s lc lc'' → Q (some (.int c)) lc'' (e.2, s.2)) ∧ E = tt_exn e.1 ∧ tt_agr (XL l D dA A pz b L xs) s lc lc' ∧ s' = (e.2, s.2)) E lc' (w, s.2))) (h.mono (fun q hq => by cases q with
    | inl r => exact ⟨agr_rf, r, hq, rfl, agr_rf, rfl⟩
    | inr e => exact ⟨agr_rf, e, hq, rfl, agr_rf, rfl⟩)))) (lw_V q1545 q1546 q1547 q127 q1548) (by decide +kernel) rfl ⟨Nat.le_of_ble_eq_true rfl, Nat.le_of_ble_eq_true rfl⟩ (Nat.le_of_ble_eq_true rfl) ⟨Nat.le_of_ble_eq_true rfl, Nat.le_of_ble_eq_true rfl⟩ (fun _ _ _ h => h) dX0_would_11 rfl (fun E lc' s' q => ?_) (fun v lc' s' q => ?_)
  · obtain ⟨e, ⟨c, hcd, hk⟩, e1, e2, e3⟩ := q
    rw [e1, e3]
    unfold cd3 at hcd
    clear e1 e3 h
    by_cases h0 : e.1 = 0
    · rw [if_pos h0] at hcd
      cases hcd
    by_cases h1 : e.1 = 1
    · rw [if_neg h0, if_pos h1] at hcd
      cases hcd
      rw [h1]
      refine ⟨18, ct_would_1, fun q => ?_⟩
      rw [← e2 0 0 (.inl lvL_0)]
      rw [← e2 400 0 (.inl lvL_400)]
      refine v_astore [(7, .ref q), (0, .ref (lc' 0 0)), (1, .int x1), (2, .int x2), (3, .int x3), (4, .int x4), (5, .int x5), (6, .ref (lc' 400 0))] dX0_would_18 (Nat.le_of_ble_eq_true rfl) rfl ?_
      refine v_iconst dX0_would_20 ic_1 ?_
      exact v_iret rfl (Nat.le_of_ble_eq_true rfl) (Nat.le_of_ble_eq_true rfl) dX0_would_21 (hk _ e2)
    rw [if_neg h0, if_neg h1] at hcd
    cases hcd
  · obtain ⟨r, hk, e1, e2, e3⟩ := q
    rw [e1, e3]
    clear e1 e3 h
    rw [← e2 0 0 (.inl lvL_0)]
    rw [← e2 400 0 (.inl lvL_400)]
    refine sL_400 (by decide) dX0_would_14 ?_
    refine v_goto (tgt := 22) dX0_would_15 rfl ?_
    refine v_iconst dX0_would_22 ic_0 ?_
    exact v_iret rfl (Nat.le_of_ble_eq_true rfl) (Nat.le_of_ble_eq_true rfl) dX0_would_23 (hk _ e2)
def hh_takes : List (Nat × Nat × Nat × Nat) := [(0, 15, 18, 21), (0, 15, 22, 13)]
abbrev rL_takes : Room := { frames := 14, cells := 5, slots := 30, locals := 333 }
theorem ct_takes_0 {l : Launch} {D : va_G} {dA : Nat → ClassId} {A : Nat → Prop} {pz b L : Nat} {xs : Nat → Int32} : tt_ct (XL l D dA A pz b L xs) RX0 hh_takes 11 (tt_exn 0) 18 :=
  ⟨[], ⟨0, 15, 18, 21⟩, [⟨0, 15, 22, 13⟩], "java/util/NoSuchElementException", rfl, (fun z hz => nomatch hz), by decide, by decide, q1017, q1032, rfl⟩
theorem ct_takes_1 {l : Launch} {D : va_G} {dA : Nat → ClassId} {A : Nat → Prop} {pz b L : Nat} {xs : Nat → Int32} : tt_ct (XL l D dA A pz b L xs) RX0 hh_takes 11 (tt_exn 1) 22 :=
  ⟨[⟨0, 15, 18, 21⟩], ⟨0, 15, 22, 13⟩, [], "java/lang/IllegalArgumentException", rfl, (fun z hz => by cases List.mem_singleton.mp hz; exact ⟨by decide, _, q1017, nc_L (a := 1) (c := 0) (by decide) (by decide) (by decide)⟩), by decide, by decide, q940, q209, rfl⟩
set_option maxHeartbeats 4000000 in
theorem mL_takes (l : Launch) (D : va_G) (dA : Nat → ClassId) (A : Nat → Prop) (pz b L : Nat) (xs : Nat → Int32) (hl9 : l.stackTraces = false) (lc : Nat → Nat → Nat) (s : tt_SL) (x1 : Int32) (x2 : Int32) (x3 : Int32) (x4 : Int32) (x5 : Int32) {Q : Option Value → (Nat → Nat → Nat) → tt_SL → Prop} (h : Ok (wrapL (fT_takes s.1 x1 x2 x3 x4 x5) s (cd3 (some 1) (some 2) none)) (fun r => ∀ lc', tt_agr (XL l D dA A pz b L xs) s lc lc' → Q (some (.int r.1)) lc' r.2)) : tt_SpW (XL l D dA A pz b L xs) yX0_takes cX0_takes 8 (some .int) hh_takes rL_takes [.ref (lc 0 0), .int x1, .int x2, .int x3, .int x4, .int x5, .ref (lc 400 0)] lc s Q := by
  refine tt_SpW.ofV plX0 kokL (Nat.le_of_ble_eq_true rfl) ?_
  show tt_V (XL l D dA A pz b L xs) cX0_takes (RX0, 8, (some .int), rL_takes, tt_hh hh_takes) (tt_fn (XL l D dA A pz b L xs) (RX0, 8, (some .int), rL_takes, tt_hh hh_takes) Q) 0 [(0, .ref (lc 0 0)), (1, .int x1), (2, .int x2), (3, .int x3), (4, .int x4), (5, .int x5), (6, .ref (lc 400 0))] [] lc s 0 0
  have h := Ok.wrapL h
  refine v_aload 6 dX0_takes_0 rfl ?_
  refine v_iconst dX0_takes_2 ic_0 ?_
  refine v_aload_n 0 dX0_takes_3 rfl ?_
  refine v_iload_n 1 dX0_takes_4 rfl ?_
  refine v_iload_n 2 dX0_takes_5 rfl ?_
  refine v_iload_n 3 dX0_takes_6 rfl ?_
  refine v_iload 4 dX0_takes_7 rfl ?_
  refine v_iload 5 dX0_takes_9 rfl ?_
  refine v_callVXh (hh := hh_takes) (kd := 0) (i := 0) (nA := 5) (As := [.int x1, .int x2, .int x3, .int x4, .int x5]) (rest := [.int 0, .ref (lc 400 0)]) (Q' := (fun v lc' s' => ∃ r : Int64 × tt_S3, (∀ lc'', tt_agr (XL l D dA A pz b L xs) s lc lc'' → Q (some (.int 0)) lc'' (r.2, s.2.1, wrL s.2.2 0 0 0 r.1)) ∧ v = some (Value.long r.1) ∧ tt_agr (XL l D dA A pz b L xs) s lc lc' ∧ s' = (r.2, s.2))) (QX' := (fun E lc' s' => ∃ e : Nat × tt_S3, (∃ c, (cd3 (some 1) (some 2) none) e.1 = some c ∧ ∀ lc'', tt_agr (XL l D dA A pz b L xs) s lc lc'' → Q (some (.int c)) lc'' (e.2, s.2)) ∧ E = tt_exn e.1 ∧ tt_agr (XL l D dA A pz b L xs) s lc lc' ∧ s' = (e.2, s.2))) knL lvL_0 oL_0 rfl (liftTX (Q := (fun v lc' s' => ∃ r : Int64 × tt_S3, (∀ lc'', tt_agr (XL l D dA A pz b L xs) s lc lc'' → Q (some (.int 0)) lc'' (r.2, s.2.1, wrL s.2.2 0 0 0 r.1)) ∧ v = some (Value.long r.1) ∧ tt_agr (XL l D dA A pz b L xs) s lc lc' ∧ s' = (r.2, s.2))) (QX := (fun E lc' s' => ∃ e : Nat × tt_S3, (∃ c, (cd3 (some 1) (some 2) none) e.1 = some c ∧ ∀ lc'', tt_agr (XL l D dA A pz b L xs) s lc lc'' → Q (some (.int c)) lc'' (e.2, s.2)) ∧ E = tt_exn e.1 ∧ tt_agr (XL l D dA A pz b L xs) s lc lc' ∧ s' = (e.2, s.2))) (mT_takes l D dA (aLT A lc s) pz hl9 lc s.1 x1 x2 x3 x4 x5 (Q := (fun v lc' w => tt_agr (XT l D dA (aLT A lc s) pz) s.1 lc lc' ∧ (fun v lc' s' => ∃ r : Int64 × tt_S3, (∀ lc'', tt_agr (XL l D dA A pz b L xs) s lc lc'' → Q (some (.int 0)) lc'' (r.2, s.2.1, wrL s.2.2 0 0 0 r.1)) ∧ v = some (Value.long r.1) ∧ tt_agr (XL l D dA A pz b L xs) s lc lc' ∧ s' = (r.2, s.2)) v lc' (w, s.2))) (QX := (fun E lc' w => tt_agr (XT l D dA (aLT A lc s) pz) s.1 lc lc' ∧ (fun E lc' s' => ∃ e : Nat × tt_S3, (∃ c, (cd3 (some 1) (some 2) none) e.1 = some c ∧ ∀ lc'', tt_agr (XL l D dA A pz b L xs) s lc lc'' → Q (some (.int c)) lc'' (e.2, s.2)) ∧ E = tt_exn e.1 ∧ tt_agr (XL l D dA A pz b L xs) s lc lc' ∧ s' = (e.2, s.2)) E lc' (w, s.2))) (h.mono (fun q hq => by cases q with
    | inl r => exact ⟨agr_rf, r, hq, rfl, agr_rf, rfl⟩
    | inr e => exact ⟨agr_rf, e, hq, rfl, agr_rf, rfl⟩)))) (lw_V q1565 q1566 q1567 q127 q1568) (by decide +kernel) rfl ⟨Nat.le_of_ble_eq_true rfl, Nat.le_of_ble_eq_true rfl⟩ (Nat.le_of_ble_eq_true rfl) ⟨Nat.le_of_ble_eq_true rfl, Nat.le_of_ble_eq_true rfl⟩ (fun _ _ _ h => h) dX0_takes_11 rfl (fun E lc' s' q => ?_) (fun v lc' s' q => ?_)
  · obtain ⟨e, ⟨c, hcd, hk⟩, e1, e2, e3⟩ := q
    rw [e1, e3]
    unfold cd3 at hcd
    clear e1 e3 h
    by_cases h0 : e.1 = 0
    · rw [if_pos h0] at hcd
      cases hcd
      rw [h0]
      refine ⟨18, ct_takes_0, fun q => ?_⟩
      rw [← e2 0 0 (.inl lvL_0)]
      rw [← e2 400 0 (.inl lvL_400)]
      refine v_astore [(7, .ref q), (0, .ref (lc' 0 0)), (1, .int x1), (2, .int x2), (3, .int x3), (4, .int x4), (5, .int x5), (6, .ref (lc' 400 0))] dX0_takes_18 (Nat.le_of_ble_eq_true rfl) rfl ?_
      refine v_iconst dX0_takes_20 ic_1 ?_
      exact v_iret rfl (Nat.le_of_ble_eq_true rfl) (Nat.le_of_ble_eq_true rfl) dX0_takes_21 (hk _ e2)
    by_cases h1 : e.1 = 1
    · rw [if_neg h0, if_pos h1] at hcd
      cases hcd
      rw [h1]
      refine ⟨22, ct_takes_1, fun q => ?_⟩
      rw [← e2 0 0 (.inl lvL_0)]
      rw [← e2 400 0 (.inl lvL_400)]
      refine v_astore [(7, .ref q), (0, .ref (lc' 0 0)), (1, .int x1), (2, .int x2), (3, .int x3), (4, .int x4), (5, .int x5), (6, .ref (lc' 400 0))] dX0_takes_22 (Nat.le_of_ble_eq_true rfl) rfl ?_
      refine v_iconst dX0_takes_24 ic_2 ?_
      exact v_iret rfl (Nat.le_of_ble_eq_true rfl) (Nat.le_of_ble_eq_true rfl) dX0_takes_25 (hk _ e2)
    rw [if_neg h0, if_neg h1] at hcd
    cases hcd
  · obtain ⟨r, hk, e1, e2, e3⟩ := q
    rw [e1, e3]
    clear e1 e3 h
    rw [← e2 0 0 (.inl lvL_0)]
    rw [← e2 400 0 (.inl lvL_400)]
    refine sL_400 (by decide) dX0_takes_14 ?_
    refine v_goto (tgt := 26) dX0_takes_15 rfl ?_
    refine v_iconst dX0_takes_26 ic_0 ?_
    exact v_iret rfl (Nat.le_of_ble_eq_true rfl) (Nat.le_of_ble_eq_true rfl) dX0_takes_27 (hk _ e2)
def hh_drops : List (Nat × Nat × Nat × Nat) := [(0, 15, 18, 13)]
abbrev rL_drops : Room := { frames := 14, cells := 5, slots := 30, locals := 333 }
theorem ct_drops_1 {l : Launch} {D : va_G} {dA : Nat → ClassId} {A : Nat → Prop} {pz b L : Nat} {xs : Nat → Int32} : tt_ct (XL l D dA A pz b L xs) RX0 hh_drops 11 (tt_exn 1) 18 :=
  ⟨[], ⟨0, 15, 18, 13⟩, [], "java/lang/IllegalArgumentException", rfl, (fun z hz => nomatch hz), by decide, by decide, q940, q209, rfl⟩
set_option maxHeartbeats 4000000 in
theorem mL_drops (l : Launch) (D : va_G) (dA : Nat → ClassId) (A : Nat → Prop) (pz b L : Nat) (xs : Nat → Int32) (hl9 : l.stackTraces = false) (lc : Nat → Nat → Nat) (s : tt_SL) (x1 : Int32) (x2 : Int32) (x3 : Int32) (x4 : Int32) (x5 : Int32) {Q : Option Value → (Nat → Nat → Nat) → tt_SL → Prop} (h : Ok (wrapL (fT_drops s.1 x1 x2 x3 x4 x5) s (cd3 none (some 1) none)) (fun r => ∀ lc', tt_agr (XL l D dA A pz b L xs) s lc lc' → Q (some (.int r.1)) lc' r.2)) : tt_SpW (XL l D dA A pz b L xs) yX0_drops cX0_drops 8 (some .int) hh_drops rL_drops [.ref (lc 0 0), .int x1, .int x2, .int x3, .int x4, .int x5, .ref (lc 400 0)] lc s Q := by
  refine tt_SpW.ofV plX0 kokL (Nat.le_of_ble_eq_true rfl) ?_
  show tt_V (XL l D dA A pz b L xs) cX0_drops (RX0, 8, (some .int), rL_drops, tt_hh hh_drops) (tt_fn (XL l D dA A pz b L xs) (RX0, 8, (some .int), rL_drops, tt_hh hh_drops) Q) 0 [(0, .ref (lc 0 0)), (1, .int x1), (2, .int x2), (3, .int x3), (4, .int x4), (5, .int x5), (6, .ref (lc 400 0))] [] lc s 0 0
  have h := Ok.wrapL h
  refine v_aload 6 dX0_drops_0 rfl ?_
  refine v_iconst dX0_drops_2 ic_0 ?_
  refine v_aload_n 0 dX0_drops_3 rfl ?_
  refine v_iload_n 1 dX0_drops_4 rfl ?_
  refine v_iload_n 2 dX0_drops_5 rfl ?_
  refine v_iload_n 3 dX0_drops_6 rfl ?_
  refine v_iload 4 dX0_drops_7 rfl ?_
  refine v_iload 5 dX0_drops_9 rfl ?_
  refine v_callVXh (hh := hh_drops) (kd := 0) (i := 0) (nA := 5) (As := [.int x1, .int x2, .int x3, .int x4, .int x5]) (rest := [.int 0, .ref (lc 400 0)]) (Q' := (fun v lc' s' => ∃ r : Int64 × tt_S3, (∀ lc'', tt_agr (XL l D dA A pz b L xs) s lc lc'' → Q (some (.int 0)) lc'' (r.2, s.2.1, wrL s.2.2 0 0 0 r.1)) ∧ v = some (Value.long r.1) ∧ tt_agr (XL l D dA A pz b L xs) s lc lc' ∧ s' = (r.2, s.2))) (QX' := (fun E lc' s' => ∃ e : Nat × tt_S3, (∃ c, (cd3 none (some 1) none) e.1 = some c ∧ ∀ lc'', tt_agr (XL l D dA A pz b L xs) s lc lc'' → Q (some (.int c)) lc'' (e.2, s.2)) ∧ E = tt_exn e.1 ∧ tt_agr (XL l D dA A pz b L xs) s lc lc' ∧ s' = (e.2, s.2))) knL lvL_0 oL_0 rfl (liftTX (Q := (fun v lc' s' => ∃ r : Int64 × tt_S3, (∀ lc'', tt_agr (XL l D dA A pz b L xs) s lc lc'' → Q (some (.int 0)) lc'' (r.2, s.2.1, wrL s.2.2 0 0 0 r.1)) ∧ v = some (Value.long r.1) ∧ tt_agr (XL l D dA A pz b L xs) s lc lc' ∧ s' = (r.2, s.2))) (QX := (fun E lc' s' => ∃ e : Nat × tt_S3, (∃ c, (cd3 none (some 1) none) e.1 = some c ∧ ∀ lc'', tt_agr (XL l D dA A pz b L xs) s lc lc'' → Q (some (.int c)) lc'' (e.2, s.2)) ∧ E = tt_exn e.1 ∧ tt_agr (XL l D dA A pz b L xs) s lc lc' ∧ s' = (e.2, s.2))) (mT_drops l D dA (aLT A lc s) pz hl9 lc s.1 x1 x2 x3 x4 x5 (Q := (fun v lc' w => tt_agr (XT l D dA (aLT A lc s) pz) s.1 lc lc' ∧ (fun v lc' s' => ∃ r : Int64 × tt_S3, (∀ lc'', tt_agr (XL l D dA A pz b L xs) s lc lc'' → Q (some (.int 0)) lc'' (r.2, s.2.1, wrL s.2.2 0 0 0 r.1)) ∧ v = some (Value.long r.1) ∧ tt_agr (XL l D dA A pz b L xs) s lc lc' ∧ s' = (r.2, s.2)) v lc' (w, s.2))) (QX := (fun E lc' w => tt_agr (XT l D dA (aLT A lc s) pz) s.1 lc lc' ∧ (fun E lc' s' => ∃ e : Nat × tt_S3, (∃ c, (cd3 none (some 1) none) e.1 = some c ∧ ∀ lc'', tt_agr (XL l D dA A pz b L xs) s lc lc'' → Q (some (.int c)) lc'' (e.2, s.2)) ∧ E = tt_exn e.1 ∧ tt_agr (XL l D dA A pz b L xs) s lc lc' ∧ s' = (e.2, s.2)) E lc' (w, s.2))) (h.mono (fun q hq => by cases q with
    | inl r => exact ⟨agr_rf, r, hq, rfl, agr_rf, rfl⟩
    | inr e => exact ⟨agr_rf, e, hq, rfl, agr_rf, rfl⟩)))) (lw_V q1572 q1573 q1574 q127 q1575) (by decide +kernel) rfl ⟨Nat.le_of_ble_eq_true rfl, Nat.le_of_ble_eq_true rfl⟩ (Nat.le_of_ble_eq_true rfl) ⟨Nat.le_of_ble_eq_true rfl, Nat.le_of_ble_eq_true rfl⟩ (fun _ _ _ h => h) dX0_drops_11 rfl (fun E lc' s' q => ?_) (fun v lc' s' q => ?_)
  · obtain ⟨e, ⟨c, hcd, hk⟩, e1, e2, e3⟩ := q
    rw [e1, e3]
    unfold cd3 at hcd
    clear e1 e3 h
    by_cases h0 : e.1 = 0
    · rw [if_pos h0] at hcd
      cases hcd
    by_cases h1 : e.1 = 1
    · rw [if_neg h0, if_pos h1] at hcd
      cases hcd
      rw [h1]
      refine ⟨18, ct_drops_1, fun q => ?_⟩
      rw [← e2 0 0 (.inl lvL_0)]
      rw [← e2 400 0 (.inl lvL_400)]
      refine v_astore [(7, .ref q), (0, .ref (lc' 0 0)), (1, .int x1), (2, .int x2), (3, .int x3), (4, .int x4), (5, .int x5), (6, .ref (lc' 400 0))] dX0_drops_18 (Nat.le_of_ble_eq_true rfl) rfl ?_
      refine v_iconst dX0_drops_20 ic_1 ?_
      exact v_iret rfl (Nat.le_of_ble_eq_true rfl) (Nat.le_of_ble_eq_true rfl) dX0_drops_21 (hk _ e2)
    rw [if_neg h0, if_neg h1] at hcd
    cases hcd
  · obtain ⟨r, hk, e1, e2, e3⟩ := q
    rw [e1, e3]
    clear e1 e3 h
    rw [← e2 0 0 (.inl lvL_0)]
    rw [← e2 400 0 (.inl lvL_400)]
    refine sL_400 (by decide) dX0_drops_14 ?_
    refine v_goto (tgt := 22) dX0_drops_15 rfl ?_
    refine v_iconst dX0_drops_22 ic_0 ?_
    exact v_iret rfl (Nat.le_of_ble_eq_true rfl) (Nat.le_of_ble_eq_true rfl) dX0_drops_23 (hk _ e2)
def hh_share : List (Nat × Nat × Nat × Nat) := [(0, 15, 18, 13)]
abbrev rL_share : Room := { frames := 12, cells := 5, slots := 30, locals := 233 }
theorem ct_share_1 {l : Launch} {D : va_G} {dA : Nat → ClassId} {A : Nat → Prop} {pz b L : Nat} {xs : Nat → Int32} : tt_ct (XL l D dA A pz b L xs) RX0 hh_share 11 (tt_exn 1) 18 :=
  ⟨[], ⟨0, 15, 18, 13⟩, [], "java/lang/IllegalArgumentException", rfl, (fun z hz => nomatch hz), by decide, by decide, q940, q209, rfl⟩
set_option maxHeartbeats 4000000 in
theorem mL_share (l : Launch) (D : va_G) (dA : Nat → ClassId) (A : Nat → Prop) (pz b L : Nat) (xs : Nat → Int32) (hl9 : l.stackTraces = false) (lc : Nat → Nat → Nat) (s : tt_SL) (x1 : Int32) (x2 : Int32) (x3 : Int32) (x4 : Int32) (x5 : Int32) {Q : Option Value → (Nat → Nat → Nat) → tt_SL → Prop} (h : Ok (wrapL (fT_share s.1 x1 x2 x3 x4 x5) s (cd3 none (some 1) none)) (fun r => ∀ lc', tt_agr (XL l D dA A pz b L xs) s lc lc' → Q (some (.int r.1)) lc' r.2)) : tt_SpW (XL l D dA A pz b L xs) yX0_share cX0_share 8 (some .int) hh_share rL_share [.ref (lc 0 0), .int x1, .int x2, .int x3, .int x4, .int x5, .ref (lc 400 0)] lc s Q := by
  refine tt_SpW.ofV plX0 kokL (Nat.le_of_ble_eq_true rfl) ?_
  show tt_V (XL l D dA A pz b L xs) cX0_share (RX0, 8, (some .int), rL_share, tt_hh hh_share) (tt_fn (XL l D dA A pz b L xs) (RX0, 8, (some .int), rL_share, tt_hh hh_share) Q) 0 [(0, .ref (lc 0 0)), (1, .int x1), (2, .int x2), (3, .int x3), (4, .int x4), (5, .int x5), (6, .ref (lc 400 0))] [] lc s 0 0
  have h := Ok.wrapL h
  refine v_aload 6 dX0_share_0 rfl ?_
  refine v_iconst dX0_share_2 ic_0 ?_
  refine v_aload_n 0 dX0_share_3 rfl ?_
  refine v_iload_n 1 dX0_share_4 rfl ?_
  refine v_iload_n 2 dX0_share_5 rfl ?_
  refine v_iload_n 3 dX0_share_6 rfl ?_
  refine v_iload 4 dX0_share_7 rfl ?_
  refine v_iload 5 dX0_share_9 rfl ?_
  refine v_callVXh (hh := hh_share) (kd := 0) (i := 0) (nA := 5) (As := [.int x1, .int x2, .int x3, .int x4, .int x5]) (rest := [.int 0, .ref (lc 400 0)]) (Q' := (fun v lc' s' => ∃ r : Int64 × tt_S3, (∀ lc'', tt_agr (XL l D dA A pz b L xs) s lc lc'' → Q (some (.int 0)) lc'' (r.2, s.2.1, wrL s.2.2 0 0 0 r.1)) ∧ v = some (Value.long r.1) ∧ tt_agr (XL l D dA A pz b L xs) s lc lc' ∧ s' = (r.2, s.2))) (QX' := (fun E lc' s' => ∃ e : Nat × tt_S3, (∃ c, (cd3 none (some 1) none) e.1 = some c ∧ ∀ lc'', tt_agr (XL l D dA A pz b L xs) s lc lc'' → Q (some (.int c)) lc'' (e.2, s.2)) ∧ E = tt_exn e.1 ∧ tt_agr (XL l D dA A pz b L xs) s lc lc' ∧ s' = (e.2, s.2))) knL lvL_0 oL_0 rfl (liftTX (Q := (fun v lc' s' => ∃ r : Int64 × tt_S3, (∀ lc'', tt_agr (XL l D dA A pz b L xs) s lc lc'' → Q (some (.int 0)) lc'' (r.2, s.2.1, wrL s.2.2 0 0 0 r.1)) ∧ v = some (Value.long r.1) ∧ tt_agr (XL l D dA A pz b L xs) s lc lc' ∧ s' = (r.2, s.2))) (QX := (fun E lc' s' => ∃ e : Nat × tt_S3, (∃ c, (cd3 none (some 1) none) e.1 = some c ∧ ∀ lc'', tt_agr (XL l D dA A pz b L xs) s lc lc'' → Q (some (.int c)) lc'' (e.2, s.2)) ∧ E = tt_exn e.1 ∧ tt_agr (XL l D dA A pz b L xs) s lc lc' ∧ s' = (e.2, s.2))) (mT_share l D dA (aLT A lc s) pz hl9 lc s.1 x1 x2 x3 x4 x5 (Q := (fun v lc' w => tt_agr (XT l D dA (aLT A lc s) pz) s.1 lc lc' ∧ (fun v lc' s' => ∃ r : Int64 × tt_S3, (∀ lc'', tt_agr (XL l D dA A pz b L xs) s lc lc'' → Q (some (.int 0)) lc'' (r.2, s.2.1, wrL s.2.2 0 0 0 r.1)) ∧ v = some (Value.long r.1) ∧ tt_agr (XL l D dA A pz b L xs) s lc lc' ∧ s' = (r.2, s.2)) v lc' (w, s.2))) (QX := (fun E lc' w => tt_agr (XT l D dA (aLT A lc s) pz) s.1 lc lc' ∧ (fun E lc' s' => ∃ e : Nat × tt_S3, (∃ c, (cd3 none (some 1) none) e.1 = some c ∧ ∀ lc'', tt_agr (XL l D dA A pz b L xs) s lc lc'' → Q (some (.int c)) lc'' (e.2, s.2)) ∧ E = tt_exn e.1 ∧ tt_agr (XL l D dA A pz b L xs) s lc lc' ∧ s' = (e.2, s.2)) E lc' (w, s.2))) (h.mono (fun q hq => by cases q with
    | inl r => exact ⟨agr_rf, r, hq, rfl, agr_rf, rfl⟩
    | inr e => exact ⟨agr_rf, e, hq, rfl, agr_rf, rfl⟩)))) (lw_V q1579 q1580 q1581 q127 q1582) (by decide +kernel) rfl ⟨Nat.le_of_ble_eq_true rfl, Nat.le_of_ble_eq_true rfl⟩ (Nat.le_of_ble_eq_true rfl) ⟨Nat.le_of_ble_eq_true rfl, Nat.le_of_ble_eq_true rfl⟩ (fun _ _ _ h => h) dX0_share_11 rfl (fun E lc' s' q => ?_) (fun v lc' s' q => ?_)
  · obtain ⟨e, ⟨c, hcd, hk⟩, e1, e2, e3⟩ := q
    rw [e1, e3]
    unfold cd3 at hcd
    clear e1 e3 h
    by_cases h0 : e.1 = 0
    · rw [if_pos h0] at hcd
      cases hcd
    by_cases h1 : e.1 = 1
    · rw [if_neg h0, if_pos h1] at hcd
      cases hcd
      rw [h1]
      refine ⟨18, ct_share_1, fun q => ?_⟩
      rw [← e2 0 0 (.inl lvL_0)]
      rw [← e2 400 0 (.inl lvL_400)]
      refine v_astore [(7, .ref q), (0, .ref (lc' 0 0)), (1, .int x1), (2, .int x2), (3, .int x3), (4, .int x4), (5, .int x5), (6, .ref (lc' 400 0))] dX0_share_18 (Nat.le_of_ble_eq_true rfl) rfl ?_
      refine v_iconst dX0_share_20 ic_1 ?_
      exact v_iret rfl (Nat.le_of_ble_eq_true rfl) (Nat.le_of_ble_eq_true rfl) dX0_share_21 (hk _ e2)
    rw [if_neg h0, if_neg h1] at hcd
    cases hcd
  · obtain ⟨r, hk, e1, e2, e3⟩ := q
    rw [e1, e3]
    clear e1 e3 h
    rw [← e2 0 0 (.inl lvL_0)]
    rw [← e2 400 0 (.inl lvL_400)]
    refine sL_400 (by decide) dX0_share_14 ?_
    refine v_goto (tgt := 22) dX0_share_15 rfl ?_
    refine v_iconst dX0_share_22 ic_0 ?_
    exact v_iret rfl (Nat.le_of_ble_eq_true rfl) (Nat.le_of_ble_eq_true rfl) dX0_share_23 (hk _ e2)
def hh_weight : List (Nat × Nat × Nat × Nat) := [(0, 13, 16, 13)]
abbrev rL_weight : Room := { frames := 11, cells := 4, slots := 24, locals := 208 }
theorem ct_weight_1 {l : Launch} {D : va_G} {dA : Nat → ClassId} {A : Nat → Prop} {pz b L : Nat} {xs : Nat → Int32} : tt_ct (XL l D dA A pz b L xs) RX0 hh_weight 9 (tt_exn 1) 16 :=
  ⟨[], ⟨0, 13, 16, 13⟩, [], "java/lang/IllegalArgumentException", rfl, (fun z hz => nomatch hz), by decide, by decide, q940, q209, rfl⟩
set_option maxHeartbeats 4000000 in
theorem mL_weight (l : Launch) (D : va_G) (dA : Nat → ClassId) (A : Nat → Prop) (pz b L : Nat) (xs : Nat → Int32) (hl9 : l.stackTraces = false) (lc : Nat → Nat → Nat) (s : tt_SL) (x1 : Int32) (x2 : Int32) (x3 : Int32) (x4 : Int32) {Q : Option Value → (Nat → Nat → Nat) → tt_SL → Prop} (h : Ok (wrapL (fT_weight s.1 x1 x2 x3 x4) s (cd3 none (some 1) none)) (fun r => ∀ lc', tt_agr (XL l D dA A pz b L xs) s lc lc' → Q (some (.int r.1)) lc' r.2)) : tt_SpW (XL l D dA A pz b L xs) yX0_weight cX0_weight 7 (some .int) hh_weight rL_weight [.ref (lc 0 0), .int x1, .int x2, .int x3, .int x4, .ref (lc 400 0)] lc s Q := by
  refine tt_SpW.ofV plX0 kokL (Nat.le_of_ble_eq_true rfl) ?_
  show tt_V (XL l D dA A pz b L xs) cX0_weight (RX0, 7, (some .int), rL_weight, tt_hh hh_weight) (tt_fn (XL l D dA A pz b L xs) (RX0, 7, (some .int), rL_weight, tt_hh hh_weight) Q) 0 [(0, .ref (lc 0 0)), (1, .int x1), (2, .int x2), (3, .int x3), (4, .int x4), (5, .ref (lc 400 0))] [] lc s 0 0
  have h := Ok.wrapL h
  refine v_aload 5 dX0_weight_0 rfl ?_
  refine v_iconst dX0_weight_2 ic_0 ?_
  refine v_aload_n 0 dX0_weight_3 rfl ?_
  refine v_iload_n 1 dX0_weight_4 rfl ?_
  refine v_iload_n 2 dX0_weight_5 rfl ?_
  refine v_iload_n 3 dX0_weight_6 rfl ?_
  refine v_iload 4 dX0_weight_7 rfl ?_
  refine v_callVXh (hh := hh_weight) (kd := 0) (i := 0) (nA := 4) (As := [.int x1, .int x2, .int x3, .int x4]) (rest := [.int 0, .ref (lc 400 0)]) (Q' := (fun v lc' s' => ∃ r : Int64 × tt_S3, (∀ lc'', tt_agr (XL l D dA A pz b L xs) s lc lc'' → Q (some (.int 0)) lc'' (r.2, s.2.1, wrL s.2.2 0 0 0 r.1)) ∧ v = some (Value.long r.1) ∧ tt_agr (XL l D dA A pz b L xs) s lc lc' ∧ s' = (r.2, s.2))) (QX' := (fun E lc' s' => ∃ e : Nat × tt_S3, (∃ c, (cd3 none (some 1) none) e.1 = some c ∧ ∀ lc'', tt_agr (XL l D dA A pz b L xs) s lc lc'' → Q (some (.int c)) lc'' (e.2, s.2)) ∧ E = tt_exn e.1 ∧ tt_agr (XL l D dA A pz b L xs) s lc lc' ∧ s' = (e.2, s.2))) knL lvL_0 oL_0 rfl (liftTX (Q := (fun v lc' s' => ∃ r : Int64 × tt_S3, (∀ lc'', tt_agr (XL l D dA A pz b L xs) s lc lc'' → Q (some (.int 0)) lc'' (r.2, s.2.1, wrL s.2.2 0 0 0 r.1)) ∧ v = some (Value.long r.1) ∧ tt_agr (XL l D dA A pz b L xs) s lc lc' ∧ s' = (r.2, s.2))) (QX := (fun E lc' s' => ∃ e : Nat × tt_S3, (∃ c, (cd3 none (some 1) none) e.1 = some c ∧ ∀ lc'', tt_agr (XL l D dA A pz b L xs) s lc lc'' → Q (some (.int c)) lc'' (e.2, s.2)) ∧ E = tt_exn e.1 ∧ tt_agr (XL l D dA A pz b L xs) s lc lc' ∧ s' = (e.2, s.2))) (mT_weight l D dA (aLT A lc s) pz hl9 lc s.1 x1 x2 x3 x4 (Q := (fun v lc' w => tt_agr (XT l D dA (aLT A lc s) pz) s.1 lc lc' ∧ (fun v lc' s' => ∃ r : Int64 × tt_S3, (∀ lc'', tt_agr (XL l D dA A pz b L xs) s lc lc'' → Q (some (.int 0)) lc'' (r.2, s.2.1, wrL s.2.2 0 0 0 r.1)) ∧ v = some (Value.long r.1) ∧ tt_agr (XL l D dA A pz b L xs) s lc lc' ∧ s' = (r.2, s.2)) v lc' (w, s.2))) (QX := (fun E lc' w => tt_agr (XT l D dA (aLT A lc s) pz) s.1 lc lc' ∧ (fun E lc' s' => ∃ e : Nat × tt_S3, (∃ c, (cd3 none (some 1) none) e.1 = some c ∧ ∀ lc'', tt_agr (XL l D dA A pz b L xs) s lc lc'' → Q (some (.int c)) lc'' (e.2, s.2)) ∧ E = tt_exn e.1 ∧ tt_agr (XL l D dA A pz b L xs) s lc lc' ∧ s' = (e.2, s.2)) E lc' (w, s.2))) (h.mono (fun q hq => by cases q with
    | inl r => exact ⟨agr_rf, r, hq, rfl, agr_rf, rfl⟩
    | inr e => exact ⟨agr_rf, e, hq, rfl, agr_rf, rfl⟩)))) (lw_V q1588 q1589 q1590 q127 q1591) (by decide +kernel) rfl ⟨Nat.le_of_ble_eq_true rfl, Nat.le_of_ble_eq_true rfl⟩ (Nat.le_of_ble_eq_true rfl) ⟨Nat.le_of_ble_eq_true rfl, Nat.le_of_ble_eq_true rfl⟩ (fun _ _ _ h => h) dX0_weight_9 rfl (fun E lc' s' q => ?_) (fun v lc' s' q => ?_)
  · obtain ⟨e, ⟨c, hcd, hk⟩, e1, e2, e3⟩ := q
    rw [e1, e3]
    unfold cd3 at hcd
    clear e1 e3 h
    by_cases h0 : e.1 = 0
    · rw [if_pos h0] at hcd
      cases hcd
    by_cases h1 : e.1 = 1
    · rw [if_neg h0, if_pos h1] at hcd
      cases hcd
      rw [h1]
      refine ⟨16, ct_weight_1, fun q => ?_⟩
      rw [← e2 0 0 (.inl lvL_0)]
      rw [← e2 400 0 (.inl lvL_400)]
      refine v_astore [(6, .ref q), (0, .ref (lc' 0 0)), (1, .int x1), (2, .int x2), (3, .int x3), (4, .int x4), (5, .ref (lc' 400 0))] dX0_weight_16 (Nat.le_of_ble_eq_true rfl) rfl ?_
      refine v_iconst dX0_weight_18 ic_1 ?_
      exact v_iret rfl (Nat.le_of_ble_eq_true rfl) (Nat.le_of_ble_eq_true rfl) dX0_weight_19 (hk _ e2)
    rw [if_neg h0, if_neg h1] at hcd
    cases hcd
  · obtain ⟨r, hk, e1, e2, e3⟩ := q
    rw [e1, e3]
    clear e1 e3 h
    rw [← e2 0 0 (.inl lvL_0)]
    rw [← e2 400 0 (.inl lvL_400)]
    refine sL_400 (by decide) dX0_weight_12 ?_
    refine v_goto (tgt := 20) dX0_weight_13 rfl ?_
    refine v_iconst dX0_weight_20 ic_0 ?_
    exact v_iret rfl (Nat.le_of_ble_eq_true rfl) (Nat.le_of_ble_eq_true rfl) dX0_weight_21 (hk _ e2)
def hh_picks : List (Nat × Nat × Nat × Nat) := [(0, 14, 17, 13)]
abbrev rL_picks : Room := { frames := 11, cells := 4, slots := 24, locals := 209 }
theorem ct_picks_1 {l : Launch} {D : va_G} {dA : Nat → ClassId} {A : Nat → Prop} {pz b L : Nat} {xs : Nat → Int32} : tt_ct (XL l D dA A pz b L xs) RX0 hh_picks 9 (tt_exn 1) 17 :=
  ⟨[], ⟨0, 14, 17, 13⟩, [], "java/lang/IllegalArgumentException", rfl, (fun z hz => nomatch hz), by decide, by decide, q940, q209, rfl⟩
set_option maxHeartbeats 4000000 in
theorem mL_picks (l : Launch) (D : va_G) (dA : Nat → ClassId) (A : Nat → Prop) (pz b L : Nat) (xs : Nat → Int32) (hl9 : l.stackTraces = false) (lc : Nat → Nat → Nat) (s : tt_SL) (x1 : Int32) (x2 : Int32) (x3 : Int32) (x4 : Int32) {Q : Option Value → (Nat → Nat → Nat) → tt_SL → Prop} (h : Ok (wrapI (fT_picks s.1 x1 x2 x3 x4) s (cd3 none (some 1) none)) (fun r => ∀ lc', tt_agr (XL l D dA A pz b L xs) s lc lc' → Q (some (.int r.1)) lc' r.2)) : tt_SpW (XL l D dA A pz b L xs) yX0_picks cX0_picks 7 (some .int) hh_picks rL_picks [.ref (lc 0 0), .int x1, .int x2, .int x3, .int x4, .ref (lc 400 0)] lc s Q := by
  refine tt_SpW.ofV plX0 kokL (Nat.le_of_ble_eq_true rfl) ?_
  show tt_V (XL l D dA A pz b L xs) cX0_picks (RX0, 7, (some .int), rL_picks, tt_hh hh_picks) (tt_fn (XL l D dA A pz b L xs) (RX0, 7, (some .int), rL_picks, tt_hh hh_picks) Q) 0 [(0, .ref (lc 0 0)), (1, .int x1), (2, .int x2), (3, .int x3), (4, .int x4), (5, .ref (lc 400 0))] [] lc s 0 0
  have h := Ok.wrapI h
  refine v_aload 5 dX0_picks_0 rfl ?_
  refine v_iconst dX0_picks_2 ic_0 ?_
  refine v_aload_n 0 dX0_picks_3 rfl ?_
  refine v_iload_n 1 dX0_picks_4 rfl ?_
  refine v_iload_n 2 dX0_picks_5 rfl ?_
  refine v_iload_n 3 dX0_picks_6 rfl ?_
  refine v_iload 4 dX0_picks_7 rfl ?_
  refine v_callVXh (hh := hh_picks) (kd := 0) (i := 0) (nA := 4) (As := [.int x1, .int x2, .int x3, .int x4]) (rest := [.int 0, .ref (lc 400 0)]) (Q' := (fun v lc' s' => ∃ r : Int32 × tt_S3, (∀ lc'', tt_agr (XL l D dA A pz b L xs) s lc lc'' → Q (some (.int 0)) lc'' (r.2, s.2.1, wrL s.2.2 0 0 0 r.1.toInt64)) ∧ v = some (Value.int r.1) ∧ tt_agr (XL l D dA A pz b L xs) s lc lc' ∧ s' = (r.2, s.2))) (QX' := (fun E lc' s' => ∃ e : Nat × tt_S3, (∃ c, (cd3 none (some 1) none) e.1 = some c ∧ ∀ lc'', tt_agr (XL l D dA A pz b L xs) s lc lc'' → Q (some (.int c)) lc'' (e.2, s.2)) ∧ E = tt_exn e.1 ∧ tt_agr (XL l D dA A pz b L xs) s lc lc' ∧ s' = (e.2, s.2))) knL lvL_0 oL_0 rfl (liftTX (Q := (fun v lc' s' => ∃ r : Int32 × tt_S3, (∀ lc'', tt_agr (XL l D dA A pz b L xs) s lc lc'' → Q (some (.int 0)) lc'' (r.2, s.2.1, wrL s.2.2 0 0 0 r.1.toInt64)) ∧ v = some (Value.int r.1) ∧ tt_agr (XL l D dA A pz b L xs) s lc lc' ∧ s' = (r.2, s.2))) (QX := (fun E lc' s' => ∃ e : Nat × tt_S3, (∃ c, (cd3 none (some 1) none) e.1 = some c ∧ ∀ lc'', tt_agr (XL l D dA A pz b L xs) s lc lc'' → Q (some (.int c)) lc'' (e.2, s.2)) ∧ E = tt_exn e.1 ∧ tt_agr (XL l D dA A pz b L xs) s lc lc' ∧ s' = (e.2, s.2))) (mT_picks l D dA (aLT A lc s) pz hl9 lc s.1 x1 x2 x3 x4 (Q := (fun v lc' w => tt_agr (XT l D dA (aLT A lc s) pz) s.1 lc lc' ∧ (fun v lc' s' => ∃ r : Int32 × tt_S3, (∀ lc'', tt_agr (XL l D dA A pz b L xs) s lc lc'' → Q (some (.int 0)) lc'' (r.2, s.2.1, wrL s.2.2 0 0 0 r.1.toInt64)) ∧ v = some (Value.int r.1) ∧ tt_agr (XL l D dA A pz b L xs) s lc lc' ∧ s' = (r.2, s.2)) v lc' (w, s.2))) (QX := (fun E lc' w => tt_agr (XT l D dA (aLT A lc s) pz) s.1 lc lc' ∧ (fun E lc' s' => ∃ e : Nat × tt_S3, (∃ c, (cd3 none (some 1) none) e.1 = some c ∧ ∀ lc'', tt_agr (XL l D dA A pz b L xs) s lc lc'' → Q (some (.int c)) lc'' (e.2, s.2)) ∧ E = tt_exn e.1 ∧ tt_agr (XL l D dA A pz b L xs) s lc lc' ∧ s' = (e.2, s.2)) E lc' (w, s.2))) (h.mono (fun q hq => by cases q with
    | inl r => exact ⟨agr_rf, r, hq, rfl, agr_rf, rfl⟩
    | inr e => exact ⟨agr_rf, e, hq, rfl, agr_rf, rfl⟩)))) (lw_V q1596 q1597 q1598 q127 q1599) (by decide +kernel) rfl ⟨Nat.le_of_ble_eq_true rfl, Nat.le_of_ble_eq_true rfl⟩ (Nat.le_of_ble_eq_true rfl) ⟨Nat.le_of_ble_eq_true rfl, Nat.le_of_ble_eq_true rfl⟩ (fun _ _ _ h => h) dX0_picks_9 rfl (fun E lc' s' q => ?_) (fun v lc' s' q => ?_)
  · obtain ⟨e, ⟨c, hcd, hk⟩, e1, e2, e3⟩ := q
    rw [e1, e3]
    unfold cd3 at hcd
    clear e1 e3 h
    by_cases h0 : e.1 = 0
    · rw [if_pos h0] at hcd
      cases hcd
    by_cases h1 : e.1 = 1
    · rw [if_neg h0, if_pos h1] at hcd
      cases hcd
      rw [h1]
      refine ⟨17, ct_picks_1, fun q => ?_⟩
      rw [← e2 0 0 (.inl lvL_0)]
      rw [← e2 400 0 (.inl lvL_400)]
      refine v_astore [(6, .ref q), (0, .ref (lc' 0 0)), (1, .int x1), (2, .int x2), (3, .int x3), (4, .int x4), (5, .ref (lc' 400 0))] dX0_picks_17 (Nat.le_of_ble_eq_true rfl) rfl ?_
      refine v_iconst dX0_picks_19 ic_1 ?_
      exact v_iret rfl (Nat.le_of_ble_eq_true rfl) (Nat.le_of_ble_eq_true rfl) dX0_picks_20 (hk _ e2)
    rw [if_neg h0, if_neg h1] at hcd
    cases hcd
  · obtain ⟨r, hk, e1, e2, e3⟩ := q
    rw [e1, e3]
    clear e1 e3 h
    rw [← e2 0 0 (.inl lvL_0)]
    rw [← e2 400 0 (.inl lvL_400)]
    refine v_i2l dX0_picks_12 rfl ?_
    refine sL_400 (by decide) dX0_picks_13 ?_
    refine v_goto (tgt := 21) dX0_picks_14 rfl ?_
    refine v_iconst dX0_picks_21 ic_0 ?_
    exact v_iret rfl (Nat.le_of_ble_eq_true rfl) (Nat.le_of_ble_eq_true rfl) dX0_picks_22 (hk _ e2)
def hh_other : List (Nat × Nat × Nat × Nat) := [(0, 13, 16, 13)]
abbrev rL_other : Room := { frames := 19, cells := 4, slots := 24, locals := 449 }
theorem ct_other_1 {l : Launch} {D : va_G} {dA : Nat → ClassId} {A : Nat → Prop} {pz b L : Nat} {xs : Nat → Int32} : tt_ct (XL l D dA A pz b L xs) RX0 hh_other 9 (tt_exn 1) 16 :=
  ⟨[], ⟨0, 13, 16, 13⟩, [], "java/lang/IllegalArgumentException", rfl, (fun z hz => nomatch hz), by decide, by decide, q940, q209, rfl⟩
set_option maxHeartbeats 4000000 in
theorem mL_other (l : Launch) (D : va_G) (dA : Nat → ClassId) (A : Nat → Prop) (pz b L : Nat) (xs : Nat → Int32) (hl9 : l.stackTraces = false) (lc : Nat → Nat → Nat) (s : tt_SL) (x1 : Int32) (x2 : Int32) (x3 : Int32) (x4 : Int32) {Q : Option Value → (Nat → Nat → Nat) → tt_SL → Prop} (h : Ok (wrapL (fT_other s.1 x1 x2 x3 x4) s (cd3 none (some 1) none)) (fun r => ∀ lc', tt_agr (XL l D dA A pz b L xs) s lc lc' → Q (some (.int r.1)) lc' r.2)) : tt_SpW (XL l D dA A pz b L xs) yX0_other cX0_other 7 (some .int) hh_other rL_other [.ref (lc 0 0), .int x1, .int x2, .int x3, .int x4, .ref (lc 400 0)] lc s Q := by
  refine tt_SpW.ofV plX0 kokL (Nat.le_of_ble_eq_true rfl) ?_
  show tt_V (XL l D dA A pz b L xs) cX0_other (RX0, 7, (some .int), rL_other, tt_hh hh_other) (tt_fn (XL l D dA A pz b L xs) (RX0, 7, (some .int), rL_other, tt_hh hh_other) Q) 0 [(0, .ref (lc 0 0)), (1, .int x1), (2, .int x2), (3, .int x3), (4, .int x4), (5, .ref (lc 400 0))] [] lc s 0 0
  have h := Ok.wrapL h
  refine v_aload 5 dX0_other_0 rfl ?_
  refine v_iconst dX0_other_2 ic_0 ?_
  refine v_aload_n 0 dX0_other_3 rfl ?_
  refine v_iload_n 1 dX0_other_4 rfl ?_
  refine v_iload_n 2 dX0_other_5 rfl ?_
  refine v_iload_n 3 dX0_other_6 rfl ?_
  refine v_iload 4 dX0_other_7 rfl ?_
  refine v_callVXh (hh := hh_other) (kd := 0) (i := 0) (nA := 4) (As := [.int x1, .int x2, .int x3, .int x4]) (rest := [.int 0, .ref (lc 400 0)]) (Q' := (fun v lc' s' => ∃ r : Int64 × tt_S3, (∀ lc'', tt_agr (XL l D dA A pz b L xs) s lc lc'' → Q (some (.int 0)) lc'' (r.2, s.2.1, wrL s.2.2 0 0 0 r.1)) ∧ v = some (Value.long r.1) ∧ tt_agr (XL l D dA A pz b L xs) s lc lc' ∧ s' = (r.2, s.2))) (QX' := (fun E lc' s' => ∃ e : Nat × tt_S3, (∃ c, (cd3 none (some 1) none) e.1 = some c ∧ ∀ lc'', tt_agr (XL l D dA A pz b L xs) s lc lc'' → Q (some (.int c)) lc'' (e.2, s.2)) ∧ E = tt_exn e.1 ∧ tt_agr (XL l D dA A pz b L xs) s lc lc' ∧ s' = (e.2, s.2))) knL lvL_0 oL_0 rfl (liftTX (Q := (fun v lc' s' => ∃ r : Int64 × tt_S3, (∀ lc'', tt_agr (XL l D dA A pz b L xs) s lc lc'' → Q (some (.int 0)) lc'' (r.2, s.2.1, wrL s.2.2 0 0 0 r.1)) ∧ v = some (Value.long r.1) ∧ tt_agr (XL l D dA A pz b L xs) s lc lc' ∧ s' = (r.2, s.2))) (QX := (fun E lc' s' => ∃ e : Nat × tt_S3, (∃ c, (cd3 none (some 1) none) e.1 = some c ∧ ∀ lc'', tt_agr (XL l D dA A pz b L xs) s lc lc'' → Q (some (.int c)) lc'' (e.2, s.2)) ∧ E = tt_exn e.1 ∧ tt_agr (XL l D dA A pz b L xs) s lc lc' ∧ s' = (e.2, s.2))) (mT_other l D dA (aLT A lc s) pz hl9 lc s.1 x1 x2 x3 x4 (Q := (fun v lc' w => tt_agr (XT l D dA (aLT A lc s) pz) s.1 lc lc' ∧ (fun v lc' s' => ∃ r : Int64 × tt_S3, (∀ lc'', tt_agr (XL l D dA A pz b L xs) s lc lc'' → Q (some (.int 0)) lc'' (r.2, s.2.1, wrL s.2.2 0 0 0 r.1)) ∧ v = some (Value.long r.1) ∧ tt_agr (XL l D dA A pz b L xs) s lc lc' ∧ s' = (r.2, s.2)) v lc' (w, s.2))) (QX := (fun E lc' w => tt_agr (XT l D dA (aLT A lc s) pz) s.1 lc lc' ∧ (fun E lc' s' => ∃ e : Nat × tt_S3, (∃ c, (cd3 none (some 1) none) e.1 = some c ∧ ∀ lc'', tt_agr (XL l D dA A pz b L xs) s lc lc'' → Q (some (.int c)) lc'' (e.2, s.2)) ∧ E = tt_exn e.1 ∧ tt_agr (XL l D dA A pz b L xs) s lc lc' ∧ s' = (e.2, s.2)) E lc' (w, s.2))) (h.mono (fun q hq => by cases q with
    | inl r => exact ⟨agr_rf, r, hq, rfl, agr_rf, rfl⟩
    | inr e => exact ⟨agr_rf, e, hq, rfl, agr_rf, rfl⟩)))) (lw_V q1612 q1613 q1614 q127 q1615) (by decide +kernel) rfl ⟨Nat.le_of_ble_eq_true rfl, Nat.le_of_ble_eq_true rfl⟩ (Nat.le_of_ble_eq_true rfl) ⟨Nat.le_of_ble_eq_true rfl, Nat.le_of_ble_eq_true rfl⟩ (fun _ _ _ h => h) dX0_other_9 rfl (fun E lc' s' q => ?_) (fun v lc' s' q => ?_)
  · obtain ⟨e, ⟨c, hcd, hk⟩, e1, e2, e3⟩ := q
    rw [e1, e3]
    unfold cd3 at hcd
    clear e1 e3 h
    by_cases h0 : e.1 = 0
    · rw [if_pos h0] at hcd
      cases hcd
    by_cases h1 : e.1 = 1
    · rw [if_neg h0, if_pos h1] at hcd
      cases hcd
      rw [h1]
      refine ⟨16, ct_other_1, fun q => ?_⟩
      rw [← e2 0 0 (.inl lvL_0)]
      rw [← e2 400 0 (.inl lvL_400)]
      refine v_astore [(6, .ref q), (0, .ref (lc' 0 0)), (1, .int x1), (2, .int x2), (3, .int x3), (4, .int x4), (5, .ref (lc' 400 0))] dX0_other_16 (Nat.le_of_ble_eq_true rfl) rfl ?_
      refine v_iconst dX0_other_18 ic_1 ?_
      exact v_iret rfl (Nat.le_of_ble_eq_true rfl) (Nat.le_of_ble_eq_true rfl) dX0_other_19 (hk _ e2)
    rw [if_neg h0, if_neg h1] at hcd
    cases hcd
  · obtain ⟨r, hk, e1, e2, e3⟩ := q
    rw [e1, e3]
    clear e1 e3 h
    rw [← e2 0 0 (.inl lvL_0)]
    rw [← e2 400 0 (.inl lvL_400)]
    refine sL_400 (by decide) dX0_other_12 ?_
    refine v_goto (tgt := 20) dX0_other_13 rfl ?_
    refine v_iconst dX0_other_20 ic_0 ?_
    exact v_iret rfl (Nat.le_of_ble_eq_true rfl) (Nat.le_of_ble_eq_true rfl) dX0_other_21 (hk _ e2)
def hh_best : List (Nat × Nat × Nat × Nat) := [(0, 9, 12, 13)]
abbrev rL_best : Room := { frames := 19, cells := 2, slots := 12, locals := 453 }
theorem ct_best_1 {l : Launch} {D : va_G} {dA : Nat → ClassId} {A : Nat → Prop} {pz b L : Nat} {xs : Nat → Int32} : tt_ct (XL l D dA A pz b L xs) RX0 hh_best 5 (tt_exn 1) 12 :=
  ⟨[], ⟨0, 9, 12, 13⟩, [], "java/lang/IllegalArgumentException", rfl, (fun z hz => nomatch hz), by decide, by decide, q940, q209, rfl⟩
set_option maxHeartbeats 4000000 in
theorem mL_best (l : Launch) (D : va_G) (dA : Nat → ClassId) (A : Nat → Prop) (pz b L : Nat) (xs : Nat → Int32) (hl9 : l.stackTraces = false) (lc : Nat → Nat → Nat) (s : tt_SL) (x1 : Int32) (x2 : Int32) {Q : Option Value → (Nat → Nat → Nat) → tt_SL → Prop} (h : Ok (wrapL (fT_best s.1 x1 x2) s (cd3 none (some 1) none)) (fun r => ∀ lc', tt_agr (XL l D dA A pz b L xs) s lc lc' → Q (some (.int r.1)) lc' r.2)) : tt_SpW (XL l D dA A pz b L xs) yX0_best cX0_best 5 (some .int) hh_best rL_best [.ref (lc 0 0), .int x1, .int x2, .ref (lc 400 0)] lc s Q := by
  refine tt_SpW.ofV plX0 kokL (Nat.le_of_ble_eq_true rfl) ?_
  show tt_V (XL l D dA A pz b L xs) cX0_best (RX0, 5, (some .int), rL_best, tt_hh hh_best) (tt_fn (XL l D dA A pz b L xs) (RX0, 5, (some .int), rL_best, tt_hh hh_best) Q) 0 [(0, .ref (lc 0 0)), (1, .int x1), (2, .int x2), (3, .ref (lc 400 0))] [] lc s 0 0
  have h := Ok.wrapL h
  refine v_aload_n 3 dX0_best_0 rfl ?_
  refine v_iconst dX0_best_1 ic_0 ?_
  refine v_aload_n 0 dX0_best_2 rfl ?_
  refine v_iload_n 1 dX0_best_3 rfl ?_
  refine v_iload_n 2 dX0_best_4 rfl ?_
  refine v_callVXh (hh := hh_best) (kd := 0) (i := 0) (nA := 2) (As := [.int x1, .int x2]) (rest := [.int 0, .ref (lc 400 0)]) (Q' := (fun v lc' s' => ∃ r : Int64 × tt_S3, (∀ lc'', tt_agr (XL l D dA A pz b L xs) s lc lc'' → Q (some (.int 0)) lc'' (r.2, s.2.1, wrL s.2.2 0 0 0 r.1)) ∧ v = some (Value.long r.1) ∧ tt_agr (XL l D dA A pz b L xs) s lc lc' ∧ s' = (r.2, s.2))) (QX' := (fun E lc' s' => ∃ e : Nat × tt_S3, (∃ c, (cd3 none (some 1) none) e.1 = some c ∧ ∀ lc'', tt_agr (XL l D dA A pz b L xs) s lc lc'' → Q (some (.int c)) lc'' (e.2, s.2)) ∧ E = tt_exn e.1 ∧ tt_agr (XL l D dA A pz b L xs) s lc lc' ∧ s' = (e.2, s.2))) knL lvL_0 oL_0 rfl (liftTX (Q := (fun v lc' s' => ∃ r : Int64 × tt_S3, (∀ lc'', tt_agr (XL l D dA A pz b L xs) s lc lc'' → Q (some (.int 0)) lc'' (r.2, s.2.1, wrL s.2.2 0 0 0 r.1)) ∧ v = some (Value.long r.1) ∧ tt_agr (XL l D dA A pz b L xs) s lc lc' ∧ s' = (r.2, s.2))) (QX := (fun E lc' s' => ∃ e : Nat × tt_S3, (∃ c, (cd3 none (some 1) none) e.1 = some c ∧ ∀ lc'', tt_agr (XL l D dA A pz b L xs) s lc lc'' → Q (some (.int c)) lc'' (e.2, s.2)) ∧ E = tt_exn e.1 ∧ tt_agr (XL l D dA A pz b L xs) s lc lc' ∧ s' = (e.2, s.2))) (mT_best l D dA (aLT A lc s) pz hl9 lc s.1 x1 x2 (Q := (fun v lc' w => tt_agr (XT l D dA (aLT A lc s) pz) s.1 lc lc' ∧ (fun v lc' s' => ∃ r : Int64 × tt_S3, (∀ lc'', tt_agr (XL l D dA A pz b L xs) s lc lc'' → Q (some (.int 0)) lc'' (r.2, s.2.1, wrL s.2.2 0 0 0 r.1)) ∧ v = some (Value.long r.1) ∧ tt_agr (XL l D dA A pz b L xs) s lc lc' ∧ s' = (r.2, s.2)) v lc' (w, s.2))) (QX := (fun E lc' w => tt_agr (XT l D dA (aLT A lc s) pz) s.1 lc lc' ∧ (fun E lc' s' => ∃ e : Nat × tt_S3, (∃ c, (cd3 none (some 1) none) e.1 = some c ∧ ∀ lc'', tt_agr (XL l D dA A pz b L xs) s lc lc'' → Q (some (.int c)) lc'' (e.2, s.2)) ∧ E = tt_exn e.1 ∧ tt_agr (XL l D dA A pz b L xs) s lc lc' ∧ s' = (e.2, s.2)) E lc' (w, s.2))) (h.mono (fun q hq => by cases q with
    | inl r => exact ⟨agr_rf, r, hq, rfl, agr_rf, rfl⟩
    | inr e => exact ⟨agr_rf, e, hq, rfl, agr_rf, rfl⟩)))) (lw_V q1631 q1632 q1633 q127 q1634) (by decide +kernel) rfl ⟨Nat.le_of_ble_eq_true rfl, Nat.le_of_ble_eq_true rfl⟩ (Nat.le_of_ble_eq_true rfl) ⟨Nat.le_of_ble_eq_true rfl, Nat.le_of_ble_eq_true rfl⟩ (fun _ _ _ h => h) dX0_best_5 rfl (fun E lc' s' q => ?_) (fun v lc' s' q => ?_)
  · obtain ⟨e, ⟨c, hcd, hk⟩, e1, e2, e3⟩ := q
    rw [e1, e3]
    unfold cd3 at hcd
    clear e1 e3 h
    by_cases h0 : e.1 = 0
    · rw [if_pos h0] at hcd
      cases hcd
    by_cases h1 : e.1 = 1
    · rw [if_neg h0, if_pos h1] at hcd
      cases hcd
      rw [h1]
      refine ⟨12, ct_best_1, fun q => ?_⟩
      rw [← e2 0 0 (.inl lvL_0)]
      rw [← e2 400 0 (.inl lvL_400)]
      refine v_astore [(4, .ref q), (0, .ref (lc' 0 0)), (1, .int x1), (2, .int x2), (3, .ref (lc' 400 0))] dX0_best_12 (Nat.le_of_ble_eq_true rfl) rfl ?_
      refine v_iconst dX0_best_14 ic_1 ?_
      exact v_iret rfl (Nat.le_of_ble_eq_true rfl) (Nat.le_of_ble_eq_true rfl) dX0_best_15 (hk _ e2)
    rw [if_neg h0, if_neg h1] at hcd
    cases hcd
  · obtain ⟨r, hk, e1, e2, e3⟩ := q
    rw [e1, e3]
    clear e1 e3 h
    rw [← e2 0 0 (.inl lvL_0)]
    rw [← e2 400 0 (.inl lvL_400)]
    refine sL_400 (by decide) dX0_best_8 ?_
    refine v_goto (tgt := 16) dX0_best_9 rfl ?_
    refine v_iconst dX0_best_16 ic_0 ?_
    exact v_iret rfl (Nat.le_of_ble_eq_true rfl) (Nat.le_of_ble_eq_true rfl) dX0_best_17 (hk _ e2)
def hh_without : List (Nat × Nat × Nat × Nat) := [(0, 9, 12, 21), (0, 9, 16, 13)]
abbrev rL_without : Room := { frames := 19, cells := 2, slots := 12, locals := 445 }
theorem ct_without_0 {l : Launch} {D : va_G} {dA : Nat → ClassId} {A : Nat → Prop} {pz b L : Nat} {xs : Nat → Int32} : tt_ct (XL l D dA A pz b L xs) RX0 hh_without 5 (tt_exn 0) 12 :=
  ⟨[], ⟨0, 9, 12, 21⟩, [⟨0, 9, 16, 13⟩], "java/util/NoSuchElementException", rfl, (fun z hz => nomatch hz), by decide, by decide, q1017, q1032, rfl⟩
theorem ct_without_1 {l : Launch} {D : va_G} {dA : Nat → ClassId} {A : Nat → Prop} {pz b L : Nat} {xs : Nat → Int32} : tt_ct (XL l D dA A pz b L xs) RX0 hh_without 5 (tt_exn 1) 16 :=
  ⟨[⟨0, 9, 12, 21⟩], ⟨0, 9, 16, 13⟩, [], "java/lang/IllegalArgumentException", rfl, (fun z hz => by cases List.mem_singleton.mp hz; exact ⟨by decide, _, q1017, nc_L (a := 1) (c := 0) (by decide) (by decide) (by decide)⟩), by decide, by decide, q940, q209, rfl⟩
set_option maxHeartbeats 4000000 in
theorem mL_without (l : Launch) (D : va_G) (dA : Nat → ClassId) (A : Nat → Prop) (pz b L : Nat) (xs : Nat → Int32) (hl9 : l.stackTraces = false) (lc : Nat → Nat → Nat) (s : tt_SL) (x1 : Int32) (x2 : Int32) {Q : Option Value → (Nat → Nat → Nat) → tt_SL → Prop} (h : Ok (wrapL (fT_without s.1 x1 x2) s (cd3 (some 1) (some 2) none)) (fun r => ∀ lc', tt_agr (XL l D dA A pz b L xs) s lc lc' → Q (some (.int r.1)) lc' r.2)) : tt_SpW (XL l D dA A pz b L xs) yX0_without cX0_without 5 (some .int) hh_without rL_without [.ref (lc 0 0), .int x1, .int x2, .ref (lc 400 0)] lc s Q := by
  refine tt_SpW.ofV plX0 kokL (Nat.le_of_ble_eq_true rfl) ?_
  show tt_V (XL l D dA A pz b L xs) cX0_without (RX0, 5, (some .int), rL_without, tt_hh hh_without) (tt_fn (XL l D dA A pz b L xs) (RX0, 5, (some .int), rL_without, tt_hh hh_without) Q) 0 [(0, .ref (lc 0 0)), (1, .int x1), (2, .int x2), (3, .ref (lc 400 0))] [] lc s 0 0
  have h := Ok.wrapL h
  refine v_aload_n 3 dX0_without_0 rfl ?_
  refine v_iconst dX0_without_1 ic_0 ?_
  refine v_aload_n 0 dX0_without_2 rfl ?_
  refine v_iload_n 1 dX0_without_3 rfl ?_
  refine v_iload_n 2 dX0_without_4 rfl ?_
  refine v_callVXh (hh := hh_without) (kd := 0) (i := 0) (nA := 2) (As := [.int x1, .int x2]) (rest := [.int 0, .ref (lc 400 0)]) (Q' := (fun v lc' s' => ∃ r : Int64 × tt_S3, (∀ lc'', tt_agr (XL l D dA A pz b L xs) s lc lc'' → Q (some (.int 0)) lc'' (r.2, s.2.1, wrL s.2.2 0 0 0 r.1)) ∧ v = some (Value.long r.1) ∧ tt_agr (XL l D dA A pz b L xs) s lc lc' ∧ s' = (r.2, s.2))) (QX' := (fun E lc' s' => ∃ e : Nat × tt_S3, (∃ c, (cd3 (some 1) (some 2) none) e.1 = some c ∧ ∀ lc'', tt_agr (XL l D dA A pz b L xs) s lc lc'' → Q (some (.int c)) lc'' (e.2, s.2)) ∧ E = tt_exn e.1 ∧ tt_agr (XL l D dA A pz b L xs) s lc lc' ∧ s' = (e.2, s.2))) knL lvL_0 oL_0 rfl (liftTX (Q := (fun v lc' s' => ∃ r : Int64 × tt_S3, (∀ lc'', tt_agr (XL l D dA A pz b L xs) s lc lc'' → Q (some (.int 0)) lc'' (r.2, s.2.1, wrL s.2.2 0 0 0 r.1)) ∧ v = some (Value.long r.1) ∧ tt_agr (XL l D dA A pz b L xs) s lc lc' ∧ s' = (r.2, s.2))) (QX := (fun E lc' s' => ∃ e : Nat × tt_S3, (∃ c, (cd3 (some 1) (some 2) none) e.1 = some c ∧ ∀ lc'', tt_agr (XL l D dA A pz b L xs) s lc lc'' → Q (some (.int c)) lc'' (e.2, s.2)) ∧ E = tt_exn e.1 ∧ tt_agr (XL l D dA A pz b L xs) s lc lc' ∧ s' = (e.2, s.2))) (mT_without l D dA (aLT A lc s) pz hl9 lc s.1 x1 x2 (Q := (fun v lc' w => tt_agr (XT l D dA (aLT A lc s) pz) s.1 lc lc' ∧ (fun v lc' s' => ∃ r : Int64 × tt_S3, (∀ lc'', tt_agr (XL l D dA A pz b L xs) s lc lc'' → Q (some (.int 0)) lc'' (r.2, s.2.1, wrL s.2.2 0 0 0 r.1)) ∧ v = some (Value.long r.1) ∧ tt_agr (XL l D dA A pz b L xs) s lc lc' ∧ s' = (r.2, s.2)) v lc' (w, s.2))) (QX := (fun E lc' w => tt_agr (XT l D dA (aLT A lc s) pz) s.1 lc lc' ∧ (fun E lc' s' => ∃ e : Nat × tt_S3, (∃ c, (cd3 (some 1) (some 2) none) e.1 = some c ∧ ∀ lc'', tt_agr (XL l D dA A pz b L xs) s lc lc'' → Q (some (.int c)) lc'' (e.2, s.2)) ∧ E = tt_exn e.1 ∧ tt_agr (XL l D dA A pz b L xs) s lc lc' ∧ s' = (e.2, s.2)) E lc' (w, s.2))) (h.mono (fun q hq => by cases q with
    | inl r => exact ⟨agr_rf, r, hq, rfl, agr_rf, rfl⟩
    | inr e => exact ⟨agr_rf, e, hq, rfl, agr_rf, rfl⟩)))) (lw_V q1638 q1639 q1640 q127 q1641) (by decide +kernel) rfl ⟨Nat.le_of_ble_eq_true rfl, Nat.le_of_ble_eq_true rfl⟩ (Nat.le_of_ble_eq_true rfl) ⟨Nat.le_of_ble_eq_true rfl, Nat.le_of_ble_eq_true rfl⟩ (fun _ _ _ h => h) dX0_without_5 rfl (fun E lc' s' q => ?_) (fun v lc' s' q => ?_)
  · obtain ⟨e, ⟨c, hcd, hk⟩, e1, e2, e3⟩ := q
    rw [e1, e3]
    unfold cd3 at hcd
    clear e1 e3 h
    by_cases h0 : e.1 = 0
    · rw [if_pos h0] at hcd
      cases hcd
      rw [h0]
      refine ⟨12, ct_without_0, fun q => ?_⟩
      rw [← e2 0 0 (.inl lvL_0)]
      rw [← e2 400 0 (.inl lvL_400)]
      refine v_astore [(4, .ref q), (0, .ref (lc' 0 0)), (1, .int x1), (2, .int x2), (3, .ref (lc' 400 0))] dX0_without_12 (Nat.le_of_ble_eq_true rfl) rfl ?_
      refine v_iconst dX0_without_14 ic_1 ?_
      exact v_iret rfl (Nat.le_of_ble_eq_true rfl) (Nat.le_of_ble_eq_true rfl) dX0_without_15 (hk _ e2)
    by_cases h1 : e.1 = 1
    · rw [if_neg h0, if_pos h1] at hcd
      cases hcd
      rw [h1]
      refine ⟨16, ct_without_1, fun q => ?_⟩
      rw [← e2 0 0 (.inl lvL_0)]
      rw [← e2 400 0 (.inl lvL_400)]
      refine v_astore [(4, .ref q), (0, .ref (lc' 0 0)), (1, .int x1), (2, .int x2), (3, .ref (lc' 400 0))] dX0_without_16 (Nat.le_of_ble_eq_true rfl) rfl ?_
      refine v_iconst dX0_without_18 ic_2 ?_
      exact v_iret rfl (Nat.le_of_ble_eq_true rfl) (Nat.le_of_ble_eq_true rfl) dX0_without_19 (hk _ e2)
    rw [if_neg h0, if_neg h1] at hcd
    cases hcd
  · obtain ⟨r, hk, e1, e2, e3⟩ := q
    rw [e1, e3]
    clear e1 e3 h
    rw [← e2 0 0 (.inl lvL_0)]
    rw [← e2 400 0 (.inl lvL_400)]
    refine sL_400 (by decide) dX0_without_8 ?_
    refine v_goto (tgt := 20) dX0_without_9 rfl ?_
    refine v_iconst dX0_without_20 ic_0 ?_
    exact v_iret rfl (Nat.le_of_ble_eq_true rfl) (Nat.le_of_ble_eq_true rfl) dX0_without_21 (hk _ e2)
def hh_undone : List (Nat × Nat × Nat × Nat) := [(0, 9, 12, 21)]
abbrev rL_undone : Room := { frames := 19, cells := 1, slots := 6, locals := 444 }
theorem ct_undone_0 {l : Launch} {D : va_G} {dA : Nat → ClassId} {A : Nat → Prop} {pz b L : Nat} {xs : Nat → Int32} : tt_ct (XL l D dA A pz b L xs) RX0 hh_undone 4 (tt_exn 0) 12 :=
  ⟨[], ⟨0, 9, 12, 21⟩, [], "java/util/NoSuchElementException", rfl, (fun z hz => nomatch hz), by decide, by decide, q1017, q1032, rfl⟩
set_option maxHeartbeats 4000000 in
theorem mL_undone (l : Launch) (D : va_G) (dA : Nat → ClassId) (A : Nat → Prop) (pz b L : Nat) (xs : Nat → Int32) (hl9 : l.stackTraces = false) (lc : Nat → Nat → Nat) (s : tt_SL) (x1 : Int32) {Q : Option Value → (Nat → Nat → Nat) → tt_SL → Prop} (h : Ok (wrapI (fT_undone s.1 x1) s (cd3 (some 1) none none)) (fun r => ∀ lc', tt_agr (XL l D dA A pz b L xs) s lc lc' → Q (some (.int r.1)) lc' r.2)) : tt_SpW (XL l D dA A pz b L xs) yX0_undone cX0_undone 4 (some .int) hh_undone rL_undone [.ref (lc 0 0), .int x1, .ref (lc 400 0)] lc s Q := by
  refine tt_SpW.ofV plX0 kokL (Nat.le_of_ble_eq_true rfl) ?_
  show tt_V (XL l D dA A pz b L xs) cX0_undone (RX0, 4, (some .int), rL_undone, tt_hh hh_undone) (tt_fn (XL l D dA A pz b L xs) (RX0, 4, (some .int), rL_undone, tt_hh hh_undone) Q) 0 [(0, .ref (lc 0 0)), (1, .int x1), (2, .ref (lc 400 0))] [] lc s 0 0
  have h := Ok.wrapI h
  refine v_aload_n 2 dX0_undone_0 rfl ?_
  refine v_iconst dX0_undone_1 ic_0 ?_
  refine v_aload_n 0 dX0_undone_2 rfl ?_
  refine v_iload_n 1 dX0_undone_3 rfl ?_
  refine v_callVXh (hh := hh_undone) (kd := 0) (i := 0) (nA := 1) (As := [.int x1]) (rest := [.int 0, .ref (lc 400 0)]) (Q' := (fun v lc' s' => ∃ r : Int32 × tt_S3, (∀ lc'', tt_agr (XL l D dA A pz b L xs) s lc lc'' → Q (some (.int 0)) lc'' (r.2, s.2.1, wrL s.2.2 0 0 0 r.1.toInt64)) ∧ v = some (Value.int r.1) ∧ tt_agr (XL l D dA A pz b L xs) s lc lc' ∧ s' = (r.2, s.2))) (QX' := (fun E lc' s' => ∃ e : Nat × tt_S3, (∃ c, (cd3 (some 1) none none) e.1 = some c ∧ ∀ lc'', tt_agr (XL l D dA A pz b L xs) s lc lc'' → Q (some (.int c)) lc'' (e.2, s.2)) ∧ E = tt_exn e.1 ∧ tt_agr (XL l D dA A pz b L xs) s lc lc' ∧ s' = (e.2, s.2))) knL lvL_0 oL_0 rfl (liftTX (Q := (fun v lc' s' => ∃ r : Int32 × tt_S3, (∀ lc'', tt_agr (XL l D dA A pz b L xs) s lc lc'' → Q (some (.int 0)) lc'' (r.2, s.2.1, wrL s.2.2 0 0 0 r.1.toInt64)) ∧ v = some (Value.int r.1) ∧ tt_agr (XL l D dA A pz b L xs) s lc lc' ∧ s' = (r.2, s.2))) (QX := (fun E lc' s' => ∃ e : Nat × tt_S3, (∃ c, (cd3 (some 1) none none) e.1 = some c ∧ ∀ lc'', tt_agr (XL l D dA A pz b L xs) s lc lc'' → Q (some (.int c)) lc'' (e.2, s.2)) ∧ E = tt_exn e.1 ∧ tt_agr (XL l D dA A pz b L xs) s lc lc' ∧ s' = (e.2, s.2))) (mT_undone l D dA (aLT A lc s) pz hl9 lc s.1 x1 (Q := (fun v lc' w => tt_agr (XT l D dA (aLT A lc s) pz) s.1 lc lc' ∧ (fun v lc' s' => ∃ r : Int32 × tt_S3, (∀ lc'', tt_agr (XL l D dA A pz b L xs) s lc lc'' → Q (some (.int 0)) lc'' (r.2, s.2.1, wrL s.2.2 0 0 0 r.1.toInt64)) ∧ v = some (Value.int r.1) ∧ tt_agr (XL l D dA A pz b L xs) s lc lc' ∧ s' = (r.2, s.2)) v lc' (w, s.2))) (QX := (fun E lc' w => tt_agr (XT l D dA (aLT A lc s) pz) s.1 lc lc' ∧ (fun E lc' s' => ∃ e : Nat × tt_S3, (∃ c, (cd3 (some 1) none none) e.1 = some c ∧ ∀ lc'', tt_agr (XL l D dA A pz b L xs) s lc lc'' → Q (some (.int c)) lc'' (e.2, s.2)) ∧ E = tt_exn e.1 ∧ tt_agr (XL l D dA A pz b L xs) s lc lc' ∧ s' = (e.2, s.2)) E lc' (w, s.2))) (h.mono (fun q hq => by cases q with
    | inl r => exact ⟨agr_rf, r, hq, rfl, agr_rf, rfl⟩
    | inr e => exact ⟨agr_rf, e, hq, rfl, agr_rf, rfl⟩)))) (lw_V q1649 q1650 q1651 q127 q1652) (by decide +kernel) rfl ⟨Nat.le_of_ble_eq_true rfl, Nat.le_of_ble_eq_true rfl⟩ (Nat.le_of_ble_eq_true rfl) ⟨Nat.le_of_ble_eq_true rfl, Nat.le_of_ble_eq_true rfl⟩ (fun _ _ _ h => h) dX0_undone_4 rfl (fun E lc' s' q => ?_) (fun v lc' s' q => ?_)
  · obtain ⟨e, ⟨c, hcd, hk⟩, e1, e2, e3⟩ := q
    rw [e1, e3]
    unfold cd3 at hcd
    clear e1 e3 h
    by_cases h0 : e.1 = 0
    · rw [if_pos h0] at hcd
      cases hcd
      rw [h0]
      refine ⟨12, ct_undone_0, fun q => ?_⟩
      rw [← e2 0 0 (.inl lvL_0)]
      rw [← e2 400 0 (.inl lvL_400)]
      refine v_astore_n [(3, .ref q), (0, .ref (lc' 0 0)), (1, .int x1), (2, .ref (lc' 400 0))] dX0_undone_12 (Nat.le_of_ble_eq_true rfl) rfl ?_
      refine v_iconst dX0_undone_13 ic_1 ?_
      exact v_iret rfl (Nat.le_of_ble_eq_true rfl) (Nat.le_of_ble_eq_true rfl) dX0_undone_14 (hk _ e2)
    by_cases h1 : e.1 = 1
    · rw [if_neg h0, if_pos h1] at hcd
      cases hcd
    rw [if_neg h0, if_neg h1] at hcd
    cases hcd
  · obtain ⟨r, hk, e1, e2, e3⟩ := q
    rw [e1, e3]
    clear e1 e3 h
    rw [← e2 0 0 (.inl lvL_0)]
    rw [← e2 400 0 (.inl lvL_400)]
    refine v_i2l dX0_undone_7 rfl ?_
    refine sL_400 (by decide) dX0_undone_8 ?_
    refine v_goto (tgt := 15) dX0_undone_9 rfl ?_
    refine v_iconst dX0_undone_15 ic_0 ?_
    exact v_iret rfl (Nat.le_of_ble_eq_true rfl) (Nat.le_of_ble_eq_true rfl) dX0_undone_16 (hk _ e2)
def hh_spared : List (Nat × Nat × Nat × Nat) := [(0, 8, 11, 13)]
abbrev rL_spared : Room := { frames := 19, cells := 1, slots := 6, locals := 445 }
theorem ct_spared_1 {l : Launch} {D : va_G} {dA : Nat → ClassId} {A : Nat → Prop} {pz b L : Nat} {xs : Nat → Int32} : tt_ct (XL l D dA A pz b L xs) RX0 hh_spared 4 (tt_exn 1) 11 :=
  ⟨[], ⟨0, 8, 11, 13⟩, [], "java/lang/IllegalArgumentException", rfl, (fun z hz => nomatch hz), by decide, by decide, q940, q209, rfl⟩
set_option maxHeartbeats 4000000 in
theorem mL_spared (l : Launch) (D : va_G) (dA : Nat → ClassId) (A : Nat → Prop) (pz b L : Nat) (xs : Nat → Int32) (hl9 : l.stackTraces = false) (lc : Nat → Nat → Nat) (s : tt_SL) (x1 : Int32) {Q : Option Value → (Nat → Nat → Nat) → tt_SL → Prop} (h : Ok (wrapL (fT_spared s.1 x1) s (cd3 none (some 1) none)) (fun r => ∀ lc', tt_agr (XL l D dA A pz b L xs) s lc lc' → Q (some (.int r.1)) lc' r.2)) : tt_SpW (XL l D dA A pz b L xs) yX0_spared cX0_spared 4 (some .int) hh_spared rL_spared [.ref (lc 0 0), .int x1, .ref (lc 400 0)] lc s Q := by
  refine tt_SpW.ofV plX0 kokL (Nat.le_of_ble_eq_true rfl) ?_
  show tt_V (XL l D dA A pz b L xs) cX0_spared (RX0, 4, (some .int), rL_spared, tt_hh hh_spared) (tt_fn (XL l D dA A pz b L xs) (RX0, 4, (some .int), rL_spared, tt_hh hh_spared) Q) 0 [(0, .ref (lc 0 0)), (1, .int x1), (2, .ref (lc 400 0))] [] lc s 0 0
  have h := Ok.wrapL h
  refine v_aload_n 2 dX0_spared_0 rfl ?_
  refine v_iconst dX0_spared_1 ic_0 ?_
  refine v_aload_n 0 dX0_spared_2 rfl ?_
  refine v_iload_n 1 dX0_spared_3 rfl ?_
  refine v_callVXh (hh := hh_spared) (kd := 0) (i := 0) (nA := 1) (As := [.int x1]) (rest := [.int 0, .ref (lc 400 0)]) (Q' := (fun v lc' s' => ∃ r : Int64 × tt_S3, (∀ lc'', tt_agr (XL l D dA A pz b L xs) s lc lc'' → Q (some (.int 0)) lc'' (r.2, s.2.1, wrL s.2.2 0 0 0 r.1)) ∧ v = some (Value.long r.1) ∧ tt_agr (XL l D dA A pz b L xs) s lc lc' ∧ s' = (r.2, s.2))) (QX' := (fun E lc' s' => ∃ e : Nat × tt_S3, (∃ c, (cd3 none (some 1) none) e.1 = some c ∧ ∀ lc'', tt_agr (XL l D dA A pz b L xs) s lc lc'' → Q (some (.int c)) lc'' (e.2, s.2)) ∧ E = tt_exn e.1 ∧ tt_agr (XL l D dA A pz b L xs) s lc lc' ∧ s' = (e.2, s.2))) knL lvL_0 oL_0 rfl (liftTX (Q := (fun v lc' s' => ∃ r : Int64 × tt_S3, (∀ lc'', tt_agr (XL l D dA A pz b L xs) s lc lc'' → Q (some (.int 0)) lc'' (r.2, s.2.1, wrL s.2.2 0 0 0 r.1)) ∧ v = some (Value.long r.1) ∧ tt_agr (XL l D dA A pz b L xs) s lc lc' ∧ s' = (r.2, s.2))) (QX := (fun E lc' s' => ∃ e : Nat × tt_S3, (∃ c, (cd3 none (some 1) none) e.1 = some c ∧ ∀ lc'', tt_agr (XL l D dA A pz b L xs) s lc lc'' → Q (some (.int c)) lc'' (e.2, s.2)) ∧ E = tt_exn e.1 ∧ tt_agr (XL l D dA A pz b L xs) s lc lc' ∧ s' = (e.2, s.2))) (mT_spared l D dA (aLT A lc s) pz hl9 lc s.1 x1 (Q := (fun v lc' w => tt_agr (XT l D dA (aLT A lc s) pz) s.1 lc lc' ∧ (fun v lc' s' => ∃ r : Int64 × tt_S3, (∀ lc'', tt_agr (XL l D dA A pz b L xs) s lc lc'' → Q (some (.int 0)) lc'' (r.2, s.2.1, wrL s.2.2 0 0 0 r.1)) ∧ v = some (Value.long r.1) ∧ tt_agr (XL l D dA A pz b L xs) s lc lc' ∧ s' = (r.2, s.2)) v lc' (w, s.2))) (QX := (fun E lc' w => tt_agr (XT l D dA (aLT A lc s) pz) s.1 lc lc' ∧ (fun E lc' s' => ∃ e : Nat × tt_S3, (∃ c, (cd3 none (some 1) none) e.1 = some c ∧ ∀ lc'', tt_agr (XL l D dA A pz b L xs) s lc lc'' → Q (some (.int c)) lc'' (e.2, s.2)) ∧ E = tt_exn e.1 ∧ tt_agr (XL l D dA A pz b L xs) s lc lc' ∧ s' = (e.2, s.2)) E lc' (w, s.2))) (h.mono (fun q hq => by cases q with
    | inl r => exact ⟨agr_rf, r, hq, rfl, agr_rf, rfl⟩
    | inr e => exact ⟨agr_rf, e, hq, rfl, agr_rf, rfl⟩)))) (lw_V q1656 q1657 q1658 q127 q1659) (by decide +kernel) rfl ⟨Nat.le_of_ble_eq_true rfl, Nat.le_of_ble_eq_true rfl⟩ (Nat.le_of_ble_eq_true rfl) ⟨Nat.le_of_ble_eq_true rfl, Nat.le_of_ble_eq_true rfl⟩ (fun _ _ _ h => h) dX0_spared_4 rfl (fun E lc' s' q => ?_) (fun v lc' s' q => ?_)
  · obtain ⟨e, ⟨c, hcd, hk⟩, e1, e2, e3⟩ := q
    rw [e1, e3]
    unfold cd3 at hcd
    clear e1 e3 h
    by_cases h0 : e.1 = 0
    · rw [if_pos h0] at hcd
      cases hcd
    by_cases h1 : e.1 = 1
    · rw [if_neg h0, if_pos h1] at hcd
      cases hcd
      rw [h1]
      refine ⟨11, ct_spared_1, fun q => ?_⟩
      rw [← e2 0 0 (.inl lvL_0)]
      rw [← e2 400 0 (.inl lvL_400)]
      refine v_astore_n [(3, .ref q), (0, .ref (lc' 0 0)), (1, .int x1), (2, .ref (lc' 400 0))] dX0_spared_11 (Nat.le_of_ble_eq_true rfl) rfl ?_
      refine v_iconst dX0_spared_12 ic_1 ?_
      exact v_iret rfl (Nat.le_of_ble_eq_true rfl) (Nat.le_of_ble_eq_true rfl) dX0_spared_13 (hk _ e2)
    rw [if_neg h0, if_neg h1] at hcd
    cases hcd
  · obtain ⟨r, hk, e1, e2, e3⟩ := q
    rw [e1, e3]
    clear e1 e3 h
    rw [← e2 0 0 (.inl lvL_0)]
    rw [← e2 400 0 (.inl lvL_400)]
    refine sL_400 (by decide) dX0_spared_7 ?_
    refine v_goto (tgt := 14) dX0_spared_8 rfl ?_
    refine v_iconst dX0_spared_14 ic_0 ?_
    exact v_iret rfl (Nat.le_of_ble_eq_true rfl) (Nat.le_of_ble_eq_true rfl) dX0_spared_15 (hk _ e2)
def hh_shift : List (Nat × Nat × Nat × Nat) := [(0, 11, 14, 21), (0, 11, 18, 13)]
abbrev rL_shift : Room := { frames := 17, cells := 3, slots := 18, locals := 403 }
theorem ct_shift_0 {l : Launch} {D : va_G} {dA : Nat → ClassId} {A : Nat → Prop} {pz b L : Nat} {xs : Nat → Int32} : tt_ct (XL l D dA A pz b L xs) RX0 hh_shift 7 (tt_exn 0) 14 :=
  ⟨[], ⟨0, 11, 14, 21⟩, [⟨0, 11, 18, 13⟩], "java/util/NoSuchElementException", rfl, (fun z hz => nomatch hz), by decide, by decide, q1017, q1032, rfl⟩
theorem ct_shift_1 {l : Launch} {D : va_G} {dA : Nat → ClassId} {A : Nat → Prop} {pz b L : Nat} {xs : Nat → Int32} : tt_ct (XL l D dA A pz b L xs) RX0 hh_shift 7 (tt_exn 1) 18 :=
  ⟨[⟨0, 11, 14, 21⟩], ⟨0, 11, 18, 13⟩, [], "java/lang/IllegalArgumentException", rfl, (fun z hz => by cases List.mem_singleton.mp hz; exact ⟨by decide, _, q1017, nc_L (a := 1) (c := 0) (by decide) (by decide) (by decide)⟩), by decide, by decide, q940, q209, rfl⟩
set_option maxHeartbeats 4000000 in
theorem mL_shift (l : Launch) (D : va_G) (dA : Nat → ClassId) (A : Nat → Prop) (pz b L : Nat) (xs : Nat → Int32) (hl9 : l.stackTraces = false) (lc : Nat → Nat → Nat) (s : tt_SL) (x1 : Int32) (x2 : Int32) (x3 : Int32) {Q : Option Value → (Nat → Nat → Nat) → tt_SL → Prop} (h : Ok (wrapL (fT_shift s.1 x1 x2 x3) s (cd3 (some 1) (some 2) none)) (fun r => ∀ lc', tt_agr (XL l D dA A pz b L xs) s lc lc' → Q (some (.int r.1)) lc' r.2)) : tt_SpW (XL l D dA A pz b L xs) yX0_shift cX0_shift 6 (some .int) hh_shift rL_shift [.ref (lc 0 0), .int x1, .int x2, .int x3, .ref (lc 400 0)] lc s Q := by
  refine tt_SpW.ofV plX0 kokL (Nat.le_of_ble_eq_true rfl) ?_
  show tt_V (XL l D dA A pz b L xs) cX0_shift (RX0, 6, (some .int), rL_shift, tt_hh hh_shift) (tt_fn (XL l D dA A pz b L xs) (RX0, 6, (some .int), rL_shift, tt_hh hh_shift) Q) 0 [(0, .ref (lc 0 0)), (1, .int x1), (2, .int x2), (3, .int x3), (4, .ref (lc 400 0))] [] lc s 0 0
  have h := Ok.wrapL h
  refine v_aload 4 dX0_shift_0 rfl ?_
  refine v_iconst dX0_shift_2 ic_0 ?_
  refine v_aload_n 0 dX0_shift_3 rfl ?_
  refine v_iload_n 1 dX0_shift_4 rfl ?_
  refine v_iload_n 2 dX0_shift_5 rfl ?_
  refine v_iload_n 3 dX0_shift_6 rfl ?_
  refine v_callVXh (hh := hh_shift) (kd := 0) (i := 0) (nA := 3) (As := [.int x1, .int x2, .int x3]) (rest := [.int 0, .ref (lc 400 0)]) (Q' := (fun v lc' s' => ∃ r : Int64 × tt_S3, (∀ lc'', tt_agr (XL l D dA A pz b L xs) s lc lc'' → Q (some (.int 0)) lc'' (r.2, s.2.1, wrL s.2.2 0 0 0 r.1)) ∧ v = some (Value.long r.1) ∧ tt_agr (XL l D dA A pz b L xs) s lc lc' ∧ s' = (r.2, s.2))) (QX' := (fun E lc' s' => ∃ e : Nat × tt_S3, (∃ c, (cd3 (some 1) (some 2) none) e.1 = some c ∧ ∀ lc'', tt_agr (XL l D dA A pz b L xs) s lc lc'' → Q (some (.int c)) lc'' (e.2, s.2)) ∧ E = tt_exn e.1 ∧ tt_agr (XL l D dA A pz b L xs) s lc lc' ∧ s' = (e.2, s.2))) knL lvL_0 oL_0 rfl (liftTX (Q := (fun v lc' s' => ∃ r : Int64 × tt_S3, (∀ lc'', tt_agr (XL l D dA A pz b L xs) s lc lc'' → Q (some (.int 0)) lc'' (r.2, s.2.1, wrL s.2.2 0 0 0 r.1)) ∧ v = some (Value.long r.1) ∧ tt_agr (XL l D dA A pz b L xs) s lc lc' ∧ s' = (r.2, s.2))) (QX := (fun E lc' s' => ∃ e : Nat × tt_S3, (∃ c, (cd3 (some 1) (some 2) none) e.1 = some c ∧ ∀ lc'', tt_agr (XL l D dA A pz b L xs) s lc lc'' → Q (some (.int c)) lc'' (e.2, s.2)) ∧ E = tt_exn e.1 ∧ tt_agr (XL l D dA A pz b L xs) s lc lc' ∧ s' = (e.2, s.2))) (mT_shift l D dA (aLT A lc s) pz hl9 lc s.1 x1 x2 x3 (Q := (fun v lc' w => tt_agr (XT l D dA (aLT A lc s) pz) s.1 lc lc' ∧ (fun v lc' s' => ∃ r : Int64 × tt_S3, (∀ lc'', tt_agr (XL l D dA A pz b L xs) s lc lc'' → Q (some (.int 0)) lc'' (r.2, s.2.1, wrL s.2.2 0 0 0 r.1)) ∧ v = some (Value.long r.1) ∧ tt_agr (XL l D dA A pz b L xs) s lc lc' ∧ s' = (r.2, s.2)) v lc' (w, s.2))) (QX := (fun E lc' w => tt_agr (XT l D dA (aLT A lc s) pz) s.1 lc lc' ∧ (fun E lc' s' => ∃ e : Nat × tt_S3, (∃ c, (cd3 (some 1) (some 2) none) e.1 = some c ∧ ∀ lc'', tt_agr (XL l D dA A pz b L xs) s lc lc'' → Q (some (.int c)) lc'' (e.2, s.2)) ∧ E = tt_exn e.1 ∧ tt_agr (XL l D dA A pz b L xs) s lc lc' ∧ s' = (e.2, s.2)) E lc' (w, s.2))) (h.mono (fun q hq => by cases q with
    | inl r => exact ⟨agr_rf, r, hq, rfl, agr_rf, rfl⟩
    | inr e => exact ⟨agr_rf, e, hq, rfl, agr_rf, rfl⟩)))) (lw_V q1663 q1664 q1665 q127 q1666) (by decide +kernel) rfl ⟨Nat.le_of_ble_eq_true rfl, Nat.le_of_ble_eq_true rfl⟩ (Nat.le_of_ble_eq_true rfl) ⟨Nat.le_of_ble_eq_true rfl, Nat.le_of_ble_eq_true rfl⟩ (fun _ _ _ h => h) dX0_shift_7 rfl (fun E lc' s' q => ?_) (fun v lc' s' q => ?_)
  · obtain ⟨e, ⟨c, hcd, hk⟩, e1, e2, e3⟩ := q
    rw [e1, e3]
    unfold cd3 at hcd
    clear e1 e3 h
    by_cases h0 : e.1 = 0
    · rw [if_pos h0] at hcd
      cases hcd
      rw [h0]
      refine ⟨14, ct_shift_0, fun q => ?_⟩
      rw [← e2 0 0 (.inl lvL_0)]
      rw [← e2 400 0 (.inl lvL_400)]
      refine v_astore [(5, .ref q), (0, .ref (lc' 0 0)), (1, .int x1), (2, .int x2), (3, .int x3), (4, .ref (lc' 400 0))] dX0_shift_14 (Nat.le_of_ble_eq_true rfl) rfl ?_
      refine v_iconst dX0_shift_16 ic_1 ?_
      exact v_iret rfl (Nat.le_of_ble_eq_true rfl) (Nat.le_of_ble_eq_true rfl) dX0_shift_17 (hk _ e2)
    by_cases h1 : e.1 = 1
    · rw [if_neg h0, if_pos h1] at hcd
      cases hcd
      rw [h1]
      refine ⟨18, ct_shift_1, fun q => ?_⟩
      rw [← e2 0 0 (.inl lvL_0)]
      rw [← e2 400 0 (.inl lvL_400)]
      refine v_astore [(5, .ref q), (0, .ref (lc' 0 0)), (1, .int x1), (2, .int x2), (3, .int x3), (4, .ref (lc' 400 0))] dX0_shift_18 (Nat.le_of_ble_eq_true rfl) rfl ?_
      refine v_iconst dX0_shift_20 ic_2 ?_
      exact v_iret rfl (Nat.le_of_ble_eq_true rfl) (Nat.le_of_ble_eq_true rfl) dX0_shift_21 (hk _ e2)
    rw [if_neg h0, if_neg h1] at hcd
    cases hcd
  · obtain ⟨r, hk, e1, e2, e3⟩ := q
    rw [e1, e3]
    clear e1 e3 h
    rw [← e2 0 0 (.inl lvL_0)]
    rw [← e2 400 0 (.inl lvL_400)]
    refine sL_400 (by decide) dX0_shift_10 ?_
    refine v_goto (tgt := 22) dX0_shift_11 rfl ?_
    refine v_iconst dX0_shift_22 ic_0 ?_
    exact v_iret rfl (Nat.le_of_ble_eq_true rfl) (Nat.le_of_ble_eq_true rfl) dX0_shift_23 (hk _ e2)
def hh_after : List (Nat × Nat × Nat × Nat) := [(0, 9, 12, 21), (0, 9, 16, 13)]
abbrev rL_after : Room := { frames := 17, cells := 2, slots := 12, locals := 402 }
theorem ct_after_0 {l : Launch} {D : va_G} {dA : Nat → ClassId} {A : Nat → Prop} {pz b L : Nat} {xs : Nat → Int32} : tt_ct (XL l D dA A pz b L xs) RX0 hh_after 5 (tt_exn 0) 12 :=
  ⟨[], ⟨0, 9, 12, 21⟩, [⟨0, 9, 16, 13⟩], "java/util/NoSuchElementException", rfl, (fun z hz => nomatch hz), by decide, by decide, q1017, q1032, rfl⟩
theorem ct_after_1 {l : Launch} {D : va_G} {dA : Nat → ClassId} {A : Nat → Prop} {pz b L : Nat} {xs : Nat → Int32} : tt_ct (XL l D dA A pz b L xs) RX0 hh_after 5 (tt_exn 1) 16 :=
  ⟨[⟨0, 9, 12, 21⟩], ⟨0, 9, 16, 13⟩, [], "java/lang/IllegalArgumentException", rfl, (fun z hz => by cases List.mem_singleton.mp hz; exact ⟨by decide, _, q1017, nc_L (a := 1) (c := 0) (by decide) (by decide) (by decide)⟩), by decide, by decide, q940, q209, rfl⟩
set_option maxHeartbeats 4000000 in
theorem mL_after (l : Launch) (D : va_G) (dA : Nat → ClassId) (A : Nat → Prop) (pz b L : Nat) (xs : Nat → Int32) (hl9 : l.stackTraces = false) (lc : Nat → Nat → Nat) (s : tt_SL) (x1 : Int32) (x2 : Int32) {Q : Option Value → (Nat → Nat → Nat) → tt_SL → Prop} (h : Ok (wrapL (fT_after s.1 x1 x2) s (cd3 (some 1) (some 2) none)) (fun r => ∀ lc', tt_agr (XL l D dA A pz b L xs) s lc lc' → Q (some (.int r.1)) lc' r.2)) : tt_SpW (XL l D dA A pz b L xs) yX0_after cX0_after 5 (some .int) hh_after rL_after [.ref (lc 0 0), .int x1, .int x2, .ref (lc 400 0)] lc s Q := by
  refine tt_SpW.ofV plX0 kokL (Nat.le_of_ble_eq_true rfl) ?_
  show tt_V (XL l D dA A pz b L xs) cX0_after (RX0, 5, (some .int), rL_after, tt_hh hh_after) (tt_fn (XL l D dA A pz b L xs) (RX0, 5, (some .int), rL_after, tt_hh hh_after) Q) 0 [(0, .ref (lc 0 0)), (1, .int x1), (2, .int x2), (3, .ref (lc 400 0))] [] lc s 0 0
  have h := Ok.wrapL h
  refine v_aload_n 3 dX0_after_0 rfl ?_
  refine v_iconst dX0_after_1 ic_0 ?_
  refine v_aload_n 0 dX0_after_2 rfl ?_
  refine v_iload_n 1 dX0_after_3 rfl ?_
  refine v_iload_n 2 dX0_after_4 rfl ?_
  refine v_callVXh (hh := hh_after) (kd := 0) (i := 0) (nA := 2) (As := [.int x1, .int x2]) (rest := [.int 0, .ref (lc 400 0)]) (Q' := (fun v lc' s' => ∃ r : Int64 × tt_S3, (∀ lc'', tt_agr (XL l D dA A pz b L xs) s lc lc'' → Q (some (.int 0)) lc'' (r.2, s.2.1, wrL s.2.2 0 0 0 r.1)) ∧ v = some (Value.long r.1) ∧ tt_agr (XL l D dA A pz b L xs) s lc lc' ∧ s' = (r.2, s.2))) (QX' := (fun E lc' s' => ∃ e : Nat × tt_S3, (∃ c, (cd3 (some 1) (some 2) none) e.1 = some c ∧ ∀ lc'', tt_agr (XL l D dA A pz b L xs) s lc lc'' → Q (some (.int c)) lc'' (e.2, s.2)) ∧ E = tt_exn e.1 ∧ tt_agr (XL l D dA A pz b L xs) s lc lc' ∧ s' = (e.2, s.2))) knL lvL_0 oL_0 rfl (liftTX (Q := (fun v lc' s' => ∃ r : Int64 × tt_S3, (∀ lc'', tt_agr (XL l D dA A pz b L xs) s lc lc'' → Q (some (.int 0)) lc'' (r.2, s.2.1, wrL s.2.2 0 0 0 r.1)) ∧ v = some (Value.long r.1) ∧ tt_agr (XL l D dA A pz b L xs) s lc lc' ∧ s' = (r.2, s.2))) (QX := (fun E lc' s' => ∃ e : Nat × tt_S3, (∃ c, (cd3 (some 1) (some 2) none) e.1 = some c ∧ ∀ lc'', tt_agr (XL l D dA A pz b L xs) s lc lc'' → Q (some (.int c)) lc'' (e.2, s.2)) ∧ E = tt_exn e.1 ∧ tt_agr (XL l D dA A pz b L xs) s lc lc' ∧ s' = (e.2, s.2))) (mT_after l D dA (aLT A lc s) pz hl9 lc s.1 x1 x2 (Q := (fun v lc' w => tt_agr (XT l D dA (aLT A lc s) pz) s.1 lc lc' ∧ (fun v lc' s' => ∃ r : Int64 × tt_S3, (∀ lc'', tt_agr (XL l D dA A pz b L xs) s lc lc'' → Q (some (.int 0)) lc'' (r.2, s.2.1, wrL s.2.2 0 0 0 r.1)) ∧ v = some (Value.long r.1) ∧ tt_agr (XL l D dA A pz b L xs) s lc lc' ∧ s' = (r.2, s.2)) v lc' (w, s.2))) (QX := (fun E lc' w => tt_agr (XT l D dA (aLT A lc s) pz) s.1 lc lc' ∧ (fun E lc' s' => ∃ e : Nat × tt_S3, (∃ c, (cd3 (some 1) (some 2) none) e.1 = some c ∧ ∀ lc'', tt_agr (XL l D dA A pz b L xs) s lc lc'' → Q (some (.int c)) lc'' (e.2, s.2)) ∧ E = tt_exn e.1 ∧ tt_agr (XL l D dA A pz b L xs) s lc lc' ∧ s' = (e.2, s.2)) E lc' (w, s.2))) (h.mono (fun q hq => by cases q with
    | inl r => exact ⟨agr_rf, r, hq, rfl, agr_rf, rfl⟩
    | inr e => exact ⟨agr_rf, e, hq, rfl, agr_rf, rfl⟩)))) (lw_V q1670 q1671 q1672 q127 q1673) (by decide +kernel) rfl ⟨Nat.le_of_ble_eq_true rfl, Nat.le_of_ble_eq_true rfl⟩ (Nat.le_of_ble_eq_true rfl) ⟨Nat.le_of_ble_eq_true rfl, Nat.le_of_ble_eq_true rfl⟩ (fun _ _ _ h => h) dX0_after_5 rfl (fun E lc' s' q => ?_) (fun v lc' s' q => ?_)
  · obtain ⟨e, ⟨c, hcd, hk⟩, e1, e2, e3⟩ := q
    rw [e1, e3]
    unfold cd3 at hcd
    clear e1 e3 h
    by_cases h0 : e.1 = 0
    · rw [if_pos h0] at hcd
      cases hcd
      rw [h0]
      refine ⟨12, ct_after_0, fun q => ?_⟩
      rw [← e2 0 0 (.inl lvL_0)]
      rw [← e2 400 0 (.inl lvL_400)]
      refine v_astore [(4, .ref q), (0, .ref (lc' 0 0)), (1, .int x1), (2, .int x2), (3, .ref (lc' 400 0))] dX0_after_12 (Nat.le_of_ble_eq_true rfl) rfl ?_
      refine v_iconst dX0_after_14 ic_1 ?_
      exact v_iret rfl (Nat.le_of_ble_eq_true rfl) (Nat.le_of_ble_eq_true rfl) dX0_after_15 (hk _ e2)
    by_cases h1 : e.1 = 1
    · rw [if_neg h0, if_pos h1] at hcd
      cases hcd
      rw [h1]
      refine ⟨16, ct_after_1, fun q => ?_⟩
      rw [← e2 0 0 (.inl lvL_0)]
      rw [← e2 400 0 (.inl lvL_400)]
      refine v_astore [(4, .ref q), (0, .ref (lc' 0 0)), (1, .int x1), (2, .int x2), (3, .ref (lc' 400 0))] dX0_after_16 (Nat.le_of_ble_eq_true rfl) rfl ?_
      refine v_iconst dX0_after_18 ic_2 ?_
      exact v_iret rfl (Nat.le_of_ble_eq_true rfl) (Nat.le_of_ble_eq_true rfl) dX0_after_19 (hk _ e2)
    rw [if_neg h0, if_neg h1] at hcd
    cases hcd
  · obtain ⟨r, hk, e1, e2, e3⟩ := q
    rw [e1, e3]
    clear e1 e3 h
    rw [← e2 0 0 (.inl lvL_0)]
    rw [← e2 400 0 (.inl lvL_400)]
    refine sL_400 (by decide) dX0_after_8 ?_
    refine v_goto (tgt := 20) dX0_after_9 rfl ?_
    refine v_iconst dX0_after_20 ic_0 ?_
    exact v_iret rfl (Nat.le_of_ble_eq_true rfl) (Nat.le_of_ble_eq_true rfl) dX0_after_21 (hk _ e2)
def hh_usedUp : List (Nat × Nat × Nat × Nat) := [(0, 9, 12, 21)]
abbrev rL_usedUp : Room := { frames := 17, cells := 1, slots := 6, locals := 401 }
theorem ct_usedUp_0 {l : Launch} {D : va_G} {dA : Nat → ClassId} {A : Nat → Prop} {pz b L : Nat} {xs : Nat → Int32} : tt_ct (XL l D dA A pz b L xs) RX0 hh_usedUp 4 (tt_exn 0) 12 :=
  ⟨[], ⟨0, 9, 12, 21⟩, [], "java/util/NoSuchElementException", rfl, (fun z hz => nomatch hz), by decide, by decide, q1017, q1032, rfl⟩
set_option maxHeartbeats 4000000 in
theorem mL_usedUp (l : Launch) (D : va_G) (dA : Nat → ClassId) (A : Nat → Prop) (pz b L : Nat) (xs : Nat → Int32) (hl9 : l.stackTraces = false) (lc : Nat → Nat → Nat) (s : tt_SL) (x1 : Int32) {Q : Option Value → (Nat → Nat → Nat) → tt_SL → Prop} (h : Ok (wrapI (fT_usedUp s.1 x1) s (cd3 (some 1) none none)) (fun r => ∀ lc', tt_agr (XL l D dA A pz b L xs) s lc lc' → Q (some (.int r.1)) lc' r.2)) : tt_SpW (XL l D dA A pz b L xs) yX0_usedUp cX0_usedUp 4 (some .int) hh_usedUp rL_usedUp [.ref (lc 0 0), .int x1, .ref (lc 400 0)] lc s Q := by
  refine tt_SpW.ofV plX0 kokL (Nat.le_of_ble_eq_true rfl) ?_
  show tt_V (XL l D dA A pz b L xs) cX0_usedUp (RX0, 4, (some .int), rL_usedUp, tt_hh hh_usedUp) (tt_fn (XL l D dA A pz b L xs) (RX0, 4, (some .int), rL_usedUp, tt_hh hh_usedUp) Q) 0 [(0, .ref (lc 0 0)), (1, .int x1), (2, .ref (lc 400 0))] [] lc s 0 0
  have h := Ok.wrapI h
  refine v_aload_n 2 dX0_usedUp_0 rfl ?_
  refine v_iconst dX0_usedUp_1 ic_0 ?_
  refine v_aload_n 0 dX0_usedUp_2 rfl ?_
  refine v_iload_n 1 dX0_usedUp_3 rfl ?_
  refine v_callVXh (hh := hh_usedUp) (kd := 0) (i := 0) (nA := 1) (As := [.int x1]) (rest := [.int 0, .ref (lc 400 0)]) (Q' := (fun v lc' s' => ∃ r : Int32 × tt_S3, (∀ lc'', tt_agr (XL l D dA A pz b L xs) s lc lc'' → Q (some (.int 0)) lc'' (r.2, s.2.1, wrL s.2.2 0 0 0 r.1.toInt64)) ∧ v = some (Value.int r.1) ∧ tt_agr (XL l D dA A pz b L xs) s lc lc' ∧ s' = (r.2, s.2))) (QX' := (fun E lc' s' => ∃ e : Nat × tt_S3, (∃ c, (cd3 (some 1) none none) e.1 = some c ∧ ∀ lc'', tt_agr (XL l D dA A pz b L xs) s lc lc'' → Q (some (.int c)) lc'' (e.2, s.2)) ∧ E = tt_exn e.1 ∧ tt_agr (XL l D dA A pz b L xs) s lc lc' ∧ s' = (e.2, s.2))) knL lvL_0 oL_0 rfl (liftTX (Q := (fun v lc' s' => ∃ r : Int32 × tt_S3, (∀ lc'', tt_agr (XL l D dA A pz b L xs) s lc lc'' → Q (some (.int 0)) lc'' (r.2, s.2.1, wrL s.2.2 0 0 0 r.1.toInt64)) ∧ v = some (Value.int r.1) ∧ tt_agr (XL l D dA A pz b L xs) s lc lc' ∧ s' = (r.2, s.2))) (QX := (fun E lc' s' => ∃ e : Nat × tt_S3, (∃ c, (cd3 (some 1) none none) e.1 = some c ∧ ∀ lc'', tt_agr (XL l D dA A pz b L xs) s lc lc'' → Q (some (.int c)) lc'' (e.2, s.2)) ∧ E = tt_exn e.1 ∧ tt_agr (XL l D dA A pz b L xs) s lc lc' ∧ s' = (e.2, s.2))) (mT_usedUp l D dA (aLT A lc s) pz hl9 lc s.1 x1 (Q := (fun v lc' w => tt_agr (XT l D dA (aLT A lc s) pz) s.1 lc lc' ∧ (fun v lc' s' => ∃ r : Int32 × tt_S3, (∀ lc'', tt_agr (XL l D dA A pz b L xs) s lc lc'' → Q (some (.int 0)) lc'' (r.2, s.2.1, wrL s.2.2 0 0 0 r.1.toInt64)) ∧ v = some (Value.int r.1) ∧ tt_agr (XL l D dA A pz b L xs) s lc lc' ∧ s' = (r.2, s.2)) v lc' (w, s.2))) (QX := (fun E lc' w => tt_agr (XT l D dA (aLT A lc s) pz) s.1 lc lc' ∧ (fun E lc' s' => ∃ e : Nat × tt_S3, (∃ c, (cd3 (some 1) none none) e.1 = some c ∧ ∀ lc'', tt_agr (XL l D dA A pz b L xs) s lc lc'' → Q (some (.int c)) lc'' (e.2, s.2)) ∧ E = tt_exn e.1 ∧ tt_agr (XL l D dA A pz b L xs) s lc lc' ∧ s' = (e.2, s.2)) E lc' (w, s.2))) (h.mono (fun q hq => by cases q with
    | inl r => exact ⟨agr_rf, r, hq, rfl, agr_rf, rfl⟩
    | inr e => exact ⟨agr_rf, e, hq, rfl, agr_rf, rfl⟩)))) (lw_V q1677 q1678 q1679 q127 q1680) (by decide +kernel) rfl ⟨Nat.le_of_ble_eq_true rfl, Nat.le_of_ble_eq_true rfl⟩ (Nat.le_of_ble_eq_true rfl) ⟨Nat.le_of_ble_eq_true rfl, Nat.le_of_ble_eq_true rfl⟩ (fun _ _ _ h => h) dX0_usedUp_4 rfl (fun E lc' s' q => ?_) (fun v lc' s' q => ?_)
  · obtain ⟨e, ⟨c, hcd, hk⟩, e1, e2, e3⟩ := q
    rw [e1, e3]
    unfold cd3 at hcd
    clear e1 e3 h
    by_cases h0 : e.1 = 0
    · rw [if_pos h0] at hcd
      cases hcd
      rw [h0]
      refine ⟨12, ct_usedUp_0, fun q => ?_⟩
      rw [← e2 0 0 (.inl lvL_0)]
      rw [← e2 400 0 (.inl lvL_400)]
      refine v_astore_n [(3, .ref q), (0, .ref (lc' 0 0)), (1, .int x1), (2, .ref (lc' 400 0))] dX0_usedUp_12 (Nat.le_of_ble_eq_true rfl) rfl ?_
      refine v_iconst dX0_usedUp_13 ic_1 ?_
      exact v_iret rfl (Nat.le_of_ble_eq_true rfl) (Nat.le_of_ble_eq_true rfl) dX0_usedUp_14 (hk _ e2)
    by_cases h1 : e.1 = 1
    · rw [if_neg h0, if_pos h1] at hcd
      cases hcd
    rw [if_neg h0, if_neg h1] at hcd
    cases hcd
  · obtain ⟨r, hk, e1, e2, e3⟩ := q
    rw [e1, e3]
    clear e1 e3 h
    rw [← e2 0 0 (.inl lvL_0)]
    rw [← e2 400 0 (.inl lvL_400)]
    refine v_i2l dX0_usedUp_7 rfl ?_
    refine sL_400 (by decide) dX0_usedUp_8 ?_
    refine v_goto (tgt := 15) dX0_usedUp_9 rfl ?_
    refine v_iconst dX0_usedUp_15 ic_0 ?_
    exact v_iret rfl (Nat.le_of_ble_eq_true rfl) (Nat.le_of_ble_eq_true rfl) dX0_usedUp_16 (hk _ e2)
def hh_heaviest : List (Nat × Nat × Nat × Nat) := [(0, 9, 12, 13)]
abbrev rL_heaviest : Room := { frames := 18, cells := 2, slots := 12, locals := 430 }
theorem ct_heaviest_1 {l : Launch} {D : va_G} {dA : Nat → ClassId} {A : Nat → Prop} {pz b L : Nat} {xs : Nat → Int32} : tt_ct (XL l D dA A pz b L xs) RX0 hh_heaviest 5 (tt_exn 1) 12 :=
  ⟨[], ⟨0, 9, 12, 13⟩, [], "java/lang/IllegalArgumentException", rfl, (fun z hz => nomatch hz), by decide, by decide, q940, q209, rfl⟩
set_option maxHeartbeats 4000000 in
theorem mL_heaviest (l : Launch) (D : va_G) (dA : Nat → ClassId) (A : Nat → Prop) (pz b L : Nat) (xs : Nat → Int32) (hl9 : l.stackTraces = false) (lc : Nat → Nat → Nat) (s : tt_SL) (x1 : Int32) (x2 : Int32) {Q : Option Value → (Nat → Nat → Nat) → tt_SL → Prop} (h : Ok (wrapL (fT_heaviest s.1 x1 x2) s (cd3 none (some 1) none)) (fun r => ∀ lc', tt_agr (XL l D dA A pz b L xs) s lc lc' → Q (some (.int r.1)) lc' r.2)) : tt_SpW (XL l D dA A pz b L xs) yX0_heaviest cX0_heaviest 5 (some .int) hh_heaviest rL_heaviest [.ref (lc 0 0), .int x1, .int x2, .ref (lc 400 0)] lc s Q := by
  refine tt_SpW.ofV plX0 kokL (Nat.le_of_ble_eq_true rfl) ?_
  show tt_V (XL l D dA A pz b L xs) cX0_heaviest (RX0, 5, (some .int), rL_heaviest, tt_hh hh_heaviest) (tt_fn (XL l D dA A pz b L xs) (RX0, 5, (some .int), rL_heaviest, tt_hh hh_heaviest) Q) 0 [(0, .ref (lc 0 0)), (1, .int x1), (2, .int x2), (3, .ref (lc 400 0))] [] lc s 0 0
  have h := Ok.wrapL h
  refine v_aload_n 3 dX0_heaviest_0 rfl ?_
  refine v_iconst dX0_heaviest_1 ic_0 ?_
  refine v_aload_n 0 dX0_heaviest_2 rfl ?_
  refine v_iload_n 1 dX0_heaviest_3 rfl ?_
  refine v_iload_n 2 dX0_heaviest_4 rfl ?_
  refine v_callVXh (hh := hh_heaviest) (kd := 0) (i := 0) (nA := 2) (As := [.int x1, .int x2]) (rest := [.int 0, .ref (lc 400 0)]) (Q' := (fun v lc' s' => ∃ r : Int64 × tt_S3, (∀ lc'', tt_agr (XL l D dA A pz b L xs) s lc lc'' → Q (some (.int 0)) lc'' (r.2, s.2.1, wrL s.2.2 0 0 0 r.1)) ∧ v = some (Value.long r.1) ∧ tt_agr (XL l D dA A pz b L xs) s lc lc' ∧ s' = (r.2, s.2))) (QX' := (fun E lc' s' => ∃ e : Nat × tt_S3, (∃ c, (cd3 none (some 1) none) e.1 = some c ∧ ∀ lc'', tt_agr (XL l D dA A pz b L xs) s lc lc'' → Q (some (.int c)) lc'' (e.2, s.2)) ∧ E = tt_exn e.1 ∧ tt_agr (XL l D dA A pz b L xs) s lc lc' ∧ s' = (e.2, s.2))) knL lvL_0 oL_0 rfl (liftTX (Q := (fun v lc' s' => ∃ r : Int64 × tt_S3, (∀ lc'', tt_agr (XL l D dA A pz b L xs) s lc lc'' → Q (some (.int 0)) lc'' (r.2, s.2.1, wrL s.2.2 0 0 0 r.1)) ∧ v = some (Value.long r.1) ∧ tt_agr (XL l D dA A pz b L xs) s lc lc' ∧ s' = (r.2, s.2))) (QX := (fun E lc' s' => ∃ e : Nat × tt_S3, (∃ c, (cd3 none (some 1) none) e.1 = some c ∧ ∀ lc'', tt_agr (XL l D dA A pz b L xs) s lc lc'' → Q (some (.int c)) lc'' (e.2, s.2)) ∧ E = tt_exn e.1 ∧ tt_agr (XL l D dA A pz b L xs) s lc lc' ∧ s' = (e.2, s.2))) (mT_heaviest l D dA (aLT A lc s) pz hl9 lc s.1 x1 x2 (Q := (fun v lc' w => tt_agr (XT l D dA (aLT A lc s) pz) s.1 lc lc' ∧ (fun v lc' s' => ∃ r : Int64 × tt_S3, (∀ lc'', tt_agr (XL l D dA A pz b L xs) s lc lc'' → Q (some (.int 0)) lc'' (r.2, s.2.1, wrL s.2.2 0 0 0 r.1)) ∧ v = some (Value.long r.1) ∧ tt_agr (XL l D dA A pz b L xs) s lc lc' ∧ s' = (r.2, s.2)) v lc' (w, s.2))) (QX := (fun E lc' w => tt_agr (XT l D dA (aLT A lc s) pz) s.1 lc lc' ∧ (fun E lc' s' => ∃ e : Nat × tt_S3, (∃ c, (cd3 none (some 1) none) e.1 = some c ∧ ∀ lc'', tt_agr (XL l D dA A pz b L xs) s lc lc'' → Q (some (.int c)) lc'' (e.2, s.2)) ∧ E = tt_exn e.1 ∧ tt_agr (XL l D dA A pz b L xs) s lc lc' ∧ s' = (e.2, s.2)) E lc' (w, s.2))) (h.mono (fun q hq => by cases q with
    | inl r => exact ⟨agr_rf, r, hq, rfl, agr_rf, rfl⟩
    | inr e => exact ⟨agr_rf, e, hq, rfl, agr_rf, rfl⟩)))) (lw_V q1684 q1685 q1686 q127 q1687) (by decide +kernel) rfl ⟨Nat.le_of_ble_eq_true rfl, Nat.le_of_ble_eq_true rfl⟩ (Nat.le_of_ble_eq_true rfl) ⟨Nat.le_of_ble_eq_true rfl, Nat.le_of_ble_eq_true rfl⟩ (fun _ _ _ h => h) dX0_heaviest_5 rfl (fun E lc' s' q => ?_) (fun v lc' s' q => ?_)
  · obtain ⟨e, ⟨c, hcd, hk⟩, e1, e2, e3⟩ := q
    rw [e1, e3]
    unfold cd3 at hcd
    clear e1 e3 h
    by_cases h0 : e.1 = 0
    · rw [if_pos h0] at hcd
      cases hcd
    by_cases h1 : e.1 = 1
    · rw [if_neg h0, if_pos h1] at hcd
      cases hcd
      rw [h1]
      refine ⟨12, ct_heaviest_1, fun q => ?_⟩
      rw [← e2 0 0 (.inl lvL_0)]
      rw [← e2 400 0 (.inl lvL_400)]
      refine v_astore [(4, .ref q), (0, .ref (lc' 0 0)), (1, .int x1), (2, .int x2), (3, .ref (lc' 400 0))] dX0_heaviest_12 (Nat.le_of_ble_eq_true rfl) rfl ?_
      refine v_iconst dX0_heaviest_14 ic_1 ?_
      exact v_iret rfl (Nat.le_of_ble_eq_true rfl) (Nat.le_of_ble_eq_true rfl) dX0_heaviest_15 (hk _ e2)
    rw [if_neg h0, if_neg h1] at hcd
    cases hcd
  · obtain ⟨r, hk, e1, e2, e3⟩ := q
    rw [e1, e3]
    clear e1 e3 h
    rw [← e2 0 0 (.inl lvL_0)]
    rw [← e2 400 0 (.inl lvL_400)]
    refine sL_400 (by decide) dX0_heaviest_8 ?_
    refine v_goto (tgt := 16) dX0_heaviest_9 rfl ?_
    refine v_iconst dX0_heaviest_16 ic_0 ?_
    exact v_iret rfl (Nat.le_of_ble_eq_true rfl) (Nat.le_of_ble_eq_true rfl) dX0_heaviest_17 (hk _ e2)
def hh_cover : List (Nat × Nat × Nat × Nat) := [(0, 12, 15, 13)]
abbrev rL_cover : Room := { frames := 10, cells := 4, slots := 20, locals := 3103 }
theorem ct_cover_1 {l : Launch} {D : va_G} {dA : Nat → ClassId} {A : Nat → Prop} {pz b L : Nat} {xs : Nat → Int32} : tt_ct (XL l D dA A pz b L xs) RX0 hh_cover 7 (tt_exn 1) 15 :=
  ⟨[], ⟨0, 12, 15, 13⟩, [], "java/lang/IllegalArgumentException", rfl, (fun z hz => nomatch hz), by decide, by decide, q940, q209, rfl⟩
set_option maxHeartbeats 4000000 in
theorem mL_cover (l : Launch) (D : va_G) (dA : Nat → ClassId) (A : Nat → Prop) (pz b L : Nat) (xs : Nat → Int32) (hl9 : l.stackTraces = false) (lc : Nat → Nat → Nat) (s : tt_SL) (x1 : Int32) (x2 : Int32) (x3 : Int32) {Q : Option Value → (Nat → Nat → Nat) → tt_SL → Prop} (h : Ok (wrapI (fT_cover s.1 x1 x2 x3) s (cd3 none (some 1) none)) (fun r => ∀ lc', tt_agr (XL l D dA A pz b L xs) s lc lc' → Q (some (.int r.1)) lc' r.2)) : tt_SpW (XL l D dA A pz b L xs) yX0_cover cX0_cover 6 (some .int) hh_cover rL_cover [.ref (lc 0 0), .int x1, .int x2, .int x3, .ref (lc 400 0)] lc s Q := by
  refine tt_SpW.ofV plX0 kokL (Nat.le_of_ble_eq_true rfl) ?_
  show tt_V (XL l D dA A pz b L xs) cX0_cover (RX0, 6, (some .int), rL_cover, tt_hh hh_cover) (tt_fn (XL l D dA A pz b L xs) (RX0, 6, (some .int), rL_cover, tt_hh hh_cover) Q) 0 [(0, .ref (lc 0 0)), (1, .int x1), (2, .int x2), (3, .int x3), (4, .ref (lc 400 0))] [] lc s 0 0
  have h := Ok.wrapI h
  refine v_aload 4 dX0_cover_0 rfl ?_
  refine v_iconst dX0_cover_2 ic_0 ?_
  refine v_aload_n 0 dX0_cover_3 rfl ?_
  refine v_iload_n 1 dX0_cover_4 rfl ?_
  refine v_iload_n 2 dX0_cover_5 rfl ?_
  refine v_iload_n 3 dX0_cover_6 rfl ?_
  refine v_callVXh (hh := hh_cover) (kd := 0) (i := 0) (nA := 3) (As := [.int x1, .int x2, .int x3]) (rest := [.int 0, .ref (lc 400 0)]) (Q' := (fun v lc' s' => ∃ r : Int32 × tt_S3, (∀ lc'', tt_agr (XL l D dA A pz b L xs) s lc lc'' → Q (some (.int 0)) lc'' (r.2, s.2.1, wrL s.2.2 0 0 0 r.1.toInt64)) ∧ v = some (Value.int r.1) ∧ tt_agr (XL l D dA A pz b L xs) s lc lc' ∧ s' = (r.2, s.2))) (QX' := (fun E lc' s' => ∃ e : Nat × tt_S3, (∃ c, (cd3 none (some 1) none) e.1 = some c ∧ ∀ lc'', tt_agr (XL l D dA A pz b L xs) s lc lc'' → Q (some (.int c)) lc'' (e.2, s.2)) ∧ E = tt_exn e.1 ∧ tt_agr (XL l D dA A pz b L xs) s lc lc' ∧ s' = (e.2, s.2))) knL lvL_0 oL_0 rfl (liftTX (Q := (fun v lc' s' => ∃ r : Int32 × tt_S3, (∀ lc'', tt_agr (XL l D dA A pz b L xs) s lc lc'' → Q (some (.int 0)) lc'' (r.2, s.2.1, wrL s.2.2 0 0 0 r.1.toInt64)) ∧ v = some (Value.int r.1) ∧ tt_agr (XL l D dA A pz b L xs) s lc lc' ∧ s' = (r.2, s.2))) (QX := (fun E lc' s' => ∃ e : Nat × tt_S3, (∃ c, (cd3 none (some 1) none) e.1 = some c ∧ ∀ lc'', tt_agr (XL l D dA A pz b L xs) s lc lc'' → Q (some (.int c)) lc'' (e.2, s.2)) ∧ E = tt_exn e.1 ∧ tt_agr (XL l D dA A pz b L xs) s lc lc' ∧ s' = (e.2, s.2))) (mT_cover l D dA (aLT A lc s) pz hl9 lc s.1 x1 x2 x3 (Q := (fun v lc' w => tt_agr (XT l D dA (aLT A lc s) pz) s.1 lc lc' ∧ (fun v lc' s' => ∃ r : Int32 × tt_S3, (∀ lc'', tt_agr (XL l D dA A pz b L xs) s lc lc'' → Q (some (.int 0)) lc'' (r.2, s.2.1, wrL s.2.2 0 0 0 r.1.toInt64)) ∧ v = some (Value.int r.1) ∧ tt_agr (XL l D dA A pz b L xs) s lc lc' ∧ s' = (r.2, s.2)) v lc' (w, s.2))) (QX := (fun E lc' w => tt_agr (XT l D dA (aLT A lc s) pz) s.1 lc lc' ∧ (fun E lc' s' => ∃ e : Nat × tt_S3, (∃ c, (cd3 none (some 1) none) e.1 = some c ∧ ∀ lc'', tt_agr (XL l D dA A pz b L xs) s lc lc'' → Q (some (.int c)) lc'' (e.2, s.2)) ∧ E = tt_exn e.1 ∧ tt_agr (XL l D dA A pz b L xs) s lc lc' ∧ s' = (e.2, s.2)) E lc' (w, s.2))) (h.mono (fun q hq lc' ha => by cases q with
    | inl r => exact ⟨ha, r, hq, rfl, agrL ha, rfl⟩
    | inr e => exact ⟨ha, e, hq, rfl, agrL ha, rfl⟩)))) (lw_V q1699 q1700 q1701 q127 q1702) (by decide +kernel) rfl ⟨Nat.le_of_ble_eq_true rfl, Nat.le_of_ble_eq_true rfl⟩ (Nat.le_of_ble_eq_true rfl) ⟨Nat.le_of_ble_eq_true rfl, Nat.le_of_ble_eq_true rfl⟩ (fun _ _ _ h => h) dX0_cover_7 rfl (fun E lc' s' q => ?_) (fun v lc' s' q => ?_)
  · obtain ⟨e, ⟨c, hcd, hk⟩, e1, e2, e3⟩ := q
    rw [e1, e3]
    unfold cd3 at hcd
    clear e1 e3 h
    by_cases h0 : e.1 = 0
    · rw [if_pos h0] at hcd
      cases hcd
    by_cases h1 : e.1 = 1
    · rw [if_neg h0, if_pos h1] at hcd
      cases hcd
      rw [h1]
      refine ⟨15, ct_cover_1, fun q => ?_⟩
      rw [← e2 0 0 (.inl lvL_0)]
      rw [← e2 400 0 (.inl lvL_400)]
      refine v_astore [(5, .ref q), (0, .ref (lc' 0 0)), (1, .int x1), (2, .int x2), (3, .int x3), (4, .ref (lc' 400 0))] dX0_cover_15 (Nat.le_of_ble_eq_true rfl) rfl ?_
      refine v_iconst dX0_cover_17 ic_1 ?_
      exact v_iret rfl (Nat.le_of_ble_eq_true rfl) (Nat.le_of_ble_eq_true rfl) dX0_cover_18 (hk _ e2)
    rw [if_neg h0, if_neg h1] at hcd
    cases hcd
  · obtain ⟨r, hk, e1, e2, e3⟩ := q
    rw [e1, e3]
    clear e1 e3 h
    rw [← e2 0 0 (.inl lvL_0)]
    rw [← e2 400 0 (.inl lvL_400)]
    refine v_i2l dX0_cover_10 rfl ?_
    refine sL_400 (by decide) dX0_cover_11 ?_
    refine v_goto (tgt := 19) dX0_cover_12 rfl ?_
    refine v_iconst dX0_cover_19 ic_0 ?_
    exact v_iret rfl (Nat.le_of_ble_eq_true rfl) (Nat.le_of_ble_eq_true rfl) dX0_cover_20 (hk _ e2)
def hh_reach : List (Nat × Nat × Nat × Nat) := [(0, 8, 11, 21)]
abbrev rL_reach : Room := { frames := 10, cells := 1, slots := 6, locals := 186 }
theorem ct_reach_0 {l : Launch} {D : va_G} {dA : Nat → ClassId} {A : Nat → Prop} {pz b L : Nat} {xs : Nat → Int32} : tt_ct (XL l D dA A pz b L xs) RX0 hh_reach 4 (tt_exn 0) 11 :=
  ⟨[], ⟨0, 8, 11, 21⟩, [], "java/util/NoSuchElementException", rfl, (fun z hz => nomatch hz), by decide, by decide, q1017, q1032, rfl⟩
set_option maxHeartbeats 4000000 in
theorem mL_reach (l : Launch) (D : va_G) (dA : Nat → ClassId) (A : Nat → Prop) (pz b L : Nat) (xs : Nat → Int32) (hl9 : l.stackTraces = false) (lc : Nat → Nat → Nat) (s : tt_SL) (x1 : Int32) {Q : Option Value → (Nat → Nat → Nat) → tt_SL → Prop} (h : Ok (wrapL (fT_reach s.1 x1) s (cd3 (some 1) none none)) (fun r => ∀ lc', tt_agr (XL l D dA A pz b L xs) s lc lc' → Q (some (.int r.1)) lc' r.2)) : tt_SpW (XL l D dA A pz b L xs) yX0_reach cX0_reach 4 (some .int) hh_reach rL_reach [.ref (lc 0 0), .int x1, .ref (lc 400 0)] lc s Q := by
  refine tt_SpW.ofV plX0 kokL (Nat.le_of_ble_eq_true rfl) ?_
  show tt_V (XL l D dA A pz b L xs) cX0_reach (RX0, 4, (some .int), rL_reach, tt_hh hh_reach) (tt_fn (XL l D dA A pz b L xs) (RX0, 4, (some .int), rL_reach, tt_hh hh_reach) Q) 0 [(0, .ref (lc 0 0)), (1, .int x1), (2, .ref (lc 400 0))] [] lc s 0 0
  have h := Ok.wrapL h
  refine v_aload_n 2 dX0_reach_0 rfl ?_
  refine v_iconst dX0_reach_1 ic_0 ?_
  refine v_aload_n 0 dX0_reach_2 rfl ?_
  refine v_iload_n 1 dX0_reach_3 rfl ?_
  refine v_callVXh (hh := hh_reach) (kd := 0) (i := 0) (nA := 1) (As := [.int x1]) (rest := [.int 0, .ref (lc 400 0)]) (Q' := (fun v lc' s' => ∃ r : Int64 × tt_S3, (∀ lc'', tt_agr (XL l D dA A pz b L xs) s lc lc'' → Q (some (.int 0)) lc'' (r.2, s.2.1, wrL s.2.2 0 0 0 r.1)) ∧ v = some (Value.long r.1) ∧ tt_agr (XL l D dA A pz b L xs) s lc lc' ∧ s' = (r.2, s.2))) (QX' := (fun E lc' s' => ∃ e : Nat × tt_S3, (∃ c, (cd3 (some 1) none none) e.1 = some c ∧ ∀ lc'', tt_agr (XL l D dA A pz b L xs) s lc lc'' → Q (some (.int c)) lc'' (e.2, s.2)) ∧ E = tt_exn e.1 ∧ tt_agr (XL l D dA A pz b L xs) s lc lc' ∧ s' = (e.2, s.2))) knL lvL_0 oL_0 rfl (liftTX (Q := (fun v lc' s' => ∃ r : Int64 × tt_S3, (∀ lc'', tt_agr (XL l D dA A pz b L xs) s lc lc'' → Q (some (.int 0)) lc'' (r.2, s.2.1, wrL s.2.2 0 0 0 r.1)) ∧ v = some (Value.long r.1) ∧ tt_agr (XL l D dA A pz b L xs) s lc lc' ∧ s' = (r.2, s.2))) (QX := (fun E lc' s' => ∃ e : Nat × tt_S3, (∃ c, (cd3 (some 1) none none) e.1 = some c ∧ ∀ lc'', tt_agr (XL l D dA A pz b L xs) s lc lc'' → Q (some (.int c)) lc'' (e.2, s.2)) ∧ E = tt_exn e.1 ∧ tt_agr (XL l D dA A pz b L xs) s lc lc' ∧ s' = (e.2, s.2))) (mT_reach l D dA (aLT A lc s) pz hl9 lc s.1 x1 (Q := (fun v lc' w => tt_agr (XT l D dA (aLT A lc s) pz) s.1 lc lc' ∧ (fun v lc' s' => ∃ r : Int64 × tt_S3, (∀ lc'', tt_agr (XL l D dA A pz b L xs) s lc lc'' → Q (some (.int 0)) lc'' (r.2, s.2.1, wrL s.2.2 0 0 0 r.1)) ∧ v = some (Value.long r.1) ∧ tt_agr (XL l D dA A pz b L xs) s lc lc' ∧ s' = (r.2, s.2)) v lc' (w, s.2))) (QX := (fun E lc' w => tt_agr (XT l D dA (aLT A lc s) pz) s.1 lc lc' ∧ (fun E lc' s' => ∃ e : Nat × tt_S3, (∃ c, (cd3 (some 1) none none) e.1 = some c ∧ ∀ lc'', tt_agr (XL l D dA A pz b L xs) s lc lc'' → Q (some (.int c)) lc'' (e.2, s.2)) ∧ E = tt_exn e.1 ∧ tt_agr (XL l D dA A pz b L xs) s lc lc' ∧ s' = (e.2, s.2)) E lc' (w, s.2))) (h.mono (fun q hq => by cases q with
    | inl r => exact ⟨agr_rf, r, hq, rfl, agr_rf, rfl⟩
    | inr e => exact ⟨agr_rf, e, hq, rfl, agr_rf, rfl⟩)))) (lw_V q1710 q1711 q1712 q127 q1713) (by decide +kernel) rfl ⟨Nat.le_of_ble_eq_true rfl, Nat.le_of_ble_eq_true rfl⟩ (Nat.le_of_ble_eq_true rfl) ⟨Nat.le_of_ble_eq_true rfl, Nat.le_of_ble_eq_true rfl⟩ (fun _ _ _ h => h) dX0_reach_4 rfl (fun E lc' s' q => ?_) (fun v lc' s' q => ?_)
  · obtain ⟨e, ⟨c, hcd, hk⟩, e1, e2, e3⟩ := q
    rw [e1, e3]
    unfold cd3 at hcd
    clear e1 e3 h
    by_cases h0 : e.1 = 0
    · rw [if_pos h0] at hcd
      cases hcd
      rw [h0]
      refine ⟨11, ct_reach_0, fun q => ?_⟩
      rw [← e2 0 0 (.inl lvL_0)]
      rw [← e2 400 0 (.inl lvL_400)]
      refine v_astore_n [(3, .ref q), (0, .ref (lc' 0 0)), (1, .int x1), (2, .ref (lc' 400 0))] dX0_reach_11 (Nat.le_of_ble_eq_true rfl) rfl ?_
      refine v_iconst dX0_reach_12 ic_1 ?_
      exact v_iret rfl (Nat.le_of_ble_eq_true rfl) (Nat.le_of_ble_eq_true rfl) dX0_reach_13 (hk _ e2)
    by_cases h1 : e.1 = 1
    · rw [if_neg h0, if_pos h1] at hcd
      cases hcd
    rw [if_neg h0, if_neg h1] at hcd
    cases hcd
  · obtain ⟨r, hk, e1, e2, e3⟩ := q
    rw [e1, e3]
    clear e1 e3 h
    rw [← e2 0 0 (.inl lvL_0)]
    rw [← e2 400 0 (.inl lvL_400)]
    refine sL_400 (by decide) dX0_reach_7 ?_
    refine v_goto (tgt := 14) dX0_reach_8 rfl ?_
    refine v_iconst dX0_reach_14 ic_0 ?_
    exact v_iret rfl (Nat.le_of_ble_eq_true rfl) (Nat.le_of_ble_eq_true rfl) dX0_reach_15 (hk _ e2)
def hh_uneven : List (Nat × Nat × Nat × Nat) := [(0, 15, 18, 21), (0, 15, 22, 13)]
abbrev rL_uneven : Room := { frames := 12, cells := 5, slots := 30, locals := 258 }
theorem ct_uneven_0 {l : Launch} {D : va_G} {dA : Nat → ClassId} {A : Nat → Prop} {pz b L : Nat} {xs : Nat → Int32} : tt_ct (XL l D dA A pz b L xs) RX0 hh_uneven 11 (tt_exn 0) 18 :=
  ⟨[], ⟨0, 15, 18, 21⟩, [⟨0, 15, 22, 13⟩], "java/util/NoSuchElementException", rfl, (fun z hz => nomatch hz), by decide, by decide, q1017, q1032, rfl⟩
theorem ct_uneven_1 {l : Launch} {D : va_G} {dA : Nat → ClassId} {A : Nat → Prop} {pz b L : Nat} {xs : Nat → Int32} : tt_ct (XL l D dA A pz b L xs) RX0 hh_uneven 11 (tt_exn 1) 22 :=
  ⟨[⟨0, 15, 18, 21⟩], ⟨0, 15, 22, 13⟩, [], "java/lang/IllegalArgumentException", rfl, (fun z hz => by cases List.mem_singleton.mp hz; exact ⟨by decide, _, q1017, nc_L (a := 1) (c := 0) (by decide) (by decide) (by decide)⟩), by decide, by decide, q940, q209, rfl⟩
set_option maxHeartbeats 4000000 in
theorem mL_uneven (l : Launch) (D : va_G) (dA : Nat → ClassId) (A : Nat → Prop) (pz b L : Nat) (xs : Nat → Int32) (hl9 : l.stackTraces = false) (lc : Nat → Nat → Nat) (s : tt_SL) (x1 : Int32) (x2 : Int32) (x3 : Int32) (x4 : Int32) (x5 : Int32) {Q : Option Value → (Nat → Nat → Nat) → tt_SL → Prop} (h : Ok (wrapL (fT_uneven s.1 x1 x2 x3 x4 x5) s (cd3 (some 1) (some 2) none)) (fun r => ∀ lc', tt_agr (XL l D dA A pz b L xs) s lc lc' → Q (some (.int r.1)) lc' r.2)) : tt_SpW (XL l D dA A pz b L xs) yX0_uneven cX0_uneven 8 (some .int) hh_uneven rL_uneven [.ref (lc 0 0), .int x1, .int x2, .int x3, .int x4, .int x5, .ref (lc 400 0)] lc s Q := by
  refine tt_SpW.ofV plX0 kokL (Nat.le_of_ble_eq_true rfl) ?_
  show tt_V (XL l D dA A pz b L xs) cX0_uneven (RX0, 8, (some .int), rL_uneven, tt_hh hh_uneven) (tt_fn (XL l D dA A pz b L xs) (RX0, 8, (some .int), rL_uneven, tt_hh hh_uneven) Q) 0 [(0, .ref (lc 0 0)), (1, .int x1), (2, .int x2), (3, .int x3), (4, .int x4), (5, .int x5), (6, .ref (lc 400 0))] [] lc s 0 0
  have h := Ok.wrapL h
  refine v_aload 6 dX0_uneven_0 rfl ?_
  refine v_iconst dX0_uneven_2 ic_0 ?_
  refine v_aload_n 0 dX0_uneven_3 rfl ?_
  refine v_iload_n 1 dX0_uneven_4 rfl ?_
  refine v_iload_n 2 dX0_uneven_5 rfl ?_
  refine v_iload_n 3 dX0_uneven_6 rfl ?_
  refine v_iload 4 dX0_uneven_7 rfl ?_
  refine v_iload 5 dX0_uneven_9 rfl ?_
  refine v_callVXh (hh := hh_uneven) (kd := 0) (i := 0) (nA := 5) (As := [.int x1, .int x2, .int x3, .int x4, .int x5]) (rest := [.int 0, .ref (lc 400 0)]) (Q' := (fun v lc' s' => ∃ r : Int64 × tt_S3, (∀ lc'', tt_agr (XL l D dA A pz b L xs) s lc lc'' → Q (some (.int 0)) lc'' (r.2, s.2.1, wrL s.2.2 0 0 0 r.1)) ∧ v = some (Value.long r.1) ∧ tt_agr (XL l D dA A pz b L xs) s lc lc' ∧ s' = (r.2, s.2))) (QX' := (fun E lc' s' => ∃ e : Nat × tt_S3, (∃ c, (cd3 (some 1) (some 2) none) e.1 = some c ∧ ∀ lc'', tt_agr (XL l D dA A pz b L xs) s lc lc'' → Q (some (.int c)) lc'' (e.2, s.2)) ∧ E = tt_exn e.1 ∧ tt_agr (XL l D dA A pz b L xs) s lc lc' ∧ s' = (e.2, s.2))) knL lvL_0 oL_0 rfl (liftTX (Q := (fun v lc' s' => ∃ r : Int64 × tt_S3, (∀ lc'', tt_agr (XL l D dA A pz b L xs) s lc lc'' → Q (some (.int 0)) lc'' (r.2, s.2.1, wrL s.2.2 0 0 0 r.1)) ∧ v = some (Value.long r.1) ∧ tt_agr (XL l D dA A pz b L xs) s lc lc' ∧ s' = (r.2, s.2))) (QX := (fun E lc' s' => ∃ e : Nat × tt_S3, (∃ c, (cd3 (some 1) (some 2) none) e.1 = some c ∧ ∀ lc'', tt_agr (XL l D dA A pz b L xs) s lc lc'' → Q (some (.int c)) lc'' (e.2, s.2)) ∧ E = tt_exn e.1 ∧ tt_agr (XL l D dA A pz b L xs) s lc lc' ∧ s' = (e.2, s.2))) (mT_uneven l D dA (aLT A lc s) pz hl9 lc s.1 x1 x2 x3 x4 x5 (Q := (fun v lc' w => tt_agr (XT l D dA (aLT A lc s) pz) s.1 lc lc' ∧ (fun v lc' s' => ∃ r : Int64 × tt_S3, (∀ lc'', tt_agr (XL l D dA A pz b L xs) s lc lc'' → Q (some (.int 0)) lc'' (r.2, s.2.1, wrL s.2.2 0 0 0 r.1)) ∧ v = some (Value.long r.1) ∧ tt_agr (XL l D dA A pz b L xs) s lc lc' ∧ s' = (r.2, s.2)) v lc' (w, s.2))) (QX := (fun E lc' w => tt_agr (XT l D dA (aLT A lc s) pz) s.1 lc lc' ∧ (fun E lc' s' => ∃ e : Nat × tt_S3, (∃ c, (cd3 (some 1) (some 2) none) e.1 = some c ∧ ∀ lc'', tt_agr (XL l D dA A pz b L xs) s lc lc'' → Q (some (.int c)) lc'' (e.2, s.2)) ∧ E = tt_exn e.1 ∧ tt_agr (XL l D dA A pz b L xs) s lc lc' ∧ s' = (e.2, s.2)) E lc' (w, s.2))) (h.mono (fun q hq => by cases q with
    | inl r => exact ⟨agr_rf, r, hq, rfl, agr_rf, rfl⟩
    | inr e => exact ⟨agr_rf, e, hq, rfl, agr_rf, rfl⟩)))) (lw_V q1718 q1719 q1720 q127 q1721) (by decide +kernel) rfl ⟨Nat.le_of_ble_eq_true rfl, Nat.le_of_ble_eq_true rfl⟩ (Nat.le_of_ble_eq_true rfl) ⟨Nat.le_of_ble_eq_true rfl, Nat.le_of_ble_eq_true rfl⟩ (fun _ _ _ h => h) dX0_uneven_11 rfl (fun E lc' s' q => ?_) (fun v lc' s' q => ?_)
  · obtain ⟨e, ⟨c, hcd, hk⟩, e1, e2, e3⟩ := q
    rw [e1, e3]
    unfold cd3 at hcd
    clear e1 e3 h
    by_cases h0 : e.1 = 0
    · rw [if_pos h0] at hcd
      cases hcd
      rw [h0]
      refine ⟨18, ct_uneven_0, fun q => ?_⟩
      rw [← e2 0 0 (.inl lvL_0)]
      rw [← e2 400 0 (.inl lvL_400)]
      refine v_astore [(7, .ref q), (0, .ref (lc' 0 0)), (1, .int x1), (2, .int x2), (3, .int x3), (4, .int x4), (5, .int x5), (6, .ref (lc' 400 0))] dX0_uneven_18 (Nat.le_of_ble_eq_true rfl) rfl ?_
      refine v_iconst dX0_uneven_20 ic_1 ?_
      exact v_iret rfl (Nat.le_of_ble_eq_true rfl) (Nat.le_of_ble_eq_true rfl) dX0_uneven_21 (hk _ e2)
    by_cases h1 : e.1 = 1
    · rw [if_neg h0, if_pos h1] at hcd
      cases hcd
      rw [h1]
      refine ⟨22, ct_uneven_1, fun q => ?_⟩
      rw [← e2 0 0 (.inl lvL_0)]
      rw [← e2 400 0 (.inl lvL_400)]
      refine v_astore [(7, .ref q), (0, .ref (lc' 0 0)), (1, .int x1), (2, .int x2), (3, .int x3), (4, .int x4), (5, .int x5), (6, .ref (lc' 400 0))] dX0_uneven_22 (Nat.le_of_ble_eq_true rfl) rfl ?_
      refine v_iconst dX0_uneven_24 ic_2 ?_
      exact v_iret rfl (Nat.le_of_ble_eq_true rfl) (Nat.le_of_ble_eq_true rfl) dX0_uneven_25 (hk _ e2)
    rw [if_neg h0, if_neg h1] at hcd
    cases hcd
  · obtain ⟨r, hk, e1, e2, e3⟩ := q
    rw [e1, e3]
    clear e1 e3 h
    rw [← e2 0 0 (.inl lvL_0)]
    rw [← e2 400 0 (.inl lvL_400)]
    refine sL_400 (by decide) dX0_uneven_14 ?_
    refine v_goto (tgt := 26) dX0_uneven_15 rfl ?_
    refine v_iconst dX0_uneven_26 ic_0 ?_
    exact v_iret rfl (Nat.le_of_ble_eq_true rfl) (Nat.le_of_ble_eq_true rfl) dX0_uneven_27 (hk _ e2)
def hh_widest : List (Nat × Nat × Nat × Nat) := [(0, 10, 13, 13)]
abbrev rL_widest : Room := { frames := 10, cells := 2, slots := 12, locals := 186 }
theorem ct_widest_1 {l : Launch} {D : va_G} {dA : Nat → ClassId} {A : Nat → Prop} {pz b L : Nat} {xs : Nat → Int32} : tt_ct (XL l D dA A pz b L xs) RX0 hh_widest 5 (tt_exn 1) 13 :=
  ⟨[], ⟨0, 10, 13, 13⟩, [], "java/lang/IllegalArgumentException", rfl, (fun z hz => nomatch hz), by decide, by decide, q940, q209, rfl⟩
set_option maxHeartbeats 4000000 in
theorem mL_widest (l : Launch) (D : va_G) (dA : Nat → ClassId) (A : Nat → Prop) (pz b L : Nat) (xs : Nat → Int32) (hl9 : l.stackTraces = false) (lc : Nat → Nat → Nat) (s : tt_SL) (x1 : Int32) (x2 : Int32) {Q : Option Value → (Nat → Nat → Nat) → tt_SL → Prop} (h : Ok (wrapI (fT_widest s.1 x1 x2) s (cd3 none (some 1) none)) (fun r => ∀ lc', tt_agr (XL l D dA A pz b L xs) s lc lc' → Q (some (.int r.1)) lc' r.2)) : tt_SpW (XL l D dA A pz b L xs) yX0_widest cX0_widest 5 (some .int) hh_widest rL_widest [.ref (lc 0 0), .int x1, .int x2, .ref (lc 400 0)] lc s Q := by
  refine tt_SpW.ofV plX0 kokL (Nat.le_of_ble_eq_true rfl) ?_
  show tt_V (XL l D dA A pz b L xs) cX0_widest (RX0, 5, (some .int), rL_widest, tt_hh hh_widest) (tt_fn (XL l D dA A pz b L xs) (RX0, 5, (some .int), rL_widest, tt_hh hh_widest) Q) 0 [(0, .ref (lc 0 0)), (1, .int x1), (2, .int x2), (3, .ref (lc 400 0))] [] lc s 0 0
  have h := Ok.wrapI h
  refine v_aload_n 3 dX0_widest_0 rfl ?_
  refine v_iconst dX0_widest_1 ic_0 ?_
  refine v_aload_n 0 dX0_widest_2 rfl ?_
  refine v_iload_n 1 dX0_widest_3 rfl ?_
  refine v_iload_n 2 dX0_widest_4 rfl ?_
  refine v_callVXh (hh := hh_widest) (kd := 0) (i := 0) (nA := 2) (As := [.int x1, .int x2]) (rest := [.int 0, .ref (lc 400 0)]) (Q' := (fun v lc' s' => ∃ r : Int32 × tt_S3, (∀ lc'', tt_agr (XL l D dA A pz b L xs) s lc lc'' → Q (some (.int 0)) lc'' (r.2, s.2.1, wrL s.2.2 0 0 0 r.1.toInt64)) ∧ v = some (Value.int r.1) ∧ tt_agr (XL l D dA A pz b L xs) s lc lc' ∧ s' = (r.2, s.2))) (QX' := (fun E lc' s' => ∃ e : Nat × tt_S3, (∃ c, (cd3 none (some 1) none) e.1 = some c ∧ ∀ lc'', tt_agr (XL l D dA A pz b L xs) s lc lc'' → Q (some (.int c)) lc'' (e.2, s.2)) ∧ E = tt_exn e.1 ∧ tt_agr (XL l D dA A pz b L xs) s lc lc' ∧ s' = (e.2, s.2))) knL lvL_0 oL_0 rfl (liftTX (Q := (fun v lc' s' => ∃ r : Int32 × tt_S3, (∀ lc'', tt_agr (XL l D dA A pz b L xs) s lc lc'' → Q (some (.int 0)) lc'' (r.2, s.2.1, wrL s.2.2 0 0 0 r.1.toInt64)) ∧ v = some (Value.int r.1) ∧ tt_agr (XL l D dA A pz b L xs) s lc lc' ∧ s' = (r.2, s.2))) (QX := (fun E lc' s' => ∃ e : Nat × tt_S3, (∃ c, (cd3 none (some 1) none) e.1 = some c ∧ ∀ lc'', tt_agr (XL l D dA A pz b L xs) s lc lc'' → Q (some (.int c)) lc'' (e.2, s.2)) ∧ E = tt_exn e.1 ∧ tt_agr (XL l D dA A pz b L xs) s lc lc' ∧ s' = (e.2, s.2))) (mT_widest l D dA (aLT A lc s) pz hl9 lc s.1 x1 x2 (Q := (fun v lc' w => tt_agr (XT l D dA (aLT A lc s) pz) s.1 lc lc' ∧ (fun v lc' s' => ∃ r : Int32 × tt_S3, (∀ lc'', tt_agr (XL l D dA A pz b L xs) s lc lc'' → Q (some (.int 0)) lc'' (r.2, s.2.1, wrL s.2.2 0 0 0 r.1.toInt64)) ∧ v = some (Value.int r.1) ∧ tt_agr (XL l D dA A pz b L xs) s lc lc' ∧ s' = (r.2, s.2)) v lc' (w, s.2))) (QX := (fun E lc' w => tt_agr (XT l D dA (aLT A lc s) pz) s.1 lc lc' ∧ (fun E lc' s' => ∃ e : Nat × tt_S3, (∃ c, (cd3 none (some 1) none) e.1 = some c ∧ ∀ lc'', tt_agr (XL l D dA A pz b L xs) s lc lc'' → Q (some (.int c)) lc'' (e.2, s.2)) ∧ E = tt_exn e.1 ∧ tt_agr (XL l D dA A pz b L xs) s lc lc' ∧ s' = (e.2, s.2)) E lc' (w, s.2))) (h.mono (fun q hq => by cases q with
    | inl r => exact ⟨agr_rf, r, hq, rfl, agr_rf, rfl⟩
    | inr e => exact ⟨agr_rf, e, hq, rfl, agr_rf, rfl⟩)))) (lw_V q1729 q1730 q1731 q127 q1732) (by decide +kernel) rfl ⟨Nat.le_of_ble_eq_true rfl, Nat.le_of_ble_eq_true rfl⟩ (Nat.le_of_ble_eq_true rfl) ⟨Nat.le_of_ble_eq_true rfl, Nat.le_of_ble_eq_true rfl⟩ (fun _ _ _ h => h) dX0_widest_5 rfl (fun E lc' s' q => ?_) (fun v lc' s' q => ?_)
  · obtain ⟨e, ⟨c, hcd, hk⟩, e1, e2, e3⟩ := q
    rw [e1, e3]
    unfold cd3 at hcd
    clear e1 e3 h
    by_cases h0 : e.1 = 0
    · rw [if_pos h0] at hcd
      cases hcd
    by_cases h1 : e.1 = 1
    · rw [if_neg h0, if_pos h1] at hcd
      cases hcd
      rw [h1]
      refine ⟨13, ct_widest_1, fun q => ?_⟩
      rw [← e2 0 0 (.inl lvL_0)]
      rw [← e2 400 0 (.inl lvL_400)]
      refine v_astore [(4, .ref q), (0, .ref (lc' 0 0)), (1, .int x1), (2, .int x2), (3, .ref (lc' 400 0))] dX0_widest_13 (Nat.le_of_ble_eq_true rfl) rfl ?_
      refine v_iconst dX0_widest_15 ic_1 ?_
      exact v_iret rfl (Nat.le_of_ble_eq_true rfl) (Nat.le_of_ble_eq_true rfl) dX0_widest_16 (hk _ e2)
    rw [if_neg h0, if_neg h1] at hcd
    cases hcd
  · obtain ⟨r, hk, e1, e2, e3⟩ := q
    rw [e1, e3]
    clear e1 e3 h
    rw [← e2 0 0 (.inl lvL_0)]
    rw [← e2 400 0 (.inl lvL_400)]
    refine v_i2l dX0_widest_8 rfl ?_
    refine sL_400 (by decide) dX0_widest_9 ?_
    refine v_goto (tgt := 17) dX0_widest_10 rfl ?_
    refine v_iconst dX0_widest_17 ic_0 ?_
    exact v_iret rfl (Nat.le_of_ble_eq_true rfl) (Nat.le_of_ble_eq_true rfl) dX0_widest_18 (hk _ e2)
def hh_strongest : List (Nat × Nat × Nat × Nat) := [(0, 8, 11, 13)]
abbrev rL_strongest : Room := { frames := 9, cells := 1, slots := 6, locals := 3107 }
theorem ct_strongest_1 {l : Launch} {D : va_G} {dA : Nat → ClassId} {A : Nat → Prop} {pz b L : Nat} {xs : Nat → Int32} : tt_ct (XL l D dA A pz b L xs) RX0 hh_strongest 4 (tt_exn 1) 11 :=
  ⟨[], ⟨0, 8, 11, 13⟩, [], "java/lang/IllegalArgumentException", rfl, (fun z hz => nomatch hz), by decide, by decide, q940, q209, rfl⟩
set_option maxHeartbeats 4000000 in
theorem mL_strongest (l : Launch) (D : va_G) (dA : Nat → ClassId) (A : Nat → Prop) (pz b L : Nat) (xs : Nat → Int32) (hl9 : l.stackTraces = false) (lc : Nat → Nat → Nat) (s : tt_SL) (x1 : Int32) {Q : Option Value → (Nat → Nat → Nat) → tt_SL → Prop} (h : Ok (wrapL (fT_strongest s.1 x1) s (cd3 none (some 1) none)) (fun r => ∀ lc', tt_agr (XL l D dA A pz b L xs) s lc lc' → Q (some (.int r.1)) lc' r.2)) : tt_SpW (XL l D dA A pz b L xs) yX0_strongest cX0_strongest 4 (some .int) hh_strongest rL_strongest [.ref (lc 0 0), .int x1, .ref (lc 400 0)] lc s Q := by
  refine tt_SpW.ofV plX0 kokL (Nat.le_of_ble_eq_true rfl) ?_
  show tt_V (XL l D dA A pz b L xs) cX0_strongest (RX0, 4, (some .int), rL_strongest, tt_hh hh_strongest) (tt_fn (XL l D dA A pz b L xs) (RX0, 4, (some .int), rL_strongest, tt_hh hh_strongest) Q) 0 [(0, .ref (lc 0 0)), (1, .int x1), (2, .ref (lc 400 0))] [] lc s 0 0
  have h := Ok.wrapL h
  refine v_aload_n 2 dX0_strongest_0 rfl ?_
  refine v_iconst dX0_strongest_1 ic_0 ?_
  refine v_aload_n 0 dX0_strongest_2 rfl ?_
  refine v_iload_n 1 dX0_strongest_3 rfl ?_
  refine v_callVXh (hh := hh_strongest) (kd := 0) (i := 0) (nA := 1) (As := [.int x1]) (rest := [.int 0, .ref (lc 400 0)]) (Q' := (fun v lc' s' => ∃ r : Int64 × tt_S3, (∀ lc'', tt_agr (XL l D dA A pz b L xs) s lc lc'' → Q (some (.int 0)) lc'' (r.2, s.2.1, wrL s.2.2 0 0 0 r.1)) ∧ v = some (Value.long r.1) ∧ tt_agr (XL l D dA A pz b L xs) s lc lc' ∧ s' = (r.2, s.2))) (QX' := (fun E lc' s' => ∃ e : Nat × tt_S3, (∃ c, (cd3 none (some 1) none) e.1 = some c ∧ ∀ lc'', tt_agr (XL l D dA A pz b L xs) s lc lc'' → Q (some (.int c)) lc'' (e.2, s.2)) ∧ E = tt_exn e.1 ∧ tt_agr (XL l D dA A pz b L xs) s lc lc' ∧ s' = (e.2, s.2))) knL lvL_0 oL_0 rfl (liftTX (Q := (fun v lc' s' => ∃ r : Int64 × tt_S3, (∀ lc'', tt_agr (XL l D dA A pz b L xs) s lc lc'' → Q (some (.int 0)) lc'' (r.2, s.2.1, wrL s.2.2 0 0 0 r.1)) ∧ v = some (Value.long r.1) ∧ tt_agr (XL l D dA A pz b L xs) s lc lc' ∧ s' = (r.2, s.2))) (QX := (fun E lc' s' => ∃ e : Nat × tt_S3, (∃ c, (cd3 none (some 1) none) e.1 = some c ∧ ∀ lc'', tt_agr (XL l D dA A pz b L xs) s lc lc'' → Q (some (.int c)) lc'' (e.2, s.2)) ∧ E = tt_exn e.1 ∧ tt_agr (XL l D dA A pz b L xs) s lc lc' ∧ s' = (e.2, s.2))) (mT_strongest l D dA (aLT A lc s) pz hl9 lc s.1 x1 (Q := (fun v lc' w => tt_agr (XT l D dA (aLT A lc s) pz) s.1 lc lc' ∧ (fun v lc' s' => ∃ r : Int64 × tt_S3, (∀ lc'', tt_agr (XL l D dA A pz b L xs) s lc lc'' → Q (some (.int 0)) lc'' (r.2, s.2.1, wrL s.2.2 0 0 0 r.1)) ∧ v = some (Value.long r.1) ∧ tt_agr (XL l D dA A pz b L xs) s lc lc' ∧ s' = (r.2, s.2)) v lc' (w, s.2))) (QX := (fun E lc' w => tt_agr (XT l D dA (aLT A lc s) pz) s.1 lc lc' ∧ (fun E lc' s' => ∃ e : Nat × tt_S3, (∃ c, (cd3 none (some 1) none) e.1 = some c ∧ ∀ lc'', tt_agr (XL l D dA A pz b L xs) s lc lc'' → Q (some (.int c)) lc'' (e.2, s.2)) ∧ E = tt_exn e.1 ∧ tt_agr (XL l D dA A pz b L xs) s lc lc' ∧ s' = (e.2, s.2)) E lc' (w, s.2))) (h.mono (fun q hq => by cases q with
    | inl r => exact ⟨agr_rf, r, hq, rfl, agr_rf, rfl⟩
    | inr e => exact ⟨agr_rf, e, hq, rfl, agr_rf, rfl⟩)))) (lw_V q1736 q1737 q1738 q127 q1739) (by decide +kernel) rfl ⟨Nat.le_of_ble_eq_true rfl, Nat.le_of_ble_eq_true rfl⟩ (Nat.le_of_ble_eq_true rfl) ⟨Nat.le_of_ble_eq_true rfl, Nat.le_of_ble_eq_true rfl⟩ (fun _ _ _ h => h) dX0_strongest_4 rfl (fun E lc' s' q => ?_) (fun v lc' s' q => ?_)
  · obtain ⟨e, ⟨c, hcd, hk⟩, e1, e2, e3⟩ := q
    rw [e1, e3]
    unfold cd3 at hcd
    clear e1 e3 h
    by_cases h0 : e.1 = 0
    · rw [if_pos h0] at hcd
      cases hcd
    by_cases h1 : e.1 = 1
    · rw [if_neg h0, if_pos h1] at hcd
      cases hcd
      rw [h1]
      refine ⟨11, ct_strongest_1, fun q => ?_⟩
      rw [← e2 0 0 (.inl lvL_0)]
      rw [← e2 400 0 (.inl lvL_400)]
      refine v_astore_n [(3, .ref q), (0, .ref (lc' 0 0)), (1, .int x1), (2, .ref (lc' 400 0))] dX0_strongest_11 (Nat.le_of_ble_eq_true rfl) rfl ?_
      refine v_iconst dX0_strongest_12 ic_1 ?_
      exact v_iret rfl (Nat.le_of_ble_eq_true rfl) (Nat.le_of_ble_eq_true rfl) dX0_strongest_13 (hk _ e2)
    rw [if_neg h0, if_neg h1] at hcd
    cases hcd
  · obtain ⟨r, hk, e1, e2, e3⟩ := q
    rw [e1, e3]
    clear e1 e3 h
    rw [← e2 0 0 (.inl lvL_0)]
    rw [← e2 400 0 (.inl lvL_400)]
    refine sL_400 (by decide) dX0_strongest_7 ?_
    refine v_goto (tgt := 14) dX0_strongest_8 rfl ?_
    refine v_iconst dX0_strongest_14 ic_0 ?_
    exact v_iret rfl (Nat.le_of_ble_eq_true rfl) (Nat.le_of_ble_eq_true rfl) dX0_strongest_15 (hk _ e2)
def hh_holds : List (Nat × Nat × Nat × Nat) := [(0, 12, 15, 13)]
abbrev rL_holds : Room := { frames := 10, cells := 4, slots := 20, locals := 3103 }
theorem ct_holds_1 {l : Launch} {D : va_G} {dA : Nat → ClassId} {A : Nat → Prop} {pz b L : Nat} {xs : Nat → Int32} : tt_ct (XL l D dA A pz b L xs) RX0 hh_holds 7 (tt_exn 1) 15 :=
  ⟨[], ⟨0, 12, 15, 13⟩, [], "java/lang/IllegalArgumentException", rfl, (fun z hz => nomatch hz), by decide, by decide, q940, q209, rfl⟩
set_option maxHeartbeats 4000000 in
theorem mL_holds (l : Launch) (D : va_G) (dA : Nat → ClassId) (A : Nat → Prop) (pz b L : Nat) (xs : Nat → Int32) (hl9 : l.stackTraces = false) (lc : Nat → Nat → Nat) (s : tt_SL) (x1 : Int32) (x2 : Int32) (x3 : Int32) {Q : Option Value → (Nat → Nat → Nat) → tt_SL → Prop} (h : Ok (wrapI (fT_holds s.1 x1 x2 x3) s (cd3 none (some 1) none)) (fun r => ∀ lc', tt_agr (XL l D dA A pz b L xs) s lc lc' → Q (some (.int r.1)) lc' r.2)) : tt_SpW (XL l D dA A pz b L xs) yX0_holds cX0_holds 6 (some .int) hh_holds rL_holds [.ref (lc 0 0), .int x1, .int x2, .int x3, .ref (lc 400 0)] lc s Q := by
  refine tt_SpW.ofV plX0 kokL (Nat.le_of_ble_eq_true rfl) ?_
  show tt_V (XL l D dA A pz b L xs) cX0_holds (RX0, 6, (some .int), rL_holds, tt_hh hh_holds) (tt_fn (XL l D dA A pz b L xs) (RX0, 6, (some .int), rL_holds, tt_hh hh_holds) Q) 0 [(0, .ref (lc 0 0)), (1, .int x1), (2, .int x2), (3, .int x3), (4, .ref (lc 400 0))] [] lc s 0 0
  have h := Ok.wrapI h
  refine v_aload 4 dX0_holds_0 rfl ?_
  refine v_iconst dX0_holds_2 ic_0 ?_
  refine v_aload_n 0 dX0_holds_3 rfl ?_
  refine v_iload_n 1 dX0_holds_4 rfl ?_
  refine v_iload_n 2 dX0_holds_5 rfl ?_
  refine v_iload_n 3 dX0_holds_6 rfl ?_
  refine v_callVXh (hh := hh_holds) (kd := 0) (i := 0) (nA := 3) (As := [.int x1, .int x2, .int x3]) (rest := [.int 0, .ref (lc 400 0)]) (Q' := (fun v lc' s' => ∃ r : Int32 × tt_S3, (∀ lc'', tt_agr (XL l D dA A pz b L xs) s lc lc'' → Q (some (.int 0)) lc'' (r.2, s.2.1, wrL s.2.2 0 0 0 r.1.toInt64)) ∧ v = some (Value.int r.1) ∧ tt_agr (XL l D dA A pz b L xs) s lc lc' ∧ s' = (r.2, s.2))) (QX' := (fun E lc' s' => ∃ e : Nat × tt_S3, (∃ c, (cd3 none (some 1) none) e.1 = some c ∧ ∀ lc'', tt_agr (XL l D dA A pz b L xs) s lc lc'' → Q (some (.int c)) lc'' (e.2, s.2)) ∧ E = tt_exn e.1 ∧ tt_agr (XL l D dA A pz b L xs) s lc lc' ∧ s' = (e.2, s.2))) knL lvL_0 oL_0 rfl (liftTX (Q := (fun v lc' s' => ∃ r : Int32 × tt_S3, (∀ lc'', tt_agr (XL l D dA A pz b L xs) s lc lc'' → Q (some (.int 0)) lc'' (r.2, s.2.1, wrL s.2.2 0 0 0 r.1.toInt64)) ∧ v = some (Value.int r.1) ∧ tt_agr (XL l D dA A pz b L xs) s lc lc' ∧ s' = (r.2, s.2))) (QX := (fun E lc' s' => ∃ e : Nat × tt_S3, (∃ c, (cd3 none (some 1) none) e.1 = some c ∧ ∀ lc'', tt_agr (XL l D dA A pz b L xs) s lc lc'' → Q (some (.int c)) lc'' (e.2, s.2)) ∧ E = tt_exn e.1 ∧ tt_agr (XL l D dA A pz b L xs) s lc lc' ∧ s' = (e.2, s.2))) (mT_holds l D dA (aLT A lc s) pz hl9 lc s.1 x1 x2 x3 (Q := (fun v lc' w => tt_agr (XT l D dA (aLT A lc s) pz) s.1 lc lc' ∧ (fun v lc' s' => ∃ r : Int32 × tt_S3, (∀ lc'', tt_agr (XL l D dA A pz b L xs) s lc lc'' → Q (some (.int 0)) lc'' (r.2, s.2.1, wrL s.2.2 0 0 0 r.1.toInt64)) ∧ v = some (Value.int r.1) ∧ tt_agr (XL l D dA A pz b L xs) s lc lc' ∧ s' = (r.2, s.2)) v lc' (w, s.2))) (QX := (fun E lc' w => tt_agr (XT l D dA (aLT A lc s) pz) s.1 lc lc' ∧ (fun E lc' s' => ∃ e : Nat × tt_S3, (∃ c, (cd3 none (some 1) none) e.1 = some c ∧ ∀ lc'', tt_agr (XL l D dA A pz b L xs) s lc lc'' → Q (some (.int c)) lc'' (e.2, s.2)) ∧ E = tt_exn e.1 ∧ tt_agr (XL l D dA A pz b L xs) s lc lc' ∧ s' = (e.2, s.2)) E lc' (w, s.2))) (h.mono (fun q hq lc' ha => by cases q with
    | inl r => exact ⟨ha, r, hq, rfl, agrL ha, rfl⟩
    | inr e => exact ⟨ha, e, hq, rfl, agrL ha, rfl⟩)))) (lw_V q1745 q1746 q1747 q127 q1748) (by decide +kernel) rfl ⟨Nat.le_of_ble_eq_true rfl, Nat.le_of_ble_eq_true rfl⟩ (Nat.le_of_ble_eq_true rfl) ⟨Nat.le_of_ble_eq_true rfl, Nat.le_of_ble_eq_true rfl⟩ (fun _ _ _ h => h) dX0_holds_7 rfl (fun E lc' s' q => ?_) (fun v lc' s' q => ?_)
  · obtain ⟨e, ⟨c, hcd, hk⟩, e1, e2, e3⟩ := q
    rw [e1, e3]
    unfold cd3 at hcd
    clear e1 e3 h
    by_cases h0 : e.1 = 0
    · rw [if_pos h0] at hcd
      cases hcd
    by_cases h1 : e.1 = 1
    · rw [if_neg h0, if_pos h1] at hcd
      cases hcd
      rw [h1]
      refine ⟨15, ct_holds_1, fun q => ?_⟩
      rw [← e2 0 0 (.inl lvL_0)]
      rw [← e2 400 0 (.inl lvL_400)]
      refine v_astore [(5, .ref q), (0, .ref (lc' 0 0)), (1, .int x1), (2, .int x2), (3, .int x3), (4, .ref (lc' 400 0))] dX0_holds_15 (Nat.le_of_ble_eq_true rfl) rfl ?_
      refine v_iconst dX0_holds_17 ic_1 ?_
      exact v_iret rfl (Nat.le_of_ble_eq_true rfl) (Nat.le_of_ble_eq_true rfl) dX0_holds_18 (hk _ e2)
    rw [if_neg h0, if_neg h1] at hcd
    cases hcd
  · obtain ⟨r, hk, e1, e2, e3⟩ := q
    rw [e1, e3]
    clear e1 e3 h
    rw [← e2 0 0 (.inl lvL_0)]
    rw [← e2 400 0 (.inl lvL_400)]
    refine v_i2l dX0_holds_10 rfl ?_
    refine sL_400 (by decide) dX0_holds_11 ?_
    refine v_goto (tgt := 19) dX0_holds_12 rfl ?_
    refine v_iconst dX0_holds_19 ic_0 ?_
    exact v_iret rfl (Nat.le_of_ble_eq_true rfl) (Nat.le_of_ble_eq_true rfl) dX0_holds_20 (hk _ e2)
