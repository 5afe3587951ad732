set_option maxRecDepth 100000
theorem kb_25 : (Int8.ofInt 25).toInt32 = 25 := by decide
theorem kb_72 : (Int8.ofInt 72).toInt32 = 72 := by decide
theorem ks_175 : (Int16.ofInt 175).toInt32 = 175 := by decide
theorem ks_250 : (Int16.ofInt 250).toInt32 = 250 := by decide
theorem ks_640 : (Int16.ofInt 640).toInt32 = 640 := by decide
theorem ks_1000 : (Int16.ofInt 1000).toInt32 = 1000 := by decide
theorem ks_4000 : (Int16.ofInt 4000).toInt32 = 4000 := by decide
theorem aC_1 {l : Launch} {D : va_G} {dA : Nat → ClassId} {A : Nat → Prop} {pz b L : Nat} {xs : Nat → Int32} {lc : Nat → Nat → Nat} {s : tt_St} {i : Nat} : tt_ent (XC l D dA A pz b L xs) lc s 1 i = .inl (dA 2, 40, .inr (.inr (.inr (.inr (gC lc s 1 i))))) := rfl
theorem oC_0 {l : Launch} {D : va_G} {dA : Nat → ClassId} {A : Nat → Prop} {pz b L : Nat} {xs : Nat → Int32} {lc : Nat → Nat → Nat} {s : tt_St} {i : Nat} : tt_ent (XC l D dA A pz b L xs) lc s 0 i = .inr (0, [va_rf (Option.map (lc 1) (rdR s 0 i 0)), va_rf (Option.map (lc 6) (rdR s 0 i 1)), va_rf (Option.map (lc 21) (rdR s 0 i 2)), va_rf (Option.map (lc 23) (rdR s 0 i 3)), va_rf (Option.map (lc 24) (rdR s 0 i 4)), va_rf (Option.map (lc 25) (rdR s 0 i 5)), va_rf (Option.map (lc 26) (rdR s 0 i 6)), va_rf (Option.map (lc 27) (rdR s 0 i 7)), va_rf (Option.map (lc 28) (rdR s 0 i 8)), va_rf (Option.map (lc 29) (rdR s 0 i 9)), va_rf (Option.map (lc 30) (rdR s 0 i 10)), va_rf (Option.map (lc 31) (rdR s 0 i 11)), va_rf (Option.map (lc 33) (rdR s 0 i 12)), va_rf (Option.map (lc 34) (rdR s 0 i 13)), va_rf (Option.map (lc 14) (rdR s 0 i 14)), va_rf (Option.map (lc 14) (rdR s 0 i 15)), va_rf (Option.map (lc 36) (rdR s 0 i 16)), .int (rdI s 0 i 17), .int (rdI s 0 i 18), .int (rdI s 0 i 19), .int (rdI s 0 i 20), .int (rdI s 0 i 21), .int (rdI s 0 i 22), .int (rdI s 0 i 23)]) := rfl
def dfv_0 : List Value := [.null, .null, .null, .null, .null, .null, .null, .null, .null, .null, .null, .null, .null, .null, .null, .null, .null, .int 0, .int 0, .int 0, .int 0, .int 0, .int 0, .int 0]
theorem dfs_0 : ∀ j, j < 24 → defaultValue (tyX2 j) = vp_V dfv_0 j := fun j hj => match j, hj with
  | 0, _ => rfl
  | 1, _ => rfl
  | 2, _ => rfl
  | 3, _ => rfl
  | 4, _ => rfl
  | 5, _ => rfl
  | 6, _ => rfl
  | 7, _ => rfl
  | 8, _ => rfl
  | 9, _ => rfl
  | 10, _ => rfl
  | 11, _ => rfl
  | 12, _ => rfl
  | 13, _ => rfl
  | 14, _ => rfl
  | 15, _ => rfl
  | 16, _ => rfl
  | 17, _ => rfl
  | 18, _ => rfl
  | 19, _ => rfl
  | 20, _ => rfl
  | 21, _ => rfl
  | 22, _ => rfl
  | 23, _ => rfl
  | j + 24, hj => absurd hj (by omega)
theorem pC_X2_11_0 {l : Launch} {D : va_G} {dA : Nat → ClassId} {A : Nat → Prop} {pz b L : Nat} {xs : Nat → Int32} {lc : Nat → Nat → Nat} {s : tt_St} {cc : ByteArray} {nl : Nat} {rt : Option FieldType} {rm : Room} {tn : tt_Tn} {Q : tt_Fin} {pc : Nat} {lv : List (Nat × Value)} {rest : List Value} {ck cn : Nat} {i : Nat} (hv : i < rdN s 0) (hnm : ∀ c m s0, tn c m s0 → s0.methodNamed? yX2_init = some m) {x : Nat} (d : decode cc pc = .ok (.putfield 11, 3)) (kk : tt_V (XC l D dA A pz b L xs) cc (RX2, nl, rt, rm, tn) Q (pc + 3) lv rest lc (wrR s 0 i 0 (some x)) ck cn) : tt_V (XC l D dA A pz b L xs) cc (RX2, nl, rt, rm, tn) Q pc lv (.ref (lc 1 x) :: .ref (lc 0 i) :: rest) lc s ck cn := v_putF (y := yX2_init) (s' := wrR s 0 i 0 (some x)) (p := 0) hnm rfl ⟨by decide, hv⟩ oC_0 (by rw [oC_0]; simp [rdI_wrI, rdI_wrR, rdR_wrR, rdR_wrI, rdL_wrR, rdL_wrI, rdL_wrL, rdI_wrL, rdR_wrL, va_rf]) (fun kd' i' h => EC_of (fun c => rfl) (fun c => rfl) (fun c => by rw [rdR_wrR, if_neg (fun q => h ⟨q.1, q.2.1⟩)])) (fun _ _ z => z) rfl in_X2 tyX2 tyX2_ok nmX2 (by decide) q726 (.inl rfl) rfl rfl rfl rfl (Nat.le_of_ble_eq_true rfl) d kk
theorem aC_6 {l : Launch} {D : va_G} {dA : Nat → ClassId} {A : Nat → Prop} {pz b L : Nat} {xs : Nat → Int32} {lc : Nat → Nat → Nat} {s : tt_St} {i : Nat} : tt_ent (XC l D dA A pz b L xs) lc s 6 i = .inl (dA 3, 24, .inr (.inr (.inr (.inr (gC lc s 6 i))))) := rfl
theorem pC_X2_19_0 {l : Launch} {D : va_G} {dA : Nat → ClassId} {A : Nat → Prop} {pz b L : Nat} {xs : Nat → Int32} {lc : Nat → Nat → Nat} {s : tt_St} {cc : ByteArray} {nl : Nat} {rt : Option FieldType} {rm : Room} {tn : tt_Tn} {Q : tt_Fin} {pc : Nat} {lv : List (Nat × Value)} {rest : List Value} {ck cn : Nat} {i : Nat} (hv : i < rdN s 0) (hnm : ∀ c m s0, tn c m s0 → s0.methodNamed? yX2_init = some m) {x : Nat} (d : decode cc pc = .ok (.putfield 19, 3)) (kk : tt_V (XC l D dA A pz b L xs) cc (RX2, nl, rt, rm, tn) Q (pc + 3) lv rest lc (wrR s 0 i 1 (some x)) ck cn) : tt_V (XC l D dA A pz b L xs) cc (RX2, nl, rt, rm, tn) Q pc lv (.ref (lc 6 x) :: .ref (lc 0 i) :: rest) lc s ck cn := v_putF (y := yX2_init) (s' := wrR s 0 i 1 (some x)) (p := 1) hnm rfl ⟨by decide, hv⟩ oC_0 (by rw [oC_0]; simp [rdI_wrI, rdI_wrR, rdR_wrR, rdR_wrI, rdL_wrR, rdL_wrI, rdL_wrL, rdI_wrL, rdR_wrL, va_rf]) (fun kd' i' h => EC_of (fun c => rfl) (fun c => rfl) (fun c => by rw [rdR_wrR, if_neg (fun q => h ⟨q.1, q.2.1⟩)])) (fun _ _ z => z) rfl in_X2 tyX2 tyX2_ok nmX2 (by decide) q728 (.inl rfl) rfl rfl rfl rfl (Nat.le_of_ble_eq_true rfl) d kk
theorem aC_21 {l : Launch} {D : va_G} {dA : Nat → ClassId} {A : Nat → Prop} {pz b L : Nat} {xs : Nat → Int32} {lc : Nat → Nat → Nat} {s : tt_St} {i : Nat} : tt_ent (XC l D dA A pz b L xs) lc s 21 i = .inl (dA 4, 12, .inr (.inr (.inr (.inr (gC lc s 21 i))))) := rfl
theorem pC_X2_25_0 {l : Launch} {D : va_G} {dA : Nat → ClassId} {A : Nat → Prop} {pz b L : Nat} {xs : Nat → Int32} {lc : Nat → Nat → Nat} {s : tt_St} {cc : ByteArray} {nl : Nat} {rt : Option FieldType} {rm : Room} {tn : tt_Tn} {Q : tt_Fin} {pc : Nat} {lv : List (Nat × Value)} {rest : List Value} {ck cn : Nat} {i : Nat} (hv : i < rdN s 0) (hnm : ∀ c m s0, tn c m s0 → s0.methodNamed? yX2_init = some m) {x : Nat} (d : decode cc pc = .ok (.putfield 25, 3)) (kk : tt_V (XC l D dA A pz b L xs) cc (RX2, nl, rt, rm, tn) Q (pc + 3) lv rest lc (wrR s 0 i 2 (some x)) ck cn) : tt_V (XC l D dA A pz b L xs) cc (RX2, nl, rt, rm, tn) Q pc lv (.ref (lc 21 x) :: .ref (lc 0 i) :: rest) lc s ck cn := v_putF (y := yX2_init) (s' := wrR s 0 i 2 (some x)) (p := 2) hnm rfl ⟨by decide, hv⟩ oC_0 (by rw [oC_0]; simp [rdI_wrI, rdI_wrR, rdR_wrR, rdR_wrI, rdL_wrR, rdL_wrI, rdL_wrL, rdI_wrL, rdR_wrL, va_rf]) (fun kd' i' h => EC_of (fun c => rfl) (fun c => rfl) (fun c => by rw [rdR_wrR, if_neg (fun q => h ⟨q.1, q.2.1⟩)])) (fun _ _ z => z) rfl in_X2 tyX2 tyX2_ok nmX2 (by decide) q730 (.inl rfl) rfl rfl rfl rfl (Nat.le_of_ble_eq_true rfl) d kk
theorem pC_X2_28_0 {l : Launch} {D : va_G} {dA : Nat → ClassId} {A : Nat → Prop} {pz b L : Nat} {xs : Nat → Int32} {lc : Nat → Nat → Nat} {s : tt_St} {cc : ByteArray} {nl : Nat} {rt : Option FieldType} {rm : Room} {tn : tt_Tn} {Q : tt_Fin} {pc : Nat} {lv : List (Nat × Value)} {rest : List Value} {ck cn : Nat} {i : Nat} (hv : i < rdN s 0) (hnm : ∀ c m s0, tn c m s0 → s0.methodNamed? yX2_init = some m) {x : Nat} (d : decode cc pc = .ok (.putfield 28, 3)) (kk : tt_V (XC l D dA A pz b L xs) cc (RX2, nl, rt, rm, tn) Q (pc + 3) lv rest lc (wrR s 0 i 3 (some x)) ck cn) : tt_V (XC l D dA A pz b L xs) cc (RX2, nl, rt, rm, tn) Q pc lv (.ref (lc 23 x) :: .ref (lc 0 i) :: rest) lc s ck cn := v_putF (y := yX2_init) (s' := wrR s 0 i 3 (some x)) (p := 3) hnm rfl ⟨by decide, hv⟩ oC_0 (by rw [oC_0]; simp [rdI_wrI, rdI_wrR, rdR_wrR, rdR_wrI, rdL_wrR, rdL_wrI, rdL_wrL, rdI_wrL, rdR_wrL, va_rf]) (fun kd' i' h => EC_of (fun c => rfl) (fun c => rfl) (fun c => by rw [rdR_wrR, if_neg (fun q => h ⟨q.1, q.2.1⟩)])) (fun _ _ z => z) rfl in_X2 tyX2 tyX2_ok nmX2 (by decide) q732 (.inl rfl) rfl rfl rfl rfl (Nat.le_of_ble_eq_true rfl) d kk
theorem pC_X2_32_0 {l : Launch} {D : va_G} {dA : Nat → ClassId} {A : Nat → Prop} {pz b L : Nat} {xs : Nat → Int32} {lc : Nat → Nat → Nat} {s : tt_St} {cc : ByteArray} {nl : Nat} {rt : Option FieldType} {rm : Room} {tn : tt_Tn} {Q : tt_Fin} {pc : Nat} {lv : List (Nat × Value)} {rest : List Value} {ck cn : Nat} {i : Nat} (hv : i < rdN s 0) (hnm : ∀ c m s0, tn c m s0 → s0.methodNamed? yX2_init = some m) {x : Nat} (d : decode cc pc = .ok (.putfield 32, 3)) (kk : tt_V (XC l D dA A pz b L xs) cc (RX2, nl, rt, rm, tn) Q (pc + 3) lv rest lc (wrR s 0 i 4 (some x)) ck cn) : tt_V (XC l D dA A pz b L xs) cc (RX2, nl, rt, rm, tn) Q pc lv (.ref (lc 24 x) :: .ref (lc 0 i) :: rest) lc s ck cn := v_putF (y := yX2_init) (s' := wrR s 0 i 4 (some x)) (p := 4) hnm rfl ⟨by decide, hv⟩ oC_0 (by rw [oC_0]; simp [rdI_wrI, rdI_wrR, rdR_wrR, rdR_wrI, rdL_wrR, rdL_wrI, rdL_wrL, rdI_wrL, rdR_wrL, va_rf]) (fun kd' i' h => EC_of (fun c => rfl) (fun c => rfl) (fun c => by rw [rdR_wrR, if_neg (fun q => h ⟨q.1, q.2.1⟩)])) (fun _ _ z => z) rfl in_X2 tyX2 tyX2_ok nmX2 (by decide) q734 (.inl rfl) rfl rfl rfl rfl (Nat.le_of_ble_eq_true rfl) d kk
theorem pC_X2_35_0 {l : Launch} {D : va_G} {dA : Nat → ClassId} {A : Nat → Prop} {pz b L : Nat} {xs : Nat → Int32} {lc : Nat → Nat → Nat} {s : tt_St} {cc : ByteArray} {nl : Nat} {rt : Option FieldType} {rm : Room} {tn : tt_Tn} {Q : tt_Fin} {pc : Nat} {lv : List (Nat × Value)} {rest : List Value} {ck cn : Nat} {i : Nat} (hv : i < rdN s 0) (hnm : ∀ c m s0, tn c m s0 → s0.methodNamed? yX2_init = some m) {x : Nat} (d : decode cc pc = .ok (.putfield 35, 3)) (kk : tt_V (XC l D dA A pz b L xs) cc (RX2, nl, rt, rm, tn) Q (pc + 3) lv rest lc (wrR s 0 i 5 (some x)) ck cn) : tt_V (XC l D dA A pz b L xs) cc (RX2, nl, rt, rm, tn) Q pc lv (.ref (lc 25 x) :: .ref (lc 0 i) :: rest) lc s ck cn := v_putF (y := yX2_init) (s' := wrR s 0 i 5 (some x)) (p := 5) hnm rfl ⟨by decide, hv⟩ oC_0 (by rw [oC_0]; simp [rdI_wrI, rdI_wrR, rdR_wrR, rdR_wrI, rdL_wrR, rdL_wrI, rdL_wrL, rdI_wrL, rdR_wrL, va_rf]) (fun kd' i' h => EC_of (fun c => rfl) (fun c => rfl) (fun c => by rw [rdR_wrR, if_neg (fun q => h ⟨q.1, q.2.1⟩)])) (fun _ _ z => z) rfl in_X2 tyX2 tyX2_ok nmX2 (by decide) q736 (.inl rfl) rfl rfl rfl rfl (Nat.le_of_ble_eq_true rfl) d kk
theorem pC_X2_39_0 {l : Launch} {D : va_G} {dA : Nat → ClassId} {A : Nat → Prop} {pz b L : Nat} {xs : Nat → Int32} {lc : Nat → Nat → Nat} {s : tt_St} {cc : ByteArray} {nl : Nat} {rt : Option FieldType} {rm : Room} {tn : tt_Tn} {Q : tt_Fin} {pc : Nat} {lv : List (Nat × Value)} {rest : List Value} {ck cn : Nat} {i : Nat} (hv : i < rdN s 0) (hnm : ∀ c m s0, tn c m s0 → s0.methodNamed? yX2_init = some m) {x : Nat} (d : decode cc pc = .ok (.putfield 39, 3)) (kk : tt_V (XC l D dA A pz b L xs) cc (RX2, nl, rt, rm, tn) Q (pc + 3) lv rest lc (wrR s 0 i 6 (some x)) ck cn) : tt_V (XC l D dA A pz b L xs) cc (RX2, nl, rt, rm, tn) Q pc lv (.ref (lc 26 x) :: .ref (lc 0 i) :: rest) lc s ck cn := v_putF (y := yX2_init) (s' := wrR s 0 i 6 (some x)) (p := 6) hnm rfl ⟨by decide, hv⟩ oC_0 (by rw [oC_0]; simp [rdI_wrI, rdI_wrR, rdR_wrR, rdR_wrI, rdL_wrR, rdL_wrI, rdL_wrL, rdI_wrL, rdR_wrL, va_rf]) (fun kd' i' h => EC_of (fun c => rfl) (fun c => rfl) (fun c => by rw [rdR_wrR, if_neg (fun q => h ⟨q.1, q.2.1⟩)])) (fun _ _ z => z) rfl in_X2 tyX2 tyX2_ok nmX2 (by decide) q738 (.inl rfl) rfl rfl rfl rfl (Nat.le_of_ble_eq_true rfl) d kk
theorem pC_X2_42_0 {l : Launch} {D : va_G} {dA : Nat → ClassId} {A : Nat → Prop} {pz b L : Nat} {xs : Nat → Int32} {lc : Nat → Nat → Nat} {s : tt_St} {cc : ByteArray} {nl : Nat} {rt : Option FieldType} {rm : Room} {tn : tt_Tn} {Q : tt_Fin} {pc : Nat} {lv : List (Nat × Value)} {rest : List Value} {ck cn : Nat} {i : Nat} (hv : i < rdN s 0) (hnm : ∀ c m s0, tn c m s0 → s0.methodNamed? yX2_init = some m) {x : Nat} (d : decode cc pc = .ok (.putfield 42, 3)) (kk : tt_V (XC l D dA A pz b L xs) cc (RX2, nl, rt, rm, tn) Q (pc + 3) lv rest lc (wrR s 0 i 7 (some x)) ck cn) : tt_V (XC l D dA A pz b L xs) cc (RX2, nl, rt, rm, tn) Q pc lv (.ref (lc 27 x) :: .ref (lc 0 i) :: rest) lc s ck cn := v_putF (y := yX2_init) (s' := wrR s 0 i 7 (some x)) (p := 7) hnm rfl ⟨by decide, hv⟩ oC_0 (by rw [oC_0]; simp [rdI_wrI, rdI_wrR, rdR_wrR, rdR_wrI, rdL_wrR, rdL_wrI, rdL_wrL, rdI_wrL, rdR_wrL, va_rf]) (fun kd' i' h => EC_of (fun c => rfl) (fun c => rfl) (fun c => by rw [rdR_wrR, if_neg (fun q => h ⟨q.1, q.2.1⟩)])) (fun _ _ z => z) rfl in_X2 tyX2 tyX2_ok nmX2 (by decide) q740 (.inl rfl) rfl rfl rfl rfl (Nat.le_of_ble_eq_true rfl) d kk
theorem pC_X2_45_0 {l : Launch} {D : va_G} {dA : Nat → ClassId} {A : Nat → Prop} {pz b L : Nat} {xs : Nat → Int32} {lc : Nat → Nat → Nat} {s : tt_St} {cc : ByteArray} {nl : Nat} {rt : Option FieldType} {rm : Room} {tn : tt_Tn} {Q : tt_Fin} {pc : Nat} {lv : List (Nat × Value)} {rest : List Value} {ck cn : Nat} {i : Nat} (hv : i < rdN s 0) (hnm : ∀ c m s0, tn c m s0 → s0.methodNamed? yX2_init = some m) {x : Nat} (d : decode cc pc = .ok (.putfield 45, 3)) (kk : tt_V (XC l D dA A pz b L xs) cc (RX2, nl, rt, rm, tn) Q (pc + 3) lv rest lc (wrR s 0 i 8 (some x)) ck cn) : tt_V (XC l D dA A pz b L xs) cc (RX2, nl, rt, rm, tn) Q pc lv (.ref (lc 28 x) :: .ref (lc 0 i) :: rest) lc s ck cn := v_putF (y := yX2_init) (s' := wrR s 0 i 8 (some x)) (p := 8) hnm rfl ⟨by decide, hv⟩ oC_0 (by rw [oC_0]; simp [rdI_wrI, rdI_wrR, rdR_wrR, rdR_wrI, rdL_wrR, rdL_wrI, rdL_wrL, rdI_wrL, rdR_wrL, va_rf]) (fun kd' i' h => EC_of (fun c => rfl) (fun c => rfl) (fun c => by rw [rdR_wrR, if_neg (fun q => h ⟨q.1, q.2.1⟩)])) (fun _ _ z => z) rfl in_X2 tyX2 tyX2_ok nmX2 (by decide) q742 (.inl rfl) rfl rfl rfl rfl (Nat.le_of_ble_eq_true rfl) d kk
theorem pC_X2_48_0 {l : Launch} {D : va_G} {dA : Nat → ClassId} {A : Nat → Prop} {pz b L : Nat} {xs : Nat → Int32} {lc : Nat → Nat → Nat} {s : tt_St} {cc : ByteArray} {nl : Nat} {rt : Option FieldType} {rm : Room} {tn : tt_Tn} {Q : tt_Fin} {pc : Nat} {lv : List (Nat × Value)} {rest : List Value} {ck cn : Nat} {i : Nat} (hv : i < rdN s 0) (hnm : ∀ c m s0, tn c m s0 → s0.methodNamed? yX2_init = some m) {x : Nat} (d : decode cc pc = .ok (.putfield 48, 3)) (kk : tt_V (XC l D dA A pz b L xs) cc (RX2, nl, rt, rm, tn) Q (pc + 3) lv rest lc (wrR s 0 i 9 (some x)) ck cn) : tt_V (XC l D dA A pz b L xs) cc (RX2, nl, rt, rm, tn) Q pc lv (.ref (lc 29 x) :: .ref (lc 0 i) :: rest) lc s ck cn := v_putF (y := yX2_init) (s' := wrR s 0 i 9 (some x)) (p := 9) hnm rfl ⟨by decide, hv⟩ oC_0 (by rw [oC_0]; simp [rdI_wrI, rdI_wrR, rdR_wrR, rdR_wrI, rdL_wrR, rdL_wrI, rdL_wrL, rdI_wrL, rdR_wrL, va_rf]) (fun kd' i' h => EC_of (fun c => rfl) (fun c => rfl) (fun c => by rw [rdR_wrR, if_neg (fun q => h ⟨q.1, q.2.1⟩)])) (fun _ _ z => z) rfl in_X2 tyX2 tyX2_ok nmX2 (by decide) q743 (.inl rfl) rfl rfl rfl rfl (Nat.le_of_ble_eq_true rfl) d kk
theorem pC_X2_51_0 {l : Launch} {D : va_G} {dA : Nat → ClassId} {A : Nat → Prop} {pz b L : Nat} {xs : Nat → Int32} {lc : Nat → Nat → Nat} {s : tt_St} {cc : ByteArray} {nl : Nat} {rt : Option FieldType} {rm : Room} {tn : tt_Tn} {Q : tt_Fin} {pc : Nat} {lv : List (Nat × Value)} {rest : List Value} {ck cn : Nat} {i : Nat} (hv : i < rdN s 0) (hnm : ∀ c m s0, tn c m s0 → s0.methodNamed? yX2_init = some m) {x : Nat} (d : decode cc pc = .ok (.putfield 51, 3)) (kk : tt_V (XC l D dA A pz b L xs) cc (RX2, nl, rt, rm, tn) Q (pc + 3) lv rest lc (wrR s 0 i 10 (some x)) ck cn) : tt_V (XC l D dA A pz b L xs) cc (RX2, nl, rt, rm, tn) Q pc lv (.ref (lc 30 x) :: .ref (lc 0 i) :: rest) lc s ck cn := v_putF (y := yX2_init) (s' := wrR s 0 i 10 (some x)) (p := 10) hnm rfl ⟨by decide, hv⟩ oC_0 (by rw [oC_0]; simp [rdI_wrI, rdI_wrR, rdR_wrR, rdR_wrI, rdL_wrR, rdL_wrI, rdL_wrL, rdI_wrL, rdR_wrL, va_rf]) (fun kd' i' h => EC_of (fun c => rfl) (fun c => rfl) (fun c => by rw [rdR_wrR, if_neg (fun q => h ⟨q.1, q.2.1⟩)])) (fun _ _ z => z) rfl in_X2 tyX2 tyX2_ok nmX2 (by decide) q744 (.inl rfl) rfl rfl rfl rfl (Nat.le_of_ble_eq_true rfl) d kk
theorem aC_31 {l : Launch} {D : va_G} {dA : Nat → ClassId} {A : Nat → Prop} {pz b L : Nat} {xs : Nat → Int32} {lc : Nat → Nat → Nat} {s : tt_St} {i : Nat} : tt_ent (XC l D dA A pz b L xs) lc s 31 i = .inl (dA 5, 12, .inr (.inr (.inr (.inr (gC lc s 31 i))))) := rfl
theorem pC_X2_56_0 {l : Launch} {D : va_G} {dA : Nat → ClassId} {A : Nat → Prop} {pz b L : Nat} {xs : Nat → Int32} {lc : Nat → Nat → Nat} {s : tt_St} {cc : ByteArray} {nl : Nat} {rt : Option FieldType} {rm : Room} {tn : tt_Tn} {Q : tt_Fin} {pc : Nat} {lv : List (Nat × Value)} {rest : List Value} {ck cn : Nat} {i : Nat} (hv : i < rdN s 0) (hnm : ∀ c m s0, tn c m s0 → s0.methodNamed? yX2_init = some m) {x : Nat} (d : decode cc pc = .ok (.putfield 56, 3)) (kk : tt_V (XC l D dA A pz b L xs) cc (RX2, nl, rt, rm, tn) Q (pc + 3) lv rest lc (wrR s 0 i 11 (some x)) ck cn) : tt_V (XC l D dA A pz b L xs) cc (RX2, nl, rt, rm, tn) Q pc lv (.ref (lc 31 x) :: .ref (lc 0 i) :: rest) lc s ck cn := v_putF (y := yX2_init) (s' := wrR s 0 i 11 (some x)) (p := 11) hnm rfl ⟨by decide, hv⟩ oC_0 (by rw [oC_0]; simp [rdI_wrI, rdI_wrR, rdR_wrR, rdR_wrI, rdL_wrR, rdL_wrI, rdL_wrL, rdI_wrL, rdR_wrL, va_rf]) (fun kd' i' h => EC_of (fun c => rfl) (fun c => rfl) (fun c => by rw [rdR_wrR, if_neg (fun q => h ⟨q.1, q.2.1⟩)])) (fun _ _ z => z) rfl in_X2 tyX2 tyX2_ok nmX2 (by decide) q745 (.inl rfl) rfl rfl rfl rfl (Nat.le_of_ble_eq_true rfl) d kk
theorem oC_33 {l : Launch} {D : va_G} {dA : Nat → ClassId} {A : Nat → Prop} {pz b L : Nat} {xs : Nat → Int32} {lc : Nat → Nat → Nat} {s : tt_St} {i : Nat} : tt_ent (XC l D dA A pz b L xs) lc s 33 i = .inr (5, [.int (rdI s 33 i 0)]) := rfl
def dfv_33 : List Value := [.int 0]
theorem dfs_33 : ∀ j, j < 1 → defaultValue (tyX3 j) = vp_V dfv_33 j := fun j hj => match j, hj with
  | 0, _ => rfl
  | j + 1, hj => absurd hj (by omega)
def fC_X3_init (s : tt_St) (x0 : Nat) : Option tt_St :=
  some s
abbrev rmC_X3_init : Room := { frames := 1, cells := 0, slots := 0, locals := 20 }
set_option maxHeartbeats 8000000 in
theorem mC_X3_init (l : Launch) (D : va_G) (dA : Nat → ClassId) (A : Nat → Prop) (pz b L : Nat) (xs : Nat → Int32) (lc : Nat → Nat → Nat) (s : tt_St) (x0 : Nat) (hx0 : x0 < rdN s 33) {Q : Option Value → (Nat → Nat → Nat) → tt_St → Prop} (h : Ok (fC_X3_init s x0) (fun r => ∀ lc', tt_agc (XC l D dA A pz b L xs) s lc lc' → Q none lc' r)) : tt_Sp (XC l D dA A pz b L xs) yX3_init cX3_init 1 none rmC_X3_init [.ref (lc 33 x0)] lc s Q := by
  refine tt_Sp.ofVn plX3 kokC (Nat.le_of_ble_eq_true rfl) ?_
  show tt_V (XC l D dA A pz b L xs) cX3_init (RX3, 1, none, rmC_X3_init, tt_nw yX3_init) (tt_fn (XC l D dA A pz b L xs) (RX3, 1, none, rmC_X3_init, tt_nw yX3_init) Q) 0 [(0, .ref (lc 33 x0))] [] lc s 0 0
  unfold fC_X3_init at h
  refine v_aload_n 0 dX3_init_0 rfl ?_
  refine v_objInit q187 q166 q167 (Nat.le_of_ble_eq_true rfl) (Nat.le_of_ble_eq_true rfl) (Nat.le_of_ble_eq_true rfl) dX3_init_1 ?_
  have h := Ok.ret h
  exact v_vret rfl (Nat.le_of_ble_eq_true rfl) (Nat.le_of_ble_eq_true rfl) dX3_init_4 (h lc agc_rf)
theorem cC_X2_62_33 {l : Launch} {D : va_G} {dA : Nat → ClassId} {A : Nat → Prop} {pz b L : Nat} {xs : Nat → Int32} {lc : Nat → Nat → Nat} {s : tt_St} {cc : ByteArray} {nl : Nat} {rt : Option FieldType} {rm : Room} {tn : tt_Tn} {Q : tt_Fin} {pc : Nat} {lv : List (Nat × Value)} {rest : List Value} {ck cn : Nat} {x0 : Nat} (hx0 : x0 < rdN s 33) {K : tt_St → Prop} (h : Ok (fC_X3_init s x0) K) (hR : 1 + 1 ≤ rm.frames ∧ 8 + (1 + 11) + 20 ≤ rm.locals) (hW : (rest.map fun v => v.category).sum ≤ 8) (d : decode cc pc = .ok (.invokespecial 62, 3)) (kk : ∀ r, K r → ∀ lc', tt_agc (XC l D dA A pz b L xs) s lc lc' → tt_V (XC l D dA A pz b L xs) cc (RX2, nl, rt, rm, tn) Q (pc + 3) lv rest lc' r (ck + 0) (cn + 0)) (hf : ck + 0 ≤ rm.cells ∧ cn + 0 ≤ rm.slots) : tt_V (XC l D dA A pz b L xs) cc (RX2, nl, rt, rm, tn) Q pc lv (.ref (lc 33 x0) :: rest) lc s ck cn :=
  v_callIN (nA := 0) (As := []) knC (mC_X3_init l D dA A pz b L xs lc s x0 hx0 (Q := (fun v lc' s' => ∃ r, K r ∧ v = none ∧ tt_agc (XC l D dA A pz b L xs) s lc lc' ∧ s' = r)) (h.mono (fun r hr lc' ha => ⟨r, hr, rfl, ha, rfl⟩))) (lw_meth q186) q184 q129 q185 rfl (by decide +kernel) rfl hR hW hf d rfl (fun v lc' s' q => by obtain ⟨r, hr, e1, e2, e3⟩ := q; rw [e1, e3]; exact kk r hr lc' e2)
theorem pC_X2_63_0 {l : Launch} {D : va_G} {dA : Nat → ClassId} {A : Nat → Prop} {pz b L : Nat} {xs : Nat → Int32} {lc : Nat → Nat → Nat} {s : tt_St} {cc : ByteArray} {nl : Nat} {rt : Option FieldType} {rm : Room} {tn : tt_Tn} {Q : tt_Fin} {pc : Nat} {lv : List (Nat × Value)} {rest : List Value} {ck cn : Nat} {i : Nat} (hv : i < rdN s 0) (hnm : ∀ c m s0, tn c m s0 → s0.methodNamed? yX2_init = some m) {x : Nat} (d : decode cc pc = .ok (.putfield 63, 3)) (kk : tt_V (XC l D dA A pz b L xs) cc (RX2, nl, rt, rm, tn) Q (pc + 3) lv rest lc (wrR s 0 i 12 (some x)) ck cn) : tt_V (XC l D dA A pz b L xs) cc (RX2, nl, rt, rm, tn) Q pc lv (.ref (lc 33 x) :: .ref (lc 0 i) :: rest) lc s ck cn := v_putF (y := yX2_init) (s' := wrR s 0 i 12 (some x)) (p := 12) hnm rfl ⟨by decide, hv⟩ oC_0 (by rw [oC_0]; simp [rdI_wrI, rdI_wrR, rdR_wrR, rdR_wrI, rdL_wrR, rdL_wrI, rdL_wrL, rdI_wrL, rdR_wrL, va_rf]) (fun kd' i' h => EC_of (fun c => rfl) (fun c => rfl) (fun c => by rw [rdR_wrR, if_neg (fun q => h ⟨q.1, q.2.1⟩)])) (fun _ _ z => z) rfl in_X2 tyX2 tyX2_ok nmX2 (by decide) q746 (.inl rfl) rfl rfl rfl rfl (Nat.le_of_ble_eq_true rfl) d kk
theorem oC_34 {l : Launch} {D : va_G} {dA : Nat → ClassId} {A : Nat → Prop} {pz b L : Nat} {xs : Nat → Int32} {lc : Nat → Nat → Nat} {s : tt_St} {i : Nat} : tt_ent (XC l D dA A pz b L xs) lc s 34 i = .inr (6, [va_rf (Option.map (lc 35) (rdR s 34 i 0)), .int (rdI s 34 i 1), va_rf (Option.map (lc 33) (rdR s 34 i 2)), .int (rdI s 34 i 3)]) := rfl
def dfv_34 : List Value := [.null, .int 0, .null, .int 0]
theorem dfs_34 : ∀ j, j < 4 → defaultValue (tyJ2 j) = vp_V dfv_34 j := fun j hj => match j, hj with
  | 0, _ => rfl
  | 1, _ => rfl
  | 2, _ => rfl
  | 3, _ => rfl
  | j + 4, hj => absurd hj (by omega)
theorem gC_X2_63_0 {l : Launch} {D : va_G} {dA : Nat → ClassId} {A : Nat → Prop} {pz b L : Nat} {xs : Nat → Int32} {lc : Nat → Nat → Nat} {s : tt_St} {cc : ByteArray} {nl : Nat} {rt : Option FieldType} {rm : Room} {tn : tt_Tn} {Q : tt_Fin} {pc : Nat} {lv : List (Nat × Value)} {rest : List Value} {ck cn : Nat} {i : Nat} (hv : i < rdN s 0) (d : decode cc pc = .ok (.getfield 63, 3)) (kk : tt_V (XC l D dA A pz b L xs) cc (RX2, nl, rt, rm, tn) Q (pc + 3) lv (va_rf (Option.map (lc 33) (rdR s 0 i 12)) :: rest) lc s ck cn) : tt_V (XC l D dA A pz b L xs) cc (RX2, nl, rt, rm, tn) Q pc lv (.ref (lc 0 i) :: rest) lc s ck cn := v_get (p := 12) ⟨by decide, hv⟩ oC_0 rfl in_X2 (by decide) q746 (.inl rfl) rfl d kk
def fC_J0_init_34 (s : tt_St) (x0 : Nat) : Option tt_St :=
  some s
abbrev rmC_J0_init_34 : Room := { frames := 1, cells := 0, slots := 0, locals := 20 }
set_option maxHeartbeats 8000000 in
theorem mC_J0_init_34 (l : Launch) (D : va_G) (dA : Nat → ClassId) (A : Nat → Prop) (pz b L : Nat) (xs : Nat → Int32) (lc : Nat → Nat → Nat) (s : tt_St) (x0 : Nat) (hx0 : x0 < rdN s 34) {Q : Option Value → (Nat → Nat → Nat) → tt_St → Prop} (h : Ok (fC_J0_init_34 s x0) (fun r => ∀ lc', tt_agc (XC l D dA A pz b L xs) s lc lc' → Q none lc' r)) : tt_Sp (XC l D dA A pz b L xs) yJ0_init cJ0_init 1 none rmC_J0_init_34 [.ref (lc 34 x0)] lc s Q := by
  refine tt_Sp.ofVn plJ0 kokC (Nat.le_of_ble_eq_true rfl) ?_
  show tt_V (XC l D dA A pz b L xs) cJ0_init (RJ0, 1, none, rmC_J0_init_34, tt_nw yJ0_init) (tt_fn (XC l D dA A pz b L xs) (RJ0, 1, none, rmC_J0_init_34, tt_nw yJ0_init) Q) 0 [(0, .ref (lc 34 x0))] [] lc s 0 0
  unfold fC_J0_init_34 at h
  refine v_aload_n 0 dJ0_init_0 rfl ?_
  refine v_objInit q206 q166 q167 (Nat.le_of_ble_eq_true rfl) (Nat.le_of_ble_eq_true rfl) (Nat.le_of_ble_eq_true rfl) dJ0_init_1 ?_
  have h := Ok.ret h
  exact v_vret rfl (Nat.le_of_ble_eq_true rfl) (Nat.le_of_ble_eq_true rfl) dJ0_init_4 (h lc agc_rf)
theorem cC_J1_1_34 {l : Launch} {D : va_G} {dA : Nat → ClassId} {A : Nat → Prop} {pz b L : Nat} {xs : Nat → Int32} {lc : Nat → Nat → Nat} {s : tt_St} {cc : ByteArray} {nl : Nat} {rt : Option FieldType} {rm : Room} {tn : tt_Tn} {Q : tt_Fin} {pc : Nat} {lv : List (Nat × Value)} {rest : List Value} {ck cn : Nat} {x0 : Nat} (hx0 : x0 < rdN s 34) {K : tt_St → Prop} (h : Ok (fC_J0_init_34 s x0) K) (hR : 1 + 1 ≤ rm.frames ∧ 8 + (1 + 11) + 20 ≤ rm.locals) (hW : (rest.map fun v => v.category).sum ≤ 8) (d : decode cc pc = .ok (.invokespecial 1, 3)) (kk : ∀ r, K r → ∀ lc', tt_agc (XC l D dA A pz b L xs) s lc lc' → tt_V (XC l D dA A pz b L xs) cc (RJ1, nl, rt, rm, tn) Q (pc + 3) lv rest lc' r (ck + 0) (cn + 0)) (hf : ck + 0 ≤ rm.cells ∧ cn + 0 ≤ rm.slots) : tt_V (XC l D dA A pz b L xs) cc (RJ1, nl, rt, rm, tn) Q pc lv (.ref (lc 34 x0) :: rest) lc s ck cn :=
  v_callI (nA := 0) (As := []) (mC_J0_init_34 l D dA A pz b L xs lc s x0 hx0 (Q := (fun v lc' s' => ∃ r, K r ∧ v = none ∧ tt_agc (XC l D dA A pz b L xs) s lc lc' ∧ s' = r)) (h.mono (fun r hr lc' ha => ⟨r, hr, rfl, ha, rfl⟩))) (lw_meth q205) q130 q203 q204 rfl (by decide +kernel) rfl hR hW hf d rfl (fun v lc' s' q => by obtain ⟨r, hr, e1, e2, e3⟩ := q; rw [e1, e3]; exact kk r hr lc' e2)
theorem plJ1 : plainName RJ1 = true := by decide
def fC_J1_init_34 (s : tt_St) (x0 : Nat) : Option tt_St :=
  (fC_J0_init_34 s x0).bind fun r1 => some r1
abbrev rmC_J1_init_34 : Room := { frames := 2, cells := 0, slots := 0, locals := 40 }
set_option maxHeartbeats 8000000 in
theorem mC_J1_init_34 (l : Launch) (D : va_G) (dA : Nat → ClassId) (A : Nat → Prop) (pz b L : Nat) (xs : Nat → Int32) (lc : Nat → Nat → Nat) (s : tt_St) (x0 : Nat) (hx0 : x0 < rdN s 34) {Q : Option Value → (Nat → Nat → Nat) → tt_St → Prop} (h : Ok (fC_J1_init_34 s x0) (fun r => ∀ lc', tt_agc (XC l D dA A pz b L xs) s lc lc' → Q none lc' r)) : tt_Sp (XC l D dA A pz b L xs) yJ1_init cJ1_init 1 none rmC_J1_init_34 [.ref (lc 34 x0)] lc s Q := by
  refine tt_Sp.ofVn plJ1 kokC (Nat.le_of_ble_eq_true rfl) ?_
  show tt_V (XC l D dA A pz b L xs) cJ1_init (RJ1, 1, none, rmC_J1_init_34, tt_nw yJ1_init) (tt_fn (XC l D dA A pz b L xs) (RJ1, 1, none, rmC_J1_init_34, tt_nw yJ1_init) Q) 0 [(0, .ref (lc 34 x0))] [] lc s 0 0
  unfold fC_J1_init_34 at h
  refine v_aload_n 0 dJ1_init_0 rfl ?_
  refine cC_J1_1_34 hx0 (Ok.bind h) ⟨Nat.le_of_ble_eq_true rfl, Nat.le_of_ble_eq_true rfl⟩ (Nat.le_of_ble_eq_true rfl) dJ1_init_1 (fun r1 h lc hc => ?_) ⟨Nat.le_of_ble_eq_true rfl, Nat.le_of_ble_eq_true rfl⟩
  rw [← hc 34 x0 ⟨by decide, hx0⟩]
  have h := Ok.agc h hc (fun _ _ h => h)
  have h := Ok.ret h
  exact v_vret rfl (Nat.le_of_ble_eq_true rfl) (Nat.le_of_ble_eq_true rfl) dJ1_init_4 (h lc agc_rf)
theorem cC_J2_7_34 {l : Launch} {D : va_G} {dA : Nat → ClassId} {A : Nat → Prop} {pz b L : Nat} {xs : Nat → Int32} {lc : Nat → Nat → Nat} {s : tt_St} {cc : ByteArray} {nl : Nat} {rt : Option FieldType} {rm : Room} {tn : tt_Tn} {Q : tt_Fin} {pc : Nat} {lv : List (Nat × Value)} {rest : List Value} {ck cn : Nat} {x0 : Nat} (hx0 : x0 < rdN s 34) {K : tt_St → Prop} (h : Ok (fC_J1_init_34 s x0) K) (hR : 2 + 1 ≤ rm.frames ∧ 8 + (1 + 11) + 40 ≤ rm.locals) (hW : (rest.map fun v => v.category).sum ≤ 8) (d : decode cc pc = .ok (.invokespecial 7, 3)) (kk : ∀ r, K r → ∀ lc', tt_agc (XC l D dA A pz b L xs) s lc lc' → tt_V (XC l D dA A pz b L xs) cc (RJ2, nl, rt, rm, tn) Q (pc + 3) lv rest lc' r (ck + 0) (cn + 0)) (hf : ck + 0 ≤ rm.cells ∧ cn + 0 ≤ rm.slots) : tt_V (XC l D dA A pz b L xs) cc (RJ2, nl, rt, rm, tn) Q pc lv (.ref (lc 34 x0) :: rest) lc s ck cn :=
  v_callI (nA := 0) (As := []) (mC_J1_init_34 l D dA A pz b L xs lc s x0 hx0 (Q := (fun v lc' s' => ∃ r, K r ∧ v = none ∧ tt_agc (XC l D dA A pz b L xs) s lc lc' ∧ s' = r)) (h.mono (fun r hr lc' ha => ⟨r, hr, rfl, ha, rfl⟩))) (lw_meth q202) q131 q200 q201 rfl (by decide +kernel) rfl hR hW hf d rfl (fun v lc' s' q => by obtain ⟨r, hr, e1, e2, e3⟩ := q; rw [e1, e3]; exact kk r hr lc' e2)
theorem aC_35 {l : Launch} {D : va_G} {dA : Nat → ClassId} {A : Nat → Prop} {pz b L : Nat} {xs : Nat → Int32} {lc : Nat → Nat → Nat} {s : tt_St} {i : Nat} : tt_ent (XC l D dA A pz b L xs) lc s 35 i = .inl (dA 6, 12, .inr (.inr (.inr (.inr (gC lc s 35 i))))) := rfl
theorem pC_J2_17_34 {l : Launch} {D : va_G} {dA : Nat → ClassId} {A : Nat → Prop} {pz b L : Nat} {xs : Nat → Int32} {lc : Nat → Nat → Nat} {s : tt_St} {cc : ByteArray} {nl : Nat} {rt : Option FieldType} {rm : Room} {tn : tt_Tn} {Q : tt_Fin} {pc : Nat} {lv : List (Nat × Value)} {rest : List Value} {ck cn : Nat} {i : Nat} (hv : i < rdN s 34) {x : Nat} (d : decode cc pc = .ok (.putfield 17, 3)) (kk : tt_V (XC l D dA A pz b L xs) cc (RJ2, nl, rt, rm, tn) Q (pc + 3) lv rest lc (wrR s 34 i 0 (some x)) ck cn) : tt_V (XC l D dA A pz b L xs) cc (RJ2, nl, rt, rm, tn) Q pc lv (.ref (lc 35 x) :: .ref (lc 34 i) :: rest) lc s ck cn := v_put (s' := wrR s 34 i 0 (some x)) (p := 0) ⟨by decide, hv⟩ oC_34 (by rw [oC_34]; simp [rdI_wrI, rdI_wrR, rdR_wrR, rdR_wrI, rdL_wrR, rdL_wrI, rdL_wrL, rdI_wrL, rdR_wrL, va_rf]) (fun kd' i' h => EC_of (fun c => rfl) (fun c => rfl) (fun c => by rw [rdR_wrR, if_neg (fun q => h ⟨q.1, q.2.1⟩)])) (fun _ _ z => z) rfl in_J2 tyJ2 tyJ2_ok nmJ2 (by decide) q272 (.inl rfl) rfl rfl rfl (Nat.le_of_ble_eq_true rfl) d kk
theorem pC_J2_21_34 {l : Launch} {D : va_G} {dA : Nat → ClassId} {A : Nat → Prop} {pz b L : Nat} {xs : Nat → Int32} {lc : Nat → Nat → Nat} {s : tt_St} {cc : ByteArray} {nl : Nat} {rt : Option FieldType} {rm : Room} {tn : tt_Tn} {Q : tt_Fin} {pc : Nat} {lv : List (Nat × Value)} {rest : List Value} {ck cn : Nat} {i : Nat} (hv : i < rdN s 34) (hnm : ∀ c m s0, tn c m s0 → s0.methodNamed? yJ2_init = some m) {x : Nat} (d : decode cc pc = .ok (.putfield 21, 3)) (kk : tt_V (XC l D dA A pz b L xs) cc (RJ2, nl, rt, rm, tn) Q (pc + 3) lv rest lc (wrR s 34 i 2 (some x)) ck cn) : tt_V (XC l D dA A pz b L xs) cc (RJ2, nl, rt, rm, tn) Q pc lv (.ref (lc 33 x) :: .ref (lc 34 i) :: rest) lc s ck cn := v_putF (y := yJ2_init) (s' := wrR s 34 i 2 (some x)) (p := 2) hnm rfl ⟨by decide, hv⟩ oC_34 (by rw [oC_34]; simp [rdI_wrI, rdI_wrR, rdR_wrR, rdR_wrI, rdL_wrR, rdL_wrI, rdL_wrL, rdI_wrL, rdR_wrL, va_rf]) (fun kd' i' h => EC_of (fun c => rfl) (fun c => rfl) (fun c => by rw [rdR_wrR, if_neg (fun q => h ⟨q.1, q.2.1⟩)])) (fun _ _ z => z) rfl in_J2 tyJ2 tyJ2_ok nmJ2 (by decide) q274 (.inl rfl) rfl rfl rfl rfl (Nat.le_of_ble_eq_true rfl) d kk
def fC_J2_init (s : tt_St) (x0 : Nat) (x1 : Int32) (x2 : Nat) : Option tt_St :=
  (fC_J1_init_34 s x0).bind fun r1 => if (1 : Int32) ≤ x1 then if x0 < rdN r1 34 then if x2 < rdN r1 33 then if okC r1 then if cnLe s r1 then if x1 = 12 then nm (newA r1 35) fun s8 => if (rdN r1 35) < rdN s8 35 then if x0 < rdN s8 34 then nm (wrR s8 34 x0 0 (some (rdN r1 35))) fun s11 => if x2 < rdN s11 33 then if x0 < rdN s11 34 then nm (wrR s11 34 x0 2 (some x2)) fun s14 => some s14 else none else none else none else none else none else none else none else none else none else none
abbrev rmC_J2_init : Room := { frames := 3, cells := 1, slots := 12, locals := 60 }
set_option maxHeartbeats 8000000 in
theorem mC_J2_init (l : Launch) (D : va_G) (dA : Nat → ClassId) (A : Nat → Prop) (pz b L : Nat) (xs : Nat → Int32) (lc : Nat → Nat → Nat) (s : tt_St) (x0 : Nat) (x1 : Int32) (x2 : Nat) (hx0 : x0 < rdN s 34) (hx2 : x2 < rdN s 33) {Q : Option Value → (Nat → Nat → Nat) → tt_St → Prop} (h : Ok (fC_J2_init s x0 x1 x2) (fun r => ∀ lc', tt_agc (XC l D dA A pz b L xs) s lc lc' → Q none lc' r)) : tt_Sp (XC l D dA A pz b L xs) yJ2_init cJ2_init 3 none rmC_J2_init [.ref (lc 34 x0), .int x1, .ref (lc 33 x2)] lc s Q := by
  refine tt_Sp.ofVn plJ2 kokC (Nat.le_of_ble_eq_true rfl) ?_
  show tt_V (XC l D dA A pz b L xs) cJ2_init (RJ2, 3, none, rmC_J2_init, tt_nw yJ2_init) (tt_fn (XC l D dA A pz b L xs) (RJ2, 3, none, rmC_J2_init, tt_nw yJ2_init) Q) 0 [(0, .ref (lc 34 x0)), (1, .int x1), (2, .ref (lc 33 x2))] [] lc s 0 0
  unfold fC_J2_init at h
  refine v_aload_n 0 dJ2_init_0 rfl ?_
  refine cC_J2_7_34 hx0 (Ok.bind h) ⟨Nat.le_of_ble_eq_true rfl, Nat.le_of_ble_eq_true rfl⟩ (Nat.le_of_ble_eq_true rfl) dJ2_init_1 (fun r1 h lc hc => ?_) ⟨Nat.le_of_ble_eq_true rfl, Nat.le_of_ble_eq_true rfl⟩
  rw [← hc 34 x0 ⟨by decide, hx0⟩]
  rw [← hc 33 x2 ⟨by decide, hx2⟩]
  have h := Ok.agc h hc (fun _ _ h => h)
  refine v_iload_n 1 dJ2_init_4 rfl ?_
  refine v_iconst dJ2_init_5 ic_1 ?_
  refine v_icmp_ge (tgt := 17) dJ2_init_6 rfl (fun c2 => ?_) (fun c2 => ?_)
  · have h := Ok.pos h c2
    refine v_aload_n 0 dJ2_init_17 rfl ?_
    refine v_iload_n 1 dJ2_init_18 rfl ?_
    obtain ⟨g3, h⟩ := Ok.guard h
    obtain ⟨g4, h⟩ := Ok.guard h
    obtain ⟨g5, h⟩ := Ok.guard h
    obtain ⟨g6, h⟩ := Ok.guard h
    obtain ⟨g7, h⟩ := Ok.guard h
    refine nC_q (kd := 35) (t := 6) (N := 12) g5 (by decide) q270 (fun U hU => hU.2.1 _ (by simp)) rfl rfl (by rw [g7]; decide) (by rw [g7]; decide) (by decide) ⟨Nat.le_of_ble_eq_true rfl, Nat.le_of_ble_eq_true rfl⟩ dJ2_init_19 (fun lc hc => ?_)
    rw [← hc 34 x0 ⟨by decide, g3⟩]
    rw [← hc 33 x2 ⟨by decide, g4⟩]
    have h := Ok.agc h hc (cnLe_mono g6)
    refine v_nmS (fun s8 e_s8 => ?_)
    have h := Ok.nm h e_s8
    obtain ⟨g9, h⟩ := Ok.guard h
    obtain ⟨g10, h⟩ := Ok.guard h
    refine pC_J2_17_34 g10 dJ2_init_22 ?_
    refine v_nmS (fun s11 e_s11 => ?_)
    have h := Ok.nm h e_s11
    refine v_aload_n 0 dJ2_init_25 rfl ?_
    refine v_aload_n 2 dJ2_init_26 rfl ?_
    obtain ⟨g12, h⟩ := Ok.guard h
    obtain ⟨g13, h⟩ := Ok.guard h
    refine pC_J2_21_34 g13 (fun _ _ _ h => h) dJ2_init_27 ?_
    refine v_nmS (fun s14 e_s14 => ?_)
    have h := Ok.nm h e_s14
    have h := Ok.ret h
    exact v_vret rfl (Nat.le_of_ble_eq_true rfl) (Nat.le_of_ble_eq_true rfl) dJ2_init_30 (h lc agc_rf)
  · have h := Ok.neg h c2
    exact Ok.stuck h
theorem cC_X2_69_34 {l : Launch} {D : va_G} {dA : Nat → ClassId} {A : Nat → Prop} {pz b L : Nat} {xs : Nat → Int32} {lc : Nat → Nat → Nat} {s : tt_St} {cc : ByteArray} {nl : Nat} {rt : Option FieldType} {rm : Room} {tn : tt_Tn} {Q : tt_Fin} {pc : Nat} {lv : List (Nat × Value)} {rest : List Value} {ck cn : Nat} {x0 : Nat} {x1 : Int32} {x2 : Nat} (hx0 : x0 < rdN s 34) (hx2 : x2 < rdN s 33) {K : tt_St → Prop} (h : Ok (fC_J2_init s x0 x1 x2) K) (hR : 3 + 1 ≤ rm.frames ∧ 8 + (3 + 11) + 60 ≤ rm.locals) (hW : (rest.map fun v => v.category).sum ≤ 8) (d : decode cc pc = .ok (.invokespecial 69, 3)) (kk : ∀ r, K r → ∀ lc', tt_agc (XC l D dA A pz b L xs) s lc lc' → tt_V (XC l D dA A pz b L xs) cc (RX2, nl, rt, rm, tn) Q (pc + 3) lv rest lc' r (ck + 1) (cn + 12)) (hf : ck + 1 ≤ rm.cells ∧ cn + 12 ≤ rm.slots) : tt_V (XC l D dA A pz b L xs) cc (RX2, nl, rt, rm, tn) Q pc lv (.ref (lc 33 x2) :: .int x1 :: .ref (lc 34 x0) :: rest) lc s ck cn :=
  v_callI (nA := 2) (As := [.int x1, .ref (lc 33 x2)]) (mC_J2_init l D dA A pz b L xs lc s x0 x1 x2 hx0 hx2 (Q := (fun v lc' s' => ∃ r, K r ∧ v = none ∧ tt_agc (XC l D dA A pz b L xs) s lc lc' ∧ s' = r)) (h.mono (fun r hr lc' ha => ⟨r, hr, rfl, ha, rfl⟩))) (lw_meth q199) q132 q197 q198 rfl (by decide +kernel) rfl hR hW hf d rfl (fun v lc' s' q => by obtain ⟨r, hr, e1, e2, e3⟩ := q; rw [e1, e3]; exact kk r hr lc' e2)
theorem pC_X2_72_0 {l : Launch} {D : va_G} {dA : Nat → ClassId} {A : Nat → Prop} {pz b L : Nat} {xs : Nat → Int32} {lc : Nat → Nat → Nat} {s : tt_St} {cc : ByteArray} {nl : Nat} {rt : Option FieldType} {rm : Room} {tn : tt_Tn} {Q : tt_Fin} {pc : Nat} {lv : List (Nat × Value)} {rest : List Value} {ck cn : Nat} {i : Nat} (hv : i < rdN s 0) (hnm : ∀ c m s0, tn c m s0 → s0.methodNamed? yX2_init = some m) {x : Nat} (d : decode cc pc = .ok (.putfield 72, 3)) (kk : tt_V (XC l D dA A pz b L xs) cc (RX2, nl, rt, rm, tn) Q (pc + 3) lv rest lc (wrR s 0 i 13 (some x)) ck cn) : tt_V (XC l D dA A pz b L xs) cc (RX2, nl, rt, rm, tn) Q pc lv (.ref (lc 34 x) :: .ref (lc 0 i) :: rest) lc s ck cn := v_putF (y := yX2_init) (s' := wrR s 0 i 13 (some x)) (p := 13) hnm rfl ⟨by decide, hv⟩ oC_0 (by rw [oC_0]; simp [rdI_wrI, rdI_wrR, rdR_wrR, rdR_wrI, rdL_wrR, rdL_wrI, rdL_wrL, rdI_wrL, rdR_wrL, va_rf]) (fun kd' i' h => EC_of (fun c => rfl) (fun c => rfl) (fun c => by rw [rdR_wrR, if_neg (fun q => h ⟨q.1, q.2.1⟩)])) (fun _ _ z => z) rfl in_X2 tyX2 tyX2_ok nmX2 (by decide) q747 (.inl rfl) rfl rfl rfl rfl (Nat.le_of_ble_eq_true rfl) d kk
theorem oC_14 {l : Launch} {D : va_G} {dA : Nat → ClassId} {A : Nat → Prop} {pz b L : Nat} {xs : Nat → Int32} {lc : Nat → Nat → Nat} {s : tt_St} {i : Nat} : tt_ent (XC l D dA A pz b L xs) lc s 14 i = .inr (3, [va_rf (Option.map (lc 8) (rdR s 14 i 0)), va_rf (Option.map (lc 9) (rdR s 14 i 1)), va_rf (Option.map (lc 10) (rdR s 14 i 2)), va_rf (Option.map (lc 11) (rdR s 14 i 3)), va_rf (Option.map (lc 12) (rdR s 14 i 4)), va_rf (Option.map (lc 13) (rdR s 14 i 5))]) := rfl
def dfv_14 : List Value := [.null, .null, .null, .null, .null, .null]
theorem dfs_14 : ∀ j, j < 6 → defaultValue (tyX5 j) = vp_V dfv_14 j := fun j hj => match j, hj with
  | 0, _ => rfl
  | 1, _ => rfl
  | 2, _ => rfl
  | 3, _ => rfl
  | 4, _ => rfl
  | 5, _ => rfl
  | j + 6, hj => absurd hj (by omega)
theorem pC_X4_9_14 {l : Launch} {D : va_G} {dA : Nat → ClassId} {A : Nat → Prop} {pz b L : Nat} {xs : Nat → Int32} {lc : Nat → Nat → Nat} {s : tt_St} {cc : ByteArray} {nl : Nat} {rt : Option FieldType} {rm : Room} {tn : tt_Tn} {Q : tt_Fin} {pc : Nat} {lv : List (Nat × Value)} {rest : List Value} {ck cn : Nat} {i : Nat} (hv : i < rdN s 14) (hnm : ∀ c m s0, tn c m s0 → s0.methodNamed? yX4_init = some m) {x : Nat} (d : decode cc pc = .ok (.putfield 9, 3)) (kk : tt_V (XC l D dA A pz b L xs) cc (RX4, nl, rt, rm, tn) Q (pc + 3) lv rest lc (wrR s 14 i 0 (some x)) ck cn) : tt_V (XC l D dA A pz b L xs) cc (RX4, nl, rt, rm, tn) Q pc lv (.ref (lc 8 x) :: .ref (lc 14 i) :: rest) lc s ck cn := v_putF (y := yX4_init) (s' := wrR s 14 i 0 (some x)) (p := 0) hnm rfl ⟨by decide, hv⟩ oC_14 (by rw [oC_14]; simp [rdI_wrI, rdI_wrR, rdR_wrR, rdR_wrI, rdL_wrR, rdL_wrI, rdL_wrL, rdI_wrL, rdR_wrL, va_rf]) (fun kd' i' h => EC_of (fun c => rfl) (fun c => rfl) (fun c => by rw [rdR_wrR, if_neg (fun q => h ⟨q.1, q.2.1⟩)])) (fun _ _ z => z) rfl in_X5 tyX5 tyX5_ok nmX5 (by decide) q311 (.inl rfl) rfl rfl rfl rfl (Nat.le_of_ble_eq_true rfl) d kk
theorem pC_X4_15_14 {l : Launch} {D : va_G} {dA : Nat → ClassId} {A : Nat → Prop} {pz b L : Nat} {xs : Nat → Int32} {lc : Nat → Nat → Nat} {s : tt_St} {cc : ByteArray} {nl : Nat} {rt : Option FieldType} {rm : Room} {tn : tt_Tn} {Q : tt_Fin} {pc : Nat} {lv : List (Nat × Value)} {rest : List Value} {ck cn : Nat} {i : Nat} (hv : i < rdN s 14) (hnm : ∀ c m s0, tn c m s0 → s0.methodNamed? yX4_init = some m) {x : Nat} (d : decode cc pc = .ok (.putfield 15, 3)) (kk : tt_V (XC l D dA A pz b L xs) cc (RX4, nl, rt, rm, tn) Q (pc + 3) lv rest lc (wrR s 14 i 1 (some x)) ck cn) : tt_V (XC l D dA A pz b L xs) cc (RX4, nl, rt, rm, tn) Q pc lv (.ref (lc 9 x) :: .ref (lc 14 i) :: rest) lc s ck cn := v_putF (y := yX4_init) (s' := wrR s 14 i 1 (some x)) (p := 1) hnm rfl ⟨by decide, hv⟩ oC_14 (by rw [oC_14]; simp [rdI_wrI, rdI_wrR, rdR_wrR, rdR_wrI, rdL_wrR, rdL_wrI, rdL_wrL, rdI_wrL, rdR_wrL, va_rf]) (fun kd' i' h => EC_of (fun c => rfl) (fun c => rfl) (fun c => by rw [rdR_wrR, if_neg (fun q => h ⟨q.1, q.2.1⟩)])) (fun _ _ z => z) rfl in_X5 tyX5 tyX5_ok nmX5 (by decide) q314 (.inl rfl) rfl rfl rfl rfl (Nat.le_of_ble_eq_true rfl) d kk
def fC_X4_init_14 (s : tt_St) (x0 : Nat) : Option tt_St :=
  if okC s then nm (newA s 8) fun s2 => if (rdN s 8) < rdN s2 8 then if x0 < rdN s2 14 then nm (wrR s2 14 x0 0 (some (rdN s 8))) fun s5 => if x0 < rdN s5 14 then if okC s5 then if cnLe s s5 then nm (newA s5 9) fun s9 => if (rdN s5 9) < rdN s9 9 then if x0 < rdN s9 14 then nm (wrR s9 14 x0 1 (some (rdN s5 9))) fun s12 => some s12 else none else none else none else none else none else none else none else none
abbrev rmC_X4_init_14 : Room := { frames := 1, cells := 2, slots := 17, locals := 20 }
set_option maxHeartbeats 8000000 in
theorem mC_X4_init_14 (l : Launch) (D : va_G) (dA : Nat → ClassId) (A : Nat → Prop) (pz b L : Nat) (xs : Nat → Int32) (lc : Nat → Nat → Nat) (s : tt_St) (x0 : Nat) (hx0 : x0 < rdN s 14) {Q : Option Value → (Nat → Nat → Nat) → tt_St → Prop} (h : Ok (fC_X4_init_14 s x0) (fun r => ∀ lc', tt_agc (XC l D dA A pz b L xs) s lc lc' → Q none lc' r)) : tt_Sp (XC l D dA A pz b L xs) yX4_init cX4_init 1 none rmC_X4_init_14 [.ref (lc 14 x0)] lc s Q := by
  refine tt_Sp.ofVn plX4 kokC (Nat.le_of_ble_eq_true rfl) ?_
  show tt_V (XC l D dA A pz b L xs) cX4_init (RX4, 1, none, rmC_X4_init_14, tt_nw yX4_init) (tt_fn (XC l D dA A pz b L xs) (RX4, 1, none, rmC_X4_init_14, tt_nw yX4_init) Q) 0 [(0, .ref (lc 14 x0))] [] lc s 0 0
  unfold fC_X4_init_14 at h
  refine v_aload_n 0 dX4_init_0 rfl ?_
  refine v_objInit q293 q166 q167 (Nat.le_of_ble_eq_true rfl) (Nat.le_of_ble_eq_true rfl) (Nat.le_of_ble_eq_true rfl) dX4_init_1 ?_
  refine v_aload_n 0 dX4_init_4 rfl ?_
  refine v_bipush dX4_init_5 kb_10 ?_
  obtain ⟨g1, h⟩ := Ok.guard h
  refine nC_n (kd := 8) (t := 1) (N := 10) g1 (by decide) rfl (fun _ => rfl) q194 rfl rfl rfl (by decide) (by decide) (by decide) ⟨Nat.le_of_ble_eq_true rfl, Nat.le_of_ble_eq_true rfl⟩ dX4_init_7 (fun lc hc => ?_)
  rw [← hc 14 x0 ⟨by decide, hx0⟩]
  have h := Ok.agc h hc (fun _ _ h => h)
  refine v_nmS (fun s2 e_s2 => ?_)
  have h := Ok.nm h e_s2
  obtain ⟨g3, h⟩ := Ok.guard h
  obtain ⟨g4, h⟩ := Ok.guard h
  refine pC_X4_9_14 g4 (fun _ _ _ h => h) dX4_init_9 ?_
  refine v_nmS (fun s5 e_s5 => ?_)
  have h := Ok.nm h e_s5
  refine v_aload_n 0 dX4_init_12 rfl ?_
  refine v_bipush dX4_init_13 kb_7 ?_
  obtain ⟨g6, h⟩ := Ok.guard h
  obtain ⟨g7, h⟩ := Ok.guard h
  obtain ⟨g8, h⟩ := Ok.guard h
  refine nC_n (kd := 9) (t := 1) (N := 7) g7 (by decide) rfl (fun _ => rfl) q194 rfl rfl rfl (by decide) (by decide) (by decide) ⟨Nat.le_of_ble_eq_true rfl, Nat.le_of_ble_eq_true rfl⟩ dX4_init_15 (fun lc hc => ?_)
  rw [← hc 14 x0 ⟨by decide, g6⟩]
  have h := Ok.agc h hc (cnLe_mono g8)
  refine v_nmS (fun s9 e_s9 => ?_)
  have h := Ok.nm h e_s9
  obtain ⟨g10, h⟩ := Ok.guard h
  obtain ⟨g11, h⟩ := Ok.guard h
  refine pC_X4_15_14 g11 (fun _ _ _ h => h) dX4_init_17 ?_
  refine v_nmS (fun s12 e_s12 => ?_)
  have h := Ok.nm h e_s12
  have h := Ok.ret h
  exact v_vret rfl (Nat.le_of_ble_eq_true rfl) (Nat.le_of_ble_eq_true rfl) dX4_init_20 (h lc agc_rf)
theorem cC_X5_3_14 {l : Launch} {D : va_G} {dA : Nat → ClassId} {A : Nat → Prop} {pz b L : Nat} {xs : Nat → Int32} {lc : Nat → Nat → Nat} {s : tt_St} {cc : ByteArray} {nl : Nat} {rt : Option FieldType} {rm : Room} {tn : tt_Tn} {Q : tt_Fin} {pc : Nat} {lv : List (Nat × Value)} {rest : List Value} {ck cn : Nat} {x0 : Nat} (hx0 : x0 < rdN s 14) {K : tt_St → Prop} (h : Ok (fC_X4_init_14 s x0) K) (hR : 1 + 1 ≤ rm.frames ∧ 8 + (1 + 11) + 20 ≤ rm.locals) (hW : (rest.map fun v => v.category).sum ≤ 8) (d : decode cc pc = .ok (.invokespecial 3, 3)) (kk : ∀ r, K r → ∀ lc', tt_agc (XC l D dA A pz b L xs) s lc lc' → tt_V (XC l D dA A pz b L xs) cc (RX5, nl, rt, rm, tn) Q (pc + 3) lv rest lc' r (ck + 2) (cn + 17)) (hf : ck + 2 ≤ rm.cells ∧ cn + 17 ≤ rm.slots) : tt_V (XC l D dA A pz b L xs) cc (RX5, nl, rt, rm, tn) Q pc lv (.ref (lc 14 x0) :: rest) lc s ck cn :=
  v_callIN (nA := 0) (As := []) knC (mC_X4_init_14 l D dA A pz b L xs lc s x0 hx0 (Q := (fun v lc' s' => ∃ r, K r ∧ v = none ∧ tt_agc (XC l D dA A pz b L xs) s lc lc' ∧ s' = r)) (h.mono (fun r hr lc' ha => ⟨r, hr, rfl, ha, rfl⟩))) (lw_meth q292) q290 q137 q291 rfl (by decide +kernel) rfl hR hW hf d rfl (fun v lc' s' q => by obtain ⟨r, hr, e1, e2, e3⟩ := q; rw [e1, e3]; exact kk r hr lc' e2)
theorem pC_X5_9_14 {l : Launch} {D : va_G} {dA : Nat → ClassId} {A : Nat → Prop} {pz b L : Nat} {xs : Nat → Int32} {lc : Nat → Nat → Nat} {s : tt_St} {cc : ByteArray} {nl : Nat} {rt : Option FieldType} {rm : Room} {tn : tt_Tn} {Q : tt_Fin} {pc : Nat} {lv : List (Nat × Value)} {rest : List Value} {ck cn : Nat} {i : Nat} (hv : i < rdN s 14) (hnm : ∀ c m s0, tn c m s0 → s0.methodNamed? yX5_init = some m) {x : Nat} (d : decode cc pc = .ok (.putfield 9, 3)) (kk : tt_V (XC l D dA A pz b L xs) cc (RX5, nl, rt, rm, tn) Q (pc + 3) lv rest lc (wrR s 14 i 2 (some x)) ck cn) : tt_V (XC l D dA A pz b L xs) cc (RX5, nl, rt, rm, tn) Q pc lv (.ref (lc 10 x) :: .ref (lc 14 i) :: rest) lc s ck cn := v_putF (y := yX5_init) (s' := wrR s 14 i 2 (some x)) (p := 2) hnm rfl ⟨by decide, hv⟩ oC_14 (by rw [oC_14]; simp [rdI_wrI, rdI_wrR, rdR_wrR, rdR_wrI, rdL_wrR, rdL_wrI, rdL_wrL, rdI_wrL, rdR_wrL, va_rf]) (fun kd' i' h => EC_of (fun c => rfl) (fun c => rfl) (fun c => by rw [rdR_wrR, if_neg (fun q => h ⟨q.1, q.2.1⟩)])) (fun _ _ z => z) rfl in_X5 tyX5 tyX5_ok nmX5 (by decide) q294 (.inl rfl) rfl rfl rfl rfl (Nat.le_of_ble_eq_true rfl) d kk
theorem pC_X5_15_14 {l : Launch} {D : va_G} {dA : Nat → ClassId} {A : Nat → Prop} {pz b L : Nat} {xs : Nat → Int32} {lc : Nat → Nat → Nat} {s : tt_St} {cc : ByteArray} {nl : Nat} {rt : Option FieldType} {rm : Room} {tn : tt_Tn} {Q : tt_Fin} {pc : Nat} {lv : List (Nat × Value)} {rest : List Value} {ck cn : Nat} {i : Nat} (hv : i < rdN s 14) (hnm : ∀ c m s0, tn c m s0 → s0.methodNamed? yX5_init = some m) {x : Nat} (d : decode cc pc = .ok (.putfield 15, 3)) (kk : tt_V (XC l D dA A pz b L xs) cc (RX5, nl, rt, rm, tn) Q (pc + 3) lv rest lc (wrR s 14 i 3 (some x)) ck cn) : tt_V (XC l D dA A pz b L xs) cc (RX5, nl, rt, rm, tn) Q pc lv (.ref (lc 11 x) :: .ref (lc 14 i) :: rest) lc s ck cn := v_putF (y := yX5_init) (s' := wrR s 14 i 3 (some x)) (p := 3) hnm rfl ⟨by decide, hv⟩ oC_14 (by rw [oC_14]; simp [rdI_wrI, rdI_wrR, rdR_wrR, rdR_wrI, rdL_wrR, rdL_wrI, rdL_wrL, rdI_wrL, rdR_wrL, va_rf]) (fun kd' i' h => EC_of (fun c => rfl) (fun c => rfl) (fun c => by rw [rdR_wrR, if_neg (fun q => h ⟨q.1, q.2.1⟩)])) (fun _ _ z => z) rfl in_X5 tyX5 tyX5_ok nmX5 (by decide) q300 (.inl rfl) rfl rfl rfl rfl (Nat.le_of_ble_eq_true rfl) d kk
theorem pC_X5_18_14 {l : Launch} {D : va_G} {dA : Nat → ClassId} {A : Nat → Prop} {pz b L : Nat} {xs : Nat → Int32} {lc : Nat → Nat → Nat} {s : tt_St} {cc : ByteArray} {nl : Nat} {rt : Option FieldType} {rm : Room} {tn : tt_Tn} {Q : tt_Fin} {pc : Nat} {lv : List (Nat × Value)} {rest : List Value} {ck cn : Nat} {i : Nat} (hv : i < rdN s 14) (hnm : ∀ c m s0, tn c m s0 → s0.methodNamed? yX5_init = some m) {x : Nat} (d : decode cc pc = .ok (.putfield 18, 3)) (kk : tt_V (XC l D dA A pz b L xs) cc (RX5, nl, rt, rm, tn) Q (pc + 3) lv rest lc (wrR s 14 i 4 (some x)) ck cn) : tt_V (XC l D dA A pz b L xs) cc (RX5, nl, rt, rm, tn) Q pc lv (.ref (lc 12 x) :: .ref (lc 14 i) :: rest) lc s ck cn := v_putF (y := yX5_init) (s' := wrR s 14 i 4 (some x)) (p := 4) hnm rfl ⟨by decide, hv⟩ oC_14 (by rw [oC_14]; simp [rdI_wrI, rdI_wrR, rdR_wrR, rdR_wrI, rdL_wrR, rdL_wrI, rdL_wrL, rdI_wrL, rdR_wrL, va_rf]) (fun kd' i' h => EC_of (fun c => rfl) (fun c => rfl) (fun c => by rw [rdR_wrR, if_neg (fun q => h ⟨q.1, q.2.1⟩)])) (fun _ _ z => z) rfl in_X5 tyX5 tyX5_ok nmX5 (by decide) q305 (.inl rfl) rfl rfl rfl rfl (Nat.le_of_ble_eq_true rfl) d kk
theorem pC_X5_21_14 {l : Launch} {D : va_G} {dA : Nat → ClassId} {A : Nat → Prop} {pz b L : Nat} {xs : Nat → Int32} {lc : Nat → Nat → Nat} {s : tt_St} {cc : ByteArray} {nl : Nat} {rt : Option FieldType} {rm : Room} {tn : tt_Tn} {Q : tt_Fin} {pc : Nat} {lv : List (Nat × Value)} {rest : List Value} {ck cn : Nat} {i : Nat} (hv : i < rdN s 14) (hnm : ∀ c m s0, tn c m s0 → s0.methodNamed? yX5_init = some m) {x : Nat} (d : decode cc pc = .ok (.putfield 21, 3)) (kk : tt_V (XC l D dA A pz b L xs) cc (RX5, nl, rt, rm, tn) Q (pc + 3) lv rest lc (wrR s 14 i 5 (some x)) ck cn) : tt_V (XC l D dA A pz b L xs) cc (RX5, nl, rt, rm, tn) Q pc lv (.ref (lc 13 x) :: .ref (lc 14 i) :: rest) lc s ck cn := v_putF (y := yX5_init) (s' := wrR s 14 i 5 (some x)) (p := 5) hnm rfl ⟨by decide, hv⟩ oC_14 (by rw [oC_14]; simp [rdI_wrI, rdI_wrR, rdR_wrR, rdR_wrI, rdL_wrR, rdL_wrI, rdL_wrL, rdI_wrL, rdR_wrL, va_rf]) (fun kd' i' h => EC_of (fun c => rfl) (fun c => rfl) (fun c => by rw [rdR_wrR, if_neg (fun q => h ⟨q.1, q.2.1⟩)])) (fun _ _ z => z) rfl in_X5 tyX5 tyX5_ok nmX5 (by decide) q309 (.inl rfl) rfl rfl rfl rfl (Nat.le_of_ble_eq_true rfl) d kk
def fC_X5_init (s : tt_St) (x0 : Nat) : Option tt_St :=
  (fC_X4_init_14 s x0).bind fun r1 => if x0 < rdN r1 14 then if okC r1 then if cnLe s r1 then nm (newA r1 10) fun s5 => if (rdN r1 10) < rdN s5 10 then if x0 < rdN s5 14 then nm (wrR s5 14 x0 2 (some (rdN r1 10))) fun s8 => if x0 < rdN s8 14 then if okC s8 then if cnLe r1 s8 then nm (newA s8 11) fun s12 => if (rdN s8 11) < rdN s12 11 then if x0 < rdN s12 14 then nm (wrR s12 14 x0 3 (some (rdN s8 11))) fun s15 => if x0 < rdN s15 14 then if okC s15 then if cnLe s8 s15 then nm (newA s15 12) fun s19 => if (rdN s15 12) < rdN s19 12 then if x0 < rdN s19 14 then nm (wrR s19 14 x0 4 (some (rdN s15 12))) fun s22 => if x0 < rdN s22 14 then if okC s22 then if cnLe s15 s22 then nm (newA s22 13) fun s26 => if (rdN s22 13) < rdN s26 13 then if x0 < rdN s26 14 then nm (wrR s26 14 x0 5 (some (rdN s22 13))) fun s29 => some s29 else none else none else none else none else none else none else none else none else none else none else none else none else none else none else none else none else none else none else none else none
abbrev rmC_X5_init : Room := { frames := 2, cells := 6, slots := 297, locals := 40 }
set_option maxHeartbeats 8000000 in
theorem mC_X5_init (l : Launch) (D : va_G) (dA : Nat → ClassId) (A : Nat → Prop) (pz b L : Nat) (xs : Nat → Int32) (lc : Nat → Nat → Nat) (s : tt_St) (x0 : Nat) (hx0 : x0 < rdN s 14) {Q : Option Value → (Nat → Nat → Nat) → tt_St → Prop} (h : Ok (fC_X5_init s x0) (fun r => ∀ lc', tt_agc (XC l D dA A pz b L xs) s lc lc' → Q none lc' r)) : tt_Sp (XC l D dA A pz b L xs) yX5_init cX5_init 1 none rmC_X5_init [.ref (lc 14 x0)] lc s Q := by
  refine tt_Sp.ofVn plX5 kokC (Nat.le_of_ble_eq_true rfl) ?_
  show tt_V (XC l D dA A pz b L xs) cX5_init (RX5, 1, none, rmC_X5_init, tt_nw yX5_init) (tt_fn (XC l D dA A pz b L xs) (RX5, 1, none, rmC_X5_init, tt_nw yX5_init) Q) 0 [(0, .ref (lc 14 x0))] [] lc s 0 0
  unfold fC_X5_init at h
  refine v_aload_n 0 dX5_init_0 rfl ?_
  refine cC_X5_3_14 hx0 (Ok.bind h) ⟨Nat.le_of_ble_eq_true rfl, Nat.le_of_ble_eq_true rfl⟩ (Nat.le_of_ble_eq_true rfl) dX5_init_1 (fun r1 h lc hc => ?_) ⟨Nat.le_of_ble_eq_true rfl, Nat.le_of_ble_eq_true rfl⟩
  rw [← hc 14 x0 ⟨by decide, hx0⟩]
  have h := Ok.agc h hc (fun _ _ h => h)
  refine v_aload_n 0 dX5_init_4 rfl ?_
  refine v_bipush dX5_init_5 kb_40 ?_
  obtain ⟨g2, h⟩ := Ok.guard h
  obtain ⟨g3, h⟩ := Ok.guard h
  obtain ⟨g4, h⟩ := Ok.guard h
  refine nC_n (kd := 10) (t := 1) (N := 40) g3 (by decide) rfl (fun _ => rfl) q194 rfl rfl rfl (by decide) (by decide) (by decide) ⟨Nat.le_of_ble_eq_true rfl, Nat.le_of_ble_eq_true rfl⟩ dX5_init_7 (fun lc hc => ?_)
  rw [← hc 14 x0 ⟨by decide, g2⟩]
  have h := Ok.agc h hc (cnLe_mono g4)
  refine v_nmS (fun s5 e_s5 => ?_)
  have h := Ok.nm h e_s5
  obtain ⟨g6, h⟩ := Ok.guard h
  obtain ⟨g7, h⟩ := Ok.guard h
  refine pC_X5_9_14 g7 (fun _ _ _ h => h) dX5_init_9 ?_
  refine v_nmS (fun s8 e_s8 => ?_)
  have h := Ok.nm h e_s8
  refine v_aload_n 0 dX5_init_12 rfl ?_
  refine v_bipush dX5_init_13 kb_40 ?_
  obtain ⟨g9, h⟩ := Ok.guard h
  obtain ⟨g10, h⟩ := Ok.guard h
  obtain ⟨g11, h⟩ := Ok.guard h
  refine nC_n (kd := 11) (t := 1) (N := 40) g10 (by decide) rfl (fun _ => rfl) q194 rfl rfl rfl (by decide) (by decide) (by decide) ⟨Nat.le_of_ble_eq_true rfl, Nat.le_of_ble_eq_true rfl⟩ dX5_init_15 (fun lc hc => ?_)
  rw [← hc 14 x0 ⟨by decide, g9⟩]
  have h := Ok.agc h hc (cnLe_mono g11)
  refine v_nmS (fun s12 e_s12 => ?_)
  have h := Ok.nm h e_s12
  obtain ⟨g13, h⟩ := Ok.guard h
  obtain ⟨g14, h⟩ := Ok.guard h
  refine pC_X5_15_14 g14 (fun _ _ _ h => h) dX5_init_17 ?_
  refine v_nmS (fun s15 e_s15 => ?_)
  have h := Ok.nm h e_s15
  refine v_aload_n 0 dX5_init_20 rfl ?_
  refine v_bipush dX5_init_21 kb_40 ?_
  obtain ⟨g16, h⟩ := Ok.guard h
  obtain ⟨g17, h⟩ := Ok.guard h
  obtain ⟨g18, h⟩ := Ok.guard h
  refine nC_n (kd := 12) (t := 1) (N := 40) g17 (by decide) rfl (fun _ => rfl) q194 rfl rfl rfl (by decide) (by decide) (by decide) ⟨Nat.le_of_ble_eq_true rfl, Nat.le_of_ble_eq_true rfl⟩ dX5_init_23 (fun lc hc => ?_)
  rw [← hc 14 x0 ⟨by decide, g16⟩]
  have h := Ok.agc h hc (cnLe_mono g18)
  refine v_nmS (fun s19 e_s19 => ?_)
  have h := Ok.nm h e_s19
  obtain ⟨g20, h⟩ := Ok.guard h
  obtain ⟨g21, h⟩ := Ok.guard h
  refine pC_X5_18_14 g21 (fun _ _ _ h => h) dX5_init_25 ?_
  refine v_nmS (fun s22 e_s22 => ?_)
  have h := Ok.nm h e_s22
  refine v_aload_n 0 dX5_init_28 rfl ?_
  refine v_sipush dX5_init_29 ks_160 ?_
  obtain ⟨g23, h⟩ := Ok.guard h
  obtain ⟨g24, h⟩ := Ok.guard h
  obtain ⟨g25, h⟩ := Ok.guard h
  refine nC_n (kd := 13) (t := 1) (N := 160) g24 (by decide) rfl (fun _ => rfl) q194 rfl rfl rfl (by decide) (by decide) (by decide) ⟨Nat.le_of_ble_eq_true rfl, Nat.le_of_ble_eq_true rfl⟩ dX5_init_32 (fun lc hc => ?_)
  rw [← hc 14 x0 ⟨by decide, g23⟩]
  have h := Ok.agc h hc (cnLe_mono g25)
  refine v_nmS (fun s26 e_s26 => ?_)
  have h := Ok.nm h e_s26
  obtain ⟨g27, h⟩ := Ok.guard h
  obtain ⟨g28, h⟩ := Ok.guard h
  refine pC_X5_21_14 g28 (fun _ _ _ h => h) dX5_init_34 ?_
  refine v_nmS (fun s29 e_s29 => ?_)
  have h := Ok.nm h e_s29
  have h := Ok.ret h
  exact v_vret rfl (Nat.le_of_ble_eq_true rfl) (Nat.le_of_ble_eq_true rfl) dX5_init_37 (h lc agc_rf)
theorem cC_X2_78_14 {l : Launch} {D : va_G} {dA : Nat → ClassId} {A : Nat → Prop} {pz b L : Nat} {xs : Nat → Int32} {lc : Nat → Nat → Nat} {s : tt_St} {cc : ByteArray} {nl : Nat} {rt : Option FieldType} {rm : Room} {tn : tt_Tn} {Q : tt_Fin} {pc : Nat} {lv : List (Nat × Value)} {rest : List Value} {ck cn : Nat} {x0 : Nat} (hx0 : x0 < rdN s 14) {K : tt_St → Prop} (h : Ok (fC_X5_init s x0) K) (hR : 2 + 1 ≤ rm.frames ∧ 8 + (1 + 11) + 40 ≤ rm.locals) (hW : (rest.map fun v => v.category).sum ≤ 8) (d : decode cc pc = .ok (.invokespecial 78, 3)) (kk : ∀ r, K r → ∀ lc', tt_agc (XC l D dA A pz b L xs) s lc lc' → tt_V (XC l D dA A pz b L xs) cc (RX2, nl, rt, rm, tn) Q (pc + 3) lv rest lc' r (ck + 6) (cn + 297)) (hf : ck + 6 ≤ rm.cells ∧ cn + 297 ≤ rm.slots) : tt_V (XC l D dA A pz b L xs) cc (RX2, nl, rt, rm, tn) Q pc lv (.ref (lc 14 x0) :: rest) lc s ck cn :=
  v_callIN (nA := 0) (As := []) knC (mC_X5_init l D dA A pz b L xs lc s x0 hx0 (Q := (fun v lc' s' => ∃ r, K r ∧ v = none ∧ tt_agc (XC l D dA A pz b L xs) s lc lc' ∧ s' = r)) (h.mono (fun r hr lc' ha => ⟨r, hr, rfl, ha, rfl⟩))) (lw_meth q289) q287 q138 q288 rfl (by decide +kernel) rfl hR hW hf d rfl (fun v lc' s' q => by obtain ⟨r, hr, e1, e2, e3⟩ := q; rw [e1, e3]; exact kk r hr lc' e2)
theorem pC_X2_79_0 {l : Launch} {D : va_G} {dA : Nat → ClassId} {A : Nat → Prop} {pz b L : Nat} {xs : Nat → Int32} {lc : Nat → Nat → Nat} {s : tt_St} {cc : ByteArray} {nl : Nat} {rt : Option FieldType} {rm : Room} {tn : tt_Tn} {Q : tt_Fin} {pc : Nat} {lv : List (Nat × Value)} {rest : List Value} {ck cn : Nat} {i : Nat} (hv : i < rdN s 0) (hnm : ∀ c m s0, tn c m s0 → s0.methodNamed? yX2_init = some m) {x : Nat} (d : decode cc pc = .ok (.putfield 79, 3)) (kk : tt_V (XC l D dA A pz b L xs) cc (RX2, nl, rt, rm, tn) Q (pc + 3) lv rest lc (wrR s 0 i 14 (some x)) ck cn) : tt_V (XC l D dA A pz b L xs) cc (RX2, nl, rt, rm, tn) Q pc lv (.ref (lc 14 x) :: .ref (lc 0 i) :: rest) lc s ck cn := v_putF (y := yX2_init) (s' := wrR s 0 i 14 (some x)) (p := 14) hnm rfl ⟨by decide, hv⟩ oC_0 (by rw [oC_0]; simp [rdI_wrI, rdI_wrR, rdR_wrR, rdR_wrI, rdL_wrR, rdL_wrI, rdL_wrL, rdI_wrL, rdR_wrL, va_rf]) (fun kd' i' h => EC_of (fun c => rfl) (fun c => rfl) (fun c => by rw [rdR_wrR, if_neg (fun q => h ⟨q.1, q.2.1⟩)])) (fun _ _ z => z) rfl in_X2 tyX2 tyX2_ok nmX2 (by decide) q749 (.inl rfl) rfl rfl rfl rfl (Nat.le_of_ble_eq_true rfl) d kk
theorem pC_X2_83_0 {l : Launch} {D : va_G} {dA : Nat → ClassId} {A : Nat → Prop} {pz b L : Nat} {xs : Nat → Int32} {lc : Nat → Nat → Nat} {s : tt_St} {cc : ByteArray} {nl : Nat} {rt : Option FieldType} {rm : Room} {tn : tt_Tn} {Q : tt_Fin} {pc : Nat} {lv : List (Nat × Value)} {rest : List Value} {ck cn : Nat} {i : Nat} (hv : i < rdN s 0) (hnm : ∀ c m s0, tn c m s0 → s0.methodNamed? yX2_init = some m) {x : Nat} (d : decode cc pc = .ok (.putfield 83, 3)) (kk : tt_V (XC l D dA A pz b L xs) cc (RX2, nl, rt, rm, tn) Q (pc + 3) lv rest lc (wrR s 0 i 15 (some x)) ck cn) : tt_V (XC l D dA A pz b L xs) cc (RX2, nl, rt, rm, tn) Q pc lv (.ref (lc 14 x) :: .ref (lc 0 i) :: rest) lc s ck cn := v_putF (y := yX2_init) (s' := wrR s 0 i 15 (some x)) (p := 15) hnm rfl ⟨by decide, hv⟩ oC_0 (by rw [oC_0]; simp [rdI_wrI, rdI_wrR, rdR_wrR, rdR_wrI, rdL_wrR, rdL_wrI, rdL_wrL, rdI_wrL, rdR_wrL, va_rf]) (fun kd' i' h => EC_of (fun c => rfl) (fun c => rfl) (fun c => by rw [rdR_wrR, if_neg (fun q => h ⟨q.1, q.2.1⟩)])) (fun _ _ z => z) rfl in_X2 tyX2 tyX2_ok nmX2 (by decide) q750 (.inl rfl) rfl rfl rfl rfl (Nat.le_of_ble_eq_true rfl) d kk
theorem gC_X2_11_0 {l : Launch} {D : va_G} {dA : Nat → ClassId} {A : Nat → Prop} {pz b L : Nat} {xs : Nat → Int32} {lc : Nat → Nat → Nat} {s : tt_St} {cc : ByteArray} {nl : Nat} {rt : Option FieldType} {rm : Room} {tn : tt_Tn} {Q : tt_Fin} {pc : Nat} {lv : List (Nat × Value)} {rest : List Value} {ck cn : Nat} {i : Nat} (hv : i < rdN s 0) (d : decode cc pc = .ok (.getfield 11, 3)) (kk : tt_V (XC l D dA A pz b L xs) cc (RX2, nl, rt, rm, tn) Q (pc + 3) lv (va_rf (Option.map (lc 1) (rdR s 0 i 0)) :: rest) lc s ck cn) : tt_V (XC l D dA A pz b L xs) cc (RX2, nl, rt, rm, tn) Q pc lv (.ref (lc 0 i) :: rest) lc s ck cn := v_get (p := 0) ⟨by decide, hv⟩ oC_0 rfl in_X2 (by decide) q726 (.inl rfl) rfl d kk
theorem oC_2 {l : Launch} {D : va_G} {dA : Nat → ClassId} {A : Nat → Prop} {pz b L : Nat} {xs : Nat → Int32} {lc : Nat → Nat → Nat} {s : tt_St} {i : Nat} : tt_ent (XC l D dA A pz b L xs) lc s 2 i = .inr (1, [va_rf (Option.map (lc 3) (rdR s 2 i 0)), va_rf (Option.map (lc 4) (rdR s 2 i 1)), va_rf (Option.map (lc 5) (rdR s 2 i 2)), .int (rdI s 2 i 3), .int (rdI s 2 i 4), .int (rdI s 2 i 5), .int (rdI s 2 i 6), .int (rdI s 2 i 7), .int (rdI s 2 i 8), .long (rdL s 2 i 9), .int (rdI s 2 i 10)]) := rfl
def dfv_2 : List Value := [.null, .null, .null, .int 0, .int 0, .int 0, .int 0, .int 0, .int 0, .long 0, .int 0]
theorem dfs_2 : ∀ j, j < 11 → defaultValue (tyX6 j) = vp_V dfv_2 j := fun j hj => match j, hj with
  | 0, _ => rfl
  | 1, _ => rfl
  | 2, _ => rfl
  | 3, _ => rfl
  | 4, _ => rfl
  | 5, _ => rfl
  | 6, _ => rfl
  | 7, _ => rfl
  | 8, _ => rfl
  | 9, _ => rfl
  | 10, _ => rfl
  | j + 11, hj => absurd hj (by omega)
theorem pC_X6_9_2 {l : Launch} {D : va_G} {dA : Nat → ClassId} {A : Nat → Prop} {pz b L : Nat} {xs : Nat → Int32} {lc : Nat → Nat → Nat} {s : tt_St} {cc : ByteArray} {nl : Nat} {rt : Option FieldType} {rm : Room} {tn : tt_Tn} {Q : tt_Fin} {pc : Nat} {lv : List (Nat × Value)} {rest : List Value} {ck cn : Nat} {i : Nat} (hv : i < rdN s 2) (hnm : ∀ c m s0, tn c m s0 → s0.methodNamed? yX6_init = some m) {x : Nat} (d : decode cc pc = .ok (.putfield 9, 3)) (kk : tt_V (XC l D dA A pz b L xs) cc (RX6, nl, rt, rm, tn) Q (pc + 3) lv rest lc (wrR s 2 i 0 (some x)) ck cn) : tt_V (XC l D dA A pz b L xs) cc (RX6, nl, rt, rm, tn) Q pc lv (.ref (lc 3 x) :: .ref (lc 2 i) :: rest) lc s ck cn := v_putF (y := yX6_init) (s' := wrR s 2 i 0 (some x)) (p := 0) hnm rfl ⟨by decide, hv⟩ oC_2 (by rw [oC_2]; simp [rdI_wrI, rdI_wrR, rdR_wrR, rdR_wrI, rdL_wrR, rdL_wrI, rdL_wrL, rdI_wrL, rdR_wrL, va_rf]) (fun kd' i' h => EC_of (fun c => rfl) (fun c => rfl) (fun c => by rw [rdR_wrR, if_neg (fun q => h ⟨q.1, q.2.1⟩)])) (fun _ _ z => z) rfl in_X6 tyX6 tyX6_ok nmX6 (by decide) q338 (.inl rfl) rfl rfl rfl rfl (Nat.le_of_ble_eq_true rfl) d kk
theorem pC_X6_15_2 {l : Launch} {D : va_G} {dA : Nat → ClassId} {A : Nat → Prop} {pz b L : Nat} {xs : Nat → Int32} {lc : Nat → Nat → Nat} {s : tt_St} {cc : ByteArray} {nl : Nat} {rt : Option FieldType} {rm : Room} {tn : tt_Tn} {Q : tt_Fin} {pc : Nat} {lv : List (Nat × Value)} {rest : List Value} {ck cn : Nat} {i : Nat} (hv : i < rdN s 2) (hnm : ∀ c m s0, tn c m s0 → s0.methodNamed? yX6_init = some m) {x : Nat} (d : decode cc pc = .ok (.putfield 15, 3)) (kk : tt_V (XC l D dA A pz b L xs) cc (RX6, nl, rt, rm, tn) Q (pc + 3) lv rest lc (wrR s 2 i 1 (some x)) ck cn) : tt_V (XC l D dA A pz b L xs) cc (RX6, nl, rt, rm, tn) Q pc lv (.ref (lc 4 x) :: .ref (lc 2 i) :: rest) lc s ck cn := v_putF (y := yX6_init) (s' := wrR s 2 i 1 (some x)) (p := 1) hnm rfl ⟨by decide, hv⟩ oC_2 (by rw [oC_2]; simp [rdI_wrI, rdI_wrR, rdR_wrR, rdR_wrI, rdL_wrR, rdL_wrI, rdL_wrL, rdI_wrL, rdR_wrL, va_rf]) (fun kd' i' h => EC_of (fun c => rfl) (fun c => rfl) (fun c => by rw [rdR_wrR, if_neg (fun q => h ⟨q.1, q.2.1⟩)])) (fun _ _ z => z) rfl in_X6 tyX6 tyX6_ok nmX6 (by decide) q341 (.inl rfl) rfl rfl rfl rfl (Nat.le_of_ble_eq_true rfl) d kk
theorem pC_X6_18_2 {l : Launch} {D : va_G} {dA : Nat → ClassId} {A : Nat → Prop} {pz b L : Nat} {xs : Nat → Int32} {lc : Nat → Nat → Nat} {s : tt_St} {cc : ByteArray} {nl : Nat} {rt : Option FieldType} {rm : Room} {tn : tt_Tn} {Q : tt_Fin} {pc : Nat} {lv : List (Nat × Value)} {rest : List Value} {ck cn : Nat} {i : Nat} (hv : i < rdN s 2) (hnm : ∀ c m s0, tn c m s0 → s0.methodNamed? yX6_init = some m) {x : Nat} (d : decode cc pc = .ok (.putfield 18, 3)) (kk : tt_V (XC l D dA A pz b L xs) cc (RX6, nl, rt, rm, tn) Q (pc + 3) lv rest lc (wrR s 2 i 2 (some x)) ck cn) : tt_V (XC l D dA A pz b L xs) cc (RX6, nl, rt, rm, tn) Q pc lv (.ref (lc 5 x) :: .ref (lc 2 i) :: rest) lc s ck cn := v_putF (y := yX6_init) (s' := wrR s 2 i 2 (some x)) (p := 2) hnm rfl ⟨by decide, hv⟩ oC_2 (by rw [oC_2]; simp [rdI_wrI, rdI_wrR, rdR_wrR, rdR_wrI, rdL_wrR, rdL_wrI, rdL_wrL, rdI_wrL, rdR_wrL, va_rf]) (fun kd' i' h => EC_of (fun c => rfl) (fun c => rfl) (fun c => by rw [rdR_wrR, if_neg (fun q => h ⟨q.1, q.2.1⟩)])) (fun _ _ z => z) rfl in_X6 tyX6 tyX6_ok nmX6 (by decide) q344 (.inl rfl) rfl rfl rfl rfl (Nat.le_of_ble_eq_true rfl) d kk
theorem pC_X6_22_2 {l : Launch} {D : va_G} {dA : Nat → ClassId} {A : Nat → Prop} {pz b L : Nat} {xs : Nat → Int32} {lc : Nat → Nat → Nat} {s : tt_St} {cc : ByteArray} {nl : Nat} {rt : Option FieldType} {rm : Room} {tn : tt_Tn} {Q : tt_Fin} {pc : Nat} {lv : List (Nat × Value)} {rest : List Value} {ck cn : Nat} {i : Nat} (hv : i < rdN s 2) (hnm : ∀ c m s0, tn c m s0 → s0.methodNamed? yX6_init = some m) {x : Int32} (d : decode cc pc = .ok (.putfield 22, 3)) (kk : tt_V (XC l D dA A pz b L xs) cc (RX6, nl, rt, rm, tn) Q (pc + 3) lv rest lc (wrI s 2 i 3 x) ck cn) : tt_V (XC l D dA A pz b L xs) cc (RX6, nl, rt, rm, tn) Q pc lv (.int x :: .ref (lc 2 i) :: rest) lc s ck cn := v_putF (y := yX6_init) (s' := wrI s 2 i 3 x) (p := 3) hnm rfl ⟨by decide, hv⟩ oC_2 (by rw [oC_2]; simp [rdI_wrI, rdI_wrR, rdR_wrR, rdR_wrI, rdL_wrR, rdL_wrI, rdL_wrL, rdI_wrL, rdR_wrL, va_rf]) (fun kd' i' h => EC_of (fun c => by rw [rdI_wrI, if_neg (fun q => h ⟨q.1, q.2.1⟩)]) (fun c => rfl) (fun c => rfl)) (fun _ _ z => z) rfl in_X6 tyX6 tyX6_ok nmX6 (by decide) q347 (.inl rfl) rfl rfl rfl rfl (Nat.le_of_ble_eq_true rfl) d kk
def fC_X6_init (s : tt_St) (x0 : Nat) (x1 : Int32) : Option tt_St :=
  if okC s then nm (newA s 3) fun s2 => if (rdN s 3) < rdN s2 3 then if x0 < rdN s2 2 then nm (wrR s2 2 x0 0 (some (rdN s 3))) fun s5 => if x0 < rdN s5 2 then if okC s5 then if cnLe s s5 then nm (newA s5 4) fun s9 => if (rdN s5 4) < rdN s9 4 then if x0 < rdN s9 2 then nm (wrR s9 2 x0 1 (some (rdN s5 4))) fun s12 => if x0 < rdN s12 2 then if okC s12 then if cnLe s5 s12 then nm (newA s12 5) fun s16 => if (rdN s12 5) < rdN s16 5 then if x0 < rdN s16 2 then nm (wrR s16 2 x0 2 (some (rdN s12 5))) fun s19 => if x0 < rdN s19 2 then nm (wrI s19 2 x0 3 x1) fun s21 => some s21 else none else none else none else none else none else none else none else none else none else none else none else none else none else none
abbrev rmC_X6_init : Room := { frames := 1, cells := 3, slots := 12, locals := 20 }
set_option maxHeartbeats 8000000 in
theorem mC_X6_init (l : Launch) (D : va_G) (dA : Nat → ClassId) (A : Nat → Prop) (pz b L : Nat) (xs : Nat → Int32) (lc : Nat → Nat → Nat) (s : tt_St) (x0 : Nat) (x1 : Int32) (hx0 : x0 < rdN s 2) {Q : Option Value → (Nat → Nat → Nat) → tt_St → Prop} (h : Ok (fC_X6_init s x0 x1) (fun r => ∀ lc', tt_agc (XC l D dA A pz b L xs) s lc lc' → Q none lc' r)) : tt_Sp (XC l D dA A pz b L xs) yX6_init cX6_init 2 none rmC_X6_init [.ref (lc 2 x0), .int x1] lc s Q := by
  refine tt_Sp.ofVn plX6 kokC (Nat.le_of_ble_eq_true rfl) ?_
  show tt_V (XC l D dA A pz b L xs) cX6_init (RX6, 2, none, rmC_X6_init, tt_nw yX6_init) (tt_fn (XC l D dA A pz b L xs) (RX6, 2, none, rmC_X6_init, tt_nw yX6_init) Q) 0 [(0, .ref (lc 2 x0)), (1, .int x1)] [] lc s 0 0
  unfold fC_X6_init at h
  refine v_aload_n 0 dX6_init_0 rfl ?_
  refine v_objInit q337 q166 q167 (Nat.le_of_ble_eq_true rfl) (Nat.le_of_ble_eq_true rfl) (Nat.le_of_ble_eq_true rfl) dX6_init_1 ?_
  refine v_aload_n 0 dX6_init_4 rfl ?_
  refine v_iconst dX6_init_5 ic_4 ?_
  obtain ⟨g1, h⟩ := Ok.guard h
  refine nC_n (kd := 3) (t := 0) (N := 4) g1 (by decide) rfl (fun _ => rfl) q193 rfl rfl rfl (by decide) (by decide) (by decide) ⟨Nat.le_of_ble_eq_true rfl, Nat.le_of_ble_eq_true rfl⟩ dX6_init_6 (fun lc hc => ?_)
  rw [← hc 2 x0 ⟨by decide, hx0⟩]
  have h := Ok.agc h hc (fun _ _ h => h)
  refine v_nmS (fun s2 e_s2 => ?_)
  have h := Ok.nm h e_s2
  obtain ⟨g3, h⟩ := Ok.guard h
  obtain ⟨g4, h⟩ := Ok.guard h
  refine pC_X6_9_2 g4 (fun _ _ _ h => h) dX6_init_8 ?_
  refine v_nmS (fun s5 e_s5 => ?_)
  have h := Ok.nm h e_s5
  refine v_aload_n 0 dX6_init_11 rfl ?_
  refine v_iconst dX6_init_12 ic_4 ?_
  obtain ⟨g6, h⟩ := Ok.guard h
  obtain ⟨g7, h⟩ := Ok.guard h
  obtain ⟨g8, h⟩ := Ok.guard h
  refine nC_n (kd := 4) (t := 0) (N := 4) g7 (by decide) rfl (fun _ => rfl) q193 rfl rfl rfl (by decide) (by decide) (by decide) ⟨Nat.le_of_ble_eq_true rfl, Nat.le_of_ble_eq_true rfl⟩ dX6_init_13 (fun lc hc => ?_)
  rw [← hc 2 x0 ⟨by decide, g6⟩]
  have h := Ok.agc h hc (cnLe_mono g8)
  refine v_nmS (fun s9 e_s9 => ?_)
  have h := Ok.nm h e_s9
  obtain ⟨g10, h⟩ := Ok.guard h
  obtain ⟨g11, h⟩ := Ok.guard h
  refine pC_X6_15_2 g11 (fun _ _ _ h => h) dX6_init_15 ?_
  refine v_nmS (fun s12 e_s12 => ?_)
  have h := Ok.nm h e_s12
  refine v_aload_n 0 dX6_init_18 rfl ?_
  refine v_iconst dX6_init_19 ic_4 ?_
  obtain ⟨g13, h⟩ := Ok.guard h
  obtain ⟨g14, h⟩ := Ok.guard h
  obtain ⟨g15, h⟩ := Ok.guard h
  refine nC_n (kd := 5) (t := 1) (N := 4) g14 (by decide) rfl (fun _ => rfl) q194 rfl rfl rfl (by decide) (by decide) (by decide) ⟨Nat.le_of_ble_eq_true rfl, Nat.le_of_ble_eq_true rfl⟩ dX6_init_20 (fun lc hc => ?_)
  rw [← hc 2 x0 ⟨by decide, g13⟩]
  have h := Ok.agc h hc (cnLe_mono g15)
  refine v_nmS (fun s16 e_s16 => ?_)
  have h := Ok.nm h e_s16
  obtain ⟨g17, h⟩ := Ok.guard h
  obtain ⟨g18, h⟩ := Ok.guard h
  refine pC_X6_18_2 g18 (fun _ _ _ h => h) dX6_init_22 ?_
  refine v_nmS (fun s19 e_s19 => ?_)
  have h := Ok.nm h e_s19
  refine v_aload_n 0 dX6_init_25 rfl ?_
  refine v_iload_n 1 dX6_init_26 rfl ?_
  obtain ⟨g20, h⟩ := Ok.guard h
  refine pC_X6_22_2 g20 (fun _ _ _ h => h) dX6_init_27 ?_
  refine v_nmS (fun s21 e_s21 => ?_)
  have h := Ok.nm h e_s21
  have h := Ok.ret h
  exact v_vret rfl (Nat.le_of_ble_eq_true rfl) (Nat.le_of_ble_eq_true rfl) dX6_init_30 (h lc agc_rf)
theorem cC_X2_86_2 {l : Launch} {D : va_G} {dA : Nat → ClassId} {A : Nat → Prop} {pz b L : Nat} {xs : Nat → Int32} {lc : Nat → Nat → Nat} {s : tt_St} {cc : ByteArray} {nl : Nat} {rt : Option FieldType} {rm : Room} {tn : tt_Tn} {Q : tt_Fin} {pc : Nat} {lv : List (Nat × Value)} {rest : List Value} {ck cn : Nat} {x0 : Nat} {x1 : Int32} (hx0 : x0 < rdN s 2) {K : tt_St → Prop} (h : Ok (fC_X6_init s x0 x1) K) (hR : 1 + 1 ≤ rm.frames ∧ 8 + (2 + 11) + 20 ≤ rm.locals) (hW : (rest.map fun v => v.category).sum ≤ 8) (d : decode cc pc = .ok (.invokespecial 86, 3)) (kk : ∀ r, K r → ∀ lc', tt_agc (XC l D dA A pz b L xs) s lc lc' → tt_V (XC l D dA A pz b L xs) cc (RX2, nl, rt, rm, tn) Q (pc + 3) lv rest lc' r (ck + 3) (cn + 12)) (hf : ck + 3 ≤ rm.cells ∧ cn + 12 ≤ rm.slots) : tt_V (XC l D dA A pz b L xs) cc (RX2, nl, rt, rm, tn) Q pc lv (.int x1 :: .ref (lc 2 x0) :: rest) lc s ck cn :=
  v_callI (nA := 1) (As := [.int x1]) (mC_X6_init l D dA A pz b L xs lc s x0 x1 hx0 (Q := (fun v lc' s' => ∃ r, K r ∧ v = none ∧ tt_agc (XC l D dA A pz b L xs) s lc lc' ∧ s' = r)) (h.mono (fun r hr lc' ha => ⟨r, hr, rfl, ha, rfl⟩))) (lw_meth q336) q139 q334 q335 rfl (by decide +kernel) rfl hR hW hf d rfl (fun v lc' s' q => by obtain ⟨r, hr, e1, e2, e3⟩ := q; rw [e1, e3]; exact kk r hr lc' e2)
theorem sC_1 {l : Launch} {D : va_G} {dA : Nat → ClassId} {A : Nat → Prop} {pz b L : Nat} {xs : Nat → Int32} {lc : Nat → Nat → Nat} {s : tt_St} {cc : ByteArray} {Y : tt_Y} {Q : tt_Fin} {pc : Nat} {lv : List (Nat × Value)} {rest : List Value} {ck cn : Nat} {i x : Nat} {j : Int32} (hv : i < rdN s 1) (hx : x < rdN s 2) (g : inB j 40 = true) (d : decode cc pc = .ok (.aastore, 1)) (kk : tt_V (XC l D dA A pz b L xs) cc Y Q (pc + 1) lv rest lc (wrR s 1 i j.toNatClampNeg (some x)) ck cn) : tt_V (XC l D dA A pz b L xs) cc Y Q pc lv (.ref (lc 2 x) :: .int j :: .ref (lc 1 i) :: rest) lc s ck cn := v_aast (s' := wrR s 1 i j.toNatClampNeg (some x)) (t := 2) (kv := 2) (iv := x) (E := "TallTowers$Layer") ⟨by decide, hv⟩ aC_1 (by
  rw [aC_1]
  congr 7
  have hj := inB_lt g
  funext c
  unfold gC va_up
  by_cases hc : c = j.toNatClampNeg
  · rw [if_pos hc, if_pos (by omega), rdR_wrR, if_pos ⟨rfl, rfl, hc⟩]; rfl
  · rw [if_neg hc, rdR_wrR, if_neg (fun q => hc q.2.2)]) (fun kd' i' h => EC_of (fun c => rfl) (fun c => rfl) (fun c => by rw [rdR_wrR, if_neg (fun q => h ⟨q.1, q.2.1⟩)])) (fun _ _ z => z) rfl ⟨by decide, hx⟩ oC_2 rfl (.inl rfl) g d kk
theorem gC_X2_19_0 {l : Launch} {D : va_G} {dA : Nat → ClassId} {A : Nat → Prop} {pz b L : Nat} {xs : Nat → Int32} {lc : Nat → Nat → Nat} {s : tt_St} {cc : ByteArray} {nl : Nat} {rt : Option FieldType} {rm : Room} {tn : tt_Tn} {Q : tt_Fin} {pc : Nat} {lv : List (Nat × Value)} {rest : List Value} {ck cn : Nat} {i : Nat} (hv : i < rdN s 0) (d : decode cc pc = .ok (.getfield 19, 3)) (kk : tt_V (XC l D dA A pz b L xs) cc (RX2, nl, rt, rm, tn) Q (pc + 3) lv (va_rf (Option.map (lc 6) (rdR s 0 i 1)) :: rest) lc s ck cn) : tt_V (XC l D dA A pz b L xs) cc (RX2, nl, rt, rm, tn) Q pc lv (.ref (lc 0 i) :: rest) lc s ck cn := v_get (p := 1) ⟨by decide, hv⟩ oC_0 rfl in_X2 (by decide) q728 (.inl rfl) rfl d kk
theorem oC_7 {l : Launch} {D : va_G} {dA : Nat → ClassId} {A : Nat → Prop} {pz b L : Nat} {xs : Nat → Int32} {lc : Nat → Nat → Nat} {s : tt_St} {i : Nat} : tt_ent (XC l D dA A pz b L xs) lc s 7 i = .inr (2, [va_rf (Option.map (lc 8) (rdR s 7 i 0)), va_rf (Option.map (lc 9) (rdR s 7 i 1)), va_rf (Option.map (lc 10) (rdR s 7 i 2)), va_rf (Option.map (lc 11) (rdR s 7 i 3)), va_rf (Option.map (lc 12) (rdR s 7 i 4)), va_rf (Option.map (lc 13) (rdR s 7 i 5)), .int (rdI s 7 i 6), .int (rdI s 7 i 7), .int (rdI s 7 i 8), .int (rdI s 7 i 9), .long (rdL s 7 i 10), .int (rdI s 7 i 11)]) := rfl
def dfv_7 : List Value := [.null, .null, .null, .null, .null, .null, .int 0, .int 0, .int 0, .int 0, .long 0, .int 0]
theorem dfs_7 : ∀ j, j < 12 → defaultValue (tyX7 j) = vp_V dfv_7 j := fun j hj => match j, hj with
  | 0, _ => rfl
  | 1, _ => rfl
  | 2, _ => rfl
  | 3, _ => rfl
  | 4, _ => rfl
  | 5, _ => rfl
  | 6, _ => rfl
  | 7, _ => rfl
  | 8, _ => rfl
  | 9, _ => rfl
  | 10, _ => rfl
  | 11, _ => rfl
  | j + 12, hj => absurd hj (by omega)
theorem pC_X4_9_7 {l : Launch} {D : va_G} {dA : Nat → ClassId} {A : Nat → Prop} {pz b L : Nat} {xs : Nat → Int32} {lc : Nat → Nat → Nat} {s : tt_St} {cc : ByteArray} {nl : Nat} {rt : Option FieldType} {rm : Room} {tn : tt_Tn} {Q : tt_Fin} {pc : Nat} {lv : List (Nat × Value)} {rest : List Value} {ck cn : Nat} {i : Nat} (hv : i < rdN s 7) (hnm : ∀ c m s0, tn c m s0 → s0.methodNamed? yX4_init = some m) {x : Nat} (d : decode cc pc = .ok (.putfield 9, 3)) (kk : tt_V (XC l D dA A pz b L xs) cc (RX4, nl, rt, rm, tn) Q (pc + 3) lv rest lc (wrR s 7 i 0 (some x)) ck cn) : tt_V (XC l D dA A pz b L xs) cc (RX4, nl, rt, rm, tn) Q pc lv (.ref (lc 8 x) :: .ref (lc 7 i) :: rest) lc s ck cn := v_putF (y := yX4_init) (s' := wrR s 7 i 0 (some x)) (p := 0) hnm rfl ⟨by decide, hv⟩ oC_7 (by rw [oC_7]; simp [rdI_wrI, rdI_wrR, rdR_wrR, rdR_wrI, rdL_wrR, rdL_wrI, rdL_wrL, rdI_wrL, rdR_wrL, va_rf]) (fun kd' i' h => EC_of (fun c => rfl) (fun c => rfl) (fun c => by rw [rdR_wrR, if_neg (fun q => h ⟨q.1, q.2.1⟩)])) (fun _ _ z => z) rfl in_X7 tyX7 tyX7_ok nmX7 (by decide) q311 (.inl rfl) rfl rfl rfl rfl (Nat.le_of_ble_eq_true rfl) d kk
theorem pC_X4_15_7 {l : Launch} {D : va_G} {dA : Nat → ClassId} {A : Nat → Prop} {pz b L : Nat} {xs : Nat → Int32} {lc : Nat → Nat → Nat} {s : tt_St} {cc : ByteArray} {nl : Nat} {rt : Option FieldType} {rm : Room} {tn : tt_Tn} {Q : tt_Fin} {pc : Nat} {lv : List (Nat × Value)} {rest : List Value} {ck cn : Nat} {i : Nat} (hv : i < rdN s 7) (hnm : ∀ c m s0, tn c m s0 → s0.methodNamed? yX4_init = some m) {x : Nat} (d : decode cc pc = .ok (.putfield 15, 3)) (kk : tt_V (XC l D dA A pz b L xs) cc (RX4, nl, rt, rm, tn) Q (pc + 3) lv rest lc (wrR s 7 i 1 (some x)) ck cn) : tt_V (XC l D dA A pz b L xs) cc (RX4, nl, rt, rm, tn) Q pc lv (.ref (lc 9 x) :: .ref (lc 7 i) :: rest) lc s ck cn := v_putF (y := yX4_init) (s' := wrR s 7 i 1 (some x)) (p := 1) hnm rfl ⟨by decide, hv⟩ oC_7 (by rw [oC_7]; simp [rdI_wrI, rdI_wrR, rdR_wrR, rdR_wrI, rdL_wrR, rdL_wrI, rdL_wrL, rdI_wrL, rdR_wrL, va_rf]) (fun kd' i' h => EC_of (fun c => rfl) (fun c => rfl) (fun c => by rw [rdR_wrR, if_neg (fun q => h ⟨q.1, q.2.1⟩)])) (fun _ _ z => z) rfl in_X7 tyX7 tyX7_ok nmX7 (by decide) q314 (.inl rfl) rfl rfl rfl rfl (Nat.le_of_ble_eq_true rfl) d kk
def fC_X4_init_7 (s : tt_St) (x0 : Nat) : Option tt_St :=
  if okC s then nm (newA s 8) fun s2 => if (rdN s 8) < rdN s2 8 then if x0 < rdN s2 7 then nm (wrR s2 7 x0 0 (some (rdN s 8))) fun s5 => if x0 < rdN s5 7 then if okC s5 then if cnLe s s5 then nm (newA s5 9) fun s9 => if (rdN s5 9) < rdN s9 9 then if x0 < rdN s9 7 then nm (wrR s9 7 x0 1 (some (rdN s5 9))) fun s12 => some s12 else none else none else none else none else none else none else none else none
abbrev rmC_X4_init_7 : Room := { frames := 1, cells := 2, slots := 17, locals := 20 }
set_option maxHeartbeats 8000000 in
theorem mC_X4_init_7 (l : Launch) (D : va_G) (dA : Nat → ClassId) (A : Nat → Prop) (pz b L : Nat) (xs : Nat → Int32) (lc : Nat → Nat → Nat) (s : tt_St) (x0 : Nat) (hx0 : x0 < rdN s 7) {Q : Option Value → (Nat → Nat → Nat) → tt_St → Prop} (h : Ok (fC_X4_init_7 s x0) (fun r => ∀ lc', tt_agc (XC l D dA A pz b L xs) s lc lc' → Q none lc' r)) : tt_Sp (XC l D dA A pz b L xs) yX4_init cX4_init 1 none rmC_X4_init_7 [.ref (lc 7 x0)] lc s Q := by
  refine tt_Sp.ofVn plX4 kokC (Nat.le_of_ble_eq_true rfl) ?_
  show tt_V (XC l D dA A pz b L xs) cX4_init (RX4, 1, none, rmC_X4_init_7, tt_nw yX4_init) (tt_fn (XC l D dA A pz b L xs) (RX4, 1, none, rmC_X4_init_7, tt_nw yX4_init) Q) 0 [(0, .ref (lc 7 x0))] [] lc s 0 0
  unfold fC_X4_init_7 at h
  refine v_aload_n 0 dX4_init_0 rfl ?_
  refine v_objInit q293 q166 q167 (Nat.le_of_ble_eq_true rfl) (Nat.le_of_ble_eq_true rfl) (Nat.le_of_ble_eq_true rfl) dX4_init_1 ?_
  refine v_aload_n 0 dX4_init_4 rfl ?_
  refine v_bipush dX4_init_5 kb_10 ?_
  obtain ⟨g1, h⟩ := Ok.guard h
  refine nC_n (kd := 8) (t := 1) (N := 10) g1 (by decide) rfl (fun _ => rfl) q194 rfl rfl rfl (by decide) (by decide) (by decide) ⟨Nat.le_of_ble_eq_true rfl, Nat.le_of_ble_eq_true rfl⟩ dX4_init_7 (fun lc hc => ?_)
  rw [← hc 7 x0 ⟨by decide, hx0⟩]
  have h := Ok.agc h hc (fun _ _ h => h)
  refine v_nmS (fun s2 e_s2 => ?_)
  have h := Ok.nm h e_s2
  obtain ⟨g3, h⟩ := Ok.guard h
  obtain ⟨g4, h⟩ := Ok.guard h
  refine pC_X4_9_7 g4 (fun _ _ _ h => h) dX4_init_9 ?_
  refine v_nmS (fun s5 e_s5 => ?_)
  have h := Ok.nm h e_s5
  refine v_aload_n 0 dX4_init_12 rfl ?_
  refine v_bipush dX4_init_13 kb_7 ?_
  obtain ⟨g6, h⟩ := Ok.guard h
  obtain ⟨g7, h⟩ := Ok.guard h
  obtain ⟨g8, h⟩ := Ok.guard h
  refine nC_n (kd := 9) (t := 1) (N := 7) g7 (by decide) rfl (fun _ => rfl) q194 rfl rfl rfl (by decide) (by decide) (by decide) ⟨Nat.le_of_ble_eq_true rfl, Nat.le_of_ble_eq_true rfl⟩ dX4_init_15 (fun lc hc => ?_)
  rw [← hc 7 x0 ⟨by decide, g6⟩]
  have h := Ok.agc h hc (cnLe_mono g8)
  refine v_nmS (fun s9 e_s9 => ?_)
  have h := Ok.nm h e_s9
  obtain ⟨g10, h⟩ := Ok.guard h
  obtain ⟨g11, h⟩ := Ok.guard h
  refine pC_X4_15_7 g11 (fun _ _ _ h => h) dX4_init_17 ?_
  refine v_nmS (fun s12 e_s12 => ?_)
  have h := Ok.nm h e_s12
  have h := Ok.ret h
  exact v_vret rfl (Nat.le_of_ble_eq_true rfl) (Nat.le_of_ble_eq_true rfl) dX4_init_20 (h lc agc_rf)
theorem cC_X5_3_7 {l : Launch} {D : va_G} {dA : Nat → ClassId} {A : Nat → Prop} {pz b L : Nat} {xs : Nat → Int32} {lc : Nat → Nat → Nat} {s : tt_St} {cc : ByteArray} {nl : Nat} {rt : Option FieldType} {rm : Room} {tn : tt_Tn} {Q : tt_Fin} {pc : Nat} {lv : List (Nat × Value)} {rest : List Value} {ck cn : Nat} {x0 : Nat} (hx0 : x0 < rdN s 7) {K : tt_St → Prop} (h : Ok (fC_X4_init_7 s x0) K) (hR : 1 + 1 ≤ rm.frames ∧ 8 + (1 + 11) + 20 ≤ rm.locals) (hW : (rest.map fun v => v.category).sum ≤ 8) (d : decode cc pc = .ok (.invokespecial 3, 3)) (kk : ∀ r, K r → ∀ lc', tt_agc (XC l D dA A pz b L xs) s lc lc' → tt_V (XC l D dA A pz b L xs) cc (RX5, nl, rt, rm, tn) Q (pc + 3) lv rest lc' r (ck + 2) (cn + 17)) (hf : ck + 2 ≤ rm.cells ∧ cn + 17 ≤ rm.slots) : tt_V (XC l D dA A pz b L xs) cc (RX5, nl, rt, rm, tn) Q pc lv (.ref (lc 7 x0) :: rest) lc s ck cn :=
  v_callIN (nA := 0) (As := []) knC (mC_X4_init_7 l D dA A pz b L xs lc s x0 hx0 (Q := (fun v lc' s' => ∃ r, K r ∧ v = none ∧ tt_agc (XC l D dA A pz b L xs) s lc lc' ∧ s' = r)) (h.mono (fun r hr lc' ha => ⟨r, hr, rfl, ha, rfl⟩))) (lw_meth q292) q290 q137 q291 rfl (by decide +kernel) rfl hR hW hf d rfl (fun v lc' s' q => by obtain ⟨r, hr, e1, e2, e3⟩ := q; rw [e1, e3]; exact kk r hr lc' e2)
theorem pC_X5_9_7 {l : Launch} {D : va_G} {dA : Nat → ClassId} {A : Nat → Prop} {pz b L : Nat} {xs : Nat → Int32} {lc : Nat → Nat → Nat} {s : tt_St} {cc : ByteArray} {nl : Nat} {rt : Option FieldType} {rm : Room} {tn : tt_Tn} {Q : tt_Fin} {pc : Nat} {lv : List (Nat × Value)} {rest : List Value} {ck cn : Nat} {i : Nat} (hv : i < rdN s 7) (hnm : ∀ c m s0, tn c m s0 → s0.methodNamed? yX5_init = some m) {x : Nat} (d : decode cc pc = .ok (.putfield 9, 3)) (kk : tt_V (XC l D dA A pz b L xs) cc (RX5, nl, rt, rm, tn) Q (pc + 3) lv rest lc (wrR s 7 i 2 (some x)) ck cn) : tt_V (XC l D dA A pz b L xs) cc (RX5, nl, rt, rm, tn) Q pc lv (.ref (lc 10 x) :: .ref (lc 7 i) :: rest) lc s ck cn := v_putF (y := yX5_init) (s' := wrR s 7 i 2 (some x)) (p := 2) hnm rfl ⟨by decide, hv⟩ oC_7 (by rw [oC_7]; simp [rdI_wrI, rdI_wrR, rdR_wrR, rdR_wrI, rdL_wrR, rdL_wrI, rdL_wrL, rdI_wrL, rdR_wrL, va_rf]) (fun kd' i' h => EC_of (fun c => rfl) (fun c => rfl) (fun c => by rw [rdR_wrR, if_neg (fun q => h ⟨q.1, q.2.1⟩)])) (fun _ _ z => z) rfl in_X7 tyX7 tyX7_ok nmX7 (by decide) q294 (.inl rfl) rfl rfl rfl rfl (Nat.le_of_ble_eq_true rfl) d kk
theorem pC_X5_15_7 {l : Launch} {D : va_G} {dA : Nat → ClassId} {A : Nat → Prop} {pz b L : Nat} {xs : Nat → Int32} {lc : Nat → Nat → Nat} {s : tt_St} {cc : ByteArray} {nl : Nat} {rt : Option FieldType} {rm : Room} {tn : tt_Tn} {Q : tt_Fin} {pc : Nat} {lv : List (Nat × Value)} {rest : List Value} {ck cn : Nat} {i : Nat} (hv : i < rdN s 7) (hnm : ∀ c m s0, tn c m s0 → s0.methodNamed? yX5_init = some m) {x : Nat} (d : decode cc pc = .ok (.putfield 15, 3)) (kk : tt_V (XC l D dA A pz b L xs) cc (RX5, nl, rt, rm, tn) Q (pc + 3) lv rest lc (wrR s 7 i 3 (some x)) ck cn) : tt_V (XC l D dA A pz b L xs) cc (RX5, nl, rt, rm, tn) Q pc lv (.ref (lc 11 x) :: .ref (lc 7 i) :: rest) lc s ck cn := v_putF (y := yX5_init) (s' := wrR s 7 i 3 (some x)) (p := 3) hnm rfl ⟨by decide, hv⟩ oC_7 (by rw [oC_7]; simp [rdI_wrI, rdI_wrR, rdR_wrR, rdR_wrI, rdL_wrR, rdL_wrI, rdL_wrL, rdI_wrL, rdR_wrL, va_rf]) (fun kd' i' h => EC_of (fun c => rfl) (fun c => rfl) (fun c => by rw [rdR_wrR, if_neg (fun q => h ⟨q.1, q.2.1⟩)])) (fun _ _ z => z) rfl in_X7 tyX7 tyX7_ok nmX7 (by decide) q300 (.inl rfl) rfl rfl rfl rfl (Nat.le_of_ble_eq_true rfl) d kk
theorem pC_X5_18_7 {l : Launch} {D : va_G} {dA : Nat → ClassId} {A : Nat → Prop} {pz b L : Nat} {xs : Nat → Int32} {lc : Nat → Nat → Nat} {s : tt_St} {cc : ByteArray} {nl : Nat} {rt : Option FieldType} {rm : Room} {tn : tt_Tn} {Q : tt_Fin} {pc : Nat} {lv : List (Nat × Value)} {rest : List Value} {ck cn : Nat} {i : Nat} (hv : i < rdN s 7) (hnm : ∀ c m s0, tn c m s0 → s0.methodNamed? yX5_init = some m) {x : Nat} (d : decode cc pc = .ok (.putfield 18, 3)) (kk : tt_V (XC l D dA A pz b L xs) cc (RX5, nl, rt, rm, tn) Q (pc + 3) lv rest lc (wrR s 7 i 4 (some x)) ck cn) : tt_V (XC l D dA A pz b L xs) cc (RX5, nl, rt, rm, tn) Q pc lv (.ref (lc 12 x) :: .ref (lc 7 i) :: rest) lc s ck cn := v_putF (y := yX5_init) (s' := wrR s 7 i 4 (some x)) (p := 4) hnm rfl ⟨by decide, hv⟩ oC_7 (by rw [oC_7]; simp [rdI_wrI, rdI_wrR, rdR_wrR, rdR_wrI, rdL_wrR, rdL_wrI, rdL_wrL, rdI_wrL, rdR_wrL, va_rf]) (fun kd' i' h => EC_of (fun c => rfl) (fun c => rfl) (fun c => by rw [rdR_wrR, if_neg (fun q => h ⟨q.1, q.2.1⟩)])) (fun _ _ z => z) rfl in_X7 tyX7 tyX7_ok nmX7 (by decide) q305 (.inl rfl) rfl rfl rfl rfl (Nat.le_of_ble_eq_true rfl) d kk
theorem pC_X5_21_7 {l : Launch} {D : va_G} {dA : Nat → ClassId} {A : Nat → Prop} {pz b L : Nat} {xs : Nat → Int32} {lc : Nat → Nat → Nat} {s : tt_St} {cc : ByteArray} {nl : Nat} {rt : Option FieldType} {rm : Room} {tn : tt_Tn} {Q : tt_Fin} {pc : Nat} {lv : List (Nat × Value)} {rest : List Value} {ck cn : Nat} {i : Nat} (hv : i < rdN s 7) (hnm : ∀ c m s0, tn c m s0 → s0.methodNamed? yX5_init = some m) {x : Nat} (d : decode cc pc = .ok (.putfield 21, 3)) (kk : tt_V (XC l D dA A pz b L xs) cc (RX5, nl, rt, rm, tn) Q (pc + 3) lv rest lc (wrR s 7 i 5 (some x)) ck cn) : tt_V (XC l D dA A pz b L xs) cc (RX5, nl, rt, rm, tn) Q pc lv (.ref (lc 13 x) :: .ref (lc 7 i) :: rest) lc s ck cn := v_putF (y := yX5_init) (s' := wrR s 7 i 5 (some x)) (p := 5) hnm rfl ⟨by decide, hv⟩ oC_7 (by rw [oC_7]; simp [rdI_wrI, rdI_wrR, rdR_wrR, rdR_wrI, rdL_wrR, rdL_wrI, rdL_wrL, rdI_wrL, rdR_wrL, va_rf]) (fun kd' i' h => EC_of (fun c => rfl) (fun c => rfl) (fun c => by rw [rdR_wrR, if_neg (fun q => h ⟨q.1, q.2.1⟩)])) (fun _ _ z => z) rfl in_X7 tyX7 tyX7_ok nmX7 (by decide) q309 (.inl rfl) rfl rfl rfl rfl (Nat.le_of_ble_eq_true rfl) d kk
def fC_X5_init_7 (s : tt_St) (x0 : Nat) : Option tt_St :=
  (fC_X4_init_7 s x0).bind fun r1 => if x0 < rdN r1 7 then if okC r1 then if cnLe s r1 then nm (newA r1 10) fun s5 => if (rdN r1 10) < rdN s5 10 then if x0 < rdN s5 7 then nm (wrR s5 7 x0 2 (some (rdN r1 10))) fun s8 => if x0 < rdN s8 7 then if okC s8 then if cnLe r1 s8 then nm (newA s8 11) fun s12 => if (rdN s8 11) < rdN s12 11 then if x0 < rdN s12 7 then nm (wrR s12 7 x0 3 (some (rdN s8 11))) fun s15 => if x0 < rdN s15 7 then if okC s15 then if cnLe s8 s15 then nm (newA s15 12) fun s19 => if (rdN s15 12) < rdN s19 12 then if x0 < rdN s19 7 then nm (wrR s19 7 x0 4 (some (rdN s15 12))) fun s22 => if x0 < rdN s22 7 then if okC s22 then if cnLe s15 s22 then nm (newA s22 13) fun s26 => if (rdN s22 13) < rdN s26 13 then if x0 < rdN s26 7 then nm (wrR s26 7 x0 5 (some (rdN s22 13))) fun s29 => some s29 else none else none else none else none else none else none else none else none else none else none else none else none else none else none else none else none else none else none else none else none
abbrev rmC_X5_init_7 : Room := { frames := 2, cells := 6, slots := 297, locals := 40 }
set_option maxHeartbeats 8000000 in
theorem mC_X5_init_7 (l : Launch) (D : va_G) (dA : Nat → ClassId) (A : Nat → Prop) (pz b L : Nat) (xs : Nat → Int32) (lc : Nat → Nat → Nat) (s : tt_St) (x0 : Nat) (hx0 : x0 < rdN s 7) {Q : Option Value → (Nat → Nat → Nat) → tt_St → Prop} (h : Ok (fC_X5_init_7 s x0) (fun r => ∀ lc', tt_agc (XC l D dA A pz b L xs) s lc lc' → Q none lc' r)) : tt_Sp (XC l D dA A pz b L xs) yX5_init cX5_init 1 none rmC_X5_init_7 [.ref (lc 7 x0)] lc s Q := by
  refine tt_Sp.ofVn plX5 kokC (Nat.le_of_ble_eq_true rfl) ?_
  show tt_V (XC l D dA A pz b L xs) cX5_init (RX5, 1, none, rmC_X5_init_7, tt_nw yX5_init) (tt_fn (XC l D dA A pz b L xs) (RX5, 1, none, rmC_X5_init_7, tt_nw yX5_init) Q) 0 [(0, .ref (lc 7 x0))] [] lc s 0 0
  unfold fC_X5_init_7 at h
  refine v_aload_n 0 dX5_init_0 rfl ?_
  refine cC_X5_3_7 hx0 (Ok.bind h) ⟨Nat.le_of_ble_eq_true rfl, Nat.le_of_ble_eq_true rfl⟩ (Nat.le_of_ble_eq_true rfl) dX5_init_1 (fun r1 h lc hc => ?_) ⟨Nat.le_of_ble_eq_true rfl, Nat.le_of_ble_eq_true rfl⟩
  rw [← hc 7 x0 ⟨by decide, hx0⟩]
  have h := Ok.agc h hc (fun _ _ h => h)
  refine v_aload_n 0 dX5_init_4 rfl ?_
  refine v_bipush dX5_init_5 kb_40 ?_
  obtain ⟨g2, h⟩ := Ok.guard h
  obtain ⟨g3, h⟩ := Ok.guard h
  obtain ⟨g4, h⟩ := Ok.guard h
  refine nC_n (kd := 10) (t := 1) (N := 40) g3 (by decide) rfl (fun _ => rfl) q194 rfl rfl rfl (by decide) (by decide) (by decide) ⟨Nat.le_of_ble_eq_true rfl, Nat.le_of_ble_eq_true rfl⟩ dX5_init_7 (fun lc hc => ?_)
  rw [← hc 7 x0 ⟨by decide, g2⟩]
  have h := Ok.agc h hc (cnLe_mono g4)
  refine v_nmS (fun s5 e_s5 => ?_)
  have h := Ok.nm h e_s5
  obtain ⟨g6, h⟩ := Ok.guard h
  obtain ⟨g7, h⟩ := Ok.guard h
  refine pC_X5_9_7 g7 (fun _ _ _ h => h) dX5_init_9 ?_
  refine v_nmS (fun s8 e_s8 => ?_)
  have h := Ok.nm h e_s8
  refine v_aload_n 0 dX5_init_12 rfl ?_
  refine v_bipush dX5_init_13 kb_40 ?_
  obtain ⟨g9, h⟩ := Ok.guard h
  obtain ⟨g10, h⟩ := Ok.guard h
  obtain ⟨g11, h⟩ := Ok.guard h
  refine nC_n (kd := 11) (t := 1) (N := 40) g10 (by decide) rfl (fun _ => rfl) q194 rfl rfl rfl (by decide) (by decide) (by decide) ⟨Nat.le_of_ble_eq_true rfl, Nat.le_of_ble_eq_true rfl⟩ dX5_init_15 (fun lc hc => ?_)
  rw [← hc 7 x0 ⟨by decide, g9⟩]
  have h := Ok.agc h hc (cnLe_mono g11)
  refine v_nmS (fun s12 e_s12 => ?_)
  have h := Ok.nm h e_s12
  obtain ⟨g13, h⟩ := Ok.guard h
  obtain ⟨g14, h⟩ := Ok.guard h
  refine pC_X5_15_7 g14 (fun _ _ _ h => h) dX5_init_17 ?_
  refine v_nmS (fun s15 e_s15 => ?_)
  have h := Ok.nm h e_s15
  refine v_aload_n 0 dX5_init_20 rfl ?_
  refine v_bipush dX5_init_21 kb_40 ?_
  obtain ⟨g16, h⟩ := Ok.guard h
  obtain ⟨g17, h⟩ := Ok.guard h
  obtain ⟨g18, h⟩ := Ok.guard h
  refine nC_n (kd := 12) (t := 1) (N := 40) g17 (by decide) rfl (fun _ => rfl) q194 rfl rfl rfl (by decide) (by decide) (by decide) ⟨Nat.le_of_ble_eq_true rfl, Nat.le_of_ble_eq_true rfl⟩ dX5_init_23 (fun lc hc => ?_)
  rw [← hc 7 x0 ⟨by decide, g16⟩]
  have h := Ok.agc h hc (cnLe_mono g18)
  refine v_nmS (fun s19 e_s19 => ?_)
  have h := Ok.nm h e_s19
  obtain ⟨g20, h⟩ := Ok.guard h
  obtain ⟨g21, h⟩ := Ok.guard h
  refine pC_X5_18_7 g21 (fun _ _ _ h => h) dX5_init_25 ?_
  refine v_nmS (fun s22 e_s22 => ?_)
  have h := Ok.nm h e_s22
  refine v_aload_n 0 dX5_init_28 rfl ?_
  refine v_sipush dX5_init_29 ks_160 ?_
  obtain ⟨g23, h⟩ := Ok.guard h
  obtain ⟨g24, h⟩ := Ok.guard h
  obtain ⟨g25, h⟩ := Ok.guard h
  refine nC_n (kd := 13) (t := 1) (N := 160) g24 (by decide) rfl (fun _ => rfl) q194 rfl rfl rfl (by decide) (by decide) (by decide) ⟨Nat.le_of_ble_eq_true rfl, Nat.le_of_ble_eq_true rfl⟩ dX5_init_32 (fun lc hc => ?_)
  rw [← hc 7 x0 ⟨by decide, g23⟩]
  have h := Ok.agc h hc (cnLe_mono g25)
  refine v_nmS (fun s26 e_s26 => ?_)
  have h := Ok.nm h e_s26
  obtain ⟨g27, h⟩ := Ok.guard h
  obtain ⟨g28, h⟩ := Ok.guard h
  refine pC_X5_21_7 g28 (fun _ _ _ h => h) dX5_init_34 ?_
  refine v_nmS (fun s29 e_s29 => ?_)
  have h := Ok.nm h e_s29
  have h := Ok.ret h
  exact v_vret rfl (Nat.le_of_ble_eq_true rfl) (Nat.le_of_ble_eq_true rfl) dX5_init_37 (h lc agc_rf)
theorem cC_X7_1_7 {l : Launch} {D : va_G} {dA : Nat → ClassId} {A : Nat → Prop} {pz b L : Nat} {xs : Nat → Int32} {lc : Nat → Nat → Nat} {s : tt_St} {cc : ByteArray} {nl : Nat} {rt : Option FieldType} {rm : Room} {tn : tt_Tn} {Q : tt_Fin} {pc : Nat} {lv : List (Nat × Value)} {rest : List Value} {ck cn : Nat} {x0 : Nat} (hx0 : x0 < rdN s 7) {K : tt_St → Prop} (h : Ok (fC_X5_init_7 s x0) K) (hR : 2 + 1 ≤ rm.frames ∧ 8 + (1 + 11) + 40 ≤ rm.locals) (hW : (rest.map fun v => v.category).sum ≤ 8) (d : decode cc pc = .ok (.invokespecial 1, 3)) (kk : ∀ r, K r → ∀ lc', tt_agc (XC l D dA A pz b L xs) s lc lc' → tt_V (XC l D dA A pz b L xs) cc (RX7, nl, rt, rm, tn) Q (pc + 3) lv rest lc' r (ck + 6) (cn + 297)) (hf : ck + 6 ≤ rm.cells ∧ cn + 297 ≤ rm.slots) : tt_V (XC l D dA A pz b L xs) cc (RX7, nl, rt, rm, tn) Q pc lv (.ref (lc 7 x0) :: rest) lc s ck cn :=
  v_callIN (nA := 0) (As := []) knC (mC_X5_init_7 l D dA A pz b L xs lc s x0 hx0 (Q := (fun v lc' s' => ∃ r, K r ∧ v = none ∧ tt_agc (XC l D dA A pz b L xs) s lc lc' ∧ s' = r)) (h.mono (fun r hr lc' ha => ⟨r, hr, rfl, ha, rfl⟩))) (lw_meth q289) q397 q138 q288 rfl (by decide +kernel) rfl hR hW hf d rfl (fun v lc' s' q => by obtain ⟨r, hr, e1, e2, e3⟩ := q; rw [e1, e3]; exact kk r hr lc' e2)
def fC_X7_init (s : tt_St) (x0 : Nat) : Option tt_St :=
  (fC_X5_init_7 s x0).bind fun r1 => some r1
abbrev rmC_X7_init : Room := { frames := 3, cells := 6, slots := 297, locals := 60 }
set_option maxHeartbeats 8000000 in
theorem mC_X7_init (l : Launch) (D : va_G) (dA : Nat → ClassId) (A : Nat → Prop) (pz b L : Nat) (xs : Nat → Int32) (lc : Nat → Nat → Nat) (s : tt_St) (x0 : Nat) (hx0 : x0 < rdN s 7) {Q : Option Value → (Nat → Nat → Nat) → tt_St → Prop} (h : Ok (fC_X7_init s x0) (fun r => ∀ lc', tt_agc (XC l D dA A pz b L xs) s lc lc' → Q none lc' r)) : tt_Sp (XC l D dA A pz b L xs) yX7_init cX7_init 1 none rmC_X7_init [.ref (lc 7 x0)] lc s Q := by
  refine tt_Sp.ofVn plX7 kokC (Nat.le_of_ble_eq_true rfl) ?_
  show tt_V (XC l D dA A pz b L xs) cX7_init (RX7, 1, none, rmC_X7_init, tt_nw yX7_init) (tt_fn (XC l D dA A pz b L xs) (RX7, 1, none, rmC_X7_init, tt_nw yX7_init) Q) 0 [(0, .ref (lc 7 x0))] [] lc s 0 0
  unfold fC_X7_init at h
  refine v_aload_n 0 dX7_init_0 rfl ?_
  refine cC_X7_1_7 hx0 (Ok.bind h) ⟨Nat.le_of_ble_eq_true rfl, Nat.le_of_ble_eq_true rfl⟩ (Nat.le_of_ble_eq_true rfl) dX7_init_1 (fun r1 h lc hc => ?_) ⟨Nat.le_of_ble_eq_true rfl, Nat.le_of_ble_eq_true rfl⟩
  rw [← hc 7 x0 ⟨by decide, hx0⟩]
  have h := Ok.agc h hc (fun _ _ h => h)
  have h := Ok.ret h
  exact v_vret rfl (Nat.le_of_ble_eq_true rfl) (Nat.le_of_ble_eq_true rfl) dX7_init_4 (h lc agc_rf)
theorem cC_X2_89_7 {l : Launch} {D : va_G} {dA : Nat → ClassId} {A : Nat → Prop} {pz b L : Nat} {xs : Nat → Int32} {lc : Nat → Nat → Nat} {s : tt_St} {cc : ByteArray} {nl : Nat} {rt : Option FieldType} {rm : Room} {tn : tt_Tn} {Q : tt_Fin} {pc : Nat} {lv : List (Nat × Value)} {rest : List Value} {ck cn : Nat} {x0 : Nat} (hx0 : x0 < rdN s 7) {K : tt_St → Prop} (h : Ok (fC_X7_init s x0) K) (hR : 3 + 1 ≤ rm.frames ∧ 8 + (1 + 11) + 60 ≤ rm.locals) (hW : (rest.map fun v => v.category).sum ≤ 8) (d : decode cc pc = .ok (.invokespecial 89, 3)) (kk : ∀ r, K r → ∀ lc', tt_agc (XC l D dA A pz b L xs) s lc lc' → tt_V (XC l D dA A pz b L xs) cc (RX2, nl, rt, rm, tn) Q (pc + 3) lv rest lc' r (ck + 6) (cn + 297)) (hf : ck + 6 ≤ rm.cells ∧ cn + 297 ≤ rm.slots) : tt_V (XC l D dA A pz b L xs) cc (RX2, nl, rt, rm, tn) Q pc lv (.ref (lc 7 x0) :: rest) lc s ck cn :=
  v_callIN (nA := 0) (As := []) knC (mC_X7_init l D dA A pz b L xs lc s x0 hx0 (Q := (fun v lc' s' => ∃ r, K r ∧ v = none ∧ tt_agc (XC l D dA A pz b L xs) s lc lc' ∧ s' = r)) (h.mono (fun r hr lc' ha => ⟨r, hr, rfl, ha, rfl⟩))) (lw_meth q396) q394 q140 q395 rfl (by decide +kernel) rfl hR hW hf d rfl (fun v lc' s' q => by obtain ⟨r, hr, e1, e2, e3⟩ := q; rw [e1, e3]; exact kk r hr lc' e2)
theorem sC_6 {l : Launch} {D : va_G} {dA : Nat → ClassId} {A : Nat → Prop} {pz b L : Nat} {xs : Nat → Int32} {lc : Nat → Nat → Nat} {s : tt_St} {cc : ByteArray} {Y : tt_Y} {Q : tt_Fin} {pc : Nat} {lv : List (Nat × Value)} {rest : List Value} {ck cn : Nat} {i x : Nat} {j : Int32} (hv : i < rdN s 6) (hx : x < rdN s 7) (g : inB j 24 = true) (d : decode cc pc = .ok (.aastore, 1)) (kk : tt_V (XC l D dA A pz b L xs) cc Y Q (pc + 1) lv rest lc (wrR s 6 i j.toNatClampNeg (some x)) ck cn) : tt_V (XC l D dA A pz b L xs) cc Y Q pc lv (.ref (lc 7 x) :: .int j :: .ref (lc 6 i) :: rest) lc s ck cn := v_aast (s' := wrR s 6 i j.toNatClampNeg (some x)) (t := 3) (kv := 7) (iv := x) (E := "TallTowers$Harm") ⟨by decide, hv⟩ aC_6 (by
  rw [aC_6]
  congr 7
  have hj := inB_lt g
  funext c
  unfold gC va_up
  by_cases hc : c = j.toNatClampNeg
  · rw [if_pos hc, if_pos (by omega), rdR_wrR, if_pos ⟨rfl, rfl, hc⟩]; rfl
  · rw [if_neg hc, rdR_wrR, if_neg (fun q => hc q.2.2)]) (fun kd' i' h => EC_of (fun c => rfl) (fun c => rfl) (fun c => by rw [rdR_wrR, if_neg (fun q => h ⟨q.1, q.2.1⟩)])) (fun _ _ z => z) rfl ⟨by decide, hx⟩ oC_7 rfl (.inl rfl) g d kk
theorem gC_X2_56_0 {l : Launch} {D : va_G} {dA : Nat → ClassId} {A : Nat → Prop} {pz b L : Nat} {xs : Nat → Int32} {lc : Nat → Nat → Nat} {s : tt_St} {cc : ByteArray} {nl : Nat} {rt : Option FieldType} {rm : Room} {tn : tt_Tn} {Q : tt_Fin} {pc : Nat} {lv : List (Nat × Value)} {rest : List Value} {ck cn : Nat} {i : Nat} (hv : i < rdN s 0) (d : decode cc pc = .ok (.getfield 56, 3)) (kk : tt_V (XC l D dA A pz b L xs) cc (RX2, nl, rt, rm, tn) Q (pc + 3) lv (va_rf (Option.map (lc 31) (rdR s 0 i 11)) :: rest) lc s ck cn) : tt_V (XC l D dA A pz b L xs) cc (RX2, nl, rt, rm, tn) Q pc lv (.ref (lc 0 i) :: rest) lc s ck cn := v_get (p := 11) ⟨by decide, hv⟩ oC_0 rfl in_X2 (by decide) q745 (.inl rfl) rfl d kk
theorem oC_32 {l : Launch} {D : va_G} {dA : Nat → ClassId} {A : Nat → Prop} {pz b L : Nat} {xs : Nat → Int32} {lc : Nat → Nat → Nat} {s : tt_St} {i : Nat} : tt_ent (XC l D dA A pz b L xs) lc s 32 i = .inr (4, [.int (rdI s 32 i 0), .long (rdL s 32 i 1), .int (rdI s 32 i 2)]) := rfl
def dfv_32 : List Value := [.int 0, .long 0, .int 0]
theorem dfs_32 : ∀ j, j < 3 → defaultValue (tyX8 j) = vp_V dfv_32 j := fun j hj => match j, hj with
  | 0, _ => rfl
  | 1, _ => rfl
  | 2, _ => rfl
  | j + 3, hj => absurd hj (by omega)
theorem pC_X8_7_32 {l : Launch} {D : va_G} {dA : Nat → ClassId} {A : Nat → Prop} {pz b L : Nat} {xs : Nat → Int32} {lc : Nat → Nat → Nat} {s : tt_St} {cc : ByteArray} {nl : Nat} {rt : Option FieldType} {rm : Room} {tn : tt_Tn} {Q : tt_Fin} {pc : Nat} {lv : List (Nat × Value)} {rest : List Value} {ck cn : Nat} {i : Nat} (hv : i < rdN s 32) (hnm : ∀ c m s0, tn c m s0 → s0.methodNamed? yX8_init = some m) {x : Int32} (d : decode cc pc = .ok (.putfield 7, 3)) (kk : tt_V (XC l D dA A pz b L xs) cc (RX8, nl, rt, rm, tn) Q (pc + 3) lv rest lc (wrI s 32 i 0 x) ck cn) : tt_V (XC l D dA A pz b L xs) cc (RX8, nl, rt, rm, tn) Q pc lv (.int x :: .ref (lc 32 i) :: rest) lc s ck cn := v_putF (y := yX8_init) (s' := wrI s 32 i 0 x) (p := 0) hnm rfl ⟨by decide, hv⟩ oC_32 (by rw [oC_32]; simp [rdI_wrI, rdI_wrR, rdR_wrR, rdR_wrI, rdL_wrR, rdL_wrI, rdL_wrL, rdI_wrL, rdR_wrL, va_rf]) (fun kd' i' h => EC_of (fun c => by rw [rdI_wrI, if_neg (fun q => h ⟨q.1, q.2.1⟩)]) (fun c => rfl) (fun c => rfl)) (fun _ _ z => z) rfl in_X8 tyX8 tyX8_ok nmX8 (by decide) q436 (.inl rfl) rfl rfl rfl rfl (Nat.le_of_ble_eq_true rfl) d kk
def fC_X8_init (s : tt_St) (x0 : Nat) (x1 : Int32) : Option tt_St :=
  nm (wrI s 32 x0 0 x1) fun s1 => some s1
abbrev rmC_X8_init : Room := { frames := 1, cells := 0, slots := 0, locals := 20 }
set_option maxHeartbeats 8000000 in
theorem mC_X8_init (l : Launch) (D : va_G) (dA : Nat → ClassId) (A : Nat → Prop) (pz b L : Nat) (xs : Nat → Int32) (lc : Nat → Nat → Nat) (s : tt_St) (x0 : Nat) (x1 : Int32) (hx0 : x0 < rdN s 32) {Q : Option Value → (Nat → Nat → Nat) → tt_St → Prop} (h : Ok (fC_X8_init s x0 x1) (fun r => ∀ lc', tt_agc (XC l D dA A pz b L xs) s lc lc' → Q none lc' r)) : tt_Sp (XC l D dA A pz b L xs) yX8_init cX8_init 2 none rmC_X8_init [.ref (lc 32 x0), .int x1] lc s Q := by
  refine tt_Sp.ofVn plX8 kokC (Nat.le_of_ble_eq_true rfl) ?_
  show tt_V (XC l D dA A pz b L xs) cX8_init (RX8, 2, none, rmC_X8_init, tt_nw yX8_init) (tt_fn (XC l D dA A pz b L xs) (RX8, 2, none, rmC_X8_init, tt_nw yX8_init) Q) 0 [(0, .ref (lc 32 x0)), (1, .int x1)] [] lc s 0 0
  unfold fC_X8_init at h
  refine v_aload_n 0 dX8_init_0 rfl ?_
  refine v_objInit q435 q166 q167 (Nat.le_of_ble_eq_true rfl) (Nat.le_of_ble_eq_true rfl) (Nat.le_of_ble_eq_true rfl) dX8_init_1 ?_
  refine v_aload_n 0 dX8_init_4 rfl ?_
  refine v_iload_n 1 dX8_init_5 rfl ?_
  refine pC_X8_7_32 hx0 (fun _ _ _ h => h) dX8_init_6 ?_
  refine v_nmS (fun s1 e_s1 => ?_)
  have h := Ok.nm h e_s1
  have h := Ok.ret h
  exact v_vret rfl (Nat.le_of_ble_eq_true rfl) (Nat.le_of_ble_eq_true rfl) dX8_init_9 (h lc agc_rf)
theorem cC_X2_90_32 {l : Launch} {D : va_G} {dA : Nat → ClassId} {A : Nat → Prop} {pz b L : Nat} {xs : Nat → Int32} {lc : Nat → Nat → Nat} {s : tt_St} {cc : ByteArray} {nl : Nat} {rt : Option FieldType} {rm : Room} {tn : tt_Tn} {Q : tt_Fin} {pc : Nat} {lv : List (Nat × Value)} {rest : List Value} {ck cn : Nat} {x0 : Nat} {x1 : Int32} (hx0 : x0 < rdN s 32) {K : tt_St → Prop} (h : Ok (fC_X8_init s x0 x1) K) (hR : 1 + 1 ≤ rm.frames ∧ 8 + (2 + 11) + 20 ≤ rm.locals) (hW : (rest.map fun v => v.category).sum ≤ 8) (d : decode cc pc = .ok (.invokespecial 90, 3)) (kk : ∀ r, K r → ∀ lc', tt_agc (XC l D dA A pz b L xs) s lc lc' → tt_V (XC l D dA A pz b L xs) cc (RX2, nl, rt, rm, tn) Q (pc + 3) lv rest lc' r (ck + 0) (cn + 0)) (hf : ck + 0 ≤ rm.cells ∧ cn + 0 ≤ rm.slots) : tt_V (XC l D dA A pz b L xs) cc (RX2, nl, rt, rm, tn) Q pc lv (.int x1 :: .ref (lc 32 x0) :: rest) lc s ck cn :=
  v_callI (nA := 1) (As := [.int x1]) (mC_X8_init l D dA A pz b L xs lc s x0 x1 hx0 (Q := (fun v lc' s' => ∃ r, K r ∧ v = none ∧ tt_agc (XC l D dA A pz b L xs) s lc lc' ∧ s' = r)) (h.mono (fun r hr lc' ha => ⟨r, hr, rfl, ha, rfl⟩))) (lw_meth q434) q141 q432 q433 rfl (by decide +kernel) rfl hR hW hf d rfl (fun v lc' s' q => by obtain ⟨r, hr, e1, e2, e3⟩ := q; rw [e1, e3]; exact kk r hr lc' e2)
theorem sC_31 {l : Launch} {D : va_G} {dA : Nat → ClassId} {A : Nat → Prop} {pz b L : Nat} {xs : Nat → Int32} {lc : Nat → Nat → Nat} {s : tt_St} {cc : ByteArray} {Y : tt_Y} {Q : tt_Fin} {pc : Nat} {lv : List (Nat × Value)} {rest : List Value} {ck cn : Nat} {i x : Nat} {j : Int32} (hv : i < rdN s 31) (hx : x < rdN s 32) (g : inB j 12 = true) (d : decode cc pc = .ok (.aastore, 1)) (kk : tt_V (XC l D dA A pz b L xs) cc Y Q (pc + 1) lv rest lc (wrR s 31 i j.toNatClampNeg (some x)) ck cn) : tt_V (XC l D dA A pz b L xs) cc Y Q pc lv (.ref (lc 32 x) :: .int j :: .ref (lc 31 i) :: rest) lc s ck cn := v_aast (s' := wrR s 31 i j.toNatClampNeg (some x)) (t := 5) (kv := 32) (iv := x) (E := "TallTowers$Tower") ⟨by decide, hv⟩ aC_31 (by
  rw [aC_31]
  congr 7
  have hj := inB_lt g
  funext c
  unfold gC va_up
  by_cases hc : c = j.toNatClampNeg
  · rw [if_pos hc, if_pos (by omega), rdR_wrR, if_pos ⟨rfl, rfl, hc⟩]; rfl
  · rw [if_neg hc, rdR_wrR, if_neg (fun q => hc q.2.2)]) (fun kd' i' h => EC_of (fun c => rfl) (fun c => rfl) (fun c => by rw [rdR_wrR, if_neg (fun q => h ⟨q.1, q.2.1⟩)])) (fun _ _ z => z) rfl ⟨by decide, hx⟩ oC_32 rfl (.inl rfl) g d kk
theorem aC_36 {l : Launch} {D : va_G} {dA : Nat → ClassId} {A : Nat → Prop} {pz b L : Nat} {xs : Nat → Int32} {lc : Nat → Nat → Nat} {s : tt_St} {i : Nat} : tt_ent (XC l D dA A pz b L xs) lc s 36 i = .inl (dA 7, 4, .inr (.inr (.inr (.inr (gC lc s 36 i))))) := rfl
theorem oC_37 {l : Launch} {D : va_G} {dA : Nat → ClassId} {A : Nat → Prop} {pz b L : Nat} {xs : Nat → Int32} {lc : Nat → Nat → Nat} {s : tt_St} {i : Nat} : tt_ent (XC l D dA A pz b L xs) lc s 37 i = .inr (7, [va_rf (Option.map (lc 38) (rdR s 37 i 0))]) := rfl
def dfv_37 : List Value := [.null]
theorem dfs_37 : ∀ j, j < 1 → defaultValue (tyX9 j) = vp_V dfv_37 j := fun j hj => match j, hj with
  | 0, _ => rfl
  | j + 1, hj => absurd hj (by omega)
theorem pC_X9_7_37 {l : Launch} {D : va_G} {dA : Nat → ClassId} {A : Nat → Prop} {pz b L : Nat} {xs : Nat → Int32} {lc : Nat → Nat → Nat} {s : tt_St} {cc : ByteArray} {nl : Nat} {rt : Option FieldType} {rm : Room} {tn : tt_Tn} {Q : tt_Fin} {pc : Nat} {lv : List (Nat × Value)} {rest : List Value} {ck cn : Nat} {i : Nat} (hv : i < rdN s 37) (hnm : ∀ c m s0, tn c m s0 → s0.methodNamed? yX9_init = some m) {x : Nat} (d : decode cc pc = .ok (.putfield 7, 3)) (kk : tt_V (XC l D dA A pz b L xs) cc (RX9, nl, rt, rm, tn) Q (pc + 3) lv rest lc (wrR s 37 i 0 (some x)) ck cn) : tt_V (XC l D dA A pz b L xs) cc (RX9, nl, rt, rm, tn) Q pc lv (.ref (lc 38 x) :: .ref (lc 37 i) :: rest) lc s ck cn := v_putF (y := yX9_init) (s' := wrR s 37 i 0 (some x)) (p := 0) hnm rfl ⟨by decide, hv⟩ oC_37 (by rw [oC_37]; simp [rdI_wrI, rdI_wrR, rdR_wrR, rdR_wrI, rdL_wrR, rdL_wrI, rdL_wrL, rdI_wrL, rdR_wrL, va_rf]) (fun kd' i' h => EC_of (fun c => rfl) (fun c => rfl) (fun c => by rw [rdR_wrR, if_neg (fun q => h ⟨q.1, q.2.1⟩)])) (fun _ _ z => z) rfl in_X9 tyX9 tyX9_ok nmX9 (by decide) q522 (.inl rfl) rfl rfl rfl rfl (Nat.le_of_ble_eq_true rfl) d kk
def fC_X9_init (s : tt_St) (x0 : Nat) (x1 : Nat) : Option tt_St :=
  nm (wrR s 37 x0 0 (some x1)) fun s1 => some s1
abbrev rmC_X9_init : Room := { frames := 1, cells := 0, slots := 0, locals := 20 }
set_option maxHeartbeats 8000000 in
theorem mC_X9_init (l : Launch) (D : va_G) (dA : Nat → ClassId) (A : Nat → Prop) (pz b L : Nat) (xs : Nat → Int32) (lc : Nat → Nat → Nat) (s : tt_St) (x0 : Nat) (x1 : Nat) (hx0 : x0 < rdN s 37) (hx1 : x1 < rdN s 38) {Q : Option Value → (Nat → Nat → Nat) → tt_St → Prop} (h : Ok (fC_X9_init s x0 x1) (fun r => ∀ lc', tt_agc (XC l D dA A pz b L xs) s lc lc' → Q none lc' r)) : tt_Sp (XC l D dA A pz b L xs) yX9_init cX9_init 2 none rmC_X9_init [.ref (lc 37 x0), .ref (lc 38 x1)] lc s Q := by
  refine tt_Sp.ofVn plX9 kokC (Nat.le_of_ble_eq_true rfl) ?_
  show tt_V (XC l D dA A pz b L xs) cX9_init (RX9, 2, none, rmC_X9_init, tt_nw yX9_init) (tt_fn (XC l D dA A pz b L xs) (RX9, 2, none, rmC_X9_init, tt_nw yX9_init) Q) 0 [(0, .ref (lc 37 x0)), (1, .ref (lc 38 x1))] [] lc s 0 0
  unfold fC_X9_init at h
  refine v_aload_n 0 dX9_init_0 rfl ?_
  refine v_objInit q521 q166 q167 (Nat.le_of_ble_eq_true rfl) (Nat.le_of_ble_eq_true rfl) (Nat.le_of_ble_eq_true rfl) dX9_init_1 ?_
  refine v_aload_n 0 dX9_init_4 rfl ?_
  refine v_aload_n 1 dX9_init_5 rfl ?_
  refine pC_X9_7_37 hx0 (fun _ _ _ h => h) dX9_init_6 ?_
  refine v_nmS (fun s1 e_s1 => ?_)
  have h := Ok.nm h e_s1
  have h := Ok.ret h
  exact v_vret rfl (Nat.le_of_ble_eq_true rfl) (Nat.le_of_ble_eq_true rfl) dX9_init_9 (h lc agc_rf)
theorem cC_X2_97_37 {l : Launch} {D : va_G} {dA : Nat → ClassId} {A : Nat → Prop} {pz b L : Nat} {xs : Nat → Int32} {lc : Nat → Nat → Nat} {s : tt_St} {cc : ByteArray} {nl : Nat} {rt : Option FieldType} {rm : Room} {tn : tt_Tn} {Q : tt_Fin} {pc : Nat} {lv : List (Nat × Value)} {rest : List Value} {ck cn : Nat} {x0 : Nat} {x1 : Nat} (hx0 : x0 < rdN s 37) (hx1 : x1 < rdN s 38) {K : tt_St → Prop} (h : Ok (fC_X9_init s x0 x1) K) (hR : 1 + 1 ≤ rm.frames ∧ 8 + (2 + 11) + 20 ≤ rm.locals) (hW : (rest.map fun v => v.category).sum ≤ 8) (d : decode cc pc = .ok (.invokespecial 97, 3)) (kk : ∀ r, K r → ∀ lc', tt_agc (XC l D dA A pz b L xs) s lc lc' → tt_V (XC l D dA A pz b L xs) cc (RX2, nl, rt, rm, tn) Q (pc + 3) lv rest lc' r (ck + 0) (cn + 0)) (hf : ck + 0 ≤ rm.cells ∧ cn + 0 ≤ rm.slots) : tt_V (XC l D dA A pz b L xs) cc (RX2, nl, rt, rm, tn) Q pc lv (.ref (lc 38 x1) :: .ref (lc 37 x0) :: rest) lc s ck cn :=
  v_callI (nA := 1) (As := [.ref (lc 38 x1)]) (mC_X9_init l D dA A pz b L xs lc s x0 x1 hx0 hx1 (Q := (fun v lc' s' => ∃ r, K r ∧ v = none ∧ tt_agc (XC l D dA A pz b L xs) s lc lc' ∧ s' = r)) (h.mono (fun r hr lc' ha => ⟨r, hr, rfl, ha, rfl⟩))) (lw_meth q520) q142 q518 q519 rfl (by decide +kernel) rfl hR hW hf d rfl (fun v lc' s' q => by obtain ⟨r, hr, e1, e2, e3⟩ := q; rw [e1, e3]; exact kk r hr lc' e2)
theorem sC_36 {l : Launch} {D : va_G} {dA : Nat → ClassId} {A : Nat → Prop} {pz b L : Nat} {xs : Nat → Int32} {lc : Nat → Nat → Nat} {s : tt_St} {cc : ByteArray} {Y : tt_Y} {Q : tt_Fin} {pc : Nat} {lv : List (Nat × Value)} {rest : List Value} {ck cn : Nat} {i x : Nat} {j : Int32} (hv : i < rdN s 36) (hx : x < rdN s 37) (g : inB j 4 = true) (d : decode cc pc = .ok (.aastore, 1)) (kk : tt_V (XC l D dA A pz b L xs) cc Y Q (pc + 1) lv rest lc (wrR s 36 i j.toNatClampNeg (some x)) ck cn) : tt_V (XC l D dA A pz b L xs) cc Y Q pc lv (.ref (lc 37 x) :: .int j :: .ref (lc 36 i) :: rest) lc s ck cn := v_aast (s' := wrR s 36 i j.toNatClampNeg (some x)) (t := 7) (kv := 37) (iv := x) (E := "TallTowers$Spread") ⟨by decide, hv⟩ aC_36 (by
  rw [aC_36]
  congr 7
  have hj := inB_lt g
  funext c
  unfold gC va_up
  by_cases hc : c = j.toNatClampNeg
  · rw [if_pos hc, if_pos (by omega), rdR_wrR, if_pos ⟨rfl, rfl, hc⟩]; rfl
  · rw [if_neg hc, rdR_wrR, if_neg (fun q => hc q.2.2)]) (fun kd' i' h => EC_of (fun c => rfl) (fun c => rfl) (fun c => by rw [rdR_wrR, if_neg (fun q => h ⟨q.1, q.2.1⟩)])) (fun _ _ z => z) rfl ⟨by decide, hx⟩ oC_37 rfl (.inl rfl) g d kk
theorem pC_X2_103_0 {l : Launch} {D : va_G} {dA : Nat → ClassId} {A : Nat → Prop} {pz b L : Nat} {xs : Nat → Int32} {lc : Nat → Nat → Nat} {s : tt_St} {cc : ByteArray} {nl : Nat} {rt : Option FieldType} {rm : Room} {tn : tt_Tn} {Q : tt_Fin} {pc : Nat} {lv : List (Nat × Value)} {rest : List Value} {ck cn : Nat} {i : Nat} (hv : i < rdN s 0) (hnm : ∀ c m s0, tn c m s0 → s0.methodNamed? yX2_init = some m) {x : Nat} (d : decode cc pc = .ok (.putfield 103, 3)) (kk : tt_V (XC l D dA A pz b L xs) cc (RX2, nl, rt, rm, tn) Q (pc + 3) lv rest lc (wrR s 0 i 16 (some x)) ck cn) : tt_V (XC l D dA A pz b L xs) cc (RX2, nl, rt, rm, tn) Q pc lv (.ref (lc 36 x) :: .ref (lc 0 i) :: rest) lc s ck cn := v_putF (y := yX2_init) (s' := wrR s 0 i 16 (some x)) (p := 16) hnm rfl ⟨by decide, hv⟩ oC_0 (by rw [oC_0]; simp [rdI_wrI, rdI_wrR, rdR_wrR, rdR_wrI, rdL_wrR, rdL_wrI, rdL_wrL, rdI_wrL, rdR_wrL, va_rf]) (fun kd' i' h => EC_of (fun c => rfl) (fun c => rfl) (fun c => by rw [rdR_wrR, if_neg (fun q => h ⟨q.1, q.2.1⟩)])) (fun _ _ z => z) rfl in_X2 tyX2 tyX2_ok nmX2 (by decide) q752 (.inl rfl) rfl rfl rfl rfl (Nat.le_of_ble_eq_true rfl) d kk
def fC_X2_init_L214 (x0 : Nat) (s120 : tt_St) (a162 : Int32 × tt_St) : Option ((Int32 × tt_St) ⊕ (Int32 × tt_St)) :=
  if (12 : Int32) ≤ a162.1 then some (.inr (a162.1, a162.2)) else if x0 < rdN a162.2 0 then unO (rdR a162.2 0 x0 11) (rdN s178 31) fun o166 => if okC a162.2 then if cnLe s120 a162.2 then nm (newA a162.2 32) fun s169 => if (rdN a162.2 32) < rdN s169 32 then if o166 < rdN s169 31 then if x0 < rdN s169 0 then if cnLe a162.2 s169 then (fC_X8_init s169 (rdN a162.2 32) a162.1).bind fun r174 => if (rdN a162.2 32) < rdN r174 32 then if o166 < rdN r174 31 then if inB a162.1 12 then nm (wrR r174 31 o166 a162.1.toNatClampNeg (some (rdN a162.2 32))) fun s178 => some (.inl ((a162.1 + 1 : Int32), s178)) else none else none else none else none else none else none else none else none else none else none
def fC_X2_init_L187 (x0 : Nat) (s120 : tt_St) (a145 : Int32 × tt_St) : Option ((Int32 × tt_St) ⊕ (Int32 × tt_St)) :=
  if (24 : Int32) ≤ a145.1 then some (.inr (a145.1, a145.2)) else if x0 < rdN a145.2 0 then unO (rdR a145.2 0 x0 1) (rdN s161 6) fun o149 => if okC a145.2 then if cnLe s120 a145.2 then nm (newA a145.2 7) fun s152 => if (rdN a145.2 7) < rdN s152 7 then if o149 < rdN s152 6 then if x0 < rdN s152 0 then if cnLe a145.2 s152 then (fC_X7_init s152 (rdN a145.2 7)).bind fun r157 => if (rdN a145.2 7) < rdN r157 7 then if o149 < rdN r157 6 then if inB a145.1 24 then nm (wrR r157 6 o149 a145.1.toNatClampNeg (some (rdN a145.2 7))) fun s161 => some (.inl ((a145.1 + 1 : Int32), s161)) else none else none else none else none else none else none else none else none else none else none
def fC_X2_init_L159 (x0 : Nat) (s120 : tt_St) (a128 : Int32 × tt_St) : Option ((Int32 × tt_St) ⊕ (Int32 × tt_St)) :=
  if (40 : Int32) ≤ a128.1 then some (.inr (a128.1, a128.2)) else if x0 < rdN a128.2 0 then unO (rdR a128.2 0 x0 0) (rdN s144 1) fun o132 => if okC a128.2 then if cnLe s120 a128.2 then nm (newA a128.2 2) fun s135 => if (rdN a128.2 2) < rdN s135 2 then if o132 < rdN s135 1 then if x0 < rdN s135 0 then if cnLe a128.2 s135 then (fC_X6_init s135 (rdN a128.2 2) a128.1).bind fun r140 => if (rdN a128.2 2) < rdN r140 2 then if o132 < rdN r140 1 then if inB a128.1 40 then nm (wrR r140 1 o132 a128.1.toNatClampNeg (some (rdN a128.2 2))) fun s144 => some (.inl ((a128.1 + 1 : Int32), s144)) else none else none else none else none else none else none else none else none else none else none
def fC_X2_init (s : tt_St) (x0 : Nat) : Option tt_St :=
  if okC s then nm (newA s 1) fun s2 => if (rdN s 1) < rdN s2 1 then if x0 < rdN s2 0 then nm (wrR s2 0 x0 0 (some (rdN s 1))) fun s5 => if x0 < rdN s5 0 then if okC s5 then if cnLe s s5 then nm (newA s5 6) fun s9 => if (rdN s5 6) < rdN s9 6 then if x0 < rdN s9 0 then nm (wrR s9 0 x0 1 (some (rdN s5 6))) fun s12 => if x0 < rdN s12 0 then if okC s12 then if cnLe s5 s12 then nm (newM s12) fun s16 => if (rdN s12 21) < rdN s16 21 then if x0 < rdN s16 0 then nm (wrR s16 0 x0 2 (some (rdN s12 21))) fun s19 => if x0 < rdN s19 0 then if okC s19 then if cnLe s12 s19 then nm (newA s19 23) fun s23 => if (rdN s19 23) < rdN s23 23 then if x0 < rdN s23 0 then nm (wrR s23 0 x0 3 (some (rdN s19 23))) fun s26 => if x0 < rdN s26 0 then if okC s26 then if cnLe s19 s26 then nm (newA s26 24) fun s30 => if (rdN s26 24) < rdN s30 24 then if x0 < rdN s30 0 then nm (wrR s30 0 x0 4 (some (rdN s26 24))) fun s33 => if x0 < rdN s33 0 then if okC s33 then if cnLe s26 s33 then nm (newA s33 25) fun s37 => if (rdN s33 25) < rdN s37 25 then if x0 < rdN s37 0 then nm (wrR s37 0 x0 5 (some (rdN s33 25))) fun s40 => if x0 < rdN s40 0 then if okC s40 then if cnLe s33 s40 then nm (newA s40 26) fun s44 => if (rdN s40 26) < rdN s44 26 then if x0 < rdN s44 0 then nm (wrR s44 0 x0 6 (some (rdN s40 26))) fun s47 => if x0 < rdN s47 0 then if okC s47 then if cnLe s40 s47 then nm (newA s47 27) fun s51 => if (rdN s47 27) < rdN s51 27 then if x0 < rdN s51 0 then nm (wrR s51 0 x0 7 (some (rdN s47 27))) fun s54 => if x0 < rdN s54 0 then if okC s54 then if cnLe s47 s54 then nm (newA s54 28) fun s58 => if (rdN s54 28) < rdN s58 28 then if x0 < rdN s58 0 then nm (wrR s58 0 x0 8 (some (rdN s54 28))) fun s61 => if x0 < rdN s61 0 then if okC s61 then if cnLe s54 s61 then nm (newA s61 29) fun s65 => if (rdN s61 29) < rdN s65 29 then if x0 < rdN s65 0 then nm (wrR s65 0 x0 9 (some (rdN s61 29))) fun s68 => if x0 < rdN s68 0 then if okC s68 then if cnLe s61 s68 then nm (newA s68 30) fun s72 => if (rdN s68 30) < rdN s72 30 then if x0 < rdN s72 0 then nm (wrR s72 0 x0 10 (some (rdN s68 30))) fun s75 => if x0 < rdN s75 0 then if okC s75 then if cnLe s68 s75 then nm (newA s75 31) fun s79 => if (rdN s75 31) < rdN s79 31 then if x0 < rdN s79 0 then nm (wrR s79 0 x0 11 (some (rdN s75 31))) fun s82 => if x0 < rdN s82 0 then if okC s82 then if cnLe s75 s82 then nm (newA s82 33) fun s86 => if (rdN s82 33) < rdN s86 33 then if x0 < rdN s86 0 then if cnLe s82 s86 then (fC_X3_init s86 (rdN s82 33)).bind fun r90 => if (rdN s82 33) < rdN r90 33 then if x0 < rdN r90 0 then nm (wrR r90 0 x0 12 (some (rdN s82 33))) fun s93 => if x0 < rdN s93 0 then if okC s93 then if cnLe s86 s93 then nm (newA s93 34) fun s97 => if (rdN s93 34) < rdN s97 34 then if x0 < rdN s97 0 then unO (rdR s97 0 x0 12) (rdN s127 33) fun o100 => if cnLe s93 s97 then (fC_J2_init s97 (rdN s93 34) (12 : Int32) o100).bind fun r102 => if (rdN s93 34) < rdN r102 34 then if x0 < rdN r102 0 then nm (wrR r102 0 x0 13 (some (rdN s93 34))) fun s105 => if x0 < rdN s105 0 then if okC s105 then if cnLe s97 s105 then nm (newA s105 14) fun s109 => if (rdN s105 14) < rdN s109 14 then if x0 < rdN s109 0 then if cnLe s105 s109 then (fC_X5_init s109 (rdN s105 14)).bind fun r113 => if (rdN s105 14) < rdN r113 14 then if x0 < rdN r113 0 then nm (wrR r113 0 x0 14 (some (rdN s105 14))) fun s116 => if x0 < rdN s116 0 then if okC s116 then if cnLe s109 s116 then nm (newA s116 14) fun s120 => if (rdN s116 14) < rdN s120 14 then if x0 < rdN s120 0 then if cnLe s116 s120 then (fC_X5_init s120 (rdN s116 14)).bind fun r124 => if (rdN s116 14) < rdN r124 14 then if x0 < rdN r124 0 then nm (wrR r124 0 x0 15 (some (rdN s116 14))) fun s127 => (itr (fC_X2_init_L159 x0 s120) tt_fuel ((0 : Int32), s127)).bind fun b129 => (itr (fC_X2_init_L187 x0 s120) tt_fuel ((0 : Int32), b129.2)).bind fun b146 => (itr (fC_X2_init_L214 x0 s120) tt_fuel ((0 : Int32), b146.2)).bind fun b163 => if x0 < rdN b163.2 0 then if okC b163.2 then if cnLe s120 b163.2 then nm (newA b163.2 36) fun s182 => if (rdN b163.2 36) < rdN s182 36 then if x0 < rdN s182 0 then if okC s182 then if cnLe b163.2 s182 then nm (newA s182 37) fun s187 => if (rdN s182 37) < rdN s187 37 then if x0 < rdN s187 0 then if (rdN b163.2 36) < rdN s187 36 then if okC s187 then if cnLe s182 s187 then if rdN s187 38 % 4 = 0 then nm (newS s187 x0) fun s194 => if (rdN s187 38) < rdN s194 38 then if (rdN s182 37) < rdN s194 37 then if (rdN b163.2 36) < rdN s194 36 then if x0 < rdN s194 0 then if cnLe s187 s194 then (fC_X9_init s194 (rdN s182 37) (rdN s187 38)).bind fun r200 => if (rdN s182 37) < rdN r200 37 then if (rdN b163.2 36) < rdN r200 36 then if inB (0 : Int32) 4 then nm (wrR r200 36 (rdN b163.2 36) (0 : Int32).toNatClampNeg (some (rdN s182 37))) fun s204 => if (rdN b163.2 36) < rdN s204 36 then if x0 < rdN s204 0 then if okC s204 then if cnLe s194 s204 then nm (newA s204 37) fun s209 => if (rdN s204 37) < rdN s209 37 then if x0 < rdN s209 0 then if (rdN b163.2 36) < rdN s209 36 then if okC s209 then if cnLe s204 s209 then if rdN s209 38 % 4 = 1 then nm (newS s209 x0) fun s216 => if (rdN s209 38) < rdN s216 38 then if (rdN s204 37) < rdN s216 37 then if (rdN b163.2 36) < rdN s216 36 then if x0 < rdN s216 0 then if cnLe s209 s216 then (fC_X9_init s216 (rdN s204 37) (rdN s209 38)).bind fun r222 => if (rdN s204 37) < rdN r222 37 then if (rdN b163.2 36) < rdN r222 36 then if inB (1 : Int32) 4 then nm (wrR r222 36 (rdN b163.2 36) (1 : Int32).toNatClampNeg (some (rdN s204 37))) fun s226 => if (rdN b163.2 36) < rdN s226 36 then if x0 < rdN s226 0 then if okC s226 then if cnLe s216 s226 then nm (newA s226 37) fun s231 => if (rdN s226 37) < rdN s231 37 then if x0 < rdN s231 0 then if (rdN b163.2 36) < rdN s231 36 then if okC s231 then if cnLe s226 s231 then if rdN s231 38 % 4 = 2 then nm (newS s231 x0) fun s238 => if (rdN s231 38) < rdN s238 38 then if (rdN s226 37) < rdN s238 37 then if (rdN b163.2 36) < rdN s238 36 then if x0 < rdN s238 0 then if cnLe s231 s238 then (fC_X9_init s238 (rdN s226 37) (rdN s231 38)).bind fun r244 => if (rdN s226 37) < rdN r244 37 then if (rdN b163.2 36) < rdN r244 36 then if inB (2 : Int32) 4 then nm (wrR r244 36 (rdN b163.2 36) (2 : Int32).toNatClampNeg (some (rdN s226 37))) fun s248 => if (rdN b163.2 36) < rdN s248 36 then if x0 < rdN s248 0 then if okC s248 then if cnLe s238 s248 then nm (newA s248 37) fun s253 => if (rdN s248 37) < rdN s253 37 then if x0 < rdN s253 0 then if (rdN b163.2 36) < rdN s253 36 then if okC s253 then if cnLe s248 s253 then if rdN s253 38 % 4 = 3 then nm (newS s253 x0) fun s260 => if (rdN s253 38) < rdN s260 38 then if (rdN s248 37) < rdN s260 37 then if (rdN b163.2 36) < rdN s260 36 then if x0 < rdN s260 0 then if cnLe s253 s260 then (fC_X9_init s260 (rdN s248 37) (rdN s253 38)).bind fun r266 => if (rdN s248 37) < rdN r266 37 then if (rdN b163.2 36) < rdN r266 36 then if inB (3 : Int32) 4 then nm (wrR r266 36 (rdN b163.2 36) (3 : Int32).toNatClampNeg (some (rdN s248 37))) fun s270 => if (rdN b163.2 36) < rdN s270 36 then if x0 < rdN s270 0 then nm (wrR s270 0 x0 16 (some (rdN b163.2 36))) fun s273 => some s273 else none else none else none else none else none else none else none else none else none else none else none else none else none else none else none else none else none else none else none else none else none else none else none else none else none else none else none else none else none else none else none else none else none else none else none else none else none else none else none else none else none else none else none else none else none else none else none else none else none else none else none else none else none else none else none else none else none else none else none else none else none else none else none else none else none else none else none else none else none else none else none else none else none else none else none else none else none else none else none else none else none else none else none else none else none else none else none else none else none else none else none else none else none else none else none else none else none else none else none else none else none else none else none else none else none else none else none else none else none else none else none else none else none else none else none else none else none else none else none else none else none else none else none else none else none else none else none else none else none else none else none else none else none else none else none else none else none else none else none else none else none else none else none else none else none else none else none else none else none else none else none else none else none else none else none else none else none else none else none else none else none else none else none else none else none else none else none
abbrev rmC_X2_init : Room := { frames := 4, cells := 12050, slots := 335971, locals := 3080 }
set_option maxHeartbeats 8000000 in
theorem mC_X2_init (l : Launch) (D : va_G) (dA : Nat → ClassId) (A : Nat → Prop) (pz b L : Nat) (xs : Nat → Int32) (lc : Nat → Nat → Nat) (s : tt_St) (x0 : Nat) (hx0 : x0 < rdN s 0) {Q : Option Value → (Nat → Nat → Nat) → tt_St → Prop} (h : Ok (fC_X2_init s x0) (fun r => ∀ lc', tt_agc (XC l D dA A pz b L xs) s lc lc' → Q none lc' r)) : tt_Sp (XC l D dA A pz b L xs) yX2_init cX2_init 2 none rmC_X2_init [.ref (lc 0 x0)] lc s Q := by
  refine tt_Sp.ofVn plX2 kokC (Nat.le_of_ble_eq_true rfl) ?_
  show tt_V (XC l D dA A pz b L xs) cX2_init (RX2, 2, none, rmC_X2_init, tt_nw yX2_init) (tt_fn (XC l D dA A pz b L xs) (RX2, 2, none, rmC_X2_init, tt_nw yX2_init) Q) 0 [(0, .ref (lc 0 x0))] [] lc s 0 0
  unfold fC_X2_init at h
  refine v_aload_n 0 dX2_init_0 rfl ?_
  refine v_objInit q173 q166 q167 (Nat.le_of_ble_eq_true rfl) (Nat.le_of_ble_eq_true rfl) (Nat.le_of_ble_eq_true rfl) dX2_init_1 ?_
  refine v_aload_n 0 dX2_init_4 rfl ?_
  refine v_bipush dX2_init_5 kb_40 ?_
  obtain ⟨g1, h⟩ := Ok.guard h
  refine nC_q (kd := 1) (t := 2) (N := 40) g1 (by decide) q174 (fun U hU => hU.2.1 _ (by simp)) rfl rfl (by decide) (by decide) (by decide) ⟨Nat.le_of_ble_eq_true rfl, Nat.le_of_ble_eq_true rfl⟩ dX2_init_7 (fun lc hc => ?_)
  rw [← hc 0 x0 ⟨by decide, hx0⟩]
  have h := Ok.agc h hc (fun _ _ h => h)
  refine v_nmS (fun s2 e_s2 => ?_)
  have h := Ok.nm h e_s2
  obtain ⟨g3, h⟩ := Ok.guard h
  obtain ⟨g4, h⟩ := Ok.guard h
  refine pC_X2_11_0 g4 (fun _ _ _ h => h) dX2_init_10 ?_
  refine v_nmS (fun s5 e_s5 => ?_)
  have h := Ok.nm h e_s5
  refine v_aload_n 0 dX2_init_13 rfl ?_
  refine v_bipush dX2_init_14 kb_24 ?_
  obtain ⟨g6, h⟩ := Ok.guard h
  obtain ⟨g7, h⟩ := Ok.guard h
  obtain ⟨g8, h⟩ := Ok.guard h
  refine nC_q (kd := 6) (t := 3) (N := 24) g7 (by decide) q176 (fun U hU => hU.2.1 _ (by simp)) rfl rfl (by decide) (by decide) (by decide) ⟨Nat.le_of_ble_eq_true rfl, Nat.le_of_ble_eq_true rfl⟩ dX2_init_16 (fun lc hc => ?_)
  rw [← hc 0 x0 ⟨by decide, g6⟩]
  have h := Ok.agc h hc (cnLe_mono g8)
  refine v_nmS (fun s9 e_s9 => ?_)
  have h := Ok.nm h e_s9
  obtain ⟨g10, h⟩ := Ok.guard h
  obtain ⟨g11, h⟩ := Ok.guard h
  refine pC_X2_19_0 g11 (fun _ _ _ h => h) dX2_init_19 ?_
  refine v_nmS (fun s12 e_s12 => ?_)
  have h := Ok.nm h e_s12
  refine v_aload_n 0 dX2_init_22 rfl ?_
  refine v_bipush dX2_init_23 kb_12 ?_
  refine v_bipush dX2_init_25 kb_6 ?_
  obtain ⟨g13, h⟩ := Ok.guard h
  obtain ⟨g14, h⟩ := Ok.guard h
  obtain ⟨g15, h⟩ := Ok.guard h
  refine nC_m g14 q178 q193 ⟨Nat.le_of_ble_eq_true rfl, Nat.le_of_ble_eq_true rfl⟩ dX2_init_27 (fun lc hc => ?_)
  rw [← hc 0 x0 ⟨by decide, g13⟩]
  have h := Ok.agc h hc (cnLe_mono g15)
  refine v_nmS (fun s16 e_s16 => ?_)
  have h := Ok.nm h e_s16
  obtain ⟨g17, h⟩ := Ok.guard h
  obtain ⟨g18, h⟩ := Ok.guard h
  refine pC_X2_25_0 g18 (fun _ _ _ h => h) dX2_init_31 ?_
  refine v_nmS (fun s19 e_s19 => ?_)
  have h := Ok.nm h e_s19
  refine v_aload_n 0 dX2_init_34 rfl ?_
  refine v_bipush dX2_init_35 kb_12 ?_
  obtain ⟨g20, h⟩ := Ok.guard h
  obtain ⟨g21, h⟩ := Ok.guard h
  obtain ⟨g22, h⟩ := Ok.guard h
  refine nC_n (kd := 23) (t := 0) (N := 12) g21 (by decide) rfl (fun _ => rfl) q193 rfl rfl rfl (by decide) (by decide) (by decide) ⟨Nat.le_of_ble_eq_true rfl, Nat.le_of_ble_eq_true rfl⟩ dX2_init_37 (fun lc hc => ?_)
  rw [← hc 0 x0 ⟨by decide, g20⟩]
  have h := Ok.agc h hc (cnLe_mono g22)
  refine v_nmS (fun s23 e_s23 => ?_)
  have h := Ok.nm h e_s23
  obtain ⟨g24, h⟩ := Ok.guard h
  obtain ⟨g25, h⟩ := Ok.guard h
  refine pC_X2_28_0 g25 (fun _ _ _ h => h) dX2_init_39 ?_
  refine v_nmS (fun s26 e_s26 => ?_)
  have h := Ok.nm h e_s26
  refine v_aload_n 0 dX2_init_42 rfl ?_
  refine v_bipush dX2_init_43 kb_10 ?_
  obtain ⟨g27, h⟩ := Ok.guard h
  obtain ⟨g28, h⟩ := Ok.guard h
  obtain ⟨g29, h⟩ := Ok.guard h
  refine nC_n (kd := 24) (t := 0) (N := 10) g28 (by decide) rfl (fun _ => rfl) q193 rfl rfl rfl (by decide) (by decide) (by decide) ⟨Nat.le_of_ble_eq_true rfl, Nat.le_of_ble_eq_true rfl⟩ dX2_init_45 (fun lc hc => ?_)
  rw [← hc 0 x0 ⟨by decide, g27⟩]
  have h := Ok.agc h hc (cnLe_mono g29)
  refine v_nmS (fun s30 e_s30 => ?_)
  have h := Ok.nm h e_s30
  obtain ⟨g31, h⟩ := Ok.guard h
  obtain ⟨g32, h⟩ := Ok.guard h
  refine pC_X2_32_0 g32 (fun _ _ _ h => h) dX2_init_47 ?_
  refine v_nmS (fun s33 e_s33 => ?_)
  have h := Ok.nm h e_s33
  refine v_aload_n 0 dX2_init_50 rfl ?_
  refine v_bipush dX2_init_51 kb_10 ?_
  obtain ⟨g34, h⟩ := Ok.guard h
  obtain ⟨g35, h⟩ := Ok.guard h
  obtain ⟨g36, h⟩ := Ok.guard h
  refine nC_n (kd := 25) (t := 1) (N := 10) g35 (by decide) rfl (fun _ => rfl) q194 rfl rfl rfl (by decide) (by decide) (by decide) ⟨Nat.le_of_ble_eq_true rfl, Nat.le_of_ble_eq_true rfl⟩ dX2_init_53 (fun lc hc => ?_)
  rw [← hc 0 x0 ⟨by decide, g34⟩]
  have h := Ok.agc h hc (cnLe_mono g36)
  refine v_nmS (fun s37 e_s37 => ?_)
  have h := Ok.nm h e_s37
  obtain ⟨g38, h⟩ := Ok.guard h
  obtain ⟨g39, h⟩ := Ok.guard h
  refine pC_X2_35_0 g39 (fun _ _ _ h => h) dX2_init_55 ?_
  refine v_nmS (fun s40 e_s40 => ?_)
  have h := Ok.nm h e_s40
  refine v_aload_n 0 dX2_init_58 rfl ?_
  refine v_bipush dX2_init_59 kb_12 ?_
  obtain ⟨g41, h⟩ := Ok.guard h
  obtain ⟨g42, h⟩ := Ok.guard h
  obtain ⟨g43, h⟩ := Ok.guard h
  refine nC_n (kd := 26) (t := 1) (N := 12) g42 (by decide) rfl (fun _ => rfl) q194 rfl rfl rfl (by decide) (by decide) (by decide) ⟨Nat.le_of_ble_eq_true rfl, Nat.le_of_ble_eq_true rfl⟩ dX2_init_61 (fun lc hc => ?_)
  rw [← hc 0 x0 ⟨by decide, g41⟩]
  have h := Ok.agc h hc (cnLe_mono g43)
  refine v_nmS (fun s44 e_s44 => ?_)
  have h := Ok.nm h e_s44
  obtain ⟨g45, h⟩ := Ok.guard h
  obtain ⟨g46, h⟩ := Ok.guard h
  refine pC_X2_39_0 g46 (fun _ _ _ h => h) dX2_init_63 ?_
  refine v_nmS (fun s47 e_s47 => ?_)
  have h := Ok.nm h e_s47
  refine v_aload_n 0 dX2_init_66 rfl ?_
  refine v_bipush dX2_init_67 kb_12 ?_
  obtain ⟨g48, h⟩ := Ok.guard h
  obtain ⟨g49, h⟩ := Ok.guard h
  obtain ⟨g50, h⟩ := Ok.guard h
  refine nC_n (kd := 27) (t := 1) (N := 12) g49 (by decide) rfl (fun _ => rfl) q194 rfl rfl rfl (by decide) (by decide) (by decide) ⟨Nat.le_of_ble_eq_true rfl, Nat.le_of_ble_eq_true rfl⟩ dX2_init_69 (fun lc hc => ?_)
  rw [← hc 0 x0 ⟨by decide, g48⟩]
  have h := Ok.agc h hc (cnLe_mono g50)
  refine v_nmS (fun s51 e_s51 => ?_)
  have h := Ok.nm h e_s51
  obtain ⟨g52, h⟩ := Ok.guard h
  obtain ⟨g53, h⟩ := Ok.guard h
  refine pC_X2_42_0 g53 (fun _ _ _ h => h) dX2_init_71 ?_
  refine v_nmS (fun s54 e_s54 => ?_)
  have h := Ok.nm h e_s54
  refine v_aload_n 0 dX2_init_74 rfl ?_
  refine v_bipush dX2_init_75 kb_40 ?_
  obtain ⟨g55, h⟩ := Ok.guard h
  obtain ⟨g56, h⟩ := Ok.guard h
  obtain ⟨g57, h⟩ := Ok.guard h
  refine nC_n (kd := 28) (t := 1) (N := 40) g56 (by decide) rfl (fun _ => rfl) q194 rfl rfl rfl (by decide) (by decide) (by decide) ⟨Nat.le_of_ble_eq_true rfl, Nat.le_of_ble_eq_true rfl⟩ dX2_init_77 (fun lc hc => ?_)
  rw [← hc 0 x0 ⟨by decide, g55⟩]
  have h := Ok.agc h hc (cnLe_mono g57)
  refine v_nmS (fun s58 e_s58 => ?_)
  have h := Ok.nm h e_s58
  obtain ⟨g59, h⟩ := Ok.guard h
  obtain ⟨g60, h⟩ := Ok.guard h
  refine pC_X2_45_0 g60 (fun _ _ _ h => h) dX2_init_79 ?_
  refine v_nmS (fun s61 e_s61 => ?_)
  have h := Ok.nm h e_s61
  refine v_aload_n 0 dX2_init_82 rfl ?_
  refine v_bipush dX2_init_83 kb_40 ?_
  obtain ⟨g62, h⟩ := Ok.guard h
  obtain ⟨g63, h⟩ := Ok.guard h
  obtain ⟨g64, h⟩ := Ok.guard h
  refine nC_n (kd := 29) (t := 1) (N := 40) g63 (by decide) rfl (fun _ => rfl) q194 rfl rfl rfl (by decide) (by decide) (by decide) ⟨Nat.le_of_ble_eq_true rfl, Nat.le_of_ble_eq_true rfl⟩ dX2_init_85 (fun lc hc => ?_)
  rw [← hc 0 x0 ⟨by decide, g62⟩]
  have h := Ok.agc h hc (cnLe_mono g64)
  refine v_nmS (fun s65 e_s65 => ?_)
  have h := Ok.nm h e_s65
  obtain ⟨g66, h⟩ := Ok.guard h
  obtain ⟨g67, h⟩ := Ok.guard h
  refine pC_X2_48_0 g67 (fun _ _ _ h => h) dX2_init_87 ?_
  refine v_nmS (fun s68 e_s68 => ?_)
  have h := Ok.nm h e_s68
  refine v_aload_n 0 dX2_init_90 rfl ?_
  refine v_bipush dX2_init_91 kb_40 ?_
  obtain ⟨g69, h⟩ := Ok.guard h
  obtain ⟨g70, h⟩ := Ok.guard h
  obtain ⟨g71, h⟩ := Ok.guard h
  refine nC_n (kd := 30) (t := 1) (N := 40) g70 (by decide) rfl (fun _ => rfl) q194 rfl rfl rfl (by decide) (by decide) (by decide) ⟨Nat.le_of_ble_eq_true rfl, Nat.le_of_ble_eq_true rfl⟩ dX2_init_93 (fun lc hc => ?_)
  rw [← hc 0 x0 ⟨by decide, g69⟩]
  have h := Ok.agc h hc (cnLe_mono g71)
  refine v_nmS (fun s72 e_s72 => ?_)
  have h := Ok.nm h e_s72
  obtain ⟨g73, h⟩ := Ok.guard h
  obtain ⟨g74, h⟩ := Ok.guard h
  refine pC_X2_51_0 g74 (fun _ _ _ h => h) dX2_init_95 ?_
  refine v_nmS (fun s75 e_s75 => ?_)
  have h := Ok.nm h e_s75
  refine v_aload_n 0 dX2_init_98 rfl ?_
  refine v_bipush dX2_init_99 kb_12 ?_
  obtain ⟨g76, h⟩ := Ok.guard h
  obtain ⟨g77, h⟩ := Ok.guard h
  obtain ⟨g78, h⟩ := Ok.guard h
  refine nC_q (kd := 31) (t := 5) (N := 12) g77 (by decide) q180 (fun U hU => hU.2.1 _ (by simp)) rfl rfl (by decide) (by decide) (by decide) ⟨Nat.le_of_ble_eq_true rfl, Nat.le_of_ble_eq_true rfl⟩ dX2_init_101 (fun lc hc => ?_)
  rw [← hc 0 x0 ⟨by decide, g76⟩]
  have h := Ok.agc h hc (cnLe_mono g78)
  refine v_nmS (fun s79 e_s79 => ?_)
  have h := Ok.nm h e_s79
  obtain ⟨g80, h⟩ := Ok.guard h
  obtain ⟨g81, h⟩ := Ok.guard h
  refine pC_X2_56_0 g81 (fun _ _ _ h => h) dX2_init_104 ?_
  refine v_nmS (fun s82 e_s82 => ?_)
  have h := Ok.nm h e_s82
  refine v_aload_n 0 dX2_init_107 rfl ?_
  obtain ⟨g83, h⟩ := Ok.guard h
  obtain ⟨g84, h⟩ := Ok.guard h
  obtain ⟨g85, h⟩ := Ok.guard h
  refine nC_o (kd := 33) (ci := 5) (fs := dfv_33) g84 (by decide) rfl rfl in_X3 tyX3 tyX3_ok dfs_33 q182 q183 q129 ⟨Nat.le_of_ble_eq_true rfl, Nat.le_of_ble_eq_true rfl⟩ dX2_init_108 (fun lc hc => ?_)
  rw [← hc 0 x0 ⟨by decide, g83⟩]
  have h := Ok.agc h hc (cnLe_mono g85)
  refine v_nmS (fun s86 e_s86 => ?_)
  have h := Ok.nm h e_s86
  obtain ⟨g87, h⟩ := Ok.guard h
  refine v_dup dX2_init_111 rfl ?_
  obtain ⟨g88, h⟩ := Ok.guard h
  obtain ⟨g89, h⟩ := Ok.guard h
  refine cC_X2_62_33 g87 (Ok.bind h) ⟨Nat.le_of_ble_eq_true rfl, Nat.le_of_ble_eq_true rfl⟩ (Nat.le_of_ble_eq_true rfl) dX2_init_112 (fun r90 h lc hc => ?_) ⟨Nat.le_of_ble_eq_true rfl, Nat.le_of_ble_eq_true rfl⟩
  rw [← hc 0 x0 ⟨by decide, g88⟩]
  rw [← hc 33 (rdN s82 33) ⟨by decide, g87⟩]
  have h := Ok.agc h hc (cnLe_mono g89)
  obtain ⟨g91, h⟩ := Ok.guard h
  obtain ⟨g92, h⟩ := Ok.guard h
  refine pC_X2_63_0 g92 (fun _ _ _ h => h) dX2_init_115 ?_
  refine v_nmS (fun s93 e_s93 => ?_)
  have h := Ok.nm h e_s93
  refine v_aload_n 0 dX2_init_118 rfl ?_
  obtain ⟨g94, h⟩ := Ok.guard h
  obtain ⟨g95, h⟩ := Ok.guard h
  obtain ⟨g96, h⟩ := Ok.guard h
  refine nC_o (kd := 34) (ci := 6) (fs := dfv_34) g95 (by decide) rfl rfl in_J2 tyJ2 tyJ2_ok dfs_34 q195 q196 q132 ⟨Nat.le_of_ble_eq_true rfl, Nat.le_of_ble_eq_true rfl⟩ dX2_init_119 (fun lc hc => ?_)
  rw [← hc 0 x0 ⟨by decide, g94⟩]
  have h := Ok.agc h hc (cnLe_mono g96)
  refine v_nmS (fun s97 e_s97 => ?_)
  have h := Ok.nm h e_s97
  obtain ⟨g98, h⟩ := Ok.guard h
  refine v_dup dX2_init_122 rfl ?_
  refine v_bipush dX2_init_123 kb_12 ?_
  refine v_aload_n 0 dX2_init_125 rfl ?_
  obtain ⟨g99, h⟩ := Ok.guard h
  refine gC_X2_63_0 g99 dX2_init_126 ?_
  obtain ⟨o100, e_o100, g_o100, h⟩ := Ok.unO h
  rw [e_o100]
  show tt_V (XC l D dA A pz b L xs) cX2_init (RX2, 2, none, rmC_X2_init, tt_nw yX2_init) (tt_fn (XC l D dA A pz b L xs) (RX2, 2, none, rmC_X2_init, tt_nw yX2_init) Q) 129 [(0, .ref (lc 0 x0))] [.ref (lc 33 o100), .int (12 : Int32), .ref (lc 34 (rdN s93 34)), .ref (lc 34 (rdN s93 34)), .ref (lc 0 x0)] lc s97 26 341
  obtain ⟨g101, h⟩ := Ok.guard h
  refine cC_X2_69_34 g98 g_o100 (Ok.bind h) ⟨Nat.le_of_ble_eq_true rfl, Nat.le_of_ble_eq_true rfl⟩ (Nat.le_of_ble_eq_true rfl) dX2_init_129 (fun r102 h lc hc => ?_) ⟨Nat.le_of_ble_eq_true rfl, Nat.le_of_ble_eq_true rfl⟩
  rw [← hc 0 x0 ⟨by decide, g99⟩]
  rw [← hc 34 (rdN s93 34) ⟨by decide, g98⟩]
  have h := Ok.agc h hc (cnLe_mono g101)
  obtain ⟨g103, h⟩ := Ok.guard h
  obtain ⟨g104, h⟩ := Ok.guard h
  refine pC_X2_72_0 g104 (fun _ _ _ h => h) dX2_init_132 ?_
  refine v_nmS (fun s105 e_s105 => ?_)
  have h := Ok.nm h e_s105
  refine v_aload_n 0 dX2_init_135 rfl ?_
  obtain ⟨g106, h⟩ := Ok.guard h
  obtain ⟨g107, h⟩ := Ok.guard h
  obtain ⟨g108, h⟩ := Ok.guard h
  refine nC_o (kd := 14) (ci := 3) (fs := dfv_14) g107 (by decide) rfl rfl in_X5 tyX5 tyX5_ok dfs_14 q285 q286 q138 ⟨Nat.le_of_ble_eq_true rfl, Nat.le_of_ble_eq_true rfl⟩ dX2_init_136 (fun lc hc => ?_)
  rw [← hc 0 x0 ⟨by decide, g106⟩]
  have h := Ok.agc h hc (cnLe_mono g108)
  refine v_nmS (fun s109 e_s109 => ?_)
  have h := Ok.nm h e_s109
  obtain ⟨g110, h⟩ := Ok.guard h
  refine v_dup dX2_init_139 rfl ?_
  obtain ⟨g111, h⟩ := Ok.guard h
  obtain ⟨g112, h⟩ := Ok.guard h
  refine cC_X2_78_14 g110 (Ok.bind h) ⟨Nat.le_of_ble_eq_true rfl, Nat.le_of_ble_eq_true rfl⟩ (Nat.le_of_ble_eq_true rfl) dX2_init_140 (fun r113 h lc hc => ?_) ⟨Nat.le_of_ble_eq_true rfl, Nat.le_of_ble_eq_true rfl⟩
  rw [← hc 0 x0 ⟨by decide, g111⟩]
  rw [← hc 14 (rdN s105 14) ⟨by decide, g110⟩]
  have h := Ok.agc h hc (cnLe_mono g112)
  obtain ⟨g114, h⟩ := Ok.guard h
  obtain ⟨g115, h⟩ := Ok.guard h
  refine pC_X2_79_0 g115 (fun _ _ _ h => h) dX2_init_143 ?_
  refine v_nmS (fun s116 e_s116 => ?_)
  have h := Ok.nm h e_s116
  refine v_aload_n 0 dX2_init_146 rfl ?_
  obtain ⟨g117, h⟩ := Ok.guard h
  obtain ⟨g118, h⟩ := Ok.guard h
  obtain ⟨g119, h⟩ := Ok.guard h
  refine nC_o (kd := 14) (ci := 3) (fs := dfv_14) g118 (by decide) rfl rfl in_X5 tyX5 tyX5_ok dfs_14 q285 q286 q138 ⟨Nat.le_of_ble_eq_true rfl, Nat.le_of_ble_eq_true rfl⟩ dX2_init_147 (fun lc hc => ?_)
  rw [← hc 0 x0 ⟨by decide, g117⟩]
  have h := Ok.agc h hc (cnLe_mono g119)
  refine v_nmS (fun s120 e_s120 => ?_)
  have h := Ok.nm h e_s120
  obtain ⟨g121, h⟩ := Ok.guard h
  refine v_dup dX2_init_150 rfl ?_
  obtain ⟨g122, h⟩ := Ok.guard h
  obtain ⟨g123, h⟩ := Ok.guard h
  refine cC_X2_78_14 g121 (Ok.bind h) ⟨Nat.le_of_ble_eq_true rfl, Nat.le_of_ble_eq_true rfl⟩ (Nat.le_of_ble_eq_true rfl) dX2_init_151 (fun r124 h lc hc => ?_) ⟨Nat.le_of_ble_eq_true rfl, Nat.le_of_ble_eq_true rfl⟩
  rw [← hc 0 x0 ⟨by decide, g122⟩]
  rw [← hc 14 (rdN s116 14) ⟨by decide, g121⟩]
  have h := Ok.agc h hc (cnLe_mono g123)
  obtain ⟨g125, h⟩ := Ok.guard h
  obtain ⟨g126, h⟩ := Ok.guard h
  refine pC_X2_83_0 g126 (fun _ _ _ h => h) dX2_init_154 ?_
  refine v_nmS (fun s127 e_s127 => ?_)
  have h := Ok.nm h e_s127
  refine v_iconst dX2_init_157 ic_0 ?_
  refine v_istore_n [(1, .int (0 : Int32)), (0, .ref (lc 0 x0))] dX2_init_158 (Nat.le_of_ble_eq_true rfl) rfl ?_
  refine v_sub [1, 0] rfl ?_
  refine itr_loopK (c := 4) (d := 23) (E1 := 4041) (E2 := 23959) (R := fun lc' => tt_agc (XC l D dA A pz b L xs) s120 lc lc') (PV := fun lc ck cn (a128 : Int32 × tt_St) => tt_V (XC l D dA A pz b L xs) cX2_init (RX2, 2, none, rmC_X2_init, tt_nw yX2_init) (tt_fn (XC l D dA A pz b L xs) (RX2, 2, none, rmC_X2_init, tt_nw yX2_init) Q) 159 [(0, .ref (lc 0 x0)), (1, .int a128.1)] [] lc a128.2 ck cn) (PE := fun lc (b129 : Int32 × tt_St) => tt_V (XC l D dA A pz b L xs) cX2_init (RX2, 2, none, rmC_X2_init, tt_nw yX2_init) (tt_fn (XC l D dA A pz b L xs) (RX2, 2, none, rmC_X2_init, tt_nw yX2_init) Q) 185 [(0, .ref (lc 0 x0)), (1, .int b129.1)] [] lc b129.2 4041 23959) h (fun b129 h lc hc => ?_) (fun nq a128 h lc hc ck cn hq1 hq2 => ?_) lc agc_rf 41 959 (Nat.le_refl _) (Nat.le_refl _)
  · have h := Ok.agc h hc (fun _ _ h => h)
    refine v_iconst dX2_init_185 ic_0 ?_
    refine v_istore_n [(1, .int (0 : Int32)), (0, .ref (lc 0 x0))] dX2_init_186 (Nat.le_of_ble_eq_true rfl) rfl ?_
    refine v_sub [1, 0] rfl ?_
    refine itr_loopK (c := 7) (d := 309) (E1 := 11041) (E2 := 332959) (R := fun lc' => tt_agc (XC l D dA A pz b L xs) s120 lc lc') (PV := fun lc ck cn (a145 : Int32 × tt_St) => tt_V (XC l D dA A pz b L xs) cX2_init (RX2, 2, none, rmC_X2_init, tt_nw yX2_init) (tt_fn (XC l D dA A pz b L xs) (RX2, 2, none, rmC_X2_init, tt_nw yX2_init) Q) 187 [(0, .ref (lc 0 x0)), (1, .int a145.1)] [] lc a145.2 ck cn) (PE := fun lc (b146 : Int32 × tt_St) => tt_V (XC l D dA A pz b L xs) cX2_init (RX2, 2, none, rmC_X2_init, tt_nw yX2_init) (tt_fn (XC l D dA A pz b L xs) (RX2, 2, none, rmC_X2_init, tt_nw yX2_init) Q) 212 [(0, .ref (lc 0 x0)), (1, .int b146.1)] [] lc b146.2 11041 332959) h (fun b146 h lc hc => ?_) (fun nq a145 h lc hc ck cn hq1 hq2 => ?_) lc agc_rf 4041 23959 (Nat.le_refl _) (Nat.le_refl _)
    · have h := Ok.agc h hc (fun _ _ h => h)
      refine v_iconst dX2_init_212 ic_0 ?_
      refine v_istore_n [(1, .int (0 : Int32)), (0, .ref (lc 0 x0))] dX2_init_213 (Nat.le_of_ble_eq_true rfl) rfl ?_
      refine v_sub [1, 0] rfl ?_
      refine itr_loopK (c := 1) (d := 3) (E1 := 12041) (E2 := 335959) (R := fun lc' => tt_agc (XC l D dA A pz b L xs) s120 lc lc') (PV := fun lc ck cn (a162 : Int32 × tt_St) => tt_V (XC l D dA A pz b L xs) cX2_init (RX2, 2, none, rmC_X2_init, tt_nw yX2_init) (tt_fn (XC l D dA A pz b L xs) (RX2, 2, none, rmC_X2_init, tt_nw yX2_init) Q) 214 [(0, .ref (lc 0 x0)), (1, .int a162.1)] [] lc a162.2 ck cn) (PE := fun lc (b163 : Int32 × tt_St) => tt_V (XC l D dA A pz b L xs) cX2_init (RX2, 2, none, rmC_X2_init, tt_nw yX2_init) (tt_fn (XC l D dA A pz b L xs) (RX2, 2, none, rmC_X2_init, tt_nw yX2_init) Q) 240 [(0, .ref (lc 0 x0)), (1, .int b163.1)] [] lc b163.2 12041 335959) h (fun b163 h lc hc => ?_) (fun nq a162 h lc hc ck cn hq1 hq2 => ?_) lc agc_rf 11041 332959 (Nat.le_refl _) (Nat.le_refl _)
      · have h := Ok.agc h hc (fun _ _ h => h)
        refine v_aload_n 0 dX2_init_240 rfl ?_
        refine v_iconst dX2_init_241 ic_4 ?_
        obtain ⟨g179, h⟩ := Ok.guard h
        obtain ⟨g180, h⟩ := Ok.guard h
        obtain ⟨g181, h⟩ := Ok.guard h
        refine nC_q (kd := 36) (t := 7) (N := 4) g180 (by decide) q451 (fun U hU => hU.2.1 _ (by simp)) rfl rfl (by decide) (by decide) (by decide) ⟨Nat.le_of_ble_eq_true rfl, Nat.le_of_ble_eq_true rfl⟩ dX2_init_242 (fun lc hc => ?_)
        rw [← hc 0 x0 ⟨by decide, g179⟩]
        have h := Ok.agc h hc (cnLe_mono g181)
        refine v_nmS (fun s182 e_s182 => ?_)
        have h := Ok.nm h e_s182
        obtain ⟨g183, h⟩ := Ok.guard h
        refine v_dup dX2_init_245 rfl ?_
        refine v_iconst dX2_init_246 ic_0 ?_
        obtain ⟨g184, h⟩ := Ok.guard h
        obtain ⟨g185, h⟩ := Ok.guard h
        obtain ⟨g186, h⟩ := Ok.guard h
        refine nC_o (kd := 37) (ci := 7) (fs := dfv_37) g185 (by decide) rfl rfl in_X9 tyX9 tyX9_ok dfs_37 q451 q453 q142 ⟨Nat.le_of_ble_eq_true rfl, Nat.le_of_ble_eq_true rfl⟩ dX2_init_247 (fun lc hc => ?_)
        rw [← hc 0 x0 ⟨by decide, g184⟩]
        rw [← hc 36 (rdN b163.2 36) ⟨by decide, g183⟩]
        have h := Ok.agc h hc (cnLe_mono g186)
        refine v_nmS (fun s187 e_s187 => ?_)
        have h := Ok.nm h e_s187
        obtain ⟨g188, h⟩ := Ok.guard h
        refine v_dup dX2_init_250 rfl ?_
        refine v_aload_n 0 dX2_init_251 rfl ?_
        obtain ⟨g189, h⟩ := Ok.guard h
        obtain ⟨g190, h⟩ := Ok.guard h
        obtain ⟨g191, h⟩ := Ok.guard h
        obtain ⟨g192, h⟩ := Ok.guard h
        obtain ⟨g193, h⟩ := Ok.guard h
        refine nC_l (k := 0) g191 g189 g193 rfl (fun U hU => krW_0 (l := l) (D := D) (A := A) (b := true) U (kwC U hU)) lam_i1 (fun _ _ _ h => h) (Nat.le_of_ble_eq_true rfl) (Nat.le_of_ble_eq_true rfl) ⟨Nat.le_of_ble_eq_true rfl, Nat.le_of_ble_eq_true rfl⟩ dX2_init_252 (fun lc hc => ?_)
        rw [← hc 0 x0 ⟨by decide, g189⟩]
        rw [← hc 37 (rdN s182 37) ⟨by decide, g188⟩]
        rw [← hc 36 (rdN b163.2 36) ⟨by decide, g190⟩]
        have h := Ok.agc h hc (cnLe_mono g192)
        refine v_nmS (fun s194 e_s194 => ?_)
        have h := Ok.nm h e_s194
        obtain ⟨g195, h⟩ := Ok.guard h
        obtain ⟨g196, h⟩ := Ok.guard h
        obtain ⟨g197, h⟩ := Ok.guard h
        obtain ⟨g198, h⟩ := Ok.guard h
        obtain ⟨g199, h⟩ := Ok.guard h
        refine cC_X2_97_37 g196 g195 (Ok.bind h) ⟨Nat.le_of_ble_eq_true rfl, Nat.le_of_ble_eq_true rfl⟩ (Nat.le_of_ble_eq_true rfl) dX2_init_257 (fun r200 h lc hc => ?_) ⟨Nat.le_of_ble_eq_true rfl, Nat.le_of_ble_eq_true rfl⟩
        rw [← hc 0 x0 ⟨by decide, g198⟩]
        rw [← hc 37 (rdN s182 37) ⟨by decide, g196⟩]
        rw [← hc 36 (rdN b163.2 36) ⟨by decide, g197⟩]
        have h := Ok.agc h hc (cnLe_mono g199)
        obtain ⟨g201, h⟩ := Ok.guard h
        obtain ⟨g202, h⟩ := Ok.guard h
        obtain ⟨g203, h⟩ := Ok.guard h
        refine sC_36 g202 g201 g203 dX2_init_260 ?_
        refine v_nmS (fun s204 e_s204 => ?_)
        have h := Ok.nm h e_s204
        refine v_dup dX2_init_261 rfl ?_
        refine v_iconst dX2_init_262 ic_1 ?_
        obtain ⟨g205, h⟩ := Ok.guard h
        obtain ⟨g206, h⟩ := Ok.guard h
        obtain ⟨g207, h⟩ := Ok.guard h
        obtain ⟨g208, h⟩ := Ok.guard h
        refine nC_o (kd := 37) (ci := 7) (fs := dfv_37) g207 (by decide) rfl rfl in_X9 tyX9 tyX9_ok dfs_37 q451 q453 q142 ⟨Nat.le_of_ble_eq_true rfl, Nat.le_of_ble_eq_true rfl⟩ dX2_init_263 (fun lc hc => ?_)
        rw [← hc 0 x0 ⟨by decide, g206⟩]
        rw [← hc 36 (rdN b163.2 36) ⟨by decide, g205⟩]
        have h := Ok.agc h hc (cnLe_mono g208)
        refine v_nmS (fun s209 e_s209 => ?_)
        have h := Ok.nm h e_s209
        obtain ⟨g210, h⟩ := Ok.guard h
        refine v_dup dX2_init_266 rfl ?_
        refine v_aload_n 0 dX2_init_267 rfl ?_
        obtain ⟨g211, h⟩ := Ok.guard h
        obtain ⟨g212, h⟩ := Ok.guard h
        obtain ⟨g213, h⟩ := Ok.guard h
        obtain ⟨g214, h⟩ := Ok.guard h
        obtain ⟨g215, h⟩ := Ok.guard h
        refine nC_l (k := 1) g213 g211 g215 rfl (fun U hU => krW_1 (l := l) (D := D) (A := A) (b := true) U (kwC U hU)) lam_i2 (fun _ _ _ h => h) (Nat.le_of_ble_eq_true rfl) (Nat.le_of_ble_eq_true rfl) ⟨Nat.le_of_ble_eq_true rfl, Nat.le_of_ble_eq_true rfl⟩ dX2_init_268 (fun lc hc => ?_)
        rw [← hc 0 x0 ⟨by decide, g211⟩]
        rw [← hc 37 (rdN s204 37) ⟨by decide, g210⟩]
        rw [← hc 36 (rdN b163.2 36) ⟨by decide, g212⟩]
        have h := Ok.agc h hc (cnLe_mono g214)
        refine v_nmS (fun s216 e_s216 => ?_)
        have h := Ok.nm h e_s216
        obtain ⟨g217, h⟩ := Ok.guard h
        obtain ⟨g218, h⟩ := Ok.guard h
        obtain ⟨g219, h⟩ := Ok.guard h
        obtain ⟨g220, h⟩ := Ok.guard h
        obtain ⟨g221, h⟩ := Ok.guard h
        refine cC_X2_97_37 g218 g217 (Ok.bind h) ⟨Nat.le_of_ble_eq_true rfl, Nat.le_of_ble_eq_true rfl⟩ (Nat.le_of_ble_eq_true rfl) dX2_init_273 (fun r222 h lc hc => ?_) ⟨Nat.le_of_ble_eq_true rfl, Nat.le_of_ble_eq_true rfl⟩
        rw [← hc 0 x0 ⟨by decide, g220⟩]
        rw [← hc 37 (rdN s204 37) ⟨by decide, g218⟩]
        rw [← hc 36 (rdN b163.2 36) ⟨by decide, g219⟩]
        have h := Ok.agc h hc (cnLe_mono g221)
        obtain ⟨g223, h⟩ := Ok.guard h
        obtain ⟨g224, h⟩ := Ok.guard h
        obtain ⟨g225, h⟩ := Ok.guard h
        refine sC_36 g224 g223 g225 dX2_init_276 ?_
        refine v_nmS (fun s226 e_s226 => ?_)
        have h := Ok.nm h e_s226
        refine v_dup dX2_init_277 rfl ?_
        refine v_iconst dX2_init_278 ic_2 ?_
        obtain ⟨g227, h⟩ := Ok.guard h
        obtain ⟨g228, h⟩ := Ok.guard h
        obtain ⟨g229, h⟩ := Ok.guard h
        obtain ⟨g230, h⟩ := Ok.guard h
        refine nC_o (kd := 37) (ci := 7) (fs := dfv_37) g229 (by decide) rfl rfl in_X9 tyX9 tyX9_ok dfs_37 q451 q453 q142 ⟨Nat.le_of_ble_eq_true rfl, Nat.le_of_ble_eq_true rfl⟩ dX2_init_279 (fun lc hc => ?_)
        rw [← hc 0 x0 ⟨by decide, g228⟩]
        rw [← hc 36 (rdN b163.2 36) ⟨by decide, g227⟩]
        have h := Ok.agc h hc (cnLe_mono g230)
        refine v_nmS (fun s231 e_s231 => ?_)
        have h := Ok.nm h e_s231
        obtain ⟨g232, h⟩ := Ok.guard h
        refine v_dup dX2_init_282 rfl ?_
        refine v_aload_n 0 dX2_init_283 rfl ?_
        obtain ⟨g233, h⟩ := Ok.guard h
        obtain ⟨g234, h⟩ := Ok.guard h
        obtain ⟨g235, h⟩ := Ok.guard h
        obtain ⟨g236, h⟩ := Ok.guard h
        obtain ⟨g237, h⟩ := Ok.guard h
        refine nC_l (k := 2) g235 g233 g237 rfl (fun U hU => krW_2 (l := l) (D := D) (A := A) (b := true) U (kwC U hU)) lam_i3 (fun _ _ _ h => h) (Nat.le_of_ble_eq_true rfl) (Nat.le_of_ble_eq_true rfl) ⟨Nat.le_of_ble_eq_true rfl, Nat.le_of_ble_eq_true rfl⟩ dX2_init_284 (fun lc hc => ?_)
        rw [← hc 0 x0 ⟨by decide, g233⟩]
        rw [← hc 37 (rdN s226 37) ⟨by decide, g232⟩]
        rw [← hc 36 (rdN b163.2 36) ⟨by decide, g234⟩]
        have h := Ok.agc h hc (cnLe_mono g236)
        refine v_nmS (fun s238 e_s238 => ?_)
        have h := Ok.nm h e_s238
        obtain ⟨g239, h⟩ := Ok.guard h
        obtain ⟨g240, h⟩ := Ok.guard h
        obtain ⟨g241, h⟩ := Ok.guard h
        obtain ⟨g242, h⟩ := Ok.guard h
        obtain ⟨g243, h⟩ := Ok.guard h
        refine cC_X2_97_37 g240 g239 (Ok.bind h) ⟨Nat.le_of_ble_eq_true rfl, Nat.le_of_ble_eq_true rfl⟩ (Nat.le_of_ble_eq_true rfl) dX2_init_289 (fun r244 h lc hc => ?_) ⟨Nat.le_of_ble_eq_true rfl, Nat.le_of_ble_eq_true rfl⟩
        rw [← hc 0 x0 ⟨by decide, g242⟩]
        rw [← hc 37 (rdN s226 37) ⟨by decide, g240⟩]
        rw [← hc 36 (rdN b163.2 36) ⟨by decide, g241⟩]
        have h := Ok.agc h hc (cnLe_mono g243)
        obtain ⟨g245, h⟩ := Ok.guard h
        obtain ⟨g246, h⟩ := Ok.guard h
        obtain ⟨g247, h⟩ := Ok.guard h
        refine sC_36 g246 g245 g247 dX2_init_292 ?_
        refine v_nmS (fun s248 e_s248 => ?_)
        have h := Ok.nm h e_s248
        refine v_dup dX2_init_293 rfl ?_
        refine v_iconst dX2_init_294 ic_3 ?_
        obtain ⟨g249, h⟩ := Ok.guard h
        obtain ⟨g250, h⟩ := Ok.guard h
        obtain ⟨g251, h⟩ := Ok.guard h
        obtain ⟨g252, h⟩ := Ok.guard h
        refine nC_o (kd := 37) (ci := 7) (fs := dfv_37) g251 (by decide) rfl rfl in_X9 tyX9 tyX9_ok dfs_37 q451 q453 q142 ⟨Nat.le_of_ble_eq_true rfl, Nat.le_of_ble_eq_true rfl⟩ dX2_init_295 (fun lc hc => ?_)
        rw [← hc 0 x0 ⟨by decide, g250⟩]
        rw [← hc 36 (rdN b163.2 36) ⟨by decide, g249⟩]
        have h := Ok.agc h hc (cnLe_mono g252)
        refine v_nmS (fun s253 e_s253 => ?_)
        have h := Ok.nm h e_s253
        obtain ⟨g254, h⟩ := Ok.guard h
        refine v_dup dX2_init_298 rfl ?_
        refine v_aload_n 0 dX2_init_299 rfl ?_
        obtain ⟨g255, h⟩ := Ok.guard h
        obtain ⟨g256, h⟩ := Ok.guard h
        obtain ⟨g257, h⟩ := Ok.guard h
        obtain ⟨g258, h⟩ := Ok.guard h
        obtain ⟨g259, h⟩ := Ok.guard h
        refine nC_l (k := 3) g257 g255 g259 rfl (fun U hU => krW_3 (l := l) (D := D) (A := A) (b := true) U (kwC U hU)) lam_i4 (fun _ _ _ h => h) (Nat.le_of_ble_eq_true rfl) (Nat.le_of_ble_eq_true rfl) ⟨Nat.le_of_ble_eq_true rfl, Nat.le_of_ble_eq_true rfl⟩ dX2_init_300 (fun lc hc => ?_)
        rw [← hc 0 x0 ⟨by decide, g255⟩]
        rw [← hc 37 (rdN s248 37) ⟨by decide, g254⟩]
        rw [← hc 36 (rdN b163.2 36) ⟨by decide, g256⟩]
        have h := Ok.agc h hc (cnLe_mono g258)
        refine v_nmS (fun s260 e_s260 => ?_)
        have h := Ok.nm h e_s260
        obtain ⟨g261, h⟩ := Ok.guard h
        obtain ⟨g262, h⟩ := Ok.guard h
        obtain ⟨g263, h⟩ := Ok.guard h
        obtain ⟨g264, h⟩ := Ok.guard h
        obtain ⟨g265, h⟩ := Ok.guard h
        refine cC_X2_97_37 g262 g261 (Ok.bind h) ⟨Nat.le_of_ble_eq_true rfl, Nat.le_of_ble_eq_true rfl⟩ (Nat.le_of_ble_eq_true rfl) dX2_init_305 (fun r266 h lc hc => ?_) ⟨Nat.le_of_ble_eq_true rfl, Nat.le_of_ble_eq_true rfl⟩
        rw [← hc 0 x0 ⟨by decide, g264⟩]
        rw [← hc 37 (rdN s248 37) ⟨by decide, g262⟩]
        rw [← hc 36 (rdN b163.2 36) ⟨by decide, g263⟩]
        have h := Ok.agc h hc (cnLe_mono g265)
        obtain ⟨g267, h⟩ := Ok.guard h
        obtain ⟨g268, h⟩ := Ok.guard h
        obtain ⟨g269, h⟩ := Ok.guard h
        refine sC_36 g268 g267 g269 dX2_init_308 ?_
        refine v_nmS (fun s270 e_s270 => ?_)
        have h := Ok.nm h e_s270
        obtain ⟨g271, h⟩ := Ok.guard h
        obtain ⟨g272, h⟩ := Ok.guard h
        refine pC_X2_103_0 g272 (fun _ _ _ h => h) dX2_init_309 ?_
        refine v_nmS (fun s273 e_s273 => ?_)
        have h := Ok.nm h e_s273
        have h := Ok.ret h
        exact v_vret rfl (Nat.le_of_ble_eq_true rfl) (Nat.le_of_ble_eq_true rfl) dX2_init_312 (h lc agc_rf)
      · have h : Ok (fC_X2_init_L214 x0 s120 a162) _ := h
        unfold fC_X2_init_L214 at h
        have h := Ok.agc h hc (fun _ _ h => h)
        refine v_iload_n 1 dX2_init_214 rfl ?_
        refine v_bipush dX2_init_215 kb_12 ?_
        refine v_icmp_ge (tgt := 240) dX2_init_217 rfl (fun c164 => ?_) (fun c164 => ?_)
        · have h := Ok.pos h c164
          have h := Ok.ret h
          exact v_widen (by omega) (by omega) (h lc agc_rf)
        · have h := Ok.neg h c164
          refine v_aload_n 0 dX2_init_220 rfl ?_
          obtain ⟨g165, h⟩ := Ok.guard h
          refine gC_X2_56_0 g165 dX2_init_221 ?_
          obtain ⟨o166, e_o166, g_o166, h⟩ := Ok.unO h
          rw [e_o166]
          show tt_V (XC l D dA A pz b L xs) cX2_init (RX2, 2, none, rmC_X2_init, tt_nw yX2_init) (tt_fn (XC l D dA A pz b L xs) (RX2, 2, none, rmC_X2_init, tt_nw yX2_init) Q) 224 [(0, .ref (lc 0 x0)), (1, .int a162.1)] [.ref (lc 31 o166)] lc a162.2 (ck + 0) (cn + 0)
          refine v_iload_n 1 dX2_init_224 rfl ?_
          obtain ⟨g167, h⟩ := Ok.guard h
          obtain ⟨g168, h⟩ := Ok.guard h
          refine nC_o (kd := 32) (ci := 4) (fs := dfv_32) g167 (by decide) rfl rfl in_X8 tyX8 tyX8_ok dfs_32 q180 q431 q141 ⟨Nat.le_trans (m := 12041) (by omega) (Nat.le_of_ble_eq_true rfl), Nat.le_trans (m := 335959) (by omega) (Nat.le_of_ble_eq_true rfl)⟩ dX2_init_225 (fun lc hc => ?_)
          rw [← hc 0 x0 ⟨by decide, g165⟩]
          rw [← hc 31 o166 ⟨by decide, g_o166⟩]
          have h := Ok.agc h hc (cnLe_mono g168)
          refine v_nmS (fun s169 e_s169 => ?_)
          have h := Ok.nm h e_s169
          obtain ⟨g170, h⟩ := Ok.guard h
          refine v_dup dX2_init_228 rfl ?_
          refine v_iload_n 1 dX2_init_229 rfl ?_
          obtain ⟨g171, h⟩ := Ok.guard h
          obtain ⟨g172, h⟩ := Ok.guard h
          obtain ⟨g173, h⟩ := Ok.guard h
          refine cC_X2_90_32 g170 (Ok.bind h) ⟨Nat.le_of_ble_eq_true rfl, Nat.le_of_ble_eq_true rfl⟩ (Nat.le_of_ble_eq_true rfl) dX2_init_230 (fun r174 h lc hc => ?_) ⟨Nat.le_trans (m := 12041) (by omega) (Nat.le_of_ble_eq_true rfl), Nat.le_trans (m := 335959) (by omega) (Nat.le_of_ble_eq_true rfl)⟩
          rw [← hc 0 x0 ⟨by decide, g172⟩]
          rw [← hc 32 (rdN a162.2 32) ⟨by decide, g170⟩]
          rw [← hc 31 o166 ⟨by decide, g171⟩]
          have h := Ok.agc h hc (cnLe_mono g173)
          obtain ⟨g175, h⟩ := Ok.guard h
          obtain ⟨g176, h⟩ := Ok.guard h
          obtain ⟨g177, h⟩ := Ok.guard h
          refine sC_31 g176 g175 g177 dX2_init_233 ?_
          refine v_nmS (fun s178 e_s178 => ?_)
          have h := Ok.nm h e_s178
          refine v_iinc (v := (a162.1 + 1 : Int32)) 1 [(1, .int (a162.1 + 1 : Int32)), (0, .ref (lc 0 x0))] dX2_init_234 rfl (by rw [ic_1]) (Nat.le_of_ble_eq_true rfl) rfl ?_
          refine v_goto (tgt := 214) dX2_init_237 rfl ?_
          refine v_sub [1, 0] rfl ?_
          have h := Ok.ret h
          exact h lc agc_rf _ _ (by omega) (by omega)
    · have h : Ok (fC_X2_init_L187 x0 s120 a145) _ := h
      unfold fC_X2_init_L187 at h
      have h := Ok.agc h hc (fun _ _ h => h)
      refine v_iload_n 1 dX2_init_187 rfl ?_
      refine v_bipush dX2_init_188 kb_24 ?_
      refine v_icmp_ge (tgt := 212) dX2_init_190 rfl (fun c147 => ?_) (fun c147 => ?_)
      · have h := Ok.pos h c147
        have h := Ok.ret h
        exact v_widen (by omega) (by omega) (h lc agc_rf)
      · have h := Ok.neg h c147
        refine v_aload_n 0 dX2_init_193 rfl ?_
        obtain ⟨g148, h⟩ := Ok.guard h
        refine gC_X2_19_0 g148 dX2_init_194 ?_
        obtain ⟨o149, e_o149, g_o149, h⟩ := Ok.unO h
        rw [e_o149]
        show tt_V (XC l D dA A pz b L xs) cX2_init (RX2, 2, none, rmC_X2_init, tt_nw yX2_init) (tt_fn (XC l D dA A pz b L xs) (RX2, 2, none, rmC_X2_init, tt_nw yX2_init) Q) 197 [(0, .ref (lc 0 x0)), (1, .int a145.1)] [.ref (lc 6 o149)] lc a145.2 (ck + 0) (cn + 0)
        refine v_iload_n 1 dX2_init_197 rfl ?_
        obtain ⟨g150, h⟩ := Ok.guard h
        obtain ⟨g151, h⟩ := Ok.guard h
        refine nC_o (kd := 7) (ci := 2) (fs := dfv_7) g150 (by decide) rfl rfl in_X7 tyX7 tyX7_ok dfs_7 q176 q393 q140 ⟨Nat.le_trans (m := 11041) (by omega) (Nat.le_of_ble_eq_true rfl), Nat.le_trans (m := 332959) (by omega) (Nat.le_of_ble_eq_true rfl)⟩ dX2_init_198 (fun lc hc => ?_)
        rw [← hc 0 x0 ⟨by decide, g148⟩]
        rw [← hc 6 o149 ⟨by decide, g_o149⟩]
        have h := Ok.agc h hc (cnLe_mono g151)
        refine v_nmS (fun s152 e_s152 => ?_)
        have h := Ok.nm h e_s152
        obtain ⟨g153, h⟩ := Ok.guard h
        refine v_dup dX2_init_201 rfl ?_
        obtain ⟨g154, h⟩ := Ok.guard h
        obtain ⟨g155, h⟩ := Ok.guard h
        obtain ⟨g156, h⟩ := Ok.guard h
        refine cC_X2_89_7 g153 (Ok.bind h) ⟨Nat.le_of_ble_eq_true rfl, Nat.le_of_ble_eq_true rfl⟩ (Nat.le_of_ble_eq_true rfl) dX2_init_202 (fun r157 h lc hc => ?_) ⟨Nat.le_trans (m := 11041) (by omega) (Nat.le_of_ble_eq_true rfl), Nat.le_trans (m := 332959) (by omega) (Nat.le_of_ble_eq_true rfl)⟩
        rw [← hc 0 x0 ⟨by decide, g155⟩]
        rw [← hc 7 (rdN a145.2 7) ⟨by decide, g153⟩]
        rw [← hc 6 o149 ⟨by decide, g154⟩]
        have h := Ok.agc h hc (cnLe_mono g156)
        obtain ⟨g158, h⟩ := Ok.guard h
        obtain ⟨g159, h⟩ := Ok.guard h
        obtain ⟨g160, h⟩ := Ok.guard h
        refine sC_6 g159 g158 g160 dX2_init_205 ?_
        refine v_nmS (fun s161 e_s161 => ?_)
        have h := Ok.nm h e_s161
        refine v_iinc (v := (a145.1 + 1 : Int32)) 1 [(1, .int (a145.1 + 1 : Int32)), (0, .ref (lc 0 x0))] dX2_init_206 rfl (by rw [ic_1]) (Nat.le_of_ble_eq_true rfl) rfl ?_
        refine v_goto (tgt := 187) dX2_init_209 rfl ?_
        refine v_sub [1, 0] rfl ?_
        have h := Ok.ret h
        exact h lc agc_rf _ _ (by omega) (by omega)
  · have h : Ok (fC_X2_init_L159 x0 s120 a128) _ := h
    unfold fC_X2_init_L159 at h
    have h := Ok.agc h hc (fun _ _ h => h)
    refine v_iload_n 1 dX2_init_159 rfl ?_
    refine v_bipush dX2_init_160 kb_40 ?_
    refine v_icmp_ge (tgt := 185) dX2_init_162 rfl (fun c130 => ?_) (fun c130 => ?_)
    · have h := Ok.pos h c130
      have h := Ok.ret h
      exact v_widen (by omega) (by omega) (h lc agc_rf)
    · have h := Ok.neg h c130
      refine v_aload_n 0 dX2_init_165 rfl ?_
      obtain ⟨g131, h⟩ := Ok.guard h
      refine gC_X2_11_0 g131 dX2_init_166 ?_
      obtain ⟨o132, e_o132, g_o132, h⟩ := Ok.unO h
      rw [e_o132]
      show tt_V (XC l D dA A pz b L xs) cX2_init (RX2, 2, none, rmC_X2_init, tt_nw yX2_init) (tt_fn (XC l D dA A pz b L xs) (RX2, 2, none, rmC_X2_init, tt_nw yX2_init) Q) 169 [(0, .ref (lc 0 x0)), (1, .int a128.1)] [.ref (lc 1 o132)] lc a128.2 (ck + 0) (cn + 0)
      refine v_iload_n 1 dX2_init_169 rfl ?_
      obtain ⟨g133, h⟩ := Ok.guard h
      obtain ⟨g134, h⟩ := Ok.guard h
      refine nC_o (kd := 2) (ci := 1) (fs := dfv_2) g133 (by decide) rfl rfl in_X6 tyX6 tyX6_ok dfs_2 q174 q333 q139 ⟨Nat.le_trans (m := 4041) (by omega) (Nat.le_of_ble_eq_true rfl), Nat.le_trans (m := 23959) (by omega) (Nat.le_of_ble_eq_true rfl)⟩ dX2_init_170 (fun lc hc => ?_)
      rw [← hc 0 x0 ⟨by decide, g131⟩]
      rw [← hc 1 o132 ⟨by decide, g_o132⟩]
      have h := Ok.agc h hc (cnLe_mono g134)
      refine v_nmS (fun s135 e_s135 => ?_)
      have h := Ok.nm h e_s135
      obtain ⟨g136, h⟩ := Ok.guard h
      refine v_dup dX2_init_173 rfl ?_
      refine v_iload_n 1 dX2_init_174 rfl ?_
      obtain ⟨g137, h⟩ := Ok.guard h
      obtain ⟨g138, h⟩ := Ok.guard h
      obtain ⟨g139, h⟩ := Ok.guard h
      refine cC_X2_86_2 g136 (Ok.bind h) ⟨Nat.le_of_ble_eq_true rfl, Nat.le_of_ble_eq_true rfl⟩ (Nat.le_of_ble_eq_true rfl) dX2_init_175 (fun r140 h lc hc => ?_) ⟨Nat.le_trans (m := 4041) (by omega) (Nat.le_of_ble_eq_true rfl), Nat.le_trans (m := 23959) (by omega) (Nat.le_of_ble_eq_true rfl)⟩
      rw [← hc 0 x0 ⟨by decide, g138⟩]
      rw [← hc 2 (rdN a128.2 2) ⟨by decide, g136⟩]
      rw [← hc 1 o132 ⟨by decide, g137⟩]
      have h := Ok.agc h hc (cnLe_mono g139)
      obtain ⟨g141, h⟩ := Ok.guard h
      obtain ⟨g142, h⟩ := Ok.guard h
      obtain ⟨g143, h⟩ := Ok.guard h
      refine sC_1 g142 g141 g143 dX2_init_178 ?_
      refine v_nmS (fun s144 e_s144 => ?_)
      have h := Ok.nm h e_s144
      refine v_iinc (v := (a128.1 + 1 : Int32)) 1 [(1, .int (a128.1 + 1 : Int32)), (0, .ref (lc 0 x0))] dX2_init_179 rfl (by rw [ic_1]) (Nat.le_of_ble_eq_true rfl) rfl ?_
      refine v_goto (tgt := 159) dX2_init_182 rfl ?_
      refine v_sub [1, 0] rfl ?_
      have h := Ok.ret h
      exact h lc agc_rf _ _ (by omega) (by omega)
theorem cC_X1_9_0 {l : Launch} {D : va_G} {dA : Nat → ClassId} {A : Nat → Prop} {pz b L : Nat} {xs : Nat → Int32} {lc : Nat → Nat → Nat} {s : tt_St} {cc : ByteArray} {nl : Nat} {rt : Option FieldType} {rm : Room} {tn : tt_Tn} {Q : tt_Fin} {pc : Nat} {lv : List (Nat × Value)} {rest : List Value} {ck cn : Nat} {x0 : Nat} (hx0 : x0 < rdN s 0) {K : tt_St → Prop} (h : Ok (fC_X2_init s x0) K) (hR : 4 + 1 ≤ rm.frames ∧ 8 + (2 + 11) + 3080 ≤ rm.locals) (hW : (rest.map fun v => v.category).sum ≤ 8) (d : decode cc pc = .ok (.invokespecial 9, 3)) (kk : ∀ r, K r → ∀ lc', tt_agc (XC l D dA A pz b L xs) s lc lc' → tt_V (XC l D dA A pz b L xs) cc (RX1, nl, rt, rm, tn) Q (pc + 3) lv rest lc' r (ck + 12050) (cn + 335971)) (hf : ck + 12050 ≤ rm.cells ∧ cn + 335971 ≤ rm.slots) : tt_V (XC l D dA A pz b L xs) cc (RX1, nl, rt, rm, tn) Q pc lv (.ref (lc 0 x0) :: rest) lc s ck cn :=
  v_callI (nA := 0) (As := []) (mC_X2_init l D dA A pz b L xs lc s x0 hx0 (Q := (fun v lc' s' => ∃ r, K r ∧ v = none ∧ tt_agc (XC l D dA A pz b L xs) s lc lc' ∧ s' = r)) (h.mono (fun r hr lc' ha => ⟨r, hr, rfl, ha, rfl⟩))) (lw_meth q172) q128 q170 q171 rfl (by decide +kernel) rfl hR hW hf d rfl (fun v lc' s' q => by obtain ⟨r, hr, e1, e2, e3⟩ := q; rw [e1, e3]; exact kk r hr lc' e2)
theorem oC_50 {l : Launch} {D : va_G} {dA : Nat → ClassId} {A : Nat → Prop} {pz b L : Nat} {xs : Nat → Int32} {lc : Nat → Nat → Nat} {s : tt_St} {i : Nat} : tt_ent (XC l D dA A pz b L xs) lc s 50 i = .inr (8, [va_rf (Option.map (lc 0) (rdR s 50 i 0)), va_rf (Option.map (lc 0) (rdR s 50 i 1)), va_rf (Option.map (lc 7) (rdR s 50 i 2)), va_rf (Option.map (lc 51) (rdR s 50 i 3)), va_rf (Option.map (lc 54) (rdR s 50 i 4)), va_rf (Option.map (lc 56) (rdR s 50 i 5)), va_rf (Option.map (lc 59) (rdR s 50 i 6)), .int (rdI s 50 i 7), .int (rdI s 50 i 8)]) := rfl
def dfv_50 : List Value := [.null, .null, .null, .null, .null, .null, .null, .int 0, .int 0]
theorem dfs_50 : ∀ j, j < 9 → defaultValue (tyX1 j) = vp_V dfv_50 j := fun j hj => match j, hj with
  | 0, _ => rfl
  | 1, _ => rfl
  | 2, _ => rfl
  | 3, _ => rfl
  | 4, _ => rfl
  | 5, _ => rfl
  | 6, _ => rfl
  | 7, _ => rfl
  | 8, _ => rfl
  | j + 9, hj => absurd hj (by omega)
theorem pC_X1_10_50 {l : Launch} {D : va_G} {dA : Nat → ClassId} {A : Nat → Prop} {pz b L : Nat} {xs : Nat → Int32} {lc : Nat → Nat → Nat} {s : tt_St} {cc : ByteArray} {nl : Nat} {rt : Option FieldType} {rm : Room} {tn : tt_Tn} {Q : tt_Fin} {pc : Nat} {lv : List (Nat × Value)} {rest : List Value} {ck cn : Nat} {i : Nat} (hv : i < rdN s 50) (hnm : ∀ c m s0, tn c m s0 → s0.methodNamed? yX1_init = some m) {x : Nat} (d : decode cc pc = .ok (.putfield 10, 3)) (kk : tt_V (XC l D dA A pz b L xs) cc (RX1, nl, rt, rm, tn) Q (pc + 3) lv rest lc (wrR s 50 i 0 (some x)) ck cn) : tt_V (XC l D dA A pz b L xs) cc (RX1, nl, rt, rm, tn) Q pc lv (.ref (lc 0 x) :: .ref (lc 50 i) :: rest) lc s ck cn := v_putF (y := yX1_init) (s' := wrR s 50 i 0 (some x)) (p := 0) hnm rfl ⟨by decide, hv⟩ oC_50 (by rw [oC_50]; simp [rdI_wrI, rdI_wrR, rdR_wrR, rdR_wrI, rdL_wrR, rdL_wrI, rdL_wrL, rdI_wrL, rdR_wrL, va_rf]) (fun kd' i' h => EC_of (fun c => rfl) (fun c => rfl) (fun c => by rw [rdR_wrR, if_neg (fun q => h ⟨q.1, q.2.1⟩)])) (fun _ _ z => z) rfl in_X1 tyX1 tyX1_ok nmX1 (by decide) q892 (.inl rfl) rfl rfl rfl rfl (Nat.le_of_ble_eq_true rfl) d kk
theorem pC_X1_16_50 {l : Launch} {D : va_G} {dA : Nat → ClassId} {A : Nat → Prop} {pz b L : Nat} {xs : Nat → Int32} {lc : Nat → Nat → Nat} {s : tt_St} {cc : ByteArray} {nl : Nat} {rt : Option FieldType} {rm : Room} {tn : tt_Tn} {Q : tt_Fin} {pc : Nat} {lv : List (Nat × Value)} {rest : List Value} {ck cn : Nat} {i : Nat} (hv : i < rdN s 50) (hnm : ∀ c m s0, tn c m s0 → s0.methodNamed? yX1_init = some m) {x : Nat} (d : decode cc pc = .ok (.putfield 16, 3)) (kk : tt_V (XC l D dA A pz b L xs) cc (RX1, nl, rt, rm, tn) Q (pc + 3) lv rest lc (wrR s 50 i 1 (some x)) ck cn) : tt_V (XC l D dA A pz b L xs) cc (RX1, nl, rt, rm, tn) Q pc lv (.ref (lc 0 x) :: .ref (lc 50 i) :: rest) lc s ck cn := v_putF (y := yX1_init) (s' := wrR s 50 i 1 (some x)) (p := 1) hnm rfl ⟨by decide, hv⟩ oC_50 (by rw [oC_50]; simp [rdI_wrI, rdI_wrR, rdR_wrR, rdR_wrI, rdL_wrR, rdL_wrI, rdL_wrL, rdI_wrL, rdR_wrL, va_rf]) (fun kd' i' h => EC_of (fun c => rfl) (fun c => rfl) (fun c => by rw [rdR_wrR, if_neg (fun q => h ⟨q.1, q.2.1⟩)])) (fun _ _ z => z) rfl in_X1 tyX1 tyX1_ok nmX1 (by decide) q893 (.inl rfl) rfl rfl rfl rfl (Nat.le_of_ble_eq_true rfl) d kk
theorem cC_X1_21_7 {l : Launch} {D : va_G} {dA : Nat → ClassId} {A : Nat → Prop} {pz b L : Nat} {xs : Nat → Int32} {lc : Nat → Nat → Nat} {s : tt_St} {cc : ByteArray} {nl : Nat} {rt : Option FieldType} {rm : Room} {tn : tt_Tn} {Q : tt_Fin} {pc : Nat} {lv : List (Nat × Value)} {rest : List Value} {ck cn : Nat} {x0 : Nat} (hx0 : x0 < rdN s 7) {K : tt_St → Prop} (h : Ok (fC_X7_init s x0) K) (hR : 3 + 1 ≤ rm.frames ∧ 8 + (1 + 11) + 60 ≤ rm.locals) (hW : (rest.map fun v => v.category).sum ≤ 8) (d : decode cc pc = .ok (.invokespecial 21, 3)) (kk : ∀ r, K r → ∀ lc', tt_agc (XC l D dA A pz b L xs) s lc lc' → tt_V (XC l D dA A pz b L xs) cc (RX1, nl, rt, rm, tn) Q (pc + 3) lv rest lc' r (ck + 6) (cn + 297)) (hf : ck + 6 ≤ rm.cells ∧ cn + 297 ≤ rm.slots) : tt_V (XC l D dA A pz b L xs) cc (RX1, nl, rt, rm, tn) Q pc lv (.ref (lc 7 x0) :: rest) lc s ck cn :=
  v_callIN (nA := 0) (As := []) knC (mC_X7_init l D dA A pz b L xs lc s x0 hx0 (Q := (fun v lc' s' => ∃ r, K r ∧ v = none ∧ tt_agc (XC l D dA A pz b L xs) s lc lc' ∧ s' = r)) (h.mono (fun r hr lc' ha => ⟨r, hr, rfl, ha, rfl⟩))) (lw_meth q396) q816 q140 q395 rfl (by decide +kernel) rfl hR hW hf d rfl (fun v lc' s' q => by obtain ⟨r, hr, e1, e2, e3⟩ := q; rw [e1, e3]; exact kk r hr lc' e2)
theorem pC_X1_22_50 {l : Launch} {D : va_G} {dA : Nat → ClassId} {A : Nat → Prop} {pz b L : Nat} {xs : Nat → Int32} {lc : Nat → Nat → Nat} {s : tt_St} {cc : ByteArray} {nl : Nat} {rt : Option FieldType} {rm : Room} {tn : tt_Tn} {Q : tt_Fin} {pc : Nat} {lv : List (Nat × Value)} {rest : List Value} {ck cn : Nat} {i : Nat} (hv : i < rdN s 50) (hnm : ∀ c m s0, tn c m s0 → s0.methodNamed? yX1_init = some m) {x : Nat} (d : decode cc pc = .ok (.putfield 22, 3)) (kk : tt_V (XC l D dA A pz b L xs) cc (RX1, nl, rt, rm, tn) Q (pc + 3) lv rest lc (wrR s 50 i 2 (some x)) ck cn) : tt_V (XC l D dA A pz b L xs) cc (RX1, nl, rt, rm, tn) Q pc lv (.ref (lc 7 x) :: .ref (lc 50 i) :: rest) lc s ck cn := v_putF (y := yX1_init) (s' := wrR s 50 i 2 (some x)) (p := 2) hnm rfl ⟨by decide, hv⟩ oC_50 (by rw [oC_50]; simp [rdI_wrI, rdI_wrR, rdR_wrR, rdR_wrI, rdL_wrR, rdL_wrI, rdL_wrL, rdI_wrL, rdR_wrL, va_rf]) (fun kd' i' h => EC_of (fun c => rfl) (fun c => rfl) (fun c => by rw [rdR_wrR, if_neg (fun q => h ⟨q.1, q.2.1⟩)])) (fun _ _ z => z) rfl in_X1 tyX1 tyX1_ok nmX1 (by decide) q894 (.inl rfl) rfl rfl rfl rfl (Nat.le_of_ble_eq_true rfl) d kk
theorem aC_51 {l : Launch} {D : va_G} {dA : Nat → ClassId} {A : Nat → Prop} {pz b L : Nat} {xs : Nat → Int32} {lc : Nat → Nat → Nat} {s : tt_St} {i : Nat} : tt_ent (XC l D dA A pz b L xs) lc s 51 i = .inl (dA 8, 160, .inr (.inr (.inr (.inr (gC lc s 51 i))))) := rfl
theorem pC_X1_28_50 {l : Launch} {D : va_G} {dA : Nat → ClassId} {A : Nat → Prop} {pz b L : Nat} {xs : Nat → Int32} {lc : Nat → Nat → Nat} {s : tt_St} {cc : ByteArray} {nl : Nat} {rt : Option FieldType} {rm : Room} {tn : tt_Tn} {Q : tt_Fin} {pc : Nat} {lv : List (Nat × Value)} {rest : List Value} {ck cn : Nat} {i : Nat} (hv : i < rdN s 50) (hnm : ∀ c m s0, tn c m s0 → s0.methodNamed? yX1_init = some m) {x : Nat} (d : decode cc pc = .ok (.putfield 28, 3)) (kk : tt_V (XC l D dA A pz b L xs) cc (RX1, nl, rt, rm, tn) Q (pc + 3) lv rest lc (wrR s 50 i 3 (some x)) ck cn) : tt_V (XC l D dA A pz b L xs) cc (RX1, nl, rt, rm, tn) Q pc lv (.ref (lc 51 x) :: .ref (lc 50 i) :: rest) lc s ck cn := v_putF (y := yX1_init) (s' := wrR s 50 i 3 (some x)) (p := 3) hnm rfl ⟨by decide, hv⟩ oC_50 (by rw [oC_50]; simp [rdI_wrI, rdI_wrR, rdR_wrR, rdR_wrI, rdL_wrR, rdL_wrI, rdL_wrL, rdI_wrL, rdR_wrL, va_rf]) (fun kd' i' h => EC_of (fun c => rfl) (fun c => rfl) (fun c => by rw [rdR_wrR, if_neg (fun q => h ⟨q.1, q.2.1⟩)])) (fun _ _ z => z) rfl in_X1 tyX1 tyX1_ok nmX1 (by decide) q895 (.inl rfl) rfl rfl rfl rfl (Nat.le_of_ble_eq_true rfl) d kk
theorem aC_54 {l : Launch} {D : va_G} {dA : Nat → ClassId} {A : Nat → Prop} {pz b L : Nat} {xs : Nat → Int32} {lc : Nat → Nat → Nat} {s : tt_St} {i : Nat} : tt_ent (XC l D dA A pz b L xs) lc s 54 i = .inl (dA 9, 10, .inr (.inr (.inr (.inr (gC lc s 54 i))))) := rfl
theorem pC_X1_34_50 {l : Launch} {D : va_G} {dA : Nat → ClassId} {A : Nat → Prop} {pz b L : Nat} {xs : Nat → Int32} {lc : Nat → Nat → Nat} {s : tt_St} {cc : ByteArray} {nl : Nat} {rt : Option FieldType} {rm : Room} {tn : tt_Tn} {Q : tt_Fin} {pc : Nat} {lv : List (Nat × Value)} {rest : List Value} {ck cn : Nat} {i : Nat} (hv : i < rdN s 50) (hnm : ∀ c m s0, tn c m s0 → s0.methodNamed? yX1_init = some m) {x : Nat} (d : decode cc pc = .ok (.putfield 34, 3)) (kk : tt_V (XC l D dA A pz b L xs) cc (RX1, nl, rt, rm, tn) Q (pc + 3) lv rest lc (wrR s 50 i 4 (some x)) ck cn) : tt_V (XC l D dA A pz b L xs) cc (RX1, nl, rt, rm, tn) Q pc lv (.ref (lc 54 x) :: .ref (lc 50 i) :: rest) lc s ck cn := v_putF (y := yX1_init) (s' := wrR s 50 i 4 (some x)) (p := 4) hnm rfl ⟨by decide, hv⟩ oC_50 (by rw [oC_50]; simp [rdI_wrI, rdI_wrR, rdR_wrR, rdR_wrI, rdL_wrR, rdL_wrI, rdL_wrL, rdI_wrL, rdR_wrL, va_rf]) (fun kd' i' h => EC_of (fun c => rfl) (fun c => rfl) (fun c => by rw [rdR_wrR, if_neg (fun q => h ⟨q.1, q.2.1⟩)])) (fun _ _ z => z) rfl in_X1 tyX1 tyX1_ok nmX1 (by decide) q896 (.inl rfl) rfl rfl rfl rfl (Nat.le_of_ble_eq_true rfl) d kk
theorem oC_56 {l : Launch} {D : va_G} {dA : Nat → ClassId} {A : Nat → Prop} {pz b L : Nat} {xs : Nat → Int32} {lc : Nat → Nat → Nat} {s : tt_St} {i : Nat} : tt_ent (XC l D dA A pz b L xs) lc s 56 i = .inr (11, [va_rf (Option.map (lc 57) (rdR s 56 i 0))]) := rfl
def dfv_56 : List Value := [.null]
theorem dfs_56 : ∀ j, j < 1 → defaultValue (tyJ13 j) = vp_V dfv_56 j := fun j hj => match j, hj with
  | 0, _ => rfl
  | j + 1, hj => absurd hj (by omega)
theorem oC_57 {l : Launch} {D : va_G} {dA : Nat → ClassId} {A : Nat → Prop} {pz b L : Nat} {xs : Nat → Int32} {lc : Nat → Nat → Nat} {s : tt_St} {i : Nat} : tt_ent (XC l D dA A pz b L xs) lc s 57 i = .inr (12, [va_rf (Option.map (lc 52) (rdR s 57 i 0)), va_rf (Option.map (lc 52) (rdR s 57 i 1)), va_rf (Option.map (lc 52) (rdR s 57 i 2)), va_rf (Option.map (lc 52) (rdR s 57 i 3)), .int (rdI s 57 i 4), .int (rdI s 57 i 5), va_rf (Option.map (lc 52) (rdR s 57 i 6)), va_rf (Option.map (lc 52) (rdR s 57 i 7)), va_rf (Option.map (lc 52) (rdR s 57 i 8))]) := rfl
def dfv_57 : List Value := [.null, .null, .null, .null, .int 0, .int 0, .null, .null, .null]
theorem dfs_57 : ∀ j, j < 9 → defaultValue (tyJ15 j) = vp_V dfv_57 j := fun j hj => match j, hj with
  | 0, _ => rfl
  | 1, _ => rfl
  | 2, _ => rfl
  | 3, _ => rfl
  | 4, _ => rfl
  | 5, _ => rfl
  | 6, _ => rfl
  | 7, _ => rfl
  | 8, _ => rfl
  | j + 9, hj => absurd hj (by omega)
theorem plJ14 : plainName RJ14 = true := by decide
def fC_J14_init_57 (s : tt_St) (x0 : Nat) : Option tt_St :=
  some s
abbrev rmC_J14_init_57 : Room := { frames := 1, cells := 0, slots := 0, locals := 20 }
set_option maxHeartbeats 8000000 in
theorem mC_J14_init_57 (l : Launch) (D : va_G) (dA : Nat → ClassId) (A : Nat → Prop) (pz b L : Nat) (xs : Nat → Int32) (lc : Nat → Nat → Nat) (s : tt_St) (x0 : Nat) (hx0 : x0 < rdN s 57) {Q : Option Value → (Nat → Nat → Nat) → tt_St → Prop} (h : Ok (fC_J14_init_57 s x0) (fun r => ∀ lc', tt_agc (XC l D dA A pz b L xs) s lc lc' → Q none lc' r)) : tt_Sp (XC l D dA A pz b L xs) yJ14_init cJ14_init 1 none rmC_J14_init_57 [.ref (lc 57 x0)] lc s Q := by
  refine tt_Sp.ofVn plJ14 kokC (Nat.le_of_ble_eq_true rfl) ?_
  show tt_V (XC l D dA A pz b L xs) cJ14_init (RJ14, 1, none, rmC_J14_init_57, tt_nw yJ14_init) (tt_fn (XC l D dA A pz b L xs) (RJ14, 1, none, rmC_J14_init_57, tt_nw yJ14_init) Q) 0 [(0, .ref (lc 57 x0))] [] lc s 0 0
  unfold fC_J14_init_57 at h
  refine v_aload_n 0 dJ14_init_0 rfl ?_
  refine v_objInit q834 q166 q167 (Nat.le_of_ble_eq_true rfl) (Nat.le_of_ble_eq_true rfl) (Nat.le_of_ble_eq_true rfl) dJ14_init_1 ?_
  have h := Ok.ret h
  exact v_vret rfl (Nat.le_of_ble_eq_true rfl) (Nat.le_of_ble_eq_true rfl) dJ14_init_4 (h lc agc_rf)
theorem cC_J15_1_57 {l : Launch} {D : va_G} {dA : Nat → ClassId} {A : Nat → Prop} {pz b L : Nat} {xs : Nat → Int32} {lc : Nat → Nat → Nat} {s : tt_St} {cc : ByteArray} {nl : Nat} {rt : Option FieldType} {rm : Room} {tn : tt_Tn} {Q : tt_Fin} {pc : Nat} {lv : List (Nat × Value)} {rest : List Value} {ck cn : Nat} {x0 : Nat} (hx0 : x0 < rdN s 57) {K : tt_St → Prop} (h : Ok (fC_J14_init_57 s x0) K) (hR : 1 + 1 ≤ rm.frames ∧ 8 + (1 + 11) + 20 ≤ rm.locals) (hW : (rest.map fun v => v.category).sum ≤ 8) (d : decode cc pc = .ok (.invokespecial 1, 3)) (kk : ∀ r, K r → ∀ lc', tt_agc (XC l D dA A pz b L xs) s lc lc' → tt_V (XC l D dA A pz b L xs) cc (RJ15, nl, rt, rm, tn) Q (pc + 3) lv rest lc' r (ck + 0) (cn + 0)) (hf : ck + 0 ≤ rm.cells ∧ cn + 0 ≤ rm.slots) : tt_V (XC l D dA A pz b L xs) cc (RJ15, nl, rt, rm, tn) Q pc lv (.ref (lc 57 x0) :: rest) lc s ck cn :=
  v_callI (nA := 0) (As := []) (mC_J14_init_57 l D dA A pz b L xs lc s x0 hx0 (Q := (fun v lc' s' => ∃ r, K r ∧ v = none ∧ tt_agc (XC l D dA A pz b L xs) s lc lc' ∧ s' = r)) (h.mono (fun r hr lc' ha => ⟨r, hr, rfl, ha, rfl⟩))) (lw_meth q833) q151 q831 q832 rfl (by decide +kernel) rfl hR hW hf d rfl (fun v lc' s' q => by obtain ⟨r, hr, e1, e2, e3⟩ := q; rw [e1, e3]; exact kk r hr lc' e2)
theorem pC_J15_7_57 {l : Launch} {D : va_G} {dA : Nat → ClassId} {A : Nat → Prop} {pz b L : Nat} {xs : Nat → Int32} {lc : Nat → Nat → Nat} {s : tt_St} {cc : ByteArray} {nl : Nat} {rt : Option FieldType} {rm : Room} {tn : tt_Tn} {Q : tt_Fin} {pc : Nat} {lv : List (Nat × Value)} {rest : List Value} {ck cn : Nat} {i : Nat} (hv : i < rdN s 57) {x : Int32} (d : decode cc pc = .ok (.putfield 7, 3)) (kk : tt_V (XC l D dA A pz b L xs) cc (RJ15, nl, rt, rm, tn) Q (pc + 3) lv rest lc (wrI s 57 i 4 x) ck cn) : tt_V (XC l D dA A pz b L xs) cc (RJ15, nl, rt, rm, tn) Q pc lv (.int x :: .ref (lc 57 i) :: rest) lc s ck cn := v_put (s' := wrI s 57 i 4 x) (p := 4) ⟨by decide, hv⟩ oC_57 (by rw [oC_57]; simp [rdI_wrI, rdI_wrR, rdR_wrR, rdR_wrI, rdL_wrR, rdL_wrI, rdL_wrL, rdI_wrL, rdR_wrL, va_rf]) (fun kd' i' h => EC_of (fun c => by rw [rdI_wrI, if_neg (fun q => h ⟨q.1, q.2.1⟩)]) (fun c => rfl) (fun c => rfl)) (fun _ _ z => z) rfl in_J15 tyJ15 tyJ15_ok nmJ15 (by decide) q837 (.inl rfl) rfl rfl rfl (Nat.le_of_ble_eq_true rfl) d kk
theorem pC_J15_13_57 {l : Launch} {D : va_G} {dA : Nat → ClassId} {A : Nat → Prop} {pz b L : Nat} {xs : Nat → Int32} {lc : Nat → Nat → Nat} {s : tt_St} {cc : ByteArray} {nl : Nat} {rt : Option FieldType} {rm : Room} {tn : tt_Tn} {Q : tt_Fin} {pc : Nat} {lv : List (Nat × Value)} {rest : List Value} {ck cn : Nat} {i : Nat} (hv : i < rdN s 57) {x : Int32} (d : decode cc pc = .ok (.putfield 13, 3)) (kk : tt_V (XC l D dA A pz b L xs) cc (RJ15, nl, rt, rm, tn) Q (pc + 3) lv rest lc (wrI s 57 i 5 x) ck cn) : tt_V (XC l D dA A pz b L xs) cc (RJ15, nl, rt, rm, tn) Q pc lv (.int x :: .ref (lc 57 i) :: rest) lc s ck cn := v_put (s' := wrI s 57 i 5 x) (p := 5) ⟨by decide, hv⟩ oC_57 (by rw [oC_57]; simp [rdI_wrI, rdI_wrR, rdR_wrR, rdR_wrI, rdL_wrR, rdL_wrI, rdL_wrL, rdI_wrL, rdR_wrL, va_rf]) (fun kd' i' h => EC_of (fun c => by rw [rdI_wrI, if_neg (fun q => h ⟨q.1, q.2.1⟩)]) (fun c => rfl) (fun c => rfl)) (fun _ _ z => z) rfl in_J15 tyJ15 tyJ15_ok nmJ15 (by decide) q838 (.inl rfl) rfl rfl rfl (Nat.le_of_ble_eq_true rfl) d kk
theorem pC_J15_16_57n {l : Launch} {D : va_G} {dA : Nat → ClassId} {A : Nat → Prop} {pz b L : Nat} {xs : Nat → Int32} {lc : Nat → Nat → Nat} {s : tt_St} {cc : ByteArray} {nl : Nat} {rt : Option FieldType} {rm : Room} {tn : tt_Tn} {Q : tt_Fin} {pc : Nat} {lv : List (Nat × Value)} {rest : List Value} {ck cn : Nat} {i : Nat} (hv : i < rdN s 57) (hnm : ∀ c m s0, tn c m s0 → s0.methodNamed? yJ15_init = some m) (d : decode cc pc = .ok (.putfield 16, 3)) (kk : tt_V (XC l D dA A pz b L xs) cc (RJ15, nl, rt, rm, tn) Q (pc + 3) lv rest lc (wrR s 57 i 2 none) ck cn) : tt_V (XC l D dA A pz b L xs) cc (RJ15, nl, rt, rm, tn) Q pc lv (.null :: .ref (lc 57 i) :: rest) lc s ck cn := v_putF (y := yJ15_init) (s' := wrR s 57 i 2 none) (p := 2) hnm rfl ⟨by decide, hv⟩ oC_57 (by rw [oC_57]; simp [rdI_wrI, rdI_wrR, rdR_wrR, rdR_wrI, rdL_wrR, rdL_wrI, rdL_wrL, rdI_wrL, rdR_wrL, va_rf]) (fun kd' i' h => EC_of (fun c => rfl) (fun c => rfl) (fun c => by rw [rdR_wrR, if_neg (fun q => h ⟨q.1, q.2.1⟩)])) (fun _ _ z => z) rfl in_J15 tyJ15 tyJ15_ok nmJ15 (by decide) q835 (.inl rfl) rfl rfl rfl rfl (Nat.le_of_ble_eq_true rfl) d kk
theorem plJ15 : plainName RJ15 = true := by decide
def fC_J15_init (s : tt_St) (x0 : Nat) : Option tt_St :=
  (fC_J14_init_57 s x0).bind fun r1 => if x0 < rdN r1 57 then nm (wrI r1 57 x0 4 (0 : Int32)) fun s3 => if x0 < rdN s3 57 then nm (wrI s3 57 x0 5 (0 : Int32)) fun s5 => if x0 < rdN s5 57 then nm (wrR s5 57 x0 2 none) fun s7 => some s7 else none else none else none
abbrev rmC_J15_init : Room := { frames := 2, cells := 0, slots := 0, locals := 40 }
set_option maxHeartbeats 8000000 in
theorem mC_J15_init (l : Launch) (D : va_G) (dA : Nat → ClassId) (A : Nat → Prop) (pz b L : Nat) (xs : Nat → Int32) (lc : Nat → Nat → Nat) (s : tt_St) (x0 : Nat) (hx0 : x0 < rdN s 57) {Q : Option Value → (Nat → Nat → Nat) → tt_St → Prop} (h : Ok (fC_J15_init s x0) (fun r => ∀ lc', tt_agc (XC l D dA A pz b L xs) s lc lc' → Q none lc' r)) : tt_Sp (XC l D dA A pz b L xs) yJ15_init cJ15_init 1 none rmC_J15_init [.ref (lc 57 x0)] lc s Q := by
  refine tt_Sp.ofVn plJ15 kokC (Nat.le_of_ble_eq_true rfl) ?_
  show tt_V (XC l D dA A pz b L xs) cJ15_init (RJ15, 1, none, rmC_J15_init, tt_nw yJ15_init) (tt_fn (XC l D dA A pz b L xs) (RJ15, 1, none, rmC_J15_init, tt_nw yJ15_init) Q) 0 [(0, .ref (lc 57 x0))] [] lc s 0 0
  unfold fC_J15_init at h
  refine v_aload_n 0 dJ15_init_0 rfl ?_
  refine cC_J15_1_57 hx0 (Ok.bind h) ⟨Nat.le_of_ble_eq_true rfl, Nat.le_of_ble_eq_true rfl⟩ (Nat.le_of_ble_eq_true rfl) dJ15_init_1 (fun r1 h lc hc => ?_) ⟨Nat.le_of_ble_eq_true rfl, Nat.le_of_ble_eq_true rfl⟩
  rw [← hc 57 x0 ⟨by decide, hx0⟩]
  have h := Ok.agc h hc (fun _ _ h => h)
  refine v_aload_n 0 dJ15_init_4 rfl ?_
  refine v_iconst dJ15_init_5 ic_0 ?_
  obtain ⟨g2, h⟩ := Ok.guard h
  refine pC_J15_7_57 g2 dJ15_init_6 ?_
  refine v_nmS (fun s3 e_s3 => ?_)
  have h := Ok.nm h e_s3
  refine v_aload_n 0 dJ15_init_9 rfl ?_
  refine v_iconst dJ15_init_10 ic_0 ?_
  obtain ⟨g4, h⟩ := Ok.guard h
  refine pC_J15_13_57 g4 dJ15_init_11 ?_
  refine v_nmS (fun s5 e_s5 => ?_)
  have h := Ok.nm h e_s5
  refine v_aload_n 0 dJ15_init_14 rfl ?_
  refine v_null dJ15_init_15 ?_
  obtain ⟨g6, h⟩ := Ok.guard h
  refine pC_J15_16_57n g6 (fun _ _ _ h => h) dJ15_init_16 ?_
  refine v_nmS (fun s7 e_s7 => ?_)
  have h := Ok.nm h e_s7
  have h := Ok.ret h
  exact v_vret rfl (Nat.le_of_ble_eq_true rfl) (Nat.le_of_ble_eq_true rfl) dJ15_init_19 (h lc agc_rf)
theorem cC_J13_15_57 {l : Launch} {D : va_G} {dA : Nat → ClassId} {A : Nat → Prop} {pz b L : Nat} {xs : Nat → Int32} {lc : Nat → Nat → Nat} {s : tt_St} {cc : ByteArray} {nl : Nat} {rt : Option FieldType} {rm : Room} {tn : tt_Tn} {Q : tt_Fin} {pc : Nat} {lv : List (Nat × Value)} {rest : List Value} {ck cn : Nat} {x0 : Nat} (hx0 : x0 < rdN s 57) {K : tt_St → Prop} (h : Ok (fC_J15_init s x0) K) (hR : 2 + 1 ≤ rm.frames ∧ 8 + (1 + 11) + 40 ≤ rm.locals) (hW : (rest.map fun v => v.category).sum ≤ 8) (d : decode cc pc = .ok (.invokespecial 15, 3)) (kk : ∀ r, K r → ∀ lc', tt_agc (XC l D dA A pz b L xs) s lc lc' → tt_V (XC l D dA A pz b L xs) cc (RJ13, nl, rt, rm, tn) Q (pc + 3) lv rest lc' r (ck + 0) (cn + 0)) (hf : ck + 0 ≤ rm.cells ∧ cn + 0 ≤ rm.slots) : tt_V (XC l D dA A pz b L xs) cc (RJ13, nl, rt, rm, tn) Q pc lv (.ref (lc 57 x0) :: rest) lc s ck cn :=
  v_callI (nA := 0) (As := []) (mC_J15_init l D dA A pz b L xs lc s x0 hx0 (Q := (fun v lc' s' => ∃ r, K r ∧ v = none ∧ tt_agc (XC l D dA A pz b L xs) s lc lc' ∧ s' = r)) (h.mono (fun r hr lc' ha => ⟨r, hr, rfl, ha, rfl⟩))) (lw_meth q830) q152 q828 q829 rfl (by decide +kernel) rfl hR hW hf d rfl (fun v lc' s' q => by obtain ⟨r, hr, e1, e2, e3⟩ := q; rw [e1, e3]; exact kk r hr lc' e2)
def fC_J0_init_56 (s : tt_St) (x0 : Nat) : Option tt_St :=
  some s
abbrev rmC_J0_init_56 : Room := { frames := 1, cells := 0, slots := 0, locals := 20 }
set_option maxHeartbeats 8000000 in
theorem mC_J0_init_56 (l : Launch) (D : va_G) (dA : Nat → ClassId) (A : Nat → Prop) (pz b L : Nat) (xs : Nat → Int32) (lc : Nat → Nat → Nat) (s : tt_St) (x0 : Nat) (hx0 : x0 < rdN s 56) {Q : Option Value → (Nat → Nat → Nat) → tt_St → Prop} (h : Ok (fC_J0_init_56 s x0) (fun r => ∀ lc', tt_agc (XC l D dA A pz b L xs) s lc lc' → Q none lc' r)) : tt_Sp (XC l D dA A pz b L xs) yJ0_init cJ0_init 1 none rmC_J0_init_56 [.ref (lc 56 x0)] lc s Q := by
  refine tt_Sp.ofVn plJ0 kokC (Nat.le_of_ble_eq_true rfl) ?_
  show tt_V (XC l D dA A pz b L xs) cJ0_init (RJ0, 1, none, rmC_J0_init_56, tt_nw yJ0_init) (tt_fn (XC l D dA A pz b L xs) (RJ0, 1, none, rmC_J0_init_56, tt_nw yJ0_init) Q) 0 [(0, .ref (lc 56 x0))] [] lc s 0 0
  unfold fC_J0_init_56 at h
  refine v_aload_n 0 dJ0_init_0 rfl ?_
  refine v_objInit q206 q166 q167 (Nat.le_of_ble_eq_true rfl) (Nat.le_of_ble_eq_true rfl) (Nat.le_of_ble_eq_true rfl) dJ0_init_1 ?_
  have h := Ok.ret h
  exact v_vret rfl (Nat.le_of_ble_eq_true rfl) (Nat.le_of_ble_eq_true rfl) dJ0_init_4 (h lc agc_rf)
theorem cC_J12_1_56 {l : Launch} {D : va_G} {dA : Nat → ClassId} {A : Nat → Prop} {pz b L : Nat} {xs : Nat → Int32} {lc : Nat → Nat → Nat} {s : tt_St} {cc : ByteArray} {nl : Nat} {rt : Option FieldType} {rm : Room} {tn : tt_Tn} {Q : tt_Fin} {pc : Nat} {lv : List (Nat × Value)} {rest : List Value} {ck cn : Nat} {x0 : Nat} (hx0 : x0 < rdN s 56) {K : tt_St → Prop} (h : Ok (fC_J0_init_56 s x0) K) (hR : 1 + 1 ≤ rm.frames ∧ 8 + (1 + 11) + 20 ≤ rm.locals) (hW : (rest.map fun v => v.category).sum ≤ 8) (d : decode cc pc = .ok (.invokespecial 1, 3)) (kk : ∀ r, K r → ∀ lc', tt_agc (XC l D dA A pz b L xs) s lc lc' → tt_V (XC l D dA A pz b L xs) cc (RJ12, nl, rt, rm, tn) Q (pc + 3) lv rest lc' r (ck + 0) (cn + 0)) (hf : ck + 0 ≤ rm.cells ∧ cn + 0 ≤ rm.slots) : tt_V (XC l D dA A pz b L xs) cc (RJ12, nl, rt, rm, tn) Q pc lv (.ref (lc 56 x0) :: rest) lc s ck cn :=
  v_callI (nA := 0) (As := []) (mC_J0_init_56 l D dA A pz b L xs lc s x0 hx0 (Q := (fun v lc' s' => ∃ r, K r ∧ v = none ∧ tt_agc (XC l D dA A pz b L xs) s lc lc' ∧ s' = r)) (h.mono (fun r hr lc' ha => ⟨r, hr, rfl, ha, rfl⟩))) (lw_meth q205) q130 q864 q204 rfl (by decide +kernel) rfl hR hW hf d rfl (fun v lc' s' q => by obtain ⟨r, hr, e1, e2, e3⟩ := q; rw [e1, e3]; exact kk r hr lc' e2)
theorem plJ12 : plainName RJ12 = true := by decide
def fC_J12_init_56 (s : tt_St) (x0 : Nat) : Option tt_St :=
  (fC_J0_init_56 s x0).bind fun r1 => some r1
abbrev rmC_J12_init_56 : Room := { frames := 2, cells := 0, slots := 0, locals := 40 }
set_option maxHeartbeats 8000000 in
theorem mC_J12_init_56 (l : Launch) (D : va_G) (dA : Nat → ClassId) (A : Nat → Prop) (pz b L : Nat) (xs : Nat → Int32) (lc : Nat → Nat → Nat) (s : tt_St) (x0 : Nat) (hx0 : x0 < rdN s 56) {Q : Option Value → (Nat → Nat → Nat) → tt_St → Prop} (h : Ok (fC_J12_init_56 s x0) (fun r => ∀ lc', tt_agc (XC l D dA A pz b L xs) s lc lc' → Q none lc' r)) : tt_Sp (XC l D dA A pz b L xs) yJ12_init cJ12_init 1 none rmC_J12_init_56 [.ref (lc 56 x0)] lc s Q := by
  refine tt_Sp.ofVn plJ12 kokC (Nat.le_of_ble_eq_true rfl) ?_
  show tt_V (XC l D dA A pz b L xs) cJ12_init (RJ12, 1, none, rmC_J12_init_56, tt_nw yJ12_init) (tt_fn (XC l D dA A pz b L xs) (RJ12, 1, none, rmC_J12_init_56, tt_nw yJ12_init) Q) 0 [(0, .ref (lc 56 x0))] [] lc s 0 0
  unfold fC_J12_init_56 at h
  refine v_aload_n 0 dJ12_init_0 rfl ?_
  refine cC_J12_1_56 hx0 (Ok.bind h) ⟨Nat.le_of_ble_eq_true rfl, Nat.le_of_ble_eq_true rfl⟩ (Nat.le_of_ble_eq_true rfl) dJ12_init_1 (fun r1 h lc hc => ?_) ⟨Nat.le_of_ble_eq_true rfl, Nat.le_of_ble_eq_true rfl⟩
  rw [← hc 56 x0 ⟨by decide, hx0⟩]
  have h := Ok.agc h hc (fun _ _ h => h)
  have h := Ok.ret h
  exact v_vret rfl (Nat.le_of_ble_eq_true rfl) (Nat.le_of_ble_eq_true rfl) dJ12_init_4 (h lc agc_rf)
theorem cC_J13_1_56 {l : Launch} {D : va_G} {dA : Nat → ClassId} {A : Nat → Prop} {pz b L : Nat} {xs : Nat → Int32} {lc : Nat → Nat → Nat} {s : tt_St} {cc : ByteArray} {nl : Nat} {rt : Option FieldType} {rm : Room} {tn : tt_Tn} {Q : tt_Fin} {pc : Nat} {lv : List (Nat × Value)} {rest : List Value} {ck cn : Nat} {x0 : Nat} (hx0 : x0 < rdN s 56) {K : tt_St → Prop} (h : Ok (fC_J12_init_56 s x0) K) (hR : 2 + 1 ≤ rm.frames ∧ 8 + (1 + 11) + 40 ≤ rm.locals) (hW : (rest.map fun v => v.category).sum ≤ 8) (d : decode cc pc = .ok (.invokespecial 1, 3)) (kk : ∀ r, K r → ∀ lc', tt_agc (XC l D dA A pz b L xs) s lc lc' → tt_V (XC l D dA A pz b L xs) cc (RJ13, nl, rt, rm, tn) Q (pc + 3) lv rest lc' r (ck + 0) (cn + 0)) (hf : ck + 0 ≤ rm.cells ∧ cn + 0 ≤ rm.slots) : tt_V (XC l D dA A pz b L xs) cc (RJ13, nl, rt, rm, tn) Q pc lv (.ref (lc 56 x0) :: rest) lc s ck cn :=
  v_callI (nA := 0) (As := []) (mC_J12_init_56 l D dA A pz b L xs lc s x0 hx0 (Q := (fun v lc' s' => ∃ r, K r ∧ v = none ∧ tt_agc (XC l D dA A pz b L xs) s lc lc' ∧ s' = r)) (h.mono (fun r hr lc' ha => ⟨r, hr, rfl, ha, rfl⟩))) (lw_meth q863) q149 q861 q862 rfl (by decide +kernel) rfl hR hW hf d rfl (fun v lc' s' q => by obtain ⟨r, hr, e1, e2, e3⟩ := q; rw [e1, e3]; exact kk r hr lc' e2)
theorem pC_J13_7_56 {l : Launch} {D : va_G} {dA : Nat → ClassId} {A : Nat → Prop} {pz b L : Nat} {xs : Nat → Int32} {lc : Nat → Nat → Nat} {s : tt_St} {cc : ByteArray} {nl : Nat} {rt : Option FieldType} {rm : Room} {tn : tt_Tn} {Q : tt_Fin} {pc : Nat} {lv : List (Nat × Value)} {rest : List Value} {ck cn : Nat} {i : Nat} (hv : i < rdN s 56) {x : Nat} (d : decode cc pc = .ok (.putfield 7, 3)) (kk : tt_V (XC l D dA A pz b L xs) cc (RJ13, nl, rt, rm, tn) Q (pc + 3) lv rest lc (wrR s 56 i 0 (some x)) ck cn) : tt_V (XC l D dA A pz b L xs) cc (RJ13, nl, rt, rm, tn) Q pc lv (.ref (lc 57 x) :: .ref (lc 56 i) :: rest) lc s ck cn := v_put (s' := wrR s 56 i 0 (some x)) (p := 0) ⟨by decide, hv⟩ oC_56 (by rw [oC_56]; simp [rdI_wrI, rdI_wrR, rdR_wrR, rdR_wrI, rdL_wrR, rdL_wrI, rdL_wrL, rdI_wrL, rdR_wrL, va_rf]) (fun kd' i' h => EC_of (fun c => rfl) (fun c => rfl) (fun c => by rw [rdR_wrR, if_neg (fun q => h ⟨q.1, q.2.1⟩)])) (fun _ _ z => z) rfl in_J13 tyJ13 tyJ13_ok nmJ13 (by decide) q865 (.inl rfl) rfl rfl rfl (Nat.le_of_ble_eq_true rfl) d kk
theorem plJ13 : plainName RJ13 = true := by decide
def fC_J13_init_2 (s : tt_St) (x0 : Nat) (x1 : Nat) : Option tt_St :=
  (fC_J12_init_56 s x0).bind fun r1 => if x1 < rdN r1 57 then if x0 < rdN r1 56 then nm (wrR r1 56 x0 0 (some x1)) fun s4 => some s4 else none else none
abbrev rmC_J13_init_2 : Room := { frames := 3, cells := 0, slots := 0, locals := 60 }
set_option maxHeartbeats 8000000 in
theorem mC_J13_init_2 (l : Launch) (D : va_G) (dA : Nat → ClassId) (A : Nat → Prop) (pz b L : Nat) (xs : Nat → Int32) (lc : Nat → Nat → Nat) (s : tt_St) (x0 : Nat) (x1 : Nat) (hx0 : x0 < rdN s 56) (hx1 : x1 < rdN s 57) {Q : Option Value → (Nat → Nat → Nat) → tt_St → Prop} (h : Ok (fC_J13_init_2 s x0 x1) (fun r => ∀ lc', tt_agc (XC l D dA A pz b L xs) s lc lc' → Q none lc' r)) : tt_Sp (XC l D dA A pz b L xs) yJ13_init_2 cJ13_init_2 2 none rmC_J13_init_2 [.ref (lc 56 x0), .ref (lc 57 x1)] lc s Q := by
  refine tt_Sp.ofVn plJ13 kokC (Nat.le_of_ble_eq_true rfl) ?_
  show tt_V (XC l D dA A pz b L xs) cJ13_init_2 (RJ13, 2, none, rmC_J13_init_2, tt_nw yJ13_init_2) (tt_fn (XC l D dA A pz b L xs) (RJ13, 2, none, rmC_J13_init_2, tt_nw yJ13_init_2) Q) 0 [(0, .ref (lc 56 x0)), (1, .ref (lc 57 x1))] [] lc s 0 0
  unfold fC_J13_init_2 at h
  refine v_aload_n 0 dJ13_init_2_0 rfl ?_
  refine cC_J13_1_56 hx0 (Ok.bind h) ⟨Nat.le_of_ble_eq_true rfl, Nat.le_of_ble_eq_true rfl⟩ (Nat.le_of_ble_eq_true rfl) dJ13_init_2_1 (fun r1 h lc hc => ?_) ⟨Nat.le_of_ble_eq_true rfl, Nat.le_of_ble_eq_true rfl⟩
  rw [← hc 56 x0 ⟨by decide, hx0⟩]
  rw [← hc 57 x1 ⟨by decide, hx1⟩]
  have h := Ok.agc h hc (fun _ _ h => h)
  refine v_aload_n 0 dJ13_init_2_4 rfl ?_
  refine v_aload_n 1 dJ13_init_2_5 rfl ?_
  obtain ⟨g2, h⟩ := Ok.guard h
  obtain ⟨g3, h⟩ := Ok.guard h
  refine pC_J13_7_56 g3 dJ13_init_2_6 ?_
  refine v_nmS (fun s4 e_s4 => ?_)
  have h := Ok.nm h e_s4
  have h := Ok.ret h
  exact v_vret rfl (Nat.le_of_ble_eq_true rfl) (Nat.le_of_ble_eq_true rfl) dJ13_init_2_9 (h lc agc_rf)
theorem cC_J13_16_56 {l : Launch} {D : va_G} {dA : Nat → ClassId} {A : Nat → Prop} {pz b L : Nat} {xs : Nat → Int32} {lc : Nat → Nat → Nat} {s : tt_St} {cc : ByteArray} {nl : Nat} {rt : Option FieldType} {rm : Room} {tn : tt_Tn} {Q : tt_Fin} {pc : Nat} {lv : List (Nat × Value)} {rest : List Value} {ck cn : Nat} {x0 : Nat} {x1 : Nat} (hx0 : x0 < rdN s 56) (hx1 : x1 < rdN s 57) {K : tt_St → Prop} (h : Ok (fC_J13_init_2 s x0 x1) K) (hR : 3 + 1 ≤ rm.frames ∧ 8 + (2 + 11) + 60 ≤ rm.locals) (hW : (rest.map fun v => v.category).sum ≤ 8) (d : decode cc pc = .ok (.invokespecial 16, 3)) (kk : ∀ r, K r → ∀ lc', tt_agc (XC l D dA A pz b L xs) s lc lc' → tt_V (XC l D dA A pz b L xs) cc (RJ13, nl, rt, rm, tn) Q (pc + 3) lv rest lc' r (ck + 0) (cn + 0)) (hf : ck + 0 ≤ rm.cells ∧ cn + 0 ≤ rm.slots) : tt_V (XC l D dA A pz b L xs) cc (RJ13, nl, rt, rm, tn) Q pc lv (.ref (lc 57 x1) :: .ref (lc 56 x0) :: rest) lc s ck cn :=
  v_callI (nA := 1) (As := [.ref (lc 57 x1)]) (mC_J13_init_2 l D dA A pz b L xs lc s x0 x1 hx0 hx1 (Q := (fun v lc' s' => ∃ r, K r ∧ v = none ∧ tt_agc (XC l D dA A pz b L xs) s lc lc' ∧ s' = r)) (h.mono (fun r hr lc' ha => ⟨r, hr, rfl, ha, rfl⟩))) (lw_meth q860) q150 q858 q859 rfl (by decide +kernel) rfl hR hW hf d rfl (fun v lc' s' q => by obtain ⟨r, hr, e1, e2, e3⟩ := q; rw [e1, e3]; exact kk r hr lc' e2)
def fC_J13_init (s : tt_St) (x0 : Nat) : Option tt_St :=
  if okC s then nm (newA s 57) fun s2 => if (rdN s 57) < rdN s2 57 then if x0 < rdN s2 56 then if cnLe s s2 then (fC_J15_init s2 (rdN s 57)).bind fun r6 => if (rdN s 57) < rdN r6 57 then if x0 < rdN r6 56 then if cnLe s2 r6 then (fC_J13_init_2 r6 x0 (rdN s 57)).bind fun r10 => some r10 else none else none else none else none else none else none else none
abbrev rmC_J13_init : Room := { frames := 4, cells := 1, slots := 9, locals := 81 }
set_option maxHeartbeats 8000000 in
theorem mC_J13_init (l : Launch) (D : va_G) (dA : Nat → ClassId) (A : Nat → Prop) (pz b L : Nat) (xs : Nat → Int32) (lc : Nat → Nat → Nat) (s : tt_St) (x0 : Nat) (hx0 : x0 < rdN s 56) {Q : Option Value → (Nat → Nat → Nat) → tt_St → Prop} (h : Ok (fC_J13_init s x0) (fun r => ∀ lc', tt_agc (XC l D dA A pz b L xs) s lc lc' → Q none lc' r)) : tt_Sp (XC l D dA A pz b L xs) yJ13_init cJ13_init 1 none rmC_J13_init [.ref (lc 56 x0)] lc s Q := by
  refine tt_Sp.ofVn plJ13 kokC (Nat.le_of_ble_eq_true rfl) ?_
  show tt_V (XC l D dA A pz b L xs) cJ13_init (RJ13, 1, none, rmC_J13_init, tt_nw yJ13_init) (tt_fn (XC l D dA A pz b L xs) (RJ13, 1, none, rmC_J13_init, tt_nw yJ13_init) Q) 0 [(0, .ref (lc 56 x0))] [] lc s 0 0
  unfold fC_J13_init at h
  refine v_aload_n 0 dJ13_init_0 rfl ?_
  obtain ⟨g1, h⟩ := Ok.guard h
  refine nC_o (kd := 57) (ci := 12) (fs := dfv_57) g1 (by decide) rfl rfl in_J15 tyJ15 tyJ15_ok dfs_57 q826 q827 q152 ⟨Nat.le_of_ble_eq_true rfl, Nat.le_of_ble_eq_true rfl⟩ dJ13_init_1 (fun lc hc => ?_)
  rw [← hc 56 x0 ⟨by decide, hx0⟩]
  have h := Ok.agc h hc (fun _ _ h => h)
  refine v_nmS (fun s2 e_s2 => ?_)
  have h := Ok.nm h e_s2
  obtain ⟨g3, h⟩ := Ok.guard h
  refine v_dup dJ13_init_4 rfl ?_
  obtain ⟨g4, h⟩ := Ok.guard h
  obtain ⟨g5, h⟩ := Ok.guard h
  refine cC_J13_15_57 g3 (Ok.bind h) ⟨Nat.le_of_ble_eq_true rfl, Nat.le_of_ble_eq_true rfl⟩ (Nat.le_of_ble_eq_true rfl) dJ13_init_5 (fun r6 h lc hc => ?_) ⟨Nat.le_of_ble_eq_true rfl, Nat.le_of_ble_eq_true rfl⟩
  rw [← hc 56 x0 ⟨by decide, g4⟩]
  rw [← hc 57 (rdN s 57) ⟨by decide, g3⟩]
  have h := Ok.agc h hc (cnLe_mono g5)
  obtain ⟨g7, h⟩ := Ok.guard h
  obtain ⟨g8, h⟩ := Ok.guard h
  obtain ⟨g9, h⟩ := Ok.guard h
  refine cC_J13_16_56 g8 g7 (Ok.bind h) ⟨Nat.le_of_ble_eq_true rfl, Nat.le_of_ble_eq_true rfl⟩ (Nat.le_of_ble_eq_true rfl) dJ13_init_8 (fun r10 h lc hc => ?_) ⟨Nat.le_of_ble_eq_true rfl, Nat.le_of_ble_eq_true rfl⟩
  rw [← hc 56 x0 ⟨by decide, g8⟩]
  have h := Ok.agc h hc (cnLe_mono g9)
  have h := Ok.ret h
  exact v_vret rfl (Nat.le_of_ble_eq_true rfl) (Nat.le_of_ble_eq_true rfl) dJ13_init_11 (h lc agc_rf)
theorem cC_X1_40_56 {l : Launch} {D : va_G} {dA : Nat → ClassId} {A : Nat → Prop} {pz b L : Nat} {xs : Nat → Int32} {lc : Nat → Nat → Nat} {s : tt_St} {cc : ByteArray} {nl : Nat} {rt : Option FieldType} {rm : Room} {tn : tt_Tn} {Q : tt_Fin} {pc : Nat} {lv : List (Nat × Value)} {rest : List Value} {ck cn : Nat} {x0 : Nat} (hx0 : x0 < rdN s 56) {K : tt_St → Prop} (h : Ok (fC_J13_init s x0) K) (hR : 4 + 1 ≤ rm.frames ∧ 8 + (1 + 11) + 81 ≤ rm.locals) (hW : (rest.map fun v => v.category).sum ≤ 8) (d : decode cc pc = .ok (.invokespecial 40, 3)) (kk : ∀ r, K r → ∀ lc', tt_agc (XC l D dA A pz b L xs) s lc lc' → tt_V (XC l D dA A pz b L xs) cc (RX1, nl, rt, rm, tn) Q (pc + 3) lv rest lc' r (ck + 1) (cn + 9)) (hf : ck + 1 ≤ rm.cells ∧ cn + 9 ≤ rm.slots) : tt_V (XC l D dA A pz b L xs) cc (RX1, nl, rt, rm, tn) Q pc lv (.ref (lc 56 x0) :: rest) lc s ck cn :=
  v_callI (nA := 0) (As := []) (mC_J13_init l D dA A pz b L xs lc s x0 hx0 (Q := (fun v lc' s' => ∃ r, K r ∧ v = none ∧ tt_agc (XC l D dA A pz b L xs) s lc lc' ∧ s' = r)) (h.mono (fun r hr lc' ha => ⟨r, hr, rfl, ha, rfl⟩))) (lw_meth q825) q150 q823 q824 rfl (by decide +kernel) rfl hR hW hf d rfl (fun v lc' s' q => by obtain ⟨r, hr, e1, e2, e3⟩ := q; rw [e1, e3]; exact kk r hr lc' e2)
theorem pC_X1_41_50 {l : Launch} {D : va_G} {dA : Nat → ClassId} {A : Nat → Prop} {pz b L : Nat} {xs : Nat → Int32} {lc : Nat → Nat → Nat} {s : tt_St} {cc : ByteArray} {nl : Nat} {rt : Option FieldType} {rm : Room} {tn : tt_Tn} {Q : tt_Fin} {pc : Nat} {lv : List (Nat × Value)} {rest : List Value} {ck cn : Nat} {i : Nat} (hv : i < rdN s 50) (hnm : ∀ c m s0, tn c m s0 → s0.methodNamed? yX1_init = some m) {x : Nat} (d : decode cc pc = .ok (.putfield 41, 3)) (kk : tt_V (XC l D dA A pz b L xs) cc (RX1, nl, rt, rm, tn) Q (pc + 3) lv rest lc (wrR s 50 i 5 (some x)) ck cn) : tt_V (XC l D dA A pz b L xs) cc (RX1, nl, rt, rm, tn) Q pc lv (.ref (lc 56 x) :: .ref (lc 50 i) :: rest) lc s ck cn := v_putF (y := yX1_init) (s' := wrR s 50 i 5 (some x)) (p := 5) hnm rfl ⟨by decide, hv⟩ oC_50 (by rw [oC_50]; simp [rdI_wrI, rdI_wrR, rdR_wrR, rdR_wrI, rdL_wrR, rdL_wrI, rdL_wrL, rdI_wrL, rdR_wrL, va_rf]) (fun kd' i' h => EC_of (fun c => rfl) (fun c => rfl) (fun c => by rw [rdR_wrR, if_neg (fun q => h ⟨q.1, q.2.1⟩)])) (fun _ _ z => z) rfl in_X1 tyX1 tyX1_ok nmX1 (by decide) q897 (.inl rfl) rfl rfl rfl rfl (Nat.le_of_ble_eq_true rfl) d kk
theorem pC_X1_45_50 {l : Launch} {D : va_G} {dA : Nat → ClassId} {A : Nat → Prop} {pz b L : Nat} {xs : Nat → Int32} {lc : Nat → Nat → Nat} {s : tt_St} {cc : ByteArray} {nl : Nat} {rt : Option FieldType} {rm : Room} {tn : tt_Tn} {Q : tt_Fin} {pc : Nat} {lv : List (Nat × Value)} {rest : List Value} {ck cn : Nat} {i : Nat} (hv : i < rdN s 50) (hnm : ∀ c m s0, tn c m s0 → s0.methodNamed? yX1_init = some m) {x : Nat} (d : decode cc pc = .ok (.putfield 45, 3)) (kk : tt_V (XC l D dA A pz b L xs) cc (RX1, nl, rt, rm, tn) Q (pc + 3) lv rest lc (wrR s 50 i 6 (some x)) ck cn) : tt_V (XC l D dA A pz b L xs) cc (RX1, nl, rt, rm, tn) Q pc lv (.ref (lc 59 x) :: .ref (lc 50 i) :: rest) lc s ck cn := v_putF (y := yX1_init) (s' := wrR s 50 i 6 (some x)) (p := 6) hnm rfl ⟨by decide, hv⟩ oC_50 (by rw [oC_50]; simp [rdI_wrI, rdI_wrR, rdR_wrR, rdR_wrI, rdL_wrR, rdL_wrI, rdL_wrL, rdI_wrL, rdR_wrL, va_rf]) (fun kd' i' h => EC_of (fun c => rfl) (fun c => rfl) (fun c => by rw [rdR_wrR, if_neg (fun q => h ⟨q.1, q.2.1⟩)])) (fun _ _ z => z) rfl in_X1 tyX1 tyX1_ok nmX1 (by decide) q898 (.inl rfl) rfl rfl rfl rfl (Nat.le_of_ble_eq_true rfl) d kk
theorem gC_X1_10_50 {l : Launch} {D : va_G} {dA : Nat → ClassId} {A : Nat → Prop} {pz b L : Nat} {xs : Nat → Int32} {lc : Nat → Nat → Nat} {s : tt_St} {cc : ByteArray} {nl : Nat} {rt : Option FieldType} {rm : Room} {tn : tt_Tn} {Q : tt_Fin} {pc : Nat} {lv : List (Nat × Value)} {rest : List Value} {ck cn : Nat} {i : Nat} (hv : i < rdN s 50) (d : decode cc pc = .ok (.getfield 10, 3)) (kk : tt_V (XC l D dA A pz b L xs) cc (RX1, nl, rt, rm, tn) Q (pc + 3) lv (va_rf (Option.map (lc 0) (rdR s 50 i 0)) :: rest) lc s ck cn) : tt_V (XC l D dA A pz b L xs) cc (RX1, nl, rt, rm, tn) Q pc lv (.ref (lc 50 i) :: rest) lc s ck cn := v_get (p := 0) ⟨by decide, hv⟩ oC_50 rfl in_X1 (by decide) q892 (.inl rfl) rfl d kk
theorem cC_X1_49_0 {l : Launch} {D : va_G} {dA : Nat → ClassId} {A : Nat → Prop} {pz b L : Nat} {xs : Nat → Int32} {lc : Nat → Nat → Nat} {s : tt_St} {cc : ByteArray} {nl : Nat} {rt : Option FieldType} {rm : Room} {tn : tt_Tn} {Q : tt_Fin} {pc : Nat} {lv : List (Nat × Value)} {rest : List Value} {ck cn : Nat} {x0 : Nat} (hx0 : x0 < rdN s 0) {K : tt_St → Prop} (h : Ok (fC_begins s x0) K) (hR : 3 + 1 ≤ rm.frames ∧ 8 + (5 + 11) + 62 ≤ rm.locals) (hW : (rest.map fun v => v.category).sum ≤ 8) (d : decode cc pc = .ok (.invokevirtual 49, 3)) (kk : ∀ r, K r → ∀ lc', tt_agc (XC l D dA A pz b L xs) s lc lc' → tt_V (XC l D dA A pz b L xs) cc (RX1, nl, rt, rm, tn) Q (pc + 3) lv rest lc' r (ck + 0) (cn + 0)) (hf : ck + 0 ≤ rm.cells ∧ cn + 0 ≤ rm.slots) : tt_V (XC l D dA A pz b L xs) cc (RX1, nl, rt, rm, tn) Q pc lv (.ref (lc 0 x0) :: rest) lc s ck cn :=
  v_callV (kd := 0) (i := x0) (nA := 0) (As := []) ⟨by decide, hx0⟩ oC_0 rfl (mC_begins l D dA A pz b L xs lc s x0 hx0 (Q := (fun v lc' s' => ∃ r, K r ∧ v = none ∧ tt_agc (XC l D dA A pz b L xs) s lc lc' ∧ s' = r)) (h.mono (fun r hr lc' ha => ⟨r, hr, rfl, ha, rfl⟩))) (lw_V q869 q870 q871 q128 q872) (by decide +kernel) rfl hR hW hf d rfl (fun v lc' s' q => by obtain ⟨r, hr, e1, e2, e3⟩ := q; rw [e1, e3]; exact kk r hr lc' e2)
theorem gC_X1_34_50 {l : Launch} {D : va_G} {dA : Nat → ClassId} {A : Nat → Prop} {pz b L : Nat} {xs : Nat → Int32} {lc : Nat → Nat → Nat} {s : tt_St} {cc : ByteArray} {nl : Nat} {rt : Option FieldType} {rm : Room} {tn : tt_Tn} {Q : tt_Fin} {pc : Nat} {lv : List (Nat × Value)} {rest : List Value} {ck cn : Nat} {i : Nat} (hv : i < rdN s 50) (d : decode cc pc = .ok (.getfield 34, 3)) (kk : tt_V (XC l D dA A pz b L xs) cc (RX1, nl, rt, rm, tn) Q (pc + 3) lv (va_rf (Option.map (lc 54) (rdR s 50 i 4)) :: rest) lc s ck cn) : tt_V (XC l D dA A pz b L xs) cc (RX1, nl, rt, rm, tn) Q pc lv (.ref (lc 50 i) :: rest) lc s ck cn := v_get (p := 4) ⟨by decide, hv⟩ oC_50 rfl in_X1 (by decide) q896 (.inl rfl) rfl d kk
theorem oC_55 {l : Launch} {D : va_G} {dA : Nat → ClassId} {A : Nat → Prop} {pz b L : Nat} {xs : Nat → Int32} {lc : Nat → Nat → Nat} {s : tt_St} {i : Nat} : tt_ent (XC l D dA A pz b L xs) lc s 55 i = .inr (10, [.int (rdI s 55 i 0), .long (rdL s 55 i 1)]) := rfl
def dfv_55 : List Value := [.int 0, .long 0]
theorem dfs_55 : ∀ j, j < 2 → defaultValue (tyX10 j) = vp_V dfv_55 j := fun j hj => match j, hj with
  | 0, _ => rfl
  | 1, _ => rfl
  | j + 2, hj => absurd hj (by omega)
theorem pC_X10_7_55 {l : Launch} {D : va_G} {dA : Nat → ClassId} {A : Nat → Prop} {pz b L : Nat} {xs : Nat → Int32} {lc : Nat → Nat → Nat} {s : tt_St} {cc : ByteArray} {nl : Nat} {rt : Option FieldType} {rm : Room} {tn : tt_Tn} {Q : tt_Fin} {pc : Nat} {lv : List (Nat × Value)} {rest : List Value} {ck cn : Nat} {i : Nat} (hv : i < rdN s 55) (hnm : ∀ c m s0, tn c m s0 → s0.methodNamed? yX10_init = some m) {x : Int32} (d : decode cc pc = .ok (.putfield 7, 3)) (kk : tt_V (XC l D dA A pz b L xs) cc (RX10, nl, rt, rm, tn) Q (pc + 3) lv rest lc (wrI s 55 i 0 x) ck cn) : tt_V (XC l D dA A pz b L xs) cc (RX10, nl, rt, rm, tn) Q pc lv (.int x :: .ref (lc 55 i) :: rest) lc s ck cn := v_putF (y := yX10_init) (s' := wrI s 55 i 0 x) (p := 0) hnm rfl ⟨by decide, hv⟩ oC_55 (by rw [oC_55]; simp [rdI_wrI, rdI_wrR, rdR_wrR, rdR_wrI, rdL_wrR, rdL_wrI, rdL_wrL, rdI_wrL, rdR_wrL, va_rf]) (fun kd' i' h => EC_of (fun c => by rw [rdI_wrI, if_neg (fun q => h ⟨q.1, q.2.1⟩)]) (fun c => rfl) (fun c => rfl)) (fun _ _ z => z) rfl in_X10 tyX10 tyX10_ok nmX10 (by decide) q883 (.inl rfl) rfl rfl rfl rfl (Nat.le_of_ble_eq_true rfl) d kk
theorem plX10 : plainName RX10 = true := by decide
def fC_X10_init (s : tt_St) (x0 : Nat) (x1 : Int32) : Option tt_St :=
  nm (wrI s 55 x0 0 x1) fun s1 => some s1
abbrev rmC_X10_init : Room := { frames := 1, cells := 0, slots := 0, locals := 20 }
set_option maxHeartbeats 8000000 in
theorem mC_X10_init (l : Launch) (D : va_G) (dA : Nat → ClassId) (A : Nat → Prop) (pz b L : Nat) (xs : Nat → Int32) (lc : Nat → Nat → Nat) (s : tt_St) (x0 : Nat) (x1 : Int32) (hx0 : x0 < rdN s 55) {Q : Option Value → (Nat → Nat → Nat) → tt_St → Prop} (h : Ok (fC_X10_init s x0 x1) (fun r => ∀ lc', tt_agc (XC l D dA A pz b L xs) s lc lc' → Q none lc' r)) : tt_Sp (XC l D dA A pz b L xs) yX10_init cX10_init 2 none rmC_X10_init [.ref (lc 55 x0), .int x1] lc s Q := by
  refine tt_Sp.ofVn plX10 kokC (Nat.le_of_ble_eq_true rfl) ?_
  show tt_V (XC l D dA A pz b L xs) cX10_init (RX10, 2, none, rmC_X10_init, tt_nw yX10_init) (tt_fn (XC l D dA A pz b L xs) (RX10, 2, none, rmC_X10_init, tt_nw yX10_init) Q) 0 [(0, .ref (lc 55 x0)), (1, .int x1)] [] lc s 0 0
  unfold fC_X10_init at h
  refine v_aload_n 0 dX10_init_0 rfl ?_
  refine v_objInit q882 q166 q167 (Nat.le_of_ble_eq_true rfl) (Nat.le_of_ble_eq_true rfl) (Nat.le_of_ble_eq_true rfl) dX10_init_1 ?_
  refine v_aload_n 0 dX10_init_4 rfl ?_
  refine v_iload_n 1 dX10_init_5 rfl ?_
  refine pC_X10_7_55 hx0 (fun _ _ _ h => h) dX10_init_6 ?_
  refine v_nmS (fun s1 e_s1 => ?_)
  have h := Ok.nm h e_s1
  have h := Ok.ret h
  exact v_vret rfl (Nat.le_of_ble_eq_true rfl) (Nat.le_of_ble_eq_true rfl) dX10_init_9 (h lc agc_rf)
theorem cC_X1_52_55 {l : Launch} {D : va_G} {dA : Nat → ClassId} {A : Nat → Prop} {pz b L : Nat} {xs : Nat → Int32} {lc : Nat → Nat → Nat} {s : tt_St} {cc : ByteArray} {nl : Nat} {rt : Option FieldType} {rm : Room} {tn : tt_Tn} {Q : tt_Fin} {pc : Nat} {lv : List (Nat × Value)} {rest : List Value} {ck cn : Nat} {x0 : Nat} {x1 : Int32} (hx0 : x0 < rdN s 55) {K : tt_St → Prop} (h : Ok (fC_X10_init s x0 x1) K) (hR : 1 + 1 ≤ rm.frames ∧ 8 + (2 + 11) + 20 ≤ rm.locals) (hW : (rest.map fun v => v.category).sum ≤ 8) (d : decode cc pc = .ok (.invokespecial 52, 3)) (kk : ∀ r, K r → ∀ lc', tt_agc (XC l D dA A pz b L xs) s lc lc' → tt_V (XC l D dA A pz b L xs) cc (RX1, nl, rt, rm, tn) Q (pc + 3) lv rest lc' r (ck + 0) (cn + 0)) (hf : ck + 0 ≤ rm.cells ∧ cn + 0 ≤ rm.slots) : tt_V (XC l D dA A pz b L xs) cc (RX1, nl, rt, rm, tn) Q pc lv (.int x1 :: .ref (lc 55 x0) :: rest) lc s ck cn :=
  v_callI (nA := 1) (As := [.int x1]) (mC_X10_init l D dA A pz b L xs lc s x0 x1 hx0 (Q := (fun v lc' s' => ∃ r, K r ∧ v = none ∧ tt_agc (XC l D dA A pz b L xs) s lc lc' ∧ s' = r)) (h.mono (fun r hr lc' ha => ⟨r, hr, rfl, ha, rfl⟩))) (lw_meth q881) q153 q879 q880 rfl (by decide +kernel) rfl hR hW hf d rfl (fun v lc' s' q => by obtain ⟨r, hr, e1, e2, e3⟩ := q; rw [e1, e3]; exact kk r hr lc' e2)
theorem sC_54 {l : Launch} {D : va_G} {dA : Nat → ClassId} {A : Nat → Prop} {pz b L : Nat} {xs : Nat → Int32} {lc : Nat → Nat → Nat} {s : tt_St} {cc : ByteArray} {Y : tt_Y} {Q : tt_Fin} {pc : Nat} {lv : List (Nat × Value)} {rest : List Value} {ck cn : Nat} {i x : Nat} {j : Int32} (hv : i < rdN s 54) (hx : x < rdN s 55) (g : inB j 10 = true) (d : decode cc pc = .ok (.aastore, 1)) (kk : tt_V (XC l D dA A pz b L xs) cc Y Q (pc + 1) lv rest lc (wrR s 54 i j.toNatClampNeg (some x)) ck cn) : tt_V (XC l D dA A pz b L xs) cc Y Q pc lv (.ref (lc 55 x) :: .int j :: .ref (lc 54 i) :: rest) lc s ck cn := v_aast (s' := wrR s 54 i j.toNatClampNeg (some x)) (t := 9) (kv := 55) (iv := x) (E := "TallTowers$Holder") ⟨by decide, hv⟩ aC_54 (by
  rw [aC_54]
  congr 7
  have hj := inB_lt g
  funext c
  unfold gC va_up
  by_cases hc : c = j.toNatClampNeg
  · rw [if_pos hc, if_pos (by omega), rdR_wrR, if_pos ⟨rfl, rfl, hc⟩]; rfl
  · rw [if_neg hc, rdR_wrR, if_neg (fun q => hc q.2.2)]) (fun kd' i' h => EC_of (fun c => rfl) (fun c => rfl) (fun c => by rw [rdR_wrR, if_neg (fun q => h ⟨q.1, q.2.1⟩)])) (fun _ _ z => z) rfl ⟨by decide, hx⟩ oC_55 rfl (.inl rfl) g d kk
def fC_X1_init_L83 (x0 : Nat) (s63 : tt_St) (a68 : Int32 × tt_St) : Option ((Int32 × tt_St) ⊕ (Int32 × tt_St)) :=
  if (10 : Int32) ≤ a68.1 then some (.inr (a68.1, a68.2)) else if x0 < rdN a68.2 50 then unO (rdR a68.2 50 x0 4) (rdN s84 54) fun o72 => if okC a68.2 then if cnLe s63 a68.2 then nm (newA a68.2 55) fun s75 => if (rdN a68.2 55) < rdN s75 55 then if o72 < rdN s75 54 then if x0 < rdN s75 50 then if cnLe a68.2 s75 then (fC_X10_init s75 (rdN a68.2 55) a68.1).bind fun r80 => if (rdN a68.2 55) < rdN r80 55 then if o72 < rdN r80 54 then if inB a68.1 10 then nm (wrR r80 54 o72 a68.1.toNatClampNeg (some (rdN a68.2 55))) fun s84 => some (.inl ((a68.1 + 1 : Int32), s84)) else none else none else none else none else none else none else none else none else none else none
def fC_X1_init (s : tt_St) (x0 : Nat) : Option tt_St :=
  if okC s then nm (newA s 0) fun s2 => if (rdN s 0) < rdN s2 0 then if x0 < rdN s2 50 then if cnLe s s2 then (fC_X2_init s2 (rdN s 0)).bind fun r6 => if (rdN s 0) < rdN r6 0 then if x0 < rdN r6 50 then nm (wrR r6 50 x0 0 (some (rdN s 0))) fun s9 => if x0 < rdN s9 50 then if okC s9 then if cnLe s2 s9 then nm (newA s9 0) fun s13 => if (rdN s9 0) < rdN s13 0 then if x0 < rdN s13 50 then if cnLe s9 s13 then (fC_X2_init s13 (rdN s9 0)).bind fun r17 => if (rdN s9 0) < rdN r17 0 then if x0 < rdN r17 50 then nm (wrR r17 50 x0 1 (some (rdN s9 0))) fun s20 => if x0 < rdN s20 50 then if okC s20 then if cnLe s13 s20 then nm (newA s20 7) fun s24 => if (rdN s20 7) < rdN s24 7 then if x0 < rdN s24 50 then if cnLe s20 s24 then (fC_X7_init s24 (rdN s20 7)).bind fun r28 => if (rdN s20 7) < rdN r28 7 then if x0 < rdN r28 50 then nm (wrR r28 50 x0 2 (some (rdN s20 7))) fun s31 => if x0 < rdN s31 50 then if okC s31 then if cnLe s24 s31 then nm (newA s31 51) fun s35 => if (rdN s31 51) < rdN s35 51 then if x0 < rdN s35 50 then nm (wrR s35 50 x0 3 (some (rdN s31 51))) fun s38 => if x0 < rdN s38 50 then if okC s38 then if cnLe s31 s38 then nm (newA s38 54) fun s42 => if (rdN s38 54) < rdN s42 54 then if x0 < rdN s42 50 then nm (wrR s42 50 x0 4 (some (rdN s38 54))) fun s45 => if x0 < rdN s45 50 then if okC s45 then if cnLe s38 s45 then nm (newA s45 56) fun s49 => if (rdN s45 56) < rdN s49 56 then if x0 < rdN s49 50 then if cnLe s45 s49 then (fC_J13_init s49 (rdN s45 56)).bind fun r53 => if (rdN s45 56) < rdN r53 56 then if x0 < rdN r53 50 then nm (wrR r53 50 x0 5 (some (rdN s45 56))) fun s56 => if x0 < rdN s56 50 then if okC s56 then if cnLe s49 s56 then nm (newA s56 59) fun s60 => if (rdN s56 59) < rdN s60 59 then if x0 < rdN s60 50 then nm (wrR s60 50 x0 6 (some (rdN s56 59))) fun s63 => if x0 < rdN s63 50 then unO (rdR s63 50 x0 0) (rdN r67 0) fun o65 => if cnLe s56 s63 then (fC_begins s63 o65).bind fun r67 => (itr (fC_X1_init_L83 x0 s63) tt_fuel ((0 : Int32), r67)).bind fun b69 => some b69.2 else none else none else none else none else none else none else none else none else none else none else none else none else none else none else none else none else none else none else none else none else none else none else none else none else none else none else none else none else none else none else none else none else none else none else none else none else none else none else none else none else none else none else none else none else none else none else none
abbrev rmC_X1_init : Room := { frames := 5, cells := 25114, slots := 674482, locals := 3101 }
set_option maxHeartbeats 8000000 in
theorem mC_X1_init (l : Launch) (D : va_G) (dA : Nat → ClassId) (A : Nat → Prop) (pz b L : Nat) (xs : Nat → Int32) (lc : Nat → Nat → Nat) (s : tt_St) (x0 : Nat) (hx0 : x0 < rdN s 50) {Q : Option Value → (Nat → Nat → Nat) → tt_St → Prop} (h : Ok (fC_X1_init s x0) (fun r => ∀ lc', tt_agc (XC l D dA A pz b L xs) s lc lc' → Q none lc' r)) : tt_Sp (XC l D dA A pz b L xs) yX1_init cX1_init 2 none rmC_X1_init [.ref (lc 50 x0)] lc s Q := by
  refine tt_Sp.ofVn plX1 kokC (Nat.le_of_ble_eq_true rfl) ?_
  show tt_V (XC l D dA A pz b L xs) cX1_init (RX1, 2, none, rmC_X1_init, tt_nw yX1_init) (tt_fn (XC l D dA A pz b L xs) (RX1, 2, none, rmC_X1_init, tt_nw yX1_init) Q) 0 [(0, .ref (lc 50 x0))] [] lc s 0 0
  unfold fC_X1_init at h
  refine v_aload_n 0 dX1_init_0 rfl ?_
  refine v_objInit q165 q166 q167 (Nat.le_of_ble_eq_true rfl) (Nat.le_of_ble_eq_true rfl) (Nat.le_of_ble_eq_true rfl) dX1_init_1 ?_
  refine v_aload_n 0 dX1_init_4 rfl ?_
  obtain ⟨g1, h⟩ := Ok.guard h
  refine nC_o (kd := 0) (ci := 0) (fs := dfv_0) g1 (by decide) rfl rfl in_X2 tyX2 tyX2_ok dfs_0 q168 q169 q128 ⟨Nat.le_of_ble_eq_true rfl, Nat.le_of_ble_eq_true rfl⟩ dX1_init_5 (fun lc hc => ?_)
  rw [← hc 50 x0 ⟨by decide, hx0⟩]
  have h := Ok.agc h hc (fun _ _ h => h)
  refine v_nmS (fun s2 e_s2 => ?_)
  have h := Ok.nm h e_s2
  obtain ⟨g3, h⟩ := Ok.guard h
  refine v_dup dX1_init_8 rfl ?_
  obtain ⟨g4, h⟩ := Ok.guard h
  obtain ⟨g5, h⟩ := Ok.guard h
  refine cC_X1_9_0 g3 (Ok.bind h) ⟨Nat.le_of_ble_eq_true rfl, Nat.le_of_ble_eq_true rfl⟩ (Nat.le_of_ble_eq_true rfl) dX1_init_9 (fun r6 h lc hc => ?_) ⟨Nat.le_of_ble_eq_true rfl, Nat.le_of_ble_eq_true rfl⟩
  rw [← hc 50 x0 ⟨by decide, g4⟩]
  rw [← hc 0 (rdN s 0) ⟨by decide, g3⟩]
  have h := Ok.agc h hc (cnLe_mono g5)
  obtain ⟨g7, h⟩ := Ok.guard h
  obtain ⟨g8, h⟩ := Ok.guard h
  refine pC_X1_10_50 g8 (fun _ _ _ h => h) dX1_init_12 ?_
  refine v_nmS (fun s9 e_s9 => ?_)
  have h := Ok.nm h e_s9
  refine v_aload_n 0 dX1_init_15 rfl ?_
  obtain ⟨g10, h⟩ := Ok.guard h
  obtain ⟨g11, h⟩ := Ok.guard h
  obtain ⟨g12, h⟩ := Ok.guard h
  refine nC_o (kd := 0) (ci := 0) (fs := dfv_0) g11 (by decide) rfl rfl in_X2 tyX2 tyX2_ok dfs_0 q168 q169 q128 ⟨Nat.le_of_ble_eq_true rfl, Nat.le_of_ble_eq_true rfl⟩ dX1_init_16 (fun lc hc => ?_)
  rw [← hc 50 x0 ⟨by decide, g10⟩]
  have h := Ok.agc h hc (cnLe_mono g12)
  refine v_nmS (fun s13 e_s13 => ?_)
  have h := Ok.nm h e_s13
  obtain ⟨g14, h⟩ := Ok.guard h
  refine v_dup dX1_init_19 rfl ?_
  obtain ⟨g15, h⟩ := Ok.guard h
  obtain ⟨g16, h⟩ := Ok.guard h
  refine cC_X1_9_0 g14 (Ok.bind h) ⟨Nat.le_of_ble_eq_true rfl, Nat.le_of_ble_eq_true rfl⟩ (Nat.le_of_ble_eq_true rfl) dX1_init_20 (fun r17 h lc hc => ?_) ⟨Nat.le_of_ble_eq_true rfl, Nat.le_of_ble_eq_true rfl⟩
  rw [← hc 50 x0 ⟨by decide, g15⟩]
  rw [← hc 0 (rdN s9 0) ⟨by decide, g14⟩]
  have h := Ok.agc h hc (cnLe_mono g16)
  obtain ⟨g18, h⟩ := Ok.guard h
  obtain ⟨g19, h⟩ := Ok.guard h
  refine pC_X1_16_50 g19 (fun _ _ _ h => h) dX1_init_23 ?_
  refine v_nmS (fun s20 e_s20 => ?_)
  have h := Ok.nm h e_s20
  refine v_aload_n 0 dX1_init_26 rfl ?_
  obtain ⟨g21, h⟩ := Ok.guard h
  obtain ⟨g22, h⟩ := Ok.guard h
  obtain ⟨g23, h⟩ := Ok.guard h
  refine nC_o (kd := 7) (ci := 2) (fs := dfv_7) g22 (by decide) rfl rfl in_X7 tyX7 tyX7_ok dfs_7 q815 q393 q140 ⟨Nat.le_of_ble_eq_true rfl, Nat.le_of_ble_eq_true rfl⟩ dX1_init_27 (fun lc hc => ?_)
  rw [← hc 50 x0 ⟨by decide, g21⟩]
  have h := Ok.agc h hc (cnLe_mono g23)
  refine v_nmS (fun s24 e_s24 => ?_)
  have h := Ok.nm h e_s24
  obtain ⟨g25, h⟩ := Ok.guard h
  refine v_dup dX1_init_30 rfl ?_
  obtain ⟨g26, h⟩ := Ok.guard h
  obtain ⟨g27, h⟩ := Ok.guard h
  refine cC_X1_21_7 g25 (Ok.bind h) ⟨Nat.le_of_ble_eq_true rfl, Nat.le_of_ble_eq_true rfl⟩ (Nat.le_of_ble_eq_true rfl) dX1_init_31 (fun r28 h lc hc => ?_) ⟨Nat.le_of_ble_eq_true rfl, Nat.le_of_ble_eq_true rfl⟩
  rw [← hc 50 x0 ⟨by decide, g26⟩]
  rw [← hc 7 (rdN s20 7) ⟨by decide, g25⟩]
  have h := Ok.agc h hc (cnLe_mono g27)
  obtain ⟨g29, h⟩ := Ok.guard h
  obtain ⟨g30, h⟩ := Ok.guard h
  refine pC_X1_22_50 g30 (fun _ _ _ h => h) dX1_init_34 ?_
  refine v_nmS (fun s31 e_s31 => ?_)
  have h := Ok.nm h e_s31
  refine v_aload_n 0 dX1_init_37 rfl ?_
  refine v_sipush dX1_init_38 ks_160 ?_
  obtain ⟨g32, h⟩ := Ok.guard h
  obtain ⟨g33, h⟩ := Ok.guard h
  obtain ⟨g34, h⟩ := Ok.guard h
  refine nC_q (kd := 51) (t := 8) (N := 160) g33 (by decide) q817 (fun U hU => hU.2.1 _ (by simp)) rfl rfl (by decide) (by decide) (by decide) ⟨Nat.le_of_ble_eq_true rfl, Nat.le_of_ble_eq_true rfl⟩ dX1_init_41 (fun lc hc => ?_)
  rw [← hc 50 x0 ⟨by decide, g32⟩]
  have h := Ok.agc h hc (cnLe_mono g34)
  refine v_nmS (fun s35 e_s35 => ?_)
  have h := Ok.nm h e_s35
  obtain ⟨g36, h⟩ := Ok.guard h
  obtain ⟨g37, h⟩ := Ok.guard h
  refine pC_X1_28_50 g37 (fun _ _ _ h => h) dX1_init_44 ?_
  refine v_nmS (fun s38 e_s38 => ?_)
  have h := Ok.nm h e_s38
  refine v_aload_n 0 dX1_init_47 rfl ?_
  refine v_bipush dX1_init_48 kb_10 ?_
  obtain ⟨g39, h⟩ := Ok.guard h
  obtain ⟨g40, h⟩ := Ok.guard h
  obtain ⟨g41, h⟩ := Ok.guard h
  refine nC_q (kd := 54) (t := 9) (N := 10) g40 (by decide) q819 (fun U hU => hU.2.1 _ (by simp)) rfl rfl (by decide) (by decide) (by decide) ⟨Nat.le_of_ble_eq_true rfl, Nat.le_of_ble_eq_true rfl⟩ dX1_init_50 (fun lc hc => ?_)
  rw [← hc 50 x0 ⟨by decide, g39⟩]
  have h := Ok.agc h hc (cnLe_mono g41)
  refine v_nmS (fun s42 e_s42 => ?_)
  have h := Ok.nm h e_s42
  obtain ⟨g43, h⟩ := Ok.guard h
  obtain ⟨g44, h⟩ := Ok.guard h
  refine pC_X1_34_50 g44 (fun _ _ _ h => h) dX1_init_53 ?_
  refine v_nmS (fun s45 e_s45 => ?_)
  have h := Ok.nm h e_s45
  refine v_aload_n 0 dX1_init_56 rfl ?_
  obtain ⟨g46, h⟩ := Ok.guard h
  obtain ⟨g47, h⟩ := Ok.guard h
  obtain ⟨g48, h⟩ := Ok.guard h
  refine nC_o (kd := 56) (ci := 11) (fs := dfv_56) g47 (by decide) rfl rfl in_J13 tyJ13 tyJ13_ok dfs_56 q821 q822 q150 ⟨Nat.le_of_ble_eq_true rfl, Nat.le_of_ble_eq_true rfl⟩ dX1_init_57 (fun lc hc => ?_)
  rw [← hc 50 x0 ⟨by decide, g46⟩]
  have h := Ok.agc h hc (cnLe_mono g48)
  refine v_nmS (fun s49 e_s49 => ?_)
  have h := Ok.nm h e_s49
  obtain ⟨g50, h⟩ := Ok.guard h
  refine v_dup dX1_init_60 rfl ?_
  obtain ⟨g51, h⟩ := Ok.guard h
  obtain ⟨g52, h⟩ := Ok.guard h
  refine cC_X1_40_56 g50 (Ok.bind h) ⟨Nat.le_of_ble_eq_true rfl, Nat.le_of_ble_eq_true rfl⟩ (Nat.le_of_ble_eq_true rfl) dX1_init_61 (fun r53 h lc hc => ?_) ⟨Nat.le_of_ble_eq_true rfl, Nat.le_of_ble_eq_true rfl⟩
  rw [← hc 50 x0 ⟨by decide, g51⟩]
  rw [← hc 56 (rdN s45 56) ⟨by decide, g50⟩]
  have h := Ok.agc h hc (cnLe_mono g52)
  obtain ⟨g54, h⟩ := Ok.guard h
  obtain ⟨g55, h⟩ := Ok.guard h
  refine pC_X1_41_50 g55 (fun _ _ _ h => h) dX1_init_64 ?_
  refine v_nmS (fun s56 e_s56 => ?_)
  have h := Ok.nm h e_s56
  refine v_aload_n 0 dX1_init_67 rfl ?_
  refine v_iconst dX1_init_68 ic_3 ?_
  obtain ⟨g57, h⟩ := Ok.guard h
  obtain ⟨g58, h⟩ := Ok.guard h
  obtain ⟨g59, h⟩ := Ok.guard h
  refine nC_n (kd := 59) (t := 0) (N := 3) g58 (by decide) rfl (fun _ => rfl) q193 rfl rfl rfl (by decide) (by decide) (by decide) ⟨Nat.le_of_ble_eq_true rfl, Nat.le_of_ble_eq_true rfl⟩ dX1_init_69 (fun lc hc => ?_)
  rw [← hc 50 x0 ⟨by decide, g57⟩]
  have h := Ok.agc h hc (cnLe_mono g59)
  refine v_nmS (fun s60 e_s60 => ?_)
  have h := Ok.nm h e_s60
  obtain ⟨g61, h⟩ := Ok.guard h
  obtain ⟨g62, h⟩ := Ok.guard h
  refine pC_X1_45_50 g62 (fun _ _ _ h => h) dX1_init_71 ?_
  refine v_nmS (fun s63 e_s63 => ?_)
  have h := Ok.nm h e_s63
  refine v_aload_n 0 dX1_init_74 rfl ?_
  obtain ⟨g64, h⟩ := Ok.guard h
  refine gC_X1_10_50 g64 dX1_init_75 ?_
  obtain ⟨o65, e_o65, g_o65, h⟩ := Ok.unO h
  rw [e_o65]
  show tt_V (XC l D dA A pz b L xs) cX1_init (RX1, 2, none, rmC_X1_init, tt_nw yX1_init) (tt_fn (XC l D dA A pz b L xs) (RX1, 2, none, rmC_X1_init, tt_nw yX1_init) Q) 78 [(0, .ref (lc 50 x0))] [.ref (lc 0 o65)] lc s63 24114 672482
  obtain ⟨g66, h⟩ := Ok.guard h
  refine cC_X1_49_0 g_o65 (Ok.bind h) ⟨Nat.le_of_ble_eq_true rfl, Nat.le_of_ble_eq_true rfl⟩ (Nat.le_of_ble_eq_true rfl) dX1_init_78 (fun r67 h lc hc => ?_) ⟨Nat.le_of_ble_eq_true rfl, Nat.le_of_ble_eq_true rfl⟩
  rw [← hc 50 x0 ⟨by decide, g64⟩]
  have h := Ok.agc h hc (cnLe_mono g66)
  refine v_iconst dX1_init_81 ic_0 ?_
  refine v_istore_n [(1, .int (0 : Int32)), (0, .ref (lc 50 x0))] dX1_init_82 (Nat.le_of_ble_eq_true rfl) rfl ?_
  refine v_sub [1, 0] rfl ?_
  refine itr_loopK (c := 1) (d := 2) (E1 := 25114) (E2 := 674482) (R := fun lc' => tt_agc (XC l D dA A pz b L xs) s63 lc lc') (PV := fun lc ck cn (a68 : Int32 × tt_St) => tt_V (XC l D dA A pz b L xs) cX1_init (RX1, 2, none, rmC_X1_init, tt_nw yX1_init) (tt_fn (XC l D dA A pz b L xs) (RX1, 2, none, rmC_X1_init, tt_nw yX1_init) Q) 83 [(0, .ref (lc 50 x0)), (1, .int a68.1)] [] lc a68.2 ck cn) (PE := fun lc (b69 : Int32 × tt_St) => tt_V (XC l D dA A pz b L xs) cX1_init (RX1, 2, none, rmC_X1_init, tt_nw yX1_init) (tt_fn (XC l D dA A pz b L xs) (RX1, 2, none, rmC_X1_init, tt_nw yX1_init) Q) 109 [(0, .ref (lc 50 x0)), (1, .int b69.1)] [] lc b69.2 25114 674482) h (fun b69 h lc hc => ?_) (fun nq a68 h lc hc ck cn hq1 hq2 => ?_) lc agc_rf 24114 672482 (Nat.le_refl _) (Nat.le_refl _)
  · have h := Ok.agc h hc (fun _ _ h => h)
    have h := Ok.ret h
    exact v_vret rfl (Nat.le_of_ble_eq_true rfl) (Nat.le_of_ble_eq_true rfl) dX1_init_109 (h lc agc_rf)
  · have h : Ok (fC_X1_init_L83 x0 s63 a68) _ := h
    unfold fC_X1_init_L83 at h
    have h := Ok.agc h hc (fun _ _ h => h)
    refine v_iload_n 1 dX1_init_83 rfl ?_
    refine v_bipush dX1_init_84 kb_10 ?_
    refine v_icmp_ge (tgt := 109) dX1_init_86 rfl (fun c70 => ?_) (fun c70 => ?_)
    · have h := Ok.pos h c70
      have h := Ok.ret h
      exact v_widen (by omega) (by omega) (h lc agc_rf)
    · have h := Ok.neg h c70
      refine v_aload_n 0 dX1_init_89 rfl ?_
      obtain ⟨g71, h⟩ := Ok.guard h
      refine gC_X1_34_50 g71 dX1_init_90 ?_
      obtain ⟨o72, e_o72, g_o72, h⟩ := Ok.unO h
      rw [e_o72]
      show tt_V (XC l D dA A pz b L xs) cX1_init (RX1, 2, none, rmC_X1_init, tt_nw yX1_init) (tt_fn (XC l D dA A pz b L xs) (RX1, 2, none, rmC_X1_init, tt_nw yX1_init) Q) 93 [(0, .ref (lc 50 x0)), (1, .int a68.1)] [.ref (lc 54 o72)] lc a68.2 (ck + 0) (cn + 0)
      refine v_iload_n 1 dX1_init_93 rfl ?_
      obtain ⟨g73, h⟩ := Ok.guard h
      obtain ⟨g74, h⟩ := Ok.guard h
      refine nC_o (kd := 55) (ci := 10) (fs := dfv_55) g73 (by decide) rfl rfl in_X10 tyX10 tyX10_ok dfs_55 q819 q878 q153 ⟨Nat.le_trans (m := 25114) (by omega) (Nat.le_of_ble_eq_true rfl), Nat.le_trans (m := 674482) (by omega) (Nat.le_of_ble_eq_true rfl)⟩ dX1_init_94 (fun lc hc => ?_)
      rw [← hc 50 x0 ⟨by decide, g71⟩]
      rw [← hc 54 o72 ⟨by decide, g_o72⟩]
      have h := Ok.agc h hc (cnLe_mono g74)
      refine v_nmS (fun s75 e_s75 => ?_)
      have h := Ok.nm h e_s75
      obtain ⟨g76, h⟩ := Ok.guard h
      refine v_dup dX1_init_97 rfl ?_
      refine v_iload_n 1 dX1_init_98 rfl ?_
      obtain ⟨g77, h⟩ := Ok.guard h
      obtain ⟨g78, h⟩ := Ok.guard h
      obtain ⟨g79, h⟩ := Ok.guard h
      refine cC_X1_52_55 g76 (Ok.bind h) ⟨Nat.le_of_ble_eq_true rfl, Nat.le_of_ble_eq_true rfl⟩ (Nat.le_of_ble_eq_true rfl) dX1_init_99 (fun r80 h lc hc => ?_) ⟨Nat.le_trans (m := 25114) (by omega) (Nat.le_of_ble_eq_true rfl), Nat.le_trans (m := 674482) (by omega) (Nat.le_of_ble_eq_true rfl)⟩
      rw [← hc 50 x0 ⟨by decide, g78⟩]
      rw [← hc 55 (rdN a68.2 55) ⟨by decide, g76⟩]
      rw [← hc 54 o72 ⟨by decide, g77⟩]
      have h := Ok.agc h hc (cnLe_mono g79)
      obtain ⟨g81, h⟩ := Ok.guard h
      obtain ⟨g82, h⟩ := Ok.guard h
      obtain ⟨g83, h⟩ := Ok.guard h
      refine sC_54 g82 g81 g83 dX1_init_102 ?_
      refine v_nmS (fun s84 e_s84 => ?_)
      have h := Ok.nm h e_s84
      refine v_iinc (v := (a68.1 + 1 : Int32)) 1 [(1, .int (a68.1 + 1 : Int32)), (0, .ref (lc 50 x0))] dX1_init_103 rfl (by rw [ic_1]) (Nat.le_of_ble_eq_true rfl) rfl ?_
      refine v_goto (tgt := 83) dX1_init_106 rfl ?_
      refine v_sub [1, 0] rfl ?_
      have h := Ok.ret h
      exact h lc agc_rf _ _ (by omega) (by omega)
theorem oC_100 {l : Launch} {D : va_G} {dA : Nat → ClassId} {A : Nat → Prop} {pz b L : Nat} {xs : Nat → Int32} {lc : Nat → Nat → Nat} {s : tt_St} {i : Nat} : tt_ent (XC l D dA A pz b L xs) lc s 100 i = .inr (14, [.int (rdI s 100 i 0), va_rf (Option.map (lc 101) (rdR s 100 i 1)), va_rf (Option.map (lc 102) (rdR s 100 i 2)), va_rf (Option.map (lc 103) (rdR s 100 i 3)), va_rf (Option.map (lc 104) (rdR s 100 i 4)), .int (rdI s 100 i 5), va_rf (Option.map (lc 106) (rdR s 100 i 6)), va_rf (Option.map (lc 107) (rdR s 100 i 7)), va_rf (Option.map (lc 108) (rdR s 100 i 8)), va_rf (Option.map (lc 109) (rdR s 100 i 9)), va_rf (Option.map (lc 110) (rdR s 100 i 10)), va_rf (Option.map (lc 111) (rdR s 100 i 11)), va_rf (Option.map (lc 112) (rdR s 100 i 12)), va_rf (Option.map (lc 113) (rdR s 100 i 13)), va_rf (Option.map (lc 114) (rdR s 100 i 14)), va_rf (Option.map (lc 115) (rdR s 100 i 15)), va_rf (Option.map (lc 116) (rdR s 100 i 16)), va_rf (Option.map (lc 117) (rdR s 100 i 17)), va_rf (Option.map (lc 118) (rdR s 100 i 18)), va_rf (Option.map (lc 119) (rdR s 100 i 19)), va_rf (Option.map (lc 120) (rdR s 100 i 20)), va_rf (Option.map (lc 121) (rdR s 100 i 21)), va_rf (Option.map (lc 122) (rdR s 100 i 22)), va_rf (Option.map (lc 123) (rdR s 100 i 23)), va_rf (Option.map (lc 124) (rdR s 100 i 24)), va_rf (Option.map (lc 125) (rdR s 100 i 25)), va_rf (Option.map (lc 126) (rdR s 100 i 26)), va_rf (Option.map (lc 127) (rdR s 100 i 27)), va_rf (Option.map (lc 128) (rdR s 100 i 28)), .int (rdI s 100 i 29), .int (rdI s 100 i 30), .int (rdI s 100 i 31), .int (rdI s 100 i 32), va_rf (Option.map (lc 133) (rdR s 100 i 33)), va_rf (Option.map (lc 134) (rdR s 100 i 34)), va_rf (Option.map (lc 135) (rdR s 100 i 35)), va_rf (Option.map (lc 136) (rdR s 100 i 36)), va_rf (Option.map (lc 137) (rdR s 100 i 37)), va_rf (Option.map (lc 138) (rdR s 100 i 38)), va_rf (Option.map (lc 139) (rdR s 100 i 39)), va_rf (Option.map (lc 140) (rdR s 100 i 40)), va_rf (Option.map (lc 141) (rdR s 100 i 41)), va_rf (Option.map (lc 142) (rdR s 100 i 42)), va_rf (Option.map (lc 143) (rdR s 100 i 43)), va_rf (Option.map (lc 144) (rdR s 100 i 44)), va_rf (Option.map (lc 145) (rdR s 100 i 45)), va_rf (Option.map (lc 146) (rdR s 100 i 46)), va_rf (Option.map (lc 147) (rdR s 100 i 47)), .int (rdI s 100 i 48), .int (rdI s 100 i 49)]) := rfl
def dfv_100 : List Value := [.int 0, .null, .null, .null, .null, .int 0, .null, .null, .null, .null, .null, .null, .null, .null, .null, .null, .null, .null, .null, .null, .null, .null, .null, .null, .null, .null, .null, .null, .null, .int 0, .int 0, .int 0, .int 0, .null, .null, .null, .null, .null, .null, .null, .null, .null, .null, .null, .null, .null, .null, .null, .int 0, .int 0]
theorem dfs_100 : ∀ j, j < 50 → defaultValue (tyX11 j) = vp_V dfv_100 j := fun j hj => match j, hj with
  | 0, _ => rfl
  | 1, _ => rfl
  | 2, _ => rfl
  | 3, _ => rfl
  | 4, _ => rfl
  | 5, _ => rfl
  | 6, _ => rfl
  | 7, _ => rfl
  | 8, _ => rfl
  | 9, _ => rfl
  | 10, _ => rfl
  | 11, _ => rfl
  | 12, _ => rfl
  | 13, _ => rfl
  | 14, _ => rfl
  | 15, _ => rfl
  | 16, _ => rfl
  | 17, _ => rfl
  | 18, _ => rfl
  | 19, _ => rfl
  | 20, _ => rfl
  | 21, _ => rfl
  | 22, _ => rfl
  | 23, _ => rfl
  | 24, _ => rfl
  | 25, _ => rfl
  | 26, _ => rfl
  | 27, _ => rfl
  | 28, _ => rfl
  | 29, _ => rfl
  | 30, _ => rfl
  | 31, _ => rfl
  | 32, _ => rfl
  | 33, _ => rfl
  | 34, _ => rfl
  | 35, _ => rfl
  | 36, _ => rfl
  | 37, _ => rfl
  | 38, _ => rfl
  | 39, _ => rfl
  | 40, _ => rfl
  | 41, _ => rfl
  | 42, _ => rfl
  | 43, _ => rfl
  | 44, _ => rfl
  | 45, _ => rfl
  | 46, _ => rfl
  | 47, _ => rfl
  | 48, _ => rfl
  | 49, _ => rfl
  | j + 50, hj => absurd hj (by omega)
theorem pC_X11_7_100 {l : Launch} {D : va_G} {dA : Nat → ClassId} {A : Nat → Prop} {pz b L : Nat} {xs : Nat → Int32} {lc : Nat → Nat → Nat} {s : tt_St} {cc : ByteArray} {nl : Nat} {rt : Option FieldType} {rm : Room} {tn : tt_Tn} {Q : tt_Fin} {pc : Nat} {lv : List (Nat × Value)} {rest : List Value} {ck cn : Nat} {i : Nat} (hv : i < rdN s 100) (hnm : ∀ c m s0, tn c m s0 → s0.methodNamed? yX11_init = some m) {x : Nat} (d : decode cc pc = .ok (.putfield 7, 3)) (kk : tt_V (XC l D dA A pz b L xs) cc (RX11, nl, rt, rm, tn) Q (pc + 3) lv rest lc (wrR s 100 i 1 (some x)) ck cn) : tt_V (XC l D dA A pz b L xs) cc (RX11, nl, rt, rm, tn) Q pc lv (.ref (lc 101 x) :: .ref (lc 100 i) :: rest) lc s ck cn := v_putF (y := yX11_init) (s' := wrR s 100 i 1 (some x)) (p := 1) hnm rfl ⟨by decide, hv⟩ oC_100 (by rw [oC_100]; simp [rdI_wrI, rdI_wrR, rdR_wrR, rdR_wrI, rdL_wrR, rdL_wrI, rdL_wrL, rdI_wrL, rdR_wrL, va_rf]) (fun kd' i' h => EC_of (fun c => rfl) (fun c => rfl) (fun c => by rw [rdR_wrR, if_neg (fun q => h ⟨q.1, q.2.1⟩)])) (fun _ _ z => z) rfl in_X11 tyX11 tyX11_ok nmX11 (by decide) q1762 (.inl rfl) rfl rfl rfl rfl (Nat.le_of_ble_eq_true rfl) d kk
theorem pC_X11_14_100 {l : Launch} {D : va_G} {dA : Nat → ClassId} {A : Nat → Prop} {pz b L : Nat} {xs : Nat → Int32} {lc : Nat → Nat → Nat} {s : tt_St} {cc : ByteArray} {nl : Nat} {rt : Option FieldType} {rm : Room} {tn : tt_Tn} {Q : tt_Fin} {pc : Nat} {lv : List (Nat × Value)} {rest : List Value} {ck cn : Nat} {i : Nat} (hv : i < rdN s 100) (hnm : ∀ c m s0, tn c m s0 → s0.methodNamed? yX11_init = some m) {x : Nat} (d : decode cc pc = .ok (.putfield 14, 3)) (kk : tt_V (XC l D dA A pz b L xs) cc (RX11, nl, rt, rm, tn) Q (pc + 3) lv rest lc (wrR s 100 i 2 (some x)) ck cn) : tt_V (XC l D dA A pz b L xs) cc (RX11, nl, rt, rm, tn) Q pc lv (.ref (lc 102 x) :: .ref (lc 100 i) :: rest) lc s ck cn := v_putF (y := yX11_init) (s' := wrR s 100 i 2 (some x)) (p := 2) hnm rfl ⟨by decide, hv⟩ oC_100 (by rw [oC_100]; simp [rdI_wrI, rdI_wrR, rdR_wrR, rdR_wrI, rdL_wrR, rdL_wrI, rdL_wrL, rdI_wrL, rdR_wrL, va_rf]) (fun kd' i' h => EC_of (fun c => rfl) (fun c => rfl) (fun c => by rw [rdR_wrR, if_neg (fun q => h ⟨q.1, q.2.1⟩)])) (fun _ _ z => z) rfl in_X11 tyX11 tyX11_ok nmX11 (by decide) q1763 (.inl rfl) rfl rfl rfl rfl (Nat.le_of_ble_eq_true rfl) d kk
theorem pC_X11_20_100 {l : Launch} {D : va_G} {dA : Nat → ClassId} {A : Nat → Prop} {pz b L : Nat} {xs : Nat → Int32} {lc : Nat → Nat → Nat} {s : tt_St} {cc : ByteArray} {nl : Nat} {rt : Option FieldType} {rm : Room} {tn : tt_Tn} {Q : tt_Fin} {pc : Nat} {lv : List (Nat × Value)} {rest : List Value} {ck cn : Nat} {i : Nat} (hv : i < rdN s 100) (hnm : ∀ c m s0, tn c m s0 → s0.methodNamed? yX11_init = some m) {x : Nat} (d : decode cc pc = .ok (.putfield 20, 3)) (kk : tt_V (XC l D dA A pz b L xs) cc (RX11, nl, rt, rm, tn) Q (pc + 3) lv rest lc (wrR s 100 i 3 (some x)) ck cn) : tt_V (XC l D dA A pz b L xs) cc (RX11, nl, rt, rm, tn) Q pc lv (.ref (lc 103 x) :: .ref (lc 100 i) :: rest) lc s ck cn := v_putF (y := yX11_init) (s' := wrR s 100 i 3 (some x)) (p := 3) hnm rfl ⟨by decide, hv⟩ oC_100 (by rw [oC_100]; simp [rdI_wrI, rdI_wrR, rdR_wrR, rdR_wrI, rdL_wrR, rdL_wrI, rdL_wrL, rdI_wrL, rdR_wrL, va_rf]) (fun kd' i' h => EC_of (fun c => rfl) (fun c => rfl) (fun c => by rw [rdR_wrR, if_neg (fun q => h ⟨q.1, q.2.1⟩)])) (fun _ _ z => z) rfl in_X11 tyX11 tyX11_ok nmX11 (by decide) q1764 (.inl rfl) rfl rfl rfl rfl (Nat.le_of_ble_eq_true rfl) d kk
theorem pC_X11_11_100 {l : Launch} {D : va_G} {dA : Nat → ClassId} {A : Nat → Prop} {pz b L : Nat} {xs : Nat → Int32} {lc : Nat → Nat → Nat} {s : tt_St} {cc : ByteArray} {nl : Nat} {rt : Option FieldType} {rm : Room} {tn : tt_Tn} {Q : tt_Fin} {pc : Nat} {lv : List (Nat × Value)} {rest : List Value} {ck cn : Nat} {i : Nat} (hv : i < rdN s 100) (hnm : ∀ c m s0, tn c m s0 → s0.methodNamed? yX11_init = some m) {x : Nat} (d : decode cc pc = .ok (.putfield 11, 3)) (kk : tt_V (XC l D dA A pz b L xs) cc (RX11, nl, rt, rm, tn) Q (pc + 3) lv rest lc (wrR s 100 i 4 (some x)) ck cn) : tt_V (XC l D dA A pz b L xs) cc (RX11, nl, rt, rm, tn) Q pc lv (.ref (lc 104 x) :: .ref (lc 100 i) :: rest) lc s ck cn := v_putF (y := yX11_init) (s' := wrR s 100 i 4 (some x)) (p := 4) hnm rfl ⟨by decide, hv⟩ oC_100 (by rw [oC_100]; simp [rdI_wrI, rdI_wrR, rdR_wrR, rdR_wrI, rdL_wrR, rdL_wrI, rdL_wrL, rdI_wrL, rdR_wrL, va_rf]) (fun kd' i' h => EC_of (fun c => rfl) (fun c => rfl) (fun c => by rw [rdR_wrR, if_neg (fun q => h ⟨q.1, q.2.1⟩)])) (fun _ _ z => z) rfl in_X11 tyX11 tyX11_ok nmX11 (by decide) q1765 (.inl rfl) rfl rfl rfl rfl (Nat.le_of_ble_eq_true rfl) d kk
theorem pC_X11_29_100 {l : Launch} {D : va_G} {dA : Nat → ClassId} {A : Nat → Prop} {pz b L : Nat} {xs : Nat → Int32} {lc : Nat → Nat → Nat} {s : tt_St} {cc : ByteArray} {nl : Nat} {rt : Option FieldType} {rm : Room} {tn : tt_Tn} {Q : tt_Fin} {pc : Nat} {lv : List (Nat × Value)} {rest : List Value} {ck cn : Nat} {i : Nat} (hv : i < rdN s 100) (hnm : ∀ c m s0, tn c m s0 → s0.methodNamed? yX11_init = some m) {x : Nat} (d : decode cc pc = .ok (.putfield 29, 3)) (kk : tt_V (XC l D dA A pz b L xs) cc (RX11, nl, rt, rm, tn) Q (pc + 3) lv rest lc (wrR s 100 i 6 (some x)) ck cn) : tt_V (XC l D dA A pz b L xs) cc (RX11, nl, rt, rm, tn) Q pc lv (.ref (lc 106 x) :: .ref (lc 100 i) :: rest) lc s ck cn := v_putF (y := yX11_init) (s' := wrR s 100 i 6 (some x)) (p := 6) hnm rfl ⟨by decide, hv⟩ oC_100 (by rw [oC_100]; simp [rdI_wrI, rdI_wrR, rdR_wrR, rdR_wrI, rdL_wrR, rdL_wrI, rdL_wrL, rdI_wrL, rdR_wrL, va_rf]) (fun kd' i' h => EC_of (fun c => rfl) (fun c => rfl) (fun c => by rw [rdR_wrR, if_neg (fun q => h ⟨q.1, q.2.1⟩)])) (fun _ _ z => z) rfl in_X11 tyX11 tyX11_ok nmX11 (by decide) q1767 (.inl rfl) rfl rfl rfl rfl (Nat.le_of_ble_eq_true rfl) d kk
theorem pC_X11_33_100 {l : Launch} {D : va_G} {dA : Nat → ClassId} {A : Nat → Prop} {pz b L : Nat} {xs : Nat → Int32} {lc : Nat → Nat → Nat} {s : tt_St} {cc : ByteArray} {nl : Nat} {rt : Option FieldType} {rm : Room} {tn : tt_Tn} {Q : tt_Fin} {pc : Nat} {lv : List (Nat × Value)} {rest : List Value} {ck cn : Nat} {i : Nat} (hv : i < rdN s 100) (hnm : ∀ c m s0, tn c m s0 → s0.methodNamed? yX11_init = some m) {x : Nat} (d : decode cc pc = .ok (.putfield 33, 3)) (kk : tt_V (XC l D dA A pz b L xs) cc (RX11, nl, rt, rm, tn) Q (pc + 3) lv rest lc (wrR s 100 i 7 (some x)) ck cn) : tt_V (XC l D dA A pz b L xs) cc (RX11, nl, rt, rm, tn) Q pc lv (.ref (lc 107 x) :: .ref (lc 100 i) :: rest) lc s ck cn := v_putF (y := yX11_init) (s' := wrR s 100 i 7 (some x)) (p := 7) hnm rfl ⟨by decide, hv⟩ oC_100 (by rw [oC_100]; simp [rdI_wrI, rdI_wrR, rdR_wrR, rdR_wrI, rdL_wrR, rdL_wrI, rdL_wrL, rdI_wrL, rdR_wrL, va_rf]) (fun kd' i' h => EC_of (fun c => rfl) (fun c => rfl) (fun c => by rw [rdR_wrR, if_neg (fun q => h ⟨q.1, q.2.1⟩)])) (fun _ _ z => z) rfl in_X11 tyX11 tyX11_ok nmX11 (by decide) q1768 (.inl rfl) rfl rfl rfl rfl (Nat.le_of_ble_eq_true rfl) d kk
theorem pC_X11_36_100 {l : Launch} {D : va_G} {dA : Nat → ClassId} {A : Nat → Prop} {pz b L : Nat} {xs : Nat → Int32} {lc : Nat → Nat → Nat} {s : tt_St} {cc : ByteArray} {nl : Nat} {rt : Option FieldType} {rm : Room} {tn : tt_Tn} {Q : tt_Fin} {pc : Nat} {lv : List (Nat × Value)} {rest : List Value} {ck cn : Nat} {i : Nat} (hv : i < rdN s 100) (hnm : ∀ c m s0, tn c m s0 → s0.methodNamed? yX11_init = some m) {x : Nat} (d : decode cc pc = .ok (.putfield 36, 3)) (kk : tt_V (XC l D dA A pz b L xs) cc (RX11, nl, rt, rm, tn) Q (pc + 3) lv rest lc (wrR s 100 i 8 (some x)) ck cn) : tt_V (XC l D dA A pz b L xs) cc (RX11, nl, rt, rm, tn) Q pc lv (.ref (lc 108 x) :: .ref (lc 100 i) :: rest) lc s ck cn := v_putF (y := yX11_init) (s' := wrR s 100 i 8 (some x)) (p := 8) hnm rfl ⟨by decide, hv⟩ oC_100 (by rw [oC_100]; simp [rdI_wrI, rdI_wrR, rdR_wrR, rdR_wrI, rdL_wrR, rdL_wrI, rdL_wrL, rdI_wrL, rdR_wrL, va_rf]) (fun kd' i' h => EC_of (fun c => rfl) (fun c => rfl) (fun c => by rw [rdR_wrR, if_neg (fun q => h ⟨q.1, q.2.1⟩)])) (fun _ _ z => z) rfl in_X11 tyX11 tyX11_ok nmX11 (by decide) q1769 (.inl rfl) rfl rfl rfl rfl (Nat.le_of_ble_eq_true rfl) d kk
theorem pC_X11_39_100 {l : Launch} {D : va_G} {dA : Nat → ClassId} {A : Nat → Prop} {pz b L : Nat} {xs : Nat → Int32} {lc : Nat → Nat → Nat} {s : tt_St} {cc : ByteArray} {nl : Nat} {rt : Option FieldType} {rm : Room} {tn : tt_Tn} {Q : tt_Fin} {pc : Nat} {lv : List (Nat × Value)} {rest : List Value} {ck cn : Nat} {i : Nat} (hv : i < rdN s 100) (hnm : ∀ c m s0, tn c m s0 → s0.methodNamed? yX11_init = some m) {x : Nat} (d : decode cc pc = .ok (.putfield 39, 3)) (kk : tt_V (XC l D dA A pz b L xs) cc (RX11, nl, rt, rm, tn) Q (pc + 3) lv rest lc (wrR s 100 i 9 (some x)) ck cn) : tt_V (XC l D dA A pz b L xs) cc (RX11, nl, rt, rm, tn) Q pc lv (.ref (lc 109 x) :: .ref (lc 100 i) :: rest) lc s ck cn := v_putF (y := yX11_init) (s' := wrR s 100 i 9 (some x)) (p := 9) hnm rfl ⟨by decide, hv⟩ oC_100 (by rw [oC_100]; simp [rdI_wrI, rdI_wrR, rdR_wrR, rdR_wrI, rdL_wrR, rdL_wrI, rdL_wrL, rdI_wrL, rdR_wrL, va_rf]) (fun kd' i' h => EC_of (fun c => rfl) (fun c => rfl) (fun c => by rw [rdR_wrR, if_neg (fun q => h ⟨q.1, q.2.1⟩)])) (fun _ _ z => z) rfl in_X11 tyX11 tyX11_ok nmX11 (by decide) q1770 (.inl rfl) rfl rfl rfl rfl (Nat.le_of_ble_eq_true rfl) d kk
theorem pC_X11_42_100 {l : Launch} {D : va_G} {dA : Nat → ClassId} {A : Nat → Prop} {pz b L : Nat} {xs : Nat → Int32} {lc : Nat → Nat → Nat} {s : tt_St} {cc : ByteArray} {nl : Nat} {rt : Option FieldType} {rm : Room} {tn : tt_Tn} {Q : tt_Fin} {pc : Nat} {lv : List (Nat × Value)} {rest : List Value} {ck cn : Nat} {i : Nat} (hv : i < rdN s 100) (hnm : ∀ c m s0, tn c m s0 → s0.methodNamed? yX11_init = some m) {x : Nat} (d : decode cc pc = .ok (.putfield 42, 3)) (kk : tt_V (XC l D dA A pz b L xs) cc (RX11, nl, rt, rm, tn) Q (pc + 3) lv rest lc (wrR s 100 i 10 (some x)) ck cn) : tt_V (XC l D dA A pz b L xs) cc (RX11, nl, rt, rm, tn) Q pc lv (.ref (lc 110 x) :: .ref (lc 100 i) :: rest) lc s ck cn := v_putF (y := yX11_init) (s' := wrR s 100 i 10 (some x)) (p := 10) hnm rfl ⟨by decide, hv⟩ oC_100 (by rw [oC_100]; simp [rdI_wrI, rdI_wrR, rdR_wrR, rdR_wrI, rdL_wrR, rdL_wrI, rdL_wrL, rdI_wrL, rdR_wrL, va_rf]) (fun kd' i' h => EC_of (fun c => rfl) (fun c => rfl) (fun c => by rw [rdR_wrR, if_neg (fun q => h ⟨q.1, q.2.1⟩)])) (fun _ _ z => z) rfl in_X11 tyX11 tyX11_ok nmX11 (by decide) q1771 (.inl rfl) rfl rfl rfl rfl (Nat.le_of_ble_eq_true rfl) d kk
theorem pC_X11_45_100 {l : Launch} {D : va_G} {dA : Nat → ClassId} {A : Nat → Prop} {pz b L : Nat} {xs : Nat → Int32} {lc : Nat → Nat → Nat} {s : tt_St} {cc : ByteArray} {nl : Nat} {rt : Option FieldType} {rm : Room} {tn : tt_Tn} {Q : tt_Fin} {pc : Nat} {lv : List (Nat × Value)} {rest : List Value} {ck cn : Nat} {i : Nat} (hv : i < rdN s 100) (hnm : ∀ c m s0, tn c m s0 → s0.methodNamed? yX11_init = some m) {x : Nat} (d : decode cc pc = .ok (.putfield 45, 3)) (kk : tt_V (XC l D dA A pz b L xs) cc (RX11, nl, rt, rm, tn) Q (pc + 3) lv rest lc (wrR s 100 i 11 (some x)) ck cn) : tt_V (XC l D dA A pz b L xs) cc (RX11, nl, rt, rm, tn) Q pc lv (.ref (lc 111 x) :: .ref (lc 100 i) :: rest) lc s ck cn := v_putF (y := yX11_init) (s' := wrR s 100 i 11 (some x)) (p := 11) hnm rfl ⟨by decide, hv⟩ oC_100 (by rw [oC_100]; simp [rdI_wrI, rdI_wrR, rdR_wrR, rdR_wrI, rdL_wrR, rdL_wrI, rdL_wrL, rdI_wrL, rdR_wrL, va_rf]) (fun kd' i' h => EC_of (fun c => rfl) (fun c => rfl) (fun c => by rw [rdR_wrR, if_neg (fun q => h ⟨q.1, q.2.1⟩)])) (fun _ _ z => z) rfl in_X11 tyX11 tyX11_ok nmX11 (by decide) q1772 (.inl rfl) rfl rfl rfl rfl (Nat.le_of_ble_eq_true rfl) d kk
theorem pC_X11_48_100 {l : Launch} {D : va_G} {dA : Nat → ClassId} {A : Nat → Prop} {pz b L : Nat} {xs : Nat → Int32} {lc : Nat → Nat → Nat} {s : tt_St} {cc : ByteArray} {nl : Nat} {rt : Option FieldType} {rm : Room} {tn : tt_Tn} {Q : tt_Fin} {pc : Nat} {lv : List (Nat × Value)} {rest : List Value} {ck cn : Nat} {i : Nat} (hv : i < rdN s 100) (hnm : ∀ c m s0, tn c m s0 → s0.methodNamed? yX11_init = some m) {x : Nat} (d : decode cc pc = .ok (.putfield 48, 3)) (kk : tt_V (XC l D dA A pz b L xs) cc (RX11, nl, rt, rm, tn) Q (pc + 3) lv rest lc (wrR s 100 i 12 (some x)) ck cn) : tt_V (XC l D dA A pz b L xs) cc (RX11, nl, rt, rm, tn) Q pc lv (.ref (lc 112 x) :: .ref (lc 100 i) :: rest) lc s ck cn := v_putF (y := yX11_init) (s' := wrR s 100 i 12 (some x)) (p := 12) hnm rfl ⟨by decide, hv⟩ oC_100 (by rw [oC_100]; simp [rdI_wrI, rdI_wrR, rdR_wrR, rdR_wrI, rdL_wrR, rdL_wrI, rdL_wrL, rdI_wrL, rdR_wrL, va_rf]) (fun kd' i' h => EC_of (fun c => rfl) (fun c => rfl) (fun c => by rw [rdR_wrR, if_neg (fun q => h ⟨q.1, q.2.1⟩)])) (fun _ _ z => z) rfl in_X11 tyX11 tyX11_ok nmX11 (by decide) q1773 (.inl rfl) rfl rfl rfl rfl (Nat.le_of_ble_eq_true rfl) d kk
theorem pC_X11_51_100 {l : Launch} {D : va_G} {dA : Nat → ClassId} {A : Nat → Prop} {pz b L : Nat} {xs : Nat → Int32} {lc : Nat → Nat → Nat} {s : tt_St} {cc : ByteArray} {nl : Nat} {rt : Option FieldType} {rm : Room} {tn : tt_Tn} {Q : tt_Fin} {pc : Nat} {lv : List (Nat × Value)} {rest : List Value} {ck cn : Nat} {i : Nat} (hv : i < rdN s 100) (hnm : ∀ c m s0, tn c m s0 → s0.methodNamed? yX11_init = some m) {x : Nat} (d : decode cc pc = .ok (.putfield 51, 3)) (kk : tt_V (XC l D dA A pz b L xs) cc (RX11, nl, rt, rm, tn) Q (pc + 3) lv rest lc (wrR s 100 i 13 (some x)) ck cn) : tt_V (XC l D dA A pz b L xs) cc (RX11, nl, rt, rm, tn) Q pc lv (.ref (lc 113 x) :: .ref (lc 100 i) :: rest) lc s ck cn := v_putF (y := yX11_init) (s' := wrR s 100 i 13 (some x)) (p := 13) hnm rfl ⟨by decide, hv⟩ oC_100 (by rw [oC_100]; simp [rdI_wrI, rdI_wrR, rdR_wrR, rdR_wrI, rdL_wrR, rdL_wrI, rdL_wrL, rdI_wrL, rdR_wrL, va_rf]) (fun kd' i' h => EC_of (fun c => rfl) (fun c => rfl) (fun c => by rw [rdR_wrR, if_neg (fun q => h ⟨q.1, q.2.1⟩)])) (fun _ _ z => z) rfl in_X11 tyX11 tyX11_ok nmX11 (by decide) q1774 (.inl rfl) rfl rfl rfl rfl (Nat.le_of_ble_eq_true rfl) d kk
theorem pC_X11_54_100 {l : Launch} {D : va_G} {dA : Nat → ClassId} {A : Nat → Prop} {pz b L : Nat} {xs : Nat → Int32} {lc : Nat → Nat → Nat} {s : tt_St} {cc : ByteArray} {nl : Nat} {rt : Option FieldType} {rm : Room} {tn : tt_Tn} {Q : tt_Fin} {pc : Nat} {lv : List (Nat × Value)} {rest : List Value} {ck cn : Nat} {i : Nat} (hv : i < rdN s 100) (hnm : ∀ c m s0, tn c m s0 → s0.methodNamed? yX11_init = some m) {x : Nat} (d : decode cc pc = .ok (.putfield 54, 3)) (kk : tt_V (XC l D dA A pz b L xs) cc (RX11, nl, rt, rm, tn) Q (pc + 3) lv rest lc (wrR s 100 i 14 (some x)) ck cn) : tt_V (XC l D dA A pz b L xs) cc (RX11, nl, rt, rm, tn) Q pc lv (.ref (lc 114 x) :: .ref (lc 100 i) :: rest) lc s ck cn := v_putF (y := yX11_init) (s' := wrR s 100 i 14 (some x)) (p := 14) hnm rfl ⟨by decide, hv⟩ oC_100 (by rw [oC_100]; simp [rdI_wrI, rdI_wrR, rdR_wrR, rdR_wrI, rdL_wrR, rdL_wrI, rdL_wrL, rdI_wrL, rdR_wrL, va_rf]) (fun kd' i' h => EC_of (fun c => rfl) (fun c => rfl) (fun c => by rw [rdR_wrR, if_neg (fun q => h ⟨q.1, q.2.1⟩)])) (fun _ _ z => z) rfl in_X11 tyX11 tyX11_ok nmX11 (by decide) q1775 (.inl rfl) rfl rfl rfl rfl (Nat.le_of_ble_eq_true rfl) d kk
theorem pC_X11_57_100 {l : Launch} {D : va_G} {dA : Nat → ClassId} {A : Nat → Prop} {pz b L : Nat} {xs : Nat → Int32} {lc : Nat → Nat → Nat} {s : tt_St} {cc : ByteArray} {nl : Nat} {rt : Option FieldType} {rm : Room} {tn : tt_Tn} {Q : tt_Fin} {pc : Nat} {lv : List (Nat × Value)} {rest : List Value} {ck cn : Nat} {i : Nat} (hv : i < rdN s 100) (hnm : ∀ c m s0, tn c m s0 → s0.methodNamed? yX11_init = some m) {x : Nat} (d : decode cc pc = .ok (.putfield 57, 3)) (kk : tt_V (XC l D dA A pz b L xs) cc (RX11, nl, rt, rm, tn) Q (pc + 3) lv rest lc (wrR s 100 i 15 (some x)) ck cn) : tt_V (XC l D dA A pz b L xs) cc (RX11, nl, rt, rm, tn) Q pc lv (.ref (lc 115 x) :: .ref (lc 100 i) :: rest) lc s ck cn := v_putF (y := yX11_init) (s' := wrR s 100 i 15 (some x)) (p := 15) hnm rfl ⟨by decide, hv⟩ oC_100 (by rw [oC_100]; simp [rdI_wrI, rdI_wrR, rdR_wrR, rdR_wrI, rdL_wrR, rdL_wrI, rdL_wrL, rdI_wrL, rdR_wrL, va_rf]) (fun kd' i' h => EC_of (fun c => rfl) (fun c => rfl) (fun c => by rw [rdR_wrR, if_neg (fun q => h ⟨q.1, q.2.1⟩)])) (fun _ _ z => z) rfl in_X11 tyX11 tyX11_ok nmX11 (by decide) q1776 (.inl rfl) rfl rfl rfl rfl (Nat.le_of_ble_eq_true rfl) d kk
theorem pC_X11_61_100 {l : Launch} {D : va_G} {dA : Nat → ClassId} {A : Nat → Prop} {pz b L : Nat} {xs : Nat → Int32} {lc : Nat → Nat → Nat} {s : tt_St} {cc : ByteArray} {nl : Nat} {rt : Option FieldType} {rm : Room} {tn : tt_Tn} {Q : tt_Fin} {pc : Nat} {lv : List (Nat × Value)} {rest : List Value} {ck cn : Nat} {i : Nat} (hv : i < rdN s 100) (hnm : ∀ c m s0, tn c m s0 → s0.methodNamed? yX11_init = some m) {x : Nat} (d : decode cc pc = .ok (.putfield 61, 3)) (kk : tt_V (XC l D dA A pz b L xs) cc (RX11, nl, rt, rm, tn) Q (pc + 3) lv rest lc (wrR s 100 i 16 (some x)) ck cn) : tt_V (XC l D dA A pz b L xs) cc (RX11, nl, rt, rm, tn) Q pc lv (.ref (lc 116 x) :: .ref (lc 100 i) :: rest) lc s ck cn := v_putF (y := yX11_init) (s' := wrR s 100 i 16 (some x)) (p := 16) hnm rfl ⟨by decide, hv⟩ oC_100 (by rw [oC_100]; simp [rdI_wrI, rdI_wrR, rdR_wrR, rdR_wrI, rdL_wrR, rdL_wrI, rdL_wrL, rdI_wrL, rdR_wrL, va_rf]) (fun kd' i' h => EC_of (fun c => rfl) (fun c => rfl) (fun c => by rw [rdR_wrR, if_neg (fun q => h ⟨q.1, q.2.1⟩)])) (fun _ _ z => z) rfl in_X11 tyX11 tyX11_ok nmX11 (by decide) q1777 (.inl rfl) rfl rfl rfl rfl (Nat.le_of_ble_eq_true rfl) d kk
theorem pC_X11_64_100 {l : Launch} {D : va_G} {dA : Nat → ClassId} {A : Nat → Prop} {pz b L : Nat} {xs : Nat → Int32} {lc : Nat → Nat → Nat} {s : tt_St} {cc : ByteArray} {nl : Nat} {rt : Option FieldType} {rm : Room} {tn : tt_Tn} {Q : tt_Fin} {pc : Nat} {lv : List (Nat × Value)} {rest : List Value} {ck cn : Nat} {i : Nat} (hv : i < rdN s 100) (hnm : ∀ c m s0, tn c m s0 → s0.methodNamed? yX11_init = some m) {x : Nat} (d : decode cc pc = .ok (.putfield 64, 3)) (kk : tt_V (XC l D dA A pz b L xs) cc (RX11, nl, rt, rm, tn) Q (pc + 3) lv rest lc (wrR s 100 i 17 (some x)) ck cn) : tt_V (XC l D dA A pz b L xs) cc (RX11, nl, rt, rm, tn) Q pc lv (.ref (lc 117 x) :: .ref (lc 100 i) :: rest) lc s ck cn := v_putF (y := yX11_init) (s' := wrR s 100 i 17 (some x)) (p := 17) hnm rfl ⟨by decide, hv⟩ oC_100 (by rw [oC_100]; simp [rdI_wrI, rdI_wrR, rdR_wrR, rdR_wrI, rdL_wrR, rdL_wrI, rdL_wrL, rdI_wrL, rdR_wrL, va_rf]) (fun kd' i' h => EC_of (fun c => rfl) (fun c => rfl) (fun c => by rw [rdR_wrR, if_neg (fun q => h ⟨q.1, q.2.1⟩)])) (fun _ _ z => z) rfl in_X11 tyX11 tyX11_ok nmX11 (by decide) q1778 (.inl rfl) rfl rfl rfl rfl (Nat.le_of_ble_eq_true rfl) d kk
theorem pC_X11_67_100 {l : Launch} {D : va_G} {dA : Nat → ClassId} {A : Nat → Prop} {pz b L : Nat} {xs : Nat → Int32} {lc : Nat → Nat → Nat} {s : tt_St} {cc : ByteArray} {nl : Nat} {rt : Option FieldType} {rm : Room} {tn : tt_Tn} {Q : tt_Fin} {pc : Nat} {lv : List (Nat × Value)} {rest : List Value} {ck cn : Nat} {i : Nat} (hv : i < rdN s 100) (hnm : ∀ c m s0, tn c m s0 → s0.methodNamed? yX11_init = some m) {x : Nat} (d : decode cc pc = .ok (.putfield 67, 3)) (kk : tt_V (XC l D dA A pz b L xs) cc (RX11, nl, rt, rm, tn) Q (pc + 3) lv rest lc (wrR s 100 i 18 (some x)) ck cn) : tt_V (XC l D dA A pz b L xs) cc (RX11, nl, rt, rm, tn) Q pc lv (.ref (lc 118 x) :: .ref (lc 100 i) :: rest) lc s ck cn := v_putF (y := yX11_init) (s' := wrR s 100 i 18 (some x)) (p := 18) hnm rfl ⟨by decide, hv⟩ oC_100 (by rw [oC_100]; simp [rdI_wrI, rdI_wrR, rdR_wrR, rdR_wrI, rdL_wrR, rdL_wrI, rdL_wrL, rdI_wrL, rdR_wrL, va_rf]) (fun kd' i' h => EC_of (fun c => rfl) (fun c => rfl) (fun c => by rw [rdR_wrR, if_neg (fun q => h ⟨q.1, q.2.1⟩)])) (fun _ _ z => z) rfl in_X11 tyX11 tyX11_ok nmX11 (by decide) q1779 (.inl rfl) rfl rfl rfl rfl (Nat.le_of_ble_eq_true rfl) d kk
theorem pC_X11_70_100 {l : Launch} {D : va_G} {dA : Nat → ClassId} {A : Nat → Prop} {pz b L : Nat} {xs : Nat → Int32} {lc : Nat → Nat → Nat} {s : tt_St} {cc : ByteArray} {nl : Nat} {rt : Option FieldType} {rm : Room} {tn : tt_Tn} {Q : tt_Fin} {pc : Nat} {lv : List (Nat × Value)} {rest : List Value} {ck cn : Nat} {i : Nat} (hv : i < rdN s 100) (hnm : ∀ c m s0, tn c m s0 → s0.methodNamed? yX11_init = some m) {x : Nat} (d : decode cc pc = .ok (.putfield 70, 3)) (kk : tt_V (XC l D dA A pz b L xs) cc (RX11, nl, rt, rm, tn) Q (pc + 3) lv rest lc (wrR s 100 i 19 (some x)) ck cn) : tt_V (XC l D dA A pz b L xs) cc (RX11, nl, rt, rm, tn) Q pc lv (.ref (lc 119 x) :: .ref (lc 100 i) :: rest) lc s ck cn := v_putF (y := yX11_init) (s' := wrR s 100 i 19 (some x)) (p := 19) hnm rfl ⟨by decide, hv⟩ oC_100 (by rw [oC_100]; simp [rdI_wrI, rdI_wrR, rdR_wrR, rdR_wrI, rdL_wrR, rdL_wrI, rdL_wrL, rdI_wrL, rdR_wrL, va_rf]) (fun kd' i' h => EC_of (fun c => rfl) (fun c => rfl) (fun c => by rw [rdR_wrR, if_neg (fun q => h ⟨q.1, q.2.1⟩)])) (fun _ _ z => z) rfl in_X11 tyX11 tyX11_ok nmX11 (by decide) q1780 (.inl rfl) rfl rfl rfl rfl (Nat.le_of_ble_eq_true rfl) d kk
theorem pC_X11_73_100 {l : Launch} {D : va_G} {dA : Nat → ClassId} {A : Nat → Prop} {pz b L : Nat} {xs : Nat → Int32} {lc : Nat → Nat → Nat} {s : tt_St} {cc : ByteArray} {nl : Nat} {rt : Option FieldType} {rm : Room} {tn : tt_Tn} {Q : tt_Fin} {pc : Nat} {lv : List (Nat × Value)} {rest : List Value} {ck cn : Nat} {i : Nat} (hv : i < rdN s 100) (hnm : ∀ c m s0, tn c m s0 → s0.methodNamed? yX11_init = some m) {x : Nat} (d : decode cc pc = .ok (.putfield 73, 3)) (kk : tt_V (XC l D dA A pz b L xs) cc (RX11, nl, rt, rm, tn) Q (pc + 3) lv rest lc (wrR s 100 i 20 (some x)) ck cn) : tt_V (XC l D dA A pz b L xs) cc (RX11, nl, rt, rm, tn) Q pc lv (.ref (lc 120 x) :: .ref (lc 100 i) :: rest) lc s ck cn := v_putF (y := yX11_init) (s' := wrR s 100 i 20 (some x)) (p := 20) hnm rfl ⟨by decide, hv⟩ oC_100 (by rw [oC_100]; simp [rdI_wrI, rdI_wrR, rdR_wrR, rdR_wrI, rdL_wrR, rdL_wrI, rdL_wrL, rdI_wrL, rdR_wrL, va_rf]) (fun kd' i' h => EC_of (fun c => rfl) (fun c => rfl) (fun c => by rw [rdR_wrR, if_neg (fun q => h ⟨q.1, q.2.1⟩)])) (fun _ _ z => z) rfl in_X11 tyX11 tyX11_ok nmX11 (by decide) q1781 (.inl rfl) rfl rfl rfl rfl (Nat.le_of_ble_eq_true rfl) d kk
theorem pC_X11_76_100 {l : Launch} {D : va_G} {dA : Nat → ClassId} {A : Nat → Prop} {pz b L : Nat} {xs : Nat → Int32} {lc : Nat → Nat → Nat} {s : tt_St} {cc : ByteArray} {nl : Nat} {rt : Option FieldType} {rm : Room} {tn : tt_Tn} {Q : tt_Fin} {pc : Nat} {lv : List (Nat × Value)} {rest : List Value} {ck cn : Nat} {i : Nat} (hv : i < rdN s 100) (hnm : ∀ c m s0, tn c m s0 → s0.methodNamed? yX11_init = some m) {x : Nat} (d : decode cc pc = .ok (.putfield 76, 3)) (kk : tt_V (XC l D dA A pz b L xs) cc (RX11, nl, rt, rm, tn) Q (pc + 3) lv rest lc (wrR s 100 i 21 (some x)) ck cn) : tt_V (XC l D dA A pz b L xs) cc (RX11, nl, rt, rm, tn) Q pc lv (.ref (lc 121 x) :: .ref (lc 100 i) :: rest) lc s ck cn := v_putF (y := yX11_init) (s' := wrR s 100 i 21 (some x)) (p := 21) hnm rfl ⟨by decide, hv⟩ oC_100 (by rw [oC_100]; simp [rdI_wrI, rdI_wrR, rdR_wrR, rdR_wrI, rdL_wrR, rdL_wrI, rdL_wrL, rdI_wrL, rdR_wrL, va_rf]) (fun kd' i' h => EC_of (fun c => rfl) (fun c => rfl) (fun c => by rw [rdR_wrR, if_neg (fun q => h ⟨q.1, q.2.1⟩)])) (fun _ _ z => z) rfl in_X11 tyX11 tyX11_ok nmX11 (by decide) q1782 (.inl rfl) rfl rfl rfl rfl (Nat.le_of_ble_eq_true rfl) d kk
theorem pC_X11_79_100 {l : Launch} {D : va_G} {dA : Nat → ClassId} {A : Nat → Prop} {pz b L : Nat} {xs : Nat → Int32} {lc : Nat → Nat → Nat} {s : tt_St} {cc : ByteArray} {nl : Nat} {rt : Option FieldType} {rm : Room} {tn : tt_Tn} {Q : tt_Fin} {pc : Nat} {lv : List (Nat × Value)} {rest : List Value} {ck cn : Nat} {i : Nat} (hv : i < rdN s 100) (hnm : ∀ c m s0, tn c m s0 → s0.methodNamed? yX11_init = some m) {x : Nat} (d : decode cc pc = .ok (.putfield 79, 3)) (kk : tt_V (XC l D dA A pz b L xs) cc (RX11, nl, rt, rm, tn) Q (pc + 3) lv rest lc (wrR s 100 i 22 (some x)) ck cn) : tt_V (XC l D dA A pz b L xs) cc (RX11, nl, rt, rm, tn) Q pc lv (.ref (lc 122 x) :: .ref (lc 100 i) :: rest) lc s ck cn := v_putF (y := yX11_init) (s' := wrR s 100 i 22 (some x)) (p := 22) hnm rfl ⟨by decide, hv⟩ oC_100 (by rw [oC_100]; simp [rdI_wrI, rdI_wrR, rdR_wrR, rdR_wrI, rdL_wrR, rdL_wrI, rdL_wrL, rdI_wrL, rdR_wrL, va_rf]) (fun kd' i' h => EC_of (fun c => rfl) (fun c => rfl) (fun c => by rw [rdR_wrR, if_neg (fun q => h ⟨q.1, q.2.1⟩)])) (fun _ _ z => z) rfl in_X11 tyX11 tyX11_ok nmX11 (by decide) q1783 (.inl rfl) rfl rfl rfl rfl (Nat.le_of_ble_eq_true rfl) d kk
theorem pC_X11_82_100 {l : Launch} {D : va_G} {dA : Nat → ClassId} {A : Nat → Prop} {pz b L : Nat} {xs : Nat → Int32} {lc : Nat → Nat → Nat} {s : tt_St} {cc : ByteArray} {nl : Nat} {rt : Option FieldType} {rm : Room} {tn : tt_Tn} {Q : tt_Fin} {pc : Nat} {lv : List (Nat × Value)} {rest : List Value} {ck cn : Nat} {i : Nat} (hv : i < rdN s 100) (hnm : ∀ c m s0, tn c m s0 → s0.methodNamed? yX11_init = some m) {x : Nat} (d : decode cc pc = .ok (.putfield 82, 3)) (kk : tt_V (XC l D dA A pz b L xs) cc (RX11, nl, rt, rm, tn) Q (pc + 3) lv rest lc (wrR s 100 i 23 (some x)) ck cn) : tt_V (XC l D dA A pz b L xs) cc (RX11, nl, rt, rm, tn) Q pc lv (.ref (lc 123 x) :: .ref (lc 100 i) :: rest) lc s ck cn := v_putF (y := yX11_init) (s' := wrR s 100 i 23 (some x)) (p := 23) hnm rfl ⟨by decide, hv⟩ oC_100 (by rw [oC_100]; simp [rdI_wrI, rdI_wrR, rdR_wrR, rdR_wrI, rdL_wrR, rdL_wrI, rdL_wrL, rdI_wrL, rdR_wrL, va_rf]) (fun kd' i' h => EC_of (fun c => rfl) (fun c => rfl) (fun c => by rw [rdR_wrR, if_neg (fun q => h ⟨q.1, q.2.1⟩)])) (fun _ _ z => z) rfl in_X11 tyX11 tyX11_ok nmX11 (by decide) q1784 (.inl rfl) rfl rfl rfl rfl (Nat.le_of_ble_eq_true rfl) d kk
theorem pC_X11_85_100 {l : Launch} {D : va_G} {dA : Nat → ClassId} {A : Nat → Prop} {pz b L : Nat} {xs : Nat → Int32} {lc : Nat → Nat → Nat} {s : tt_St} {cc : ByteArray} {nl : Nat} {rt : Option FieldType} {rm : Room} {tn : tt_Tn} {Q : tt_Fin} {pc : Nat} {lv : List (Nat × Value)} {rest : List Value} {ck cn : Nat} {i : Nat} (hv : i < rdN s 100) (hnm : ∀ c m s0, tn c m s0 → s0.methodNamed? yX11_init = some m) {x : Nat} (d : decode cc pc = .ok (.putfield 85, 3)) (kk : tt_V (XC l D dA A pz b L xs) cc (RX11, nl, rt, rm, tn) Q (pc + 3) lv rest lc (wrR s 100 i 24 (some x)) ck cn) : tt_V (XC l D dA A pz b L xs) cc (RX11, nl, rt, rm, tn) Q pc lv (.ref (lc 124 x) :: .ref (lc 100 i) :: rest) lc s ck cn := v_putF (y := yX11_init) (s' := wrR s 100 i 24 (some x)) (p := 24) hnm rfl ⟨by decide, hv⟩ oC_100 (by rw [oC_100]; simp [rdI_wrI, rdI_wrR, rdR_wrR, rdR_wrI, rdL_wrR, rdL_wrI, rdL_wrL, rdI_wrL, rdR_wrL, va_rf]) (fun kd' i' h => EC_of (fun c => rfl) (fun c => rfl) (fun c => by rw [rdR_wrR, if_neg (fun q => h ⟨q.1, q.2.1⟩)])) (fun _ _ z => z) rfl in_X11 tyX11 tyX11_ok nmX11 (by decide) q1785 (.inl rfl) rfl rfl rfl rfl (Nat.le_of_ble_eq_true rfl) d kk
theorem pC_X11_88_100 {l : Launch} {D : va_G} {dA : Nat → ClassId} {A : Nat → Prop} {pz b L : Nat} {xs : Nat → Int32} {lc : Nat → Nat → Nat} {s : tt_St} {cc : ByteArray} {nl : Nat} {rt : Option FieldType} {rm : Room} {tn : tt_Tn} {Q : tt_Fin} {pc : Nat} {lv : List (Nat × Value)} {rest : List Value} {ck cn : Nat} {i : Nat} (hv : i < rdN s 100) (hnm : ∀ c m s0, tn c m s0 → s0.methodNamed? yX11_init = some m) {x : Nat} (d : decode cc pc = .ok (.putfield 88, 3)) (kk : tt_V (XC l D dA A pz b L xs) cc (RX11, nl, rt, rm, tn) Q (pc + 3) lv rest lc (wrR s 100 i 25 (some x)) ck cn) : tt_V (XC l D dA A pz b L xs) cc (RX11, nl, rt, rm, tn) Q pc lv (.ref (lc 125 x) :: .ref (lc 100 i) :: rest) lc s ck cn := v_putF (y := yX11_init) (s' := wrR s 100 i 25 (some x)) (p := 25) hnm rfl ⟨by decide, hv⟩ oC_100 (by rw [oC_100]; simp [rdI_wrI, rdI_wrR, rdR_wrR, rdR_wrI, rdL_wrR, rdL_wrI, rdL_wrL, rdI_wrL, rdR_wrL, va_rf]) (fun kd' i' h => EC_of (fun c => rfl) (fun c => rfl) (fun c => by rw [rdR_wrR, if_neg (fun q => h ⟨q.1, q.2.1⟩)])) (fun _ _ z => z) rfl in_X11 tyX11 tyX11_ok nmX11 (by decide) q1786 (.inl rfl) rfl rfl rfl rfl (Nat.le_of_ble_eq_true rfl) d kk
theorem pC_X11_91_100 {l : Launch} {D : va_G} {dA : Nat → ClassId} {A : Nat → Prop} {pz b L : Nat} {xs : Nat → Int32} {lc : Nat → Nat → Nat} {s : tt_St} {cc : ByteArray} {nl : Nat} {rt : Option FieldType} {rm : Room} {tn : tt_Tn} {Q : tt_Fin} {pc : Nat} {lv : List (Nat × Value)} {rest : List Value} {ck cn : Nat} {i : Nat} (hv : i < rdN s 100) (hnm : ∀ c m s0, tn c m s0 → s0.methodNamed? yX11_init = some m) {x : Nat} (d : decode cc pc = .ok (.putfield 91, 3)) (kk : tt_V (XC l D dA A pz b L xs) cc (RX11, nl, rt, rm, tn) Q (pc + 3) lv rest lc (wrR s 100 i 26 (some x)) ck cn) : tt_V (XC l D dA A pz b L xs) cc (RX11, nl, rt, rm, tn) Q pc lv (.ref (lc 126 x) :: .ref (lc 100 i) :: rest) lc s ck cn := v_putF (y := yX11_init) (s' := wrR s 100 i 26 (some x)) (p := 26) hnm rfl ⟨by decide, hv⟩ oC_100 (by rw [oC_100]; simp [rdI_wrI, rdI_wrR, rdR_wrR, rdR_wrI, rdL_wrR, rdL_wrI, rdL_wrL, rdI_wrL, rdR_wrL, va_rf]) (fun kd' i' h => EC_of (fun c => rfl) (fun c => rfl) (fun c => by rw [rdR_wrR, if_neg (fun q => h ⟨q.1, q.2.1⟩)])) (fun _ _ z => z) rfl in_X11 tyX11 tyX11_ok nmX11 (by decide) q1787 (.inl rfl) rfl rfl rfl rfl (Nat.le_of_ble_eq_true rfl) d kk
theorem pC_X11_94_100 {l : Launch} {D : va_G} {dA : Nat → ClassId} {A : Nat → Prop} {pz b L : Nat} {xs : Nat → Int32} {lc : Nat → Nat → Nat} {s : tt_St} {cc : ByteArray} {nl : Nat} {rt : Option FieldType} {rm : Room} {tn : tt_Tn} {Q : tt_Fin} {pc : Nat} {lv : List (Nat × Value)} {rest : List Value} {ck cn : Nat} {i : Nat} (hv : i < rdN s 100) (hnm : ∀ c m s0, tn c m s0 → s0.methodNamed? yX11_init = some m) {x : Nat} (d : decode cc pc = .ok (.putfield 94, 3)) (kk : tt_V (XC l D dA A pz b L xs) cc (RX11, nl, rt, rm, tn) Q (pc + 3) lv rest lc (wrR s 100 i 27 (some x)) ck cn) : tt_V (XC l D dA A pz b L xs) cc (RX11, nl, rt, rm, tn) Q pc lv (.ref (lc 127 x) :: .ref (lc 100 i) :: rest) lc s ck cn := v_putF (y := yX11_init) (s' := wrR s 100 i 27 (some x)) (p := 27) hnm rfl ⟨by decide, hv⟩ oC_100 (by rw [oC_100]; simp [rdI_wrI, rdI_wrR, rdR_wrR, rdR_wrI, rdL_wrR, rdL_wrI, rdL_wrL, rdI_wrL, rdR_wrL, va_rf]) (fun kd' i' h => EC_of (fun c => rfl) (fun c => rfl) (fun c => by rw [rdR_wrR, if_neg (fun q => h ⟨q.1, q.2.1⟩)])) (fun _ _ z => z) rfl in_X11 tyX11 tyX11_ok nmX11 (by decide) q1788 (.inl rfl) rfl rfl rfl rfl (Nat.le_of_ble_eq_true rfl) d kk
theorem pC_X11_97_100 {l : Launch} {D : va_G} {dA : Nat → ClassId} {A : Nat → Prop} {pz b L : Nat} {xs : Nat → Int32} {lc : Nat → Nat → Nat} {s : tt_St} {cc : ByteArray} {nl : Nat} {rt : Option FieldType} {rm : Room} {tn : tt_Tn} {Q : tt_Fin} {pc : Nat} {lv : List (Nat × Value)} {rest : List Value} {ck cn : Nat} {i : Nat} (hv : i < rdN s 100) (hnm : ∀ c m s0, tn c m s0 → s0.methodNamed? yX11_init = some m) {x : Nat} (d : decode cc pc = .ok (.putfield 97, 3)) (kk : tt_V (XC l D dA A pz b L xs) cc (RX11, nl, rt, rm, tn) Q (pc + 3) lv rest lc (wrR s 100 i 28 (some x)) ck cn) : tt_V (XC l D dA A pz b L xs) cc (RX11, nl, rt, rm, tn) Q pc lv (.ref (lc 128 x) :: .ref (lc 100 i) :: rest) lc s ck cn := v_putF (y := yX11_init) (s' := wrR s 100 i 28 (some x)) (p := 28) hnm rfl ⟨by decide, hv⟩ oC_100 (by rw [oC_100]; simp [rdI_wrI, rdI_wrR, rdR_wrR, rdR_wrI, rdL_wrR, rdL_wrI, rdL_wrL, rdI_wrL, rdR_wrL, va_rf]) (fun kd' i' h => EC_of (fun c => rfl) (fun c => rfl) (fun c => by rw [rdR_wrR, if_neg (fun q => h ⟨q.1, q.2.1⟩)])) (fun _ _ z => z) rfl in_X11 tyX11 tyX11_ok nmX11 (by decide) q1789 (.inl rfl) rfl rfl rfl rfl (Nat.le_of_ble_eq_true rfl) d kk
theorem pC_X11_100_100 {l : Launch} {D : va_G} {dA : Nat → ClassId} {A : Nat → Prop} {pz b L : Nat} {xs : Nat → Int32} {lc : Nat → Nat → Nat} {s : tt_St} {cc : ByteArray} {nl : Nat} {rt : Option FieldType} {rm : Room} {tn : tt_Tn} {Q : tt_Fin} {pc : Nat} {lv : List (Nat × Value)} {rest : List Value} {ck cn : Nat} {i : Nat} (hv : i < rdN s 100) (hnm : ∀ c m s0, tn c m s0 → s0.methodNamed? yX11_init = some m) {x : Nat} (d : decode cc pc = .ok (.putfield 100, 3)) (kk : tt_V (XC l D dA A pz b L xs) cc (RX11, nl, rt, rm, tn) Q (pc + 3) lv rest lc (wrR s 100 i 33 (some x)) ck cn) : tt_V (XC l D dA A pz b L xs) cc (RX11, nl, rt, rm, tn) Q pc lv (.ref (lc 133 x) :: .ref (lc 100 i) :: rest) lc s ck cn := v_putF (y := yX11_init) (s' := wrR s 100 i 33 (some x)) (p := 33) hnm rfl ⟨by decide, hv⟩ oC_100 (by rw [oC_100]; simp [rdI_wrI, rdI_wrR, rdR_wrR, rdR_wrI, rdL_wrR, rdL_wrI, rdL_wrL, rdI_wrL, rdR_wrL, va_rf]) (fun kd' i' h => EC_of (fun c => rfl) (fun c => rfl) (fun c => by rw [rdR_wrR, if_neg (fun q => h ⟨q.1, q.2.1⟩)])) (fun _ _ z => z) rfl in_X11 tyX11 tyX11_ok nmX11 (by decide) q1794 (.inl rfl) rfl rfl rfl rfl (Nat.le_of_ble_eq_true rfl) d kk
theorem pC_X11_103_100 {l : Launch} {D : va_G} {dA : Nat → ClassId} {A : Nat → Prop} {pz b L : Nat} {xs : Nat → Int32} {lc : Nat → Nat → Nat} {s : tt_St} {cc : ByteArray} {nl : Nat} {rt : Option FieldType} {rm : Room} {tn : tt_Tn} {Q : tt_Fin} {pc : Nat} {lv : List (Nat × Value)} {rest : List Value} {ck cn : Nat} {i : Nat} (hv : i < rdN s 100) (hnm : ∀ c m s0, tn c m s0 → s0.methodNamed? yX11_init = some m) {x : Nat} (d : decode cc pc = .ok (.putfield 103, 3)) (kk : tt_V (XC l D dA A pz b L xs) cc (RX11, nl, rt, rm, tn) Q (pc + 3) lv rest lc (wrR s 100 i 34 (some x)) ck cn) : tt_V (XC l D dA A pz b L xs) cc (RX11, nl, rt, rm, tn) Q pc lv (.ref (lc 134 x) :: .ref (lc 100 i) :: rest) lc s ck cn := v_putF (y := yX11_init) (s' := wrR s 100 i 34 (some x)) (p := 34) hnm rfl ⟨by decide, hv⟩ oC_100 (by rw [oC_100]; simp [rdI_wrI, rdI_wrR, rdR_wrR, rdR_wrI, rdL_wrR, rdL_wrI, rdL_wrL, rdI_wrL, rdR_wrL, va_rf]) (fun kd' i' h => EC_of (fun c => rfl) (fun c => rfl) (fun c => by rw [rdR_wrR, if_neg (fun q => h ⟨q.1, q.2.1⟩)])) (fun _ _ z => z) rfl in_X11 tyX11 tyX11_ok nmX11 (by decide) q1795 (.inl rfl) rfl rfl rfl rfl (Nat.le_of_ble_eq_true rfl) d kk
theorem pC_X11_106_100 {l : Launch} {D : va_G} {dA : Nat → ClassId} {A : Nat → Prop} {pz b L : Nat} {xs : Nat → Int32} {lc : Nat → Nat → Nat} {s : tt_St} {cc : ByteArray} {nl : Nat} {rt : Option FieldType} {rm : Room} {tn : tt_Tn} {Q : tt_Fin} {pc : Nat} {lv : List (Nat × Value)} {rest : List Value} {ck cn : Nat} {i : Nat} (hv : i < rdN s 100) (hnm : ∀ c m s0, tn c m s0 → s0.methodNamed? yX11_init = some m) {x : Nat} (d : decode cc pc = .ok (.putfield 106, 3)) (kk : tt_V (XC l D dA A pz b L xs) cc (RX11, nl, rt, rm, tn) Q (pc + 3) lv rest lc (wrR s 100 i 35 (some x)) ck cn) : tt_V (XC l D dA A pz b L xs) cc (RX11, nl, rt, rm, tn) Q pc lv (.ref (lc 135 x) :: .ref (lc 100 i) :: rest) lc s ck cn := v_putF (y := yX11_init) (s' := wrR s 100 i 35 (some x)) (p := 35) hnm rfl ⟨by decide, hv⟩ oC_100 (by rw [oC_100]; simp [rdI_wrI, rdI_wrR, rdR_wrR, rdR_wrI, rdL_wrR, rdL_wrI, rdL_wrL, rdI_wrL, rdR_wrL, va_rf]) (fun kd' i' h => EC_of (fun c => rfl) (fun c => rfl) (fun c => by rw [rdR_wrR, if_neg (fun q => h ⟨q.1, q.2.1⟩)])) (fun _ _ z => z) rfl in_X11 tyX11 tyX11_ok nmX11 (by decide) q1796 (.inl rfl) rfl rfl rfl rfl (Nat.le_of_ble_eq_true rfl) d kk
theorem pC_X11_109_100 {l : Launch} {D : va_G} {dA : Nat → ClassId} {A : Nat → Prop} {pz b L : Nat} {xs : Nat → Int32} {lc : Nat → Nat → Nat} {s : tt_St} {cc : ByteArray} {nl : Nat} {rt : Option FieldType} {rm : Room} {tn : tt_Tn} {Q : tt_Fin} {pc : Nat} {lv : List (Nat × Value)} {rest : List Value} {ck cn : Nat} {i : Nat} (hv : i < rdN s 100) (hnm : ∀ c m s0, tn c m s0 → s0.methodNamed? yX11_init = some m) {x : Nat} (d : decode cc pc = .ok (.putfield 109, 3)) (kk : tt_V (XC l D dA A pz b L xs) cc (RX11, nl, rt, rm, tn) Q (pc + 3) lv rest lc (wrR s 100 i 36 (some x)) ck cn) : tt_V (XC l D dA A pz b L xs) cc (RX11, nl, rt, rm, tn) Q pc lv (.ref (lc 136 x) :: .ref (lc 100 i) :: rest) lc s ck cn := v_putF (y := yX11_init) (s' := wrR s 100 i 36 (some x)) (p := 36) hnm rfl ⟨by decide, hv⟩ oC_100 (by rw [oC_100]; simp [rdI_wrI, rdI_wrR, rdR_wrR, rdR_wrI, rdL_wrR, rdL_wrI, rdL_wrL, rdI_wrL, rdR_wrL, va_rf]) (fun kd' i' h => EC_of (fun c => rfl) (fun c => rfl) (fun c => by rw [rdR_wrR, if_neg (fun q => h ⟨q.1, q.2.1⟩)])) (fun _ _ z => z) rfl in_X11 tyX11 tyX11_ok nmX11 (by decide) q1797 (.inl rfl) rfl rfl rfl rfl (Nat.le_of_ble_eq_true rfl) d kk
theorem pC_X11_112_100 {l : Launch} {D : va_G} {dA : Nat → ClassId} {A : Nat → Prop} {pz b L : Nat} {xs : Nat → Int32} {lc : Nat → Nat → Nat} {s : tt_St} {cc : ByteArray} {nl : Nat} {rt : Option FieldType} {rm : Room} {tn : tt_Tn} {Q : tt_Fin} {pc : Nat} {lv : List (Nat × Value)} {rest : List Value} {ck cn : Nat} {i : Nat} (hv : i < rdN s 100) (hnm : ∀ c m s0, tn c m s0 → s0.methodNamed? yX11_init = some m) {x : Nat} (d : decode cc pc = .ok (.putfield 112, 3)) (kk : tt_V (XC l D dA A pz b L xs) cc (RX11, nl, rt, rm, tn) Q (pc + 3) lv rest lc (wrR s 100 i 37 (some x)) ck cn) : tt_V (XC l D dA A pz b L xs) cc (RX11, nl, rt, rm, tn) Q pc lv (.ref (lc 137 x) :: .ref (lc 100 i) :: rest) lc s ck cn := v_putF (y := yX11_init) (s' := wrR s 100 i 37 (some x)) (p := 37) hnm rfl ⟨by decide, hv⟩ oC_100 (by rw [oC_100]; simp [rdI_wrI, rdI_wrR, rdR_wrR, rdR_wrI, rdL_wrR, rdL_wrI, rdL_wrL, rdI_wrL, rdR_wrL, va_rf]) (fun kd' i' h => EC_of (fun c => rfl) (fun c => rfl) (fun c => by rw [rdR_wrR, if_neg (fun q => h ⟨q.1, q.2.1⟩)])) (fun _ _ z => z) rfl in_X11 tyX11 tyX11_ok nmX11 (by decide) q1798 (.inl rfl) rfl rfl rfl rfl (Nat.le_of_ble_eq_true rfl) d kk
theorem pC_X11_115_100 {l : Launch} {D : va_G} {dA : Nat → ClassId} {A : Nat → Prop} {pz b L : Nat} {xs : Nat → Int32} {lc : Nat → Nat → Nat} {s : tt_St} {cc : ByteArray} {nl : Nat} {rt : Option FieldType} {rm : Room} {tn : tt_Tn} {Q : tt_Fin} {pc : Nat} {lv : List (Nat × Value)} {rest : List Value} {ck cn : Nat} {i : Nat} (hv : i < rdN s 100) (hnm : ∀ c m s0, tn c m s0 → s0.methodNamed? yX11_init = some m) {x : Nat} (d : decode cc pc = .ok (.putfield 115, 3)) (kk : tt_V (XC l D dA A pz b L xs) cc (RX11, nl, rt, rm, tn) Q (pc + 3) lv rest lc (wrR s 100 i 38 (some x)) ck cn) : tt_V (XC l D dA A pz b L xs) cc (RX11, nl, rt, rm, tn) Q pc lv (.ref (lc 138 x) :: .ref (lc 100 i) :: rest) lc s ck cn := v_putF (y := yX11_init) (s' := wrR s 100 i 38 (some x)) (p := 38) hnm rfl ⟨by decide, hv⟩ oC_100 (by rw [oC_100]; simp [rdI_wrI, rdI_wrR, rdR_wrR, rdR_wrI, rdL_wrR, rdL_wrI, rdL_wrL, rdI_wrL, rdR_wrL, va_rf]) (fun kd' i' h => EC_of (fun c => rfl) (fun c => rfl) (fun c => by rw [rdR_wrR, if_neg (fun q => h ⟨q.1, q.2.1⟩)])) (fun _ _ z => z) rfl in_X11 tyX11 tyX11_ok nmX11 (by decide) q1799 (.inl rfl) rfl rfl rfl rfl (Nat.le_of_ble_eq_true rfl) d kk
theorem pC_X11_118_100 {l : Launch} {D : va_G} {dA : Nat → ClassId} {A : Nat → Prop} {pz b L : Nat} {xs : Nat → Int32} {lc : Nat → Nat → Nat} {s : tt_St} {cc : ByteArray} {nl : Nat} {rt : Option FieldType} {rm : Room} {tn : tt_Tn} {Q : tt_Fin} {pc : Nat} {lv : List (Nat × Value)} {rest : List Value} {ck cn : Nat} {i : Nat} (hv : i < rdN s 100) (hnm : ∀ c m s0, tn c m s0 → s0.methodNamed? yX11_init = some m) {x : Nat} (d : decode cc pc = .ok (.putfield 118, 3)) (kk : tt_V (XC l D dA A pz b L xs) cc (RX11, nl, rt, rm, tn) Q (pc + 3) lv rest lc (wrR s 100 i 39 (some x)) ck cn) : tt_V (XC l D dA A pz b L xs) cc (RX11, nl, rt, rm, tn) Q pc lv (.ref (lc 139 x) :: .ref (lc 100 i) :: rest) lc s ck cn := v_putF (y := yX11_init) (s' := wrR s 100 i 39 (some x)) (p := 39) hnm rfl ⟨by decide, hv⟩ oC_100 (by rw [oC_100]; simp [rdI_wrI, rdI_wrR, rdR_wrR, rdR_wrI, rdL_wrR, rdL_wrI, rdL_wrL, rdI_wrL, rdR_wrL, va_rf]) (fun kd' i' h => EC_of (fun c => rfl) (fun c => rfl) (fun c => by rw [rdR_wrR, if_neg (fun q => h ⟨q.1, q.2.1⟩)])) (fun _ _ z => z) rfl in_X11 tyX11 tyX11_ok nmX11 (by decide) q1800 (.inl rfl) rfl rfl rfl rfl (Nat.le_of_ble_eq_true rfl) d kk
theorem pC_X11_121_100 {l : Launch} {D : va_G} {dA : Nat → ClassId} {A : Nat → Prop} {pz b L : Nat} {xs : Nat → Int32} {lc : Nat → Nat → Nat} {s : tt_St} {cc : ByteArray} {nl : Nat} {rt : Option FieldType} {rm : Room} {tn : tt_Tn} {Q : tt_Fin} {pc : Nat} {lv : List (Nat × Value)} {rest : List Value} {ck cn : Nat} {i : Nat} (hv : i < rdN s 100) (hnm : ∀ c m s0, tn c m s0 → s0.methodNamed? yX11_init = some m) {x : Nat} (d : decode cc pc = .ok (.putfield 121, 3)) (kk : tt_V (XC l D dA A pz b L xs) cc (RX11, nl, rt, rm, tn) Q (pc + 3) lv rest lc (wrR s 100 i 40 (some x)) ck cn) : tt_V (XC l D dA A pz b L xs) cc (RX11, nl, rt, rm, tn) Q pc lv (.ref (lc 140 x) :: .ref (lc 100 i) :: rest) lc s ck cn := v_putF (y := yX11_init) (s' := wrR s 100 i 40 (some x)) (p := 40) hnm rfl ⟨by decide, hv⟩ oC_100 (by rw [oC_100]; simp [rdI_wrI, rdI_wrR, rdR_wrR, rdR_wrI, rdL_wrR, rdL_wrI, rdL_wrL, rdI_wrL, rdR_wrL, va_rf]) (fun kd' i' h => EC_of (fun c => rfl) (fun c => rfl) (fun c => by rw [rdR_wrR, if_neg (fun q => h ⟨q.1, q.2.1⟩)])) (fun _ _ z => z) rfl in_X11 tyX11 tyX11_ok nmX11 (by decide) q1801 (.inl rfl) rfl rfl rfl rfl (Nat.le_of_ble_eq_true rfl) d kk
theorem pC_X11_124_100 {l : Launch} {D : va_G} {dA : Nat → ClassId} {A : Nat → Prop} {pz b L : Nat} {xs : Nat → Int32} {lc : Nat → Nat → Nat} {s : tt_St} {cc : ByteArray} {nl : Nat} {rt : Option FieldType} {rm : Room} {tn : tt_Tn} {Q : tt_Fin} {pc : Nat} {lv : List (Nat × Value)} {rest : List Value} {ck cn : Nat} {i : Nat} (hv : i < rdN s 100) (hnm : ∀ c m s0, tn c m s0 → s0.methodNamed? yX11_init = some m) {x : Nat} (d : decode cc pc = .ok (.putfield 124, 3)) (kk : tt_V (XC l D dA A pz b L xs) cc (RX11, nl, rt, rm, tn) Q (pc + 3) lv rest lc (wrR s 100 i 41 (some x)) ck cn) : tt_V (XC l D dA A pz b L xs) cc (RX11, nl, rt, rm, tn) Q pc lv (.ref (lc 141 x) :: .ref (lc 100 i) :: rest) lc s ck cn := v_putF (y := yX11_init) (s' := wrR s 100 i 41 (some x)) (p := 41) hnm rfl ⟨by decide, hv⟩ oC_100 (by rw [oC_100]; simp [rdI_wrI, rdI_wrR, rdR_wrR, rdR_wrI, rdL_wrR, rdL_wrI, rdL_wrL, rdI_wrL, rdR_wrL, va_rf]) (fun kd' i' h => EC_of (fun c => rfl) (fun c => rfl) (fun c => by rw [rdR_wrR, if_neg (fun q => h ⟨q.1, q.2.1⟩)])) (fun _ _ z => z) rfl in_X11 tyX11 tyX11_ok nmX11 (by decide) q1802 (.inl rfl) rfl rfl rfl rfl (Nat.le_of_ble_eq_true rfl) d kk
theorem pC_X11_127_100 {l : Launch} {D : va_G} {dA : Nat → ClassId} {A : Nat → Prop} {pz b L : Nat} {xs : Nat → Int32} {lc : Nat → Nat → Nat} {s : tt_St} {cc : ByteArray} {nl : Nat} {rt : Option FieldType} {rm : Room} {tn : tt_Tn} {Q : tt_Fin} {pc : Nat} {lv : List (Nat × Value)} {rest : List Value} {ck cn : Nat} {i : Nat} (hv : i < rdN s 100) (hnm : ∀ c m s0, tn c m s0 → s0.methodNamed? yX11_init = some m) {x : Nat} (d : decode cc pc = .ok (.putfield 127, 3)) (kk : tt_V (XC l D dA A pz b L xs) cc (RX11, nl, rt, rm, tn) Q (pc + 3) lv rest lc (wrR s 100 i 42 (some x)) ck cn) : tt_V (XC l D dA A pz b L xs) cc (RX11, nl, rt, rm, tn) Q pc lv (.ref (lc 142 x) :: .ref (lc 100 i) :: rest) lc s ck cn := v_putF (y := yX11_init) (s' := wrR s 100 i 42 (some x)) (p := 42) hnm rfl ⟨by decide, hv⟩ oC_100 (by rw [oC_100]; simp [rdI_wrI, rdI_wrR, rdR_wrR, rdR_wrI, rdL_wrR, rdL_wrI, rdL_wrL, rdI_wrL, rdR_wrL, va_rf]) (fun kd' i' h => EC_of (fun c => rfl) (fun c => rfl) (fun c => by rw [rdR_wrR, if_neg (fun q => h ⟨q.1, q.2.1⟩)])) (fun _ _ z => z) rfl in_X11 tyX11 tyX11_ok nmX11 (by decide) q1803 (.inl rfl) rfl rfl rfl rfl (Nat.le_of_ble_eq_true rfl) d kk
theorem pC_X11_130_100 {l : Launch} {D : va_G} {dA : Nat → ClassId} {A : Nat → Prop} {pz b L : Nat} {xs : Nat → Int32} {lc : Nat → Nat → Nat} {s : tt_St} {cc : ByteArray} {nl : Nat} {rt : Option FieldType} {rm : Room} {tn : tt_Tn} {Q : tt_Fin} {pc : Nat} {lv : List (Nat × Value)} {rest : List Value} {ck cn : Nat} {i : Nat} (hv : i < rdN s 100) (hnm : ∀ c m s0, tn c m s0 → s0.methodNamed? yX11_init = some m) {x : Nat} (d : decode cc pc = .ok (.putfield 130, 3)) (kk : tt_V (XC l D dA A pz b L xs) cc (RX11, nl, rt, rm, tn) Q (pc + 3) lv rest lc (wrR s 100 i 43 (some x)) ck cn) : tt_V (XC l D dA A pz b L xs) cc (RX11, nl, rt, rm, tn) Q pc lv (.ref (lc 143 x) :: .ref (lc 100 i) :: rest) lc s ck cn := v_putF (y := yX11_init) (s' := wrR s 100 i 43 (some x)) (p := 43) hnm rfl ⟨by decide, hv⟩ oC_100 (by rw [oC_100]; simp [rdI_wrI, rdI_wrR, rdR_wrR, rdR_wrI, rdL_wrR, rdL_wrI, rdL_wrL, rdI_wrL, rdR_wrL, va_rf]) (fun kd' i' h => EC_of (fun c => rfl) (fun c => rfl) (fun c => by rw [rdR_wrR, if_neg (fun q => h ⟨q.1, q.2.1⟩)])) (fun _ _ z => z) rfl in_X11 tyX11 tyX11_ok nmX11 (by decide) q1804 (.inl rfl) rfl rfl rfl rfl (Nat.le_of_ble_eq_true rfl) d kk
theorem pC_X11_133_100 {l : Launch} {D : va_G} {dA : Nat → ClassId} {A : Nat → Prop} {pz b L : Nat} {xs : Nat → Int32} {lc : Nat → Nat → Nat} {s : tt_St} {cc : ByteArray} {nl : Nat} {rt : Option FieldType} {rm : Room} {tn : tt_Tn} {Q : tt_Fin} {pc : Nat} {lv : List (Nat × Value)} {rest : List Value} {ck cn : Nat} {i : Nat} (hv : i < rdN s 100) (hnm : ∀ c m s0, tn c m s0 → s0.methodNamed? yX11_init = some m) {x : Nat} (d : decode cc pc = .ok (.putfield 133, 3)) (kk : tt_V (XC l D dA A pz b L xs) cc (RX11, nl, rt, rm, tn) Q (pc + 3) lv rest lc (wrR s 100 i 44 (some x)) ck cn) : tt_V (XC l D dA A pz b L xs) cc (RX11, nl, rt, rm, tn) Q pc lv (.ref (lc 144 x) :: .ref (lc 100 i) :: rest) lc s ck cn := v_putF (y := yX11_init) (s' := wrR s 100 i 44 (some x)) (p := 44) hnm rfl ⟨by decide, hv⟩ oC_100 (by rw [oC_100]; simp [rdI_wrI, rdI_wrR, rdR_wrR, rdR_wrI, rdL_wrR, rdL_wrI, rdL_wrL, rdI_wrL, rdR_wrL, va_rf]) (fun kd' i' h => EC_of (fun c => rfl) (fun c => rfl) (fun c => by rw [rdR_wrR, if_neg (fun q => h ⟨q.1, q.2.1⟩)])) (fun _ _ z => z) rfl in_X11 tyX11 tyX11_ok nmX11 (by decide) q1805 (.inl rfl) rfl rfl rfl rfl (Nat.le_of_ble_eq_true rfl) d kk
theorem pC_X11_136_100 {l : Launch} {D : va_G} {dA : Nat → ClassId} {A : Nat → Prop} {pz b L : Nat} {xs : Nat → Int32} {lc : Nat → Nat → Nat} {s : tt_St} {cc : ByteArray} {nl : Nat} {rt : Option FieldType} {rm : Room} {tn : tt_Tn} {Q : tt_Fin} {pc : Nat} {lv : List (Nat × Value)} {rest : List Value} {ck cn : Nat} {i : Nat} (hv : i < rdN s 100) (hnm : ∀ c m s0, tn c m s0 → s0.methodNamed? yX11_init = some m) {x : Nat} (d : decode cc pc = .ok (.putfield 136, 3)) (kk : tt_V (XC l D dA A pz b L xs) cc (RX11, nl, rt, rm, tn) Q (pc + 3) lv rest lc (wrR s 100 i 45 (some x)) ck cn) : tt_V (XC l D dA A pz b L xs) cc (RX11, nl, rt, rm, tn) Q pc lv (.ref (lc 145 x) :: .ref (lc 100 i) :: rest) lc s ck cn := v_putF (y := yX11_init) (s' := wrR s 100 i 45 (some x)) (p := 45) hnm rfl ⟨by decide, hv⟩ oC_100 (by rw [oC_100]; simp [rdI_wrI, rdI_wrR, rdR_wrR, rdR_wrI, rdL_wrR, rdL_wrI, rdL_wrL, rdI_wrL, rdR_wrL, va_rf]) (fun kd' i' h => EC_of (fun c => rfl) (fun c => rfl) (fun c => by rw [rdR_wrR, if_neg (fun q => h ⟨q.1, q.2.1⟩)])) (fun _ _ z => z) rfl in_X11 tyX11 tyX11_ok nmX11 (by decide) q1806 (.inl rfl) rfl rfl rfl rfl (Nat.le_of_ble_eq_true rfl) d kk
theorem pC_X11_139_100 {l : Launch} {D : va_G} {dA : Nat → ClassId} {A : Nat → Prop} {pz b L : Nat} {xs : Nat → Int32} {lc : Nat → Nat → Nat} {s : tt_St} {cc : ByteArray} {nl : Nat} {rt : Option FieldType} {rm : Room} {tn : tt_Tn} {Q : tt_Fin} {pc : Nat} {lv : List (Nat × Value)} {rest : List Value} {ck cn : Nat} {i : Nat} (hv : i < rdN s 100) (hnm : ∀ c m s0, tn c m s0 → s0.methodNamed? yX11_init = some m) {x : Nat} (d : decode cc pc = .ok (.putfield 139, 3)) (kk : tt_V (XC l D dA A pz b L xs) cc (RX11, nl, rt, rm, tn) Q (pc + 3) lv rest lc (wrR s 100 i 46 (some x)) ck cn) : tt_V (XC l D dA A pz b L xs) cc (RX11, nl, rt, rm, tn) Q pc lv (.ref (lc 146 x) :: .ref (lc 100 i) :: rest) lc s ck cn := v_putF (y := yX11_init) (s' := wrR s 100 i 46 (some x)) (p := 46) hnm rfl ⟨by decide, hv⟩ oC_100 (by rw [oC_100]; simp [rdI_wrI, rdI_wrR, rdR_wrR, rdR_wrI, rdL_wrR, rdL_wrI, rdL_wrL, rdI_wrL, rdR_wrL, va_rf]) (fun kd' i' h => EC_of (fun c => rfl) (fun c => rfl) (fun c => by rw [rdR_wrR, if_neg (fun q => h ⟨q.1, q.2.1⟩)])) (fun _ _ z => z) rfl in_X11 tyX11 tyX11_ok nmX11 (by decide) q1807 (.inl rfl) rfl rfl rfl rfl (Nat.le_of_ble_eq_true rfl) d kk
theorem pC_X11_142_100 {l : Launch} {D : va_G} {dA : Nat → ClassId} {A : Nat → Prop} {pz b L : Nat} {xs : Nat → Int32} {lc : Nat → Nat → Nat} {s : tt_St} {cc : ByteArray} {nl : Nat} {rt : Option FieldType} {rm : Room} {tn : tt_Tn} {Q : tt_Fin} {pc : Nat} {lv : List (Nat × Value)} {rest : List Value} {ck cn : Nat} {i : Nat} (hv : i < rdN s 100) (hnm : ∀ c m s0, tn c m s0 → s0.methodNamed? yX11_init = some m) {x : Nat} (d : decode cc pc = .ok (.putfield 142, 3)) (kk : tt_V (XC l D dA A pz b L xs) cc (RX11, nl, rt, rm, tn) Q (pc + 3) lv rest lc (wrR s 100 i 47 (some x)) ck cn) : tt_V (XC l D dA A pz b L xs) cc (RX11, nl, rt, rm, tn) Q pc lv (.ref (lc 147 x) :: .ref (lc 100 i) :: rest) lc s ck cn := v_putF (y := yX11_init) (s' := wrR s 100 i 47 (some x)) (p := 47) hnm rfl ⟨by decide, hv⟩ oC_100 (by rw [oC_100]; simp [rdI_wrI, rdI_wrR, rdR_wrR, rdR_wrI, rdL_wrR, rdL_wrI, rdL_wrL, rdI_wrL, rdR_wrL, va_rf]) (fun kd' i' h => EC_of (fun c => rfl) (fun c => rfl) (fun c => by rw [rdR_wrR, if_neg (fun q => h ⟨q.1, q.2.1⟩)])) (fun _ _ z => z) rfl in_X11 tyX11 tyX11_ok nmX11 (by decide) q1808 (.inl rfl) rfl rfl rfl rfl (Nat.le_of_ble_eq_true rfl) d kk
theorem plX11 : plainName RX11 = true := by decide
def fC_X11_init (s : tt_St) (x0 : Nat) : Option tt_St :=
  if okC s then nm (newA s 101) fun s2 => if (rdN s 101) < rdN s2 101 then if x0 < rdN s2 100 then nm (wrR s2 100 x0 1 (some (rdN s 101))) fun s5 => if x0 < rdN s5 100 then if okC s5 then if cnLe s s5 then nm (newA s5 102) fun s9 => if (rdN s5 102) < rdN s9 102 then if x0 < rdN s9 100 then nm (wrR s9 100 x0 2 (some (rdN s5 102))) fun s12 => if x0 < rdN s12 100 then if okC s12 then if cnLe s5 s12 then nm (newA s12 103) fun s16 => if (rdN s12 103) < rdN s16 103 then if x0 < rdN s16 100 then nm (wrR s16 100 x0 3 (some (rdN s12 103))) fun s19 => if x0 < rdN s19 100 then if okC s19 then if cnLe s12 s19 then nm (newA s19 104) fun s23 => if (rdN s19 104) < rdN s23 104 then if x0 < rdN s23 100 then nm (wrR s23 100 x0 4 (some (rdN s19 104))) fun s26 => if x0 < rdN s26 100 then if okC s26 then if cnLe s19 s26 then nm (newA s26 106) fun s30 => if (rdN s26 106) < rdN s30 106 then if x0 < rdN s30 100 then nm (wrR s30 100 x0 6 (some (rdN s26 106))) fun s33 => if x0 < rdN s33 100 then if okC s33 then if cnLe s26 s33 then nm (newA s33 107) fun s37 => if (rdN s33 107) < rdN s37 107 then if x0 < rdN s37 100 then nm (wrR s37 100 x0 7 (some (rdN s33 107))) fun s40 => if x0 < rdN s40 100 then if okC s40 then if cnLe s33 s40 then nm (newA s40 108) fun s44 => if (rdN s40 108) < rdN s44 108 then if x0 < rdN s44 100 then nm (wrR s44 100 x0 8 (some (rdN s40 108))) fun s47 => if x0 < rdN s47 100 then if okC s47 then if cnLe s40 s47 then nm (newA s47 109) fun s51 => if (rdN s47 109) < rdN s51 109 then if x0 < rdN s51 100 then nm (wrR s51 100 x0 9 (some (rdN s47 109))) fun s54 => if x0 < rdN s54 100 then if okC s54 then if cnLe s47 s54 then nm (newA s54 110) fun s58 => if (rdN s54 110) < rdN s58 110 then if x0 < rdN s58 100 then nm (wrR s58 100 x0 10 (some (rdN s54 110))) fun s61 => if x0 < rdN s61 100 then if okC s61 then if cnLe s54 s61 then nm (newA s61 111) fun s65 => if (rdN s61 111) < rdN s65 111 then if x0 < rdN s65 100 then nm (wrR s65 100 x0 11 (some (rdN s61 111))) fun s68 => if x0 < rdN s68 100 then if okC s68 then if cnLe s61 s68 then nm (newA s68 112) fun s72 => if (rdN s68 112) < rdN s72 112 then if x0 < rdN s72 100 then nm (wrR s72 100 x0 12 (some (rdN s68 112))) fun s75 => if x0 < rdN s75 100 then if okC s75 then if cnLe s68 s75 then nm (newA s75 113) fun s79 => if (rdN s75 113) < rdN s79 113 then if x0 < rdN s79 100 then nm (wrR s79 100 x0 13 (some (rdN s75 113))) fun s82 => if x0 < rdN s82 100 then if okC s82 then if cnLe s75 s82 then nm (newA s82 114) fun s86 => if (rdN s82 114) < rdN s86 114 then if x0 < rdN s86 100 then nm (wrR s86 100 x0 14 (some (rdN s82 114))) fun s89 => if x0 < rdN s89 100 then if okC s89 then if cnLe s82 s89 then nm (newA s89 115) fun s93 => if (rdN s89 115) < rdN s93 115 then if x0 < rdN s93 100 then nm (wrR s93 100 x0 15 (some (rdN s89 115))) fun s96 => if x0 < rdN s96 100 then if okC s96 then if cnLe s89 s96 then nm (newA s96 116) fun s100 => if (rdN s96 116) < rdN s100 116 then if x0 < rdN s100 100 then nm (wrR s100 100 x0 16 (some (rdN s96 116))) fun s103 => if x0 < rdN s103 100 then if okC s103 then if cnLe s96 s103 then nm (newA s103 117) fun s107 => if (rdN s103 117) < rdN s107 117 then if x0 < rdN s107 100 then nm (wrR s107 100 x0 17 (some (rdN s103 117))) fun s110 => if x0 < rdN s110 100 then if okC s110 then if cnLe s103 s110 then nm (newA s110 118) fun s114 => if (rdN s110 118) < rdN s114 118 then if x0 < rdN s114 100 then nm (wrR s114 100 x0 18 (some (rdN s110 118))) fun s117 => if x0 < rdN s117 100 then if okC s117 then if cnLe s110 s117 then nm (newA s117 119) fun s121 => if (rdN s117 119) < rdN s121 119 then if x0 < rdN s121 100 then nm (wrR s121 100 x0 19 (some (rdN s117 119))) fun s124 => if x0 < rdN s124 100 then if okC s124 then if cnLe s117 s124 then nm (newA s124 120) fun s128 => if (rdN s124 120) < rdN s128 120 then if x0 < rdN s128 100 then nm (wrR s128 100 x0 20 (some (rdN s124 120))) fun s131 => if x0 < rdN s131 100 then if okC s131 then if cnLe s124 s131 then nm (newA s131 121) fun s135 => if (rdN s131 121) < rdN s135 121 then if x0 < rdN s135 100 then nm (wrR s135 100 x0 21 (some (rdN s131 121))) fun s138 => if x0 < rdN s138 100 then if okC s138 then if cnLe s131 s138 then nm (newA s138 122) fun s142 => if (rdN s138 122) < rdN s142 122 then if x0 < rdN s142 100 then nm (wrR s142 100 x0 22 (some (rdN s138 122))) fun s145 => if x0 < rdN s145 100 then if okC s145 then if cnLe s138 s145 then nm (newA s145 123) fun s149 => if (rdN s145 123) < rdN s149 123 then if x0 < rdN s149 100 then nm (wrR s149 100 x0 23 (some (rdN s145 123))) fun s152 => if x0 < rdN s152 100 then if okC s152 then if cnLe s145 s152 then nm (newA s152 124) fun s156 => if (rdN s152 124) < rdN s156 124 then if x0 < rdN s156 100 then nm (wrR s156 100 x0 24 (some (rdN s152 124))) fun s159 => if x0 < rdN s159 100 then if okC s159 then if cnLe s152 s159 then nm (newA s159 125) fun s163 => if (rdN s159 125) < rdN s163 125 then if x0 < rdN s163 100 then nm (wrR s163 100 x0 25 (some (rdN s159 125))) fun s166 => if x0 < rdN s166 100 then if okC s166 then if cnLe s159 s166 then nm (newA s166 126) fun s170 => if (rdN s166 126) < rdN s170 126 then if x0 < rdN s170 100 then nm (wrR s170 100 x0 26 (some (rdN s166 126))) fun s173 => if x0 < rdN s173 100 then if okC s173 then if cnLe s166 s173 then nm (newA s173 127) fun s177 => if (rdN s173 127) < rdN s177 127 then if x0 < rdN s177 100 then nm (wrR s177 100 x0 27 (some (rdN s173 127))) fun s180 => if x0 < rdN s180 100 then if okC s180 then if cnLe s173 s180 then nm (newA s180 128) fun s184 => if (rdN s180 128) < rdN s184 128 then if x0 < rdN s184 100 then nm (wrR s184 100 x0 28 (some (rdN s180 128))) fun s187 => if x0 < rdN s187 100 then if okC s187 then if cnLe s180 s187 then nm (newA s187 133) fun s191 => if (rdN s187 133) < rdN s191 133 then if x0 < rdN s191 100 then nm (wrR s191 100 x0 33 (some (rdN s187 133))) fun s194 => if x0 < rdN s194 100 then if okC s194 then if cnLe s187 s194 then nm (newA s194 134) fun s198 => if (rdN s194 134) < rdN s198 134 then if x0 < rdN s198 100 then nm (wrR s198 100 x0 34 (some (rdN s194 134))) fun s201 => if x0 < rdN s201 100 then if okC s201 then if cnLe s194 s201 then nm (newA s201 135) fun s205 => if (rdN s201 135) < rdN s205 135 then if x0 < rdN s205 100 then nm (wrR s205 100 x0 35 (some (rdN s201 135))) fun s208 => if x0 < rdN s208 100 then if okC s208 then if cnLe s201 s208 then nm (newA s208 136) fun s212 => if (rdN s208 136) < rdN s212 136 then if x0 < rdN s212 100 then nm (wrR s212 100 x0 36 (some (rdN s208 136))) fun s215 => if x0 < rdN s215 100 then if okC s215 then if cnLe s208 s215 then nm (newA s215 137) fun s219 => if (rdN s215 137) < rdN s219 137 then if x0 < rdN s219 100 then nm (wrR s219 100 x0 37 (some (rdN s215 137))) fun s222 => if x0 < rdN s222 100 then if okC s222 then if cnLe s215 s222 then nm (newA s222 138) fun s226 => if (rdN s222 138) < rdN s226 138 then if x0 < rdN s226 100 then nm (wrR s226 100 x0 38 (some (rdN s222 138))) fun s229 => if x0 < rdN s229 100 then if okC s229 then if cnLe s222 s229 then nm (newA s229 139) fun s233 => if (rdN s229 139) < rdN s233 139 then if x0 < rdN s233 100 then nm (wrR s233 100 x0 39 (some (rdN s229 139))) fun s236 => if x0 < rdN s236 100 then if okC s236 then if cnLe s229 s236 then nm (newA s236 140) fun s240 => if (rdN s236 140) < rdN s240 140 then if x0 < rdN s240 100 then nm (wrR s240 100 x0 40 (some (rdN s236 140))) fun s243 => if x0 < rdN s243 100 then if okC s243 then if cnLe s236 s243 then nm (newA s243 141) fun s247 => if (rdN s243 141) < rdN s247 141 then if x0 < rdN s247 100 then nm (wrR s247 100 x0 41 (some (rdN s243 141))) fun s250 => if x0 < rdN s250 100 then if okC s250 then if cnLe s243 s250 then nm (newA s250 142) fun s254 => if (rdN s250 142) < rdN s254 142 then if x0 < rdN s254 100 then nm (wrR s254 100 x0 42 (some (rdN s250 142))) fun s257 => if x0 < rdN s257 100 then if okC s257 then if cnLe s250 s257 then nm (newA s257 143) fun s261 => if (rdN s257 143) < rdN s261 143 then if x0 < rdN s261 100 then nm (wrR s261 100 x0 43 (some (rdN s257 143))) fun s264 => if x0 < rdN s264 100 then if okC s264 then if cnLe s257 s264 then nm (newA s264 144) fun s268 => if (rdN s264 144) < rdN s268 144 then if x0 < rdN s268 100 then nm (wrR s268 100 x0 44 (some (rdN s264 144))) fun s271 => if x0 < rdN s271 100 then if okC s271 then if cnLe s264 s271 then nm (newA s271 145) fun s275 => if (rdN s271 145) < rdN s275 145 then if x0 < rdN s275 100 then nm (wrR s275 100 x0 45 (some (rdN s271 145))) fun s278 => if x0 < rdN s278 100 then if okC s278 then if cnLe s271 s278 then nm (newA s278 146) fun s282 => if (rdN s278 146) < rdN s282 146 then if x0 < rdN s282 100 then nm (wrR s282 100 x0 46 (some (rdN s278 146))) fun s285 => if x0 < rdN s285 100 then if okC s285 then if cnLe s278 s285 then nm (newA s285 147) fun s289 => if (rdN s285 147) < rdN s289 147 then if x0 < rdN s289 100 then nm (wrR s289 100 x0 47 (some (rdN s285 147))) fun s292 => some s292 else none else none else none else none else none else none else none else none else none else none else none else none else none else none else none else none else none else none else none else none else none else none else none else none else none else none else none else none else none else none else none else none else none else none else none else none else none else none else none else none else none else none else none else none else none else none else none else none else none else none else none else none else none else none else none else none else none else none else none else none else none else none else none else none else none else none else none else none else none else none else none else none else none else none else none else none else none else none else none else none else none else none else none else none else none else none else none else none else none else none else none else none else none else none else none else none else none else none else none else none else none else none else none else none else none else none else none else none else none else none else none else none else none else none else none else none else none else none else none else none else none else none else none else none else none else none else none else none else none else none else none else none else none else none else none else none else none else none else none else none else none else none else none else none else none else none else none else none else none else none else none else none else none else none else none else none else none else none else none else none else none else none else none else none else none else none else none else none else none else none else none else none else none else none else none else none else none else none else none else none else none else none else none else none else none else none else none else none else none else none else none else none else none else none else none else none else none else none else none else none else none else none else none else none else none else none else none else none
abbrev rmC_X11_init : Room := { frames := 1, cells := 42, slots := 9645, locals := 20 }
set_option maxHeartbeats 8000000 in
theorem mC_X11_init (l : Launch) (D : va_G) (dA : Nat → ClassId) (A : Nat → Prop) (pz b L : Nat) (xs : Nat → Int32) (lc : Nat → Nat → Nat) (s : tt_St) (x0 : Nat) (hx0 : x0 < rdN s 100) {Q : Option Value → (Nat → Nat → Nat) → tt_St → Prop} (h : Ok (fC_X11_init s x0) (fun r => ∀ lc', tt_agc (XC l D dA A pz b L xs) s lc lc' → Q none lc' r)) : tt_Sp (XC l D dA A pz b L xs) yX11_init cX11_init 1 none rmC_X11_init [.ref (lc 100 x0)] lc s Q := by
  refine tt_Sp.ofVn plX11 kokC (Nat.le_of_ble_eq_true rfl) ?_
  show tt_V (XC l D dA A pz b L xs) cX11_init (RX11, 1, none, rmC_X11_init, tt_nw yX11_init) (tt_fn (XC l D dA A pz b L xs) (RX11, 1, none, rmC_X11_init, tt_nw yX11_init) Q) 0 [(0, .ref (lc 100 x0))] [] lc s 0 0
  unfold fC_X11_init at h
  refine v_aload_n 0 dX11_init_0 rfl ?_
  refine v_objInit q1760 q166 q167 (Nat.le_of_ble_eq_true rfl) (Nat.le_of_ble_eq_true rfl) (Nat.le_of_ble_eq_true rfl) dX11_init_1 ?_
  refine v_aload_n 0 dX11_init_4 rfl ?_
  refine v_iconst dX11_init_5 ic_3 ?_
  obtain ⟨g1, h⟩ := Ok.guard h
  refine nC_n (kd := 101) (t := 0) (N := 3) g1 (by decide) rfl (fun _ => rfl) q193 rfl rfl rfl (by decide) (by decide) (by decide) ⟨Nat.le_of_ble_eq_true rfl, Nat.le_of_ble_eq_true rfl⟩ dX11_init_6 (fun lc hc => ?_)
  rw [← hc 100 x0 ⟨by decide, hx0⟩]
  have h := Ok.agc h hc (fun _ _ h => h)
  refine v_nmS (fun s2 e_s2 => ?_)
  have h := Ok.nm h e_s2
  obtain ⟨g3, h⟩ := Ok.guard h
  obtain ⟨g4, h⟩ := Ok.guard h
  refine pC_X11_7_100 g4 (fun _ _ _ h => h) dX11_init_8 ?_
  refine v_nmS (fun s5 e_s5 => ?_)
  have h := Ok.nm h e_s5
  refine v_aload_n 0 dX11_init_11 rfl ?_
  refine v_sipush dX11_init_12 ks_160 ?_
  obtain ⟨g6, h⟩ := Ok.guard h
  obtain ⟨g7, h⟩ := Ok.guard h
  obtain ⟨g8, h⟩ := Ok.guard h
  refine nC_n (kd := 102) (t := 0) (N := 160) g7 (by decide) rfl (fun _ => rfl) q193 rfl rfl rfl (by decide) (by decide) (by decide) ⟨Nat.le_of_ble_eq_true rfl, Nat.le_of_ble_eq_true rfl⟩ dX11_init_15 (fun lc hc => ?_)
  rw [← hc 100 x0 ⟨by decide, g6⟩]
  have h := Ok.agc h hc (cnLe_mono g8)
  refine v_nmS (fun s9 e_s9 => ?_)
  have h := Ok.nm h e_s9
  obtain ⟨g10, h⟩ := Ok.guard h
  obtain ⟨g11, h⟩ := Ok.guard h
  refine pC_X11_14_100 g11 (fun _ _ _ h => h) dX11_init_17 ?_
  refine v_nmS (fun s12 e_s12 => ?_)
  have h := Ok.nm h e_s12
  refine v_aload_n 0 dX11_init_20 rfl ?_
  refine v_sipush dX11_init_21 ks_160 ?_
  obtain ⟨g13, h⟩ := Ok.guard h
  obtain ⟨g14, h⟩ := Ok.guard h
  obtain ⟨g15, h⟩ := Ok.guard h
  refine nC_n (kd := 103) (t := 0) (N := 160) g14 (by decide) rfl (fun _ => rfl) q193 rfl rfl rfl (by decide) (by decide) (by decide) ⟨Nat.le_of_ble_eq_true rfl, Nat.le_of_ble_eq_true rfl⟩ dX11_init_24 (fun lc hc => ?_)
  rw [← hc 100 x0 ⟨by decide, g13⟩]
  have h := Ok.agc h hc (cnLe_mono g15)
  refine v_nmS (fun s16 e_s16 => ?_)
  have h := Ok.nm h e_s16
  obtain ⟨g17, h⟩ := Ok.guard h
  obtain ⟨g18, h⟩ := Ok.guard h
  refine pC_X11_20_100 g18 (fun _ _ _ h => h) dX11_init_26 ?_
  refine v_nmS (fun s19 e_s19 => ?_)
  have h := Ok.nm h e_s19
  refine v_aload_n 0 dX11_init_29 rfl ?_
  refine v_sipush dX11_init_30 ks_640 ?_
  obtain ⟨g20, h⟩ := Ok.guard h
  obtain ⟨g21, h⟩ := Ok.guard h
  obtain ⟨g22, h⟩ := Ok.guard h
  refine nC_n (kd := 104) (t := 0) (N := 640) g21 (by decide) rfl (fun _ => rfl) q193 rfl rfl rfl (by decide) (by decide) (by decide) ⟨Nat.le_of_ble_eq_true rfl, Nat.le_of_ble_eq_true rfl⟩ dX11_init_33 (fun lc hc => ?_)
  rw [← hc 100 x0 ⟨by decide, g20⟩]
  have h := Ok.agc h hc (cnLe_mono g22)
  refine v_nmS (fun s23 e_s23 => ?_)
  have h := Ok.nm h e_s23
  obtain ⟨g24, h⟩ := Ok.guard h
  obtain ⟨g25, h⟩ := Ok.guard h
  refine pC_X11_11_100 g25 (fun _ _ _ h => h) dX11_init_35 ?_
  refine v_nmS (fun s26 e_s26 => ?_)
  have h := Ok.nm h e_s26
  refine v_aload_n 0 dX11_init_38 rfl ?_
  refine v_bipush dX11_init_39 kb_40 ?_
  obtain ⟨g27, h⟩ := Ok.guard h
  obtain ⟨g28, h⟩ := Ok.guard h
  obtain ⟨g29, h⟩ := Ok.guard h
  refine nC_n (kd := 106) (t := 10) (N := 40) g28 (by decide) rfl (fun _ => rfl) q1912 rfl rfl rfl (by decide) (by decide) (by decide) ⟨Nat.le_of_ble_eq_true rfl, Nat.le_of_ble_eq_true rfl⟩ dX11_init_41 (fun lc hc => ?_)
  rw [← hc 100 x0 ⟨by decide, g27⟩]
  have h := Ok.agc h hc (cnLe_mono g29)
  refine v_nmS (fun s30 e_s30 => ?_)
  have h := Ok.nm h e_s30
  obtain ⟨g31, h⟩ := Ok.guard h
  obtain ⟨g32, h⟩ := Ok.guard h
  refine pC_X11_29_100 g32 (fun _ _ _ h => h) dX11_init_43 ?_
  refine v_nmS (fun s33 e_s33 => ?_)
  have h := Ok.nm h e_s33
  refine v_aload_n 0 dX11_init_46 rfl ?_
  refine v_bipush dX11_init_47 kb_25 ?_
  obtain ⟨g34, h⟩ := Ok.guard h
  obtain ⟨g35, h⟩ := Ok.guard h
  obtain ⟨g36, h⟩ := Ok.guard h
  refine nC_n (kd := 107) (t := 10) (N := 25) g35 (by decide) rfl (fun _ => rfl) q1912 rfl rfl rfl (by decide) (by decide) (by decide) ⟨Nat.le_of_ble_eq_true rfl, Nat.le_of_ble_eq_true rfl⟩ dX11_init_49 (fun lc hc => ?_)
  rw [← hc 100 x0 ⟨by decide, g34⟩]
  have h := Ok.agc h hc (cnLe_mono g36)
  refine v_nmS (fun s37 e_s37 => ?_)
  have h := Ok.nm h e_s37
  obtain ⟨g38, h⟩ := Ok.guard h
  obtain ⟨g39, h⟩ := Ok.guard h
  refine pC_X11_33_100 g39 (fun _ _ _ h => h) dX11_init_51 ?_
  refine v_nmS (fun s40 e_s40 => ?_)
  have h := Ok.nm h e_s40
  refine v_aload_n 0 dX11_init_54 rfl ?_
  refine v_bipush dX11_init_55 kb_40 ?_
  obtain ⟨g41, h⟩ := Ok.guard h
  obtain ⟨g42, h⟩ := Ok.guard h
  obtain ⟨g43, h⟩ := Ok.guard h
  refine nC_n (kd := 108) (t := 0) (N := 40) g42 (by decide) rfl (fun _ => rfl) q193 rfl rfl rfl (by decide) (by decide) (by decide) ⟨Nat.le_of_ble_eq_true rfl, Nat.le_of_ble_eq_true rfl⟩ dX11_init_57 (fun lc hc => ?_)
  rw [← hc 100 x0 ⟨by decide, g41⟩]
  have h := Ok.agc h hc (cnLe_mono g43)
  refine v_nmS (fun s44 e_s44 => ?_)
  have h := Ok.nm h e_s44
  obtain ⟨g45, h⟩ := Ok.guard h
  obtain ⟨g46, h⟩ := Ok.guard h
  refine pC_X11_36_100 g46 (fun _ _ _ h => h) dX11_init_59 ?_
  refine v_nmS (fun s47 e_s47 => ?_)
  have h := Ok.nm h e_s47
  refine v_aload_n 0 dX11_init_62 rfl ?_
  refine v_bipush dX11_init_63 kb_40 ?_
  obtain ⟨g48, h⟩ := Ok.guard h
  obtain ⟨g49, h⟩ := Ok.guard h
  obtain ⟨g50, h⟩ := Ok.guard h
  refine nC_n (kd := 109) (t := 0) (N := 40) g49 (by decide) rfl (fun _ => rfl) q193 rfl rfl rfl (by decide) (by decide) (by decide) ⟨Nat.le_of_ble_eq_true rfl, Nat.le_of_ble_eq_true rfl⟩ dX11_init_65 (fun lc hc => ?_)
  rw [← hc 100 x0 ⟨by decide, g48⟩]
  have h := Ok.agc h hc (cnLe_mono g50)
  refine v_nmS (fun s51 e_s51 => ?_)
  have h := Ok.nm h e_s51
  obtain ⟨g52, h⟩ := Ok.guard h
  obtain ⟨g53, h⟩ := Ok.guard h
  refine pC_X11_39_100 g53 (fun _ _ _ h => h) dX11_init_67 ?_
  refine v_nmS (fun s54 e_s54 => ?_)
  have h := Ok.nm h e_s54
  refine v_aload_n 0 dX11_init_70 rfl ?_
  refine v_bipush dX11_init_71 kb_40 ?_
  obtain ⟨g55, h⟩ := Ok.guard h
  obtain ⟨g56, h⟩ := Ok.guard h
  obtain ⟨g57, h⟩ := Ok.guard h
  refine nC_n (kd := 110) (t := 0) (N := 40) g56 (by decide) rfl (fun _ => rfl) q193 rfl rfl rfl (by decide) (by decide) (by decide) ⟨Nat.le_of_ble_eq_true rfl, Nat.le_of_ble_eq_true rfl⟩ dX11_init_73 (fun lc hc => ?_)
  rw [← hc 100 x0 ⟨by decide, g55⟩]
  have h := Ok.agc h hc (cnLe_mono g57)
  refine v_nmS (fun s58 e_s58 => ?_)
  have h := Ok.nm h e_s58
  obtain ⟨g59, h⟩ := Ok.guard h
  obtain ⟨g60, h⟩ := Ok.guard h
  refine pC_X11_42_100 g60 (fun _ _ _ h => h) dX11_init_75 ?_
  refine v_nmS (fun s61 e_s61 => ?_)
  have h := Ok.nm h e_s61
  refine v_aload_n 0 dX11_init_78 rfl ?_
  refine v_bipush dX11_init_79 kb_40 ?_
  obtain ⟨g62, h⟩ := Ok.guard h
  obtain ⟨g63, h⟩ := Ok.guard h
  obtain ⟨g64, h⟩ := Ok.guard h
  refine nC_n (kd := 111) (t := 0) (N := 40) g63 (by decide) rfl (fun _ => rfl) q193 rfl rfl rfl (by decide) (by decide) (by decide) ⟨Nat.le_of_ble_eq_true rfl, Nat.le_of_ble_eq_true rfl⟩ dX11_init_81 (fun lc hc => ?_)
  rw [← hc 100 x0 ⟨by decide, g62⟩]
  have h := Ok.agc h hc (cnLe_mono g64)
  refine v_nmS (fun s65 e_s65 => ?_)
  have h := Ok.nm h e_s65
  obtain ⟨g66, h⟩ := Ok.guard h
  obtain ⟨g67, h⟩ := Ok.guard h
  refine pC_X11_45_100 g67 (fun _ _ _ h => h) dX11_init_83 ?_
  refine v_nmS (fun s68 e_s68 => ?_)
  have h := Ok.nm h e_s68
  refine v_aload_n 0 dX11_init_86 rfl ?_
  refine v_bipush dX11_init_87 kb_40 ?_
  obtain ⟨g69, h⟩ := Ok.guard h
  obtain ⟨g70, h⟩ := Ok.guard h
  obtain ⟨g71, h⟩ := Ok.guard h
  refine nC_n (kd := 112) (t := 0) (N := 40) g70 (by decide) rfl (fun _ => rfl) q193 rfl rfl rfl (by decide) (by decide) (by decide) ⟨Nat.le_of_ble_eq_true rfl, Nat.le_of_ble_eq_true rfl⟩ dX11_init_89 (fun lc hc => ?_)
  rw [← hc 100 x0 ⟨by decide, g69⟩]
  have h := Ok.agc h hc (cnLe_mono g71)
  refine v_nmS (fun s72 e_s72 => ?_)
  have h := Ok.nm h e_s72
  obtain ⟨g73, h⟩ := Ok.guard h
  obtain ⟨g74, h⟩ := Ok.guard h
  refine pC_X11_48_100 g74 (fun _ _ _ h => h) dX11_init_91 ?_
  refine v_nmS (fun s75 e_s75 => ?_)
  have h := Ok.nm h e_s75
  refine v_aload_n 0 dX11_init_94 rfl ?_
  refine v_sipush dX11_init_95 ks_160 ?_
  obtain ⟨g76, h⟩ := Ok.guard h
  obtain ⟨g77, h⟩ := Ok.guard h
  obtain ⟨g78, h⟩ := Ok.guard h
  refine nC_n (kd := 113) (t := 0) (N := 160) g77 (by decide) rfl (fun _ => rfl) q193 rfl rfl rfl (by decide) (by decide) (by decide) ⟨Nat.le_of_ble_eq_true rfl, Nat.le_of_ble_eq_true rfl⟩ dX11_init_98 (fun lc hc => ?_)
  rw [← hc 100 x0 ⟨by decide, g76⟩]
  have h := Ok.agc h hc (cnLe_mono g78)
  refine v_nmS (fun s79 e_s79 => ?_)
  have h := Ok.nm h e_s79
  obtain ⟨g80, h⟩ := Ok.guard h
  obtain ⟨g81, h⟩ := Ok.guard h
  refine pC_X11_51_100 g81 (fun _ _ _ h => h) dX11_init_100 ?_
  refine v_nmS (fun s82 e_s82 => ?_)
  have h := Ok.nm h e_s82
  refine v_aload_n 0 dX11_init_103 rfl ?_
  refine v_sipush dX11_init_104 ks_160 ?_
  obtain ⟨g83, h⟩ := Ok.guard h
  obtain ⟨g84, h⟩ := Ok.guard h
  obtain ⟨g85, h⟩ := Ok.guard h
  refine nC_n (kd := 114) (t := 0) (N := 160) g84 (by decide) rfl (fun _ => rfl) q193 rfl rfl rfl (by decide) (by decide) (by decide) ⟨Nat.le_of_ble_eq_true rfl, Nat.le_of_ble_eq_true rfl⟩ dX11_init_107 (fun lc hc => ?_)
  rw [← hc 100 x0 ⟨by decide, g83⟩]
  have h := Ok.agc h hc (cnLe_mono g85)
  refine v_nmS (fun s86 e_s86 => ?_)
  have h := Ok.nm h e_s86
  obtain ⟨g87, h⟩ := Ok.guard h
  obtain ⟨g88, h⟩ := Ok.guard h
  refine pC_X11_54_100 g88 (fun _ _ _ h => h) dX11_init_109 ?_
  refine v_nmS (fun s89 e_s89 => ?_)
  have h := Ok.nm h e_s89
  refine v_aload_n 0 dX11_init_112 rfl ?_
  refine v_bipush dX11_init_113 kb_40 ?_
  obtain ⟨g90, h⟩ := Ok.guard h
  obtain ⟨g91, h⟩ := Ok.guard h
  obtain ⟨g92, h⟩ := Ok.guard h
  refine nC_n (kd := 115) (t := 1) (N := 40) g91 (by decide) rfl (fun _ => rfl) q194 rfl rfl rfl (by decide) (by decide) (by decide) ⟨Nat.le_of_ble_eq_true rfl, Nat.le_of_ble_eq_true rfl⟩ dX11_init_115 (fun lc hc => ?_)
  rw [← hc 100 x0 ⟨by decide, g90⟩]
  have h := Ok.agc h hc (cnLe_mono g92)
  refine v_nmS (fun s93 e_s93 => ?_)
  have h := Ok.nm h e_s93
  obtain ⟨g94, h⟩ := Ok.guard h
  obtain ⟨g95, h⟩ := Ok.guard h
  refine pC_X11_57_100 g95 (fun _ _ _ h => h) dX11_init_117 ?_
  refine v_nmS (fun s96 e_s96 => ?_)
  have h := Ok.nm h e_s96
  refine v_aload_n 0 dX11_init_120 rfl ?_
  refine v_bipush dX11_init_121 kb_25 ?_
  obtain ⟨g97, h⟩ := Ok.guard h
  obtain ⟨g98, h⟩ := Ok.guard h
  obtain ⟨g99, h⟩ := Ok.guard h
  refine nC_n (kd := 116) (t := 0) (N := 25) g98 (by decide) rfl (fun _ => rfl) q193 rfl rfl rfl (by decide) (by decide) (by decide) ⟨Nat.le_of_ble_eq_true rfl, Nat.le_of_ble_eq_true rfl⟩ dX11_init_123 (fun lc hc => ?_)
  rw [← hc 100 x0 ⟨by decide, g97⟩]
  have h := Ok.agc h hc (cnLe_mono g99)
  refine v_nmS (fun s100 e_s100 => ?_)
  have h := Ok.nm h e_s100
  obtain ⟨g101, h⟩ := Ok.guard h
  obtain ⟨g102, h⟩ := Ok.guard h
  refine pC_X11_61_100 g102 (fun _ _ _ h => h) dX11_init_125 ?_
  refine v_nmS (fun s103 e_s103 => ?_)
  have h := Ok.nm h e_s103
  refine v_aload_n 0 dX11_init_128 rfl ?_
  refine v_bipush dX11_init_129 kb_25 ?_
  obtain ⟨g104, h⟩ := Ok.guard h
  obtain ⟨g105, h⟩ := Ok.guard h
  obtain ⟨g106, h⟩ := Ok.guard h
  refine nC_n (kd := 117) (t := 0) (N := 25) g105 (by decide) rfl (fun _ => rfl) q193 rfl rfl rfl (by decide) (by decide) (by decide) ⟨Nat.le_of_ble_eq_true rfl, Nat.le_of_ble_eq_true rfl⟩ dX11_init_131 (fun lc hc => ?_)
  rw [← hc 100 x0 ⟨by decide, g104⟩]
  have h := Ok.agc h hc (cnLe_mono g106)
  refine v_nmS (fun s107 e_s107 => ?_)
  have h := Ok.nm h e_s107
  obtain ⟨g108, h⟩ := Ok.guard h
  obtain ⟨g109, h⟩ := Ok.guard h
  refine pC_X11_64_100 g109 (fun _ _ _ h => h) dX11_init_133 ?_
  refine v_nmS (fun s110 e_s110 => ?_)
  have h := Ok.nm h e_s110
  refine v_aload_n 0 dX11_init_136 rfl ?_
  refine v_bipush dX11_init_137 kb_25 ?_
  obtain ⟨g111, h⟩ := Ok.guard h
  obtain ⟨g112, h⟩ := Ok.guard h
  obtain ⟨g113, h⟩ := Ok.guard h
  refine nC_n (kd := 118) (t := 0) (N := 25) g112 (by decide) rfl (fun _ => rfl) q193 rfl rfl rfl (by decide) (by decide) (by decide) ⟨Nat.le_of_ble_eq_true rfl, Nat.le_of_ble_eq_true rfl⟩ dX11_init_139 (fun lc hc => ?_)
  rw [← hc 100 x0 ⟨by decide, g111⟩]
  have h := Ok.agc h hc (cnLe_mono g113)
  refine v_nmS (fun s114 e_s114 => ?_)
  have h := Ok.nm h e_s114
  obtain ⟨g115, h⟩ := Ok.guard h
  obtain ⟨g116, h⟩ := Ok.guard h
  refine pC_X11_67_100 g116 (fun _ _ _ h => h) dX11_init_141 ?_
  refine v_nmS (fun s117 e_s117 => ?_)
  have h := Ok.nm h e_s117
  refine v_aload_n 0 dX11_init_144 rfl ?_
  refine v_bipush dX11_init_145 kb_25 ?_
  obtain ⟨g118, h⟩ := Ok.guard h
  obtain ⟨g119, h⟩ := Ok.guard h
  obtain ⟨g120, h⟩ := Ok.guard h
  refine nC_n (kd := 119) (t := 0) (N := 25) g119 (by decide) rfl (fun _ => rfl) q193 rfl rfl rfl (by decide) (by decide) (by decide) ⟨Nat.le_of_ble_eq_true rfl, Nat.le_of_ble_eq_true rfl⟩ dX11_init_147 (fun lc hc => ?_)
  rw [← hc 100 x0 ⟨by decide, g118⟩]
  have h := Ok.agc h hc (cnLe_mono g120)
  refine v_nmS (fun s121 e_s121 => ?_)
  have h := Ok.nm h e_s121
  obtain ⟨g122, h⟩ := Ok.guard h
  obtain ⟨g123, h⟩ := Ok.guard h
  refine pC_X11_70_100 g123 (fun _ _ _ h => h) dX11_init_149 ?_
  refine v_nmS (fun s124 e_s124 => ?_)
  have h := Ok.nm h e_s124
  refine v_aload_n 0 dX11_init_152 rfl ?_
  refine v_bipush dX11_init_153 kb_25 ?_
  obtain ⟨g125, h⟩ := Ok.guard h
  obtain ⟨g126, h⟩ := Ok.guard h
  obtain ⟨g127, h⟩ := Ok.guard h
  refine nC_n (kd := 120) (t := 1) (N := 25) g126 (by decide) rfl (fun _ => rfl) q194 rfl rfl rfl (by decide) (by decide) (by decide) ⟨Nat.le_of_ble_eq_true rfl, Nat.le_of_ble_eq_true rfl⟩ dX11_init_155 (fun lc hc => ?_)
  rw [← hc 100 x0 ⟨by decide, g125⟩]
  have h := Ok.agc h hc (cnLe_mono g127)
  refine v_nmS (fun s128 e_s128 => ?_)
  have h := Ok.nm h e_s128
  obtain ⟨g129, h⟩ := Ok.guard h
  obtain ⟨g130, h⟩ := Ok.guard h
  refine pC_X11_73_100 g130 (fun _ _ _ h => h) dX11_init_157 ?_
  refine v_nmS (fun s131 e_s131 => ?_)
  have h := Ok.nm h e_s131
  refine v_aload_n 0 dX11_init_160 rfl ?_
  refine v_sipush dX11_init_161 ks_1000 ?_
  obtain ⟨g132, h⟩ := Ok.guard h
  obtain ⟨g133, h⟩ := Ok.guard h
  obtain ⟨g134, h⟩ := Ok.guard h
  refine nC_n (kd := 121) (t := 1) (N := 1000) g133 (by decide) rfl (fun _ => rfl) q194 rfl rfl rfl (by decide) (by decide) (by decide) ⟨Nat.le_of_ble_eq_true rfl, Nat.le_of_ble_eq_true rfl⟩ dX11_init_164 (fun lc hc => ?_)
  rw [← hc 100 x0 ⟨by decide, g132⟩]
  have h := Ok.agc h hc (cnLe_mono g134)
  refine v_nmS (fun s135 e_s135 => ?_)
  have h := Ok.nm h e_s135
  obtain ⟨g136, h⟩ := Ok.guard h
  obtain ⟨g137, h⟩ := Ok.guard h
  refine pC_X11_76_100 g137 (fun _ _ _ h => h) dX11_init_166 ?_
  refine v_nmS (fun s138 e_s138 => ?_)
  have h := Ok.nm h e_s138
  refine v_aload_n 0 dX11_init_169 rfl ?_
  refine v_sipush dX11_init_170 ks_1000 ?_
  obtain ⟨g139, h⟩ := Ok.guard h
  obtain ⟨g140, h⟩ := Ok.guard h
  obtain ⟨g141, h⟩ := Ok.guard h
  refine nC_n (kd := 122) (t := 1) (N := 1000) g140 (by decide) rfl (fun _ => rfl) q194 rfl rfl rfl (by decide) (by decide) (by decide) ⟨Nat.le_of_ble_eq_true rfl, Nat.le_of_ble_eq_true rfl⟩ dX11_init_173 (fun lc hc => ?_)
  rw [← hc 100 x0 ⟨by decide, g139⟩]
  have h := Ok.agc h hc (cnLe_mono g141)
  refine v_nmS (fun s142 e_s142 => ?_)
  have h := Ok.nm h e_s142
  obtain ⟨g143, h⟩ := Ok.guard h
  obtain ⟨g144, h⟩ := Ok.guard h
  refine pC_X11_79_100 g144 (fun _ _ _ h => h) dX11_init_175 ?_
  refine v_nmS (fun s145 e_s145 => ?_)
  have h := Ok.nm h e_s145
  refine v_aload_n 0 dX11_init_178 rfl ?_
  refine v_sipush dX11_init_179 ks_1000 ?_
  obtain ⟨g146, h⟩ := Ok.guard h
  obtain ⟨g147, h⟩ := Ok.guard h
  obtain ⟨g148, h⟩ := Ok.guard h
  refine nC_n (kd := 123) (t := 1) (N := 1000) g147 (by decide) rfl (fun _ => rfl) q194 rfl rfl rfl (by decide) (by decide) (by decide) ⟨Nat.le_of_ble_eq_true rfl, Nat.le_of_ble_eq_true rfl⟩ dX11_init_182 (fun lc hc => ?_)
  rw [← hc 100 x0 ⟨by decide, g146⟩]
  have h := Ok.agc h hc (cnLe_mono g148)
  refine v_nmS (fun s149 e_s149 => ?_)
  have h := Ok.nm h e_s149
  obtain ⟨g150, h⟩ := Ok.guard h
  obtain ⟨g151, h⟩ := Ok.guard h
  refine pC_X11_82_100 g151 (fun _ _ _ h => h) dX11_init_184 ?_
  refine v_nmS (fun s152 e_s152 => ?_)
  have h := Ok.nm h e_s152
  refine v_aload_n 0 dX11_init_187 rfl ?_
  refine v_sipush dX11_init_188 ks_4000 ?_
  obtain ⟨g153, h⟩ := Ok.guard h
  obtain ⟨g154, h⟩ := Ok.guard h
  obtain ⟨g155, h⟩ := Ok.guard h
  refine nC_n (kd := 124) (t := 0) (N := 4000) g154 (by decide) rfl (fun _ => rfl) q193 rfl rfl rfl (by decide) (by decide) (by decide) ⟨Nat.le_of_ble_eq_true rfl, Nat.le_of_ble_eq_true rfl⟩ dX11_init_191 (fun lc hc => ?_)
  rw [← hc 100 x0 ⟨by decide, g153⟩]
  have h := Ok.agc h hc (cnLe_mono g155)
  refine v_nmS (fun s156 e_s156 => ?_)
  have h := Ok.nm h e_s156
  obtain ⟨g157, h⟩ := Ok.guard h
  obtain ⟨g158, h⟩ := Ok.guard h
  refine pC_X11_85_100 g158 (fun _ _ _ h => h) dX11_init_193 ?_
  refine v_nmS (fun s159 e_s159 => ?_)
  have h := Ok.nm h e_s159
  refine v_aload_n 0 dX11_init_196 rfl ?_
  refine v_sipush dX11_init_197 ks_250 ?_
  obtain ⟨g160, h⟩ := Ok.guard h
  obtain ⟨g161, h⟩ := Ok.guard h
  obtain ⟨g162, h⟩ := Ok.guard h
  refine nC_n (kd := 125) (t := 1) (N := 250) g161 (by decide) rfl (fun _ => rfl) q194 rfl rfl rfl (by decide) (by decide) (by decide) ⟨Nat.le_of_ble_eq_true rfl, Nat.le_of_ble_eq_true rfl⟩ dX11_init_200 (fun lc hc => ?_)
  rw [← hc 100 x0 ⟨by decide, g160⟩]
  have h := Ok.agc h hc (cnLe_mono g162)
  refine v_nmS (fun s163 e_s163 => ?_)
  have h := Ok.nm h e_s163
  obtain ⟨g164, h⟩ := Ok.guard h
  obtain ⟨g165, h⟩ := Ok.guard h
  refine pC_X11_88_100 g165 (fun _ _ _ h => h) dX11_init_202 ?_
  refine v_nmS (fun s166 e_s166 => ?_)
  have h := Ok.nm h e_s166
  refine v_aload_n 0 dX11_init_205 rfl ?_
  refine v_sipush dX11_init_206 ks_175 ?_
  obtain ⟨g167, h⟩ := Ok.guard h
  obtain ⟨g168, h⟩ := Ok.guard h
  obtain ⟨g169, h⟩ := Ok.guard h
  refine nC_n (kd := 126) (t := 1) (N := 175) g168 (by decide) rfl (fun _ => rfl) q194 rfl rfl rfl (by decide) (by decide) (by decide) ⟨Nat.le_of_ble_eq_true rfl, Nat.le_of_ble_eq_true rfl⟩ dX11_init_209 (fun lc hc => ?_)
  rw [← hc 100 x0 ⟨by decide, g167⟩]
  have h := Ok.agc h hc (cnLe_mono g169)
  refine v_nmS (fun s170 e_s170 => ?_)
  have h := Ok.nm h e_s170
  obtain ⟨g171, h⟩ := Ok.guard h
  obtain ⟨g172, h⟩ := Ok.guard h
  refine pC_X11_91_100 g172 (fun _ _ _ h => h) dX11_init_211 ?_
  refine v_nmS (fun s173 e_s173 => ?_)
  have h := Ok.nm h e_s173
  refine v_aload_n 0 dX11_init_214 rfl ?_
  refine v_bipush dX11_init_215 kb_10 ?_
  obtain ⟨g174, h⟩ := Ok.guard h
  obtain ⟨g175, h⟩ := Ok.guard h
  obtain ⟨g176, h⟩ := Ok.guard h
  refine nC_n (kd := 127) (t := 0) (N := 10) g175 (by decide) rfl (fun _ => rfl) q193 rfl rfl rfl (by decide) (by decide) (by decide) ⟨Nat.le_of_ble_eq_true rfl, Nat.le_of_ble_eq_true rfl⟩ dX11_init_217 (fun lc hc => ?_)
  rw [← hc 100 x0 ⟨by decide, g174⟩]
  have h := Ok.agc h hc (cnLe_mono g176)
  refine v_nmS (fun s177 e_s177 => ?_)
  have h := Ok.nm h e_s177
  obtain ⟨g178, h⟩ := Ok.guard h
  obtain ⟨g179, h⟩ := Ok.guard h
  refine pC_X11_94_100 g179 (fun _ _ _ h => h) dX11_init_219 ?_
  refine v_nmS (fun s180 e_s180 => ?_)
  have h := Ok.nm h e_s180
  refine v_aload_n 0 dX11_init_222 rfl ?_
  refine v_bipush dX11_init_223 kb_10 ?_
  obtain ⟨g181, h⟩ := Ok.guard h
  obtain ⟨g182, h⟩ := Ok.guard h
  obtain ⟨g183, h⟩ := Ok.guard h
  refine nC_n (kd := 128) (t := 0) (N := 10) g182 (by decide) rfl (fun _ => rfl) q193 rfl rfl rfl (by decide) (by decide) (by decide) ⟨Nat.le_of_ble_eq_true rfl, Nat.le_of_ble_eq_true rfl⟩ dX11_init_225 (fun lc hc => ?_)
  rw [← hc 100 x0 ⟨by decide, g181⟩]
  have h := Ok.agc h hc (cnLe_mono g183)
  refine v_nmS (fun s184 e_s184 => ?_)
  have h := Ok.nm h e_s184
  obtain ⟨g185, h⟩ := Ok.guard h
  obtain ⟨g186, h⟩ := Ok.guard h
  refine pC_X11_97_100 g186 (fun _ _ _ h => h) dX11_init_227 ?_
  refine v_nmS (fun s187 e_s187 => ?_)
  have h := Ok.nm h e_s187
  refine v_aload_n 0 dX11_init_230 rfl ?_
  refine v_bipush dX11_init_231 kb_72 ?_
  obtain ⟨g188, h⟩ := Ok.guard h
  obtain ⟨g189, h⟩ := Ok.guard h
  obtain ⟨g190, h⟩ := Ok.guard h
  refine nC_n (kd := 133) (t := 0) (N := 72) g189 (by decide) rfl (fun _ => rfl) q193 rfl rfl rfl (by decide) (by decide) (by decide) ⟨Nat.le_of_ble_eq_true rfl, Nat.le_of_ble_eq_true rfl⟩ dX11_init_233 (fun lc hc => ?_)
  rw [← hc 100 x0 ⟨by decide, g188⟩]
  have h := Ok.agc h hc (cnLe_mono g190)
  refine v_nmS (fun s191 e_s191 => ?_)
  have h := Ok.nm h e_s191
  obtain ⟨g192, h⟩ := Ok.guard h
  obtain ⟨g193, h⟩ := Ok.guard h
  refine pC_X11_100_100 g193 (fun _ _ _ h => h) dX11_init_235 ?_
  refine v_nmS (fun s194 e_s194 => ?_)
  have h := Ok.nm h e_s194
  refine v_aload_n 0 dX11_init_238 rfl ?_
  refine v_bipush dX11_init_239 kb_12 ?_
  obtain ⟨g195, h⟩ := Ok.guard h
  obtain ⟨g196, h⟩ := Ok.guard h
  obtain ⟨g197, h⟩ := Ok.guard h
  refine nC_n (kd := 134) (t := 0) (N := 12) g196 (by decide) rfl (fun _ => rfl) q193 rfl rfl rfl (by decide) (by decide) (by decide) ⟨Nat.le_of_ble_eq_true rfl, Nat.le_of_ble_eq_true rfl⟩ dX11_init_241 (fun lc hc => ?_)
  rw [← hc 100 x0 ⟨by decide, g195⟩]
  have h := Ok.agc h hc (cnLe_mono g197)
  refine v_nmS (fun s198 e_s198 => ?_)
  have h := Ok.nm h e_s198
  obtain ⟨g199, h⟩ := Ok.guard h
  obtain ⟨g200, h⟩ := Ok.guard h
  refine pC_X11_103_100 g200 (fun _ _ _ h => h) dX11_init_243 ?_
  refine v_nmS (fun s201 e_s201 => ?_)
  have h := Ok.nm h e_s201
  refine v_aload_n 0 dX11_init_246 rfl ?_
  refine v_bipush dX11_init_247 kb_40 ?_
  obtain ⟨g202, h⟩ := Ok.guard h
  obtain ⟨g203, h⟩ := Ok.guard h
  obtain ⟨g204, h⟩ := Ok.guard h
  refine nC_n (kd := 135) (t := 0) (N := 40) g203 (by decide) rfl (fun _ => rfl) q193 rfl rfl rfl (by decide) (by decide) (by decide) ⟨Nat.le_of_ble_eq_true rfl, Nat.le_of_ble_eq_true rfl⟩ dX11_init_249 (fun lc hc => ?_)
  rw [← hc 100 x0 ⟨by decide, g202⟩]
  have h := Ok.agc h hc (cnLe_mono g204)
  refine v_nmS (fun s205 e_s205 => ?_)
  have h := Ok.nm h e_s205
  obtain ⟨g206, h⟩ := Ok.guard h
  obtain ⟨g207, h⟩ := Ok.guard h
  refine pC_X11_106_100 g207 (fun _ _ _ h => h) dX11_init_251 ?_
  refine v_nmS (fun s208 e_s208 => ?_)
  have h := Ok.nm h e_s208
  refine v_aload_n 0 dX11_init_254 rfl ?_
  refine v_bipush dX11_init_255 kb_40 ?_
  obtain ⟨g209, h⟩ := Ok.guard h
  obtain ⟨g210, h⟩ := Ok.guard h
  obtain ⟨g211, h⟩ := Ok.guard h
  refine nC_n (kd := 136) (t := 1) (N := 40) g210 (by decide) rfl (fun _ => rfl) q194 rfl rfl rfl (by decide) (by decide) (by decide) ⟨Nat.le_of_ble_eq_true rfl, Nat.le_of_ble_eq_true rfl⟩ dX11_init_257 (fun lc hc => ?_)
  rw [← hc 100 x0 ⟨by decide, g209⟩]
  have h := Ok.agc h hc (cnLe_mono g211)
  refine v_nmS (fun s212 e_s212 => ?_)
  have h := Ok.nm h e_s212
  obtain ⟨g213, h⟩ := Ok.guard h
  obtain ⟨g214, h⟩ := Ok.guard h
  refine pC_X11_109_100 g214 (fun _ _ _ h => h) dX11_init_259 ?_
  refine v_nmS (fun s215 e_s215 => ?_)
  have h := Ok.nm h e_s215
  refine v_aload_n 0 dX11_init_262 rfl ?_
  refine v_bipush dX11_init_263 kb_40 ?_
  obtain ⟨g216, h⟩ := Ok.guard h
  obtain ⟨g217, h⟩ := Ok.guard h
  obtain ⟨g218, h⟩ := Ok.guard h
  refine nC_n (kd := 137) (t := 1) (N := 40) g217 (by decide) rfl (fun _ => rfl) q194 rfl rfl rfl (by decide) (by decide) (by decide) ⟨Nat.le_of_ble_eq_true rfl, Nat.le_of_ble_eq_true rfl⟩ dX11_init_265 (fun lc hc => ?_)
  rw [← hc 100 x0 ⟨by decide, g216⟩]
  have h := Ok.agc h hc (cnLe_mono g218)
  refine v_nmS (fun s219 e_s219 => ?_)
  have h := Ok.nm h e_s219
  obtain ⟨g220, h⟩ := Ok.guard h
  obtain ⟨g221, h⟩ := Ok.guard h
  refine pC_X11_112_100 g221 (fun _ _ _ h => h) dX11_init_267 ?_
  refine v_nmS (fun s222 e_s222 => ?_)
  have h := Ok.nm h e_s222
  refine v_aload_n 0 dX11_init_270 rfl ?_
  refine v_bipush dX11_init_271 kb_40 ?_
  obtain ⟨g223, h⟩ := Ok.guard h
  obtain ⟨g224, h⟩ := Ok.guard h
  obtain ⟨g225, h⟩ := Ok.guard h
  refine nC_n (kd := 138) (t := 1) (N := 40) g224 (by decide) rfl (fun _ => rfl) q194 rfl rfl rfl (by decide) (by decide) (by decide) ⟨Nat.le_of_ble_eq_true rfl, Nat.le_of_ble_eq_true rfl⟩ dX11_init_273 (fun lc hc => ?_)
  rw [← hc 100 x0 ⟨by decide, g223⟩]
  have h := Ok.agc h hc (cnLe_mono g225)
  refine v_nmS (fun s226 e_s226 => ?_)
  have h := Ok.nm h e_s226
  obtain ⟨g227, h⟩ := Ok.guard h
  obtain ⟨g228, h⟩ := Ok.guard h
  refine pC_X11_115_100 g228 (fun _ _ _ h => h) dX11_init_275 ?_
  refine v_nmS (fun s229 e_s229 => ?_)
  have h := Ok.nm h e_s229
  refine v_aload_n 0 dX11_init_278 rfl ?_
  refine v_bipush dX11_init_279 kb_40 ?_
  obtain ⟨g230, h⟩ := Ok.guard h
  obtain ⟨g231, h⟩ := Ok.guard h
  obtain ⟨g232, h⟩ := Ok.guard h
  refine nC_n (kd := 139) (t := 1) (N := 40) g231 (by decide) rfl (fun _ => rfl) q194 rfl rfl rfl (by decide) (by decide) (by decide) ⟨Nat.le_of_ble_eq_true rfl, Nat.le_of_ble_eq_true rfl⟩ dX11_init_281 (fun lc hc => ?_)
  rw [← hc 100 x0 ⟨by decide, g230⟩]
  have h := Ok.agc h hc (cnLe_mono g232)
  refine v_nmS (fun s233 e_s233 => ?_)
  have h := Ok.nm h e_s233
  obtain ⟨g234, h⟩ := Ok.guard h
  obtain ⟨g235, h⟩ := Ok.guard h
  refine pC_X11_118_100 g235 (fun _ _ _ h => h) dX11_init_283 ?_
  refine v_nmS (fun s236 e_s236 => ?_)
  have h := Ok.nm h e_s236
  refine v_aload_n 0 dX11_init_286 rfl ?_
  refine v_bipush dX11_init_287 kb_12 ?_
  obtain ⟨g237, h⟩ := Ok.guard h
  obtain ⟨g238, h⟩ := Ok.guard h
  obtain ⟨g239, h⟩ := Ok.guard h
  refine nC_n (kd := 140) (t := 1) (N := 12) g238 (by decide) rfl (fun _ => rfl) q194 rfl rfl rfl (by decide) (by decide) (by decide) ⟨Nat.le_of_ble_eq_true rfl, Nat.le_of_ble_eq_true rfl⟩ dX11_init_289 (fun lc hc => ?_)
  rw [← hc 100 x0 ⟨by decide, g237⟩]
  have h := Ok.agc h hc (cnLe_mono g239)
  refine v_nmS (fun s240 e_s240 => ?_)
  have h := Ok.nm h e_s240
  obtain ⟨g241, h⟩ := Ok.guard h
  obtain ⟨g242, h⟩ := Ok.guard h
  refine pC_X11_121_100 g242 (fun _ _ _ h => h) dX11_init_291 ?_
  refine v_nmS (fun s243 e_s243 => ?_)
  have h := Ok.nm h e_s243
  refine v_aload_n 0 dX11_init_294 rfl ?_
  refine v_bipush dX11_init_295 kb_12 ?_
  obtain ⟨g244, h⟩ := Ok.guard h
  obtain ⟨g245, h⟩ := Ok.guard h
  obtain ⟨g246, h⟩ := Ok.guard h
  refine nC_n (kd := 141) (t := 0) (N := 12) g245 (by decide) rfl (fun _ => rfl) q193 rfl rfl rfl (by decide) (by decide) (by decide) ⟨Nat.le_of_ble_eq_true rfl, Nat.le_of_ble_eq_true rfl⟩ dX11_init_297 (fun lc hc => ?_)
  rw [← hc 100 x0 ⟨by decide, g244⟩]
  have h := Ok.agc h hc (cnLe_mono g246)
  refine v_nmS (fun s247 e_s247 => ?_)
  have h := Ok.nm h e_s247
  obtain ⟨g248, h⟩ := Ok.guard h
  obtain ⟨g249, h⟩ := Ok.guard h
  refine pC_X11_124_100 g249 (fun _ _ _ h => h) dX11_init_299 ?_
  refine v_nmS (fun s250 e_s250 => ?_)
  have h := Ok.nm h e_s250
  refine v_aload_n 0 dX11_init_302 rfl ?_
  refine v_bipush dX11_init_303 kb_40 ?_
  obtain ⟨g251, h⟩ := Ok.guard h
  obtain ⟨g252, h⟩ := Ok.guard h
  obtain ⟨g253, h⟩ := Ok.guard h
  refine nC_n (kd := 142) (t := 1) (N := 40) g252 (by decide) rfl (fun _ => rfl) q194 rfl rfl rfl (by decide) (by decide) (by decide) ⟨Nat.le_of_ble_eq_true rfl, Nat.le_of_ble_eq_true rfl⟩ dX11_init_305 (fun lc hc => ?_)
  rw [← hc 100 x0 ⟨by decide, g251⟩]
  have h := Ok.agc h hc (cnLe_mono g253)
  refine v_nmS (fun s254 e_s254 => ?_)
  have h := Ok.nm h e_s254
  obtain ⟨g255, h⟩ := Ok.guard h
  obtain ⟨g256, h⟩ := Ok.guard h
  refine pC_X11_127_100 g256 (fun _ _ _ h => h) dX11_init_307 ?_
  refine v_nmS (fun s257 e_s257 => ?_)
  have h := Ok.nm h e_s257
  refine v_aload_n 0 dX11_init_310 rfl ?_
  refine v_bipush dX11_init_311 kb_40 ?_
  obtain ⟨g258, h⟩ := Ok.guard h
  obtain ⟨g259, h⟩ := Ok.guard h
  obtain ⟨g260, h⟩ := Ok.guard h
  refine nC_n (kd := 143) (t := 1) (N := 40) g259 (by decide) rfl (fun _ => rfl) q194 rfl rfl rfl (by decide) (by decide) (by decide) ⟨Nat.le_of_ble_eq_true rfl, Nat.le_of_ble_eq_true rfl⟩ dX11_init_313 (fun lc hc => ?_)
  rw [← hc 100 x0 ⟨by decide, g258⟩]
  have h := Ok.agc h hc (cnLe_mono g260)
  refine v_nmS (fun s261 e_s261 => ?_)
  have h := Ok.nm h e_s261
  obtain ⟨g262, h⟩ := Ok.guard h
  obtain ⟨g263, h⟩ := Ok.guard h
  refine pC_X11_130_100 g263 (fun _ _ _ h => h) dX11_init_315 ?_
  refine v_nmS (fun s264 e_s264 => ?_)
  have h := Ok.nm h e_s264
  refine v_aload_n 0 dX11_init_318 rfl ?_
  refine v_bipush dX11_init_319 kb_40 ?_
  obtain ⟨g265, h⟩ := Ok.guard h
  obtain ⟨g266, h⟩ := Ok.guard h
  obtain ⟨g267, h⟩ := Ok.guard h
  refine nC_n (kd := 144) (t := 1) (N := 40) g266 (by decide) rfl (fun _ => rfl) q194 rfl rfl rfl (by decide) (by decide) (by decide) ⟨Nat.le_of_ble_eq_true rfl, Nat.le_of_ble_eq_true rfl⟩ dX11_init_321 (fun lc hc => ?_)
  rw [← hc 100 x0 ⟨by decide, g265⟩]
  have h := Ok.agc h hc (cnLe_mono g267)
  refine v_nmS (fun s268 e_s268 => ?_)
  have h := Ok.nm h e_s268
  obtain ⟨g269, h⟩ := Ok.guard h
  obtain ⟨g270, h⟩ := Ok.guard h
  refine pC_X11_133_100 g270 (fun _ _ _ h => h) dX11_init_323 ?_
  refine v_nmS (fun s271 e_s271 => ?_)
  have h := Ok.nm h e_s271
  refine v_aload_n 0 dX11_init_326 rfl ?_
  refine v_bipush dX11_init_327 kb_7 ?_
  obtain ⟨g272, h⟩ := Ok.guard h
  obtain ⟨g273, h⟩ := Ok.guard h
  obtain ⟨g274, h⟩ := Ok.guard h
  refine nC_n (kd := 145) (t := 1) (N := 7) g273 (by decide) rfl (fun _ => rfl) q194 rfl rfl rfl (by decide) (by decide) (by decide) ⟨Nat.le_of_ble_eq_true rfl, Nat.le_of_ble_eq_true rfl⟩ dX11_init_329 (fun lc hc => ?_)
  rw [← hc 100 x0 ⟨by decide, g272⟩]
  have h := Ok.agc h hc (cnLe_mono g274)
  refine v_nmS (fun s275 e_s275 => ?_)
  have h := Ok.nm h e_s275
  obtain ⟨g276, h⟩ := Ok.guard h
  obtain ⟨g277, h⟩ := Ok.guard h
  refine pC_X11_136_100 g277 (fun _ _ _ h => h) dX11_init_331 ?_
  refine v_nmS (fun s278 e_s278 => ?_)
  have h := Ok.nm h e_s278
  refine v_aload_n 0 dX11_init_334 rfl ?_
  refine v_bipush dX11_init_335 kb_40 ?_
  obtain ⟨g279, h⟩ := Ok.guard h
  obtain ⟨g280, h⟩ := Ok.guard h
  obtain ⟨g281, h⟩ := Ok.guard h
  refine nC_n (kd := 146) (t := 1) (N := 40) g280 (by decide) rfl (fun _ => rfl) q194 rfl rfl rfl (by decide) (by decide) (by decide) ⟨Nat.le_of_ble_eq_true rfl, Nat.le_of_ble_eq_true rfl⟩ dX11_init_337 (fun lc hc => ?_)
  rw [← hc 100 x0 ⟨by decide, g279⟩]
  have h := Ok.agc h hc (cnLe_mono g281)
  refine v_nmS (fun s282 e_s282 => ?_)
  have h := Ok.nm h e_s282
  obtain ⟨g283, h⟩ := Ok.guard h
  obtain ⟨g284, h⟩ := Ok.guard h
  refine pC_X11_139_100 g284 (fun _ _ _ h => h) dX11_init_339 ?_
  refine v_nmS (fun s285 e_s285 => ?_)
  have h := Ok.nm h e_s285
  refine v_aload_n 0 dX11_init_342 rfl ?_
  refine v_bipush dX11_init_343 kb_12 ?_
  obtain ⟨g286, h⟩ := Ok.guard h
  obtain ⟨g287, h⟩ := Ok.guard h
  obtain ⟨g288, h⟩ := Ok.guard h
  refine nC_n (kd := 147) (t := 1) (N := 12) g287 (by decide) rfl (fun _ => rfl) q194 rfl rfl rfl (by decide) (by decide) (by decide) ⟨Nat.le_of_ble_eq_true rfl, Nat.le_of_ble_eq_true rfl⟩ dX11_init_345 (fun lc hc => ?_)
  rw [← hc 100 x0 ⟨by decide, g286⟩]
  have h := Ok.agc h hc (cnLe_mono g288)
  refine v_nmS (fun s289 e_s289 => ?_)
  have h := Ok.nm h e_s289
  obtain ⟨g290, h⟩ := Ok.guard h
  obtain ⟨g291, h⟩ := Ok.guard h
  refine pC_X11_142_100 g291 (fun _ _ _ h => h) dX11_init_347 ?_
  refine v_nmS (fun s292 e_s292 => ?_)
  have h := Ok.nm h e_s292
  have h := Ok.ret h
  exact v_vret rfl (Nat.le_of_ble_eq_true rfl) (Nat.le_of_ble_eq_true rfl) dX11_init_350 (h lc agc_rf)
