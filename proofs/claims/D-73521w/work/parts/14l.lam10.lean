section LAMV
variable {σ : Type} {X : tt_X σ} {cc : ByteArray} {Y : tt_Y} {Q : tt_Fin} {pc : Nat} {lv : List (Nat × Value)} {rest : List Value} {lc : Nat → Nat → Nat} {s : σ} {ck cn : Nat}
/-- the cell of a made object, with what it captured -/
def lam_cell (X : tt_X σ) (lc : Nat → Nat → Nat) (s : σ) (b : Nat) (cK : ClassId) (cs : List Value) : Prop := ∀ (s0 : State) (H : Heap) (locs : List Loc), xK X s0 → tt_Pic X lc s H → va_S (xA X) s0.heap H locs → ∃ cell : Cell, H[b]? = some cell ∧ cell.vm = .none ∧ cell.cls = cK ∧ ∀ (j : Nat) (v : Value), cs[j]? = some v → cell.slots[j]? = some v
theorem lam_cell.ofI {kd i n : Nat} {cA : ClassId} {f : Nat → Int32} (hV : xV X s kd i) (ho : tt_ent X lc s kd i = .inl (cA, n, .inl f)) : lam_cell X lc s (lc kd i) cA ((List.range n).map fun j => Value.int (f j)) := by
  intro s0 H locs hK hP hS
  have hat := (hP.1 kd i hV).1
  rw [ho] at hat
  refine ⟨_, hat, rfl, rfl, fun j v hj => ?_⟩
  rw [List.getElem?_map] at hj
  obtain ⟨q, h1, rfl⟩ := Option.map_eq_some_iff.mp hj
  have h2 := List.getElem?_eq_some_iff.mp h1
  obtain ⟨h3, h4⟩ := h2
  simp only [List.length_range] at h3
  simp only [List.getElem_range] at h4
  subst h4
  simp [vp_cell, arrV, h3]
theorem lam_cell.ofR {kd i : Nat} {cA : ClassId} {f : Nat → Option Nat} {a : Nat} (hV : xV X s kd i) (ho : tt_ent X lc s kd i = .inl (cA, 1, .inr (.inr (.inr (.inr f))))) (hf : f 0 = some a) : lam_cell X lc s (lc kd i) cA [.ref a] := by
  intro s0 H locs hK hP hS
  have hat := (hP.1 kd i hV).1
  rw [ho] at hat
  refine ⟨_, hat, rfl, rfl, fun j v hj => ?_⟩
  match j, hj with
  | 0, hj => cases hj; simp [vp_cell, arrV, hf, va_rf]
  | j + 1, hj => simp at hj
/-- the forwarder's instructions -/
def lam_dcs (bs : ByteArray) (fi : List Nat) (mi : Nat) (ret : Instr) : Prop := (∀ j, j < fi.length → decode bs (4 * j) = .ok (.aload_n 0, 1)) ∧ (∀ j, j < fi.length → decode bs (4 * j + 1) = .ok (.getfield (fi.getD j 0), 3)) ∧ decode bs (4 * fi.length) = .ok (.aload_n 1, 1) ∧ decode bs (4 * fi.length + 1) = .ok (.invokestatic mi, 3) ∧ decode bs (4 * fi.length + 4) = .ok (ret, 1)
def lam_shp (sh : Lambda.Shape) (xi y : MethodName) (rt : Option FieldType) : Prop := sh.iface = xi.cls ∧ sh.name = xi.name ∧ sh.sam.toString = xi.desc ∧ sh.sam.returnType = rt ∧ y = ⟨sh.implClass, sh.implName, sh.implDesc.toString⟩
theorem v_callMadeZ {x0 xi y : MethodName} {pc0 idx0 : Nat} {sh : Lambda.Shape} {cK : ClassId} {lk : Linked} {bs : ByteArray} {mi ci : Nat} {fi : List Nat} {bytes : ByteArray} {maxL idx cnt b xa : Nat} {rm : Room} {cs : List Value} {Q' : Option Value → (Nat → Nat → Nat) → σ → Prop}
    (hrd : ∀ U, xK X U → lam_Rd x0 pc0 idx0 sh cK lk xi U) (hi : lam_is sh x0.cls bs 2 mi ci fi) (hsh : lam_shp sh xi y (some .boolean)) (hdc : lam_dcs bs fi mi .ireturn) (hb : lam_cell X lc s b cK cs) (hcs : cs.length = fi.length)
    (sp : tt_Sp X y bytes maxL (some .boolean) rm (cs ++ [.ref xa]) lc s Q') (hret : ∀ v lc' s', Q' v lc' s' → ∃ w : Int32, v = some (.int w) ∧ narrow .boolean (.int w) = .int w)
    (hG : GoodIn lw_all (ws_ y bytes maxL (some .boolean))) (hst : Cond.static y ∈ lw_all) (hini : Cond.initialized y.cls ∈ lw_all) (hlk : Cond.methodLink Y.1 idx xi ∈ lw_all)
    (hd : (xi.cls ≠ "java/lang/invoke/MethodHandle" ∧ xi.cls ≠ "java/lang/invoke/VarHandle") ∧ (y.cls ≠ "java/lang/invoke/MethodHandle" ∧ y.cls ≠ "java/lang/invoke/VarHandle") ∧ (parseMethodDescriptor xi.desc).map (fun d => d.parameters.length) = some 1 ∧ (parseMethodDescriptor y.desc).map (fun d => d.parameters.length) = some (fi.length + 1) ∧ plainName (x0.cls ++ "$$Lambda") = true)
    (hR : rm.frames + 2 ≤ Y.2.2.2.1.frames ∧ 8 + (2 + 11) + (8 + (maxL + 11) + rm.locals) ≤ Y.2.2.2.1.locals) (hW : (rest.map fun v => v.category).sum ≤ 8) (hf : ck + rm.cells ≤ Y.2.2.2.1.cells ∧ cn + rm.slots ≤ Y.2.2.2.1.slots) (d : decode cc pc = .ok (.invokeinterface idx cnt, 5))
    (kk : ∀ v lc' s', Q' v lc' s' → tt_V X cc Y Q (pc + 5) lv (v.toList ++ rest) lc' s' (ck + rm.cells) (cn + rm.slots)) : tt_V X cc Y Q pc lv (.ref xa :: .ref b :: rest) lc s ck cn := by
  intro p1 e R s0 m args below meth c H locs ls C1 hP hS hl
  have hRe : R = Y.2.2.2.1 := C1.2.2.2.2.2.2.2.1
  have hK0 := C1.2.2.2.2.2.2.2.2.1
  have hKok := C1.2.2.2.2.2.2.2.2.2.1
  obtain ⟨cell, hc1, hc2, hc3, hc4⟩ := hb s0 H locs hK0.2 hP hS
  have hR0 := hrd s0 hK0.2
  have hw := C1.2.2.2.2.1
  obtain ⟨s1, s2, s3, s4, s5⟩ := hsh
  refine tt_after5 (a := (cs ++ [Value.ref xa]).toArray) (lam_run5 (cells := ck) (slots := cn) (mc := rm.cells) (ms := rm.slots) (g := F0 m pc ls (.ref xa :: .ref b :: rest)) C1.1 C1.2.2.2.1 (hw _ hlk) hd.1 hR0 s1 s2 s3 hi hc1 hc2 hc3 rfl (As := [.ref xa]) (rest := rest) hd.2.2.1 rfl (by rw [C1.2.1]; exact d) (Qc := tt_Q X Q') (free := xA X) (a := (cs ++ [Value.ref xa]).toArray) (fun T₁ hT₁ X₁ => ?_)) hS (fun v lc' s' H1 locs1 hq hp hs => kk v lc' s' hq p1 e R s0 m args below meth c H1 locs1 ls C1 hp hs hl)
  have hW1 := X₁.warmed
  obtain ⟨⟨m0, k0, cf0, i0, p0, -, hk0, -, hn0, -, -, hmade, hcan⟩, hO, -, -⟩ := lam_Rd.warm hW1 hd.1 hR0
  obtain ⟨k, tk, file, methk, ckK, toy, t, nt, a1, a2, a3, a4, a5, a6, a7, a8, a9, a10, a11, a12, a13, a14, a15, a16, a17, a18, a19, -, -⟩ := lam_made hi hk0 hn0 hmade hO
  have hws := pay_in hw hG
  have wat : ∀ w, w ∈ lw_all → ((w.onTables && w.keeps) = true ∨ ∃ ty, w = .arrayClass ty) → ∀ (a' : Array Value) (U : State), s0.WarmedH U.vm → w.before a' U = true := fun w h1 h2 a' U h3 => word_at h3 h2 (hw w h1)
  obtain ⟨sig, hsig, hsn⟩ := Option.map_eq_some_iff.mp hd.2.2.2.1
  have hto : lam_to e T₁ cK mi y true (fi.length + 1) := lam_toS a1 a3 a4 (by rw [s5]; exact a5) a17 a18 (by rw [s5]; exact a13) a14 (by rw [s5]; exact a16) hd.2.1 (hws _ List.mem_cons_self #[] T₁ hW1) (wat _ hst (Or.inl rfl) #[] T₁ hW1) (wat _ hini (Or.inl rfl) #[] T₁ hW1) hsig hsn
  refine lam_goZ (R' := { frames := rm.frames + 1, locals := 8 + (maxL + 11) + rm.locals, cells := rm.cells, slots := rm.slots }) X₁ C1.1 (g := F0 m pc ls rest) rfl (hl.1.trans C1.2.2.1.symm) (ig := .invokeinterface idx cnt) (len := 5) (by rw [C1.2.1]; exact d) a6 a7 a8 a9 a10 (State.plainMethod.of_name (fun k' hk' => by cases a1.symm.trans hk'; rw [a2]; exact hd.2.2.2.2)) (by rw [a12, s4]) (by rw [hT₁]; exact hc1) (by rw [hc2]; simp) hcs hc4 hdc.1 (fun j i hj => ?_) a19 hdc.2.2.1 hdc.2.2.2.1 hdc.2.2.2.2 hto (by rw [hcs]) (back_of (bytes := bytes) (maxL := maxL) (ret := some .boolean) sp (tt_blind hKok) rfl rfl (Nat.le_refl _) (Nat.le_refl _) (fun w hw1 a' U hU => hws w hw1 a' U (hW1.trans hU)) List.mem_cons_self (fun a' U hU => wat _ hini (Or.inl rfl) a' U (hW1.trans hU))) (fun U₀ e1 e2 => ⟨Nat.le_of_eq (Nat.zero_add _), Nat.le_of_eq (Nat.zero_add _), rfl, ?_, ?_⟩) (fun A v B hq => ?_) ?_ ?_ ?_ ?_
  · have h1 := hdc.2.1 j (List.getElem?_eq_some_iff.mp hj).1
    rw [List.getD_eq_getElem?_getD, hj] at h1
    exact h1
  · show tt_Pic X lc s U₀.heap
    rw [e2, hT₁]
    exact hP
  · show tt_K X U₀
    refine tt_K.moved hKok (by rw [e1]; exact hW1) ⟨by rw [e2, hT₁]; exact hS.1, fun q h1 h2 => by rw [e2, hT₁]; exact hS.2.1 q h1 h2⟩ hK0
  · obtain ⟨g', mk, t', L, -, -, ⟨⟨v', lc', s', hv, hq', -⟩, -⟩, -⟩ := hq
    cases hv
    exact hret v lc' s' hq'
  · show rm.frames + 1 + 1 ≤ R.frames
    rw [hRe]
    exact hR.1
  · have h1 := lv_room (m := m) (pc := pc) (ls := ls) (rest := rest) hW
    have h2 := hR.2
    rw [← hRe] at h2
    show 2 * (F0 m pc ls rest).monitorRoom + (rest.map fun v => v.category).sum + (2 + 11) + (8 + (maxL + 11) + rm.locals) ≤ R.locals
    omega
  · show ck + rm.cells ≤ R.cells
    rw [hRe]
    exact hf.1
  · show cn + rm.slots ≤ R.slots
    rw [hRe]
    exact hf.2
theorem v_callMadeJ {x0 xi y : MethodName} {pc0 idx0 : Nat} {sh : Lambda.Shape} {cK : ClassId} {lk : Linked} {bs : ByteArray} {mi ci : Nat} {fi : List Nat} {bytes : ByteArray} {maxL idx cnt b xa : Nat} {rm : Room} {cs : List Value} {Q' : Option Value → (Nat → Nat → Nat) → σ → Prop}
    (hrd : ∀ U, xK X U → lam_Rd x0 pc0 idx0 sh cK lk xi U) (hi : lam_is sh x0.cls bs 2 mi ci fi) (hsh : lam_shp sh xi y (some .long)) (hdc : lam_dcs bs fi mi .lreturn) (hb : lam_cell X lc s b cK cs) (hcs : cs.length = fi.length)
    (sp : tt_Sp X y bytes maxL (some .long) rm (cs ++ [.ref xa]) lc s Q') (hret : ∀ v lc' s', Q' v lc' s' → ∃ w : Int64, v = some (.long w))
    (hG : GoodIn lw_all (ws_ y bytes maxL (some .long))) (hst : Cond.static y ∈ lw_all) (hini : Cond.initialized y.cls ∈ lw_all) (hlk : Cond.methodLink Y.1 idx xi ∈ lw_all)
    (hd : (xi.cls ≠ "java/lang/invoke/MethodHandle" ∧ xi.cls ≠ "java/lang/invoke/VarHandle") ∧ (y.cls ≠ "java/lang/invoke/MethodHandle" ∧ y.cls ≠ "java/lang/invoke/VarHandle") ∧ (parseMethodDescriptor xi.desc).map (fun d => d.parameters.length) = some 1 ∧ (parseMethodDescriptor y.desc).map (fun d => d.parameters.length) = some (fi.length + 1) ∧ plainName (x0.cls ++ "$$Lambda") = true)
    (hR : rm.frames + 2 ≤ Y.2.2.2.1.frames ∧ 8 + (2 + 11) + (8 + (maxL + 11) + rm.locals) ≤ Y.2.2.2.1.locals) (hW : (rest.map fun v => v.category).sum ≤ 8) (hf : ck + rm.cells ≤ Y.2.2.2.1.cells ∧ cn + rm.slots ≤ Y.2.2.2.1.slots) (d : decode cc pc = .ok (.invokeinterface idx cnt, 5))
    (kk : ∀ v lc' s', Q' v lc' s' → tt_V X cc Y Q (pc + 5) lv (v.toList ++ rest) lc' s' (ck + rm.cells) (cn + rm.slots)) : tt_V X cc Y Q pc lv (.ref xa :: .ref b :: rest) lc s ck cn := by
  intro p1 e R s0 m args below meth c H locs ls C1 hP hS hl
  have hRe : R = Y.2.2.2.1 := C1.2.2.2.2.2.2.2.1
  have hK0 := C1.2.2.2.2.2.2.2.2.1
  have hKok := C1.2.2.2.2.2.2.2.2.2.1
  obtain ⟨cell, hc1, hc2, hc3, hc4⟩ := hb s0 H locs hK0.2 hP hS
  have hR0 := hrd s0 hK0.2
  have hw := C1.2.2.2.2.1
  obtain ⟨s1, s2, s3, s4, s5⟩ := hsh
  refine tt_after5 (a := (cs ++ [Value.ref xa]).toArray) (lam_run5 (cells := ck) (slots := cn) (mc := rm.cells) (ms := rm.slots) (g := F0 m pc ls (.ref xa :: .ref b :: rest)) C1.1 C1.2.2.2.1 (hw _ hlk) hd.1 hR0 s1 s2 s3 hi hc1 hc2 hc3 rfl (As := [.ref xa]) (rest := rest) hd.2.2.1 rfl (by rw [C1.2.1]; exact d) (Qc := tt_Q X Q') (free := xA X) (a := (cs ++ [Value.ref xa]).toArray) (fun T₁ hT₁ X₁ => ?_)) hS (fun v lc' s' H1 locs1 hq hp hs => kk v lc' s' hq p1 e R s0 m args below meth c H1 locs1 ls C1 hp hs hl)
  have hW1 := X₁.warmed
  obtain ⟨⟨m0, k0, cf0, i0, p0, -, hk0, -, hn0, -, -, hmade, hcan⟩, hO, -, -⟩ := lam_Rd.warm hW1 hd.1 hR0
  obtain ⟨k, tk, file, methk, ckK, toy, t, nt, a1, a2, a3, a4, a5, a6, a7, a8, a9, a10, a11, a12, a13, a14, a15, a16, a17, a18, a19, -, -⟩ := lam_made hi hk0 hn0 hmade hO
  have hws := pay_in hw hG
  have wat : ∀ w, w ∈ lw_all → ((w.onTables && w.keeps) = true ∨ ∃ ty, w = .arrayClass ty) → ∀ (a' : Array Value) (U : State), s0.WarmedH U.vm → w.before a' U = true := fun w h1 h2 a' U h3 => word_at h3 h2 (hw w h1)
  obtain ⟨sig, hsig, hsn⟩ := Option.map_eq_some_iff.mp hd.2.2.2.1
  have hto : lam_to e T₁ cK mi y true (fi.length + 1) := lam_toS a1 a3 a4 (by rw [s5]; exact a5) a17 a18 (by rw [s5]; exact a13) a14 (by rw [s5]; exact a16) hd.2.1 (hws _ List.mem_cons_self #[] T₁ hW1) (wat _ hst (Or.inl rfl) #[] T₁ hW1) (wat _ hini (Or.inl rfl) #[] T₁ hW1) hsig hsn
  refine lam_goJ (R' := { frames := rm.frames + 1, locals := 8 + (maxL + 11) + rm.locals, cells := rm.cells, slots := rm.slots }) X₁ C1.1 (g := F0 m pc ls rest) rfl (hl.1.trans C1.2.2.1.symm) (ig := .invokeinterface idx cnt) (len := 5) (by rw [C1.2.1]; exact d) a6 a7 a8 a9 a10 (State.plainMethod.of_name (fun k' hk' => by cases a1.symm.trans hk'; rw [a2]; exact hd.2.2.2.2)) (by rw [a12, s4]) (by rw [hT₁]; exact hc1) (by rw [hc2]; simp) hcs hc4 hdc.1 (fun j i hj => ?_) a19 hdc.2.2.1 hdc.2.2.2.1 hdc.2.2.2.2 hto (by rw [hcs]) (back_of (bytes := bytes) (maxL := maxL) (ret := some .long) sp (tt_blind hKok) rfl rfl (Nat.le_refl _) (Nat.le_refl _) (fun w hw1 a' U hU => hws w hw1 a' U (hW1.trans hU)) List.mem_cons_self (fun a' U hU => wat _ hini (Or.inl rfl) a' U (hW1.trans hU))) (fun U₀ e1 e2 => ⟨Nat.le_of_eq (Nat.zero_add _), Nat.le_of_eq (Nat.zero_add _), rfl, ?_, ?_⟩) (fun A v B hq => ?_) ?_ ?_ ?_ ?_
  · have h1 := hdc.2.1 j (List.getElem?_eq_some_iff.mp hj).1
    rw [List.getD_eq_getElem?_getD, hj] at h1
    exact h1
  · show tt_Pic X lc s U₀.heap
    rw [e2, hT₁]
    exact hP
  · show tt_K X U₀
    refine tt_K.moved hKok (by rw [e1]; exact hW1) ⟨by rw [e2, hT₁]; exact hS.1, fun q h1 h2 => by rw [e2, hT₁]; exact hS.2.1 q h1 h2⟩ hK0
  · obtain ⟨g', mk, t', L, -, -, ⟨⟨v', lc', s', hv, hq', -⟩, -⟩, -⟩ := hq
    cases hv
    exact hret v lc' s' hq'
  · show rm.frames + 1 + 1 ≤ R.frames
    rw [hRe]
    exact hR.1
  · have h1 := lv_room (m := m) (pc := pc) (ls := ls) (rest := rest) hW
    have h2 := hR.2
    rw [← hRe] at h2
    show 2 * (F0 m pc ls rest).monitorRoom + (rest.map fun v => v.category).sum + (2 + 11) + (8 + (maxL + 11) + rm.locals) ≤ R.locals
    omega
  · show ck + rm.cells ≤ R.cells
    rw [hRe]
    exact hf.1
  · show cn + rm.slots ≤ R.slots
    rw [hRe]
    exact hf.2
theorem v_callMadeV {x0 xi y : MethodName} {pc0 idx0 : Nat} {sh : Lambda.Shape} {cK : ClassId} {lk : Linked} {bs : ByteArray} {mi ci fi : Nat} {bytes : ByteArray} {maxL idx cnt b kd i cj h f2 : Nat} {am : Int64} {rm : Room} {T : u_T} {N : Nat} {fs : List Value} {Q' : Option Value → (Nat → Nat → Nat) → σ → Prop}
    (hrd : ∀ U, xK X U → lam_Rd x0 pc0 idx0 sh cK lk xi U) (hi : lam_is sh x0.cls bs 5 mi ci [fi]) (hsh : lam_shp sh xi y none) (hif : sh.implItf = false) (hdc : decode bs 0 = .ok (.aload_n 0, 1) ∧ decode bs 1 = .ok (.getfield fi, 3) ∧ decode bs 4 = .ok (.aload_n 1, 1) ∧ decode bs 5 = .ok (.lload_n 2, 1) ∧ decode bs 6 = .ok (.aload 4, 2) ∧ decode bs 8 = .ok (.invokevirtual mi, 3) ∧ decode bs 11 = .ok (.return_, 1))
    (hb : lam_cell X lc s b cK [.ref (lc kd i)]) (hV : xV X s kd i) (ho : tt_ent X lc s kd i = .inr (cj, fs)) (hc : (xC X)[cj]? = some (y.cls, T, N))
    (sp : tt_Sp X y bytes maxL none rm [.ref (lc kd i), .ref h, .long am, .ref f2] lc s Q') (hret : ∀ v lc' s', Q' v lc' s' → v = none)
    (hG : GoodIn lw_all (ws_ y bytes maxL none)) (hin : Cond.instanceMethod y ∈ lw_all) (hse : Cond.selects y.cls y y ∈ lw_all) (hini : Cond.initialized y.cls ∈ lw_all) (hlk : Cond.methodLink Y.1 idx xi ∈ lw_all)
    (hd : (xi.cls ≠ "java/lang/invoke/MethodHandle" ∧ xi.cls ≠ "java/lang/invoke/VarHandle") ∧ (y.cls ≠ "java/lang/invoke/MethodHandle" ∧ y.cls ≠ "java/lang/invoke/VarHandle") ∧ (parseMethodDescriptor xi.desc).map (fun d => d.parameters.length) = some 3 ∧ (parseMethodDescriptor y.desc).map (fun d => d.parameters.length) = some 3 ∧ plainName (x0.cls ++ "$$Lambda") = true)
    (hR : rm.frames + 2 ≤ Y.2.2.2.1.frames ∧ 8 + (5 + 11) + (8 + (maxL + 11) + rm.locals) ≤ Y.2.2.2.1.locals) (hW : (rest.map fun v => v.category).sum ≤ 8) (hf : ck + rm.cells ≤ Y.2.2.2.1.cells ∧ cn + rm.slots ≤ Y.2.2.2.1.slots) (d : decode cc pc = .ok (.invokeinterface idx cnt, 5))
    (kk : ∀ lc' s', Q' none lc' s' → tt_V X cc Y Q (pc + 5) lv rest lc' s' (ck + rm.cells) (cn + rm.slots)) : tt_V X cc Y Q pc lv (.ref f2 :: .long am :: .ref h :: .ref b :: rest) lc s ck cn := by
  intro p1 e R s0 m args below meth c H locs ls C1 hP hS hl
  have hRe : R = Y.2.2.2.1 := C1.2.2.2.2.2.2.2.1
  have hK0 := C1.2.2.2.2.2.2.2.2.1
  have hKok := C1.2.2.2.2.2.2.2.2.2.1
  obtain ⟨cell, hc1, hc2, hc3, hc4⟩ := hb s0 H locs hK0.2 hP hS
  have hat := (hP.1 kd i hV).1
  rw [ho] at hat
  have hP1 : va_P (xD X) (xC X) [(lc kd i, .inr (cj, fs))] H := fun k q hq => by
    match k, hq with
    | 0, hq => cases hq; exact hat
    | k + 1, hq => simp at hq
  have hR0 := hrd s0 hK0.2
  have hw := C1.2.2.2.2.1
  obtain ⟨s1, s2, s3, s4, s5⟩ := hsh
  refine tt_after5 (a := #[Value.ref (lc kd i), .ref h, .long am, .ref f2]) (lam_run5 (cells := ck) (slots := cn) (mc := rm.cells) (ms := rm.slots) (g := F0 m pc ls (.ref f2 :: .long am :: .ref h :: .ref b :: rest)) C1.1 C1.2.2.2.1 (hw _ hlk) hd.1 hR0 s1 s2 s3 hi hc1 hc2 hc3 rfl (As := [.ref h, .long am, .ref f2]) (rest := rest) hd.2.2.1 rfl (by rw [C1.2.1]; exact d) (Qc := tt_Q X Q') (free := xA X) (a := #[Value.ref (lc kd i), .ref h, .long am, .ref f2]) (fun T₁ hT₁ X₁ => ?_)) hS (fun v lc' s' H1 locs1 hq hp hs => by
    cases hret v lc' s' hq
    exact kk lc' s' hq p1 e R s0 m args below meth c H1 locs1 ls C1 hp hs hl)
  have hW1 := X₁.warmed
  obtain ⟨⟨m0, k0, cf0, i0, p0, -, hk0, -, hn0, -, -, hmade, hcan⟩, hO, -, -⟩ := lam_Rd.warm hW1 hd.1 hR0
  obtain ⟨k, tk, file, methk, ckK, toy, t, nt, a1, a2, a3, a4, a5, a6, a7, a8, a9, a10, a11, a12, a13, a14, a15, a16, a17, a18, a19, -, -⟩ := lam_made hi hk0 hn0 hmade hO
  have hws := pay_in hw hG
  have wat : ∀ w, w ∈ lw_all → ((w.onTables && w.keeps) = true ∨ ∃ ty, w = .arrayClass ty) → ∀ (a' : Array Value) (U : State), s0.WarmedH U.vm → w.before a' U = true := fun w h1 h2 a' U h3 => word_at h3 h2 (hw w h1)
  obtain ⟨sig, hsig, hsn⟩ := Option.map_eq_some_iff.mp hd.2.2.2.1
  have hto : lam_toV T₁ cK mi y y.cls 3 := lam_toV_of a1 a3 a4 a17 a18 (by rw [s5]; exact a13) a14 (a15.trans hif) (by rw [s5]; exact a16) hd.2.1 (hws _ List.mem_cons_self #[] T₁ hW1) (wat _ hin (Or.inl rfl) #[] T₁ hW1) (wat _ hse (Or.inl rfl) #[] T₁ hW1) hsig hsn
  obtain ⟨cellW, hw1, hw2, hw3⟩ := va_recv hK0.1 hP1 (q0 := 0) hc rfl
  refine lam_goV (R' := { frames := rm.frames + 1, locals := 8 + (maxL + 11) + rm.locals, cells := rm.cells, slots := rm.slots }) X₁ C1.1 (g := F0 m pc ls rest) rfl (hl.1.trans C1.2.2.1.symm) (ig := .invokeinterface idx cnt) (len := 5) (by rw [C1.2.1]; exact d) a6 a7 a8 a9 a10 (State.plainMethod.of_name (fun k' hk' => by cases a1.symm.trans hk'; rw [a2]; exact hd.2.2.2.2)) (by rw [a12, s4]) (by rw [hT₁]; exact hc1) (by rw [hc2]; simp) (hc4 0 _ rfl) (by rw [hT₁]; exact hw1) hw2 hdc.1 hdc.2.1 (a19 0 fi rfl) hdc.2.2.1 hdc.2.2.2.1 hdc.2.2.2.2.1 hdc.2.2.2.2.2.1 hdc.2.2.2.2.2.2 hto (by rw [hW1.alike.findClass]; exact hw3) (back_of (bytes := bytes) (maxL := maxL) (ret := none) sp (tt_blind hKok) rfl rfl (Nat.le_refl _) (Nat.le_refl _) (fun w hw1 a' U hU => hws w hw1 a' U (hW1.trans hU)) List.mem_cons_self (fun a' U hU => wat _ hini (Or.inl rfl) a' U (hW1.trans hU))) (fun U₀ e1 e2 => ⟨Nat.le_of_eq (Nat.zero_add _), Nat.le_of_eq (Nat.zero_add _), rfl, ?_, ?_⟩) (fun A v B hq => ?_) ?_ ?_ ?_ ?_
  · show tt_Pic X lc s U₀.heap
    rw [e2, hT₁]
    exact hP
  · show tt_K X U₀
    refine tt_K.moved hKok (by rw [e1]; exact hW1) ⟨by rw [e2, hT₁]; exact hS.1, fun q h1 h2 => by rw [e2, hT₁]; exact hS.2.1 q h1 h2⟩ hK0
  · obtain ⟨g', mk, t', L, -, -, ⟨⟨v', lc', s', hv, hq', -⟩, -⟩, -⟩ := hq
    cases hv
    exact hret v lc' s' hq'
  · show rm.frames + 1 + 1 ≤ R.frames
    rw [hRe]
    exact hR.1
  · have h1 := lv_room (m := m) (pc := pc) (ls := ls) (rest := rest) hW
    have h2 := hR.2
    rw [← hRe] at h2
    show 2 * (F0 m pc ls rest).monitorRoom + (rest.map fun v => v.category).sum + (5 + 11) + (8 + (maxL + 11) + rm.locals) ≤ R.locals
    omega
  · show ck + rm.cells ≤ R.cells
    rw [hRe]
    exact hf.1
  · show cn + rm.slots ≤ R.slots
    rw [hRe]
    exact hf.2
end LAMV
