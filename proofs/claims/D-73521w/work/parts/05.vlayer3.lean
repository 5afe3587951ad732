set_option maxRecDepth 100000
/-! more V rows: nest mates, arrays of references, inherited and super calls -/
/-- words that don't ride in the lists but ride in a contract's start -/
def tt_rides : Cond → Bool
  | .fieldLinkNest .. => true
  | .methodLinkNest .. => true
  | .castable .. => true
  | .declares .. => true
  | _ => false
def tt_KN (U : State) : Prop := ∀ w ∈ lw_tbl, tt_rides w = true → va_Nw w U
theorem tt_KN.warm {s U : State} (hW : s.WarmedH U.vm) (h : tt_KN s) : tt_KN U := by
  intro w hw hr
  have h1 := h w hw hr
  cases w with
  | fieldLinkNest => exact va_Nw.warmF hW h1
  | methodLinkNest => exact va_Nw.warmM hW h1
  | castable => exact va_Nw.warmC hW h1
  | declares => exact va_Nw.warmD hW h1
  | _ => cases hr
theorem tt_rides_on {w : Cond} (h : tt_rides w = true) : w.onTables = true := by
  cases w <;> first | rfl | cases h
theorem tt_KN.calling {U : State} {g : JFrame} {mk : MethodId} {a : Array Value} (h : tt_KN U) : tt_KN (U.calling g mk a) := fun w hw hr => va_Nw.same (tt_rides_on hr) (u := U) rfl (h w hw hr)
section VROWS3
variable {σ : Type} {X : tt_X σ} {cc : ByteArray} {Y : tt_Y} {Q : tt_Fin} {pc : Nat} {lv : List (Nat × Value)} {rest : List Value} {lc : Nat → Nat → Nat} {s : σ} {ck cn : Nat}
theorem v_aald {kd i t n : Nat} {cA : ClassId} {ty : FieldType} {f : Nat → Option Nat} {j : Int32} (hV : xV X s kd i) (ho : tt_ent X lc s kd i = .inl (cA, n, .inr (.inr (.inr (.inr f))))) (ht : (xT X)[t]? = some (cA, ty)) (hty : ty.isReference = true) (hin : inB j n = true) (d : decode cc pc = .ok (.aaload, 1))
    (kk : tt_V X cc Y Q (pc + 1) lv (va_rf (f j.toNatClampNeg) :: rest) lc s ck cn) : tt_V X cc Y Q pc lv (.int j :: .ref (lc kd i) :: rest) lc s ck cn := by
  intro p1 e R s0 m args below meth c H locs ls C1 hP hS hl
  have hat := (hP.1 kd i hV).1
  rw [ho] at hat
  have hlt := inB_lt hin
  exact W.aald (v := va_rf (f j.toNatClampNeg)) C1.1 C1.2.1 hat ((C1.2.2.2.2.2.2.2.2.1.1.2 t _ ht).1 n (fun j => va_rf (f j))) hty (fun q => by cases q) (by show ¬ (j < 0 ∨ (arrV _ _ _).slots.size ≤ _); rw [arrV_size]; exact inB_vp hin) (by show (arrV _ _ _).slots[_]? = _; rw [arrV_read _ _ hlt]) rfl rfl d (kk p1 e R s0 m args below meth c H locs ls C1 hP hS hl)
theorem v_getN {kd i p ci idx N : Nat} {C ref host : String} {T : u_T} {fs : List Value} {v : Value} (hKN : ∀ U, xK X U → tt_KN U) (hV : xV X s kd i) (ho : tt_ent X lc s kd i = .inr (ci, fs)) (hc : (xC X)[ci]? = some (C, T, N)) (hin : ∀ w ∈ u_ws C T N, w ∈ lw_all) (hp : p < N) (hlink : Cond.fieldLinkNest Y.1 idx ref (T p).2.1 (T p).2.2.1 host ∈ lw_tbl) (hsame : ref = (T p).1 ∨ Cond.sameField ref (T p).1 (T p).2.1 (T p).2.2.1 ∈ lw_all) (hv : fs[p]? = some v) (d : decode cc pc = .ok (.getfield idx, 3))
    (kk : tt_V X cc Y Q (pc + 3) lv (v :: rest) lc s ck cn) : tt_V X cc Y Q pc lv (.ref (lc kd i) :: rest) lc s ck cn := by
  intro p1 e R s0 m args below meth c H locs ls C1 hP hS hl
  have hat := (hP.1 kd i hV).1
  rw [ho] at hat
  have hP1 : va_P (xD X) (xC X) [(lc kd i, .inr (ci, fs))] H := fun k q hq => by
    match k, hq with
    | 0, hq => cases hq; exact hat
    | k + 1, hq => simp at hq
  have hk : tt_KN s0 := hKN _ C1.2.2.2.2.2.2.2.2.1.2
  refine va_getN C1.1 C1.2.1 C1.2.2.2.2.1 hin C1.2.2.2.1 C1.2.2.2.2.2.2.2.2.1.1 hP1 0 rfl hc p hp ((hk _ hlink rfl).use rfl) ?_ hv d (kk p1 e R s0 m args below meth c H locs ls C1 hP hS hl)
  rcases hsame with h | h
  · intro x hx
    rw [h]
    exact hx
  · exact fun x hx => u_same (C1.2.2.2.2.1 _ h) x hx
theorem tt_putWN {p1 : Program} {l : Launch} {e : Env} {R : Room} {s0 : State} {m : MethodId} {args : Array Value} {below : List Frame} {meth : Method} {c : Code} {H : Heap} {locs : List Loc} {cells slots : Nat} {Q0 : State → Prop} {D : va_G} {cl : List vw_C} {tys : List (ClassId × FieldType)} {ls : Array Slot}
    (hexec : p1.tables.exec = Jvm.exec) (hb : c.code = cc) {own ref C host : String} {T : u_T} {N ci idx a : Nat} (hts : ∀ w ∈ lw_all, w.before args s0 = true) (hin : ∀ w ∈ u_ws C T N, w ∈ lw_all) (ty0 : Nat → FieldType) (hty : ∀ k, k < N → parseFieldDescriptor (T k).2.2.1 = some (ty0 k)) (hnm : ∀ a, a < N → ∀ b, b < N → a ≠ b → (T a).2.1 ≠ (T b).2.1) (hown : s0.vm.findClass own = some m.cls) (hK : va_K D cl tys s0) {fs : List Value} (hat : va_at D cl (a, .inr (ci, fs)) H) (hc : cl[ci]? = some (C, T, N)) (p : Nat) (hp : p < N) (hlink : (Cond.fieldLinkNest own idx ref (T p).2.1 (T p).2.2.1 host).before args s0 = true) (hsame : ∀ x, s0.fieldFound? (T p).1 (T p).2.1 (T p).2.2.1 = some x → s0.fieldFound? ref (T p).2.1 (T p).2.2.1 = some x) (hfin : (T p).2.2.2 = false) {v : Value} (hn : narrow (ty0 p) v = v) (hfit : fits (ty0 p) v = true) (hlen : p < fs.length)
    (d : decode cc pc = .ok (.putfield idx, 3)) (kk : ∀ (H1 : Heap) (j : Nat), va_at D cl (a, .inr (ci, fs.set p v)) H1 → H1.size = H.size → (∀ q : Nat, q ≠ a → H1[q]? = H[q]?) → W p1 l e R s0 m args below meth c H1 (locs ++ [⟨a, j⟩]) cells slots Q0 (F0 m (pc + 3) ls rest)) : W p1 l e R s0 m args below meth c H locs cells slots Q0 (F0 m pc ls (v :: .ref a :: rest)) := by
  have hap := va_apart (own := own) hts hin ty0 hty hnm hK hc
  obtain ⟨r, h1, cell, q1, q2, q3, q4⟩ := hat
  have hr : r = (C, T, N) := Option.some.inj (h1.symm.trans hc)
  subst hr
  obtain ⟨hS, hfc, kC, hkC, hkind⟩ := hK.1 ci _ hc
  obtain ⟨cf, kf, fi, f, hi, hsl⟩ := hS p hp
  have hlay := hts _ (hin _ (u_in_lay hp))
  unfold u_lay at hlay
  rw [if_neg (by rw [hfin]; decide)] at hlay
  have hst := (u_facts hfc hkC (u_lays hts hin hp) hi).1
  have h6 := u_store hfc hkC hkind hlay hi (hty p hp) hn hfit
  refine va_WputK hexec hb (f := f) hown hlink (hsame _ hi) hst (by rw [q2]; exact h6) q1 q3 (by rw [hsl]; exact k2_hasslot (q4 p hp)) rfl rfl d fun H' e1 e2 e3 => ?_
  refine kk H' _ ?_ e2 e3
  rw [hsl] at e1
  exact ⟨_, hc, t_OB.to (V := updV (vp_V fs) p v) ⟨_, e1, q2, q3, t_set q4 hap hp v⟩ (fun j _ => vp_updV_set hlen v j)⟩
theorem v_putN {s' : σ} {kd i p ci idx N : Nat} {C ref host : String} {T : u_T} {fs : List Value} {v : Value} (hKN : ∀ U, xK X U → tt_KN U) (hV : xV X s kd i) (ho : tt_ent X lc s kd i = .inr (ci, fs)) (ho' : tt_ent X lc s' kd i = .inr (ci, fs.set p v)) (hoth : ∀ kd' i', ¬ (kd' = kd ∧ i' = i) → tt_ent X lc s' kd' i' = tt_ent X lc s kd' i') (hlv : ∀ kd i, xV X s' kd i → xV X s kd i) (hc : (xC X)[ci]? = some (C, T, N)) (hin : ∀ w ∈ u_ws C T N, w ∈ lw_all) (ty0 : Nat → FieldType) (hty : ∀ k, k < N → parseFieldDescriptor (T k).2.2.1 = some (ty0 k)) (hnm : ∀ a, a < N → ∀ b, b < N → a ≠ b → (T a).2.1 ≠ (T b).2.1) (hp : p < N) (hlink : Cond.fieldLinkNest Y.1 idx ref (T p).2.1 (T p).2.2.1 host ∈ lw_tbl) (hsame : ref = (T p).1 ∨ Cond.sameField ref (T p).1 (T p).2.1 (T p).2.2.1 ∈ lw_all) (hfin : (T p).2.2.2 = false) (hn : narrow (ty0 p) v = v) (hfit : fits (ty0 p) v = true) (hlen : p < fs.length) (d : decode cc pc = .ok (.putfield idx, 3))
    (kk : tt_V X cc Y Q (pc + 3) lv rest lc s' ck cn) : tt_V X cc Y Q pc lv (v :: .ref (lc kd i) :: rest) lc s ck cn := by
  intro p1 e R s0 m args below meth c H locs ls C1 hP hS hl
  have hat := (hP.1 kd i hV).1
  rw [ho] at hat
  have hk : tt_KN s0 := hKN _ C1.2.2.2.2.2.2.2.2.1.2
  refine tt_putWN C1.1 C1.2.1 C1.2.2.2.2.1 hin ty0 hty hnm C1.2.2.2.1 C1.2.2.2.2.2.2.2.2.1.1 hat hc p hp ((hk _ hlink rfl).use rfl) ?_ hfin hn hfit hlen d (fun H1 j h1 h2 h3 => kk p1 e R s0 m args below meth c H1 _ ls C1 (hP.put hV (by rw [ho']; exact h1) hoth hlv h3) (hS.put h2 h3 (hP.1 kd i hV).2) hl)
  rcases hsame with h | h
  · intro x hx
    rw [h]
    exact hx
  · exact fun x hx => u_same (C1.2.2.2.2.1 _ h) x hx
theorem v_aret {a : Nat} {C : String} {Qr : Option Value → (Nat → Nat → Nat) → σ → Prop} (hr : Y.2.2.1 = some (.object C)) (h1 : ck ≤ Y.2.2.2.1.cells) (h2 : cn ≤ Y.2.2.2.1.slots) (d : decode cc pc = .ok (.areturn, 1)) (h : Qr (some (.ref a)) lc s) : tt_V X cc Y (tt_fn X Y Qr) pc lv [.ref a] lc s ck cn := by
  intro p1 e R s0 m args below meth c H locs ls C1 hP hS hl
  have hlk : meth.locks = false := C1.2.2.2.2.2.2.1
  exact W.widen h1 h2 (W.aret C1.1 C1.2.1 (C1.2.2.2.2.2.1.trans hr) (.inl ⟨_, rfl⟩) (.inr ⟨_, rfl⟩) (fun t ht hW => ⟨⟨_, lc, s, rfl, h, by rw [ht]; exact hP⟩, hS.F ht⟩) hS.2.2 d)
/-- an inherited method, by the receiver's class -/
theorem v_callU {x y : MethodName} {C owner : String} {bytes : ByteArray} {maxL idx nA kd i ci : Nat} {ret : Option FieldType} {rm : Room} {As : List Value} {Q' : Option Value → (Nat → Nat → Nat) → σ → Prop} {T : u_T} {N : Nat} {fs : List Value} (hV : xV X s kd i) (ho : tt_ent X lc s kd i = .inr (ci, fs)) (hc : (xC X)[ci]? = some (C, T, N))
    (sp : tt_Sp X y bytes maxL ret rm (.ref (lc kd i) :: As) lc s Q') (hT : GoodIn lw_all (va_wsU Y.1 idx C owner x y (ws_ y bytes maxL ret))) (hyx : y = ⟨owner, x.name, x.desc⟩) (hd : owner ≠ "java/lang/invoke/MethodHandle" ∧ owner ≠ "java/lang/invoke/VarHandle" ∧ (parseMethodDescriptor x.desc).map (fun d => d.parameters.length) = some nA)
    (hn : As.length = nA) (hR : rm.frames + 1 ≤ Y.2.2.2.1.frames ∧ 8 + (maxL + 11) + rm.locals ≤ Y.2.2.2.1.locals) (hW : (rest.map fun v => v.category).sum ≤ 8) (hf : ck + rm.cells ≤ Y.2.2.2.1.cells ∧ cn + rm.slots ≤ Y.2.2.2.1.slots) (d : decode cc pc = .ok (.invokevirtual idx, 3)) {st : List Value} (hst : st = As.reverse ++ .ref (lc kd i) :: rest)
    (kk : ∀ v lc' s', Q' v lc' s' → tt_V X cc Y Q (pc + 3) lv (v.toList ++ rest) lc' s' (ck + rm.cells) (cn + rm.slots)) : tt_V X cc Y Q pc lv st lc s ck cn := by
  intro p1 e R s0 m args below meth c H locs ls C1 hP hS hl
  have hat := (hP.1 kd i hV).1
  rw [ho] at hat
  have hP1 : va_P (xD X) (xC X) [(lc kd i, .inr (ci, fs))] H := fun k q hq => by
    match k, hq with
    | 0, hq => cases hq; exact hat
    | k + 1, hq => simp at hq
  have hRe : R = Y.2.2.2.1 := C1.2.2.2.2.2.2.2.1
  have run := va_runU (R := R) (l := X.1) (p := p1) (e := e) (below := below) (meth := meth) (locs := locs) (cells := ck) (slots := cn) (H := H) (g := F0 m pc ls st) (As := As) (rest := rest) (b := lc kd i) ⟨C1.1, C1.2.1, C1.2.2.1, C1.2.2.2.1, C1.2.2.2.2.1⟩ sp (va_cwU nA C1.2.2.2.2.1 hT rfl rfl rfl hyx hd (by rw [hRe]; exact hR)) ⟨tt_blind C1.2.2.2.2.2.2.2.2.2.1, va_recv C1.2.2.2.2.2.2.2.2.1.1 hP1 (q0 := 0) hc rfl, fun U hU hW => ⟨rfl, by rw [hU]; exact hP, tt_K.moved C1.2.2.2.2.2.2.2.2.2.1 hW ⟨by rw [hU]; exact hS.1, fun q h1 h2 => by rw [hU]; exact hS.2.1 q h1 h2⟩ C1.2.2.2.2.2.2.2.2.1⟩⟩ rfl hn hl.1 hst (lv_room hW) d (by rw [hRe]; exact hf)
  exact tt_after run hS (fun v lc' s' H1 locs1 hq hp hs => kk v lc' s' hq p1 e R s0 m args below meth c H1 locs1 ls C1 hp hs hl)
/-- super.m(..) -/
theorem v_callSU {y : MethodName} {C : String} {bytes : ByteArray} {maxL idx nA kd i ci : Nat} {ret : Option FieldType} {rm : Room} {As : List Value} {Q' : Option Value → (Nat → Nat → Nat) → σ → Prop} {T : u_T} {N : Nat} {fs : List Value} (hV : xV X s kd i) (ho : tt_ent X lc s kd i = .inr (ci, fs)) (hc : (xC X)[ci]? = some (C, T, N))
    (sp : tt_Sp X y bytes maxL ret rm (.ref (lc kd i) :: As) lc s Q') (hT : GoodIn lw_all (va_wsSU Y.1 idx y (ws_ y bytes maxL ret))) (hd : y.name ≠ "<init>" ∧ (parseMethodDescriptor y.desc).map (fun d => d.parameters.length) = some nA)
    (hn : As.length = nA) (hR : rm.frames + 1 ≤ Y.2.2.2.1.frames ∧ 8 + (maxL + 11) + rm.locals ≤ Y.2.2.2.1.locals) (hW : (rest.map fun v => v.category).sum ≤ 8) (hf : ck + rm.cells ≤ Y.2.2.2.1.cells ∧ cn + rm.slots ≤ Y.2.2.2.1.slots) (d : decode cc pc = .ok (.invokespecial idx, 3)) {st : List Value} (hst : st = As.reverse ++ .ref (lc kd i) :: rest)
    (kk : ∀ v lc' s', Q' v lc' s' → tt_V X cc Y Q (pc + 3) lv (v.toList ++ rest) lc' s' (ck + rm.cells) (cn + rm.slots)) : tt_V X cc Y Q pc lv st lc s ck cn := by
  intro p1 e R s0 m args below meth c H locs ls C1 hP hS hl
  have hat := (hP.1 kd i hV).1
  rw [ho] at hat
  have hP1 : va_P (xD X) (xC X) [(lc kd i, .inr (ci, fs))] H := fun k q hq => by
    match k, hq with
    | 0, hq => cases hq; exact hat
    | k + 1, hq => simp at hq
  have hRe : R = Y.2.2.2.1 := C1.2.2.2.2.2.2.2.1
  have run := va_runSU (R := R) (l := X.1) (p := p1) (e := e) (below := below) (meth := meth) (locs := locs) (cells := ck) (slots := cn) (H := H) (g := F0 m pc ls st) (As := As) (rest := rest) (b := lc kd i) (C1.2.2.2.2.2.2.2.2.1.1.1 ci _ hc).2 ⟨C1.1, C1.2.1, C1.2.2.1, C1.2.2.2.1, C1.2.2.2.2.1⟩ sp (va_cwSU nA C1.2.2.2.2.1 hT rfl rfl rfl hd (by rw [hRe]; exact hR)) ⟨tt_blind C1.2.2.2.2.2.2.2.2.2.1, va_recv C1.2.2.2.2.2.2.2.2.1.1 hP1 (q0 := 0) hc rfl, fun U hU hW => ⟨rfl, by rw [hU]; exact hP, tt_K.moved C1.2.2.2.2.2.2.2.2.2.1 hW ⟨by rw [hU]; exact hS.1, fun q h1 h2 => by rw [hU]; exact hS.2.1 q h1 h2⟩ C1.2.2.2.2.2.2.2.2.1⟩⟩ rfl hn hl.1 hst (lv_room hW) d (by rw [hRe]; exact hf)
  exact tt_after run hS (fun v lc' s' H1 locs1 hq hp hs => kk v lc' s' hq p1 e R s0 m args below meth c H1 locs1 ls C1 hp hs hl)
/-- a nest mate's private static method -/
theorem v_callSN {y : MethodName} {host : String} {bytes : ByteArray} {maxL idx nA : Nat} {ret : Option FieldType} {rm : Room} {As : List Value} {Q' : Option Value → (Nat → Nat → Nat) → σ → Prop} (hKN : ∀ U, xK X U → tt_KN U)
    (sp : tt_Sp X y bytes maxL ret rm As lc s Q') (hG : GoodIn lw_all (ws_ y bytes maxL ret)) (hl0 : Cond.methodLinkNest Y.1 idx y host ∈ lw_tbl) (hini : Cond.initialized y.cls ∈ lw_all) (hstat : Cond.static y ∈ lw_all) (hd : y.cls ≠ "java/lang/invoke/MethodHandle" ∧ y.cls ≠ "java/lang/invoke/VarHandle" ∧ (parseMethodDescriptor y.desc).map (fun d => d.parameters.length) = some nA)
    (hn : As.length = nA) (hR : rm.frames + 1 ≤ Y.2.2.2.1.frames ∧ 8 + (maxL + 11) + rm.locals ≤ Y.2.2.2.1.locals) (hW : (rest.map fun v => v.category).sum ≤ 8) (hf : ck + rm.cells ≤ Y.2.2.2.1.cells ∧ cn + rm.slots ≤ Y.2.2.2.1.slots) (d : decode cc pc = .ok (.invokestatic idx, 3)) {st : List Value} (hst : st = As.reverse ++ rest)
    (kk : ∀ v lc' s', Q' v lc' s' → tt_V X cc Y Q (pc + 3) lv (v.toList ++ rest) lc' s' (ck + rm.cells) (cn + rm.slots)) : tt_V X cc Y Q pc lv st lc s ck cn := by
  intro p1 e R s0 m args below meth c H locs ls C1 hP hS hl
  have hRe : R = Y.2.2.2.1 := C1.2.2.2.2.2.2.2.1
  have hk : tt_KN s0 := hKN _ C1.2.2.2.2.2.2.2.2.1.2
  have run := va_runSN (R := R) (l := X.1) (p := p1) (e := e) (below := below) (meth := meth) (locs := locs) (cells := ck) (slots := cn) (H := H) (g := F0 m pc ls st) (As := As) (rest := rest) ⟨C1.1, C1.2.1, C1.2.2.1, C1.2.2.2.1, C1.2.2.2.2.1⟩ sp ⟨va_cnB nA C1.2.2.2.2.1 hG rfl rfl rfl (hk _ hl0 rfl) (C1.2.2.2.2.1 _ hini) hd (by rw [hRe]; exact hR), C1.2.2.2.2.1 _ hstat, trivial⟩ ⟨tt_blind C1.2.2.2.2.2.2.2.2.2.1, fun U hU hW => ⟨rfl, by rw [hU]; exact hP, tt_K.moved C1.2.2.2.2.2.2.2.2.2.1 hW ⟨by rw [hU]; exact hS.1, fun q h1 h2 => by rw [hU]; exact hS.2.1 q h1 h2⟩ C1.2.2.2.2.2.2.2.2.1⟩⟩ rfl hn hl.1 hst (lv_room hW) d (by rw [hRe]; exact hf)
  exact tt_after run hS (fun v lc' s' H1 locs1 hq hp hs => kk v lc' s' hq p1 e R s0 m args below meth c H1 locs1 ls C1 hp hs hl)
end VROWS3
