/-! a call by the interface of a made object: the caller's side -/
theorem lam_enter {p : Program} {l : Launch} {e : Env} {R : Room} {s : State} {m : MethodId} {args : Array Value} {below : List Frame} {meth : Method} {c : Code} {T : State} {locs : List Loc} {cells slots : Nat}
    (X : Stand p l e R s m args below meth c T locs cells slots) (hexec : p.tables.exec = Jvm.exec) {own : String} {index count : Nat} {x : MethodName}
    (hown : s.vm.findClass own = some m.cls) (hlink : (Cond.methodLink own index x).before args s = true) (hdecl : (Cond.declares x).before args s = true) (hface : (Cond.interfaceMethod x.cls x.cls x.name x.desc).before args s = true) (hx : x.cls ≠ "java/lang/invoke/MethodHandle" ∧ x.cls ≠ "java/lang/invoke/VarHandle")
    {d cK : ClassId} {sh : Lambda.Shape} (hmade : Lambda.isMade { classPath := fun _ => none } s.vm d sh cK = true) (hcan : s.lambdaCallable sh cK = true) (hs1 : sh.iface = x.cls) (hs2 : sh.name = x.name) (hs3 : sh.sam.toString = x.desc)
    {kK : Class} {methk : Method} (hkK : s.vm.classes[cK]? = some kK) (hmk : s.vm.method? ⟨cK, 1⟩ = some methk) (hfl : methk.accessFlags = 0x0001)
    {b : Addr} {cell : Cell} (hcell : T.heap[b]? = some cell) (hobj : cell.vm = .none) (hcls : cell.cls = cK) {g : JFrame} (hg : g.method = m) {argsL rest : List Value} (hlen : (parseMethodDescriptor x.desc).map (fun d => d.parameters.length) = some argsL.length) (hstack : g.stack = argsL.reverse ++ .ref b :: rest) (hdg : decode c.code g.pc = .ok (.invokeinterface index count, 5)) :
    ∃ vm₁, Stand p l e R s m args below meth c (T.setVm vm₁) locs cells slots ∧ ∀ target, (∀ acts, Steps p.tables e below (doInvoke e ((T.setVm vm₁).setTop { g with stack := rest }) acts ⟨cK, 1⟩ (Value.ref b :: argsL).toArray).1 target) → Steps p.tables e below (T.setTop g) target := by
  obtain ⟨r0, r, hn, hrm, hstR, hsigR⟩ := Cond.declares_spec hdecl
  obtain ⟨cL, kL, r1, hcL, hkL, hiL, hfoundL, hn1⟩ := Cond.interfaceMethod_spec hface
  cases hn.symm.trans hn1
  have hr0cls : r0.cls = cL := Option.some.inj ((findClass_of_methodNamed hn).symm.trans hcL)
  obtain ⟨hnameR, hdescR⟩ := name_of_methodNamed hn hrm
  obtain ⟨-, -, -, -, -, -, -, iface', -, -, -, -, found, -, -, -, -, -, hi', -, -, -, -, -, -, hfound', -, -, -, -, -, -, -, -, -, -, hsel⟩ := Lambda.isMade_spec hmade
  rw [hs1] at hi'
  cases hcL.symm.trans hi'
  have hfr : found = r0 := by
    have h1 : s.methodFound? x.cls x.name x.desc = some r0 := hfoundL
    simp only [State.methodFound?, hcL, hkL, hiL, Option.bind_eq_bind, Option.bind_some] at h1
    rw [hs2, hs3] at hfound'
    rw [hfound'] at h1
    exact Option.some.inj h1
  subst hfr
  obtain ⟨i2, hi2, hasg, hway⟩ := State.lambdaCallable_spec hcan
  rw [hs1] at hi2
  cases hcL.symm.trans hi2
  subst hcls
  obtain ⟨vm₁, X₁, hstep₁⟩ := X.invokeinterface hexec hown hlink hn hrm hstR (by rw [hr0cls]; exact hkL) hiL hx (a := b) (cell := cell) (kcell := kK) hcell
    (fun z h => by rw [h] at hobj; cases hobj) hkK (by rw [hr0cls]; exact hasg) (by rw [Launch.admits_selectMethod X.admits]; exact hsel) hmk (by rw [hnameR, hdescR]; rw [hs2, hs3] at hway; exact hway) (by rw [hfl]; decide) (by simp [Method.isAbstract, hfl, hasFlag, Acc.abstract]) (g := g) hg (argsL := argsL) (rest := rest) (by rw [hsigR] at hlen; exact (Option.some.inj hlen).symm) hstack hdg
  exact ⟨vm₁, X₁, hstep₁⟩
/-- Object has no fields -/
def lam_O (U : State) : Prop := ∀ o ok, U.vm.findClass "java/lang/Object" = some o → U.vm.classes[o]? = some ok → ok.instanceTypes.size = 0
theorem lam_O.warm {s U : State} (hW : s.WarmedH U.vm) (h : lam_O s) : lam_O U := by
  intro o ok h1 h2
  rw [hW.alike.findClass] at h1
  cases h3 : s.vm.classes[o]? with
  | none =>
    have hz := hW.alike.2.1
    have a1 := Array.getElem?_eq_none_iff.mp h3
    have a2 := (Array.getElem?_eq_some_iff.mp h2).1
    omega
  | some k =>
    obtain ⟨k', hk', he⟩ := hW.alike.2.2 _ _ h3
    cases h2.symm.trans hk'
    have := h o k h1 h3
    rw [he]
    exact this
/-- what rides for a made class's callers: the site, Object, the interface's method -/
def lam_Rd (x : MethodName) (pc idx : Nat) (sh : Lambda.Shape) (c : ClassId) (l : Linked) (xi : MethodName) (U : State) : Prop :=
  lam_ok x pc idx sh c l U ∧ lam_O U ∧ (Cond.declares xi).before #[] U = true ∧ (Cond.interfaceMethod xi.cls xi.cls xi.name xi.desc).before #[] U = true
theorem lam_Rd.warm {s U : State} (hW : s.WarmedH U.vm) {x xi : MethodName} {pc idx : Nat} {sh : Lambda.Shape} {c : ClassId} {l : Linked} (hx : xi.cls ≠ "java/lang/invoke/MethodHandle" ∧ xi.cls ≠ "java/lang/invoke/VarHandle") (h : lam_Rd x pc idx sh c l xi s) : lam_Rd x pc idx sh c l xi U := by
  obtain ⟨h1, h2, h3, h4⟩ := h
  obtain ⟨r, meth, hn, -⟩ := Cond.declares_spec h3
  have hvm := hW.alike
  have tr : ∀ {c : Cond}, c.onTables = true → c.before #[] (s.setVm U.vm) = true → c.before #[] U = true := by
    intro c hc h
    have e := Cond.onTables_vm (A := #[]) (A' := #[]) (U := s) (U' := U) U.vm c hc
    have hU : U.setVm U.vm = U := rfl
    rw [hU] at e
    rw [← e]
    exact h
  exact ⟨h1.warm hW, h2.warm hW, tr rfl (by rw [Cond.declares_setVm hvm]; exact h3), tr rfl (by rw [Cond.interfaceMethod_setVm hvm (r := r) hn hx]; exact h4)⟩
theorem lam_run5 {p : Program} {l : Launch} {e : Env} {R : Room} {s : State} {m : MethodId} {args : Array Value} {below : List Frame} {meth : Method} {c : Code} {H : Heap} {locs : List Loc} {cells slots mc ms : Nat} (hexec : p.tables.exec = Jvm.exec) {own : String} {index count : Nat} {x0 xi : MethodName} {pc0 idx0 : Nat} {sh : Lambda.Shape} {cK : ClassId} {lk : Linked}
    (hown : s.vm.findClass own = some m.cls) (hlink : (Cond.methodLink own index xi).before args s = true) (hx : xi.cls ≠ "java/lang/invoke/MethodHandle" ∧ xi.cls ≠ "java/lang/invoke/VarHandle") (hrd : lam_Rd x0 pc0 idx0 sh cK lk xi s) (hs1 : sh.iface = xi.cls) (hs2 : sh.name = xi.name) (hs3 : sh.sam.toString = xi.desc)
    {bs : ByteArray} {mL mi ci : Nat} {fi : List Nat} (hi : lam_is sh x0.cls bs mL mi ci fi)
    {b : Addr} {cell : Cell} (hcell : H[b]? = some cell) (hobj : cell.vm = .none) (hcls : cell.cls = cK) {g : JFrame} (hg : g.method = m) {As rest : List Value} (hlen : (parseMethodDescriptor xi.desc).map (fun d => d.parameters.length) = some As.length) (hstack : g.stack = As.reverse ++ .ref b :: rest) (hdg : decode c.code g.pc = .ok (.invokeinterface index count, 5))
    {Qc : Array Value → State → Outcome → State → Prop} {free : Addr → Prop} {a : Array Value}
    (hgo : ∀ T₁ : State, T₁.heap = H → Stand p l e R s m args below meth c T₁ locs cells slots → ∃ v T' U₁ L₁ c₁ n₁, Stand p l e R s m args below meth c T' (locs ++ L₁) (cells + c₁) (slots + n₁) ∧ (∃ U₀ : State, U₀.vm = T₁.vm ∧ U₀.heap = T₁.heap ∧ PostOf Qc mc ms free (U₀, [], 0, 0) a v (U₁, L₁, c₁, n₁)) ∧ T'.heap = U₁.heap ∧ T'.vm = U₁.vm ∧ T₁.WarmedH T'.vm ∧
      ∀ acts, Steps p.tables e below (doInvoke e (T₁.setTop { g with stack := rest }) acts ⟨cK, 1⟩ (Value.ref b :: As).toArray).1 (T'.setTop { g with pc := g.pc + 5, stack := v.toList ++ rest })) :
    va_Run5 p l e R s m args below meth c H locs cells slots mc ms g rest (Qc a) free := by
  intro T hT X
  obtain ⟨⟨m0, k0, cf0, i0, p0, -, hk0, -, hn0, -, -, hmade, hcan⟩, hO, hdecl, hface⟩ := hrd
  obtain ⟨k, -, -, methk, -, -, -, -, hk, -, -, -, -, hmk, -, -, -, -, hfl, -⟩ := lam_made hi hk0 hn0 hmade hO
  obtain ⟨vm₁, X₁, hin⟩ := lam_enter X hexec hown hlink (va_any rfl hdecl) (va_any rfl hface) hx hmade hcan hs1 hs2 hs3 hk hmk hfl (by rw [hT]; exact hcell) hobj hcls hg hlen hstack hdg
  obtain ⟨v, T', U₁, L₁, c₁, n₁, X', ⟨U₀, u1, u2, g', mk, t, L, e1, e2, hq, h1, hL, h2, h3⟩, e3, e4, -, st⟩ := hgo (T.setVm vm₁) hT X₁
  dsimp only [Pt.U, Pt.locs, Pt.cells, Pt.slots] at e1 e2 hq h1 h2 h3
  have hL₁ : L₁ = L := by rw [h1]; rfl
  rw [h2, h3, Nat.zero_add, Nat.zero_add, hL₁] at X'
  exact ⟨v, U₀.calling g' mk a, t, T', L, by show U₀.heap = H; rw [u2]; exact hT, X', hL, e3.trans e1, e4.trans e2, hq, fun target h => hin target fun acts => (st acts).trans h⟩
