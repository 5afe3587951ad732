/-! lambdas: what the tables say of a site that makes an object; it rides -/
def lam_ok (x : MethodName) (pc idx : Nat) (sh : Lambda.Shape) (c : ClassId) (l : Linked) (U : State) : Prop :=
  ∃ (m : MethodId) (k : Class) (cf : ClassFile) (i0 p0 : Nat), U.methodNamed? x = some m ∧ U.vm.classes[m.cls]? = some k ∧ k.cf = some cf ∧ k.name = x.cls ∧ Lambda.shapeOf? cf idx = some sh ∧
    (k.callSites.find? fun y => y.1 == m.idx && y.2.1 == pc) = some (i0, p0, l) ∧ Lambda.isMade { classPath := fun _ => none } U.vm m.cls sh c = true ∧ U.lambdaCallable sh c = true
theorem lam_ok.of_site {s : State} {x : MethodName} {pc idx : Nat} {sh : Lambda.Shape} {c : ClassId} {one : Option Addr} (hc : sh.captured ≠ []) (h : s.lambdaAt? x pc idx sh = some (c, one)) : lam_ok x pc idx sh c (.makes c) s := by
  obtain ⟨m, k, cf, i0, p0, l, hm, hk, hcf, hsh, hin, hfind, hmade, hcall, hl⟩ := State.lambdaAt?_spec h
  obtain ⟨k', hk', hn⟩ := className_of_methodNamed hm
  cases hk.symm.trans hk'
  rcases hl with ⟨a, cell, -, -, hcap, -⟩ | ⟨rfl, -, -⟩
  · exact absurd hcap hc
  · exact ⟨m, k, cf, i0, p0, hm, hk, hcf, hn, hsh, hfind, hmade, hcall⟩
theorem lam_ok.of_one {s : State} {x : MethodName} {pc idx : Nat} {sh : Lambda.Shape} {c : ClassId} {one : Option Addr} (hc : sh.captured = []) (h : s.lambdaAt? x pc idx sh = some (c, one)) : ∃ a cell, lam_ok x pc idx sh c (.constant a) s ∧ s.heap[a]? = some cell ∧ cell.cls = c ∧ cell.vm = .none ∧ cell.slots = #[] := by
  obtain ⟨m, k, cf, i0, p0, l, hm, hk, hcf, hsh, hin, hfind, hmade, hcall, hl⟩ := State.lambdaAt?_spec h
  obtain ⟨k', hk', hn⟩ := className_of_methodNamed hm
  cases hk.symm.trans hk'
  rcases hl with ⟨a, cell, rfl, -, -, h1, h2, h3, h4⟩ | ⟨-, -, hcap⟩
  · exact ⟨a, cell, ⟨m, k, cf, i0, p0, hm, hk, hcf, hn, hsh, hfind, hmade, hcall⟩, h1, h2, h3, h4⟩
  · exact absurd hc hcap
theorem lam_call_warm {s U : State} (hW : s.WarmedH U.vm) {sh : Lambda.Shape} {c : ClassId} (h : s.lambdaCallable sh c = true) : U.lambdaCallable sh c = true := by
  have hA := hW.alike
  simp only [State.lambdaCallable, hA.findClass, hA.assignable, hA.superclasses, hA.declaredIn] at h ⊢
  exact h
theorem lam_ok.warm {s U : State} (hW : s.WarmedH U.vm) {x : MethodName} {pc idx : Nat} {sh : Lambda.Shape} {c : ClassId} {l : Linked} (h : lam_ok x pc idx sh c l s) : lam_ok x pc idx sh c l U := by
  obtain ⟨m, k, cf, i0, p0, hm, hk, hcf, hn, hsh, hfind, hmade, hcall⟩ := h
  obtain ⟨k', hk', he⟩ := hW.alike.2.2 _ _ hk
  have hm' : U.methodNamed? x = some m := by
    have := State.methodNamed?_setVm (s := s) hW.alike x
    rw [hm] at this
    exact this
  exact ⟨m, k', cf, i0, p0, hm', hk', by rw [he]; exact hcf, by rw [he]; exact hn, hsh, by rw [he]; exact hfind, Lambda.isMade_warmer hW hmade, lam_call_warm hW hcall⟩
theorem lam_ok.calling {U : State} {g : JFrame} {mk : MethodId} {a : Array Value} {x : MethodName} {pc idx : Nat} {sh : Lambda.Shape} {c : ClassId} {l : Linked} (h : lam_ok x pc idx sh c l U) : lam_ok x pc idx sh c l (U.calling g mk a) := lam_ok.warm (s := U) (State.WarmedH.refl U) h
/-- the made class's file, its forwarder, its fields -/
def lam_D (sh : Lambda.Shape) (caller : String) : ClassFile := (sh.file caller).getD { minorVersion := 0, majorVersion := 0, constantPool := #[], accessFlags := 0, thisClass := 0, superClass := 0, interfaces := #[], fields := #[], methods := #[], attributes := #[] }
def lam_fw (sh : Lambda.Shape) (caller : String) : Method := ((layoutMethods (lam_D sh caller)).bind (·[1]?)).getD default
def lam_laid (sh : Lambda.Shape) (caller : String) : Array Field × Array FieldType × Array FieldType := (layoutFields (lam_D sh caller) 0).getD (#[], #[], #[])
/-- what one looks at in the made class's file: all by computation -/
def lam_is (sh : Lambda.Shape) (caller : String) (bs : ByteArray) (maxL : Nat) (mi ci : Nat) (fi : List Nat) : Prop :=
  (sh.file caller).isSome = true ∧ ((layoutMethods (lam_D sh caller)).bind (·[1]?)).isSome = true ∧ (layoutFields (lam_D sh caller) 0).isSome = true ∧
  ((lam_fw sh caller).code.map fun c => (c.code.data, c.maxLocals)) = some (bs.data, maxL) ∧ ((lam_fw sh caller).accessFlags, (lam_fw sh caller).sig.returnType) = (0x0001, sh.sam.returnType) ∧
  (∃ nt, (lam_D sh caller).constantPool[mi]? = some (.methodref ci nt) ∧ (lam_D sh caller).constantPool.className? ci = some sh.implClass ∧ (lam_D sh caller).constantPool.nameAndType? nt = some (sh.implName, sh.implDesc.toString)) ∧
  (∃ n, (lam_D sh caller).constantPool[ci]? = some (.class_ n) ∧ (lam_D sh caller).constantPool.string? n = some sh.implClass ∧ ci ≠ (lam_D sh caller).thisClass) ∧
  (∀ j i, fi[j]? = some i → ∃ c nt nm ds, (lam_D sh caller).constantPool[i]? = some (.fieldref c nt) ∧ (lam_D sh caller).constantPool.nameAndType? nt = some (nm, ds) ∧ (lam_laid sh caller).1.findIdx? (·.name == nm) = some j ∧ ((lam_laid sh caller).1[j]?).map (fun f => (f.isStatic, f.slot)) = some (false, j)) ∧
  (lam_laid sh caller).2.1 = sh.captured.toArray
theorem lam_made {sh : Lambda.Shape} {caller : String} {bs : ByteArray} {maxL mi ci : Nat} {fi : List Nat} (hi : lam_is sh caller bs maxL mi ci fi) {vm : Vm} {d c : ClassId} {dk : Class} (hd : vm.classes[d]? = some dk) (hname : dk.name = caller) (h : Lambda.isMade { classPath := fun _ => none } vm d sh c = true)
    (hO : ∀ o ok, vm.findClass "java/lang/Object" = some o → vm.classes[o]? = some ok → ok.instanceTypes.size = 0) :
    ∃ (k tk : Class) (file : ClassFile) (methk : Method) (ck : Code) (toy : ClassId) (t : MethodId) (nt : Nat),
      vm.classes[c]? = some k ∧ k.name = caller ++ "$$Lambda" ∧ k.cf = some file ∧ file.constantPool[mi]? = some (.methodref ci nt) ∧ file.constantPool.nameAndType? nt = some (sh.implName, sh.implDesc.toString) ∧
      vm.method? ⟨c, 1⟩ = some methk ∧ methk.code = some ck ∧ ck.code = bs ∧ ck.maxLocals = maxL ∧ methk.locks = false ∧ methk.accessFlags = 0x0001 ∧ methk.sig.returnType = sh.sam.returnType ∧
      vm.findClass sh.implClass = some toy ∧ vm.classes[toy]? = some tk ∧ tk.isInterface = sh.implItf ∧ ((methodIn toy sh.implName sh.implDesc.toString tk.isInterface none).ask { classPath := fun _ => none } vm).1 = .ok t ∧
      vm.methodReady c mi t ∧ vm.classReady c ci toy ∧ (∀ j i, fi[j]? = some i → ∃ g : Field, vm.fieldReady c i c g ∧ g.isStatic = false ∧ g.slot = j) ∧ k.instanceTypes = sh.captured.toArray ∧ k.kind = .ordinary := by
  obtain ⟨i1, i2, i3, fc, ff, ⟨nt, m1, m2, m3⟩, ⟨n, c1, c2, c3⟩, iF, iT⟩ := hi
  obtain ⟨dk', k, ok, tk, file, cf, object, iface, toy, lay, methods, target, found, hd', hk, hfile, hcf, hobj, -, hok, hlay, hms, ht, htk, hg, -, hrec, -, -, -, hitf, hpool, hmeth, hfields, hty, hres, -⟩ := Lambda.isMade_spec h
  cases hd.symm.trans hd'
  obtain ⟨x, hx⟩ := Option.isSome_iff_exists.mp i1
  have hD : lam_D sh caller = x := by simp [lam_D, hx]
  rw [hname, hx] at hcf
  cases hcf
  have hok0 : ok.instanceTypes = #[] := Array.eq_empty_of_size_eq_zero (hO object ok hobj hok)
  obtain ⟨y, hy⟩ := Option.isSome_iff_exists.mp i3
  have hL : lam_laid sh caller = y := by simp [lam_laid, hy]
  rw [hO object ok hobj hok] at hlay
  rw [hD, hlay] at hy
  cases hy
  obtain ⟨z, hz⟩ := Option.isSome_iff_exists.mp i2
  have hF : lam_fw sh caller = z := by simp [lam_fw, hz]
  rw [hD, hms] at hz
  obtain ⟨b, hb, hsame⟩ := hmeth 1 z hz
  rw [hF] at fc ff
  rw [hD] at m1 m2 m3 c1 c2 c3 iF
  rw [hL] at iF iT
  simp only [Lambda.sameMethod, Bool.and_eq_true, decide_eq_true_eq] at hsame
  obtain ⟨⟨hn, -, hsig, hfl⟩, hcode⟩ := hsame
  simp only [Prod.mk.injEq] at ff
  cases hfc : z.code with
  | none => rw [hfc] at fc; cases fc
  | some x0 =>
    cases hbc : b.code with
    | none => simp [hfc, hbc] at hcode
    | some y0 =>
      simp only [hfc, hbc, Bool.and_eq_true, decide_eq_true_eq] at hcode
      simp only [hfc, Option.map_some, Option.some.injEq, Prod.mk.injEq] at fc
      refine ⟨k, tk, file, b, y0, toy, target, nt, hk, by rw [hrec.1, hname], hfile, by rw [hpool.2.1]; exact m1, by rw [hpool.2.1]; exact m3, by simp [Vm.method?, hk, hb], hbc, ?_, by rw [← hcode.1.1.1.1.2.1]; exact fc.2, ?_, by rw [← hfl]; exact ff.1, by rw [← hsig]; exact ff.2, ht, htk, hitf, hg,
        ⟨k, hk, hres mi _ (Lambda.resolvedOf_method m1 m2 ht htk m3 hg)⟩, ⟨k, hk, hres ci _ (Lambda.resolvedOf_class c1 c3 c2 ht)⟩, fun j i hj => ?_, by rw [hty.1, hok0, iT]; simp, hrec.2.1⟩
      · rw [← hcode.1.1.1.1.2.2]
        exact ByteArray.ext fc.1
      · simp [Method.locks, Method.isSynchronized, ← hfl, ff.1, hasFlag, Acc.synchronized]
      · obtain ⟨c0, nt0, nm, ds, q1, q2, q3, q4⟩ := iF j i hj
        obtain ⟨g0, hg0, hp0⟩ := Option.map_eq_some_iff.mp q4
        simp only [Prod.mk.injEq] at hp0
        exact ⟨g0, ⟨k, j, k, hk, hres i _ (Lambda.resolvedOf_field q1 q2 q3), hk, hfields j _ hg0⟩, hp0.1, hp0.2⟩
/-- the same, as one computation -/
def lam_chk (sh : Lambda.Shape) (caller : String) (bs : ByteArray) (maxL mi ci nt n : Nat) (fi : List (Nat × Nat × Nat × String × String)) : Bool :=
  match sh.file caller with
  | none => false
  | some D => match layoutMethods D with
    | none => false
    | some ms => match layoutFields D 0 with
      | none => false
      | some lay => match ms[1]? with
        | none => false
        | some z => decide ((z.code.map fun c => (c.code.data, c.maxLocals)) = some (bs.data, maxL)) && (decide ((z.accessFlags, z.sig.returnType) = (0x0001, sh.sam.returnType)) &&
          (decide (D.constantPool[mi]? = some (.methodref ci nt) ∧ D.constantPool.className? ci = some sh.implClass ∧ D.constantPool.nameAndType? nt = some (sh.implName, sh.implDesc.toString)) &&
          (decide (D.constantPool[ci]? = some (.class_ n) ∧ D.constantPool.string? n = some sh.implClass ∧ ci ≠ D.thisClass) &&
          ((fi.zipIdx.all fun q => decide (D.constantPool[q.1.1]? = some (.fieldref q.1.2.1 q.1.2.2.1) ∧ D.constantPool.nameAndType? q.1.2.2.1 = some (q.1.2.2.2.1, q.1.2.2.2.2) ∧ lay.1.findIdx? (·.name == q.1.2.2.2.1) = some q.2 ∧ (lay.1[q.2]?).map (fun f => (f.isStatic, f.slot)) = some (false, q.2))) &&
          decide (lay.2.1 = sh.captured.toArray)))))
theorem lam_is_of {sh : Lambda.Shape} {caller : String} {bs : ByteArray} {maxL mi ci nt n : Nat} {fi : List (Nat × Nat × Nat × String × String)} (h : lam_chk sh caller bs maxL mi ci nt n fi = true) : lam_is sh caller bs maxL mi ci (fi.map (·.1)) := by
  unfold lam_chk at h
  split at h
  · cases h
  · rename_i D hD
    split at h
    · cases h
    · rename_i ms hms
      split at h
      · cases h
      · rename_i lay hlay
        split at h
        · cases h
        · rename_i z hz
          simp only [Bool.and_eq_true, decide_eq_true_eq] at h
          obtain ⟨h1, h2, h3, h4, h5, h6⟩ := h
          have eD : lam_D sh caller = D := by simp [lam_D, hD]
          have eF : lam_fw sh caller = z := by simp [lam_fw, eD, hms, hz]
          have eL : lam_laid sh caller = lay := by simp [lam_laid, eD, hlay]
          unfold lam_is
          rw [eF, eL, eD]
          refine ⟨by rw [hD]; rfl, by rw [hms]; simp [hz], by rw [hlay]; rfl, h1, h2, ⟨nt, h3⟩, ⟨n, h4⟩, fun j i hj => ?_, h6⟩
          rw [List.getElem?_map] at hj
          obtain ⟨q, hq, rfl⟩ := Option.map_eq_some_iff.mp hj
          have := List.all_eq_true.mp h5 (q, j) (List.mem_zipIdx_iff_getElem?.mpr (by simpa using hq))
          simp only [decide_eq_true_eq] at this
          exact ⟨q.2.1, q.2.2.1, q.2.2.2.1, q.2.2.2.2, this⟩
