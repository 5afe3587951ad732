/-! a made object that hands on to an instance method: the target found -/
def lam_toV (U : State) (cK mi : Nat) (y : MethodName) (C : String) (n : Nat) : Prop :=
  ∃ t kt metht, namesAClass U cK mi ∧ U.vm.methodReady cK mi t ∧ U.vm.classes[t.cls]? = some kt ∧ U.vm.method? t = some metht ∧ signaturePolymorphic kt metht = false ∧ metht.isStatic = false ∧ metht.isAbstract = false ∧ kt.isInterface = false ∧
    metht.sig.parameters.length = n ∧ U.methodNamed? y = some t ∧ ∀ c, U.vm.findClass C = some c → selectMethod {} U.vm c t = .method t
theorem lam_toV_of {U : State} {cK mi ci nt n : Nat} {y : MethodName} {C : String} {kK tk : Class} {file : ClassFile} {toy : ClassId} {t : MethodId} {bytes : ByteArray} {maxL : Nat} {ret : Option FieldType} {sig : MethodDescriptor}
    (hkK : U.vm.classes[cK]? = some kK) (hfile : kK.cf = some file) (hM : file.constantPool[mi]? = some (.methodref ci nt))
    (hready : U.vm.methodReady cK mi t) (hclsR : U.vm.classReady cK ci toy) (htoy : U.vm.findClass y.cls = some toy) (htk : U.vm.classes[toy]? = some tk) (hitf : tk.isInterface = false)
    (hlook : ((methodIn toy y.name y.desc tk.isInterface none).ask { classPath := fun _ => none } U.vm).1 = .ok t)
    (hy : y.cls ≠ "java/lang/invoke/MethodHandle" ∧ y.cls ≠ "java/lang/invoke/VarHandle")
    (hcode : (Cond.code y bytes maxL ret).before #[] U = true) (hin : (Cond.instanceMethod y).before #[] U = true) (hsel : (Cond.selects C y y).before #[] U = true)
    (hsig : parseMethodDescriptor y.desc = some sig) (hn : sig.parameters.length = n) : lam_toV U cK mi y C n := by
  cases hnB : U.methodNamed? y with
  | none => simp [Cond.before, Cond.holds, Cond.value, hnB] at hcode
  | some mB =>
  obtain ⟨methB, cB, hmB, -, -, -, -, -, -, hsigB⟩ := Cond.code_spec hnB hcode
  obtain ⟨m9, meth9, h91, h92, hst, hab⟩ := Cond.instanceMethod_spec hin
  cases hnB.symm.trans h91
  cases hmB.symm.trans h92
  have hfT : U.vm.findClass y.cls = some mB.cls := findClass_of_methodNamed hnB
  cases htoy.symm.trans hfT
  obtain ⟨kT', hkT', hnameT⟩ := className_of_methodNamed hnB
  cases htk.symm.trans hkT'
  have h1 : U.methodFound? y.cls y.name y.desc = some mB := State.methodFound?_of_named hnB hy
  have htB : t = mB := by
    have h2 := h1
    simp only [State.methodFound?, hfT, htk, Option.bind_eq_bind, Option.bind_some] at h2
    rw [hlook] at h2
    exact Option.some.inj h2
  subst htB
  obtain ⟨c8, r8, m8, s1, s2, s3, s4, -⟩ := Cond.selects_spec hsel
  cases h1.symm.trans s2
  cases hnB.symm.trans s3
  exact ⟨t, tk, methB, ⟨kK, file, ci, nt, t.cls, tk, hkK, hfile, hM, hclsR, htk, hitf⟩, hready, htk, hmB, by simp [signaturePolymorphic, hnameT, hy.1, hy.2], hst, hab, hitf, by rw [← Option.some.inj (hsig.symm.trans hsigB)]; exact hn, hnB, fun c hc => by cases s1.symm.trans hc; exact s4⟩
/-! a made object's method, run: a World captured, three values handed in, an instance method as the target -/
theorem lam_goV {p : Program} {l : Launch} {e : Env} {R : Room} {s : State} {m : MethodId} {args : Array Value} {below : List Frame} {meth : Method} {c : Code} {T : State} {L : List Loc} {cc nn : Nat}
    (X : Stand p l e R s m args below meth c T L cc nn) (hexec : p.tables.exec = Jvm.exec) {g : JFrame} (hg : g.method = m) (hsize : g.locals.size = c.maxLocals) {ig : Instr} {len : Nat} (hdg : decode c.code g.pc = .ok (ig, len))
    {cK : ClassId} {methk : Method} {ck : Code} {bs : ByteArray} (hmk : T.vm.method? ⟨cK, 1⟩ = some methk) (hck : methk.code = some ck) (hbs : ck.code = bs) (hml : ck.maxLocals = 5) (hlk : methk.locks = false) (hpk : T.plainMethod ⟨cK, 1⟩) (hrt : methk.sig.returnType = none)
    {f w h f2 : Addr} {am : Int64} {cell cellW : Cell} (hcell : T.heap[f]? = some cell) (hkn : cell.vm ≠ .unknown) {fi : Nat} (hsl : cell.slots[0]? = some (.ref w)) (hcW : T.heap[w]? = some cellW) (hoW : cellW.vm.isStatics = false)
    (hd0 : decode bs 0 = .ok (.aload_n 0, 1)) (hd1 : decode bs 1 = .ok (.getfield fi, 3)) (hfr : ∃ g : Field, T.vm.fieldReady cK fi cK g ∧ g.isStatic = false ∧ g.slot = 0)
    {mi : Nat} {y : MethodName} {C : String} (hd4 : decode bs 4 = .ok (.aload_n 1, 1)) (hd5 : decode bs 5 = .ok (.lload_n 2, 1)) (hd6 : decode bs 6 = .ok (.aload 4, 2)) (hd8 : decode bs 8 = .ok (.invokevirtual mi, 3)) (hd11 : decode bs 11 = .ok (.return_, 1))
    (hto : lam_toV T cK mi y C 3) (hcC : T.vm.findClass C = some cellW.cls) {R' : Room} {Pre : Pt → Array Value → Prop} {Post : Pt → Array Value → Option Value → Pt → Prop}
    (hK : Back l R' p e (.java g :: below) (T.calling g ⟨cK, 1⟩ #[.ref f, .ref h, .long am, .ref f2]) #[.ref f, .ref h, .long am, .ref f2] y 3 8 Pre Post)
    (hpre : ∀ U₀ : State, U₀.vm = T.vm → U₀.heap = T.heap → Pre (U₀, [], 0, 0) #[.ref w, .ref h, .long am, .ref f2])
    (hret : ∀ A v B, Post A #[.ref w, .ref h, .long am, .ref f2] v B → v = none)
    (hframes : R'.frames + 1 ≤ R.frames) (hlocals : 2 * g.monitorRoom + (g.stack.map fun v => v.category).sum + (5 + 11) + R'.locals ≤ R.locals) (hcells : cc + R'.cells ≤ R.cells) (hslots : nn + R'.slots ≤ R.slots) :
    ∃ v T' U₁ L₁ c₁ n₁, Stand p l e R s m args below meth c T' (L ++ L₁) (cc + c₁) (nn + n₁) ∧ (∃ U₀ : State, U₀.vm = T.vm ∧ U₀.heap = T.heap ∧ Post (U₀, [], 0, 0) #[.ref w, .ref h, .long am, .ref f2] v (U₁, L₁, c₁, n₁)) ∧ T'.heap = U₁.heap ∧ T'.vm = U₁.vm ∧ T.WarmedH T'.vm ∧
      ∀ acts, Steps p.tables e below (doInvoke e (T.setTop g) acts ⟨cK, 1⟩ #[.ref f, .ref h, .long am, .ref f2]).1 (T'.setTop { g with pc := g.pc + len, stack := v.toList ++ g.stack }) := by
  subst hbs
  refine lam_through X hg hsize hdg #[.ref f, .ref h, .long am, .ref f2] (R' := R') hmk hck hlk hpk hframes (by rw [hml]; exact hlocals) hcells hslots
    (F := fun v U₁ L₁ c₁ n₁ => ∃ U₀ : State, U₀.vm = T.vm ∧ U₀.heap = T.heap ∧ Post (U₀, [], 0, 0) #[.ref w, .ref h, .long am, .ref f2] v (U₁, L₁, c₁, n₁)) ?_
  intro U₀ hU₀ Y₀
  have hvm : U₀.vm = T.vm := by rw [hU₀]; rfl
  have hheap : U₀.heap = T.heap := by rw [hU₀]; rfl
  obtain ⟨Ls, hent, hL0, hL1, hL2, hL4, hLs⟩ : ∃ Ls : Array Slot, entryFrame ⟨cK, 1⟩ #[.ref f, .ref h, .long am, .ref f2] ck.maxLocals = { method := ⟨cK, 1⟩, pc := 0, locals := Ls, stack := [], locked := none } ∧ Ls[0]? = some (.val (.ref f)) ∧ Ls[1]? = some (.val (.ref h)) ∧ Ls[2]? = some (.val (.long am)) ∧ Ls[4]? = some (.val (.ref f2)) ∧ Ls.size = 5 := by
    rw [hml]
    exact ⟨_, rfl, rfl, rfl, rfl, rfl, rfl⟩
  rw [hent]
  have k1 := lam_loads Y₀ hexec (f := f) (cell := cell) (Ls := Ls) (cs := [.ref w]) (fi := [fi]) hL0 (by rw [hheap]; exact hcell) hkn rfl (fun j v hj => by
      match j, hj with
      | 0, hj => cases hj; exact hsl
      | j + 1, hj => simp at hj) (fun j hj => by
      match j, hj with
      | 0, hj => exact hd0
      | j + 1, hj => simp at hj) (fun j i hj => by
      match j, hj with
      | 0, hj => cases hj; exact hd1
      | j + 1, hj => simp at hj) (fun j i hj => by
      match j, hj with
      | 0, hj => cases hj; rw [hvm]; exact hfr
      | j + 1, hj => simp at hj) 1 (Nat.le_refl _)
  have k2 : Steps p.tables e (.java g :: below) (U₀.setTop { method := ⟨cK, 1⟩, pc := 0, locals := Ls, stack := [], locked := none }) (U₀.setTop { method := ⟨cK, 1⟩, pc := 8, locals := Ls, stack := [.ref f2, .long am, .ref h, .ref w], locked := none }) := by
    refine k1.trans ?_
    jvm_step Y₀.here [hexec, hd4, hL1, Value.isRef]
    jvm_step Y₀.here [hexec, hd5, hL2, Value.isRef]
    jvm_step Y₀.here [hexec, hd6, hL4, Value.isRef]
    exact Steps.refl _
  obtain ⟨t, kt, metht, q1, q2, q3, q4, q5, q6, q7, q8, q9, q10, q11⟩ := hto
  have q10' : U₀.methodNamed? y = some t := by
    have q : (T.setVm U₀.vm).methodNamed? y = some t := by rw [hvm]; exact q10
    exact q
  have hnc : namesAClass U₀ cK mi := by unfold namesAClass at q1 ⊢; rw [hvm]; exact q1
  obtain ⟨v, ⟨U₁, L₁, c₁, n₁⟩, Y₁, hpost, kE⟩ := lam_virtual Y₀ hexec (g := { method := ⟨cK, 1⟩, pc := 8, locals := Ls, stack := [.ref f2, .long am, .ref h, .ref w], locked := none }) rfl (by rw [hml]; exact hLs) (index := mi) (a := w) (y := y) (r := t) (t := t) (kr := kt) (kt := kt) (methr := metht) (metht := metht) (cell := cellW) (argsL := [.ref h, .long am, .ref f2]) (rest := [])
    hnc (by rw [hvm]; exact q2) (by rw [hvm]; exact q3) (by rw [hvm]; exact q4) q5 q6 (by rw [q9]; rfl) rfl (by rw [hheap]; exact hcW) (fun z hz => by rw [hz] at hoW; cases hoW) (by rw [hvm, Launch.admits_selectMethod X.admits]; exact q11 _ hcC) (by rw [hvm]; exact q4) q7 (by rw [hvm]; exact q3) q8 q10' hK (by show 2 * 0 + 0 ≤ 8; decide) (hpre U₀ hvm hheap) hd8 k2
  dsimp only [Pt.U, Pt.locs, Pt.cells, Pt.slots] at Y₁ kE
  have hpost' : Post (U₀, [], 0, 0) #[.ref w, .ref h, .long am, .ref f2] v (U₁, L₁, c₁, n₁) := hpost
  cases hret _ _ _ hpost'
  exact ⟨none, U₁, L₁, c₁, n₁, Y₁, fun _ => rfl, ⟨U₀, hvm, hheap, hpost'⟩, fun fs hleave => kE.trans (lam_vret Y₁ hexec hrt hd11 hleave)⟩
