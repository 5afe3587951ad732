/-! a made object's method, run: n values captured, one object handed in, a static target that tells a boolean -/
theorem lam_goZ {p : Program} {l : Launch} {e : Env} {R : Room} {s : State} {m : MethodId} {args : Array Value} {below : List Frame} {meth : Method} {c : Code} {T : State} {L : List Loc} {cc nn : Nat}
    (X : Stand p l e R s m args below meth c T L cc nn) (hexec : p.tables.exec = Jvm.exec) {g : JFrame} (hg : g.method = m) (hsize : g.locals.size = c.maxLocals) {ig : Instr} {len : Nat} (hdg : decode c.code g.pc = .ok (ig, len))
    {cK : ClassId} {methk : Method} {ck : Code} {bs : ByteArray} (hmk : T.vm.method? ⟨cK, 1⟩ = some methk) (hck : methk.code = some ck) (hbs : ck.code = bs) (hml : ck.maxLocals = 2) (hlk : methk.locks = false) (hpk : T.plainMethod ⟨cK, 1⟩) (hrt : methk.sig.returnType = some .boolean)
    {f x : Addr} {cell : Cell} (hcell : T.heap[f]? = some cell) (hkn : cell.vm ≠ .unknown) {fi : List Nat} {cs : List Value} (hlen : cs.length = fi.length) (hsl : ∀ (j : Nat) (v : Value), cs[j]? = some v → cell.slots[j]? = some v)
    (hda : ∀ j : Nat, j < fi.length → decode bs (4 * j) = .ok (.aload_n 0, 1)) (hdf : ∀ j i : Nat, fi[j]? = some i → decode bs (4 * j + 1) = .ok (.getfield i, 3))
    (hfr : ∀ j i : Nat, fi[j]? = some i → ∃ g : Field, T.vm.fieldReady cK i cK g ∧ g.isStatic = false ∧ g.slot = j)
    {mi n : Nat} {y : MethodName} (hd1 : decode bs (4 * fi.length) = .ok (.aload_n 1, 1)) (hd2 : decode bs (4 * fi.length + 1) = .ok (.invokestatic mi, 3)) (hd3 : decode bs (4 * fi.length + 4) = .ok (.ireturn, 1))
    (hto : lam_to e T cK mi y true n) (hn : cs.length + 1 = n) {R' : Room} {Pre : Pt → Array Value → Prop} {Post : Pt → Array Value → Option Value → Pt → Prop}
    (hK : Back l R' p e (.java g :: below) (T.calling g ⟨cK, 1⟩ #[.ref f, .ref x]) #[.ref f, .ref x] y 3 8 Pre Post)
    (hpre : ∀ U₀ : State, U₀.vm = T.vm → U₀.heap = T.heap → Pre (U₀, [], 0, 0) (cs ++ [Value.ref x]).toArray)
    (hret : ∀ A v B, Post A (cs ++ [Value.ref x]).toArray v B → ∃ w : Int32, v = some (.int w) ∧ narrow .boolean (.int w) = .int w)
    (hframes : R'.frames + 1 ≤ R.frames) (hlocals : 2 * g.monitorRoom + (g.stack.map fun v => v.category).sum + (2 + 11) + R'.locals ≤ R.locals) (hcells : cc + R'.cells ≤ R.cells) (hslots : nn + R'.slots ≤ R.slots) :
    ∃ v T' U₁ L₁ c₁ n₁, Stand p l e R s m args below meth c T' (L ++ L₁) (cc + c₁) (nn + n₁) ∧ (∃ U₀ : State, U₀.vm = T.vm ∧ U₀.heap = T.heap ∧ Post (U₀, [], 0, 0) (cs ++ [Value.ref x]).toArray v (U₁, L₁, c₁, n₁)) ∧ T'.heap = U₁.heap ∧ T'.vm = U₁.vm ∧ T.WarmedH T'.vm ∧
      ∀ acts, Steps p.tables e below (doInvoke e (T.setTop g) acts ⟨cK, 1⟩ #[.ref f, .ref x]).1 (T'.setTop { g with pc := g.pc + len, stack := v.toList ++ g.stack }) := by
  subst hbs
  refine lam_through X hg hsize hdg #[.ref f, .ref x] (R' := R') hmk hck hlk hpk hframes (by rw [hml]; exact hlocals) hcells hslots
    (F := fun v U₁ L₁ c₁ n₁ => ∃ U₀ : State, U₀.vm = T.vm ∧ U₀.heap = T.heap ∧ Post (U₀, [], 0, 0) (cs ++ [Value.ref x]).toArray v (U₁, L₁, c₁, n₁)) ?_
  intro U₀ hU₀ Y₀
  have hvm : U₀.vm = T.vm := by rw [hU₀]; rfl
  have hheap : U₀.heap = T.heap := by rw [hU₀]; rfl
  have hent : entryFrame ⟨cK, 1⟩ #[.ref f, .ref x] ck.maxLocals = { method := ⟨cK, 1⟩, pc := 0, locals := #[.val (.ref f), .val (.ref x)], stack := [], locked := none } := by rw [hml]; rfl
  rw [hent]
  have k1 := lam_loads Y₀ hexec (f := f) (cell := cell) (Ls := #[.val (.ref f), .val (.ref x)]) rfl (by rw [hheap]; exact hcell) hkn hlen hsl hda hdf (fun j i hj => by rw [hvm]; exact hfr j i hj) fi.length (Nat.le_refl _)
  rw [← hlen, List.take_length, hlen] at k1
  have k2 : Steps p.tables e (.java g :: below) (U₀.setTop { method := ⟨cK, 1⟩, pc := 0, locals := #[.val (.ref f), .val (.ref x)], stack := [], locked := none }) (U₀.setTop { method := ⟨cK, 1⟩, pc := 4 * fi.length + 1, locals := #[.val (.ref f), .val (.ref x)], stack := .ref x :: cs.reverse, locked := none }) := by
    refine k1.trans ?_
    jvm_step Y₀.here [hexec, hd1, Value.isRef]
    exact Steps.refl _
  obtain ⟨t, kt, metht, ⟨ci, nm, ds, b, c', k', r1, r2, r3, r4⟩, q2, q3, q4, q5, q6, q7, q8, q9⟩ := hto
  have q9' : U₀.methodNamed? y = some t := by
    have q : (T.setVm U₀.vm).methodNamed? y = some t := by rw [hvm]; exact q9
    exact q
  obtain ⟨v, ⟨U₁, L₁, c₁, n₁⟩, Y₁, hpost, kE⟩ := lam_static Y₀ hexec (g := { method := ⟨cK, 1⟩, pc := 4 * fi.length + 1, locals := #[.val (.ref f), .val (.ref x)], stack := .ref x :: cs.reverse, locked := none }) rfl (by rw [hml]; rfl) (index := mi) (y := y) (t := t) (kt := kt) (metht := metht) (argsL := cs ++ [Value.ref x]) (rest := [])
    ⟨ci, nm, ds, b, c', k', by rw [hvm]; exact r1, by rw [hvm]; exact r2, by rw [hvm]; exact r3, r4⟩ (by rw [hvm]; exact q2) (by rw [hvm]; exact q3) (by rw [hvm]; exact q4) q5 q6 (q7 rfl) (by rw [q8, ← hn]; simp) (by simp) q9' hK (by show 2 * 0 + 0 ≤ 8; decide) (hpre U₀ hvm hheap) hd2 k2
  dsimp only [Pt.U, Pt.locs, Pt.cells, Pt.slots] at Y₁ kE
  obtain ⟨w, rfl, hw⟩ := hret _ _ _ hpost
  exact ⟨some (.int w), U₁, L₁, c₁, n₁, Y₁, (fun h => by rw [hrt] at h; cases h), ⟨U₀, hvm, hheap, hpost⟩, fun fs hleave => kE.trans (lam_zret Y₁ hexec hrt hw hd3 hleave)⟩
/-! the same, for a target that tells a long -/
theorem lam_goJ {p : Program} {l : Launch} {e : Env} {R : Room} {s : State} {m : MethodId} {args : Array Value} {below : List Frame} {meth : Method} {c : Code} {T : State} {L : List Loc} {cc nn : Nat}
    (X : Stand p l e R s m args below meth c T L cc nn) (hexec : p.tables.exec = Jvm.exec) {g : JFrame} (hg : g.method = m) (hsize : g.locals.size = c.maxLocals) {ig : Instr} {len : Nat} (hdg : decode c.code g.pc = .ok (ig, len))
    {cK : ClassId} {methk : Method} {ck : Code} {bs : ByteArray} (hmk : T.vm.method? ⟨cK, 1⟩ = some methk) (hck : methk.code = some ck) (hbs : ck.code = bs) (hml : ck.maxLocals = 2) (hlk : methk.locks = false) (hpk : T.plainMethod ⟨cK, 1⟩) (hrt : methk.sig.returnType = some .long)
    {f x : Addr} {cell : Cell} (hcell : T.heap[f]? = some cell) (hkn : cell.vm ≠ .unknown) {fi : List Nat} {cs : List Value} (hlen : cs.length = fi.length) (hsl : ∀ (j : Nat) (v : Value), cs[j]? = some v → cell.slots[j]? = some v)
    (hda : ∀ j : Nat, j < fi.length → decode bs (4 * j) = .ok (.aload_n 0, 1)) (hdf : ∀ j i : Nat, fi[j]? = some i → decode bs (4 * j + 1) = .ok (.getfield i, 3))
    (hfr : ∀ j i : Nat, fi[j]? = some i → ∃ g : Field, T.vm.fieldReady cK i cK g ∧ g.isStatic = false ∧ g.slot = j)
    {mi n : Nat} {y : MethodName} (hd1 : decode bs (4 * fi.length) = .ok (.aload_n 1, 1)) (hd2 : decode bs (4 * fi.length + 1) = .ok (.invokestatic mi, 3)) (hd3 : decode bs (4 * fi.length + 4) = .ok (.lreturn, 1))
    (hto : lam_to e T cK mi y true n) (hn : cs.length + 1 = n) {R' : Room} {Pre : Pt → Array Value → Prop} {Post : Pt → Array Value → Option Value → Pt → Prop}
    (hK : Back l R' p e (.java g :: below) (T.calling g ⟨cK, 1⟩ #[.ref f, .ref x]) #[.ref f, .ref x] y 3 8 Pre Post)
    (hpre : ∀ U₀ : State, U₀.vm = T.vm → U₀.heap = T.heap → Pre (U₀, [], 0, 0) (cs ++ [Value.ref x]).toArray)
    (hret : ∀ A v B, Post A (cs ++ [Value.ref x]).toArray v B → ∃ w : Int64, v = some (.long w))
    (hframes : R'.frames + 1 ≤ R.frames) (hlocals : 2 * g.monitorRoom + (g.stack.map fun v => v.category).sum + (2 + 11) + R'.locals ≤ R.locals) (hcells : cc + R'.cells ≤ R.cells) (hslots : nn + R'.slots ≤ R.slots) :
    ∃ v T' U₁ L₁ c₁ n₁, Stand p l e R s m args below meth c T' (L ++ L₁) (cc + c₁) (nn + n₁) ∧ (∃ U₀ : State, U₀.vm = T.vm ∧ U₀.heap = T.heap ∧ Post (U₀, [], 0, 0) (cs ++ [Value.ref x]).toArray v (U₁, L₁, c₁, n₁)) ∧ T'.heap = U₁.heap ∧ T'.vm = U₁.vm ∧ T.WarmedH T'.vm ∧
      ∀ acts, Steps p.tables e below (doInvoke e (T.setTop g) acts ⟨cK, 1⟩ #[.ref f, .ref x]).1 (T'.setTop { g with pc := g.pc + len, stack := v.toList ++ g.stack }) := by
  subst hbs
  refine lam_through X hg hsize hdg #[.ref f, .ref x] (R' := R') hmk hck hlk hpk hframes (by rw [hml]; exact hlocals) hcells hslots
    (F := fun v U₁ L₁ c₁ n₁ => ∃ U₀ : State, U₀.vm = T.vm ∧ U₀.heap = T.heap ∧ Post (U₀, [], 0, 0) (cs ++ [Value.ref x]).toArray v (U₁, L₁, c₁, n₁)) ?_
  intro U₀ hU₀ Y₀
  have hvm : U₀.vm = T.vm := by rw [hU₀]; rfl
  have hheap : U₀.heap = T.heap := by rw [hU₀]; rfl
  have hent : entryFrame ⟨cK, 1⟩ #[.ref f, .ref x] ck.maxLocals = { method := ⟨cK, 1⟩, pc := 0, locals := #[.val (.ref f), .val (.ref x)], stack := [], locked := none } := by rw [hml]; rfl
  rw [hent]
  have k1 := lam_loads Y₀ hexec (f := f) (cell := cell) (Ls := #[.val (.ref f), .val (.ref x)]) rfl (by rw [hheap]; exact hcell) hkn hlen hsl hda hdf (fun j i hj => by rw [hvm]; exact hfr j i hj) fi.length (Nat.le_refl _)
  rw [← hlen, List.take_length, hlen] at k1
  have k2 : Steps p.tables e (.java g :: below) (U₀.setTop { method := ⟨cK, 1⟩, pc := 0, locals := #[.val (.ref f), .val (.ref x)], stack := [], locked := none }) (U₀.setTop { method := ⟨cK, 1⟩, pc := 4 * fi.length + 1, locals := #[.val (.ref f), .val (.ref x)], stack := .ref x :: cs.reverse, locked := none }) := by
    refine k1.trans ?_
    jvm_step Y₀.here [hexec, hd1, Value.isRef]
    exact Steps.refl _
  obtain ⟨t, kt, metht, ⟨ci, nm, ds, b, c', k', r1, r2, r3, r4⟩, q2, q3, q4, q5, q6, q7, q8, q9⟩ := hto
  have q9' : U₀.methodNamed? y = some t := by
    have q : (T.setVm U₀.vm).methodNamed? y = some t := by rw [hvm]; exact q9
    exact q
  obtain ⟨v, ⟨U₁, L₁, c₁, n₁⟩, Y₁, hpost, kE⟩ := lam_static Y₀ hexec (g := { method := ⟨cK, 1⟩, pc := 4 * fi.length + 1, locals := #[.val (.ref f), .val (.ref x)], stack := .ref x :: cs.reverse, locked := none }) rfl (by rw [hml]; rfl) (index := mi) (y := y) (t := t) (kt := kt) (metht := metht) (argsL := cs ++ [Value.ref x]) (rest := [])
    ⟨ci, nm, ds, b, c', k', by rw [hvm]; exact r1, by rw [hvm]; exact r2, by rw [hvm]; exact r3, r4⟩ (by rw [hvm]; exact q2) (by rw [hvm]; exact q3) (by rw [hvm]; exact q4) q5 q6 (q7 rfl) (by rw [q8, ← hn]; simp) (by simp) q9' hK (by show 2 * 0 + 0 ≤ 8; decide) (hpre U₀ hvm hheap) hd2 k2
  dsimp only [Pt.U, Pt.locs, Pt.cells, Pt.slots] at Y₁ kE
  obtain ⟨w, rfl⟩ := hret _ _ _ hpost
  exact ⟨some (.long w), U₁, L₁, c₁, n₁, Y₁, (fun h => by rw [hrt] at h; cases h), ⟨U₀, hvm, hheap, hpost⟩, fun fs hleave => kE.trans (lam_lret Y₁ hexec hrt hd3 hleave)⟩
