/-! the forwarder's loads of what was captured -/
theorem lam_loads {p : Program} {l : Launch} {e : Env} {R : Room} {s : State} {m : MethodId} {args : Array Value} {below : List Frame} {meth : Method} {c : Code} {T : State} {locs : List Loc} {cells slots : Nat}
    (Y : Stand p l e R s m args below meth c T locs cells slots) (hexec : p.tables.exec = Jvm.exec) {f : Addr} {cell : Cell} {Ls : Array Slot} (hL : Ls[0]? = some (.val (.ref f))) (hcell : T.heap[f]? = some cell) (hkn : cell.vm ≠ .unknown)
    {fi : List Nat} {cs : List Value} (hlen : cs.length = fi.length) (hsl : ∀ (j : Nat) (v : Value), cs[j]? = some v → cell.slots[j]? = some v)
    (hda : ∀ j : Nat, j < fi.length → decode c.code (4 * j) = .ok (.aload_n 0, 1)) (hdg : ∀ j i : Nat, fi[j]? = some i → decode c.code (4 * j + 1) = .ok (.getfield i, 3))
    (hfr : ∀ j i : Nat, fi[j]? = some i → ∃ g : Field, T.vm.fieldReady m.cls i m.cls g ∧ g.isStatic = false ∧ g.slot = j) :
    ∀ n, n ≤ fi.length → Steps p.tables e below (T.setTop { method := m, pc := 0, locals := Ls, stack := [], locked := none }) (T.setTop { method := m, pc := 4 * n, locals := Ls, stack := (cs.take n).reverse, locked := none }) := by
  intro n
  induction n with
  | zero => intro _; exact Steps.refl _
  | succ n ih =>
    intro hn
    have hn' : n < fi.length := hn
    have k0 := ih (Nat.le_of_lt hn')
    have hfi : fi[n]? = some fi[n] := List.getElem?_eq_getElem hn'
    have hcs : cs[n]? = some (cs[n]'(by omega)) := List.getElem?_eq_getElem (by omega)
    obtain ⟨g, g1, g2, g3⟩ := hfr n _ hfi
    have k1 : Steps p.tables e below (T.setTop { method := m, pc := 0, locals := Ls, stack := [], locked := none }) (T.setTop { method := m, pc := 4 * n + 1, locals := Ls, stack := .ref f :: (cs.take n).reverse, locked := none }) := by
      refine k0.trans ?_
      jvm_step Y.here [hexec, hda n hn', hL, Value.isRef]
      exact Steps.refl _
    have k2 : Steps p.tables e below (T.setTop { method := m, pc := 0, locals := Ls, stack := [], locked := none }) (T.setTop { method := m, pc := 4 * n + 4, locals := Ls, stack := (cs[n]'(by omega)) :: (cs.take n).reverse, locked := none }) := by
      refine k1.trans ?_
      jvm_step Y.here [hexec, hdg n _ hfi, getfield.wp_ready (e := e) (s := T) (c := m.cls) (field := g) (a := f) (rest := (cs.take n).reverse) (cell := cell) (v := cs[n]'(by omega)) (f := { method := m, pc := 4 * n + 1, locals := Ls, stack := .ref f :: (cs.take n).reverse, locked := none }) Y.here.top g1 g2 rfl hcell hkn (by rw [g3]; exact hsl n _ hcs)]
      exact Steps.refl _
    have e1 : (cs.take (n + 1)).reverse = (cs[n]'(by omega)) :: (cs.take n).reverse := by rw [List.take_succ, hcs]; simp
    rw [e1]
    exact k2
