set_option maxRecDepth 100000
/-! rows that make a cell -/
/-- the entry of the pool that a site's shape was read from -/
theorem lam_site {cf : ClassFile} {index : Nat} {sh : Lambda.Shape} (h : Lambda.shapeOf? cf index = some sh) : ∃ (b nt : Nat) (desc : String) (site : MethodDescriptor), cf.constantPool[index]? = some (.invokeDynamic b nt) ∧ cf.constantPool.nameAndType? nt = some (sh.name, desc) ∧ parseMethodDescriptor desc = some site ∧ site.parameters = sh.captured := by
  have bd : ∀ {α β : Type} {o : Option α} {f : α → Option β} {r : β}, (o >>= f) = some r → ∃ a, o = some a ∧ f a = some r := fun h => Option.bind_eq_some_iff.mp h
  have three : ∀ {α : Type} {x : Array Nat} {f : Nat → Nat → Nat → Option α} {r : α}, Lambda.shapeOf?.match_15 (fun _ => Option α) x f (fun _ => none) = some r → ∃ a b c, f a b c = some r := by
    intro α x f r h
    obtain ⟨L⟩ := x
    rcases L with _ | ⟨a, _ | ⟨b, _ | ⟨c, _ | ⟨d, L⟩⟩⟩⟩
    · cases h
    · cases h
    · cases h
    · exact ⟨a, b, c, h⟩
    · cases h
  unfold Lambda.shapeOf? at h
  split at h
  · rename_i b nt hc
    obtain ⟨_, -, h⟩ := bd h
    obtain ⟨_, -, h⟩ := bd h
    split at h
    · obtain ⟨_, -, h⟩ := bd h
      obtain ⟨a0, a1, a2, h⟩ := three h
      · split at h
        · split at h
          · split at h
            · obtain ⟨⟨name, desc⟩, hnt, h⟩ := bd h
              obtain ⟨site, hsite, h⟩ := bd h
              split at h
              · obtain ⟨⟨_, _, _, _⟩, -, h⟩ := bd h
                obtain ⟨_, -, h⟩ := bd h
                obtain ⟨_, -, h⟩ := bd h
                obtain ⟨_, -, h⟩ := bd h
                obtain ⟨_, -, h⟩ := bd h
                obtain ⟨_, -, h⟩ := bd h
                cases h
                exact ⟨b, nt, desc, site, hc, hnt, hsite, rfl⟩
              · cases h
            · cases h
          · cases h
        · cases h
    · cases h
  · cases h
/-- an address for one cell more -/
def lcAt (lc : Nat → Nat → Nat) (kd i a : Nat) : Nat → Nat → Nat := fun k j => if k = kd ∧ j = i then a else lc k j
theorem lcAt_is (lc : Nat → Nat → Nat) (kd i a : Nat) : lcAt lc kd i a kd i = a := if_pos ⟨rfl, rfl⟩
theorem lcAt_ne (lc : Nat → Nat → Nat) (kd i a : Nat) {k j : Nat} (h : ¬ (k = kd ∧ j = i)) : lcAt lc kd i a k j = lc k j := if_neg h
/-- the state with one cell more shows E there, and nothing else has changed -/
def tt_NC {σ : Type} (X : tt_X σ) (lc : Nat → Nat → Nat) (s s' : σ) (kd i : Nat) (E : va_E) : Prop :=
  ¬ xV X s kd i ∧ (∀ k j, xV X s' k j → xV X s k j ∨ (k = kd ∧ j = i)) ∧ (∀ a, tt_ent X (lcAt lc kd i a) s' kd i = E) ∧ ∀ a k j, xV X s k j → tt_ent X (lcAt lc kd i a) s' k j = tt_ent X lc s k j
section MAKE
variable {σ : Type} {X : tt_X σ} {cc : ByteArray} {Y : tt_Y} {Q : tt_Fin} {pc : Nat} {lv : List (Nat × Value)} {rest : List Value} {lc : Nat → Nat → Nat} {s : σ} {ck cn : Nat}
theorem tt_Pic.new {s' : σ} {kd i : Nat} {E : va_E} {H H1 : Heap} (h : tt_Pic X lc s H) (N : tt_NC X lc s s' kd i E) (hat : va_at (xD X) (xC X) (H.size, E) H1) (hA : xA X H.size) (hk : ∀ q : Nat, q < H.size → H1[q]? = H[q]?) : tt_Pic X (lcAt lc kd i H.size) s' H1 := by
  obtain ⟨n1, n2, n3, n4⟩ := N
  have hne : ∀ k j, xV X s k j → ¬ (k = kd ∧ j = i) := fun k j hv q => by rw [q.1, q.2] at hv; exact n1 hv
  have hlt : ∀ k j, xV X s k j → lc k j < H.size := fun k j hv => (h.1 k j hv).1.lt
  refine ⟨fun k j hv => ?_, fun k j k' j' hv hv' he => ?_⟩
  · rcases n2 k j hv with q | q
    · rw [lcAt_ne _ _ _ _ (hne k j q), n4 _ k j q]
      exact ⟨(h.1 k j q).1.kept (hk _ (hlt k j q)), (h.1 k j q).2⟩
    · rw [q.1, q.2, lcAt_is, n3]
      exact ⟨hat, hA⟩
  · rcases n2 k j hv with q | q <;> rcases n2 k' j' hv' with q' | q'
    · rw [lcAt_ne _ _ _ _ (hne k j q), lcAt_ne _ _ _ _ (hne k' j' q')] at he
      exact h.2 k j k' j' q q' he
    · rw [lcAt_ne _ _ _ _ (hne k j q), q'.1, q'.2, lcAt_is] at he
      have := hlt k j q
      omega
    · rw [q.1, q.2, lcAt_is, lcAt_ne _ _ _ _ (hne k' j' q')] at he
      have := hlt k' j' q'
      omega
    · exact ⟨q.1.trans q'.1.symm, q.2.trans q'.2.symm⟩
theorem va_S.new {A : Nat → Prop} {H0 H H1 : Heap} {locs : List Loc} (h : va_S A H0 H locs) (hz : H.size ≤ H1.size) (hk : ∀ q : Nat, q < H.size → H1[q]? = H[q]?) : va_S A H0 H1 locs :=
  ⟨Nat.le_trans h.1 hz, fun x h1 h2 => (hk x (Nat.lt_of_lt_of_le h1 h.1)).trans (h.2.1 x h1 h2), h.2.2⟩
/-- an object of a site that captures -/
theorem v_make {x xi : MethodName} {idx kd i mi ci mL : Nat} {sh : Lambda.Shape} {cK : ClassId} {bs : ByteArray} {fi : List Nat} {vals : List Value} {s' : σ} {E : va_E} {st : List Value}
    (hrd : ∀ U, xK X U → lam_Rd x pc idx sh cK (.makes cK) xi U) (hi : lam_is sh x.cls bs mL mi ci fi) (hnm : ∀ c m s0, Y.2.2.2.2 c m s0 → s0.methodNamed? x = some m) (hA : ∀ U, xK X U → ∀ q, U.heap.size ≤ q → xA X q)
    (hv : ((sh.captured.zip vals).map fun (t, v) => narrow t v) = vals) (hfit : ∀ (j : Nat) (v : Value), vals[j]? = some v → ∃ ty, sh.captured[j]? = some ty ∧ fits ty v = true) (hlen : vals.length = sh.captured.length)
    (N : tt_NC X lc s s' kd i E) (hE : ∀ (a : Nat) (H1 : Heap), H1[a]? = some { cls := cK, slots := vals.toArray, vm := .none } → va_at (xD X) (xC X) (a, E) H1)
    (hst : st = vals.reverse ++ rest) (hW : (st.map fun v => v.category).sum ≤ 8) (hlo : 8 + 3072 ≤ Y.2.2.2.1.locals) (hf : ck + 1 ≤ Y.2.2.2.1.cells ∧ cn + vals.length ≤ Y.2.2.2.1.slots) (d : decode cc pc = .ok (.invokedynamic idx, 5))
    (kk : ∀ lc', (∀ k j, ¬ (k = kd ∧ j = i) → lc' k j = lc k j) → tt_V X cc Y Q (pc + 5) lv (.ref (lc' kd i) :: rest) lc' s' (ck + 1) (cn + vals.length)) : tt_V X cc Y Q pc lv st lc s ck cn := by
  intro p1 e R s0 m args below meth c H locs ls C1 hP hS hl T hT X1
  have hRe : R = Y.2.2.2.1 := C1.2.2.2.2.2.2.2.1
  have hK0 := C1.2.2.2.2.2.2.2.2.1
  obtain ⟨⟨m', kS, cfS, i0, p0, hm', hkS, hcfS, hnameS, hshape, hfind, hmade, hcan⟩, hO, -, -⟩ := hrd s0 hK0.2
  cases (hnm _ _ _ C1.2.2.2.2.2.2.2.2.2.2).symm.trans hm'
  obtain ⟨bsm, nt, desc, site, hc, hnt, hsite, hpar⟩ := lam_site hshape
  obtain ⟨kK, tk, file, methk, ckK, toy, t, nt2, a1, -, -, -, -, -, -, -, -, -, -, -, -, -, -, -, -, -, -, hty, hkind⟩ := lam_made hi hkS hnameS hmade hO
  have hslotsE : ((kK.instanceTypes.toList.zip vals).map fun (t, v) => narrow t v) = vals := by rw [hty]; exact hv
  obtain ⟨X₁, st1⟩ := X1.lambdaMakes C1.1 (g := F0 m pc ls st) rfl (hl.1.trans C1.2.2.1.symm) (by rw [C1.2.1]; exact d) (vals := vals) (rest := rest) hkS hfind hcfS hc hnt (parseLong_of_parse hsite) (by rw [hpar]; exact hlen) hst a1
    (by
      rw [X1.admits.platform, hRe]
      have h1 := lv_room (m := m) (pc := pc) (ls := ls) (rest := st) hW
      show 2 * (F0 m pc ls st).monitorRoom + (st.map fun v => v.category).sum + 3072 ≤ _
      omega)
    (by rw [hRe]; exact hf.1) (by rw [hslotsE, hRe]; exact hf.2)
    (fun j v hj => by
      rw [hslotsE, List.getElem?_toArray] at hj
      obtain ⟨ty, h1, h2⟩ := hfit j v hj
      simp [State.fitsSlot, State.slotType?, a1, hkind, hty, h1, h2])
  rw [hslotsE] at X₁ st1
  have hsz : vals.toArray.size = vals.length := by simp
  rw [hsz] at X₁
  have hnew : (T.pushCell { cls := cK, slots := vals.toArray, vm := .none }).heap[H.size]? = some { cls := cK, slots := vals.toArray, vm := .none } := by rw [← hT]; exact State.heap_pushCell_size _ _
  have hold : ∀ q : Nat, q < H.size → (T.pushCell { cls := cK, slots := vals.toArray, vm := .none }).heap[q]? = H[q]? := fun q hq => by rw [State.heap_pushCell_of_lt _ _ (by rw [hT]; exact hq), hT]
  have hszH : H.size ≤ (T.pushCell { cls := cK, slots := vals.toArray, vm := .none }).heap.size := Nat.le_of_lt (Array.getElem?_eq_some_iff.mp hnew).1
  obtain ⟨t2, b1, b2⟩ := kk (lcAt lc kd i H.size) (fun k j hv => lcAt_ne _ _ _ _ hv) p1 e R s0 m args below meth c _ locs ls C1 (hP.new N (hE _ _ hnew) (hA s0 hK0.2 _ hS.1) hold) (hS.new hszH hold) hl _ rfl X₁
  rw [lcAt_is] at b1
  refine ⟨t2, st1 t2 ?_, b2⟩
  rw [hT]
  exact b1
/-- the one object of a site that captures nothing -/
theorem v_const {x xi : MethodName} {idx : Nat} {sh : Lambda.Shape} {cK a : Nat} (hrd : ∀ U, xK X U → lam_Rd x pc idx sh cK (.constant a) xi U) (hnm : ∀ c m s0, Y.2.2.2.2 c m s0 → s0.methodNamed? x = some m) (hW : (rest.map fun v => v.category).sum ≤ 8) (hlo : 8 + 3072 ≤ Y.2.2.2.1.locals) (d : decode cc pc = .ok (.invokedynamic idx, 5))
    (kk : tt_V X cc Y Q (pc + 5) lv (.ref a :: rest) lc s ck cn) : tt_V X cc Y Q pc lv rest lc s ck cn := by
  intro p1 e R s0 m args below meth c H locs ls C1 hP hS hl T hT X1
  have hRe : R = Y.2.2.2.1 := C1.2.2.2.2.2.2.2.1
  have hK0 := C1.2.2.2.2.2.2.2.2.1
  obtain ⟨⟨m', kS, cfS, i0, p0, hm', hkS, hcfS, hnameS, hshape, hfind, hmade, hcan⟩, hO, -, -⟩ := hrd s0 hK0.2
  cases (hnm _ _ _ C1.2.2.2.2.2.2.2.2.2.2).symm.trans hm'
  obtain ⟨t2, b1, b2⟩ := kk p1 e R s0 m args below meth c H locs ls C1 hP hS hl T hT X1
  refine ⟨t2, X1.lambdaConstant C1.1 (g := F0 m pc ls rest) rfl (hl.1.trans C1.2.2.1.symm) (by rw [C1.2.1]; exact d) hkS hfind ?_ b1, b2⟩
  rw [X1.admits.platform, hRe]
  have h1 := lv_room (m := m) (pc := pc) (ls := ls) (rest := rest) hW
  show 2 * (F0 m pc ls rest).monitorRoom + (rest.map fun v => v.category).sum + 3072 ≤ _
  omega
/-- a new object, its fields not set yet -/
theorem v_new {idx kd i ci N : Nat} {C : String} {T : u_T} {fs : List Value} {s' : σ} (hc : (xC X)[ci]? = some (C, T, N)) (hin : ∀ w ∈ u_ws C T N, w ∈ lw_all) (ty : Nat → FieldType) (hty : ∀ k, k < N → parseFieldDescriptor (T k).2.2.1 = some (ty k)) (hfs : ∀ j, j < N → defaultValue (ty j) = vp_V fs j)
    (hA : ∀ U, xK X U → ∀ q, U.heap.size ≤ q → xA X q) (hlink : Cond.classLink Y.1 idx C ∈ lw_all) (hinst : Cond.instantiable C N ∈ lw_all) (hini : Cond.initialized C ∈ lw_all) (NC : tt_NC X lc s s' kd i (.inr (ci, fs))) (hf : ck + 1 ≤ Y.2.2.2.1.cells ∧ cn + N ≤ Y.2.2.2.1.slots) (d : decode cc pc = .ok (.new idx, 3))
    (kk : ∀ lc', (∀ k j, ¬ (k = kd ∧ j = i) → lc' k j = lc k j) → tt_V X cc Y Q (pc + 3) lv (.ref (lc' kd i) :: rest) lc' s' (ck + 1) (cn + N)) : tt_V X cc Y Q pc lv rest lc s ck cn := by
  intro p1 e R s0 m args below meth c H locs ls C1 hP hS hl
  have hRe : R = Y.2.2.2.1 := C1.2.2.2.2.2.2.2.1
  have hK0 := C1.2.2.2.2.2.2.2.2.1
  have hw := C1.2.2.2.2.1
  have hKn := hK0.1.1 ci _ hc
  refine W.newcK C1.1 C1.2.1 C1.2.2.2.1 (hw _ hlink) (hw _ hinst) (hw _ hini) rfl d (by rw [hRe]; exact hf.1) (by rw [hRe]; exact hf.2) hKn.2.1 rfl fun H1 kC hkC e1 z1 o1 => ?_
  have h2 := kk (lcAt lc kd i H.size) (fun k j hv => lcAt_ne _ _ _ _ hv) p1 e R s0 m args below meth c H1 locs ls C1 (hP.new NC ⟨_, hc, (u_born ty hw hin hKn hkC e1 hty).to hfs⟩ (hA s0 hK0.2 _ hS.1) o1) (hS.new (by omega) o1) hl
  rw [lcAt_is] at h2
  exact h2
end MAKE
