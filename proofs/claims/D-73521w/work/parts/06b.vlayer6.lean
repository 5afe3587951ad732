set_option maxRecDepth 100000
/-! methods that may throw -/
/-- the method has no table of handlers -/
def tt_ne : tt_Tn := fun c _ _ => ∀ x ∈ c.exceptionTable.toList, False
def tt_QX {σ : Type} (X : tt_X σ) (QX : String → (Nat → Nat → Nat) → σ → Prop) : String → State → State → Prop := fun E st t => ∃ lc s, QX E lc s ∧ tt_Pic X lc s t.heap ∧ va_F (xA X) st t
def tt_fx {σ : Type} (X : tt_X σ) (Y : tt_Y) (Q : Option Value → (Nat → Nat → Nat) → σ → Prop) (QX : String → (Nat → Nat → Nat) → σ → Prop) : tt_Fin := fun below args s0 => vx_MQ below (tt_Q X Q) (tt_QX X QX) args s0 Y.2.2.2.1.cells Y.2.2.2.1.slots (xA X)
/-- a contract of a method that may throw -/
def tt_SpX {σ : Type} (X : tt_X σ) (y : MethodName) (cc : ByteArray) (nl : Nat) (rt : Option FieldType) (rm : Room) (av : List Value) (lc : Nat → Nat → Nat) (s : σ) (Q : Option Value → (Nat → Nat → Nat) → σ → Prop) (QX : String → (Nat → Nat → Nat) → σ → Prop) : Prop :=
  vx_Met X.1 y (ws_ y cc nl rt) rm (va_Pc av (fun U => tt_Pic X lc s U.heap ∧ tt_K X U)) (tt_Q X Q) (tt_QX X QX) rm.cells rm.slots (xA X)
theorem tt_SpX.ofV {σ : Type} {X : tt_X σ} {y : MethodName} {cc : ByteArray} {nl : Nat} {rt : Option FieldType} {rm : Room} {av : List Value} {lc : Nat → Nat → Nat} {s : σ} {Q : Option Value → (Nat → Nat → Nat) → σ → Prop} {QX : String → (Nat → Nat → Nat) → σ → Prop} (hy : plainName y.cls = true) (hk : tt_Kok X) (hn : (lg_sl av).length ≤ nl)
    (h : tt_V X cc (y.cls, nl, rt, rm, tt_ne) (tt_fx X (y.cls, nl, rt, rm, tt_ne) Q QX) 0 (lv_args 0 av) [] lc s 0 0) : tt_SpX X y cc nl rt rm av lc s Q QX := by
  refine vx_ofW (cc := cc) (maxL := nl) (ret := rt) hy rfl ?_
  intro p e s0 m args below meth c s₁ B hml htab hv
  obtain ⟨rfl, hP, hK⟩ := hv
  have hts := atoms_spec (ws := ws_ y cc nl rt) B.pre
  have hts : ∀ w ∈ lw_all, w.before _ s0 = true := fun w h => hts w (List.mem_cons_of_mem _ h)
  have hown : s0.vm.findClass y.cls = some m.cls := findClass_of_methodNamed B.named
  have hl := lv_entry av (n := nl) hn
  rw [lg_entry_eq]
  exact h p e _ s0 m _ below meth c s0.heap [] _ ⟨B.exec, B.bytes, hml, hown, hts, B.returns, B.notSynchronized, rfl, hK, hk, htab⟩ hP va_S.rf hl
/-- no handlers, and the method has this name -/
def tt_nd (x : MethodName) : tt_Tn := fun c m s0 => tt_ne c m s0 ∧ s0.methodNamed? x = some m
def tt_nw (x : MethodName) : tt_Tn := fun _ m s0 => s0.methodNamed? x = some m
theorem tt_SpX.ofVn {σ : Type} {X : tt_X σ} {y : MethodName} {cc : ByteArray} {nl : Nat} {rt : Option FieldType} {rm : Room} {av : List Value} {lc : Nat → Nat → Nat} {s : σ} {Q : Option Value → (Nat → Nat → Nat) → σ → Prop} {QX : String → (Nat → Nat → Nat) → σ → Prop} (hy : plainName y.cls = true) (hk : tt_Kok X) (hn : (lg_sl av).length ≤ nl)
    (h : tt_V X cc (y.cls, nl, rt, rm, tt_nd y) (tt_fx X (y.cls, nl, rt, rm, tt_nd y) Q QX) 0 (lv_args 0 av) [] lc s 0 0) : tt_SpX X y cc nl rt rm av lc s Q QX := by
  refine vx_ofW (cc := cc) (maxL := nl) (ret := rt) hy rfl ?_
  intro p e s0 m args below meth c s₁ B hml htab hv
  obtain ⟨rfl, hP, hK⟩ := hv
  have hts := atoms_spec (ws := ws_ y cc nl rt) B.pre
  have hts : ∀ w ∈ lw_all, w.before _ s0 = true := fun w h => hts w (List.mem_cons_of_mem _ h)
  have hown : s0.vm.findClass y.cls = some m.cls := findClass_of_methodNamed B.named
  have hl := lv_entry av (n := nl) hn
  rw [lg_entry_eq]
  exact h p e _ s0 m _ below meth c s0.heap [] _ ⟨B.exec, B.bytes, hml, hown, hts, B.returns, B.notSynchronized, rfl, hK, hk, htab, B.named⟩ hP va_S.rf hl
theorem tt_Sp.ofVn {σ : Type} {X : tt_X σ} {y : MethodName} {cc : ByteArray} {nl : Nat} {rt : Option FieldType} {rm : Room} {av : List Value} {lc : Nat → Nat → Nat} {s : σ} {Q : Option Value → (Nat → Nat → Nat) → σ → Prop} (hy : plainName y.cls = true) (hk : tt_Kok X) (hn : (lg_sl av).length ≤ nl)
    (h : tt_V X cc (y.cls, nl, rt, rm, tt_nw y) (tt_fn X (y.cls, nl, rt, rm, tt_nw y) Q) 0 (lv_args 0 av) [] lc s 0 0) : tt_Sp X y cc nl rt rm av lc s Q := by
  refine Met.ofW (cc := cc) (maxL := nl) (ret := rt) hy rfl ?_
  intro p e s0 m args below meth c s₁ B hml hv
  obtain ⟨rfl, hP, hK⟩ := hv
  have hts := atoms_spec (ws := ws_ y cc nl rt) B.pre
  have hts : ∀ w ∈ lw_all, w.before _ s0 = true := fun w h => hts w (List.mem_cons_of_mem _ h)
  have hown : s0.vm.findClass y.cls = some m.cls := findClass_of_methodNamed B.named
  have hl := lv_entry av (n := nl) hn
  rw [lg_entry_eq]
  exact h p e _ s0 m _ below meth c s0.heap [] _ ⟨B.exec, B.bytes, hml, hown, hts, B.returns, B.notSynchronized, rfl, hK, hk, B.named⟩ hP va_S.rf hl
section VROWS7
variable {σ : Type} {X : tt_X σ} {cc : ByteArray} {Y : tt_Y} {Q : Option Value → (Nat → Nat → Nat) → σ → Prop} {QX : String → (Nat → Nat → Nat) → σ → Prop} {pc : Nat} {lv : List (Nat × Value)} {rest : List Value} {lc : Nat → Nat → Nat} {s : σ} {ck cn : Nat}
theorem v_retX {st : List Value} (h : tt_V X cc Y (tt_fn X Y Q) pc lv st lc s ck cn) : tt_V X cc Y (tt_fx X Y Q QX) pc lv st lc s ck cn :=
  fun p e R s0 m args below meth c H locs ls C hP hS hl => vx_ret (h p e R s0 m args below meth c H locs ls C hP hS hl)
theorem tt_Pic.kept {H H1 : Heap} (h : tt_Pic X lc s H) (hk : ∀ q : Nat, q < H.size → H1[q]? = H[q]?) : tt_Pic X lc s H1 :=
  ⟨fun kd i hV => ⟨(h.1 kd i hV).1.kept (hk _ (h.1 kd i hV).1.lt), (h.1 kd i hV).2⟩, h.2⟩
/-- throw new E() -/
theorem v_throw0 {cls : String} {names : List String} {ik ic : Nat} (hl9 : X.1.stackTraces = false) (hcls : Bundle.fit cls = true) (hnames : ∀ n ∈ names, Bundle.fit n = true) (hk : Cond.classLink Y.1 ik cls ∈ lw_all) (hini : Cond.initialized cls ∈ lw_all) (hKN : ∀ U, xK X U → tt_KN U)
    (hat : ∀ w ∈ vx_at0 Y.1 ic cls names, w ∈ lw_all ∨ (w ∈ lw_tbl ∧ tt_rides w = true)) (hgood : ∀ w ∈ Cond.classLink Y.1 ik cls :: Cond.initialized cls :: vx_at0 Y.1 ic cls names, vx_ot w = true)
    (hZ : ∀ U, xK X U → vx_Zq Bundle.tN "UNASSIGNED_STACK" Bundle.steD (xA X) U U.heap ∧ vx_Zq Bundle.tN "SUPPRESSED_SENTINEL" Bundle.listD (xA X) U U.heap) (hT : ∀ c m s0, Y.2.2.2.2 c m s0 → tt_ne c m s0)
    (d0 : decode cc pc = .ok (.new ik, 3)) (d3 : decode cc (pc + 3) = .ok (.dup, 1)) (d4 : decode cc (pc + 4) = .ok (.invokespecial ic, 3)) (d7 : decode cc (pc + 7) = .ok (.athrow, 1))
    (hRf : names.length + 3 < Y.2.2.2.1.frames) (hRl : (rest.map fun v => v.category).sum + (13 * (names.length + 1) + 42) ≤ Y.2.2.2.1.locals) (hRc : ck + 1 ≤ Y.2.2.2.1.cells) (hRs : cn + 6 ≤ Y.2.2.2.1.slots) (h : QX cls lc s) : tt_V X cc Y (tt_fx X Y Q QX) pc lv rest lc s ck cn := by
  intro p1 e R s0 m args below meth c H locs ls C1 hP hS hl
  have hRe : R = Y.2.2.2.1 := C1.2.2.2.2.2.2.2.1
  have hK := C1.2.2.2.2.2.2.2.2.1.2
  have htab : tt_ne c m s0 := hT _ _ _ C1.2.2.2.2.2.2.2.2.2.2
  refine vx_throw0 C1.1 C1.2.1 hl9 C1.2.2.2.1 hcls hnames (C1.2.2.2.2.1 _ hk) (C1.2.2.2.2.1 _ hini) (fun w hw => ?_) hgood (hZ _ hK).1 (hZ _ hK).2 hS (hl.1.trans C1.2.2.1.symm) d0 d3 d4 d7 (fun x hx => (htab x hx).elim) (by rw [hRe]; exact hRf) (by rw [hRe]; exact hRl) (by rw [hRe]; exact hRc) (by rw [hRe]; exact hRs) C1.2.2.2.2.2.2.1 (fun t _ h1 h2 => ⟨lc, s, h, hP.kept h2, Nat.le_trans hS.1 h1, fun q g1 g2 => (h2 q (Nat.lt_of_lt_of_le g1 hS.1)).trans (hS.2.1 q g1 g2)⟩) hS.2.2 hRc hRs
  rcases hat w hw with h9 | ⟨h9, h8⟩
  · exact C1.2.2.2.2.1 _ h9
  · exact (hKN _ hK _ h9 h8).use (tt_rides_on h8)
theorem tt_afterX {p1 : Program} {l : Launch} {e : Env} {R : Room} {s0 : State} {m : MethodId} {args : Array Value} {below : List Frame} {meth : Method} {c : Code} {H : Heap} {locs : List Loc} {mc ms : Nat} {ls : Array Slot} {st0 : List Value} {a : Array Value} {Q' : Option Value → (Nat → Nat → Nat) → σ → Prop} {QX' : String → (Nat → Nat → Nat) → σ → Prop} {Q0 : State → Prop}
    (hr : vx_Run p1 l e R s0 m args below meth c H locs ck cn mc ms (F0 m pc ls st0) rest (tt_Q X Q' a) (tt_QX X QX') (xA X)) (hS : va_S (xA X) s0.heap H locs)
    (kx : ∀ (E : String) (lc' : Nat → Nat → Nat) (s' : σ) (q : Addr) (ce : Cell) (H1 : Heap) (locs1 : List Loc), QX' E lc' s' → tt_Pic X lc' s' H1 → va_S (xA X) s0.heap H1 locs1 → H1[q]? = some ce → ce.vm = .none → s0.vm.findClass E = some ce.cls → vx_W p1 l e R s0 m args below meth c H1 locs1 (ck + mc) (cn + ms) Q0 (F0 m pc ls rest) q)
    (kk : ∀ (v : Option Value) (lc' : Nat → Nat → Nat) (s' : σ) (H1 : Heap) (locs1 : List Loc), Q' v lc' s' → tt_Pic X lc' s' H1 → va_S (xA X) s0.heap H1 locs1 → W p1 l e R s0 m args below meth c H1 locs1 (ck + mc) (cn + ms) Q0 (F0 m (pc + 3) ls (v.toList ++ rest))) : W p1 l e R s0 m args below meth c H locs ck cn Q0 (F0 m pc ls st0) := by
  intro T hT X1
  rcases hr T hT X1 with ⟨v, st₀, t, T', L, h0, X', hL, e1, e2, ⟨⟨v', lc', s', hv, hq, hp⟩, hz, hk⟩, st⟩ | ⟨q, st₀, t, T', L, E, ce, h0, X', hL, e1, e2, ⟨lc', s', hq, hp, hz, hk⟩, hce, hcv, hcl, st⟩
  · cases hv
    rw [h0] at hz hk
    obtain ⟨t2, a1, b1⟩ := kk v lc' s' T'.heap (locs ++ L) hq (by rw [e1]; exact hp)
      ⟨Nat.le_trans hS.1 (by rw [e1]; exact hz), fun q h1 h2 => by rw [e1, hk q (Nat.lt_of_lt_of_le h1 hS.1) h2]; exact hS.2.1 q h1 h2, fun q hq => by
        rcases List.mem_append.mp hq with h | h
        · exact hS.2.2 q h
        · exact hL q h⟩ T' rfl X'
    exact ⟨t2, st t2 a1, b1⟩
  · rw [h0] at hz hk
    obtain ⟨t2, a1, b1⟩ := kx E lc' s' q ce T'.heap (locs ++ L) hq (by rw [e1]; exact hp)
      ⟨Nat.le_trans hS.1 (by rw [e1]; exact hz), fun q h1 h2 => by rw [e1, hk q (Nat.lt_of_lt_of_le h1 hS.1) h2]; exact hS.2.1 q h1 h2, fun q hq => by
        rcases List.mem_append.mp hq with h | h
        · exact hS.2.2 q h
        · exact hL q h⟩ (by rw [e1]; exact hce) hcv hcl T' rfl X'
    exact ⟨t2, st.trans a1, b1⟩
/-- a call of a method that may throw; what it throws goes on to the caller -/
theorem v_callVX {y : MethodName} {bytes : ByteArray} {maxL idx nA kd i ci : Nat} {ret : Option FieldType} {rm : Room} {As : List Value} {Q' : Option Value → (Nat → Nat → Nat) → σ → Prop} {QX' : String → (Nat → Nat → Nat) → σ → Prop} {T : u_T} {N : Nat} {fs : List Value} (hV : xV X s kd i) (ho : tt_ent X lc s kd i = .inr (ci, fs)) (hc : (xC X)[ci]? = some (y.cls, T, N))
    (sp : tt_SpX X y bytes maxL ret rm (.ref (lc kd i) :: As) lc s Q' QX') (hT : GoodIn lw_all (wsV Y.1 idx y.cls y (ws_ y bytes maxL ret))) (hd : y.cls = y.cls ∧ y.cls ≠ "java/lang/invoke/MethodHandle" ∧ y.cls ≠ "java/lang/invoke/VarHandle" ∧ (parseMethodDescriptor y.desc).map (fun d => d.parameters.length) = some nA)
    (hn : As.length = nA) (hR : rm.frames + 1 ≤ Y.2.2.2.1.frames ∧ 8 + (maxL + 11) + rm.locals ≤ Y.2.2.2.1.locals) (hW : (rest.map fun v => v.category).sum ≤ 8) (hf : ck + rm.cells ≤ Y.2.2.2.1.cells ∧ cn + rm.slots ≤ Y.2.2.2.1.slots) (hTb : ∀ c m s0, Y.2.2.2.2 c m s0 → tt_ne c m s0) (d : decode cc pc = .ok (.invokevirtual idx, 3)) {st : List Value} (hst : st = As.reverse ++ .ref (lc kd i) :: rest)
    (kx : ∀ E lc' s', QX' E lc' s' → QX E lc' s') (kk : ∀ v lc' s', Q' v lc' s' → tt_V X cc Y (tt_fx X Y Q QX) (pc + 3) lv (v.toList ++ rest) lc' s' (ck + rm.cells) (cn + rm.slots)) : tt_V X cc Y (tt_fx X Y Q QX) pc lv st lc s ck cn := by
  intro p1 e R s0 m args below meth c H locs ls C1 hP hS hl
  have hat := (hP.1 kd i hV).1
  rw [ho] at hat
  have hP1 : va_P (xD X) (xC X) [(lc kd i, .inr (ci, fs))] H := fun k q hq => by
    match k, hq with
    | 0, hq => cases hq; exact hat
    | k + 1, hq => simp at hq
  have hRe : R = Y.2.2.2.1 := C1.2.2.2.2.2.2.2.1
  have htab : tt_ne c m s0 := hTb _ _ _ C1.2.2.2.2.2.2.2.2.2.2
  have run := vx_runV (R := R) (l := X.1) (p := p1) (e := e) (below := below) (meth := meth) (locs := locs) (cells := ck) (slots := cn) (H := H) (g := F0 m pc ls st) (As := As) (rest := rest) (b := lc kd i) ⟨C1.1, C1.2.1, C1.2.2.1, C1.2.2.2.1, C1.2.2.2.2.1⟩ sp (cwV nA C1.2.2.2.2.1 hT rfl rfl rfl hd (by rw [hRe]; exact hR)) ⟨tt_blind C1.2.2.2.2.2.2.2.2.2.1, va_recv C1.2.2.2.2.2.2.2.2.1.1 hP1 (q0 := 0) hc rfl, fun U hU hW => ⟨rfl, by rw [hU]; exact hP, tt_K.moved C1.2.2.2.2.2.2.2.2.2.1 hW ⟨by rw [hU]; exact hS.1, fun q h1 h2 => by rw [hU]; exact hS.2.1 q h1 h2⟩ C1.2.2.2.2.2.2.2.2.1⟩⟩ rfl hn hl.1 hst (lv_room hW) d (by rw [hRe]; exact hf)
  refine tt_afterX run hS (fun E lc' s' q ce H1 locs1 hq hp hs hce hcv hcl => ?_) (fun v lc' s' H1 locs1 hq hp hs => kk v lc' s' hq p1 e R s0 m args below meth c H1 locs1 ls C1 hp hs hl)
  exact vx_out (fun x hx => (htab x hx).elim) C1.2.2.2.2.2.2.1 hce hcv hcl (fun t ht _ => ⟨lc', s', kx E lc' s' hq, by rw [ht]; exact hp, hs.F ht⟩) hs.2.2 hf.1 hf.2
end VROWS7
