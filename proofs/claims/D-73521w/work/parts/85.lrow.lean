set_option maxRecDepth 100000
theorem plX0 : plainName RX0 = true := by decide
/-- the method's table of handlers -/
def tt_hh (hh : List (Nat × Nat × Nat × Nat)) : tt_Tn := fun c _ _ => c.exceptionTable.toList = tableOf hh
/-- a contract of a method with handlers, which returns -/
def tt_SpW {σ : Type} (X : tt_X σ) (y : MethodName) (cc : ByteArray) (nl : Nat) (rt : Option FieldType) (hh : List (Nat × Nat × Nat × Nat)) (rm : Room) (av : List Value) (lc : Nat → Nat → Nat) (s : σ) (Q : Option Value → (Nat → Nat → Nat) → σ → Prop) : Prop :=
  Met X.1 y (wsW_ y cc nl rt hh) rm (va_Pc av (fun U => tt_Pic X lc s U.heap ∧ tt_K X U)) (tt_Q X Q) rm.cells rm.slots (xA X)
theorem tt_SpW.ofV {σ : Type} {X : tt_X σ} {y : MethodName} {cc : ByteArray} {nl : Nat} {rt : Option FieldType} {hh : List (Nat × Nat × Nat × Nat)} {rm : Room} {av : List Value} {lc : Nat → Nat → Nat} {s : σ} {Q : Option Value → (Nat → Nat → Nat) → σ → Prop} (hy : plainName y.cls = true) (hk : tt_Kok X) (hn : (lg_sl av).length ≤ nl)
    (h : tt_V X cc (y.cls, nl, rt, rm, tt_hh hh) (tt_fn X (y.cls, nl, rt, rm, tt_hh hh) Q) 0 (lv_args 0 av) [] lc s 0 0) : tt_SpW X y cc nl rt hh rm av lc s Q := by
  have hM : vx_Met X.1 y (wsW_ y cc nl rt hh) rm (va_Pc av (fun U => tt_Pic X lc s U.heap ∧ tt_K X U)) (tt_Q X Q) (fun _ _ _ => False) rm.cells rm.slots (xA X) := by
    refine vx_ofWH (cc := cc) (maxL := nl) (ret := rt) (hh := hh) hy rfl ?_
    intro p e s0 m args below meth c s₁ B hml hv
    obtain ⟨rfl, hP, hK⟩ := hv
    have hts := atoms_spec (ws := wsW_ y cc nl rt hh) B.pre
    have htab := vx_table (x := y) B (hts _ List.mem_cons_self)
    have hts : ∀ w ∈ lw_all, w.before _ s0 = true := fun w h => hts w (List.mem_cons_of_mem _ h)
    have hown : s0.vm.findClass y.cls = some m.cls := findClass_of_methodNamed B.named
    have hl := lv_entry av (n := nl) hn
    rw [lg_entry_eq]
    exact vx_ret (h p e _ s0 m _ below meth c s0.heap [] _ ⟨B.exec, B.bytes, hml, hown, hts, B.returns, B.notSynchronized, rfl, hK, hk, htab⟩ hP va_S.rf hl)
  intro p e h1 h2 h3 s m args below h4 h5 h6 h7
  obtain ⟨n, o, a1, a2, a3, a4⟩ := hM p e h1 h2 h3 s m args below h4 h5 h6 h7
  refine ⟨n, o, a1, a2, a3, ?_⟩
  rcases a4 with b1 | ⟨q, b1, E, ce, L, c1, c2⟩
  · exact b1
  · exact c1.elim
section LROWS
variable {σ : Type} {X : tt_X σ} {cc : ByteArray} {Y : tt_Y} {Q : tt_Fin} {pc : Nat} {lv : List (Nat × Value)} {rest : List Value} {lc : Nat → Nat → Nat} {s : σ} {ck cn : Nat}
/-- where a thrown exception is caught -/
def tt_ct {σ : Type} (X : tt_X σ) (own : String) (hh : List (Nat × Nat × Nat × Nat)) (pc : Nat) (E : String) (hpc : Nat) : Prop :=
  ∃ (pre : List ExceptionTableEntry) (x : ExceptionTableEntry) (suf : List ExceptionTableEntry) (name : String), tableOf hh = pre ++ x :: suf ∧ (∀ z ∈ pre, z.catchType ≠ 0 ∧ ∃ nm : String, Cond.classLink own z.catchType nm ∈ lw_all ∧ ∀ U, xK X U → va_Nc E nm U) ∧ covers x pc = true ∧ x.catchType ≠ 0 ∧ Cond.classLink own x.catchType name ∈ lw_all ∧ Cond.castable E name ∈ lw_tbl ∧ x.handlerPc = hpc
/-- a call of a method that may throw, in a method with handlers that catches all of it -/
theorem v_callVXh {hh : List (Nat × Nat × Nat × Nat)} {y : MethodName} {bytes : ByteArray} {maxL idx nA kd i ci : Nat} {ret : Option FieldType} {rm : Room} {As : List Value} {Q' : Option Value → (Nat → Nat → Nat) → σ → Prop} {QX' : String → (Nat → Nat → Nat) → σ → Prop} {T : u_T} {N : Nat} {fs : List Value} (hKN : ∀ U, xK X U → tt_KN U) (hV : xV X s kd i) (ho : tt_ent X lc s kd i = .inr (ci, fs)) (hc : (xC X)[ci]? = some (y.cls, T, N))
    (sp : tt_SpX X y bytes maxL ret rm (.ref (lc kd i) :: As) lc s Q' QX') (hT : GoodIn lw_all (wsV Y.1 idx y.cls y (ws_ y bytes maxL ret))) (hd : y.cls = y.cls ∧ y.cls ≠ "java/lang/invoke/MethodHandle" ∧ y.cls ≠ "java/lang/invoke/VarHandle" ∧ (parseMethodDescriptor y.desc).map (fun d => d.parameters.length) = some nA)
    (hn : As.length = nA) (hR : rm.frames + 1 ≤ Y.2.2.2.1.frames ∧ 8 + (maxL + 11) + rm.locals ≤ Y.2.2.2.1.locals) (hW : (rest.map fun v => v.category).sum ≤ 8) (hf : ck + rm.cells ≤ Y.2.2.2.1.cells ∧ cn + rm.slots ≤ Y.2.2.2.1.slots) (hTb : ∀ c m s0, Y.2.2.2.2 c m s0 → c.exceptionTable.toList = tableOf hh) (d : decode cc pc = .ok (.invokevirtual idx, 3)) {st : List Value} (hst : st = As.reverse ++ .ref (lc kd i) :: rest)
    (kx : ∀ E lc' s', QX' E lc' s' → ∃ hpc, tt_ct X Y.1 hh pc E hpc ∧ ∀ q, tt_V X cc Y Q hpc lv [.ref q] lc' s' (ck + rm.cells) (cn + rm.slots)) (kk : ∀ v lc' s', Q' v lc' s' → tt_V X cc Y Q (pc + 3) lv (v.toList ++ rest) lc' s' (ck + rm.cells) (cn + rm.slots)) : tt_V X cc Y Q pc lv st lc s ck cn := by
  intro p1 e R s0 m args below meth c H locs ls C1 hP hS hl
  have hat := (hP.1 kd i hV).1
  rw [ho] at hat
  have hP1 : va_P (xD X) (xC X) [(lc kd i, .inr (ci, fs))] H := fun k q hq => by
    match k, hq with
    | 0, hq => cases hq; exact hat
    | k + 1, hq => simp at hq
  have hRe : R = Y.2.2.2.1 := C1.2.2.2.2.2.2.2.1
  have htab := hTb _ _ _ C1.2.2.2.2.2.2.2.2.2.2
  have hK := C1.2.2.2.2.2.2.2.2.1.2
  have hw := C1.2.2.2.2.1
  have run := vx_runV (R := R) (l := X.1) (p := p1) (e := e) (below := below) (meth := meth) (locs := locs) (cells := ck) (slots := cn) (H := H) (g := F0 m pc ls st) (As := As) (rest := rest) (b := lc kd i) ⟨C1.1, C1.2.1, C1.2.2.1, C1.2.2.2.1, C1.2.2.2.2.1⟩ sp (cwV nA C1.2.2.2.2.1 hT rfl rfl rfl hd (by rw [hRe]; exact hR)) ⟨tt_blind C1.2.2.2.2.2.2.2.2.2.1, va_recv C1.2.2.2.2.2.2.2.2.1.1 hP1 (q0 := 0) hc rfl, fun U hU hW => ⟨rfl, by rw [hU]; exact hP, tt_K.moved C1.2.2.2.2.2.2.2.2.2.1 hW ⟨by rw [hU]; exact hS.1, fun q h1 h2 => by rw [hU]; exact hS.2.1 q h1 h2⟩ C1.2.2.2.2.2.2.2.2.1⟩⟩ rfl hn hl.1 hst (lv_room hW) d (by rw [hRe]; exact hf)
  refine tt_afterX run hS (fun E lc' s' q ce H1 locs1 hq hp hs hce hcv hcl => ?_) (fun v lc' s' H1 locs1 hq hp hs => kk v lc' s' hq p1 e R s0 m args below meth c H1 locs1 ls C1 hp hs hl)
  obtain ⟨hpc, ⟨pre, x, suf, name, t1, t2, t3, t4, t5, t6, t7⟩, hv⟩ := kx E lc' s' hq
  refine vx_catch (own := Y.1) (name := name) C1.2.2.2.1 pre x suf (htab.trans t1) (fun z hz => ?_) t3 t4 (hw _ t5) ((hKN _ hK _ t6 rfl).use rfl) hce hcv hcl ?_
  · obtain ⟨u1, nm, u2, u3⟩ := t2 z hz
    exact Or.inr ⟨u1, nm, hw _ u2, u3 _ hK⟩
  · rw [t7]
    exact hv q p1 e R s0 m args below meth c H1 locs1 ls C1 hp hs hl
/-- a static call of a method with handlers -/
theorem v_callSW {hh : List (Nat × Nat × Nat × Nat)} {y : MethodName} {bytes : ByteArray} {maxL idx nA : Nat} {ret : Option FieldType} {rm : Room} {As : List Value} {Q' : Option Value → (Nat → Nat → Nat) → σ → Prop}
    (sp : tt_SpW X y bytes maxL ret hh rm As lc s Q') (hT : GoodIn lw_all (va_wsS Y.1 idx y (wsW_ y bytes maxL ret hh))) (hd : y.cls ≠ "java/lang/invoke/MethodHandle" ∧ y.cls ≠ "java/lang/invoke/VarHandle" ∧ (parseMethodDescriptor y.desc).map (fun d => d.parameters.length) = some nA)
    (hn : As.length = nA) (hR : rm.frames + 1 ≤ Y.2.2.2.1.frames ∧ 8 + (maxL + 11) + rm.locals ≤ Y.2.2.2.1.locals) (hW : (rest.map fun v => v.category).sum ≤ 8) (hf : ck + rm.cells ≤ Y.2.2.2.1.cells ∧ cn + rm.slots ≤ Y.2.2.2.1.slots) (d : decode cc pc = .ok (.invokestatic idx, 3)) {st : List Value} (hst : st = As.reverse ++ rest)
    (kk : ∀ v lc' s', Q' v lc' s' → tt_V X cc Y Q (pc + 3) lv (v.toList ++ rest) lc' s' (ck + rm.cells) (cn + rm.slots)) : tt_V X cc Y Q pc lv st lc s ck cn := by
  intro p1 e R s0 m args below meth c H locs ls C1 hP hS hl
  have hRe : R = Y.2.2.2.1 := C1.2.2.2.2.2.2.2.1
  have run := vx_runSW (R := R) (l := X.1) (p := p1) (e := e) (below := below) (meth := meth) (locs := locs) (cells := ck) (slots := cn) (H := H) (g := F0 m pc ls st) (As := As) (rest := rest) ⟨C1.1, C1.2.1, C1.2.2.1, C1.2.2.2.1, C1.2.2.2.2.1⟩ sp (vx_cwSW nA C1.2.2.2.2.1 hT rfl rfl rfl hd (by rw [hRe]; exact hR)) ⟨tt_blind C1.2.2.2.2.2.2.2.2.2.1, fun U hU hW => ⟨rfl, by rw [hU]; exact hP, tt_K.moved C1.2.2.2.2.2.2.2.2.2.1 hW ⟨by rw [hU]; exact hS.1, fun q h1 h2 => by rw [hU]; exact hS.2.1 q h1 h2⟩ C1.2.2.2.2.2.2.2.2.1⟩⟩ rfl hn hl.1 hst (lv_room hW) d (by rw [hRe]; exact hf)
  exact tt_after run hS (fun v lc' s' H1 locs1 hq hp hs => kk v lc' s' hq p1 e R s0 m args below meth c H1 locs1 ls C1 hp hs hl)
end LROWS
theorem tt_exn2 {n : Nat} (h0 : ¬ n = 0) (h1 : ¬ n = 1) : tt_exn n = tt_exn 2 := by
  unfold tt_exn
  rw [if_neg h0, if_neg h1]
  rfl
section LROWS2
variable {l : Launch} {D : va_G} {dA : Nat → ClassId} {A : Nat → Prop} {pz b L : Nat} {xs : Nat → Int32} {lc : Nat → Nat → Nat} {s : tt_SL} {cc : ByteArray} {Y : tt_Y} {Q : tt_Fin} {pc : Nat} {lv : List (Nat × Value)} {rest : List Value} {ck cn : Nat}
/-- the script -/
theorem v_sld {j : Int32} (g : inB j L = true) (d : decode cc pc = .ok (.iaload, 1)) (kk : tt_V (XL l D dA A pz b L xs) cc Y Q (pc + 1) lv (.int (xs j.toNatClampNeg) :: rest) lc s ck cn) : tt_V (XL l D dA A pz b L xs) cc Y Q pc lv (.int j :: .ref b :: rest) lc s ck cn := by
  intro p1 e R s0 m args below meth c H locs ls C1 hP hS hl
  have hK := C1.2.2.2.2.2.2.2.2.1.2
  exact va_sld C1.1 C1.2.1 hK.2.2.1 hK.2.2.2.2 hK.2.2.2.1 hS (inB_vp g) d (kk p1 e R s0 m args below meth c H locs ls C1 hP hS hl)
theorem v_slen (d : decode cc pc = .ok (.arraylength, 1)) (kk : tt_V (XL l D dA A pz b L xs) cc Y Q (pc + 1) lv (.int (Int32.ofNat L) :: rest) lc s ck cn) : tt_V (XL l D dA A pz b L xs) cc Y Q pc lv (.ref b :: rest) lc s ck cn := by
  intro p1 e R s0 m args below meth c H locs ls C1 hP hS hl
  have hK := C1.2.2.2.2.2.2.2.2.1.2
  exact va_slen C1.1 C1.2.1 hK.2.2.1 hK.2.2.2.2 hK.2.2.2.1 hS d (kk p1 e R s0 m args below meth c H locs ls C1 hP hS hl)
theorem lvL_0 : xV (XL l D dA A pz b L xs) s 0 0 := rfl
theorem lvL_300 : xV (XL l D dA A pz b L xs) s 300 0 := ⟨rfl, by decide⟩
theorem lvL_400 : xV (XL l D dA A pz b L xs) s 400 0 := ⟨rfl, rfl⟩
def fsM (dA : Nat → ClassId) (lc : Nat → Nat → Nat) (w : tt_St) : List Value := match mkE (EM dA) lc w 0 0 with
  | .inr o => o.2
  | .inl _ => []
theorem oL_0 : tt_ent (XL l D dA A pz b L xs) lc s 0 0 = .inr (8, [.ref (lc 100 0), .ref (lc 200 0), .ref (lc 107 24), .ref (lc 1 0), .ref (lc 4 0), .ref (lc 6 0), .ref (lc 9 0), .int (rdI s.1.2.2 0 0 7), .int (rdI s.1.2.2 0 0 8)]) := rfl
theorem oL_300 : tt_ent (XL l D dA A pz b L xs) lc s 300 0 = .inr (14, fsM (dMd dA) (nTm lc) s.2.1) := rfl
theorem aL_400 : tt_ent (XL l D dA A pz b L xs) lc s 400 0 = .inl (dA 1, 1, .inr (.inl (rdL s.2.2 0 0))) := rfl
theorem lL_400 {j : Int32} (g : inB j 1 = true) (d : decode cc pc = .ok (.laload, 1)) (kk : tt_V (XL l D dA A pz b L xs) cc Y Q (pc + 1) lv (.long (rdL s.2.2 0 0 j.toNatClampNeg) :: rest) lc s ck cn) : tt_V (XL l D dA A pz b L xs) cc Y Q pc lv (.int j :: .ref (lc 400 0) :: rest) lc s ck cn := v_lald (t := 1) lvL_400 aL_400 rfl g d kk
theorem sL_400 {j : Int32} {x : Int64} (g : inB j 1 = true) (d : decode cc pc = .ok (.lastore, 1)) (kk : tt_V (XL l D dA A pz b L xs) cc Y Q (pc + 1) lv rest lc (s.1, s.2.1, wrL s.2.2 0 0 j.toNatClampNeg x) ck cn) : tt_V (XL l D dA A pz b L xs) cc Y Q pc lv (.long x :: .int j :: .ref (lc 400 0) :: rest) lc s ck cn := by
  refine v_last (s' := (s.1, s.2.1, wrL s.2.2 0 0 j.toNatClampNeg x)) (t := 1) lvL_400 aL_400 ?_ (fun kd' i' h => ?_) (fun _ _ z => z) rfl g d kk
  · rw [aL_400]
    show _ = Sum.inl (dA 1, 1, Sum.inr (Sum.inl (vp_updL (rdL s.2.2 0 0) j.toNatClampNeg x)))
    rw [← tt_updL]
  · show EL dA pz lc (s.1, s.2.1, wrL s.2.2 0 0 j.toNatClampNeg x) kd' i' = EL dA pz lc s kd' i'
    unfold EL
    by_cases h1 : kd' < 300
    · rw [if_pos h1, if_pos h1]
    · rw [if_neg h1, if_neg h1]
      by_cases h2 : kd' < 400
      · rw [if_pos h2, if_pos h2]
      · rw [if_neg h2, if_neg h2]
        show Sum.inl (dA 1, 1, Sum.inr (Sum.inl (rdL (wrL s.2.2 0 0 j.toNatClampNeg x) (kd' - 400) i'))) = _
        rw [show rdL (wrL s.2.2 0 0 j.toNatClampNeg x) (kd' - 400) i' = rdL s.2.2 (kd' - 400) i' from funext fun c => by rw [rdL_wrL, if_neg (fun q => h ⟨by omega, q.2.1⟩)]]
/-- the exceptions' names, none of them another -/
theorem nc_L {a c : Nat} (ha : a < 3) (hc : c < 3) (h : a ≠ c) : ∀ U, xK (XL l D dA A pz b L xs) U → va_Nc (tt_exn a) (tt_exn c) U := fun _ hK => hK.2.1 a c ha hc h
theorem agrL {B : Nat → Prop} {lc' : Nat → Nat → Nat} (h : tt_agr (XT l D dA B pz) s.1 lc lc') : tt_agr (XL l D dA A pz b L xs) s lc lc' := fun k j hv => by
  rcases hv with hv | hv
  · by_cases h0 : k < 300
    · rw [xV_T h0] at hv
      exact h k j (Or.inl hv)
    · exact h k j (Or.inr (by omega))
  · exact h k j (Or.inr hv)
end LROWS2
/-- what a wrapper answers: 0 and the answer kept, or the number of the exception it caught -/
def wrapI (o : Option ((Int32 × tt_S3) ⊕ (Nat × tt_S3))) (s : tt_SL) (cd : Nat → Option Int32) : Option (Int32 × tt_SL) :=
  o.bind fun q => match q with
    | .inl r => some (0, (r.2, s.2.1, wrL s.2.2 0 0 0 r.1.toInt64))
    | .inr e => (cd e.1).bind fun c => some (c, (e.2, s.2))
def wrapL (o : Option ((Int64 × tt_S3) ⊕ (Nat × tt_S3))) (s : tt_SL) (cd : Nat → Option Int32) : Option (Int32 × tt_SL) :=
  o.bind fun q => match q with
    | .inl r => some (0, (r.2, s.2.1, wrL s.2.2 0 0 0 r.1))
    | .inr e => (cd e.1).bind fun c => some (c, (e.2, s.2))
def cd3 (a b c : Option Int32) : Nat → Option Int32 := fun n => if n = 0 then a else if n = 1 then b else c
theorem Ok.wrapI {o : Option ((Int32 × tt_S3) ⊕ (Nat × tt_S3))} {s : tt_SL} {cd : Nat → Option Int32} {K : Int32 × tt_SL → Prop} (h : Ok (wrapI o s cd) K) : Ok o (fun q => Sum.casesOn (motive := fun _ => Prop) q (fun r => K (0, (r.2, s.2.1, wrL s.2.2 0 0 0 r.1.toInt64))) (fun e => ∃ c, cd e.1 = some c ∧ K (c, (e.2, s.2)))) := by
  refine (Ok.bind h).mono (fun r hr => ?_)
  cases r with
  | inl a =>
    have q := Ok.ret (show Ok (some _) K from hr)
    exact q
  | inr e =>
    obtain ⟨c, h1, h2⟩ := Ok.bind hr
    exact ⟨c, h1, Ok.ret h2⟩
theorem Ok.wrapL {o : Option ((Int64 × tt_S3) ⊕ (Nat × tt_S3))} {s : tt_SL} {cd : Nat → Option Int32} {K : Int32 × tt_SL → Prop} (h : Ok (wrapL o s cd) K) : Ok o (fun q => Sum.casesOn (motive := fun _ => Prop) q (fun r => K (0, (r.2, s.2.1, wrL s.2.2 0 0 0 r.1))) (fun e => ∃ c, cd e.1 = some c ∧ K (c, (e.2, s.2)))) := by
  refine (Ok.bind h).mono (fun r hr => ?_)
  cases r with
  | inl a =>
    have q := Ok.ret (show Ok (some _) K from hr)
    exact q
  | inr e =>
    obtain ⟨c, h1, h2⟩ := Ok.bind hr
    exact ⟨c, h1, Ok.ret h2⟩
