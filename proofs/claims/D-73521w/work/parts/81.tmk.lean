set_option maxRecDepth 100000
/-! TallTowers makes cells: addresses of new ones; constructors; what is asked -/
section MK
variable {σ : Type} {X : tt_X σ} {cc : ByteArray} {Y : tt_Y} {Q : tt_Fin} {pc : Nat} {lv : List (Nat × Value)} {rest : List Value} {lc : Nat → Nat → Nat} {s : σ} {ck cn : Nat}
/-- addresses that agree where cells live -/
def tt_agr {σ : Type} (X : tt_X σ) (s : σ) (lc lc' : Nat → Nat → Nat) : Prop := ∀ k j, xV X s k j ∨ 10 ≤ k → lc' k j = lc k j
theorem agr_of {σ : Type} {X : tt_X σ} {s : σ} {lc lc' : Nat → Nat → Nat} {kd i : Nat} (hk : kd < 10) (hn : ¬ xV X s kd i) (h : ∀ k j, ¬ (k = kd ∧ j = i) → lc' k j = lc k j) : tt_agr X s lc lc' := fun k j hv => h k j fun q => by
  rcases hv with hv | hv
  · rw [q.1, q.2] at hv; exact hn hv
  · omega
theorem agr_rf : tt_agr X s lc lc := fun _ _ _ => rfl
theorem Ok.agr {α : Type} {o : Option α} {s1 : σ} {lc1 : Nat → Nat → Nat} {P : (Nat → Nat → Nat) → α → Prop} (h : Ok o (fun q => ∀ lc', tt_agr X s lc lc' → P lc' q)) (hc : tt_agr X s1 lc lc1) (hm : ∀ k j, xV X s k j → xV X s1 k j) : Ok o (fun q => ∀ lc', tt_agr X s1 lc1 lc' → P lc' q) :=
  h.mono fun _ hq lc' ha => hq lc' fun k j hv => (ha k j (hv.imp_left (hm k j))).trans (hc k j (hv.imp_left (hm k j)))
theorem Ok.throwsM {α β γ : Type} {o : Option (α ⊕ γ)} {k : α → Option (β ⊕ γ)} {P : β ⊕ γ → Prop} (h : Ok (o.bind fun q => orThrow q k) P) : Ok o (fun r => Sum.casesOn (motive := fun _ => Prop) r (fun a => Ok (k a) P) (fun e => P (.inr e))) := by
  refine (Ok.bind h).mono (fun r hr => ?_)
  cases r with
  | inl a => exact hr
  | inr e =>
    have q := Ok.ret (show Ok (some (.inr e : β ⊕ γ)) P from hr)
    exact q
theorem v_objInit {idx a : Nat} (h1 : Cond.methodLink Y.1 idx Lib.objectInit ∈ lw_all) (h2 : Cond.instanceMethod Lib.objectInit ∈ lw_all) (h3 : Cond.code Lib.objectInit ⟨#[0xb1]⟩ 1 none ∈ lw_all) (hf : 1 ≤ Y.2.2.2.1.frames) (hlo : 8 + 12 ≤ Y.2.2.2.1.locals) (hW : (rest.map fun v => v.category).sum ≤ 8) (d : decode cc pc = .ok (.invokespecial idx, 3))
    (kk : tt_V X cc Y Q (pc + 3) lv rest lc s ck cn) : tt_V X cc Y Q pc lv (.ref a :: rest) lc s ck cn := by
  intro p1 e R s0 m args below meth c H locs ls C1 hP hS hl
  have hRe : R = Y.2.2.2.1 := C1.2.2.2.2.2.2.2.1
  have hw := C1.2.2.2.2.1
  refine W.objInit C1.1 C1.2.1 C1.2.2.2.1 (hw _ h1) (hw _ h2) (hw _ h3) rfl (hl.1.trans C1.2.2.1.symm) rfl d (by rw [hRe]; exact hf) ?_ (kk p1 e R s0 m args below meth c H locs ls C1 hP hS hl)
  have h9 := lv_room (m := m) (pc := pc) (ls := ls) (rest := rest) hW
  rw [hRe]
  show 2 * (F0 m pc ls rest).monitorRoom + (rest.map fun v => v.category).sum + 12 ≤ _
  omega
theorem tt_putWF {p1 : Program} {l : Launch} {e : Env} {R : Room} {s0 : State} {m : MethodId} {args : Array Value} {below : List Frame} {meth : Method} {c : Code} {H : Heap} {locs : List Loc} {cells slots : Nat} {Q0 : State → Prop} {D : va_G} {cl : List vw_C} {tys : List (ClassId × FieldType)} {ls : Array Slot}
    (hexec : p1.tables.exec = Jvm.exec) (hb : c.code = cc) {own ref C : String} {T : u_T} {N ci idx a : Nat} (hts : ∀ w ∈ lw_all, w.before args s0 = true) (hin : ∀ w ∈ u_ws C T N, w ∈ lw_all) (ty0 : Nat → FieldType) (hty : ∀ k, k < N → parseFieldDescriptor (T k).2.2.1 = some (ty0 k)) (hnm : ∀ a, a < N → ∀ b, b < N → a ≠ b → (T a).2.1 ≠ (T b).2.1) (hown : s0.vm.findClass own = some m.cls) (hK : va_K D cl tys s0) {fs : List Value} (hat : va_at D cl (a, .inr (ci, fs)) H) (hc : cl[ci]? = some (C, T, N)) (p : Nat) (hp : p < N) (hlink : (Cond.fieldLink own idx ref (T p).2.1 (T p).2.2.1).before args s0 = true) (hsame : ∀ x, s0.fieldFound? (T p).1 (T p).2.1 (T p).2.2.1 = some x → s0.fieldFound? ref (T p).2.1 (T p).2.2.1 = some x) (hfin : (T p).2.2.2 = true) (hin2 : meth.name = "<init>") (hdecl : (T p).1 = own) {v : Value} (hn : narrow (ty0 p) v = v) (hfit : fits (ty0 p) v = true) (hlen : p < fs.length)
    (d : decode cc pc = .ok (.putfield idx, 3)) (kk : ∀ (H1 : Heap) (j : Nat), va_at D cl (a, .inr (ci, fs.set p v)) H1 → H1.size = H.size → (∀ q : Nat, q ≠ a → H1[q]? = H[q]?) → W p1 l e R s0 m args below meth c H1 (locs ++ [⟨a, j⟩]) cells slots Q0 (F0 m (pc + 3) ls rest)) : W p1 l e R s0 m args below meth c H locs cells slots Q0 (F0 m pc ls (v :: .ref a :: rest)) := by
  have hap := va_apart (own := own) hts hin ty0 hty hnm hK hc
  obtain ⟨r, h1, cell, q1, q2, q3, q4⟩ := hat
  have hr : r = (C, T, N) := Option.some.inj (h1.symm.trans hc)
  subst hr
  obtain ⟨hS, hfc, kC, hkC, hkind⟩ := hK.1 ci _ hc
  obtain ⟨cf, kf, fi, f, hi, hsl⟩ := hS p hp
  have hlay := hts _ (hin _ (u_in_lay hp))
  unfold u_lay at hlay
  rw [if_pos hfin] at hlay
  have hst := (u_facts hfc hkC (u_lays hts hin hp) hi).1
  have hcf : m.cls = cf := by
    obtain ⟨_, _, c', _, _, _, -, -, hf', -, -, -, hown2, -⟩ := Cond.laysFinal_spec hlay
    have e1 : c' = cf := by have := hi.symm.trans hf'; simp at this; exact this.1.symm
    rw [hdecl] at hown2
    rw [← e1]; exact Option.some.inj (hown.symm.trans hown2)
  have h6 := u_fits hfc hkC hkind (Or.inr hlay) hi (hty p hp) hn hfit
  refine W.putFinK hexec hb hown hlink (hsame _ hi) hst hcf hin2 (by rw [q2]; exact h6) q1 q3 (by rw [hsl]; exact k2_hasslot (q4 p hp)) rfl rfl d fun H' e1 e2 e3 => ?_
  refine kk H' _ ?_ e2 e3
  rw [hsl] at e1
  exact ⟨_, hc, t_OB.to (V := updV (vp_V fs) p v) ⟨_, e1, q2, q3, t_set q4 hap hp v⟩ (fun j _ => vp_updV_set hlen v j)⟩
/-- a final field, in a constructor -/
theorem v_putF {s' : σ} {y : MethodName} {kd i p ci idx N : Nat} {C ref : String} {T : u_T} {fs : List Value} {v : Value} (hnm0 : ∀ c m s0, Y.2.2.2.2 c m s0 → s0.methodNamed? y = some m) (hy : y.name = "<init>") (hV : xV X s kd i) (ho : tt_ent X lc s kd i = .inr (ci, fs)) (ho' : tt_ent X lc s' kd i = .inr (ci, fs.set p v)) (hoth : ∀ kd' i', ¬ (kd' = kd ∧ i' = i) → tt_ent X lc s' kd' i' = tt_ent X lc s kd' i') (hlv : ∀ kd i, xV X s' kd i → xV X s kd i) (hc : (xC X)[ci]? = some (C, T, N)) (hin : ∀ w ∈ u_ws C T N, w ∈ lw_all) (ty0 : Nat → FieldType) (hty : ∀ k, k < N → parseFieldDescriptor (T k).2.2.1 = some (ty0 k)) (hnm : ∀ a, a < N → ∀ b, b < N → a ≠ b → (T a).2.1 ≠ (T b).2.1) (hp : p < N) (hlink : Cond.fieldLink Y.1 idx ref (T p).2.1 (T p).2.2.1 ∈ lw_all) (hsame : ref = (T p).1 ∨ Cond.sameField ref (T p).1 (T p).2.1 (T p).2.2.1 ∈ lw_all) (hfin : (T p).2.2.2 = true) (hdecl : (T p).1 = Y.1) (hn : narrow (ty0 p) v = v) (hfit : fits (ty0 p) v = true) (hlen : p < fs.length) (d : decode cc pc = .ok (.putfield idx, 3))
    (kk : tt_V X cc Y Q (pc + 3) lv rest lc s' ck cn) : tt_V X cc Y Q pc lv (v :: .ref (lc kd i) :: rest) lc s ck cn := by
  intro p1 e R s0 m args below meth c H locs ls C1 hP hS hl T1 hT1 X1
  have hat := (hP.1 kd i hV).1
  rw [ho] at hat
  have hnme : meth.name = "<init>" := (name_of_methodNamed (hnm0 _ _ _ C1.2.2.2.2.2.2.2.2.2.2) X1.method).1.trans hy
  have hsm : ∀ x, s0.fieldFound? (T p).1 (T p).2.1 (T p).2.2.1 = some x → s0.fieldFound? ref (T p).2.1 (T p).2.2.1 = some x := by
    rcases hsame with h | h
    · intro x hx
      rw [h]
      exact hx
    · exact fun x hx => u_same (C1.2.2.2.2.1 _ h) x hx
  exact tt_putWF C1.1 C1.2.1 C1.2.2.2.2.1 hin ty0 hty hnm C1.2.2.2.1 C1.2.2.2.2.2.2.2.2.1.1 hat hc p hp (C1.2.2.2.2.1 _ hlink) hsm hfin hnme hdecl hn hfit hlen d (fun H1 j h1 h2 h3 => kk p1 e R s0 m args below meth c H1 _ ls C1 (hP.put hV (by rw [ho']; exact h1) hoth hlv h3) (hS.put h2 h3 (hP.1 kd i hV).2) hl) T1 hT1 X1
/-- a constructor's call -/
theorem v_callI {y : MethodName} {bytes : ByteArray} {maxL idx nA a : Nat} {rm : Room} {As : List Value} {Q' : Option Value → (Nat → Nat → Nat) → σ → Prop}
    (sp : tt_Sp X y bytes maxL none rm (.ref a :: As) lc s Q') (hG : GoodIn lw_all (ws_ y bytes maxL none)) (hini : Cond.initialized y.cls ∈ lw_all) (hl0 : Cond.methodLink Y.1 idx y ∈ lw_all) (hin : Cond.instanceMethod y ∈ lw_all) (hy1 : y.name = "<init>") (hd : y.cls ≠ "java/lang/invoke/MethodHandle" ∧ y.cls ≠ "java/lang/invoke/VarHandle" ∧ (parseMethodDescriptor y.desc).map (fun d => d.parameters.length) = some nA)
    (hn : As.length = nA) (hR : rm.frames + 1 ≤ Y.2.2.2.1.frames ∧ 8 + (maxL + 11) + rm.locals ≤ Y.2.2.2.1.locals) (hW : (rest.map fun v => v.category).sum ≤ 8) (hf : ck + rm.cells ≤ Y.2.2.2.1.cells ∧ cn + rm.slots ≤ Y.2.2.2.1.slots) (d : decode cc pc = .ok (.invokespecial idx, 3)) {st : List Value} (hst : st = As.reverse ++ .ref a :: rest)
    (kk : ∀ v lc' s', Q' v lc' s' → tt_V X cc Y Q (pc + 3) lv (v.toList ++ rest) lc' s' (ck + rm.cells) (cn + rm.slots)) : tt_V X cc Y Q pc lv st lc s ck cn := by
  intro p1 e R s0 m args below meth c H locs ls C1 hP hS hl
  have hRe : R = Y.2.2.2.1 := C1.2.2.2.2.2.2.2.1
  have hw := C1.2.2.2.2.1
  have run := va_runI (R := R) (l := X.1) (p := p1) (e := e) (below := below) (meth := meth) (locs := locs) (cells := ck) (slots := cn) (H := H) (g := F0 m pc ls st) (As := As) (rest := rest) (b := a) ⟨C1.1, C1.2.1, C1.2.2.1, C1.2.2.2.1, hw⟩ sp (cwI nA hw hG rfl rfl rfl (hw _ hini) (hw _ hl0) (hw _ hin) hy1 hd (by rw [hRe]; exact hR)) ⟨tt_blind C1.2.2.2.2.2.2.2.2.2.1, fun U hU hW => ⟨rfl, by rw [hU]; exact hP, tt_K.moved C1.2.2.2.2.2.2.2.2.2.1 hW ⟨by rw [hU]; exact hS.1, fun q h1 h2 => by rw [hU]; exact hS.2.1 q h1 h2⟩ C1.2.2.2.2.2.2.2.2.1⟩⟩ rfl hn hl.1 hst (lv_room hW) d (by rw [hRe]; exact hf)
  exact tt_after run hS (fun v lc' s' H1 locs1 hq hp hs => kk v lc' s' hq p1 e R s0 m args below meth c H1 locs1 ls C1 hp hs hl)
end MK
theorem tt_own_wrR {E : tt_Et} {lc : Nat → Nat → Nat} {w : tt_St} {kd i j : Nat} {v : Option Nat} {kd' i' : Nat} (h : ¬ (kd' = kd ∧ i' = i)) : mkE E lc (wrR w kd i j v) kd' i' = mkE E lc w kd' i' := by
  unfold mkE
  have e : rdR (wrR w kd i j v) kd' i' = rdR w kd' i' := by
    funext c
    rw [rdR_wrR, if_neg (fun q => h ⟨q.1, q.2.1⟩)]
  rw [e]
  rfl
/-- all that is pointed at lives -/
def okO (o : tt_St) : Bool :=
  (List.range 160).all (fun j => (rdR o 1 0 j).all fun t => decide (t < rdN o 2)) && ((List.range (rdN o 2)).all (fun i => (rdR o 2 i 2).all fun t => decide (t < rdN o 3)) &&
  ((rdR o 7 0 3).all (fun t => decide (t < rdN o 8)) && (List.range (rdN o 8)).all (fun i => (rdR o 8 i 0).all (fun t => decide (t < 10)) && ((rdR o 8 i 2).all (fun t => decide (t < rdN o 8)) && ((rdR o 8 i 3).all (fun t => decide (t < rdN o 8)) && (rdR o 8 i 4).all fun t => decide (t < rdN o 8))))))
theorem all_map {o : Option Nat} {p : Nat → Bool} {f g : Nat → Nat} (h : o.all p = true) (he : ∀ t, p t = true → f t = g t) : o.map f = o.map g := by
  cases o with
  | none => rfl
  | some t => exact congrArg some (he t h)
theorem okO_spec {o : tt_St} (h : okO o = true) : (∀ j, j < 160 → (rdR o 1 0 j).all (fun t => decide (t < rdN o 2)) = true) ∧ (∀ i, i < rdN o 2 → (rdR o 2 i 2).all (fun t => decide (t < rdN o 3)) = true) ∧ (rdR o 7 0 3).all (fun t => decide (t < rdN o 8)) = true ∧
    ∀ i, i < rdN o 8 → (rdR o 8 i 0).all (fun t => decide (t < 10)) = true ∧ (rdR o 8 i 2).all (fun t => decide (t < rdN o 8)) = true ∧ (rdR o 8 i 3).all (fun t => decide (t < rdN o 8)) = true ∧ (rdR o 8 i 4).all (fun t => decide (t < rdN o 8)) = true := by
  unfold okO at h
  simp only [Bool.and_eq_true, List.all_eq_true, List.mem_range] at h
  exact ⟨h.1, h.2.1, h.2.2.1, h.2.2.2⟩
/-- other addresses, the same picture -/
theorem EO_lc {dA : Nat → ClassId} {pz : Nat} {o : tt_St} {lc lc' : Nat → Nat → Nat} (hok : okO o = true) (h : ∀ k j, lvO o k j → lc' k j = lc k j) (h1 : ∀ k j, 100 ≤ k → lc' k j = lc k j) (h5 : ∀ j, lc' 5 j = lc 5 j) {k j : Nat} (hv : lvO o k j) : mkE (EO dA pz) lc' o k j = mkE (EO dA pz) lc o k j := by
  obtain ⟨a1, a2, a3, a4⟩ := okO_spec hok
  have f2 : ∀ t, decide (t < rdN o 2) = true → lc' 2 t = lc 2 t := fun t ht => h 2 t (show t < rdN o 2 from of_decide_eq_true ht)
  have f3 : ∀ t, decide (t < rdN o 3) = true → lc' 3 t = lc 3 t := fun t ht => h 3 t (show t < rdN o 3 from of_decide_eq_true ht)
  have f8 : ∀ t, decide (t < rdN o 8) = true → lc' 8 t = lc 8 t := fun t ht => h 8 t (show t < rdN o 8 from of_decide_eq_true ht)
  have f5 : ∀ t, decide (t < 10) = true → lc' 5 t = lc 5 t := fun t _ => h5 t
  unfold mkE
  match k, hv with
  | 0, hv => simp only [EO]; rw [h1 100 0 (by omega), h1 200 0 (by omega), h1 107 24 (by omega), h 1 0 rfl, h 4 0 rfl, h 6 0 rfl, h 9 0 rfl]
  | 1, hv =>
    have hv : j = 0 := hv
    subst hv
    simp only [EO]
    congr 7
    funext q
    by_cases hq : q < 160
    · rw [if_pos hq, if_pos hq]
      exact all_map (a1 q hq) f2
    · rw [if_neg hq, if_neg hq]
  | 2, hv =>
    simp only [EO]
    rw [all_map (a2 j hv) f3]
  | 3, hv => rfl
  | 4, hv =>
    simp only [EO]
    rw [show lc' 5 = lc 5 from funext h5]
  | 5, hv => rfl
  | 6, hv => simp only [EO]; rw [h 7 0 rfl]
  | 7, hv =>
    have hv : j = 0 := hv
    subst hv
    simp only [EO]
    rw [all_map a3 f8]
  | 8, hv =>
    obtain ⟨b0, b2, b3, b4⟩ := a4 j hv
    simp only [EO]
    rw [all_map b0 f5, all_map b2 f8, all_map b3 f8, all_map b4 f8]
  | 9, hv => rfl
  | k + 10, hv => exact hv.elim
theorem plX12 : plainName RX12 = true := by decide
section MKT
variable {l : Launch} {D : va_G} {dA : Nat → ClassId} {A : Nat → Prop} {pz : Nat} {lc : Nat → Nat → Nat} {s : tt_S3} {cc : ByteArray} {nl : Nat} {rt : Option FieldType} {rm : Room} {tn : tt_Tn} {Q : tt_Fin} {pc : Nat} {lv : List (Nat × Value)} {rest : List Value} {ck cn : Nat}
theorem nc_own {o' : tt_St} {kd n : Nat} {E : va_E} (hkd : kd < 100 ∧ kd ≠ 5) (hok : okO s.2.2 = true) (h1 : ¬ lvO s.2.2 kd n) (h2 : ∀ k j, lvO o' k j → lvO s.2.2 k j ∨ (k = kd ∧ j = n)) (h3 : ∀ a, mkE (EO dA pz) (lcAt lc kd n a) o' kd n = E) (h4 : ∀ lc' k j, ¬ (k = kd ∧ j = n) → mkE (EO dA pz) lc' o' k j = mkE (EO dA pz) lc' s.2.2 k j) : tt_NC (XT l D dA A pz) lc s (s.1, s.2.1, o') kd n E := by
  have e0 : ∀ k j, xV (XT l D dA A pz) s k j = lvT s k j := fun _ _ => rfl
  refine ⟨?_, fun k j hv => ?_, fun a => ?_, fun a k j hv => ?_⟩
  · show ¬ lvT s kd n
    unfold lvT
    rw [if_pos hkd.1]
    exact h1
  · have hv : lvT (s.1, s.2.1, o') k j := hv
    show lvT s k j ∨ _
    unfold lvT at hv ⊢
    by_cases hk : k < 100
    · rw [if_pos hk] at hv ⊢
      exact h2 k j hv
    · rw [if_neg hk] at hv ⊢
      exact Or.inl hv
  · show ET dA pz _ (s.1, s.2.1, o') kd n = E
    unfold ET
    rw [if_pos hkd.1]
    exact h3 a
  · have hv : lvT s k j := hv
    show ET dA pz _ (s.1, s.2.1, o') k j = ET dA pz lc s k j
    have hg : ∀ k' j', 100 ≤ k' → lcAt lc kd n a k' j' = lc k' j' := fun k' j' hk' => lcAt_ne _ _ _ _ (fun q => by omega)
    unfold ET
    unfold lvT at hv
    by_cases hk : k < 100
    · rw [if_pos hk, if_pos hk]
      rw [if_pos hk] at hv
      have hne : ¬ (k = kd ∧ j = n) := fun q => by rw [q.1, q.2] at hv; exact h1 hv
      rw [h4 _ k j hne]
      exact EO_lc hok (fun k' j' hv' => lcAt_ne _ _ _ _ (fun q => by rw [q.1, q.2] at hv'; exact h1 hv')) hg (fun j' => lcAt_ne _ _ _ _ (fun q => hkd.2 q.1.symm)) hv
    · rw [if_neg hk, if_neg hk, show nT0 (lcAt lc kd n a) = nT0 lc from funext fun k' => funext fun j' => hg _ _ (by omega), show nT1 (lcAt lc kd n a) = nT1 lc from funext fun k' => funext fun j' => hg _ _ (by omega)]
/-- one more Event, not filled yet -/
def newE (o : tt_St) : tt_St := wrN (wrR (wrI (wrI o 2 (rdN o 2) 0 0) 2 (rdN o 2) 1 0) 2 (rdN o 2) 2 none) 2 (rdN o 2 + 1)
/-- one more object of a site, with what it captured -/
def newD (o : tt_St) (tag : Nat) (f : Nat → Int32) : tt_St :=
  (fun a b c => if a = 3 ∧ b = rdN o 3 then f c else o.1 a b c, o.2.1, fun a b c => if a = 3 ∧ b = rdN o 3 ∧ c = 99 then some tag else o.2.2.1 a b c, fun a => if a = 3 then rdN o 3 + 1 else o.2.2.2 a)
theorem rdN_newE (o : tt_St) (k : Nat) : rdN (newE o) k = if k = 2 then rdN o 2 + 1 else rdN o k := rfl
theorem rdN_newD (o : tt_St) (tag : Nat) (f : Nat → Int32) (k : Nat) : rdN (newD o tag f) k = if k = 3 then rdN o 3 + 1 else rdN o k := rfl
theorem rdI_newD (o : tt_St) (tag : Nat) (f : Nat → Int32) (a b c : Nat) : rdI (newD o tag f) a b c = if a = 3 ∧ b = rdN o 3 then f c else rdI o a b c := rfl
theorem rdL_newD (o : tt_St) (tag : Nat) (f : Nat → Int32) : rdL (newD o tag f) = rdL o := rfl
theorem rdR_newD (o : tt_St) (tag : Nat) (f : Nat → Int32) (a b c : Nat) : rdR (newD o tag f) a b c = if a = 3 ∧ b = rdN o 3 ∧ c = 99 then some tag else rdR o a b c := rfl
theorem rdI_newE (o : tt_St) (a b c : Nat) : rdI (newE o) a b c = if a = 2 ∧ b = rdN o 2 ∧ c = 1 then 0 else if a = 2 ∧ b = rdN o 2 ∧ c = 0 then 0 else rdI o a b c := rfl
theorem rdL_newE (o : tt_St) : rdL (newE o) = rdL o := rfl
theorem rdR_newE (o : tt_St) (a b c : Nat) : rdR (newE o) a b c = if a = 2 ∧ b = rdN o 2 ∧ c = 2 then none else rdR o a b c := rfl
theorem lvO_more {o o' : tt_St} {kd : Nat} (hk : kd = 2 ∨ kd = 3 ∨ kd = 8) (h : ∀ k, rdN o' k = if k = kd then rdN o kd + 1 else rdN o k) : ∀ k j, lvO o' k j → lvO o k j ∨ (k = kd ∧ j = rdN o kd) := by
  intro k j hv
  have main : ∀ k, k = 2 ∨ k = 3 ∨ k = 8 → j < rdN o' k → j < rdN o k ∨ (k = kd ∧ j = rdN o kd) := fun k _ hj => by
    rw [h k] at hj
    by_cases e : k = kd
    · rw [if_pos e] at hj
      subst e
      omega
    · rw [if_neg e] at hj
      exact Or.inl hj
  match k, hv with
  | 0, hv => exact Or.inl hv
  | 1, hv => exact Or.inl hv
  | 2, hv => exact main 2 (by simp) hv
  | 3, hv => exact main 3 (by simp) hv
  | 4, hv => exact Or.inl hv
  | 5, hv => exact Or.inl hv
  | 6, hv => exact Or.inl hv
  | 7, hv => exact Or.inl hv
  | 8, hv => exact main 8 (by simp) hv
  | 9, hv => exact Or.inl hv
  | k + 10, hv => exact hv.elim
theorem mkE_of {E : tt_Et} {lc : Nat → Nat → Nat} {o o' : tt_St} {k j : Nat} (h1 : ∀ c, rdI o' k j c = rdI o k j c) (h2 : ∀ c, rdL o' k j c = rdL o k j c) (h3 : ∀ c, rdR o' k j c = rdR o k j c) : mkE E lc o' k j = mkE E lc o k j := by
  unfold mkE
  rw [show rdI o' k j = rdI o k j from funext h1, show rdL o' k j = rdL o k j from funext h2, show rdR o' k j = rdR o k j from funext h3]
def lvLe (s t : tt_S3) : Bool := decide (rdN s.2.2 2 ≤ rdN t.2.2 2) && (decide (rdN s.2.2 3 ≤ rdN t.2.2 3) && decide (rdN s.2.2 8 ≤ rdN t.2.2 8))
theorem lvLe_mono {t : tt_S3} (g : lvLe s t = true) : ∀ k j, xV (XT l D dA A pz) s k j → xV (XT l D dA A pz) t k j := by
  intro k j hv
  unfold lvLe at g
  simp only [Bool.and_eq_true, decide_eq_true_eq] at g
  have hv : lvT s k j := hv
  show lvT t k j
  unfold lvT at hv ⊢
  by_cases hk : k < 100
  · rw [if_pos hk] at hv ⊢
    match k, hv with
    | 0, hv => exact hv
    | 1, hv => exact hv
    | 2, hv => exact Nat.lt_of_lt_of_le hv g.1
    | 3, hv => exact Nat.lt_of_lt_of_le hv g.2.1
    | 4, hv => exact hv
    | 5, hv => exact hv
    | 6, hv => exact hv
    | 7, hv => exact hv
    | 8, hv => exact Nat.lt_of_lt_of_le hv g.2.2
    | 9, hv => exact hv
    | k + 10, hv => exact hv.elim
  · rw [if_neg hk] at hv ⊢
    exact hv
theorem lvT_3 {i : Nat} (hv : i < rdN s.2.2 3) : xV (XT l D dA A pz) s 3 i := hv
/-- new Event -/
theorem nT_E (hok : okO s.2.2 = true) (hf : ck + 1 ≤ rm.cells ∧ cn + 3 ≤ rm.slots) (d : decode cc pc = .ok (.new 26, 3))
    (kk : ∀ lc', tt_agr (XT l D dA A pz) s lc lc' → tt_V (XT l D dA A pz) cc (RX1, nl, rt, rm, tn) Q (pc + 3) lv (.ref (lc' 2 (rdN s.2.2 2)) :: rest) lc' (s.1, s.2.1, newE s.2.2) (ck + 1) (cn + 3)) : tt_V (XT l D dA A pz) cc (RX1, nl, rt, rm, tn) Q pc lv rest lc s ck cn := by
  refine v_new (kd := 2) (i := rdN s.2.2 2) (ci := 9) (s' := (s.1, s.2.1, newE s.2.2)) (fs := [.int 0, .int 0, .null]) (C := RX12) (T := TX12) (N := 3) rfl in_X12 tyX12 tyX12_ok (fun j hj => ?_) kaT q817 q996 q156 ?_ hf d (fun lc' h => kk lc' (agr_of (by decide) (fun h => Nat.lt_irrefl _ h) h))
  · match j, hj with
    | 0, _ => rfl
    | 1, _ => rfl
    | 2, _ => rfl
    | j + 3, hj => exact absurd hj (by omega)
  · refine nc_own ⟨by decide, by decide⟩ hok (fun h => Nat.lt_irrefl _ h) (lvO_more (Or.inl rfl) (rdN_newE _)) (fun a => ?_) (fun lc' k j hne => mkE_of (fun c => ?_) (fun c => by rw [rdL_newE]) (fun c => ?_))
    · unfold mkE
      simp [EO, rdI_newE, rdR_newE, va_rf]
    · rw [rdI_newE, if_neg (fun q => hne ⟨q.1, q.2.1⟩), if_neg (fun q => hne ⟨q.1, q.2.1⟩)]
    · rw [rdR_newE, if_neg (fun q => hne ⟨q.1, q.2.1⟩)]
theorem ints_at {D : va_G} {cl : List vw_C} {a : Nat} {H1 : Heap} {cK : ClassId} {xs : List Int32} (h : H1[a]? = some { cls := cK, slots := (xs.map Value.int).toArray, vm := .none }) : va_at D cl (a, .inl (cK, xs.length, .inl (fun j => xs.getD j 0))) H1 := by
  show H1[a]? = some (vp_cell _ _)
  rw [h, vp_cell_i]
  unfold arrV
  congr 2
  apply Array.ext
  · simp
  · intro i h1 h2
    simp only [List.getElem_toArray, List.getElem_map, Array.getElem_ofFn]
    simp only [List.size_toArray, List.length_map] at h1
    rw [List.getD_eq_getElem?_getD, List.getElem?_eq_getElem h1]
    rfl
/-- an object of a site that captures ints -/
theorem nT_D {x xi : MethodName} {idx mi ci mL tag : Nat} {sh : Lambda.Shape} {bs : ByteArray} {fi : List Nat} {st : List Value} (xs : List Int32) (hok : okO s.2.2 = true) (hcap : capT tag = xs.length) (hsh : sh.captured = List.replicate xs.length .int)
    (hrd : ∀ U, xK (XT l D dA A pz) U → lam_Rd x pc idx sh (dA (20 + tag)) (.makes (dA (20 + tag))) xi U) (hi : lam_is sh x.cls bs mL mi ci fi) (hnm : ∀ c m s0, tn c m s0 → s0.methodNamed? x = some m)
    (hst : st = (xs.map Value.int).reverse ++ rest) (hW : (st.map fun v => v.category).sum ≤ 8) (hlo : 8 + 3072 ≤ rm.locals) (hf : ck + 1 ≤ rm.cells ∧ cn + xs.length ≤ rm.slots) (d : decode cc pc = .ok (.invokedynamic idx, 5))
    (kk : ∀ lc', tt_agr (XT l D dA A pz) s lc lc' → tt_V (XT l D dA A pz) cc (RX1, nl, rt, rm, tn) Q (pc + 5) lv (.ref (lc' 3 (rdN s.2.2 3)) :: rest) lc' (s.1, s.2.1, newD s.2.2 tag (fun j => xs.getD j 0)) (ck + 1) (cn + xs.length)) : tt_V (XT l D dA A pz) cc (RX1, nl, rt, rm, tn) Q pc lv st lc s ck cn := by
  refine v_make (kd := 3) (i := rdN s.2.2 3) (vals := xs.map Value.int) (s' := (s.1, s.2.1, newD s.2.2 tag (fun j => xs.getD j 0))) (E := .inl (dA (20 + tag), xs.length, .inl (fun j => xs.getD j 0))) hrd hi hnm kaT ?_ ?_ (by rw [hsh]; simp) ?_ (fun a H1 h => ints_at h) hst hW hlo (by rw [List.length_map]; exact hf) d (by rw [List.length_map]; exact fun lc' h => kk lc' (agr_of (by decide) (fun h => Nat.lt_irrefl _ h) h))
  · rw [hsh]
    apply List.ext_getElem
    · simp
    · intro i h1 h2
      simp
      rfl
  · intro j v hj
    rw [List.getElem?_map] at hj
    obtain ⟨q, h1, rfl⟩ := Option.map_eq_some_iff.mp hj
    have h2 := (List.getElem?_eq_some_iff.mp h1).1
    exact ⟨.int, by rw [hsh, List.getElem?_replicate, if_pos h2], rfl⟩
  · refine nc_own ⟨by decide, by decide⟩ hok (fun h => Nat.lt_irrefl _ h) (lvO_more (Or.inr (Or.inl rfl)) (rdN_newD _ _ _)) (fun a => ?_) (fun lc' k j hne => mkE_of (fun c => ?_) (fun c => by rw [rdL_newD]) (fun c => ?_))
    · unfold mkE
      have e1 : rdI (newD s.2.2 tag (fun j => xs.getD j 0)) 3 (rdN s.2.2 3) = fun j => xs.getD j 0 := funext fun c => by rw [rdI_newD, if_pos ⟨rfl, rfl⟩]
      have e2 : rdR (newD s.2.2 tag (fun j => xs.getD j 0)) 3 (rdN s.2.2 3) 99 = some tag := by rw [rdR_newD, if_pos ⟨rfl, rfl, rfl⟩]
      simp only [EO, e1, e2, Option.getD_some, hcap]
    · rw [rdI_newD, if_neg hne]
    · rw [rdR_newD, if_neg (fun q => hne ⟨q.1, q.2.1⟩)]
theorem oT_3 {i : Nat} : tt_ent (XT l D dA A pz) lc s 3 i = .inl (dA (20 + (rdR s.2.2 3 i 99).getD 0), capT ((rdR s.2.2 3 i 99).getD 0), .inl (rdI s.2.2 3 i)) := rfl
/-- what a made object has captured -/
theorem cellD {i tag : Nat} (hv : i < rdN s.2.2 3) (e : rdR s.2.2 3 i 99 = some tag) : lam_cell (XT l D dA A pz) lc s (lc 3 i) (dA (20 + tag)) ((List.range (capT tag)).map fun j => Value.int (rdI s.2.2 3 i j)) :=
  lam_cell.ofI (lvT_3 hv) (by rw [oT_3, e]; rfl)
/-- the one object of a site that captures nothing -/
theorem cellC {k : Nat} (h1 : 2 ≤ k) (h2 : k < 7) : lam_cell (XT l D dA A pz) lc s (dA (50 + k)) (dA (40 + k)) [] := by
  intro s0 H locs hK hP hS
  obtain ⟨g1, cell, g2, g3, g4⟩ := (klT s0 hK).2.2 k h1 h2
  exact ⟨cell, by rw [hS.2.1 _ (Array.getElem?_eq_some_iff.mp g2).1 g1]; exact g2, g3, g4, fun j v hj => by simp at hj⟩
end MKT
