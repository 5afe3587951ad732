set_option maxRecDepth 100000
section VROWS4
variable {σ : Type} {X : tt_X σ} {cc : ByteArray} {Y : tt_Y} {Q : tt_Fin} {pc : Nat} {lv : List (Nat × Value)} {rest : List Value} {lc : Nat → Nat → Nat} {s : σ} {ck cn : Nat}
theorem v_maxL {idx : Nat} {x y : Int64} (h1 : Cond.methodLink Y.1 idx Lib.MathLoose.max_long.x ∈ lw_all) (h2 : Cond.static Lib.MathLoose.max_long.x ∈ lw_all) (h3 : Cond.initialized "java/lang/Math" ∈ lw_all) (h4 : Cond.code Lib.MathLoose.max_long.x Lib.MathLoose.max_long.code 4 (some .long) ∈ lw_all) (hf : 1 ≤ Y.2.2.2.1.frames) (hlo : (rest.map fun v => v.category).sum + 15 ≤ Y.2.2.2.1.locals) (hc : ck ≤ Y.2.2.2.1.cells) (hs : cn ≤ Y.2.2.2.1.slots) (d : decode cc pc = .ok (.invokestatic idx, 3)) (kk : tt_V X cc Y Q (pc + 3) lv (.long (if y < x then x else y) :: rest) lc s ck cn) : tt_V X cc Y Q pc lv (.long y :: .long x :: rest) lc s ck cn := by
  intro p1 e R s0 m args below meth c H locs ls C1 hP hS hl
  have hRe : R = Y.2.2.2.1 := C1.2.2.2.2.2.2.2.1
  exact va_mmax_long C1.1 C1.2.1 (C1.2.2.1.trans hl.1.symm) C1.2.2.2.1 (C1.2.2.2.2.1 _ h1) (C1.2.2.2.2.1 _ h2) (C1.2.2.2.2.1 _ h3) (C1.2.2.2.2.1 _ h4) (by rw [hRe]; exact hf) (by rw [hRe]; exact hlo) (by rw [hRe]; exact hc) (by rw [hRe]; exact hs) d (kk p1 e R s0 m args below meth c H locs ls C1 hP hS hl)
theorem v_minL {idx : Nat} {x y : Int64} (h1 : Cond.methodLink Y.1 idx Lib.MathLoose.min_long.x ∈ lw_all) (h2 : Cond.static Lib.MathLoose.min_long.x ∈ lw_all) (h3 : Cond.initialized "java/lang/Math" ∈ lw_all) (h4 : Cond.code Lib.MathLoose.min_long.x Lib.MathLoose.min_long.code 4 (some .long) ∈ lw_all) (hf : 1 ≤ Y.2.2.2.1.frames) (hlo : (rest.map fun v => v.category).sum + 15 ≤ Y.2.2.2.1.locals) (hc : ck ≤ Y.2.2.2.1.cells) (hs : cn ≤ Y.2.2.2.1.slots) (d : decode cc pc = .ok (.invokestatic idx, 3)) (kk : tt_V X cc Y Q (pc + 3) lv (.long (if y < x then y else x) :: rest) lc s ck cn) : tt_V X cc Y Q pc lv (.long y :: .long x :: rest) lc s ck cn := by
  intro p1 e R s0 m args below meth c H locs ls C1 hP hS hl
  have hRe : R = Y.2.2.2.1 := C1.2.2.2.2.2.2.2.1
  exact va_mmin_long C1.1 C1.2.1 (C1.2.2.1.trans hl.1.symm) C1.2.2.2.1 (C1.2.2.2.2.1 _ h1) (C1.2.2.2.2.1 _ h2) (C1.2.2.2.2.1 _ h3) (C1.2.2.2.2.1 _ h4) (by rw [hRe]; exact hf) (by rw [hRe]; exact hlo) (by rw [hRe]; exact hc) (by rw [hRe]; exact hs) d (kk p1 e R s0 m args below meth c H locs ls C1 hP hS hl)
theorem v_maxI {idx : Nat} {x y : Int32} (h1 : Cond.methodLink Y.1 idx Lib.Math.max.name ∈ lw_all) (h2 : Cond.static Lib.Math.max.name ∈ lw_all) (h3 : Cond.initialized "java/lang/Math" ∈ lw_all) (h4 : Cond.code Lib.Math.max.name Lib.Math.max.code 2 (some .int) ∈ lw_all) (hf : 1 ≤ Y.2.2.2.1.frames) (hlo : (rest.map fun v => v.category).sum + 13 ≤ Y.2.2.2.1.locals) (hc : ck ≤ Y.2.2.2.1.cells) (hs : cn ≤ Y.2.2.2.1.slots) (d : decode cc pc = .ok (.invokestatic idx, 3)) (kk : tt_V X cc Y Q (pc + 3) lv (.int (if x < y then y else x) :: rest) lc s ck cn) : tt_V X cc Y Q pc lv (.int y :: .int x :: rest) lc s ck cn := by
  intro p1 e R s0 m args below meth c H locs ls C1 hP hS hl
  have hRe : R = Y.2.2.2.1 := C1.2.2.2.2.2.2.2.1
  exact va_mmax C1.1 C1.2.1 (C1.2.2.1.trans hl.1.symm) C1.2.2.2.1 (C1.2.2.2.2.1 _ h1) (C1.2.2.2.2.1 _ h2) (C1.2.2.2.2.1 _ h3) (C1.2.2.2.2.1 _ h4) (by rw [hRe]; exact hf) (by rw [hRe]; exact hlo) (by rw [hRe]; exact hc) (by rw [hRe]; exact hs) d (kk p1 e R s0 m args below meth c H locs ls C1 hP hS hl)
theorem v_minI {idx : Nat} {x y : Int32} (h1 : Cond.methodLink Y.1 idx Lib.Math.min.name ∈ lw_all) (h2 : Cond.static Lib.Math.min.name ∈ lw_all) (h3 : Cond.initialized "java/lang/Math" ∈ lw_all) (h4 : Cond.code Lib.Math.min.name Lib.Math.min.code 2 (some .int) ∈ lw_all) (hf : 1 ≤ Y.2.2.2.1.frames) (hlo : (rest.map fun v => v.category).sum + 13 ≤ Y.2.2.2.1.locals) (hc : ck ≤ Y.2.2.2.1.cells) (hs : cn ≤ Y.2.2.2.1.slots) (d : decode cc pc = .ok (.invokestatic idx, 3)) (kk : tt_V X cc Y Q (pc + 3) lv (.int (if y < x then y else x) :: rest) lc s ck cn) : tt_V X cc Y Q pc lv (.int y :: .int x :: rest) lc s ck cn := by
  intro p1 e R s0 m args below meth c H locs ls C1 hP hS hl
  have hRe : R = Y.2.2.2.1 := C1.2.2.2.2.2.2.2.1
  exact va_mmin C1.1 C1.2.1 (C1.2.2.1.trans hl.1.symm) C1.2.2.2.1 (C1.2.2.2.2.1 _ h1) (C1.2.2.2.2.1 _ h2) (C1.2.2.2.2.1 _ h3) (C1.2.2.2.2.1 _ h4) (by rw [hRe]; exact hf) (by rw [hRe]; exact hlo) (by rw [hRe]; exact hc) (by rw [hRe]; exact hs) d (kk p1 e R s0 m args below meth c H locs ls C1 hP hS hl)
end VROWS4
set_option maxRecDepth 100000
/-! places that may hold nothing; interface calls; casts; stores of references -/
/-- a place that must hold something -/
def unO {β : Type} (o : Option Nat) (n : Nat) (k : Nat → Option β) : Option β := match o with
  | none => none
  | some t => if t < n then k t else none
/-- a place that may hold nothing -/
def csO {β : Type} (o : Option Nat) (n : Nat) (a : Option β) (k : Nat → Option β) : Option β := match o with
  | none => a
  | some t => if t < n then k t else none
theorem Ok.unO {β : Type} {o : Option Nat} {n : Nat} {k : Nat → Option β} {K : β → Prop} (h : Ok (unO o n k) K) : ∃ t, o = some t ∧ t < n ∧ Ok (k t) K := by
  cases o with
  | none => obtain ⟨r, h1, -⟩ := h; cases h1
  | some t => exact ⟨t, rfl, Ok.guard h⟩
theorem Ok.csO {β : Type} {o : Option Nat} {n : Nat} {a : Option β} {k : Nat → Option β} {K : β → Prop} (h : Ok (csO o n a k) K) : (o = none ∧ Ok a K) ∨ ∃ t, o = some t ∧ t < n ∧ Ok (k t) K := by
  cases o with
  | none => exact Or.inl ⟨rfl, h⟩
  | some t => exact Or.inr ⟨t, rfl, Ok.guard h⟩
section VROWS5
variable {σ : Type} {X : tt_X σ} {cc : ByteArray} {Y : tt_Y} {Q : tt_Fin} {pc : Nat} {lv : List (Nat × Value)} {rest : List Value} {lc : Nat → Nat → Nat} {s : σ} {ck cn : Nat}
theorem v_null (d : decode cc pc = .ok (.aconst_null, 1)) (kk : tt_V X cc Y Q (pc + 1) lv (.null :: rest) lc s ck cn) : tt_V X cc Y Q pc lv rest lc s ck cn :=
  fun p e R s0 m args below meth c H locs ls C hP hS hl => lv_null C.1 C.2.1 d (kk p e R s0 m args below meth c H locs ls C hP hS hl)
theorem v_aload_nN {kF : Fin 4} (q : Nat) (d : decode cc pc = .ok (.aload_n kF, 1)) (hk : lv[q]? = some ((kF : Nat), .null)) (kk : tt_V X cc Y Q (pc + 1) lv (.null :: rest) lc s ck cn) : tt_V X cc Y Q pc lv rest lc s ck cn :=
  fun p e R s0 m args below meth c H locs ls C hP hS hl => lv_aload_nN C.1 C.2.1 d rfl (lv_at hl q hk) (kk p e R s0 m args below meth c H locs ls C hP hS hl)
theorem v_aloadN {i : Nat} (q : Nat) (d : decode cc pc = .ok (.aload i, 2)) (hk : lv[q]? = some (i, .null)) (kk : tt_V X cc Y Q (pc + 2) lv (.null :: rest) lc s ck cn) : tt_V X cc Y Q pc lv rest lc s ck cn :=
  fun p e R s0 m args below meth c H locs ls C hP hS hl => lv_aloadN C.1 C.2.1 d (lv_at hl q hk) (kk p e R s0 m args below meth c H locs ls C hP hS hl)
theorem v_astore_nN {kF : Fin 4} (lv' : List (Nat × Value)) (d : decode cc pc = .ok (.astore_n kF, 1)) (hn : (kF : Nat) < Y.2.1) (hl' : ((kF : Nat), Value.null) :: lv.filter (fun q => !(q.1 == (kF : Nat)) && !(q.1 + 1 == (kF : Nat) && q.2.category == 2)) = lv') (kk : tt_V X cc Y Q (pc + 1) lv' rest lc s ck cn) : tt_V X cc Y Q pc lv (.null :: rest) lc s ck cn :=
  fun p e R s0 m args below meth c H locs ls C hP hS hl => lv_astore_nN C.1 C.2.1 d rfl hl hn hl' (fun ls' hl => kk p e R s0 m args below meth c H locs ls' C hP hS hl)
theorem v_astoreN {i : Nat} (lv' : List (Nat × Value)) (d : decode cc pc = .ok (.astore i, 2)) (hn : i < Y.2.1) (hl' : (i, Value.null) :: lv.filter (fun q => !(q.1 == i) && !(q.1 + 1 == i && q.2.category == 2)) = lv') (kk : tt_V X cc Y Q (pc + 2) lv' rest lc s ck cn) : tt_V X cc Y Q pc lv (.null :: rest) lc s ck cn :=
  fun p e R s0 m args below meth c H locs ls C hP hS hl => lv_astoreN C.1 C.2.1 d hl hn hl' (fun ls' hl => kk p e R s0 m args below meth c H locs ls' C hP hS hl)
theorem v_ifnull {x : Nat} {off : Int} (d : decode cc pc = .ok (.ifnull off, 3)) (kk : tt_V X cc Y Q (pc + 3) lv rest lc s ck cn) : tt_V X cc Y Q pc lv (.ref x :: rest) lc s ck cn :=
  fun p e R s0 m args below meth c H locs ls C hP hS hl => lv_ifnull C.1 C.2.1 d (kk p e R s0 m args below meth c H locs ls C hP hS hl)
theorem v_ifnullN {off : Int} {tgt : Nat} (d : decode cc pc = .ok (.ifnull off, 3)) (ht : (pc : Int) + off = (tgt : Int)) (kk : tt_V X cc Y Q tgt lv rest lc s ck cn) : tt_V X cc Y Q pc lv (.null :: rest) lc s ck cn :=
  fun p e R s0 m args below meth c H locs ls C hP hS hl => lv_ifnullN C.1 C.2.1 d ht (kk p e R s0 m args below meth c H locs ls C hP hS hl)
theorem v_ifnonnull {x : Nat} {off : Int} {tgt : Nat} (d : decode cc pc = .ok (.ifnonnull off, 3)) (ht : (pc : Int) + off = (tgt : Int)) (kk : tt_V X cc Y Q tgt lv rest lc s ck cn) : tt_V X cc Y Q pc lv (.ref x :: rest) lc s ck cn :=
  fun p e R s0 m args below meth c H locs ls C hP hS hl => lv_ifnonnull C.1 C.2.1 d ht (kk p e R s0 m args below meth c H locs ls C hP hS hl)
theorem v_ifnonnullN {off : Int} (d : decode cc pc = .ok (.ifnonnull off, 3)) (kk : tt_V X cc Y Q (pc + 3) lv rest lc s ck cn) : tt_V X cc Y Q pc lv (.null :: rest) lc s ck cn :=
  fun p e R s0 m args below meth c H locs ls C hP hS hl => lv_ifnonnullN C.1 C.2.1 d (kk p e R s0 m args below meth c H locs ls C hP hS hl)
theorem v_castN {idx : Nat} (d : decode cc pc = .ok (.checkcast idx, 3)) (kk : tt_V X cc Y Q (pc + 3) lv (.null :: rest) lc s ck cn) : tt_V X cc Y Q pc lv (.null :: rest) lc s ck cn :=
  fun p e R s0 m args below meth c H locs ls C hP hS hl => lv_castN C.1 C.2.1 d (kk p e R s0 m args below meth c H locs ls C hP hS hl)
/-- a cast to the object's own class -/
theorem v_castS {kd i ci idx N : Nat} {C : String} {T : u_T} {fs : List Value} (hV : xV X s kd i) (ho : tt_ent X lc s kd i = .inr (ci, fs)) (hc : (xC X)[ci]? = some (C, T, N)) (hlink : Cond.classLink Y.1 idx C ∈ lw_all) (d : decode cc pc = .ok (.checkcast idx, 3)) (kk : tt_V X cc Y Q (pc + 3) lv (.ref (lc kd i) :: rest) lc s ck cn) : tt_V X cc Y Q pc lv (.ref (lc kd i) :: rest) lc s ck cn := by
  intro p1 e R s0 m args below meth c H locs ls C1 hP hS hl
  have hat := (hP.1 kd i hV).1
  rw [ho] at hat
  have hP1 : va_P (xD X) (xC X) [(lc kd i, .inr (ci, fs))] H := fun k q hq => by
    match k, hq with
    | 0, hq => cases hq; exact hat
    | k + 1, hq => simp at hq
  exact va_castS C1.1 C1.2.1 C1.2.2.2.1 (C1.2.2.2.2.1 _ hlink) (C1.2.2.2.2.2.2.2.2.1.1.1 ci _ hc).2 (va_recv C1.2.2.2.2.2.2.2.2.1.1 hP1 (q0 := 0) hc rfl) d (kk p1 e R s0 m args below meth c H locs ls C1 hP hS hl)
/-- a cast to an interface or a superclass -/
theorem v_castY {kd i ci idx N : Nat} {C nm : String} {T : u_T} {fs : List Value} (hKN : ∀ U, xK X U → tt_KN U) (hV : xV X s kd i) (ho : tt_ent X lc s kd i = .inr (ci, fs)) (hc : (xC X)[ci]? = some (C, T, N)) (hlink : Cond.classLink Y.1 idx nm ∈ lw_all) (hca : Cond.castable C nm ∈ lw_tbl) (d : decode cc pc = .ok (.checkcast idx, 3)) (kk : tt_V X cc Y Q (pc + 3) lv (.ref (lc kd i) :: rest) lc s ck cn) : tt_V X cc Y Q pc lv (.ref (lc kd i) :: rest) lc s ck cn := by
  intro p1 e R s0 m args below meth c H locs ls C1 hP hS hl
  have hat := (hP.1 kd i hV).1
  rw [ho] at hat
  have hP1 : va_P (xD X) (xC X) [(lc kd i, .inr (ci, fs))] H := fun k q hq => by
    match k, hq with
    | 0, hq => cases hq; exact hat
    | k + 1, hq => simp at hq
  have hk : tt_KN s0 := hKN _ C1.2.2.2.2.2.2.2.2.1.2
  exact va_castY C1.1 C1.2.1 C1.2.2.2.1 (C1.2.2.2.2.1 _ hlink) (hk _ hca rfl) (va_recv C1.2.2.2.2.2.2.2.2.1.1 hP1 (q0 := 0) hc rfl) d (kk p1 e R s0 m args below meth c H locs ls C1 hP hS hl)
theorem v_aret0 {v : Value} {C : String} (hv : v = .null ∨ ∃ a, v = .ref a) {Qr : Option Value → (Nat → Nat → Nat) → σ → Prop} (hr : Y.2.2.1 = some (.object C)) (h1 : ck ≤ Y.2.2.2.1.cells) (h2 : cn ≤ Y.2.2.2.1.slots) (d : decode cc pc = .ok (.areturn, 1)) (h : Qr (some v) lc s) : tt_V X cc Y (tt_fn X Y Qr) pc lv [v] lc s ck cn := by
  intro p1 e R s0 m args below meth c H locs ls C1 hP hS hl
  have hlk : meth.locks = false := C1.2.2.2.2.2.2.1
  exact W.widen h1 h2 (W.aret C1.1 C1.2.1 (C1.2.2.2.2.2.1.trans hr) (.inl ⟨_, rfl⟩) hv (fun t ht hW => ⟨⟨_, lc, s, rfl, h, by rw [ht]; exact hP⟩, hS.F ht⟩) hS.2.2 d)
/-- a null into an array of references -/
theorem v_aastN {s' : σ} {kd i t n : Nat} {cA : ClassId} {C : String} {f : Nat → Option Nat} {j : Int32} (hV : xV X s kd i) (ho : tt_ent X lc s kd i = .inl (cA, n, .inr (.inr (.inr (.inr f))))) (ho' : tt_ent X lc s' kd i = .inl (cA, n, .inr (.inr (.inr (.inr (va_up f j.toNatClampNeg none)))))) (hoth : ∀ kd' i', ¬ (kd' = kd ∧ i' = i) → tt_ent X lc s' kd' i' = tt_ent X lc s kd' i') (hlv : ∀ kd i, xV X s' kd i → xV X s kd i) (ht : (xT X)[t]? = some (cA, .object C)) (hin : inB j n = true) (d : decode cc pc = .ok (.aastore, 1))
    (kk : tt_V X cc Y Q (pc + 1) lv rest lc s' ck cn) : tt_V X cc Y Q pc lv (.null :: .int j :: .ref (lc kd i) :: rest) lc s ck cn := by
  intro p1 e R s0 m args below meth c H locs ls C1 hP hS hl
  have hat := (hP.1 kd i hV).1
  rw [ho] at hat
  refine va_WaastN (C := C) C1.1 C1.2.1 hat ((C1.2.2.2.2.2.2.2.2.1.1.2 t _ ht).1 n (fun j => va_rf (f j))) (fun h => by cases h) (by show ¬ (j < 0 ∨ (arrV _ _ _).slots.size ≤ _); rw [arrV_size]; exact inB_vp hin) rfl rfl d fun H1 e1 z oq => ?_
  refine kk p1 e R s0 m args below meth c H1 _ ls C1 (hP.put hV ?_ hoth hlv oq) (hS.put z oq (hP.1 kd i hV).2) hl
  rw [ho']
  show H1[lc kd i]? = some (vp_cell _ _)
  rw [e1, vp_cell_q, vp_cell_q, arrV_store]
  congr 2
  funext q
  by_cases hq : q = j.toNatClampNeg
  · subst hq
    simp [updV, va_up, va_rf]
  · simp [updV, va_up, hq]
/-- an object into an array of references -/
theorem v_aast {s' : σ} {kd i t n kv iv ci N : Nat} {cA : ClassId} {C E : String} {T : u_T} {fs : List Value} {f : Nat → Option Nat} {j : Int32} (hV : xV X s kd i) (ho : tt_ent X lc s kd i = .inl (cA, n, .inr (.inr (.inr (.inr f))))) (ho' : tt_ent X lc s' kd i = .inl (cA, n, .inr (.inr (.inr (.inr (va_up f j.toNatClampNeg (some (lc kv iv)))))))) (hoth : ∀ kd' i', ¬ (kd' = kd ∧ i' = i) → tt_ent X lc s' kd' i' = tt_ent X lc s kd' i') (hlv : ∀ kd i, xV X s' kd i → xV X s kd i) (ht : (xT X)[t]? = some (cA, .object E))
    (hVv : xV X s kv iv) (hov : tt_ent X lc s kv iv = .inr (ci, fs)) (hc : (xC X)[ci]? = some (C, T, N)) (hca : C = E ∨ ((∀ U, xK X U → tt_KN U) ∧ Cond.castable C E ∈ lw_tbl)) (hin : inB j n = true) (d : decode cc pc = .ok (.aastore, 1))
    (kk : tt_V X cc Y Q (pc + 1) lv rest lc s' ck cn) : tt_V X cc Y Q pc lv (.ref (lc kv iv) :: .int j :: .ref (lc kd i) :: rest) lc s ck cn := by
  intro p1 e R s0 m args below meth c H locs ls C1 hP hS hl
  have hat := (hP.1 kd i hV).1
  rw [ho] at hat
  have hatv := (hP.1 kv iv hVv).1
  rw [hov] at hatv
  obtain ⟨r', hr', cellV, g1, g2, g3, -⟩ := hatv
  have hcls := (C1.2.2.2.2.2.2.2.2.1.1.1 ci _ hc).2
  obtain ⟨kA, comp, k1, k2, k3, -⟩ := (C1.2.2.2.2.2.2.2.2.1.1.2 t _ ht).2
  obtain ⟨kE, hkE, -⟩ := Vm.findClass_spec k3
  have hcast : s0.vm.assignable ((xD X).1 ci) comp = true := by
    rcases hca with h | ⟨hKN, h⟩
    · subst h
      cases hcls.1.symm.trans k3
      exact va_assign hcls
    · obtain ⟨c0, t1, f1, f2, f3⟩ := Cond.castable_spec (va_Nw.use (A := args) rfl (hKN _ C1.2.2.2.2.2.2.2.2.1.2 _ h rfl))
      cases hcls.1.symm.trans f1
      cases k3.symm.trans f2
      exact f3
  obtain ⟨kC, hkC, -⟩ := hcls.2
  refine W.aast C1.1 C1.2.1 hat (fun q h => by cases h) (fun h => by cases h) k1 k2 rfl hkE ⟨fun q => inB_vp hin (Or.inl q), by show _ < (arrV _ _ _).slots.size; rw [arrV_size]; exact inB_lt hin⟩ g1 (fun q h => by rw [g3] at h; cases h) (by rw [g2]; exact hkC) (by rw [g2]; exact hcast) rfl rfl d fun H1 e1 z oq => ?_
  refine kk p1 e R s0 m args below meth c H1 _ ls C1 (hP.put hV ?_ hoth hlv oq) (hS.put z oq (hP.1 kd i hV).2) hl
  rw [ho']
  show H1[lc kd i]? = some (vp_cell _ _)
  rw [e1, vp_cell_q, vp_cell_q, arrV_store]
  congr 2
  funext q
  by_cases hq : q = j.toNatClampNeg
  · subst hq
    simp [updV, va_up, va_rf]
  · simp [updV, va_up, hq]
theorem tt_after5 {p1 : Program} {l : Launch} {e : Env} {R : Room} {s0 : State} {m : MethodId} {args : Array Value} {below : List Frame} {meth : Method} {c : Code} {H : Heap} {locs : List Loc} {mc ms : Nat} {ls : Array Slot} {st0 : List Value} {a : Array Value} {Q' : Option Value → (Nat → Nat → Nat) → σ → Prop} {Q0 : State → Prop}
    (hr : va_Run5 p1 l e R s0 m args below meth c H locs ck cn mc ms (F0 m pc ls st0) rest (tt_Q X Q' a) (xA X)) (hS : va_S (xA X) s0.heap H locs)
    (kk : ∀ (v : Option Value) (lc' : Nat → Nat → Nat) (s' : σ) (H1 : Heap) (locs1 : List Loc), Q' v lc' s' → tt_Pic X lc' s' H1 → va_S (xA X) s0.heap H1 locs1 → W p1 l e R s0 m args below meth c H1 locs1 (ck + mc) (cn + ms) Q0 (F0 m (pc + 5) ls (v.toList ++ rest))) : W p1 l e R s0 m args below meth c H locs ck cn Q0 (F0 m pc ls st0) := by
  intro T hT X1
  obtain ⟨v, st₀, t, T', L, h0, X', hL, e1, e2, ⟨⟨v', lc', s', hv, hq, hp⟩, hz, hk⟩, st⟩ := hr T hT X1
  cases hv
  rw [h0] at hz hk
  obtain ⟨t2, a1, b1⟩ := kk v lc' s' T'.heap (locs ++ L) hq (by rw [e1]; exact hp)
    ⟨Nat.le_trans hS.1 (by rw [e1]; exact hz), fun q h1 h2 => by rw [e1, hk q (Nat.lt_of_lt_of_le h1 hS.1) h2]; exact hS.2.1 q h1 h2, fun q hq => by
      rcases List.mem_append.mp hq with h | h
      · exact hS.2.2 q h
      · exact hL q h⟩ T' rfl X'
  exact ⟨t2, st t2 a1, b1⟩
/-- a call through an interface; the object's class is known -/
theorem v_callF {x y : MethodName} {C : String} {bytes : ByteArray} {maxL idx cnt nA kd i ci : Nat} {ret : Option FieldType} {rm : Room} {As : List Value} {Q' : Option Value → (Nat → Nat → Nat) → σ → Prop} {T : u_T} {N : Nat} {fs : List Value} (hF : ∀ U, xK X U → va_Fw C x y U) (hV : xV X s kd i) (ho : tt_ent X lc s kd i = .inr (ci, fs)) (hc : (xC X)[ci]? = some (C, T, N))
    (sp : tt_Sp X y bytes maxL ret rm (.ref (lc kd i) :: As) lc s Q') (hT : GoodIn lw_all (va_wsF Y.1 idx C x y (ws_ y bytes maxL ret))) (hd : x.cls ≠ "java/lang/invoke/MethodHandle" ∧ x.cls ≠ "java/lang/invoke/VarHandle" ∧ (parseMethodDescriptor x.desc).map (fun d => d.parameters.length) = some nA)
    (hn : As.length = nA) (hR : rm.frames + 1 ≤ Y.2.2.2.1.frames ∧ 8 + (maxL + 11) + rm.locals ≤ Y.2.2.2.1.locals) (hW : (rest.map fun v => v.category).sum ≤ 8) (hf : ck + rm.cells ≤ Y.2.2.2.1.cells ∧ cn + rm.slots ≤ Y.2.2.2.1.slots) (d : decode cc pc = .ok (.invokeinterface idx cnt, 5)) {st : List Value} (hst : st = As.reverse ++ .ref (lc kd i) :: rest)
    (kk : ∀ v lc' s', Q' v lc' s' → tt_V X cc Y Q (pc + 5) lv (v.toList ++ rest) lc' s' (ck + rm.cells) (cn + rm.slots)) : tt_V X cc Y Q pc lv st lc s ck cn := by
  intro p1 e R s0 m args below meth c H locs ls C1 hP hS hl
  have hat := (hP.1 kd i hV).1
  rw [ho] at hat
  have hP1 : va_P (xD X) (xC X) [(lc kd i, .inr (ci, fs))] H := fun k q hq => by
    match k, hq with
    | 0, hq => cases hq; exact hat
    | k + 1, hq => simp at hq
  have hRe : R = Y.2.2.2.1 := C1.2.2.2.2.2.2.2.1
  have run := va_runF (R := R) (l := X.1) (p := p1) (e := e) (below := below) (meth := meth) (locs := locs) (cells := ck) (slots := cn) (H := H) (g := F0 m pc ls st) (As := As) (rest := rest) (b := lc kd i) (C1.2.2.2.2.2.2.2.2.1.1.1 ci _ hc).2 ⟨C1.1, C1.2.1, C1.2.2.1, C1.2.2.2.1, C1.2.2.2.2.1⟩ sp (va_cwF nA C1.2.2.2.2.1 hT rfl rfl rfl (hF _ C1.2.2.2.2.2.2.2.2.1.2) hd (by rw [hRe]; exact hR)) ⟨tt_blind C1.2.2.2.2.2.2.2.2.2.1, va_recv C1.2.2.2.2.2.2.2.2.1.1 hP1 (q0 := 0) hc rfl, fun U hU hW => ⟨rfl, by rw [hU]; exact hP, tt_K.moved C1.2.2.2.2.2.2.2.2.2.1 hW ⟨by rw [hU]; exact hS.1, fun q h1 h2 => by rw [hU]; exact hS.2.1 q h1 h2⟩ C1.2.2.2.2.2.2.2.2.1⟩⟩ rfl hn hl.1 hst (lv_room hW) d (by rw [hRe]; exact hf)
  exact tt_after5 run hS (fun v lc' s' H1 locs1 hq hp hs => kk v lc' s' hq p1 e R s0 m args below meth c H1 locs1 ls C1 hp hs hl)
/-- a call of an abstract method, by the receiver's class -/
theorem v_callA {x y : MethodName} {C owner : String} {bytes : ByteArray} {maxL idx nA kd i ci : Nat} {ret : Option FieldType} {rm : Room} {As : List Value} {Q' : Option Value → (Nat → Nat → Nat) → σ → Prop} {T : u_T} {N : Nat} {fs : List Value} (hKN : ∀ U, xK X U → tt_KN U) (hV : xV X s kd i) (ho : tt_ent X lc s kd i = .inr (ci, fs)) (hc : (xC X)[ci]? = some (C, T, N))
    (sp : tt_Sp X y bytes maxL ret rm (.ref (lc kd i) :: As) lc s Q') (hT : GoodIn lw_all (va_wsU Y.1 idx C owner x y (ws_ y bytes maxL ret))) (hz : Cond.declares ⟨owner, x.name, x.desc⟩ ∈ lw_tbl) (hd : owner ≠ "java/lang/invoke/MethodHandle" ∧ owner ≠ "java/lang/invoke/VarHandle" ∧ (parseMethodDescriptor x.desc).map (fun d => d.parameters.length) = some nA)
    (hn : As.length = nA) (hR : rm.frames + 1 ≤ Y.2.2.2.1.frames ∧ 8 + (maxL + 11) + rm.locals ≤ Y.2.2.2.1.locals) (hW : (rest.map fun v => v.category).sum ≤ 8) (hf : ck + rm.cells ≤ Y.2.2.2.1.cells ∧ cn + rm.slots ≤ Y.2.2.2.1.slots) (d : decode cc pc = .ok (.invokevirtual idx, 3)) {st : List Value} (hst : st = As.reverse ++ .ref (lc kd i) :: rest)
    (kk : ∀ v lc' s', Q' v lc' s' → tt_V X cc Y Q (pc + 3) lv (v.toList ++ rest) lc' s' (ck + rm.cells) (cn + rm.slots)) : tt_V X cc Y Q pc lv st lc s ck cn := by
  intro p1 e R s0 m args below meth c H locs ls C1 hP hS hl
  have hat := (hP.1 kd i hV).1
  rw [ho] at hat
  have hP1 : va_P (xD X) (xC X) [(lc kd i, .inr (ci, fs))] H := fun k q hq => by
    match k, hq with
    | 0, hq => cases hq; exact hat
    | k + 1, hq => simp at hq
  have hRe : R = Y.2.2.2.1 := C1.2.2.2.2.2.2.2.1
  have run := va_runU (R := R) (l := X.1) (p := p1) (e := e) (below := below) (meth := meth) (locs := locs) (cells := ck) (slots := cn) (H := H) (g := F0 m pc ls st) (As := As) (rest := rest) (b := lc kd i) ⟨C1.1, C1.2.1, C1.2.2.1, C1.2.2.2.1, C1.2.2.2.2.1⟩ sp (va_cwA nA C1.2.2.2.2.1 hT rfl rfl rfl (hKN _ C1.2.2.2.2.2.2.2.2.1.2 _ hz rfl) hd (by rw [hRe]; exact hR)) ⟨tt_blind C1.2.2.2.2.2.2.2.2.2.1, va_recv C1.2.2.2.2.2.2.2.2.1.1 hP1 (q0 := 0) hc rfl, fun U hU hW => ⟨rfl, by rw [hU]; exact hP, tt_K.moved C1.2.2.2.2.2.2.2.2.2.1 hW ⟨by rw [hU]; exact hS.1, fun q h1 h2 => by rw [hU]; exact hS.2.1 q h1 h2⟩ C1.2.2.2.2.2.2.2.2.1⟩⟩ rfl hn hl.1 hst (lv_room hW) d (by rw [hRe]; exact hf)
  exact tt_after run hS (fun v lc' s' H1 locs1 hq hp hs => kk v lc' s' hq p1 e R s0 m args below meth c H1 locs1 ls C1 hp hs hl)
end VROWS5
section VROWS6
variable {σ : Type} {X : tt_X σ} {cc : ByteArray} {Y : tt_Y} {Q : tt_Fin} {pc : Nat} {lv : List (Nat × Value)} {rest : List Value} {lc : Nat → Nat → Nat} {s : σ} {ck cn : Nat}
theorem v_astore_nO {kF : Fin 4} {o : Option Nat} (lv' : List (Nat × Value)) (d : decode cc pc = .ok (.astore_n kF, 1)) (hn : (kF : Nat) < Y.2.1) (hl' : ((kF : Nat), va_rf o) :: lv.filter (fun q => !(q.1 == (kF : Nat)) && !(q.1 + 1 == (kF : Nat) && q.2.category == 2)) = lv') (kk : tt_V X cc Y Q (pc + 1) lv' rest lc s ck cn) : tt_V X cc Y Q pc lv (va_rf o :: rest) lc s ck cn := by
  cases o with
  | none => exact v_astore_nN lv' d hn hl' kk
  | some a => exact v_astore_n lv' d hn hl' kk
theorem v_astoreO {i : Nat} {o : Option Nat} (lv' : List (Nat × Value)) (d : decode cc pc = .ok (.astore i, 2)) (hn : i < Y.2.1) (hl' : (i, va_rf o) :: lv.filter (fun q => !(q.1 == i) && !(q.1 + 1 == i && q.2.category == 2)) = lv') (kk : tt_V X cc Y Q (pc + 2) lv' rest lc s ck cn) : tt_V X cc Y Q pc lv (va_rf o :: rest) lc s ck cn := by
  cases o with
  | none => exact v_astoreN lv' d hn hl' kk
  | some a => exact v_astore lv' d hn hl' kk
theorem v_popO {o : Option Nat} (d : decode cc pc = .ok (.pop, 1)) (kk : tt_V X cc Y Q (pc + 1) lv rest lc s ck cn) : tt_V X cc Y Q pc lv (va_rf o :: rest) lc s ck cn := by
  cases o with
  | none => exact v_pop d rfl kk
  | some a => exact v_pop d rfl kk
theorem v_castO {kd ci idx N : Nat} {C : String} {T : u_T} {fs : Nat → List Value} {o : Option Nat} (hV : ∀ i, o = some i → xV X s kd i) (ho : ∀ i, tt_ent X lc s kd i = .inr (ci, fs i)) (hc : (xC X)[ci]? = some (C, T, N)) (hlink : Cond.classLink Y.1 idx C ∈ lw_all) (d : decode cc pc = .ok (.checkcast idx, 3)) (kk : tt_V X cc Y Q (pc + 3) lv (va_rf (o.map (lc kd)) :: rest) lc s ck cn) : tt_V X cc Y Q pc lv (va_rf (o.map (lc kd)) :: rest) lc s ck cn := by
  cases o with
  | none => exact v_castN d kk
  | some a => exact v_castS (hV a rfl) (ho a) hc hlink d kk
theorem Ok.stuck {α : Type} {Q : α → Prop} {P : Prop} (h : Ok (none : Option α) Q) : P := by
  obtain ⟨_, h1, -⟩ := h
  cases h1
end VROWS6
