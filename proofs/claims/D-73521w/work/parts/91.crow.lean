set_option maxRecDepth 100000
section CROW
variable {σ : Type} {X : tt_X σ} {cc : ByteArray} {Y : tt_Y} {Q : tt_Fin} {pc : Nat} {lv : List (Nat × Value)} {rest : List Value} {lc : Nat → Nat → Nat} {s : σ} {ck cn : Nat}
/-- a nest mate's constructor -/
theorem v_callIN {y : MethodName} {host : String} {bytes : ByteArray} {maxL idx nA a : Nat} {rm : Room} {As : List Value} {Q' : Option Value → (Nat → Nat → Nat) → σ → Prop} (hKN : ∀ U, xK X U → tt_KN U)
    (sp : tt_Sp X y bytes maxL none rm (.ref a :: As) lc s Q') (hG : GoodIn lw_all (ws_ y bytes maxL none)) (hl0 : Cond.methodLinkNest Y.1 idx y host ∈ lw_tbl) (hini : Cond.initialized y.cls ∈ lw_all) (hin : Cond.instanceMethod y ∈ lw_all) (hy1 : y.name = "<init>") (hd : y.cls ≠ "java/lang/invoke/MethodHandle" ∧ y.cls ≠ "java/lang/invoke/VarHandle" ∧ (parseMethodDescriptor y.desc).map (fun d => d.parameters.length) = some nA)
    (hn : As.length = nA) (hR : rm.frames + 1 ≤ Y.2.2.2.1.frames ∧ 8 + (maxL + 11) + rm.locals ≤ Y.2.2.2.1.locals) (hW : (rest.map fun v => v.category).sum ≤ 8) (hf : ck + rm.cells ≤ Y.2.2.2.1.cells ∧ cn + rm.slots ≤ Y.2.2.2.1.slots) (d : decode cc pc = .ok (.invokespecial idx, 3)) {st : List Value} (hst : st = As.reverse ++ .ref a :: rest)
    (kk : ∀ v lc' s', Q' v lc' s' → tt_V X cc Y Q (pc + 3) lv (v.toList ++ rest) lc' s' (ck + rm.cells) (cn + rm.slots)) : tt_V X cc Y Q pc lv st lc s ck cn := by
  intro p1 e R s0 m args below meth c H locs ls C1 hP hS hl
  have hRe : R = Y.2.2.2.1 := C1.2.2.2.2.2.2.2.1
  have hk : tt_KN s0 := hKN _ C1.2.2.2.2.2.2.2.2.1.2
  have run := va_runIN (R := R) (l := X.1) (p := p1) (e := e) (below := below) (meth := meth) (locs := locs) (cells := ck) (slots := cn) (H := H) (g := F0 m pc ls st) (As := As) (rest := rest) (b := a) ⟨C1.1, C1.2.1, C1.2.2.1, C1.2.2.2.1, C1.2.2.2.2.1⟩ sp ⟨va_cnB nA C1.2.2.2.2.1 hG rfl rfl rfl (hk _ hl0 rfl) (C1.2.2.2.2.1 _ hini) hd (by rw [hRe]; exact hR), hy1, C1.2.2.2.2.1 _ hin⟩ ⟨tt_blind C1.2.2.2.2.2.2.2.2.2.1, fun U hU hW => ⟨rfl, by rw [hU]; exact hP, tt_K.moved C1.2.2.2.2.2.2.2.2.2.1 hW ⟨by rw [hU]; exact hS.1, fun q h1 h2 => by rw [hU]; exact hS.2.1 q h1 h2⟩ C1.2.2.2.2.2.2.2.2.1⟩⟩ rfl hn hl.1 hst (lv_room hW) d (by rw [hRe]; exact hf)
  exact tt_after run hS (fun v lc' s' H1 locs1 hq hp hs => kk v lc' s' hq p1 e R s0 m args below meth c H1 locs1 ls C1 hp hs hl)
theorem v_widen {st : List Value} {k n : Nat} (h1 : ck ≤ k) (h2 : cn ≤ n) (kk : tt_V X cc Y Q pc lv st lc s k n) : tt_V X cc Y Q pc lv st lc s ck cn :=
  fun p e R s0 m args below meth c H locs ls C hP hS hl => W.widen h1 h2 (kk p e R s0 m args below meth c H locs ls C hP hS hl)
end CROW
/-- a loop that makes c cells of d slots at each turn -/
theorem itr_loopK {ι α β γ : Type} {body : α → Option (α ⊕ β)} {a0 : α} {k : β → Option γ} {K : γ → Prop} {c d E1 E2 : Nat} {R : ι → Prop} {PV : ι → Nat → Nat → α → Prop} {PE : ι → β → Prop} (h : Ok ((itr body tt_fuel a0).bind k) K) (hx : ∀ b, Ok (k b) K → ∀ lc, R lc → PE lc b)
    (step : ∀ n a, Ok (body a) (fun r => ∀ lc, R lc → Sum.casesOn (motive := fun _ => Prop) r (fun a' => ∀ ck cn, ck + c * n ≤ E1 → cn + d * n ≤ E2 → PV lc ck cn a') (PE lc)) → ∀ lc, R lc → ∀ ck cn, ck + c * (n + 1) ≤ E1 → cn + d * (n + 1) ≤ E2 → PV lc ck cn a) : ∀ lc, R lc → ∀ ck cn, ck + c * 1000 ≤ E1 → cn + d * 1000 ≤ E2 → PV lc ck cn a0 := by
  have main : ∀ n a, Ok (itr body n a) (fun b => ∀ lc, R lc → PE lc b) → ∀ lc, R lc → ∀ ck cn, ck + c * n ≤ E1 → cn + d * n ≤ E2 → PV lc ck cn a := by
    intro n
    induction n with
    | zero => intro a h; obtain ⟨r, h1, -⟩ := h; cases h1
    | succ n ih =>
      intro a h
      refine step n a ?_
      unfold itr at h
      cases hb : body a with
      | none => rw [hb] at h; obtain ⟨r, h1, -⟩ := h; cases h1
      | some r =>
        rw [hb] at h
        refine ⟨r, rfl, fun lc hr => ?_⟩
        cases r with
        | inl a' => exact ih a' h lc hr
        | inr b => exact Ok.ret h lc hr
  exact main 1000 a0 ((Ok.bind h).mono hx)
theorem rdN_newM (s : tt_St) (k : Nat) : rdN (newM s) k = if k = 21 then rdN s 21 + 1 else if k = 22 then rdN s 22 + 12 else rdN s k := rfl
theorem rdI_newM (s : tt_St) (a b c : Nat) : rdI (newM s) a b c = if a = 22 ∧ rdN s 22 ≤ b ∧ b < rdN s 22 + 12 then 0 else rdI s a b c := rfl
theorem rdL_newM (s : tt_St) : rdL (newM s) = rdL s := rfl
theorem rdR_newM (s : tt_St) (a b c : Nat) : rdR (newM s) a b c = if a = 21 ∧ b = rdN s 21 then (if c < 12 then some (rdN s 22 + c) else none) else rdR s a b c := rfl
/-- the addresses behind it -/
def lcM (lc : Nat → Nat → Nat) (n1 n2 h0 : Nat) : Nat → Nat → Nat := fun k j => if k = 21 ∧ j = n1 then h0 else if k = 22 ∧ n2 ≤ j ∧ j < n2 + 12 then h0 + 1 + (j - n2) else lc k j
theorem lcM_old {lc : Nat → Nat → Nat} {s : tt_St} {h0 k j : Nat} (hv : lvC s k j) : lcM lc (rdN s 21) (rdN s 22) h0 k j = lc k j := by
  have h := hv.2
  unfold lcM
  rw [if_neg (fun q => by rw [q.1, q.2] at h; omega), if_neg (fun q => by rw [q.1] at h; omega)]
theorem outerC_eq (c : ClassId) (N h0 : Nat) : ∀ i, Jvm.Free.Multi.outerC c N h0 i = { cls := c, slots := (Jvm.Free.Multi.outerC c N h0 i).slots, vm := .none }
  | 0 => rfl
  | i + 1 => by
    show (Jvm.Free.Multi.outerC c N h0 i).setSlot i _ = { cls := c, slots := ((Jvm.Free.Multi.outerC c N h0 i).setSlot i _).slots, vm := .none }
    rw [outerC_eq c N h0 i]
    rfl
theorem outerC_arr (c : ClassId) (N h0 : Nat) : Jvm.Free.Multi.outerC c N h0 N = arrV c N (fun j => .ref (h0 + 1 + j)) := by
  have g := Jvm.Free.Multi.outerC_facts c N h0 N
  have hs : (Jvm.Free.Multi.outerC c N h0 N).slots = (arrV c N (fun j => Value.ref (h0 + 1 + j))).slots := by
    apply Array.ext_getElem?
    intro j
    by_cases hj : j < N
    · rw [Jvm.Free.Multi.outerC_slot c N h0 N j hj, if_pos hj, arrV_read _ _ hj]
    · rw [Array.getElem?_eq_none (by rw [g.2.2]; omega), Array.getElem?_eq_none (by rw [arrV_size]; omega)]
  rw [outerC_eq, hs]
  rfl
section CROW2
variable {l : Launch} {D : va_G} {dA : Nat → ClassId} {A : Nat → Prop} {pz b L : Nat} {xs : Nat → Int32} {lc : Nat → Nat → Nat} {s : tt_St} {cc : ByteArray} {Y : tt_Y} {Q : tt_Fin} {pc : Nat} {lv : List (Nat × Value)} {rest : List Value} {ck cn : Nat}
theorem picM {H H1 : Heap} (hok : okC s = true) (hP : tt_Pic (XC l D dA A pz b L xs) lc s H) (hA : ∀ q, H.size ≤ q → A q) (hold : ∀ q : Nat, q < H.size → H1[q]? = H[q]?) (hout : H1[H.size]? = some (arrV (dA 4) 12 (fun j => .ref (H.size + 1 + j)))) (hinn : ∀ j, j < 12 → H1[H.size + 1 + j]? = some (arrV (dA 0) 6 (fun _ => .int 0))) : tt_Pic (XC l D dA A pz b L xs) (lcM lc (rdN s 21) (rdN s 22) H.size) (newM s) H1 := by
  have hlt : ∀ k j, lvC s k j → lc k j < H.size := fun k j hv => (hP.1 k j hv).1.lt
  have cs : ∀ k j, lvC (newM s) k j → lvC s k j ∨ (k = 21 ∧ j = rdN s 21) ∨ (k = 22 ∧ rdN s 22 ≤ j ∧ j < rdN s 22 + 12) := by
    intro k j hv
    obtain ⟨h0, h1⟩ := hv
    rw [rdN_newM] at h1
    by_cases a1 : k = 21
    · rw [if_pos a1] at h1
      subst a1
      by_cases a2 : j = rdN s 21
      · exact Or.inr (Or.inl ⟨rfl, a2⟩)
      · exact Or.inl ⟨h0, by omega⟩
    · rw [if_neg a1] at h1
      by_cases a3 : k = 22
      · rw [if_pos a3] at h1
        subst a3
        by_cases a2 : rdN s 22 ≤ j
        · exact Or.inr (Or.inr ⟨rfl, a2, h1⟩)
        · exact Or.inl ⟨h0, by omega⟩
      · rw [if_neg a3] at h1
        exact Or.inl ⟨h0, h1⟩
  have ad : ∀ k j, (k = 22 ∧ rdN s 22 ≤ j ∧ j < rdN s 22 + 12) → lcM lc (rdN s 21) (rdN s 22) H.size k j = H.size + 1 + (j - rdN s 22) := by
    intro k j q
    unfold lcM
    rw [if_neg (fun z => by omega), if_pos q]
  have ad1 : lcM lc (rdN s 21) (rdN s 22) H.size 21 (rdN s 21) = H.size := by
    unfold lcM
    rw [if_pos ⟨rfl, rfl⟩]
  refine ⟨fun k j hv => ?_, fun k j k' j' hv hv' he => ?_⟩
  · rcases cs k j hv with q | ⟨rfl, rfl⟩ | q
    · have h1 := hP.1 k j q
      rw [lcM_old q]
      have he : tt_ent (XC l D dA A pz b L xs) (lcM lc (rdN s 21) (rdN s 22) H.size) (newM s) k j = tt_ent (XC l D dA A pz b L xs) lc s k j := by
        show EC dA _ (newM s) k j = EC dA lc s k j
        rw [EC_of (s := s) (fun c => ?_) (fun c => by rw [rdL_newM]) (fun c => ?_)]
        · exact EC_lc hok (fun k' j' hv' => lcM_old hv') q
        · rw [rdI_newM, if_neg (fun z => by have := q.2; rw [z.1] at this; omega)]
        · rw [rdR_newM, if_neg (fun z => by have := q.2; rw [z.1, z.2] at this; omega)]
      rw [he]
      exact ⟨h1.1.kept (hold _ h1.1.lt), h1.2⟩
    · rw [ad1]
      refine ⟨?_, hA _ (Nat.le_refl _)⟩
      show H1[H.size]? = some (vp_cell (dA 4) (12, .inr (.inr (.inr (.inr (gC (lcM lc (rdN s 21) (rdN s 22) H.size) (newM s) 21 (rdN s 21)))))))
      rw [hout, vp_cell_q]
      congr 1
      unfold arrV
      congr 1
      apply Array.ext
      · simp
      · intro i h1 h2
        simp only [Array.getElem_ofFn]
        simp only [Array.size_ofFn] at h1
        unfold gC
        rw [if_pos (by omega), rdR_newM, if_pos ⟨rfl, rfl⟩, if_pos h1]
        show Value.ref (H.size + 1 + i) = Value.ref (lcM lc (rdN s 21) (rdN s 22) H.size 22 (rdN s 22 + i))
        rw [ad 22 _ ⟨rfl, by omega, by omega⟩, show rdN s 22 + i - rdN s 22 = i by omega]
    · rw [ad k j q]
      obtain ⟨rfl, q1, q2⟩ := q
      refine ⟨?_, hA _ (by omega)⟩
      show H1[H.size + 1 + (j - rdN s 22)]? = some (vp_cell (dA 0) (6, .inl (rdI (newM s) 22 j)))
      rw [hinn _ (by omega), vp_cell_i]
      rw [show rdI (newM s) 22 j = fun _ => 0 from funext fun c => by rw [rdI_newM, if_pos ⟨rfl, q1, q2⟩]]
  · rcases cs k j hv with q | ⟨rfl, rfl⟩ | q <;> rcases cs k' j' hv' with q' | ⟨rfl, rfl⟩ | q'
    · rw [lcM_old q, lcM_old q'] at he
      exact hP.2 k j k' j' q q' he
    · rw [lcM_old q, ad1] at he
      have := hlt k j q
      omega
    · rw [lcM_old q, ad k' j' q'] at he
      have := hlt k j q
      omega
    · rw [lcM_old q', ad1] at he
      have := hlt k' j' q'
      omega
    · exact ⟨rfl, rfl⟩
    · rw [ad k' j' q', ad1] at he
      omega
    · rw [lcM_old q', ad k j q] at he
      have := hlt k' j' q'
      omega
    · rw [ad k j q, ad1] at he
      omega
    · rw [ad k j q, ad k' j' q'] at he
      exact ⟨q.1.trans q'.1.symm, by omega⟩
/-- new int[12][6] -/
theorem nC_m {idx : Nat} (hok : okC s = true) (hlink : Cond.classLink Y.1 idx "[[I" ∈ lw_all) (harr : Cond.arrayClass .int ∈ lw_all) (hf : ck + 13 ≤ Y.2.2.2.1.cells ∧ cn + 84 ≤ Y.2.2.2.1.slots) (d : decode cc pc = .ok (.multianewarray idx 2, 4))
    (kk : ∀ lc', tt_agc (XC l D dA A pz b L xs) s lc lc' → tt_V (XC l D dA A pz b L xs) cc Y Q (pc + 4) lv (.ref (lc' 21 (rdN s 21)) :: rest) lc' (newM s) (ck + 13) (cn + 84)) : tt_V (XC l D dA A pz b L xs) cc Y Q pc lv (.int 6 :: .int 12 :: rest) lc s ck cn := by
  intro p1 e R s0 m args below meth c H locs ls C1 hP hS hl T hT X1
  have hRe : R = Y.2.2.2.1 := C1.2.2.2.2.2.2.2.1
  have hK0 := C1.2.2.2.2.2.2.2.2.1
  have hw := C1.2.2.2.2.1
  obtain ⟨vm₁, cA, comp, hW1, hfA, hfC, hO, hI, X2, st⟩ := X1.multianewarray2F (ty := .int) (index := idx) C1.1 C1.2.2.2.1 (hw _ hlink) hK0.2.2.2 (hw _ harr) (g := F0 m pc ls (.int 6 :: .int 12 :: rest)) rfl (by rw [C1.2.1]; exact d) (n := 12) (k := 6) rfl (by decide) (by decide) (by decide) (by decide) (by decide) rfl rfl (by rw [hRe]; exact hf.1) (by rw [hRe]; exact hf.2)
  have e4 : cA = dA 4 := Option.some.inj (hfA.symm.trans (hK0.1.2 4 _ rfl).2)
  have e0 : comp = dA 0 := Option.some.inj (hfC.symm.trans (hK0.1.2 0 _ rfl).2)
  have hh : (T.setVm vm₁).heap = H := hT
  have f1 := Jvm.Free.Multi.fill_facts (T.setVm vm₁) cA comp 12 6 (.int 0) 12
  rw [hh] at f1
  have hout : (Jvm.Free.Multi.fill (T.setVm vm₁) cA comp 12 6 (.int 0) 12).heap[H.size]? = some (arrV (dA 4) 12 (fun j => .ref (H.size + 1 + j))) := by
    rw [f1.2.1, outerC_arr, e4]
  have hinn : ∀ j, j < 12 → (Jvm.Free.Multi.fill (T.setVm vm₁) cA comp 12 6 (.int 0) 12).heap[H.size + 1 + j]? = some (arrV (dA 0) 6 (fun _ => .int 0)) := fun j hj => by
    have g := Jvm.Free.Multi.fill_inner (T.setVm vm₁) cA comp 12 6 (.int 0) 12 j hj
    rw [hh] at g
    rw [g, ← e0, ← arrV_new]
    rfl
  have hold : ∀ q : Nat, q < H.size → (Jvm.Free.Multi.fill (T.setVm vm₁) cA comp 12 6 (.int 0) 12).heap[q]? = H[q]? := fun q hq => by
    rw [Jvm.Free.Multi.fill_old (T.setVm vm₁) cA comp 12 6 (.int 0) (by rw [hh]; exact hq) 12, hh]
  obtain ⟨t2, b1, b2⟩ := kk (lcM lc (rdN s 21) (rdN s 22) H.size) (fun k j hv => lcM_old hv) p1 e R s0 m args below meth c _ locs ls C1 (picM hok hP (fun q hq => kaC s0 hK0.2 q (Nat.le_trans hS.1 hq)) hold hout hinn) (hS.new (by rw [f1.1]; omega) hold) hl _ rfl X2
  refine ⟨t2, st t2 ?_, b2⟩
  have e9 : lcM lc (rdN s 21) (rdN s 22) H.size 21 (rdN s 21) = H.size := by
    unfold lcM
    rw [if_pos ⟨rfl, rfl⟩]
  rw [e9] at b1
  rw [hT]
  exact b1
end CROW2
