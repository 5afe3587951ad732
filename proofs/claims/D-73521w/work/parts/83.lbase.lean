set_option maxRecDepth 100000
/-! the law's world: TallTowers with its worlds, the model, the answer's cell, the script -/
abbrev tt_SL : Type := tt_S3 × tt_St × tt_St
def nTm (lc : Nat → Nat → Nat) : Nat → Nat → Nat := fun k i => lc (300 + k) i
def shE (n : Nat) : va_E → va_E
  | .inl x => .inl x
  | .inr o => .inr (o.1 + n, o.2)
def dMd (dA : Nat → ClassId) : Nat → ClassId := fun k => if k = 2 then dA 60 else dA k
def EL (dA : Nat → ClassId) (pz : Nat) : (Nat → Nat → Nat) → tt_SL → Nat → Nat → va_E := fun lc s kd i =>
  if kd < 300 then ET dA pz lc s.1 kd i else if kd < 400 then shE 14 (mkE (EM (dMd dA)) (nTm lc) s.2.1 (kd - 300) i) else .inl (dA 1, 1, .inr (.inl (rdL s.2.2 (kd - 400) i)))
def lvL (s : tt_SL) (kd i : Nat) : Prop := if kd < 300 then lvT s.1 kd i else if kd < 400 then lvM s.2.1 (kd - 300) i else kd = 400 ∧ i = 0
def clL : List vw_C := clT ++ [(RX11, TX11, 50)]
def tysL (dA : Nat → ClassId) : List (ClassId × FieldType) := tysT dA ++ [(dA 60, .boolean)]
/-- none of the three exceptions is one of the others -/
def tt_KE (U : State) : Prop := ∀ a b : Nat, a < 3 → b < 3 → a ≠ b → va_Nc (tt_exn a) (tt_exn b) U
def tt_KS (dA : Nat → ClassId) (A : Nat → Prop) (b L : Nat) (xs : Nat → Int32) (U : State) : Prop := tt_KT dA A U ∧ tt_KE U ∧ va_X b L xs U U.heap ∧ ¬ A b ∧ b < U.heap.size
def XL (l : Launch) (D : va_G) (dA : Nat → ClassId) (A : Nat → Prop) (pz b L : Nat) (xs : Nat → Int32) : tt_X tt_SL := (l, D, clL, tysL dA, EL dA pz, lvL, A, tt_KS dA A b L xs)
theorem tt_KT.moved {l : Launch} {D : va_G} {dA : Nat → ClassId} {A : Nat → Prop} {pz : Nat} {s U : State} (hW : s.WarmedH U.vm) (hh : s.heap.size ≤ U.heap.size ∧ ∀ q : Nat, q < s.heap.size → ¬ A q → U.heap[q]? = s.heap[q]?) (h : tt_KT dA A s) : tt_KT dA A U :=
  (kokT (l := l) (D := D) (dA := dA) (A := A) (pz := pz)).1 s U hW hh h
theorem tt_KT.narrow {dA : Nat → ClassId} {A B : Nat → Prop} {U : State} (hAB : ∀ q, B q → A q) (hB : ∀ q : Nat, U.heap.size ≤ q → B q) (h : tt_KT dA A U) : tt_KT dA B U := by
  obtain ⟨h1, h3, h4, h5, -⟩ := h
  exact ⟨h1, h3.narrow hAB, h4.narrow hAB, ⟨h5.1, h5.2.1, fun k a b => ⟨fun q => (h5.2.2 k a b).1 (hAB _ q), (h5.2.2 k a b).2⟩⟩, hB⟩
section LB
variable {l : Launch} {D : va_G} {dA : Nat → ClassId} {A : Nat → Prop} {pz b L : Nat} {xs : Nat → Int32} {lc : Nat → Nat → Nat} {s : tt_SL}
theorem kokL : tt_Kok (XL l D dA A pz b L xs) := by
  refine ⟨fun u U hW hh h => ?_, fun U g mk a h => ?_⟩
  · obtain ⟨h1, h2, h3, h4, h5⟩ := h
    exact ⟨tt_KT.moved (l := l) (D := D) (pz := pz) hW hh h1, fun i j hi hj hn => (h2 i j hi hj hn).moved hW.alike, (h3.moved hW.alike).kept (hh.2 b h5 h4), h4, Nat.lt_of_lt_of_le h5 hh.1⟩
  · obtain ⟨h1, h2, h3, h4, h5⟩ := h
    exact ⟨(kokT (l := l) (D := D) (dA := dA) (A := A) (pz := pz)).2 U g mk a h1, fun i j hi hj hn => (h2 i j hi hj hn).moved (u := U) (Vm.Alike.refl U.vm), h3.moved (u := U) (U := U.calling g mk a) (Vm.Alike.refl U.vm), h4, h5⟩
theorem knL : ∀ U, xK (XL l D dA A pz b L xs) U → tt_KN U := fun _ h => h.1.1.1
theorem lvT_lt {s : tt_S3} {kd i : Nat} (h : lvT s kd i) : kd < 300 := by
  unfold lvT at h
  by_cases h1 : kd < 100
  · omega
  · by_cases h2 : kd < 200
    · omega
    · rw [if_neg h1, if_neg h2] at h
      have := lvW_lt h
      omega
theorem xV_T {kd i : Nat} (h : kd < 300) : xV (XL l D dA A pz b L xs) s kd i = lvT s.1 kd i := by
  show lvL s kd i = _
  unfold lvL
  rw [if_pos h]
theorem xV_M {kd i : Nat} (h : kd < 100) : xV (XL l D dA A pz b L xs) s (300 + kd) i = lvM s.2.1 kd i := by
  show lvL s (300 + kd) i = _
  unfold lvL
  rw [if_neg (by omega), if_pos (by omega), show 300 + kd - 300 = kd by omega]
theorem eL_T {kd i : Nat} (h : kd < 300) : tt_ent (XL l D dA A pz b L xs) lc s kd i = ET dA pz lc s.1 kd i := by
  show EL dA pz lc s kd i = _
  unfold EL
  rw [if_pos h]
theorem eL_M {kd i : Nat} (h : kd < 100) : tt_ent (XL l D dA A pz b L xs) lc s (300 + kd) i = shE 14 (mkE (EM (dMd dA)) (nTm lc) s.2.1 kd i) := by
  show EL dA pz lc s (300 + kd) i = _
  unfold EL
  rw [if_neg (by omega), if_pos (by omega), show 300 + kd - 300 = kd by omega]
theorem clL_pre : ∀ (k : Nat) (r : vw_C), clT[k]? = some r → clL[k]? = some r := fun k r h => by
  unfold clL
  rw [List.getElem?_append_left (List.getElem?_eq_some_iff.mp h).1]
  exact h
theorem ET_cls {lc : Nat → Nat → Nat} {s : tt_S3} {kd i : Nat} : ∀ o, ET dA pz lc s kd i = .inr o → ∃ r, clT[o.1]? = some r := by
  intro o h
  unfold ET at h
  by_cases h1 : kd < 100
  · rw [if_pos h1] at h
    unfold mkE EO at h
    split at h <;> first | (cases h; exact ⟨_, rfl⟩) | cases h
  · rw [if_neg h1] at h
    by_cases h2 : kd < 200
    · rw [if_pos h2] at h
      obtain ⟨r, hr⟩ := EW_cls o h
      exact ⟨r, clT_pre _ _ hr⟩
    · rw [if_neg h2] at h
      obtain ⟨r, hr⟩ := EW_cls o h
      exact ⟨r, clT_pre _ _ hr⟩
theorem EM_cls {dA : Nat → ClassId} {lc : Nat → Nat → Nat} {w : tt_St} {kd i : Nat} : ∀ o, mkE (EM dA) lc w kd i = .inr o → o.1 = 0 := by
  intro o h
  unfold mkE EM at h
  split at h <;> first | (cases h; rfl) | cases h
theorem lvM_lt {w : tt_St} {kd i : Nat} (h : lvM w kd i) : kd < 100 ∧ i = 0 := by
  obtain ⟨h1, h2⟩ := h
  refine ⟨?_, h1⟩
  simp only [List.mem_cons, List.not_mem_nil, or_false] at h2
  omega
/-- the cells of TallTowers, and new ones -/
def aLT (A : Nat → Prop) (lc : Nat → Nat → Nat) (s : tt_SL) : Nat → Prop := fun q => A q ∧ ∀ kd i, 300 ≤ kd → lvL s kd i → q ≠ lc kd i
def aLM (lc : Nat → Nat → Nat) (s : tt_SL) : Nat → Prop := fun q => ∃ kd, lvM s.2.1 kd 0 ∧ q = lc (300 + kd) 0
theorem picT {H : Heap} (hp : tt_Pic (XL l D dA A pz b L xs) lc s H) : tt_Pic (XT l D dA (aLT A lc s) pz) lc s.1 H := by
  refine ⟨fun kd i hV => ?_, fun kd i kd' i' h1 h2 he => ?_⟩
  · have hV : lvT s.1 kd i := hV
    have hk := lvT_lt hV
    have h1 := hp.1 kd i (by rw [xV_T hk]; exact hV)
    rw [eL_T hk] at h1
    refine ⟨va_at_back clL_pre ET_cls h1.1, h1.2, fun kd' i' h3 h4 h5 => ?_⟩
    have := (hp.2 kd i kd' i' (by rw [xV_T hk]; exact hV) h4 h5).1
    omega
  · have a1 : lvT s.1 kd i := h1
    have a2 : lvT s.1 kd' i' := h2
    exact hp.2 kd i kd' i' (by rw [xV_T (lvT_lt a1)]; exact a1) (by rw [xV_T (lvT_lt a2)]; exact a2) he
theorem kT_L {U : State} (hp : tt_Pic (XL l D dA A pz b L xs) lc s U.heap) (h : tt_K (XL l D dA A pz b L xs) U) : tt_K (XT l D dA (aLT A lc s) pz) U := by
  refine ⟨⟨fun c q hq => h.1.1 c q (clL_pre c q hq), fun k q hk => h.1.2 k q ?_⟩, ?_⟩
  · show (tysT dA ++ _)[k]? = some q
    have hk' : (tysT dA)[k]? = some q := hk
    rw [List.getElem?_append_left (List.getElem?_eq_some_iff.mp hk').1]
    exact hk'
  · refine tt_KT.narrow (fun q hq => hq.1) (fun q hq => ⟨h.2.1.2.2.2.2 q hq, fun kd i h1 h2 h3 => ?_⟩) h.2.1
    have := (hp.1 kd i h2).1.lt
    have h4 : lc kd i < U.heap.size := this
    omega
/-- behind a call of TallTowers: its cells as the call left them, the others as they were -/
theorem picT_back {H H1 : Heap} {lc1 : Nat → Nat → Nat} {s1 : tt_S3} (hp : tt_Pic (XL l D dA A pz b L xs) lc s H) (hz : H.size ≤ H1.size) (hk : ∀ q : Nat, q < H.size → ¬ aLT A lc s q → H1[q]? = H[q]?) (ha : ∀ k j, 10 ≤ k → lc1 k j = lc k j) (hw : tt_Pic (XT l D dA (aLT A lc s) pz) lc1 s1 H1) : tt_Pic (XL l D dA A pz b L xs) lc1 (s1, s.2) H1 := by
  have hge : ∀ kd i, 300 ≤ kd → xV (XL l D dA A pz b L xs) (s1, s.2) kd i → xV (XL l D dA A pz b L xs) s kd i := fun kd i h0 h => by
    have h : lvL (s1, s.2) kd i := h
    show lvL s kd i
    unfold lvL at h ⊢
    rw [if_neg (by omega)] at h ⊢
    exact h
  have hlt : ∀ kd i, kd < 300 → xV (XL l D dA A pz b L xs) (s1, s.2) kd i → lvT s1 kd i := fun kd i h0 h => by
    rw [xV_T h0] at h
    exact h
  refine ⟨fun kd i hV => ?_, fun kd i kd' i' h1 h2 he => ?_⟩
  · by_cases h0 : kd < 300
    · have h1 := hw.1 kd i (hlt kd i h0 hV)
      rw [eL_T h0]
      exact ⟨va_at_mono clL_pre h1.1, h1.2.1⟩
    · have hV0 := hge kd i (by omega) hV
      have h1 := hp.1 kd i hV0
      rw [ha kd i (by omega)]
      have he : tt_ent (XL l D dA A pz b L xs) lc1 (s1, s.2) kd i = tt_ent (XL l D dA A pz b L xs) lc s kd i := by
        show EL dA pz lc1 (s1, s.2) kd i = EL dA pz lc s kd i
        unfold EL
        rw [if_neg h0, if_neg h0, show nTm lc1 = nTm lc from funext fun k => funext fun j => ha _ _ (by omega)]
      rw [he]
      exact ⟨h1.1.kept (hk _ h1.1.lt (fun q => q.2 kd i (by omega) hV0 rfl)), h1.2⟩
  · by_cases h0 : kd < 300 <;> by_cases h0' : kd' < 300
    · exact hw.2 kd i kd' i' (hlt kd i h0 h1) (hlt kd' i' h0' h2) he
    · exfalso
      have g := (hw.1 kd i (hlt kd i h0 h1)).2
      rw [ha kd' i' (by omega)] at he
      exact g.2 kd' i' (by omega) (hge kd' i' (by omega) h2) he
    · exfalso
      have g := (hw.1 kd' i' (hlt kd' i' h0' h2)).2
      rw [ha kd i (by omega)] at he
      exact g.2 kd i (by omega) (hge kd i (by omega) h1) he.symm
    · rw [ha kd i (by omega), ha kd' i' (by omega)] at he
      exact hp.2 kd i kd' i' (hge kd i (by omega) h1) (hge kd' i' (by omega) h2) he
/-- a contract of TallTowers -/
theorem liftT {y : MethodName} {cc : ByteArray} {nl : Nat} {rt : Option FieldType} {rm : Room} {av : List Value} {Q : Option Value → (Nat → Nat → Nat) → tt_SL → Prop}
    (h : tt_Sp (XT l D dA (aLT A lc s) pz) y cc nl rt rm av lc s.1 (fun v lc' w => tt_agr (XT l D dA (aLT A lc s) pz) s.1 lc lc' ∧ Q v lc' (w, s.2))) : tt_Sp (XL l D dA A pz b L xs) y cc nl rt rm av lc s Q := by
  refine tt_Sp.lift (X := XT l D dA (aLT A lc s) pz) (X' := XL l D dA A pz b L xs) rfl h (fun U hp hk => ⟨picT hp, kT_L hp hk⟩) (fun U hp q hq => hq.1) (fun v lc1 s1 st t hp hF hq hw => ?_)
  exact ⟨lc1, (s1, s.2), hq.2, picT_back hp hF.1 hF.2 (fun k j hk => hq.1 k j (Or.inr hk)) hw⟩
end LB
theorem vx_Met.conseq {l : Launch} {y : MethodName} {ws : List Cond} {rm : Room} {Pc Pc' : Array Value → State → Prop} {Qc Qc' : Array Value → State → Outcome → State → Prop} {XC XC' : String → State → State → Prop} {mc ms : Nat} {free free' : Addr → Prop} (h : vx_Met l y ws rm Pc Qc XC mc ms free) (hP : ∀ a U, Pc' a U → Pc a U) (hQ : ∀ a st o t, Pc' a st → Qc a st o t → Qc' a st o t) (hX : ∀ a E st t, Pc' a st → XC E st t → XC' E st t) (hF : ∀ a U, Pc' a U → ∀ q, free q → free' q) : vx_Met l y ws rm Pc' Qc' XC' mc ms free' := by
  intro p e h1 h2 h3 s m args below h4 h5 h6 h7
  obtain ⟨n, o, a1, a2, a3, a4⟩ := h p e h1 h2 h3 s m args below h4 h5 (hP _ _ h6) h7
  refine ⟨n, o, a1, a2, a3, ?_⟩
  rcases a4 with ⟨b1, L, b2, b3⟩ | ⟨q, b1, E, ce, L, c1, c2, c3, c4, c5, c6, c7⟩
  · exact Or.inl ⟨hQ _ _ _ _ h6 b1, L, b2, fun q hq => hF _ _ h6 _ (b3 q hq)⟩
  · exact Or.inr ⟨q, b1, E, ce, L, hX _ _ _ _ h6 c1, c2, c3, c4, c5, c6, fun z hz => hF _ _ h6 _ (c7 z hz)⟩
theorem tt_SpX.lift {σ τ : Type} {X : tt_X τ} {X' : tt_X σ} (hl : X.1 = X'.1) {y : MethodName} {cc : ByteArray} {nl : Nat} {rt : Option FieldType} {rm : Room} {av : List Value} {lc lc' : Nat → Nat → Nat} {s : τ} {s' : σ} {Q : Option Value → (Nat → Nat → Nat) → τ → Prop} {Q' : Option Value → (Nat → Nat → Nat) → σ → Prop} {QX : String → (Nat → Nat → Nat) → τ → Prop} {QX' : String → (Nat → Nat → Nat) → σ → Prop} (h : tt_SpX X y cc nl rt rm av lc s Q QX)
    (hP : ∀ U : State, tt_Pic X' lc' s' U.heap → tt_K X' U → tt_Pic X lc s U.heap ∧ tt_K X U) (hA : ∀ U : State, tt_Pic X' lc' s' U.heap → ∀ q, xA X q → xA X' q)
    (hQ : ∀ v lc1 s1 (st t : State), tt_Pic X' lc' s' st.heap → va_F (xA X) st t → Q v lc1 s1 → tt_Pic X lc1 s1 t.heap → ∃ lc2 s2, Q' v lc2 s2 ∧ tt_Pic X' lc2 s2 t.heap)
    (hQX : ∀ E lc1 s1 (st t : State), tt_Pic X' lc' s' st.heap → va_F (xA X) st t → QX E lc1 s1 → tt_Pic X lc1 s1 t.heap → ∃ lc2 s2, QX' E lc2 s2 ∧ tt_Pic X' lc2 s2 t.heap) : tt_SpX X' y cc nl rt rm av lc' s' Q' QX' := by
  unfold tt_SpX at h ⊢
  rw [← hl]
  refine vx_Met.conseq h (fun a U q => ⟨q.1, hP U q.2.1 q.2.2⟩) (fun a st o t q r => ?_) (fun a E st t q r => ?_) (fun a U q => hA U q.2.1)
  · obtain ⟨⟨v, lc1, s1, e1, e2, e3⟩, f1, f2⟩ := r
    obtain ⟨lc2, s2, g1, g2⟩ := hQ v lc1 s1 st t q.2.1 ⟨f1, f2⟩ e2 e3
    exact ⟨⟨v, lc2, s2, e1, g1, g2⟩, f1, fun z h1 h2 => f2 z h1 (fun h3 => h2 (hA st q.2.1 z h3))⟩
  · obtain ⟨lc1, s1, e2, e3, f1, f2⟩ := r
    obtain ⟨lc2, s2, g1, g2⟩ := hQX E lc1 s1 st t q.2.1 ⟨f1, f2⟩ e2 e3
    exact ⟨lc2, s2, g1, g2, f1, fun z h1 h2 => f2 z h1 (fun h3 => h2 (hA st q.2.1 z h3))⟩
section LB2
variable {l : Launch} {D : va_G} {dA : Nat → ClassId} {A : Nat → Prop} {pz b L : Nat} {xs : Nat → Int32} {lc : Nat → Nat → Nat} {s : tt_SL}
theorem liftTX {y : MethodName} {cc : ByteArray} {nl : Nat} {rt : Option FieldType} {rm : Room} {av : List Value} {Q : Option Value → (Nat → Nat → Nat) → tt_SL → Prop} {QX : String → (Nat → Nat → Nat) → tt_SL → Prop}
    (h : tt_SpX (XT l D dA (aLT A lc s) pz) y cc nl rt rm av lc s.1 (fun v lc' w => tt_agr (XT l D dA (aLT A lc s) pz) s.1 lc lc' ∧ Q v lc' (w, s.2)) (fun E lc' w => tt_agr (XT l D dA (aLT A lc s) pz) s.1 lc lc' ∧ QX E lc' (w, s.2))) : tt_SpX (XL l D dA A pz b L xs) y cc nl rt rm av lc s Q QX := by
  refine tt_SpX.lift (X := XT l D dA (aLT A lc s) pz) (X' := XL l D dA A pz b L xs) rfl h (fun U hp hk => ⟨picT hp, kT_L hp hk⟩) (fun U hp q hq => hq.1) (fun v lc1 s1 st t hp hF hq hw => ?_) (fun E lc1 s1 st t hp hF hq hw => ?_)
  · exact ⟨lc1, (s1, s.2), hq.2, picT_back hp hF.1 hF.2 (fun k j hk => hq.1 k j (Or.inr hk)) hw⟩
  · exact ⟨lc1, (s1, s.2), hq.2, picT_back hp hF.1 hF.2 (fun k j hk => hq.1 k j (Or.inr hk)) hw⟩
/-- the model's classes stand at 14 in the law's list -/
def DM (D : va_G) : va_G := (fun k => D.1 (k + 14), fun k => D.2 (k + 14))
theorem atM {q : Nat} {e : va_E} {H : Heap} (h : va_at (DM D) [(RX11, TX11, 50)] (q, e) H) : va_at D clL (q, shE 14 e) H := by
  cases e with
  | inl x => exact h
  | inr o =>
    obtain ⟨r, h1, h2⟩ := h
    obtain ⟨c, fs⟩ := o
    match c, h1 with
    | 0, h1 => exact ⟨r, h1, h2⟩
    | c + 1, h1 => simp at h1
theorem atM_back {q : Nat} {e : va_E} {H : Heap} (hz : ∀ o, e = .inr o → o.1 = 0) (h : va_at D clL (q, shE 14 e) H) : va_at (DM D) [(RX11, TX11, 50)] (q, e) H := by
  cases e with
  | inl x => exact h
  | inr o =>
    obtain ⟨r, h1, h2⟩ := h
    obtain ⟨c, fs⟩ := o
    have : c = 0 := hz _ rfl
    subst this
    exact ⟨r, h1, h2⟩
theorem kM_L {U : State} {B : Nat → Prop} (h : tt_K (XL l D dA A pz b L xs) U) : tt_K (XM l (DM D) (dMd dA) B) U := by
  refine ⟨⟨fun c q hq => ?_, fun k q hk => ?_⟩, trivial⟩
  · match c, hq with
    | 0, hq => exact h.1.1 14 q hq
    | c + 1, hq => exact absurd (show ([] : List vw_C)[c]? = some q from hq) (by simp)
  · match k, hk with
    | 0, hk => exact h.1.2 0 q hk
    | 1, hk => exact h.1.2 1 q hk
    | 2, hk => exact h.1.2 10 q hk
    | k + 3, hk => exact absurd (show ([] : List (ClassId × FieldType))[k]? = some q from hk) (by simp)
/-- a contract of the model -/
theorem liftM {y : MethodName} {cc : ByteArray} {nl : Nat} {rt : Option FieldType} {rm : Room} {av : List Value} {Q : Option Value → (Nat → Nat → Nat) → tt_SL → Prop}
    (h : tt_Sp (XM l (DM D) (dMd dA) (aLM lc s)) y cc nl rt rm av (nTm lc) s.2.1 (fun v lc' w => lc' = nTm lc ∧ Q v lc (s.1, w, s.2.2))) : tt_Sp (XL l D dA A pz b L xs) y cc nl rt rm av lc s Q := by
  refine tt_Sp.lift (X := XM l (DM D) (dMd dA) (aLM lc s)) (X' := XL l D dA A pz b L xs) rfl h (fun U hp hk => ⟨⟨fun kd i hV => ?_, fun kd i kd' i' h1 h2 he => ?_⟩, kM_L hk⟩) (fun U hp q hq => ?_) (fun v lc1 s1 st t hp hF hq hw => ?_)
  · have hV : lvM s.2.1 kd i := hV
    have h1 := hp.1 (300 + kd) i (by rw [xV_M (lvM_lt hV).1]; exact hV)
    rw [eL_M (lvM_lt hV).1] at h1
    have hi := (lvM_lt hV).2
    subst hi
    exact ⟨atM_back EM_cls h1.1, kd, hV, rfl⟩
  · have a1 : lvM s.2.1 kd i := h1
    have a2 : lvM s.2.1 kd' i' := h2
    have := hp.2 (300 + kd) i (300 + kd') i' (by rw [xV_M (lvM_lt a1).1]; exact a1) (by rw [xV_M (lvM_lt a2).1]; exact a2) he
    exact ⟨by omega, this.2⟩
  · obtain ⟨kd, hV, rfl⟩ := hq
    exact (hp.1 (300 + kd) 0 (by rw [xV_M (lvM_lt hV).1]; exact hV)).2
  · obtain ⟨rfl, hq⟩ := hq
    have hlv : ∀ kd i, xV (XL l D dA A pz b L xs) (s.1, s1, s.2.2) kd i → xV (XL l D dA A pz b L xs) s kd i := fun kd i z => z
    refine ⟨lc, (s.1, s1, s.2.2), hq, fun kd i hV => ?_, fun a b c d h1 h2 => hp.2 a b c d (hlv _ _ h1) (hlv _ _ h2)⟩
    have hV0 := hlv kd i hV
    refine ⟨?_, (hp.1 kd i hV0).2⟩
    by_cases hr : 300 ≤ kd ∧ kd < 400
    · obtain ⟨k, rfl⟩ : ∃ k, kd = 300 + k := ⟨kd - 300, by omega⟩
      have hk : lvM s.2.1 k i := by
        have hV1 := hV0
        rw [xV_M (by omega)] at hV1
        exact hV1
      rw [eL_M (by omega)]
      exact atM (hw.1 k i hk).1
    · have he : tt_ent (XL l D dA A pz b L xs) lc (s.1, s1, s.2.2) kd i = tt_ent (XL l D dA A pz b L xs) lc s kd i := by
        show EL dA pz lc (s.1, s1, s.2.2) kd i = EL dA pz lc s kd i
        unfold EL
        by_cases g1 : kd < 300
        · rw [if_pos g1, if_pos g1]
        · rw [if_neg g1, if_neg g1, if_neg (by omega), if_neg (by omega)]
      rw [he]
      refine (hp.1 kd i hV0).1.kept (hF.2 _ (hp.1 kd i hV0).1.lt (fun hq => ?_))
      obtain ⟨k, hk, e⟩ := hq
      have := hp.2 kd i (300 + k) 0 hV0 (by rw [xV_M (lvM_lt hk).1]; exact hk) e
      have := lvM_lt hk
      omega
end LB2
