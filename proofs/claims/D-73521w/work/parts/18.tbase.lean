set_option maxRecDepth 100000
abbrev tt_S3 : Type := tt_St × tt_St × tt_St
def nT0 (lc : Nat → Nat → Nat) : Nat → Nat → Nat := fun k i => lc (100 + k) i
def nT1 (lc : Nat → Nat → Nat) : Nat → Nat → Nat := fun k i => lc (200 + k) i
/-- how many values a deed's object has captured -/
def capT : Nat → Nat
  | 0 => 5 | 1 => 3 | 2 => 1 | 3 => 3 | 4 => 5 | 5 => 2 | 6 => 2 | 7 => 1 | 20 => 2 | 21 => 2 | _ => 1
def EO (dA : Nat → ClassId) (pz : Nat) : tt_Et := fun lc kd i fI fL fR => match kd with
  | 0 => .inr (8, [.ref (lc 100 0), .ref (lc 200 0), .ref (lc 107 24), .ref (lc 1 0), .ref (lc 4 0), .ref (lc 6 0), .ref (lc 9 0), .int (fI 7), .int (fI 8)])
  | 1 => .inl (dA 8, 160, .inr (.inr (.inr (.inr (fun j => if j < 160 then (fR j).map (lc 2) else none)))))
  | 2 => .inr (9, [.int (fI 0), .int (fI 1), va_rf ((fR 2).map (lc 3))])
  | 3 => .inl (dA (20 + (fR 99).getD 0), capT ((fR 99).getD 0), .inl fI)
  | 4 => .inl (dA 9, 10, .inr (.inr (.inr (.inr (fun j => some (lc 5 j))))))
  | 5 => .inr (10, [.int (nI i), .long (fL 1)])
  | 6 => .inr (11, [.ref (lc 7 0)])
  | 7 => .inr (12, [.null, .null, .null, va_rf ((fR 3).map (lc 8)), .int (fI 4), .int (fI 5), .null, .null, .null])
  | 8 => .inr (13, [va_rf ((fR 0).map (lc 5)), va_rf ((fR 1).map (fun _ => pz)), va_rf ((fR 2).map (lc 8)), va_rf ((fR 3).map (lc 8)), va_rf ((fR 4).map (lc 8)), .int (fI 5)])
  | 9 => .inl (dA 0, 3, .inl fI)
  | _ => .inl (dA 0, 0, .inl fI)
def lvO (s : tt_St) (kd i : Nat) : Prop := match kd with
  | 0 => i = 0 | 1 => i = 0 | 2 => i < rdN s 2 | 3 => i < rdN s 3 | 4 => i = 0 | 5 => i < 10 | 6 => i = 0 | 7 => i = 0 | 8 => i < rdN s 8 | 9 => i = 0 | _ => False
def ET (dA : Nat → ClassId) (pz : Nat) : (Nat → Nat → Nat) → tt_S3 → Nat → Nat → va_E := fun lc s kd i =>
  if kd < 100 then mkE (EO dA pz) lc s.2.2 kd i else if kd < 200 then mkE (EW dA) (nT0 lc) s.1 (kd - 100) i else mkE (EW dA) (nT1 lc) s.2.1 (kd - 200) i
def lvT (s : tt_S3) (kd i : Nat) : Prop := if kd < 100 then lvO s.2.2 kd i else if kd < 200 then lvW true s.1 (kd - 100) i else lvW false s.2.1 (kd - 200) i
def clT : List vw_C := clW ++ [(RX1, TX1, 9), (RX12, TX12, 3), (RX10, TX10, 2), (RJ13, TJ13, 1), (RJ15, TJ15, 9), (RJ18, TJ18, 6)]
def tysT (dA : Nat → ClassId) : List (ClassId × FieldType) := tysW dA ++ [(dA 8, .object "TallTowers$Event"), (dA 9, .object "TallTowers$Holder")]
/-- the sites of deeds; of what is asked -/
def lam_deed (k : Nat) : MethodName × Nat × Nat × Lambda.Shape := match k with
  | 0 => (lam_x5, 49, 111, lam_s5)
  | 1 => (lam_x6, 26, 124, lam_s6)
  | 2 => (lam_x7, 9, 133, lam_s7)
  | 3 => (lam_x8, 48, 155, lam_s8)
  | 4 => (lam_x9, 36, 160, lam_s9)
  | 5 => (lam_x10, 26, 169, lam_s10)
  | 6 => (lam_x11, 22, 172, lam_s11)
  | 7 => (lam_x12, 13, 176, lam_s12)
  | 8 => (lam_x13, 17, 177, lam_s13)
  | _ => (lam_x5, 0, 0, lam_s5)
def lam_ask (k : Nat) : MethodName × Nat × Nat × Lambda.Shape := match k with
  | 0 => (lam_x18, 25, 434, lam_s18)
  | 1 => (lam_x20, 22, 448, lam_s20)
  | 2 => (lam_x14, 119, 258, lam_s14)
  | 3 => (lam_x15, 153, 265, lam_s15)
  | 4 => (lam_x16, 165, 266, lam_s16)
  | 5 => (lam_x17, 176, 267, lam_s17)
  | 6 => (lam_x19, 24, 447, lam_s19)
  | _ => (lam_x18, 0, 0, lam_s18)
def lam_on : MethodName := ⟨"TallTowers$Deed", "on", "(LTallTowers$World;)Z"⟩
def lam_told : MethodName := ⟨"TallTowers$Asked", "told", "(LTallTowers$Layer;)J"⟩
/-- what rides for these: nine classes of deeds dA 20.., seven of what is asked dA 40.., of these five have one object each at dA 52.. -/
def tt_KL (dA : Nat → ClassId) (A : Nat → Prop) (U : State) : Prop :=
  (∀ k, k < 9 → lam_Rd (lam_deed k).1 (lam_deed k).2.1 (lam_deed k).2.2.1 (lam_deed k).2.2.2 (dA (20 + k)) (.makes (dA (20 + k))) lam_on U) ∧
  (∀ k, k < 7 → lam_Rd (lam_ask k).1 (lam_ask k).2.1 (lam_ask k).2.2.1 (lam_ask k).2.2.2 (dA (40 + k)) (if k < 2 then .makes (dA (40 + k)) else .constant (dA (50 + k))) lam_told U) ∧
  ∀ k, 2 ≤ k → k < 7 → ¬ A (dA (50 + k)) ∧ ∃ cell : Cell, U.heap[dA (50 + k)]? = some cell ∧ cell.vm = .none ∧ cell.cls = dA (40 + k)
theorem tt_KL.moved {dA : Nat → ClassId} {A : Nat → Prop} {s U : State} (hW : s.WarmedH U.vm) (hh : ∀ q : Nat, q < s.heap.size → ¬ A q → U.heap[q]? = s.heap[q]?) (h : tt_KL dA A s) : tt_KL dA A U := by
  refine ⟨fun k hk => (h.1 k hk).warm hW ⟨by decide, by decide⟩, fun k hk => (h.2.1 k hk).warm hW ⟨by decide, by decide⟩, fun k h1 h2 => ?_⟩
  obtain ⟨g1, cell, g2, g3⟩ := h.2.2 k h1 h2
  exact ⟨g1, cell, by rw [hh _ (Array.getElem?_eq_some_iff.mp g2).1 g1]; exact g2, g3⟩
/-- what rides: the worlds' words; where two statics of Throwable lie; the made classes -/
def tt_KT (dA : Nat → ClassId) (A : Nat → Prop) (U : State) : Prop := tt_KW dA U ∧ vx_Zq Bundle.tN "UNASSIGNED_STACK" Bundle.steD A U U.heap ∧ vx_Zq Bundle.tN "SUPPRESSED_SENTINEL" Bundle.listD A U U.heap ∧ tt_KL dA A U ∧ ∀ q : Nat, U.heap.size ≤ q → A q
def XT (l : Launch) (D : va_G) (dA : Nat → ClassId) (A : Nat → Prop) (pz : Nat) : tt_X tt_S3 := (l, D, clT, tysT dA, ET dA pz, lvT, A, tt_KT dA A)
section TB
variable {l : Launch} {D : va_G} {dA : Nat → ClassId} {A : Nat → Prop} {pz : Nat} {lc : Nat → Nat → Nat} {s : tt_S3}
theorem kokT : tt_Kok (XT l D dA A pz) := by
  refine ⟨fun u U hW hh h => ?_, fun U g mk a h => ?_⟩
  · obtain ⟨h1, h3, h4, h5, h6⟩ := h
    exact ⟨tt_KW.warm hW h1, vx_Zq.moved hW.alike (h3.kept hh.2), vx_Zq.moved hW.alike (h4.kept hh.2), tt_KL.moved hW hh.2 h5, fun q hq => h6 q (Nat.le_trans hh.1 hq)⟩
  · obtain ⟨h1, h3, h4, h5, h6⟩ := h
    exact ⟨tt_KW.calling h1, vx_Zq.moved (u := U) (U := U.calling g mk a) (Vm.Alike.refl U.vm) h3, vx_Zq.moved (u := U) (U := U.calling g mk a) (Vm.Alike.refl U.vm) h4, tt_KL.moved (s := U) (U := U.calling g mk a) (State.WarmedH.refl U) (fun _ _ _ => rfl) h5, h6⟩
theorem knT : ∀ U, xK (XT l D dA A pz) U → tt_KN U := fun _ h => h.1.1
theorem kzT : ∀ U, xK (XT l D dA A pz) U → vx_Zq Bundle.tN "UNASSIGNED_STACK" Bundle.steD (xA (XT l D dA A pz)) U U.heap ∧ vx_Zq Bundle.tN "SUPPRESSED_SENTINEL" Bundle.listD (xA (XT l D dA A pz)) U U.heap := fun _ h => ⟨h.2.1, h.2.2.1⟩
theorem klT : ∀ U, xK (XT l D dA A pz) U → tt_KL dA A U := fun _ h => h.2.2.2.1
theorem kaT : ∀ U, xK (XT l D dA A pz) U → ∀ q, U.heap.size ≤ q → xA (XT l D dA A pz) q := fun _ h => h.2.2.2.2
/-- the cells of the world that is now; of the other -/
def aT0 (lc : Nat → Nat → Nat) (s : tt_S3) : Nat → Prop := fun q => ∃ kd i, lvW true s.1 kd i ∧ q = nT0 lc kd i
def aT1 (lc : Nat → Nat → Nat) (s : tt_S3) : Nat → Prop := fun q => ∃ kd i, lvW false s.2.1 kd i ∧ q = nT1 lc kd i
theorem lvW_lt {b : Bool} {w : tt_St} {kd i : Nat} (h : lvW b w kd i) : kd < 100 := by
  rcases Nat.lt_or_ge kd 100 with h1 | h1
  · exact h1
  · obtain ⟨k, rfl⟩ : ∃ k, kd = k + 100 := ⟨kd - 100, by omega⟩
    exact h.elim
theorem lvT_now {kd i : Nat} (h : kd < 100) : xV (XT l D dA A pz) s (100 + kd) i = lvW true s.1 kd i := by
  show lvT s (100 + kd) i = _
  unfold lvT
  rw [if_neg (by omega), if_pos (by omega), show 100 + kd - 100 = kd by omega]
theorem lvT_then {kd i : Nat} : xV (XT l D dA A pz) s (200 + kd) i = lvW false s.2.1 kd i := by
  show lvT s (200 + kd) i = _
  unfold lvT
  rw [if_neg (by omega), if_neg (by omega), show 200 + kd - 200 = kd by omega]
theorem eT_now {kd i : Nat} (h : kd < 100) : tt_ent (XT l D dA A pz) lc s (100 + kd) i = mkE (EW dA) (nT0 lc) s.1 kd i := by
  show ET dA pz lc s (100 + kd) i = _
  unfold ET
  rw [if_neg (by omega), if_pos (by omega), show 100 + kd - 100 = kd by omega]
theorem eT_then {kd i : Nat} : tt_ent (XT l D dA A pz) lc s (200 + kd) i = mkE (EW dA) (nT1 lc) s.2.1 kd i := by
  show ET dA pz lc s (200 + kd) i = _
  unfold ET
  rw [if_neg (by omega), if_neg (by omega), show 200 + kd - 200 = kd by omega]
theorem va_at_mono {D : va_G} {q : Nat × va_E} {H : Heap} {c1 c2 : List vw_C} (hc : ∀ (k : Nat) (r : vw_C), c1[k]? = some r → c2[k]? = some r) (h : va_at D c1 q H) : va_at D c2 q H := by
  obtain ⟨a, e⟩ := q
  cases e with
  | inl x => exact h
  | inr o =>
    obtain ⟨r, h1, h2⟩ := h
    exact ⟨r, hc _ _ h1, h2⟩
theorem va_at_back {D : va_G} {q : Nat × va_E} {H : Heap} {c1 c2 : List vw_C} (hc : ∀ (k : Nat) (r : vw_C), c1[k]? = some r → c2[k]? = some r) (hk : ∀ o, q.2 = .inr o → ∃ r, c1[o.1]? = some r) (h : va_at D c2 q H) : va_at D c1 q H := by
  obtain ⟨a, e⟩ := q
  cases e with
  | inl x => exact h
  | inr o =>
    obtain ⟨r, h1, h2⟩ := h
    obtain ⟨r', h3⟩ := hk o rfl
    cases (hc _ _ h3).symm.trans h1
    exact ⟨_, h3, h2⟩
theorem clT_pre : ∀ (k : Nat) (r : vw_C), clW[k]? = some r → clT[k]? = some r := fun k r h => by
  unfold clT
  rw [List.getElem?_append_left (List.getElem?_eq_some_iff.mp h).1]
  exact h
theorem EW_cls {dA : Nat → ClassId} {lc : Nat → Nat → Nat} {w : tt_St} {kd i : Nat} : ∀ o, mkE (EW dA) lc w kd i = .inr o → ∃ r, clW[o.1]? = some r := by
  intro o h
  unfold mkE EW at h
  split at h <;> first | (cases h; exact ⟨_, rfl⟩) | cases h
theorem kT_W {b : Bool} {A' : Nat → Prop} {U : State} (h : tt_K (XT l D dA A pz) U) : tt_K (XW l D dA A' b) U := by
  refine ⟨⟨fun c q hq => h.1.1 c q (clT_pre c q hq), fun k q hk => h.1.2 k q ?_⟩, h.2.1⟩
  show (tysW dA ++ _)[k]? = some q
  have hk' : (tysW dA)[k]? = some q := hk
  rw [List.getElem?_append_left (List.getElem?_eq_some_iff.mp hk').1]
  exact hk'
/-- a contract of a world -/
theorem liftNow {y : MethodName} {cc : ByteArray} {nl : Nat} {rt : Option FieldType} {rm : Room} {av : List Value} {Q : Option Value → (Nat → Nat → Nat) → tt_S3 → Prop}
    (h : tt_Sp (XW l D dA (aT0 lc s) true) y cc nl rt rm av (nT0 lc) s.1 (fun v lc' w => lc' = nT0 lc ∧ Q v lc (w, s.2))) : tt_Sp (XT l D dA A pz) y cc nl rt rm av lc s Q := by
  refine tt_Sp.lift (X := XW l D dA (aT0 lc s) true) (X' := XT l D dA A pz) rfl h (fun U hp hk => ⟨⟨fun kd i hV => ?_, fun kd i kd' i' h1 h2 he => ?_⟩, kT_W hk⟩) (fun U hp q hq => ?_) (fun v lc1 s1 st t hp hF hq hw => ?_)
  · have hV' : lvW true s.1 kd i := hV
    have h1 := hp.1 (100 + kd) i (by rw [lvT_now (lvW_lt hV')]; exact hV')
    rw [eT_now (lvW_lt hV')] at h1
    exact ⟨va_at_back clT_pre EW_cls h1.1, kd, i, hV', rfl⟩
  · have a1 : lvW true s.1 kd i := h1
    have a2 : lvW true s.1 kd' i' := h2
    have := hp.2 (100 + kd) i (100 + kd') i' (by rw [lvT_now (lvW_lt a1)]; exact a1) (by rw [lvT_now (lvW_lt a2)]; exact a2) he
    exact ⟨by omega, this.2⟩
  · obtain ⟨kd, i, hV, rfl⟩ := hq
    exact (hp.1 (100 + kd) i (by rw [lvT_now (lvW_lt hV)]; exact hV)).2
  · obtain ⟨rfl, hq⟩ := hq
    have hlv : ∀ kd i, xV (XT l D dA A pz) (s1, s.2) kd i → xV (XT l D dA A pz) s kd i := fun kd i z => z
    refine ⟨lc, (s1, s.2), hq, fun kd i hV => ?_, fun a b c d h1 h2 => hp.2 a b c d (hlv _ _ h1) (hlv _ _ h2)⟩
    have hV0 := hlv kd i hV
    refine ⟨?_, (hp.1 kd i hV0).2⟩
    by_cases hr : 100 ≤ kd ∧ kd < 200
    · obtain ⟨k, rfl⟩ : ∃ k, kd = 100 + k := ⟨kd - 100, by omega⟩
      have hk : lvW true s.1 k i := by
        have hV1 := hV0
        rw [lvT_now (by omega)] at hV1
        exact hV1
      rw [eT_now (by omega)]
      exact va_at_mono clT_pre (hw.1 k i hk).1
    · have he : tt_ent (XT l D dA A pz) lc (s1, s.2) kd i = tt_ent (XT l D dA A pz) lc s kd i := by
        show ET dA pz lc (s1, s.2) kd i = ET dA pz lc s kd i
        unfold ET
        by_cases g1 : kd < 100
        · rw [if_pos g1, if_pos g1]
        · rw [if_neg g1, if_neg g1, if_neg (by omega), if_neg (by omega)]
      rw [he]
      refine (hp.1 kd i hV0).1.kept (hF.2 _ (hp.1 kd i hV0).1.lt (fun hq => ?_))
      obtain ⟨k, j, hk, e⟩ := hq
      have := hp.2 kd i (100 + k) j hV0 (by rw [lvT_now (lvW_lt hk)]; exact hk) e
      have := lvW_lt hk
      omega
/-- a contract of a world -/
theorem liftThen {y : MethodName} {cc : ByteArray} {nl : Nat} {rt : Option FieldType} {rm : Room} {av : List Value} {Q : Option Value → (Nat → Nat → Nat) → tt_S3 → Prop}
    (h : tt_Sp (XW l D dA (aT1 lc s) false) y cc nl rt rm av (nT1 lc) s.2.1 (fun v lc' w => lc' = nT1 lc ∧ Q v lc (s.1, w, s.2.2))) : tt_Sp (XT l D dA A pz) y cc nl rt rm av lc s Q := by
  refine tt_Sp.lift (X := XW l D dA (aT1 lc s) false) (X' := XT l D dA A pz) rfl h (fun U hp hk => ⟨⟨fun kd i hV => ?_, fun kd i kd' i' h1 h2 he => ?_⟩, kT_W hk⟩) (fun U hp q hq => ?_) (fun v lc1 s1 st t hp hF hq hw => ?_)
  · have hV' : lvW false s.2.1 kd i := hV
    have h1 := hp.1 (200 + kd) i (by rw [lvT_then]; exact hV')
    rw [eT_then ] at h1
    exact ⟨va_at_back clT_pre EW_cls h1.1, kd, i, hV', rfl⟩
  · have a1 : lvW false s.2.1 kd i := h1
    have a2 : lvW false s.2.1 kd' i' := h2
    have := hp.2 (200 + kd) i (200 + kd') i' (by rw [lvT_then]; exact a1) (by rw [lvT_then]; exact a2) he
    exact ⟨by omega, this.2⟩
  · obtain ⟨kd, i, hV, rfl⟩ := hq
    exact (hp.1 (200 + kd) i (by rw [lvT_then]; exact hV)).2
  · obtain ⟨rfl, hq⟩ := hq
    have hlv : ∀ kd i, xV (XT l D dA A pz) (s.1, s1, s.2.2) kd i → xV (XT l D dA A pz) s kd i := fun kd i z => z
    refine ⟨lc, (s.1, s1, s.2.2), hq, fun kd i hV => ?_, fun a b c d h1 h2 => hp.2 a b c d (hlv _ _ h1) (hlv _ _ h2)⟩
    have hV0 := hlv kd i hV
    refine ⟨?_, (hp.1 kd i hV0).2⟩
    by_cases hr : 200 ≤ kd
    · obtain ⟨k, rfl⟩ : ∃ k, kd = 200 + k := ⟨kd - 200, by omega⟩
      have hk : lvW false s.2.1 k i := by
        have hV1 := hV0
        rw [lvT_then ] at hV1
        exact hV1
      rw [eT_then ]
      exact va_at_mono clT_pre (hw.1 k i hk).1
    · have he : tt_ent (XT l D dA A pz) lc (s.1, s1, s.2.2) kd i = tt_ent (XT l D dA A pz) lc s kd i := by
        show ET dA pz lc (s.1, s1, s.2.2) kd i = ET dA pz lc s kd i
        unfold ET
        by_cases g1 : kd < 100
        · rw [if_pos g1, if_pos g1]
        · rw [if_neg g1, if_neg g1, if_pos (by omega), if_pos (by omega)]
      rw [he]
      refine (hp.1 kd i hV0).1.kept (hF.2 _ (hp.1 kd i hV0).1.lt (fun hq => ?_))
      obtain ⟨k, j, hk, e⟩ := hq
      have := hp.2 kd i (200 + k) j hV0 (by rw [lvT_then]; exact hk) e
      skip
      omega
end TB
section TB2
variable {σ : Type} {X : tt_X σ} {cc : ByteArray} {Y : tt_Y} {Q : tt_Fin} {pc : Nat} {lv : List (Nat × Value)} {rest : List Value} {lc : Nat → Nat → Nat} {s : σ} {ck cn : Nat}
theorem v_acmp_ne {kd a b : Nat} {off : Int} {tgt : Nat} (h1 : xV X s kd a) (h2 : xV X s kd b) (d : decode cc pc = .ok (.if_acmp .ne off, 3)) (ht : (pc : Int) + off = (tgt : Int)) (kt : ¬ a = b → tt_V X cc Y Q tgt lv rest lc s ck cn) (kf : a = b → tt_V X cc Y Q (pc + 3) lv rest lc s ck cn) : tt_V X cc Y Q pc lv (.ref (lc kd b) :: .ref (lc kd a) :: rest) lc s ck cn := by
  intro p e R s0 m args below meth c H locs ls C hP hS hl
  refine lv_acmp_ne (rx := some (lc kd a)) (ry := some (lc kd b)) C.1 C.2.1 d ht (fun q => kt (fun z => q (by rw [z])) p e R s0 m args below meth c H locs ls C hP hS hl) (fun q => kf ?_ p e R s0 m args below meth c H locs ls C hP hS hl)
  exact (hP.2 _ _ _ _ h1 h2 (Option.some.inj q)).2
end TB2
/-- a write among TallTowers' own cells -/
theorem eT_own {l : Launch} {D : va_G} {dA : Nat → ClassId} {A : Nat → Prop} {pz : Nat} {lc : Nat → Nat → Nat} {s : tt_S3} {w : tt_St} {kd i : Nat} (h : kd < 100 → mkE (EO dA pz) lc w kd i = mkE (EO dA pz) lc s.2.2 kd i) : tt_ent (XT l D dA A pz) lc (s.1, s.2.1, w) kd i = tt_ent (XT l D dA A pz) lc s kd i := by
  show ET dA pz lc (s.1, s.2.1, w) kd i = ET dA pz lc s kd i
  unfold ET
  by_cases h1 : kd < 100
  · rw [if_pos h1, if_pos h1]
    exact h h1
  · rw [if_neg h1, if_neg h1]
theorem tt_own_wrI {E : tt_Et} {lc : Nat → Nat → Nat} {w : tt_St} {kd i j : Nat} {v : Int32} {kd' i' : Nat} (h : ¬ (kd' = kd ∧ i' = i)) : mkE E lc (wrI w kd i j v) kd' i' = mkE E lc w kd' i' := by
  unfold mkE
  have e : rdI (wrI w kd i j v) kd' i' = rdI w kd' i' := by
    funext c
    rw [rdI_wrI, if_neg (fun q => h ⟨q.1, q.2.1⟩)]
  rw [e]
  rfl
theorem tt_own_wrL {E : tt_Et} {lc : Nat → Nat → Nat} {w : tt_St} {kd i j : Nat} {v : Int64} {kd' i' : Nat} (h : ¬ (kd' = kd ∧ i' = i)) : mkE E lc (wrL w kd i j v) kd' i' = mkE E lc w kd' i' := by
  unfold mkE
  have e : rdL (wrL w kd i j v) kd' i' = rdL w kd' i' := by
    funext c
    rw [rdL_wrL, if_neg (fun q => h ⟨q.1, q.2.1⟩)]
  rw [e]
  rfl
theorem thN : ∀ n ∈ (["java/lang/RuntimeException", "java/lang/Exception"] : List String), Bundle.fit n = true := by decide +kernel
def thAll (ws : List Cond) : Bool := ws.all (fun w => decide (w ∈ lw_tbl) && (goodWord w || tt_rides w))
theorem thAll_spec {ws : List Cond} (h : thAll ws = true) : ∀ w ∈ ws, w ∈ lw_all ∨ (w ∈ lw_tbl ∧ tt_rides w = true) := by
  intro w hw
  have h1 := List.all_eq_true.mp h w hw
  simp only [Bool.and_eq_true, decide_eq_true_eq, Bool.or_eq_true] at h1
  rcases h1.2 with h2 | h2
  · exact Or.inl (lw_g h1.1 h2)
  · exact Or.inr ⟨h1.1, h2⟩
theorem thW_0 : ∀ w ∈ vx_at0 RX1 57 "java/util/NoSuchElementException" ["java/lang/RuntimeException", "java/lang/Exception"], w ∈ lw_all ∨ (w ∈ lw_tbl ∧ tt_rides w = true) := thAll_spec (by decide +kernel)
theorem thW_1 : ∀ w ∈ vx_at0 RX1 79 "java/lang/IllegalArgumentException" ["java/lang/RuntimeException", "java/lang/Exception"], w ∈ lw_all ∨ (w ∈ lw_tbl ∧ tt_rides w = true) := thAll_spec (by decide +kernel)
theorem thW_2 : ∀ w ∈ vx_at0 RX1 92 "java/lang/IllegalStateException" ["java/lang/RuntimeException", "java/lang/Exception"], w ∈ lw_all ∨ (w ∈ lw_tbl ∧ tt_rides w = true) := thAll_spec (by decide +kernel)
theorem thG_0 : ∀ w ∈ Cond.classLink RX1 55 "java/util/NoSuchElementException" :: Cond.initialized "java/util/NoSuchElementException" :: vx_at0 RX1 57 "java/util/NoSuchElementException" ["java/lang/RuntimeException", "java/lang/Exception"], vx_ot w = true := List.all_eq_true.mp (by decide +kernel)
theorem thG_1 : ∀ w ∈ Cond.classLink RX1 77 "java/lang/IllegalArgumentException" :: Cond.initialized "java/lang/IllegalArgumentException" :: vx_at0 RX1 79 "java/lang/IllegalArgumentException" ["java/lang/RuntimeException", "java/lang/Exception"], vx_ot w = true := List.all_eq_true.mp (by decide +kernel)
theorem thG_2 : ∀ w ∈ Cond.classLink RX1 90 "java/lang/IllegalStateException" :: Cond.initialized "java/lang/IllegalStateException" :: vx_at0 RX1 92 "java/lang/IllegalStateException" ["java/lang/RuntimeException", "java/lang/Exception"], vx_ot w = true := List.all_eq_true.mp (by decide +kernel)
