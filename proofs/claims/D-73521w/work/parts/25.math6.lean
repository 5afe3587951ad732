set_option linter.unusedVariables false
set_option linter.unusedSimpArgs false
set_option maxRecDepth 100000
/-! PLAIN LAW: years set off; weights -/
def offv (f l s tr : Nat) : Int32 :=
  if tr = 1 then (1 : Int32) <<< (nI s &&& 31) else if tr = 3 then (((1 : Int32) <<< ((nI l + 1) &&& 31)) - ((1 : Int32) <<< (nI f &&& 31))) ||| ((1 : Int32) <<< (nI s &&& 31))
  else if tr = 2 then ((1 : Int32) <<< ((nI s + 1) &&& 31)) - ((1 : Int32) <<< (nI f &&& 31)) else ((1 : Int32) <<< ((nI l + 1) &&& 31)) - ((1 : Int32) <<< (nI f &&& 31))
def offs_chk : Bool := (List.range 4).all fun tr => (List.range 12).all fun f => (List.range 12).all fun l => (List.range 12).all fun s => decide (l < f) || (decide (s < l) || decide (fM_offsBy (nI f) (nI l) (nI s) (nI tr) = some (offv f l s tr)))
theorem offs_ok : offs_chk = true := by decide +kernel
theorem m_offs_all (tr : Nat) (htr : tr < 4) (f : Nat) (hf : f < 12) (l : Nat) (hl : l < 12) (s : Nat) (hs : s < 12) (h1 : f ≤ l) (h2 : l ≤ s) : fM_offsBy (nI f) (nI l) (nI s) (nI tr) = some (offv f l s tr) := by
  have h := offs_ok
  unfold offs_chk at h
  have a1 := List.all_eq_true.mp h tr (List.mem_range.mpr htr)
  have a2 := List.all_eq_true.mp a1 f (List.mem_range.mpr hf)
  have a3 := List.all_eq_true.mp a2 l (List.mem_range.mpr hl)
  have a4 := List.all_eq_true.mp a3 s (List.mem_range.mpr hs)
  simp only [Bool.or_eq_true, decide_eq_true_eq] at a4
  rcases a4 with a4 | a4 | a4
  · omega
  · omega
  · exact a4
/-- a harm's years, both sides -/
def HY (w : tt_St) (t : tt_St) (h : Nat) (f : Nat) (l : Nat) (s : Nat) : Prop :=
  (rdI w 7 h 6 = nI f) ∧
  (rdI w 7 h 7 = nI l) ∧
  (rdI w 7 h 8 = nI s) ∧
  (rdI t 16 0 h = nI f) ∧
  (rdI t 17 0 h = nI l) ∧
  (rdI t 18 0 h = nI s) ∧
  (f ≤ l) ∧
  (l ≤ s) ∧
  (s < 12)
theorem HY.cf {w : tt_St} {t : tt_St} {h : Nat} {f : Nat} {l : Nat} {s : Nat} (self_ : HY w t h f l s) : rdI w 7 h 6 = nI f := self_.1
theorem HY.cl {w : tt_St} {t : tt_St} {h : Nat} {f : Nat} {l : Nat} {s : Nat} (self_ : HY w t h f l s) : rdI w 7 h 7 = nI l := self_.2.1
theorem HY.cs {w : tt_St} {t : tt_St} {h : Nat} {f : Nat} {l : Nat} {s : Nat} (self_ : HY w t h f l s) : rdI w 7 h 8 = nI s := self_.2.2.1
theorem HY.mf {w : tt_St} {t : tt_St} {h : Nat} {f : Nat} {l : Nat} {s : Nat} (self_ : HY w t h f l s) : rdI t 16 0 h = nI f := self_.2.2.2.1
theorem HY.ml {w : tt_St} {t : tt_St} {h : Nat} {f : Nat} {l : Nat} {s : Nat} (self_ : HY w t h f l s) : rdI t 17 0 h = nI l := self_.2.2.2.2.1
theorem HY.ms {w : tt_St} {t : tt_St} {h : Nat} {f : Nat} {l : Nat} {s : Nat} (self_ : HY w t h f l s) : rdI t 18 0 h = nI s := self_.2.2.2.2.2.1
theorem HY.o1 {w : tt_St} {t : tt_St} {h : Nat} {f : Nat} {l : Nat} {s : Nat} (self_ : HY w t h f l s) : f ≤ l := self_.2.2.2.2.2.2.1
theorem HY.o2 {w : tt_St} {t : tt_St} {h : Nat} {f : Nat} {l : Nat} {s : Nat} (self_ : HY w t h f l s) : l ≤ s := self_.2.2.2.2.2.2.2.1
theorem HY.o3 {w : tt_St} {t : tt_St} {h : Nat} {f : Nat} {l : Nat} {s : Nat} (self_ : HY w t h f l s) : s < 12 := self_.2.2.2.2.2.2.2.2
theorem HY.eqI {w t w' t' : tt_St} {h f l s : Nat} (e1 : w'.1 = w.1) (e2 : t'.1 = t.1) (H : HY w t h f l s) : HY w' t' h f l s := by
  unfold HY at H ⊢
  simp only [rdI_1 e1, rdI_1 e2]
  exact H
theorem c_setOff {w t : tt_St} {h f l s tr : Nat} (H : HY w t h f l s) (ht : tr ≤ 3) : fH_setOff w h (nI tr) = some (offv f l s tr) := by
  unfold fH_setOff
  simp only [nm]
  rw [H.cf, H.cl, H.cs]
  match tr, ht with
  | 0, _ => rfl
  | 1, _ => rfl
  | 2, _ => rfl
  | 3, _ => rfl
def bitB (m : Int32) (y : Nat) : Bool := decide (((m >>> (nI y &&& 31)) &&& 1) = 1)
def b2i (b : Bool) : Int32 := if b then 1 else 0
theorem c_isLacking {w : tt_St} {a : TS} (C : CS w a) (y : Nat) : fW_isLacking w (nI y) = some (b2i (bitB a.lack y)) := by
  unfold fW_isLacking
  rw [C.lack]
  unfold b2i bitB
  by_cases h : ((a.lack >>> (nI y &&& 31)) &&& 1) = 1
  · rw [if_pos h]; simp [h]
  · rw [if_neg h]; simp [h]
theorem m_isLacking {t : tt_St} {a : TS} (C : MS t a) (y : Nat) : fM_isLacking t (nI y) = some (b2i (bitB a.lack y)) := by
  unfold fM_isLacking
  rw [C.lack]
  unfold b2i bitB
  by_cases h : ((a.lack >>> (nI y &&& 31)) &&& 1) = 1
  · rw [if_pos h]; simp [h]
  · rw [if_neg h]; simp [h]
theorem b2i_0 {b : Bool} : (b2i b = 0) ↔ b = false := by cases b <;> decide
theorem c_counts {w t : tt_St} {a : TS} {h f l s : Nat} (C : CS w a) (O : a.Ok) (H : HY w t h f l s) (y : Nat) : fW_counts w h (nI y) = some (b2i (bitB (offv f l s a.trig) y && !bitB a.lack y)) := by
  unfold fW_counts
  rw [C.trig, c_setOff H O.trig3]
  simp only [Option.bind_some]
  rw [c_isLacking C y]
  simp only [Option.bind_some]
  by_cases h1 : ((offv f l s a.trig >>> (nI y &&& 31)) &&& 1) = 1
  · rw [if_pos h1]
    have h2 : bitB (offv f l s a.trig) y = true := by unfold bitB; simp [h1]
    rw [h2]
    cases bitB a.lack y <;> rfl
  · rw [if_neg h1]
    have h2 : bitB (offv f l s a.trig) y = false := by unfold bitB; simp [h1]
    rw [h2]
    rfl
theorem m_isOff {w t : tt_St} {a : TS} {h f l s : Nat} (C : MS t a) (O : a.Ok) (H : HY w t h f l s) (hh : h < 25) (y : Nat) : fM_isOff t (nI h) (nI y) = some (b2i (bitB (offv f l s a.trig) y)) := by
  unfold fM_isOff
  have o1 := H.o1
  have o2 := H.o2
  have o3 := H.o3
  rw [inB_nI hh (by omega), if_pos rfl, nI_clamp (by omega), H.mf, H.ml, H.ms, C.trig, m_offs_all a.trig (by have := O.trig3; omega) f (by omega) l (by omega) s o3 o1 o2]
  simp only [Option.bind_some]
  unfold b2i bitB
  by_cases h : ((offv f l s a.trig >>> (nI y &&& 31)) &&& 1) = 1
  · rw [if_pos h]; simp [h]
  · rw [if_neg h]; simp [h]
/-- a year is set off and has layers -/
def hasB (a : TS) (off : Int32) (y : Nat) : Bool := bitB off y && !decide (a.n y = 0)
theorem hasB_lack {a : TS} (O : a.Ok) {off : Int32} {y : Nat} (hy : y < 12) (h : hasB a off y = true) : bitB a.lack y = false := by
  cases hl : bitB a.lack y with
  | false => rfl
  | true =>
    have := O.lg y hy (by unfold bitB at hl; simpa using hl)
    unfold hasB at h
    simp [this] at h
theorem c_hasTower {w t : tt_St} {a : TS} {h f l s : Nat} (C : CS w a) (O : a.Ok) (H : HY w t h f l s) {y : Nat} (hy : y < 12) : fW_hasTower w h (nI y) = some (b2i (hasB a (offv f l s a.trig) y)) := by
  unfold fW_hasTower
  rw [c_counts C O H y, c_isGap C O hy]
  simp only [Option.bind_some]
  cases h1 : hasB a (offv f l s a.trig) y with
  | true =>
    have h2 := hasB_lack O hy h1
    unfold hasB at h1
    simp only [Bool.and_eq_true, Bool.not_eq_true', decide_eq_false_iff_not] at h1
    rw [h1.1, h2, if_neg h1.2]
    rfl
  | false =>
    unfold hasB at h1
    cases h3 : bitB (offv f l s a.trig) y with
    | false => rfl
    | true =>
      rw [h3] at h1
      simp only [Bool.true_and, Bool.not_eq_false', decide_eq_true_eq] at h1
      rw [if_pos h1]
      cases bitB a.lack y <;> rfl
theorem m_hasTower {w t : tt_St} {a : TS} {h f l s : Nat} (C : MS t a) (O : a.Ok) (H : HY w t h f l s) (hh : h < 25) {y : Nat} (hy : y < 12) : ((fM_isOff t (nI h) (nI y)).bind fun r4 => (if r4 = 0 then some (0 : Int32) else (fM_isGap t (nI y)).bind fun r7 => if r7 = 0 then some (1 : Int32) else some (0 : Int32) : Option Int32)) = some (b2i (hasB a (offv f l s a.trig) y)) := by
  rw [m_isOff C O H hh y, m_isGap C O hy]
  simp only [Option.bind_some]
  unfold hasB
  cases h3 : bitB (offv f l s a.trig) y with
  | false => rfl
  | true =>
    by_cases h1 : a.n y = 0
    · rw [if_pos h1]; simp [h1, b2i]
    · rw [if_neg h1]; simp [h1, b2i]
/-! weights by time -/
def wT (a : TS) (off : Int32) (y : Nat) : Int64 := if bitB off y && !bitB a.lack y then 1 else 0
theorem c_byTimeW {w t : tt_St} {a : TS} {h f l s : Nat} (C : CS w a) (O : a.Ok) (H : HY w t h f l s) : fW_weighsByTime w h = some (fillL w 26 0 (wT a (offv f l s a.trig)) 12) := by
  unfold fW_weighsByTime
  have e := itr_run (body := fW_weighsByTime_L2 h) (fun i => (nI i, fillL w 26 0 (wT a (offv f l s a.trig)) i)) 12 (nI 12, fillL w 26 0 (wT a (offv f l s a.trig)) 12) (by omega) (fun i hi => by
    unfold fW_weighsByTime_L2
    simp only [nm]
    rw [L12, if_neg (nI_ge hi (by omega)), c_counts (C.eqI (fillL_i i)) O (H.eqI (fillL_i i) rfl) i]
    simp only [Option.bind_some]
    rw [inB_nI hi (by omega), if_pos rfl, nI_clamp (by omega), nI_1]
    have q : (if b2i (bitB (offv f l s a.trig) i && !bitB a.lack i) = 0 then (0 : Int64) else 1) = wT a (offv f l s a.trig) i := by
      unfold wT
      cases bitB (offv f l s a.trig) i && !bitB a.lack i <;> rfl
    rw [q]
    rfl) (by
    unfold fW_weighsByTime_L2
    rw [L12, if_pos (nI_le (Nat.le_refl _) (by omega))])
  rw [show ((0 : Int32), w) = (nI 0, fillL w 26 0 (wT a (offv f l s a.trig)) 0) from rfl, e]
  rfl
theorem m_laysLike {w t : tt_St} {a : TS} {h f l s : Nat} (C : MS t a) (O : a.Ok) (H : HY w t h f l s) (hh : h < 25) : fM_laysLike t (nI h) = some (fillL t 36 0 (wT a (offv f l s a.trig)) 12) := by
  unfold fM_laysLike
  have e := itr_run (body := fM_laysLike_L2 (nI h)) (fun i => (nI i, fillL t 36 0 (wT a (offv f l s a.trig)) i)) 12 (nI 12, fillL t 36 0 (wT a (offv f l s a.trig)) 12) (by omega) (fun i hi => by
    unfold fM_laysLike_L2
    simp only [nm]
    rw [L12, if_neg (nI_ge hi (by omega)), m_isOff (C.eqI (fillL_i i)) O (H.eqI rfl (fillL_i i)) hh i, m_isLacking (C.eqI (fillL_i i)) i]
    simp only [Option.bind_some]
    have q : (if b2i (bitB (offv f l s a.trig) i) = 0 then some (0 : Int64) else if b2i (bitB a.lack i) = 0 then some (1 : Int64) else some 0 : Option Int64) = some (wT a (offv f l s a.trig) i) := by
      unfold wT
      cases bitB (offv f l s a.trig) i <;> cases bitB a.lack i <;> rfl
    rw [q]
    simp only [Option.bind_some]
    rw [inB_nI (n := 40) (by omega) (by omega), if_pos rfl, nI_clamp (by omega), nI_1]
    rfl) (by
    unfold fM_laysLike_L2
    rw [L12, if_pos (nI_le (Nat.le_refl _) (by omega))])
  rw [show ((0 : Int32), t) = (nI 0, fillL t 36 0 (wT a (offv f l s a.trig)) 0) from rfl, e]
  rfl
/-! weights by sizes -/
def szs (a : TS) (y : Nat) : Int64 := sumL (fun k => (nI (a.sz (a.rg y k))).toInt64) (a.n y)
theorem c_sizesOf {w : tt_St} {a : TS} (C : CS w a) (O : a.Ok) {y : Nat} (hy : y < 12) : fW_sizesOf w (nI y) = some (szs a y) := by
  have h6 := O.n6 y hy
  unfold fW_sizesOf
  have e := itr_run (body := fW_sizesOf_L5 w (nI y)) (fun i => (sumL (fun k => (nI (a.sz (a.rg y k))).toInt64) i, nI i)) (a.n y) (szs a y, nI (a.n y)) (by omega) (fun i hi => by
    unfold fW_sizesOf_L5
    simp only [nm]
    rw [inB_nI hy (by omega), if_pos rfl, nI_clamp (by omega), C.many y hy, if_neg (nI_ge hi (by omega)), c_layerAt C O hy hi]
    simp only [Option.bind_some]
    rw [C.sz _ (O.rg40 y i hy hi) (O.rgT y i hy hi), nI_1]
    rfl) (by
    unfold fW_sizesOf_L5
    rw [inB_nI hy (by omega), if_pos rfl, nI_clamp (by omega), C.many y hy, if_pos (nI_le (Nat.le_refl _) (by omega))]
    rfl)
  rw [show ((0 : Int64), (0 : Int32)) = (sumL (fun k => (nI (a.sz (a.rg y k))).toInt64) 0, nI 0) from rfl, e]
  rfl
theorem m_sizesOf {t : tt_St} {a : TS} (C : MS t a) (O : a.Ok) {y : Nat} (hy : y < 12) : fM_sizesOf t (nI y) = some (szs a y) := by
  have h6 := O.n6 y hy
  unfold fM_sizesOf
  have e := itr_run (body := fM_sizesOf_L5 t (nI y)) (fun i => (sumL (fun k => (nI (a.sz (a.rg y k))).toInt64) i, nI i)) (a.n y) (szs a y, nI (a.n y)) (by omega) (fun i hi => by
    have h40 := O.rg40 y i hy hi
    unfold fM_sizesOf_L5
    simp only [nm]
    rw [m_layersOf C O hy]
    simp only [Option.bind_some]
    rw [if_neg (nI_ge hi (by omega)), m_rungOf C O hy hi]
    simp only [Option.bind_some]
    rw [inB_nI h40 (by omega), if_pos rfl, nI_clamp (by omega), C.sz _ (O.rg40 y i hy hi) (O.rgT y i hy hi), nI_1]
    rfl) (by
    unfold fM_sizesOf_L5
    rw [m_layersOf C O hy]
    simp only [Option.bind_some]
    rw [if_pos (nI_le (Nat.le_refl _) (by omega))]
    rfl)
  rw [show ((0 : Int64), (0 : Int32)) = (sumL (fun k => (nI (a.sz (a.rg y k))).toInt64) 0, nI 0) from rfl, e]
  rfl
/-- sizes of all towers set off, how many they are -/
def szA (a : TS) (off : Int32) (n : Nat) : Int64 := sumL (fun y => if hasB a off y then szs a y else 0) n
def cntA (a : TS) (off : Int32) : Nat → Nat
  | 0 => 0
  | n + 1 => if hasB a off n then cntA a off n + 1 else cntA a off n
theorem cntA_le {a : TS} {off : Int32} : ∀ n, cntA a off n ≤ n
  | 0 => Nat.le_refl _
  | n + 1 => by have := cntA_le (a := a) (off := off) n; show (if hasB a off n then cntA a off n + 1 else cntA a off n) ≤ n + 1; split <;> omega
theorem cntA_pos {a : TS} {off : Int32} {y : Nat} (h : hasB a off y = true) : ∀ n, y < n → 0 < cntA a off n
  | n + 1, hn => by
    show 0 < (if hasB a off n then cntA a off n + 1 else cntA a off n)
    by_cases e : y = n
    · subst e; rw [if_pos h]; omega
    · have := cntA_pos h n (by omega)
      split <;> omega
def wS (a : TS) (off : Int32) (y : Nat) : Int64 := if bitB off y && !bitB a.lack y then (if a.n y = 0 then (if cntA a off 12 = 0 then 1 else szA a off 12 / lN (cntA a off 12)) else szs a y) else 0
theorem lN_eq0 {n : Nat} (h : n < 2 ^ 31) : (lN n = 0) ↔ n = 0 := by
  constructor
  · intro e
    have h1 := lN_toInt h
    rw [e, i64_0] at h1
    omega
  · rintro rfl; rfl
theorem c_bySizesW {w t : tt_St} {a : TS} {h f l s : Nat} (C : CS w a) (O : a.Ok) (H : HY w t h f l s) : fW_weighsBySizes w h = some (fillL w 26 0 (wS a (offv f l s a.trig)) 12) := by
  generalize ho : offv f l s a.trig = off
  unfold fW_weighsBySizes
  have e := itr_run (body := fW_weighsBySizes_L8 w h) (fun i => (szA a off i, lN (cntA a off i), nI i)) 12 (szA a off 12, lN (cntA a off 12), nI 12) (by omega) (fun i hi => by
    unfold fW_weighsBySizes_L8
    simp only [nm]
    rw [L12, if_neg (nI_ge hi (by omega)), c_hasTower C O H hi, ho]
    simp only [Option.bind_some]
    rw [c_sizesOf C O hi]
    simp only [Option.bind_some]
    rw [nI_1, lN_1]
    cases hb : hasB a off i with
    | false =>
      rw [if_pos (by decide)]
      have q1 : szA a off (i + 1) = szA a off i := by show szA a off i + (if hasB a off i = true then szs a i else 0) = _; rw [hb]; simp
      have q2 : cntA a off (i + 1) = cntA a off i := by show (if hasB a off i then _ else _) = _; rw [hb]; rfl
      rw [q1, q2]
    | true =>
      rw [if_neg (by decide)]
      have q1 : szA a off (i + 1) = szA a off i + szs a i := by show szA a off i + (if hasB a off i = true then szs a i else 0) = _; rw [hb]; rfl
      have q2 : cntA a off (i + 1) = cntA a off i + 1 := by show (if hasB a off i then _ else _) = _; rw [hb]; rfl
      rw [q1, q2]) (by
    unfold fW_weighsBySizes_L8
    rw [L12, if_pos (nI_le (Nat.le_refl _) (by omega))])
  rw [show ((0 : Int64), (0 : Int64), (0 : Int32)) = (szA a off 0, lN (cntA a off 0), nI 0) from rfl, e]
  simp only [Option.bind_some]
  have hc := cntA_le (a := a) (off := off) 12
  have q : (if lN (cntA a off 12) = (0 : Int64) then some (1 : Int64) else if ¬ lN (cntA a off 12) = 0 then some (szA a off 12 / lN (cntA a off 12)) else none : Option Int64) = some (if cntA a off 12 = 0 then 1 else szA a off 12 / lN (cntA a off 12)) := by
    by_cases h0 : cntA a off 12 = 0
    · rw [if_pos ((lN_eq0 (by omega)).mpr h0), if_pos h0]
    · rw [if_neg (mt (lN_eq0 (by omega)).mp h0), if_pos (mt (lN_eq0 (by omega)).mp h0), if_neg h0]
  rw [q]
  simp only [Option.bind_some]
  have e2 := itr_run (body := fW_weighsBySizes_L69 h (if cntA a off 12 = 0 then 1 else szA a off 12 / lN (cntA a off 12))) (fun i => (nI i, fillL w 26 0 (wS a off) i)) 12 (nI 12, fillL w 26 0 (wS a off) 12) (by omega) (fun i hi => by
    unfold fW_weighsBySizes_L69
    simp only [nm]
    rw [L12, if_neg (nI_ge hi (by omega)), c_counts (C.eqI (fillL_i i)) O (H.eqI (fillL_i i) rfl) i, ho, c_isGap (C.eqI (fillL_i i)) O hi, c_sizesOf (C.eqI (fillL_i i)) O hi]
    simp only [Option.bind_some]
    have q : (if b2i (bitB off i && !bitB a.lack i) = 0 then some (0 : Int64) else if (if a.n i = 0 then (1 : Int32) else 0) = 0 then some (szs a i) else some (if cntA a off 12 = 0 then 1 else szA a off 12 / lN (cntA a off 12)) : Option Int64) = some (wS a off i) := by
      unfold wS
      cases bitB off i && !bitB a.lack i with
      | false => rfl
      | true =>
        rw [if_neg (by decide), if_pos rfl]
        by_cases h0 : a.n i = 0
        · rw [if_pos h0, if_pos h0, if_neg (by decide)]
        · rw [if_neg h0, if_neg h0, if_pos rfl]
    rw [q]
    simp only [Option.bind_some]
    rw [inB_nI hi (by omega), if_pos rfl, nI_clamp (by omega), nI_1]
    rfl) (by
    unfold fW_weighsBySizes_L69
    rw [L12, if_pos (nI_le (Nat.le_refl _) (by omega))])
  rw [show ((0 : Int32), w) = (nI 0, fillL w 26 0 (wS a off) 0) from rfl, e2]
  rfl
theorem m_laysSizes {w t : tt_St} {a : TS} {h f l s : Nat} (C : MS t a) (O : a.Ok) (H : HY w t h f l s) (hh : h < 25) : fM_laysSizes t (nI h) = some (fillL t 36 0 (wS a (offv f l s a.trig)) 12) := by
  generalize ho : offv f l s a.trig = off
  unfold fM_laysSizes
  have e := itr_run (body := fM_laysSizes_L8 t (nI h)) (fun i => (szA a off i, nI (cntA a off i), nI i)) 12 (szA a off 12, nI (cntA a off 12), nI 12) (by omega) (fun i hi => by
    have ht := m_hasTower C O H hh hi
    rw [ho] at ht
    unfold fM_laysSizes_L8
    simp only [nm]
    rw [L12, if_neg (nI_ge hi (by omega)), ← Option.bind_assoc, ht]
    simp only [Option.bind_some]
    rw [m_sizesOf C O hi]
    simp only [Option.bind_some]
    rw [nI_1]
    cases hb : hasB a off i with
    | false =>
      have q1 : szA a off (i + 1) = szA a off i := by show szA a off i + (if hasB a off i = true then szs a i else 0) = _; rw [hb]; simp
      have q2 : cntA a off (i + 1) = cntA a off i := by show (if hasB a off i then _ else _) = _; rw [hb]; rfl
      rw [q1, q2]
      simp [b2i]
    | true =>
      have q1 : szA a off (i + 1) = szA a off i + szs a i := by show szA a off i + (if hasB a off i = true then szs a i else 0) = _; rw [hb]; rfl
      have q2 : cntA a off (i + 1) = cntA a off i + 1 := by show (if hasB a off i then _ else _) = _; rw [hb]; rfl
      rw [q1, q2]
      simp [b2i, nI_1]) (by
    unfold fM_laysSizes_L8
    rw [L12, if_pos (nI_le (Nat.le_refl _) (by omega))])
  rw [show ((0 : Int64), (0 : Int32), (0 : Int32)) = (szA a off 0, nI (cntA a off 0), nI 0) from rfl, e]
  simp only [Option.bind_some]
  have hc := cntA_le (a := a) (off := off) 12
  have e2 := itr_run (body := fM_laysSizes_L83 (nI h) (szA a off 12, nI (cntA a off 12), nI 12)) (fun i => (nI i, fillL t 36 0 (wS a off) i)) 12 (nI 12, fillL t 36 0 (wS a off) 12) (by omega) (fun i hi => by
    unfold fM_laysSizes_L83
    simp only [nm]
    rw [L12, if_neg (nI_ge hi (by omega)), m_isOff (C.eqI (fillL_i i)) O (H.eqI rfl (fillL_i i)) hh i, ho, m_isLacking (C.eqI (fillL_i i)) i, m_isGap (C.eqI (fillL_i i)) O hi, m_sizesOf (C.eqI (fillL_i i)) O hi]
    simp only [Option.bind_some]
    have q : (if b2i (bitB off i) = 0 then some (0 : Int64) else if b2i (bitB a.lack i) = 0 then if nI (cntA a off 12) = 0 then some (1 : Int64) else if (if a.n i = 0 then (1 : Int32) else 0) = 0 then some (szs a i) else if ¬ (nI (cntA a off 12)).toInt64 = 0 then some (szA a off 12 / (nI (cntA a off 12)).toInt64) else none else some (0 : Int64) : Option Int64) = some (wS a off i) := by
      unfold wS
      cases h1 : bitB off i with
      | false => rfl
      | true =>
        cases h2 : bitB a.lack i with
        | true => rfl
        | false =>
          rw [nI_l (n := cntA a off 12) (by omega), if_neg (show ¬ b2i true = 0 by decide), if_pos (show b2i false = 0 by decide), if_pos (show (true && !false) = true from rfl)]
          have hz : (nI (cntA a off 12) = 0) ↔ cntA a off 12 = 0 := by rw [L0]; exact nI_eq (by omega) (by omega)
          by_cases h0 : a.n i = 0
          · rw [if_pos h0, if_pos h0]
            by_cases h3 : cntA a off 12 = 0
            · rw [if_pos (hz.mpr h3), if_pos h3]
            · rw [if_neg (mt hz.mp h3), if_neg h3, if_neg (by decide), if_pos (mt (lN_eq0 (by omega)).mp h3)]
          · have hb : hasB a off i = true := by unfold hasB; simp [h1, h0]
            have := cntA_pos hb 12 hi
            rw [if_neg h0, if_neg h0, if_neg (by rw [hz]; omega), if_pos rfl]
    rw [q]
    simp only [Option.bind_some]
    rw [inB_nI (n := 40) (by omega) (by omega), if_pos rfl, nI_clamp (by omega), nI_1]
    rfl) (by
    unfold fM_laysSizes_L83
    rw [L12, if_pos (nI_le (Nat.le_refl _) (by omega))])
  rw [show ((0 : Int32), t) = (nI 0, fillL t 36 0 (wS a off) 0) from rfl, e2]
  rfl
