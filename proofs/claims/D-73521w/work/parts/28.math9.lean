set_option linter.unusedVariables false
set_option linter.unusedSimpArgs false
set_option maxRecDepth 100000
/-! PLAIN LAW: level with level, both sides -/
def anyB (a : TS) (off : Int32) (i : Nat) : Int32 := b2i (decide (¬ cntA a off i = 0))
theorem anyB_succ {a : TS} {off : Int32} {i : Nat} : anyB a off i ||| b2i (hasB a off i) = anyB a off (i + 1) := by
  have e : cntA a off (i + 1) = if hasB a off i then cntA a off i + 1 else cntA a off i := rfl
  unfold anyB
  rw [e]
  cases hasB a off i with
  | true =>
    by_cases h : cntA a off i = 0
    · simp [h, b2i]
    · simp [h, b2i]
  | false =>
    by_cases h : cntA a off i = 0
    · simp [h, b2i]
    · simp [h, b2i]
/-- rooms of the years that are set off and no gaps -/
def roomV (w : tt_St) (a : TS) (off : Int32) (h f y : Nat) : Int64 := if hasB a off y then room w a h f y else 0
theorem c_lev1 {w t : tt_St} {a : TS} {h f fi la sh : Nat} (C : CS w a) (O : a.Ok) (H : HY w t h fi la sh) {off : Int32} (ho : offv fi la sh a.trig = off) : itr (fW_byLevel_L6 h f) tt_fuel ((0 : Int32), (0 : Int32), w) = some (anyB a off 12, nI 12, fillL w 27 0 (roomV w a off h f) 12) := by
  refine itr_run (fun i => (anyB a off i, nI i, fillL w 27 0 (roomV w a off h f) i)) 12 _ (by omega) (fun i hi => ?_) ?_
  · have hC := C.eqI (fillL_i (w := w) (k := 27) (i := 0) (F := roomV w a off h f) i)
    have hr : room (fillL w 27 0 (roomV w a off h f) i) a h f i = room w a h f i := room_ext (fun k i j hk => by rw [fillL_rd, if_neg (by omega)])
    unfold fW_byLevel_L6
    dsimp only [nm]
    rw [L12, if_neg (nI_ge hi (by omega)), c_hasTower hC O (H.eqI (fillL_i i) rfl) hi, ho, c_roomOf hC O hi, hr]
    simp only [Option.bind_some]
    have q : (if b2i (hasB a off i) = 0 then some (0 : Int64) else some (room w a h f i) : Option Int64) = some (roomV w a off h f i) := by
      unfold roomV
      cases hasB a off i <;> rfl
    rw [q]
    simp only [Option.bind_some]
    rw [inB_nI hi (by omega), if_pos rfl, nI_clamp (by omega), nI_1, anyB_succ]
    rfl
  · unfold fW_byLevel_L6
    rw [L12, if_pos (nI_le (Nat.le_refl _) (by omega))]
theorem m_lev1 {w t : tt_St} {a : TS} {h f fi la sh : Nat} (M : MS t a) (O : a.Ok) (R : RF w t a h f) (hh : h < 25) (H : HY w t h fi la sh) {off : Int32} (ho : offv fi la sh a.trig = off) : itr (fM_byLevel_L3 (nI h)) tt_fuel ((0 : Int32), t) = some (nI 12, fillL t 47 0 (roomV w a off h f) 12) := by
  refine itr_run (fun i => (nI i, fillL t 47 0 (roomV w a off h f) i)) 12 _ (by omega) (fun i hi => ?_) ?_
  · have hM := M.eqI (fillL_i (w := t) (k := 47) (i := 0) (F := roomV w a off h f) i)
    have hR : RF w (fillL t 47 0 (roomV w a off h f) i) a h f := R.ext (fun _ _ _ _ => rfl) (fun k i j hk => by rw [fillL_rd, if_neg (by omega)])
    unfold fM_byLevel_L3
    dsimp only [nm]
    rw [L12, if_neg (nI_ge hi (by omega)), m_isOff hM O (H.eqI rfl (fillL_i i)) hh i, ho, m_isGap hM O hi, m_roomOf hM O hR hh hi]
    simp only [Option.bind_some]
    have q : (if b2i (bitB off i) = 0 then some (0 : Int64) else if (if a.n i = 0 then (1 : Int32) else 0) = 0 then some (room w a h f i) else some (0 : Int64) : Option Int64) = some (roomV w a off h f i) := by
      unfold roomV hasB
      cases bitB off i with
      | false => rfl
      | true =>
        rw [if_neg (show ¬ b2i true = 0 by decide)]
        by_cases h0 : a.n i = 0
        · rw [if_pos h0, if_neg (show ¬ (1 : Int32) = 0 by decide)]; simp [h0]
        · rw [if_neg h0, if_pos (show (0 : Int32) = 0 from rfl)]; simp [h0]
    rw [q]
    simp only [Option.bind_some]
    rw [inB_nI hi (by omega), if_pos rfl, nI_clamp (by omega), nI_1]
    rfl
  · unfold fM_byLevel_L3
    rw [L12, if_pos (nI_le (Nat.le_refl _) (by omega))]
theorem m_lev3 {t t1 w : tt_St} {a : TS} {h fi la sh : Nat} (M : MS t1 a) (O : a.Ok) (hh : h < 25) (H : HY w t1 h fi la sh) {off : Int32} (ho : offv fi la sh a.trig = off) {V : Nat → Int64} (hV : ∀ y, y < 12 → rdL t1 47 0 y = V y) (hV0 : ∀ y, y < 12 → hasB a off y = false → V y = 0) {low r high : Int64} (hl : 0 ≤ low.toInt) :
    ∃ u, itr (fM_byLevel_L125 (nI h) (low, high)) tt_fuel ((0 : Int32), r, (0 : Int32), t1) = some (nI (cntA a off 12), rl V low r 12, nI 12, u) ∧ FrR 40 t1 u ∧ ∀ j, j < 12 → rdL u 40 0 j = pl V low r j := by
  have hk := itr_inv (body := fM_byLevel_L125 (nI h) (low, high)) (fun i u => (nI (cntA a off i), rl V low r i, nI i, u)) (fun i u => FrR 40 t1 u ∧ ∀ j, j < i → rdL u 40 0 j = pl V low r j) (fun b => ∃ u, b = (nI (cntA a off 12), rl V low r 12, nI 12, u) ∧ FrR 40 t1 u ∧ ∀ j, j < 12 → rdL u 40 0 j = pl V low r j) 12 t1 (by omega) ⟨FrR.refl _, fun j hj => absurd hj (by omega)⟩ (fun i u hi hI => ?_) (fun u hI => ?_)
  · obtain ⟨b, h1, u, rfl, h2⟩ := hk
    exact ⟨u, h1, h2⟩
  · obtain ⟨F, hu⟩ := hI
    have M2 : MS (wrL u 40 0 i 0) a := M.eqI (show (wrL u 40 0 i 0).1 = t1.1 from F.i)
    have H2 : HY w (wrL u 40 0 i 0) h fi la sh := H.eqI rfl (show (wrL u 40 0 i 0).1 = t1.1 from F.i)
    have e47 : rdL (wrL u 40 0 i 0) 47 0 i = V i := by rw [rdL_wrL, if_neg (by omega), F.l 47 0 i (by omega), hV i hi]
    have cs : cntA a off (i + 1) = if hasB a off i then cntA a off i + 1 else cntA a off i := rfl
    have rs : rl V low r (i + 1) = if rl V low r i = 0 ∨ V i ≤ low then rl V low r i else rl V low r i - 1 := rfl
    have none_ : hasB a off i = false → ∃ c', (some (Sum.inl (nI (cntA a off i), rl V low r i, nI i + 1, wrL u 40 0 i 0)) : Option ((Int32 × Int64 × Int32 × tt_St) ⊕ (Int32 × Int64 × Int32 × tt_St))) = some (.inl (nI (cntA a off (i + 1)), rl V low r (i + 1), nI (i + 1), c')) ∧ FrR 40 t1 c' ∧ ∀ j, j < i + 1 → rdL c' 40 0 j = pl V low r j := by
      intro hb
      have v0 := hV0 i hi hb
      have hle : V i ≤ low := by rw [v0]; exact i64_le.mpr hl
      refine ⟨wrL u 40 0 i 0, ?_, F.trans (FrR.w _ _), fun j hj => ?_⟩
      · rw [cs, rs, hb, if_pos (Or.inr hle), nI_1]; rfl
      · rw [rdL_wrL]
        by_cases e : j = i
        · subst e
          rw [if_pos ⟨rfl, rfl, rfl⟩]
          unfold pl
          rw [if_pos (Or.inr hle), v0]
          exact i64_ext (by rw [mn_toInt, i64_0]; omega)
        · rw [if_neg (fun q => e q.2.2)]; exact hu j (by omega)
    unfold fM_byLevel_L125
    dsimp only [nm]
    rw [L12, if_neg (nI_ge hi (by omega)), inB_nI hi (by omega), if_pos rfl, nI_clamp (by omega), m_isOff M2 O H2 hh i, ho, m_isGap M2 O hi]
    simp only [Option.bind_some]
    rw [e47, mn_least]
    simp only [Option.bind_some]
    cases hbit : bitB off i with
    | false =>
      rw [if_pos (show b2i false = 0 by decide)]
      exact none_ (by unfold hasB; rw [hbit]; rfl)
    | true =>
      rw [if_neg (show ¬ b2i true = 0 by decide)]
      by_cases hg : a.n i = 0
      · rw [if_pos hg, if_neg (show ¬ (1 : Int32) = 0 by decide)]
        exact none_ (by unfold hasB; simp [hg])
      · have hb : hasB a off i = true := by unfold hasB; simp [hbit, hg]
        rw [if_neg hg, if_pos (show (0 : Int32) = 0 from rfl)]
        have e47' : rdL (wrL (wrL u 40 0 i 0) 40 0 i (mn (V i) low)) 47 0 i = V i := by rw [rdL_wrL, if_neg (by omega)]; exact e47
        have e40 : rdL (wrL (wrL u 40 0 i 0) 40 0 i (mn (V i) low)) 40 0 i = mn (V i) low := by rw [rdL_wrL, if_pos ⟨rfl, rfl, rfl⟩]
        rw [e47', e40, cs, hb, if_pos rfl, rs, ← nI_1 (cntA a off i), ← nI_1 i]
        have fin : ∀ (x : Int64) (c' : tt_St), c' = wrL (wrL u 40 0 i 0) 40 0 i (mn (V i) low) ∨ c' = wrL (wrL (wrL u 40 0 i 0) 40 0 i (mn (V i) low)) 40 0 i x → pl V low r i = rdL c' 40 0 i → FrR 40 t1 c' ∧ ∀ j, j < i + 1 → rdL c' 40 0 j = pl V low r j := by
          intro x c' hc hp
          refine ⟨?_, fun j hj => ?_⟩
          · rcases hc with rfl | rfl
            · exact (F.trans (FrR.w _ _)).trans (FrR.w _ _)
            · exact ((F.trans (FrR.w _ _)).trans (FrR.w _ _)).trans (FrR.w _ _)
          · by_cases e : j = i
            · subst e; exact hp.symm
            · rcases hc with rfl | rfl
              · rw [rdL_wrL, if_neg (fun q => e q.2.2), rdL_wrL, if_neg (fun q => e q.2.2)]; exact hu j (by omega)
              · rw [rdL_wrL, if_neg (fun q => e q.2.2), rdL_wrL, if_neg (fun q => e q.2.2), rdL_wrL, if_neg (fun q => e q.2.2)]; exact hu j (by omega)
        by_cases hr0 : rl V low r i = 0
        · rw [if_pos hr0, if_pos (Or.inl hr0)]
          exact ⟨_, rfl, fin 0 _ (Or.inl rfl) (by rw [e40]; unfold pl; rw [if_pos (Or.inl hr0)])⟩
        · rw [if_neg hr0]
          by_cases hlt : low < V i
          · have hn : ¬ (rl V low r i = 0 ∨ V i ≤ low) := fun q => q.elim hr0 (fun z => by have := i64_le.mp z; have := i64_lt.mp hlt; omega)
            rw [if_pos hlt, if_neg hn]
            exact ⟨_, rfl, fin (mn (V i) low + 1) _ (Or.inr rfl) (by rw [rdL_wrL, if_pos ⟨rfl, rfl, rfl⟩]; unfold pl; rw [if_neg hn])⟩
          · have hle : V i ≤ low := i64_le.mpr (by have := mt i64_lt.mpr hlt; omega)
            rw [if_neg hlt, if_pos (Or.inr hle)]
            exact ⟨_, rfl, fin 0 _ (Or.inl rfl) (by rw [e40]; unfold pl; rw [if_pos (Or.inr hle)])⟩
  · refine ⟨_, ?_, u, rfl, hI⟩
    unfold fM_byLevel_L125
    rw [L12, if_pos (nI_le (Nat.le_refl _) (by omega))]
set_option maxHeartbeats 4000000 in
theorem byLevel_rel {w t : tt_St} {a : TS} (C : CS w a) (M : MS t a) (O : a.Ok) {h f fi la sh : Nat} (R : RF w t a h f) (hh : h < 25) (hf : 25 ≤ f) (H : HY w t h fi la sh) {A : Int64} (hA : 0 ≤ A.toInt) (hA2 : A.toInt < 2 ^ 60) :
    ∃ w' t', fW_byLevel w h A f = some w' ∧ fM_byLevel t (nI h) A = some t' ∧ RF w' t' a h f ∧ GC f w w' ∧ GM h t t' := by
  generalize ho : offv fi la sh a.trig = off
  have s1 := c_lev1 (f := f) C O H ho
  have s2 := m_lev1 M O R hh H ho
  generalize hVd : roomV w a off h f = V at s1 s2
  have hb : ∀ y, y < 12 → 0 ≤ (V y).toInt ∧ (V y).toInt ≤ 6000000000 := by
    intro y hy
    rw [← hVd]
    unfold roomV
    split
    · exact room_bd O R hy
    · rw [i64_0]; omega
  have hV0 : ∀ y, y < 12 → hasB a off y = false → V y = 0 := by
    intro y hy hq
    rw [← hVd]
    unfold roomV
    rw [hq]
    rfl
  generalize hw1 : fillL w 27 0 V 12 = w1 at s1
  generalize ht1 : fillL t 47 0 V 12 = t1 at s2
  have Fw : FrR 27 w w1 := hw1 ▸ FrR.fill _ _
  have Ft : FrR 47 t t1 := ht1 ▸ FrR.fill _ _
  have v1 : ∀ y, y < 12 → rdL w1 27 0 y = V y := fun y hy => by rw [← hw1, fillL_rd, if_pos ⟨rfl, rfl, hy⟩]
  have v2 : ∀ y, y < 12 → rdL t1 47 0 y = V y := fun y hy => by rw [← ht1, fillL_rd, if_pos ⟨rfl, rfl, hy⟩]
  obtain ⟨low, high, l1, l2, l3, l4, l5⟩ := level_search (w := w1) (t := t1) (A := A) (b1 := (anyB a off 12, nI 12)) (b2 := nI 12) v1 v2 (fun y hy => (hb y hy).1) hA
  have hlb := lev_bd hb l3
  have hr : (A - lev V low).toInt = A.toInt - (lev V low).toInt := i64_sub (by omega) (by omega)
  generalize hrr : A - lev V low = r at hr
  obtain ⟨t2, p1, p2, p3⟩ := m_lev3 (t := t) (w := w1) (M.eqI Ft.i) O hh (H.eqI Fw.i Ft.i) ho v2 hV0 (low := low) (r := r) (high := high) l3
  have rs0 : ∀ i, rl V low r (i + 1) = if rl V low r i = 0 ∨ V i ≤ low then rl V low r i else rl V low r i - 1 := fun _ => rfl
  have ps0 : ∀ i, pl V low r i = if rl V low r i = 0 ∨ V i ≤ low then mn (V i) low else mn (V i) low + 1 := fun _ => rfl
  have hrp0 := fun i => (rl_pos (V := V) (low := low) (r := r) (by omega) i).1
  have hpp0 : ∀ i, i < 12 → 0 ≤ (pl V low r i).toInt := fun i hi => pl_pos (V := V) (low := low) (r := r) (y := i) (hb i hi).1 l3 l4
  have r00 : rl V low r 0 = r := rfl
  generalize rl V low r = RL at p1 rs0 ps0 hrp0 r00
  generalize pl V low r = PL at p3 ps0 hpp0
  have R2 : RF w1 t2 a h f := R.ext (fun k i j hk => Fw.l k i j (by omega)) (fun k i j hk => (p2.l k i j (by omega)).trans (Ft.l k i j (by omega)))
  have hbig : ∃ b b', itr (fW_byLevel_L129 h f (low, high)) tt_fuel (r, (0 : Int32), w1) = some b ∧ itr (fM_byLevel_L233 (nI h)) tt_fuel ((0 : Int32), t2) = some b' ∧ (b.1 = RL 12 ∧ RF b.2.2 b'.2 a h f ∧ GC f w1 b.2.2 ∧ GM h t2 b'.2 ∧ (∀ q, ¬ q = 1 → rdL b.2.2 9 f q = rdL w1 9 f q) ∧ ∀ q, ¬ q = 7 * h + 1 → rdL b'.2 26 0 q = rdL t2 26 0 q) := by
    refine itr_two (fun i u v => u.1 = RL i ∧ u.2.1 = nI i ∧ v.1 = nI i ∧ RF u.2.2 v.2 a h f ∧ FrC0 f w1 u.2.2 ∧ FrM0 h t2 v.2) _ 12 (by omega) (fun i u v hi hP => ?_) (fun u v hP => ?_) ⟨r00.symm, rfl, rfl, R2, FrC0.refl _, FrM0.refl _⟩
    · obtain ⟨x, ui, u⟩ := u
      obtain ⟨vi, v⟩ := v
      obtain ⟨g1, g2, g3, g4, g5, g6⟩ := hP
      dsimp only at g1 g2 g3 g4 g5 g6
      subst g1; subst g2; subst g3
      have Cu : CS u a := (C.eqI Fw.i).eqI g5.i
      have Mv : MS v a := ((M.eqI Ft.i).eqI p2.i).eqI g6.i
      have qu : rdL u 27 0 i = V i := by rw [g5.l 27 0 i (by omega), v1 i hi]
      have qv : rdL v 40 0 i = PL i := by rw [g6.l 40 0 i (by omega), p3 i hi]
      have hrp := hrp0 i
      have hpp := hpp0 i hi
      have rs := rs0 i
      have hM : ∀ (x' : Int64) (v' : tt_St), (0 < (PL i).toInt → fM_fills v (nI h) (nI i) (PL i) = some (x', v')) → ((PL i).toInt = 0 → v' = v) → fM_byLevel_L233 (nI h) (nI i, v) = some (.inl (nI (i + 1), v')) := by
        intro x' v' h1 h2
        unfold fM_byLevel_L233
        dsimp only
        rw [L12, if_neg (nI_ge hi (by omega)), inB_nI hi (by omega), if_pos rfl, nI_clamp (by omega), qv]
        by_cases hz : (PL i).toInt = 0
        · rw [if_pos (i64_le.mpr (by rw [hz, i64_0]; exact Int.le_refl _)), nI_1, h2 hz]
        · rw [if_neg (fun q => by have := i64_le.mp q; rw [i64_0] at this; omega), h1 (by omega)]
          simp only [Option.bind_some]
          rw [nI_1]
      have hC : ∀ (x' : Int64) (u' : tt_St), fW_fills u h (nI i) (PL i) f = some (x', u') → fW_byLevel_L129 h f (low, high) (RL i, nI i, u) = some (.inl (RL (i + 1), nI (i + 1), u')) := by
        intro x' u' h1
        unfold fW_byLevel_L129
        dsimp only [nm]
        rw [L12, if_neg (nI_ge hi (by omega)), inB_nI hi (by omega), nI_clamp (by omega), qu, if_pos rfl, rs]
        have q : (if V i < low then V i else low) = mn (V i) low := rfl
        rw [q]
        by_cases hc : RL i = 0 ∨ V i ≤ low
        · have t0 : (if RL i ≤ (0 : Int64) then some (0 : Int32) else if V i ≤ low then some (0 : Int32) else some (1 : Int32) : Option Int32) = some 0 := by
            rcases hc with hc | hc
            · rw [if_pos (by rw [hc]; exact i64_le.mpr (Int.le_refl _))]
            · rw [if_pos hc]; split <;> rfl
          have hp0 : PL i = mn (V i) low := by rw [ps0, if_pos hc]
          rw [t0, if_pos hc]
          simp only [Option.bind_some]
          simp only [if_true, Int64.add_zero, Int64.sub_zero]
          rw [← hp0, h1]
          simp only [Option.bind_some]
          rw [nI_1]
        · have hr0 : ¬ RL i ≤ 0 := fun z => hc (Or.inl (i64_ext (by have := i64_le.mp z; rw [i64_0] at this ⊢; omega)))
          have t0 : (if RL i ≤ (0 : Int64) then some (0 : Int32) else if V i ≤ low then some (0 : Int32) else some (1 : Int32) : Option Int32) = some 1 := by
            rw [if_neg hr0, if_neg (fun z => hc (Or.inr z))]
          have hp0 : PL i = mn (V i) low + 1 := by rw [ps0, if_neg hc]
          rw [t0, if_neg hc]
          simp only [Option.bind_some]
          simp only [if_true]
          rw [if_neg (show ¬ (1 : Int32) = 0 by decide), ← hp0, h1]
          simp only [Option.bind_some]
          rw [if_neg (show ¬ (1 : Int32) = 0 by decide), nI_1]
      by_cases hz : (PL i).toInt = 0
      · have e0 : PL i = 0 := i64_ext (by rw [hz]; rfl)
        refine ⟨(RL (i + 1), nI (i + 1), u), (nI (i + 1), v), hC _ _ (c_fills_none Cu O hi (Or.inr e0)), hM 0 v (fun z => by omega) (fun _ => rfl), rfl, rfl, rfl, g4, g5, g6⟩
      · obtain ⟨x', u', v', f1, f2, f3, f4, f5, f6, f7⟩ := fills_rel Cu Mv O g4 hh hf hi hpp
        exact ⟨(RL (i + 1), nI (i + 1), u'), (nI (i + 1), v'), hC x' u' f1, hM x' v' (fun _ => f2) (fun z => absurd z hz), rfl, rfl, rfl, f3, g5.trans f6, g6.trans f7⟩
    · obtain ⟨x, ui, u⟩ := u
      obtain ⟨vi, v⟩ := v
      obtain ⟨g1, g2, g3, g4, g5, g6⟩ := hP
      dsimp only at g1 g2 g3 g4 g5 g6
      subst g2; subst g3
      refine ⟨(x, nI 12, u), (nI 12, v), ?_, ?_, g1, g4, g5.up.g, g6.up.g, fun q hq => g5.l 9 f q (by omega), fun q hq => g6.l 26 0 q (by omega)⟩
      · unfold fW_byLevel_L129
        rw [L12, if_pos (nI_le (Nat.le_refl _) (by omega))]
      · unfold fM_byLevel_L233
        rw [L12, if_pos (nI_le (Nat.le_refl _) (by omega))]
  obtain ⟨⟨x, ui, w3⟩, ⟨vi, t3⟩, q1, q2, q3, q4, q5, q6, q7, q8⟩ := hbig
  dsimp only at q3 q4 q5 q6 q7 q8
  have hcz := cntA_le (a := a) (off := off) 12
  have cz : (nI (cntA a off 12) = 0) ↔ cntA a off 12 = 0 := by rw [L0]; exact nI_eq (by omega) (by omega)
  have hc : ∀ rr, rr < 7 → (nI rr).toNatClampNeg = rr := fun rr h => nI_clamp (by omega)
  have fin : ∀ rr, rr < 7 → (rr = 3 ↔ cntA a off 12 = 0) → (rr = 2 ∨ rr = 3) → ∃ w' t', fW_byLevel w h A f = some w' ∧ fM_byLevel t (nI h) A = some t' ∧ RF w' t' a h f ∧ GC f w w' ∧ GM h t t' := by
    intro rr h7 hi3 hor
    have c1 : (if anyB a off 12 = 0 then (3 : Int32) else 2) = nI rr := by
      unfold anyB
      rcases hor with rfl | rfl
      · rw [if_neg]; rfl
        rw [b2i_0]
        simp only [decide_eq_false_iff_not, Classical.not_not]
        intro z
        have := hi3.mpr z
        omega
      · rw [if_pos]; rfl
        rw [b2i_0]
        simp only [decide_eq_false_iff_not, Classical.not_not]
        exact hi3.mp rfl
    have c2 : (if nI (cntA a off 12) = 0 then (3 : Int32) else 2) = nI rr := by
      rcases hor with rfl | rfl
      · rw [if_neg]; rfl
        rw [cz]
        intro z
        have := hi3.mpr z
        omega
      · rw [if_pos]; rfl
        rw [cz]
        exact hi3.mp rfl
    refine ⟨_, _, ?_, ?_, RF.fall_add q4 hh hf h7 x, ((Fw.gC (by omega)).trans q5).trans (GC.wl _ _ (by omega)), (((Ft.gM (by omega)).trans (p2.gM (by omega))).trans q6).trans (GM.wl _ _ (by omega))⟩
    · unfold fW_byLevel
      rw [s1]
      simp only [Option.bind_some, nm]
      rw [l1]
      simp only [Option.bind_some]
      rw [c_upTo v1]
      simp only [Option.bind_some]
      rw [hrr, q1]
      simp only [Option.bind_some]
      rw [c1, inB_nI h7 (by omega), if_pos rfl, hc rr h7]
    · unfold fM_byLevel
      rw [s2]
      simp only [Option.bind_some, nm]
      rw [l2]
      simp only [Option.bind_some]
      rw [m_levelled v2]
      simp only [Option.bind_some]
      rw [hrr, p1]
      simp only [Option.bind_some]
      rw [q2]
      simp only [Option.bind_some]
      rw [c2, L7, ix_add, inB_nI (by omega) (by omega), if_pos rfl, nI_clamp (by omega), q3]
  by_cases hz : cntA a off 12 = 0
  · exact fin 3 (by omega) ⟨fun _ => hz, fun _ => rfl⟩ (Or.inr rfl)
  · exact fin 2 (by omega) ⟨fun z => absurd z (by omega), fun z => absurd z hz⟩ (Or.inl rfl)
