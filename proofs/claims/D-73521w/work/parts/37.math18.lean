set_option linter.unusedVariables false
set_option linter.unusedSimpArgs false
set_option maxRecDepth 100000
/-! PLAIN LAW: split among all, both sides; a loss flows -/
theorem splits_rel {w t t0 : tt_St} {a : TS} (C : CS w a) (M : MS t a) (O : a.Ok) {h l : Nat} (hh : h < 25) (R : RS w t t0 h 26) (hl : l < 40) {x : Int64} (hxw : rdL w 10 26 l = x) (hxt : rdL t 38 0 l = x) (hx : 0 ≤ x.toInt) (hx2 : x.toInt ≤ 100000000) (hz : ∀ k, k < 4 → rdL w 13 26 (4 * l + k) = 0) :
    ∃ w' t', fW_splits w l 26 = some w' ∧ fM_splits t (nI h) (nI l) = some t' ∧ RS w' t' t0 h 26 ∧ FSC 26 w w' ∧ FSM h t t' ∧ (∀ k, k < a.sg l → rdL w' 13 26 (4 * l + k) = hv x a l k) ∧ (∀ c, ¬ (4 * l ≤ c ∧ c < 4 * l + a.sg l) → rdL w' 13 26 c = rdL w 13 26 c) := by
  have h4 := O.sg4 l hl
  have hf : ¬ h = 26 := by omega
  have big : ∃ b b', itr (fW_splits_L67 l 26 x) tt_fuel (lf x a l (a.sg l), (0 : Int32), w) = some b ∧ itr (fM_splits_L106 (nI h) (nI l)) tt_fuel (lf x a l (a.sg l), (0 : Int32), t) = some b' ∧ (RS b.2.2 b'.2.2 t0 h 26 ∧ FSC 26 w b.2.2 ∧ FSM h t b'.2.2 ∧ (∀ k, k < a.sg l → rdL b.2.2 13 26 (4 * l + k) = hv x a l k) ∧ (∀ c, ¬ (4 * l ≤ c ∧ c < 4 * l + a.sg l) → rdL b.2.2 13 26 c = rdL w 13 26 c)) := by
    refine itr_two (fun k u v => u.1 = lg x a l k ∧ u.2.1 = nI k ∧ v.2.1 = nI k ∧ ((0 ≤ u.1.toInt → v.1 = u.1) ∧ (u.1.toInt < 0 → v.1.toInt ≤ 0)) ∧ RS u.2.2 v.2.2 t0 h 26 ∧ FSC 26 w u.2.2 ∧ FSM h t v.2.2 ∧ (∀ j, j < k → rdL u.2.2 13 26 (4 * l + j) = hv x a l j) ∧ (∀ c, ¬ (4 * l ≤ c ∧ c < 4 * l + k) → rdL u.2.2 13 26 c = rdL w 13 26 c)) _ (a.sg l) (by omega) (fun k u v hk hP => ?_) (fun u v hP => ?_) ⟨rfl, rfl, rfl, ⟨fun _ => rfl, fun z => by dsimp only at z ⊢; omega⟩, R, FSC.refl w, FSM.refl t, fun j hj => by omega, fun c _ => rfl⟩
    · obtain ⟨x1, ui, u⟩ := u
      obtain ⟨y, vi, v⟩ := v
      obtain ⟨g1, g2, g3, g4, g5, g6, g7, g8, g9⟩ := hP
      dsimp only at g1 g2 g3 g4 g5 g6 g7 g8 g9
      subst g1; subst g2; subst g3
      have Cu : CS u a := C.eqI g6.i
      have Mv : MS v a := g7.ms M
      have lb := lg_bd O hl hx hx2 k (by omega)
      have e1 : (1 : Int64).toInt = 1 := rfl
      have l1 : (lg x a l k - 1).toInt = (lg x a l k).toInt - 1 := by rw [i64_sub (by rw [e1]; omega) (by rw [e1]; omega), e1]
      have l2 : lg x a l (k + 1) = lg x a l k - 1 := rfl
      have hy : y ≤ 0 ↔ lg x a l k ≤ 0 := by
        rw [i64_le, i64_le, i64_0]
        by_cases q : 0 ≤ (lg x a l k).toInt
        · rw [g4.1 q]
        · have := g4.2 (by omega)
          omega
      obtain ⟨z, hz'⟩ : ∃ z, z = y - (if y ≤ 0 then 0 else 1) := ⟨_, rfl⟩
      have J : (0 ≤ (lg x a l (k + 1)).toInt → z = lg x a l (k + 1)) ∧ ((lg x a l (k + 1)).toInt < 0 → z.toInt ≤ 0) := by
        rw [l2, l1]
        refine ⟨fun q => ?_, fun q => ?_⟩
        · have e := g4.1 (by omega)
          rw [hz', e, if_neg (fun p => by have := i64_le.mp p; rw [i64_0] at this; omega)]
        · by_cases q2 : (lg x a l k).toInt = 0
          · have e := g4.1 (by omega)
            have : y ≤ 0 := i64_le.mpr (by rw [e, i64_0]; omega)
            rw [hz', if_pos this, Int64.sub_zero, e]; omega
          · have e := g4.2 (by omega)
            have : y ≤ 0 := i64_le.mpr (by rw [i64_0]; omega)
            rw [hz', if_pos this, Int64.sub_zero]; exact e
      obtain ⟨mF, mB⟩ := m_split2 Mv O hh hl hk (x := x) (by rw [g7.l 38 0 l (by omega)]; exact hxt) hy hz'
      have zc : rdL u 13 26 (4 * l + k) = 0 := by rw [g9 _ (by omega)]; exact hz k (by omega)
      have RP := g5.part (c := 4 * l + k) hf (by omega) zc (hv x a l k)
      have FP : FSC 26 u (wrL u 13 26 (4 * l + k) (hv x a l k)) := FSC.w _ _ (by omega)
      have FQ' : FSM h v (wrI v 24 0 (160 * h + (4 * l + k)) (rdI v 24 0 (160 * h + (4 * l + k)) + (hv x a l k).toInt32)) := FSM.wi _ _ (by omega)
      rcases c_split2 Cu O hl hk x 26 with ⟨r, r7, rc, ce⟩ | ⟨w0, s0, ce⟩
      · refine ⟨_, _, ce, mF r rc, rfl, rfl, rfl, J, RP.fall hf r7 _, (g6.trans FP).trans (FSC.w _ _ (by omega)), (g7.trans FQ').trans (FSM.wl _ _ (by omega)), fun j hj => ?_, fun c hc => ?_⟩
        · dsimp only
          rw [rdL_wrL, if_neg (by omega), rdL_wrL]
          by_cases e : j = k
          · rw [if_pos (by omega), e]
          · rw [if_neg (by omega)]; exact g8 j (by omega)
        · dsimp only
          rw [rdL_wrL, if_neg (by omega), rdL_wrL, if_neg (by omega)]; exact g9 c (by omega)
      · have hw := O.who10 l k hl hk
        refine ⟨_, _, ce, mB w0 s0, rfl, rfl, rfl, J, RP.bear hf hw _, (g6.trans FP).trans (FSC.w _ _ (by omega)), (g7.trans FQ').trans (FSM.wl _ _ (by omega)), fun j hj => ?_, fun c hc => ?_⟩
        · dsimp only
          rw [rdL_wrL, if_neg (by omega), rdL_wrL]
          by_cases e : j = k
          · rw [if_pos (by omega), e]
          · rw [if_neg (by omega)]; exact g8 j (by omega)
        · dsimp only
          rw [rdL_wrL, if_neg (by omega), rdL_wrL, if_neg (by omega)]; exact g9 c (by omega)
    · obtain ⟨x1, ui, u⟩ := u
      obtain ⟨y, vi, v⟩ := v
      obtain ⟨g1, g2, g3, g4, g5, g6, g7, g8, g9⟩ := hP
      dsimp only at g1 g2 g3 g4 g5 g6 g7 g8 g9
      subst g2; subst g3
      refine ⟨(x1, nI (a.sg l), u), (y, nI (a.sg l), v), ?_, ?_, g5, g6, g7, g8, g9⟩
      · unfold fW_splits_L67
        rw [(C.eqI g6.i).sg l hl, if_pos (nI_le (Nat.le_refl _) (by omega))]
      · unfold fM_splits_L106
        rw [nI_clamp (show l < 2 ^ 31 by omega), (g7.ms M).sg l hl, if_pos (nI_le (Nat.le_refl _) (by omega))]
  obtain ⟨⟨x1, ui, u⟩, ⟨y, vi, v⟩, b1, b2, b3, b4, b5, b6, b7⟩ := big
  dsimp only at b3 b4 b5 b6 b7
  have hv38 : rdL v 38 0 l = x := by rw [b5.l 38 0 l (by omega)]; exact hxt
  refine ⟨_, _, ?_, ?_, b3.fall (r := 4) hf (by omega) (x - due x a l), b4.trans (FSC.w _ _ (by omega)), b5.trans (FSM.wl _ _ (by omega)), fun k hk => ?_, fun c hc => ?_⟩
  · unfold fW_splits
    dsimp only [nm]
    rw [inB_nI hl (by omega), if_pos rfl, nI_clamp (by omega), c_allTenths C O hl, hxw]
    simp only [Option.bind_some]
    rw [show x * (nI (tenS a l (a.sg l))).toInt64 / 10 = due x a l from rfl, c_split1 C O hl]
    simp only [Option.bind_some]
    rw [b1]
    simp only [Option.bind_some]
    rw [if_pos (show inB 4 7 = true by decide), show (4 : Int32).toNatClampNeg = 4 from rfl]
  · unfold fM_splits
    rw [m_allTenths M O hl]
    simp only [Option.bind_some, nm]
    rw [inB_nI hl (by omega), if_pos rfl, nI_clamp (by omega), hxt, show x * (nI (tenS a l (a.sg l))).toInt64 / 10 = due x a l from rfl, m_split1 M O hl hxt]
    simp only [Option.bind_some]
    rw [b2]
    simp only [Option.bind_some]
    rw [hv38, L4, m_fallsOn hh (by omega)]
    rfl
  · rw [rdL_wrL, if_neg (by omega)]; exact b6 k hk
  · rw [rdL_wrL, if_neg (by omega)]; exact b7 c hc
/-- nothing is split: nothing changes -/
theorem splits_zero {w : tt_St} {a : TS} (C : CS w a) (O : a.Ok) {l : Nat} (hl : l < 40) (hx : rdL w 10 26 l = 0) (hz : ∀ k, k < 4 → rdL w 13 26 (4 * l + k) = 0) :
    ∃ w', fW_splits w l 26 = some w' ∧ w'.1 = w.1 ∧ w'.2.2 = w.2.2 ∧ ∀ k i j, rdL w' k i j = rdL w k i j := by
  have h4 := O.sg4 l hl
  obtain ⟨z1, z2, z3, z4, z5⟩ := hv_zero (a := a) (l := l)
  have hk_ := itr_inv (body := fW_splits_L67 l 26 0) (fun k u => (lg 0 a l k, nI k, u)) (fun k u => u.1 = w.1 ∧ u.2.2 = w.2.2 ∧ ∀ k i j, rdL u k i j = rdL w k i j) (fun b => ∃ u v, b = (v, nI (a.sg l), u) ∧ u.1 = w.1 ∧ u.2.2 = w.2.2 ∧ ∀ k i j, rdL u k i j = rdL w k i j) (a.sg l) w (by omega) ⟨rfl, rfl, fun _ _ _ => rfl⟩ (fun k u hk hI => ?_) (fun u hI => ?_)
  · obtain ⟨b, b1, u, v, rfl, b2, b3, b4⟩ := hk_
    refine ⟨wrL u 9 26 4 (rdL u 9 26 4 + (0 - due 0 a l)), ?_, b2, b3, fun k i j => ?_⟩
    · unfold fW_splits
      dsimp only [nm]
      rw [inB_nI hl (by omega), if_pos rfl, nI_clamp (by omega), c_allTenths C O hl, hx]
      simp only [Option.bind_some]
      rw [show 0 * (nI (tenS a l (a.sg l))).toInt64 / 10 = due 0 a l from rfl, c_split1 C O hl]
      simp only [Option.bind_some]
      rw [L0, show lf 0 a l (a.sg l) = lg 0 a l 0 from rfl, b1]
      simp only [Option.bind_some]
      rw [if_pos (show inB 4 7 = true by decide), show (4 : Int32).toNatClampNeg = 4 from rfl]
    · rw [rdL_wrL, z2, Int64.sub_zero, Int64.add_zero]
      split
      · rename_i q
        rw [q.1, q.2.1, q.2.2]; exact b4 _ _ _
      · exact b4 k i j
  · obtain ⟨g1, g2, g3⟩ := hI
    have Cu : CS u a := C.eqI g1
    have hv0 := z5 k (by omega)
    have p : ∀ i x j, rdL (wrL u 13 26 (4 * l + k) (hv 0 a l k)) i x j = rdL w i x j := by
      intro i x j
      rw [rdL_wrL, hv0]
      split
      · rename_i q
        rw [q.1, q.2.1, q.2.2]; exact (hz k (by omega)).symm
      · exact g3 i x j
    rcases c_split2 Cu O hl hk 0 26 with ⟨r, r7, rc, ce⟩ | ⟨w0, s0, ce⟩
    · refine ⟨_, ce, g1, g2, fun i x j => ?_⟩
      rw [rdL_wrL]
      split
      · rename_i q
        rw [p, hv0, Int64.add_zero, q.1, q.2.1, q.2.2]
      · exact p i x j
    · refine ⟨_, ce, g1, g2, fun i x j => ?_⟩
      rw [rdL_wrL]
      split
      · rename_i q
        rw [p, hv0, Int64.add_zero, q.1, q.2.1, q.2.2]
      · exact p i x j
  · refine ⟨_, ?_, u, lg 0 a l (a.sg l), rfl, hI⟩
    unfold fW_splits_L67
    rw [(C.eqI hI.1).sg l hl, if_pos (nI_le (Nat.le_refl _) (by omega))]
theorem splitsAll_rel {w t : tt_St} {a : TS} (C : CS w a) (M : MS t a) (O : a.Ok) {h : Nat} (hh : h < 25) (R : RS w t t h 26) {T : Nat → Int64} (hTw : ∀ l, l < 40 → rdL w 10 26 l = T l) (hTt : ∀ l, l < 40 → rdL t 38 0 l = T l) (hT : ∀ l, l < 40 → 0 ≤ (T l).toInt ∧ (T l).toInt ≤ 100000000) (hT0 : ∀ l, l < 40 → a.there l = false → T l = 0) (hz : ∀ c, c < 160 → rdL w 13 26 c = 0) :
    ∃ w' t', itr fW_flows_L44 tt_fuel ((0 : Int32), w) = some (nI 40, w') ∧ itr (fM_spreads_L98 (nI h)) tt_fuel ((0 : Int32), t) = some (nI 40, t') ∧ RS w' t' t h 26 ∧ FSC 26 w w' ∧ FSM h t t' ∧ ∀ l k, l < 40 → k < 4 → rdL w' 13 26 (4 * l + k) = if k < a.sg l then hv (T l) a l k else 0 := by
  have big : ∃ b b', itr fW_flows_L44 tt_fuel ((0 : Int32), w) = some b ∧ itr (fM_spreads_L98 (nI h)) tt_fuel ((0 : Int32), t) = some b' ∧ (b.1 = nI 40 ∧ b'.1 = nI 40 ∧ RS b.2 b'.2 t h 26 ∧ FSC 26 w b.2 ∧ FSM h t b'.2 ∧ ∀ l k, l < 40 → k < 4 → rdL b.2 13 26 (4 * l + k) = if k < a.sg l then hv (T l) a l k else 0) := by
    refine itr_two (fun i u v => u.1 = nI i ∧ v.1 = nI i ∧ RS u.2 v.2 t h 26 ∧ FSC 26 w u.2 ∧ FSM h t v.2 ∧ (∀ l k, l < i → k < 4 → rdL u.2 13 26 (4 * l + k) = if k < a.sg l then hv (T l) a l k else 0) ∧ ∀ c, 4 * i ≤ c → c < 160 → rdL u.2 13 26 c = 0) _ 40 (by omega) (fun i u v hi hP => ?_) (fun u v hP => ?_) ⟨rfl, rfl, R, FSC.refl w, FSM.refl t, fun l k hl => by omega, fun c _ hc => hz c hc⟩
    · obtain ⟨ui, u⟩ := u
      obtain ⟨vi, v⟩ := v
      obtain ⟨g1, g2, g3, g4, g5, g6, g7⟩ := hP
      dsimp only at g1 g2 g3 g4 g5 g6 g7
      subst g1; subst g2
      have Cu : CS u a := C.eqI g4.i
      have Mv : MS v a := g5.ms M
      have h4 := O.sg4 i hi
      have uT : rdL u 10 26 i = T i := by rw [g4.l 10 26 i (by omega)]; exact hTw i hi
      have vT : rdL v 38 0 i = T i := by rw [g5.l 38 0 i (by omega)]; exact hTt i hi
      have zc : ∀ k, k < 4 → rdL u 13 26 (4 * i + k) = 0 := fun k hk => g7 _ (by omega) (by omega)
      have hb := hT i hi
      have cbody : fW_flows_L44 (nI i, u) = if (if a.there i then (1 : Int32) else 0) = 0 then some (.inl (nI (i + 1), u)) else (fW_splits u i 26).bind fun r9 => some (.inl (nI (i + 1), r9)) := by
        unfold fW_flows_L44
        dsimp only
        rw [L40, if_neg (nI_ge hi (by omega)), inB_nI hi (by omega), if_pos rfl, nI_clamp (by omega), Cu.isT i hi, nI_1]
      have mbody : fM_spreads_L98 (nI h) (nI i, v) = if T i ≤ (0 : Int64) then some (.inl (nI (i + 1), v)) else (fM_splits v (nI h) (nI i)).bind fun r23 => some (.inl (nI (i + 1), r23)) := by
        unfold fM_spreads_L98
        dsimp only
        rw [L40, if_neg (nI_ge hi (by omega)), inB_nI hi (by omega), if_pos rfl, nI_clamp (by omega), vT, nI_1]
      by_cases ht : a.there i = true
      · rw [ht] at cbody
        rw [if_neg (show ¬ (if true = true then (1 : Int32) else 0) = 0 by decide)] at cbody
        by_cases hpos : (T i).toInt = 0
        · have T0 : T i = 0 := i64_ext hpos
          obtain ⟨u', s1, s2, s3, s4⟩ := splits_zero Cu O hi (by rw [uT, T0]) zc
          refine ⟨(nI (i + 1), u'), (nI (i + 1), v), by rw [cbody, s1]; rfl, by rw [mbody, if_pos (i64_le.mpr (by rw [i64_0]; omega))], rfl, rfl, ⟨fun r hr => ?_, fun j hj => ?_, fun c hc => ?_⟩, ⟨s2.trans g4.i, s3.trans g4.r, fun k x j hk => by rw [s4]; exact g4.l k x j hk⟩, g5, fun l k hl hk => ?_, fun c hc1 hc2 => ?_⟩
          · dsimp only; rw [s4, s4]; exact g3.fell r hr
          · dsimp only; rw [s4, s4]; exact g3.bore j hj
          · dsimp only; rw [s4]; exact g3.had c hc
          · dsimp only
            rw [s4]
            by_cases e : l = i
            · subst e
              rw [zc k hk, T0]
              split
              · rw [(hv_zero (a := a) (l := l)).2.2.2.2 k (by omega)]
              · rfl
            · exact g6 l k (by omega) hk
          · dsimp only; rw [s4]; exact g7 c (by omega) hc2
        · obtain ⟨u', v', s1, s2, s3, s4, s5, s6, s7⟩ := splits_rel Cu Mv O hh g3 hi uT vT hb.1 hb.2 zc
          refine ⟨(nI (i + 1), u'), (nI (i + 1), v'), by rw [cbody, s1]; rfl, by rw [mbody, if_neg (fun q => by have := i64_le.mp q; rw [i64_0] at this; omega), s2]; rfl, rfl, rfl, s3, g4.trans s4, g5.trans s5, fun l k hl hk => ?_, fun c hc1 hc2 => ?_⟩
          · dsimp only
            by_cases e : l = i
            · subst e
              split
              · rename_i q; exact s6 k q
              · rename_i q; rw [s7 _ (by omega)]; exact zc k hk
            · rw [s7 _ (by omega)]; exact g6 l k (by omega) hk
          · dsimp only; rw [s7 _ (by omega)]; exact g7 c (by omega) hc2
      · have ht' : a.there i = false := by simpa using ht
        have T0 : T i = 0 := hT0 i hi ht'
        rw [ht'] at cbody
        rw [if_pos (show (if false = true then (1 : Int32) else 0) = 0 by decide)] at cbody
        refine ⟨(nI (i + 1), u), (nI (i + 1), v), cbody, by rw [mbody, if_pos (by rw [T0]; exact i64_le.mpr (Int.le_refl _))], rfl, rfl, g3, g4, g5, fun l k hl hk => ?_, fun c hc1 hc2 => g7 c (by omega) hc2⟩
        dsimp only
        by_cases e : l = i
        · subst e
          rw [zc k hk, O.sg0 l hi ht', if_neg (by omega)]
        · exact g6 l k (by omega) hk
    · obtain ⟨ui, u⟩ := u
      obtain ⟨vi, v⟩ := v
      obtain ⟨g1, g2, g3, g4, g5, g6, g7⟩ := hP
      dsimp only at g1 g2 g3 g4 g5 g6 g7
      subst g1; subst g2
      refine ⟨(nI 40, u), (nI 40, v), ?_, ?_, rfl, rfl, g3, g4, g5, g6⟩
      · unfold fW_flows_L44
        rw [L40, if_pos (nI_le (Nat.le_refl _) (by omega))]
      · unfold fM_spreads_L98
        rw [L40, if_pos (nI_le (Nat.le_refl _) (by omega))]
  obtain ⟨⟨ui, u⟩, ⟨vi, v⟩, b1, b2, b3, b4, b5⟩ := big
  dsimp only at b3 b4 b5
  subst b3; subst b4
  exact ⟨u, v, b1, b2, b5⟩
