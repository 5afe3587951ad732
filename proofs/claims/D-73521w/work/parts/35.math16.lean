set_option linter.unusedVariables false
set_option linter.unusedSimpArgs false
set_option maxRecDepth 100000
/-! PLAIN LAW: contributes, joined -/
theorem ptA {a b c i k1 k2 b1 : Nat} (x y : Nat → Int64) {z : Int64} (hk : ¬ k1 = k2) : (if a = k2 ∧ b = b1 ∧ c = i then y i else if a = k1 ∧ b = b1 ∧ c = i then x i else if a = k1 ∧ b = b1 ∧ c < i then x c else if a = k2 ∧ b = b1 ∧ c < i then y c else z) = if a = k1 ∧ b = b1 ∧ c < i + 1 then x c else if a = k2 ∧ b = b1 ∧ c < i + 1 then y c else z := by
  grind (splits := 30)
set_option maxHeartbeats 4000000 in
theorem contributes_rel {w t t0 : tt_St} {a : TS} (C : CS w a) (O : a.Ok) {h fi la sh : Nat} (R : RF w t a h 26) (hh : h < 25) (H : HY w t0 h fi la sh) (z12 : ∀ l, l < 40 → rdL w 12 26 l = 0) {F : Nat → Int64} (hF : ∀ l, l < 40 → rdL t 39 0 l = F l) (V : FV w a h F) (B : RB w t0 a h) {A : Int64}
    (fair : ∀ w2, CS w2 a → HY w2 t0 h fi la sh → RB w2 t0 a h → (∀ l, l < 40 → rdL w2 10 25 l = 0) → (∀ l, l < 40 → rdL w2 11 25 l = 0) → (∀ r, r < 7 → rdL w2 9 25 r = 0) → ∃ w3, fW_byTime w2 h A 25 = some w3 ∧ GC 25 w2 w3 ∧ ∀ l, l < 40 → rdL w3 10 25 l = F l) :
    ∃ w' t', fW_contributes w h A 26 = some w' ∧ fM_contributes t (nI h) = some t' ∧ RF w' t' a h 26 ∧ GC2 26 w w' ∧ GM2 h t t' ∧ (∀ l, l < 40 → rdL t' 23 0 (40 * h + l) = rdL t 23 0 (40 * h + l) + rdL w' 12 26 l) ∧ (∀ k j, k = 8 ∨ k = 13 → rdL w' k 26 j = rdL w k 26 j) ∧ (∀ k i j, ¬ k = 41 → rdI t' k i j = rdI t k i j) ∧ (∀ k i j, k = 25 → rdL t' k i j = rdL t k i j) := by
  obtain ⟨T, hT⟩ : ∃ T : Nat → Int64, T = fun l => rdL w 10 26 l := ⟨_, rfl⟩
  have hTl : ∀ l, rdL w 10 26 l = T l := fun l => by rw [hT]
  have E : EXW T F := by
    refine ⟨fun l hl => ?_, fun l hl => ?_⟩
    · by_cases ht : a.there l = true
      · have := R.bt l hl ht
        have := O.sz1 l hl ht
        rw [hTl] at *
        omega
      · have := R.fz l hl (by simpa using ht)
        rw [hTl] at this
        rw [this, i64_0]; omega
    · by_cases ht : a.there l = true
      · have := V.b l hl ht
        have := R.bt l hl ht
        have := O.sz1 l hl ht
        omega
      · rw [V.z l hl (by simpa using ht), i64_0]; omega
  obtain ⟨t', m1, m2, m3, m4, m5⟩ := m_contributes (t := t) hh E (fun l hl => by rw [R.takes l hl, hTl]) hF
  -- the component
  obtain ⟨w2, b1, b2⟩ := c_begins (w := w) 25
  obtain ⟨w3, c1, c2, c3⟩ := fair w2 (C.eqI b2.i) (H.eqI b2.i rfl) (B.ext (fun l hl => b2.l 2 l 9 (by omega)) (fun k j hk => b2.l k h j (by omega)) (fun _ _ _ => rfl) O) b2.z10 b2.z11 b2.z9
  have k3 : ∀ k i j, ¬ (i = 25 ∧ 8 ≤ k ∧ k ≤ 13) → ¬ (26 ≤ k ∧ k ≤ 32) → rdL w3 k i j = rdL w k i j := fun k i j q1 q2 => by
    rw [c2.l k i j (by omega) q2, b2.l k i j q1]
  have T3 : ∀ l, rdL w3 10 26 l = T l := fun l => by rw [k3 10 26 l (by omega) (by omega), hTl]
  have s1 := E.sum
  have s2 := E.swap.sum
  have mt := mn_toInt (x := sumL (fun l => exV (F l) (T l)) 40) (y := sumL (fun l => exV (T l) (F l)) 40)
  have sw1 := E.shw (A := mn (sumL (fun l => exV (F l) (T l)) 40) (sumL (fun l => exV (T l) (F l)) 40)) (by rw [mt]; omega) (by rw [mt]; omega)
  have sw2 := E.swap.shw (A := mn (sumL (fun l => exV (F l) (T l)) 40) (sumL (fun l => exV (T l) (F l)) 40)) (by rw [mt]; omega) (by rw [mt]; omega)
  have mt' := mt
  clear mt s1 s2
  have bd := fun l (hl : l < 40) => byV_bd E hl
  have hby : ∀ l, byV T F l = shV (mn (sumL (fun l => exV (F l) (T l)) 40) (sumL (fun l => exV (T l) (F l)) 40)) (sumL (fun l => exV (F l) (T l)) 40) (fun l => exV (F l) (T l)) 40 l - shV (mn (sumL (fun l => exV (F l) (T l)) 40) (sumL (fun l => exV (T l) (F l)) 40)) (sumL (fun l => exV (T l) (F l)) 40) (fun l => exV (T l) (F l)) 40 l := fun l => rfl
  have hXl : ∀ l, (fun l => exV (T l) (F l)) l = exV (T l) (F l) := fun l => rfl
  have hDl : ∀ l, (fun l => exV (F l) (T l)) l = exV (F l) (T l) := fun l => rfl
  clear mt'
  generalize (fun l => exV (T l) (F l)) = EX at sw1 sw2 hby hXl bd
  generalize (fun l => exV (F l) (T l)) = DB at sw1 sw2 hby hDl bd
  have hk_ := itr_inv (body := fW_contributes_L26 26) (fun i u => (sumL EX i, sumL DB i, nI i, u)) (fun i u => u.1 = w3.1 ∧ u.2.2 = w3.2.2 ∧ ∀ a b c, rdL u a b c = if a = 28 ∧ b = 0 ∧ c < i then EX c else if a = 29 ∧ b = 0 ∧ c < i then DB c else rdL w3 a b c) (fun b => ∃ u, b = (sumL EX 40, sumL DB 40, nI 40, u) ∧ u.1 = w3.1 ∧ u.2.2 = w3.2.2 ∧ ∀ a b c, rdL u a b c = if a = 28 ∧ b = 0 ∧ c < 40 then EX c else if a = 29 ∧ b = 0 ∧ c < 40 then DB c else rdL w3 a b c) 40 w3 (by omega) ⟨rfl, rfl, fun a b c => by rw [if_neg (by omega), if_neg (by omega)]⟩ (fun i u hi hI => ?_) (fun u hI => ?_)
  · obtain ⟨b, d1, u, rfl, d2, d3, d4⟩ := hk_
    generalize hmv : mn (sumL DB 40) (sumL EX 40) = mv at sw1 sw2 hby
    have hif : (if sumL DB 40 < sumL EX 40 then sumL DB 40 else sumL EX 40) = mv := hmv
    have x28 : ∀ l, l < 40 → rdL u 28 0 l = EX l := fun l hl => by rw [d4, if_pos ⟨rfl, rfl, hl⟩]
    have x29 : ∀ l, l < 40 → rdL u 29 0 l = DB l := fun l hl => by rw [d4, if_neg (by omega), if_pos ⟨rfl, rfl, hl⟩]
    have e28 : sumL (rdL u 28 0) 40 = sumL EX 40 := sumL_congr x28
    obtain ⟨u1, p1, p2, p3⟩ := c_shares_28_30 (w := u) (A := mv) (by rw [e28, shR_congr (n := 40) x28]; exact shR_pos sw1)
    have q1 : ∀ l, l < 40 → rdL u1 30 0 l = shV mv (sumL EX 40) EX 40 l := fun l hl => by rw [p3 l hl, e28]; exact shV_congr hl x28
    have l1 : itr (fW_contributes_L144 26) tt_fuel ((0 : Int32), u1) = some (nI 40, fillL u1 12 26 (fun l => rdL u1 12 26 l - rdL u1 30 0 l) 40) := by
      refine itr_run (fun i => (nI i, fillL u1 12 26 (fun l => rdL u1 12 26 l - rdL u1 30 0 l) i)) 40 _ (by omega) (fun i hi => ?_) ?_
      · unfold fW_contributes_L144
        dsimp only [nm]
        rw [L40, if_neg (nI_ge hi (by omega)), inB_nI hi (by omega), if_pos rfl, nI_clamp (by omega), nI_1, fillL_rd, if_neg (by omega), fillL_rd, if_neg (by omega)]
        rfl
      · unfold fW_contributes_L144
        rw [L40, if_pos (nI_le (Nat.le_refl _) (by omega))]
    generalize hu2 : fillL u1 12 26 (fun l => rdL u1 12 26 l - rdL u1 30 0 l) 40 = u2 at l1
    have F2 : FrR 12 u1 u2 := hu2 ▸ FrR.fill _ _
    have r2 : ∀ k i j, ¬ (k = 12 ∧ i = 26) → rdL u2 k i j = rdL u1 k i j := fun k i j q => by rw [← hu2, fillL_rd, if_neg (fun z => q ⟨z.1, z.2.1⟩)]
    have x12 : ∀ l, l < 40 → rdL u2 12 26 l = 0 - shV mv (sumL EX 40) EX 40 l := fun l hl => by
      rw [← hu2, fillL_rd, if_pos ⟨rfl, rfl, hl⟩, q1 l hl, p2.l 12 26 l (by omega), d4, if_neg (by omega), if_neg (by omega), k3 12 26 l (by omega) (by omega), z12 l hl]
    have y29 : ∀ l, l < 40 → rdL u2 29 0 l = DB l := fun l hl => by rw [r2 29 0 l (by omega), p2.l 29 0 l (by omega)]; exact x29 l hl
    have e29 : sumL (rdL u2 29 0) 40 = sumL DB 40 := sumL_congr y29
    obtain ⟨u3, f1, f2, f3⟩ := c_shares_29_30 (w := u2) (A := mv) (by rw [e29, shR_congr (n := 40) y29]; exact shR_pos sw2)
    have q3 : ∀ l, l < 40 → rdL u3 30 0 l = shV mv (sumL DB 40) DB 40 l := fun l hl => by rw [f3 l hl, e29]; exact shV_congr hl y29
    have keep : ∀ k i j, ¬ (k = 12 ∧ i = 26) → ¬ (k = 28 ∨ k = 29 ∨ k = 30) → rdL u3 k i j = rdL w3 k i j := fun k i j z1 z2 => by
      rw [f2.l k i j (by omega), r2 k i j z1, p2.l k i j (by omega), d4, if_neg (by omega), if_neg (by omega)]
    have x12' : ∀ l, l < 40 → rdL u3 12 26 l = 0 - shV mv (sumL EX 40) EX 40 l := fun l hl => by rw [f2.l 12 26 l (by omega)]; exact x12 l hl
    have byc : ∀ l, (0 : Int64) - shV mv (sumL EX 40) EX 40 l + shV mv (sumL DB 40) DB 40 l = byV T F l := fun l => by rw [hby]; grind
    have hk_ := itr_inv (body := fW_contributes_L196 26) (fun i u => (nI i, u)) (fun i u => u.1 = u3.1 ∧ u.2.2 = u3.2.2 ∧ ∀ a b c, rdL u a b c = if a = 12 ∧ b = 26 ∧ c < i then byV T F c else if a = 10 ∧ b = 26 ∧ c < i then T c + byV T F c else rdL u3 a b c) (fun b => ∃ u, b = (nI 40, u) ∧ u.1 = u3.1 ∧ u.2.2 = u3.2.2 ∧ ∀ a b c, rdL u a b c = if a = 12 ∧ b = 26 ∧ c < 40 then byV T F c else if a = 10 ∧ b = 26 ∧ c < 40 then T c + byV T F c else rdL u3 a b c) 40 u3 (by omega) ⟨rfl, rfl, fun a b c => by rw [if_neg (by omega), if_neg (by omega)]⟩ (fun i u hi hI => ?_) (fun u hI => ?_)
    · obtain ⟨b', g1, w', rfl, g2, g3, g4⟩ := hk_
      have iw : w'.1 = w.1 ∨ True := Or.inr trivial
      have i3 : w'.1 = w3.1 := g2.trans (f2.i.trans (F2.i.trans (p2.i.trans d2)))
      have r3 : w'.2.2 = w3.2.2 := g3.trans (f2.r.trans (F2.r.trans (p2.r.trans d3)))
      have v10 : ∀ l, l < 40 → rdL w' 10 26 l = T l + byV T F l := fun l hl => by rw [g4, if_neg (by omega), if_pos ⟨rfl, rfl, hl⟩]
      have v12 : ∀ l, l < 40 → rdL w' 12 26 l = byV T F l := fun l hl => by rw [g4, if_pos ⟨rfl, rfl, hl⟩]
      have kp : ∀ k i j, ¬ (i = 26 ∧ (k = 10 ∨ k = 12)) → ¬ (i = 25 ∧ 8 ≤ k ∧ k ≤ 13) → ¬ (26 ≤ k ∧ k ≤ 32) → rdL w' k i j = rdL w k i j := fun k i j z1 z2 z3 => by
        rw [g4, if_neg (by omega), if_neg (by omega), keep k i j (by omega) (by omega), k3 k i j z2 z3]
      refine ⟨w', t', ?_, m1, ⟨fun l hl => ?_, fun l hl => ?_, fun l hl => ?_, fun l hl => ?_, fun r hr => ?_, fun l hl ht => ?_, fun y k hy hk => ?_, fun l hl ht => ?_, fun l hl ht => by rw [kp 11 26 l (by omega) (by omega) (by omega)]; exact R.fz1 l hl ht⟩, ⟨fun q => QW.same i3 r3 (c2.q (QW.same b2.i b2.r q)), fun k i j hk => ?_, fun k i j z1 z2 => kp k i j (by omega) (by omega) z2⟩, ⟨fun k i j z1 z2 => rdI_1 m2 k i j, fun k i j z1 z2 => m5 k i j (by omega)⟩, fun l hl => ?_, fun k j hk => ?_, fun k i j hk => rdI_1 m2 k i j, fun k i j hk => m5 k i j (by omega)⟩
      · unfold fW_contributes
        rw [b1]
        simp only [Option.bind_some]
        rw [c1]
        simp only [Option.bind_some]
        rw [show ((0 : Int64), (0 : Int64), (0 : Int32), w3) = (sumL EX 0, sumL DB 0, nI 0, w3) from rfl, d1]
        simp only [Option.bind_some]
        rw [hif, p1]
        simp only [Option.bind_some]
        rw [l1]
        simp only [Option.bind_some]
        rw [f1]
        simp only [Option.bind_some]
        rw [L0, g1]
        rfl
      · rw [(m4 l hl).2.2.1, R.took l hl, kp 10 h l (by omega) (by omega) (by omega), v10 l hl, hTl, Int64.add_assoc]
      · rw [(m4 l hl).2.1, R.used l hl, kp 2 l 9 (by omega) (by omega) (by omega), v10 l hl, hTl, Int64.add_assoc]
      · rw [(m4 l hl).1, R.takes l hl, v10 l hl, hTl]
      · rw [m5 22 0 _ (by omega), R.thr l hl, kp 11 h l (by omega) (by omega) (by omega), kp 11 26 l (by omega) (by omega) (by omega)]
      · rw [m5 26 0 _ (by omega), R.fell r hr, kp 9 h r (by omega) (by omega) (by omega), kp 9 26 r (by omega) (by omega) (by omega)]
      · have e1 := R.bt l hl ht
        have e2 := V.b l hl ht
        have e3 := (bd l hl).2
        have e4 := E.t l hl
        have e5 := E.f l hl
        rw [hTl] at e1
        have e6 : (T l + byV T F l).toInt = (T l).toInt + (byV T F l).toInt := i64_add (by omega) (by omega)
        rw [kp 10 h l (by omega) (by omega) (by omega), v10 l hl, kp 2 l 9 (by omega) (by omega) (by omega), e6]
        generalize (a.sz l : Int) * a.tm l = Z at e1 e2 ⊢
        omega
      · have := O.rg40 y k hy hk
        rw [kp 11 h _ (by omega) (by omega) (by omega), kp 11 26 _ (by omega) (by omega) (by omega)]
        exact R.bh y k hy hk
      · have e1 := R.fz l hl ht
        rw [hTl] at e1
        have e2 := V.z l hl ht
        have e3 := (bd l hl).2
        rw [v10 l hl]
        rw [e1, e2, i64_0] at e3
        rw [e1]
        exact i64_ext (by rw [i64_add (by rw [i64_0]; omega) (by rw [i64_0]; omega), i64_0]; omega)
      · rw [rdI_1 i3, c2.i k i j hk, rdI_1 b2.i]
      · rw [(m4 l hl).2.2.2, v12 l hl]
      · exact kp k 26 j (by omega) (by omega) (by omega)
    · obtain ⟨h1, h2, h3⟩ := hI
      have w12 : rdL u 12 26 i = 0 - shV mv (sumL EX 40) EX 40 i := by rw [h3, if_neg (by omega), if_neg (by omega)]; exact x12' i hi
      have w30 : rdL u 30 0 i = shV mv (sumL DB 40) DB 40 i := by rw [h3, if_neg (by omega), if_neg (by omega)]; exact q3 i hi
      have w10 : rdL u 10 26 i = T i := by rw [h3, if_neg (by omega), if_neg (by omega), keep 10 26 i (by omega) (by omega)]; exact T3 i
      refine ⟨wrL (wrL u 12 26 i (byV T F i)) 10 26 i (T i + byV T F i), ?_, h1, h2, fun a b c => ?_⟩
      · unfold fW_contributes_L196
        dsimp only [nm]
        rw [L40, if_neg (nI_ge hi (by omega)), inB_nI hi (by omega), if_pos rfl, nI_clamp (by omega), nI_1, w12, w30, byc, rdL_wrL, if_neg (by omega), w10, rdL_wrL, if_pos ⟨rfl, rfl, rfl⟩]
      · rw [rdL_wrL, rdL_wrL, h3]
        exact ptA (k1 := 12) (k2 := 10) (b1 := 26) (fun c => byV T F c) (fun c => T c + byV T F c) (by decide)
    · refine ⟨_, ?_, u, rfl, hI⟩
      unfold fW_contributes_L196
      rw [L40, if_pos (nI_le (Nat.le_refl _) (by omega))]
  · obtain ⟨h1, h2, h3⟩ := hI
    have w1 : rdL u 10 26 i = T i := by rw [h3, if_neg (by omega), if_neg (by omega)]; exact T3 i
    have w2 : rdL u 10 25 i = F i := by rw [h3, if_neg (by omega), if_neg (by omega)]; exact c3 i hi
    have eE : (if T i - F i < (0 : Int64) then (0 : Int64) else T i - F i) = EX i := by rw [hXl]; rfl
    have eD : (if F i - T i < (0 : Int64) then (0 : Int64) else F i - T i) = DB i := by rw [hDl]; rfl
    refine ⟨wrL (wrL u 28 0 i (EX i)) 29 0 i (DB i), ?_, h1, h2, fun a b c => ?_⟩
    · unfold fW_contributes_L26
      dsimp only [nm]
      have y1 : rdL (wrL u 28 0 i (EX i)) 10 26 i = T i := by rw [rdL_wrL, if_neg (by omega)]; exact w1
      have y2 : rdL (wrL u 28 0 i (EX i)) 10 25 i = F i := by rw [rdL_wrL, if_neg (by omega)]; exact w2
      have y3 : rdL (wrL (wrL u 28 0 i (EX i)) 29 0 i (DB i)) 28 0 i = EX i := by rw [rdL_wrL, if_neg (by omega), rdL_wrL, if_pos ⟨rfl, rfl, rfl⟩]
      have y4 : rdL (wrL (wrL u 28 0 i (EX i)) 29 0 i (DB i)) 29 0 i = DB i := by rw [rdL_wrL, if_pos ⟨rfl, rfl, rfl⟩]
      rw [L40, if_neg (nI_ge hi (by omega)), inB_nI hi (by omega), if_pos rfl, nI_clamp (by omega), nI_1, w1, w2, eE, y1, y2, eD, y3, y4]
      rfl
    · rw [rdL_wrL, rdL_wrL, h3]
      exact ptA (k1 := 28) (k2 := 29) (b1 := 0) EX DB (by decide)
  · refine ⟨_, ?_, u, rfl, hI⟩
    unfold fW_contributes_L26
    rw [L40, if_pos (nI_le (Nat.le_refl _) (by omega))]
