set_option linter.unusedVariables false
set_option linter.unusedSimpArgs false
set_option maxRecDepth 100000
theorem i64_r1 (x y : Int64) : x + -1 * y = x - y := by rw [Int64.neg_mul, Int64.one_mul, ← Int64.sub_eq_add_neg]
theorem i64_r2 (x y : Int64) : x + -1 * y = x + -y := by rw [Int64.neg_mul, Int64.one_mul]
theorem i64_r3 (x : Int64) : 0 = x + -x := by rw [← Int64.sub_eq_add_neg, Int64.sub_self]
set_option maxHeartbeats 4000000 in
theorem reopens_rel {w t : tt_St} {a : TS} {c h : Nat} (R : RW w t a c d0) (hc : c ≤ 200) (hh : h < 24) :
    DEED (fW_opensAgain w (nI h)) (if zb (rdI t 7 0 h) then some (rdI t 7 0 h) else none) (fM_reopens t (nI h)) w t a c noP noP := by
  have C := R.C
  have M := R.M
  have O := R.O
  have Hh := R.H h hh
  have h1 := R.L h hh
  have d0h : d0 h = 0 := rfl
  rw [d0h, Int64.add_zero] at h1
  rcases Hh.i01 with i0 | i1
  · left
    unfold fW_opensAgain
    rw [inB_nI hh (by omega), if_pos rfl, nI_clamp (by omega), Hh.isH, i0, if_pos rfl, if_pos (by decide)]
    exact ⟨rfl, rfl⟩
  · right
    obtain ⟨w1, u1, u2, u3, u4⟩ := c_uses C O h (-1)
    obtain ⟨w2, b1, b2⟩ := c_begins (w := w1) h
    generalize hw3 : wrL w2 7 h 10 (0 : Int64) = w3
    generalize ht1 : fillL t 15 0 (fun l => rdL t 15 0 l - rdL t 21 0 (40 * h + l)) 40 = t1
    have F1 : FrR 15 t t1 := ht1 ▸ FrR.fill _ _
    obtain ⟨t2, c1, c2, c3, c4⟩ := m_clearsHarm (t := t1) (h := h) (by omega)
    have lw7 : rdL w1 7 h 10 = rdL w 7 h 10 := by rw [u4, if_neg (by omega), if_neg (by omega)]
    have iw : ∀ k i j, rdI w3 k i j = rdI w k i j := fun k i j => by rw [← hw3, rdI_wrL, rdI_1 b2.i, rdI_1 u2]
    have it : ∀ k i j, ¬ (k = 24 ∧ j / 160 = h) → rdI t2 k i j = rdI t k i j := fun k i j z => by rw [c4, if_neg (by omega), rdI_1 F1.i]
    have lw : ∀ k i j, ¬ (k = 2 ∧ j = 9) → ¬ k = 5 → ¬ (i = h ∧ 8 ≤ k ∧ k ≤ 13) → ¬ (k = 7 ∧ i = h ∧ j = 10) → rdL w3 k i j = rdL w k i j := fun k i j z1 z2 z3 z4 => by
      rw [← hw3, rdL_wrL, if_neg (by omega), b2.l k i j z3, u4, if_neg (by omega), if_neg (by omega)]
    have lt : ∀ k j, ¬ k = 15 → ¬ (((k = 21 ∨ k = 22 ∨ k = 23) ∧ j / 40 = h) ∨ (k = 25 ∧ j / 10 = h) ∨ (k = 26 ∧ j / 7 = h)) → rdL t2 k 0 j = rdL t k 0 j := fun k j z1 z2 => by
      rw [c3, if_neg (by omega), F1.l k 0 j z1]
    have tz : ∀ k j, (((k = 21 ∨ k = 22 ∨ k = 23) ∧ j / 40 = h) ∨ (k = 25 ∧ j / 10 = h) ∨ (k = 26 ∧ j / 7 = h)) → rdL t2 k 0 j = 0 := fun k j z => by rw [c3, if_pos ⟨rfl, z⟩]
    have wz : ∀ k j, (k = 8 ∧ j < 10) ∨ (k = 9 ∧ j < 7) ∨ ((k = 10 ∨ k = 11 ∨ k = 12) ∧ j < 40) ∨ (k = 13 ∧ j < 160) → rdL w3 k h j = 0 := fun k j hk => by
      rw [← hw3, rdL_wrL, if_neg (by omega)]
      rcases hk with ⟨rfl, q⟩ | ⟨rfl, q⟩ | ⟨rfl | rfl | rfl, q⟩ | ⟨rfl, q⟩
      · exact b2.z8 j q
      · exact b2.z9 j q
      · exact b2.z10 j q
      · exact b2.z11 j q
      · exact b2.z12 j q
      · exact b2.z13 j q
    have v2 : ∀ l, l < 40 → rdL w3 2 l 9 = rdL w 2 l 9 - rdL w 10 h l := fun l hl => by
      rw [← hw3, rdL_wrL, if_neg (by omega), b2.l 2 l 9 (by omega), u4, if_pos ⟨rfl, hl, rfl⟩]
      exact i64_r1 _ _
    have v5 : ∀ l k, l < 40 → k < a.sg l → rdL w3 5 l k = rdL w 5 l k + -rdL w 13 h (4 * l + k) := fun l k hl hk => by
      rw [← hw3, rdL_wrL, if_neg (by omega), b2.l 5 l k (by omega), u4, if_neg (by omega), if_pos ⟨rfl, hl, hk⟩]
      exact i64_r2 _ _
    have t15 : ∀ l, l < 40 → rdL t2 15 0 l = rdL t 15 0 l - rdL t 21 0 (40 * h + l) := fun l hl => by
      rw [c3, if_neg (by omega), ← ht1, fillL_rd, if_pos ⟨rfl, rfl, hl⟩]
    have tbb : ∀ i l, i < 24 → l < 40 → 0 ≤ (rdL w 10 i l).toInt ∧ (rdL w 10 i l).toInt ≤ 100000000 := fun i l hi hl => by
      have h3 := (R.H i hi).tb l hl
      refine ⟨h3.1, ?_⟩
      by_cases ht : a.there l = true
      · have := h3.2.1 ht
        have := O.sz1 l hl ht
        omega
      · rw [h3.2.2 (by simpa using ht)]; decide
    have ub0 : ∀ l, l < 40 → 0 ≤ (rdL w 2 l 9).toInt ∧ (rdL w 2 l 9).toInt ≤ 4000000000 ∧ (rdL w 10 h l).toInt ≤ (rdL w 2 l 9).toInt := fun l hl => by
      have g1 := sumZ_nonneg (f := fun h => (rdL w 10 h l).toInt) (n := 24) (fun i hi => (tbb i l hi hl).1)
      have g2 := sumZ_le (f := fun h => (rdL w 10 h l).toInt) (n := 24) (b := 100000000) (fun i hi => (tbb i l hi hl).2)
      have g3 := sumZ_mem (f := fun h => (rdL w 10 h l).toInt) (n := 24) (k := h) (fun i hi => (tbb i l hi hl).1) hh
      rw [R.us l hl]
      omega
    obtain ⟨fi, la, sh, Y⟩ := Hh.hy i1
    have R3 : RW w3 t2 a (c + 1) (fun i => if i = h then rdL w 7 h 10 else 0) := by
      refine ⟨C.fi (fun k i j _ => iw k i j), ?_, O, R.di, fun l hl => ?_, fun l hl => ?_, fun l hl ht => ?_, fun i hi => ?_, fun i hi => ?_, fun l k hl hk => ?_, fun i hi => ?_, ?_, ?_, ?_, ?_, R.lk, R.s0⟩
      · have e := fun k i j (z : ¬ k = 24) => it k i j (fun q => z q.1)
        unfold MS at M ⊢
        simp only [e 0 _ _ (by omega), e 6 _ _ (by omega), e 8 _ _ (by omega), e 9 _ _ (by omega), e 10 _ _ (by omega), e 11 _ _ (by omega), e 12 _ _ (by omega), e 13 _ _ (by omega), e 14 _ _ (by omega), e 27 _ _ (by omega), e 33 _ _ (by omega), e 34 _ _ (by omega), e 35 _ _ (by omega)]
        exact M
      · rw [t15 l hl, v2 l hl, R.used l hl, Hh.took l hl]
      · have g := ub0 l hl
        have g2 := tbb h l hh hl
        rw [v2 l hl, i64_sub (by omega) (by omega), R.us l hl]
        have : sumZ (fun i => (rdL w3 10 i l).toInt) 24 = sumZ (fun i => if i = h then (rdL w 10 i l).toInt + -(rdL w 10 h l).toInt else (rdL w 10 i l).toInt) 24 := sumZ_congr (fun i hi => by
          by_cases e : i = h
          · rw [if_pos e, e, wz 10 l (by omega), i64_0]; omega
          · rw [if_neg e, lw 10 i l (by omega) (by omega) (by omega) (by omega)])
        rw [this, sumZ_upd hh]
        omega
      · have g := ub0 l hl
        have g2 := tbb h l hh hl
        have g3 := R.ub l hl ht
        rw [v2 l hl, i64_sub (by omega) (by omega)]
        generalize (a.sz l : Int) * a.tm l = Z at g3 ⊢
        omega
      · by_cases e : i = h
        · subst e
          refine ⟨fun l hl => ?_, fun l hl => ?_, fun l hl => ?_, fun j hj => ?_, fun r hr => ?_, fun c hc => ?_, fun l hl => ?_, fun l hl => ?_, fun l k hl hk => ?_, ?_, ?_, ?_, fun q => ?_, fun q => ?_⟩
          · rw [tz 21 _ (by omega), wz 10 l (by omega)]
          · rw [tz 22 _ (by omega), wz 11 l (by omega)]
          · rw [tz 23 _ (by omega), wz 12 l (by omega)]
          · rw [tz 25 _ (by omega), wz 8 j (by omega)]
          · rw [tz 26 _ (by omega), wz 9 r (by omega)]
          · rw [c4, if_pos (by omega), wz 13 c (by omega)]; rfl
          · rw [wz 10 l (by omega), i64_0]; exact ⟨by omega, fun _ => by omega, fun _ => rfl⟩
          · rw [wz 11 l (by omega), i64_0]; exact ⟨by omega, by omega, fun _ => rfl⟩
          · rw [wz 13 _ (by omega), wz 10 l (by omega), i64_0]; exact ⟨by omega, by omega, fun _ => rfl⟩
          · rw [iw, it 19 0 i (by omega)]; exact Hh.gr
          · rw [iw, it 7 0 i (by omega)]; exact Hh.isH
          · rw [it 7 0 i (by omega)]; exact Hh.i01
          · exact ⟨fi, la, sh, by rw [iw]; exact Y.cf, by rw [iw]; exact Y.cl, by rw [iw]; exact Y.cs, by rw [it 16 _ _ (by omega)]; exact Y.mf, by rw [it 17 _ _ (by omega)]; exact Y.ml, by rw [it 18 _ _ (by omega)]; exact Y.ms, Y.o1, Y.o2, Y.o3⟩
          · rw [it 7 0 i (by omega), i1] at q; exact absurd q (by decide)
        · exact (R.H i hi).ext (fun k j z1 z2 => lw k i j (by omega) (by omega) (by omega) (by omega)) (fun j => iw 7 i j) (fun k j hk => lt k j (by omega) (by omega)) (fun j hj => it 24 0 j (by omega)) (fun k hk => it k 0 i (by omega))
      · have g := R.L i hi
        dsimp only
        rw [lt 20 i (by omega) (by omega), it 7 0 i (by omega)]
        by_cases e : i = h
        · subst e
          rw [if_pos rfl, ← hw3, rdL_wrL, if_pos ⟨rfl, rfl, rfl⟩, Int64.zero_add]
          exact ⟨h1.1, h1.2.1, by have := h1.2.2.1; omega, h1.2.2.2⟩
        · rw [if_neg e, lw 7 i 10 (by omega) (by omega) (by omega) (by omega)]
          exact ⟨g.1, g.2.1, by have := g.2.2.1; omega, g.2.2.2⟩
      · have : sumL (fun i => rdL w3 13 i (4 * l + k)) 24 = sumL (fun i => if i = h then rdL w 13 i (4 * l + k) + -rdL w 13 h (4 * l + k) else rdL w 13 i (4 * l + k)) 24 := sumL_congr (fun i hi => by
          have h4 := O.sg4 l hl
          by_cases e : i = h
          · rw [if_pos e, e, wz 13 _ (by omega)]; exact i64_r3 _
          · rw [if_neg e, lw 13 i _ (by omega) (by omega) (by omega) (by omega)])
        rw [v5 l k hl hk, R.hs l k hl hk, this, sumL_upd hh]
      · rw [lw 25 0 i (by omega) (by omega) (by omega) (by omega), it 28 0 i (by omega)]; exact R.cash i hi
      · rw [iw, it 0 0 48 (by omega)]; exact R.fx
      · rw [iw]; exact R.pl
      · have e : cntP (fun h => decide (rdI t 7 0 h = 1)) 24 = cntP (fun h => decide (rdI t2 7 0 h = 1)) 24 := cntP_congr (fun i hi => by rw [it 7 0 i (by omega)])
        rw [iw, R.hm, e]
      · refine QW.same (w := w) (by rw [← hw3]; exact b2.i.trans u2) (by rw [← hw3]; exact b2.r.trans u3) R.q
    obtain ⟨w', t', g1, g2, g3, g4⟩ := lays_rel R3 hh (by rw [it 7 0 h (by omega)]; exact i1) (by rw [h1.1]; exact h1.2.1) (by rw [h1.1]; omega)
    have I7 : ∀ i, rdI t' 7 0 i = rdI t 7 0 i := fun i => by rw [g4.i 7 0 i (by omega) (by omega), it 7 0 i (by omega)]
    refine ⟨w', t', a, ?_, ?_, ?_, g3, ?_, fun l hl ht => Or.inl ht, fun i hi ht => Or.inl ?_, fun l hl ht => ht.elim id (fun z => z.elim), fun i hi ht => ?_⟩
    · unfold fW_opensAgain fH_comesAnew
      dsimp only [nm]
      rw [inB_nI hh (by omega), if_pos rfl, nI_clamp (by omega), Hh.isH, i1, if_neg (by decide), u1, Option.bind_some, b1, Option.bind_some, Option.bind_some, hw3, lw7, g1, Option.bind_some]
    · rw [i1, if_pos (by decide)]
    · unfold fM_reopens
      rw [m_reuse (by omega), ht1]
      simp only [Option.bind_some]
      rw [c1]
      simp only [Option.bind_some]
      rw [inB_nI (show h < 25 by omega) (by omega), if_pos rfl, nI_clamp (by omega), lt 20 h (by omega) (by omega), ← h1.1, g2]
      rfl
    · exact FE.trans ⟨fun k j hk => it k 0 j (by omega), fun j hj => it 0 0 j (by omega)⟩ g4.fe
    · rw [I7] at ht; exact ht
    · rw [I7]; exact ht.elim id (fun z => z.elim)
