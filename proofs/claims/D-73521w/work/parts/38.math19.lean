set_option linter.unusedVariables false
set_option linter.unusedSimpArgs false
set_option maxRecDepth 100000
/-! PLAIN LAW: a loss flows, all ways, both sides -/
theorem szs_bd {a : TS} (O : a.Ok) {y : Nat} (hy : y < 12) : 0 ≤ (szs a y).toInt ∧ (szs a y).toInt ≤ 600000000 := by
  have h6 := O.n6 y hy
  have hb : ∀ k, k < a.n y → 0 ≤ ((nI (a.sz (a.rg y k))).toInt64).toInt ∧ ((nI (a.sz (a.rg y k))).toInt64).toInt ≤ 100000000 := fun k hk => by
    have := O.sz1 _ (O.rg40 y k hy hk) (O.rgT y k hy hk)
    rw [nI64 (by omega)]
    omega
  unfold szs
  have e := sumL_toInt (W := fun k => (nI (a.sz (a.rg y k))).toInt64) (b := 100000000) (by omega) (n := a.n y) (by omega) hb
  have h2 := sumZ_nonneg (f := fun k => ((nI (a.sz (a.rg y k))).toInt64).toInt) (n := a.n y) (fun i hi => (hb i hi).1)
  have h3 := sumZ_le (f := fun k => ((nI (a.sz (a.rg y k))).toInt64).toInt) (n := a.n y) (b := 100000000) (fun i hi => (hb i hi).2)
  rw [e]
  omega
theorem szA_bd {a : TS} (O : a.Ok) {off : Int32} : ∀ n, n ≤ 12 → 0 ≤ (szA a off n).toInt ∧ (szA a off n).toInt ≤ 600000000 * (cntA a off n : Int)
  | 0, _ => by
    have : szA a off 0 = 0 := rfl
    rw [this, i64_0]
    have : cntA a off 0 = 0 := rfl
    rw [this]; omega
  | n + 1, h => by
    have ih := szA_bd O (off := off) n (by omega)
    have hs := szs_bd O (show n < 12 by omega)
    have hc := cntA_le (a := a) (off := off) n
    have e1 : szA a off (n + 1) = szA a off n + (if hasB a off n then szs a n else 0) := rfl
    have e2 : cntA a off (n + 1) = if hasB a off n then cntA a off n + 1 else cntA a off n := rfl
    rw [e1, e2]
    cases hasB a off n with
    | true =>
      simp only [if_true]
      rw [i64_add (by omega) (by omega)]
      omega
    | false =>
      simp only [Bool.false_eq_true, if_false]
      rw [Int64.add_zero]
      exact ih
theorem wS_ShW {a : TS} (O : a.Ok) {off : Int32} {A : Int64} (hA : 0 ≤ A.toInt) (hA2 : A.toInt < 2 ^ 60) : ShW A (wS a off) 12 := by
  refine ⟨hA, hA2, 600000000, by omega, by omega, by omega, fun i hi => ?_⟩
  have hs := szs_bd O hi
  have hz := szA_bd O (off := off) 12 (by omega)
  have hc := cntA_le (a := a) (off := off) 12
  unfold wS
  split
  · split
    · split
      · decide
      · rename_i q
        have e : (lN (cntA a off 12)).toInt = cntA a off 12 := lN_toInt (by omega)
        rw [i64_div hz.1 (by rw [e]; omega), e]
        refine ⟨Int.ediv_nonneg hz.1 (by omega), ?_⟩
        have h1 : (szA a off 12).toInt / (cntA a off 12 : Int) ≤ (600000000 * (cntA a off 12 : Int)) / (cntA a off 12 : Int) := Int.ediv_le_ediv (by omega) hz.2
        rw [Int.mul_ediv_cancel _ (by omega)] at h1
        exact h1
    · exact hs
  · decide
/-- a loss of harm h is on its way by 26, not split yet -/
def MID (w : tt_St) (t : tt_St) (w0 : tt_St) (t0 : tt_St) (a : TS) (h : Nat) : Prop :=
  (RF w t a h 26) ∧
  (GC2 26 w0 w) ∧
  (GM2 h t0 t) ∧
  (∀ j, j < 10 → rdL w 8 26 j = 0) ∧
  (∀ j, j < 160 → rdL w 13 26 j = 0) ∧
  (∀ l, l < 40 → rdL t 23 0 (40 * h + l) = rdL t0 23 0 (40 * h + l) + rdL w 12 26 l) ∧
  (∀ j, rdI t 24 0 j = rdI t0 24 0 j) ∧
  (∀ j, rdL t 25 0 j = rdL t0 25 0 j)
theorem MID.rf {w : tt_St} {t : tt_St} {w0 : tt_St} {t0 : tt_St} {a : TS} {h : Nat} (self_ : MID w t w0 t0 a h) : RF w t a h 26 := self_.1
theorem MID.gc {w : tt_St} {t : tt_St} {w0 : tt_St} {t0 : tt_St} {a : TS} {h : Nat} (self_ : MID w t w0 t0 a h) : GC2 26 w0 w := self_.2.1
theorem MID.gm {w : tt_St} {t : tt_St} {w0 : tt_St} {t0 : tt_St} {a : TS} {h : Nat} (self_ : MID w t w0 t0 a h) : GM2 h t0 t := self_.2.2.1
theorem MID.z8 {w : tt_St} {t : tt_St} {w0 : tt_St} {t0 : tt_St} {a : TS} {h : Nat} (self_ : MID w t w0 t0 a h) : ∀ j, j < 10 → rdL w 8 26 j = 0 := self_.2.2.2.1
theorem MID.z13 {w : tt_St} {t : tt_St} {w0 : tt_St} {t0 : tt_St} {a : TS} {h : Nat} (self_ : MID w t w0 t0 a h) : ∀ j, j < 160 → rdL w 13 26 j = 0 := self_.2.2.2.2.1
theorem MID.mv {w : tt_St} {t : tt_St} {w0 : tt_St} {t0 : tt_St} {a : TS} {h : Nat} (self_ : MID w t w0 t0 a h) : ∀ l, l < 40 → rdL t 23 0 (40 * h + l) = rdL t0 23 0 (40 * h + l) + rdL w 12 26 l := self_.2.2.2.2.2.1
theorem MID.ti {w : tt_St} {t : tt_St} {w0 : tt_St} {t0 : tt_St} {a : TS} {h : Nat} (self_ : MID w t w0 t0 a h) : ∀ j, rdI t 24 0 j = rdI t0 24 0 j := self_.2.2.2.2.2.2.1
theorem MID.tb {w : tt_St} {t : tt_St} {w0 : tt_St} {t0 : tt_St} {a : TS} {h : Nat} (self_ : MID w t w0 t0 a h) : ∀ j, rdL t 25 0 j = rdL t0 25 0 j := self_.2.2.2.2.2.2.2
theorem MID.of {w t w0 t0 : tt_St} {a : TS} {h : Nat} (hh : h < 25) (rf : RF w t a h 26) (gc : GC 26 w0 w) (gm : GM h t0 t) (z8 : ∀ j, j < 10 → rdL w0 8 26 j = 0) (z12 : ∀ j, j < 40 → rdL w0 12 26 j = 0) (z13 : ∀ j, j < 160 → rdL w0 13 26 j = 0) : MID w t w0 t0 a h :=
  ⟨rf, gc.up, gm.up, fun j hj => by rw [gc.l 8 26 j (by omega) (by omega)]; exact z8 j hj, fun j hj => by rw [gc.l 13 26 j (by omega) (by omega)]; exact z13 j hj, fun l hl => by rw [gc.l 12 26 l (by omega) (by omega), z12 l hl, Int64.add_zero, gm.l 23 0 _ (by omega) (by omega)], fun j => gm.i 24 0 j (by omega), fun j => gm.l 25 0 j (by omega) (by omega)⟩
theorem m_takes0 {t : tt_St} : itr fM_spreads_L3 tt_fuel ((0 : Int32), t) = some (nI 40, fillL t 38 0 (fun _ => 0) 40) :=
  c_fillz (k := 38) (f := 0) (N := 40) (by omega) (fun i u hi => by
    unfold fM_spreads_L3
    dsimp only [nm]
    rw [L40, if_neg (nI_ge hi (by omega)), inB_nI hi (by omega), if_pos rfl, nI_clamp (by omega), nI_1]) (fun u => by
    unfold fM_spreads_L3
    rw [L40, if_pos (nI_le (Nat.le_refl _) (by omega))])
theorem full_rel {w t : tt_St} {a : TS} (C : CS w a) (M : MS t a) (O : a.Ok) {h fi la sh : Nat} (B : RB w t a h) (hh : h < 25) (H : HY w t h fi la sh) (Q : ∃ n, QW w n) {A : Int64} (hA : 0 ≤ A.toInt) (hA2 : A.toInt < 2 ^ 60) (zt : ∀ l, l < 40 → rdL t 38 0 l = 0) (z8 : ∀ j, j < 10 → rdL w 8 26 j = 0) (z9 : ∀ j, j < 7 → rdL w 9 26 j = 0) (z10 : ∀ j, j < 40 → rdL w 10 26 j = 0) (z11 : ∀ j, j < 40 → rdL w 11 26 j = 0) (z12 : ∀ j, j < 40 → rdL w 12 26 j = 0) (z13 : ∀ j, j < 160 → rdL w 13 26 j = 0) :
    ∃ w' t', fW_toTheFull w h A 26 = some w' ∧ ((fM_laysFair t (nI h) A).bind fun r15 => (fM_byFull r15 (nI h) A).bind fun r16 => (fM_contributes r16 (nI h)).bind fun r17 => some r17) = some t' ∧ MID w' t' w t a h := by
  generalize ho : offv fi la sh a.trig = off
  obtain ⟨t1, F, f1, f2, f3, f4, f5, f6, f7, f8⟩ := fair_rel C M O B hh H ho zt hA hA2
  have M1 : MS t1 a := M.g2 f5.up
  have H1 : HY w t1 h fi la sh := by
    have e := fun k i j (h1 : ¬ k = 41) => f5.i k i j h1
    unfold HY at H ⊢
    simp only [e 16 _ _ (by omega), e 17 _ _ (by omega), e 18 _ _ (by omega)]
    exact H
  have B1 : RB w t1 a h := B.ext (fun _ _ => rfl) (fun _ _ _ => rfl) f3 O
  have R1 : RF w t1 a h 26 := B1.flow O z10 z11 z9 f4
  obtain ⟨fl, w1, t2, p1, p2, p3, p4, p5, p6, p7, p8, p9⟩ := paysInFull_rel C M1 O R1 hh (by omega) H1 ho Q hA
  have hF2 : ∀ l, l < 40 → rdL t2 39 0 l = F l := fun l hl => by rw [p6]; exact f2 l hl
  have e24 : ∀ j, rdI t2 24 0 j = rdI t 24 0 j := fun j => by rw [p5.i 24 0 j (by omega), f5.i 24 0 j (by omega)]
  have e25 : ∀ j, rdL t2 25 0 j = rdL t 25 0 j := fun j => by rw [p5.l 25 0 j (by omega) (by omega), f5.l 25 0 j (by omega) (by omega)]
  have e23 : ∀ j, rdL t2 23 0 j = rdL t 23 0 j := fun j => by rw [p5.l 23 0 j (by omega) (by omega), f5.l 23 0 j (by omega) (by omega)]
  rcases p8 with rfl | rfl
  · -- no tower: nothing was taken
    obtain ⟨n10, hn⟩ := p9 rfl
    have hF0 := f8 hn
    have hT0 : ∀ l, l < 40 → rdL t2 38 0 l = 0 := fun l hl => by rw [p3.takes l hl, n10, z10 l hl]
    obtain ⟨t3, m1, m2, m3, m4, m5⟩ := m_contributes (t := t2) hh (T := fun _ => 0) (F := F) ⟨fun l hl => (by decide : 0 ≤ (0 : Int64).toInt ∧ (0 : Int64).toInt ≤ 100000000), fun l hl => by rw [hF0 l hl]; decide⟩ hT0 hF2
    have b0 : ∀ l, l < 40 → byV (fun _ => 0) F l = 0 := fun l hl => byV_zero (fun _ _ => rfl) hF0 hl
    refine ⟨w1, t3, ?_, ?_, ⟨fun l hl => ?_, fun l hl => ?_, fun l hl => ?_, fun l hl => ?_, fun r hr => ?_, p3.bt, p3.bh, p3.fz, p3.fz1⟩, p4.up, (f5.up.trans p5.up).trans ⟨fun k i j _ _ => rdI_1 m2 k i j, fun k i j z1 z2 => m5 k i j (by omega)⟩, fun j hj => ?_, fun j hj => ?_, fun l hl => ?_, fun j => ?_, fun j => ?_⟩
    · unfold fW_toTheFull
      rw [p1]
      simp only [Option.bind_some, if_true]
    · rw [f1]
      simp only [Option.bind_some]
      rw [p2]
      simp only [Option.bind_some]
      rw [m1]
      rfl
    · rw [(m4 l hl).2.2.1, b0 l hl, Int64.add_zero]; exact p3.took l hl
    · rw [(m4 l hl).2.1, b0 l hl, Int64.add_zero]; exact p3.used l hl
    · rw [(m4 l hl).1, b0 l hl, Int64.add_zero]; exact p3.takes l hl
    · rw [m5 22 0 _ (by omega)]; exact p3.thr l hl
    · rw [m5 26 0 _ (by omega)]; exact p3.fell r hr
    · rw [p7 8 26 j (by omega)]; exact z8 j hj
    · rw [p7 13 26 j (by omega)]; exact z13 j hj
    · rw [(m4 l hl).2.2.2, b0 l hl, Int64.add_zero, e23, p7 12 26 l (by omega), z12 l hl, Int64.add_zero]
    · rw [rdI_1 m2]; exact e24 j
    · rw [m5 25 0 j (by omega)]; exact e25 j
  · have V1 : FV w1 a h F := ⟨fun l hl ht => by rw [p4.l 10 h l (by omega) (by omega), p4.l 2 l 9 (by omega) (by omega)]; exact f6.b l hl ht, f6.z⟩
    have H1' : HY w1 t h fi la sh := H.gC p4
    have C1 : CS w1 a := C.g p4
    have B1' : RB w1 t a h := B.ext (fun l hl => p4.l 2 l 9 (by omega) (by omega)) (fun k j hk => p4.l k h j (by omega) (by omega)) (fun _ _ _ => rfl) O
    obtain ⟨w2, t3, q1, q2, q3, q4, q5, q6, q7, q8, q9⟩ := contributes_rel C1 O p3 hh H1' (fun l hl => by rw [p7 12 26 l (by omega)]; exact z12 l hl) hF2 V1 B1' f7
    refine ⟨w2, t3, ?_, ?_, q3, p4.up.trans q4, (f5.up.trans p5.up).trans q5, fun j hj => ?_, fun j hj => ?_, fun l hl => ?_, fun j => ?_, fun j => ?_⟩
    · unfold fW_toTheFull
      rw [p1]
      simp only [Option.bind_some]
      rw [if_neg (by decide), q1]
      rfl
    · rw [f1]
      simp only [Option.bind_some]
      rw [p2]
      simp only [Option.bind_some]
      rw [q2]
      rfl
    · rw [q7 8 j (by omega), p7 8 26 j (by omega)]; exact z8 j hj
    · rw [q7 13 j (by omega), p7 13 26 j (by omega)]; exact z13 j hj
    · rw [q6 l hl, e23]
    · rw [q8 24 0 j (by omega)]; exact e24 j
    · rw [q9 25 0 j rfl]; exact e25 j
/-- a loss of harm h is on its way by 26, and split -/
def RFF (w : tt_St) (t : tt_St) (t0 : tt_St) (a : TS) (h : Nat) : Prop :=
  (RF w t a h 26) ∧
  (∀ i, i < 10 → rdL t 25 0 (10 * h + i) = rdL w 8 h i + rdL w 8 26 i) ∧
  (∀ l, l < 40 → rdL t 23 0 (40 * h + l) = rdL w 12 h l + rdL w 12 26 l) ∧
  (∀ c, c < 160 → rdI t 24 0 (160 * h + c) = rdI t0 24 0 (160 * h + c) + (rdL w 13 26 c).toInt32) ∧
  (∀ l k, l < 40 → k < 4 → 0 ≤ (rdL w 13 26 (4 * l + k)).toInt ∧ (rdL w 13 26 (4 * l + k)).toInt ≤ 2 * (rdL w 10 26 l).toInt ∧ (a.sg l ≤ k → rdL w 13 26 (4 * l + k) = 0))
theorem RFF.rf {w : tt_St} {t : tt_St} {t0 : tt_St} {a : TS} {h : Nat} (self_ : RFF w t t0 a h) : RF w t a h 26 := self_.1
theorem RFF.bore {w : tt_St} {t : tt_St} {t0 : tt_St} {a : TS} {h : Nat} (self_ : RFF w t t0 a h) : ∀ i, i < 10 → rdL t 25 0 (10 * h + i) = rdL w 8 h i + rdL w 8 26 i := self_.2.1
theorem RFF.mv {w : tt_St} {t : tt_St} {t0 : tt_St} {a : TS} {h : Nat} (self_ : RFF w t t0 a h) : ∀ l, l < 40 → rdL t 23 0 (40 * h + l) = rdL w 12 h l + rdL w 12 26 l := self_.2.2.1
theorem RFF.had {w : tt_St} {t : tt_St} {t0 : tt_St} {a : TS} {h : Nat} (self_ : RFF w t t0 a h) : ∀ c, c < 160 → rdI t 24 0 (160 * h + c) = rdI t0 24 0 (160 * h + c) + (rdL w 13 26 c).toInt32 := self_.2.2.2.1
theorem RFF.pb {w : tt_St} {t : tt_St} {t0 : tt_St} {a : TS} {h : Nat} (self_ : RFF w t t0 a h) : ∀ l k, l < 40 → k < 4 → 0 ≤ (rdL w 13 26 (4 * l + k)).toInt ∧ (rdL w 13 26 (4 * l + k)).toInt ≤ 2 * (rdL w 10 26 l).toInt ∧ (a.sg l ≤ k → rdL w 13 26 (4 * l + k) = 0) := self_.2.2.2.2
theorem flows_rel {w t : tt_St} {a : TS} (C : CS w a) (M : MS t a) (O : a.Ok) {h fi la sh : Nat} (B : RB w t a h) (hh : h < 25) (H : HY w t h fi la sh) (b8 : ∀ i, i < 10 → rdL t 25 0 (10 * h + i) = rdL w 8 h i) (b12 : ∀ l, l < 40 → rdL t 23 0 (40 * h + l) = rdL w 12 h l) (Q : ∃ n, QW w n) {A : Int64} (hA : 0 ≤ A.toInt) (hA2 : A.toInt < 2 ^ 60) :
    ∃ w' t', fW_flows w h A = some (26, w') ∧ fM_spreads t (nI h) A = some t' ∧ RFF w' t' t a h ∧ GC2 26 w w' ∧ GM2 h t t' := by
  have h3 := O.spr3
  obtain ⟨w0, g1, g2⟩ := c_begins (w := w) 26
  generalize ht0 : fillL t 38 0 (fun _ => 0) 40 = t0
  have Ft : FrR 38 t t0 := ht0 ▸ FrR.fill _ _
  have zt : ∀ l, l < 40 → rdL t0 38 0 l = 0 := fun l hl => by rw [← ht0, fillL_rd, if_pos ⟨rfl, rfl, hl⟩]
  have Gt : GM2 h t t0 := ⟨fun k i j _ _ => rdI_1 Ft.i k i j, fun k i j z1 z2 => Ft.l k i j (by omega)⟩
  have C0 : CS w0 a := C.eqI g2.i
  have M0 : MS t0 a := M.eqI Ft.i
  have H0 : HY w0 t0 h fi la sh := H.eqI g2.i Ft.i
  have B0 : RB w0 t0 a h := B.ext (fun l hl => g2.l 2 l 9 (by omega)) (fun k j hk => g2.l k h j (by omega)) (fun k j hk => Ft.l k 0 j (by omega)) O
  have Q0 : ∃ n, QW w0 n := QW.same g2.i g2.r Q
  have R0 : RF w0 t0 a h 26 := B0.flow O g2.z10 g2.z11 g2.z9 zt
  have mid : ∃ w1 t1, fW_goes w0 a.spr h A 26 = some w1 ∧ (if nI a.spr = (2 : Int32) then (fM_laysFair t0 (nI h) A).bind fun r15 => (fM_byFull r15 (nI h) A).bind fun r16 => (fM_contributes r16 (nI h)).bind fun r17 => some r17 else if nI a.spr = (3 : Int32) then (fM_byLevel t0 (nI h) A).bind fun r14 => some r14 else (if nI a.spr = 0 then (fM_laysLike t0 (nI h)).bind fun r12 => some r12 else (fM_laysSizes t0 (nI h)).bind fun r11 => some r11 : Option (tt_St)).bind fun t9 => (fM_byShares t9 (nI h) A).bind fun r13 => some r13 : Option (tt_St)) = some t1 ∧ MID w1 t1 w0 t0 a h := by
    unfold fW_goes
    rcases (show a.spr = 0 ∨ a.spr = 1 ∨ a.spr = 2 ∨ a.spr = 3 by omega) with e | e | e | e
    · rw [e, if_pos rfl, if_neg (show ¬ nI 0 = 2 by decide), if_neg (show ¬ nI 0 = 3 by decide), if_pos (show nI 0 = 0 by decide)]
      have k1 := c_byTimeW C0 O H0
      have k2 := m_laysLike M0 O H0 hh
      generalize offv fi la sh a.trig = off at k1 k2
      have Fw : FrR 26 w0 (fillL w0 26 0 (wT a off) 12) := FrR.fill _ _
      have Fm : FrR 36 t0 (fillL t0 36 0 (wT a off) 12) := FrR.fill _ _
      obtain ⟨w1, t1, s1, s2, s3, s4, s5⟩ := byShares_rel (C0.eqI Fw.i) (M0.eqI Fm.i) O (R0.ext (fun k i j hk => Fw.l k i j (by omega)) (fun k i j hk => Fm.l k i j (by omega))) hh (by omega) (W := wT a off) (fun y hy => by rw [fillL_rd, if_pos ⟨rfl, rfl, hy⟩]) (fun y hy => by rw [fillL_rd, if_pos ⟨rfl, rfl, hy⟩]) (wT_ShW hA hA2)
      refine ⟨w1, t1, ?_, ?_, MID.of hh s3 ((Fw.gC (by omega)).trans s4) ((Fm.gM (by omega)).trans s5) g2.z8 g2.z12 g2.z13⟩
      · unfold fW_byTime
        rw [k1]
        simp only [Option.bind_some]
        rw [s1]
        rfl
      · rw [k2]
        simp only [Option.bind_some]
        rw [s2]
        rfl
    · rw [e, if_neg (show ¬ 1 = 0 by decide), if_pos rfl, if_neg (show ¬ nI 1 = 2 by decide), if_neg (show ¬ nI 1 = 3 by decide), if_neg (show ¬ nI 1 = 0 by decide)]
      have k1 := c_bySizesW C0 O H0
      have k2 := m_laysSizes M0 O H0 hh
      generalize offv fi la sh a.trig = off at k1 k2
      have Fw : FrR 26 w0 (fillL w0 26 0 (wS a off) 12) := FrR.fill _ _
      have Fm : FrR 36 t0 (fillL t0 36 0 (wS a off) 12) := FrR.fill _ _
      obtain ⟨w1, t1, s1, s2, s3, s4, s5⟩ := byShares_rel (C0.eqI Fw.i) (M0.eqI Fm.i) O (R0.ext (fun k i j hk => Fw.l k i j (by omega)) (fun k i j hk => Fm.l k i j (by omega))) hh (by omega) (W := wS a off) (fun y hy => by rw [fillL_rd, if_pos ⟨rfl, rfl, hy⟩]) (fun y hy => by rw [fillL_rd, if_pos ⟨rfl, rfl, hy⟩]) (wS_ShW O hA hA2)
      refine ⟨w1, t1, ?_, ?_, MID.of hh s3 ((Fw.gC (by omega)).trans s4) ((Fm.gM (by omega)).trans s5) g2.z8 g2.z12 g2.z13⟩
      · unfold fW_bySizes
        rw [k1]
        simp only [Option.bind_some]
        rw [s1]
        rfl
      · rw [k2]
        simp only [Option.bind_some]
        rw [s2]
        rfl
    · rw [e, if_neg (show ¬ 2 = 0 by decide), if_neg (show ¬ 2 = 1 by decide), if_pos rfl, if_pos (show nI 2 = 2 by decide)]
      exact full_rel C0 M0 O B0 hh H0 Q0 hA hA2 zt g2.z8 g2.z9 g2.z10 g2.z11 g2.z12 g2.z13
    · rw [e, if_neg (show ¬ 3 = 0 by decide), if_neg (show ¬ 3 = 1 by decide), if_neg (show ¬ 3 = 2 by decide), if_neg (show ¬ nI 3 = 2 by decide), if_pos (show nI 3 = 3 by decide)]
      obtain ⟨w1, t1, s1, s2, s3, s4, s5⟩ := byLevel_rel C0 M0 O R0 hh (by omega) H0 hA hA2
      refine ⟨w1, t1, s1, ?_, MID.of hh s3 s4 s5 g2.z8 g2.z12 g2.z13⟩
      rw [s2]
      rfl
  obtain ⟨w1, t1, m1, m2, D⟩ := mid
  have C1 : CS w1 a := C0.g2 D.gc
  have M1 : MS t1 a := M0.g2 D.gm
  have kh : ∀ k j, 8 ≤ k → k ≤ 13 → rdL w1 k h j = rdL w k h j := fun k j q1 q2 => by rw [D.gc.l k h j (by omega) (by omega), g2.l k h j (by omega)]
  have RS0 : RS w1 t1 t1 h 26 := by
    refine ⟨D.rf.fell, fun i hi => ?_, fun c hc => ?_⟩
    · rw [D.tb, Ft.l 25 0 _ (by omega), b8 i hi, kh 8 i (by omega) (by omega), D.z8 i hi, Int64.add_zero]
    · rw [D.z13 c hc, show (0 : Int64).toInt32 = 0 from rfl, Int32.add_zero]
  obtain ⟨T, hT⟩ : ∃ T : Nat → Int64, T = fun l => rdL w1 10 26 l := ⟨_, rfl⟩
  have hTl : ∀ l, rdL w1 10 26 l = T l := fun l => by rw [hT]
  have hT0 : ∀ l, l < 40 → a.there l = false → T l = 0 := fun l hl ht => by rw [← hTl]; exact D.rf.fz l hl ht
  have hTb : ∀ l, l < 40 → 0 ≤ (T l).toInt ∧ (T l).toInt ≤ 100000000 := fun l hl => by
    by_cases ht : a.there l = true
    · have := D.rf.bt l hl ht
      have := O.sz1 l hl ht
      rw [hTl] at *
      omega
    · rw [hT0 l hl (by simpa using ht)]; decide
  obtain ⟨w2, t2, s1, s2, s3, s4, s5, s6⟩ := splitsAll_rel C1 M1 O hh RS0 (T := T) (fun l _ => hTl l) (fun l hl => by rw [D.rf.takes l hl, hTl]) hTb hT0 D.z13
  have kc : ∀ k i j, ¬ (i = 26 ∧ (k = 8 ∨ k = 9 ∨ k = 13)) → rdL w2 k i j = rdL w1 k i j := s4.l
  refine ⟨w2, t2, ?_, ?_, ⟨⟨fun l hl => ?_, fun l hl => ?_, fun l hl => ?_, fun l hl => ?_, s3.fell, fun l hl ht => ?_, fun y k hy hk => ?_, fun l hl ht => ?_, fun l hl ht => by rw [kc 11 26 l (by omega)]; exact D.rf.fz1 l hl ht⟩, s3.bore, fun l hl => ?_, fun c hc => ?_, fun l k hl hk => ?_⟩, (g2.gC.trans D.gc).trans ⟨QW.same s4.i s4.r, fun k i j _ => rdI_1 s4.i k i j, fun k i j z1 z2 => s4.l k i j (by omega)⟩, (Gt.trans D.gm).trans ⟨fun k i j z1 z2 => s5.i k i j z2, fun k i j z1 z2 => s5.l k i j (by omega)⟩⟩
  · unfold fW_flows
    rw [g1]
    simp only [Option.bind_some]
    rw [C0.spr, inB_nI (by omega) (by omega), if_pos rfl, nI_clamp (by omega), m1]
    simp only [Option.bind_some]
    rw [s1]
    rfl
  · unfold fM_spreads
    rw [m_takes0, ht0]
    simp only [Option.bind_some]
    rw [M0.spr, m2]
    simp only [Option.bind_some]
    rw [s2]
    rfl
  · rw [s5.l 21 0 _ (by omega), kc 10 h l (by omega), kc 10 26 l (by omega)]; exact D.rf.took l hl
  · rw [s5.l 15 0 _ (by omega), kc 2 l 9 (by omega), kc 10 26 l (by omega)]; exact D.rf.used l hl
  · rw [s5.l 38 0 _ (by omega), kc 10 26 l (by omega)]; exact D.rf.takes l hl
  · rw [s5.l 22 0 _ (by omega), kc 11 h l (by omega), kc 11 26 l (by omega)]; exact D.rf.thr l hl
  · rw [kc 10 h l (by omega), kc 10 26 l (by omega), kc 2 l 9 (by omega)]; exact D.rf.bt l hl ht
  · rw [kc 11 h _ (by omega), kc 11 26 _ (by omega)]; exact D.rf.bh y k hy hk
  · rw [kc 10 26 l (by omega)]; exact D.rf.fz l hl ht
  · rw [s5.l 23 0 _ (by omega), D.mv l hl, Ft.l 23 0 _ (by omega), b12 l hl, kc 12 h l (by omega), kc 12 26 l (by omega), kh 12 l (by omega) (by omega)]
  · rw [s3.had c hc, D.ti, rdI_1 Ft.i]
  · rw [s6 l k hl hk, kc 10 26 l (by omega), hTl]
    have hb := hTb l hl
    by_cases q : k < a.sg l
    · rw [if_pos q]
      have := hv_bd O hl q hb.1 hb.2
      exact ⟨this.1, this.2, fun z => by omega⟩
    · rw [if_neg q]
      exact ⟨by decide, by rw [i64_0]; omega, fun _ => rfl⟩
