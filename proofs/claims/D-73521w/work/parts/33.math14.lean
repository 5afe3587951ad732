set_option linter.unusedVariables false
set_option linter.unusedSimpArgs false
set_option maxRecDepth 100000
/-! PLAIN LAW: what is fair; contributes, both sides -/
/-- nothing of a harm is on its way -/
def RB (w : tt_St) (t : tt_St) (a : TS) (h : Nat) : Prop :=
  (∀ l, l < 40 → rdL t 21 0 (40 * h + l) = rdL w 10 h l) ∧
  (∀ l, l < 40 → rdL t 15 0 l = rdL w 2 l 9) ∧
  (∀ l, l < 40 → rdL t 22 0 (40 * h + l) = rdL w 11 h l) ∧
  (∀ r, r < 7 → rdL t 26 0 (7 * h + r) = rdL w 9 h r) ∧
  (∀ l, l < 40 → a.there l = true → 0 ≤ (rdL w 10 h l).toInt ∧ (rdL w 10 h l).toInt ≤ a.sz l ∧ 0 ≤ (rdL w 2 l 9).toInt ∧ (rdL w 2 l 9).toInt ≤ (a.sz l : Int) * a.tm l) ∧
  (∀ y k, y < 12 → k < a.n y → 0 ≤ (rdL w 11 h (a.rg y k)).toInt ∧ (rdL w 11 h (a.rg y k)).toInt ≤ 1000000000)
theorem RB.took {w : tt_St} {t : tt_St} {a : TS} {h : Nat} (self_ : RB w t a h) : ∀ l, l < 40 → rdL t 21 0 (40 * h + l) = rdL w 10 h l := self_.1
theorem RB.used {w : tt_St} {t : tt_St} {a : TS} {h : Nat} (self_ : RB w t a h) : ∀ l, l < 40 → rdL t 15 0 l = rdL w 2 l 9 := self_.2.1
theorem RB.thr {w : tt_St} {t : tt_St} {a : TS} {h : Nat} (self_ : RB w t a h) : ∀ l, l < 40 → rdL t 22 0 (40 * h + l) = rdL w 11 h l := self_.2.2.1
theorem RB.fell {w : tt_St} {t : tt_St} {a : TS} {h : Nat} (self_ : RB w t a h) : ∀ r, r < 7 → rdL t 26 0 (7 * h + r) = rdL w 9 h r := self_.2.2.2.1
theorem RB.bt {w : tt_St} {t : tt_St} {a : TS} {h : Nat} (self_ : RB w t a h) : ∀ l, l < 40 → a.there l = true → 0 ≤ (rdL w 10 h l).toInt ∧ (rdL w 10 h l).toInt ≤ a.sz l ∧ 0 ≤ (rdL w 2 l 9).toInt ∧ (rdL w 2 l 9).toInt ≤ (a.sz l : Int) * a.tm l := self_.2.2.2.2.1
theorem RB.bh {w : tt_St} {t : tt_St} {a : TS} {h : Nat} (self_ : RB w t a h) : ∀ y k, y < 12 → k < a.n y → 0 ≤ (rdL w 11 h (a.rg y k)).toInt ∧ (rdL w 11 h (a.rg y k)).toInt ≤ 1000000000 := self_.2.2.2.2.2
theorem RB.ext {w t w' t' : tt_St} {a : TS} {h : Nat} (e1 : ∀ l, l < 40 → rdL w' 2 l 9 = rdL w 2 l 9) (e2 : ∀ k j, k = 9 ∨ k = 10 ∨ k = 11 → rdL w' k h j = rdL w k h j) (e3 : ∀ k j, (k = 15 ∧ j < 40) ∨ k = 21 ∨ k = 22 ∨ k = 26 → rdL t' k 0 j = rdL t k 0 j) (B : RB w t a h) (O : a.Ok) : RB w' t' a h := by
  refine ⟨fun l hl => ?_, fun l hl => ?_, fun l hl => ?_, fun r hr => ?_, fun l hl ht => ?_, fun y k hy hk => ?_⟩
  · rw [e3 21 _ (by omega), e2 10 _ (by omega)]; exact B.took l hl
  · rw [e3 15 _ (by omega), e1 l hl]; exact B.used l hl
  · rw [e3 22 _ (by omega), e2 11 _ (by omega)]; exact B.thr l hl
  · rw [e3 26 _ (by omega), e2 9 _ (by omega)]; exact B.fell r hr
  · rw [e2 10 _ (by omega), e1 l hl]; exact B.bt l hl ht
  · rw [e2 11 _ (by omega)]; exact B.bh y k hy hk
theorem RB.flow {w t : tt_St} {a : TS} {h f : Nat} (B : RB w t a h) (O : a.Ok) (z10 : ∀ l, l < 40 → rdL w 10 f l = 0) (z11 : ∀ l, l < 40 → rdL w 11 f l = 0) (z9 : ∀ r, r < 7 → rdL w 9 f r = 0) (zt : ∀ l, l < 40 → rdL t 38 0 l = 0) : RF w t a h f := by
  refine ⟨fun l hl => ?_, fun l hl => ?_, fun l hl => ?_, fun l hl => ?_, fun r hr => ?_, fun l hl ht => ?_, fun y k hy hk => ?_, fun l hl _ => z10 l hl, fun l hl _ => z11 l hl⟩
  · rw [B.took l hl, z10 l hl, Int64.add_zero]
  · rw [B.used l hl, z10 l hl, Int64.add_zero]
  · rw [zt l hl, z10 l hl]
  · rw [B.thr l hl, z11 l hl, Int64.add_zero]
  · rw [B.fell r hr, z9 r hr, Int64.add_zero]
  · have := B.bt l hl ht
    rw [z10 l hl, i64_0]
    omega
  · have := B.bh y k hy hk
    rw [z11 _ (O.rg40 y k hy hk), i64_0]
    omega
theorem shV_w0 {A S : Int64} {W : Nat → Int64} {n k : Nat} (h : W k = 0) : shV A S W n k = 0 := by
  unfold shV
  rw [if_pos (Or.inr h)]
  unfold shQ
  by_cases hS : S = 0
  · rw [if_pos hS]
  · rw [if_neg hS]
    unfold shP
    rw [h, Int64.mul_zero, Int64.mul_zero, Int64.zero_add]
    exact Int64.zero_div
theorem wT_ShW {a : TS} {off : Int32} {A : Int64} (hA : 0 ≤ A.toInt) (hA2 : A.toInt < 2 ^ 60) : ShW A (wT a off) 12 := by
  refine ⟨hA, hA2, 1, by omega, by omega, by omega, fun i _ => ?_⟩
  unfold wT
  split
  · exact ⟨by decide, by decide⟩
  · exact ⟨by decide, by decide⟩
theorem c_fillsAll_none {w : tt_St} {a : TS} (C : CS w a) (O : a.Ok) {h f : Nat} {A : Int64} {W : Nat → Int64} (hw : ∀ y, y < 12 → rdL w 26 0 y = W y) (HW : ShW A W 12) (hz : ∀ y, y < 12 → a.n y = 0 ∨ W y = 0) {w' : tt_St} (hr : fW_fillsAll w h A f = some w') : ∀ j, rdL w' 10 f j = rdL w 10 f j := by
  have es : sumL (rdL w 26 0) 12 = sumL W 12 := sumL_congr hw
  have e0 : itr (fW_fillsAll_L17 w) tt_fuel ((0 : Int64), (0 : Int32)) = some (sumL W 12, nI 12) := by
    have h := itr_run (body := fW_fillsAll_L17 w) (fun i => (sumL (rdL w 26 0) i, nI i)) 12 (sumL (rdL w 26 0) 12, nI 12) (by omega) (fun i hi => by
      unfold fW_fillsAll_L17
      simp only [nm]
      rw [L12, if_neg (nI_ge hi (by omega)), inB_nI hi (by omega), if_pos rfl, nI_clamp (by omega), nI_1]
      rfl) (by
      unfold fW_fillsAll_L17
      rw [L12, if_pos (nI_le (Nat.le_refl _) (by omega))])
    rw [es] at h
    exact h
  unfold fW_fillsAll at hr
  rw [e0] at hr
  simp only [Option.bind_some, nm] at hr
  by_cases hS : sumL W 12 = 0
  · rw [if_pos hS, if_pos (show inB 3 7 = true from by decide), show (3 : Int32).toNatClampNeg = 3 from by decide] at hr
    have := Option.some.inj hr
    intro j
    rw [← this, rdL_wrL, if_neg (by omega)]
  · rw [if_neg hS] at hr
    have ew : shR A (sumL (rdL w 26 0) 12) (rdL w 26 0) 12 = shR A (sumL W 12) W 12 := by rw [es]; exact shR_congr hw
    obtain ⟨w1, a1, a2, a3⟩ := c_shares_26_27 (w := w) (A := A) (by rw [ew]; exact shR_pos HW)
    have va : ∀ j, j < 12 → rdL w1 27 0 j = shV A (sumL W 12) W 12 j := fun j hj => by rw [a3 j hj, es]; exact shV_congr hj hw
    rw [a1] at hr
    simp only [Option.bind_some] at hr
    have hk_ := itr_inv (body := fW_fillsAll_L78 h f) (fun i u => (nI i, u)) (fun i u => u.1 = w1.1 ∧ ∀ k x j, ¬ (k = 9 ∧ x = f) → rdL u k x j = rdL w1 k x j) (fun b => ∃ u, b = (nI 12, u) ∧ u.1 = w1.1 ∧ ∀ k x j, ¬ (k = 9 ∧ x = f) → rdL u k x j = rdL w1 k x j) 12 w1 (by omega) ⟨rfl, fun _ _ _ _ => rfl⟩ (fun i u hi hI => ?_) (fun u hI => ?_)
    · obtain ⟨b, b1, u, rfl, b2, b3⟩ := hk_
      rw [L0, b1] at hr
      have := Option.some.inj hr
      intro j
      rw [← this, b3 10 f j (by omega), a2.l 10 f j (by omega)]
    · obtain ⟨h1, h2⟩ := hI
      have Cu : CS u a := (C.eqI a2.i).eqI h1
      have hx : a.n i = 0 ∨ rdL u 27 0 i = 0 := by
        rcases hz i hi with z | z
        · exact Or.inl z
        · right
          rw [h2 27 0 i (by omega), va i hi, shV_w0 z]
      unfold fW_fillsAll_L78
      dsimp only [nm]
      rw [L12, if_neg (nI_ge hi (by omega)), c_isGap Cu O hi]
      simp only [Option.bind_some]
      have e7 : ∃ rr, rr < 7 ∧ (if (if a.n i = 0 then (1 : Int32) else 0) = 0 then (2 : Int32) else 3) = nI rr := by
        by_cases g : a.n i = 0
        · exact ⟨3, by omega, by rw [if_pos g]; rfl⟩
        · exact ⟨2, by omega, by rw [if_neg g]; rfl⟩
      obtain ⟨rr, r7, re⟩ := e7
      rw [re, inB_nI r7 (by omega), if_pos rfl, inB_nI hi (by omega), if_pos rfl, nI_clamp (show i < 2 ^ 31 by omega), c_fills_none Cu O hi hx]
      simp only [Option.bind_some]
      rw [nI_1]
      refine ⟨_, rfl, h1, fun k x j hk => ?_⟩
      rw [rdL_wrL, if_neg (fun q => hk ⟨q.1, q.2.1⟩)]
      exact h2 k x j hk
    · refine ⟨_, ?_, u, rfl, hI⟩
      unfold fW_fillsAll_L78
      rw [L12, if_pos (nI_le (Nat.le_refl _) (by omega))]
def GM1 (h : Nat) (t t' : tt_St) : Prop :=
  (∀ k i j, ¬ k = 41 → rdI t' k i j = rdI t k i j) ∧
  (∀ k i j, ¬ (k = 15 ∨ k = 38 ∨ (k = 21 ∧ j / 40 = h) ∨ (k = 22 ∧ j / 40 = h) ∨ (k = 26 ∧ j / 7 = h)) → ¬ (36 ≤ k ∧ k ≤ 47) → rdL t' k i j = rdL t k i j)
theorem GM1.i {h : Nat} {t t' : tt_St} (self_ : GM1 h t t') : ∀ k i j, ¬ k = 41 → rdI t' k i j = rdI t k i j := self_.1
theorem GM1.l {h : Nat} {t t' : tt_St} (self_ : GM1 h t t') : ∀ k i j, ¬ (k = 15 ∨ k = 38 ∨ (k = 21 ∧ j / 40 = h) ∨ (k = 22 ∧ j / 40 = h) ∨ (k = 26 ∧ j / 7 = h)) → ¬ (36 ≤ k ∧ k ≤ 47) → rdL t' k i j = rdL t k i j := self_.2
theorem GM1.up {f : Nat} {u v : tt_St} (h : GM1 f u v) : GM2 f u v := ⟨fun k i j h1 _ => h.i k i j h1, fun k i j h1 h2 => h.l k i j (by omega) h2⟩
/-- what a layer would take by time -/
def FV (w : tt_St) (a : TS) (h : Nat) (F : Nat → Int64) : Prop :=
  (∀ l, l < 40 → a.there l = true → 0 ≤ (F l).toInt ∧ (rdL w 10 h l).toInt + (F l).toInt ≤ a.sz l ∧ (rdL w 2 l 9).toInt + (F l).toInt ≤ (a.sz l : Int) * a.tm l) ∧
  (∀ l, l < 40 → a.there l = false → F l = 0)
theorem FV.b {w : tt_St} {a : TS} {h : Nat} {F : Nat → Int64} (self_ : FV w a h F) : ∀ l, l < 40 → a.there l = true → 0 ≤ (F l).toInt ∧ (rdL w 10 h l).toInt + (F l).toInt ≤ a.sz l ∧ (rdL w 2 l 9).toInt + (F l).toInt ≤ (a.sz l : Int) * a.tm l := self_.1
theorem FV.z {w : tt_St} {a : TS} {h : Nat} {F : Nat → Int64} (self_ : FV w a h F) : ∀ l, l < 40 → a.there l = false → F l = 0 := self_.2
theorem fair_rel {w t : tt_St} {a : TS} (C : CS w a) (M : MS t a) (O : a.Ok) {h fi la sh : Nat} (B : RB w t a h) (hh : h < 25) (H : HY w t h fi la sh) {off : Int32} (ho : offv fi la sh a.trig = off) (zt : ∀ l, l < 40 → rdL t 38 0 l = 0) {A : Int64} (hA : 0 ≤ A.toInt) (hA2 : A.toInt < 2 ^ 60) :
    ∃ t1 F, fM_laysFair t (nI h) A = some t1 ∧ (∀ l, l < 40 → rdL t1 39 0 l = F l) ∧ (∀ k j, (k = 15 ∧ j < 40) ∨ k = 21 ∨ k = 22 ∨ k = 26 → rdL t1 k 0 j = rdL t k 0 j) ∧ (∀ l, l < 40 → rdL t1 38 0 l = 0) ∧ GM1 h t t1 ∧ FV w a h F ∧
      (∀ w2, CS w2 a → HY w2 t h fi la sh → RB w2 t a h → (∀ l, l < 40 → rdL w2 10 25 l = 0) → (∀ l, l < 40 → rdL w2 11 25 l = 0) → (∀ r, r < 7 → rdL w2 9 25 r = 0) → ∃ w3, fW_byTime w2 h A 25 = some w3 ∧ GC 25 w2 w3 ∧ ∀ l, l < 40 → rdL w3 10 25 l = F l) ∧
      ((∀ y, y < 12 → hasB a off y = false) → ∀ l, l < 40 → F l = 0) := by
  obtain ⟨ta, a1, a2, a3, a4⟩ := m_aside (t := t) hh
  have Ma : MS ta a := M.eqI a2
  have Ha : HY w ta h fi la sh := H.eqI rfl a2
  have lk := m_laysLike Ma O Ha hh
  rw [ho] at lk
  generalize htl : fillL ta 36 0 (wT a off) 12 = tl at lk
  have Fl : FrR 36 ta tl := htl ▸ FrR.fill _ _
  have v36 : ∀ y, y < 12 → rdL tl 36 0 y = wT a off y := fun y hy => by rw [← htl, fillL_rd, if_pos ⟨rfl, rfl, hy⟩]
  have Ml : MS tl a := Ma.eqI Fl.i
  have tl_rd : ∀ k i j, k = 15 ∨ k = 21 ∨ k = 22 ∨ k = 26 ∨ k = 38 → rdL tl k i j = rdL t k i j := fun k i j hk => by
    rw [Fl.l k i j (by omega), a4, if_neg (by omega), if_neg (by omega), if_neg (by omega), if_neg (by omega)]
  have HW := wT_ShW (a := a) (off := off) hA hA2
  have run : ∀ w2, CS w2 a → HY w2 t h fi la sh → RB w2 t a h → (∀ l, l < 40 → rdL w2 10 25 l = 0) → (∀ l, l < 40 → rdL w2 11 25 l = 0) → (∀ r, r < 7 → rdL w2 9 25 r = 0) → ∃ w3 tb, fW_byTime w2 h A 25 = some w3 ∧ fM_byShares tl (nI h) A = some tb ∧ RF w3 tb a h 25 ∧ GC 25 w2 w3 ∧ GM h tl tb ∧ ((∀ y, y < 12 → hasB a off y = false) → ∀ l, l < 40 → rdL w3 10 25 l = 0) := by
    intro w2 C2 H2 B2 z10 z11 z9
    have bw := c_byTimeW C2 O H2
    rw [ho] at bw
    generalize hwl : fillL w2 26 0 (wT a off) 12 = wl at bw
    have Fw : FrR 26 w2 wl := hwl ▸ FrR.fill _ _
    have v26 : ∀ y, y < 12 → rdL wl 26 0 y = wT a off y := fun y hy => by rw [← hwl, fillL_rd, if_pos ⟨rfl, rfl, hy⟩]
    have Cl : CS wl a := C2.eqI Fw.i
    have R0 : RF w2 t a h 25 := B2.flow O z10 z11 z9 zt
    have R1 : RF wl tl a h 25 := R0.ext (fun k i j hk => Fw.l k i j (by omega)) (fun k i j hk => tl_rd k i j (by omega))
    obtain ⟨w3, tb, s1, s2, s3, s4, s5⟩ := byShares_rel Cl Ml O R1 hh (Nat.le_refl _) v26 v36 HW
    refine ⟨w3, tb, ?_, s2, s3, (Fw.gC (by omega)).trans s4, s5, fun hn l hl => ?_⟩
    · unfold fW_byTime
      rw [bw]
      simp only [Option.bind_some]
      rw [s1]
      rfl
    · rw [c_fillsAll_none Cl O v26 HW (fun y hy => ?_) s1 l, Fw.l 10 25 l (by omega)]
      · exact z10 l hl
      · have := hn y hy
        unfold hasB at this
        unfold wT
        by_cases g : a.n y = 0
        · exact Or.inl g
        · right
          have : bitB off y = false := by simpa [g] using this
          rw [this]; rfl
  obtain ⟨wb, wb1, wb2⟩ := c_begins (w := w) 25
  have h25 : ¬ h = 25 := by omega
  obtain ⟨w3, tb, s1, s2, s3, s4, s5, s6⟩ := run wb (C.eqI wb2.i) (H.eqI wb2.i rfl) (B.ext (fun l hl => wb2.l 2 l 9 (by omega)) (fun k j hk => wb2.l k h j (by omega)) (fun _ _ _ => rfl) O) wb2.z10 wb2.z11 wb2.z9
  have cp : itr fM_laysFair_L19 tt_fuel ((0 : Int32), tb) = some (nI 40, fillL tb 39 0 (rdL tb 38 0) 40) := by
    refine itr_run (fun i => (nI i, fillL tb 39 0 (rdL tb 38 0) i)) 40 _ (by omega) (fun i hi => ?_) ?_
    · unfold fM_laysFair_L19
      dsimp only [nm]
      rw [L40, if_neg (nI_ge hi (by omega)), inB_nI hi (by omega), if_pos rfl, nI_clamp (by omega), nI_1, fillL_rd, if_neg (by omega)]
      rfl
    · unfold fM_laysFair_L19
      rw [L40, if_pos (nI_le (Nat.le_refl _) (by omega))]
  generalize htc : fillL tb 39 0 (rdL tb 38 0) 40 = tc at cp
  have Fc : FrR 39 tb tc := htc ▸ FrR.fill _ _
  obtain ⟨t1, k1, k2, k3, k4⟩ := m_back (t := tc) hh
  have keep : ∀ k j, k = 42 ∨ k = 43 ∨ k = 44 ∨ k = 45 → rdL tc k 0 j = rdL ta k 0 j := fun k j hk => by
    rw [Fc.l k 0 j (by omega), s5.l k 0 j (by omega) (by omega), Fl.l k 0 j (by omega)]
  refine ⟨t1, fun l => rdL tb 38 0 l, ?_, fun l hl => ?_, fun k j hk => ?_, fun l hl => ?_, ⟨fun k i j z1 => ?_, fun k i j z1 z2 => ?_⟩, ⟨fun l hl ht => ?_, fun l hl ht => ?_⟩, fun w2 C2 H2 B2 z10 z11 z9 => ?_, fun hn l hl => ?_⟩
  · unfold fM_laysFair
    rw [a1]
    simp only [Option.bind_some]
    rw [lk]
    simp only [Option.bind_some]
    rw [s2]
    simp only [Option.bind_some]
    rw [cp]
    simp only [Option.bind_some]
    rw [k1]
    rfl
  · rw [k4, if_neg (by omega), if_neg (by omega), if_neg (by omega), if_neg (by omega), if_neg (by omega), ← htc, fillL_rd, if_pos ⟨rfl, rfl, hl⟩]
  · rw [k4]
    by_cases e1 : k = 15
    · subst e1
      rw [if_pos (by omega), keep 42 j (by omega), a4, if_pos (by omega)]
    · rw [if_neg (by omega)]
      by_cases e2 : k = 21 ∧ j / 40 = h
      · obtain ⟨rfl, e⟩ := e2
        rw [if_pos ⟨rfl, rfl, e⟩, keep 43 _ (by omega), a4, if_neg (by omega), if_pos ⟨rfl, rfl, by omega⟩, show 40 * h + j % 40 = j by omega]
      · rw [if_neg (by omega)]
        by_cases e3 : k = 22 ∧ j / 40 = h
        · obtain ⟨rfl, e⟩ := e3
          rw [if_pos ⟨rfl, rfl, e⟩, keep 44 _ (by omega), a4, if_neg (by omega), if_neg (by omega), if_pos ⟨rfl, rfl, by omega⟩, show 40 * h + j % 40 = j by omega]
        · rw [if_neg (by omega), if_neg (by omega)]
          by_cases e4 : k = 26 ∧ j / 7 = h
          · obtain ⟨rfl, e⟩ := e4
            rw [if_pos ⟨rfl, rfl, e⟩, keep 45 _ (by omega), a4, if_neg (by omega), if_neg (by omega), if_neg (by omega), if_pos ⟨rfl, rfl, by omega⟩, show 7 * h + j % 7 = j by omega]
          · rw [if_neg (by omega), Fc.l k 0 j (by omega), s5.l k 0 j (by omega) (by omega)]
            exact tl_rd k 0 j (by omega)
  · rw [k4, if_neg (by omega), if_neg (by omega), if_neg (by omega), if_pos ⟨rfl, rfl, hl⟩]
  · rw [rdI_1 k2, rdI_1 Fc.i, s5.i k i j z1, rdI_1 Fl.i, rdI_1 a2]
  · rw [k4, if_neg (by omega), if_neg (by omega), if_neg (by omega), if_neg (by omega), if_neg (by omega), Fc.l k i j (by omega), s5.l k i j (by omega) (by omega), Fl.l k i j (by omega), a4, if_neg (by omega), if_neg (by omega), if_neg (by omega), if_neg (by omega)]
  · have b := s3.bt l hl ht
    rw [← s3.takes l hl, s4.l 10 h l (by omega) (by omega), s4.l 2 l 9 (by omega) (by omega), wb2.l 10 h l (by omega), wb2.l 2 l 9 (by omega)] at b
    exact ⟨b.2.1, b.2.2.1, b.2.2.2.2⟩
  · show rdL tb 38 0 l = 0
    rw [s3.takes l hl]; exact s3.fz l hl ht
  · obtain ⟨w3', tb', q1, q2, q3, q4, q5, q6⟩ := run w2 C2 H2 B2 z10 z11 z9
    have e : tb' = tb := Option.some.inj (q2.symm.trans s2)
    subst e
    exact ⟨w3', q1, q4, fun l hl => (q3.takes l hl).symm⟩
  · dsimp only
    rw [s3.takes l hl]; exact s6 hn l hl
