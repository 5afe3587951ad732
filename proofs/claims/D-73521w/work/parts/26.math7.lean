set_option linter.unusedVariables false
set_option linter.unusedSimpArgs false
set_option maxRecDepth 100000
/-! PLAIN LAW: by shares -/
theorem itr_two {α β α' β' : Type} {b1 : α → Option (α ⊕ β)} {b2 : α' → Option (α' ⊕ β')} (P : Nat → α → α' → Prop) (Q : β → β' → Prop) (N : Nat) (hN : N < 1000)
    (hs : ∀ i a a', i < N → P i a a' → ∃ c c', b1 a = some (.inl c) ∧ b2 a' = some (.inl c') ∧ P (i + 1) c c') (hx : ∀ a a', P N a a' → ∃ b b', b1 a = some (.inr b) ∧ b2 a' = some (.inr b') ∧ Q b b') {a : α} {a' : α'} (h0 : P 0 a a') :
    ∃ b b', itr b1 tt_fuel a = some b ∧ itr b2 tt_fuel a' = some b' ∧ Q b b' := by
  have key : ∀ d i n a a', i + d = N → d < n → P i a a' → ∃ b b', itr b1 n a = some b ∧ itr b2 n a' = some b' ∧ Q b b' := by
    intro d
    induction d with
    | zero =>
      intro i n a a' hi hn h
      obtain ⟨n, rfl⟩ : ∃ m, n = m + 1 := ⟨n - 1, by omega⟩
      have e : i = N := by omega
      rw [e] at h
      obtain ⟨b, b', g1, g2, g3⟩ := hx a a' h
      exact ⟨b, b', by unfold itr; rw [g1], by unfold itr; rw [g2], g3⟩
    | succ d ih =>
      intro i n a a' hi hn h
      obtain ⟨n, rfl⟩ : ∃ m, n = m + 1 := ⟨n - 1, by omega⟩
      obtain ⟨c, c', g1, g2, g3⟩ := hs i a a' (by omega) h
      obtain ⟨b, b', r1, r2, r3⟩ := ih (i + 1) n c c' (by omega) (by omega) g3
      exact ⟨b, b', by unfold itr; rw [g1]; exact r1, by unfold itr; rw [g2]; exact r2, r3⟩
  exact key N 0 tt_fuel a a' (by omega) hN h0
/-- a flow by f was written, and what is only for the moment -/
def QW (w : tt_St) (n : Nat) : Prop :=
  (rdI w 34 0 1 = nI n) ∧
  (n ≤ 12) ∧
  (∀ i, n ≤ i → i < 12 → rdR w 35 0 i = none)
theorem QW.sz {w : tt_St} {n : Nat} (self_ : QW w n) : rdI w 34 0 1 = nI n := self_.1
theorem QW.le {w : tt_St} {n : Nat} (self_ : QW w n) : n ≤ 12 := self_.2.1
theorem QW.nil {w : tt_St} {n : Nat} (self_ : QW w n) : ∀ i, n ≤ i → i < 12 → rdR w 35 0 i = none := self_.2.2
theorem QW.ext {w w' : tt_St} {n : Nat} (Q : QW w n) (e1 : rdI w' 34 0 1 = rdI w 34 0 1) (e2 : ∀ i, rdR w' 35 0 i = rdR w 35 0 i) : QW w' n := ⟨e1.trans Q.sz, Q.le, fun i h1 h2 => (e2 i).trans (Q.nil i h1 h2)⟩
theorem QW.same {w w' : tt_St} (e1 : w'.1 = w.1) (e2 : w'.2.2 = w.2.2) (Q : ∃ n, QW w n) : ∃ n, QW w' n := by
  obtain ⟨n, Q⟩ := Q
  exact ⟨n, Q.ext (by unfold rdI; rw [e1]) (fun i => by unfold rdR; rw [e2])⟩
def GC (f : Nat) (w w' : tt_St) : Prop :=
  ((∃ n, QW w n) → ∃ n, QW w' n) ∧
  (∀ k i j, k < 32 → rdI w' k i j = rdI w k i j) ∧
  (∀ k i j, ¬ (i = f ∧ 9 ≤ k ∧ k ≤ 11) → ¬ (26 ≤ k ∧ k ≤ 32) → rdL w' k i j = rdL w k i j)
theorem GC.q {f : Nat} {w w' : tt_St} (self_ : GC f w w') : (∃ n, QW w n) → ∃ n, QW w' n := self_.1
theorem GC.i {f : Nat} {w w' : tt_St} (self_ : GC f w w') : ∀ k i j, k < 32 → rdI w' k i j = rdI w k i j := self_.2.1
theorem GC.l {f : Nat} {w w' : tt_St} (self_ : GC f w w') : ∀ k i j, ¬ (i = f ∧ 9 ≤ k ∧ k ≤ 11) → ¬ (26 ≤ k ∧ k ≤ 32) → rdL w' k i j = rdL w k i j := self_.2.2
def GM (h : Nat) (t t' : tt_St) : Prop :=
  (∀ k i j, ¬ k = 41 → rdI t' k i j = rdI t k i j) ∧
  (∀ k i j, ¬ (k = 15 ∨ k = 38 ∨ (k = 21 ∧ j / 40 = h) ∨ (k = 22 ∧ j / 40 = h) ∨ (k = 26 ∧ j / 7 = h)) → ¬ (k = 36 ∨ k = 37 ∨ k = 40 ∨ k = 46 ∨ k = 47) → rdL t' k i j = rdL t k i j)
theorem GM.i {h : Nat} {t t' : tt_St} (self_ : GM h t t') : ∀ k i j, ¬ k = 41 → rdI t' k i j = rdI t k i j := self_.1
theorem GM.l {h : Nat} {t t' : tt_St} (self_ : GM h t t') : ∀ k i j, ¬ (k = 15 ∨ k = 38 ∨ (k = 21 ∧ j / 40 = h) ∨ (k = 22 ∧ j / 40 = h) ∨ (k = 26 ∧ j / 7 = h)) → ¬ (k = 36 ∨ k = 37 ∨ k = 40 ∨ k = 46 ∨ k = 47) → rdL t' k i j = rdL t k i j := self_.2
theorem GC.refl {f : Nat} (w : tt_St) : GC f w w := ⟨fun q => q, fun _ _ _ _ => rfl, fun _ _ _ _ _ => rfl⟩
theorem GM.refl {f : Nat} (w : tt_St) : GM f w w := ⟨fun _ _ _ _ => rfl, fun _ _ _ _ _ => rfl⟩
theorem GC.trans {f : Nat} {u v w : tt_St} (h1 : GC f u v) (h2 : GC f v w) : GC f u w := ⟨fun q => h2.q (h1.q q), fun k i j h => (h2.i k i j h).trans (h1.i k i j h), fun k i j h h' => (h2.l k i j h h').trans (h1.l k i j h h')⟩
theorem GM.trans {f : Nat} {u v w : tt_St} (h1 : GM f u v) (h2 : GM f v w) : GM f u w := ⟨fun k i j h => (h2.i k i j h).trans (h1.i k i j h), fun k i j h h' => (h2.l k i j h h').trans (h1.l k i j h h')⟩
theorem FrC.g {f : Nat} {u v : tt_St} (h : FrC f u v) : GC f u v := ⟨QW.same h.i h.r, fun k i j _ => rdI_1 h.i k i j, fun k i j q _ => h.l k i j (by omega)⟩
theorem FrM.g {f : Nat} {u v : tt_St} (h : FrM f u v) : GM f u v := ⟨fun k i j _ => rdI_1 h.i k i j, fun k i j q _ => h.l k i j (by omega)⟩
theorem FrR.gC {f k : Nat} {u v : tt_St} (hk : 26 ≤ k ∧ k ≤ 32) (h : FrR k u v) : GC f u v := ⟨QW.same h.i h.r, fun k i j _ => rdI_1 h.i k i j, fun k i j _ q => h.l k i j (by omega)⟩
theorem FrR.gM {f k : Nat} {u v : tt_St} (hk : k = 36 ∨ k = 37 ∨ k = 40 ∨ k = 46 ∨ k = 47) (h : FrR k u v) : GM f u v := ⟨fun k i j _ => rdI_1 h.i k i j, fun k i j _ q => h.l k i j (by omega)⟩
theorem GC.wl {f k j : Nat} (w : tt_St) (x : Int64) (hk : 9 ≤ k ∧ k ≤ 11) : GC f w (wrL w k f j x) := ⟨QW.same rfl rfl, fun _ _ _ _ => rfl, fun a b c h _ => by
  rw [rdL_wrL, if_neg]
  rintro ⟨rfl, rfl, rfl⟩
  exact h ⟨rfl, hk⟩⟩
theorem GM.wl {h k j : Nat} (t : tt_St) (x : Int64) (hk : k = 15 ∨ k = 38 ∨ (k = 21 ∧ j / 40 = h) ∨ (k = 22 ∧ j / 40 = h) ∨ (k = 26 ∧ j / 7 = h)) : GM h t (wrL t k 0 j x) := ⟨fun _ _ _ _ => rfl, fun a b c hn _ => by
  rw [rdL_wrL, if_neg]
  rintro ⟨rfl, rfl, rfl⟩
  exact hn hk⟩
theorem CS.g {w w' : tt_St} {a : TS} {f : Nat} (h : GC f w w') (C : CS w a) : CS w' a := by
  have e := h.i
  unfold CS at C ⊢
  simp only [e 0 _ _ (by omega), e 2 _ _ (by omega), e 3 _ _ (by omega), e 4 _ _ (by omega), e 22 _ _ (by omega), e 23 _ _ (by omega), e 24 _ _ (by omega)]
  exact C
theorem MS.g {t t' : tt_St} {a : TS} {f : Nat} (h : GM f t t') (C : MS t a) : MS t' a := by
  have e := fun k i j (h1 : ¬ k = 41) (h2 : ¬ k = 24) => h.i k i j h1
  unfold MS at C ⊢
  simp only [e 0 _ _ (by omega) (by omega), e 6 _ _ (by omega) (by omega), e 8 _ _ (by omega) (by omega), e 9 _ _ (by omega) (by omega), e 10 _ _ (by omega) (by omega), e 11 _ _ (by omega) (by omega), e 12 _ _ (by omega) (by omega), e 13 _ _ (by omega) (by omega), e 14 _ _ (by omega) (by omega), e 27 _ _ (by omega) (by omega), e 33 _ _ (by omega) (by omega), e 34 _ _ (by omega) (by omega), e 35 _ _ (by omega) (by omega)]
  exact C
theorem HY.g {w t w' t' : tt_St} {h f l s x y : Nat} (e1 : GC x w w') (e2 : GM y t t') (H : HY w t h f l s) : HY w' t' h f l s := by
  have e := fun k i j (h1 : ¬ k = 41) (h2 : ¬ k = 24) => e2.i k i j h1
  unfold HY at H ⊢
  simp only [e1.i 7 _ _ (by omega), e 16 _ _ (by omega) (by omega), e 17 _ _ (by omega) (by omega), e 18 _ _ (by omega) (by omega)]
  exact H
theorem RF.ext {w t w' t' : tt_St} {a : TS} {h f : Nat} (e1 : ∀ k i j, k = 2 ∨ k = 9 ∨ k = 10 ∨ k = 11 → rdL w' k i j = rdL w k i j) (e2 : ∀ k i j, k = 15 ∨ k = 21 ∨ k = 22 ∨ k = 26 ∨ k = 38 → rdL t' k i j = rdL t k i j) (R : RF w t a h f) : RF w' t' a h f := by
  unfold RF at R ⊢
  simp only [e1 2 _ _ (by omega), e1 9 _ _ (by omega), e1 10 _ _ (by omega), e1 11 _ _ (by omega), e2 15 _ _ (by omega), e2 21 _ _ (by omega), e2 22 _ _ (by omega), e2 26 _ _ (by omega), e2 38 _ _ (by omega)]
  exact R
theorem c_fills_none {w : tt_St} {a : TS} (C : CS w a) (O : a.Ok) {h f y : Nat} (hy : y < 12) {x : Int64} (hx : a.n y = 0 ∨ x = 0) : fW_fills w h (nI y) x f = some (x, w) := by
  have h6 := O.n6 y hy
  have e : fW_fills_L6 h (nI y) f (x, (0 : Int32), w) = some (.inr (x, 0, w)) := by
    unfold fW_fills_L6
    rw [inB_nI hy (by omega), if_pos rfl, nI_clamp (by omega), C.many y hy]
    by_cases hn : a.n y = 0
    · rw [hn, if_pos (show nI 0 ≤ 0 from by decide)]
    · rw [if_neg (by rw [L0]; exact nI_ge (by omega) (by omega)), if_pos (show x ≤ 0 by rw [hx.resolve_left hn]; exact i64_le.mpr (Int.le_refl _))]
  unfold fW_fills
  rw [show tt_fuel = 999 + 1 from rfl]
  unfold itr
  rw [e]
  rfl
theorem m_portions {t : tt_St} : ∃ t', itr fM_byShares_L37 tt_fuel ((0 : Int32), t) = some (nI 12, t') ∧ FrR 40 t t' ∧ ∀ j, j < 12 → rdL t' 40 0 j = rdL t 37 0 j := by
  refine ⟨fillL t 40 0 (rdL t 37 0) 12, ?_, FrR.fill _ _, fun j hj => by rw [fillL_rd, if_pos ⟨rfl, rfl, hj⟩]⟩
  refine itr_run (fun i => (nI i, fillL t 40 0 (rdL t 37 0) i)) 12 _ (by omega) (fun i hi => ?_) ?_
  · unfold fM_byShares_L37
    simp only [nm]
    rw [L12, if_neg (nI_ge hi (by omega)), inB_nI (n := 40) (by omega) (by omega), if_pos rfl, inB_nI hi (by omega), if_pos rfl, nI_clamp (by omega), nI_1, fillL_rd, if_neg (by omega)]
    rfl
  · unfold fM_byShares_L37
    rw [L12, if_pos (nI_le (Nat.le_refl _) (by omega))]
theorem byShares_rel {w t : tt_St} {a : TS} (C : CS w a) (M : MS t a) (O : a.Ok) {h f : Nat} (R : RF w t a h f) (hh : h < 25) (hf : 25 ≤ f) {A : Int64} {W : Nat → Int64} (hw : ∀ y, y < 12 → rdL w 26 0 y = W y) (ht : ∀ y, y < 12 → rdL t 36 0 y = W y) (HW : ShW A W 12) :
    ∃ w' t', fW_fillsAll w h A f = some w' ∧ fM_byShares t (nI h) A = some t' ∧ RF w' t' a h f ∧ GC f w w' ∧ GM h t t' := by
  have es : sumL (rdL w 26 0) 12 = sumL W 12 := sumL_congr hw
  have et : sumL (rdL t 36 0) 12 = sumL W 12 := sumL_congr ht
  have e0 : itr (fW_fillsAll_L17 w) tt_fuel ((0 : Int64), (0 : Int32)) = some (sumL W 12, nI 12) := by
    have h := itr_run (body := fW_fillsAll_L17 w) (fun i => (sumL (rdL w 26 0) i, nI i)) 12 (sumL (rdL w 26 0) 12, nI 12) (by omega) (fun i hi => by
      unfold fW_fillsAll_L17
      simp only [nm]
      rw [L12, if_neg (nI_ge hi (by omega)), inB_nI hi (by omega), if_pos rfl, nI_clamp (by omega), nI_1]
      rfl) (by
      unfold fW_fillsAll_L17
      rw [L12, if_pos (nI_le (Nat.le_refl _) (by omega))])
    rw [es] at h
    exact h
  by_cases hz : sumL W 12 = 0
  · refine ⟨_, _, ?_, ?_, RF.fall_add R hh hf (r := 3) (by omega) A, GC.wl _ _ (by omega), GM.wl _ _ (by omega)⟩
    · unfold fW_fillsAll
      rw [e0]
      simp only [Option.bind_some, nm]
      rw [if_pos hz, if_pos (show inB 3 7 = true from by decide), show (3 : Int32).toNatClampNeg = 3 from by decide]
    · unfold fM_byShares
      rw [L12, m_weightSum (by omega), et]
      simp only [Option.bind_some, nm]
      rw [if_pos hz, L7, L3, ix_add, inB_nI (by omega) (by omega), if_pos rfl, nI_clamp (by omega)]
  · have ew : shR A (sumL (rdL w 26 0) 12) (rdL w 26 0) 12 = shR A (sumL W 12) W 12 := by rw [es]; exact shR_congr hw
    obtain ⟨w1, a1, a2, a3⟩ := c_shares_26_27 (w := w) (A := A) (by rw [ew]; exact shR_pos HW)
    obtain ⟨t1, b1, b2, b3⟩ := m_shares (t := t) (n := 12) (A := A) (by omega) (by rw [et]; exact hz)
    obtain ⟨t2, c1, c2, c3⟩ := m_portions (t := t1)
    have va : ∀ j, j < 12 → rdL w1 27 0 j = shV A (sumL W 12) W 12 j := fun j hj => by rw [a3 j hj, es]; exact shV_congr hj hw
    have vb : ∀ j, j < 12 → rdL t2 40 0 j = shV A (sumL W 12) W 12 j := fun j hj => by rw [c3 j hj, b3 j hj, et]; exact shV_congr hj ht
    have R1 : RF w1 t2 a h f := R.ext (fun k i j hk => a2.l k i j (by omega)) (fun k i j hk => (c2.l k i j (by omega)).trans (b2.l k i j (by omega)))
    have hbig : ∃ b b', itr (fW_fillsAll_L78 h f) tt_fuel ((0 : Int32), w1) = some b ∧ itr (fM_byShares_L67 (nI h)) tt_fuel ((0 : Int32), t2) = some b' ∧ (RF b.2 b'.2 a h f ∧ GC f w1 b.2 ∧ GM h t2 b'.2) := by
      refine itr_two (b1 := fW_fillsAll_L78 h f) (b2 := fM_byShares_L67 (nI h)) (fun i u v => u.1 = nI i ∧ v.1 = nI i ∧ RF u.2 v.2 a h f ∧ GC f w1 u.2 ∧ GM h t2 v.2 ∧ (∀ j, rdL u.2 27 0 j = rdL w1 27 0 j) ∧ ∀ j, rdL v.2 40 0 j = rdL t2 40 0 j) (fun u v => RF u.2 v.2 a h f ∧ GC f w1 u.2 ∧ GM h t2 v.2) 12 (by omega) (a := ((0 : Int32), w1)) (a' := ((0 : Int32), t2)) (fun i u v hi hP => ?_) (fun u v hP => ?_) ⟨rfl, rfl, R1, GC.refl _, GM.refl _, fun _ => rfl, fun _ => rfl⟩
      · obtain ⟨ui, u⟩ := u
        obtain ⟨vi, v⟩ := v
        obtain ⟨p1, p2, p3, p4, p5, p6, p7⟩ := hP
        dsimp only at p1 p2 p3 p4 p5 p6 p7
        subst p1; subst p2
        have Cu : CS u a := (C.g (f := f) (a2.gC (by omega))).g p4
        have Mv : MS v a := ((M.g (f := h) (b2.gM (by omega))).g (f := h) (c2.gM (by omega))).g p5
        have hp := (shV_pos HW hi).1
        have qu : rdL u 27 0 i = shV A (sumL W 12) W 12 i := by rw [p6, va i hi]
        have qv : rdL v 40 0 i = shV A (sumL W 12) W 12 i := by rw [p7, vb i hi]
        generalize shV A (sumL W 12) W 12 i = P at hp qu qv
        unfold fW_fillsAll_L78 fM_byShares_L67
        simp only [nm]
        rw [L12, if_neg (nI_ge hi (by omega)), if_neg (nI_ge hi (by omega)), c_isGap Cu O hi, inB_nI hi (by omega), m_isGap Mv O hi, nI_clamp (by omega), qu, qv]
        simp only [Option.bind_some, if_true]
        by_cases hP0 : P = 0
        · rw [c_fills_none Cu O hi (Or.inr hP0), if_pos hP0]
          simp only [Option.bind_some]
          have key : ∀ r, r < 7 → RF (wrL u 9 f r (rdL u 9 f r + P)) v a h f := fun r hr => p3.ext (fun k i j hk => by
            rw [hP0, Int64.add_zero, rdL_wrL]
            by_cases q : k = 9 ∧ i = f ∧ j = r
            · obtain ⟨rfl, rfl, rfl⟩ := q; rw [if_pos ⟨rfl, rfl, rfl⟩]
            · rw [if_neg q]) (fun _ _ _ _ => rfl)
          by_cases hg : a.n i = 0
          · rw [if_pos hg]
            refine ⟨(nI (i + 1), wrL u 9 f 3 (rdL u 9 f 3 + P)), (nI (i + 1), v), ?_, by rw [nI_1], rfl, rfl, key 3 (by omega), p4.trans (GC.wl _ _ (by omega)), p5, fun j => ?_, p7⟩
            · rw [if_neg (show ¬ (1 : Int32) = 0 by decide), if_pos (show inB 3 7 = true from by decide), nI_1]
              rfl
            · show rdL (wrL u 9 f 3 _) 27 0 j = _
              rw [rdL_wrL, if_neg (by omega)]; exact p6 j
          · rw [if_neg hg]
            refine ⟨(nI (i + 1), wrL u 9 f 2 (rdL u 9 f 2 + P)), (nI (i + 1), v), ?_, by rw [nI_1], rfl, rfl, key 2 (by omega), p4.trans (GC.wl _ _ (by omega)), p5, fun j => ?_, p7⟩
            · rw [if_pos (show (0 : Int32) = 0 from rfl), if_pos (show inB 2 7 = true from by decide), nI_1]
              rfl
            · show rdL (wrL u 9 f 2 _) 27 0 j = _
              rw [rdL_wrL, if_neg (by omega)]; exact p6 j
        · rw [if_neg hP0]
          by_cases hg : a.n i = 0
          · rw [if_pos hg, c_fills_none Cu O hi (Or.inl hg)]
            simp only [Option.bind_some]
            refine ⟨(nI (i + 1), wrL u 9 f 3 (rdL u 9 f 3 + P)), (nI (i + 1), wrL v 26 0 (7 * h + 3) (rdL v 26 0 (7 * h + 3) + P)), ?_, ?_, rfl, rfl, RF.fall_add p3 hh hf (by omega) P, p4.trans (GC.wl _ _ (by omega)), p5.trans (GM.wl _ _ (by omega)), fun j => ?_, fun j => ?_⟩
            · rw [if_neg (show ¬ (1 : Int32) = 0 by decide), if_pos (show inB 3 7 = true from by decide), nI_1]
              rfl
            · rw [if_neg (show ¬ (1 : Int32) = 0 by decide), L7, L3, ix_add, inB_nI (by omega) (by omega), if_pos rfl, nI_clamp (by omega), nI_1]
            · show rdL (wrL u 9 f 3 _) 27 0 j = _
              rw [rdL_wrL, if_neg (by omega)]; exact p6 j
            · show rdL (wrL v 26 0 _ _) 40 0 j = _
              rw [rdL_wrL, if_neg (by omega)]; exact p7 j
          · rw [if_neg hg]
            obtain ⟨x, u', v', f1, f2, f3, f4, f5, f6, f7⟩ := fills_rel Cu Mv O p3 hh hf hi hp
            rw [f1, f2]
            simp only [Option.bind_some]
            have g1 : rdL u' 9 f 2 = rdL u 9 f 2 := f6.l 9 f 2 (by omega)
            have g2 : rdL v' 26 0 (7 * h + 2) = rdL v 26 0 (7 * h + 2) := f7.l 26 0 (7 * h + 2) (by omega)
            have hfa := RF.fall_add f3 hh hf (r := 2) (by omega) x
            rw [g1, g2] at hfa
            refine ⟨(nI (i + 1), wrL u' 9 f 2 (rdL u 9 f 2 + x)), (nI (i + 1), wrL v' 26 0 (7 * h + 2) (rdL v 26 0 (7 * h + 2) + x)), ?_, ?_, rfl, rfl, hfa, (p4.trans f6.up.g).trans (GC.wl _ _ (by omega)), (p5.trans f7.up.g).trans (GM.wl _ _ (by omega)), fun j => ?_, fun j => ?_⟩
            · rw [if_pos trivial, if_pos (show inB 2 7 = true from by decide), nI_1]
              rfl
            · rw [if_pos trivial, L7, L2, ix_add, inB_nI (by omega) (by omega), if_pos rfl, nI_clamp (by omega), nI_1]
            · show rdL (wrL u' 9 f 2 _) 27 0 j = _
              rw [rdL_wrL, if_neg (by omega), f6.l 27 0 j (by omega)]; exact p6 j
            · show rdL (wrL v' 26 0 _ _) 40 0 j = _
              rw [rdL_wrL, if_neg (by omega), f7.l 40 0 j (by omega)]; exact p7 j
      · obtain ⟨ui, u⟩ := u
        obtain ⟨vi, v⟩ := v
        obtain ⟨p1, p2, p3, p4, p5, p6, p7⟩ := hP
        dsimp only at p1 p2 p3 p4 p5 p6 p7
        subst p1; subst p2
        refine ⟨(nI 12, u), (nI 12, v), ?_, ?_, p3, p4, p5⟩
        · unfold fW_fillsAll_L78
          rw [L12, if_pos (nI_le (Nat.le_refl _) (by omega))]
        · unfold fM_byShares_L67
          rw [L12, if_pos (nI_le (Nat.le_refl _) (by omega))]
    obtain ⟨⟨x, w3⟩, ⟨x', t3⟩, r1, r2, r3, r4, r5⟩ := hbig
    refine ⟨w3, t3, ?_, ?_, r3, (a2.gC (by omega)).trans r4, ((b2.gM (by omega)).trans (c2.gM (by omega))).trans r5⟩
    · unfold fW_fillsAll
      rw [e0]
      simp only [Option.bind_some]
      rw [if_neg hz, a1]
      simp only [Option.bind_some]
      rw [r1]
      rfl
    · unfold fM_byShares
      rw [L12, m_weightSum (by omega), et]
      simp only [Option.bind_some]
      rw [if_neg hz, b1]
      simp only [Option.bind_some]
      rw [c1]
      simp only [Option.bind_some]
      have r2' : itr (fM_byShares_L67 (nI h)) tt_fuel ((0 : Int32), t2) = some (x', t3) := r2
      rw [r2']
      rfl
