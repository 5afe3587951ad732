set_option linter.unusedVariables false
set_option linter.unusedSimpArgs false
set_option maxRecDepth 100000
/-! PLAIN LAW: the model is cleared; both begin -/
def ZM (t : tt_St) (t' : tt_St) : Prop :=
  (∀ k i j, rdI t' k i j = rdI t k i j ∨ rdI t' k i j = 0) ∧
  (∀ k i j, rdL t' k i j = rdL t k i j ∨ rdL t' k i j = 0) ∧
  (FE t t')
theorem ZM.i {t : tt_St} {t' : tt_St} (self_ : ZM t t') : ∀ k i j, rdI t' k i j = rdI t k i j ∨ rdI t' k i j = 0 := self_.1
theorem ZM.l {t : tt_St} {t' : tt_St} (self_ : ZM t t') : ∀ k i j, rdL t' k i j = rdL t k i j ∨ rdL t' k i j = 0 := self_.2.1
theorem ZM.f {t : tt_St} {t' : tt_St} (self_ : ZM t t') : FE t t' := self_.2.2
theorem ZM.refl (w : tt_St) : ZM w w := ⟨fun _ _ _ => Or.inl rfl, fun _ _ _ => Or.inl rfl, FE.refl w⟩
theorem ZM.trans {u v w : tt_St} (h1 : ZM u v) (h2 : ZM v w) : ZM u w :=
  ⟨fun k i j => by
    rcases h2.i k i j with h | h
    · rw [h]; exact h1.i k i j
    · exact Or.inr h, fun k i j => by
    rcases h2.l k i j with h | h
    · rw [h]; exact h1.l k i j
    · exact Or.inr h, h1.f.trans h2.f⟩
theorem ZM.zi {u v : tt_St} (h : ZM u v) {k i j : Nat} (z : rdI u k i j = 0) : rdI v k i j = 0 := by
  rcases h.i k i j with e | e
  · rw [e]; exact z
  · exact e
theorem ZM.zl {u v : tt_St} (h : ZM u v) {k i j : Nat} (z : rdL u k i j = 0) : rdL v k i j = 0 := by
  rcases h.l k i j with e | e
  · rw [e]; exact z
  · exact e
theorem ZM.wi {k i j : Nat} (w : tt_St) (hk : 6 ≤ k ∨ k = 0 ∧ 29 ≤ j ∧ j ≤ 32) : ZM w (wrI w k i j 0) := ⟨fun a b c => by
  rw [rdI_wrI]; split
  · exact Or.inr rfl
  · exact Or.inl rfl, fun _ _ _ => Or.inl rfl, ⟨fun a c ha => by rw [rdI_wrI, if_neg (by omega)], fun c hc => by rw [rdI_wrI, if_neg (by omega)]⟩⟩
theorem ZM.wl {k i j : Nat} (w : tt_St) : ZM w (wrL w k i j 0) := ⟨fun _ _ _ => Or.inl rfl, fun a b c => by
  rw [rdL_wrL]; split
  · exact Or.inr rfl
  · exact Or.inl rfl, ⟨fun _ _ _ => rfl, fun _ _ => rfl⟩⟩
def BM (t : tt_St) : Prop :=
  (∀ l, l < 40 → rdI t 6 0 l = 0) ∧
  (∀ l, l < 40 → rdI t 12 0 l = 0) ∧
  (∀ l, l < 40 → rdL t 15 0 l = 0) ∧
  (∀ h, h < 25 → rdI t 7 0 h = 0) ∧
  (∀ h, h < 25 → rdI t 19 0 h = 0) ∧
  (∀ h, h < 25 → rdL t 20 0 h = 0) ∧
  (∀ h k j, h < 25 → ((k = 21 ∨ k = 22 ∨ k = 23) ∧ j / 40 = h) ∨ (k = 25 ∧ j / 10 = h) ∨ (k = 26 ∧ j / 7 = h) → rdL t k 0 j = 0) ∧
  (∀ h j, h < 25 → j / 160 = h → rdI t 24 0 j = 0) ∧
  (∀ i, i < 10 → rdI t 27 0 i = 0) ∧
  (∀ i, i < 10 → rdI t 28 0 i = 0) ∧
  (∀ y, y < 12 → rdI t 34 0 y = 0) ∧
  (∀ j, 29 ≤ j → j ≤ 32 → rdI t 0 0 j = 0)
theorem BM.l6 {t : tt_St} (self_ : BM t) : ∀ l, l < 40 → rdI t 6 0 l = 0 := self_.1
theorem BM.l12 {t : tt_St} (self_ : BM t) : ∀ l, l < 40 → rdI t 12 0 l = 0 := self_.2.1
theorem BM.l15 {t : tt_St} (self_ : BM t) : ∀ l, l < 40 → rdL t 15 0 l = 0 := self_.2.2.1
theorem BM.h7 {t : tt_St} (self_ : BM t) : ∀ h, h < 25 → rdI t 7 0 h = 0 := self_.2.2.2.1
theorem BM.h19 {t : tt_St} (self_ : BM t) : ∀ h, h < 25 → rdI t 19 0 h = 0 := self_.2.2.2.2.1
theorem BM.h20 {t : tt_St} (self_ : BM t) : ∀ h, h < 25 → rdL t 20 0 h = 0 := self_.2.2.2.2.2.1
theorem BM.hz {t : tt_St} (self_ : BM t) : ∀ h k j, h < 25 → ((k = 21 ∨ k = 22 ∨ k = 23) ∧ j / 40 = h) ∨ (k = 25 ∧ j / 10 = h) ∨ (k = 26 ∧ j / 7 = h) → rdL t k 0 j = 0 := self_.2.2.2.2.2.2.1
theorem BM.hi {t : tt_St} (self_ : BM t) : ∀ h j, h < 25 → j / 160 = h → rdI t 24 0 j = 0 := self_.2.2.2.2.2.2.2.1
theorem BM.st {t : tt_St} (self_ : BM t) : ∀ i, i < 10 → rdI t 27 0 i = 0 := self_.2.2.2.2.2.2.2.2.1
theorem BM.ca {t : tt_St} (self_ : BM t) : ∀ i, i < 10 → rdI t 28 0 i = 0 := self_.2.2.2.2.2.2.2.2.2.1
theorem BM.many {t : tt_St} (self_ : BM t) : ∀ y, y < 12 → rdI t 34 0 y = 0 := self_.2.2.2.2.2.2.2.2.2.2.1
theorem BM.fl {t : tt_St} (self_ : BM t) : ∀ j, 29 ≤ j → j ≤ 32 → rdI t 0 0 j = 0 := self_.2.2.2.2.2.2.2.2.2.2.2
theorem m_clears {t : tt_St} : ∃ t', fM_clears t = some t' ∧ BM t' ∧ ZM t t' := by
  have s1 := itr_inv (body := fM_clears_L2) (fun i u => (nI i, u)) (fun i u => ZM t u ∧ ∀ l, l < i → rdI u 6 0 l = 0 ∧ rdI u 12 0 l = 0 ∧ rdL u 15 0 l = 0) (fun b => ∃ u, b = (nI 40, u) ∧ ZM t u ∧ ∀ l, l < 40 → rdI u 6 0 l = 0 ∧ rdI u 12 0 l = 0 ∧ rdL u 15 0 l = 0) 40 t (by omega) ⟨ZM.refl t, fun l hl => by omega⟩ (fun i u hi hI => by
    obtain ⟨h1, h2⟩ := hI
    have z : ZM u (wrL (wrI (wrI u 6 0 i 0) 12 0 i 0) 15 0 i 0) := ((ZM.wi u (by omega)).trans (ZM.wi _ (by omega))).trans (ZM.wl _)
    refine ⟨wrL (wrI (wrI u 6 0 i 0) 12 0 i 0) 15 0 i 0, ?_, h1.trans z, fun l hl => ?_⟩
    · unfold fM_clears_L2
      dsimp only [nm]
      rw [L40, if_neg (nI_ge hi (by omega)), inB_nI hi (by omega), if_pos rfl, nI_clamp (by omega), nI_1]
    · by_cases e : l = i
      · subst e
        refine ⟨?_, ?_, ?_⟩
        · rw [rdI_wrL, rdI_wrI, if_neg (by omega), rdI_wrI, if_pos ⟨rfl, rfl, rfl⟩]
        · rw [rdI_wrL, rdI_wrI, if_pos ⟨rfl, rfl, rfl⟩]
        · rw [rdL_wrL, if_pos ⟨rfl, rfl, rfl⟩]
      · obtain ⟨a1, a2, a3⟩ := h2 l (by omega)
        exact ⟨z.zi a1, z.zi a2, z.zl a3⟩) (fun u hI => ⟨_, by
    unfold fM_clears_L2
    rw [L40, if_pos (nI_le (Nat.le_refl _) (by omega))], u, rfl, hI⟩)
  obtain ⟨_, b1, t1, rfl, Z1, c1⟩ := s1
  have s2 := itr_inv (body := fM_clears_L37) (fun i u => (nI i, u)) (fun i u => ZM t1 u ∧ ∀ h, h < i → rdI u 7 0 h = 0 ∧ rdI u 19 0 h = 0 ∧ rdL u 20 0 h = 0 ∧ (∀ k j, ((k = 21 ∨ k = 22 ∨ k = 23) ∧ j / 40 = h) ∨ (k = 25 ∧ j / 10 = h) ∨ (k = 26 ∧ j / 7 = h) → rdL u k 0 j = 0) ∧ ∀ j, j / 160 = h → rdI u 24 0 j = 0) (fun b => ∃ u, b = (nI 25, u) ∧ ZM t1 u ∧ ∀ h, h < 25 → rdI u 7 0 h = 0 ∧ rdI u 19 0 h = 0 ∧ rdL u 20 0 h = 0 ∧ (∀ k j, ((k = 21 ∨ k = 22 ∨ k = 23) ∧ j / 40 = h) ∨ (k = 25 ∧ j / 10 = h) ∨ (k = 26 ∧ j / 7 = h) → rdL u k 0 j = 0) ∧ ∀ j, j / 160 = h → rdI u 24 0 j = 0) 25 t1 (by omega) ⟨ZM.refl t1, fun l hl => by omega⟩ (fun i u hi hI => by
    obtain ⟨h1, h2⟩ := hI
    obtain ⟨v, hv⟩ : ∃ v, v = wrL (wrI (wrI u 7 0 i 0) 19 0 i 0) 20 0 i 0 := ⟨_, rfl⟩
    have z : ZM u v := by rw [hv]; exact ((ZM.wi u (by omega)).trans (ZM.wi _ (by omega))).trans (ZM.wl _)
    obtain ⟨x, g1, g2, g3, g4⟩ := m_clearsHarm (t := v) hi
    have z2 : ZM v x := ⟨fun a b c => by
      rw [g4]; split
      · exact Or.inr rfl
      · exact Or.inl rfl, fun a b c => by
      rw [g3]; split
      · exact Or.inr rfl
      · exact Or.inl rfl, ⟨fun k j hk => by rw [g4, if_neg (by omega)], fun j _ => by rw [g4, if_neg (by omega)]⟩⟩
    have z' := z.trans z2
    refine ⟨x, ?_, h1.trans z', fun l hl => ?_⟩
    · unfold fM_clears_L37
      dsimp only [nm]
      rw [show (24 : Int32) = nI 24 from rfl, if_neg (nI_nlt (by omega) (by omega)), inB_nI hi (by omega), if_pos rfl, nI_clamp (by omega), ← hv, g1, Option.bind_some, nI_1]
    · by_cases e : l = i
      · subst e
        refine ⟨z2.zi ?_, z2.zi ?_, z2.zl ?_, fun k j hk => ?_, fun j hj => ?_⟩
        · rw [hv, rdI_wrL, rdI_wrI, if_neg (by omega), rdI_wrI, if_pos ⟨rfl, rfl, rfl⟩]
        · rw [hv, rdI_wrL, rdI_wrI, if_pos ⟨rfl, rfl, rfl⟩]
        · rw [hv, rdL_wrL, if_pos ⟨rfl, rfl, rfl⟩]
        · rw [g3, if_pos ⟨rfl, hk⟩]
        · rw [g4, if_pos ⟨rfl, rfl, hj⟩]
      · obtain ⟨a1, a2, a3, a4, a5⟩ := h2 l (by omega)
        exact ⟨z'.zi a1, z'.zi a2, z'.zl a3, fun k j hk => z'.zl (a4 k j hk), fun j hj => z'.zi (a5 j hj)⟩) (fun u hI => ⟨_, by
    unfold fM_clears_L37
    rw [show (24 : Int32) = nI 24 from rfl, if_pos (nI_lt (by omega) (by omega))], u, rfl, hI⟩)
  obtain ⟨_, b2, t2, rfl, Z2, c2⟩ := s2
  have s3 := itr_inv (body := fM_clears_L77) (fun i u => (nI i, u)) (fun i u => ZM t2 u ∧ ∀ l, l < i → rdI u 27 0 l = 0 ∧ rdI u 28 0 l = 0) (fun b => ∃ u, b = (nI 10, u) ∧ ZM t2 u ∧ ∀ l, l < 10 → rdI u 27 0 l = 0 ∧ rdI u 28 0 l = 0) 10 t2 (by omega) ⟨ZM.refl t2, fun l hl => by omega⟩ (fun i u hi hI => by
    obtain ⟨h1, h2⟩ := hI
    have z : ZM u (wrI (wrI u 27 0 i 0) 28 0 i 0) := (ZM.wi u (by omega)).trans (ZM.wi _ (by omega))
    refine ⟨wrI (wrI u 27 0 i 0) 28 0 i 0, ?_, h1.trans z, fun l hl => ?_⟩
    · unfold fM_clears_L77
      dsimp only [nm]
      rw [L10, if_neg (nI_ge hi (by omega)), inB_nI hi (by omega), if_pos rfl, nI_clamp (by omega), nI_1]
    · by_cases e : l = i
      · subst e
        refine ⟨?_, ?_⟩
        · rw [rdI_wrI, if_neg (by omega), rdI_wrI, if_pos ⟨rfl, rfl, rfl⟩]
        · rw [rdI_wrI, if_pos ⟨rfl, rfl, rfl⟩]
      · obtain ⟨a1, a2⟩ := h2 l (by omega)
        exact ⟨z.zi a1, z.zi a2⟩) (fun u hI => ⟨_, by
    unfold fM_clears_L77
    rw [L10, if_pos (nI_le (Nat.le_refl _) (by omega))], u, rfl, hI⟩)
  obtain ⟨_, b3, t3, rfl, Z3, c3⟩ := s3
  have s4 := itr_inv (body := fM_clears_L105) (fun i u => (nI i, u)) (fun i u => ZM t3 u ∧ ∀ l, l < i → rdI u 34 0 l = 0) (fun b => ∃ u, b = (nI 12, u) ∧ ZM t3 u ∧ ∀ l, l < 12 → rdI u 34 0 l = 0) 12 t3 (by omega) ⟨ZM.refl t3, fun l hl => by omega⟩ (fun i u hi hI => by
    obtain ⟨h1, h2⟩ := hI
    have z : ZM u (wrI u 34 0 i 0) := ZM.wi u (by omega)
    refine ⟨wrI u 34 0 i 0, ?_, h1.trans z, fun l hl => ?_⟩
    · unfold fM_clears_L105
      dsimp only [nm]
      rw [L12, if_neg (nI_ge hi (by omega)), inB_nI hi (by omega), if_pos rfl, nI_clamp (by omega), nI_1]
    · by_cases e : l = i
      · subst e
        rw [rdI_wrI, if_pos ⟨rfl, rfl, rfl⟩]
      · exact z.zi (h2 l (by omega))) (fun u hI => ⟨_, by
    unfold fM_clears_L105
    rw [L12, if_pos (nI_le (Nat.le_refl _) (by omega))], u, rfl, hI⟩)
  obtain ⟨_, b4, t4, rfl, Z4, c4⟩ := s4
  generalize ht5 : wrI (wrI (wrI (wrI t4 0 0 29 0) 0 0 30 0) 0 0 31 0) 0 0 32 0 = t5
  have Z5 : ZM t4 t5 := by
    rw [← ht5]
    exact (((ZM.wi t4 (by omega)).trans (ZM.wi _ (by omega))).trans (ZM.wi _ (by omega))).trans (ZM.wi _ (by omega))
  have Z45 := Z4.trans Z5
  have Z345 := Z3.trans Z45
  have Z2345 := Z2.trans Z345
  refine ⟨t5, ?_, ⟨fun l hl => Z2345.zi (c1 l hl).1, fun l hl => Z2345.zi (c1 l hl).2.1, fun l hl => Z2345.zl (c1 l hl).2.2, fun h hh => Z345.zi (c2 h hh).1, fun h hh => Z345.zi (c2 h hh).2.1, fun h hh => Z345.zl (c2 h hh).2.2.1, fun h k j hh hk => Z345.zl ((c2 h hh).2.2.2.1 k j hk), fun h j hh hj => Z345.zi ((c2 h hh).2.2.2.2 j hj), fun i hi => Z45.zi (c3 i hi).1, fun i hi => Z45.zi (c3 i hi).2, fun y hy => Z5.zi (c4 y hy), fun j j1 j2 => ?_⟩, Z1.trans Z2345⟩
  · unfold fM_clears
    rw [show ((0 : Int32), t) = (nI 0, t) from rfl, b1, Option.bind_some, show ((0 : Int32), t1) = (nI 0, t1) from rfl, b2, Option.bind_some, show ((0 : Int32), t2) = (nI 0, t2) from rfl, b3, Option.bind_some, show ((0 : Int32), t3) = (nI 0, t3) from rfl, b4, Option.bind_some]
    dsimp only [nm]
    rw [ht5]
  · rw [← ht5]
    rcases (show j = 29 ∨ j = 30 ∨ j = 31 ∨ j = 32 by omega) with rfl | rfl | rfl | rfl
    all_goals simp [rdI_wrI]
/-- no towers, no harms -/
def a0 : TS := TS.mk (fun _ => 0) (fun _ _ => 0) (fun _ => false) (fun _ => 0) (fun _ => 0) (fun _ => 0) (fun _ => 0) (fun _ => 0) (fun _ _ => 0) (fun _ _ => 0) (fun _ => 0) 0 0 0 0
theorem bit0 {y : Nat} (hy : y < 12) : ¬ (((0 : Int32) >>> (nI y &&& 31)) &&& 1) = 1 := by
  intro h
  have h2 : bitB (nI 0) y = true := decide_eq_true h
  rw [bitB_nI (by omega) (by omega), Nat.zero_testBit] at h2
  cases h2
theorem a0_ok : a0.Ok :=
  ⟨fun _ _ => Nat.zero_le _, fun _ _ _ h => absurd h (Nat.not_lt_zero _), fun _ _ _ h => absurd h (Nat.not_lt_zero _), fun _ _ _ h => absurd h (Nat.not_lt_zero _), fun _ _ _ h => absurd h (Nat.not_lt_zero _), (fun _ _ h => by cases h), (fun _ _ h => by cases h), (fun _ _ h => by cases h), (fun _ _ h => by cases h), fun _ _ => Nat.zero_le _, fun _ _ _ => rfl, fun _ _ _ h => absurd h (Nat.not_lt_zero _), fun _ _ _ h => absurd h (Nat.not_lt_zero _), fun _ _ => Nat.zero_le _, Nat.zero_le _, Nat.zero_le _, Nat.zero_le _, fun y hy h => absurd h (bit0 hy)⟩
theorem cntP_none {p : Nat → Bool} : ∀ {n : Nat}, (∀ i, i < n → p i = false) → cntP p n = 0
  | 0, _ => rfl
  | n + 1, h => by rw [cntP_s, h n (by omega), cntP_none (fun i hi => h i (by omega))]; rfl
theorem sumZ_zero {f : Nat → Int} : ∀ {n : Nat}, (∀ i, i < n → f i = 0) → sumZ f n = 0
  | 0, _ => rfl
  | n + 1, h => by
    have e : sumZ f (n + 1) = sumZ f n + f n := rfl
    rw [e, h n (by omega), sumZ_zero (fun i hi => h i (by omega))]; rfl
theorem begun_rw {w t : tt_St} (B : BW w) (D : BM t) (Q : ∃ n, QW w n) (hf : rdI t 0 0 48 = 0) : RW w t a0 0 d0 := by
  refine ⟨⟨fun y hy => B.many y hy, fun _ _ _ h => absurd h (Nat.not_lt_zero _), fun l hl => B.l10 l hl, (fun _ _ h => by cases h), (fun _ _ h => by cases h), (fun _ _ h => by cases h), (fun _ _ h => by cases h), fun l hl => B.l8 l hl, fun _ _ _ h => absurd h (Nat.not_lt_zero _), fun _ _ _ h => absurd h (Nat.not_lt_zero _), fun i hi => B.st i hi, B.fl 17 (by omega) (by omega), B.fl 18 (by omega) (by omega), B.fl 19 (by omega) (by omega), B.fl 20 (by omega) (by omega)⟩, ⟨fun y hy => D.many y hy, fun _ _ _ h => absurd h (Nat.not_lt_zero _), fun _ _ _ h => absurd h (Nat.not_lt_zero _), fun l hl => D.l6 l hl, (fun _ _ h => by cases h), (fun _ _ h => by cases h), (fun _ _ h => by cases h), (fun _ _ h => by cases h), fun l hl => D.l12 l hl, fun _ _ _ h => absurd h (Nat.not_lt_zero _), fun _ _ _ h => absurd h (Nat.not_lt_zero _), fun i hi => D.st i hi, D.fl 29 (by omega) (by omega), D.fl 30 (by omega) (by omega), D.fl 31 (by omega) (by omega), D.fl 32 (by omega) (by omega)⟩, a0_ok, fun _ _ _ _ h => absurd h (Nat.not_lt_zero _), fun l hl => ?_, fun l hl => ?_, (fun _ _ h => by cases h), fun h hh => ?_, fun h hh => ?_, fun _ _ _ h => absurd h (Nat.not_lt_zero _), fun i hi => ?_, ?_, ?_, ?_, Q, ⟨0, by omega, rfl⟩, rfl⟩
  · rw [B.l9 l hl, D.l15 l hl]
  · rw [B.l9 l hl, sumZ_zero (fun i hi => by rw [B.hz i 10 l hi (by omega)]; rfl)]; rfl
  · refine ⟨fun l hl => ?_, fun l hl => ?_, fun l hl => ?_, fun i hi => ?_, fun r hr => ?_, fun c hc => ?_, fun l hl => ?_, fun l hl => ?_, fun l k hl hk => ?_, ?_, ?_, ?_, fun q => ?_, fun q => ⟨fun l hl => ⟨B.hz h 10 l hh (by omega), B.hz h 11 l hh (by omega), B.hz h 12 l hh (by omega)⟩, fun i hi => B.hz h 8 i hh (by omega), fun r hr => B.hz h 9 r hh (by omega), fun c hc => B.hz h 13 c hh (by omega), D.h19 h (by omega)⟩⟩
    · rw [D.hz h 21 _ (by omega) (by omega), B.hz h 10 l hh (by omega)]
    · rw [D.hz h 22 _ (by omega) (by omega), B.hz h 11 l hh (by omega)]
    · rw [D.hz h 23 _ (by omega) (by omega), B.hz h 12 l hh (by omega)]
    · rw [D.hz h 25 _ (by omega) (by omega), B.hz h 8 i hh (by omega)]
    · rw [D.hz h 26 _ (by omega) (by omega), B.hz h 9 r hh (by omega)]
    · rw [D.hi h _ (by omega) (by omega), B.hz h 13 c hh (by omega)]; rfl
    · rw [B.hz h 10 l hh (by omega), i64_0]; exact ⟨by omega, fun _ => by omega, fun _ => rfl⟩
    · rw [B.hz h 11 l hh (by omega), i64_0]; exact ⟨by omega, by omega, fun _ => rfl⟩
    · rw [B.hz h 13 _ hh (by omega), B.hz h 10 l hh (by omega), i64_0]; exact ⟨by omega, by omega, fun _ => rfl⟩
    · rw [B.h9 h hh, D.h19 h (by omega)]
    · rw [B.h11 h hh, D.h7 h (by omega)]
    · exact Or.inl (D.h7 h (by omega))
    · rw [D.h7 h (by omega)] at q; exact absurd q (by decide)
  · rw [B.h10 h hh, D.h20 h (by omega)]
    exact ⟨rfl, by decide, by rw [i64_0]; omega, fun _ => rfl⟩
  · rw [B.ca i hi, D.ca i hi]; exact ⟨rfl, fun _ => rfl⟩
  · rw [B.fl 23 (by omega) (by omega), hf]
  · have e : cntP a0.there 40 = 0 := cntP_none (fun _ _ => rfl)
    rw [B.fl 21 (by omega) (by omega), e]; rfl
  · have e : cntP (fun h => decide (rdI t 7 0 h = 1)) 24 = 0 := cntP_none (fun i hi => by rw [D.h7 i (by omega)]; rfl)
    rw [B.fl 22 (by omega) (by omega), e]; rfl
