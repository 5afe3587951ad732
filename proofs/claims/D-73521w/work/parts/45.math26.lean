set_option linter.unusedVariables false
set_option linter.unusedSimpArgs false
set_option maxRecDepth 100000
/-! PLAIN LAW: a world begins, the model is cleared -/
/-- only zeros were written, none in the queue -/
def ZW (w : tt_St) (w' : tt_St) : Prop :=
  (∀ k i j, rdI w' k i j = rdI w k i j ∨ rdI w' k i j = 0) ∧
  (∀ k i j, rdL w' k i j = rdL w k i j ∨ rdL w' k i j = 0) ∧
  (w'.2.2 = w.2.2) ∧
  (∀ i j, rdI w' 34 i j = rdI w 34 i j)
theorem ZW.i {w : tt_St} {w' : tt_St} (self_ : ZW w w') : ∀ k i j, rdI w' k i j = rdI w k i j ∨ rdI w' k i j = 0 := self_.1
theorem ZW.l {w : tt_St} {w' : tt_St} (self_ : ZW w w') : ∀ k i j, rdL w' k i j = rdL w k i j ∨ rdL w' k i j = 0 := self_.2.1
theorem ZW.r {w : tt_St} {w' : tt_St} (self_ : ZW w w') : w'.2.2 = w.2.2 := self_.2.2.1
theorem ZW.q {w : tt_St} {w' : tt_St} (self_ : ZW w w') : ∀ i j, rdI w' 34 i j = rdI w 34 i j := self_.2.2.2
theorem ZW.refl (w : tt_St) : ZW w w := ⟨fun _ _ _ => Or.inl rfl, fun _ _ _ => Or.inl rfl, rfl, fun _ _ => rfl⟩
theorem ZW.trans {u v w : tt_St} (h1 : ZW u v) (h2 : ZW v w) : ZW u w :=
  ⟨fun k i j => by
    rcases h2.i k i j with h | h
    · rw [h]; exact h1.i k i j
    · exact Or.inr h, fun k i j => by
    rcases h2.l k i j with h | h
    · rw [h]; exact h1.l k i j
    · exact Or.inr h, h2.r.trans h1.r, fun i j => (h2.q i j).trans (h1.q i j)⟩
theorem ZW.zi {u v : tt_St} (h : ZW u v) {k i j : Nat} (z : rdI u k i j = 0) : rdI v k i j = 0 := by
  rcases h.i k i j with e | e
  · rw [e]; exact z
  · exact e
theorem ZW.zl {u v : tt_St} (h : ZW u v) {k i j : Nat} (z : rdL u k i j = 0) : rdL v k i j = 0 := by
  rcases h.l k i j with e | e
  · rw [e]; exact z
  · exact e
theorem ZW.wi {k i j : Nat} (w : tt_St) (hk : ¬ k = 34) : ZW w (wrI w k i j 0) := ⟨fun a b c => by
  rw [rdI_wrI]; split
  · exact Or.inr rfl
  · exact Or.inl rfl, fun _ _ _ => Or.inl rfl, rfl, fun a b => by rw [rdI_wrI, if_neg (by omega)]⟩
theorem ZW.wl {k i j : Nat} (w : tt_St) : ZW w (wrL w k i j 0) := ⟨fun _ _ _ => Or.inl rfl, fun a b c => by
  rw [rdL_wrL]; split
  · exact Or.inr rfl
  · exact Or.inl rfl, rfl, fun _ _ => rfl⟩
theorem BG.zw {f : Nat} {w w' : tt_St} (B : BG f w w') (hl : ∀ k j, 8 ≤ k → k ≤ 13 → rdL w' k f j = rdL w k f j ∨ rdL w' k f j = 0) : ZW w w' := ⟨fun k i j => Or.inl (rdI_1 B.i k i j), fun k i j => by
  by_cases e : i = f ∧ 8 ≤ k ∧ k ≤ 13
  · rw [e.1]; exact hl k j e.2.1 e.2.2
  · exact Or.inl (B.l k i j e), B.r, fun i j => rdI_1 B.i 34 i j⟩
theorem c_begins_zw {w : tt_St} (f : Nat) : ∃ w', fF_begins w f = some w' ∧ BG f w w' ∧ ZW w w' := by
  obtain ⟨u, u1, u2, u3, u4⟩ := c_begins_3 (w := fillL (fillL w 8 f (fun _ => 0) 10) 9 f (fun _ => 0) 7) (f := f)
  have fz : ∀ (v : tt_St) (k N : Nat), ZW v (fillL v k f (fun _ => 0) N) := fun v k N => ⟨fun a b c => Or.inl (rdI_1 (fillL_i N) a b c), fun a b c => by
    rw [fillL_rd]; split
    · exact Or.inr rfl
    · exact Or.inl rfl, fillL_r N, fun a b => rdI_1 (fillL_i N) 34 a b⟩
  have z1 := (fz w 8 10).trans (fz _ 9 7)
  have z2 : ZW (fillL (fillL w 8 f (fun _ => 0) 10) 9 f (fun _ => 0) 7) u := ⟨fun a b c => Or.inl (rdI_1 u2 a b c), fun a b c => by
    rw [u4]; split
    · exact Or.inr rfl
    · exact Or.inl rfl, u3, fun a b => rdI_1 u2 34 a b⟩
  obtain ⟨w', g1, g2⟩ := c_begins (w := w) f
  have e : w' = fillL u 13 f (fun _ => 0) 160 := by
    have h : fF_begins w f = some (fillL u 13 f (fun _ => 0) 160) := by
      unfold fF_begins
      rw [c_beginsB, Option.bind_some, u1, Option.bind_some, c_fillz (k := 13) (f := f) (N := 160) (by omega) (fun i u hi => by
        unfold fF_begins_L41
        dsimp only [nm]
        rw [L160, if_neg (nI_ge hi (by omega)), inB_nI hi (by omega), if_pos rfl, nI_clamp (by omega), nI_1]) (fun u => by
        unfold fF_begins_L41
        rw [L160, if_pos (nI_le (Nat.le_refl _) (by omega))]), Option.bind_some]
    rw [h] at g1
    exact (Option.some.inj g1).symm
  exact ⟨w', g1, g2, e ▸ (z1.trans z2).trans (fz u 13 160)⟩
/-- what a world is when it has begun -/
def BW (w : tt_St) : Prop :=
  (∀ l, l < 40 → rdI w 2 l 10 = 0) ∧
  (∀ l, l < 40 → rdI w 2 l 8 = 0) ∧
  (∀ l, l < 40 → rdL w 2 l 9 = 0) ∧
  (∀ h, h < 24 → rdI w 7 h 11 = 0) ∧
  (∀ h, h < 24 → rdI w 7 h 9 = 0) ∧
  (∀ h, h < 24 → rdL w 7 h 10 = 0) ∧
  (∀ h k j, h < 24 → (k = 8 ∧ j < 10) ∨ (k = 9 ∧ j < 7) ∨ ((k = 10 ∨ k = 11 ∨ k = 12) ∧ j < 40) ∨ (k = 13 ∧ j < 160) → rdL w k h j = 0) ∧
  (∀ y, y < 12 → rdI w 23 0 y = 0) ∧
  (∀ i, i < 10 → rdI w 24 0 i = 0) ∧
  (∀ i, i < 10 → rdL w 25 0 i = 0) ∧
  (∀ j, 17 ≤ j → j ≤ 23 → rdI w 0 0 j = 0)
theorem BW.l10 {w : tt_St} (self_ : BW w) : ∀ l, l < 40 → rdI w 2 l 10 = 0 := self_.1
theorem BW.l8 {w : tt_St} (self_ : BW w) : ∀ l, l < 40 → rdI w 2 l 8 = 0 := self_.2.1
theorem BW.l9 {w : tt_St} (self_ : BW w) : ∀ l, l < 40 → rdL w 2 l 9 = 0 := self_.2.2.1
theorem BW.h11 {w : tt_St} (self_ : BW w) : ∀ h, h < 24 → rdI w 7 h 11 = 0 := self_.2.2.2.1
theorem BW.h9 {w : tt_St} (self_ : BW w) : ∀ h, h < 24 → rdI w 7 h 9 = 0 := self_.2.2.2.2.1
theorem BW.h10 {w : tt_St} (self_ : BW w) : ∀ h, h < 24 → rdL w 7 h 10 = 0 := self_.2.2.2.2.2.1
theorem BW.hz {w : tt_St} (self_ : BW w) : ∀ h k j, h < 24 → (k = 8 ∧ j < 10) ∨ (k = 9 ∧ j < 7) ∨ ((k = 10 ∨ k = 11 ∨ k = 12) ∧ j < 40) ∨ (k = 13 ∧ j < 160) → rdL w k h j = 0 := self_.2.2.2.2.2.2.1
theorem BW.many {w : tt_St} (self_ : BW w) : ∀ y, y < 12 → rdI w 23 0 y = 0 := self_.2.2.2.2.2.2.2.1
theorem BW.st {w : tt_St} (self_ : BW w) : ∀ i, i < 10 → rdI w 24 0 i = 0 := self_.2.2.2.2.2.2.2.2.1
theorem BW.ca {w : tt_St} (self_ : BW w) : ∀ i, i < 10 → rdL w 25 0 i = 0 := self_.2.2.2.2.2.2.2.2.2.1
theorem BW.fl {w : tt_St} (self_ : BW w) : ∀ j, 17 ≤ j → j ≤ 23 → rdI w 0 0 j = 0 := self_.2.2.2.2.2.2.2.2.2.2
theorem c_wbegins {w : tt_St} (Q : ∃ n, QW w n) : ∃ w', fW_begins w = some w' ∧ BW w' ∧ ZW w w' ∧ ∃ n, QW w' n := by
  have s1 := itr_inv (body := fW_begins_L10) (fun i u => (nI i, u)) (fun i u => ZW w u ∧ ∀ l, l < i → rdI u 2 l 10 = 0 ∧ rdI u 2 l 8 = 0 ∧ rdL u 2 l 9 = 0) (fun b => ∃ u, b = (nI 40, u) ∧ ZW w u ∧ ∀ l, l < 40 → rdI u 2 l 10 = 0 ∧ rdI u 2 l 8 = 0 ∧ rdL u 2 l 9 = 0) 40 w (by omega) ⟨ZW.refl w, fun l hl => by omega⟩ (fun i u hi hI => by
    obtain ⟨h1, h2⟩ := hI
    have z : ZW u (wrI (wrL (wrI u 2 i 10 0) 2 i 9 0) 2 i 8 0) := ((ZW.wi u (by omega)).trans (ZW.wl _)).trans (ZW.wi _ (by omega))
    refine ⟨wrI (wrL (wrI u 2 i 10 0) 2 i 9 0) 2 i 8 0, ?_, h1.trans z, fun l hl => ?_⟩
    · unfold fW_begins_L10 fY_begins
      dsimp only [nm]
      rw [L40, if_neg (nI_ge hi (by omega)), inB_nI hi (by omega), if_pos rfl, nI_clamp (by omega), Option.bind_some, nI_1]
    · by_cases e : l = i
      · subst e
        refine ⟨?_, ?_, ?_⟩
        · rw [rdI_wrI, if_neg (by omega), rdI_wrL, rdI_wrI, if_pos ⟨rfl, rfl, rfl⟩]
        · rw [rdI_wrI, if_pos ⟨rfl, rfl, rfl⟩]
        · rw [rdL_wrI, rdL_wrL, if_pos ⟨rfl, rfl, rfl⟩]
      · obtain ⟨a1, a2, a3⟩ := h2 l (by omega)
        exact ⟨z.zi a1, z.zi a2, z.zl a3⟩) (fun u hI => ⟨_, by
    unfold fW_begins_L10
    rw [L40, if_pos (nI_le (Nat.le_refl _) (by omega))], u, rfl, hI⟩)
  obtain ⟨_, b1, w1, rfl, Z1, c1⟩ := s1
  have s2 := itr_inv (body := fW_begins_L41) (fun i u => (nI i, u)) (fun i u => ZW w1 u ∧ ∀ h, h < i → rdI u 7 h 11 = 0 ∧ rdI u 7 h 9 = 0 ∧ rdL u 7 h 10 = 0 ∧ ∀ k j, (k = 8 ∧ j < 10) ∨ (k = 9 ∧ j < 7) ∨ ((k = 10 ∨ k = 11 ∨ k = 12) ∧ j < 40) ∨ (k = 13 ∧ j < 160) → rdL u k h j = 0) (fun b => ∃ u, b = (nI 24, u) ∧ ZW w1 u ∧ ∀ h, h < 24 → rdI u 7 h 11 = 0 ∧ rdI u 7 h 9 = 0 ∧ rdL u 7 h 10 = 0 ∧ ∀ k j, (k = 8 ∧ j < 10) ∨ (k = 9 ∧ j < 7) ∨ ((k = 10 ∨ k = 11 ∨ k = 12) ∧ j < 40) ∨ (k = 13 ∧ j < 160) → rdL u k h j = 0) 24 w1 (by omega) ⟨ZW.refl w1, fun l hl => by omega⟩ (fun i u hi hI => by
    obtain ⟨h1, h2⟩ := hI
    obtain ⟨v, g1, g2, g3⟩ := c_begins_zw (w := u) i
    have z : ZW v (wrI (wrL (wrI v 7 i 11 0) 7 i 10 0) 7 i 9 0) := ((ZW.wi v (by omega)).trans (ZW.wl _)).trans (ZW.wi _ (by omega))
    refine ⟨wrI (wrL (wrI v 7 i 11 0) 7 i 10 0) 7 i 9 0, ?_, (h1.trans g3).trans z, fun l hl => ?_⟩
    · unfold fW_begins_L41 fH_begins
      dsimp only [nm]
      rw [show (24 : Int32) = nI 24 from rfl, if_neg (nI_ge hi (by omega)), inB_nI hi (by omega), if_pos rfl, nI_clamp (by omega), g1, Option.bind_some, Option.bind_some, nI_1]
    · by_cases e : l = i
      · subst e
        refine ⟨?_, ?_, ?_, fun k j hk => z.zl ?_⟩
        · rw [rdI_wrI, if_neg (by omega), rdI_wrL, rdI_wrI, if_pos ⟨rfl, rfl, rfl⟩]
        · rw [rdI_wrI, if_pos ⟨rfl, rfl, rfl⟩]
        · rw [rdL_wrI, rdL_wrL, if_pos ⟨rfl, rfl, rfl⟩]
        · rcases hk with ⟨rfl, q⟩ | ⟨rfl, q⟩ | ⟨rfl | rfl | rfl, q⟩ | ⟨rfl, q⟩
          · exact g2.z8 j q
          · exact g2.z9 j q
          · exact g2.z10 j q
          · exact g2.z11 j q
          · exact g2.z12 j q
          · exact g2.z13 j q
      · obtain ⟨a1, a2, a3, a4⟩ := h2 l (by omega)
        have z' := g3.trans z
        exact ⟨z'.zi a1, z'.zi a2, z'.zl a3, fun k j hk => z'.zl (a4 k j hk)⟩) (fun u hI => ⟨_, by
    unfold fW_begins_L41
    rw [show (24 : Int32) = nI 24 from rfl, if_pos (nI_le (Nat.le_refl _) (by omega))], u, rfl, hI⟩)
  obtain ⟨_, b2, w2, rfl, Z2, c2⟩ := s2
  have s3 := itr_inv (body := fW_begins_L64) (fun i u => (nI i, u)) (fun i u => ZW w2 u ∧ ∀ l, l < i → rdI u 23 0 l = 0) (fun b => ∃ u, b = (nI 12, u) ∧ ZW w2 u ∧ ∀ l, l < 12 → rdI u 23 0 l = 0) 12 w2 (by omega) ⟨ZW.refl w2, fun l hl => by omega⟩ (fun i u hi hI => by
    obtain ⟨h1, h2⟩ := hI
    have z : ZW u (wrI u 23 0 i 0) := ZW.wi u (by omega)
    refine ⟨wrI u 23 0 i 0, ?_, h1.trans z, fun l hl => ?_⟩
    · unfold fW_begins_L64
      dsimp only [nm]
      rw [L12, if_neg (nI_ge hi (by omega)), inB_nI hi (by omega), if_pos rfl, nI_clamp (by omega), nI_1]
    · by_cases e : l = i
      · subst e
        rw [rdI_wrI, if_pos ⟨rfl, rfl, rfl⟩]
      · exact z.zi (h2 l (by omega))) (fun u hI => ⟨_, by
    unfold fW_begins_L64
    rw [L12, if_pos (nI_le (Nat.le_refl _) (by omega))], u, rfl, hI⟩)
  obtain ⟨_, b3, w3, rfl, Z3, c3⟩ := s3
  have s4 := itr_inv (body := fW_begins_L85) (fun i u => (nI i, u)) (fun i u => ZW w3 u ∧ ∀ l, l < i → rdI u 24 0 l = 0 ∧ rdL u 25 0 l = 0) (fun b => ∃ u, b = (nI 10, u) ∧ ZW w3 u ∧ ∀ l, l < 10 → rdI u 24 0 l = 0 ∧ rdL u 25 0 l = 0) 10 w3 (by omega) ⟨ZW.refl w3, fun l hl => by omega⟩ (fun i u hi hI => by
    obtain ⟨h1, h2⟩ := hI
    have z : ZW u (wrL (wrI u 24 0 i 0) 25 0 i 0) := (ZW.wi u (by omega)).trans (ZW.wl _)
    refine ⟨wrL (wrI u 24 0 i 0) 25 0 i 0, ?_, h1.trans z, fun l hl => ?_⟩
    · unfold fW_begins_L85
      dsimp only [nm]
      rw [L10, if_neg (nI_ge hi (by omega)), inB_nI hi (by omega), if_pos rfl, nI_clamp (by omega), nI_1]
    · by_cases e : l = i
      · subst e
        refine ⟨?_, ?_⟩
        · rw [rdI_wrL, rdI_wrI, if_pos ⟨rfl, rfl, rfl⟩]
        · rw [rdL_wrL, if_pos ⟨rfl, rfl, rfl⟩]
      · obtain ⟨a1, a2⟩ := h2 l (by omega)
        exact ⟨z.zi a1, z.zl a2⟩) (fun u hI => ⟨_, by
    unfold fW_begins_L85
    rw [L10, if_pos (nI_le (Nat.le_refl _) (by omega))], u, rfl, hI⟩)
  obtain ⟨_, b4, w4, rfl, Z4, c4⟩ := s4
  generalize hw5 : wrI (wrI (wrI (wrI (wrI (wrI (wrI w4 0 0 17 0) 0 0 18 0) 0 0 19 0) 0 0 20 0) 0 0 21 0) 0 0 22 0) 0 0 23 0 = w5
  have Z5 : ZW w4 w5 := by
    rw [← hw5]
    exact (((((((ZW.wi w4 (by omega)).trans (ZW.wi _ (by omega))).trans (ZW.wi _ (by omega))).trans (ZW.wi _ (by omega))).trans (ZW.wi _ (by omega))).trans (ZW.wi _ (by omega))).trans (ZW.wi _ (by omega)))
  have Z45 := Z4.trans Z5
  have Z345 := Z3.trans Z45
  have Z2345 := Z2.trans Z345
  have ZZ := Z1.trans Z2345
  refine ⟨w5, ?_, ⟨fun l hl => Z2345.zi (c1 l hl).1, fun l hl => Z2345.zi (c1 l hl).2.1, fun l hl => Z2345.zl (c1 l hl).2.2, fun h hh => Z345.zi (c2 h hh).1, fun h hh => Z345.zi (c2 h hh).2.1, fun h hh => Z345.zl (c2 h hh).2.2.1, fun h k j hh hk => Z345.zl ((c2 h hh).2.2.2 k j hk), fun y hy => Z45.zi (c3 y hy), fun i hi => Z5.zi (c4 i hi).1, fun i hi => Z5.zl (c4 i hi).2, fun j j1 j2 => ?_⟩, ZZ, ?_⟩
  · unfold fW_begins
    rw [show ((0 : Int32), w) = (nI 0, w) from rfl, b1, Option.bind_some, show ((0 : Int32), w1) = (nI 0, w1) from rfl, b2, Option.bind_some, show ((0 : Int32), w2) = (nI 0, w2) from rfl, b3, Option.bind_some, show ((0 : Int32), w3) = (nI 0, w3) from rfl, b4, Option.bind_some]
    dsimp only [nm]
    rw [hw5]
  · rw [← hw5]
    rcases (show j = 17 ∨ j = 18 ∨ j = 19 ∨ j = 20 ∨ j = 21 ∨ j = 22 ∨ j = 23 by omega) with rfl | rfl | rfl | rfl | rfl | rfl | rfl
    all_goals simp [rdI_wrI]
  · obtain ⟨n, Q⟩ := Q
    exact ⟨n, Q.ext (ZZ.q 0 1) (fun i => by unfold rdR; rw [ZZ.r])⟩
