set_option linter.unusedVariables false
set_option linter.unusedSimpArgs false
set_option maxRecDepth 100000
/-! PLAIN LAW: at a height -/
theorem c_atLoop {s : tt_S3} {a : TS} (C : CS s.1 a) (O : a.Ok) {y h : Nat} (hy : y < 12) (hh : h ≤ 1000000000) : ∃ b, itr (fT_at_L15 (nI y) (nI h) s) tt_fuel (0 : Int32) = some b ∧ ((∃ k, k < a.n y ∧ (∀ j, j < k → a.top (a.rg y j) ≤ h) ∧ h < a.top (a.rg y k) ∧ ((a.fr (a.rg y k) ≤ h ∧ b = .inr (.inl (nI (a.rg y k), s))) ∨ (h < a.fr (a.rg y k) ∧ b = .inr (.inl (-1, s))))) ∨ ((∀ k, k < a.n y → a.top (a.rg y k) ≤ h) ∧ ∃ z, b = .inl z)) := by
  have h6 := O.n6 y hy
  have hk_ := itr_brk (body := fT_at_L15 (nI y) (nI h) s) (fun k (_ : Unit) => nI k) (fun k _ => ∀ j, j < k → a.top (a.rg y j) ≤ h) (fun b => (∃ k, k < a.n y ∧ (∀ j, j < k → a.top (a.rg y j) ≤ h) ∧ h < a.top (a.rg y k) ∧ ((a.fr (a.rg y k) ≤ h ∧ b = .inr (.inl (nI (a.rg y k), s))) ∨ (h < a.fr (a.rg y k) ∧ b = .inr (.inl (-1, s))))) ∨ ((∀ k, k < a.n y → a.top (a.rg y k) ≤ h) ∧ ∃ z, b = .inl z)) (a.n y) () (by omega) (fun j hj => by omega) (fun k _ hk hI => ?_) (fun _ hI => ?_)
  · exact hk_
  · have h40 := O.rg40 y k hy hk
    have hT := O.rgT y k hy hk
    have f9 := O.fr9 _ h40 hT
    have s9 := O.sz1 _ h40 hT
    have tp : a.top (a.rg y k) = a.fr (a.rg y k) + a.sz (a.rg y k) := rfl
    unfold fT_at_L15
    rw [inB_nI hy (by omega), if_pos rfl, nI_clamp (show y < 2 ^ 31 by omega), C.many y hy, if_neg (nI_ge hk (by omega)), c_layerAt C O hy hk, Option.bind_some, c_top C O h40 hT, Option.bind_some, C.fr _ h40 hT]
    by_cases e : a.top (a.rg y k) ≤ h
    · left
      rw [if_pos (nI_le e (by omega)), nI_1]
      refine ⟨(), rfl, fun j hj => ?_⟩
      by_cases z : j = k
      · rw [z]; exact e
      · exact hI j (by omega)
    · right
      rw [if_neg (nI_ge (by omega) (by omega))]
      by_cases e2 : a.fr (a.rg y k) ≤ h
      · rw [if_pos (nI_le e2 (by omega))]
        exact ⟨_, rfl, Or.inl ⟨k, hk, hI, by omega, Or.inl ⟨e2, rfl⟩⟩⟩
      · rw [if_neg (nI_ge (by omega) (by omega))]
        exact ⟨_, rfl, Or.inl ⟨k, hk, hI, by omega, Or.inr ⟨by omega, rfl⟩⟩⟩
  · refine ⟨.inl (nI (a.n y)), ?_, Or.inr ⟨hI, _, rfl⟩⟩
    unfold fT_at_L15
    rw [inB_nI hy (by omega), if_pos rfl, nI_clamp (show y < 2 ^ 31 by omega), C.many y hy, if_pos (nI_le (Nat.le_refl _) (by omega))]
/-- the layer of a year in which a height lies -/
theorem m_layerAt {t : tt_St} {a : TS} (M : MS t a) (O : a.Ok) {y h : Nat} (hy : y < 12) (hh : h ≤ 1000000000) : ∃ r, fM_layerAt t (nI y) (nI h) = some r ∧ ((∃ l, l < 40 ∧ a.there l = true ∧ a.yr l = y ∧ a.fr l ≤ h ∧ h < a.top l ∧ r = nI l) ∨ ((∀ l, l < 40 → a.there l = true → a.yr l = y → ¬ (a.fr l ≤ h ∧ h < a.top l)) ∧ r = -1)) := by
  have hk_ := itr_brk (body := fM_layerAt_L2 t (nI y) (nI h)) (fun k (_ : Unit) => nI k) (fun k _ => ∀ l, l < k → a.there l = true → a.yr l = y → ¬ (a.fr l ≤ h ∧ h < a.top l)) (fun b => (∃ l, l < 40 ∧ a.there l = true ∧ a.yr l = y ∧ a.fr l ≤ h ∧ h < a.top l ∧ b = .inr (nI l)) ∨ ((∀ l, l < 40 → a.there l = true → a.yr l = y → ¬ (a.fr l ≤ h ∧ h < a.top l)) ∧ ∃ x, b = .inl x)) 40 () (by omega) (fun j hj => by omega) (fun k _ hk hI => ?_) (fun _ hI => ?_)
  · obtain ⟨b, c1, c2⟩ := hk_
    unfold fM_layerAt
    rw [L0, c1, Option.bind_some]
    rcases c2 with ⟨l, g1, g2, g3, g4, g5, rfl⟩ | ⟨g, x, rfl⟩
    · exact ⟨_, rfl, Or.inl ⟨l, g1, g2, g3, g4, g5, rfl⟩⟩
    · exact ⟨_, rfl, Or.inr ⟨g, rfl⟩⟩
  · have nx : (a.there k = true → a.yr k = y → ¬ (a.fr k ≤ h ∧ h < a.top k)) → ∃ c' : Unit, (some (.inl (nI k + 1)) : Option (Int32 ⊕ Int32 ⊕ Int32)) = some (.inl (nI (k + 1))) ∧ ∀ l, l < k + 1 → a.there l = true → a.yr l = y → ¬ (a.fr l ≤ h ∧ h < a.top l) := fun q => by
      refine ⟨(), by rw [nI_1], fun l hl => ?_⟩
      by_cases z : l = k
      · rw [z]; exact q
      · exact hI l (by omega)
    unfold fM_layerAt_L2
    rw [L40, if_neg (nI_ge hk (by omega)), m_isIn M O hk hy, Option.bind_some]
    by_cases ht : a.there k = true
    · have f9 := O.fr9 k hk ht
      have s9 := O.sz1 k hk ht
      have tp : a.top k = a.fr k + a.sz k := rfl
      by_cases e : a.yr k = y
      · have eb : (a.there k && decide (a.yr k = y)) = true := by simp [ht, e]
        rw [eb, if_neg (show ¬ b2i true = 0 by decide), inB_nI hk (by omega), if_pos rfl, nI_clamp (by omega), M.fr k hk ht, m_top M hk ht, Option.bind_some]
        by_cases e1 : h < a.fr k
        · left
          rw [if_pos (nI_lt e1 (by omega))]
          exact nx (fun _ _ z => by omega)
        · rw [if_neg (nI_nlt (by omega) (by omega))]
          by_cases e2 : a.top k ≤ h
          · left
            rw [if_pos (nI_le e2 (by omega))]
            exact nx (fun _ _ z => by omega)
          · right
            rw [if_neg (nI_ge (by omega) (by omega))]
            exact ⟨_, rfl, Or.inl ⟨k, hk, ht, e, by omega, by omega, rfl⟩⟩
      · left
        have eb : (a.there k && decide (a.yr k = y)) = false := by simp [e]
        rw [eb, if_pos (show b2i false = 0 by decide)]
        exact nx (fun _ z => absurd z e)
    · left
      have ht' : a.there k = false := by simpa using ht
      rw [ht', if_pos (show b2i (false && _) = 0 by rfl)]
      exact nx (fun z => absurd z ht)
  · refine ⟨.inl (nI 40), ?_, Or.inr ⟨hI, _, rfl⟩⟩
    unfold fM_layerAt_L2
    rw [L40, if_pos (nI_le (Nat.le_refl _) (by omega))]
theorem m_above {t : tt_St} {a : TS} (M : MS t a) (O : a.Ok) {y h : Nat} (hy : y < 12) (hh : h ≤ 1000000000) : ∃ b, itr (fM_at_L57 (nI y) (nI h) (1, t)) tt_fuel (0 : Int32) = some b ∧ (((∃ l, l < 40 ∧ a.there l = true ∧ a.yr l = y ∧ h < a.fr l) ∧ b = .inr (-1, t)) ∨ ((∀ l, l < 40 → a.there l = true → a.yr l = y → ¬ h < a.fr l) ∧ ∃ x, b = .inl x)) := by
  have hk_ := itr_brk (body := fM_at_L57 (nI y) (nI h) (1, t)) (fun k (_ : Unit) => nI k) (fun k _ => ∀ l, l < k → a.there l = true → a.yr l = y → ¬ h < a.fr l) (fun b => ((∃ l, l < 40 ∧ a.there l = true ∧ a.yr l = y ∧ h < a.fr l) ∧ b = .inr (-1, t)) ∨ ((∀ l, l < 40 → a.there l = true → a.yr l = y → ¬ h < a.fr l) ∧ ∃ x, b = .inl x)) 40 () (by omega) (fun j hj => by omega) (fun k _ hk hI => ?_) (fun _ hI => ?_)
  · exact hk_
  · have nx : (a.there k = true → a.yr k = y → ¬ h < a.fr k) → ∃ c' : Unit, (some (.inl (nI k + 1)) : Option (Int32 ⊕ Int32 ⊕ (Int32 × tt_St))) = some (.inl (nI (k + 1))) ∧ ∀ l, l < k + 1 → a.there l = true → a.yr l = y → ¬ h < a.fr l := fun q => by
      refine ⟨(), by rw [nI_1], fun l hl => ?_⟩
      by_cases z : l = k
      · rw [z]; exact q
      · exact hI l (by omega)
    unfold fM_at_L57
    dsimp only
    rw [L40, if_neg (nI_ge hk (by omega)), m_isIn M O hk hy, Option.bind_some]
    by_cases ht : a.there k = true
    · have f9 := O.fr9 k hk ht
      by_cases e : a.yr k = y
      · have eb : (a.there k && decide (a.yr k = y)) = true := by simp [ht, e]
        rw [eb, if_neg (show ¬ b2i true = 0 by decide), inB_nI hk (by omega), if_pos rfl, nI_clamp (by omega), M.fr k hk ht]
        by_cases e1 : a.fr k ≤ h
        · left
          rw [if_pos (nI_le e1 (by omega))]
          exact nx (fun _ _ z => by omega)
        · right
          rw [if_neg (nI_ge (by omega) (by omega))]
          exact ⟨_, rfl, Or.inl ⟨⟨k, hk, ht, e, by omega⟩, rfl⟩⟩
      · left
        have eb : (a.there k && decide (a.yr k = y)) = false := by simp [e]
        rw [eb, if_pos (show b2i false = 0 by decide)]
        exact nx (fun _ z => absurd z e)
    · left
      have ht' : a.there k = false := by simpa using ht
      rw [ht', if_pos (show b2i (false && _) = 0 by rfl)]
      exact nx (fun z => absurd z ht)
  · refine ⟨.inl (nI 40), ?_, Or.inr ⟨hI, _, rfl⟩⟩
    unfold fM_at_L57
    rw [L40, if_pos (nI_le (Nat.le_refl _) (by omega))]
theorem at_value {s : tt_S3} {t : tt_St} {a : TS} (C : CS s.1 a) (M : MS t a) (O : a.Ok) {y h : Nat} (hy : y < 12) (hh : h ≤ 1000000000) : ∃ v, ((itr (fT_at_L15 (nI y) (nI h) s) tt_fuel (0 : Int32)).bind fun q_b4 => orRet q_b4 fun b4 => some (.inl ((-2 : Int32), s))) = some (.inl (v, s)) ∧ ((fM_layerAt t (nI y) (nI h)).bind fun r9 => if r9 = (-1 : Int32) then (itr (fM_at_L57 (nI y) (nI h) (1, t)) tt_fuel (0 : Int32)).bind fun q_b12 => orRet q_b12 fun b12 => some ((-2 : Int32), t) else some (r9, t)) = some (v, t) := by
  obtain ⟨b, b1, b2⟩ := c_atLoop C O hy hh
  obtain ⟨r, r1, r2⟩ := m_layerAt M O hy hh
  obtain ⟨d, d1, d2⟩ := m_above M O hy hh
  have rung : ∀ l, l < 40 → a.there l = true → a.yr l = y → ∃ k, k < a.n y ∧ a.rg y k = l := fun l hl ht e => by
    obtain ⟨_, k, k1, k2⟩ := O.all l hl ht
    rw [e] at k1 k2
    exact ⟨k, k1, k2⟩
  have ne1 : ∀ l, l < 40 → ¬ nI l = (-1 : Int32) := fun l hl z => by
    have := congrArg Int32.toInt z
    rw [nI_toInt (by omega), i32_m1] at this
    omega
  have tf : ∀ l, a.fr l ≤ a.top l := fun l => Nat.le_add_right _ _
  rw [b1, r1, d1, Option.bind_some, Option.bind_some, Option.bind_some]
  rcases b2 with ⟨k, k1, k2, k3, k4⟩ | ⟨k1, z, rfl⟩
  · have g40 := O.rg40 y k hy k1
    have gT := O.rgT y k hy k1
    have gY := O.rgY y k hy k1
    rcases k4 with ⟨e1, rfl⟩ | ⟨e1, rfl⟩
    · refine ⟨nI (a.rg y k), rfl, ?_⟩
      rcases r2 with ⟨l, l1, l2, l3, l4, l5, rfl⟩ | ⟨l1, rfl⟩
      · obtain ⟨j, j1, j2⟩ := rung l l1 l2 l3
        have : l = a.rg y k := by
          rcases Nat.lt_trichotomy j k with q | q | q
          · have := k2 j q
            rw [j2] at this
            omega
          · rw [← j2, q]
          · have := sorted_le O hy q j1
            rw [j2] at this
            omega
        rw [if_neg (ne1 l l1), this]
      · exact absurd ⟨e1, k3⟩ (l1 _ g40 gT gY)
    · refine ⟨-1, rfl, ?_⟩
      rcases r2 with ⟨l, l1, l2, l3, l4, l5, rfl⟩ | ⟨l1, rfl⟩
      · obtain ⟨j, j1, j2⟩ := rung l l1 l2 l3
        exfalso
        rcases Nat.lt_trichotomy j k with q | q | q
        · have := k2 j q
          rw [j2] at this
          omega
        · rw [q] at j2
          rw [j2] at e1
          omega
        · have := sorted_le O hy q j1
          rw [j2] at this
          omega
      · rw [if_pos rfl]
        rcases d2 with ⟨_, rfl⟩ | ⟨g, _⟩
        · rfl
        · exact absurd e1 (g _ g40 gT gY)
  · refine ⟨-2, rfl, ?_⟩
    rcases r2 with ⟨l, l1, l2, l3, l4, l5, rfl⟩ | ⟨l1, rfl⟩
    · obtain ⟨j, j1, j2⟩ := rung l l1 l2 l3
      have := k1 j j1
      rw [j2] at this
      exact absurd l5 (by omega)
    · rw [if_pos rfl]
      rcases d2 with ⟨⟨l, g1, g2, g3, g4⟩, _⟩ | ⟨_, x, rfl⟩
      · obtain ⟨j, j1, j2⟩ := rung l g1 g2 g3
        have := k1 j j1
        rw [j2] at this
        have := tf l
        exact absurd g4 (by omega)
      · rfl
