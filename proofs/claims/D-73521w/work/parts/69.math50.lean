set_option linter.unusedVariables false
set_option linter.unusedSimpArgs false
set_option maxRecDepth 100000
/-! PLAIN LAW: the model thinks of a harm -/
theorem m_thinks {t : tt_St} (x y z : Int32) : ∃ t', fM_thinks t x y z = some t' ∧ t'.2.2 = t.2.2 ∧ (∀ k i j, ¬ ((k = 16 ∨ k = 17 ∨ k = 18) ∧ j = 24) → ¬ (k = 24 ∧ j / 160 = 24) → rdI t' k i j = rdI t k i j) ∧ rdI t' 16 0 24 = x ∧ rdI t' 17 0 24 = y ∧ rdI t' 18 0 24 = z ∧ (∀ k j, ((k = 21 ∨ k = 22 ∨ k = 23) ∧ j / 40 = 24) ∨ (k = 25 ∧ j / 10 = 24) ∨ (k = 26 ∧ j / 7 = 24) → rdL t' k 0 j = 0) ∧ (∀ k j, ¬ (((k = 21 ∨ k = 22 ∨ k = 23) ∧ j / 40 = 24) ∨ (k = 25 ∧ j / 10 = 24) ∨ (k = 26 ∧ j / 7 = 24)) → rdL t' k 0 j = rdL t k 0 j) := by
  generalize ht1 : wrI (wrI (wrI t 16 0 24 x) 17 0 24 y) 18 0 24 z = t1
  obtain ⟨t', c1, c2, c3, c4⟩ := m_clearsHarm (t := t1) (h := 24) (by omega)
  have l1 : ∀ k i j, rdL t1 k i j = rdL t k i j := fun k i j => by rw [← ht1]; rfl
  refine ⟨t', ?_, ?_, fun k i j h1 h2 => ?_, ?_, ?_, ?_, fun k j hk => ?_, fun k j hk => ?_⟩
  · unfold fM_thinks
    dsimp only [nm]
    rw [if_pos (show inB 24 25 = true by decide), show (24 : Int32).toNatClampNeg = 24 from rfl, ht1, show (24 : Int32) = nI 24 from rfl, c1, Option.bind_some]
  · rw [c2, ← ht1]; rfl
  · rw [c4, if_neg (by omega), ← ht1, rdI_wrI, if_neg (by omega), rdI_wrI, if_neg (by omega), rdI_wrI, if_neg (by omega)]
  · rw [c4, if_neg (by omega), ← ht1, rdI_wrI, if_neg (by omega), rdI_wrI, if_neg (by omega), rdI_wrI, if_pos ⟨rfl, rfl, rfl⟩]
  · rw [c4, if_neg (by omega), ← ht1, rdI_wrI, if_neg (by omega), rdI_wrI, if_pos ⟨rfl, rfl, rfl⟩]
  · rw [c4, if_neg (by omega), ← ht1, rdI_wrI, if_pos ⟨rfl, rfl, rfl⟩]
  · rw [c3, if_pos ⟨rfl, hk⟩]
  · rw [c3, if_neg (fun q => hk q.2), l1]
