set_option linter.unusedVariables false
set_option linter.unusedSimpArgs false
set_option maxRecDepth 100000
/-! PLAIN LAW: at -/
theorem m_isHeight (y : Int32) : fM_isHeight y = some (if 0 ≤ y ∧ y ≤ nI 1000000000 then 1 else 0) := by
  unfold fM_isHeight
  rw [m_within, Option.bind_some]
  have e : ((0 : Int64) ≤ y.toInt64 ∧ y.toInt64 ≤ 1000000000) ↔ (0 ≤ y ∧ y ≤ nI 1000000000) := (in32 (n := 1000000000) (by omega)).symm
  by_cases g : 0 ≤ y ∧ y ≤ nI 1000000000
  · rw [if_pos g, if_pos (e.mpr g)]
  · rw [if_neg g, if_neg (fun z => g (e.mp z))]
theorem ask_at {s : tt_S3} {m : tt_St} {a : TS} {c : Nat} (T : TN s m a c) (x y : Int32) : ASKp Int32.toInt64 Int32.toInt64 (fT_at s x y) (fM_at m x y) s m k1 := by
  have R := T.thr.R
  unfold fM_at
  dsimp only [nm]
  rw [m_within, Option.bind_some, m_isHeight, Option.bind_some]
  have ht3 : ((if (if (0 : Int64) ≤ x.toInt64 ∧ x.toInt64 ≤ 11 then (1 : Int32) else 0) = 0 then some (0 : Int32) else if (if 0 ≤ y ∧ y ≤ nI 1000000000 then (1 : Int32) else 0) = 0 then some (0 : Int32) else some (1 : Int32)) : Option Int32) = some (if (0 ≤ x ∧ x ≤ nI 11) ∧ 0 ≤ y ∧ y ≤ nI 1000000000 then 1 else 0) := by
    have e1 : ((0 : Int64) ≤ x.toInt64 ∧ x.toInt64 ≤ 11) ↔ (0 ≤ x ∧ x ≤ nI 11) := (in32 (n := 11) (by omega)).symm
    by_cases g1 : 0 ≤ x ∧ x ≤ nI 11
    · rw [if_pos (e1.mpr g1), if_neg (by decide)]
      by_cases g2 : 0 ≤ y ∧ y ≤ nI 1000000000
      · rw [if_pos g2, if_neg (by decide), if_pos ⟨g1, g2⟩]
      · rw [if_neg g2, if_pos rfl, if_neg (fun z => g2 z.2)]
    · rw [if_neg (fun z => g1 (e1.mp z)), if_pos rfl, if_neg (fun z => g1 z.1)]
  rw [ht3, Option.bind_some]
  refine ask_bad (m := m) (Fm := fun r7 => (fM_layerAt r7.2 x y).bind fun r9 => if r9 = (-1 : Int32) then (itr (fM_at_L57 x y r7) tt_fuel (0 : Int32)).bind fun q_b12 => orRet q_b12 fun b12 => some ((-2 : Int32), r7.2) else some (r9, r7.2)) ((0 ≤ x ∧ x ≤ nI 11) ∧ 0 ≤ y ∧ y ≤ nI 1000000000) (fun g => ?_) (fun g => ?_)
  · obtain ⟨j, j1, rfl⟩ := in_nat ((in32 (n := 11) (by omega)).mp g.1) (by omega)
    obtain ⟨h, h1, rfl⟩ := in_nat ((in32 (n := 1000000000) (by omega)).mp g.2) (by omega)
    obtain ⟨v, v1, v2⟩ := at_value (s := s) R.C R.M R.O (show j < 12 by omega) h1
    refine ⟨if_pos g, v, v, ?_, v2, rfl⟩
    unfold fT_at
    rw [c_yearOf, c_within, if_pos (show 0 ≤ nI j ∧ nI j ≤ (11 : Int32) from g.1), Option.bind_some]
    dsimp only [orThrow]
    rw [c_within, if_pos (show 0 ≤ nI h ∧ nI h ≤ (1000000000 : Int32) from g.2), Option.bind_some]
    exact v1
  · refine ⟨if_neg g, ?_⟩
    unfold fT_at
    rw [c_yearOf, c_within]
    by_cases g1 : 0 ≤ x ∧ x ≤ nI 11
    · rw [if_pos (show 0 ≤ x ∧ x ≤ (11 : Int32) from g1), Option.bind_some]
      dsimp only [orThrow]
      rw [c_within, if_neg (show ¬ (0 ≤ y ∧ y ≤ (1000000000 : Int32)) from fun z => g ⟨g1, z⟩)]
      rfl
    · rw [if_neg (show ¬ (0 ≤ x ∧ x ≤ (11 : Int32)) from g1)]
      rfl
