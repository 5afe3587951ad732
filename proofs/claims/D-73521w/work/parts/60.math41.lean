set_option linter.unusedVariables false
set_option linter.unusedSimpArgs false
set_option maxRecDepth 100000
/-! PLAIN LAW: insurer -/
theorem sumL_stop {f : Nat → Int64} {q : Nat} : ∀ n, (∀ i, q ≤ i → i < q + n → f i = 0) → sumL f (q + n) = sumL f q
  | 0, _ => rfl
  | n + 1, h => by
    have e : sumL f (q + (n + 1)) = sumL f (q + n) + f (q + n) := rfl
    rw [e, h (q + n) (by omega) (by omega), Int64.add_zero]
    exact sumL_stop n (fun i h1 h2 => h i h1 (by omega))
theorem ask_insurer {s : tt_S3} {m : tt_St} {a : TS} {c : Nat} (T : TN s m a c) (x y : Int32) : ASKp id id (fT_insurer s x y) (fM_insurer m x y) s m k1 := by
  have R := T.thr.R
  have O := R.O
  have C := R.C
  obtain ⟨q, q1, q2, q3⟩ := T.P
  unfold fM_insurer
  dsimp only [nm]
  rw [m_within, m_within, Option.bind_some, Option.bind_some]
  have ht3 : ((if (if (0 : Int64) ≤ x.toInt64 ∧ x.toInt64 ≤ 9 then (1 : Int32) else 0) = 0 then some (0 : Int32) else if (if (0 : Int64) ≤ y.toInt64 ∧ y.toInt64 ≤ 4 then (1 : Int32) else 0) = 0 then some (0 : Int32) else some (1 : Int32)) : Option Int32) = some (if (0 ≤ x ∧ x ≤ nI 9) ∧ 0 ≤ y ∧ y ≤ nI 4 then 1 else 0) := by
    have e1 : ((0 : Int64) ≤ x.toInt64 ∧ x.toInt64 ≤ 9) ↔ (0 ≤ x ∧ x ≤ nI 9) := (in32 (n := 9) (by omega)).symm
    have e2 : ((0 : Int64) ≤ y.toInt64 ∧ y.toInt64 ≤ 4) ↔ (0 ≤ y ∧ y ≤ nI 4) := (in32 (n := 4) (by omega)).symm
    by_cases g1 : 0 ≤ x ∧ x ≤ nI 9
    · rw [if_pos (e1.mpr g1), if_neg (by decide)]
      by_cases g2 : 0 ≤ y ∧ y ≤ nI 4
      · rw [if_pos (e2.mpr g2), if_neg (by decide), if_pos ⟨g1, g2⟩]
      · rw [if_neg (fun z => g2 (e2.mp z)), if_pos rfl, if_neg (fun z => g2 z.2)]
    · rw [if_neg (fun z => g1 (e1.mp z)), if_pos rfl, if_neg (fun z => g1 z.1)]
  rw [ht3, Option.bind_some]
  refine ask_bad (m := m) (Fm := fun r7 => if (3 : Int32) ≤ y then (fM_signedBy r7.2 x (y - (3 : Int32))).bind fun r10 => some (r10, r7.2) else if y = 0 then (fM_bearsAll r7.2 x).bind fun r15 => some (r15, r7.2) else if y = (1 : Int32) then if inB x 10 then some ((rdI r7.2 27 0 x.toNatClampNeg).toInt64, r7.2) else none else (fM_cashOf r7.2 x).bind fun r13 => some (r13, r7.2)) ((0 ≤ x ∧ x ≤ nI 9) ∧ 0 ≤ y ∧ y ≤ nI 4) (fun g => ?_) (fun g => ?_)
  · obtain ⟨i, i1, rfl⟩ := in_nat ((in32 (n := 9) (by omega)).mp g.1) (by omega)
    obtain ⟨j, j1, rfl⟩ := in_nat ((in32 (n := 4) (by omega)).mp g.2) (by omega)
    have hi : i < 10 := by omega
    refine ⟨if_pos g, ?_⟩
    have hc : ∀ r, (if nI j = 0 then (fW_borneBy s.1 (nI i)).bind fun r4 => some (.inl (r4, s)) else if nI j = 1 then if inB (nI i) 10 then some (.inl ((rdI s.1 24 0 (nI i).toNatClampNeg).toInt64, s)) else none else if nI j = 2 then (itr (fT_insurer_L67 (nI i) s) tt_fuel ((0 : Int64), (1 : Int32))).bind fun b9 => some (.inl (b9.1, s)) else if nI j = 3 then (itr (fT_insurer_L112 (nI i) s) tt_fuel ((0 : Int64), (0 : Int32))).bind fun b20 => some (.inl (b20.1, s)) else (itr (fT_insurer_L160 (nI i) s) tt_fuel ((0 : Int64), (0 : Int32))).bind fun b28 => some (.inl (b28.1, s)) : Option ((Int64 × tt_S3) ⊕ (Nat × tt_S3))) = r → fT_insurer s (nI i) (nI j) = r := fun r hr => by
      unfold fT_insurer
      rw [c_insurerOf, c_within, if_pos (show 0 ≤ nI i ∧ nI i ≤ (9 : Int32) from g.1), Option.bind_some]
      dsimp only [orThrow]
      rw [c_within, if_pos (show 0 ≤ nI j ∧ nI j ≤ (4 : Int32) from g.2), Option.bind_some]
      exact hr
    have zero : ∀ F : Nat → Nat → Int64, ∀ l, q ≤ l → l < q + (40 - q) → sgV a i l (F l) = 0 := fun F l h1 h2 => by
      have : a.there l = false := by
        by_cases z : a.there l = true
        · have := (q3 l (by omega)).mp z; omega
        · simpa using z
      unfold sgV
      rw [O.sg0 l (by omega) this]; rfl
    have cut : ∀ F : Nat → Nat → Int64, sumL (fun l => sgV a i l (F l)) 40 = sumL (fun l => sgV a i l (F l)) q := fun F => by
      have := sumL_stop (f := fun l => sgV a i l (F l)) (q := q) (40 - q) (zero F)
      rw [show q + (40 - q) = 40 by omega] at this
      exact this
    dsimp only
    rcases (show j = 0 ∨ j = 1 ∨ j = 2 ∨ j = 3 ∨ j = 4 by omega) with rfl | rfl | rfl | rfl | rfl
    · exact ⟨_, _, hc _ (by rw [if_pos (show nI 0 = 0 from rfl), c_borneBy hi, Option.bind_some]), by rw [if_neg (by decide), if_pos (by decide), m_bearsAll R hi, Option.bind_some], rfl⟩
    · exact ⟨_, _, hc _ (by rw [if_neg (by decide), if_pos (by decide), inB_nI hi (by omega), if_pos rfl, nI_clamp (by omega), C.st i hi]), by rw [if_neg (by decide), if_neg (by decide), if_pos (by decide), inB_nI hi (by omega), if_pos rfl, nI_clamp (by omega), R.M.st i hi], rfl⟩
    · exact ⟨_, _, hc _ (by rw [if_neg (by decide), if_neg (by decide), if_pos (by decide), c_cash hi, Option.bind_some]), by rw [if_neg (by decide), if_neg (by decide), if_neg (by decide), m_cashOf R hi, Option.bind_some], rfl⟩
    · have lc : itr (fT_insurer_L112 (nI i) s) tt_fuel ((0 : Int64), (0 : Int32)) = some (sumL (fun l => sgV a i l (fun _ => 1)) q, nI q) := by
        refine itr_run (fun l => (sumL (fun l => sgV a i l (fun _ => 1)) l, nI l)) q _ (by omega) (fun l hl => ?_) ?_
        · have e : sumL (fun l => sgV a i l (fun _ => 1)) (l + 1) = sumL (fun l => sgV a i l (fun _ => 1)) l + sgV a i l (fun _ => 1) := rfl
          obtain ⟨s1, s2⟩ := sgV_tenths O (i := i) (show l < 40 by omega) (fun k k' h1 h2 => R.di l k k' (by omega) h1 h2) (fun _ => 1)
          obtain ⟨r, r1, r2⟩ := c_tenthsOf C O (l := l) (i := i) (by omega) (by omega)
          unfold fT_insurer_L112
          dsimp only [nm]
          rw [q2, if_neg (nI_ge hl (by omega)), inB_nI (show l < 40 by omega) (by omega), if_pos rfl, nI_clamp (by omega), r1, Option.bind_some, nI_1, e]
          rcases r2 with ⟨k, k1, k2, rfl⟩ | ⟨k1, rfl⟩
          · have t1 := O.ten1 l k (by omega) k1
            rw [s1 k k1 k2, if_neg (nI_nle (by omega) (by omega))]
          · rw [s2 k1, if_pos (by decide)]
        · unfold fT_insurer_L112
          rw [q2, if_pos (nI_le (Nat.le_refl _) (by omega))]
      refine ⟨_, _, hc _ (by rw [if_neg (by decide), if_neg (by decide), if_neg (by decide), if_pos (by decide), lc, Option.bind_some]), by rw [if_pos (by decide), show nI 3 - (3 : Int32) = nI 0 from rfl, m_signedBy R hi (by omega), Option.bind_some], ?_⟩
      show sumL (fun l => sgV a i l (fun _ => 1)) q = sumL (fun l => sgV a i l (fun k => if 0 = 0 then 1 else lfV s.1 a l * (nI (a.ten l k)).toInt64 / 10)) 40
      rw [cut (fun l k => if 0 = 0 then 1 else lfV s.1 a l * (nI (a.ten l k)).toInt64 / 10)]
      exact sumL_congr (fun l _ => by simp only [if_true])
    · have lc : itr (fT_insurer_L160 (nI i) s) tt_fuel ((0 : Int64), (0 : Int32)) = some (sumL (fun l => sgV a i l (fun k => lfV s.1 a l * (nI (a.ten l k)).toInt64 / 10)) q, nI q) := by
        refine itr_run (fun l => (sumL (fun l => sgV a i l (fun k => lfV s.1 a l * (nI (a.ten l k)).toInt64 / 10)) l, nI l)) q _ (by omega) (fun l hl => ?_) ?_
        · have e : sumL (fun l => sgV a i l (fun k => lfV s.1 a l * (nI (a.ten l k)).toInt64 / 10)) (l + 1) = sumL (fun l => sgV a i l (fun k => lfV s.1 a l * (nI (a.ten l k)).toInt64 / 10)) l + sgV a i l (fun k => lfV s.1 a l * (nI (a.ten l k)).toInt64 / 10) := rfl
          have ht := (q3 l (by omega)).mpr hl
          obtain ⟨s1, s2⟩ := sgV_tenths O (i := i) (show l < 40 by omega) (fun k k' h1 h2 => R.di l k k' (by omega) h1 h2) (fun k => lfV s.1 a l * (nI (a.ten l k)).toInt64 / 10)
          obtain ⟨r, r1, r2⟩ := c_tenthsOf C O (l := l) (i := i) (by omega) (by omega)
          unfold fT_insurer_L160
          dsimp only [nm]
          rw [q2, if_neg (nI_ge hl (by omega)), inB_nI (show l < 40 by omega) (by omega), if_pos rfl, nI_clamp (by omega), c_left C O (by omega) ht, Option.bind_some, r1, Option.bind_some, nI_1, e]
          rcases r2 with ⟨k, k1, k2, rfl⟩ | ⟨k1, rfl⟩
          · rw [s1 k k1 k2]; rfl
          · rw [s2 k1, show (0 : Int32).toInt64 = 0 from rfl, Int64.mul_zero, show (0 : Int64) / 10 = 0 from by decide]
        · unfold fT_insurer_L160
          rw [q2, if_pos (nI_le (Nat.le_refl _) (by omega))]
      refine ⟨_, _, hc _ (by rw [if_neg (by decide), if_neg (by decide), if_neg (by decide), if_neg (by decide), lc, Option.bind_some]), by rw [if_pos (by decide), show nI 4 - (3 : Int32) = nI 1 from rfl, m_signedBy R hi (by omega), Option.bind_some], ?_⟩
      show sumL (fun l => sgV a i l (fun k => lfV s.1 a l * (nI (a.ten l k)).toInt64 / 10)) q = sumL (fun l => sgV a i l (fun k => if 1 = 0 then 1 else lfV s.1 a l * (nI (a.ten l k)).toInt64 / 10)) 40
      rw [cut (fun l k => if 1 = 0 then 1 else lfV s.1 a l * (nI (a.ten l k)).toInt64 / 10)]
      exact sumL_congr (fun l _ => by simp)
  · refine ⟨if_neg g, ?_⟩
    unfold fT_insurer
    rw [c_insurerOf, c_within]
    by_cases g1 : 0 ≤ x ∧ x ≤ nI 9
    · rw [if_pos (show 0 ≤ x ∧ x ≤ (9 : Int32) from g1), Option.bind_some]
      dsimp only [orThrow]
      rw [c_within, if_neg (show ¬ (0 ≤ y ∧ y ≤ (4 : Int32)) from fun z => g ⟨g1, z⟩)]
      rfl
    · rw [if_neg (show ¬ (0 ≤ x ∧ x ≤ (9 : Int32)) from g1)]
      rfl
