set_option linter.unusedVariables false
set_option linter.unusedSimpArgs false
set_option maxRecDepth 100000
/-! PLAIN LAW: rung, widest, signed, at, status -/
theorem c_placeG (s : tt_S3) (x : Int32) : fT_placeOf s x = some (if 0 ≤ x then .inl s else .inr (1, rfC s 1)) := by
  unfold fT_placeOf
  rw [c_within, Option.bind_some]
  have h : x ≤ (2147483647 : Int32) := i32_le.mpr (by have := i32_hi x; rw [show (2147483647 : Int32).toInt = 2147483647 from rfl]; omega)
  by_cases g : 0 ≤ x
  · rw [if_pos ⟨g, h⟩, if_pos g]; rfl
  · rw [if_neg (fun z => g z.1), if_neg g]; rfl
theorem i32_nat0 {x : Int32} (h : 0 ≤ x) : ∃ j, j < 2 ^ 31 ∧ x = nI j := nI_of (fun z => by have := i32_le.mp h; have := i32_lt.mp z; omega)
theorem ask_rung {s : tt_S3} {m : tt_St} {a : TS} {c : Nat} (T : TN s m a c) (x y : Int32) : ASKp Int32.toInt64 Int32.toInt64 (fT_rung s x y) (fM_rung m x y) s m k1 := by
  have R := T.thr.R
  unfold fM_rung
  dsimp only [nm]
  rw [m_within, Option.bind_some]
  refine ask_bad (m := m) (Fm := fun r7 => (fM_rungOf r7.2 x y).bind fun r9 => some (r9, r7.2)) ((0 ≤ x ∧ x ≤ nI 11) ∧ 0 ≤ y) (fun g => ?_) (fun g => ?_)
  · have hd := (in32 (n := 11) (by omega)).mp g.1
    obtain ⟨j, j1, rfl⟩ := in_nat hd (by omega)
    obtain ⟨k, k1, rfl⟩ := i32_nat0 g.2
    have hy : j < 12 := by omega
    have h6 := R.O.n6 j hy
    refine ⟨by rw [if_pos (show (0 : Int64) ≤ (nI j).toInt64 ∧ (nI j).toInt64 ≤ (11 : Int64) from hd), if_neg (by decide), if_neg (nI_pos k1)], ?_⟩
    have hc : fT_rung s (nI j) (nI k) = if nI (a.n j) ≤ nI k then some (.inl ((-1 : Int32), s)) else if inB (nI k) 6 then some (.inl (rdI s.1 22 j k, s)) else none := by
      unfold fT_rung
      rw [c_yearOf, c_within, if_pos (show 0 ≤ nI j ∧ nI j ≤ (11 : Int32) from g.1), Option.bind_some]
      dsimp only [orThrow]
      rw [c_placeG, if_pos g.2, Option.bind_some]
      dsimp only
      rw [inB_nI hy (by omega), if_pos rfl, nI_clamp (show j < 2 ^ 31 by omega), nI_clamp k1, R.C.many j hy]
    by_cases hk : k < a.n j
    · refine ⟨nI (a.rg j k), nI (a.rg j k), ?_, ?_, rfl⟩
      · rw [hc, if_neg (nI_ge hk (by omega)), inB_nI (by omega) (by omega), if_pos rfl, R.C.rung j k hy hk]
      · dsimp only
        rw [m_rungOf R.M R.O hy hk]; rfl
    · refine ⟨-1, -1, ?_, ?_, rfl⟩
      · rw [hc, if_pos (nI_le (by omega) k1)]
      · dsimp only
        rw [m_rungOf_none R.M R.O hy (by omega) k1]; rfl
  · by_cases g1 : 0 ≤ x ∧ x ≤ nI 11
    · have g2 : ¬ 0 ≤ y := fun z => g ⟨g1, z⟩
      have hd := (in32 (n := 11) (by omega)).mp g1
      refine ⟨by rw [if_pos (show (0 : Int64) ≤ x.toInt64 ∧ x.toInt64 ≤ (11 : Int64) from hd), if_neg (by decide), if_pos (i32_lt.mpr (by have := mt i32_le.mpr g2; omega))], ?_⟩
      unfold fT_rung
      rw [c_yearOf, c_within, if_pos (show 0 ≤ x ∧ x ≤ (11 : Int32) from g1), Option.bind_some]
      dsimp only [orThrow]
      rw [c_placeG, if_neg g2]
      rfl
    · have hd := fun z => g1 ((in32 (n := 11) (by omega)).mpr z)
      refine ⟨by rw [if_neg (show ¬ ((0 : Int64) ≤ x.toInt64 ∧ x.toInt64 ≤ (11 : Int64)) from hd), if_pos rfl], ?_⟩
      unfold fT_rung
      rw [c_yearOf, c_within, if_neg (show ¬ (0 ≤ x ∧ x ≤ (11 : Int32)) from g1)]
      rfl
/-- two gates of the component, one of the model -/
theorem two_gates {s : tt_S3} {x y : Int32} {A lo hi : Int32} {N : Nat} : ((0 ≤ x ∧ x ≤ nI N) ∧ lo ≤ y ∧ y ≤ hi → True) := fun _ => trivial
theorem ask_widest {s : tt_S3} {m : tt_St} {a : TS} {c : Nat} (T : TN s m a c) (x y : Int32) : ASKp Int32.toInt64 Int32.toInt64 (fT_widest s x y) (fM_widest m x y) s m k1 := by
  have R := T.thr.R
  unfold fM_widest
  dsimp only [nm]
  rw [m_within, m_within, Option.bind_some, Option.bind_some]
  have ht3 : ((if (if (0 : Int64) ≤ x.toInt64 ∧ x.toInt64 ≤ 11 then (1 : Int32) else 0) = 0 then some (0 : Int32) else if (if (0 : Int64) ≤ y.toInt64 ∧ y.toInt64 ≤ 1 then (1 : Int32) else 0) = 0 then some (0 : Int32) else some (1 : Int32)) : Option Int32) = some (if (0 ≤ x ∧ x ≤ nI 11) ∧ 0 ≤ y ∧ y ≤ nI 1 then 1 else 0) := by
    have e1 : ((0 : Int64) ≤ x.toInt64 ∧ x.toInt64 ≤ 11) ↔ (0 ≤ x ∧ x ≤ nI 11) := (in32 (n := 11) (by omega)).symm
    have e2 : ((0 : Int64) ≤ y.toInt64 ∧ y.toInt64 ≤ 1) ↔ (0 ≤ y ∧ y ≤ nI 1) := (in32 (n := 1) (by omega)).symm
    by_cases g1 : 0 ≤ x ∧ x ≤ nI 11
    · rw [if_pos (e1.mpr g1), if_neg (by decide)]
      by_cases g2 : 0 ≤ y ∧ y ≤ nI 1
      · rw [if_pos (e2.mpr g2), if_neg (by decide), if_pos ⟨g1, g2⟩]
      · rw [if_neg (fun z => g2 (e2.mp z)), if_pos rfl, if_neg (fun z => g2 z.2)]
    · rw [if_neg (fun z => g1 (e1.mp z)), if_pos rfl, if_neg (fun z => g1 z.1)]
  rw [ht3, Option.bind_some]
  refine ask_bad (m := m) (Fm := fun r7 => (itr (fM_widest_L51 x r7) tt_fuel ((-1 : Int32), (0 : Int32), (0 : Int32))).bind fun b10 => if y = 0 then some (b10.1, r7.2) else some (b10.2.1, r7.2)) ((0 ≤ x ∧ x ≤ nI 11) ∧ 0 ≤ y ∧ y ≤ nI 1) (fun g => ?_) (fun g => ?_)
  · obtain ⟨j, j1, rfl⟩ := in_nat ((in32 (n := 11) (by omega)).mp g.1) (by omega)
    have hy : j < 12 := by omega
    have h6 := R.O.n6 j hy
    refine ⟨if_pos g, ?_⟩
    have big : ∃ b b', itr (fT_widest_L20 (nI j) s) tt_fuel ((-1 : Int32), (0 : Int32), (0 : Int32)) = some b ∧ itr (fM_widest_L51 (nI j) (1, thr0 m)) tt_fuel ((-1 : Int32), (0 : Int32), (0 : Int32)) = some b' ∧ b = b' := by
      refine itr_two (fun i u v => u = v ∧ u.2.2 = nI i) _ (a.n j) (by omega) (fun i u v hi hP => ?_) (fun u v hP => ?_) ⟨rfl, rfl⟩
      · obtain ⟨u1, u2, u3⟩ := u
        obtain ⟨rfl, h2⟩ := hP
        dsimp only at h2
        subst h2
        have h40 := R.O.rg40 j i hy hi
        have cb : fT_widest_L20 (nI j) s (u1, u2, nI i) = if u2 < nI (a.hole j i) then some (.inl (nI (a.rg j i), nI (a.hole j i), nI (i + 1))) else some (.inl (u1, u2, nI (i + 1))) := by
          unfold fT_widest_L20
          dsimp only [nm]
          rw [inB_nI hy (by omega), if_pos rfl, nI_clamp (show j < 2 ^ 31 by omega), R.C.many j hy, if_neg (nI_ge hi (by omega)), c_holeOf R.C R.O hy hi, Option.bind_some, inB_nI (by omega) (by omega), if_pos rfl, nI_clamp (show i < 2 ^ 31 by omega), R.C.rung j i hy hi, Option.bind_some, nI_1]
        have mb : fM_widest_L51 (nI j) (1, thr0 m) (u1, u2, nI i) = if u2 < nI (a.hole j i) then some (.inl (nI (a.rg j i), nI (a.hole j i), nI (i + 1))) else some (.inl (u1, u2, nI (i + 1))) := by
          unfold fM_widest_L51
          dsimp only
          rw [m_layersOf R.M R.O hy, Option.bind_some, if_neg (nI_ge hi (by omega)), m_rungOf R.M R.O hy hi, Option.bind_some, m_holeOf R.M R.O hy hi, Option.bind_some, Option.bind_some, nI_1]
        rw [cb, mb]
        by_cases q : u2 < nI (a.hole j i)
        · rw [if_pos q]; exact ⟨_, _, rfl, rfl, rfl, rfl⟩
        · rw [if_neg q]; exact ⟨_, _, rfl, rfl, rfl, rfl⟩
      · obtain ⟨u1, u2, u3⟩ := u
        obtain ⟨rfl, h2⟩ := hP
        dsimp only at h2
        subst h2
        refine ⟨(u1, u2, nI (a.n j)), (u1, u2, nI (a.n j)), ?_, ?_, rfl⟩
        · unfold fT_widest_L20
          dsimp only
          rw [inB_nI hy (by omega), if_pos rfl, nI_clamp (show j < 2 ^ 31 by omega), R.C.many j hy, if_pos (nI_le (Nat.le_refl _) (by omega))]
        · unfold fM_widest_L51
          dsimp only
          rw [m_layersOf R.M R.O hy, Option.bind_some, if_pos (nI_le (Nat.le_refl _) (by omega))]
    obtain ⟨b, b', b1, b2, rfl⟩ := big
    refine ⟨if y = 0 then b.1 else b.2.1, if y = 0 then b.1 else b.2.1, ?_, ?_, rfl⟩
    · unfold fT_widest
      rw [c_yearOf, c_within, if_pos (show 0 ≤ nI j ∧ nI j ≤ (11 : Int32) from g.1), Option.bind_some]
      dsimp only [orThrow]
      rw [c_within, if_pos (show 0 ≤ y ∧ y ≤ (1 : Int32) from g.2), Option.bind_some]
      dsimp only
      rw [b1, Option.bind_some]
      by_cases q : y = 0
      · rw [if_pos q, if_pos q]
      · rw [if_neg q, if_neg q]
    · dsimp only
      rw [b2, Option.bind_some]
      by_cases q : y = 0
      · rw [if_pos q, if_pos q]
      · rw [if_neg q, if_neg q]
  · refine ⟨if_neg g, ?_⟩
    unfold fT_widest
    rw [c_yearOf, c_within]
    by_cases g1 : 0 ≤ x ∧ x ≤ nI 11
    · rw [if_pos (show 0 ≤ x ∧ x ≤ (11 : Int32) from g1), Option.bind_some]
      dsimp only [orThrow]
      rw [c_within, if_neg (show ¬ (0 ≤ y ∧ y ≤ (1 : Int32)) from fun z => g ⟨g1, z⟩)]
      rfl
    · rw [if_neg (show ¬ (0 ≤ x ∧ x ≤ (11 : Int32)) from g1)]
      rfl
theorem ask_status {s : tt_S3} {m : tt_St} {a : TS} {c : Nat} (T : TN s m a c) (x : Int32) : ∃ v, fT_status s x = some v ∧ fM_status m x = some (v, thr0 m) := by
  unfold fT_status fM_status
  dsimp only [nm]
  rw [m_within, Option.bind_some]
  by_cases g : 0 ≤ x ∧ x ≤ nI 2
  · have hd := (in32 (n := 2) (by omega)).mp g
    obtain ⟨j, j1, rfl⟩ := in_nat hd (by omega)
    refine ⟨rdI s.2.2 9 0 j, ?_, ?_⟩
    · rw [if_neg (nI_pos (by omega)), if_pos (show nI j ≤ (2 : Int32) from g.2), inB_nI (by omega) (by omega), if_pos rfl, nI_clamp (by omega)]
    · rw [if_pos (show (0 : Int64) ≤ (nI j).toInt64 ∧ (nI j).toInt64 ≤ (2 : Int64) from hd), if_neg (by decide), inB_nI (by omega) (by omega), if_pos rfl, nI_clamp (by omega), T.thr.rf j (by omega)]
      rfl
  · have hd := fun z => g ((in32 (n := 2) (by omega)).mpr z)
    refine ⟨-1, ?_, ?_⟩
    · by_cases h1 : x < 0
      · rw [if_pos h1]
      · rw [if_neg h1, if_neg (show ¬ x ≤ (2 : Int32) from fun z => g ⟨i32_le.mpr (by have := mt i32_lt.mpr h1; omega), z⟩)]
    · rw [if_neg (show ¬ ((0 : Int64) ≤ x.toInt64 ∧ x.toInt64 ≤ (2 : Int64)) from hd), if_pos rfl]
      rfl
