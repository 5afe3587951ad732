set_option linter.unusedVariables false
set_option linter.unusedSimpArgs false
set_option maxRecDepth 100000
/-! PLAIN LAW: asked of a harm, of a layer -/
def borneV (w : tt_St) (h i : Nat) : Int64 := if i = 0 then sumL (rdL w 9 h) 7 else rdL w 8 h i
theorem c_borne {w : tt_St} {h i : Nat} (hi : i < 10) : fB_borne w h (nI i) = some (borneV w h i) := by
  unfold fB_borne borneV
  by_cases e : i = 0
  · have l : itr (fB_borne_L16 w h) tt_fuel ((0 : Int64), (0 : Int32)) = some (sumL (rdL w 9 h) 7, nI 7) := by
      refine itr_run (fun k => (sumL (rdL w 9 h) k, nI k)) 7 _ (by omega) (fun k hk => ?_) ?_
      · unfold fB_borne_L16
        dsimp only [nm]
        rw [L7, if_neg (nI_ge hk (by omega)), inB_nI hk (by omega), if_pos rfl, nI_clamp (by omega), nI_1]
        rfl
      · unfold fB_borne_L16
        rw [L7, if_pos (nI_le (Nat.le_refl _) (by omega))]
    rw [e, if_pos (show nI 0 ≤ 0 by decide), if_pos rfl, l]
    rfl
  · rw [if_neg (nI_nle (by omega) (by omega)), if_neg e, inB_nI hi (by omega), if_pos rfl, nI_clamp (by omega)]
theorem m_insuredOf {t : tt_St} {h : Nat} (hh : h < 25) {G : Nat → Int64} (hG : ∀ r, r < 7 → rdL t 26 0 (7 * h + r) = G r) : fM_insuredOf t (nI h) = some (sumL G 7) := by
  have l : itr (fM_insuredOf_L5 t (nI h)) tt_fuel ((0 : Int64), (0 : Int32)) = some (sumL G 7, nI 7) := by
    refine itr_run (fun k => (sumL G k, nI k)) 7 _ (by omega) (fun k hk => ?_) ?_
    · unfold fM_insuredOf_L5
      dsimp only [nm]
      rw [L7, if_neg (nI_ge hk (by omega)), ix_add, inB_nI (by omega) (by omega), if_pos rfl, nI_clamp (by omega), nI_1, hG k hk]
      rfl
    · unfold fM_insuredOf_L5
      rw [L7, if_pos (nI_le (Nat.le_refl _) (by omega))]
  unfold fM_insuredOf
  rw [l]
  rfl
theorem m_bearsOf {w t : tt_St} {h i : Nat} (hh : h < 25) (hi : i < 10) (fell : ∀ r, r < 7 → rdL t 26 0 (7 * h + r) = rdL w 9 h r) (bore : ∀ i, i < 10 → rdL t 25 0 (10 * h + i) = rdL w 8 h i) : fM_bearsOf t (nI h) (nI i) = some (borneV w h i) := by
  unfold fM_bearsOf borneV
  by_cases e : i = 0
  · rw [e, if_pos (show nI 0 = 0 from rfl), if_pos rfl, m_insuredOf hh fell]
    rfl
  · rw [if_neg (nI_ne0 (by omega) (by omega)), if_neg e, L10, ix_add, inB_nI (by omega) (by omega), if_pos rfl, nI_clamp (by omega), bore i hi]
theorem c_insurerOf (s : tt_S3) (x : Int32) : fT_insurerOf s x = fT_within s x 0 9 := by
  unfold fT_insurerOf
  rw [c_within, Option.bind_some]
  split <;> rfl
theorem c_yearOf (s : tt_S3) (x : Int32) : fT_yearOf s x = fT_within s x 0 11 := by
  unfold fT_yearOf
  rw [c_within, Option.bind_some]
  split <;> rfl
theorem in32 {x : Int32} {n : Nat} (hn : n < 2 ^ 30) : (0 ≤ x ∧ x ≤ nI n) ↔ ((0 : Int64) ≤ x.toInt64 ∧ x.toInt64 ≤ lN n) := by
  rw [i32_le, i32_le, i64_le, i64_le, i64_of32, i64_0, i32_0, nI_toInt (by omega), lN_toInt (by omega)]
theorem ask_harm_within {s : tt_S3} {m : tt_St} {a : TS} {c : Nat} (T : TN s m a c) (x y : Int32) (N : Nat) (hN : N < 2 ^ 30) (Fc : Nat → tt_S3 → Option ((Int64 × tt_S3) ⊕ (Nat × tt_S3))) (Fm : tt_St → Option (Int64 × tt_St))
    (hF : ∀ h j, h < 24 → rdI m 7 0 h = 1 → x = nI h → j ≤ N → y = nI j → ∃ v, Fc h s = some (.inl (v, s)) ∧ Fm (thr0 m) = some (v, thr0 m)) :
    ASKp id id ((fT_harmOf s x).bind fun q_r1 => orThrow q_r1 fun r1 => (fT_within r1.2 y (0 : Int32) (nI N)).bind fun q_r2 => orThrow q_r2 fun r2 => Fc r1.1 r2) ((fM_isHarmOne (thr0 m) x).bind fun r2 => if r2.1 = 0 then some ((0 : Int64), r2.2) else (fM_within y.toInt64 (0 : Int64) (lN N)).bind fun r4 => (fM_needs r2.2 r4 (2 : Int32) (1 : Int32)).bind fun r5 => if r5.1 = 0 then some ((0 : Int64), r5.2) else Fm r5.2) s m k12 := by
  obtain ⟨b1, b2⟩ := m_isHarmOne T x
  rcases c_harmOf T x with ⟨h, h1, h2, h3, h4⟩ | ⟨h1, h2⟩
  · rw [h4, b1 h h1 h2 h3, Option.bind_some, Option.bind_some]
    dsimp only [orThrow]
    rw [c_within, m_within, Option.bind_some, Option.bind_some, if_neg (show ¬ (1 : Int32) = 0 by decide)]
    by_cases hc : 0 ≤ y ∧ y ≤ nI N
    · have hd := (in32 hN).mp hc
      obtain ⟨j, j1, j2⟩ := in_nat hd hN
      obtain ⟨v, v1, v2⟩ := hF h j h1 h2 h3 j1 j2
      left
      refine ⟨v, v, ?_, ?_, rfl⟩
      · rw [if_pos hc]; exact v1
      · rw [if_pos hd, L1, m_needs_t (j := 1) (thr0_0 m) (by decide), Option.bind_some, if_neg (show ¬ (1 : Int32) = 0 by decide)]
        exact v2
    · have hd := fun z => hc ((in32 hN).mpr z)
      right
      refine ⟨1, 0, by omega, by decide, ?_, ?_⟩
      · rw [if_neg hc]
      · rw [if_neg hd, show fM_needs (thr0 m) 0 2 1 = fM_needs (thr0 m) 0 2 (nI 1) from rfl, m_needs_f (thr0_0 m) (by decide) (by omega)]
        rfl
  · right
    refine ⟨0, 0, by omega, by decide, ?_, ?_⟩
    · rw [h2]; rfl
    · rw [b2 h1]; rfl
theorem ask_bears {s : tt_S3} {m : tt_St} {a : TS} {c : Nat} (T : TN s m a c) (x y : Int32) : ASKp id id (fT_bears s x y) (fM_bears m x y) s m k12 := by
  have := ask_harm_within T x y 9 (by omega) (fun h r2 => (fB_borne r2.1 h y).bind fun r3 => some (.inl (r3, r2))) (fun t => (fM_bearsOf t x y).bind fun r7 => some (r7, t)) (fun h j h1 h2 h3 h4 h5 => by
    refine ⟨borneV s.1 h j, ?_, ?_⟩
    · rw [h5, c_borne (by omega)]; rfl
    · rw [h3, h5, m_bearsOf (w := s.1) (by omega) (show j < 10 by omega) (T.thr.R.H h h1).fell (T.thr.R.H h h1).bore]; rfl)
  unfold fT_bears
  simp only [c_insurerOf]
  exact this
theorem ask_falls {s : tt_S3} {m : tt_St} {a : TS} {c : Nat} (T : TN s m a c) (x y : Int32) : ASKp id id (fT_falls s x y) (fM_falls m x y) s m k12 :=
  ask_harm_within T x y 6 (by omega) (fun h r2 => if inB y 7 then some (.inl (rdL r2.1 9 h y.toNatClampNeg, r2)) else none) (fun t => if inB (((7 : Int32) * x) + y) 175 then some (rdL t 26 0 (((7 : Int32) * x) + y).toNatClampNeg, t) else none) (fun h j h1 h2 h3 h4 h5 => by
    refine ⟨rdL s.1 9 h j, ?_, ?_⟩
    · rw [h5, inB_nI (by omega) (by omega), if_pos rfl, nI_clamp (by omega)]
    · rw [h3, h5, L7, ix_add, inB_nI (by omega) (by omega), if_pos rfl, nI_clamp (by omega), thr0_l, (T.R.H h h1).fell j (by omega)])
theorem ask_damage {s : tt_S3} {m : tt_St} {a : TS} {c : Nat} (T : TN s m a c) (x y : Int32) : ASKp id id (fT_damage s x y) (fM_damage m x y) s m k12 :=
  ask_harm_within T x y 5 (by omega) (fun h r2 => if y = 0 then some (.inl ((rdI r2.1 7 h 6).toInt64, r2)) else if y = 1 then some (.inl ((rdI r2.1 7 h 7).toInt64, r2)) else if y = 2 then some (.inl ((rdI r2.1 7 h 8).toInt64, r2)) else if y = 3 then some (.inl (rdL r2.1 7 h 10, r2)) else if y = 4 then (fB_borne r2.1 h (0 : Int32)).bind fun r8 => some (.inl (r8, r2)) else some (.inl ((rdI r2.1 7 h 9).toInt64, r2))) (fun t => if (3 : Int32) ≤ y then if y = (3 : Int32) then if inB x 25 then some (rdL t 20 0 x.toNatClampNeg, t) else none else if y = (4 : Int32) then (fM_insuredOf t x).bind fun r11 => some (r11, t) else if inB x 25 then some ((rdI t 19 0 x.toNatClampNeg).toInt64, t) else none else if y = 0 then if inB x 25 then some ((rdI t 16 0 x.toNatClampNeg).toInt64, t) else none else if y = (1 : Int32) then if inB x 25 then some ((rdI t 17 0 x.toNatClampNeg).toInt64, t) else none else if inB x 25 then some ((rdI t 18 0 x.toNatClampNeg).toInt64, t) else none) (fun h j h1 h2 h3 h4 h5 => by
    have Hh := T.R.H h h1
    have hL := (T.R.L h h1).1
    have d0h : d0 h = 0 := rfl
    rw [d0h, Int64.add_zero] at hL
    obtain ⟨f, l, sh, Y⟩ := Hh.hy h2
    have bx : inB x 25 = true := by rw [h3]; exact inB_nI (by omega) (by omega)
    have cx : x.toNatClampNeg = h := by rw [h3]; exact nI_clamp (by omega)
    rw [bx, cx]
    simp only [if_true]
    rw [thr0_i m (k := 16) (by omega), thr0_i m (k := 17) (by omega), thr0_i m (k := 18) (by omega), thr0_i m (k := 19) (by omega), thr0_l]
    rcases (show j = 0 ∨ j = 1 ∨ j = 2 ∨ j = 3 ∨ j = 4 ∨ j = 5 by omega) with rfl | rfl | rfl | rfl | rfl | rfl
    · subst h5
      exact ⟨_, if_pos rfl, by rw [if_neg (by decide), if_pos (by decide), Y.cf, Y.mf]⟩
    · subst h5
      exact ⟨_, by rw [if_neg (by decide), if_pos (by decide)], by rw [if_neg (by decide), if_neg (by decide), if_pos (by decide), Y.cl, Y.ml]⟩
    · subst h5
      exact ⟨_, by rw [if_neg (by decide), if_neg (by decide), if_pos (by decide)], by rw [if_neg (by decide), if_neg (by decide), if_neg (by decide), Y.cs, Y.ms]⟩
    · subst h5
      exact ⟨_, by rw [if_neg (by decide), if_neg (by decide), if_neg (by decide), if_pos (by decide)], by rw [if_pos (by decide), if_pos (by decide), hL]⟩
    · subst h5
      refine ⟨borneV s.1 h 0, ?_, ?_⟩
      · rw [if_neg (by decide), if_neg (by decide), if_neg (by decide), if_neg (by decide), if_pos (by decide), show fB_borne s.1 h 0 = fB_borne s.1 h (nI 0) from rfl, c_borne (by omega)]; rfl
      · rw [if_pos (by decide), if_neg (by decide), if_pos (by decide), h3, m_insuredOf (G := rdL s.1 9 h) (by omega) (T.thr.R.H h h1).fell]; rfl
    · subst h5
      exact ⟨_, by rw [if_neg (by decide), if_neg (by decide), if_neg (by decide), if_neg (by decide), if_neg (by decide)], by rw [if_pos (by decide), if_neg (by decide), if_neg (by decide), Hh.gr]⟩)
