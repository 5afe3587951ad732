set_option linter.unusedVariables false
set_option linter.unusedSimpArgs false
set_option maxRecDepth 100000
/-! PLAIN LAW: asked of a layer, of a year -/
theorem ask_layer_within {s : tt_S3} {m : tt_St} {a : TS} {c : Nat} (T : TN s m a c) (x y : Int32) (N : Nat) (hN : N < 2 ^ 30) (Fc : Nat → tt_S3 → Option ((Int64 × tt_S3) ⊕ (Nat × tt_S3))) (Fm : tt_St → Option (Int64 × tt_St))
    (hF : ∀ l j, l < 40 → a.there l = true → x = nI l → j ≤ N → y = nI j → ∃ v, Fc l s = some (.inl (v, s)) ∧ Fm (thr0 m) = some (v, thr0 m)) :
    ASKp id id ((fT_layerOf s x).bind fun q_r1 => orThrow q_r1 fun r1 => (fT_within r1.2 y (0 : Int32) (nI N)).bind fun q_r2 => orThrow q_r2 fun r2 => Fc r1.1 r2) ((fM_isOne (thr0 m) x (1 : Int32)).bind fun r2 => if r2.1 = 0 then some ((0 : Int64), r2.2) else (fM_within y.toInt64 (0 : Int64) (lN N)).bind fun r4 => (fM_needs r2.2 r4 (2 : Int32) (1 : Int32)).bind fun r5 => if r5.1 = 0 then some ((0 : Int64), r5.2) else Fm r5.2) s m k12 := by
  obtain ⟨b1, b2⟩ := m_isOne T x
  rcases c_layerOf T x with ⟨h, h1, h2, h3, h4⟩ | ⟨h1, h2⟩
  · rw [h4, b1 h h1 h2 h3, Option.bind_some, Option.bind_some]
    dsimp only [orThrow]
    rw [c_within, m_within, Option.bind_some, Option.bind_some, if_neg (show ¬ (1 : Int32) = 0 by decide)]
    by_cases hc : 0 ≤ y ∧ y ≤ nI N
    · have hd := (in32 hN).mp hc
      obtain ⟨j, j1, j2⟩ := in_nat hd hN
      obtain ⟨v, v1, v2⟩ := hF h j h1 h2 h3 j1 j2
      left
      refine ⟨v, v, ?_, ?_, rfl⟩
      · rw [if_pos hc]; exact v1
      · rw [if_pos hd, L1, m_needs_t (j := 1) (thr0_0 m) (by decide), Option.bind_some, if_neg (show ¬ (1 : Int32) = 0 by decide)]
        exact v2
    · have hd := fun z => hc ((in32 hN).mpr z)
      right
      refine ⟨1, 0, by omega, by decide, ?_, ?_⟩
      · rw [if_neg hc]
      · rw [if_neg hd, show fM_needs (thr0 m) 0 2 1 = fM_needs (thr0 m) 0 2 (nI 1) from rfl, m_needs_f (thr0_0 m) (by decide) (by omega)]
        rfl
  · right
    refine ⟨0, 0, by omega, by decide, ?_, ?_⟩
    · rw [h2]; rfl
    · rw [b2 h1]; rfl
theorem c_placeOf {w : tt_St} {a : TS} (C : CS w a) (O : a.Ok) {l k : Nat} (hl : l < 40) (ht : a.there l = true) (hk : k < a.n (a.yr l)) (e : a.rg (a.yr l) k = l) : fW_placeOf w l = some (nI k) := by
  have hy := (O.all l hl ht).1
  have h6 := O.n6 _ hy
  have h : itr (fW_placeOf_L2 w l) tt_fuel (0 : Int32) = some (nI k) := by
    refine itr_run (fun i => nI i) k _ (by omega) (fun i hi => ?_) ?_
    · have h40 := O.rg40 _ i hy (by omega)
      unfold fW_placeOf_L2
      rw [C.yr l hl ht, inB_nI hy (by omega), if_pos rfl, inB_nI (by omega) (by omega), if_pos rfl, nI_clamp (by omega), nI_clamp (by omega), C.rung _ i hy (by omega), if_neg (fun z => by
        rw [nI_eq (by omega) (by omega)] at z
        have := rg_inj O hy (by omega) hk (z.trans e.symm)
        omega), nI_1]
    · unfold fW_placeOf_L2
      rw [C.yr l hl ht, inB_nI hy (by omega), if_pos rfl, inB_nI (by omega) (by omega), if_pos rfl, nI_clamp (by omega), nI_clamp (by omega), C.rung _ k hy hk, if_pos (by rw [e])]
  unfold fW_placeOf
  rw [h]
  rfl
theorem m_rungAt {t : tt_St} {a : TS} (M : MS t a) (O : a.Ok) {l k : Nat} (hl : l < 40) (ht : a.there l = true) (hk : k < a.n (a.yr l)) (e : a.rg (a.yr l) k = l) : fM_rungAt t (nI l) = some (nI k) := by
  have hy := (O.all l hl ht).1
  have h6 := O.n6 _ hy
  have h : itr (fM_rungAt_L2 t (nI l)) tt_fuel (0 : Int32) = some (nI k) := by
    refine itr_run (fun i => nI i) k _ (by omega) (fun i hi => ?_) ?_
    · have h40 := O.rg40 _ i hy (by omega)
      unfold fM_rungAt_L2
      rw [inB_nI hl (by omega), if_pos rfl, nI_clamp (by omega), M.yr l hl ht, m_rungOf M O hy (by omega), Option.bind_some, if_neg (fun z => by
        rw [nI_eq (by omega) (by omega)] at z
        have := rg_inj O hy (by omega) hk (z.trans e.symm)
        omega), nI_1]
    · unfold fM_rungAt_L2
      rw [inB_nI hl (by omega), if_pos rfl, nI_clamp (by omega), M.yr l hl ht, m_rungOf M O hy hk, Option.bind_some, if_pos (by rw [e])]
  unfold fM_rungAt
  rw [h]
  rfl
theorem ask_layer {s : tt_S3} {m : tt_St} {a : TS} {c : Nat} (T : TN s m a c) (x y : Int32) : ASKp id id (fT_layer s x y) (fM_layer m x y) s m k12 :=
  ask_layer_within T x y 10 (by omega) (fun l r2 => if y = 0 then some (.inl ((rdI r2.1 2 l 4).toInt64, r2)) else if y = 1 then some (.inl ((rdI r2.1 2 l 5).toInt64, r2)) else if y = 2 then some (.inl ((rdI r2.1 2 l 6).toInt64, r2)) else if y = 3 then some (.inl ((rdI r2.1 2 l 7).toInt64, r2)) else if y = 4 then some (.inl (rdL r2.1 2 l 9, r2)) else if y = 5 then (fY_left r2.1 l).bind fun r9 => some (.inl (r9, r2)) else if y = 6 then (fW_placeOf r2.1 l).bind fun r11 => (fW_holeOf r2.1 (rdI r2.1 2 l 4) r11).bind fun r12 => some (.inl (r12.toInt64, r2)) else if y = 7 then some (.inl ((rdI r2.1 2 l 8).toInt64, r2)) else if y = 8 then (fY_allTenths r2.1 l).bind fun r15 => some (.inl (((10 : Int32) - r15).toInt64, r2)) else if y = 9 then (fW_placeOf r2.1 l).bind fun r17 => some (.inl (r17.toInt64, r2)) else (fY_left r2.1 l).bind fun r18 => if r18 = (0 : Int64) then some (.inl ((1 : Int64), r2)) else some (.inl ((0 : Int64), r2)))
    (fun t => if (4 : Int32) ≤ y then if (7 : Int32) ≤ y then if y = (7 : Int32) then if inB x 40 then some ((rdI t 12 0 x.toNatClampNeg).toInt64, t) else none else if y = (8 : Int32) then (fM_signedTenths t x).bind fun r15 => some (((10 : Int32) - r15).toInt64, t) else if y = (9 : Int32) then (fM_rungAt t x).bind fun r14 => some (r14.toInt64, t) else (fM_left t x).bind fun r12 => if r12 = (0 : Int64) then some ((1 : Int64), t) else some ((0 : Int64), t) else if y = (4 : Int32) then if inB x 40 then some (rdL t 15 0 x.toNatClampNeg, t) else none else if y = (5 : Int32) then (fM_left t x).bind fun r20 => some (r20, t) else (fM_holeOf t x).bind fun r19 => some (r19.toInt64, t) else if y = 0 then if inB x 40 then some ((rdI t 8 0 x.toNatClampNeg).toInt64, t) else none else if y = (1 : Int32) then if inB x 40 then some ((rdI t 9 0 x.toNatClampNeg).toInt64, t) else none else if y = (2 : Int32) then if inB x 40 then some ((rdI t 10 0 x.toNatClampNeg).toInt64, t) else none else if inB x 40 then some ((rdI t 11 0 x.toNatClampNeg).toInt64, t) else none) (fun l j hl ht h3 h4 h5 => by
    have R := T.thr.R
    have C := R.C
    have M := R.M
    have O := R.O
    obtain ⟨hy, k, hk, ek⟩ := O.all l hl ht
    have bx : inB x 40 = true := by rw [h3]; exact inB_nI hl (by omega)
    have cx : x.toNatClampNeg = l := by rw [h3]; exact nI_clamp (by omega)
    rw [bx, cx]
    simp only [if_true]
    rw [C.yr l hl ht, C.fr l hl ht, C.sz l hl ht, C.tm l hl ht, C.sg l hl, M.yr l hl ht, M.fr l hl ht, M.sz l hl ht, M.tm l hl ht, M.sg l hl, R.used l hl, c_left C O hl ht, h3, m_left M O hl ht, R.used l hl, c_placeOf C O hl ht hk ek, m_rungAt M O hl ht hk ek, c_allTenths C O hl, m_signedTenths M O hl]
    simp only [Option.bind_some]
    rw [c_holeOf C O hy hk]
    have mh : fM_holeOf (thr0 m) (nI l) = some (nI (a.hole (a.yr l) k)) := by
      have := m_holeOf M O hy hk
      rw [ek] at this
      exact this
    rw [mh]
    simp only [Option.bind_some]
    rcases (show j = 0 ∨ j = 1 ∨ j = 2 ∨ j = 3 ∨ j = 4 ∨ j = 5 ∨ j = 6 ∨ j = 7 ∨ j = 8 ∨ j = 9 ∨ j = 10 by omega) with rfl | rfl | rfl | rfl | rfl | rfl | rfl | rfl | rfl | rfl | rfl
    · subst h5
      exact ⟨_, if_pos rfl, by rw [if_neg (by decide), if_pos (by decide)]⟩
    · subst h5
      exact ⟨_, by rw [if_neg (by decide), if_pos (by decide)], by rw [if_neg (by decide), if_neg (by decide), if_pos (by decide)]⟩
    · subst h5
      exact ⟨_, by rw [if_neg (by decide), if_neg (by decide), if_pos (by decide)], by rw [if_neg (by decide), if_neg (by decide), if_neg (by decide), if_pos (by decide)]⟩
    · subst h5
      exact ⟨_, by rw [if_neg (by decide), if_neg (by decide), if_neg (by decide), if_pos (by decide)], by rw [if_neg (by decide), if_neg (by decide), if_neg (by decide), if_neg (by decide)]⟩
    · subst h5
      exact ⟨_, by rw [if_neg (by decide), if_neg (by decide), if_neg (by decide), if_neg (by decide), if_pos (by decide)], by rw [if_pos (by decide), if_neg (by decide), if_pos (by decide)]⟩
    · subst h5
      exact ⟨_, by rw [if_neg (by decide), if_neg (by decide), if_neg (by decide), if_neg (by decide), if_neg (by decide), if_pos (by decide)], by rw [if_pos (by decide), if_neg (by decide), if_neg (by decide), if_pos (by decide)]⟩
    · subst h5
      exact ⟨_, by rw [if_neg (by decide), if_neg (by decide), if_neg (by decide), if_neg (by decide), if_neg (by decide), if_neg (by decide), if_pos (by decide)], by rw [if_pos (by decide), if_neg (by decide), if_neg (by decide), if_neg (by decide)]⟩
    · subst h5
      exact ⟨_, by rw [if_neg (by decide), if_neg (by decide), if_neg (by decide), if_neg (by decide), if_neg (by decide), if_neg (by decide), if_neg (by decide), if_pos (by decide)], by rw [if_pos (by decide), if_pos (by decide), if_pos (by decide)]⟩
    · subst h5
      exact ⟨_, by rw [if_neg (by decide), if_neg (by decide), if_neg (by decide), if_neg (by decide), if_neg (by decide), if_neg (by decide), if_neg (by decide), if_neg (by decide), if_pos (by decide)], by rw [if_pos (by decide), if_pos (by decide), if_neg (by decide), if_pos (by decide)]⟩
    · subst h5
      exact ⟨_, by rw [if_neg (by decide), if_neg (by decide), if_neg (by decide), if_neg (by decide), if_neg (by decide), if_neg (by decide), if_neg (by decide), if_neg (by decide), if_neg (by decide), if_pos (by decide)], by rw [if_pos (by decide), if_pos (by decide), if_neg (by decide), if_neg (by decide), if_pos (by decide)]⟩
    · subst h5
      by_cases z : (nI (a.sz l)).toInt64 * (nI (a.tm l)).toInt64 - rdL s.1 2 l 9 = 0
      · rw [z]
        exact ⟨1, by rw [if_neg (by decide), if_neg (by decide), if_neg (by decide), if_neg (by decide), if_neg (by decide), if_neg (by decide), if_neg (by decide), if_neg (by decide), if_neg (by decide), if_neg (by decide), if_pos rfl], by rw [if_pos (by decide), if_pos (by decide), if_neg (by decide), if_neg (by decide), if_neg (by decide), if_pos rfl]⟩
      · exact ⟨0, by rw [if_neg (by decide), if_neg (by decide), if_neg (by decide), if_neg (by decide), if_neg (by decide), if_neg (by decide), if_neg (by decide), if_neg (by decide), if_neg (by decide), if_neg (by decide), if_neg z], by rw [if_pos (by decide), if_pos (by decide), if_neg (by decide), if_neg (by decide), if_neg (by decide), if_neg z]⟩)
/-- one gate, all of it bad -/
theorem ask_bad {α β : Type} {vt : α → Int64} {wt : β → Int64} {cres : Option ((α × tt_S3) ⊕ (Nat × tt_S3))} {s : tt_S3} {m : tt_St} {t3 : Int32} {z : β} {Fm : Int32 × tt_St → Option (β × tt_St)} (good : Prop) (hG : good → t3 = 1 ∧ ∃ v v', cres = some (.inl (v, s)) ∧ Fm (1, thr0 m) = some (v', thr0 m) ∧ vt v = wt v') (hB : ¬ good → t3 = 0 ∧ cres = some (.inr (1, rfC s 1))) :
    ASKp vt wt cres ((fM_needs (thr0 m) t3 (1 : Int32) (1 : Int32)).bind fun r7 => if r7.1 = 0 then some (z, r7.2) else Fm r7) s m k1 := by
  by_cases g : good
  · obtain ⟨rfl, v, v', v1, v2, v3⟩ := hG g
    left
    refine ⟨v, v', v1, ?_, v3⟩
    rw [show fM_needs (thr0 m) 1 1 1 = fM_needs (thr0 m) 1 1 (nI 1) from rfl, m_needs_t (thr0_0 m) (by decide), Option.bind_some, if_neg (show ¬ (1 : Int32) = 0 by decide)]
    exact v2
  · obtain ⟨rfl, c1⟩ := hB g
    right
    refine ⟨1, z, by omega, by decide, c1, ?_⟩
    rw [show fM_needs (thr0 m) 0 1 1 = fM_needs (thr0 m) 0 1 (nI 1) from rfl, m_needs_f (thr0_0 m) (by decide) (by omega)]
    rfl
theorem ask_burden {s : tt_S3} {m : tt_St} {a : TS} {c : Nat} (T : TN s m a c) (x : Int32) : ASKp id id (fT_burden s x) (fM_burden m x) s m k1 := by
  have R := T.thr.R
  unfold fM_burden
  dsimp only [nm]
  rw [m_within, Option.bind_some]
  refine ask_bad (m := m) (Fm := fun r3 => (itr (fM_burden_L30 x r3) tt_fuel ((0 : Int64), (0 : Int32))).bind fun b6 => some (b6.1, r3.2)) (0 ≤ x ∧ x ≤ nI 6) (fun g => ?_) (fun g => ?_)
  · have hd := (in32 (n := 6) (by omega)).mp g
    obtain ⟨j, j1, rfl⟩ := in_nat hd (by omega)
    obtain ⟨q, q1, q2, q3⟩ := T.thr.H
    have h0 : ∀ h, h < 24 → ¬ h < q → rdL s.1 9 h j = 0 := fun h hh hn => by
      have : rdI (thr0 m) 7 0 h = 0 := by
        rcases (R.H h hh).i01 with z | z
        · exact z
        · exact absurd ((q3 h hh).mp z) hn
      exact ((R.H h hh).z this).2.2.1 j (by omega)
    have lc : itr (fT_burden_L13 (nI j) s) tt_fuel ((0 : Int64), (0 : Int32)) = some (sumL (fun h => rdL s.1 9 h j) q, nI q) := by
      refine itr_run (fun k => (sumL (fun h => rdL s.1 9 h j) k, nI k)) q _ (by omega) (fun k hk => ?_) ?_
      · unfold fT_burden_L13
        dsimp only [nm]
        rw [q2, if_neg (nI_ge hk (by omega)), inB_nI (by omega) (by omega), if_pos rfl, inB_nI (by omega) (by omega), if_pos rfl, nI_clamp (by omega), nI_clamp (by omega), nI_1]
        rfl
      · unfold fT_burden_L13
        rw [q2, if_pos (nI_le (Nat.le_refl _) (by omega))]
    have lm : itr (fM_burden_L30 (nI j) (1, thr0 m)) tt_fuel ((0 : Int64), (0 : Int32)) = some (sumL (fun h => if h < q then rdL s.1 9 h j else 0) 24, nI 24) := by
      refine itr_run (fun k => (sumL (fun h => if h < q then rdL s.1 9 h j else 0) k, nI k)) 24 _ (by omega) (fun k hk => ?_) ?_
      · unfold fM_burden_L30
        dsimp only [nm]
        rw [show (24 : Int32) = nI 24 from rfl, if_neg (nI_ge hk (by omega)), inB_nI (by omega) (by omega), if_pos rfl, nI_clamp (show k < 2 ^ 31 by omega), L7, ix_add, inB_nI (by omega) (by omega), if_pos rfl, nI_clamp (show 7 * k + j < 2 ^ 31 by omega), nI_1, (R.H k hk).fell j (by omega)]
        have e : sumL (fun h => if h < q then rdL s.1 9 h j else 0) (k + 1) = sumL (fun h => if h < q then rdL s.1 9 h j else 0) k + (if k < q then rdL s.1 9 k j else 0) := rfl
        rw [e]
        by_cases g2 : k < q
        · rw [if_neg (by rw [(q3 k hk).mpr g2]; decide), if_pos g2]
        · have : rdI (thr0 m) 7 0 k = 0 := by
            rcases (R.H k hk).i01 with z | z
            · exact z
            · exact absurd ((q3 k hk).mp z) g2
          rw [if_pos this, if_neg g2]
      · unfold fM_burden_L30
        rw [show (24 : Int32) = nI 24 from rfl, if_pos (nI_le (Nat.le_refl _) (by omega))]
    have es : ∀ n, n ≤ 24 → sumL (fun h => if h < q then rdL s.1 9 h j else 0) n = sumL (fun h => rdL s.1 9 h j) (if n ≤ q then n else q) := by
      intro n
      induction n with
      | zero => intro _; rfl
      | succ n ih =>
        intro hn
        have e : sumL (fun h => if h < q then rdL s.1 9 h j else 0) (n + 1) = sumL (fun h => if h < q then rdL s.1 9 h j else 0) n + (if n < q then rdL s.1 9 n j else 0) := rfl
        rw [e, ih (by omega)]
        by_cases g2 : n < q
        · rw [if_pos g2, if_pos (by omega), if_pos (by omega)]; rfl
        · rw [if_neg g2, Int64.add_zero, if_neg (show ¬ n + 1 ≤ q by omega)]
          by_cases g3 : n ≤ q
          · rw [if_pos g3, show n = q by omega]
          · rw [if_neg g3]
    refine ⟨if_pos hd, sumL (fun h => rdL s.1 9 h j) q, sumL (fun h => if h < q then rdL s.1 9 h j else 0) 24, ?_, ?_, ?_⟩
    · unfold fT_burden
      rw [c_within, if_pos (show 0 ≤ nI j ∧ nI j ≤ (6 : Int32) from g), Option.bind_some]
      dsimp only [orThrow]
      rw [lc]
      rfl
    · dsimp only
      rw [lm]
      rfl
    · show sumL (fun h => rdL s.1 9 h j) q = sumL (fun h => if h < q then rdL s.1 9 h j else 0) 24
      rw [es 24 (by omega)]
      by_cases g3 : 24 ≤ q
      · rw [if_pos g3, show q = 24 by omega]
      · rw [if_neg g3]
  · have hd := fun z => g ((in32 (n := 6) (by omega)).mpr z)
    refine ⟨if_neg hd, ?_⟩
    unfold fT_burden
    rw [c_within, if_neg (show ¬ (0 ≤ x ∧ x ≤ (6 : Int32)) from g)]
    rfl
