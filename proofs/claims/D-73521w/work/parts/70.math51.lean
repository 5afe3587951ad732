set_option linter.unusedVariables false
set_option linter.unusedSimpArgs false
set_option maxRecDepth 100000
/-! PLAIN LAW: a harm that is only thought of, both sides -/
theorem think_rel {s : tt_S3} {m : tt_St} {a : TS} {c : Nat} (R : RW s.1 m a c d0) {f l sh : Nat} (h1 : f ≤ l) (h2 : l ≤ sh) (h3 : sh < 12) :
    ∃ w' t', fT_asIfBy s (nI f) (nI l) (nI sh) = some (24, (w', s.2)) ∧ fM_thinks m (nI f) (nI l) (nI sh) = some t' ∧ HY w' t' 24 f l sh ∧ RB w' t' a 24 ∧ CS w' a ∧ MS t' a ∧ (∃ n, QW w' n) ∧ (∀ i, i < 10 → rdL t' 25 0 (10 * 24 + i) = rdL w' 8 24 i) ∧ (∀ l, l < 40 → rdL t' 23 0 (40 * 24 + l) = rdL w' 12 24 l) ∧ (∀ k i j, ¬ (k = 7 ∧ i = 24) → rdI w' k i j = rdI s.1 k i j) ∧ (∀ k i j, ¬ (i = 24 ∧ 7 ≤ k ∧ k ≤ 13) → rdL w' k i j = rdL s.1 k i j) ∧ (∀ k i j, ¬ ((k = 16 ∨ k = 17 ∨ k = 18) ∧ j = 24) → ¬ (k = 24 ∧ j / 160 = 24) → rdI t' k i j = rdI m k i j) := by
  obtain ⟨w', a1, a2, a3, a4, a5, a6, a7, a8, a9, a10, a11, a12, a13⟩ := c_asIf (s := s) (nI f) (nI l) (nI sh)
  obtain ⟨t', b1, b2, b3, b4, b5, b6, b7, b8⟩ := m_thinks (t := m) (nI f) (nI l) (nI sh)
  have O := R.O
  refine ⟨w', t', a1, b1, ⟨a5, a6, a7, b4, b5, b6, h1, h2, h3⟩, ⟨fun x hx => ?_, fun x hx => ?_, fun x hx => ?_, fun r hr => ?_, fun x hx ht => ?_, fun y k hy hk => ?_⟩, ?_, ?_, ?_, fun i hi => ?_, fun x hx => ?_, a2, a3, b3⟩
  · rw [b7 21 _ (by omega), a10 x hx]
  · rw [b8 15 x (by omega), a3 2 x 9 (by omega)]; exact R.used x hx
  · rw [b7 22 _ (by omega), a11 x hx]
  · rw [b7 26 _ (by omega), a9 r hr]
  · rw [a10 x hx, a3 2 x 9 (by omega), i64_0]
    refine ⟨by omega, by omega, ?_, R.ub x hx ht⟩
    rw [R.us x hx]
    exact sumZ_nonneg (fun i hi => ((R.H i hi).tb x hx).1)
  · rw [a11 _ (O.rg40 y k hy hk), i64_0]; omega
  · have C := R.C
    have e := fun k i j (z : ¬ k = 7) => a2 k i j (fun q => z q.1)
    unfold CS at C ⊢
    simp only [e 0 _ _ (by omega), e 2 _ _ (by omega), e 3 _ _ (by omega), e 4 _ _ (by omega), e 22 _ _ (by omega), e 23 _ _ (by omega), e 24 _ _ (by omega)]
    exact C
  · have M := R.M
    have e := fun k i j (z1 : ¬ (k = 16 ∨ k = 17 ∨ k = 18)) (z2 : ¬ k = 24) => b3 k i j (fun q => z1 q.1) (fun q => z2 q.1)
    unfold MS at M ⊢
    simp only [e 0 _ _ (by omega) (by omega), e 6 _ _ (by omega) (by omega), e 8 _ _ (by omega) (by omega), e 9 _ _ (by omega) (by omega), e 10 _ _ (by omega) (by omega), e 11 _ _ (by omega) (by omega), e 12 _ _ (by omega) (by omega), e 13 _ _ (by omega) (by omega), e 14 _ _ (by omega) (by omega), e 27 _ _ (by omega) (by omega), e 33 _ _ (by omega) (by omega), e 34 _ _ (by omega) (by omega), e 35 _ _ (by omega) (by omega)]
    exact M
  · obtain ⟨n, Q⟩ := R.q
    exact ⟨n, Q.ext (a2 34 0 1 (by omega)) (fun i => by unfold rdR; rw [a4])⟩
  · rw [b7 25 _ (by omega), a8 i hi]
  · rw [b7 23 _ (by omega), a12 x hx]
/-- such a loss flows alike -/
theorem think_flows {s : tt_S3} {m : tt_St} {a : TS} {c : Nat} (R : RW s.1 m a c d0) {f l sh : Nat} (h1 : f ≤ l) (h2 : l ≤ sh) (h3 : sh < 12) {A : Int64} (hA : 0 ≤ A.toInt) (hA2 : A.toInt < 2 ^ 60) :
    ∃ w1 t1 w' t', fT_asIfBy s (nI f) (nI l) (nI sh) = some (24, (w1, s.2)) ∧ fM_thinks m (nI f) (nI l) (nI sh) = some t1 ∧ fW_flows w1 24 A = some (26, w') ∧ fM_spreads t1 (nI 24) A = some t' ∧ RFF w' t' t1 a 24 ∧ GC2 26 w1 w' ∧ GM2 24 t1 t' ∧ (∀ k i j, ¬ (k = 7 ∧ i = 24) → rdI w1 k i j = rdI s.1 k i j) ∧ (∀ k i j, ¬ (i = 24 ∧ 7 ≤ k ∧ k ≤ 13) → rdL w1 k i j = rdL s.1 k i j) ∧ (∃ n, QW w' n) ∧ (∀ k i j, ¬ ((k = 16 ∨ k = 17 ∨ k = 18) ∧ j = 24) → ¬ (k = 24 ∧ j / 160 = 24) → rdI t1 k i j = rdI m k i j) := by
  obtain ⟨w1, t1, g1, g2, g3, g4, g5, g6, g7, g8, g9, g10, g11, g12⟩ := think_rel R h1 h2 h3
  obtain ⟨w', t', f1, f2, f3, f4, f5⟩ := flows_rel g5 g6 R.O g4 (by omega) g3 g8 g9 g7 hA hA2
  exact ⟨w1, t1, w', t', g1, g2, f1, f2, f3, f4, f5, g10, g11, f4.q g7, g12⟩
