set_option linter.unusedVariables false
set_option linter.unusedSimpArgs false
set_option maxRecDepth 100000
/-! PLAIN LAW: a world that was only asked -/
/-- written were only what is as if, what flows, what is for the moment -/
theorem RW.asked {w w' t : tt_St} {a : TS} {c : Nat} {δ : Nat → Int64} (R : RW w t a c δ) (iw : ∀ k i j, k < 32 → ¬ (k = 7 ∧ 24 ≤ i) → rdI w' k i j = rdI w k i j) (lw : ∀ k i j, ¬ (24 ≤ i ∧ 7 ≤ k ∧ k ≤ 13) → ¬ (26 ≤ k ∧ k ≤ 32) → rdL w' k i j = rdL w k i j) (q : ∃ n, QW w' n) : RW w' t a c δ := by
  have hC : CS w' a := by
    have C := R.C
    have e := fun k i j (h1 : k < 32) (h2 : ¬ k = 7) => iw k i j h1 (fun z => h2 z.1)
    unfold CS at C ⊢
    simp only [e 0 _ _ (by omega) (by omega), e 2 _ _ (by omega) (by omega), e 3 _ _ (by omega) (by omega), e 4 _ _ (by omega) (by omega), e 22 _ _ (by omega) (by omega), e 23 _ _ (by omega) (by omega), e 24 _ _ (by omega) (by omega)]
    exact C
  refine ⟨hC, R.M, R.O, R.di, fun l hl => ?_, fun l hl => ?_, fun l hl ht => ?_, fun h hh => ?_, fun h hh => ?_, fun l k hl hk => ?_, fun i hi => ?_, ?_, ?_, ?_, q, R.lk, R.s0⟩
  · rw [lw 2 l 9 (by omega) (by omega)]; exact R.used l hl
  · rw [lw 2 l 9 (by omega) (by omega), R.us l hl]
    exact sumZ_congr (fun i hi => by rw [lw 10 i l (by omega) (by omega)])
  · rw [lw 2 l 9 (by omega) (by omega)]; exact R.ub l hl ht
  · exact (R.H h hh).ext (fun k j z1 z2 => lw k h j (by omega) (by omega)) (fun j => iw 7 h j (by omega) (by omega)) (fun _ _ _ => rfl) (fun _ _ => rfl) (fun _ _ => rfl)
  · rw [lw 7 h 10 (by omega) (by omega)]; exact R.L h hh
  · rw [lw 5 l k (by omega) (by omega), R.hs l k hl hk]
    exact sumL_congr (fun i hi => by rw [lw 13 i _ (by omega) (by omega)])
  · rw [lw 25 0 i (by omega) (by omega)]; exact R.cash i hi
  · rw [iw 0 0 23 (by omega) (by omega)]; exact R.fx
  · rw [iw 0 0 21 (by omega) (by omega)]; exact R.pl
  · rw [iw 0 0 22 (by omega) (by omega)]; exact R.hm
theorem TN.asked {s : tt_S3} {m : tt_St} {a : TS} {c : Nat} (T : TN s m a c) {w' : tt_St} (iw : ∀ k i j, k < 32 → ¬ (k = 7 ∧ 24 ≤ i) → rdI w' k i j = rdI s.1 k i j) (lw : ∀ k i j, ¬ (24 ≤ i ∧ 7 ≤ k ∧ k ≤ 13) → ¬ (26 ≤ k ∧ k ≤ 32) → rdL w' k i j = rdL s.1 k i j) (q : ∃ n, QW w' n) : TN (w', s.2) m a c := by
  refine ⟨T.R.asked iw lw q, ?_, ?_, T.rf, T.mn⟩
  · obtain ⟨p, p1, p2, p3⟩ := T.P
    exact ⟨p, p1, (iw 0 0 21 (by omega) (by omega)).trans p2, p3⟩
  · obtain ⟨p, p1, p2, p3⟩ := T.H
    exact ⟨p, p1, (iw 0 0 22 (by omega) (by omega)).trans p2, p3⟩
/-- a harm as if -/
theorem c_asIf {s : tt_S3} (x y z : Int32) : ∃ w', fT_asIfBy s x y z = some (24, (w', s.2)) ∧ (∀ k i j, ¬ (k = 7 ∧ i = 24) → rdI w' k i j = rdI s.1 k i j) ∧ (∀ k i j, ¬ (i = 24 ∧ 7 ≤ k ∧ k ≤ 13) → rdL w' k i j = rdL s.1 k i j) ∧ w'.2.2 = s.1.2.2 ∧ rdI w' 7 24 6 = x ∧ rdI w' 7 24 7 = y ∧ rdI w' 7 24 8 = z ∧ (∀ j, j < 10 → rdL w' 8 24 j = 0) ∧ (∀ j, j < 7 → rdL w' 9 24 j = 0) ∧ (∀ j, j < 40 → rdL w' 10 24 j = 0) ∧ (∀ j, j < 40 → rdL w' 11 24 j = 0) ∧ (∀ j, j < 40 → rdL w' 12 24 j = 0) ∧ (∀ j, j < 160 → rdL w' 13 24 j = 0) := by
  obtain ⟨v, g1, g2⟩ := c_begins (w := s.1) 24
  generalize hw' : wrI (wrI (wrI (wrI (wrL (wrI v 7 24 11 0) 7 24 10 0) 7 24 9 0) 7 24 6 x) 7 24 7 y) 7 24 8 z = w'
  have lw : ∀ k i j, ¬ (k = 7 ∧ i = 24 ∧ j = 10) → rdL w' k i j = rdL v k i j := fun k i j q => by rw [← hw']; show rdL (wrL (wrI v 7 24 11 0) 7 24 10 0) k i j = _; rw [rdL_wrL, if_neg q]; rfl
  refine ⟨w', ?_, fun k i j q => ?_, fun k i j q => ?_, ?_, ?_, ?_, ?_, fun j hj => ?_, fun j hj => ?_, fun j hj => ?_, fun j hj => ?_, fun j hj => ?_, fun j hj => ?_⟩
  · unfold fT_asIfBy fH_begins fH_goesOn
    dsimp only [nm]
    rw [g1, Option.bind_some, Option.bind_some, Option.bind_some, hw']
  · rw [← hw', rdI_wrI, if_neg (by omega), rdI_wrI, if_neg (by omega), rdI_wrI, if_neg (by omega), rdI_wrI, if_neg (by omega), rdI_wrL, rdI_wrI, if_neg (by omega), rdI_1 g2.i]
  · rw [lw k i j (by omega), g2.l k i j (by omega)]
  · rw [← hw']; exact g2.r
  · rw [← hw', rdI_wrI, if_neg (by omega), rdI_wrI, if_neg (by omega), rdI_wrI, if_pos ⟨rfl, rfl, rfl⟩]
  · rw [← hw', rdI_wrI, if_neg (by omega), rdI_wrI, if_pos ⟨rfl, rfl, rfl⟩]
  · rw [← hw', rdI_wrI, if_pos ⟨rfl, rfl, rfl⟩]
  · rw [lw 8 24 j (by omega)]; exact g2.z8 j hj
  · rw [lw 9 24 j (by omega)]; exact g2.z9 j hj
  · rw [lw 10 24 j (by omega)]; exact g2.z10 j hj
  · rw [lw 11 24 j (by omega)]; exact g2.z11 j hj
  · rw [lw 12 24 j (by omega)]; exact g2.z12 j hj
  · rw [lw 13 24 j (by omega)]; exact g2.z13 j hj
