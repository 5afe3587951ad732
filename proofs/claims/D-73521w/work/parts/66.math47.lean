set_option linter.unusedVariables false
set_option linter.unusedSimpArgs false
set_option maxRecDepth 100000
/-! PLAIN LAW: gone over by told rules -/
theorem m_bearsAllH {w t : tt_St} {a : TS} (H : ∀ h, h < 24 → RH w t a h) {i : Nat} (hi : i < 10) : fM_bearsAll t (nI i) = some (allV w i) := by
  have l : itr (fM_bearsAll_L5 t (nI i)) tt_fuel ((0 : Int64), (0 : Int32)) = some (sumL (fun h => borneV w h i) 24, nI 24) := by
    refine itr_run (fun k => (sumL (fun h => borneV w h i) k, nI k)) 24 _ (by omega) (fun k hk => ?_) ?_
    · have H := H k hk
      have e : sumL (fun h => borneV w h i) (k + 1) = sumL (fun h => borneV w h i) k + borneV w k i := rfl
      unfold fM_bearsAll_L5
      dsimp only [nm]
      rw [show (24 : Int32) = nI 24 from rfl, if_neg (nI_ge hk (by omega)), inB_nI (show k < 25 by omega) (by omega), if_pos rfl, nI_clamp (by omega), m_bearsOf (w := w) (by omega) hi H.fell H.bore, Option.bind_some, nI_1, e]
      rcases H.i01 with z | z
      · have zz := H.z z
        have : borneV w k i = 0 := by
          unfold borneV
          by_cases g : i = 0
          · rw [if_pos g]; exact sumL_zero (fun r hr => zz.2.2.1 r hr)
          · rw [if_neg g]; exact zz.2.1 i hi
        rw [if_pos z, this]
      · rw [z, if_neg (by decide)]
    · unfold fM_bearsAll_L5
      rw [show (24 : Int32) = nI 24 from rfl, if_pos (nI_le (Nat.le_refl _) (by omega))]
  unfold fM_bearsAll
  rw [l]
  rfl
/-- both hold to rules -/
theorem holds_rep {t0 : tt_St} {n : Nat} {kd : Nat → Nat} {x : Nat → Nat → Nat} {w t : tt_St} {a : TS} (P : REP t0 n kd x (fun _ => False) w t a 0) {p q r : Nat} (hp : p ≤ 3) (hq : q ≤ 3) (hr : r ≤ 3) : ∃ w' t', fW_holdsTo w (nI p) (nI q) (nI r) = some w' ∧ ((fM_rulesAre t (nI p) (nI q) (nI r)).bind fun r2 => some (wrI r2 0 0 48 (1 : Int32))) = some t' ∧ REP t0 n kd x (fun _ => False) w' t' (a.rl a.lack p q r) 0 ∧ rdI t' 0 0 0 = rdI t 0 0 0 ∧ rdI t' 0 0 49 = rdI t 0 0 49 := by
  have R := P.R
  have C := R.C
  have M := R.M
  have O := R.O
  have iw : ∀ k i j, ¬ (k = 0 ∧ i = 0 ∧ ((18 ≤ j ∧ j ≤ 20) ∨ j = 23)) → rdI (wrI (wrI (wrI (wrI w 0 0 18 (nI p)) 0 0 19 (nI q)) 0 0 20 (nI r)) 0 0 23 1) k i j = rdI w k i j := fun k i j z => by rw [rdI_wrI, if_neg (by omega), rdI_wrI, if_neg (by omega), rdI_wrI, if_neg (by omega), rdI_wrI, if_neg (by omega)]
  have it : ∀ k i j, ¬ (k = 0 ∧ i = 0 ∧ ((30 ≤ j ∧ j ≤ 32) ∨ j = 48)) → rdI (wrI (wrI (wrI (wrI t 0 0 30 (nI p)) 0 0 31 (nI q)) 0 0 32 (nI r)) 0 0 48 1) k i j = rdI t k i j := fun k i j z => by rw [rdI_wrI, if_neg (by omega), rdI_wrI, if_neg (by omega), rdI_wrI, if_neg (by omega), rdI_wrI, if_neg (by omega)]
  refine ⟨_, _, rfl, rfl, ⟨?_, fun k j hk => (it k 0 j (by omega)).trans (P.cl k j hk), (it 0 0 5 (by omega)).trans P.f5, fun l hl ht => P.pl l hl ht, fun h hh ht => P.hm h hh ?_⟩, it 0 0 0 (by omega), it 0 0 49 (by omega)⟩
  · have c20 := (iw 0 0 17 (by omega)).trans C.lack
    have m29 := (it 0 0 29 (by omega)).trans M.lack
    have hC : CS (wrI (wrI (wrI (wrI w 0 0 18 (nI p)) 0 0 19 (nI q)) 0 0 20 (nI r)) 0 0 23 1) (a.rl a.lack p q r) := by
      have C1 : CS (wrI (wrI (wrI w 0 0 18 (nI p)) 0 0 19 (nI q)) 0 0 20 (nI r)) (a.rl a.lack p q r) := C.rl (fun k i j z => by rw [rdI_wrI, if_neg (by omega), rdI_wrI, if_neg (by omega), rdI_wrI, if_neg (by omega)]) (by rw [rdI_wrI, if_neg (by omega), rdI_wrI, if_neg (by omega), rdI_wrI, if_neg (by omega)]; exact C.lack) (by rw [rdI_wrI, if_neg (by omega), rdI_wrI, if_neg (by omega), rdI_wrI, if_pos ⟨rfl, rfl, rfl⟩]) (by rw [rdI_wrI, if_neg (by omega), rdI_wrI, if_pos ⟨rfl, rfl, rfl⟩]) (by rw [rdI_wrI, if_pos ⟨rfl, rfl, rfl⟩])
      have e := fun k i j (z : ¬ (k = 0 ∧ i = 0 ∧ j = 23)) => show rdI (wrI (wrI (wrI (wrI w 0 0 18 (nI p)) 0 0 19 (nI q)) 0 0 20 (nI r)) 0 0 23 1) k i j = rdI (wrI (wrI (wrI w 0 0 18 (nI p)) 0 0 19 (nI q)) 0 0 20 (nI r)) k i j by rw [rdI_wrI, if_neg z]
      unfold CS at C1 ⊢
      simp only [e 0 0 17 (by omega), e 0 0 18 (by omega), e 0 0 19 (by omega), e 0 0 20 (by omega), e 2 _ _ (by omega), e 3 _ _ (by omega), e 4 _ _ (by omega), e 22 _ _ (by omega), e 23 _ _ (by omega), e 24 _ _ (by omega)]
      exact C1
    have hM : MS (wrI (wrI (wrI (wrI t 0 0 30 (nI p)) 0 0 31 (nI q)) 0 0 32 (nI r)) 0 0 48 1) (a.rl a.lack p q r) := by
      have M1 : MS (wrI (wrI (wrI t 0 0 30 (nI p)) 0 0 31 (nI q)) 0 0 32 (nI r)) (a.rl a.lack p q r) := M.rl (fun k i j z => by rw [rdI_wrI, if_neg (by omega), rdI_wrI, if_neg (by omega), rdI_wrI, if_neg (by omega)]) (by rw [rdI_wrI, if_neg (by omega), rdI_wrI, if_neg (by omega), rdI_wrI, if_neg (by omega)]; exact M.lack) (by rw [rdI_wrI, if_neg (by omega), rdI_wrI, if_neg (by omega), rdI_wrI, if_pos ⟨rfl, rfl, rfl⟩]) (by rw [rdI_wrI, if_neg (by omega), rdI_wrI, if_pos ⟨rfl, rfl, rfl⟩]) (by rw [rdI_wrI, if_pos ⟨rfl, rfl, rfl⟩])
      have e := fun k i j (z : ¬ (k = 0 ∧ i = 0 ∧ j = 48)) => show rdI (wrI (wrI (wrI (wrI t 0 0 30 (nI p)) 0 0 31 (nI q)) 0 0 32 (nI r)) 0 0 48 1) k i j = rdI (wrI (wrI (wrI t 0 0 30 (nI p)) 0 0 31 (nI q)) 0 0 32 (nI r)) k i j by rw [rdI_wrI, if_neg z]
      unfold MS at M1 ⊢
      simp only [e 0 0 29 (by omega), e 0 0 30 (by omega), e 0 0 31 (by omega), e 0 0 32 (by omega), e 6 _ _ (by omega), e 8 _ _ (by omega), e 9 _ _ (by omega), e 10 _ _ (by omega), e 11 _ _ (by omega), e 12 _ _ (by omega), e 13 _ _ (by omega), e 14 _ _ (by omega), e 27 _ _ (by omega), e 33 _ _ (by omega), e 34 _ _ (by omega), e 35 _ _ (by omega)]
      exact M1
    refine R.upd (Nat.le_refl _) hC hM ?_ rfl rfl rfl rfl rfl (fun _ _ _ _ => rfl) (fun _ _ _ => rfl) (fun h j => iw 7 h j (by omega)) (fun k j hk => it k 0 j (by omega)) (fun i hi => ?_) ?_ (iw 0 0 21 (by omega)) (iw 0 0 22 (by omega)) ?_ R.lk R.s0
    · exact ⟨O.n6, O.rg40, O.rgT, O.rgY, O.sorted, O.all, O.fr9, O.sz1, O.tm4, O.sg4, O.sg0, O.who10, O.ten1, O.st2, hp, hq, hr, O.lg⟩
    · rw [it 28 0 i (by omega)]; exact R.cash i hi
    · rw [rdI_wrI, if_pos ⟨rfl, rfl, rfl⟩, rdI_wrI, if_pos ⟨rfl, rfl, rfl⟩]
    · obtain ⟨n, Q⟩ := R.q
      exact ⟨n, Q.ext (iw 34 0 1 (by omega)) (fun _ => rfl)⟩
  · rw [it 7 0 h (by omega)] at ht; exact ht
