set_option linter.unusedVariables false
set_option linter.unusedSimpArgs false
set_option maxRecDepth 100000
/-! PLAIN LAW: gone over by rules -/
theorem goesBy_rel {t0 : tt_St} {n p q r : Nat} {kd : Nat → Nat} {x : Nat → Nat → Nat} (V : EVS t0 n kd x) (hn : rdI t0 0 0 5 = nI n) (h48 : rdI t0 0 0 48 = 0) (hp : p ≤ 3) (hq : q ≤ 3) (hr : r ≤ 3) {w : tt_St} (Q : ∃ n, QW w n) :
    ∃ w1 w2 u w' t' a', fW_begins w = some w1 ∧ fW_holdsTo w1 (nI p) (nI q) (nI r) = some w2 ∧ runW (fun _ => true) kd x w2 n = some (u, w') ∧ fM_goesBy t0 (nI p) (nI q) (nI r) = some t' ∧ (∀ h, h < 24 → RH w' t' a' h) ∧ (∃ n, QW w' n) ∧ (∀ k j, k = 1 ∨ k = 2 ∨ k = 3 ∨ k = 4 → rdI t' k 0 j = rdI t0 k 0 j) ∧ rdI t' 0 0 5 = rdI t0 0 0 5 ∧ rdI t' 0 0 48 = 0 ∧ rdI t' 0 0 0 = rdI t0 0 0 0 := by
  have h160 := V.n160
  obtain ⟨w1, t1, b1, b2, b3, b4, b5, b6⟩ := begins_rep (n := n) (kd := kd) (x := x) Q h48
  obtain ⟨w2, t2, c1, c2, c3, c4, c5⟩ := holds_rep b3 hp hq hr
  obtain ⟨u, w', t', a', c', g1, g2, g3, g4, g5, g6, g7⟩ := over_rel V (fun _ => true) (Nat.le_refl n) (B := fM_goesBy_L19) (fun k t hk h5 => by
    unfold fM_goesBy_L19
    dsimp only
    rw [h5, hn, if_neg (nI_ge hk (by omega)), if_pos rfl, nI_1]) (fun t h5 => by
    unfold fM_goesBy_L19
    dsimp only
    rw [h5, hn, if_pos (nI_le (Nat.le_refl _) (by omega))]) c3 (c5.trans b6)
  have it : ∀ k i j, ¬ (k = 0 ∧ i = 0 ∧ j = 48) → rdI (wrI t' 0 0 48 0) k i j = rdI t' k i j := fun k i j z => by rw [rdI_wrI, if_neg z]
  refine ⟨w1, w2, u, w', wrI t' 0 0 48 0, a', b1, c1, g1, ?_, fun h hh => ?_, g3.R.q, fun k j hk => ?_, ?_, by rw [rdI_wrI, if_pos ⟨rfl, rfl, rfl⟩], ?_⟩
  · unfold fM_goesBy
    dsimp only [nm]
    rw [b2, Option.bind_some]
    cases hz : fM_rulesAre t1 (nI p) (nI q) (nI r) with
    | none => rw [hz] at c2; cases c2
    | some y =>
      rw [hz, Option.bind_some] at c2
      rw [Option.bind_some, Option.some.inj c2, g2, Option.bind_some]
  · exact (g3.R.H h hh).ext (fun _ _ _ _ => rfl) (fun _ => rfl) (fun _ _ _ => rfl) (fun j _ => it 24 0 j (by omega)) (fun k hk => it k 0 h (by omega))
  · rw [it k 0 j (by omega)]; exact g3.cl k j hk
  · rw [it 0 0 5 (by omega)]; exact g3.f5
  · rw [it 0 0 0 (by omega), g6, c4]; exact b5
