set_option linter.unusedVariables false
set_option linter.unusedSimpArgs false
set_option maxRecDepth 100000
/-! PLAIN LAW: gone over in their order, some left out -/
/-- deeds of the first n events that g lets through, on a world; how many can't be done -/
def runW (g : Nat → Bool) (kd : Nat → Nat) (x : Nat → Nat → Nat) (w : tt_St) : Nat → Option (Int32 × tt_St)
  | 0 => some (0, w)
  | k + 1 => (runW g kd x w k).bind fun r => if g k then (onW (kd k) (x k) r.2).bind fun b => some (if b.1 = 0 then r.1 + 1 else r.1, b.2) else some r
theorem runW_s {g : Nat → Bool} {kd : Nat → Nat} {x : Nat → Nat → Nat} {w : tt_St} {k : Nat} : runW g kd x w (k + 1) = (runW g kd x w k).bind fun r => if g k then (onW (kd k) (x k) r.2).bind fun b => some (if b.1 = 0 then r.1 + 1 else r.1, b.2) else some r := rfl
theorem over_rel {t0 : tt_St} {n : Nat} {kd : Nat → Nat} {x : Nat → Nat → Nat} (V : EVS t0 n kd x) (g : Nat → Bool) {N : Nat} (hN : N ≤ n) {B : Int32 × tt_St → Option ((Int32 × tt_St) ⊕ (Int32 × tt_St))} (hB : ∀ k t, k < N → rdI t 0 0 5 = rdI t0 0 0 5 → B (nI k, t) = if g k then (fM_goes t (nI k)).bind fun r => some (.inl (nI (k + 1), r)) else some (.inl (nI (k + 1), t))) (hX : ∀ t, rdI t 0 0 5 = rdI t0 0 0 5 → B (nI N, t) = some (.inr (nI N, t))) {w t : tt_St} {a1 : TS} (P : REP t0 n kd x (fun _ => False) w t a1 0) (h49 : rdI t 0 0 49 = 0) :
    ∃ r w' t' a' c', runW g kd x w N = some (r, w') ∧ itr B tt_fuel ((0 : Int32), t) = some (nI N, t') ∧ REP t0 n kd x (fun i => i < N ∧ g i = true) w' t' a' c' ∧ c' ≤ N ∧ rdI t' 0 0 48 = rdI t 0 0 48 ∧ rdI t' 0 0 0 = rdI t 0 0 0 ∧ rdI t' 0 0 49 = r := by
  have h160 := V.n160
  have hk_ := itr_inv (body := B) (fun k (u : tt_St) => (nI k, u)) (fun k u => ∃ r w' a' c', runW g kd x w k = some (r, w') ∧ REP t0 n kd x (fun i => i < k ∧ g i = true) w' u a' c' ∧ c' ≤ k ∧ rdI u 0 0 48 = rdI t 0 0 48 ∧ rdI u 0 0 0 = rdI t 0 0 0 ∧ rdI u 0 0 49 = r) (fun b => ∃ u, b = (nI N, u) ∧ ∃ r w' a' c', runW g kd x w N = some (r, w') ∧ REP t0 n kd x (fun i => i < N ∧ g i = true) w' u a' c' ∧ c' ≤ N ∧ rdI u 0 0 48 = rdI t 0 0 48 ∧ rdI u 0 0 0 = rdI t 0 0 0 ∧ rdI u 0 0 49 = r) N t (by omega) ⟨0, w, a1, 0, rfl, P.mono (fun i z => z.elim), Nat.le_refl _, rfl, rfl, h49⟩ (fun k u hk hI => ?_) (fun u hI => ?_)
  · obtain ⟨b, b1, u, rfl, r, w', a', c', g1, g2⟩ := hk_
    exact ⟨r, w', u, a', c', g1, b1, g2⟩
  · obtain ⟨r, w', a', c', g1, g2, g3, g4, g5, g6⟩ := hI
    rw [hB k u hk g2.f5]
    cases hg : g k with
    | true =>
      obtain ⟨b, w2, t2, a2, q1, q2, q3, q4, q5, q6, q7⟩ := g2.step V (by omega) (show k < n by omega) (fun z => by omega)
      rw [if_pos rfl, q3, Option.bind_some]
      refine ⟨t2, rfl, if b = 0 then r + 1 else r, w2, a2, c' + 1, ?_, q4.mono (fun i z => ?_), by omega, q5.trans g4, q6.trans g5, ?_⟩
      · rw [runW_s, g1, Option.bind_some, if_pos hg, q1, Option.bind_some]
      · rcases z with z | z
        · exact ⟨by omega, z.2⟩
        · rw [z]; exact ⟨by omega, hg⟩
      · rw [q7, g6]
    | false =>
      rw [if_neg (by decide)]
      refine ⟨u, rfl, r, w', a', c', ?_, g2.mono (fun i z => ⟨by omega, z.2⟩), by omega, g4, g5, g6⟩
      rw [runW_s, g1, Option.bind_some, if_neg (by rw [hg]; decide)]
  · obtain ⟨r, w', a', c', g1, g2, g3⟩ := hI
    exact ⟨_, hX u g2.f5, u, rfl, r, w', a', c', g1, g2, g3⟩
/-- the model goes over all -/
theorem goesOver_rel {t0 : tt_St} {n : Nat} {kd : Nat → Nat} {x : Nat → Nat → Nat} (V : EVS t0 n kd x) (hn : rdI t0 0 0 5 = nI n) (h48 : rdI t0 0 0 48 = 0) {w : tt_St} (Q : ∃ n, QW w n) :
    ∃ w1 r w' t' a' c', fW_begins w = some w1 ∧ runW (fun _ => true) kd x w1 n = some (r, w') ∧ fM_goesOver t0 = some t' ∧ REP t0 n kd x (fun i => i < n) w' t' a' c' ∧ c' ≤ n ∧ rdI t' 0 0 48 = 0 ∧ rdI t' 0 0 0 = rdI t0 0 0 0 ∧ rdI t' 0 0 49 = r := by
  have h160 := V.n160
  obtain ⟨w1, t1, b1, b2, b3, b4, b5, b6⟩ := begins_rep (n := n) (kd := kd) (x := x) Q h48
  obtain ⟨r, w', t', a', c', g1, g2, g3, g4, g5, g6, g7⟩ := over_rel V (fun _ => true) (Nat.le_refl n) (B := fM_goesOver_L6) (fun k t hk h5 => by
    unfold fM_goesOver_L6
    dsimp only
    rw [h5, hn, if_neg (nI_ge hk (by omega)), if_pos rfl, nI_1]) (fun t h5 => by
    unfold fM_goesOver_L6
    dsimp only
    rw [h5, hn, if_pos (nI_le (Nat.le_refl _) (by omega))]) b3 b6
  refine ⟨w1, r, w', t', a', c', b1, g1, ?_, g3.mono (fun i z => z.1), g4, g5.trans b4, g6.trans b5, g7⟩
  unfold fM_goesOver
  rw [b2, Option.bind_some, g2]
  rfl
/-- the model goes over all but one -/
theorem goesWithout_rel {t0 : tt_St} {n e : Nat} {kd : Nat → Nat} {x : Nat → Nat → Nat} (V : EVS t0 n kd x) (hn : rdI t0 0 0 5 = nI n) (h48 : rdI t0 0 0 48 = 0) (he : e < n) {w : tt_St} (Q : ∃ n, QW w n) :
    ∃ w1 r w' t' a' c', fW_begins w = some w1 ∧ runW (fun k => !decide (k = e)) kd x w1 n = some (r, w') ∧ fM_goesWithout t0 (nI e) = some t' ∧ REP t0 n kd x (fun i => i < n) w' t' a' c' ∧ c' ≤ n ∧ rdI t' 0 0 48 = 0 ∧ rdI t' 0 0 0 = rdI t0 0 0 0 ∧ rdI t' 0 0 49 = r := by
  have h160 := V.n160
  obtain ⟨w1, t1, b1, b2, b3, b4, b5, b6⟩ := begins_rep (n := n) (kd := kd) (x := x) Q h48
  obtain ⟨r, w', t', a', c', g1, g2, g3, g4, g5, g6, g7⟩ := over_rel V (fun k => !decide (k = e)) (Nat.le_refl n) (B := fM_goesWithout_L6 (nI e)) (fun k t hk h5 => by
    unfold fM_goesWithout_L6
    dsimp only
    rw [h5, hn, if_neg (nI_ge hk (by omega)), nI_1]
    by_cases q : k = e
    · rw [if_pos (by rw [q]), if_neg (by simp [q])]
    · rw [if_neg (by rw [nI_eq (by omega) (by omega)]; exact q), if_pos (by simp [q])]) (fun t h5 => by
    unfold fM_goesWithout_L6
    dsimp only
    rw [h5, hn, if_pos (nI_le (Nat.le_refl _) (by omega))]) b3 b6
  refine ⟨w1, r, w', t', a', c', b1, g1, ?_, g3.mono (fun i z => z.1), g4, g5.trans b4, g6.trans b5, g7⟩
  unfold fM_goesWithout
  rw [b2, Option.bind_some, g2]
  rfl
