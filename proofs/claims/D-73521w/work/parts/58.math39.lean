set_option linter.unusedVariables false
set_option linter.unusedSimpArgs false
set_option maxRecDepth 100000
/-! PLAIN LAW: told -/
def sgB (a : TS) (l : Nat) (b : Int32) : Nat → Int32
  | 0 => b
  | k + 1 => sgB a l b k ||| ((1 : Int32) <<< (nI (a.who l k) &&& 31))
def ogB (a : TS) : Nat → Int32
  | 0 => 0
  | l + 1 => sgB a l (ogB a l) (a.sg l)
theorem ogB_s {a : TS} {l : Nat} : ogB a (l + 1) = sgB a l (ogB a l) (a.sg l) := rfl
theorem ogB_stop {a : TS} {q : Nat} : ∀ n, (∀ i, q ≤ i → i < q + n → a.sg i = 0) → ogB a (q + n) = ogB a q
  | 0, _ => rfl
  | n + 1, h => by
    have e : q + (n + 1) = (q + n) + 1 := by omega
    rw [e, ogB_s, h (q + n) (by omega) (by omega)]
    exact ogB_stop n (fun i h1 h2 => h i h1 (by omega))
theorem c_signing {s : tt_S3} {m : tt_St} {a : TS} {c : Nat} (T : TN s m a c) : fT_signing s = some (ogB a 40) := by
  have R := T.R
  obtain ⟨q, q1, q2, q3⟩ := T.P
  have lc : itr (fT_signing_L4 s) tt_fuel ((0 : Int32), (0 : Int32)) = some (ogB a q, nI q) := by
    refine itr_run (fun l => (ogB a l, nI l)) q _ (by omega) (fun l hl => ?_) ?_
    · have h4 := R.O.sg4 l (by omega)
      have inner : itr (fT_signing_L17 s (ogB a l, nI l)) tt_fuel (ogB a l, (0 : Int32)) = some (sgB a l (ogB a l) (a.sg l), nI (a.sg l)) := by
        refine itr_run (fun k => (sgB a l (ogB a l) k, nI k)) (a.sg l) _ (by omega) (fun k hk => ?_) ?_
        · unfold fT_signing_L17
          dsimp only [nm]
          rw [inB_nI (show l < 40 by omega) (by omega), if_pos rfl, nI_clamp (show l < 2 ^ 31 by omega), R.C.sg l (by omega), if_neg (nI_ge hk (by omega)), inB_nI (show k < 4 by omega) (by omega), if_pos rfl, nI_clamp (show k < 2 ^ 31 by omega), R.C.who l k (by omega) hk, nI_1]
          rfl
        · unfold fT_signing_L17
          rw [inB_nI (show l < 40 by omega) (by omega), if_pos rfl, nI_clamp (show l < 2 ^ 31 by omega), R.C.sg l (by omega), if_pos (nI_le (Nat.le_refl _) (by omega))]
      unfold fT_signing_L4
      dsimp only
      rw [q2, if_neg (nI_ge hl (by omega)), inner, Option.bind_some, nI_1]
      rfl
    · unfold fT_signing_L4
      rw [q2, if_pos (nI_le (Nat.le_refl _) (by omega))]
  have e : ogB a 40 = ogB a q := by
    have := ogB_stop (a := a) (q := q) (40 - q) (fun i h1 h2 => R.O.sg0 i (by omega) (by
      by_cases z : a.there i = true
      · have := (q3 i (by omega)).mp z; omega
      · simpa using z))
    rw [show q + (40 - q) = 40 by omega] at this
    exact this
  unfold fT_signing
  rw [lc, e]
  rfl
theorem m_signersBits {t : tt_St} {a : TS} (M : MS t a) (O : a.Ok) : fM_signersBits t = some (ogB a 40) := by
  have lm : itr (fM_signersBits_L4 t) tt_fuel ((0 : Int32), (0 : Int32)) = some (ogB a 40, nI 40) := by
    refine itr_run (fun l => (ogB a l, nI l)) 40 _ (by omega) (fun l hl => ?_) ?_
    · have h4 := O.sg4 l hl
      have inner : ∃ z, itr (fM_signersBits_L12 t (ogB a l, nI l)) tt_fuel (ogB a l, (0 : Int32)) = some (sgB a l (ogB a l) (a.sg l), z) := by
        by_cases ht : a.there l = true
        · refine ⟨nI (a.sg l), itr_run (fun k => (sgB a l (ogB a l) k, nI k)) (a.sg l) _ (by omega) (fun k hk => ?_) ?_⟩
          · unfold fM_signersBits_L12
            dsimp only [nm]
            rw [inB_nI hl (by omega), if_pos rfl, nI_clamp (show l < 2 ^ 31 by omega), M.isT l hl, ht, if_neg (show ¬ (if true = true then (1 : Int32) else 0) = 0 by decide), M.sg l hl, if_neg (nI_ge hk (by omega)), L4, ix_add, inB_nI (show 4 * l + k < 160 by omega) (by omega), if_pos rfl, nI_clamp (show 4 * l + k < 2 ^ 31 by omega), M.who l k hl hk, nI_1]
            rfl
          · unfold fM_signersBits_L12
            rw [inB_nI hl (by omega), if_pos rfl, nI_clamp (show l < 2 ^ 31 by omega), M.isT l hl, ht, if_neg (show ¬ (if true = true then (1 : Int32) else 0) = 0 by decide), M.sg l hl, if_pos (nI_le (Nat.le_refl _) (by omega))]
        · have ht' : a.there l = false := by simpa using ht
          refine ⟨nI 0, ?_⟩
          rw [O.sg0 l hl ht']
          refine itr_run (fun k => (sgB a l (ogB a l) k, nI k)) 0 _ (by omega) (fun k hk => by omega) ?_
          unfold fM_signersBits_L12
          rw [inB_nI hl (by omega), if_pos rfl, nI_clamp (show l < 2 ^ 31 by omega), M.isT l hl, ht', if_pos (show (if false = true then (1 : Int32) else 0) = 0 by decide)]
      obtain ⟨z, hz⟩ := inner
      unfold fM_signersBits_L4
      dsimp only
      rw [L40, if_neg (nI_ge hl (by omega)), hz, Option.bind_some, nI_1]
      rfl
    · unfold fM_signersBits_L4
      rw [L40, if_pos (nI_le (Nat.le_refl _) (by omega))]
  unfold fM_signersBits
  rw [lm]
  rfl
theorem ask_told {s : tt_S3} {m : tt_St} {a : TS} {c : Nat} (T : TN s m a c) (ev0 : fM_eventsOf (thr0 m) 0 = some (rdI s.1 0 0 21)) (ev4 : fM_eventsOf (thr0 m) 4 = some (rdI s.1 0 0 22)) (x : Int32) : ASKp Int32.toInt64 Int32.toInt64 (fT_told s x) (fM_told m x) s m k1 := by
  have R := T.thr.R
  unfold fM_told
  dsimp only [nm]
  rw [m_within, Option.bind_some]
  refine ask_bad (m := m) (Fm := fun r3 => if x = (10 : Int32) then (fM_signersBits r3.2).bind fun r27 => some (r27, r3.2) else if (3 : Int32) ≤ x then if (6 : Int32) ≤ x then if x = (6 : Int32) then some (rdI r3.2 0 0 29, r3.2) else if x ≤ (7 : Int32) then (itr (fM_told_L143 r3) tt_fuel ((0 : Int32), (0 : Int32))).bind fun b11 => some (b11.1, r3.2) else (fM_standingBits r3.2 (if x = (8 : Int32) then (1 : Int32) else (2 : Int32))).bind fun r20 => some (r20, r3.2) else if x = (3 : Int32) then some (rdI r3.2 0 0 30, r3.2) else if x = (4 : Int32) then some (rdI r3.2 0 0 31, r3.2) else some (rdI r3.2 0 0 32, r3.2) else if x = 0 then (fM_eventsOf r3.2 (0 : Int32)).bind fun r26 => some (r26, r3.2) else if x = (1 : Int32) then (fM_eventsOf r3.2 (4 : Int32)).bind fun r25 => some (r25, r3.2) else some (rdI r3.2 0 0 5, r3.2)) (0 ≤ x ∧ x ≤ nI 10) (fun g => ?_) (fun g => ?_)
  · have hd := (in32 (n := 10) (by omega)).mp g
    obtain ⟨j, j1, rfl⟩ := in_nat hd (by omega)
    refine ⟨if_pos hd, ?_⟩
    have hc : ∀ r, (if nI j = 0 then some (.inl (rdI s.1 0 0 21, s)) else if nI j = 1 then some (.inl (rdI s.1 0 0 22, s)) else if nI j = 2 then some (.inl (rdI s.2.2 0 0 7, s)) else if nI j = 3 then some (.inl (rdI s.1 0 0 18, s)) else if nI j = 4 then some (.inl (rdI s.1 0 0 19, s)) else if nI j = 5 then some (.inl (rdI s.1 0 0 20, s)) else if nI j = 6 then some (.inl (rdI s.1 0 0 17, s)) else if nI j = 7 then (fT_gaps s).bind fun r10 => some (.inl (r10, s)) else if nI j = 8 then (fW_inStatus s.1 (nI j - (7 : Int32))).bind fun r12 => some (.inl (r12, s)) else if nI j = 9 then (fW_inStatus s.1 (nI j - (7 : Int32))).bind fun r14 => some (.inl (r14, s)) else (fT_signing s).bind fun r15 => some (.inl (r15, s)) : Option ((Int32 × tt_S3) ⊕ (Nat × tt_S3))) = r → fT_told s (nI j) = r := fun r hr => by
      unfold fT_told
      rw [c_within, if_pos (show 0 ≤ nI j ∧ nI j ≤ (10 : Int32) from g), Option.bind_some]
      exact hr
    dsimp only
    rcases (show j = 0 ∨ j = 1 ∨ j = 2 ∨ j = 3 ∨ j = 4 ∨ j = 5 ∨ j = 6 ∨ j = 7 ∨ j = 8 ∨ j = 9 ∨ j = 10 by omega) with rfl | rfl | rfl | rfl | rfl | rfl | rfl | rfl | rfl | rfl | rfl
    · exact ⟨rdI s.1 0 0 21, rdI s.1 0 0 21, hc _ (if_pos (by decide)), by rw [if_neg (by decide), if_neg (by decide), if_pos (by decide), ev0]; rfl, rfl⟩
    · exact ⟨rdI s.1 0 0 22, rdI s.1 0 0 22, hc _ (by rw [if_neg (by decide), if_pos (by decide)]), by rw [if_neg (by decide), if_neg (by decide), if_neg (by decide), if_pos (by decide), ev4]; rfl, rfl⟩
    · exact ⟨rdI s.2.2 0 0 7, rdI (thr0 m) 0 0 5, hc _ (by rw [if_neg (by decide), if_neg (by decide), if_pos (by decide)]), by rw [if_neg (by decide), if_neg (by decide), if_neg (by decide), if_neg (by decide)], by rw [T.thr.mn]⟩
    · exact ⟨rdI s.1 0 0 18, rdI (thr0 m) 0 0 30, hc _ (by rw [if_neg (by decide), if_neg (by decide), if_neg (by decide), if_pos (by decide)]), by rw [if_neg (by decide), if_pos (by decide), if_neg (by decide), if_pos (by decide)], by rw [R.C.trig, R.M.trig]⟩
    · exact ⟨rdI s.1 0 0 19, rdI (thr0 m) 0 0 31, hc _ (by rw [if_neg (by decide), if_neg (by decide), if_neg (by decide), if_neg (by decide), if_pos (by decide)]), by rw [if_neg (by decide), if_pos (by decide), if_neg (by decide), if_neg (by decide), if_pos (by decide)], by rw [R.C.spr, R.M.spr]⟩
    · exact ⟨rdI s.1 0 0 20, rdI (thr0 m) 0 0 32, hc _ (by rw [if_neg (by decide), if_neg (by decide), if_neg (by decide), if_neg (by decide), if_neg (by decide), if_pos (by decide)]), by rw [if_neg (by decide), if_pos (by decide), if_neg (by decide), if_neg (by decide), if_neg (by decide)], by rw [R.C.pick, R.M.pick]⟩
    · exact ⟨rdI s.1 0 0 17, rdI (thr0 m) 0 0 29, hc _ (by rw [if_neg (by decide), if_neg (by decide), if_neg (by decide), if_neg (by decide), if_neg (by decide), if_neg (by decide), if_pos (by decide)]), by rw [if_neg (by decide), if_pos (by decide), if_pos (by decide), if_pos (by decide)], by rw [R.C.lack, R.M.lack]⟩
    · exact ⟨_, _, hc _ (by rw [if_neg (by decide), if_neg (by decide), if_neg (by decide), if_neg (by decide), if_neg (by decide), if_neg (by decide), if_neg (by decide), if_pos (by decide), c_gaps R.C R.O, Option.bind_some]), by rw [if_neg (by decide), if_pos (by decide), if_pos (by decide), if_neg (by decide), if_pos (by decide), m_gaps R.M R.O, Option.bind_some], rfl⟩
    · exact ⟨_, _, hc _ (by rw [if_neg (by decide), if_neg (by decide), if_neg (by decide), if_neg (by decide), if_neg (by decide), if_neg (by decide), if_neg (by decide), if_neg (by decide), if_pos (by decide), show nI 8 - (7 : Int32) = nI 1 from rfl, c_inStatus R.C R.O (by omega), Option.bind_some]), by rw [if_neg (by decide), if_pos (by decide), if_pos (by decide), if_neg (by decide), if_neg (by decide), if_pos (by decide), L1, m_standingBits R.M R.O R.s0 (by omega) (by omega), Option.bind_some], rfl⟩
    · exact ⟨_, _, hc _ (by rw [if_neg (by decide), if_neg (by decide), if_neg (by decide), if_neg (by decide), if_neg (by decide), if_neg (by decide), if_neg (by decide), if_neg (by decide), if_neg (by decide), if_pos (by decide), show nI 9 - (7 : Int32) = nI 2 from rfl, c_inStatus R.C R.O (by omega), Option.bind_some]), by rw [if_neg (by decide), if_pos (by decide), if_pos (by decide), if_neg (by decide), if_neg (by decide), if_neg (by decide), L2, m_standingBits R.M R.O R.s0 (by omega) (by omega), Option.bind_some], rfl⟩
    · exact ⟨_, _, hc _ (by rw [if_neg (by decide), if_neg (by decide), if_neg (by decide), if_neg (by decide), if_neg (by decide), if_neg (by decide), if_neg (by decide), if_neg (by decide), if_neg (by decide), if_neg (by decide), c_signing T, Option.bind_some]), by rw [if_pos (by decide), m_signersBits R.M R.O, Option.bind_some], rfl⟩
  · have hd := fun z => g ((in32 (n := 10) (by omega)).mpr z)
    refine ⟨if_neg hd, ?_⟩
    unfold fT_told
    rw [c_within, if_neg (show ¬ (0 ≤ x ∧ x ≤ (10 : Int32)) from g)]
    rfl
