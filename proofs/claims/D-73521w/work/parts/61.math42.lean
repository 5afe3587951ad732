set_option linter.unusedVariables false
set_option linter.unusedSimpArgs false
set_option maxRecDepth 100000
/-! PLAIN LAW: signed -/
theorem m_hadSum {w t : tt_St} {a : TS} {c : Nat} (R : RW w t a c d0) {l k : Nat} (hl : l < 40) (hk : k < a.sg l) : itr (fM_signed_L101 (nI l) (nI k) (1, t)) tt_fuel ((0 : Int64), (0 : Int32)) = some (rdL w 5 l k, nI 24) := by
  have h4 := R.O.sg4 l hl
  rw [R.hs l k hl hk]
  refine itr_run (fun h => (sumL (fun h => rdL w 13 h (4 * l + k)) h, nI h)) 24 _ (by omega) (fun h hh => ?_) ?_
  · unfold fM_signed_L101
    dsimp only [nm]
    rw [show (24 : Int32) = nI 24 from rfl, if_neg (nI_ge hh (by omega)), L160, L4, nI_mul, nI_mul, nI_add, nI_add, show 160 * h + 4 * l + k = 160 * h + (4 * l + k) by omega, inB_nI (show 160 * h + (4 * l + k) < 4000 by omega) (by omega), if_pos rfl, nI_clamp (show 160 * h + (4 * l + k) < 2 ^ 31 by omega), (R.H h hh).had (4 * l + k) (by omega), nI_1]
    rfl
  · unfold fM_signed_L101
    rw [show (24 : Int32) = nI 24 from rfl, if_pos (nI_le (Nat.le_refl _) (by omega))]
theorem ask_signed {s : tt_S3} {m : tt_St} {a : TS} {c : Nat} (T : TN s m a c) (x y z : Int32) : ASKp id id (fT_signed s x y z) (fM_signed m x y z) s m k12 := by
  have R := T.thr.R
  have O := R.O
  obtain ⟨b1, b2⟩ := m_isOne T x
  unfold fT_signed fM_signed
  dsimp only [nm]
  rw [show wrI m 0 0 0 0 = thr0 m from rfl]
  rcases c_layerOf T x with ⟨l, hl, ht, h3, h4⟩ | ⟨h1, h2⟩
  · have s4 := O.sg4 l hl
    rw [h4, b1 l hl ht h3, Option.bind_some, Option.bind_some]
    dsimp only [orThrow]
    rw [if_neg (show ¬ (1 : Int32) = 0 by decide), c_placeG, Option.bind_some, m_within, Option.bind_some]
    have bad : ∀ F : Int32 × tt_St → Option (Int64 × tt_St), ((some 0 : Option Int32).bind fun t4 => (fM_needs (thr0 m) t4 (2 : Int32) (1 : Int32)).bind fun r8 => if r8.1 = 0 then some ((0 : Int64), r8.2) else F r8) = some (0, rfM (thr0 m) 2 1) := fun F => by
      rw [Option.bind_some, show fM_needs (thr0 m) 0 2 1 = fM_needs (thr0 m) 0 2 (nI 1) from rfl, m_needs_f (thr0_0 m) (by decide) (by omega)]
      rfl
    by_cases gy : 0 ≤ y
    · obtain ⟨k, k1, rfl⟩ := i32_nat0 gy
      rw [if_pos gy, if_neg (nI_pos k1)]
      dsimp only
      rw [c_within, Option.bind_some]
      by_cases gz : 0 ≤ z ∧ z ≤ nI 2
      · have hd := (in32 (n := 2) (by omega)).mp gz
        obtain ⟨j, j1, rfl⟩ := in_nat hd (by omega)
        rw [if_pos (show 0 ≤ nI j ∧ nI j ≤ (2 : Int32) from gz), if_pos (show (0 : Int64) ≤ (nI j).toInt64 ∧ (nI j).toInt64 ≤ (2 : Int64) from hd), if_neg (by decide), Option.bind_some, show fM_needs (thr0 m) 1 2 1 = fM_needs (thr0 m) 1 2 (nI 1) from rfl, m_needs_t (thr0_0 m) (by decide), Option.bind_some, if_neg (show ¬ (1 : Int32) = 0 by decide)]
        dsimp only
        rw [h3, inB_nI hl (by omega), if_pos rfl, nI_clamp (show l < 2 ^ 31 by omega), R.C.sg l hl, R.M.sg l hl]
        by_cases hk : k < a.sg l
        · left
          rw [if_pos (nI_lt hk (by omega)), if_pos (nI_lt hk (by omega)), inB_nI (show k < 4 by omega) (by omega), if_pos rfl, nI_clamp (show k < 2 ^ 31 by omega), R.C.who l k hl hk, R.C.ten l k hl hk, L4, ix_add, inB_nI (show 4 * l + k < 160 by omega) (by omega), if_pos rfl, nI_clamp (show 4 * l + k < 2 ^ 31 by omega), R.M.who l k hl hk, R.M.ten l k hl hk, m_hadSum R hl hk, Option.bind_some]
          rcases (show j = 0 ∨ j = 1 ∨ j = 2 by omega) with rfl | rfl | rfl
          · exact ⟨(nI (a.who l k)).toInt64, (nI (a.who l k)).toInt64, by rw [if_pos (by decide)], by rw [if_neg (by decide), if_pos (by decide)]; first | rfl | rw [if_pos rfl], rfl⟩
          · exact ⟨(nI (a.ten l k)).toInt64, (nI (a.ten l k)).toInt64, by rw [if_neg (by decide), if_pos (by decide)], by rw [if_neg (by decide), if_neg (by decide)]; first | rfl | rw [if_pos rfl], rfl⟩
          · exact ⟨rdL s.1 5 l k, rdL s.1 5 l k, by rw [if_neg (by decide), if_neg (by decide)]; first | rfl | rw [if_pos rfl], by rw [if_pos (by decide)], rfl⟩
        · left
          rw [if_neg (nI_nlt (by omega) k1), if_neg (nI_nlt (by omega) k1)]
          exact ⟨_, _, rfl, rfl, rfl⟩
      · have hd := fun q => gz ((in32 (n := 2) (by omega)).mpr q)
        right
        refine ⟨1, 0, by omega, by decide, ?_, ?_⟩
        · rw [if_neg (show ¬ (0 ≤ z ∧ z ≤ (2 : Int32)) from gz)]
        · rw [if_neg (show ¬ ((0 : Int64) ≤ z.toInt64 ∧ z.toInt64 ≤ (2 : Int64)) from hd), if_pos rfl]
          exact bad _
    · right
      refine ⟨1, 0, by omega, by decide, ?_, ?_⟩
      · rw [if_neg gy]
      · rw [if_pos (i32_lt.mpr (by have := mt i32_le.mpr gy; omega))]
        exact bad _
  · right
    refine ⟨0, 0, by omega, by decide, ?_, ?_⟩
    · rw [h2]; rfl
    · rw [b2 h1]; rfl
