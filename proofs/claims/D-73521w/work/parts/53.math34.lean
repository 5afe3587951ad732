set_option linter.unusedVariables false
set_option linter.unusedSimpArgs false
set_option maxRecDepth 100000
/-! PLAIN LAW: what is asked and changes nothing -/
def ASKp {α β : Type} (vt : α → Int64) (wt : β → Int64) (cres : Option ((α × tt_S3) ⊕ (Nat × tt_S3))) (mres : Option (β × tt_St)) (s : tt_S3) (m : tt_St) (code : Nat → Int32) : Prop :=
  (∃ v v', cres = some (.inl (v, s)) ∧ mres = some (v', thr0 m) ∧ vt v = wt v') ∨ ∃ j v', j < 3 ∧ ¬ code j = 0 ∧ cres = some (.inr (j, rfC s j)) ∧ mres = some (v', rfM (thr0 m) (code j) j)
def k1 : Nat → Int32 := fun _ => 1
def k12 : Nat → Int32 := fun j => if j = 0 then 1 else 2
theorem thr0_0 (m : tt_St) : rdI (thr0 m) 0 0 0 = 0 := rfl
theorem thr0_i (m : tt_St) {k i j : Nat} (h : ¬ (k = 0 ∧ i = 0 ∧ j = 0)) : rdI (thr0 m) k i j = rdI m k i j := by unfold thr0; rw [rdI_wrI, if_neg h]
theorem thr0_l (m : tt_St) (k i j : Nat) : rdL (thr0 m) k i j = rdL m k i j := rfl
theorem nI_l64 {n : Nat} (h : n < 2 ^ 31) : (0 : Int64) ≤ (nI n).toInt64 := i64_le.mpr (by rw [nI64 h, i64_0]; omega)
theorem in_nat {x : Int32} {n : Nat} (h : (0 : Int64) ≤ x.toInt64 ∧ x.toInt64 ≤ lN n) (hn : n < 2 ^ 30) : ∃ j, j ≤ n ∧ x = nI j := by
  have h1 := i64_le.mp h.1
  have h2 := i64_le.mp h.2
  rw [i64_of32, i64_0] at h1
  rw [i64_of32, lN_toInt (by omega)] at h2
  refine ⟨x.toInt.toNat, by omega, i32_ext ?_⟩
  rw [nI_toInt (by omega)]
  omega
theorem in_nI {j n : Nat} (h : j ≤ n) (hn : n < 2 ^ 30) : (0 : Int64) ≤ (nI j).toInt64 ∧ (nI j).toInt64 ≤ lN n :=
  ⟨nI_l64 (by omega), i64_le.mpr (by rw [nI64 (by omega), lN_toInt (by omega)]; omega)⟩
/-- a harm that is there, the model's word -/
theorem m_harmB {s : tt_S3} {m : tt_St} {a : TS} {c : Nat} (T : TN s m a c) (x : Int32) {β : Type} (F : Int32 → Option β) : (∀ h, h < 24 → rdI m 7 0 h = 1 → x = nI h → ((fM_within x.toInt64 (0 : Int64) (23 : Int64)).bind fun r1 => (if r1 = 0 then some (0 : Int32) else if inB x 25 then if (rdI (thr0 m) 7 0 x.toNatClampNeg) = 0 then some (0 : Int32) else some (1 : Int32) else none : Option (Int32)).bind F) = F 1) ∧ ((∀ h, h < 24 → x = nI h → rdI m 7 0 h = 0) → ((fM_within x.toInt64 (0 : Int64) (23 : Int64)).bind fun r1 => (if r1 = 0 then some (0 : Int32) else if inB x 25 then if (rdI (thr0 m) 7 0 x.toNatClampNeg) = 0 then some (0 : Int32) else some (1 : Int32) else none : Option (Int32)).bind F) = F 0) := by
  rw [m_within, Option.bind_some]
  constructor
  · rintro h hh h1 rfl
    rw [if_pos (show (0 : Int64) ≤ (nI h).toInt64 ∧ (nI h).toInt64 ≤ (23 : Int64) from in_nI (n := 23) (by omega) (by omega)), if_neg (by decide), inB_nI (by omega) (by omega), if_pos rfl, nI_clamp (by omega), thr0_i m (by omega), h1, if_neg (by decide), Option.bind_some]
  · intro h0
    by_cases hc : (0 : Int64) ≤ x.toInt64 ∧ x.toInt64 ≤ (23 : Int64)
    · obtain ⟨h, hh, rfl⟩ := in_nat (n := 23) hc (by omega)
      rw [if_pos hc, if_neg (by decide), inB_nI (by omega) (by omega), if_pos rfl, nI_clamp (by omega), thr0_i m (by omega), h0 h (by omega) rfl, if_pos rfl, Option.bind_some]
    · rw [if_neg hc, if_pos rfl, Option.bind_some]
theorem m_isHarmOne {s : tt_S3} {m : tt_St} {a : TS} {c : Nat} (T : TN s m a c) (x : Int32) : (∀ h, h < 24 → rdI m 7 0 h = 1 → x = nI h → fM_isHarmOne (thr0 m) x = some (1, thr0 m)) ∧ ((∀ h, h < 24 → x = nI h → rdI m 7 0 h = 0) → fM_isHarmOne (thr0 m) x = some (0, rfM (thr0 m) 1 0)) := by
  unfold fM_isHarmOne
  obtain ⟨h1, h2⟩ := m_harmB T x (fun t2 => (fM_needs (thr0 m) t2 (1 : Int32) (0 : Int32)).bind fun r6 => some (r6.1, r6.2))
  refine ⟨fun h a1 a2 a3 => ?_, fun a1 => ?_⟩
  · rw [h1 h a1 a2 a3, L0, m_needs_t (j := 0) (thr0_0 m) (by decide)]; rfl
  · rw [h2 a1, show fM_needs (thr0 m) 0 1 0 = fM_needs (thr0 m) 0 1 (nI 0) from rfl, m_needs_f (thr0_0 m) (by decide) (by omega)]; rfl
theorem m_isOne {s : tt_S3} {m : tt_St} {a : TS} {c : Nat} (T : TN s m a c) (x : Int32) : (∀ l, l < 40 → a.there l = true → x = nI l → fM_isOne (thr0 m) x 1 = some (1, thr0 m)) ∧ ((∀ l, l < 40 → x = nI l → a.there l = false) → fM_isOne (thr0 m) x 1 = some (0, rfM (thr0 m) 1 0)) := by
  unfold fM_isOne
  rw [m_within, Option.bind_some]
  constructor
  · rintro h hh h1 rfl
    rw [if_pos (show (0 : Int64) ≤ (nI h).toInt64 ∧ (nI h).toInt64 ≤ (39 : Int64) from in_nI (n := 39) (by omega) (by omega)), if_neg (by decide), inB_nI (by omega) (by omega), if_pos rfl, nI_clamp (by omega), thr0_i m (by omega), T.R.M.isT h hh, h1, if_neg (by decide), Option.bind_some, L0, m_needs_t (j := 0) (thr0_0 m) (by decide)]
    rfl
  · intro h0
    by_cases hc : (0 : Int64) ≤ x.toInt64 ∧ x.toInt64 ≤ (39 : Int64)
    · obtain ⟨h, hh, rfl⟩ := in_nat (n := 39) hc (by omega)
      rw [if_pos hc, if_neg (by decide), inB_nI (by omega) (by omega), if_pos rfl, nI_clamp (by omega), thr0_i m (by omega), T.R.M.isT h (by omega), h0 h (by omega) rfl, if_pos (by decide), Option.bind_some, show fM_needs (thr0 m) 0 1 0 = fM_needs (thr0 m) 0 1 (nI 0) from rfl, m_needs_f (thr0_0 m) (by decide) (by omega)]
      rfl
    · rw [if_neg hc, if_pos rfl, Option.bind_some, show fM_needs (thr0 m) 0 1 0 = fM_needs (thr0 m) 0 1 (nI 0) from rfl, m_needs_f (thr0_0 m) (by decide) (by omega)]
      rfl
theorem m_areBoth {s : tt_S3} {m : tt_St} {a : TS} {c : Nat} (T : TN s m a c) (x y : Int32) : (∀ h l, h < 24 → rdI m 7 0 h = 1 → x = nI h → l < 40 → a.there l = true → y = nI l → fM_areBoth (thr0 m) x y = some (1, thr0 m)) ∧ ((∀ h, h < 24 → x = nI h → rdI m 7 0 h = 0) ∨ (∀ l, l < 40 → y = nI l → a.there l = false) → fM_areBoth (thr0 m) x y = some (0, rfM (thr0 m) 1 0)) := by
  unfold fM_areBoth
  rw [m_within, m_within, Option.bind_some]
  have fl : ((some 0 : Option Int32).bind fun t2 => (fM_needs (thr0 m) t2 (1 : Int32) (0 : Int32)).bind fun r10 => some (r10.1, r10.2)) = some (0, rfM (thr0 m) 1 0) := by
    rw [Option.bind_some, show fM_needs (thr0 m) 0 1 0 = fM_needs (thr0 m) 0 1 (nI 0) from rfl, m_needs_f (thr0_0 m) (by decide) (by omega)]
    rfl
  constructor
  · rintro h l hh h1 rfl hl l1 rfl
    rw [if_pos (show (0 : Int64) ≤ (nI h).toInt64 ∧ (nI h).toInt64 ≤ (23 : Int64) from in_nI (n := 23) (by omega) (by omega)), if_neg (by decide), inB_nI (show h < 25 by omega) (by omega), if_pos rfl, nI_clamp (by omega), thr0_i m (by omega), h1, if_neg (by decide), Option.bind_some, if_pos (show (0 : Int64) ≤ (nI l).toInt64 ∧ (nI l).toInt64 ≤ (39 : Int64) from in_nI (n := 39) (by omega) (by omega)), if_neg (by decide), inB_nI (by omega) (by omega), if_pos rfl, nI_clamp (by omega), thr0_i m (by omega), T.R.M.isT l hl, l1, if_neg (by decide), Option.bind_some, L0, m_needs_t (j := 0) (thr0_0 m) (by decide)]
    rfl
  · intro h0
    by_cases hc : (0 : Int64) ≤ x.toInt64 ∧ x.toInt64 ≤ (23 : Int64)
    · obtain ⟨h, hh, rfl⟩ := in_nat (n := 23) hc (by omega)
      rw [if_pos hc, if_neg (by decide), inB_nI (show h < 25 by omega) (by omega), if_pos rfl, nI_clamp (by omega), thr0_i m (by omega)]
      by_cases h7 : rdI m 7 0 h = 0
      · rw [if_pos h7]; exact fl
      · rw [if_neg h7, Option.bind_some]
        have h0' : ∀ l, l < 40 → y = nI l → a.there l = false := by
          rcases h0 with z | z
          · exact absurd (z h (by omega) rfl) h7
          · exact z
        by_cases hd : (0 : Int64) ≤ y.toInt64 ∧ y.toInt64 ≤ (39 : Int64)
        · obtain ⟨l, hl, rfl⟩ := in_nat (n := 39) hd (by omega)
          rw [if_pos hd, if_neg (by decide), inB_nI (by omega) (by omega), if_pos rfl, nI_clamp (by omega), thr0_i m (by omega), T.R.M.isT l (by omega), h0' l (by omega) rfl, if_pos (by decide)]
          exact fl
        · rw [if_neg hd, if_pos rfl]; exact fl
    · rw [if_neg hc, if_pos rfl]; exact fl
/-- of a harm and a layer -/
theorem ask_cell {s : tt_S3} {m : tt_St} {a : TS} {c : Nat} (T : TN s m a c) (x y : Int32) (kc km : Nat) (hk : ∀ h l, h < 24 → l < 40 → rdL m km 0 (40 * h + l) = rdL s.1 kc h l) :
    ASKp id id ((fT_harmOf s x).bind fun q_r1 => orThrow q_r1 fun r1 => (fT_layerOf r1.2 y).bind fun q_r2 => orThrow q_r2 fun r2 => if inB (nI r2.1) 40 then some (.inl (rdL r2.2.1 kc r1.1 (nI r2.1).toNatClampNeg, r2.2)) else none) ((fM_areBoth (thr0 m) x y).bind fun r2 => if r2.1 = 0 then some ((0 : Int64), r2.2) else if inB (((40 : Int32) * x) + y) 1000 then some (rdL r2.2 km 0 (((40 : Int32) * x) + y).toNatClampNeg, r2.2) else none) s m k1 := by
  obtain ⟨b1, b2⟩ := m_areBoth T x y
  rcases c_harmOf T x with ⟨h, h1, h2, h3, h4⟩ | ⟨h1, h2⟩
  · rw [h4, Option.bind_some]
    rcases c_layerOf T y with ⟨l, l1, l2, l3, l4⟩ | ⟨l1, l2⟩
    · left
      refine ⟨rdL s.1 kc h l, rdL m km 0 (40 * h + l), ?_, ?_, (hk h l h1 l1).symm⟩
      · dsimp only [orThrow]
        rw [l4, Option.bind_some]
        dsimp only
        rw [inB_nI l1 (by omega), if_pos rfl, nI_clamp (by omega)]
      · rw [b1 h l h1 h2 h3 l1 l2 l3, Option.bind_some, if_neg (show ¬ (1 : Int32) = 0 by decide), h3, l3, L40, ix_add, inB_nI (by omega) (by omega), if_pos rfl, nI_clamp (by omega)]
        rfl
    · right
      refine ⟨0, 0, by omega, by decide, ?_, ?_⟩
      · dsimp only [orThrow]
        rw [l2]; rfl
      · rw [b2 (Or.inr l1)]; rfl
  · right
    refine ⟨0, 0, by omega, by decide, ?_, ?_⟩
    · rw [h2]; rfl
    · rw [b2 (Or.inl h1)]; rfl
theorem ask_took {s : tt_S3} {m : tt_St} {a : TS} {c : Nat} (T : TN s m a c) (x y : Int32) : ASKp id id (fT_took s x y) (fM_took m x y) s m k1 := ask_cell T x y 10 21 (fun h l hh hl => (T.R.H h hh).took l hl)
theorem ask_hole {s : tt_S3} {m : tt_St} {a : TS} {c : Nat} (T : TN s m a c) (x y : Int32) : ASKp id id (fT_hole s x y) (fM_hole m x y) s m k1 := ask_cell T x y 11 22 (fun h l hh hl => (T.R.H h hh).thr l hl)
theorem ask_moved {s : tt_S3} {m : tt_St} {a : TS} {c : Nat} (T : TN s m a c) (x y : Int32) : ASKp id id (fT_moved s x y) (fM_moved m x y) s m k1 := ask_cell T x y 12 23 (fun h l hh hl => (T.R.H h hh).mv l hl)
