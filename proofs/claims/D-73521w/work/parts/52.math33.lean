set_option linter.unusedVariables false
set_option linter.unusedSimpArgs false
set_option maxRecDepth 100000
/-! PLAIN LAW: what is asked: gates -/
/-- the component that is now and the model -/
def TN (s : tt_S3) (m : tt_St) (a : TS) (c : Nat) : Prop :=
  (RW s.1 m a c d0) ∧
  (∃ p, p ≤ 40 ∧ rdI s.1 0 0 21 = nI p ∧ ∀ l, l < 40 → (a.there l = true ↔ l < p)) ∧
  (∃ q, q ≤ 24 ∧ rdI s.1 0 0 22 = nI q ∧ ∀ h, h < 24 → (rdI m 7 0 h = 1 ↔ h < q)) ∧
  (∀ j, j < 3 → rdI s.2.2 9 0 j = rdI m 1 0 j) ∧
  (rdI s.2.2 0 0 7 = rdI m 0 0 5)
theorem TN.R {s : tt_S3} {m : tt_St} {a : TS} {c : Nat} (self_ : TN s m a c) : RW s.1 m a c d0 := self_.1
theorem TN.P {s : tt_S3} {m : tt_St} {a : TS} {c : Nat} (self_ : TN s m a c) : ∃ p, p ≤ 40 ∧ rdI s.1 0 0 21 = nI p ∧ ∀ l, l < 40 → (a.there l = true ↔ l < p) := self_.2.1
theorem TN.H {s : tt_S3} {m : tt_St} {a : TS} {c : Nat} (self_ : TN s m a c) : ∃ q, q ≤ 24 ∧ rdI s.1 0 0 22 = nI q ∧ ∀ h, h < 24 → (rdI m 7 0 h = 1 ↔ h < q) := self_.2.2.1
theorem TN.rf {s : tt_S3} {m : tt_St} {a : TS} {c : Nat} (self_ : TN s m a c) : ∀ j, j < 3 → rdI s.2.2 9 0 j = rdI m 1 0 j := self_.2.2.2.1
theorem TN.mn {s : tt_S3} {m : tt_St} {a : TS} {c : Nat} (self_ : TN s m a c) : rdI s.2.2 0 0 7 = rdI m 0 0 5 := self_.2.2.2.2
def thr0 (m : tt_St) : tt_St := wrI m 0 0 0 0
def rfM (m : tt_St) (code : Int32) (j : Nat) : tt_St := wrI (wrI m 0 0 0 code) 1 0 j (rdI m 1 0 j + 1)
def rfC (s : tt_S3) (j : Nat) : tt_S3 := (s.1, s.2.1, wrI s.2.2 9 0 j (rdI s.2.2 9 0 j + 1))
theorem RW.quiet {w t t' : tt_St} {a : TS} {c : Nat} {δ : Nat → Int64} (R : RW w t a c δ) (it : ∀ k i j, ¬ (k = 0 ∧ i = 0 ∧ j = 0) → ¬ k = 1 → rdI t' k i j = rdI t k i j) (lt : ∀ k i j, rdL t' k i j = rdL t k i j) : RW w t' a c δ := by
  refine R.upd (Nat.le_refl _) R.C ?_ R.O rfl rfl rfl rfl rfl (fun _ _ _ _ => rfl) lt (fun _ _ => rfl) (fun k j hk => it k 0 j (by omega) (by omega)) (fun i hi => ?_) ?_ rfl rfl R.q R.lk R.s0
  · have M := R.M
    have e := fun k i j (h1 : ¬ k = 0) (h2 : ¬ k = 1) => it k i j (fun q => h1 q.1) h2
    unfold MS at M ⊢
    simp only [it 0 0 29 (by omega) (by omega), it 0 0 30 (by omega) (by omega), it 0 0 31 (by omega) (by omega), it 0 0 32 (by omega) (by omega), e 6 _ _ (by omega) (by omega), e 8 _ _ (by omega) (by omega), e 9 _ _ (by omega) (by omega), e 10 _ _ (by omega) (by omega), e 11 _ _ (by omega) (by omega), e 12 _ _ (by omega) (by omega), e 13 _ _ (by omega) (by omega), e 14 _ _ (by omega) (by omega), e 27 _ _ (by omega) (by omega), e 33 _ _ (by omega) (by omega), e 34 _ _ (by omega) (by omega), e 35 _ _ (by omega) (by omega)]
    exact M
  · rw [it 28 0 i (by omega) (by omega)]; exact R.cash i hi
  · rw [it 0 0 48 (by omega) (by omega)]; exact R.fx
theorem TN.thr {s : tt_S3} {m : tt_St} {a : TS} {c : Nat} (T : TN s m a c) : TN s (thr0 m) a c := by
  have it : ∀ k i j, ¬ (k = 0 ∧ i = 0 ∧ j = 0) → rdI (thr0 m) k i j = rdI m k i j := fun k i j z => by unfold thr0; rw [rdI_wrI, if_neg z]
  refine ⟨T.R.quiet (fun k i j z _ => it k i j z) (fun _ _ _ => rfl), T.P, ?_, fun j hj => ?_, ?_⟩
  · obtain ⟨q, h1, h2, h3⟩ := T.H
    exact ⟨q, h1, h2, fun h hh => by rw [it 7 0 h (by omega)]; exact h3 h hh⟩
  · rw [it 1 0 j (by omega)]; exact T.rf j hj
  · rw [it 0 0 5 (by omega)]; exact T.mn
theorem TN.refuse {s : tt_S3} {m : tt_St} {a : TS} {c : Nat} (T : TN s m a c) (code : Int32) {j : Nat} (hj : j < 3) : TN (rfC s j) (rfM m code j) a c := by
  have it : ∀ k i x, ¬ (k = 0 ∧ i = 0 ∧ x = 0) → ¬ (k = 1 ∧ i = 0 ∧ x = j) → rdI (rfM m code j) k i x = rdI m k i x := fun k i x z1 z2 => by unfold rfM; rw [rdI_wrI, if_neg z2, rdI_wrI, if_neg z1]
  refine ⟨T.R.quiet (fun k i x z1 z2 => it k i x z1 (by omega)) (fun _ _ _ => rfl), T.P, ?_, fun x hx => ?_, ?_⟩
  · obtain ⟨q, h1, h2, h3⟩ := T.H
    exact ⟨q, h1, h2, fun h hh => by rw [it 7 0 h (by omega) (by omega)]; exact h3 h hh⟩
  · have h := T.rf x hx
    show rdI (wrI s.2.2 9 0 j (rdI s.2.2 9 0 j + 1)) 9 0 x = rdI (wrI (wrI m 0 0 0 code) 1 0 j (rdI m 1 0 j + 1)) 1 0 x
    rw [rdI_wrI, rdI_wrI]
    by_cases e : x = j
    · subst e
      rw [if_pos ⟨rfl, rfl, rfl⟩, if_pos ⟨rfl, rfl, rfl⟩, h]
    · rw [if_neg (fun z => e z.2.2), if_neg (fun z => e z.2.2), rdI_wrI, if_neg (by omega)]; exact h
  · rw [it 0 0 5 (by omega) (by omega)]
    show rdI (wrI s.2.2 9 0 j (rdI s.2.2 9 0 j + 1)) 0 0 7 = _
    rw [rdI_wrI, if_neg (by omega)]; exact T.mn
/-- the model's gate -/
theorem m_needs_t {m : tt_St} {b code : Int32} {j : Nat} (h0 : rdI m 0 0 0 = 0) (hb : ¬ b = 0) : fM_needs m b code (nI j) = some (1, m) := by
  unfold fM_needs
  rw [if_neg hb, Option.bind_some, if_pos h0]
theorem m_needs_f {m : tt_St} {code : Int32} {j : Nat} (h0 : rdI m 0 0 0 = 0) (hc : ¬ code = 0) (hj : j < 3) : fM_needs m 0 code (nI j) = some (0, rfM m code j) := by
  unfold fM_needs
  dsimp only [nm]
  rw [if_pos rfl, if_pos h0, inB_nI hj (by omega), if_pos rfl, nI_clamp (by omega), Option.bind_some]
  have e1 : rdI (wrI m 0 0 0 code) 1 0 j = rdI m 1 0 j := by rw [rdI_wrI, if_neg (by omega)]
  have e2 : rdI (wrI (wrI m 0 0 0 code) 1 0 j (rdI (wrI m 0 0 0 code) 1 0 j + 1)) 0 0 0 = code := by rw [rdI_wrI, if_neg (by omega), rdI_wrI, if_pos ⟨rfl, rfl, rfl⟩]
  rw [e2, if_neg hc, e1]
  rfl
theorem m_within (x lo hi : Int64) : fM_within x lo hi = some (if lo ≤ x ∧ x ≤ hi then 1 else 0) := by
  unfold fM_within
  by_cases h1 : x < lo
  · rw [if_pos h1, if_neg (fun z => by have := i64_le.mp z.1; have := i64_lt.mp h1; omega)]
  · rw [if_neg h1]
    by_cases h2 : hi < x
    · rw [if_pos h2, if_neg (fun z => by have := i64_le.mp z.2; have := i64_lt.mp h2; omega)]
    · rw [if_neg h2, if_pos ⟨i64_le.mpr (by have := mt i64_lt.mpr h1; omega), i64_le.mpr (by have := mt i64_lt.mpr h2; omega)⟩]
/-- the component's gates -/
theorem c_within (s : tt_S3) (x lo hi : Int32) : fT_within s x lo hi = some (if lo ≤ x ∧ x ≤ hi then .inl s else .inr (1, rfC s 1)) := by
  unfold fT_within
  have fin : ((some (.inl ()) : Option (Unit ⊕ (tt_S3 ⊕ (Nat × tt_S3)))).bind fun q_t1 => orRet q_t1 fun t1 => if inB (1 : Int32) 3 then nm (s.1, s.2.1, wrI s.2.2 9 0 (1 : Int32).toNatClampNeg ((rdI s.2.2 9 0 (1 : Int32).toNatClampNeg) + (1 : Int32))) fun s5 => some (.inr (1, s5)) else none) = some (.inr (1, rfC s 1)) := by
    rfl
  by_cases h1 : x < lo
  · rw [if_pos h1, fin, if_neg (fun z => by have := i32_le.mp z.1; have := i32_lt.mp h1; omega)]
  · rw [if_neg h1]
    by_cases h2 : hi < x
    · rw [if_pos h2, fin, if_neg (fun z => by have := i32_le.mp z.2; have := i32_lt.mp h2; omega)]
    · have hc : lo ≤ x ∧ x ≤ hi := ⟨i32_le.mpr (by have := mt i32_lt.mpr h1; omega), i32_le.mpr (by have := mt i32_lt.mpr h2; omega)⟩
      rw [if_neg h2, if_pos hc]
      rfl
theorem c_oneOf (s : tt_S3) (x n : Int32) : fT_oneOf s x n = some (if 0 ≤ x ∧ x < n then .inl s else .inr (0, rfC s 0)) := by
  unfold fT_oneOf
  have fin : ((some (.inl ()) : Option (Unit ⊕ (tt_S3 ⊕ (Nat × tt_S3)))).bind fun q_t1 => orRet q_t1 fun t1 => if inB (0 : Int32) 3 then nm (s.1, s.2.1, wrI s.2.2 9 0 (0 : Int32).toNatClampNeg ((rdI s.2.2 9 0 (0 : Int32).toNatClampNeg) + (1 : Int32))) fun s5 => some (.inr (0, s5)) else none) = some (.inr (0, rfC s 0)) := by
    rfl
  by_cases h1 : x < 0
  · rw [if_pos h1, fin, if_neg (fun z => by have := i32_le.mp z.1; have := i32_lt.mp h1; omega)]
  · rw [if_neg h1]
    by_cases h2 : n ≤ x
    · rw [if_pos h2, fin, if_neg (fun z => by have := i32_lt.mp z.2; have := i32_le.mp h2; omega)]
    · have hc : 0 ≤ x ∧ x < n := ⟨i32_le.mpr (by have := mt i32_lt.mpr h1; omega), i32_lt.mpr (by have := mt i32_le.mpr h2; omega)⟩
      rw [if_neg h2, if_pos hc]
      rfl
/-- an int between bounds that aren't negative is a number -/
theorem i32_nat {x : Int32} {n : Nat} (h0 : 0 ≤ x) (hn : x < nI n) (hb : n < 2 ^ 31) : ∃ j, j < n ∧ x = nI j := by
  have h1 := i32_le.mp h0
  have h2 := i32_lt.mp hn
  rw [nI_toInt hb] at h2
  rw [i32_0] at h1
  refine ⟨x.toInt.toNat, by omega, i32_ext ?_⟩
  rw [nI_toInt (by omega)]
  omega
/-- one of the layers: both gates -/
theorem c_layerOf {s : tt_S3} {m : tt_St} {a : TS} {c : Nat} (T : TN s m a c) (x : Int32) : (∃ l, l < 40 ∧ a.there l = true ∧ x = nI l ∧ fT_layerOf s x = some (.inl (l, s))) ∨ ((∀ l, l < 40 → x = nI l → a.there l = false) ∧ fT_layerOf s x = some (.inr (0, rfC s 0))) := by
  obtain ⟨p, p1, p2, p3⟩ := T.P
  unfold fT_layerOf
  rw [c_oneOf, p2, Option.bind_some]
  by_cases h : 0 ≤ x ∧ x < nI p
  · obtain ⟨l, l1, rfl⟩ := i32_nat h.1 h.2 (by omega)
    left
    refine ⟨l, by omega, (p3 l (by omega)).mpr l1, rfl, ?_⟩
    rw [if_pos h]
    show (if inB (nI l) 40 = true then _ else _) = _
    rw [inB_nI (by omega) (by omega), if_pos rfl, nI_clamp (by omega)]
  · right
    refine ⟨fun l hl e => ?_, by rw [if_neg h]; rfl⟩
    by_cases z : a.there l = true
    · have := (p3 l hl).mp z
      exact absurd ⟨by rw [e]; exact nI_pos' (by omega), by rw [e]; exact nI_lt this (by omega)⟩ h
    · simpa using z
theorem c_harmOf {s : tt_S3} {m : tt_St} {a : TS} {c : Nat} (T : TN s m a c) (x : Int32) : (∃ h, h < 24 ∧ rdI m 7 0 h = 1 ∧ x = nI h ∧ fT_harmOf s x = some (.inl (h, s))) ∨ ((∀ h, h < 24 → x = nI h → rdI m 7 0 h = 0) ∧ fT_harmOf s x = some (.inr (0, rfC s 0))) := by
  obtain ⟨p, p1, p2, p3⟩ := T.H
  unfold fT_harmOf
  rw [c_oneOf, p2, Option.bind_some]
  by_cases h : 0 ≤ x ∧ x < nI p
  · obtain ⟨l, l1, rfl⟩ := i32_nat h.1 h.2 (by omega)
    left
    refine ⟨l, by omega, (p3 l (by omega)).mpr l1, rfl, ?_⟩
    rw [if_pos h]
    show (if inB (nI l) 24 = true then _ else _) = _
    rw [inB_nI (by omega) (by omega), if_pos rfl, nI_clamp (by omega)]
  · right
    refine ⟨fun l hl e => ?_, by rw [if_neg h]; rfl⟩
    rcases (T.R.H l hl).i01 with z | z
    · exact z
    · have := (p3 l hl).mp z
      exact absurd ⟨by rw [e]; exact nI_pos' (by omega), by rw [e]; exact nI_lt this (by omega)⟩ h
