set_option linter.unusedVariables false
set_option linter.unusedSimpArgs false
set_option maxRecDepth 100000
/-! PLAIN LAW: any deed on a world, the model goes over its event -/
def onW (kd : Nat) (x : Nat → Nat) (w : tt_St) : Option (Int32 × tt_St) :=
  if kd = 0 then fW_places w (nI (x 0)) (nI (x 1)) (nI (x 2)) (nI (x 3)) (nI (x 4))
  else if kd = 1 then fW_signs w (nI (x 0)) (nI (x 1)) (nI (x 2))
  else if kd = 2 then fW_goesWithout w (nI (x 0))
  else if kd = 3 then fW_rulesBy w (nI (x 0)) (nI (x 1)) (nI (x 2))
  else if kd = 4 then fW_isHarmed w (nI (x 0)) (nI (x 1)) (nI (x 2)) (nI (x 3)) (nI (x 4))
  else if kd = 5 then fW_grows w (nI (x 0)) (nI (x 1))
  else if kd = 6 then fW_turns w (nI (x 0)) (nI 1) (nI (x 1))
  else if kd = 7 then fW_turns w (nI (x 0)) (nI 2) (nI 0)
  else fW_opensAgain w (nI (x 0))
/-- what an event may tell -/
def VE (kd : Nat) (x : Nat → Nat) : Prop :=
  (kd = 0 ∧ x 0 < 40 ∧ x 1 < 12 ∧ x 2 ≤ 900000000 ∧ 1 ≤ x 3 ∧ x 3 ≤ 100000000 ∧ 1 ≤ x 4 ∧ x 4 ≤ 4) ∨
  (kd = 1 ∧ x 0 < 40 ∧ x 1 < 10 ∧ 1 ≤ x 2 ∧ x 2 ≤ 10) ∨
  (kd = 2 ∧ x 0 < 12) ∨
  (kd = 3 ∧ x 0 ≤ 3 ∧ x 1 ≤ 3 ∧ x 2 ≤ 3) ∨
  (kd = 4 ∧ x 0 < 24 ∧ x 1 ≤ x 2 ∧ x 2 ≤ x 3 ∧ x 3 < 12 ∧ 1 ≤ x 4 ∧ x 4 ≤ 1000000000) ∨
  (kd = 5 ∧ x 0 < 24 ∧ 1 ≤ x 1 ∧ x 1 ≤ 1000000000) ∨
  (kd = 6 ∧ 1 ≤ x 0 ∧ x 0 < 10 ∧ x 1 ≤ 1000000000) ∨
  (kd = 7 ∧ 1 ≤ x 0 ∧ x 0 < 10) ∨
  (kd = 8 ∧ x 0 < 24)
/-- the model's event e tells it -/
def MEv (t : tt_St) (e : Nat) (kd : Nat) (x : Nat → Nat) : Prop :=
  (e < 160) ∧
  (rdI t 2 0 e = nI kd) ∧
  (kd = 0 ∨ kd = 4 → rdI t 3 0 e = nI (x 0) ∧ ∀ j, j < 4 → rdI t 4 0 (4 * e + j) = nI (x (j + 1))) ∧
  (¬ (kd = 0 ∨ kd = 4) → ∀ j, j < 3 → rdI t 4 0 (4 * e + j) = nI (x j))
theorem MEv.he {t : tt_St} {e : Nat} {kd : Nat} {x : Nat → Nat} (self_ : MEv t e kd x) : e < 160 := self_.1
theorem MEv.k {t : tt_St} {e : Nat} {kd : Nat} {x : Nat → Nat} (self_ : MEv t e kd x) : rdI t 2 0 e = nI kd := self_.2.1
theorem MEv.m {t : tt_St} {e : Nat} {kd : Nat} {x : Nat → Nat} (self_ : MEv t e kd x) : kd = 0 ∨ kd = 4 → rdI t 3 0 e = nI (x 0) ∧ ∀ j, j < 4 → rdI t 4 0 (4 * e + j) = nI (x (j + 1)) := self_.2.2.1
theorem MEv.t {t : tt_St} {e : Nat} {kd : Nat} {x : Nat → Nat} (self_ : MEv t e kd x) : ¬ (kd = 0 ∨ kd = 4) → ∀ j, j < 3 → rdI t 4 0 (4 * e + j) = nI (x j) := self_.2.2.2
theorem MEv.fe {t t' : tt_St} {e kd : Nat} {x : Nat → Nat} (E : MEv t e kd x) (F : FE t t') : MEv t' e kd x :=
  ⟨E.he, (F.k 2 e (by omega)).trans E.k, fun h => ⟨(F.k 3 e (by omega)).trans (E.m h).1, fun j hj => (F.k 4 _ (by omega)).trans ((E.m h).2 j hj)⟩, fun h j hj => (F.k 4 _ (by omega)).trans (E.t h j hj)⟩
theorem m_tell {t : tt_St} {e j : Nat} (he : e < 160) (hj : j < 4) : fM_tell t (nI e) (nI j) = some (rdI t 4 0 (4 * e + j)) := by
  unfold fM_tell
  rw [L4, ix_add, inB_nI (by omega) (by omega), if_pos rfl, nI_clamp (by omega)]
theorem m_tell0 {t : tt_St} {e : Nat} (he : e < 160) : fM_tell t (nI e) 0 = some (rdI t 4 0 (4 * e)) := m_tell (j := 0) he (by omega)
theorem m_tell1 {t : tt_St} {e : Nat} (he : e < 160) : fM_tell t (nI e) 1 = some (rdI t 4 0 (4 * e + 1)) := m_tell (j := 1) he (by omega)
theorem m_tell2 {t : tt_St} {e : Nat} (he : e < 160) : fM_tell t (nI e) 2 = some (rdI t 4 0 (4 * e + 2)) := m_tell (j := 2) he (by omega)
theorem DEED.mono {oc : Option (Int32 × tt_St)} {can : Option Int32} {doe : Option tt_St} {w t : tt_St} {a : TS} {c : Nat} {PL HM PL' HM' : Nat → Prop} (D : DEED oc can doe w t a c PL HM) (h1 : ∀ l, PL l ↔ PL' l) (h2 : ∀ l, HM l ↔ HM' l) : DEED oc can doe w t a c PL' HM' := by
  rcases D with D | ⟨w', t', a', g1, g2, g3, g4, g5, g6, g7, g8, g9⟩
  · exact Or.inl D
  · exact Or.inr ⟨w', t', a', g1, g2, g3, g4, g5, fun l hl ht => (g6 l hl ht).imp id (h1 l).mp, fun l hl ht => (g7 l hl ht).imp id (h2 l).mp, fun l hl ht => g8 l hl (ht.imp id (h1 l).mpr), fun l hl ht => g9 l hl (ht.imp id (h2 l).mpr)⟩
def PLof (kd : Nat) (x : Nat → Nat) : Nat → Prop := fun l => kd = 0 ∧ l = x 0
def HMof (kd : Nat) (x : Nat → Nat) : Nat → Prop := fun h => kd = 4 ∧ h = x 0
theorem deed_rel {w t : tt_St} {a : TS} {c e kd : Nat} {x : Nat → Nat} (R : RW w t a c d0) (hc : c ≤ 200) (E : MEv t e kd x) (V : VE kd x) (f1 : kd = 0 → a.there (x 0) = false) (f2 : kd = 4 → rdI t 7 0 (x 0) = 0) :
    DEED (onW kd x w) (fM_can t (nI e)) (fM_does t (nI e)) w t a c (PLof kd x) (HMof kd x) := by
  have he := E.he
  have ci : (nI e).toNatClampNeg = e := nI_clamp (by omega)
  have bi : inB (nI e) 160 = true := inB_nI he (by omega)
  have np : ∀ k, ¬ k = 0 → kd = k → ∀ l, noP l ↔ PLof kd x l := fun k h1 h2 l => ⟨fun z => z.elim, fun z => absurd z.1 (by omega)⟩
  have nh : ∀ k, ¬ k = 4 → kd = k → ∀ l, noP l ↔ HMof kd x l := fun k h1 h2 l => ⟨fun z => z.elim, fun z => absurd z.1 (by omega)⟩
  rcases V with ⟨rfl, v⟩ | ⟨rfl, v⟩ | ⟨rfl, v⟩ | ⟨rfl, v⟩ | ⟨rfl, v⟩ | ⟨rfl, v⟩ | ⟨rfl, v⟩ | ⟨rfl, v⟩ | ⟨rfl, v⟩
  · obtain ⟨m1, m2⟩ := E.m (Or.inl rfl)
    have D := places_rel (e := e) R v.1 v.2.1 v.2.2.1 v.2.2.2.1 v.2.2.2.2.1 v.2.2.2.2.2.1 v.2.2.2.2.2.2 (f1 rfl) he m1 (m2 0 (by omega)) (m2 1 (by omega)) (m2 2 (by omega)) (m2 3 (by omega))
    have hcan : fM_can t (nI e) = fM_canPlace t (nI (x 1)) (nI (x 2)) (nI (x 3)) := by
      unfold fM_can
      rw [bi, if_pos rfl, ci, E.k, if_pos (show nI 0 = 0 from rfl), m_tell0 he, m_tell1 he, m_tell2 he, Option.bind_some, Option.bind_some, Option.bind_some, m2 1 (by omega), m2 2 (by omega), show rdI t 4 0 (4 * e) = nI (x 1) from m2 0 (by omega)]
      cases fM_canPlace t (nI (x 1)) (nI (x (1 + 1))) (nI (x (2 + 1))) <;> rfl
    have hdo : fM_does t (nI e) = fM_places t (nI e) := by
      unfold fM_does
      rw [m_tell0 he, Option.bind_some, bi, if_pos rfl, ci, E.k, if_pos (show nI 0 = 0 from rfl)]
      cases fM_places t (nI e) <;> rfl
    rw [hcan, hdo]
    exact D.mono (fun l => ⟨fun z => ⟨rfl, z⟩, fun z => z.2⟩) (nh 0 (by omega) rfl)
  · have m := E.t (by omega)
    have m0 : rdI t 4 0 (4 * e) = nI (x 0) := m 0 (by omega)
    have D := signs_rel R v.1 v.2.1 v.2.2.1 v.2.2.2
    have hcan : fM_can t (nI e) = fM_canSign t (nI (x 0)) (nI (x 1)) (nI (x 2)) := by
      unfold fM_can
      rw [bi, if_pos rfl, ci, E.k, if_neg (show ¬ nI 1 = 0 by decide), if_pos (show nI 1 = 1 from rfl), m_tell0 he, m_tell1 he, m_tell2 he, Option.bind_some, Option.bind_some, Option.bind_some, m 1 (by omega), m 2 (by omega), m0]
      cases fM_canSign t (nI (x 0)) (nI (x 1)) (nI (x 2)) <;> rfl
    have hdo : fM_does t (nI e) = fM_signs t (nI (x 0)) (nI (x 1)) (nI (x 2)) := by
      unfold fM_does
      rw [m_tell0 he, Option.bind_some, bi, if_pos rfl, ci, E.k, if_neg (show ¬ nI 1 = 0 by decide), if_pos (show nI 1 = 1 from rfl), m_tell1 he, m_tell2 he, Option.bind_some, Option.bind_some, m 1 (by omega), m 2 (by omega), m0]
      cases fM_signs t (nI (x 0)) (nI (x 1)) (nI (x 2)) <;> rfl
    rw [hcan, hdo]
    exact D.mono (np 1 (by omega) rfl) (nh 1 (by omega) rfl)
  · have m := E.t (by omega)
    have m0 : rdI t 4 0 (4 * e) = nI (x 0) := m 0 (by omega)
    have D := lack_rel R v
    have hcan : fM_can t (nI e) = ((fM_isLacking t (nI (x 0))).bind fun r14 => if r14 = 0 then (fM_isGap t (nI (x 0))).bind fun r17 => if r17 = 0 then some (0 : Int32) else some (1 : Int32) else some (0 : Int32)) := by
      unfold fM_can
      rw [bi, if_pos rfl, ci, E.k, if_neg (show ¬ nI 2 = 0 by decide), if_neg (show ¬ nI 2 = 1 by decide), if_pos (show nI 2 = 2 from rfl), m_tell0 he, Option.bind_some, m0]
      simp only [Option.bind_some]
    have hdo : fM_does t (nI e) = some (wrI t 0 0 29 ((rdI t 0 0 29) ||| ((1 : Int32) <<< (nI (x 0) &&& 31)))) := by
      unfold fM_does
      dsimp only [nm]
      rw [m_tell0 he, Option.bind_some, bi, if_pos rfl, ci, E.k, if_neg (show ¬ nI 2 = 0 by decide), if_neg (show ¬ nI 2 = 1 by decide), if_pos (show nI 2 = 2 from rfl), m0]
    rw [hcan, hdo]
    exact D.mono (np 2 (by omega) rfl) (nh 2 (by omega) rfl)
  · have m := E.t (by omega)
    have m0 : rdI t 4 0 (4 * e) = nI (x 0) := m 0 (by omega)
    have D := rules_rel R v.1 v.2.1 v.2.2
    have hcan : fM_can t (nI e) = some 1 := by
      unfold fM_can
      rw [bi, if_pos rfl, ci, E.k, if_neg (show ¬ nI 3 = 0 by decide), if_neg (show ¬ nI 3 = 1 by decide), if_neg (show ¬ nI 3 = 2 by decide), if_pos (show nI 3 = 3 from rfl)]
    have hdo : fM_does t (nI e) = (if (rdI t 0 0 48) = 0 then (fM_rulesAre t (nI (x 0)) (nI (x 1)) (nI (x 2))).bind fun r15 => some r15 else some t) := by
      unfold fM_does
      rw [m_tell0 he, Option.bind_some, bi, if_pos rfl, ci, E.k, if_neg (show ¬ nI 3 = 0 by decide), if_neg (show ¬ nI 3 = 1 by decide), if_neg (show ¬ nI 3 = 2 by decide), if_pos (show nI 3 = 3 from rfl), m_tell1 he, m_tell2 he, Option.bind_some, Option.bind_some, m 1 (by omega), m 2 (by omega), m0]
    rw [hcan, hdo]
    exact D.mono (np 3 (by omega) rfl) (nh 3 (by omega) rfl)
  · obtain ⟨m1, m2⟩ := E.m (Or.inr rfl)
    have D := isHarmed_rel (e := e) R hc v.1 v.2.1 v.2.2.1 v.2.2.2.1 v.2.2.2.2.1 v.2.2.2.2.2 (f2 rfl) he m1 (m2 0 (by omega)) (m2 1 (by omega)) (m2 2 (by omega)) (m2 3 (by omega))
    have hcan : fM_can t (nI e) = some 1 := by
      unfold fM_can
      rw [bi, if_pos rfl, ci, E.k, if_neg (show ¬ nI 4 = 0 by decide), if_neg (show ¬ nI 4 = 1 by decide), if_neg (show ¬ nI 4 = 2 by decide), if_neg (show ¬ nI 4 = 3 by decide), if_pos (show nI 4 = 4 from rfl)]
    have hdo : fM_does t (nI e) = fM_harms t (nI e) := by
      unfold fM_does
      rw [m_tell0 he, Option.bind_some, bi, if_pos rfl, ci, E.k, if_neg (show ¬ nI 4 = 0 by decide), if_neg (show ¬ nI 4 = 1 by decide), if_neg (show ¬ nI 4 = 2 by decide), if_neg (show ¬ nI 4 = 3 by decide), if_pos (show nI 4 = 4 from rfl)]
      cases fM_harms t (nI e) <;> rfl
    rw [hcan, hdo]
    exact D.mono (np 4 (by omega) rfl) (fun l => ⟨fun z => ⟨rfl, z⟩, fun z => z.2⟩)
  · have m := E.t (by omega)
    have m0 : rdI t 4 0 (4 * e) = nI (x 0) := m 0 (by omega)
    have D := grows_rel R hc v.1 v.2.1 v.2.2
    have hcan : fM_can t (nI e) = (if zb (rdI t 7 0 (x 0)) then some (rdI t 7 0 (x 0)) else none) := by
      unfold fM_can
      rw [bi, if_pos rfl, ci, E.k, if_neg (show ¬ nI 5 = 0 by decide), if_neg (show ¬ nI 5 = 1 by decide), if_neg (show ¬ nI 5 = 2 by decide), if_neg (show ¬ nI 5 = 3 by decide), if_neg (show ¬ nI 5 = 4 by decide), if_pos (show nI 5 = 5 from rfl), m_tell0 he, Option.bind_some, m0, inB_nI (show x 0 < 25 by omega) (by omega), if_pos rfl, nI_clamp (by omega)]
    have hdo : fM_does t (nI e) = fM_grows t (nI (x 0)) (nI (x 1)) := by
      unfold fM_does
      rw [m_tell0 he, Option.bind_some, bi, if_pos rfl, ci, E.k, if_neg (show ¬ nI 5 = 0 by decide), if_neg (show ¬ nI 5 = 1 by decide), if_neg (show ¬ nI 5 = 2 by decide), if_neg (show ¬ nI 5 = 3 by decide), if_neg (show ¬ nI 5 = 4 by decide), if_pos (show nI 5 = 5 from rfl), m_tell1 he, Option.bind_some, m 1 (by omega), m0]
      cases fM_grows t (nI (x 0)) (nI (x 1)) <;> rfl
    rw [hcan, hdo]
    exact D.mono (np 5 (by omega) rfl) (nh 5 (by omega) rfl)
  · have m := E.t (by omega)
    have m0 : rdI t 4 0 (4 * e) = nI (x 0) := m 0 (by omega)
    have D := turns_rel (t' := wrI (wrI t 27 0 (x 0) 1) 28 0 (x 0) (nI (x 1))) (to := 1) (s := x 1) R v.1 v.2.1 (Or.inl rfl) (by omega) (fun _ _ _ => rfl) (fun k i j z => by rw [rdI_wrI, if_neg (by omega), rdI_wrI, if_neg (by omega)]) (fun j => by
      rw [rdI_wrI, if_neg (by omega), rdI_wrI]
      by_cases q : j = x 0
      · rw [if_pos ⟨rfl, rfl, q⟩, if_pos q]; rfl
      · rw [if_neg (fun z => q z.2.2), if_neg q]) (fun _ j => by
      rw [rdI_wrI]
      by_cases q : j = x 0
      · rw [if_pos ⟨rfl, rfl, q⟩, if_pos q]
      · rw [if_neg (fun z => q z.2.2), if_neg q, rdI_wrI, if_neg (by omega)])
    have hcan : fM_can t (nI e) = (if (rdI t 27 0 (x 0)) = 0 then some (1 : Int32) else some (0 : Int32)) := by
      unfold fM_can
      rw [bi, if_pos rfl, ci, E.k, if_neg (show ¬ nI 6 = 0 by decide), if_neg (show ¬ nI 6 = 1 by decide), if_neg (show ¬ nI 6 = 2 by decide), if_neg (show ¬ nI 6 = 3 by decide), if_neg (show ¬ nI 6 = 4 by decide), if_neg (show ¬ nI 6 = 5 by decide), if_pos (show nI 6 = 6 from rfl), m_tell0 he, Option.bind_some, m0, inB_nI v.2.1 (by omega), if_pos rfl, nI_clamp (by omega)]
    have hdo : fM_does t (nI e) = some (wrI (wrI t 27 0 (x 0) 1) 28 0 (x 0) (nI (x 1))) := by
      unfold fM_does
      dsimp only [nm]
      rw [m_tell0 he, Option.bind_some, bi, if_pos rfl, ci, E.k, if_neg (show ¬ nI 6 = 0 by decide), if_neg (show ¬ nI 6 = 1 by decide), if_neg (show ¬ nI 6 = 2 by decide), if_neg (show ¬ nI 6 = 3 by decide), if_neg (show ¬ nI 6 = 4 by decide), if_neg (show ¬ nI 6 = 5 by decide), if_pos (show nI 6 = 6 from rfl), m0, inB_nI v.2.1 (by omega), if_pos rfl, nI_clamp (show x 0 < 2 ^ 31 by omega), m_tell1 he, Option.bind_some, rdI_wrI, if_neg (by omega), m 1 (by omega)]
    rw [hcan, hdo]
    exact D.mono (np 6 (by omega) rfl) (nh 6 (by omega) rfl)
  · have m := E.t (by omega)
    have m0 : rdI t 4 0 (4 * e) = nI (x 0) := m 0 (by omega)
    have D := turns_rel (t' := wrI t 27 0 (x 0) 2) (to := 2) (s := 0) R v.1 v.2 (Or.inr rfl) (by omega) (fun _ _ _ => rfl) (fun k i j z => by rw [rdI_wrI, if_neg (by omega)]) (fun j => by
      rw [rdI_wrI]
      by_cases q : j = x 0
      · rw [if_pos ⟨rfl, rfl, q⟩, if_pos q]; rfl
      · rw [if_neg (fun z => q z.2.2), if_neg q]) (fun h0 j => by
      rw [rdI_wrI, if_neg (by omega)]
      by_cases q : j = x 0
      · rw [if_pos q, q, (R.cash (x 0) v.2).2 h0]; rfl
      · rw [if_neg q])
    have hcan : fM_can t (nI e) = (if (rdI t 27 0 (x 0)) = 0 then some (1 : Int32) else some (0 : Int32)) := by
      unfold fM_can
      rw [bi, if_pos rfl, ci, E.k, if_neg (show ¬ nI 7 = 0 by decide), if_neg (show ¬ nI 7 = 1 by decide), if_neg (show ¬ nI 7 = 2 by decide), if_neg (show ¬ nI 7 = 3 by decide), if_neg (show ¬ nI 7 = 4 by decide), if_neg (show ¬ nI 7 = 5 by decide), if_neg (show ¬ nI 7 = 6 by decide), if_pos (show nI 7 = 7 from rfl), m_tell0 he, Option.bind_some, m0, inB_nI v.2 (by omega), if_pos rfl, nI_clamp (by omega)]
    have hdo : fM_does t (nI e) = some (wrI t 27 0 (x 0) 2) := by
      unfold fM_does
      dsimp only [nm]
      rw [m_tell0 he, Option.bind_some, bi, if_pos rfl, ci, E.k, if_neg (show ¬ nI 7 = 0 by decide), if_neg (show ¬ nI 7 = 1 by decide), if_neg (show ¬ nI 7 = 2 by decide), if_neg (show ¬ nI 7 = 3 by decide), if_neg (show ¬ nI 7 = 4 by decide), if_neg (show ¬ nI 7 = 5 by decide), if_neg (show ¬ nI 7 = 6 by decide), if_pos (show nI 7 = 7 from rfl), m0, inB_nI v.2 (by omega), if_pos rfl, nI_clamp (show x 0 < 2 ^ 31 by omega)]
    rw [hcan, hdo]
    exact D.mono (np 7 (by omega) rfl) (nh 7 (by omega) rfl)
  · have m := E.t (by omega)
    have m0 : rdI t 4 0 (4 * e) = nI (x 0) := m 0 (by omega)
    have D := reopens_rel R hc v
    have hcan : fM_can t (nI e) = (if zb (rdI t 7 0 (x 0)) then some (rdI t 7 0 (x 0)) else none) := by
      unfold fM_can
      rw [bi, if_pos rfl, ci, E.k, if_neg (show ¬ nI 8 = 0 by decide), if_neg (show ¬ nI 8 = 1 by decide), if_neg (show ¬ nI 8 = 2 by decide), if_neg (show ¬ nI 8 = 3 by decide), if_neg (show ¬ nI 8 = 4 by decide), if_neg (show ¬ nI 8 = 5 by decide), if_neg (show ¬ nI 8 = 6 by decide), if_neg (show ¬ nI 8 = 7 by decide), if_pos (show nI 8 = 8 from rfl), m_tell0 he, Option.bind_some, m0, inB_nI (show x 0 < 25 by omega) (by omega), if_pos rfl, nI_clamp (by omega)]
    have hdo : fM_does t (nI e) = fM_reopens t (nI (x 0)) := by
      unfold fM_does
      rw [m_tell0 he, Option.bind_some, bi, if_pos rfl, ci, E.k, if_neg (show ¬ nI 8 = 0 by decide), if_neg (show ¬ nI 8 = 1 by decide), if_neg (show ¬ nI 8 = 2 by decide), if_neg (show ¬ nI 8 = 3 by decide), if_neg (show ¬ nI 8 = 4 by decide), if_neg (show ¬ nI 8 = 5 by decide), if_neg (show ¬ nI 8 = 6 by decide), if_neg (show ¬ nI 8 = 7 by decide), m0]
      cases fM_reopens t (nI (x 0)) <;> rfl
    rw [hcan, hdo]
    exact D.mono (np 8 (by omega) rfl) (nh 8 (by omega) rfl)
/-- the model goes over an event, a world has its deed done -/
theorem goes_rel {w t : tt_St} {a : TS} {c e kd : Nat} {x : Nat → Nat} (R : RW w t a c d0) (hc : c ≤ 200) (E : MEv t e kd x) (V : VE kd x) (f1 : kd = 0 → a.there (x 0) = false) (f2 : kd = 4 → rdI t 7 0 (x 0) = 0) :
    ∃ b w' t' a', onW kd x w = some (b, w') ∧ (b = 0 ∨ b = 1) ∧ fM_goes t (nI e) = some t' ∧ RW w' t' a' (c + 1) d0 ∧ (∀ k j, k = 1 ∨ k = 2 ∨ k = 3 ∨ k = 4 → rdI t' k 0 j = rdI t k 0 j) ∧ (∀ j, j = 0 ∨ j = 5 ∨ j = 48 → rdI t' 0 0 j = rdI t 0 0 j) ∧ rdI t' 0 0 49 = (if b = 0 then rdI t 0 0 49 + 1 else rdI t 0 0 49) ∧ (∀ l, l < 40 → a'.there l = true → a.there l = true ∨ PLof kd x l) ∧ (∀ h, h < 24 → rdI t' 7 0 h = 1 → rdI t 7 0 h = 1 ∨ HMof kd x h) := by
  rcases deed_rel R hc E V f1 f2 with ⟨g1, g2⟩ | ⟨w', t', a', g1, g2, g3, g4, g5, g6, g7, g8, g9⟩
  · have it : ∀ k i j, ¬ (k = 0 ∧ i = 0 ∧ j = 49) → rdI (wrI t 0 0 49 (rdI t 0 0 49 + 1)) k i j = rdI t k i j := fun k i j z => by rw [rdI_wrI, if_neg z]
    refine ⟨0, w, wrI t 0 0 49 (rdI t 0 0 49 + 1), a, g1, Or.inl rfl, ?_, ?_, fun k j hk => it k 0 j (by omega), fun j hj => it 0 0 j (by omega), ?_, fun l hl ht => Or.inl ht, fun h hh ht => Or.inl ?_⟩
    · unfold fM_goes
      rw [g2, Option.bind_some, if_pos rfl]
      rfl
    · refine R.upd (by omega) R.C ?_ R.O rfl rfl rfl rfl rfl (fun _ _ _ _ => rfl) (fun _ _ _ => rfl) (fun _ _ => rfl) (fun k j hk => it k 0 j (by omega)) (fun i hi => ?_) ?_ rfl rfl R.q R.lk R.s0
      · have M := R.M
        unfold MS at M ⊢
        simp only [it 0 0 29 (by omega), it 0 0 30 (by omega), it 0 0 31 (by omega), it 0 0 32 (by omega), it 6 _ _ (by omega), it 8 _ _ (by omega), it 9 _ _ (by omega), it 10 _ _ (by omega), it 11 _ _ (by omega), it 12 _ _ (by omega), it 13 _ _ (by omega), it 14 _ _ (by omega), it 27 _ _ (by omega), it 33 _ _ (by omega), it 34 _ _ (by omega), it 35 _ _ (by omega)]
        exact M
      · rw [it 28 0 i (by omega)]; exact R.cash i hi
      · rw [it 0 0 48 (by omega)]; exact R.fx
    · rw [rdI_wrI, if_pos ⟨rfl, rfl, rfl⟩, if_pos rfl]
    · rw [it 7 0 h (by omega)] at ht; exact ht
  · refine ⟨1, w', t', a', g1, Or.inr rfl, ?_, g4, g5.k, fun j hj => g5.f j (by omega), ?_, g6, g7⟩
    · unfold fM_goes
      rw [g2, Option.bind_some, if_neg (by decide), g3, Option.bind_some]
    · rw [if_neg (by decide)]; exact g5.f 49 (by omega)
