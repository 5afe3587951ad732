set_option linter.unusedVariables false
set_option linter.unusedSimpArgs false
set_option maxRecDepth 100000
/-! PLAIN LAW: events are gone over, in any order, each once -/
/-- n events: what they tell; no two make the same -/
def EVS (t0 : tt_St) (n : Nat) (kd : Nat → Nat) (x : Nat → Nat → Nat) : Prop :=
  (n ≤ 160) ∧
  (∀ e, e < n → MEv t0 e (kd e) (x e)) ∧
  (∀ e, e < n → VE (kd e) (x e)) ∧
  (∀ e e', e < n → e' < n → kd e = 0 → kd e' = 0 → x e 0 = x e' 0 → e = e') ∧
  (∀ e e', e < n → e' < n → kd e = 4 → kd e' = 4 → x e 0 = x e' 0 → e = e')
theorem EVS.n160 {t0 : tt_St} {n : Nat} {kd : Nat → Nat} {x : Nat → Nat → Nat} (self_ : EVS t0 n kd x) : n ≤ 160 := self_.1
theorem EVS.ev {t0 : tt_St} {n : Nat} {kd : Nat → Nat} {x : Nat → Nat → Nat} (self_ : EVS t0 n kd x) : ∀ e, e < n → MEv t0 e (kd e) (x e) := self_.2.1
theorem EVS.ve {t0 : tt_St} {n : Nat} {kd : Nat → Nat} {x : Nat → Nat → Nat} (self_ : EVS t0 n kd x) : ∀ e, e < n → VE (kd e) (x e) := self_.2.2.1
theorem EVS.pd {t0 : tt_St} {n : Nat} {kd : Nat → Nat} {x : Nat → Nat → Nat} (self_ : EVS t0 n kd x) : ∀ e e', e < n → e' < n → kd e = 0 → kd e' = 0 → x e 0 = x e' 0 → e = e' := self_.2.2.2.1
theorem EVS.hd {t0 : tt_St} {n : Nat} {kd : Nat → Nat} {x : Nat → Nat → Nat} (self_ : EVS t0 n kd x) : ∀ e e', e < n → e' < n → kd e = 4 → kd e' = 4 → x e 0 = x e' 0 → e = e' := self_.2.2.2.2
/-- a world and the model when events of D were gone over -/
def REP (t0 : tt_St) (n : Nat) (kd : Nat → Nat) (x : Nat → Nat → Nat) (D : Nat → Prop) (w : tt_St) (t : tt_St) (a : TS) (c : Nat) : Prop :=
  (RW w t a c d0) ∧
  (∀ k j, k = 1 ∨ k = 2 ∨ k = 3 ∨ k = 4 → rdI t k 0 j = rdI t0 k 0 j) ∧
  (rdI t 0 0 5 = rdI t0 0 0 5) ∧
  (∀ l, l < 40 → a.there l = true → ∃ e, e < n ∧ D e ∧ kd e = 0 ∧ x e 0 = l) ∧
  (∀ h, h < 24 → rdI t 7 0 h = 1 → ∃ e, e < n ∧ D e ∧ kd e = 4 ∧ x e 0 = h)
theorem REP.R {t0 : tt_St} {n : Nat} {kd : Nat → Nat} {x : Nat → Nat → Nat} {D : Nat → Prop} {w : tt_St} {t : tt_St} {a : TS} {c : Nat} (self_ : REP t0 n kd x D w t a c) : RW w t a c d0 := self_.1
theorem REP.cl {t0 : tt_St} {n : Nat} {kd : Nat → Nat} {x : Nat → Nat → Nat} {D : Nat → Prop} {w : tt_St} {t : tt_St} {a : TS} {c : Nat} (self_ : REP t0 n kd x D w t a c) : ∀ k j, k = 1 ∨ k = 2 ∨ k = 3 ∨ k = 4 → rdI t k 0 j = rdI t0 k 0 j := self_.2.1
theorem REP.f5 {t0 : tt_St} {n : Nat} {kd : Nat → Nat} {x : Nat → Nat → Nat} {D : Nat → Prop} {w : tt_St} {t : tt_St} {a : TS} {c : Nat} (self_ : REP t0 n kd x D w t a c) : rdI t 0 0 5 = rdI t0 0 0 5 := self_.2.2.1
theorem REP.pl {t0 : tt_St} {n : Nat} {kd : Nat → Nat} {x : Nat → Nat → Nat} {D : Nat → Prop} {w : tt_St} {t : tt_St} {a : TS} {c : Nat} (self_ : REP t0 n kd x D w t a c) : ∀ l, l < 40 → a.there l = true → ∃ e, e < n ∧ D e ∧ kd e = 0 ∧ x e 0 = l := self_.2.2.2.1
theorem REP.hm {t0 : tt_St} {n : Nat} {kd : Nat → Nat} {x : Nat → Nat → Nat} {D : Nat → Prop} {w : tt_St} {t : tt_St} {a : TS} {c : Nat} (self_ : REP t0 n kd x D w t a c) : ∀ h, h < 24 → rdI t 7 0 h = 1 → ∃ e, e < n ∧ D e ∧ kd e = 4 ∧ x e 0 = h := self_.2.2.2.2
theorem MEv.same {t t' : tt_St} {e kd : Nat} {x : Nat → Nat} (E : MEv t e kd x) (F : ∀ k j, k = 1 ∨ k = 2 ∨ k = 3 ∨ k = 4 → rdI t' k 0 j = rdI t k 0 j) : MEv t' e kd x :=
  ⟨E.he, (F 2 e (by omega)).trans E.k, fun h => ⟨(F 3 e (by omega)).trans (E.m h).1, fun j hj => (F 4 _ (by omega)).trans ((E.m h).2 j hj)⟩, fun h j hj => (F 4 _ (by omega)).trans (E.t h j hj)⟩
theorem REP.step {t0 : tt_St} {n : Nat} {kd : Nat → Nat} {x : Nat → Nat → Nat} (V : EVS t0 n kd x) {D : Nat → Prop} {w t : tt_St} {a : TS} {c : Nat} (P : REP t0 n kd x D w t a c) (hc : c ≤ 200) {e : Nat} (he : e < n) (hD : ¬ D e) :
    ∃ b w' t' a', onW (kd e) (x e) w = some (b, w') ∧ (b = 0 ∨ b = 1) ∧ fM_goes t (nI e) = some t' ∧ REP t0 n kd x (fun i => D i ∨ i = e) w' t' a' (c + 1) ∧ rdI t' 0 0 48 = rdI t 0 0 48 ∧ rdI t' 0 0 0 = rdI t 0 0 0 ∧ rdI t' 0 0 49 = (if b = 0 then rdI t 0 0 49 + 1 else rdI t 0 0 49) := by
  have f1 : kd e = 0 → a.there (x e 0) = false := fun k0 => by
    by_cases z : a.there (x e 0) = true
    · have hv := V.ve e he
      have hl : x e 0 < 40 := by
        unfold VE at hv
        omega
      obtain ⟨e', g1, g2, g3, g4⟩ := P.pl _ hl z
      have := V.pd e' e g1 he g3 k0 g4
      rw [this] at g2
      exact absurd g2 hD
    · simpa using z
  have f2 : kd e = 4 → rdI t 7 0 (x e 0) = 0 := fun k4 => by
    have hv := V.ve e he
    have hl : x e 0 < 24 := by
      unfold VE at hv
      omega
    rcases (P.R.H _ hl).i01 with z | z
    · exact z
    · obtain ⟨e', g1, g2, g3, g4⟩ := P.hm _ hl z
      have := V.hd e' e g1 he g3 k4 g4
      rw [this] at g2
      exact absurd g2 hD
  obtain ⟨b, w', t', a', g1, g2, g3, g4, g5, g6, g7, g8, g9⟩ := goes_rel P.R hc ((V.ev e he).same P.cl) (V.ve e he) f1 f2
  refine ⟨b, w', t', a', g1, g2, g3, ⟨g4, fun k j hk => (g5 k j hk).trans (P.cl k j hk), (g6 5 (by omega)).trans P.f5, fun l hl ht => ?_, fun h hh ht => ?_⟩, g6 48 (by omega), g6 0 (by omega), g7⟩
  · rcases g8 l hl ht with z | z
    · obtain ⟨e', q1, q2, q3⟩ := P.pl l hl z
      exact ⟨e', q1, Or.inl q2, q3⟩
    · exact ⟨e, he, Or.inr rfl, z.1, z.2.symm⟩
  · rcases g9 h hh ht with z | z
    · obtain ⟨e', q1, q2, q3⟩ := P.hm h hh z
      exact ⟨e', q1, Or.inl q2, q3⟩
    · exact ⟨e, he, Or.inr rfl, z.1, z.2.symm⟩
theorem REP.mono {t0 : tt_St} {n : Nat} {kd : Nat → Nat} {x : Nat → Nat → Nat} {D D' : Nat → Prop} {w t : tt_St} {a : TS} {c : Nat} (P : REP t0 n kd x D w t a c) (h : ∀ i, D i → D' i) : REP t0 n kd x D' w t a c :=
  ⟨P.R, P.cl, P.f5, fun l hl ht => by
    obtain ⟨e, q1, q2, q3⟩ := P.pl l hl ht
    exact ⟨e, q1, h e q2, q3⟩, fun l hl ht => by
    obtain ⟨e, q1, q2, q3⟩ := P.hm l hl ht
    exact ⟨e, q1, h e q2, q3⟩⟩
/-- both begin -/
theorem begins_rep {t0 : tt_St} {n : Nat} {kd : Nat → Nat} {x : Nat → Nat → Nat} {w : tt_St} (Q : ∃ n, QW w n) (h48 : rdI t0 0 0 48 = 0) : ∃ w' t', fW_begins w = some w' ∧ fM_begins t0 = some t' ∧ REP t0 n kd x (fun _ => False) w' t' a0 0 ∧ rdI t' 0 0 48 = 0 ∧ rdI t' 0 0 0 = rdI t0 0 0 0 ∧ rdI t' 0 0 49 = 0 := by
  obtain ⟨w', b1, b2, b3, b4⟩ := c_wbegins Q
  obtain ⟨t1, c1, c2, c3⟩ := m_clears (t := t0)
  have it : ∀ k i j, ¬ (k = 0 ∧ i = 0 ∧ j = 49) → rdI (wrI t1 0 0 49 0) k i j = rdI t1 k i j := fun k i j z => by rw [rdI_wrI, if_neg z]
  have c2' : BM (wrI t1 0 0 49 0) := ⟨fun l hl => by rw [it 6 0 l (by omega)]; exact c2.l6 l hl, fun l hl => by rw [it 12 0 l (by omega)]; exact c2.l12 l hl, fun l hl => c2.l15 l hl, fun h hh => by rw [it 7 0 h (by omega)]; exact c2.h7 h hh, fun h hh => by rw [it 19 0 h (by omega)]; exact c2.h19 h hh, fun h hh => c2.h20 h hh, fun h k j hh hk => c2.hz h k j hh hk, fun h j hh hj => by rw [it 24 0 j (by omega)]; exact c2.hi h j hh hj, fun i hi => by rw [it 27 0 i (by omega)]; exact c2.st i hi, fun i hi => by rw [it 28 0 i (by omega)]; exact c2.ca i hi, fun y hy => by rw [it 34 0 y (by omega)]; exact c2.many y hy, fun j j1 j2 => by rw [it 0 0 j (by omega)]; exact c2.fl j j1 j2⟩
  refine ⟨w', wrI t1 0 0 49 0, b1, ?_, ⟨begun_rw b2 c2' b4 ?_, fun k j hk => ?_, ?_, (fun l hl ht => by cases ht), fun h hh ht => ?_⟩, ?_, ?_, by rw [rdI_wrI, if_pos ⟨rfl, rfl, rfl⟩]⟩
  · unfold fM_begins
    rw [c1, Option.bind_some]
    rfl
  · rw [it 0 0 48 (by omega), c3.f.f 48 (by omega)]; exact h48
  · rw [it k 0 j (by omega)]; exact c3.f.k k j hk
  · rw [it 0 0 5 (by omega)]; exact c3.f.f 5 (by omega)
  · rw [it 7 0 h (by omega), c2.h7 h (by omega)] at ht
    exact absurd ht (by decide)
  · rw [it 0 0 48 (by omega), c3.f.f 48 (by omega)]; exact h48
  · rw [it 0 0 0 (by omega)]; exact c3.f.f 0 (by omega)
