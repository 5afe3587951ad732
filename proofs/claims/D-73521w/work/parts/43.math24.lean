set_option linter.unusedVariables false
set_option linter.unusedSimpArgs false
set_option maxRecDepth 100000
/-! PLAIN LAW: reopened; all begins anew -/
theorem dm_iff {N h i c : Nat} (hi : i < N) : c = N * h + i ↔ c / N = h ∧ c % N = i := by
  constructor
  · intro e
    rw [e, Nat.mul_add_div (by omega), Nat.mul_add_mod, Nat.div_eq_of_lt hi, Nat.mod_eq_of_lt hi]
    exact ⟨rfl, rfl⟩
  · rintro ⟨e1, e2⟩
    rw [← e1, ← e2]
    exact (Nat.div_add_mod c N).symm
theorem zloopL {u : tt_St} {k N h : Nat} {body : Int32 × tt_St → Option ((Int32 × tt_St) ⊕ (Int32 × tt_St))} (h0 : 0 < N) (hN : N < 1000) (hs : ∀ i v, i < N → body (nI i, v) = some (.inl (nI (i + 1), wrL v k 0 (N * h + i) 0))) (hx : ∀ v, body (nI N, v) = some (.inr (nI N, v))) :
    ∃ u', itr body tt_fuel ((0 : Int32), u) = some (nI N, u') ∧ u'.1 = u.1 ∧ u'.2.2 = u.2.2 ∧ ∀ a b c, rdL u' a b c = if a = k ∧ b = 0 ∧ c / N = h then 0 else rdL u a b c := by
  have hk_ := itr_inv (body := body) (fun i v => (nI i, v)) (fun i v => v.1 = u.1 ∧ v.2.2 = u.2.2 ∧ ∀ a b c, rdL v a b c = if a = k ∧ b = 0 ∧ c / N = h ∧ c % N < i then 0 else rdL u a b c) (fun b => ∃ v, b = (nI N, v) ∧ v.1 = u.1 ∧ v.2.2 = u.2.2 ∧ ∀ a b c, rdL v a b c = if a = k ∧ b = 0 ∧ c / N = h ∧ c % N < N then 0 else rdL u a b c) N u hN ⟨rfl, rfl, fun a b c => by rw [if_neg (by omega)]⟩ (fun i v hi hI => ?_) (fun v hI => ⟨_, hx v, v, rfl, hI⟩)
  · obtain ⟨b, b1, v, rfl, v1, v2, v3⟩ := hk_
    refine ⟨v, b1, v1, v2, fun a b c => ?_⟩
    have : c % N < N := Nat.mod_lt _ h0
    rw [v3]
    by_cases e : a = k ∧ b = 0 ∧ c / N = h
    · rw [if_pos e, if_pos ⟨e.1, e.2.1, e.2.2, this⟩]
    · rw [if_neg e, if_neg (fun q => e ⟨q.1, q.2.1, q.2.2.1⟩)]
  · obtain ⟨h1, h2, h3⟩ := hI
    refine ⟨_, hs i v hi, h1, h2, fun a b c => ?_⟩
    rw [rdL_wrL, h3]
    have dm := dm_iff (h := h) (c := c) hi
    by_cases e : a = k ∧ b = 0 ∧ c = N * h + i
    · rw [if_pos e, if_pos]
      have := dm.mp e.2.2
      exact ⟨e.1, e.2.1, this.1, by omega⟩
    · rw [if_neg e]
      by_cases e2 : a = k ∧ b = 0 ∧ c / N = h ∧ c % N < i
      · rw [if_pos e2, if_pos ⟨e2.1, e2.2.1, e2.2.2.1, by omega⟩]
      · rw [if_neg e2, if_neg]
        rintro ⟨q1, q2, q3, q4⟩
        by_cases z : c % N = i
        · exact e ⟨q1, q2, dm.mpr ⟨q3, z⟩⟩
        · exact e2 ⟨q1, q2, q3, by omega⟩
theorem zloopI {u : tt_St} {k N h : Nat} {body : Int32 × tt_St → Option ((Int32 × tt_St) ⊕ (Int32 × tt_St))} (h0 : 0 < N) (hN : N < 1000) (hs : ∀ i v, i < N → body (nI i, v) = some (.inl (nI (i + 1), wrI v k 0 (N * h + i) 0))) (hx : ∀ v, body (nI N, v) = some (.inr (nI N, v))) :
    ∃ u', itr body tt_fuel ((0 : Int32), u) = some (nI N, u') ∧ u'.2 = u.2 ∧ ∀ a b c, rdI u' a b c = if a = k ∧ b = 0 ∧ c / N = h then 0 else rdI u a b c := by
  have hk_ := itr_inv (body := body) (fun i v => (nI i, v)) (fun i v => v.2 = u.2 ∧ ∀ a b c, rdI v a b c = if a = k ∧ b = 0 ∧ c / N = h ∧ c % N < i then 0 else rdI u a b c) (fun b => ∃ v, b = (nI N, v) ∧ v.2 = u.2 ∧ ∀ a b c, rdI v a b c = if a = k ∧ b = 0 ∧ c / N = h ∧ c % N < N then 0 else rdI u a b c) N u hN ⟨rfl, fun a b c => by rw [if_neg (by omega)]⟩ (fun i v hi hI => ?_) (fun v hI => ⟨_, hx v, v, rfl, hI⟩)
  · obtain ⟨b, b1, v, rfl, v1, v3⟩ := hk_
    refine ⟨v, b1, v1, fun a b c => ?_⟩
    have : c % N < N := Nat.mod_lt _ h0
    rw [v3]
    by_cases e : a = k ∧ b = 0 ∧ c / N = h
    · rw [if_pos e, if_pos ⟨e.1, e.2.1, e.2.2, this⟩]
    · rw [if_neg e, if_neg (fun q => e ⟨q.1, q.2.1, q.2.2.1⟩)]
  · obtain ⟨h1, h3⟩ := hI
    refine ⟨_, hs i v hi, h1, fun a b c => ?_⟩
    rw [rdI_wrI, h3]
    have dm := dm_iff (h := h) (c := c) hi
    by_cases e : a = k ∧ b = 0 ∧ c = N * h + i
    · rw [if_pos e, if_pos]
      have := dm.mp e.2.2
      exact ⟨e.1, e.2.1, this.1, by omega⟩
    · rw [if_neg e]
      by_cases e2 : a = k ∧ b = 0 ∧ c / N = h ∧ c % N < i
      · rw [if_pos e2, if_pos ⟨e2.1, e2.2.1, e2.2.2.1, by omega⟩]
      · rw [if_neg e2, if_neg]
        rintro ⟨q1, q2, q3, q4⟩
        by_cases z : c % N = i
        · exact e ⟨q1, q2, dm.mpr ⟨q3, z⟩⟩
        · exact e2 ⟨q1, q2, q3, by omega⟩
theorem ptE {a b c i h : Nat} {v : Int64} (hi : i < 40) : (if a = 23 ∧ b = 0 ∧ c = 40 * h + i then 0 else if a = 22 ∧ b = 0 ∧ c = 40 * h + i then 0 else if a = 21 ∧ b = 0 ∧ c = 40 * h + i then 0 else if b = 0 ∧ (a = 21 ∨ a = 22 ∨ a = 23) ∧ c / 40 = h ∧ c % 40 < i then 0 else v) = if b = 0 ∧ (a = 21 ∨ a = 22 ∨ a = 23) ∧ c / 40 = h ∧ c % 40 < i + 1 then 0 else v := by
  repeat' split
  all_goals first
    | rfl
    | (exfalso; omega)
theorem m_clearsHarm {t : tt_St} {h : Nat} (hh : h < 25) : ∃ t', fM_clearsHarm t (nI h) = some t' ∧ t'.2.2 = t.2.2 ∧ (∀ a b c, rdL t' a b c = if b = 0 ∧ (((a = 21 ∨ a = 22 ∨ a = 23) ∧ c / 40 = h) ∨ (a = 25 ∧ c / 10 = h) ∨ (a = 26 ∧ c / 7 = h)) then 0 else rdL t a b c) ∧ ∀ a b c, rdI t' a b c = if a = 24 ∧ b = 0 ∧ c / 160 = h then 0 else rdI t a b c := by
  have hk_ := itr_inv (body := fM_clearsHarm_L2 (nI h)) (fun i v => (nI i, v)) (fun i v => v.1 = t.1 ∧ v.2.2 = t.2.2 ∧ ∀ a b c, rdL v a b c = if b = 0 ∧ (a = 21 ∨ a = 22 ∨ a = 23) ∧ c / 40 = h ∧ c % 40 < i then 0 else rdL t a b c) (fun b => ∃ v, b = (nI 40, v) ∧ v.1 = t.1 ∧ v.2.2 = t.2.2 ∧ ∀ a b c, rdL v a b c = if b = 0 ∧ (a = 21 ∨ a = 22 ∨ a = 23) ∧ c / 40 = h ∧ c % 40 < 40 then 0 else rdL t a b c) 40 t (by omega) ⟨rfl, rfl, fun a b c => by rw [if_neg (by omega)]⟩ (fun i v hi hI => ?_) (fun v hI => ?_)
  · obtain ⟨b, b1, t1, rfl, r1, r2, r3⟩ := hk_
    obtain ⟨t2, c1, c2, c3⟩ := zloopI (u := t1) (k := 24) (N := 160) (h := h) (body := fM_clearsHarm_L52 (nI h)) (by omega) (by omega) (fun i v hi => by
      unfold fM_clearsHarm_L52
      dsimp only [nm]
      rw [L160, if_neg (nI_ge hi (by omega)), ix_add, inB_nI (by omega) (by omega), if_pos rfl, nI_clamp (by omega), nI_1]) (fun v => by
      unfold fM_clearsHarm_L52
      rw [L160, if_pos (nI_le (Nat.le_refl _) (by omega))])
    obtain ⟨t3, d1, d2, d3, d4⟩ := zloopL (u := t2) (k := 25) (N := 10) (h := h) (body := fM_clearsHarm_L80 (nI h)) (by omega) (by omega) (fun i v hi => by
      unfold fM_clearsHarm_L80
      dsimp only [nm]
      rw [L10, if_neg (nI_ge hi (by omega)), ix_add, inB_nI (by omega) (by omega), if_pos rfl, nI_clamp (by omega), nI_1]) (fun v => by
      unfold fM_clearsHarm_L80
      rw [L10, if_pos (nI_le (Nat.le_refl _) (by omega))])
    obtain ⟨t4, e1, e2, e3, e4⟩ := zloopL (u := t3) (k := 26) (N := 7) (h := h) (body := fM_clearsHarm_L106 (nI h)) (by omega) (by omega) (fun i v hi => by
      unfold fM_clearsHarm_L106
      dsimp only [nm]
      rw [L7, if_neg (nI_ge hi (by omega)), ix_add, inB_nI (by omega) (by omega), if_pos rfl, nI_clamp (by omega), nI_1]) (fun v => by
      unfold fM_clearsHarm_L106
      rw [L7, if_pos (nI_le (Nat.le_refl _) (by omega))])
    refine ⟨t4, ?_, ?_, fun a b c => ?_, fun a b c => ?_⟩
    · unfold fM_clearsHarm
      rw [show ((0 : Int32), t) = (nI 0, t) from rfl, b1]
      simp only [Option.bind_some]
      rw [c1]
      simp only [Option.bind_some]
      rw [d1]
      simp only [Option.bind_some]
      rw [e1]
      rfl
    · rw [e3, d3, c2, r2]
    · have l2 : rdL t2 a b c = rdL t1 a b c := by unfold rdL; rw [c2]
      have q2 : c % 40 < 40 := Nat.mod_lt _ (by omega)
      rw [e4, d4, l2, r3]
      clear e4 d4 r3 c3 b1 c1 d1 e1 l2 r1 r2 c2 d2 d3 e2 e3
      repeat' split
      all_goals first
        | rfl
        | (exfalso; omega)
    · rw [rdI_1 e2, rdI_1 d2, c3, rdI_1 r1]
  · obtain ⟨h1, h2, h3⟩ := hI
    refine ⟨wrL (wrL (wrL v 21 0 (40 * h + i) 0) 22 0 (40 * h + i) 0) 23 0 (40 * h + i) 0, ?_, h1, h2, fun a b c => ?_⟩
    · unfold fM_clearsHarm_L2
      dsimp only [nm]
      rw [L40, if_neg (nI_ge hi (by omega)), ix_add, inB_nI (by omega) (by omega), if_pos rfl, nI_clamp (by omega), nI_1]
    · rw [rdL_wrL, rdL_wrL, rdL_wrL, h3]
      exact ptE hi
  · refine ⟨_, ?_, v, rfl, hI⟩
    unfold fM_clearsHarm_L2
    rw [L40, if_pos (nI_le (Nat.le_refl _) (by omega))]
theorem m_reuse {t : tt_St} {h : Nat} (hh : h < 25) : itr (fM_reopens_L2 (nI h)) tt_fuel ((0 : Int32), t) = some (nI 40, fillL t 15 0 (fun l => rdL t 15 0 l - rdL t 21 0 (40 * h + l)) 40) := by
  refine itr_run (fun i => (nI i, fillL t 15 0 (fun l => rdL t 15 0 l - rdL t 21 0 (40 * h + l)) i)) 40 _ (by omega) (fun i hi => ?_) ?_
  · unfold fM_reopens_L2
    dsimp only [nm]
    rw [L40, if_neg (nI_ge hi (by omega)), inB_nI hi (by omega), if_pos rfl, ix_add, inB_nI (by omega) (by omega), if_pos rfl, nI_clamp (show i < 2 ^ 31 by omega), nI_clamp (by omega), nI_1, fillL_rd, if_neg (by omega), fillL_rd, if_neg (by omega)]
    rfl
  · unfold fM_reopens_L2
    rw [L40, if_pos (nI_le (Nat.le_refl _) (by omega))]
