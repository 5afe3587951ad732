set_option linter.unusedVariables false
set_option linter.unusedSimpArgs false
set_option maxRecDepth 100000
/-! PLAIN LAW: one tower after another, both sides -/
/-- of the years in line those from the j-th on are left -/
def SJ (κ : Nat → Int) (S : Nat → Bool) (j y : Nat) : Bool := S y && decide (j ≤ ahd κ S y)
theorem SJ_t {κ : Nat → Int} {S : Nat → Bool} {j y : Nat} : SJ κ S j y = true ↔ S y = true ∧ j ≤ ahd κ S y := by unfold SJ; simp
def QP (κ : Nat → Int) (S : Nat → Bool) (j : Nat) (u : tt_St) : Prop := (∃ q n, QH u q n (SJ κ S j)) ∧ ∀ y, S y = true → ky u y = κ y
theorem QP.first {κ : Nat → Int} {S : Nat → Bool} (hi : ∀ a b, a < 12 → b < 12 → κ a = κ b → a = b) (hS : ∀ y, S y = true → y < 12) {j : Nat} {u : tt_St} {q : Nat → Nat} {n : Nat} (Q : QH u q (n + 1) (SJ κ S j)) (K : ∀ y, S y = true → ky u y = κ y) : S (q 0) = true ∧ ahd κ S (q 0) = j := by
  have h0 := SJ_t.mp (Q.en.inS 0 (by omega))
  refine ⟨h0.1, ahd_min hi h0.2 (fun y hy h1 h2 => ?_)⟩
  have := Q.min (SJ_t.mpr ⟨h1, h2⟩)
  rw [K _ h0.1, K _ h1] at this
  exact this
theorem QP.poll {κ : Nat → Int} {S : Nat → Bool} (hi : ∀ a b, a < 12 → b < 12 → κ a = κ b → a = b) (hS : ∀ y, S y = true → y < 12) {j m : Nat} {u : tt_St} (P : QP κ S j u) (h1 : S m = true) (h2 : ahd κ S m = j) : ∃ u', fQ_poll u = some (some m, u') ∧ QP κ S (j + 1) u' ∧ FQ u u' := by
  obtain ⟨⟨q, n, Q⟩, K⟩ := P
  obtain ⟨i, hi1, hi2⟩ := Q.en.sur m (SJ_t.mpr ⟨h1, by omega⟩)
  obtain ⟨n, rfl⟩ : ∃ k, n = k + 1 := ⟨n - 1, by omega⟩
  obtain ⟨g1, g2⟩ := QP.first hi hS Q K
  have e : q 0 = m := ahd_inj hi (hS _ g1) (hS _ h1) g1 h1 (by omega)
  obtain ⟨u', q', p1, p2, p3⟩ := q_poll Q
  refine ⟨u', by rw [p1, e], ⟨⟨q', n, p2.congr (fun y => ?_)⟩, fun y hy => by rw [p3.ky]; exact K y hy⟩, p3⟩
  rw [e]
  apply Bool.eq_iff_iff.mpr
  rw [SJ_t, Bool.and_eq_true, SJ_t]
  constructor
  · rintro ⟨a1, a2⟩
    refine ⟨⟨a1, by omega⟩, ?_⟩
    have : ¬ y = m := fun z => by rw [z] at a2; omega
    simp [this]
  · rintro ⟨⟨a1, a2⟩, a3⟩
    have : ¬ y = m := by simpa using a3
    refine ⟨a1, ?_⟩
    have : ¬ ahd κ S y = j := fun z => this (ahd_inj hi (hS _ a1) (hS _ h1) a1 h1 (by omega))
    omega
theorem QP.none {κ : Nat → Int} {S : Nat → Bool} (hi : ∀ a b, a < 12 → b < 12 → κ a = κ b → a = b) (hS : ∀ y, S y = true → y < 12) {j : Nat} {u : tt_St} (P : QP κ S j u) (h : ∀ y, y < 12 → S y = true → ¬ ahd κ S y = j) : fQ_poll u = some (none, u) ∧ QW u 0 := by
  obtain ⟨⟨q, n, Q⟩, K⟩ := P
  have : n = 0 := by
    by_cases z : n = 0
    · exact z
    · obtain ⟨n, rfl⟩ : ∃ k, n = k + 1 := ⟨n - 1, by omega⟩
      obtain ⟨g1, g2⟩ := QP.first hi hS Q K
      exact absurd g2 (h _ (hS _ g1) g1)
  subst this
  exact ⟨q_poll_nil Q, Q.w⟩
theorem QP.fr {κ : Nat → Int} {S : Nat → Bool} {j f : Nat} {u u' : tt_St} (P : QP κ S j u) (F : FrC0 f u u') : QP κ S j u' := by
  obtain ⟨⟨q, n, Q⟩, K⟩ := P
  have kk : ∀ y, ky u' y = ky u y := fun y => ky_ext2 (rdI_1 F.i _ _ _) (rdI_1 F.i _ _ _) (F.l 32 y 1 (by omega))
  exact ⟨⟨q, n, Q.ext (rdI_1 F.i _ _ _) (fun i => by unfold rdR; rw [F.r]) (fun y _ => kk y)⟩, fun y hy => by rw [kk]; exact K y hy⟩
theorem paysInFull_rel {w t : tt_St} {a : TS} (C : CS w a) (M : MS t a) (O : a.Ok) {h f fi la sh : Nat} (R : RF w t a h f) (hh : h < 25) (hf : 25 ≤ f) (H : HY w t h fi la sh) {off : Int32} (ho : offv fi la sh a.trig = off) (Q0 : ∃ n, QW w n) {A : Int64} (hA : 0 ≤ A.toInt) :
    ∃ fl w' t', fW_paysInFull w h A f = some (fl, w') ∧ fM_byFull t (nI h) A = some t' ∧ RF w' t' a h f ∧ GC f w w' ∧ GM h t t' ∧ (∀ j, rdL t' 39 0 j = rdL t 39 0 j) ∧ (∀ k i j, k = 8 ∨ k = 12 ∨ k = 13 → rdL w' k i j = rdL w k i j) ∧ (fl = 0 ∨ fl = 1) ∧ (fl = 0 → (∀ j, rdL w' 10 f j = rdL w 10 f j) ∧ ∀ y, y < 12 → hasB a off y = false) := by
  obtain ⟨n0, Q0⟩ := Q0
  obtain ⟨w1, q, n, l1, l2, l3, l4⟩ := c_lines (f := f) C O H ho Q0
  obtain ⟨r1, N, ord, t1, m1, m2, m3, m4, m5, m6⟩ := m_order M O R hh H ho
  have hi := rkey_inj (a := a) (V := room w a h f)
  have hS : ∀ y, hsB a off y = true → y < 12 := fun y hy => hsB_lt hy
  have K1 : ∀ y, hsB a off y = true → ky w1 y = rkey a (room w a h f) y := fun y hy => l4 y (hS y hy) (by rw [← hsB_eq (hS y hy)]; exact hy)
  generalize rkey a (room w a h f) = κ at hi K1 m5 m6
  have P0 : QP κ (hsB a off) 0 w1 := ⟨⟨q, n, l2.congr (fun y => by unfold SJ; simp)⟩, K1⟩
  have nz : n = 0 ↔ N = 0 := by
    constructor
    · intro z
      by_cases hN : N = 0
      · exact hN
      · obtain ⟨i, hi, _⟩ := l2.en.sur _ (m5 0 (by omega)).2.1
        omega
    · intro z
      by_cases hn : n = 0
      · exact hn
      · obtain ⟨k, rfl⟩ : ∃ k, n = k + 1 := ⟨n - 1, by omega⟩
        obtain ⟨g1, g2⟩ := QP.first (j := 0) hi hS (l2.congr (fun y => by unfold SJ; simp)) K1
        exact absurd (g2.trans z.symm) (m6 _ (hS _ g1) g1)
  have poll : ∀ j u, j ≤ N → QP κ (hsB a off) j u → ∃ u', fQ_poll u = some (if j < N then some (ord j) else none, u') ∧ (j < N → QP κ (hsB a off) (j + 1) u') ∧ (j = N → QW u' 0) ∧ FQ u u' := by
    intro j u hj P
    by_cases hjN : j < N
    · obtain ⟨u', p1, p2, p3⟩ := P.poll hi hS (m5 j hjN).2.1 (m5 j hjN).2.2.1
      exact ⟨u', by rw [if_pos hjN]; exact p1, fun _ => p2, fun z => by omega, p3⟩
    · obtain ⟨p1, p2⟩ := P.none hi hS (by have : j = N := by omega
                                          rw [this]; exact m6)
      exact ⟨u, by rw [if_neg hjN]; exact p1, fun z => absurd z hjN, fun _ => p2, FQ.refl u⟩
  obtain ⟨w2, p1, p2, p3, p4⟩ := poll 0 w1 (by omega) P0
  have R2 : RF w2 t1 a h f := R.ext (fun k i j hk => by rw [p4.l, l3.l k i j (by omega)]) (fun k i j _ => m4.l k i j)
  have C2 : CS w2 a := (C.fi l3.i).fi p4.fl.i
  have M1 : MS t1 a := M.g (m4.gM (h := 0))
  have big : ∃ b b', itr (fW_paysInFull_L39 h f) tt_fuel (A, (if 0 < N then some (ord 0) else none), w2) = some b ∧ itr (fM_byFull_L47 (nI h) (nI N, -1, t1)) tt_fuel (A, (0 : Int32), t1) = some b' ∧ (b.1 = b'.1 ∧ RF b.2.2 b'.2.2 a h f ∧ QW b.2.2 0 ∧ (∀ k i j, k < 32 → rdI b.2.2 k i j = rdI w2 k i j) ∧ (∀ k i j, ¬ (i = f ∧ ((k = 9 ∧ j = 1) ∨ k = 10 ∨ k = 11)) → rdL b.2.2 k i j = rdL w2 k i j) ∧ FrM0 h t1 b'.2.2 ∧ (N = 0 → b.2.2 = w2)) := by
    refine itr_two (fun i u v => u.1 = v.1 ∧ v.2.1 = nI i ∧ u.2.1 = (if i < N then some (ord i) else none) ∧ 0 ≤ u.1.toInt ∧ RF u.2.2 v.2.2 a h f ∧ (i < N → QP κ (hsB a off) (i + 1) u.2.2) ∧ (i = N → QW u.2.2 0) ∧ (∀ k i j, k < 32 → rdI u.2.2 k i j = rdI w2 k i j) ∧ (∀ k i j, ¬ (i = f ∧ ((k = 9 ∧ j = 1) ∨ k = 10 ∨ k = 11)) → rdL u.2.2 k i j = rdL w2 k i j) ∧ FrM0 h t1 v.2.2 ∧ (N = 0 → u.2.2 = w2)) _ N (by omega) (fun i u v hi' hP => ?_) (fun u v hP => ?_) ⟨rfl, rfl, rfl, hA, R2, p2, fun z => p3 z, fun _ _ _ _ => rfl, fun _ _ _ _ => rfl, FrM0.refl _, fun _ => rfl⟩
    · obtain ⟨x, o, u⟩ := u
      obtain ⟨x', vi, v⟩ := v
      obtain ⟨g1, g2, g3, g4, g5, g6, g7, g8, g9, g10, g11⟩ := hP
      dsimp only at g1 g2 g3 g4 g5 g6 g7 g8 g9 g10 g11
      subst g1; subst g2
      rw [if_pos hi'] at g3
      subst g3
      obtain ⟨o1, o2, o3, o4⟩ := m5 i hi'
      obtain ⟨x2, u2, v2, f1, f2, f3, f4, f5, f6, f7⟩ := fills_rel (C2.fi g8) (M1.eqI g10.i) O g5 hh hf o1 g4
      obtain ⟨u3, s1, s2, s3, s4⟩ := poll (i + 1) u2 (by omega) ((g6 hi').fr f6)
      refine ⟨(x2, (if i + 1 < N then some (ord (i + 1)) else none), u3), (x2, nI (i + 1), v2), ?_, ?_, rfl, rfl, rfl, f4, ?_, s2, s3, fun k i j hk => ?_, fun k i j hk => ?_, g10.trans f7, fun z => by omega⟩
      · unfold fW_paysInFull_L39
        dsimp only
        rw [csO_some o1, f1]
        simp only [Option.bind_some]
        rw [s1]
        rfl
      · unfold fM_byFull_L47
        dsimp only
        rw [if_neg (nI_ge hi' (by omega)), inB_nI (by omega) (by omega), if_pos rfl, nI_clamp (by omega), rdI_1 g10.i, o4, f2]
        simp only [Option.bind_some]
        rw [nI_1]
      · exact f3.ext (fun k i j _ => s4.l k i j) (fun _ _ _ _ => rfl)
      · dsimp only
        rw [s4.i k i j (by omega), rdI_1 f6.i]; exact g8 k i j hk
      · dsimp only
        rw [s4.l, f6.l k i j hk]; exact g9 k i j hk
    · obtain ⟨x, o, u⟩ := u
      obtain ⟨x', vi, v⟩ := v
      obtain ⟨g1, g2, g3, g4, g5, g6, g7, g8, g9, g10, g11⟩ := hP
      dsimp only at g1 g2 g3 g4 g5 g6 g7 g8 g9 g10 g11
      subst g1; subst g2
      rw [if_neg (by omega)] at g3
      subst g3
      refine ⟨(x, none, u), (x, nI N, v), rfl, ?_, rfl, g5, g7 rfl, g8, g9, g10, g11⟩
      unfold fM_byFull_L47
      dsimp only
      rw [if_pos (nI_le (Nat.le_refl _) (by omega))]
  obtain ⟨⟨x, o, w3⟩, ⟨x', vi, t3⟩, b1, b2, b3, b4, b5, b6, b7, b8, b9⟩ := big
  dsimp only at b3 b4 b5 b6 b7 b8 b9
  subst b3
  have sz : rdI w1 34 0 1 = nI n := l2.sz
  have hn12 := l2.le
  have fin : ∀ (rr : Nat) (fl : Int32), (rr = 3 ∧ N = 0 ∧ fl = 0) ∨ (rr = 2 ∧ ¬ N = 0 ∧ fl = 1) → ∃ fl w' t', fW_paysInFull w h A f = some (fl, w') ∧ fM_byFull t (nI h) A = some t' ∧ RF w' t' a h f ∧ GC f w w' ∧ GM h t t' ∧ (∀ j, rdL t' 39 0 j = rdL t 39 0 j) ∧ (∀ k i j, k = 8 ∨ k = 12 ∨ k = 13 → rdL w' k i j = rdL w k i j) ∧ (fl = 0 ∨ fl = 1) ∧ (fl = 0 → (∀ j, rdL w' 10 f j = rdL w 10 f j) ∧ ∀ y, y < 12 → hasB a off y = false) := by
    intro rr fl hc
    have h7 : rr < 7 := by omega
    have e1 : (if nI n = 0 then (1 : Int32) else 0) = if fl = 0 then 1 else 0 := by
      rcases hc with ⟨_, z, e⟩ | ⟨_, z, e⟩
      · rw [nz.mpr z, e]; rfl
      · rw [e, if_neg (nI_ne0 (by omega) (by omega)), if_neg (by decide)]
    have e2 : (if (if fl = 0 then (1 : Int32) else 0) = 0 then (1 : Int32) else 0) = fl := by
      rcases hc with ⟨_, z, e⟩ | ⟨_, z, e⟩
      · rw [e]; decide
      · rw [e]; decide
    have e3 : (if fl = 0 then (3 : Int32) else 2) = nI rr := by
      rcases hc with ⟨r, z, e⟩ | ⟨r, z, e⟩
      · rw [e, r]; rfl
      · rw [e, r]; rfl
    have e4 : (if nI N = 0 then (3 : Int32) else 2) = nI rr := by
      rcases hc with ⟨r, z, e⟩ | ⟨r, z, e⟩
      · rw [z, r]; rfl
      · rw [r, if_neg (nI_ne0 (by omega) (by omega))]; rfl
    have e5 : zb fl = true := by
      rcases hc with ⟨r, z, e⟩ | ⟨r, z, e⟩
      · rw [e]; decide
      · rw [e]; decide
    refine ⟨fl, _, _, ?_, ?_, RF.fall_add b4 hh hf h7 x, ⟨fun _ => ⟨0, b5.ext rfl (fun _ => rfl)⟩, fun k i j hk => ?_, fun k i j z1 z2 => ?_⟩, ⟨fun k i j z1 => ?_, fun k i j z1 z2 => ?_⟩, fun j => ?_, fun k i j hk => ?_, ?_, fun z => ⟨fun j => ?_, fun y hy => ?_⟩⟩
    · unfold fW_paysInFull
      rw [l1]
      simp only [Option.bind_some]
      unfold fQA_isEmpty fQ_size
      simp only [Option.bind_some]
      rw [sz]
      have e0 : (if nI n = 0 then some (1 : Int32) else some 0 : Option Int32) = some (if fl = 0 then 1 else 0) := by
        rw [← e1]; split <;> rfl
      rw [e0]
      simp only [Option.bind_some, nm]
      rw [e2, p1]
      simp only [Option.bind_some]
      rw [b1]
      simp only [Option.bind_some]
      rw [e3, inB_nI h7 (by omega), if_pos rfl, nI_clamp (by omega), e5, if_pos rfl]
    · unfold fM_byFull
      rw [m1]
      simp only [Option.bind_some]
      rw [m2]
      simp only [Option.bind_some, nm]
      rw [b2]
      simp only [Option.bind_some]
      rw [e4, L7, ix_add, inB_nI (by omega) (by omega), if_pos rfl, nI_clamp (by omega)]
    · rw [rdI_wrL, b6 k i j hk, p4.i k i j (by omega), l3.i k i j hk]
    · rw [rdL_wrL, if_neg (by omega), b7 k i j (by omega), p4.l, l3.l k i j (by omega)]
    · rw [rdI_wrL, rdI_1 b8.i, m4.i k i j z1]
    · rw [rdL_wrL, if_neg (by omega), b8.l k i j (by omega), m4.l]
    · rw [rdL_wrL, if_neg (by omega), b8.l 39 0 j (by omega), m4.l]
    · rw [rdL_wrL, if_neg (by omega), b7 k i j (by omega), p4.l, l3.l k i j (by omega)]
    · rcases hc with ⟨r, z, e⟩ | ⟨r, z, e⟩
      · exact Or.inl e
      · exact Or.inr e
    · rcases hc with ⟨r, z0, e⟩ | ⟨r, z0, e⟩
      · rw [rdL_wrL, if_neg (by omega), b9 z0, p4.l, l3.l 10 f j (by omega)]
      · rw [e] at z; exact absurd z (by decide)
    · rcases hc with ⟨r, z0, e⟩ | ⟨r, z0, e⟩
      · have hn0 := nz.mpr z0
        rw [← hsB_eq hy]
        by_cases g : hsB a off y = true
        · obtain ⟨i, g1, _⟩ := l2.en.sur y g
          omega
        · simpa using g
      · rw [e] at z; exact absurd z (by decide)
  by_cases hN : N = 0
  · exact fin 3 0 (Or.inl ⟨rfl, hN, rfl⟩)
  · exact fin 2 1 (Or.inr ⟨rfl, hN, rfl⟩)
