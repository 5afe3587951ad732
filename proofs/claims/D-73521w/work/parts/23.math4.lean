set_option linter.unusedVariables false
set_option linter.unusedSimpArgs false
set_option maxRecDepth 100000
/-! PLAIN LAW: a loss on its way, both sides -/
/-- only what flows by f was written -/
def FrC0 (f : Nat) (w w' : tt_St) : Prop :=
  (w'.1 = w.1) ∧
  (w'.2.2 = w.2.2) ∧
  (∀ k i j, ¬ (i = f ∧ ((k = 9 ∧ j = 1) ∨ k = 10 ∨ k = 11)) → rdL w' k i j = rdL w k i j)
theorem FrC0.i {f : Nat} {w w' : tt_St} (self_ : FrC0 f w w') : w'.1 = w.1 := self_.1
theorem FrC0.r {f : Nat} {w w' : tt_St} (self_ : FrC0 f w w') : w'.2.2 = w.2.2 := self_.2.1
theorem FrC0.l {f : Nat} {w w' : tt_St} (self_ : FrC0 f w w') : ∀ k i j, ¬ (i = f ∧ ((k = 9 ∧ j = 1) ∨ k = 10 ∨ k = 11)) → rdL w' k i j = rdL w k i j := self_.2.2
def FrM0 (h : Nat) (t t' : tt_St) : Prop :=
  (t'.1 = t.1) ∧
  (t'.2.2 = t.2.2) ∧
  (∀ k i j, ¬ (k = 15 ∨ k = 38 ∨ (k = 21 ∧ j / 40 = h) ∨ (k = 22 ∧ j / 40 = h) ∨ (k = 26 ∧ j = 7 * h + 1)) → rdL t' k i j = rdL t k i j)
theorem FrM0.i {h : Nat} {t t' : tt_St} (self_ : FrM0 h t t') : t'.1 = t.1 := self_.1
theorem FrM0.r {h : Nat} {t t' : tt_St} (self_ : FrM0 h t t') : t'.2.2 = t.2.2 := self_.2.1
theorem FrM0.l {h : Nat} {t t' : tt_St} (self_ : FrM0 h t t') : ∀ k i j, ¬ (k = 15 ∨ k = 38 ∨ (k = 21 ∧ j / 40 = h) ∨ (k = 22 ∧ j / 40 = h) ∨ (k = 26 ∧ j = 7 * h + 1)) → rdL t' k i j = rdL t k i j := self_.2.2
theorem FrC0.refl {f : Nat} (w : tt_St) : FrC0 f w w := ⟨rfl, rfl, fun _ _ _ _ => rfl⟩
theorem FrM0.refl {f : Nat} (w : tt_St) : FrM0 f w w := ⟨rfl, rfl, fun _ _ _ _ => rfl⟩
theorem FrC0.trans {f : Nat} {u v w : tt_St} (h1 : FrC0 f u v) (h2 : FrC0 f v w) : FrC0 f u w := ⟨h2.i.trans h1.i, h2.r.trans h1.r, fun k i j h => (h2.l k i j h).trans (h1.l k i j h)⟩
theorem FrM0.trans {f : Nat} {u v w : tt_St} (h1 : FrM0 f u v) (h2 : FrM0 f v w) : FrM0 f u w := ⟨h2.i.trans h1.i, h2.r.trans h1.r, fun k i j h => (h2.l k i j h).trans (h1.l k i j h)⟩
theorem FrC0.w {f k j : Nat} (w : tt_St) (x : Int64) (hk : (k = 9 ∧ j = 1) ∨ k = 10 ∨ k = 11) : FrC0 f w (wrL w k f j x) := ⟨rfl, rfl, fun a b c h => by
  rw [rdL_wrL, if_neg]
  rintro ⟨rfl, rfl, rfl⟩
  exact h ⟨rfl, hk⟩⟩
theorem FrM0.w {h k j : Nat} (t : tt_St) (x : Int64) (hk : k = 15 ∨ k = 38 ∨ (k = 21 ∧ j / 40 = h) ∨ (k = 22 ∧ j / 40 = h) ∨ (k = 26 ∧ j = 7 * h + 1)) : FrM0 h t (wrL t k 0 j x) := ⟨rfl, rfl, fun a b c hn => by
  rw [rdL_wrL, if_neg]
  rintro ⟨rfl, rfl, rfl⟩
  exact hn hk⟩
theorem rdI_1 {w w' : tt_St} (h : w'.1 = w.1) (k i j : Nat) : rdI w' k i j = rdI w k i j := by unfold rdI; rw [h]
theorem CS.eqI {w w' : tt_St} {a : TS} (h : w'.1 = w.1) (C : CS w a) : CS w' a := by
  unfold CS at C ⊢
  simp only [rdI_1 h]
  exact C
theorem MS.eqI {w w' : tt_St} {a : TS} (h : w'.1 = w.1) (C : MS w a) : MS w' a := by
  unfold MS at C ⊢
  simp only [rdI_1 h]
  exact C
/-- a loss of harm h on its way by f (25, 26), what the model has of it -/
def RF (w : tt_St) (t : tt_St) (a : TS) (h : Nat) (f : Nat) : Prop :=
  (∀ l, l < 40 → rdL t 21 0 (40 * h + l) = rdL w 10 h l + rdL w 10 f l) ∧
  (∀ l, l < 40 → rdL t 15 0 l = rdL w 2 l 9 + rdL w 10 f l) ∧
  (∀ l, l < 40 → rdL t 38 0 l = rdL w 10 f l) ∧
  (∀ l, l < 40 → rdL t 22 0 (40 * h + l) = rdL w 11 h l + rdL w 11 f l) ∧
  (∀ r, r < 7 → rdL t 26 0 (7 * h + r) = rdL w 9 h r + rdL w 9 f r) ∧
  (∀ l, l < 40 → a.there l = true → 0 ≤ (rdL w 10 h l).toInt ∧ 0 ≤ (rdL w 10 f l).toInt ∧ (rdL w 10 h l).toInt + (rdL w 10 f l).toInt ≤ a.sz l ∧ 0 ≤ (rdL w 2 l 9).toInt ∧ (rdL w 2 l 9).toInt + (rdL w 10 f l).toInt ≤ (a.sz l : Int) * a.tm l) ∧
  (∀ y k, y < 12 → k < a.n y → 0 ≤ (rdL w 11 h (a.rg y k)).toInt ∧ (rdL w 11 h (a.rg y k)).toInt ≤ 1000000000 ∧ 0 ≤ (rdL w 11 f (a.rg y k)).toInt ∧ ((rdL w 11 f (a.rg y k)).toInt ≤ a.hole y k - (rdL w 11 h (a.rg y k)).toInt ∨ (rdL w 11 f (a.rg y k)).toInt = 0)) ∧
  (∀ l, l < 40 → a.there l = false → rdL w 10 f l = 0) ∧
  (∀ l, l < 40 → a.there l = false → rdL w 11 f l = 0)
theorem RF.took {w : tt_St} {t : tt_St} {a : TS} {h : Nat} {f : Nat} (self_ : RF w t a h f) : ∀ l, l < 40 → rdL t 21 0 (40 * h + l) = rdL w 10 h l + rdL w 10 f l := self_.1
theorem RF.used {w : tt_St} {t : tt_St} {a : TS} {h : Nat} {f : Nat} (self_ : RF w t a h f) : ∀ l, l < 40 → rdL t 15 0 l = rdL w 2 l 9 + rdL w 10 f l := self_.2.1
theorem RF.takes {w : tt_St} {t : tt_St} {a : TS} {h : Nat} {f : Nat} (self_ : RF w t a h f) : ∀ l, l < 40 → rdL t 38 0 l = rdL w 10 f l := self_.2.2.1
theorem RF.thr {w : tt_St} {t : tt_St} {a : TS} {h : Nat} {f : Nat} (self_ : RF w t a h f) : ∀ l, l < 40 → rdL t 22 0 (40 * h + l) = rdL w 11 h l + rdL w 11 f l := self_.2.2.2.1
theorem RF.fell {w : tt_St} {t : tt_St} {a : TS} {h : Nat} {f : Nat} (self_ : RF w t a h f) : ∀ r, r < 7 → rdL t 26 0 (7 * h + r) = rdL w 9 h r + rdL w 9 f r := self_.2.2.2.2.1
theorem RF.bt {w : tt_St} {t : tt_St} {a : TS} {h : Nat} {f : Nat} (self_ : RF w t a h f) : ∀ l, l < 40 → a.there l = true → 0 ≤ (rdL w 10 h l).toInt ∧ 0 ≤ (rdL w 10 f l).toInt ∧ (rdL w 10 h l).toInt + (rdL w 10 f l).toInt ≤ a.sz l ∧ 0 ≤ (rdL w 2 l 9).toInt ∧ (rdL w 2 l 9).toInt + (rdL w 10 f l).toInt ≤ (a.sz l : Int) * a.tm l := self_.2.2.2.2.2.1
theorem RF.bh {w : tt_St} {t : tt_St} {a : TS} {h : Nat} {f : Nat} (self_ : RF w t a h f) : ∀ y k, y < 12 → k < a.n y → 0 ≤ (rdL w 11 h (a.rg y k)).toInt ∧ (rdL w 11 h (a.rg y k)).toInt ≤ 1000000000 ∧ 0 ≤ (rdL w 11 f (a.rg y k)).toInt ∧ ((rdL w 11 f (a.rg y k)).toInt ≤ a.hole y k - (rdL w 11 h (a.rg y k)).toInt ∨ (rdL w 11 f (a.rg y k)).toInt = 0) := self_.2.2.2.2.2.2.1
theorem RF.fz {w : tt_St} {t : tt_St} {a : TS} {h : Nat} {f : Nat} (self_ : RF w t a h f) : ∀ l, l < 40 → a.there l = false → rdL w 10 f l = 0 := self_.2.2.2.2.2.2.2.1
theorem RF.fz1 {w : tt_St} {t : tt_St} {a : TS} {h : Nat} {f : Nat} (self_ : RF w t a h f) : ∀ l, l < 40 → a.there l = false → rdL w 11 f l = 0 := self_.2.2.2.2.2.2.2.2
theorem rg_inj {a : TS} (O : a.Ok) {y k k' : Nat} (hy : y < 12) (hk : k < a.n y) (hk' : k' < a.n y) (h : a.rg y k = a.rg y k') : k = k' := by
  have key : ∀ d i, i + d + 1 < a.n y → a.top (a.rg y i) ≤ a.fr (a.rg y (i + d + 1)) := by
    intro d
    induction d with
    | zero => intro i hi; exact O.sorted y i hy hi
    | succ d ih =>
      intro i hi
      have h1 := ih i (by omega)
      have h2 := O.sorted y (i + d + 1) hy (by omega)
      have h3 : a.fr (a.rg y (i + d + 1)) ≤ a.top (a.rg y (i + d + 1)) := Nat.le_add_right _ _
      rw [show i + (d + 1) + 1 = i + d + 1 + 1 by omega]
      omega
  have key2 : ∀ i j, i < j → j < a.n y → a.rg y i ≠ a.rg y j := by
    intro i j hij hj he
    have h1 := key (j - i - 1) i (by omega)
    rw [show i + (j - i - 1) + 1 = j by omega, ← he] at h1
    have h2 := (O.sz1 _ (O.rg40 y i hy (by omega)) (O.rgT y i hy (by omega))).1
    have h3 : a.top (a.rg y i) = a.fr (a.rg y i) + a.sz (a.rg y i) := rfl
    omega
  rcases Nat.lt_trichotomy k k' with h1 | h1 | h1
  · exact absurd h (key2 k k' h1 hk')
  · exact h1
  · exact absurd h.symm (key2 k' k h1 hk)
theorem rg_inj2 {a : TS} (O : a.Ok) {y k y' k' : Nat} (hy : y < 12) (hk : k < a.n y) (hy' : y' < 12) (hk' : k' < a.n y') (h : a.rg y k = a.rg y' k') : y = y' ∧ k = k' := by
  have e : y = y' := by
    have h1 := O.rgY y k hy hk
    rw [h, O.rgY y' k' hy' hk'] at h1
    exact h1.symm
  subst e
  exact ⟨rfl, rg_inj O hy hk hk' h⟩
theorem i64_0 : (0 : Int64).toInt = 0 := rfl
theorem nI64 {n : Nat} (h : n < 2 ^ 31) : (nI n).toInt64.toInt = n := by rw [i64_of32, nI_toInt h]
theorem hole_bd {a : TS} (O : a.Ok) {y k : Nat} (hy : y < 12) (hk : k < a.n y) : a.hole y k ≤ 900000000 := by
  have := O.fr9 _ (O.rg40 y k hy hk) (O.rgT y k hy hk)
  unfold TS.hole
  omega
/-- the lesser of two -/
def mn (x y : Int64) : Int64 := if x < y then x else y
theorem mn_toInt {x y : Int64} : (mn x y).toInt = min x.toInt y.toInt := by
  unfold mn
  by_cases h : x < y
  · rw [if_pos h]; have := i64_lt.mp h; omega
  · rw [if_neg h]; have := mt i64_lt.mpr h; omega
theorem mn_least {x y : Int64} : fM_least x y = some (mn y x) := by
  unfold fM_least mn
  by_cases h : y ≤ x
  · rw [if_pos h]
    by_cases h2 : y < x
    · rw [if_pos h2]
    · rw [if_neg h2]; exact congrArg some (i64_ext (by have := i64_le.mp h; have := mt i64_lt.mpr h2; omega))
  · rw [if_neg h, if_neg]
    intro h2
    exact h (i64_le.mpr (Int.le_of_lt (i64_lt.mp h2)))
/-- what may go through a hole yet -/
def ml (w : tt_St) (a : TS) (h f y k : Nat) : Int64 := (if (nI (a.hole y k)).toInt64 - rdL w 11 h (a.rg y k) < 0 then 0 else (nI (a.hole y k)).toInt64 - rdL w 11 h (a.rg y k)) - rdL w 11 f (a.rg y k)
theorem c_may {w : tt_St} {a : TS} (C : CS w a) (O : a.Ok) {y k h f : Nat} (hy : y < 12) (hk : k < a.n y) : fW_mayGoThrough w h (nI y) (nI k) f = some (ml w a h f y k) := by
  have h6 := O.n6 y hy
  have h40 := O.rg40 y k hy hk
  unfold fW_mayGoThrough
  simp only [nm]
  rw [inB_nI hy (by omega), if_pos rfl, inB_nI (n := 6) (by omega) (by omega), if_pos rfl, nI_clamp (by omega), nI_clamp (by omega), C.rung y k hy hk, c_holeOf C O hy hk]
  simp only [Option.bind_some]
  rw [inB_nI h40 (by omega), if_pos rfl, nI_clamp (by omega)]
  rfl
theorem ml_toInt {w t : tt_St} {a : TS} (O : a.Ok) {y k h f : Nat} (R : RF w t a h f) (hy : y < 12) (hk : k < a.n y) : (ml w a h f y k).toInt = max 0 (a.hole y k - (rdL w 11 h (a.rg y k)).toInt) - (rdL w 11 f (a.rg y k)).toInt ∧ 0 ≤ (ml w a h f y k).toInt ∧ (ml w a h f y k).toInt ≤ 900000000 := by
  obtain ⟨b1, b2, b3, b4⟩ := R.bh y k hy hk
  have hb := hole_bd O hy hk
  have e1 : ((nI (a.hole y k)).toInt64 - rdL w 11 h (a.rg y k)).toInt = a.hole y k - (rdL w 11 h (a.rg y k)).toInt := by
    rw [i64_sub] <;> rw [nI64 (by omega)] <;> omega
  have e2 : (if (nI (a.hole y k)).toInt64 - rdL w 11 h (a.rg y k) < 0 then (0 : Int64) else (nI (a.hole y k)).toInt64 - rdL w 11 h (a.rg y k)).toInt = max 0 (a.hole y k - (rdL w 11 h (a.rg y k)).toInt) := by
    by_cases hc : (nI (a.hole y k)).toInt64 - rdL w 11 h (a.rg y k) < 0
    · rw [if_pos hc]; have := i64_lt.mp hc; rw [e1, i64_0] at this; rw [i64_0]; omega
    · rw [if_neg hc, e1]; have := mt i64_lt.mpr hc; rw [e1, i64_0] at this; omega
  have e3 : (ml w a h f y k).toInt = max 0 (a.hole y k - (rdL w 11 h (a.rg y k)).toInt) - (rdL w 11 f (a.rg y k)).toInt := by
    unfold ml
    rw [i64_sub] <;> rw [e2] <;> omega
  refine ⟨e3, ?_, ?_⟩ <;> rw [e3] <;> omega
theorem m_holeLeft {w t : tt_St} {a : TS} (M : MS t a) (O : a.Ok) {y k h f : Nat} (R : RF w t a h f) (hh : h < 25) (hy : y < 12) (hk : k < a.n y) : fM_holeLeft t (nI h) (nI (a.rg y k)) = some (ml w a h f y k) := by
  have h40 := O.rg40 y k hy hk
  obtain ⟨b1, b2, b3, b4⟩ := R.bh y k hy hk
  obtain ⟨e1, e2, e3⟩ := ml_toInt O R hy hk
  have hb := hole_bd O hy hk
  unfold fM_holeLeft
  rw [m_holeOf M O hy hk]
  simp only [Option.bind_some, nm]
  rw [L40, ix_add, inB_nI (by omega) (by omega), if_pos rfl, nI_clamp (by omega), R.thr _ h40]
  have e4 : (rdL w 11 h (a.rg y k) + rdL w 11 f (a.rg y k)).toInt = (rdL w 11 h (a.rg y k)).toInt + (rdL w 11 f (a.rg y k)).toInt := i64_add (by omega) (by omega)
  have e5 : ((nI (a.hole y k)).toInt64 - (rdL w 11 h (a.rg y k) + rdL w 11 f (a.rg y k))).toInt = a.hole y k - ((rdL w 11 h (a.rg y k)).toInt + (rdL w 11 f (a.rg y k)).toInt) := by
    rw [i64_sub] <;> rw [nI64 (by omega), e4] <;> omega
  by_cases hc : (nI (a.hole y k)).toInt64 - (rdL w 11 h (a.rg y k) + rdL w 11 f (a.rg y k)) ≤ 0
  · rw [if_pos hc]
    have := i64_le.mp hc
    rw [e5, i64_0] at this
    exact congrArg some (i64_ext (by rw [e1, i64_0]; omega))
  · rw [if_neg hc]
    have := mt i64_le.mpr hc
    rw [e5, i64_0] at this
    exact congrArg some (i64_ext (by rw [e1, e5]; omega))
/-- what a layer may take yet -/
def cn (w : tt_St) (a : TS) (h f l : Nat) : Int64 := mn ((nI (a.sz l)).toInt64 * (nI (a.tm l)).toInt64 - rdL w 2 l 9) ((nI (a.sz l)).toInt64 - rdL w 10 h l) - rdL w 10 f l
theorem c_can {w : tt_St} {a : TS} (C : CS w a) (O : a.Ok) {l h f : Nat} (hl : l < 40) (ht : a.there l = true) : fW_can w h l f = some (cn w a h f l) := by
  unfold fW_can
  rw [inB_nI hl (by omega), if_pos rfl, c_left C O hl ht]
  simp only [Option.bind_some]
  rw [C.sz l hl ht, nI_clamp (by omega)]
  rfl
theorem szm {a : TS} (O : a.Ok) {l : Nat} (hl : l < 40) (ht : a.there l = true) : ((nI (a.sz l)).toInt64 * (nI (a.tm l)).toInt64).toInt = (a.sz l : Int) * a.tm l ∧ (a.sz l : Int) * a.tm l ≤ 400000000 := by
  have h1 := O.sz1 l hl ht
  have h2 := O.tm4 l hl ht
  have h3 : (a.sz l : Int) * a.tm l ≤ 400000000 := by
    have h := Int.ofNat_le.mpr (Nat.mul_le_mul h1.2 h2.2)
    rw [Int.natCast_mul] at h
    omega
  have h4 : (0 : Int) ≤ (a.sz l : Int) * a.tm l := Int.mul_nonneg (Int.natCast_nonneg _) (Int.natCast_nonneg _)
  exact ⟨by rw [i64_mul] <;> rw [nI64 (by omega), nI64 (by omega)] <;> omega, h3⟩
theorem cn_toInt {w t : tt_St} {a : TS} (O : a.Ok) {l h f : Nat} (R : RF w t a h f) (hl : l < 40) (ht : a.there l = true) : (cn w a h f l).toInt = min ((a.sz l : Int) * a.tm l - (rdL w 2 l 9).toInt) (a.sz l - (rdL w 10 h l).toInt) - (rdL w 10 f l).toInt ∧ 0 ≤ (cn w a h f l).toInt ∧ (cn w a h f l).toInt ≤ 100000000 := by
  obtain ⟨b1, b2, b3, b4, b5⟩ := R.bt l hl ht
  obtain ⟨e1, e2⟩ := szm O hl ht
  have h1 := O.sz1 l hl ht
  have e3 : ((nI (a.sz l)).toInt64 * (nI (a.tm l)).toInt64 - rdL w 2 l 9).toInt = (a.sz l : Int) * a.tm l - (rdL w 2 l 9).toInt := by
    rw [i64_sub] <;> rw [e1] <;> omega
  have e4 : ((nI (a.sz l)).toInt64 - rdL w 10 h l).toInt = a.sz l - (rdL w 10 h l).toInt := by
    rw [i64_sub] <;> rw [nI64 (by omega)] <;> omega
  have e5 : (cn w a h f l).toInt = min ((a.sz l : Int) * a.tm l - (rdL w 2 l 9).toInt) (a.sz l - (rdL w 10 h l).toInt) - (rdL w 10 f l).toInt := by
    unfold cn
    rw [i64_sub] <;> rw [mn_toInt, e3, e4] <;> omega
  refine ⟨e5, ?_, ?_⟩ <;> rw [e5] <;> omega
theorem m_canTake {w t : tt_St} {a : TS} (M : MS t a) (O : a.Ok) {l h f : Nat} (R : RF w t a h f) (hh : h < 25) (hl : l < 40) (ht : a.there l = true) : fM_canTake t (nI h) (nI l) = some (cn w a h f l) := by
  obtain ⟨b1, b2, b3, b4, b5⟩ := R.bt l hl ht
  obtain ⟨e1, e2⟩ := szm O hl ht
  obtain ⟨c1, c2, c3⟩ := cn_toInt O R hl ht
  have h1 := O.sz1 l hl ht
  unfold fM_canTake
  rw [inB_nI hl (by omega), if_pos rfl, L40, ix_add, inB_nI (by omega) (by omega), if_pos rfl, m_left M O hl ht]
  simp only [Option.bind_some]
  rw [mn_least, nI_clamp (by omega), nI_clamp (by omega), M.sz l hl ht, R.took l hl, R.used l hl]
  simp only [Option.bind_some]
  refine congrArg some (i64_ext ?_)
  have e3 : (rdL w 10 h l + rdL w 10 f l).toInt = (rdL w 10 h l).toInt + (rdL w 10 f l).toInt := i64_add (by omega) (by omega)
  have e4 : (rdL w 2 l 9 + rdL w 10 f l).toInt = (rdL w 2 l 9).toInt + (rdL w 10 f l).toInt := i64_add (by omega) (by omega)
  have e5 : ((nI (a.sz l)).toInt64 - (rdL w 10 h l + rdL w 10 f l)).toInt = a.sz l - ((rdL w 10 h l).toInt + (rdL w 10 f l).toInt) := by
    rw [i64_sub] <;> rw [nI64 (by omega), e3] <;> omega
  have e6 : ((nI (a.sz l)).toInt64 * (nI (a.tm l)).toInt64 - (rdL w 2 l 9 + rdL w 10 f l)).toInt = (a.sz l : Int) * a.tm l - ((rdL w 2 l 9).toInt + (rdL w 10 f l).toInt) := by
    rw [i64_sub] <;> rw [e1, e4] <;> omega
  rw [mn_toInt, e5, e6, c1]
  omega
/-- v more goes through the hole below a layer -/
theorem RF.thr_add {w t : tt_St} {a : TS} (O : a.Ok) {h f y k : Nat} (R : RF w t a h f) (hh : h < 25) (hf : 25 ≤ f) (hy : y < 12) (hk : k < a.n y) {v : Int64} (h0 : 0 ≤ v.toInt) (h1 : v.toInt ≤ (ml w a h f y k).toInt) :
    RF (wrL (wrL w 11 f (a.rg y k) (rdL w 11 f (a.rg y k) + v)) 9 f 1 (rdL w 9 f 1 + v)) (wrL (wrL t 22 0 (40 * h + a.rg y k) (rdL t 22 0 (40 * h + a.rg y k) + v)) 26 0 (7 * h + 1) (rdL t 26 0 (7 * h + 1) + v)) a h f := by
  have h40 := O.rg40 y k hy hk
  obtain ⟨b1, b2, b3, b4⟩ := R.bh y k hy hk
  obtain ⟨e1, e2, e3⟩ := ml_toInt O R hy hk
  have hb := hole_bd O hy hk
  have hfh : ¬ h = f := by omega
  refine ⟨?_, ?_, ?_, ?_, ?_, ?_, ?_, ?_, ?_⟩
  · intro l hl
    simp only [rdL_wrL]
    simpa using R.took l hl
  · intro l hl
    simp only [rdL_wrL]
    simpa using R.used l hl
  · intro l hl
    simp only [rdL_wrL]
    simpa using R.takes l hl
  · intro l hl
    have h2 := R.thr l hl
    simp only [rdL_wrL]
    by_cases e : l = a.rg y k
    · subst e
      simp [hfh, h2, Int64.add_assoc]
    · have e' : ¬ (40 * h + l = 40 * h + a.rg y k) := by omega
      simp [hfh, h2, e, e']
  · intro r hr
    have h2 := R.fell r hr
    simp only [rdL_wrL]
    by_cases e : r = 1
    · subst e
      simp [hfh, h2, Int64.add_assoc]
    · have e' : ¬ (7 * h + r = 7 * h + 1) := by omega
      simp [hfh, h2, e, e']
  · intro l hl ht
    simp only [rdL_wrL]
    simpa using R.bt l hl ht
  · intro y' k' hy' hk'
    have h2 := R.bh y' k' hy' hk'
    simp only [rdL_wrL]
    by_cases e : a.rg y' k' = a.rg y k
    · obtain ⟨rfl, rfl⟩ := rg_inj2 O hy' hk' hy hk e
      simp only [hfh, and_self, and_true, true_and, if_true, false_and, if_false, reduceCtorEq, Nat.reduceEqDiff]
      have e4 : (rdL w 11 f (a.rg y' k') + v).toInt = (rdL w 11 f (a.rg y' k')).toInt + v.toInt := i64_add (by omega) (by omega)
      rw [e4]
      omega
    · simpa [hfh, e] using h2
  · intro l hl ht
    simp only [rdL_wrL]
    simpa using R.fz l hl ht
  · intro l hl ht
    have hT := O.rgT y k hy hk
    have e : ¬ l = a.rg y k := fun e => by subst e; rw [hT] at ht; cases ht
    simp only [rdL_wrL]
    simpa [e] using R.fz1 l hl ht
/-- a layer takes v more -/
theorem RF.take_add {w t : tt_St} {a : TS} (O : a.Ok) {h f l : Nat} (R : RF w t a h f) (hh : h < 25) (hf : 25 ≤ f) (hl : l < 40) (ht : a.there l = true) {v : Int64} (h0 : 0 ≤ v.toInt) (h1 : v.toInt ≤ (cn w a h f l).toInt) :
    RF (wrL w 10 f l (rdL w 10 f l + v)) (wrL (wrL (wrL t 21 0 (40 * h + l) (rdL t 21 0 (40 * h + l) + v)) 15 0 l (rdL t 15 0 l + v)) 38 0 l (rdL t 38 0 l + v)) a h f := by
  obtain ⟨b1, b2, b3, b4, b5⟩ := R.bt l hl ht
  obtain ⟨c1, c2, c3⟩ := cn_toInt O R hl ht
  have h9 := (szm O hl ht).2
  have hfh : ¬ h = f := by omega
  refine ⟨?_, ?_, ?_, ?_, ?_, ?_, ?_, ?_, ?_⟩
  · intro l' hl'
    have h2 := R.took l' hl'
    simp only [rdL_wrL]
    by_cases e : l' = l
    · subst e
      simp [hfh, h2, Int64.add_assoc]
    · have e' : ¬ (40 * h + l' = 40 * h + l) := by omega
      simp [hfh, h2, e, e']
  · intro l' hl'
    have h2 := R.used l' hl'
    simp only [rdL_wrL]
    by_cases e : l' = l
    · subst e
      simp [h2, Int64.add_assoc]
    · simp [h2, e]
  · intro l' hl'
    have h2 := R.takes l' hl'
    simp only [rdL_wrL]
    by_cases e : l' = l
    · subst e
      simp [h2]
    · simp [h2, e]
  · intro l' hl'
    simp only [rdL_wrL]
    simpa using R.thr l' hl'
  · intro r hr
    simp only [rdL_wrL]
    simpa using R.fell r hr
  · intro l' hl' ht'
    have h2 := R.bt l' hl' ht'
    simp only [rdL_wrL]
    by_cases e : l' = l
    · subst e
      have e4 : (rdL w 10 f l' + v).toInt = (rdL w 10 f l').toInt + v.toInt := i64_add (by omega) (by omega)
      simp only [hfh, and_self, and_true, true_and, if_true, false_and, if_false, reduceCtorEq, Nat.reduceEqDiff, e4]
      omega
    · simpa [hfh, e] using h2
  · intro y' k' hy' hk'
    simp only [rdL_wrL]
    simpa using R.bh y' k' hy' hk'
  · intro l' hl' ht'
    have e : ¬ l' = l := fun e => by subst e; rw [ht] at ht'; cases ht'
    simp only [rdL_wrL]
    simpa [e] using R.fz l' hl' ht'
  · intro l' hl' ht'
    simp only [rdL_wrL]
    simpa using R.fz1 l' hl' ht'
/-- one rung, both sides -/
theorem fills_step {w t : tt_St} {a : TS} (C : CS w a) (M : MS t a) (O : a.Ok) {h f y k : Nat} (R : RF w t a h f) (hh : h < 25) (hf : 25 ≤ f) (hy : y < 12) (hk : k < a.n y) {x : Int64} (hx : 0 ≤ x.toInt) :
    ∃ x' w' t', (0 < x.toInt → fW_fills_L6 h (nI y) f (x, nI k, w) = some (.inl (x', nI (k + 1), w'))) ∧ fM_fills_L6 (nI h) (nI y) (x, nI k, t) = some (.inl (x', nI (k + 1), t')) ∧ RF w' t' a h f ∧ 0 ≤ x'.toInt ∧ x'.toInt ≤ x.toInt ∧ FrC0 f w w' ∧ FrM0 h t t' ∧ (x.toInt = 0 → RF w t' a h f) := by
  have h6 := O.n6 y hy
  have h40 := O.rg40 y k hy hk
  have hT := O.rgT y k hy hk
  obtain ⟨e1, e2, e3⟩ := ml_toInt O R hy hk
  have hv : (mn (ml w a h f y k) x).toInt = min (ml w a h f y k).toInt x.toInt := mn_toInt
  have R1 := RF.thr_add O R hh hf hy hk (v := mn (ml w a h f y k) x) (by omega) (by omega)
  generalize hw1 : wrL (wrL w 11 f (a.rg y k) (rdL w 11 f (a.rg y k) + mn (ml w a h f y k) x)) 9 f 1 (rdL w 9 f 1 + mn (ml w a h f y k) x) = w1 at R1
  generalize ht1 : wrL (wrL t 22 0 (40 * h + a.rg y k) (rdL t 22 0 (40 * h + a.rg y k) + mn (ml w a h f y k) x)) 26 0 (7 * h + 1) (rdL t 26 0 (7 * h + 1) + mn (ml w a h f y k) x) = t1 at R1
  have C1 : CS w1 a := C.eqI (by rw [← hw1]; rfl)
  have M1 : MS t1 a := M.eqI (by rw [← ht1]; rfl)
  have hx1 : (x - mn (ml w a h f y k) x).toInt = x.toInt - (mn (ml w a h f y k) x).toInt := i64_sub (by have := i64_hi x; omega) (by have := i64_hi x; omega)
  generalize hz : x - mn (ml w a h f y k) x = z at hx1
  obtain ⟨c1, c2, c3⟩ := cn_toInt O R1 h40 hT
  have hv2 : (mn (cn w1 a h f (a.rg y k)) z).toInt = min (cn w1 a h f (a.rg y k)).toInt z.toInt := mn_toInt
  have R2 := RF.take_add O R1 hh hf h40 hT (v := mn (cn w1 a h f (a.rg y k)) z) (by omega) (by omega)
  have hx2 : (z - mn (cn w1 a h f (a.rg y k)) z).toInt = z.toInt - (mn (cn w1 a h f (a.rg y k)) z).toInt := i64_sub (by have := i64_hi x; omega) (by have := i64_hi x; omega)
  refine ⟨z - mn (cn w1 a h f (a.rg y k)) z, _, _, fun hpos => ?_, ?_, R2, by omega, by omega, ?_, ?_, fun hx0 => ?_⟩
  · unfold fW_fills_L6
    simp only [nm]
    rw [inB_nI hy (by omega), if_pos rfl, nI_clamp (by omega), C.many y hy, if_neg (nI_ge hk (by omega)), if_neg (by rw [i64_le, i64_0]; omega), c_layerAt C O hy hk]
    simp only [Option.bind_some]
    rw [c_may C O hy hk]
    simp only [Option.bind_some]
    rw [inB_nI h40 (by omega), if_pos rfl, nI_clamp (by omega), if_pos (show inB 1 7 = true from by decide), show (1 : Int32).toNatClampNeg = 1 from by decide]
    have q1 : (if ml w a h f y k < x then ml w a h f y k else x) = mn (ml w a h f y k) x := rfl
    rw [q1]
    have q2 : rdL (wrL w 11 f (a.rg y k) (rdL w 11 f (a.rg y k) + mn (ml w a h f y k) x)) 9 f 1 = rdL w 9 f 1 := by rw [rdL_wrL, if_neg (by omega)]
    rw [q2, hw1, c_can C1 O h40 hT]
    simp only [Option.bind_some]
    rw [hz, nI_1]
    rfl
  · unfold fM_fills_L6
    simp only [nm]
    rw [m_layersOf M O hy]
    simp only [Option.bind_some]
    rw [if_neg (nI_ge hk (by omega)), m_rungOf M O hy hk]
    simp only [Option.bind_some]
    rw [m_holeLeft M O R hh hy hk]
    simp only [Option.bind_some]
    rw [mn_least]
    simp only [Option.bind_some]
    rw [L40, ix_add, inB_nI (by omega) (by omega), if_pos rfl, L7, L1, ix_add, inB_nI (by omega) (by omega), if_pos rfl, nI_clamp (by omega), nI_clamp (by omega)]
    have q2 : rdL (wrL t 22 0 (40 * h + a.rg y k) (rdL t 22 0 (40 * h + a.rg y k) + mn (ml w a h f y k) x)) 26 0 (7 * h + 1) = rdL t 26 0 (7 * h + 1) := by rw [rdL_wrL, if_neg (by omega)]
    rw [q2, ht1, m_canTake M1 O R1 hh h40 hT]
    simp only [Option.bind_some]
    rw [hz, mn_least]
    simp only [Option.bind_some]
    rw [inB_nI h40 (by omega), if_pos rfl, nI_clamp (by omega)]
    have q3 : rdL (wrL t1 21 0 (40 * h + a.rg y k) (rdL t1 21 0 (40 * h + a.rg y k) + mn (cn w1 a h f (a.rg y k)) z)) 15 0 (a.rg y k) = rdL t1 15 0 (a.rg y k) := by rw [rdL_wrL, if_neg (by omega)]
    have q4 : rdL (wrL (wrL t1 21 0 (40 * h + a.rg y k) (rdL t1 21 0 (40 * h + a.rg y k) + mn (cn w1 a h f (a.rg y k)) z)) 15 0 (a.rg y k) (rdL t1 15 0 (a.rg y k) + mn (cn w1 a h f (a.rg y k)) z)) 38 0 (a.rg y k) = rdL t1 38 0 (a.rg y k) := by rw [rdL_wrL, if_neg (by omega), rdL_wrL, if_neg (by omega)]
    rw [q3, q4, nI_add]
  · rw [← hw1]
    exact ((FrC0.w _ _ (by omega)).trans (FrC0.w _ _ (by omega))).trans (FrC0.w _ _ (by omega))
  · rw [← ht1]
    exact ((((FrM0.w _ _ (by omega)).trans (FrM0.w _ _ (by omega))).trans (FrM0.w _ _ (by omega))).trans (FrM0.w _ _ (by omega))).trans (FrM0.w _ _ (by omega))
  · have v0 : mn (ml w a h f y k) x = 0 := i64_ext (by rw [hv, i64_0]; omega)
    have z0 : mn (cn w1 a h f (a.rg y k)) z = 0 := i64_ext (by rw [hv2, i64_0]; omega)
    have ew : ∀ k' i j, rdL w1 k' i j = rdL w k' i j := by
      intro k' i j
      rw [← hw1, v0]
      simp only [rdL_wrL, Int64.add_zero]
      by_cases q : k' = 9 ∧ i = f ∧ j = 1
      · obtain ⟨rfl, rfl, rfl⟩ := q; simp
      · rw [if_neg q]
        by_cases q : k' = 11 ∧ i = f ∧ j = a.rg y k
        · obtain ⟨rfl, rfl, rfl⟩ := q; simp
        · rw [if_neg q]
    have e2 : ∀ k' i j, rdL (wrL w1 10 f (a.rg y k) (rdL w1 10 f (a.rg y k) + mn (cn w1 a h f (a.rg y k)) z)) k' i j = rdL w k' i j := by
      intro k' i j
      rw [z0, rdL_wrL, Int64.add_zero]
      by_cases q : k' = 10 ∧ i = f ∧ j = a.rg y k
      · obtain ⟨rfl, rfl, rfl⟩ := q; simp [ew]
      · rw [if_neg q, ew]
    unfold RF at R2 ⊢
    simp only [e2] at R2
    exact R2
theorem m_fills_zero {w : tt_St} {a : TS} (O : a.Ok) {h f y : Nat} (hh : h < 25) (hf : 25 ≤ f) (hy : y < 12) (C : CS w a) {x : Int64} (hx : x.toInt = 0) : ∀ d k n t, k + d = a.n y → d < n → MS t a → RF w t a h f → ∃ t', itr (fM_fills_L6 (nI h) (nI y)) n (x, nI k, t) = some (x, nI (a.n y), t') ∧ RF w t' a h f ∧ FrM0 h t t' := by
  intro d
  induction d with
  | zero =>
    intro k n t hk hn M R
    obtain ⟨n, rfl⟩ : ∃ m, n = m + 1 := ⟨n - 1, by omega⟩
    have h6 := O.n6 y hy
    refine ⟨t, ?_, R, FrM0.refl _⟩
    unfold itr fM_fills_L6
    rw [m_layersOf M O hy]
    simp only [Option.bind_some]
    rw [if_pos (nI_le (by omega) (by omega)), show k = a.n y by omega]
  | succ d ih =>
    intro k n t hk hn M R
    obtain ⟨n, rfl⟩ : ∃ m, n = m + 1 := ⟨n - 1, by omega⟩
    obtain ⟨x', w', t', -, s2, s3, s4, s5, s6, s7, s8⟩ := fills_step C M O R hh hf hy (k := k) (by omega) (x := x) (by omega)
    have ex : x' = x := i64_ext (by omega)
    subst ex
    obtain ⟨t2, r1, r2, r3⟩ := ih (k + 1) n t' (by omega) (by omega) (M.eqI s7.i) (s8 hx)
    refine ⟨t2, ?_, r2, s7.trans r3⟩
    unfold itr
    rw [s2]
    exact r1
theorem fills_loop {a : TS} (O : a.Ok) {h f y : Nat} (hh : h < 25) (hf : 25 ≤ f) (hy : y < 12) : ∀ d k n w t (x : Int64), k + d = a.n y → d < n → CS w a → MS t a → RF w t a h f → 0 ≤ x.toInt →
    ∃ x' k' k'' w' t', itr (fW_fills_L6 h (nI y) f) n (x, nI k, w) = some (x', k', w') ∧ itr (fM_fills_L6 (nI h) (nI y)) n (x, nI k, t) = some (x', k'', t') ∧ RF w' t' a h f ∧ 0 ≤ x'.toInt ∧ x'.toInt ≤ x.toInt ∧ FrC0 f w w' ∧ FrM0 h t t' := by
  intro d
  induction d with
  | zero =>
    intro k n w t x hk hn C M R hx
    obtain ⟨n, rfl⟩ : ∃ m, n = m + 1 := ⟨n - 1, by omega⟩
    have h6 := O.n6 y hy
    refine ⟨x, nI k, nI k, w, t, ?_, ?_, R, hx, Int.le_refl _, FrC0.refl _, FrM0.refl _⟩
    · unfold itr fW_fills_L6
      rw [inB_nI hy (by omega), if_pos rfl, nI_clamp (by omega), C.many y hy, if_pos (nI_le (by omega) (by omega))]
    · unfold itr fM_fills_L6
      rw [m_layersOf M O hy]
      simp only [Option.bind_some]
      rw [if_pos (nI_le (by omega) (by omega))]
  | succ d ih =>
    intro k n w t x hk hn C M R hx
    obtain ⟨n, rfl⟩ : ∃ m, n = m + 1 := ⟨n - 1, by omega⟩
    have h6 := O.n6 y hy
    by_cases hx0 : x.toInt = 0
    · obtain ⟨t', r1, r2, r3⟩ := m_fills_zero O hh hf hy C hx0 (d + 1) k (n + 1) t hk hn M R
      refine ⟨x, nI k, nI (a.n y), w, t', ?_, r1, r2, hx, Int.le_refl _, FrC0.refl _, r3⟩
      unfold itr fW_fills_L6
      rw [inB_nI hy (by omega), if_pos rfl, nI_clamp (by omega), C.many y hy, if_neg (nI_ge (by omega) (by omega)), if_pos (i64_le.mpr (by rw [i64_0]; exact Int.le_of_eq hx0))]
    · obtain ⟨x', w', t', s1, s2, s3, s4, s5, s6, s7, s8⟩ := fills_step C M O R hh hf hy (k := k) (by omega) (x := x) hx
      obtain ⟨x2, k1, k2, w2, t2, r1, r2, r3, r4, r5, r6, r7⟩ := ih (k + 1) n w' t' x' (by omega) (by omega) (C.eqI s6.i) (M.eqI s7.i) s3 s4
      refine ⟨x2, k1, k2, w2, t2, ?_, ?_, r3, r4, by omega, s6.trans r6, s7.trans r7⟩
      · unfold itr
        rw [s1 (by omega)]
        exact r1
      · unfold itr
        rw [s2]
        exact r2
/-- a tower is filled, both sides -/
theorem fills_rel {w t : tt_St} {a : TS} (C : CS w a) (M : MS t a) (O : a.Ok) {h f y : Nat} (R : RF w t a h f) (hh : h < 25) (hf : 25 ≤ f) (hy : y < 12) {x : Int64} (hx : 0 ≤ x.toInt) :
    ∃ x' w' t', fW_fills w h (nI y) x f = some (x', w') ∧ fM_fills t (nI h) (nI y) x = some (x', t') ∧ RF w' t' a h f ∧ 0 ≤ x'.toInt ∧ x'.toInt ≤ x.toInt ∧ FrC0 f w w' ∧ FrM0 h t t' := by
  have h6 := O.n6 y hy
  obtain ⟨x2, k1, k2, w2, t2, r1, r2, r3, r4, r5, r6, r7⟩ := fills_loop O hh hf hy (a.n y) 0 tt_fuel w t x (by omega) (by unfold tt_fuel; omega) C M R hx
  refine ⟨x2, w2, t2, ?_, ?_, r3, r4, r5, r6, r7⟩
  · unfold fW_fills
    rw [L0, r1]
    rfl
  · unfold fM_fills
    rw [L0, r2]
    rfl
/-- the same, with all of falls -/
def FrC (f : Nat) (w w' : tt_St) : Prop :=
  (w'.1 = w.1) ∧
  (w'.2.2 = w.2.2) ∧
  (∀ k i j, ¬ (i = f ∧ (k = 9 ∨ k = 10 ∨ k = 11)) → rdL w' k i j = rdL w k i j)
theorem FrC.i {f : Nat} {w w' : tt_St} (self_ : FrC f w w') : w'.1 = w.1 := self_.1
theorem FrC.r {f : Nat} {w w' : tt_St} (self_ : FrC f w w') : w'.2.2 = w.2.2 := self_.2.1
theorem FrC.l {f : Nat} {w w' : tt_St} (self_ : FrC f w w') : ∀ k i j, ¬ (i = f ∧ (k = 9 ∨ k = 10 ∨ k = 11)) → rdL w' k i j = rdL w k i j := self_.2.2
def FrM (h : Nat) (t t' : tt_St) : Prop :=
  (t'.1 = t.1) ∧
  (t'.2.2 = t.2.2) ∧
  (∀ k i j, ¬ (k = 15 ∨ k = 38 ∨ (k = 21 ∧ j / 40 = h) ∨ (k = 22 ∧ j / 40 = h) ∨ (k = 26 ∧ j / 7 = h)) → rdL t' k i j = rdL t k i j)
theorem FrM.i {h : Nat} {t t' : tt_St} (self_ : FrM h t t') : t'.1 = t.1 := self_.1
theorem FrM.r {h : Nat} {t t' : tt_St} (self_ : FrM h t t') : t'.2.2 = t.2.2 := self_.2.1
theorem FrM.l {h : Nat} {t t' : tt_St} (self_ : FrM h t t') : ∀ k i j, ¬ (k = 15 ∨ k = 38 ∨ (k = 21 ∧ j / 40 = h) ∨ (k = 22 ∧ j / 40 = h) ∨ (k = 26 ∧ j / 7 = h)) → rdL t' k i j = rdL t k i j := self_.2.2
theorem FrC.refl {f : Nat} (w : tt_St) : FrC f w w := ⟨rfl, rfl, fun _ _ _ _ => rfl⟩
theorem FrM.refl {f : Nat} (w : tt_St) : FrM f w w := ⟨rfl, rfl, fun _ _ _ _ => rfl⟩
theorem FrC.trans {f : Nat} {u v w : tt_St} (h1 : FrC f u v) (h2 : FrC f v w) : FrC f u w := ⟨h2.i.trans h1.i, h2.r.trans h1.r, fun k i j h => (h2.l k i j h).trans (h1.l k i j h)⟩
theorem FrM.trans {f : Nat} {u v w : tt_St} (h1 : FrM f u v) (h2 : FrM f v w) : FrM f u w := ⟨h2.i.trans h1.i, h2.r.trans h1.r, fun k i j h => (h2.l k i j h).trans (h1.l k i j h)⟩
theorem FrC0.up {f : Nat} {u v : tt_St} (h : FrC0 f u v) : FrC f u v := ⟨h.i, h.r, fun k i j q => h.l k i j (by omega)⟩
theorem FrM0.up {f : Nat} {u v : tt_St} (h : FrM0 f u v) : FrM f u v := ⟨h.i, h.r, fun k i j q => h.l k i j (by omega)⟩
theorem FrC.w {f k j : Nat} (w : tt_St) (x : Int64) (hk : k = 9 ∨ k = 10 ∨ k = 11) : FrC f w (wrL w k f j x) := ⟨rfl, rfl, fun a b c h => by
  rw [rdL_wrL, if_neg]
  rintro ⟨rfl, rfl, rfl⟩
  exact h ⟨rfl, hk⟩⟩
theorem FrM.w {h k j : Nat} (t : tt_St) (x : Int64) (hk : k = 15 ∨ k = 38 ∨ (k = 21 ∧ j / 40 = h) ∨ (k = 22 ∧ j / 40 = h) ∨ (k = 26 ∧ j / 7 = h)) : FrM h t (wrL t k 0 j x) := ⟨rfl, rfl, fun a b c hn => by
  rw [rdL_wrL, if_neg]
  rintro ⟨rfl, rfl, rfl⟩
  exact hn hk⟩
/-- so much more falls on the insured for a reason -/
theorem RF.fall_add {w t : tt_St} {a : TS} {h f r : Nat} (R : RF w t a h f) (hh : h < 25) (hf : 25 ≤ f) (hr : r < 7) (v : Int64) :
    RF (wrL w 9 f r (rdL w 9 f r + v)) (wrL t 26 0 (7 * h + r) (rdL t 26 0 (7 * h + r) + v)) a h f := by
  have hfh : ¬ h = f := by omega
  refine ⟨?_, ?_, ?_, ?_, ?_, ?_, ?_, ?_, ?_⟩
  · intro l hl
    simp only [rdL_wrL]
    simpa using R.took l hl
  · intro l hl
    simp only [rdL_wrL]
    simpa using R.used l hl
  · intro l hl
    simp only [rdL_wrL]
    simpa using R.takes l hl
  · intro l hl
    simp only [rdL_wrL]
    simpa using R.thr l hl
  · intro r' hr'
    have h2 := R.fell r' hr'
    simp only [rdL_wrL]
    by_cases e : r' = r
    · subst e
      simp [hfh, h2, Int64.add_assoc]
    · have e' : ¬ (7 * h + r' = 7 * h + r) := by omega
      simp [hfh, h2, e]
  · intro l hl ht
    simp only [rdL_wrL]
    simpa using R.bt l hl ht
  · intro y k hy hk
    simp only [rdL_wrL]
    simpa using R.bh y k hy hk
  · intro l hl ht
    simp only [rdL_wrL]
    simpa using R.fz l hl ht
  · intro l hl ht
    simp only [rdL_wrL]
    simpa using R.fz1 l hl ht
