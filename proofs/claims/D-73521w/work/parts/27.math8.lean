set_option linter.unusedVariables false
set_option linter.unusedSimpArgs false
set_option maxRecDepth 100000
/-! PLAIN LAW: rooms; level with level -/
def room (w : tt_St) (a : TS) (h f y : Nat) : Int64 := sumL (fun k => ml w a h f y k + cn w a h f (a.rg y k)) (a.n y)
theorem ml_ext {w w' : tt_St} {a : TS} {h f y k : Nat} (e : ∀ k i j, k = 2 ∨ k = 10 ∨ k = 11 → rdL w' k i j = rdL w k i j) : ml w' a h f y k = ml w a h f y k := by
  unfold ml
  rw [e 11 _ _ (by omega), e 11 _ _ (by omega)]
theorem cn_ext {w w' : tt_St} {a : TS} {h f l : Nat} (e : ∀ k i j, k = 2 ∨ k = 10 ∨ k = 11 → rdL w' k i j = rdL w k i j) : cn w' a h f l = cn w a h f l := by
  unfold cn
  rw [e 2 _ _ (by omega), e 10 _ _ (by omega), e 10 _ _ (by omega)]
theorem room_ext {w w' : tt_St} {a : TS} {h f y : Nat} (e : ∀ k i j, k = 2 ∨ k = 10 ∨ k = 11 → rdL w' k i j = rdL w k i j) : room w' a h f y = room w a h f y := by
  unfold room
  exact sumL_congr (fun k _ => by rw [ml_ext e, cn_ext e])
theorem c_roomOf {w : tt_St} {a : TS} (C : CS w a) (O : a.Ok) {h f y : Nat} (hy : y < 12) : fW_roomOf w h (nI y) f = some (room w a h f y) := by
  have h6 := O.n6 y hy
  unfold fW_roomOf
  have e := itr_run (body := fW_roomOf_L6 w h (nI y) f) (fun i => (sumL (fun k => ml w a h f y k + cn w a h f (a.rg y k)) i, nI i)) (a.n y) (room w a h f y, nI (a.n y)) (by omega) (fun i hi => by
    unfold fW_roomOf_L6
    simp only [nm]
    rw [inB_nI hy (by omega), if_pos rfl, nI_clamp (by omega), C.many y hy, if_neg (nI_ge hi (by omega)), c_may C O hy hi, c_layerAt C O hy hi]
    simp only [Option.bind_some]
    rw [c_can C O (O.rg40 y i hy hi) (O.rgT y i hy hi), nI_1]
    rfl) (by
    unfold fW_roomOf_L6
    rw [inB_nI hy (by omega), if_pos rfl, nI_clamp (by omega), C.many y hy, if_pos (nI_le (Nat.le_refl _) (by omega))]
    rfl)
  rw [show ((0 : Int64), (0 : Int32)) = (sumL (fun k => ml w a h f y k + cn w a h f (a.rg y k)) 0, nI 0) from rfl, e]
  rfl
theorem m_roomOf {w t : tt_St} {a : TS} (M : MS t a) (O : a.Ok) {h f y : Nat} (R : RF w t a h f) (hh : h < 25) (hy : y < 12) : fM_roomOf t (nI h) (nI y) = some (room w a h f y) := by
  have h6 := O.n6 y hy
  unfold fM_roomOf
  have e := itr_run (body := fM_roomOf_L5 t (nI h) (nI y)) (fun i => (sumL (fun k => ml w a h f y k + cn w a h f (a.rg y k)) i, nI i)) (a.n y) (room w a h f y, nI (a.n y)) (by omega) (fun i hi => by
    unfold fM_roomOf_L5
    simp only [nm]
    rw [m_layersOf M O hy]
    simp only [Option.bind_some]
    rw [if_neg (nI_ge hi (by omega)), m_rungOf M O hy hi]
    simp only [Option.bind_some]
    rw [m_canTake M O R hh (O.rg40 y i hy hi) (O.rgT y i hy hi), m_holeLeft M O R hh hy hi]
    simp only [Option.bind_some]
    rw [nI_1, Int64.add_comm (cn w a h f (a.rg y i))]
    rfl) (by
    unfold fM_roomOf_L5
    rw [m_layersOf M O hy]
    simp only [Option.bind_some]
    rw [if_pos (nI_le (Nat.le_refl _) (by omega))]
    rfl)
  rw [show ((0 : Int64), (0 : Int32)) = (sumL (fun k => ml w a h f y k + cn w a h f (a.rg y k)) 0, nI 0) from rfl, e]
  rfl
theorem room_bd {w t : tt_St} {a : TS} (O : a.Ok) {h f y : Nat} (R : RF w t a h f) (hy : y < 12) : 0 ≤ (room w a h f y).toInt ∧ (room w a h f y).toInt ≤ 6000000000 := by
  have h6 := O.n6 y hy
  have hb : ∀ k, k < a.n y → 0 ≤ (ml w a h f y k + cn w a h f (a.rg y k)).toInt ∧ (ml w a h f y k + cn w a h f (a.rg y k)).toInt ≤ 1000000000 := by
    intro k hk
    have h1 := ml_toInt O R hy hk
    have h2 := cn_toInt O R (O.rg40 y k hy hk) (O.rgT y k hy hk)
    rw [i64_add] <;> omega
  have e := sumL_toInt (W := fun k => ml w a h f y k + cn w a h f (a.rg y k)) (b := 1000000000) (by omega) (n := a.n y) (by omega) hb
  have e2 := sumZ_nonneg (f := fun k => (ml w a h f y k + cn w a h f (a.rg y k)).toInt) (n := a.n y) (fun k hk => (hb k hk).1)
  have e3 := sumZ_le (f := fun k => (ml w a h f y k + cn w a h f (a.rg y k)).toInt) (n := a.n y) (b := 1000000000) (fun k hk => (hb k hk).2)
  unfold room
  rw [e]
  omega
/-- rooms up to a level -/
def lev (V : Nat → Int64) (x : Int64) : Int64 := sumL (fun y => mn (V y) x) 12
theorem lev_bd {V : Nat → Int64} {x : Int64} (hV : ∀ y, y < 12 → 0 ≤ (V y).toInt ∧ (V y).toInt ≤ 6000000000) (hx : 0 ≤ x.toInt) : 0 ≤ (lev V x).toInt ∧ (lev V x).toInt ≤ 72000000000 := by
  have hb : ∀ y, y < 12 → 0 ≤ (mn (V y) x).toInt ∧ (mn (V y) x).toInt ≤ 6000000000 := by
    intro y hy
    have := hV y hy
    rw [mn_toInt]
    omega
  have e := sumL_toInt (W := fun y => mn (V y) x) (b := 6000000000) (by omega) (n := 12) (by omega) hb
  have e2 := sumZ_nonneg (f := fun y => (mn (V y) x).toInt) (n := 12) (fun k hk => (hb k hk).1)
  have e3 := sumZ_le (f := fun y => (mn (V y) x).toInt) (n := 12) (b := 6000000000) (fun k hk => (hb k hk).2)
  unfold lev
  rw [e]
  omega
theorem lev_0 {V : Nat → Int64} (hV : ∀ y, y < 12 → 0 ≤ (V y).toInt) : lev V 0 = 0 := by
  unfold lev
  have e : ∀ n, n ≤ 12 → sumL (fun y => mn (V y) 0) n = 0 := by
    intro n
    induction n with
    | zero => intro _; rfl
    | succ n ih =>
      intro hn
      show sumL (fun y => mn (V y) 0) n + mn (V n) 0 = 0
      have : mn (V n) 0 = 0 := i64_ext (by rw [mn_toInt, i64_0]; have := hV n (by omega); omega)
      rw [ih (by omega), this]
      rfl
  exact e 12 (Nat.le_refl _)
theorem c_upTo {w : tt_St} {V : Nat → Int64} (hV : ∀ y, y < 12 → rdL w 27 0 y = V y) {x : Int64} : fW_upTo w x = some (lev V x) := by
  unfold fW_upTo
  have e := itr_run (body := fW_upTo_L16 w x) (fun i => (sumL (fun y => mn (V y) x) i, nI i)) 12 (lev V x, nI 12) (by omega) (fun i hi => by
    unfold fW_upTo_L16
    simp only [nm]
    rw [L12, if_neg (nI_ge hi (by omega)), inB_nI hi (by omega), if_pos rfl, nI_clamp (by omega), nI_1, hV i hi]
    rfl) (by
    unfold fW_upTo_L16
    rw [L12, if_pos (nI_le (Nat.le_refl _) (by omega))]
    rfl)
  rw [show ((0 : Int64), (0 : Int32)) = (sumL (fun y => mn (V y) x) 0, nI 0) from rfl, e]
  rfl
theorem m_levelled {t : tt_St} {V : Nat → Int64} (hV : ∀ y, y < 12 → rdL t 47 0 y = V y) {x : Int64} : fM_levelled t x = some (lev V x) := by
  unfold fM_levelled
  have e := itr_run (body := fM_levelled_L5 t x) (fun i => (sumL (fun y => mn (V y) x) i, nI i)) 12 (lev V x, nI 12) (by omega) (fun i hi => by
    unfold fM_levelled_L5
    simp only [nm]
    rw [L12, if_neg (nI_ge hi (by omega)), inB_nI hi (by omega), if_pos rfl, nI_clamp (by omega), hV i hi, mn_least]
    simp only [Option.bind_some]
    rw [nI_1]
    rfl) (by
    unfold fM_levelled_L5
    rw [L12, if_pos (nI_le (Nat.le_refl _) (by omega))]
    rfl)
  rw [show ((0 : Int64), (0 : Int32)) = (sumL (fun y => mn (V y) x) 0, nI 0) from rfl, e]
  rfl
/-- the search for the level, both sides -/
theorem level_search {w t : tt_St} {V : Nat → Int64} {A : Int64} {b1 : Int32 × Int32} {b2 : Int32} (hw : ∀ y, y < 12 → rdL w 27 0 y = V y) (ht : ∀ y, y < 12 → rdL t 47 0 y = V y) (hV : ∀ y, y < 12 → 0 ≤ (V y).toInt) (hA : 0 ≤ A.toInt) :
    ∃ low high, itr (fW_byLevel_L68 A (b1.1, b1.2, w)) tt_fuel ((0 : Int64), (2000000000 : Int64)) = some (low, high) ∧ itr (fM_byLevel_L61 A (b2, t)) tt_fuel ((0 : Int64), (2000000000 : Int64)) = some (low, high) ∧ 0 ≤ low.toInt ∧ low.toInt ≤ 2000000000 ∧ (lev V low).toInt ≤ A.toInt := by
  have key : ∀ d n (lo hi : Int64), d < n → 0 ≤ lo.toInt → lo.toInt ≤ hi.toInt → hi.toInt ≤ 2000000000 → hi.toInt - lo.toInt < 2 ^ d → (lev V lo).toInt ≤ A.toInt →
      ∃ low high, itr (fW_byLevel_L68 A (b1.1, b1.2, w)) n (lo, hi) = some (low, high) ∧ itr (fM_byLevel_L61 A (b2, t)) n (lo, hi) = some (low, high) ∧ 0 ≤ low.toInt ∧ low.toInt ≤ 2000000000 ∧ (lev V low).toInt ≤ A.toInt := by
    intro d
    induction d with
    | zero =>
      intro n lo hi hn h1 h2 h3 h4 h5
      obtain ⟨n, rfl⟩ : ∃ m, n = m + 1 := ⟨n - 1, by omega⟩
      have hle : hi ≤ lo := i64_le.mpr (by omega)
      refine ⟨lo, hi, ?_, ?_, h1, by omega, h5⟩
      · unfold itr fW_byLevel_L68
        rw [if_pos hle]
      · unfold itr fM_byLevel_L61
        rw [if_pos hle]
    | succ d ih =>
      intro n lo hi hn h1 h2 h3 h4 h5
      obtain ⟨n, rfl⟩ : ∃ m, n = m + 1 := ⟨n - 1, by omega⟩
      by_cases hle : hi ≤ lo
      · refine ⟨lo, hi, ?_, ?_, h1, by have := i64_le.mp hle; omega, h5⟩
        · unfold itr fW_byLevel_L68
          rw [if_pos hle]
        · unfold itr fM_byLevel_L61
          rw [if_pos hle]
      · have hlt := mt i64_le.mpr hle
        have e1 : (lo + hi).toInt = lo.toInt + hi.toInt := i64_add (by omega) (by omega)
        have e2 : (lo + hi + 1).toInt = lo.toInt + hi.toInt + 1 := by rw [i64_add] <;> rw [e1, show (1 : Int64).toInt = 1 from rfl] <;> omega
        have e3 : ((lo + hi + 1) / 2).toInt = (lo.toInt + hi.toInt + 1) / 2 := by rw [i64_div (by rw [e2]; omega) (by decide), e2]; rfl
        have e4 : ((lo + hi + 1) / 2 - 1).toInt = (lo.toInt + hi.toInt + 1) / 2 - 1 := by rw [i64_sub] <;> rw [e3, show (1 : Int64).toInt = 1 from rfl] <;> omega
        have hp : (2 : Int) ^ (d + 1) = 2 * 2 ^ d := by rw [Int.pow_succ, Int.mul_comm]
        rw [hp] at h4
        by_cases hc : A < lev V ((lo + hi + 1) / 2)
        · obtain ⟨low, high, r1, r2, r3⟩ := ih n lo ((lo + hi + 1) / 2 - 1) (by omega) h1 (by rw [e4]; omega) (by rw [e4]; omega) (by rw [e4]; omega) h5
          refine ⟨low, high, ?_, ?_, r3⟩
          · have q : fW_byLevel_L68 A (b1.1, b1.2, w) (lo, hi) = some (.inl (lo, (lo + hi + 1) / 2 - 1)) := by
              unfold fW_byLevel_L68
              dsimp only [nm]
              rw [if_neg hle, c_upTo hw]
              dsimp only [Option.bind_some]
              rw [if_pos hc]
            unfold itr
            rw [q]
            exact r1
          · have q : fM_byLevel_L61 A (b2, t) (lo, hi) = some (.inl (lo, (lo + hi + 1) / 2 - 1)) := by
              unfold fM_byLevel_L61
              dsimp only [nm]
              rw [if_neg hle, m_levelled ht]
              dsimp only [Option.bind_some]
              rw [if_pos hc]
            unfold itr
            rw [q]
            exact r2
        · obtain ⟨low, high, r1, r2, r3⟩ := ih n ((lo + hi + 1) / 2) hi (by omega) (by rw [e3]; omega) (by rw [e3]; omega) h3 (by rw [e3]; omega) (by have := mt i64_lt.mpr hc; omega)
          refine ⟨low, high, ?_, ?_, r3⟩
          · have q : fW_byLevel_L68 A (b1.1, b1.2, w) (lo, hi) = some (.inl ((lo + hi + 1) / 2, hi)) := by
              unfold fW_byLevel_L68
              dsimp only [nm]
              rw [if_neg hle, c_upTo hw]
              dsimp only [Option.bind_some]
              rw [if_neg hc]
            unfold itr
            rw [q]
            exact r1
          · have q : fM_byLevel_L61 A (b2, t) (lo, hi) = some (.inl ((lo + hi + 1) / 2, hi)) := by
              unfold fM_byLevel_L61
              dsimp only [nm]
              rw [if_neg hle, m_levelled ht]
              dsimp only [Option.bind_some]
              rw [if_neg hc]
            unfold itr
            rw [q]
            exact r2
  exact key 31 tt_fuel 0 2000000000 (by decide) (by decide) (by decide) (by decide) (by decide) (by rw [lev_0 hV]; exact hA)
/-- what is left of the ones; the portion of a year -/
def rl (V : Nat → Int64) (low r : Int64) : Nat → Int64
  | 0 => r
  | y + 1 => if rl V low r y = 0 ∨ V y ≤ low then rl V low r y else rl V low r y - 1
def pl (V : Nat → Int64) (low r : Int64) (y : Nat) : Int64 := if rl V low r y = 0 ∨ V y ≤ low then mn (V y) low else mn (V y) low + 1
theorem rl_pos {V : Nat → Int64} {low r : Int64} (hr : 0 ≤ r.toInt) : ∀ y, 0 ≤ (rl V low r y).toInt ∧ (rl V low r y).toInt ≤ r.toInt
  | 0 => ⟨hr, Int.le_refl _⟩
  | y + 1 => by
    have ih := rl_pos (V := V) (low := low) hr y
    show 0 ≤ (if rl V low r y = 0 ∨ V y ≤ low then rl V low r y else rl V low r y - 1).toInt ∧ (if rl V low r y = 0 ∨ V y ≤ low then rl V low r y else rl V low r y - 1).toInt ≤ r.toInt
    by_cases h : rl V low r y = 0 ∨ V y ≤ low
    · rw [if_pos h]; exact ih
    · rw [if_neg h]
      have h1 : ¬ (rl V low r y).toInt = 0 := fun e => h (Or.inl (i64_ext (by rw [e]; rfl)))
      have h2 := i64_hi r
      rw [i64_sub] <;> rw [show (1 : Int64).toInt = 1 from rfl] <;> omega
theorem pl_pos {V : Nat → Int64} {low r : Int64} {y : Nat} (hV : 0 ≤ (V y).toInt) (hl : 0 ≤ low.toInt) (hl2 : low.toInt ≤ 2000000000) : 0 ≤ (pl V low r y).toInt := by
  unfold pl
  split
  · rw [mn_toInt]; omega
  · rw [i64_add] <;> rw [mn_toInt, show (1 : Int64).toInt = 1 from rfl] <;> omega
