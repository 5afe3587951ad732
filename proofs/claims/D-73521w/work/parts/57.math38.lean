set_option linter.unusedVariables false
set_option linter.unusedSimpArgs false
set_option maxRecDepth 100000
/-! PLAIN LAW: bits: told, spent -/
theorem i32_or0 (x : Int32) : x ||| 0 = x := Int32.or_zero
theorem i64_or0 (x : Int64) : x ||| 0 = x := Int64.or_zero
/-- bits of those of n that have it -/
def bitsI (p : Nat → Bool) : Nat → Int32
  | 0 => 0
  | n + 1 => if p n then bitsI p n ||| ((1 : Int32) <<< (nI n &&& 31)) else bitsI p n
theorem bitsI_s {p : Nat → Bool} {n : Nat} : bitsI p (n + 1) = if p n then bitsI p n ||| ((1 : Int32) <<< (nI n &&& 31)) else bitsI p n := rfl
def bitsL (p : Nat → Bool) : Nat → Int64
  | 0 => 0
  | n + 1 => if p n then bitsL p n ||| ((1 : Int64) <<< ((nI n).toInt64 &&& 63)) else bitsL p n
theorem bitsL_s {p : Nat → Bool} {n : Nat} : bitsL p (n + 1) = if p n then bitsL p n ||| ((1 : Int64) <<< ((nI n).toInt64 &&& 63)) else bitsL p n := rfl
theorem bitsL_stop {p : Nat → Bool} {q : Nat} : ∀ n, (∀ i, q ≤ i → i < q + n → p i = false) → bitsL p (q + n) = bitsL p q
  | 0, _ => rfl
  | n + 1, h => by
    have e : q + (n + 1) = (q + n) + 1 := by omega
    rw [e, bitsL_s, h (q + n) (by omega) (by omega), bitsL_stop n (fun i h1 h2 => h i h1 (by omega))]
    rfl
theorem bitsL_congr {p r : Nat → Bool} : ∀ {n : Nat}, (∀ i, i < n → p i = r i) → bitsL p n = bitsL r n
  | 0, _ => rfl
  | n + 1, h => by rw [bitsL_s, bitsL_s, h n (by omega), bitsL_congr (fun i hi => h i (by omega))]
theorem c_gaps {s : tt_S3} {a : TS} (C : CS s.1 a) (O : a.Ok) : fT_gaps s = some (bitsI (fun y => decide (a.n y = 0)) 12) := by
  have l : itr (fT_gaps_L4 s) tt_fuel ((0 : Int32), (0 : Int32)) = some (bitsI (fun y => decide (a.n y = 0)) 12, nI 12) := by
    refine itr_run (fun k => (bitsI (fun y => decide (a.n y = 0)) k, nI k)) 12 _ (by omega) (fun k hk => ?_) ?_
    · unfold fT_gaps_L4
      dsimp only [nm]
      rw [L12, if_neg (nI_ge hk (by omega)), c_isGap C O hk, Option.bind_some, nI_1, bitsI_s]
      by_cases g : a.n k = 0
      · rw [if_pos g, if_neg (by decide), if_pos (decide_eq_true g)]
      · rw [if_neg g, if_pos (show (0 : Int32) = 0 from rfl), if_neg (by rw [decide_eq_false g]; decide)]
    · unfold fT_gaps_L4
      rw [L12, if_pos (nI_le (Nat.le_refl _) (by omega))]
  unfold fT_gaps
  rw [l]
  rfl
theorem m_gaps {t : tt_St} {a : TS} (M : MS t a) (O : a.Ok) : itr (fM_told_L143 (1, t)) tt_fuel ((0 : Int32), (0 : Int32)) = some (bitsI (fun y => decide (a.n y = 0)) 12, nI 12) := by
  refine itr_run (fun k => (bitsI (fun y => decide (a.n y = 0)) k, nI k)) 12 _ (by omega) (fun k hk => ?_) ?_
  · unfold fM_told_L143
    dsimp only [nm]
    rw [L12, if_neg (nI_ge hk (by omega)), m_isGap M O hk, Option.bind_some, nI_1, bitsI_s, i32_or0]
    by_cases g : a.n k = 0
    · rw [if_pos g, if_neg (by decide), if_pos (decide_eq_true g)]
    · rw [if_neg g, if_pos (show (0 : Int32) = 0 from rfl), if_neg (by rw [decide_eq_false g]; decide)]
  · unfold fM_told_L143
    rw [L12, if_pos (nI_le (Nat.le_refl _) (by omega))]
theorem c_inStatus {w : tt_St} {a : TS} (C : CS w a) (O : a.Ok) {x : Nat} (hx : x ≤ 2) : fW_inStatus w (nI x) = some (bitsI (fun i => decide (a.st i = x)) 10) := by
  have l : itr (fW_inStatus_L4 w (nI x)) tt_fuel ((0 : Int32), (0 : Int32)) = some (bitsI (fun i => decide (a.st i = x)) 10, nI 10) := by
    refine itr_run (fun k => (bitsI (fun i => decide (a.st i = x)) k, nI k)) 10 _ (by omega) (fun k hk => ?_) ?_
    · have h2 := O.st2 k hk
      unfold fW_inStatus_L4
      dsimp only [nm]
      rw [L10, if_neg (nI_ge hk (by omega)), inB_nI hk (by omega), if_pos rfl, nI_clamp (by omega), C.st k hk, nI_1, bitsI_s]
      by_cases g : a.st k = x
      · rw [if_pos (by rw [g]), if_pos (decide_eq_true g)]
      · rw [if_neg (by rw [nI_eq (by omega) (by omega)]; exact g), if_neg (by rw [decide_eq_false g]; decide)]
    · unfold fW_inStatus_L4
      rw [L10, if_pos (nI_le (Nat.le_refl _) (by omega))]
  unfold fW_inStatus
  rw [l]
  rfl
theorem m_standingBits {t : tt_St} {a : TS} (M : MS t a) (O : a.Ok) (h0 : a.st 0 = 0) {x : Nat} (hx1 : 1 ≤ x) (hx : x ≤ 2) : fM_standingBits t (nI x) = some (bitsI (fun i => decide (a.st i = x)) 10) := by
  have l : itr (fM_standingBits_L4 t (nI x)) tt_fuel ((0 : Int32), (1 : Int32)) = some (bitsI (fun i => decide (a.st i = x)) 10, nI 10) := by
    have e0 : bitsI (fun i => decide (a.st i = x)) 1 = 0 := by
      rw [bitsI_s, h0, if_neg (by rw [decide_eq_false (by omega)]; decide)]
      rfl
    have r := itr_run (body := fM_standingBits_L4 t (nI x)) (fun k => (bitsI (fun i => decide (a.st i = x)) (k + 1), nI (k + 1))) 9 (bitsI (fun i => decide (a.st i = x)) 10, nI 10) (by omega) (fun k hk => ?_) ?_
    · have r' : itr (fM_standingBits_L4 t (nI x)) tt_fuel (bitsI (fun i => decide (a.st i = x)) 1, nI 1) = some (bitsI (fun i => decide (a.st i = x)) 10, nI 10) := r
      rw [e0] at r'
      exact r'
    · have h2 := O.st2 (k + 1) (by omega)
      unfold fM_standingBits_L4
      dsimp only [nm]
      rw [L10, if_neg (nI_ge (show k + 1 < 10 by omega) (by omega)), inB_nI (show k + 1 < 10 by omega) (by omega), if_pos rfl, nI_clamp (by omega), M.st (k + 1) (by omega), nI_1, bitsI_s (n := k + 1), i32_or0]
      by_cases g : a.st (k + 1) = x
      · rw [if_pos (by rw [g]), if_pos (decide_eq_true g)]
      · rw [if_neg (by rw [nI_eq (by omega) (by omega)]; exact g), if_neg (by rw [decide_eq_false g]; decide)]
    · unfold fM_standingBits_L4
      rw [L10, if_pos (nI_le (Nat.le_refl _) (by omega))]
  unfold fM_standingBits
  rw [l]
  rfl
theorem ask_spent {s : tt_S3} {m : tt_St} {a : TS} {c : Nat} (T : TN s m a c) : ∃ v, fT_spent s = some v ∧ fM_spent m = some (v, thr0 m) := by
  have R := T.thr.R
  obtain ⟨q, q1, q2, q3⟩ := T.P
  have eL : ∀ l, l < 40 → a.there l = true → fY_left s.1 l = some ((nI (a.sz l)).toInt64 * (nI (a.tm l)).toInt64 - rdL s.1 2 l 9) ∧ fM_left (thr0 m) (nI l) = some ((nI (a.sz l)).toInt64 * (nI (a.tm l)).toInt64 - rdL s.1 2 l 9) := fun l hl ht => ⟨c_left R.C R.O hl ht, by rw [m_left R.M R.O hl ht, R.used l hl]⟩
  obtain ⟨p, hp⟩ : ∃ p : Nat → Bool, p = fun l => a.there l && decide ((nI (a.sz l)).toInt64 * (nI (a.tm l)).toInt64 - rdL s.1 2 l 9 = 0) := ⟨_, rfl⟩
  have lc : itr (fT_spent_L4 s) tt_fuel ((0 : Int64), (0 : Int32)) = some (bitsL p q, nI q) := by
    refine itr_run (fun k => (bitsL p k, nI k)) q _ (by omega) (fun k hk => ?_) ?_
    · have ht := (q3 k (by omega)).mpr hk
      unfold fT_spent_L4
      dsimp only [nm]
      rw [q2, if_neg (nI_ge hk (by omega)), inB_nI (show k < 40 by omega) (by omega), if_pos rfl, nI_clamp (by omega), (eL k (by omega) ht).1, Option.bind_some, nI_1, bitsL_s]
      by_cases g : (nI (a.sz k)).toInt64 * (nI (a.tm k)).toInt64 - rdL s.1 2 k 9 = 0
      · have : p k = true := by rw [hp]; simp [ht, g]
        rw [if_pos g, this, if_pos rfl]
      · have : p k = false := by rw [hp]; simp [g]
        rw [if_neg g, this, if_neg (by decide)]
    · unfold fT_spent_L4
      rw [q2, if_pos (nI_le (Nat.le_refl _) (by omega))]
  have lm : itr (fM_spent_L9 (thr0 m)) tt_fuel ((0 : Int64), (0 : Int32)) = some (bitsL p 40, nI 40) := by
    refine itr_run (fun k => (bitsL p k, nI k)) 40 _ (by omega) (fun k hk => ?_) ?_
    · unfold fM_spent_L9
      dsimp only [nm]
      rw [L40, if_neg (nI_ge hk (by omega)), inB_nI hk (by omega), if_pos rfl, nI_clamp (by omega), R.M.isT k hk, nI_1, bitsL_s, i64_or0]
      by_cases ht : a.there k = true
      · rw [ht, if_neg (show ¬ (if true = true then (1 : Int32) else 0) = 0 by decide), (eL k hk ht).2, Option.bind_some]
        by_cases g : (nI (a.sz k)).toInt64 * (nI (a.tm k)).toInt64 - rdL s.1 2 k 9 = 0
        · have : p k = true := by rw [hp]; simp [ht, g]
          rw [if_pos g, this, if_pos rfl]
        · have : p k = false := by rw [hp]; simp [g]
          rw [if_neg g, this, if_neg (by decide)]
      · have ht' : a.there k = false := by simpa using ht
        have : p k = false := by rw [hp]; simp [ht']
        rw [ht', if_pos (show (if false = true then (1 : Int32) else 0) = 0 by decide), this, if_neg (by decide)]
    · unfold fM_spent_L9
      rw [L40, if_pos (nI_le (Nat.le_refl _) (by omega))]
  have e : bitsL p 40 = bitsL p q := by
    have := bitsL_stop (p := p) (q := q) (40 - q) (fun i h1 h2 => by
      have : a.there i = false := by
        by_cases z : a.there i = true
        · have := (q3 i (by omega)).mp z; omega
        · simpa using z
      rw [hp]; simp [this])
    rw [show q + (40 - q) = 40 by omega] at this
    exact this
  refine ⟨bitsL p q, ?_, ?_⟩
  · unfold fT_spent
    rw [lc]; rfl
  · unfold fM_spent
    dsimp only [nm]
    rw [show wrI m 0 0 0 0 = thr0 m from rfl, lm, Option.bind_some, e]
