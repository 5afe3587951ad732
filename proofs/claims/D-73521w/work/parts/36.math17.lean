set_option linter.unusedVariables false
set_option linter.unusedSimpArgs false
set_option maxRecDepth 100000
/-! PLAIN LAW: who bears it, both sides -/
def tenS (a : TS) (l : Nat) : Nat → Nat
  | 0 => 0
  | n + 1 => tenS a l n + a.ten l n
theorem tenS_le {a : TS} (O : a.Ok) {l : Nat} (hl : l < 40) : ∀ n, n ≤ a.sg l → tenS a l n ≤ 10 * n
  | 0, _ => Nat.le_refl _
  | n + 1, h => by
    have := tenS_le O hl n (by omega)
    have := (O.ten1 l n hl (by omega)).2
    unfold tenS
    omega
theorem c_allTenths {w : tt_St} {a : TS} (C : CS w a) (O : a.Ok) {l : Nat} (hl : l < 40) : fY_allTenths w l = some (nI (tenS a l (a.sg l))) := by
  have h4 := O.sg4 l hl
  have h : itr (fY_allTenths_L4 w l) tt_fuel ((0 : Int32), (0 : Int32)) = some (nI (tenS a l (a.sg l)), nI (a.sg l)) := by
    refine itr_run (fun i => (nI (tenS a l i), nI i)) (a.sg l) _ (by omega) (fun i hi => ?_) ?_
    · unfold fY_allTenths_L4
      dsimp only [nm]
      rw [C.sg l hl, if_neg (nI_ge hi (by omega)), inB_nI (by omega) (by omega), if_pos rfl, nI_clamp (by omega), C.ten l i hl hi, nI_add, nI_1]
      rfl
    · unfold fY_allTenths_L4
      rw [C.sg l hl, if_pos (nI_le (Nat.le_refl _) (by omega))]
  unfold fY_allTenths
  rw [h]
  rfl
theorem m_allTenths {t : tt_St} {a : TS} (M : MS t a) (O : a.Ok) {l : Nat} (hl : l < 40) : itr (fM_splits_L5 t (nI l)) tt_fuel ((0 : Int32), (0 : Int32)) = some (nI (tenS a l (a.sg l)), nI (a.sg l)) := by
  have h4 := O.sg4 l hl
  refine itr_run (fun i => (nI (tenS a l i), nI i)) (a.sg l) _ (by omega) (fun i hi => ?_) ?_
  · unfold fM_splits_L5
    dsimp only [nm]
    rw [inB_nI hl (by omega), if_pos rfl, nI_clamp (by omega), M.sg l hl, if_neg (nI_ge hi (by omega)), L4, ix_add, inB_nI (by omega) (by omega), if_pos rfl, nI_clamp (by omega), M.ten l i hl hi, nI_add, nI_1]
    rfl
  · unfold fM_splits_L5
    rw [inB_nI hl (by omega), if_pos rfl, nI_clamp (by omega), M.sg l hl, if_pos (nI_le (Nat.le_refl _) (by omega))]
/-- a tenth part of it, cut -/
def pz (x : Int64) (a : TS) (l k : Nat) : Int64 := x * (nI (a.ten l k)).toInt64 / 10
def due (x : Int64) (a : TS) (l : Nat) : Int64 := x * (nI (tenS a l (a.sg l))).toInt64 / 10
def lf (x : Int64) (a : TS) (l : Nat) : Nat → Int64
  | 0 => due x a l
  | n + 1 => lf x a l n - pz x a l n
def lg (x : Int64) (a : TS) (l : Nat) : Nat → Int64
  | 0 => lf x a l (a.sg l)
  | k + 1 => lg x a l k - 1
def hv (x : Int64) (a : TS) (l k : Nat) : Int64 := pz x a l k + (if lg x a l k ≤ 0 then 0 else 1)
theorem mul_tenth {x : Int64} {n : Nat} (hx : 0 ≤ x.toInt) (hx2 : x.toInt ≤ 100000000) (hn : n ≤ 40) : (x * (nI n).toInt64 / 10).toInt = x.toInt * n / 10 ∧ 0 ≤ x.toInt * n ∧ x.toInt * n ≤ 4000000000 := by
  have e1 : ((nI n).toInt64).toInt = n := nI64 (by omega)
  have h1 : 0 ≤ x.toInt * n := Int.mul_nonneg hx (by omega)
  have h2 : x.toInt * n ≤ 100000000 * 40 := Int.le_trans (Int.mul_le_mul_of_nonneg_right hx2 (by omega)) (Int.mul_le_mul_of_nonneg_left (by omega) (by omega))
  have e2 : (x * (nI n).toInt64).toInt = x.toInt * n := by rw [i64_mul (by rw [e1]; omega) (by rw [e1]; omega), e1]
  refine ⟨?_, h1, by omega⟩
  rw [i64_div (by rw [e2]; exact h1) (by decide), e2]
  rfl
theorem pz_bd {x : Int64} {a : TS} (O : a.Ok) {l k : Nat} (hl : l < 40) (hk : k < a.sg l) (hx : 0 ≤ x.toInt) (hx2 : x.toInt ≤ 100000000) : 0 ≤ (pz x a l k).toInt ∧ (pz x a l k).toInt ≤ x.toInt := by
  have h10 := (O.ten1 l k hl hk).2
  obtain ⟨e, h1, h2⟩ := mul_tenth (n := a.ten l k) hx hx2 (by omega)
  unfold pz
  rw [e]
  have : x.toInt * (a.ten l k : Int) ≤ x.toInt * 10 := Int.mul_le_mul_of_nonneg_left (by omega) hx
  omega
theorem due_bd {x : Int64} {a : TS} (O : a.Ok) {l : Nat} (hl : l < 40) (hx : 0 ≤ x.toInt) (hx2 : x.toInt ≤ 100000000) : 0 ≤ (due x a l).toInt ∧ (due x a l).toInt ≤ 400000000 := by
  have h4 := O.sg4 l hl
  have h10 := tenS_le O hl (a.sg l) (Nat.le_refl _)
  obtain ⟨e, h1, h2⟩ := mul_tenth (n := tenS a l (a.sg l)) hx hx2 (by omega)
  unfold due
  rw [e]
  omega
theorem lf_bd {x : Int64} {a : TS} (O : a.Ok) {l : Nat} (hl : l < 40) (hx : 0 ≤ x.toInt) (hx2 : x.toInt ≤ 100000000) : ∀ n, n ≤ a.sg l → -(100000000 * (n : Int)) ≤ (lf x a l n).toInt ∧ (lf x a l n).toInt ≤ 400000000
  | 0, _ => by
    have := due_bd O hl hx hx2
    unfold lf
    omega
  | n + 1, h => by
    have h4 := O.sg4 l hl
    have h1 := lf_bd O hl hx hx2 n (by omega)
    have h2 := pz_bd O hl (show n < a.sg l by omega) hx hx2
    unfold lf
    rw [i64_sub (by omega) (by omega)]
    omega
theorem lg_bd {x : Int64} {a : TS} (O : a.Ok) {l : Nat} (hl : l < 40) (hx : 0 ≤ x.toInt) (hx2 : x.toInt ≤ 100000000) : ∀ k : Nat, k ≤ 4 → -(400000000 + (k : Int)) ≤ (lg x a l k).toInt ∧ (lg x a l k).toInt ≤ 400000000
  | 0, _ => by
    have h4 := O.sg4 l hl
    have := lf_bd O hl hx hx2 (a.sg l) (Nat.le_refl _)
    unfold lg
    omega
  | k + 1, h => by
    have h1 := lg_bd O hl hx hx2 k (by omega)
    unfold lg
    rw [i64_sub (by rw [show (1 : Int64).toInt = 1 from rfl]; omega) (by rw [show (1 : Int64).toInt = 1 from rfl]; omega), show (1 : Int64).toInt = 1 from rfl]
    omega
/-- of nothing nobody has anything -/
theorem hv_zero {a : TS} {l : Nat} : pz 0 a l = (fun _ => 0) ∧ due 0 a l = 0 ∧ (∀ n, lf 0 a l n = 0) ∧ (∀ k, (lg 0 a l k).toInt ≤ 0 ∨ 4 < k) ∧ ∀ k, k ≤ 4 → hv 0 a l k = 0 := by
  have z10 : (0 : Int64) / 10 = 0 := by decide
  have p0 : ∀ k, pz 0 a l k = 0 := fun k => by unfold pz; rw [Int64.zero_mul, z10]
  have d0 : due 0 a l = 0 := by unfold due; rw [Int64.zero_mul, z10]
  have f0 : ∀ n, lf 0 a l n = 0 := by
    intro n
    induction n with
    | zero => exact d0
    | succ n ih => unfold lf; rw [ih, p0, Int64.sub_zero]
  have g0 : lg 0 a l 0 = 0 := f0 _
  have g1 : lg 0 a l 1 = -1 := by
    have : lg 0 a l 1 = lg 0 a l 0 - 1 := rfl
    rw [this, g0]; decide
  have g2 : lg 0 a l 2 = -2 := by
    have : lg 0 a l 2 = lg 0 a l 1 - 1 := rfl
    rw [this, g1]; decide
  have g3 : lg 0 a l 3 = -3 := by
    have : lg 0 a l 3 = lg 0 a l 2 - 1 := rfl
    rw [this, g2]; decide
  have g4 : lg 0 a l 4 = -4 := by
    have : lg 0 a l 4 = lg 0 a l 3 - 1 := rfl
    rw [this, g3]; decide
  have gk : ∀ k, (lg 0 a l k).toInt ≤ 0 ∨ 4 < k := by
    intro k
    rcases (show k = 0 ∨ k = 1 ∨ k = 2 ∨ k = 3 ∨ k = 4 ∨ 4 < k by omega) with rfl | rfl | rfl | rfl | rfl | h
    · left; rw [g0]; decide
    · left; rw [g1]; decide
    · left; rw [g2]; decide
    · left; rw [g3]; decide
    · left; rw [g4]; decide
    · exact Or.inr h
  refine ⟨funext p0, d0, f0, gk, fun k hk => ?_⟩
  unfold hv
  rw [p0]
  rcases gk k with z | z
  · rw [if_pos (i64_le.mpr (by rw [i64_0]; exact z))]; rfl
  · omega
theorem hv_bd {x : Int64} {a : TS} (O : a.Ok) {l k : Nat} (hl : l < 40) (hk : k < a.sg l) (hx : 0 ≤ x.toInt) (hx2 : x.toInt ≤ 100000000) : 0 ≤ (hv x a l k).toInt ∧ (hv x a l k).toInt ≤ 2 * x.toInt := by
  have h4 := O.sg4 l hl
  by_cases z : x.toInt = 0
  · have : x = 0 := i64_ext z
    rw [this, (hv_zero (a := a) (l := l)).2.2.2.2 k (by omega)]
    decide
  · have := pz_bd O hl hk hx hx2
    unfold hv
    split
    · rw [Int64.add_zero]; omega
    · rw [i64_add (by rw [show (1 : Int64).toInt = 1 from rfl]; omega) (by rw [show (1 : Int64).toInt = 1 from rfl]; omega), show (1 : Int64).toInt = 1 from rfl]
      omega
/-- what is split so far -/
def RS (w : tt_St) (t : tt_St) (t0 : tt_St) (h : Nat) (f : Nat) : Prop :=
  (∀ r, r < 7 → rdL t 26 0 (7 * h + r) = rdL w 9 h r + rdL w 9 f r) ∧
  (∀ i, i < 10 → rdL t 25 0 (10 * h + i) = rdL w 8 h i + rdL w 8 f i) ∧
  (∀ c, c < 160 → rdI t 24 0 (160 * h + c) = rdI t0 24 0 (160 * h + c) + (rdL w 13 f c).toInt32)
theorem RS.fell {w : tt_St} {t : tt_St} {t0 : tt_St} {h : Nat} {f : Nat} (self_ : RS w t t0 h f) : ∀ r, r < 7 → rdL t 26 0 (7 * h + r) = rdL w 9 h r + rdL w 9 f r := self_.1
theorem RS.bore {w : tt_St} {t : tt_St} {t0 : tt_St} {h : Nat} {f : Nat} (self_ : RS w t t0 h f) : ∀ i, i < 10 → rdL t 25 0 (10 * h + i) = rdL w 8 h i + rdL w 8 f i := self_.2.1
theorem RS.had {w : tt_St} {t : tt_St} {t0 : tt_St} {h : Nat} {f : Nat} (self_ : RS w t t0 h f) : ∀ c, c < 160 → rdI t 24 0 (160 * h + c) = rdI t0 24 0 (160 * h + c) + (rdL w 13 f c).toInt32 := self_.2.2
def FSC (f : Nat) (w w' : tt_St) : Prop :=
  (w'.1 = w.1) ∧
  (w'.2.2 = w.2.2) ∧
  (∀ k i j, ¬ (i = f ∧ (k = 8 ∨ k = 9 ∨ k = 13)) → rdL w' k i j = rdL w k i j)
theorem FSC.i {f : Nat} {w w' : tt_St} (self_ : FSC f w w') : w'.1 = w.1 := self_.1
theorem FSC.r {f : Nat} {w w' : tt_St} (self_ : FSC f w w') : w'.2.2 = w.2.2 := self_.2.1
theorem FSC.l {f : Nat} {w w' : tt_St} (self_ : FSC f w w') : ∀ k i j, ¬ (i = f ∧ (k = 8 ∨ k = 9 ∨ k = 13)) → rdL w' k i j = rdL w k i j := self_.2.2
def FSM (h : Nat) (t t' : tt_St) : Prop :=
  (∀ k i j, ¬ (k = 24 ∧ j / 160 = h) → rdI t' k i j = rdI t k i j) ∧
  (∀ k i j, ¬ ((k = 25 ∧ j / 10 = h) ∨ (k = 26 ∧ j / 7 = h)) → rdL t' k i j = rdL t k i j)
theorem FSM.i {h : Nat} {t t' : tt_St} (self_ : FSM h t t') : ∀ k i j, ¬ (k = 24 ∧ j / 160 = h) → rdI t' k i j = rdI t k i j := self_.1
theorem FSM.l {h : Nat} {t t' : tt_St} (self_ : FSM h t t') : ∀ k i j, ¬ ((k = 25 ∧ j / 10 = h) ∨ (k = 26 ∧ j / 7 = h)) → rdL t' k i j = rdL t k i j := self_.2
theorem FSC.refl {f : Nat} (w : tt_St) : FSC f w w := ⟨rfl, rfl, fun _ _ _ _ => rfl⟩
theorem FSM.refl {f : Nat} (w : tt_St) : FSM f w w := ⟨fun _ _ _ _ => rfl, fun _ _ _ _ => rfl⟩
theorem FSC.trans {f : Nat} {u v w : tt_St} (h1 : FSC f u v) (h2 : FSC f v w) : FSC f u w := ⟨h2.i.trans h1.i, h2.r.trans h1.r, fun k i j h => (h2.l k i j h).trans (h1.l k i j h)⟩
theorem FSM.trans {f : Nat} {u v w : tt_St} (h1 : FSM f u v) (h2 : FSM f v w) : FSM f u w := ⟨fun k i j h => (h2.i k i j h).trans (h1.i k i j h), fun k i j h => (h2.l k i j h).trans (h1.l k i j h)⟩
theorem FSC.w {f k j : Nat} (w : tt_St) (x : Int64) (hk : k = 8 ∨ k = 9 ∨ k = 13) : FSC f w (wrL w k f j x) := ⟨rfl, rfl, fun a b c h => by
  rw [rdL_wrL, if_neg]
  rintro ⟨rfl, rfl, rfl⟩
  exact h ⟨rfl, hk⟩⟩
theorem FSM.wl {h k j : Nat} (t : tt_St) (x : Int64) (hk : (k = 25 ∧ j / 10 = h) ∨ (k = 26 ∧ j / 7 = h)) : FSM h t (wrL t k 0 j x) := ⟨fun _ _ _ _ => rfl, fun a b c hn => by
  rw [rdL_wrL, if_neg]
  rintro ⟨rfl, rfl, rfl⟩
  exact hn hk⟩
theorem FSM.wi {h j : Nat} (t : tt_St) (x : Int32) (hk : j / 160 = h) : FSM h t (wrI t 24 0 j x) := ⟨fun a b c hn => by
  rw [rdI_wrI, if_neg]
  rintro ⟨rfl, rfl, rfl⟩
  exact hn ⟨rfl, hk⟩, fun _ _ _ _ => rfl⟩
theorem FSM.ms {t t' : tt_St} {a : TS} {f : Nat} (h : FSM f t t') (C : MS t a) : MS t' a := by
  have e := fun k i j (h1 : ¬ k = 24) => h.i k i j (fun q => h1 q.1)
  unfold MS at C ⊢
  simp only [e 0 _ _ (by omega), e 6 _ _ (by omega), e 8 _ _ (by omega), e 9 _ _ (by omega), e 10 _ _ (by omega), e 11 _ _ (by omega), e 12 _ _ (by omega), e 13 _ _ (by omega), e 14 _ _ (by omega), e 27 _ _ (by omega), e 33 _ _ (by omega), e 34 _ _ (by omega), e 35 _ _ (by omega)]
  exact C
/-- one more falls on the insured; one more is borne -/
theorem RS.fall {w t t0 : tt_St} {h f r : Nat} (R : RS w t t0 h f) (hf : ¬ h = f) (hr : r < 7) (v : Int64) : RS (wrL w 9 f r (rdL w 9 f r + v)) (wrL t 26 0 (7 * h + r) (rdL t 26 0 (7 * h + r) + v)) t0 h f := by
  refine ⟨fun q hq => ?_, fun i hi => ?_, fun c hc => ?_⟩
  · rw [rdL_wrL, rdL_wrL, rdL_wrL]
    by_cases e : q = r
    · subst e
      rw [if_pos ⟨rfl, rfl, rfl⟩, if_neg (fun z => hf z.2.1), if_pos ⟨rfl, rfl, rfl⟩, R.fell q hq, Int64.add_assoc]
    · rw [if_neg (by omega), if_neg (by omega), if_neg (by omega)]; exact R.fell q hq
  · rw [rdL_wrL, rdL_wrL, rdL_wrL, if_neg (by omega), if_neg (by omega), if_neg (by omega)]; exact R.bore i hi
  · rw [rdI_wrL, rdL_wrL, if_neg (by omega)]; exact R.had c hc
theorem RS.bear {w t t0 : tt_St} {h f r : Nat} (R : RS w t t0 h f) (hf : ¬ h = f) (hr : r < 10) (v : Int64) : RS (wrL w 8 f r (rdL w 8 f r + v)) (wrL t 25 0 (10 * h + r) (rdL t 25 0 (10 * h + r) + v)) t0 h f := by
  refine ⟨fun q hq => ?_, fun i hi => ?_, fun c hc => ?_⟩
  · rw [rdL_wrL, rdL_wrL, rdL_wrL, if_neg (by omega), if_neg (by omega), if_neg (by omega)]; exact R.fell q hq
  · rw [rdL_wrL, rdL_wrL, rdL_wrL]
    by_cases e : i = r
    · subst e
      rw [if_pos ⟨rfl, rfl, rfl⟩, if_neg (fun z => hf z.2.1), if_pos ⟨rfl, rfl, rfl⟩, R.bore i hi, Int64.add_assoc]
    · rw [if_neg (by omega), if_neg (by omega), if_neg (by omega)]; exact R.bore i hi
  · rw [rdI_wrL, rdL_wrL, if_neg (by omega)]; exact R.had c hc
theorem RS.part {w t t0 : tt_St} {h f c : Nat} (R : RS w t t0 h f) (hf : ¬ h = f) (hc : c < 160) (hz : rdL w 13 f c = 0) (v : Int64) : RS (wrL w 13 f c v) (wrI t 24 0 (160 * h + c) (rdI t 24 0 (160 * h + c) + v.toInt32)) t0 h f := by
  refine ⟨fun q hq => ?_, fun i hi => ?_, fun d hd => ?_⟩
  · rw [rdL_wrI, rdL_wrL, rdL_wrL, if_neg (by omega), if_neg (by omega)]; exact R.fell q hq
  · rw [rdL_wrI, rdL_wrL, rdL_wrL, if_neg (by omega), if_neg (by omega)]; exact R.bore i hi
  · rw [rdI_wrI, rdL_wrL]
    have := R.had d hd
    by_cases e : d = c
    · subst e
      rw [if_pos ⟨rfl, rfl, rfl⟩, if_pos ⟨rfl, rfl, rfl⟩, this, hz]
      rw [show (0 : Int64).toInt32 = 0 from rfl, Int32.add_zero]
    · rw [if_neg (by omega), if_neg (by omega)]; exact this
theorem L5 : (5 : Int32) = nI 5 := rfl
theorem c_split1 {w : tt_St} {a : TS} (C : CS w a) (O : a.Ok) {l : Nat} (hl : l < 40) (x : Int64) : itr (fW_splits_L30 w l x) tt_fuel (due x a l, (0 : Int32)) = some (lf x a l (a.sg l), nI (a.sg l)) := by
  have h4 := O.sg4 l hl
  refine itr_run (fun i => (lf x a l i, nI i)) (a.sg l) _ (by omega) (fun i hi => ?_) ?_
  · unfold fW_splits_L30
    dsimp only [nm]
    rw [C.sg l hl, if_neg (nI_ge hi (by omega)), inB_nI (by omega) (by omega), if_pos rfl, nI_clamp (by omega), C.ten l i hl hi, nI_1]
    rfl
  · unfold fW_splits_L30
    rw [C.sg l hl, if_pos (nI_le (Nat.le_refl _) (by omega))]
theorem m_split1 {t : tt_St} {a : TS} (M : MS t a) (O : a.Ok) {l : Nat} (hl : l < 40) {x : Int64} (hx : rdL t 38 0 l = x) : itr (fM_splits_L58 t (nI l)) tt_fuel (due x a l, (0 : Int32)) = some (lf x a l (a.sg l), nI (a.sg l)) := by
  have h4 := O.sg4 l hl
  refine itr_run (fun i => (lf x a l i, nI i)) (a.sg l) _ (by omega) (fun i hi => ?_) ?_
  · unfold fM_splits_L58
    dsimp only [nm]
    rw [nI_clamp (show l < 2 ^ 31 by omega), M.sg l hl, if_neg (nI_ge hi (by omega)), L4, ix_add, inB_nI (by omega) (by omega), if_pos rfl, nI_clamp (by omega), M.ten l i hl hi, nI_1, hx]
    rfl
  · unfold fM_splits_L58
    rw [nI_clamp (show l < 2 ^ 31 by omega), M.sg l hl, if_pos (nI_le (Nat.le_refl _) (by omega))]
/-- one who signed, the component's side: where it is laid -/
theorem c_split2 {u : tt_St} {a : TS} (C : CS u a) (O : a.Ok) {l k : Nat} (hl : l < 40) (hk : k < a.sg l) (x : Int64) (f : Nat) : (∃ r, r < 7 ∧ (a.who l k = 0 ∧ r = 0 ∨ ¬ a.who l k = 0 ∧ ¬ a.st (a.who l k) = 0 ∧ r = (if a.st (a.who l k) = 1 then 5 else 6)) ∧ fW_splits_L67 l f x (lg x a l k, nI k, u) = some (.inl (lg x a l (k + 1), nI (k + 1), wrL (wrL u 13 f (4 * l + k) (hv x a l k)) 9 f r (rdL (wrL u 13 f (4 * l + k) (hv x a l k)) 9 f r + hv x a l k)))) ∨ (¬ a.who l k = 0 ∧ a.st (a.who l k) = 0 ∧ fW_splits_L67 l f x (lg x a l k, nI k, u) = some (.inl (lg x a l (k + 1), nI (k + 1), wrL (wrL u 13 f (4 * l + k) (hv x a l k)) 8 f (a.who l k) (rdL (wrL u 13 f (4 * l + k) (hv x a l k)) 8 f (a.who l k) + hv x a l k)))) := by
  have h4 := O.sg4 l hl
  have hw := O.who10 l k hl hk
  have hs := O.st2 (a.who l k) hw
  have eh : (x * (rdI u 4 l k).toInt64 / 10 + if lg x a l k ≤ (0 : Int64) then (0 : Int64) else 1) = hv x a l k := by rw [C.ten l k hl hk]; rfl
  have e1 : rdI (wrL u 13 f (4 * l + k) (hv x a l k)) 3 l k = nI (a.who l k) := by rw [rdI_wrL]; exact C.who l k hl hk
  have e2 : rdI (wrL u 13 f (4 * l + k) (hv x a l k)) 24 0 (a.who l k) = nI (a.st (a.who l k)) := by rw [rdI_wrL]; exact C.st _ hw
  unfold fW_splits_L67
  dsimp only [nm]
  rw [C.sg l hl, if_neg (nI_ge hk (by omega)), inB_nI (by omega) (by omega), if_pos rfl, nI_clamp (show k < 2 ^ 31 by omega), eh, L4, ix_add, inB_nI (by omega) (by omega), if_pos rfl, nI_clamp (show 4 * l + k < 2 ^ 31 by omega), e1, nI_1]
  by_cases w0 : a.who l k = 0
  · left
    refine ⟨0, by omega, Or.inl ⟨w0, rfl⟩, ?_⟩
    rw [if_pos (by rw [w0]; rfl), if_pos (show inB 0 7 = true by decide), show (0 : Int32).toNatClampNeg = 0 from rfl]
    rfl
  · rw [if_neg (nI_ne0 (by omega) (by omega)), inB_nI hw (by omega), if_pos rfl, nI_clamp (show a.who l k < 2 ^ 31 by omega), e2]
    by_cases s0 : a.st (a.who l k) = 0
    · right
      refine ⟨w0, s0, ?_⟩
      rw [if_pos (by rw [s0]; rfl)]
      rfl
    · left
      rw [if_neg (nI_ne0 (by omega) (by omega))]
      by_cases s1 : a.st (a.who l k) = 1
      · refine ⟨5, by omega, Or.inr ⟨w0, s0, by rw [if_pos s1]⟩, ?_⟩
        have es : (if nI (a.st (a.who l k)) = (1 : Int32) then (5 : Int32) else 6) = nI 5 := by rw [s1]; rfl
        rw [es, inB_nI (by omega) (by omega), if_pos rfl, nI_clamp (by omega)]
        rfl
      · refine ⟨6, by omega, Or.inr ⟨w0, s0, by rw [if_neg s1]⟩, ?_⟩
        have es : (if nI (a.st (a.who l k)) = (1 : Int32) then (5 : Int32) else 6) = nI 6 := by rw [if_neg (by rw [L1, nI_eq (by omega) (by omega)]; exact s1)]; rfl
        rw [es, inB_nI (by omega) (by omega), if_pos rfl, nI_clamp (by omega)]
        rfl
theorem m_fallsOn {t : tt_St} {h r : Nat} (hh : h < 25) (hr : r < 7) (x : Int64) : fM_fallsOn t (nI h) (nI r) x = some (wrL t 26 0 (7 * h + r) (rdL t 26 0 (7 * h + r) + x)) := by
  unfold fM_fallsOn
  dsimp only [nm]
  rw [L7, ix_add, inB_nI (by omega) (by omega), if_pos rfl, nI_clamp (by omega)]
/-- the same, the model's side -/
theorem m_split2 {v : tt_St} {a : TS} (M : MS v a) (O : a.Ok) {h l k : Nat} (hh : h < 25) (hl : l < 40) (hk : k < a.sg l) {x y z : Int64} (hx : rdL v 38 0 l = x) (hy : y ≤ 0 ↔ lg x a l k ≤ 0) (hz : z = y - (if y ≤ 0 then 0 else 1)) : (∀ r, (a.who l k = 0 ∧ r = 0 ∨ ¬ a.who l k = 0 ∧ ¬ a.st (a.who l k) = 0 ∧ r = (if a.st (a.who l k) = 1 then 5 else 6)) → fM_splits_L106 (nI h) (nI l) (y, nI k, v) = some (.inl (z, nI (k + 1), wrL (wrI v 24 0 (160 * h + (4 * l + k)) (rdI v 24 0 (160 * h + (4 * l + k)) + (hv x a l k).toInt32)) 26 0 (7 * h + r) (rdL (wrI v 24 0 (160 * h + (4 * l + k)) (rdI v 24 0 (160 * h + (4 * l + k)) + (hv x a l k).toInt32)) 26 0 (7 * h + r) + hv x a l k)))) ∧ (¬ a.who l k = 0 → a.st (a.who l k) = 0 → fM_splits_L106 (nI h) (nI l) (y, nI k, v) = some (.inl (z, nI (k + 1), wrL (wrI v 24 0 (160 * h + (4 * l + k)) (rdI v 24 0 (160 * h + (4 * l + k)) + (hv x a l k).toInt32)) 25 0 (10 * h + a.who l k) (rdL (wrI v 24 0 (160 * h + (4 * l + k)) (rdI v 24 0 (160 * h + (4 * l + k)) + (hv x a l k).toInt32)) 25 0 (10 * h + a.who l k) + hv x a l k)))) := by
  have h4 := O.sg4 l hl
  have hw := O.who10 l k hl hk
  have hs := O.st2 (a.who l k) hw
  have e0 : (if y ≤ (0 : Int64) then (0 : Int64) else 1) = if lg x a l k ≤ 0 then 0 else 1 := by
    by_cases q : y ≤ 0
    · rw [if_pos q, if_pos (hy.mp q)]
    · rw [if_neg q, if_neg (fun p => q (hy.mpr p))]
  have eh : (x * (nI (a.ten l k)).toInt64 / 10 + if y ≤ (0 : Int64) then (0 : Int64) else 1) = hv x a l k := by rw [e0]; rfl
  have hd : fM_splits_L106 (nI h) (nI l) (y, nI k, v) = (let s28 := wrI v 24 0 (160 * h + (4 * l + k)) (rdI v 24 0 (160 * h + (4 * l + k)) + (hv x a l k).toInt32); if nI (a.who l k) = 0 then (fM_fallsOn s28 (nI h) (0 : Int32) (hv x a l k)).bind fun r38 => some (.inl (z, nI (k + 1), r38)) else if nI (a.st (a.who l k)) = 0 then some (.inl (z, nI (k + 1), wrL s28 25 0 (10 * h + a.who l k) (rdL s28 25 0 (10 * h + a.who l k) + hv x a l k))) else (fM_fallsOn s28 (nI h) (if nI (a.st (a.who l k)) = (1 : Int32) then (5 : Int32) else 6) (hv x a l k)).bind fun r35 => some (.inl (z, nI (k + 1), r35))) := by
    have e27 : rdI (wrI v 24 0 (160 * h + (4 * l + k)) (rdI v 24 0 (160 * h + (4 * l + k)) + (hv x a l k).toInt32)) 27 0 (a.who l k) = nI (a.st (a.who l k)) := by rw [rdI_wrI, if_neg (by omega)]; exact M.st _ hw
    unfold fM_splits_L106
    dsimp only [nm]
    rw [nI_clamp (show l < 2 ^ 31 by omega), M.sg l hl, if_neg (nI_ge hk (by omega)), L4, ix_add, inB_nI (show 4 * l + k < 160 by omega) (by omega), if_pos rfl, nI_clamp (show 4 * l + k < 2 ^ 31 by omega), M.ten l k hl hk, hx, eh, ← hz, M.who l k hl hk, L160, nI_mul, nI_mul, nI_add, nI_add, show 160 * h + 4 * l + k = 160 * h + (4 * l + k) by omega, inB_nI (show 160 * h + (4 * l + k) < 4000 by omega) (by omega), if_pos rfl, nI_clamp (show 160 * h + (4 * l + k) < 2 ^ 31 by omega), nI_1, inB_nI hw (by omega), if_pos rfl, nI_clamp (show a.who l k < 2 ^ 31 by omega), e27, L10, ix_add, inB_nI (show 10 * h + a.who l k < 250 by omega) (by omega), if_pos rfl, nI_clamp (show 10 * h + a.who l k < 2 ^ 31 by omega)]
  rw [hd]
  dsimp only
  refine ⟨fun r hr => ?_, fun w0 s0 => ?_⟩
  · rcases hr with ⟨w0, rfl⟩ | ⟨w0, s0, hr⟩
    · rw [if_pos (by rw [w0]; rfl), L0, m_fallsOn hh (by omega)]
      rfl
    · rw [if_neg (nI_ne0 (by omega) (by omega)), if_neg (nI_ne0 (by omega) (by omega))]
      by_cases s1 : a.st (a.who l k) = 1
      · rw [if_pos s1] at hr
        subst hr
        rw [if_pos (by rw [s1]; rfl), L5, m_fallsOn hh (by omega)]
        rfl
      · rw [if_neg s1] at hr
        subst hr
        rw [if_neg (by rw [L1, nI_eq (by omega) (by omega)]; exact s1), L6, m_fallsOn hh (by omega)]
        rfl
  · rw [if_neg (nI_ne0 (by omega) (by omega)), if_pos (by rw [s0]; rfl)]
