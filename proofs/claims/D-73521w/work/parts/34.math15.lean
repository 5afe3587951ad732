set_option linter.unusedVariables false
set_option linter.unusedSimpArgs false
set_option maxRecDepth 100000
/-! PLAIN LAW: contributes, both sides -/
def exV (T F : Int64) : Int64 := if T - F < 0 then 0 else T - F
theorem exV_toInt {T F : Int64} (hT : 0 ≤ T.toInt ∧ T.toInt ≤ 100000000) (hF : 0 ≤ F.toInt ∧ F.toInt ≤ 100000000) : (exV T F).toInt = max 0 (T.toInt - F.toInt) := by
  have e : (T - F).toInt = T.toInt - F.toInt := i64_sub (by omega) (by omega)
  unfold exV
  by_cases h : T - F < 0
  · rw [if_pos h, i64_0]
    have := i64_lt.mp h
    rw [e, i64_0] at this
    omega
  · rw [if_neg h, e]
    have := mt i64_lt.mpr h
    rw [e, i64_0] at this
    omega
theorem unl_1 {T F : Int64} : (if (1 : Int32).toInt64 * (T - F) ≤ (0 : Int64) then (0 : Int64) else (1 : Int32).toInt64 * (T - F)) = exV T F := by
  have e : (1 : Int32).toInt64 * (T - F) = T - F := by
    rw [show (1 : Int32).toInt64 = 1 from rfl, Int64.one_mul]
  rw [e]
  unfold exV
  by_cases h : T - F < 0
  · rw [if_pos h, if_pos (i64_le.mpr (by have := i64_lt.mp h; omega))]
  · rw [if_neg h]
    by_cases h2 : T - F ≤ 0
    · rw [if_pos h2]
      exact i64_ext (by have := i64_le.mp h2; have := mt i64_lt.mpr h; omega)
    · rw [if_neg h2]
theorem unl_m1 {T F : Int64} : (if (-1 : Int32).toInt64 * (T - F) ≤ (0 : Int64) then (0 : Int64) else (-1 : Int32).toInt64 * (T - F)) = exV F T := by
  have e : (-1 : Int32).toInt64 * (T - F) = (1 : Int32).toInt64 * (F - T) := by
    rw [show (1 : Int32).toInt64 = 1 from rfl, show (-1 : Int32).toInt64 = -1 from rfl]
    grind
  rw [e]
  exact unl_1
theorem m_unlike {t : tt_St} {s : Int32} {G : Nat → Int64} (hG : ∀ l, l < 40 → (if s.toInt64 * (rdL t 38 0 l - rdL t 39 0 l) ≤ (0 : Int64) then (0 : Int64) else s.toInt64 * (rdL t 38 0 l - rdL t 39 0 l)) = G l) : ∃ t', fM_laysUnlike t s = some (sumL G 40, t') ∧ FrR 36 t t' ∧ ∀ l, l < 40 → rdL t' 36 0 l = G l := by
  refine ⟨fillL t 36 0 G 40, ?_, FrR.fill _ _, fun l hl => by rw [fillL_rd, if_pos ⟨rfl, rfl, hl⟩]⟩
  have h : itr (fM_laysUnlike_L5 s) tt_fuel ((0 : Int64), (0 : Int32), t) = some (sumL G 40, nI 40, fillL t 36 0 G 40) := by
    refine itr_run (fun i => (sumL G i, nI i, fillL t 36 0 G i)) 40 _ (by omega) (fun i hi => ?_) ?_
    · have e38 : rdL (fillL t 36 0 G i) 38 0 i = rdL t 38 0 i := by rw [fillL_rd, if_neg (by omega)]
      have e39 : rdL (fillL t 36 0 G i) 39 0 i = rdL t 39 0 i := by rw [fillL_rd, if_neg (by omega)]
      unfold fM_laysUnlike_L5
      dsimp only [nm]
      rw [L40, if_neg (nI_ge hi (by omega)), inB_nI hi (by omega), if_pos rfl, nI_clamp (by omega), nI_1, e38, e39, hG i hi, rdL_wrL, if_pos ⟨rfl, rfl, rfl⟩]
      rfl
    · unfold fM_laysUnlike_L5
      rw [L40, if_pos (nI_le (Nat.le_refl _) (by omega))]
  unfold fM_laysUnlike
  rw [h]
  rfl
theorem mn_eq0 {x y : Int64} (hx : 0 ≤ x.toInt) (hy : 0 ≤ y.toInt) (h : ¬ mn x y = 0) : ¬ x = 0 ∧ ¬ y = 0 := by
  refine ⟨fun z => h (i64_ext ?_), fun z => h (i64_ext ?_)⟩
  · rw [mn_toInt, z, i64_0]; omega
  · rw [mn_toInt, z, i64_0]; omega
theorem shV_A0 {S : Int64} {W : Nat → Int64} {n k : Nat} : shV 0 S W n k = 0 := by
  have q : ∀ k, shQ 0 S W k = 0 := by
    intro k
    unfold shQ
    by_cases hS : S = 0
    · rw [if_pos hS]
    · rw [if_neg hS]
      unfold shP
      have e : (0 : Int64) / S = 0 := Int64.zero_div
      rw [e, Int64.zero_mul, Int64.zero_mul, Int64.sub_zero, Int64.zero_mul, e, Int64.zero_add]
  have r : ∀ n, shR 0 S W n = 0 := by
    intro n
    induction n with
    | zero => rfl
    | succ n ih =>
      have : shR 0 S W (n + 1) = shR 0 S W n - shQ 0 S W n := rfl
      rw [this, ih, q, Int64.sub_zero]
  have o : ∀ k, shO W 0 k = 0 := by
    intro k
    have := shO_zero (W := W) (r := 0) (k := 0) rfl k
    rw [Nat.zero_add] at this
    exact this
  unfold shV
  rw [r, o, if_pos (Or.inl rfl), q]
def byV (T F : Nat → Int64) (l : Nat) : Int64 :=
  shV (mn (sumL (fun l => exV (F l) (T l)) 40) (sumL (fun l => exV (T l) (F l)) 40)) (sumL (fun l => exV (F l) (T l)) 40) (fun l => exV (F l) (T l)) 40 l - shV (mn (sumL (fun l => exV (F l) (T l)) 40) (sumL (fun l => exV (T l) (F l)) 40)) (sumL (fun l => exV (T l) (F l)) 40) (fun l => exV (T l) (F l)) 40 l
def EXW (T : Nat → Int64) (F : Nat → Int64) : Prop :=
  (∀ l, l < 40 → 0 ≤ (T l).toInt ∧ (T l).toInt ≤ 100000000) ∧
  (∀ l, l < 40 → 0 ≤ (F l).toInt ∧ (F l).toInt ≤ 100000000)
theorem EXW.t {T : Nat → Int64} {F : Nat → Int64} (self_ : EXW T F) : ∀ l, l < 40 → 0 ≤ (T l).toInt ∧ (T l).toInt ≤ 100000000 := self_.1
theorem EXW.f {T : Nat → Int64} {F : Nat → Int64} (self_ : EXW T F) : ∀ l, l < 40 → 0 ≤ (F l).toInt ∧ (F l).toInt ≤ 100000000 := self_.2
theorem EXW.swap {T F : Nat → Int64} (E : EXW T F) : EXW F T := ⟨E.f, E.t⟩
theorem EXW.b {T F : Nat → Int64} (E : EXW T F) {l : Nat} (hl : l < 40) : 0 ≤ (exV (T l) (F l)).toInt ∧ (exV (T l) (F l)).toInt ≤ 100000000 := by
  have h1 := E.t l hl
  have h2 := E.f l hl
  rw [exV_toInt h1 h2]
  omega
theorem EXW.sum {T F : Nat → Int64} (E : EXW T F) : 0 ≤ (sumL (fun l => exV (T l) (F l)) 40).toInt ∧ (sumL (fun l => exV (T l) (F l)) 40).toInt ≤ 4000000000 := by
  have h := sumL_toInt (W := fun l => exV (T l) (F l)) (b := 100000000) (by omega) (n := 40) (by omega) (fun i hi => E.b hi)
  have h2 := sumZ_nonneg (f := fun i => (exV (T i) (F i)).toInt) (n := 40) (fun i hi => (E.b hi).1)
  have h3 := sumZ_le (f := fun i => (exV (T i) (F i)).toInt) (n := 40) (b := 100000000) (fun i hi => (E.b hi).2)
  rw [h]
  omega
theorem EXW.shw {T F : Nat → Int64} (E : EXW T F) {A : Int64} (h0 : 0 ≤ A.toInt) (h1 : A.toInt < 2 ^ 60) : ShW A (fun l => exV (T l) (F l)) 40 :=
  ⟨h0, h1, 100000000, by omega, by omega, by omega, fun i hi => E.b hi⟩
/-- what is moved keeps a layer between what it took and what is fair -/
theorem byV_bd {T F : Nat → Int64} (E : EXW T F) {l : Nat} (hl : l < 40) : (byV T F l).toInt = (shV (mn (sumL (fun l => exV (F l) (T l)) 40) (sumL (fun l => exV (T l) (F l)) 40)) (sumL (fun l => exV (F l) (T l)) 40) (fun l => exV (F l) (T l)) 40 l).toInt - (shV (mn (sumL (fun l => exV (F l) (T l)) 40) (sumL (fun l => exV (T l) (F l)) 40)) (sumL (fun l => exV (T l) (F l)) 40) (fun l => exV (T l) (F l)) 40 l).toInt ∧ min (T l).toInt (F l).toInt ≤ (T l).toInt + (byV T F l).toInt ∧ (T l).toInt + (byV T F l).toInt ≤ max (T l).toInt (F l).toInt := by
  have s1 := E.sum
  have s2 := E.swap.sum
  have m := mn_toInt (x := sumL (fun l => exV (F l) (T l)) 40) (y := sumL (fun l => exV (T l) (F l)) 40)
  have w1 := E.shw (A := mn (sumL (fun l => exV (F l) (T l)) 40) (sumL (fun l => exV (T l) (F l)) 40)) (by rw [m]; omega) (by rw [m]; omega)
  have w2 := E.swap.shw (A := mn (sumL (fun l => exV (F l) (T l)) 40) (sumL (fun l => exV (T l) (F l)) 40)) (by rw [m]; omega) (by rw [m]; omega)
  have a1 := (shV_pos w1 hl).1
  have a2 := (shV_pos w2 hl).1
  have b1 := shV_le w1 hl (by rw [m]; omega)
  have b2 := shV_le w2 hl (by rw [m]; omega)
  rw [exV_toInt (E.t l hl) (E.f l hl)] at b1
  rw [exV_toInt (E.f l hl) (E.t l hl)] at b2
  have t1 := E.t l hl
  have t2 := E.f l hl
  unfold byV
  rw [i64_sub (by omega) (by omega)]
  omega
theorem byV_zero {T F : Nat → Int64} (hT : ∀ l, l < 40 → T l = 0) (hF : ∀ l, l < 40 → F l = 0) {l : Nat} (hl : l < 40) : byV T F l = 0 := by
  have E : EXW T F := ⟨fun l hl => by rw [hT l hl]; decide, fun l hl => by rw [hF l hl]; decide⟩
  have := (byV_bd E hl).2
  rw [hT l hl, hF l hl, i64_0] at this
  exact i64_ext (by rw [i64_0]; omega)
theorem m_contributes {t : tt_St} {h : Nat} (hh : h < 25) {T F : Nat → Int64} (E : EXW T F) (hT : ∀ l, l < 40 → rdL t 38 0 l = T l) (hF : ∀ l, l < 40 → rdL t 39 0 l = F l) :
    ∃ t', fM_contributes t (nI h) = some t' ∧ t'.1 = t.1 ∧ t'.2.2 = t.2.2 ∧ (∀ l, l < 40 → rdL t' 38 0 l = rdL t 38 0 l + byV T F l ∧ rdL t' 15 0 l = rdL t 15 0 l + byV T F l ∧ rdL t' 21 0 (40 * h + l) = rdL t 21 0 (40 * h + l) + byV T F l ∧ rdL t' 23 0 (40 * h + l) = rdL t 23 0 (40 * h + l) + byV T F l) ∧ ∀ k i j, ¬ (k = 38 ∨ k = 15 ∨ (k = 21 ∧ j / 40 = h) ∨ (k = 23 ∧ j / 40 = h) ∨ k = 36 ∨ k = 37 ∨ k = 46) → rdL t' k i j = rdL t k i j := by
  have s1 := E.sum
  have s2 := E.swap.sum
  have g1 : ∀ u : tt_St, (∀ l, l < 40 → rdL u 38 0 l = T l) → (∀ l, l < 40 → rdL u 39 0 l = F l) → ∃ u', fM_laysUnlike u 1 = some (sumL (fun l => exV (T l) (F l)) 40, u') ∧ FrR 36 u u' ∧ ∀ l, l < 40 → rdL u' 36 0 l = exV (T l) (F l) := fun u h1 h2 => m_unlike (G := fun l => exV (T l) (F l)) (fun l hl => by rw [h1 l hl, h2 l hl]; exact unl_1)
  have g2 : ∀ u : tt_St, (∀ l, l < 40 → rdL u 38 0 l = T l) → (∀ l, l < 40 → rdL u 39 0 l = F l) → ∃ u', fM_laysUnlike u (-1) = some (sumL (fun l => exV (F l) (T l)) 40, u') ∧ FrR 36 u u' ∧ ∀ l, l < 40 → rdL u' 36 0 l = exV (F l) (T l) := fun u h1 h2 => m_unlike (G := fun l => exV (F l) (T l)) (fun l hl => by rw [h1 l hl, h2 l hl]; exact unl_m1)
  have hby : ∀ l, byV T F l = shV (mn (sumL (fun l => exV (F l) (T l)) 40) (sumL (fun l => exV (T l) (F l)) 40)) (sumL (fun l => exV (F l) (T l)) 40) (fun l => exV (F l) (T l)) 40 l - shV (mn (sumL (fun l => exV (F l) (T l)) 40) (sumL (fun l => exV (T l) (F l)) 40)) (sumL (fun l => exV (T l) (F l)) 40) (fun l => exV (T l) (F l)) 40 l := fun l => rfl
  generalize hX : (fun l => exV (T l) (F l)) = EX at s1 g1 hby
  generalize hD : (fun l => exV (F l) (T l)) = DB at s2 g2 hby
  have hXl : ∀ l, exV (T l) (F l) = EX l := fun l => by rw [← hX]
  have hDl : ∀ l, exV (F l) (T l) = DB l := fun l => by rw [← hD]
  obtain ⟨t1, a1, a2, a3⟩ := g1 t hT hF
  obtain ⟨t2, b1, b2, b3⟩ := g2 t1 (fun l hl => by rw [a2.l 38 0 l (by omega)]; exact hT l hl) (fun l hl => by rw [a2.l 39 0 l (by omega)]; exact hF l hl)
  have F2 := a2.trans b2
  unfold fM_contributes
  rw [a1]
  simp only [Option.bind_some]
  rw [b1]
  simp only [Option.bind_some]
  rw [mn_least]
  simp only [Option.bind_some]
  generalize hmv : mn (sumL DB 40) (sumL EX 40) = mv at hby
  by_cases hz : mv = 0
  · rw [if_pos hz]
    have b0 : ∀ l, byV T F l = 0 := fun l => by rw [hby, hz, shV_A0, shV_A0, Int64.sub_self]
    refine ⟨t2, rfl, F2.i, F2.r, fun l hl => ?_, fun k i j hk => F2.l k i j (by omega)⟩
    rw [b0, Int64.add_zero, Int64.add_zero, Int64.add_zero, Int64.add_zero]
    exact ⟨F2.l _ _ _ (by omega), F2.l _ _ _ (by omega), F2.l _ _ _ (by omega), F2.l _ _ _ (by omega)⟩
  · rw [if_neg hz]
    obtain ⟨z1, z2⟩ := mn_eq0 s2.1 s1.1 (by rw [hmv]; exact hz)
    obtain ⟨t3, c1, c2, c3⟩ := g1 t2 (fun l hl => by rw [F2.l 38 0 l (by omega)]; exact hT l hl) (fun l hl => by rw [F2.l 39 0 l (by omega)]; exact hF l hl)
    have F3 := F2.trans c2
    have w3 : ∀ l, l < 40 → rdL t3 36 0 l = EX l := fun l hl => (c3 l hl).trans (hXl l)
    have e3 : sumL (rdL t3 36 0) 40 = sumL EX 40 := sumL_congr w3
    obtain ⟨t4, d1, d2, d3⟩ := m_shares (t := t3) (n := 40) (A := mv) (by omega) (by rw [e3]; exact z2)
    have v4 : ∀ l, l < 40 → rdL t4 37 0 l = shV mv (sumL EX 40) EX 40 l := fun l hl => by rw [d3 l hl, e3]; exact shV_congr hl w3
    have cp : itr fM_contributes_L46 tt_fuel ((0 : Int32), t4) = some (nI 40, fillL t4 46 0 (rdL t4 37 0) 40) := by
      refine itr_run (fun i => (nI i, fillL t4 46 0 (rdL t4 37 0) i)) 40 _ (by omega) (fun i hi => ?_) ?_
      · unfold fM_contributes_L46
        dsimp only [nm]
        rw [L40, if_neg (nI_ge hi (by omega)), inB_nI hi (by omega), if_pos rfl, nI_clamp (by omega), nI_1, fillL_rd, if_neg (by omega)]
        rfl
      · unfold fM_contributes_L46
        rw [L40, if_pos (nI_le (Nat.le_refl _) (by omega))]
    generalize ht5 : fillL t4 46 0 (rdL t4 37 0) 40 = t5 at cp
    have F5 : FrR 46 t4 t5 := ht5 ▸ FrR.fill _ _
    have v5 : ∀ l, l < 40 → rdL t5 46 0 l = shV mv (sumL EX 40) EX 40 l := fun l hl => by rw [← ht5, fillL_rd, if_pos ⟨rfl, rfl, hl⟩]; exact v4 l hl
    have keep5 : ∀ k i j, ¬ k = 36 → ¬ k = 37 → ¬ k = 46 → rdL t5 k i j = rdL t k i j := fun k i j q1 q2 q3 => by rw [F5.l k i j q3, d2.l k i j q2, F3.l k i j q1]
    obtain ⟨t6, e1, e2, e4⟩ := g2 t5 (fun l hl => by rw [keep5 38 0 l (by omega) (by omega) (by omega)]; exact hT l hl) (fun l hl => by rw [keep5 39 0 l (by omega) (by omega) (by omega)]; exact hF l hl)
    have w6 : ∀ l, l < 40 → rdL t6 36 0 l = DB l := fun l hl => (e4 l hl).trans (hDl l)
    have e6 : sumL (rdL t6 36 0) 40 = sumL DB 40 := sumL_congr w6
    obtain ⟨t7, f1, f2, f3⟩ := m_shares (t := t6) (n := 40) (A := mv) (by omega) (by rw [e6]; exact z1)
    have v7 : ∀ l, l < 40 → rdL t7 37 0 l = shV mv (sumL DB 40) DB 40 l := fun l hl => by rw [f3 l hl, e6]; exact shV_congr hl w6
    have keep7 : ∀ k i j, ¬ k = 36 → ¬ k = 37 → ¬ k = 46 → rdL t7 k i j = rdL t k i j := fun k i j q1 q2 q3 => by rw [f2.l k i j q2, e2.l k i j q1, keep5 k i j q1 q2 q3]
    have g7 : ∀ l, l < 40 → rdL t7 46 0 l = shV mv (sumL EX 40) EX 40 l := fun l hl => by rw [f2.l 46 0 l (by omega), e2.l 46 0 l (by omega)]; exact v5 l hl
    have i7 : t7.1 = t.1 := f2.i.trans (e2.i.trans (F5.i.trans (d2.i.trans F3.i)))
    have r7 : t7.2.2 = t.2.2 := f2.r.trans (e2.r.trans (F5.r.trans (d2.r.trans F3.r)))
    rw [c1]
    simp only [Option.bind_some]
    rw [L40, d1]
    simp only [Option.bind_some]
    rw [cp]
    simp only [Option.bind_some]
    rw [e1]
    simp only [Option.bind_some]
    rw [f1]
    simp only [Option.bind_some]
    have hk_ := itr_inv (body := fM_contributes_L90 (nI h)) (fun i u => (nI i, u)) (fun i u => u.1 = t7.1 ∧ u.2.2 = t7.2.2 ∧ ∀ a b c, rdL u a b c = if b = 0 ∧ ((a = 38 ∧ c < i) ∨ (a = 15 ∧ c < i) ∨ (a = 21 ∧ c / 40 = h ∧ c % 40 < i) ∨ (a = 23 ∧ c / 40 = h ∧ c % 40 < i)) then rdL t7 a b c + byV T F (c % 40) else rdL t7 a b c) (fun b => ∃ u, b = (nI 40, u) ∧ u.1 = t7.1 ∧ u.2.2 = t7.2.2 ∧ ∀ a b c, rdL u a b c = if b = 0 ∧ ((a = 38 ∧ c < 40) ∨ (a = 15 ∧ c < 40) ∨ (a = 21 ∧ c / 40 = h ∧ c % 40 < 40) ∨ (a = 23 ∧ c / 40 = h ∧ c % 40 < 40)) then rdL t7 a b c + byV T F (c % 40) else rdL t7 a b c) 40 t7 (by omega) ⟨rfl, rfl, fun a b c => by rw [if_neg (by omega)]⟩ (fun i u hi hI => ?_) (fun u hI => ?_)
    · obtain ⟨b, h1, u, rfl, h2, h3, h4⟩ := hk_
      rw [L0, h1]
      refine ⟨u, rfl, h2.trans i7, h3.trans r7, fun l hl => ?_, fun k i j hk => ?_⟩
      · have m1 : l % 40 = l := Nat.mod_eq_of_lt hl
        have m2 : (40 * h + l) % 40 = l := by omega
        refine ⟨?_, ?_, ?_, ?_⟩
        · rw [h4, if_pos (by omega), m1, keep7 _ _ _ (by omega) (by omega) (by omega)]
        · rw [h4, if_pos (by omega), m1, keep7 _ _ _ (by omega) (by omega) (by omega)]
        · rw [h4, if_pos (by omega), m2, keep7 _ _ _ (by omega) (by omega) (by omega)]
        · rw [h4, if_pos (by omega), m2, keep7 _ _ _ (by omega) (by omega) (by omega)]
      · rw [h4, if_neg (by omega), keep7 k i j (by omega) (by omega) (by omega)]
    · obtain ⟨k1, k2, k3⟩ := hI
      have q37 : rdL u 37 0 i = shV mv (sumL DB 40) DB 40 i := by rw [k3, if_neg (by omega)]; exact v7 i hi
      have q46 : rdL u 46 0 i = shV mv (sumL EX 40) EX 40 i := by rw [k3, if_neg (by omega)]; exact g7 i hi
      have q38 : rdL u 38 0 i = rdL t7 38 0 i := by rw [k3, if_neg (by omega)]
      have q15 : rdL u 15 0 i = rdL t7 15 0 i := by rw [k3, if_neg (by omega)]
      have q21 : rdL u 21 0 (40 * h + i) = rdL t7 21 0 (40 * h + i) := by rw [k3, if_neg (by omega)]
      have q23 : rdL u 23 0 (40 * h + i) = rdL t7 23 0 (40 * h + i) := by rw [k3, if_neg (by omega)]
      refine ⟨wrL (wrL (wrL (wrL u 38 0 i (rdL t7 38 0 i + byV T F i)) 15 0 i (rdL t7 15 0 i + byV T F i)) 21 0 (40 * h + i) (rdL t7 21 0 (40 * h + i) + byV T F i)) 23 0 (40 * h + i) (rdL t7 23 0 (40 * h + i) + byV T F i), ?_, k1, k2, fun a b c => ?_⟩
      · unfold fM_contributes_L90
        dsimp only [nm]
        rw [L40, if_neg (nI_ge hi (by omega)), inB_nI hi (by omega), if_pos rfl, ix_add, inB_nI (by omega) (by omega), if_pos rfl, nI_clamp (by omega), nI_clamp (by omega), nI_1, q37, q46, ← hby, q38, rdL_wrL, if_neg (by omega), q15, rdL_wrL, if_neg (by omega), rdL_wrL, if_neg (by omega), q21, rdL_wrL, if_neg (by omega), rdL_wrL, if_neg (by omega), rdL_wrL, if_neg (by omega), q23]
      · rw [rdL_wrL, rdL_wrL, rdL_wrL, rdL_wrL, k3]
        have n1 : c = 40 * h + i ↔ c / 40 = h ∧ c % 40 = i := by omega
        have n2 : (40 * h + i) % 40 = i := by omega
        have n3 : i % 40 = i := by omega
        by_cases e1 : b = 0
        · subst e1
          by_cases a1 : a = 38
          · subst a1
            by_cases c1 : c = i
            · subst c1; simp [n3]
            · simp only [c1]; simp; by_cases c2 : c < i
              · simp [c2, show c < i + 1 by omega]
              · simp [c2, show ¬ c < i + 1 by omega]
          · by_cases a2 : a = 15
            · subst a2
              by_cases c1 : c = i
              · subst c1; simp [n3]
              · simp only [c1]; simp; by_cases c2 : c < i
                · simp [c2, show c < i + 1 by omega]
                · simp [c2, show ¬ c < i + 1 by omega]
            · by_cases a3 : a = 21
              · subst a3
                by_cases c1 : c = 40 * h + i
                · subst c1; simp [n2]; omega
                · simp only [c1]; simp; by_cases c2 : c / 40 = h ∧ c % 40 < i
                  · rw [if_pos c2, if_pos (by omega)]
                  · rw [if_neg c2, if_neg (by omega)]
              · by_cases a4 : a = 23
                · subst a4
                  by_cases c1 : c = 40 * h + i
                  · subst c1; simp [n2]; omega
                  · simp only [c1]; simp; by_cases c2 : c / 40 = h ∧ c % 40 < i
                    · rw [if_pos c2, if_pos (by omega)]
                    · rw [if_neg c2, if_neg (by omega)]
                · rw [if_neg (by omega), if_neg (by omega), if_neg (by omega), if_neg (by omega), if_neg (by omega), if_neg (by omega)]
        · rw [if_neg (by omega), if_neg (by omega), if_neg (by omega), if_neg (by omega), if_neg (by omega), if_neg (by omega)]
    · refine ⟨_, ?_, u, rfl, hI⟩
      unfold fM_contributes_L90
      rw [L40, if_pos (nI_le (Nat.le_refl _) (by omega))]
