set_option linter.unusedVariables false
set_option linter.unusedSimpArgs false
set_option maxRecDepth 100000
/-! PLAIN LAW: worlds and the model, joined -/
theorem sumZ_upd {f : Nat → Int} {h : Nat} {d : Int} : ∀ {n : Nat}, h < n → sumZ (fun i => if i = h then f i + d else f i) n = sumZ f n + d
  | 0, q => by omega
  | n + 1, q => by
    have e1 : sumZ (fun i => if i = h then f i + d else f i) (n + 1) = sumZ (fun i => if i = h then f i + d else f i) n + (if n = h then f n + d else f n) := rfl
    have e2 : sumZ f (n + 1) = sumZ f n + f n := rfl
    rw [e1, e2]
    by_cases z : n = h
    · rw [if_pos z]
      have : sumZ (fun i => if i = h then f i + d else f i) n = sumZ f n := sumZ_congr (fun i hi => if_neg (by omega))
      rw [this]; omega
    · rw [if_neg z, sumZ_upd (by omega)]; omega
theorem sumL_upd {f : Nat → Int64} {h : Nat} {d : Int64} : ∀ {n : Nat}, h < n → sumL (fun i => if i = h then f i + d else f i) n = sumL f n + d
  | 0, q => by omega
  | n + 1, q => by
    have e1 : sumL (fun i => if i = h then f i + d else f i) (n + 1) = sumL (fun i => if i = h then f i + d else f i) n + (if n = h then f n + d else f n) := rfl
    have e2 : sumL f (n + 1) = sumL f n + f n := rfl
    rw [e1, e2]
    by_cases z : n = h
    · rw [if_pos z]
      have : sumL (fun i => if i = h then f i + d else f i) n = sumL f n := sumL_congr (fun i hi => if_neg (by omega))
      rw [this]; grind
    · rw [if_neg z, sumL_upd (by omega)]; grind
theorem had_add {x : Int32} {p q : Int64} (hx : x.toInt64 = p) (hp : 0 ≤ p.toInt ∧ p.toInt ≤ 1000000000) (hq : 0 ≤ q.toInt ∧ q.toInt ≤ 1000000000) : (x + q.toInt32).toInt64 = p + q := by
  have e1 : x.toInt = p.toInt := by rw [← hx, i64_of32]
  have e2 : q.toInt32.toInt = q.toInt := by
    rw [Int64.toInt_toInt32]
    exact Int.bmod_eq_of_le (by omega) (by omega)
  refine i64_ext ?_
  rw [i64_of32, i32_add (by omega) (by omega), i64_add (by omega) (by omega), e1, e2]
/-- one harm, both sides -/
def RH (w : tt_St) (t : tt_St) (a : TS) (h : Nat) : Prop :=
  (∀ l, l < 40 → rdL t 21 0 (40 * h + l) = rdL w 10 h l) ∧
  (∀ l, l < 40 → rdL t 22 0 (40 * h + l) = rdL w 11 h l) ∧
  (∀ l, l < 40 → rdL t 23 0 (40 * h + l) = rdL w 12 h l) ∧
  (∀ i, i < 10 → rdL t 25 0 (10 * h + i) = rdL w 8 h i) ∧
  (∀ r, r < 7 → rdL t 26 0 (7 * h + r) = rdL w 9 h r) ∧
  (∀ c, c < 160 → (rdI t 24 0 (160 * h + c)).toInt64 = rdL w 13 h c) ∧
  (∀ l, l < 40 → 0 ≤ (rdL w 10 h l).toInt ∧ (a.there l = true → (rdL w 10 h l).toInt ≤ a.sz l) ∧ (a.there l = false → rdL w 10 h l = 0)) ∧
  (∀ l, l < 40 → 0 ≤ (rdL w 11 h l).toInt ∧ (rdL w 11 h l).toInt ≤ 1000000000 ∧ (a.there l = false → rdL w 11 h l = 0)) ∧
  (∀ l k, l < 40 → k < 4 → 0 ≤ (rdL w 13 h (4 * l + k)).toInt ∧ (rdL w 13 h (4 * l + k)).toInt ≤ 2 * (rdL w 10 h l).toInt ∧ (a.sg l ≤ k → rdL w 13 h (4 * l + k) = 0)) ∧
  (rdI w 7 h 9 = rdI t 19 0 h) ∧
  (rdI w 7 h 11 = rdI t 7 0 h) ∧
  (rdI t 7 0 h = 0 ∨ rdI t 7 0 h = 1) ∧
  (rdI t 7 0 h = 1 → ∃ f l s, HY w t h f l s) ∧
  (rdI t 7 0 h = 0 → (∀ l, l < 40 → rdL w 10 h l = 0 ∧ rdL w 11 h l = 0 ∧ rdL w 12 h l = 0) ∧ (∀ i, i < 10 → rdL w 8 h i = 0) ∧ (∀ r, r < 7 → rdL w 9 h r = 0) ∧ (∀ c, c < 160 → rdL w 13 h c = 0) ∧ rdI t 19 0 h = 0)
theorem RH.took {w : tt_St} {t : tt_St} {a : TS} {h : Nat} (self_ : RH w t a h) : ∀ l, l < 40 → rdL t 21 0 (40 * h + l) = rdL w 10 h l := self_.1
theorem RH.thr {w : tt_St} {t : tt_St} {a : TS} {h : Nat} (self_ : RH w t a h) : ∀ l, l < 40 → rdL t 22 0 (40 * h + l) = rdL w 11 h l := self_.2.1
theorem RH.mv {w : tt_St} {t : tt_St} {a : TS} {h : Nat} (self_ : RH w t a h) : ∀ l, l < 40 → rdL t 23 0 (40 * h + l) = rdL w 12 h l := self_.2.2.1
theorem RH.bore {w : tt_St} {t : tt_St} {a : TS} {h : Nat} (self_ : RH w t a h) : ∀ i, i < 10 → rdL t 25 0 (10 * h + i) = rdL w 8 h i := self_.2.2.2.1
theorem RH.fell {w : tt_St} {t : tt_St} {a : TS} {h : Nat} (self_ : RH w t a h) : ∀ r, r < 7 → rdL t 26 0 (7 * h + r) = rdL w 9 h r := self_.2.2.2.2.1
theorem RH.had {w : tt_St} {t : tt_St} {a : TS} {h : Nat} (self_ : RH w t a h) : ∀ c, c < 160 → (rdI t 24 0 (160 * h + c)).toInt64 = rdL w 13 h c := self_.2.2.2.2.2.1
theorem RH.tb {w : tt_St} {t : tt_St} {a : TS} {h : Nat} (self_ : RH w t a h) : ∀ l, l < 40 → 0 ≤ (rdL w 10 h l).toInt ∧ (a.there l = true → (rdL w 10 h l).toInt ≤ a.sz l) ∧ (a.there l = false → rdL w 10 h l = 0) := self_.2.2.2.2.2.2.1
theorem RH.hb {w : tt_St} {t : tt_St} {a : TS} {h : Nat} (self_ : RH w t a h) : ∀ l, l < 40 → 0 ≤ (rdL w 11 h l).toInt ∧ (rdL w 11 h l).toInt ≤ 1000000000 ∧ (a.there l = false → rdL w 11 h l = 0) := self_.2.2.2.2.2.2.2.1
theorem RH.pb {w : tt_St} {t : tt_St} {a : TS} {h : Nat} (self_ : RH w t a h) : ∀ l k, l < 40 → k < 4 → 0 ≤ (rdL w 13 h (4 * l + k)).toInt ∧ (rdL w 13 h (4 * l + k)).toInt ≤ 2 * (rdL w 10 h l).toInt ∧ (a.sg l ≤ k → rdL w 13 h (4 * l + k) = 0) := self_.2.2.2.2.2.2.2.2.1
theorem RH.gr {w : tt_St} {t : tt_St} {a : TS} {h : Nat} (self_ : RH w t a h) : rdI w 7 h 9 = rdI t 19 0 h := self_.2.2.2.2.2.2.2.2.2.1
theorem RH.isH {w : tt_St} {t : tt_St} {a : TS} {h : Nat} (self_ : RH w t a h) : rdI w 7 h 11 = rdI t 7 0 h := self_.2.2.2.2.2.2.2.2.2.2.1
theorem RH.i01 {w : tt_St} {t : tt_St} {a : TS} {h : Nat} (self_ : RH w t a h) : rdI t 7 0 h = 0 ∨ rdI t 7 0 h = 1 := self_.2.2.2.2.2.2.2.2.2.2.2.1
theorem RH.hy {w : tt_St} {t : tt_St} {a : TS} {h : Nat} (self_ : RH w t a h) : rdI t 7 0 h = 1 → ∃ f l s, HY w t h f l s := self_.2.2.2.2.2.2.2.2.2.2.2.2.1
theorem RH.z {w : tt_St} {t : tt_St} {a : TS} {h : Nat} (self_ : RH w t a h) : rdI t 7 0 h = 0 → (∀ l, l < 40 → rdL w 10 h l = 0 ∧ rdL w 11 h l = 0 ∧ rdL w 12 h l = 0) ∧ (∀ i, i < 10 → rdL w 8 h i = 0) ∧ (∀ r, r < 7 → rdL w 9 h r = 0) ∧ (∀ c, c < 160 → rdL w 13 h c = 0) ∧ rdI t 19 0 h = 0 := self_.2.2.2.2.2.2.2.2.2.2.2.2.2
theorem RH.ext {w t w' t' : tt_St} {a : TS} {h : Nat} (R : RH w t a h) (e1 : ∀ k j, 8 ≤ k → k ≤ 13 → rdL w' k h j = rdL w k h j) (e2 : ∀ j, rdI w' 7 h j = rdI w 7 h j) (e3 : ∀ k j, (k = 21 ∨ k = 22 ∨ k = 23) ∧ j / 40 = h ∨ k = 25 ∧ j / 10 = h ∨ k = 26 ∧ j / 7 = h → rdL t' k 0 j = rdL t k 0 j) (e4 : ∀ j, j / 160 = h → rdI t' 24 0 j = rdI t 24 0 j) (e5 : ∀ k, k = 7 ∨ k = 16 ∨ k = 17 ∨ k = 18 ∨ k = 19 → rdI t' k 0 h = rdI t k 0 h) : RH w' t' a h := by
  refine ⟨fun l hl => ?_, fun l hl => ?_, fun l hl => ?_, fun i hi => ?_, fun r hr => ?_, fun c hc => ?_, fun l hl => ?_, fun l hl => ?_, fun l k hl hk => ?_, ?_, ?_, ?_, fun q => ?_, fun q => ?_⟩
  · rw [e3 21 _ (by omega), e1 10 l (by omega) (by omega)]; exact R.took l hl
  · rw [e3 22 _ (by omega), e1 11 l (by omega) (by omega)]; exact R.thr l hl
  · rw [e3 23 _ (by omega), e1 12 l (by omega) (by omega)]; exact R.mv l hl
  · rw [e3 25 _ (by omega), e1 8 i (by omega) (by omega)]; exact R.bore i hi
  · rw [e3 26 _ (by omega), e1 9 r (by omega) (by omega)]; exact R.fell r hr
  · rw [e4 _ (by omega), e1 13 c (by omega) (by omega)]; exact R.had c hc
  · rw [e1 10 l (by omega) (by omega)]; exact R.tb l hl
  · rw [e1 11 l (by omega) (by omega)]; exact R.hb l hl
  · rw [e1 10 l (by omega) (by omega), e1 13 _ (by omega) (by omega)]; exact R.pb l k hl hk
  · rw [e2, e5 19 (by omega)]; exact R.gr
  · rw [e2, e5 7 (by omega)]; exact R.isH
  · rw [e5 7 (by omega)]; exact R.i01
  · rw [e5 7 (by omega)] at q
    obtain ⟨f, l, s, Y⟩ := R.hy q
    refine ⟨f, l, s, ?_, ?_, ?_, ?_, ?_, ?_, Y.o1, Y.o2, Y.o3⟩
    · rw [e2]; exact Y.cf
    · rw [e2]; exact Y.cl
    · rw [e2]; exact Y.cs
    · rw [e5 16 (by omega)]; exact Y.mf
    · rw [e5 17 (by omega)]; exact Y.ml
    · rw [e5 18 (by omega)]; exact Y.ms
  · rw [e5 7 (by omega)] at q
    obtain ⟨z1, z2, z3, z4, z5⟩ := R.z q
    refine ⟨fun l hl => ?_, fun i hi => ?_, fun r hr => ?_, fun c hc => ?_, ?_⟩
    · rw [e1 10 l (by omega) (by omega), e1 11 l (by omega) (by omega), e1 12 l (by omega) (by omega)]; exact z1 l hl
    · rw [e1 8 i (by omega) (by omega)]; exact z2 i hi
    · rw [e1 9 r (by omega) (by omega)]; exact z3 r hr
    · rw [e1 13 c (by omega) (by omega)]; exact z4 c hc
    · rw [e5 19 (by omega)]; exact z5
/-- a world and the model show the same; of losses so much is not laid down yet -/
def RW (w : tt_St) (t : tt_St) (a : TS) (c : Nat) (δ : Nat → Int64) : Prop :=
  (CS w a) ∧
  (MS t a) ∧
  (a.Ok) ∧
  (∀ l k k', l < 40 → k < a.sg l → k' < a.sg l → a.who l k = a.who l k' → k = k') ∧
  (∀ l, l < 40 → rdL t 15 0 l = rdL w 2 l 9) ∧
  (∀ l, l < 40 → (rdL w 2 l 9).toInt = sumZ (fun h => (rdL w 10 h l).toInt) 24) ∧
  (∀ l, l < 40 → a.there l = true → (rdL w 2 l 9).toInt ≤ (a.sz l : Int) * a.tm l) ∧
  (∀ h, h < 24 → RH w t a h) ∧
  (∀ h, h < 24 → rdL w 7 h 10 + δ h = rdL t 20 0 h ∧ 0 ≤ (rdL t 20 0 h).toInt ∧ (rdL t 20 0 h).toInt ≤ 1000000000 * (c : Int) ∧ (rdI t 7 0 h = 0 → rdL t 20 0 h = 0)) ∧
  (∀ l k, l < 40 → k < a.sg l → rdL w 5 l k = sumL (fun h => rdL w 13 h (4 * l + k)) 24) ∧
  (∀ i, i < 10 → rdL w 25 0 i = (rdI t 28 0 i).toInt64 ∧ (a.st i = 0 → rdI t 28 0 i = 0)) ∧
  (rdI w 0 0 23 = rdI t 0 0 48) ∧
  (rdI w 0 0 21 = nI (cntP a.there 40)) ∧
  (rdI w 0 0 22 = nI (cntP (fun h => decide (rdI t 7 0 h = 1)) 24)) ∧
  (∃ n, QW w n) ∧
  (∃ m, m < 4096 ∧ a.lack = nI m) ∧
  (a.st 0 = 0)
theorem RW.C {w : tt_St} {t : tt_St} {a : TS} {c : Nat} {δ : Nat → Int64} (self_ : RW w t a c δ) : CS w a := self_.1
theorem RW.M {w : tt_St} {t : tt_St} {a : TS} {c : Nat} {δ : Nat → Int64} (self_ : RW w t a c δ) : MS t a := self_.2.1
theorem RW.O {w : tt_St} {t : tt_St} {a : TS} {c : Nat} {δ : Nat → Int64} (self_ : RW w t a c δ) : a.Ok := self_.2.2.1
theorem RW.di {w : tt_St} {t : tt_St} {a : TS} {c : Nat} {δ : Nat → Int64} (self_ : RW w t a c δ) : ∀ l k k', l < 40 → k < a.sg l → k' < a.sg l → a.who l k = a.who l k' → k = k' := self_.2.2.2.1
theorem RW.used {w : tt_St} {t : tt_St} {a : TS} {c : Nat} {δ : Nat → Int64} (self_ : RW w t a c δ) : ∀ l, l < 40 → rdL t 15 0 l = rdL w 2 l 9 := self_.2.2.2.2.1
theorem RW.us {w : tt_St} {t : tt_St} {a : TS} {c : Nat} {δ : Nat → Int64} (self_ : RW w t a c δ) : ∀ l, l < 40 → (rdL w 2 l 9).toInt = sumZ (fun h => (rdL w 10 h l).toInt) 24 := self_.2.2.2.2.2.1
theorem RW.ub {w : tt_St} {t : tt_St} {a : TS} {c : Nat} {δ : Nat → Int64} (self_ : RW w t a c δ) : ∀ l, l < 40 → a.there l = true → (rdL w 2 l 9).toInt ≤ (a.sz l : Int) * a.tm l := self_.2.2.2.2.2.2.1
theorem RW.H {w : tt_St} {t : tt_St} {a : TS} {c : Nat} {δ : Nat → Int64} (self_ : RW w t a c δ) : ∀ h, h < 24 → RH w t a h := self_.2.2.2.2.2.2.2.1
theorem RW.L {w : tt_St} {t : tt_St} {a : TS} {c : Nat} {δ : Nat → Int64} (self_ : RW w t a c δ) : ∀ h, h < 24 → rdL w 7 h 10 + δ h = rdL t 20 0 h ∧ 0 ≤ (rdL t 20 0 h).toInt ∧ (rdL t 20 0 h).toInt ≤ 1000000000 * (c : Int) ∧ (rdI t 7 0 h = 0 → rdL t 20 0 h = 0) := self_.2.2.2.2.2.2.2.2.1
theorem RW.hs {w : tt_St} {t : tt_St} {a : TS} {c : Nat} {δ : Nat → Int64} (self_ : RW w t a c δ) : ∀ l k, l < 40 → k < a.sg l → rdL w 5 l k = sumL (fun h => rdL w 13 h (4 * l + k)) 24 := self_.2.2.2.2.2.2.2.2.2.1
theorem RW.cash {w : tt_St} {t : tt_St} {a : TS} {c : Nat} {δ : Nat → Int64} (self_ : RW w t a c δ) : ∀ i, i < 10 → rdL w 25 0 i = (rdI t 28 0 i).toInt64 ∧ (a.st i = 0 → rdI t 28 0 i = 0) := self_.2.2.2.2.2.2.2.2.2.2.1
theorem RW.fx {w : tt_St} {t : tt_St} {a : TS} {c : Nat} {δ : Nat → Int64} (self_ : RW w t a c δ) : rdI w 0 0 23 = rdI t 0 0 48 := self_.2.2.2.2.2.2.2.2.2.2.2.1
theorem RW.pl {w : tt_St} {t : tt_St} {a : TS} {c : Nat} {δ : Nat → Int64} (self_ : RW w t a c δ) : rdI w 0 0 21 = nI (cntP a.there 40) := self_.2.2.2.2.2.2.2.2.2.2.2.2.1
theorem RW.hm {w : tt_St} {t : tt_St} {a : TS} {c : Nat} {δ : Nat → Int64} (self_ : RW w t a c δ) : rdI w 0 0 22 = nI (cntP (fun h => decide (rdI t 7 0 h = 1)) 24) := self_.2.2.2.2.2.2.2.2.2.2.2.2.2.1
theorem RW.q {w : tt_St} {t : tt_St} {a : TS} {c : Nat} {δ : Nat → Int64} (self_ : RW w t a c δ) : ∃ n, QW w n := self_.2.2.2.2.2.2.2.2.2.2.2.2.2.2.1
theorem RW.lk {w : tt_St} {t : tt_St} {a : TS} {c : Nat} {δ : Nat → Int64} (self_ : RW w t a c δ) : ∃ m, m < 4096 ∧ a.lack = nI m := self_.2.2.2.2.2.2.2.2.2.2.2.2.2.2.2.1
theorem RW.s0 {w : tt_St} {t : tt_St} {a : TS} {c : Nat} {δ : Nat → Int64} (self_ : RW w t a c δ) : a.st 0 = 0 := self_.2.2.2.2.2.2.2.2.2.2.2.2.2.2.2.2
def d0 : Nat → Int64 := fun _ => 0
theorem RW.rb {w t : tt_St} {a : TS} {c : Nat} {δ : Nat → Int64} (R : RW w t a c δ) {h : Nat} (hh : h < 24) : RB w t a h := by
  have H := R.H h hh
  refine ⟨H.took, R.used, H.thr, H.fell, fun l hl ht => ?_, fun y k hy hk => ?_⟩
  · have h1 := H.tb l hl
    refine ⟨h1.1, h1.2.1 ht, ?_, R.ub l hl ht⟩
    rw [R.us l hl]
    exact sumZ_nonneg (fun i hi => ((R.H i hi).tb l hl).1)
  · have h1 := H.hb _ (R.O.rg40 y k hy hk)
    exact ⟨h1.1, h1.2.1⟩
set_option maxHeartbeats 4000000 in
theorem lays_rel {w t : tt_St} {a : TS} {c h : Nat} {A : Int64} (R : RW w t a c (fun i => if i = h then A else 0)) (hh : h < 24) (hI : rdI t 7 0 h = 1) (hA : 0 ≤ A.toInt) (hA2 : A.toInt < 2 ^ 60) :
    ∃ w' t', fW_lays w h A = some (1, w') ∧ fM_spreads t (nI h) A = some t' ∧ RW w' t' a c d0 ∧ GM2 h t t' := by
  have C := R.C
  have M := R.M
  have O := R.O
  have Hh := R.H h hh
  obtain ⟨fi, la, sh, Y⟩ := Hh.hy hI
  obtain ⟨w1, t1, f1, f2, F, G1, G2⟩ := flows_rel C M O (R.rb hh) (by omega) Y Hh.bore Hh.mv R.q hA hA2
  have C1 : CS w1 a := C.g2 G1
  obtain ⟨w2, a1, a2, a3, a4⟩ := c_addsAll (w := w1) (h := h) (by omega)
  obtain ⟨w4, b1, b2, b3, b4⟩ := c_uses (w := wrL w2 7 h 10 (rdL w2 7 h 10 + A)) (C1.eqI (show (wrL w2 7 h 10 (rdL w2 7 h 10 + A)).1 = w1.1 from a2)) O 26 1
  have i4 : w4.1 = w1.1 := b2.trans a2
  have r4 : w4.2.2 = w1.2.2 := b3.trans a3
  have e2 : ∀ k i j, ¬ (i = h ∧ 8 ≤ k ∧ k ≤ 13) → rdL w2 k i j = rdL w1 k i j := fun k i j z => by rw [a4, if_neg (by omega)]
  have e1 : ∀ k i j, ¬ ((i = 26 ∨ i = 25) ∧ 8 ≤ k ∧ k ≤ 13) → ¬ (26 ≤ k ∧ k ≤ 32) → rdL w1 k i j = rdL w k i j := G1.l
  have e3 : ∀ k i j, ¬ (k = 7 ∧ i = h ∧ j = 10) → rdL (wrL w2 7 h 10 (rdL w2 7 h 10 + A)) k i j = rdL w2 k i j := fun k i j z => by rw [rdL_wrL, if_neg z]
  -- what stands behind
  have v2 : ∀ l, l < 40 → rdL w4 2 l 9 = rdL w 2 l 9 + rdL w1 10 26 l := fun l hl => by
    rw [b4, if_pos ⟨rfl, hl, rfl⟩, e3 2 l 9 (by omega), e2 2 l 9 (by omega), e1 2 l 9 (by omega) (by omega), e3 10 26 l (by omega), e2 10 26 l (by omega), Int64.one_mul]
  have v5 : ∀ l k, l < 40 → k < a.sg l → rdL w4 5 l k = rdL w 5 l k + rdL w1 13 26 (4 * l + k) := fun l k hl hk => by
    rw [b4, if_neg (by omega), if_pos ⟨rfl, hl, hk⟩, e3 5 l k (by omega), e2 5 l k (by omega), e1 5 l k (by omega) (by omega), e3 13 26 _ (by omega), e2 13 26 _ (by omega), Int64.one_mul]
  have v7 : rdL w4 7 h 10 = rdL w 7 h 10 + A := by
    rw [b4, if_neg (by omega), if_neg (by omega), rdL_wrL, if_pos ⟨rfl, rfl, rfl⟩, e2 7 h 10 (by omega), e1 7 h 10 (by omega) (by omega)]
  have ve : ∀ k i j, ¬ (k = 2 ∧ j = 9) → ¬ k = 5 → ¬ (k = 7 ∧ i = h ∧ j = 10) → ¬ ((i = h ∨ i = 26 ∨ i = 25) ∧ 8 ≤ k ∧ k ≤ 13) → ¬ (26 ≤ k ∧ k ≤ 32) → rdL w4 k i j = rdL w k i j := fun k i j z1 z2 z3 z4 z5 => by
    rw [b4, if_neg (by omega), if_neg (by omega), e3 k i j z3, e2 k i j (by omega), e1 k i j (by omega) z5]
  have vh : ∀ k j, (k = 8 ∧ j < 10) ∨ (k = 9 ∧ j < 7) ∨ ((k = 10 ∨ k = 11 ∨ k = 12) ∧ j < 40) ∨ (k = 13 ∧ j < 160) → rdL w4 k h j = rdL w1 k h j + rdL w1 k 26 j := fun k j hk => by
    rw [b4, if_neg (by omega), if_neg (by omega), e3 k h j (by omega), a4, if_pos ⟨rfl, hk⟩]
  have oh : ∀ k j, 8 ≤ k → k ≤ 13 → rdL w1 k h j = rdL w k h j := fun k j z1 z2 => e1 k h j (by omega) (by omega)
  have iI : ∀ k i j, k < 32 → rdI w4 k i j = rdI w k i j := fun k i j hk => by rw [rdI_1 i4, G1.i k i j hk]
  have tI : ∀ k i j, ¬ k = 41 → ¬ (k = 24 ∧ j / 160 = h) → rdI t1 k i j = rdI t k i j := G2.i
  have hT : ∀ l, l < 40 → 0 ≤ (rdL w1 10 26 l).toInt ∧ (rdL w1 10 26 l).toInt ≤ 100000000 ∧ (a.there l = false → rdL w1 10 26 l = 0) ∧ (a.there l = true → (rdL w 10 h l).toInt + (rdL w1 10 26 l).toInt ≤ a.sz l ∧ (rdL w 2 l 9).toInt + (rdL w1 10 26 l).toInt ≤ (a.sz l : Int) * a.tm l) := fun l hl => by
    by_cases ht : a.there l = true
    · have h1 := F.rf.bt l hl ht
      have h2 := O.sz1 l hl ht
      rw [oh 10 l (by omega) (by omega), e1 2 l 9 (by omega) (by omega)] at h1
      exact ⟨h1.2.1, by omega, fun z => (by rw [ht] at z; cases z), fun _ => ⟨h1.2.2.1, h1.2.2.2.2⟩⟩
    · have h1 := F.rf.fz l hl (by simpa using ht)
      rw [h1]
      exact ⟨by decide, by decide, fun _ => rfl, fun z => absurd z ht⟩
  have ub0 : ∀ l, l < 40 → 0 ≤ (rdL w 2 l 9).toInt ∧ (rdL w 2 l 9).toInt ≤ 4000000000 := fun l hl => by
    have h1 := sumZ_nonneg (f := fun h => (rdL w 10 h l).toInt) (n := 24) (fun i hi => ((R.H i hi).tb l hl).1)
    have h2 := sumZ_le (f := fun h => (rdL w 10 h l).toInt) (n := 24) (b := 100000000) (fun i hi => by
      have h3 := (R.H i hi).tb l hl
      by_cases ht : a.there l = true
      · have := h3.2.1 ht
        have := O.sz1 l hl ht
        omega
      · rw [h3.2.2 (by simpa using ht)]; decide)
    rw [R.us l hl]
    omega
  refine ⟨w4, t1, ?_, f2, ?_, G2⟩
  · unfold fW_lays
    rw [f1]
    simp only [Option.bind_some]
    rw [a1]
    simp only [Option.bind_some, nm]
    rw [b1]
    rfl
  · refine ⟨C.fi iI, M.g2 G2, O, R.di, fun l hl => ?_, fun l hl => ?_, fun l hl ht => ?_, fun i hi => ?_, fun i hi => ?_, fun l k hl hk => ?_, fun i hi => ?_, ?_, ?_, ?_, QW.same i4 r4 (G1.q R.q), R.lk, R.s0⟩
    · rw [F.rf.used l hl, v2 l hl, e1 2 l 9 (by omega) (by omega)]
    · have h1 := hT l hl
      have h2 := ub0 l hl
      rw [v2 l hl, i64_add (by omega) (by omega), R.us l hl]
      have : sumZ (fun i => (rdL w4 10 i l).toInt) 24 = sumZ (fun i => if i = h then (rdL w 10 i l).toInt + (rdL w1 10 26 l).toInt else (rdL w 10 i l).toInt) 24 := sumZ_congr (fun i hi => by
        by_cases e : i = h
        · rw [if_pos e, e, vh 10 l (by omega), oh 10 l (by omega) (by omega)]
          have h3 := (Hh.tb l hl)
          have h4 : (rdL w 10 h l).toInt ≤ 100000000 := by
            by_cases ht : a.there l = true
            · have := h3.2.1 ht
              have := O.sz1 l hl ht
              omega
            · rw [h3.2.2 (by simpa using ht)]; decide
          exact i64_add (by omega) (by omega)
        · rw [if_neg e, ve 10 i l (by omega) (by omega) (by omega) (by omega) (by omega)])
      rw [this, sumZ_upd hh]
    · have h1 := (hT l hl).2.2.2 ht
      have h0 := hT l hl
      have h2 := ub0 l hl
      rw [v2 l hl, i64_add (by omega) (by omega)]
      exact h1.2
    · by_cases e : i = h
      · subst e
        refine ⟨fun l hl => ?_, fun l hl => ?_, fun l hl => ?_, fun j hj => ?_, fun r hr => ?_, fun c hc => ?_, fun l hl => ?_, fun l hl => ?_, fun l k hl hk => ?_, ?_, ?_, ?_, fun q => ?_, fun q => ?_⟩
        · rw [F.rf.took l hl, vh 10 l (by omega)]
        · rw [F.rf.thr l hl, vh 11 l (by omega)]
        · rw [F.mv l hl, vh 12 l (by omega)]
        · rw [F.bore j hj, vh 8 j (by omega)]
        · rw [F.rf.fell r hr, vh 9 r (by omega)]
        · rw [F.had c hc, vh 13 c (by omega), oh 13 c (by omega) (by omega)]
          have h1 := Hh.pb (c / 4) (c % 4) (by omega) (by omega)
          have h2 := F.pb (c / 4) (c % 4) (by omega) (by omega)
          rw [show 4 * (c / 4) + c % 4 = c by omega] at h1 h2
          have h3 := hT (c / 4) (by omega)
          have h4 := Hh.tb (c / 4) (by omega)
          have h5 : (rdL w 10 i (c / 4)).toInt ≤ 100000000 := by
            by_cases ht : a.there (c / 4) = true
            · have := h4.2.1 ht
              have := O.sz1 (c / 4) (by omega) ht
              omega
            · rw [h4.2.2 (by simpa using ht)]; decide
          exact had_add (Hh.had c hc) (by omega) (by omega)
        · have h1 := hT l hl
          have h3 := Hh.tb l hl
          rw [vh 10 l (by omega), oh 10 l (by omega) (by omega)]
          by_cases ht : a.there l = true
          · have h4 := h1.2.2.2 ht
            have h5 := O.sz1 l hl ht
            rw [i64_add (by omega) (by omega)]
            exact ⟨by omega, fun _ => h4.1, fun z => (by rw [ht] at z; cases z)⟩
          · have ht' : a.there l = false := by simpa using ht
            rw [h3.2.2 ht', h1.2.2.1 ht', Int64.add_zero]
            exact ⟨by decide, fun z => absurd z ht, fun _ => rfl⟩
        · have h3 := Hh.hb l hl
          rw [vh 11 l (by omega), oh 11 l (by omega) (by omega)]
          by_cases ht : a.there l = true
          · obtain ⟨hy, k, hk, e⟩ := O.all l hl ht
            have h4 := F.rf.bh (a.yr l) k hy hk
            have h5 := hole_bd O hy hk
            rw [e, oh 11 l (by omega) (by omega)] at h4
            rw [i64_add (by omega) (by omega)]
            exact ⟨by omega, by omega, fun z => (by rw [ht] at z; cases z)⟩
          · have ht' : a.there l = false := by simpa using ht
            rw [h3.2.2 ht', F.rf.fz1 l hl ht', Int64.add_zero]
            exact ⟨by decide, by decide, fun _ => rfl⟩
        · have h1 := Hh.pb l k hl hk
          have h2 := F.pb l k hl hk
          have h3 := hT l hl
          have h4 := Hh.tb l hl
          have h5 : (rdL w 10 i l).toInt ≤ 100000000 := by
            by_cases ht : a.there l = true
            · have := h4.2.1 ht
              have := O.sz1 l hl ht
              omega
            · rw [h4.2.2 (by simpa using ht)]; decide
          rw [vh 13 _ (by omega), vh 10 l (by omega), oh 13 _ (by omega) (by omega), oh 10 l (by omega) (by omega), i64_add (by omega) (by omega), i64_add (by omega) (by omega)]
          exact ⟨by omega, by omega, fun z => by rw [h1.2.2 z, h2.2.2 z, Int64.add_zero]⟩
        · rw [iI 7 _ _ (by omega), tI 19 0 i (by omega) (by omega)]; exact Hh.gr
        · rw [iI 7 _ _ (by omega), tI 7 0 i (by omega) (by omega)]; exact Hh.isH
        · rw [tI 7 0 i (by omega) (by omega)]; exact Hh.i01
        · exact ⟨fi, la, sh, by rw [iI 7 _ _ (by omega)]; exact Y.cf, by rw [iI 7 _ _ (by omega)]; exact Y.cl, by rw [iI 7 _ _ (by omega)]; exact Y.cs, by rw [tI 16 _ _ (by omega) (by omega)]; exact Y.mf, by rw [tI 17 _ _ (by omega) (by omega)]; exact Y.ml, by rw [tI 18 _ _ (by omega) (by omega)]; exact Y.ms, Y.o1, Y.o2, Y.o3⟩
        · rw [tI 7 0 i (by omega) (by omega), hI] at q
          exact absurd q (by decide)
      · exact (R.H i hi).ext (fun k j z1 z2 => ve k i j (by omega) (by omega) (by omega) (by omega) (by omega)) (fun j => iI 7 i j (by omega)) (fun k j hk => G2.l k 0 j (by omega) (by omega)) (fun j hj => tI 24 0 j (by omega) (by omega)) (fun k hk => tI k 0 i (by omega) (by omega))
    · have h1 := R.L i hi
      rw [G2.l 20 0 i (by omega) (by omega), tI 7 0 i (by omega) (by omega)]
      refine ⟨?_, h1.2.1, h1.2.2.1, h1.2.2.2⟩
      have h2 := h1.1
      show rdL w4 7 i 10 + 0 = _
      rw [Int64.add_zero]
      by_cases e : i = h
      · rw [if_pos e] at h2
        rw [e, v7, ← e]; exact h2
      · rw [if_neg e, Int64.add_zero] at h2
        rw [ve 7 i 10 (by omega) (by omega) (by omega) (by omega) (by omega)]; exact h2
    · have : sumL (fun i => rdL w4 13 i (4 * l + k)) 24 = sumL (fun i => if i = h then rdL w 13 i (4 * l + k) + rdL w1 13 26 (4 * l + k) else rdL w 13 i (4 * l + k)) 24 := sumL_congr (fun i hi => by
        have h4 := O.sg4 l hl
        by_cases e : i = h
        · rw [if_pos e, e, vh 13 _ (by omega), oh 13 _ (by omega) (by omega)]
        · rw [if_neg e, ve 13 i _ (by omega) (by omega) (by omega) (by omega) (by omega)])
      rw [v5 l k hl hk, R.hs l k hl hk, this, sumL_upd hh]
    · rw [ve 25 0 i (by omega) (by omega) (by omega) (by omega) (by omega), tI 28 0 i (by omega) (by omega)]; exact R.cash i hi
    · rw [iI 0 _ _ (by omega), tI 0 0 48 (by omega) (by omega)]; exact R.fx
    · rw [iI 0 _ _ (by omega)]; exact R.pl
    · have e : cntP (fun h => decide (rdI t 7 0 h = 1)) 24 = cntP (fun h => decide (rdI t1 7 0 h = 1)) 24 := cntP_congr (fun i hi => by rw [tI 7 0 i (by omega) (by omega)])
      rw [iI 0 _ _ (by omega), R.hm, e]
