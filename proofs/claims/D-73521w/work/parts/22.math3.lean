set_option linter.unusedVariables false
set_option linter.unusedSimpArgs false
set_option maxRecDepth 100000
/-! PLAIN LAW: tools for indices; the static picture of towers -/
theorem nI_mul (a b : Nat) : nI a * nI b = nI (a * b) := (Int32.ofNat_mul a b).symm
theorem inB_iff {j n : Nat} (hj : j < 2 ^ 31) : inB (nI j) n = decide (j < n) := by
  unfold inB
  rw [nI_clamp hj]
  have h1 := nI_pos (n := j) hj
  simp only [h1, decide_false, Bool.false_or]
  by_cases h : j < n
  · simp [h]
  · simp [h]; omega
theorem L0 : (0 : Int32) = nI 0 := rfl
theorem L1 : (1 : Int32) = nI 1 := rfl
theorem L2 : (2 : Int32) = nI 2 := rfl
theorem L3 : (3 : Int32) = nI 3 := rfl
theorem L4 : (4 : Int32) = nI 4 := rfl
theorem L6 : (6 : Int32) = nI 6 := rfl
theorem L7 : (7 : Int32) = nI 7 := rfl
theorem L10 : (10 : Int32) = nI 10 := rfl
theorem L12 : (12 : Int32) = nI 12 := rfl
theorem L40 : (40 : Int32) = nI 40 := rfl
/-- the index k * a + b -/
theorem ix_add {k a b : Nat} : nI k * nI a + nI b = nI (k * a + b) := by rw [nI_mul, nI_add]
/-- what stands still while a loss flows: towers, signatures, rules -/
def TS : Type := (Nat → Nat) × (Nat → Nat → Nat) × (Nat → Bool) × (Nat → Nat) × (Nat → Nat) × (Nat → Nat) × (Nat → Nat) × (Nat → Nat) × (Nat → Nat → Nat) × (Nat → Nat → Nat) × (Nat → Nat) × (Int32) × (Nat) × (Nat) × (Nat)
def TS.n (a : TS) : Nat → Nat := a.1
def TS.rg (a : TS) : Nat → Nat → Nat := a.2.1
def TS.there (a : TS) : Nat → Bool := a.2.2.1
def TS.yr (a : TS) : Nat → Nat := a.2.2.2.1
def TS.fr (a : TS) : Nat → Nat := a.2.2.2.2.1
def TS.sz (a : TS) : Nat → Nat := a.2.2.2.2.2.1
def TS.tm (a : TS) : Nat → Nat := a.2.2.2.2.2.2.1
def TS.sg (a : TS) : Nat → Nat := a.2.2.2.2.2.2.2.1
def TS.who (a : TS) : Nat → Nat → Nat := a.2.2.2.2.2.2.2.2.1
def TS.ten (a : TS) : Nat → Nat → Nat := a.2.2.2.2.2.2.2.2.2.1
def TS.st (a : TS) : Nat → Nat := a.2.2.2.2.2.2.2.2.2.2.1
def TS.lack (a : TS) : Int32 := a.2.2.2.2.2.2.2.2.2.2.2.1
def TS.trig (a : TS) : Nat := a.2.2.2.2.2.2.2.2.2.2.2.2.1
def TS.spr (a : TS) : Nat := a.2.2.2.2.2.2.2.2.2.2.2.2.2.1
def TS.pick (a : TS) : Nat := a.2.2.2.2.2.2.2.2.2.2.2.2.2.2
def TS.mk (n : Nat → Nat) (rg : Nat → Nat → Nat) (there : Nat → Bool) (yr : Nat → Nat) (fr : Nat → Nat) (sz : Nat → Nat) (tm : Nat → Nat) (sg : Nat → Nat) (who : Nat → Nat → Nat) (ten : Nat → Nat → Nat) (st : Nat → Nat) (lack : Int32) (trig : Nat) (spr : Nat) (pick : Nat) : TS := (n, rg, there, yr, fr, sz, tm, sg, who, ten, st, lack, trig, spr, pick)
def TS.top (a : TS) (l : Nat) : Nat := a.fr l + a.sz l
def TS.hole (a : TS) (y k : Nat) : Nat := a.fr (a.rg y k) - (if k = 0 then 0 else a.top (a.rg y (k - 1)))
def TS.Ok (a : TS) : Prop :=
  (∀ y, y < 12 → a.n y ≤ 6) ∧
  (∀ y k, y < 12 → k < a.n y → a.rg y k < 40) ∧
  (∀ y k, y < 12 → k < a.n y → a.there (a.rg y k) = true) ∧
  (∀ y k, y < 12 → k < a.n y → a.yr (a.rg y k) = y) ∧
  (∀ y k, y < 12 → k + 1 < a.n y → a.top (a.rg y k) ≤ a.fr (a.rg y (k + 1))) ∧
  (∀ l, l < 40 → a.there l = true → a.yr l < 12 ∧ ∃ k, k < a.n (a.yr l) ∧ a.rg (a.yr l) k = l) ∧
  (∀ l, l < 40 → a.there l = true → a.fr l ≤ 900000000) ∧
  (∀ l, l < 40 → a.there l = true → 1 ≤ a.sz l ∧ a.sz l ≤ 100000000) ∧
  (∀ l, l < 40 → a.there l = true → 1 ≤ a.tm l ∧ a.tm l ≤ 4) ∧
  (∀ l, l < 40 → a.sg l ≤ 4) ∧
  (∀ l, l < 40 → a.there l = false → a.sg l = 0) ∧
  (∀ l k, l < 40 → k < a.sg l → a.who l k < 10) ∧
  (∀ l k, l < 40 → k < a.sg l → 1 ≤ a.ten l k ∧ a.ten l k ≤ 10) ∧
  (∀ i, i < 10 → a.st i ≤ 2) ∧
  (a.trig ≤ 3) ∧
  (a.spr ≤ 3) ∧
  (a.pick ≤ 3) ∧
  (∀ y, y < 12 → ((a.lack >>> (nI y &&& 31)) &&& 1) = 1 → a.n y = 0)
theorem TS.Ok.n6 {a : TS} (self_ : TS.Ok a) : ∀ y, y < 12 → a.n y ≤ 6 := self_.1
theorem TS.Ok.rg40 {a : TS} (self_ : TS.Ok a) : ∀ y k, y < 12 → k < a.n y → a.rg y k < 40 := self_.2.1
theorem TS.Ok.rgT {a : TS} (self_ : TS.Ok a) : ∀ y k, y < 12 → k < a.n y → a.there (a.rg y k) = true := self_.2.2.1
theorem TS.Ok.rgY {a : TS} (self_ : TS.Ok a) : ∀ y k, y < 12 → k < a.n y → a.yr (a.rg y k) = y := self_.2.2.2.1
theorem TS.Ok.sorted {a : TS} (self_ : TS.Ok a) : ∀ y k, y < 12 → k + 1 < a.n y → a.top (a.rg y k) ≤ a.fr (a.rg y (k + 1)) := self_.2.2.2.2.1
theorem TS.Ok.all {a : TS} (self_ : TS.Ok a) : ∀ l, l < 40 → a.there l = true → a.yr l < 12 ∧ ∃ k, k < a.n (a.yr l) ∧ a.rg (a.yr l) k = l := self_.2.2.2.2.2.1
theorem TS.Ok.fr9 {a : TS} (self_ : TS.Ok a) : ∀ l, l < 40 → a.there l = true → a.fr l ≤ 900000000 := self_.2.2.2.2.2.2.1
theorem TS.Ok.sz1 {a : TS} (self_ : TS.Ok a) : ∀ l, l < 40 → a.there l = true → 1 ≤ a.sz l ∧ a.sz l ≤ 100000000 := self_.2.2.2.2.2.2.2.1
theorem TS.Ok.tm4 {a : TS} (self_ : TS.Ok a) : ∀ l, l < 40 → a.there l = true → 1 ≤ a.tm l ∧ a.tm l ≤ 4 := self_.2.2.2.2.2.2.2.2.1
theorem TS.Ok.sg4 {a : TS} (self_ : TS.Ok a) : ∀ l, l < 40 → a.sg l ≤ 4 := self_.2.2.2.2.2.2.2.2.2.1
theorem TS.Ok.sg0 {a : TS} (self_ : TS.Ok a) : ∀ l, l < 40 → a.there l = false → a.sg l = 0 := self_.2.2.2.2.2.2.2.2.2.2.1
theorem TS.Ok.who10 {a : TS} (self_ : TS.Ok a) : ∀ l k, l < 40 → k < a.sg l → a.who l k < 10 := self_.2.2.2.2.2.2.2.2.2.2.2.1
theorem TS.Ok.ten1 {a : TS} (self_ : TS.Ok a) : ∀ l k, l < 40 → k < a.sg l → 1 ≤ a.ten l k ∧ a.ten l k ≤ 10 := self_.2.2.2.2.2.2.2.2.2.2.2.2.1
theorem TS.Ok.st2 {a : TS} (self_ : TS.Ok a) : ∀ i, i < 10 → a.st i ≤ 2 := self_.2.2.2.2.2.2.2.2.2.2.2.2.2.1
theorem TS.Ok.trig3 {a : TS} (self_ : TS.Ok a) : a.trig ≤ 3 := self_.2.2.2.2.2.2.2.2.2.2.2.2.2.2.1
theorem TS.Ok.spr3 {a : TS} (self_ : TS.Ok a) : a.spr ≤ 3 := self_.2.2.2.2.2.2.2.2.2.2.2.2.2.2.2.1
theorem TS.Ok.pick3 {a : TS} (self_ : TS.Ok a) : a.pick ≤ 3 := self_.2.2.2.2.2.2.2.2.2.2.2.2.2.2.2.2.1
theorem TS.Ok.lg {a : TS} (self_ : TS.Ok a) : ∀ y, y < 12 → ((a.lack >>> (nI y &&& 31)) &&& 1) = 1 → a.n y = 0 := self_.2.2.2.2.2.2.2.2.2.2.2.2.2.2.2.2.2
/-- the component's cells show it -/
def CS (w : tt_St) (a : TS) : Prop :=
  (∀ y, y < 12 → rdI w 23 0 y = nI (a.n y)) ∧
  (∀ y k, y < 12 → k < a.n y → rdI w 22 y k = nI (a.rg y k)) ∧
  (∀ l, l < 40 → rdI w 2 l 10 = if a.there l then 1 else 0) ∧
  (∀ l, l < 40 → a.there l = true → rdI w 2 l 4 = nI (a.yr l)) ∧
  (∀ l, l < 40 → a.there l = true → rdI w 2 l 5 = nI (a.fr l)) ∧
  (∀ l, l < 40 → a.there l = true → rdI w 2 l 6 = nI (a.sz l)) ∧
  (∀ l, l < 40 → a.there l = true → rdI w 2 l 7 = nI (a.tm l)) ∧
  (∀ l, l < 40 → rdI w 2 l 8 = nI (a.sg l)) ∧
  (∀ l k, l < 40 → k < a.sg l → rdI w 3 l k = nI (a.who l k)) ∧
  (∀ l k, l < 40 → k < a.sg l → rdI w 4 l k = nI (a.ten l k)) ∧
  (∀ i, i < 10 → rdI w 24 0 i = nI (a.st i)) ∧
  (rdI w 0 0 17 = a.lack) ∧
  (rdI w 0 0 18 = nI a.trig) ∧
  (rdI w 0 0 19 = nI a.spr) ∧
  (rdI w 0 0 20 = nI a.pick)
theorem CS.many {w : tt_St} {a : TS} (self_ : CS w a) : ∀ y, y < 12 → rdI w 23 0 y = nI (a.n y) := self_.1
theorem CS.rung {w : tt_St} {a : TS} (self_ : CS w a) : ∀ y k, y < 12 → k < a.n y → rdI w 22 y k = nI (a.rg y k) := self_.2.1
theorem CS.isT {w : tt_St} {a : TS} (self_ : CS w a) : ∀ l, l < 40 → rdI w 2 l 10 = if a.there l then 1 else 0 := self_.2.2.1
theorem CS.yr {w : tt_St} {a : TS} (self_ : CS w a) : ∀ l, l < 40 → a.there l = true → rdI w 2 l 4 = nI (a.yr l) := self_.2.2.2.1
theorem CS.fr {w : tt_St} {a : TS} (self_ : CS w a) : ∀ l, l < 40 → a.there l = true → rdI w 2 l 5 = nI (a.fr l) := self_.2.2.2.2.1
theorem CS.sz {w : tt_St} {a : TS} (self_ : CS w a) : ∀ l, l < 40 → a.there l = true → rdI w 2 l 6 = nI (a.sz l) := self_.2.2.2.2.2.1
theorem CS.tm {w : tt_St} {a : TS} (self_ : CS w a) : ∀ l, l < 40 → a.there l = true → rdI w 2 l 7 = nI (a.tm l) := self_.2.2.2.2.2.2.1
theorem CS.sg {w : tt_St} {a : TS} (self_ : CS w a) : ∀ l, l < 40 → rdI w 2 l 8 = nI (a.sg l) := self_.2.2.2.2.2.2.2.1
theorem CS.who {w : tt_St} {a : TS} (self_ : CS w a) : ∀ l k, l < 40 → k < a.sg l → rdI w 3 l k = nI (a.who l k) := self_.2.2.2.2.2.2.2.2.1
theorem CS.ten {w : tt_St} {a : TS} (self_ : CS w a) : ∀ l k, l < 40 → k < a.sg l → rdI w 4 l k = nI (a.ten l k) := self_.2.2.2.2.2.2.2.2.2.1
theorem CS.st {w : tt_St} {a : TS} (self_ : CS w a) : ∀ i, i < 10 → rdI w 24 0 i = nI (a.st i) := self_.2.2.2.2.2.2.2.2.2.2.1
theorem CS.lack {w : tt_St} {a : TS} (self_ : CS w a) : rdI w 0 0 17 = a.lack := self_.2.2.2.2.2.2.2.2.2.2.2.1
theorem CS.trig {w : tt_St} {a : TS} (self_ : CS w a) : rdI w 0 0 18 = nI a.trig := self_.2.2.2.2.2.2.2.2.2.2.2.2.1
theorem CS.spr {w : tt_St} {a : TS} (self_ : CS w a) : rdI w 0 0 19 = nI a.spr := self_.2.2.2.2.2.2.2.2.2.2.2.2.2.1
theorem CS.pick {w : tt_St} {a : TS} (self_ : CS w a) : rdI w 0 0 20 = nI a.pick := self_.2.2.2.2.2.2.2.2.2.2.2.2.2.2
/-- the model's cells show it -/
def MS (t : tt_St) (a : TS) : Prop :=
  (∀ y, y < 12 → rdI t 34 0 y = nI (a.n y)) ∧
  (∀ y k, y < 12 → k < a.n y → rdI t 33 0 (6 * y + k) = nI (a.rg y k)) ∧
  (∀ y k, y < 12 → k < a.n y → rdI t 35 0 (a.rg y k) = nI (a.hole y k)) ∧
  (∀ l, l < 40 → rdI t 6 0 l = if a.there l then 1 else 0) ∧
  (∀ l, l < 40 → a.there l = true → rdI t 8 0 l = nI (a.yr l)) ∧
  (∀ l, l < 40 → a.there l = true → rdI t 9 0 l = nI (a.fr l)) ∧
  (∀ l, l < 40 → a.there l = true → rdI t 10 0 l = nI (a.sz l)) ∧
  (∀ l, l < 40 → a.there l = true → rdI t 11 0 l = nI (a.tm l)) ∧
  (∀ l, l < 40 → rdI t 12 0 l = nI (a.sg l)) ∧
  (∀ l k, l < 40 → k < a.sg l → rdI t 13 0 (4 * l + k) = nI (a.who l k)) ∧
  (∀ l k, l < 40 → k < a.sg l → rdI t 14 0 (4 * l + k) = nI (a.ten l k)) ∧
  (∀ i, i < 10 → rdI t 27 0 i = nI (a.st i)) ∧
  (rdI t 0 0 29 = a.lack) ∧
  (rdI t 0 0 30 = nI a.trig) ∧
  (rdI t 0 0 31 = nI a.spr) ∧
  (rdI t 0 0 32 = nI a.pick)
theorem MS.many {t : tt_St} {a : TS} (self_ : MS t a) : ∀ y, y < 12 → rdI t 34 0 y = nI (a.n y) := self_.1
theorem MS.rung {t : tt_St} {a : TS} (self_ : MS t a) : ∀ y k, y < 12 → k < a.n y → rdI t 33 0 (6 * y + k) = nI (a.rg y k) := self_.2.1
theorem MS.hole {t : tt_St} {a : TS} (self_ : MS t a) : ∀ y k, y < 12 → k < a.n y → rdI t 35 0 (a.rg y k) = nI (a.hole y k) := self_.2.2.1
theorem MS.isT {t : tt_St} {a : TS} (self_ : MS t a) : ∀ l, l < 40 → rdI t 6 0 l = if a.there l then 1 else 0 := self_.2.2.2.1
theorem MS.yr {t : tt_St} {a : TS} (self_ : MS t a) : ∀ l, l < 40 → a.there l = true → rdI t 8 0 l = nI (a.yr l) := self_.2.2.2.2.1
theorem MS.fr {t : tt_St} {a : TS} (self_ : MS t a) : ∀ l, l < 40 → a.there l = true → rdI t 9 0 l = nI (a.fr l) := self_.2.2.2.2.2.1
theorem MS.sz {t : tt_St} {a : TS} (self_ : MS t a) : ∀ l, l < 40 → a.there l = true → rdI t 10 0 l = nI (a.sz l) := self_.2.2.2.2.2.2.1
theorem MS.tm {t : tt_St} {a : TS} (self_ : MS t a) : ∀ l, l < 40 → a.there l = true → rdI t 11 0 l = nI (a.tm l) := self_.2.2.2.2.2.2.2.1
theorem MS.sg {t : tt_St} {a : TS} (self_ : MS t a) : ∀ l, l < 40 → rdI t 12 0 l = nI (a.sg l) := self_.2.2.2.2.2.2.2.2.1
theorem MS.who {t : tt_St} {a : TS} (self_ : MS t a) : ∀ l k, l < 40 → k < a.sg l → rdI t 13 0 (4 * l + k) = nI (a.who l k) := self_.2.2.2.2.2.2.2.2.2.1
theorem MS.ten {t : tt_St} {a : TS} (self_ : MS t a) : ∀ l k, l < 40 → k < a.sg l → rdI t 14 0 (4 * l + k) = nI (a.ten l k) := self_.2.2.2.2.2.2.2.2.2.2.1
theorem MS.st {t : tt_St} {a : TS} (self_ : MS t a) : ∀ i, i < 10 → rdI t 27 0 i = nI (a.st i) := self_.2.2.2.2.2.2.2.2.2.2.2.1
theorem MS.lack {t : tt_St} {a : TS} (self_ : MS t a) : rdI t 0 0 29 = a.lack := self_.2.2.2.2.2.2.2.2.2.2.2.2.1
theorem MS.trig {t : tt_St} {a : TS} (self_ : MS t a) : rdI t 0 0 30 = nI a.trig := self_.2.2.2.2.2.2.2.2.2.2.2.2.2.1
theorem MS.spr {t : tt_St} {a : TS} (self_ : MS t a) : rdI t 0 0 31 = nI a.spr := self_.2.2.2.2.2.2.2.2.2.2.2.2.2.2.1
theorem MS.pick {t : tt_St} {a : TS} (self_ : MS t a) : rdI t 0 0 32 = nI a.pick := self_.2.2.2.2.2.2.2.2.2.2.2.2.2.2.2
/-! reads on the component's side -/
theorem c_layerAt {w : tt_St} {a : TS} (C : CS w a) (O : a.Ok) {y k : Nat} (hy : y < 12) (hk : k < a.n y) : fW_layerAt w (nI y) (nI k) = some (a.rg y k) := by
  have h6 := O.n6 y hy
  have h40 := O.rg40 y k hy hk
  unfold fW_layerAt
  rw [inB_nI hy (by omega), inB_nI (n := 6) (by omega) (by omega), nI_clamp (by omega), nI_clamp (by omega), C.rung y k hy hk, inB_nI h40 (by omega), nI_clamp (by omega)]
  rfl
theorem c_top {w : tt_St} {a : TS} (C : CS w a) (O : a.Ok) {l : Nat} (hl : l < 40) (ht : a.there l = true) : fY_top w l = some (nI (a.top l)) := by
  unfold fY_top
  rw [C.fr l hl ht, C.sz l hl ht, nI_add]
  rfl
theorem hole_le {w : tt_St} {a : TS} (C : CS w a) (O : a.Ok) {y k : Nat} (hy : y < 12) (hk : k < a.n y) : (if k = 0 then 0 else a.top (a.rg y (k - 1))) ≤ a.fr (a.rg y k) := by
  by_cases h : k = 0
  · rw [if_pos h]; exact Nat.zero_le _
  · rw [if_neg h]
    have := O.sorted y (k - 1) hy (by omega)
    rw [show k - 1 + 1 = k by omega] at this
    exact this
theorem c_holeOf {w : tt_St} {a : TS} (C : CS w a) (O : a.Ok) {y k : Nat} (hy : y < 12) (hk : k < a.n y) : fW_holeOf w (nI y) (nI k) = some (nI (a.hole y k)) := by
  have h6 := O.n6 y hy
  have h40 := O.rg40 y k hy hk
  have hT := O.rgT y k hy hk
  have hh := hole_le C O hy hk
  unfold fW_holeOf TS.hole
  rw [c_layerAt C O hy hk]
  simp only [Option.bind_some]
  rw [C.fr _ h40 hT]
  by_cases h : k = 0
  · subst h
    rw [if_pos (show nI 0 = 0 from rfl), if_pos rfl]
    simp
  · rw [if_neg (by rw [L0, nI_eq (by omega) (by omega)]; exact h), if_neg h]
    rw [if_neg h] at hh
    rw [L1, pk_sub (by omega), c_layerAt C O hy (by omega)]
    simp only [Option.bind_some]
    rw [c_top C O (O.rg40 y (k - 1) hy (by omega)) (O.rgT y (k - 1) hy (by omega))]
    simp only [Option.bind_some]
    rw [pk_sub hh]
theorem c_isGap {w : tt_St} {a : TS} (C : CS w a) (O : a.Ok) {y : Nat} (hy : y < 12) : fW_isGap w (nI y) = some (if a.n y = 0 then 1 else 0) := by
  have h6 := O.n6 y hy
  unfold fW_isGap
  rw [inB_nI hy (by omega), if_pos rfl, nI_clamp (by omega), C.many y hy]
  by_cases h : a.n y = 0
  · rw [if_pos h, h]; rfl
  · rw [if_neg h, if_neg (by rw [L0, nI_eq (by omega) (by omega)]; exact h)]
theorem c_left {w : tt_St} {a : TS} (C : CS w a) (O : a.Ok) {l : Nat} (hl : l < 40) (ht : a.there l = true) : fY_left w l = some ((nI (a.sz l)).toInt64 * (nI (a.tm l)).toInt64 - rdL w 2 l 9) := by
  unfold fY_left
  rw [C.sz l hl ht, C.tm l hl ht]
theorem m_layersOf {t : tt_St} {a : TS} (C : MS t a) (O : a.Ok) {y : Nat} (hy : y < 12) : fM_layersOf t (nI y) = some (nI (a.n y)) := by
  unfold fM_layersOf
  rw [inB_nI hy (by omega), if_pos rfl, nI_clamp (by omega), C.many y hy]
theorem m_rungOf {t : tt_St} {a : TS} (C : MS t a) (O : a.Ok) {y k : Nat} (hy : y < 12) (hk : k < a.n y) : fM_rungOf t (nI y) (nI k) = some (nI (a.rg y k)) := by
  have h6 := O.n6 y hy
  unfold fM_rungOf
  rw [inB_nI hy (by omega), if_pos rfl, nI_clamp (by omega), C.many y hy, if_neg (nI_ge hk (by omega)), L6, ix_add, inB_nI (by omega) (by omega), if_pos rfl, nI_clamp (by omega), C.rung y k hy hk]
theorem m_rungOf_none {t : tt_St} {a : TS} (C : MS t a) (O : a.Ok) {y k : Nat} (hy : y < 12) (hk : a.n y ≤ k) (hk2 : k < 2 ^ 31) : fM_rungOf t (nI y) (nI k) = some (-1) := by
  unfold fM_rungOf
  rw [inB_nI hy (by omega), if_pos rfl, nI_clamp (by omega), C.many y hy, if_pos (nI_le hk hk2)]
theorem m_isGap {t : tt_St} {a : TS} (C : MS t a) (O : a.Ok) {y : Nat} (hy : y < 12) : fM_isGap t (nI y) = some (if a.n y = 0 then 1 else 0) := by
  have h6 := O.n6 y hy
  unfold fM_isGap
  rw [m_layersOf C O hy]
  simp only [Option.bind_some]
  by_cases h : a.n y = 0
  · rw [if_pos h, h]; rfl
  · rw [if_neg h, if_neg (by rw [L0, nI_eq (by omega) (by omega)]; exact h)]
theorem m_holeOf {t : tt_St} {a : TS} (C : MS t a) (O : a.Ok) {y k : Nat} (hy : y < 12) (hk : k < a.n y) : fM_holeOf t (nI (a.rg y k)) = some (nI (a.hole y k)) := by
  have h40 := O.rg40 y k hy hk
  unfold fM_holeOf
  rw [inB_nI h40 (by omega), if_pos rfl, nI_clamp (by omega), C.hole y k hy hk]
theorem m_left {t : tt_St} {a : TS} (C : MS t a) (O : a.Ok) {l : Nat} (hl : l < 40) (ht : a.there l = true) : fM_left t (nI l) = some ((nI (a.sz l)).toInt64 * (nI (a.tm l)).toInt64 - rdL t 15 0 l) := by
  unfold fM_left
  rw [inB_nI hl (by omega), if_pos rfl, nI_clamp (by omega), C.sz l hl ht, C.tm l hl ht]
