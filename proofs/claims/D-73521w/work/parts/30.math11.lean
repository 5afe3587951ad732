set_option linter.unusedVariables false
set_option linter.unusedSimpArgs false
set_option maxRecDepth 100000
/-! PLAIN LAW: the order of years, both sides -/
/-- a loop that may end early -/
theorem itr_brk {α β γ : Type} {body : α → Option (α ⊕ β)} (mk : Nat → γ → α) (I : Nat → γ → Prop) (R : β → Prop) (N : Nat) (c0 : γ) (hN : N < 1000) (h0 : I 0 c0) (hs : ∀ i c, i < N → I i c → (∃ c', body (mk i c) = some (.inl (mk (i + 1) c')) ∧ I (i + 1) c') ∨ ∃ b, body (mk i c) = some (.inr b) ∧ R b) (hx : ∀ c, I N c → ∃ b, body (mk N c) = some (.inr b) ∧ R b) : ∃ b, itr body tt_fuel (mk 0 c0) = some b ∧ R b := by
  have key : ∀ (d i n : Nat) (c : γ), i + d = N → d < n → I i c → ∃ b, itr body n (mk i c) = some b ∧ R b := by
    intro d
    induction d with
    | zero =>
      intro i n c hi hn hI
      obtain ⟨k, rfl⟩ : ∃ k, n = k + 1 := ⟨n - 1, by omega⟩
      have : i = N := by omega
      subst this
      obtain ⟨b, h1, h2⟩ := hx c hI
      exact ⟨b, by unfold itr; rw [h1], h2⟩
    | succ d ih =>
      intro i n c hi hn hI
      obtain ⟨k, rfl⟩ : ∃ k, n = k + 1 := ⟨n - 1, by omega⟩
      rcases hs i c (by omega) hI with ⟨c', h1, h2⟩ | ⟨b, h1, h2⟩
      · obtain ⟨b, h3, h4⟩ := ih (i + 1) k c' (by omega) (by omega) h2
        exact ⟨b, by unfold itr; rw [h1]; exact h3, h4⟩
      · exact ⟨b, by unfold itr; rw [h1], h2⟩
  exact key N 0 tt_fuel c0 (by omega) hN h0
theorem i64_neg {a : Int64} (h : -2 ^ 63 < a.toInt) : (-a).toInt = -a.toInt := by
  have := i64_hi a
  rw [Int64.toInt_neg]
  exact Int.bmod_eq_of_le (by omega) (by omega)
theorem i32_neg {a : Int32} (h : -2 ^ 31 < a.toInt) : (-a).toInt = -a.toInt := by
  have := i32_hi a
  rw [Int32.toInt_neg]
  exact Int.bmod_eq_of_le (by omega) (by omega)
/-! counting -/
def cntP (p : Nat → Bool) : Nat → Nat
  | 0 => 0
  | n + 1 => if p n then cntP p n + 1 else cntP p n
theorem cntP_s {p : Nat → Bool} {n : Nat} : cntP p (n + 1) = if p n then cntP p n + 1 else cntP p n := rfl
theorem cntP_le {p : Nat → Bool} : ∀ n, cntP p n ≤ n
  | 0 => Nat.le_refl _
  | n + 1 => by rw [cntP_s]; have := cntP_le (p := p) n; split <;> omega
theorem cntP_all : ∀ n, cntP (fun _ => true) n = n
  | 0 => rfl
  | n + 1 => by rw [cntP_s, cntP_all n]; rfl
theorem cntP_congr {p q : Nat → Bool} : ∀ {n}, (∀ i, i < n → p i = q i) → cntP p n = cntP q n
  | 0, _ => rfl
  | n + 1, h => by rw [cntP_s, cntP_s, cntP_congr (fun i hi => h i (by omega)), h n (by omega)]
theorem cntP_mono {p q : Nat → Bool} : ∀ {n}, (∀ i, i < n → p i = true → q i = true) → cntP p n ≤ cntP q n
  | 0, _ => Nat.le_refl _
  | n + 1, h => by
    have h1 := cntP_mono (p := p) (q := q) (n := n) (fun i hi => h i (by omega))
    have h2 := h n (by omega)
    rw [cntP_s, cntP_s]
    by_cases hp : p n = true
    · rw [if_pos hp, if_pos (h2 hp)]; omega
    · rw [if_neg hp]; split <;> omega
theorem cntP_lt {p q : Nat → Bool} : ∀ {n}, (∀ i, i < n → p i = true → q i = true) → (∃ i, i < n ∧ q i = true ∧ p i = false) → cntP p n < cntP q n
  | 0, _, h => by obtain ⟨i, hi, _⟩ := h; omega
  | n + 1, h, hx => by
    obtain ⟨i, hi, h1, h2⟩ := hx
    rw [cntP_s, cntP_s]
    by_cases e : i = n
    · subst e
      have := cntP_mono (p := p) (q := q) (n := i) (fun j hj => h j (by omega))
      rw [h1, h2]
      simp only [if_true, Bool.false_eq_true, if_false]
      omega
    · have := cntP_lt (p := p) (q := q) (n := n) (fun j hj => h j (by omega)) ⟨i, by omega, h1, h2⟩
      have h3 := h n (by omega)
      by_cases hp : p n = true
      · rw [if_pos hp, if_pos (h3 hp)]; omega
      · rw [if_neg hp]; split <;> omega
theorem cntP_one {p q : Nat → Bool} : ∀ {n}, (∀ a b, a < n → b < n → p a = true → q a = false → p b = true → q b = false → a = b) → cntP p n ≤ cntP q n + 1
  | 0, _ => Nat.zero_le _
  | n + 1, h => by
    have ih := cntP_one (p := p) (q := q) (n := n) (fun a b ha hb => h a b (by omega) (by omega))
    rw [cntP_s, cntP_s]
    by_cases hp : p n = true
    · by_cases hq : q n = true
      · rw [if_pos hp, if_pos hq]; omega
      · have hq' : q n = false := by simpa using hq
        have : cntP p n ≤ cntP q n := cntP_mono (fun i hi hpi => by
          by_cases z : q i = true
          · exact z
          · have := h i n (by omega) (by omega) hpi (by simpa using z) hp hq'
            omega)
        rw [if_pos hp, if_neg hq]; omega
    · rw [if_neg hp]; split <;> omega
/-- how many go ahead of it -/
def ahd (κ : Nat → Int) (S : Nat → Bool) (y : Nat) : Nat := cntP (fun o => S o && decide (κ o < κ y)) 12
theorem ahd_lt {κ : Nat → Int} {S : Nat → Bool} {a b : Nat} (ha : a < 12) (hS : S a = true) (h : κ a < κ b) : ahd κ S a < ahd κ S b := by
  refine cntP_lt (fun i _ hi => ?_) ⟨a, ha, by simp [hS, h], by simp⟩
  have h1 : S i = true ∧ κ i < κ a := by simpa using hi
  have : κ i < κ b := by omega
  simp [h1.1, this]
theorem ahd_inj {κ : Nat → Int} {S : Nat → Bool} (hi : ∀ a b, a < 12 → b < 12 → κ a = κ b → a = b) {a b : Nat} (ha : a < 12) (hb : b < 12) (hA : S a = true) (hB : S b = true) (h : ahd κ S a = ahd κ S b) : a = b := by
  refine hi a b ha hb ?_
  by_cases h1 : κ a < κ b
  · have := ahd_lt ha hA h1; omega
  · by_cases h2 : κ b < κ a
    · have := ahd_lt hb hB h2; omega
    · omega
theorem ahd_bd {κ : Nat → Int} {S : Nat → Bool} {y : Nat} (hy : y < 12) : ahd κ S y < 12 := by
  have := cntP_lt (p := fun o => S o && decide (κ o < κ y)) (q := fun _ => true) (n := 12) (fun _ _ _ => rfl) ⟨y, hy, rfl, by simp⟩
  rw [cntP_all] at this
  exact this
theorem cnt_ahd {κ : Nat → Int} {S : Nat → Bool} (hi : ∀ a b, a < 12 → b < 12 → κ a = κ b → a = b) : ∀ j, cntP (fun o => S o && decide (ahd κ S o < j)) 12 ≤ j
  | 0 => by
    have : cntP (fun o => S o && decide (ahd κ S o < 0)) 12 = cntP (fun _ => false) 12 := cntP_congr (fun i _ => by simp)
    rw [this]; decide
  | j + 1 => by
    have ih := cnt_ahd (κ := κ) (S := S) hi j
    have := cntP_one (p := fun o => S o && decide (ahd κ S o < j + 1)) (q := fun o => S o && decide (ahd κ S o < j)) (n := 12) (fun a b ha hb h1 h2 h3 h4 => by
      have g1 : S a = true ∧ ahd κ S a < j + 1 := by simpa using h1
      have g3 : S b = true ∧ ahd κ S b < j + 1 := by simpa using h3
      have g2 : ¬ ahd κ S a < j := fun z => by simp [g1.1, z] at h2
      have g4 : ¬ ahd κ S b < j := fun z => by simp [g3.1, z] at h4
      exact ahd_inj hi ha hb g1.1 g3.1 (by omega))
    omega
theorem ahd_min {κ : Nat → Int} {S : Nat → Bool} (hi : ∀ a b, a < 12 → b < 12 → κ a = κ b → a = b) {j m : Nat} (hj : j ≤ ahd κ S m) (hmin : ∀ y, y < 12 → S y = true → j ≤ ahd κ S y → κ m ≤ κ y) : ahd κ S m = j := by
  have h1 : ahd κ S m ≤ cntP (fun o => S o && decide (ahd κ S o < j)) 12 := cntP_mono (fun i hi' h => by
    have g : S i = true ∧ κ i < κ m := by simpa using h
    have : ahd κ S i < j := by
      by_cases z : j ≤ ahd κ S i
      · have := hmin i hi' g.1 z; omega
      · omega
    simp [g.1, this])
  have := cnt_ahd (κ := κ) (S := S) hi j
  omega
/-! keys -/
def rkey (a : TS) (V : Nat → Int64) (y : Nat) : Int := 16 * (if a.pick = 0 then -(V y).toInt else if a.pick = 1 then -(y : Int) else if a.pick = 2 then (a.fr (a.rg y 0) : Int) else 0) + y
theorem rkey_inj {a : TS} {V : Nat → Int64} : ∀ x y, x < 12 → y < 12 → rkey a V x = rkey a V y → x = y := by
  intro x y hx hy h
  unfold rkey at h
  omega
/-- years that are set off, and no gaps -/
def hsB (a : TS) (off : Int32) (y : Nat) : Bool := decide (y < 12) && hasB a off y
theorem hsB_eq {a : TS} {off : Int32} {y : Nat} (hy : y < 12) : hsB a off y = hasB a off y := by unfold hsB; simp [hy]
theorem hsB_lt {a : TS} {off : Int32} {y : Nat} (h : hsB a off y = true) : y < 12 := by
  unfold hsB at h
  simp at h
  exact h.1
theorem hasB_n {a : TS} {off : Int32} {y : Nat} (h : hasB a off y = true) : 0 < a.n y := by
  unfold hasB at h
  simp at h
  omega
theorem m_rankOf {w t : tt_St} {a : TS} (M : MS t a) (O : a.Ok) {h f y : Nat} (R : RF w t a h f) (hh : h < 25) (hy : y < 12) (hn : 0 < a.n y) : ∃ r, fM_rankOf t (nI h) (nI y) = some r ∧ r.toInt = if a.pick = 0 then -(room w a h f y).toInt else if a.pick = 2 then (a.fr (a.rg y 0) : Int) else if a.pick = 1 then -(y : Int) else y := by
  have hp := O.pick3
  have h40 := O.rg40 y 0 hy hn
  have hT := O.rgT y 0 hy hn
  have hf9 := O.fr9 _ h40 hT
  unfold fM_rankOf
  rw [M.pick]
  by_cases p0 : a.pick = 0
  · rw [if_pos (by rw [p0]; rfl), m_roomOf M O R hh hy, if_pos p0]
    have := room_bd (y := y) O R hy
    exact ⟨_, rfl, i64_neg (by omega)⟩
  · rw [if_neg (nI_ne0 (by omega) (by omega)), if_neg p0]
    by_cases p2 : a.pick = 2
    · rw [if_pos (by rw [p2]; rfl), if_pos p2, L0, m_rungOf M O hy hn]
      simp only [Option.bind_some]
      rw [inB_nI h40 (by omega), if_pos rfl, nI_clamp (by omega), M.fr _ h40 hT]
      exact ⟨_, rfl, nI64 (by omega)⟩
    · rw [if_neg (by rw [L2, nI_eq (by omega) (by omega)]; exact p2), if_neg p2]
      by_cases p1 : a.pick = 1
      · rw [if_pos (by rw [p1]; rfl), if_pos p1]
        exact ⟨_, rfl, by rw [i64_of32, i32_neg (by rw [nI_toInt (by omega)]; omega), nI_toInt (by omega)]⟩
      · rw [if_neg (by rw [L1, nI_eq (by omega) (by omega)]; exact p1), if_neg p1]
        exact ⟨_, rfl, nI64 (by omega)⟩
theorem m_ahead {w t : tt_St} {a : TS} (M : MS t a) (O : a.Ok) {h f fi la sh : Nat} (R : RF w t a h f) (hh : h < 25) (H : HY w t h fi la sh) {off : Int32} (ho : offv fi la sh a.trig = off) {y : Nat} (hy : y < 12) (hny : 0 < a.n y) : itr (fM_picked_L34 t (nI h) (nI y)) tt_fuel ((0 : Int32), (0 : Int32)) = some (nI (ahd (rkey a (room w a h f)) (hsB a off) y), nI 12) := by
  have hp := O.pick3
  obtain ⟨ry, hy1, hy2⟩ := m_rankOf M O R hh hy hny
  refine itr_run (fun i => (nI (cntP (fun o => hsB a off o && decide (rkey a (room w a h f) o < rkey a (room w a h f) y)) i), nI i)) 12 _ (by omega) (fun i hi => ?_) ?_
  · generalize hpd : (fun o => hsB a off o && decide (rkey a (room w a h f) o < rkey a (room w a h f) y)) = p
    have pv : p i = (hsB a off i && decide (rkey a (room w a h f) i < rkey a (room w a h f) y)) := by rw [← hpd]
    rw [hsB_eq hi] at pv
    have no : p i = false → (some (.inl (nI (cntP p i), nI i + 1)) : Option ((Int32 × Int32) ⊕ (Int32 × Int32))) = some (.inl (nI (cntP p (i + 1)), nI (i + 1))) := by
      intro z
      rw [cntP_s, z, nI_1]; rfl
    unfold fM_picked_L34
    dsimp only [nm]
    rw [L12, if_neg (nI_ge hi (by omega))]
    by_cases e : i = y
    · rw [if_pos (by rw [e])]
      exact no (by rw [pv, e]; simp)
    · rw [if_neg (by rw [nI_eq (by omega) (by omega)]; exact e), m_isOff M O H hh i, ho, m_isGap M O hi]
      simp only [Option.bind_some]
      cases hb : bitB off i with
      | false =>
        rw [if_pos (show b2i false = 0 by decide)]
        exact no (by rw [pv]; unfold hasB; rw [hb]; rfl)
      | true =>
        rw [if_neg (show ¬ b2i true = 0 by decide)]
        by_cases hg : a.n i = 0
        · rw [if_pos hg, if_neg (show ¬ (1 : Int32) = 0 by decide)]
          exact no (by rw [pv]; unfold hasB; simp [hg])
        · have hS : hasB a off i = true := by unfold hasB; simp [hb, hg]
          rw [hS, Bool.true_and] at pv
          obtain ⟨ri, i1, i2⟩ := m_rankOf M O R hh hi (by omega)
          rw [if_neg hg, if_pos (show (0 : Int32) = 0 from rfl), i1, hy1]
          simp only [Option.bind_some]
          have yes : p i = true → (some (.inl (nI (cntP p i) + 1, nI i + 1)) : Option ((Int32 × Int32) ⊕ (Int32 × Int32))) = some (.inl (nI (cntP p (i + 1)), nI (i + 1))) := by
            intro z
            rw [cntP_s, z, nI_1, nI_1]; rfl
          have no0 : p i = false → (some (.inl (nI (cntP p i) + 0, nI i + 1)) : Option ((Int32 × Int32) ⊕ (Int32 × Int32))) = some (.inl (nI (cntP p (i + 1)), nI (i + 1))) := by
            intro z
            rw [Int32.add_zero]; exact no z
          have kv : rkey a (room w a h f) i < rkey a (room w a h f) y ↔ (ri.toInt < ry.toInt ∨ ri.toInt = ry.toInt ∧ i < y) := by
            rw [i2, hy2]
            unfold rkey
            repeat' split
            all_goals omega
          by_cases c1 : ri < ry
          · rw [if_pos c1]
            exact yes (by rw [pv]; exact decide_eq_true (kv.mpr (Or.inl (i64_lt.mp c1))))
          · rw [if_neg c1]
            have c1' := mt i64_lt.mpr c1
            by_cases c2 : ri = ry
            · rw [if_pos c2]
              by_cases c3 : y ≤ i
              · rw [if_pos (nI_le c3 (by omega))]
                exact no0 (by rw [pv]; exact decide_eq_false (fun z => by rcases kv.mp z with z | z <;> omega))
              · rw [if_neg (nI_ge (by omega) (by omega))]
                exact yes (by rw [pv]; exact decide_eq_true (kv.mpr (Or.inr ⟨by rw [c2], by omega⟩)))
            · rw [if_neg c2]
              have : ¬ ri.toInt = ry.toInt := fun z => c2 (i64_ext z)
              exact no0 (by rw [pv]; exact decide_eq_false (fun z => by rcases kv.mp z with z | z <;> omega))
  · unfold fM_picked_L34
    rw [L12, if_pos (nI_le (Nat.le_refl _) (by omega))]
    rfl
/-- what the k-th year by the pick may be -/
def PK (κ : Nat → Int) (S : Nat → Bool) (j : Nat) (r : Int32) : Prop := (∃ m, m < 12 ∧ S m = true ∧ ahd κ S m = j ∧ r = nI m) ∨ ((∀ y, y < 12 → S y = true → ¬ ahd κ S y = j) ∧ r = -1)
theorem m_picked {w t : tt_St} {a : TS} (M : MS t a) (O : a.Ok) {h f fi la sh : Nat} (R : RF w t a h f) (hh : h < 25) (H : HY w t h fi la sh) {off : Int32} (ho : offv fi la sh a.trig = off) {j : Nat} (hj : j < 2 ^ 31) : ∃ r, fM_picked t (nI h) (nI j) = some r ∧ PK (rkey a (room w a h f)) (hsB a off) j r := by
  generalize hκ : rkey a (room w a h f) = κ
  have hk_ := itr_brk (body := fM_picked_L2 t (nI h) (nI j)) (fun i (_ : Unit) => nI i) (fun i _ => ∀ y, y < i → hsB a off y = true → ¬ ahd κ (hsB a off) y = j) (fun b => (∃ m, m < 12 ∧ hsB a off m = true ∧ ahd κ (hsB a off) m = j ∧ b = .inr (nI m)) ∨ ((∀ y, y < 12 → hsB a off y = true → ¬ ahd κ (hsB a off) y = j) ∧ ∃ x, b = .inl x)) 12 () (by omega) (fun y hy => by omega) (fun i _ hi hI => ?_) (fun _ hI => ?_)
  · obtain ⟨b, hb, hR⟩ := hk_
    unfold fM_picked
    rw [L0, hb]
    rcases hR with ⟨m, g1, g2, g3, rfl⟩ | ⟨g, x, rfl⟩
    · exact ⟨_, rfl, Or.inl ⟨m, g1, g2, g3, rfl⟩⟩
    · exact ⟨_, rfl, Or.inr ⟨g, rfl⟩⟩
  · have nx : (hsB a off i = true → ¬ ahd κ (hsB a off) i = j) → ∃ c' : Unit, (some (.inl (nI i + 1)) : Option (Int32 ⊕ Int32 ⊕ Int32)) = some (.inl (nI (i + 1))) ∧ ∀ y, y < i + 1 → hsB a off y = true → ¬ ahd κ (hsB a off) y = j := by
      intro z
      refine ⟨(), by rw [nI_1], fun y hy => ?_⟩
      by_cases e : y = i
      · rw [e]; exact z
      · exact hI y (by omega)
    unfold fM_picked_L2
    rw [L12, if_neg (nI_ge hi (by omega)), m_isOff M O H hh i, ho, m_isGap M O hi]
    simp only [Option.bind_some]
    cases hb : bitB off i with
    | false =>
      rw [if_pos (show b2i false = 0 by decide)]
      exact Or.inl (nx (fun z => by rw [hsB_eq hi] at z; unfold hasB at z; rw [hb] at z; cases z))
    | true =>
      rw [if_neg (show ¬ b2i true = 0 by decide)]
      by_cases hg : a.n i = 0
      · rw [if_pos hg, if_neg (show ¬ (1 : Int32) = 0 by decide)]
        exact Or.inl (nx (fun z => by rw [hsB_eq hi] at z; have := hasB_n z; omega))
      · have hS : hsB a off i = true := by rw [hsB_eq hi]; unfold hasB; simp [hb, hg]
        have hbd := ahd_bd (κ := κ) (S := hsB a off) hi
        rw [if_neg hg, if_pos (show (0 : Int32) = 0 from rfl), m_ahead M O R hh H ho hi (by omega), hκ]
        simp only [Option.bind_some]
        by_cases c : ahd κ (hsB a off) i = j
        · rw [if_pos (by rw [c])]
          exact Or.inr ⟨_, rfl, Or.inl ⟨i, hi, hS, c, rfl⟩⟩
        · rw [if_neg (by rw [nI_eq (by omega) (by omega)]; exact c)]
          exact Or.inl (nx (fun _ => c))
  · refine ⟨.inl (nI 12), ?_, Or.inr ⟨hI, _, rfl⟩⟩
    unfold fM_picked_L2
    rw [L12, if_pos (nI_le (Nat.le_refl _) (by omega))]
/-- only ints of a kind were written -/
def FrI (k : Nat) (w w' : tt_St) : Prop :=
  (∀ a b c, ¬ a = k → rdI w' a b c = rdI w a b c) ∧
  (∀ a b c, rdL w' a b c = rdL w a b c)
theorem FrI.i {k : Nat} {w w' : tt_St} (self_ : FrI k w w') : ∀ a b c, ¬ a = k → rdI w' a b c = rdI w a b c := self_.1
theorem FrI.l {k : Nat} {w w' : tt_St} (self_ : FrI k w w') : ∀ a b c, rdL w' a b c = rdL w a b c := self_.2
theorem FrI.refl {k : Nat} (w : tt_St) : FrI k w w := ⟨fun _ _ _ _ => rfl, fun _ _ _ => rfl⟩
theorem FrI.trans {k : Nat} {u v w : tt_St} (h1 : FrI k u v) (h2 : FrI k v w) : FrI k u w := ⟨fun a b c h => (h2.i a b c h).trans (h1.i a b c h), fun a b c => (h2.l a b c).trans (h1.l a b c)⟩
theorem FrI.w {k i j : Nat} (w : tt_St) (x : Int32) : FrI k w (wrI w k i j x) := ⟨fun a b c h => by rw [rdI_wrI, if_neg (fun q => h q.1)], fun _ _ _ => rfl⟩
theorem FrI.gM {h : Nat} {u v : tt_St} (F : FrI 41 u v) : GM h u v := ⟨fun k i j h => F.i k i j h, fun k i j _ _ => F.l k i j⟩
theorem HY.gM {w t t' : tt_St} {h f l s y : Nat} (e2 : GM y t t') (H : HY w t h f l s) : HY w t' h f l s := H.g (GC.refl (f := 0) w) e2
theorem HY.gC {w w' t : tt_St} {h f l s y : Nat} (e1 : GC y w w') (H : HY w t h f l s) : HY w' t h f l s := H.g e1 (GM.refl (f := 0) t)
/-- the model lays years in order -/
theorem m_order {w t : tt_St} {a : TS} (M : MS t a) (O : a.Ok) {h f fi la sh : Nat} (R : RF w t a h f) (hh : h < 25) (H : HY w t h fi la sh) {off : Int32} (ho : offv fi la sh a.trig = off) :
    ∃ (r1 : Int32) (N : Nat) (ord : Nat → Nat) (t' : tt_St), fM_picked t (nI h) 0 = some r1 ∧ itr (fM_byFull_L11 (nI h)) tt_fuel ((0 : Int32), r1, t) = some (nI N, -1, t') ∧ N ≤ 12 ∧ FrI 41 t t' ∧ (∀ k, k < N → ord k < 12 ∧ hsB a off (ord k) = true ∧ ahd (rkey a (room w a h f)) (hsB a off) (ord k) = k ∧ rdI t' 41 0 k = nI (ord k)) ∧ (∀ y, y < 12 → hsB a off y = true → ¬ ahd (rkey a (room w a h f)) (hsB a off) y = N) := by
  obtain ⟨r1, h1, h2⟩ := m_picked M O R hh H ho (j := 0) (by omega)
  generalize hκ : rkey a (room w a h f) = κ at h2 ⊢
  have hk := itr_brk (body := fM_byFull_L11 (nI h)) (fun i (c : Int32 × tt_St) => (nI i, c.1, c.2)) (fun i c => FrI 41 t c.2 ∧ PK κ (hsB a off) i c.1 ∧ ∃ ord : Nat → Nat, ∀ k, k < i → ord k < 12 ∧ hsB a off (ord k) = true ∧ ahd κ (hsB a off) (ord k) = k ∧ rdI c.2 41 0 k = nI (ord k)) (fun b => ∃ N u, b = (nI N, -1, u) ∧ N ≤ 12 ∧ FrI 41 t u ∧ (∃ ord : Nat → Nat, ∀ k, k < N → ord k < 12 ∧ hsB a off (ord k) = true ∧ ahd κ (hsB a off) (ord k) = k ∧ rdI u 41 0 k = nI (ord k)) ∧ (∀ y, y < 12 → hsB a off y = true → ¬ ahd κ (hsB a off) y = N)) 12 (r1, t) (by omega) ⟨FrI.refl _, h2, fun _ => 0, fun k hk => by omega⟩ (fun i c hi hI => ?_) (fun c hI => ?_)
  · obtain ⟨b, b1, N, u, rfl, g1, g2, ⟨ord, g3⟩, g4⟩ := hk
    exact ⟨r1, N, ord, u, h1, b1, g1, g2, g3, g4⟩
  · obtain ⟨r, u⟩ := c
    obtain ⟨F, P, ord, hord⟩ := hI
    dsimp only at F P hord ⊢
    unfold fM_byFull_L11
    dsimp only [nm]
    rcases P with ⟨m, m1, m2, m3, rfl⟩ | ⟨P, rfl⟩
    · left
      rw [if_neg (fun z => by have := congrArg Int32.toInt z; rw [nI_toInt (by omega), i32_m1] at this; omega), inB_nI hi (by omega), if_pos rfl, nI_clamp (by omega)]
      have F2 : FrI 41 t (wrI u 41 0 i (nI m)) := F.trans (FrI.w _ _)
      have R2 : RF w (wrI u 41 0 i (nI m)) a h f := R.ext (fun _ _ _ _ => rfl) (fun k i j _ => F2.l k i j)
      obtain ⟨r2, e1, e2⟩ := m_picked (M.g (F2.gM (h := 0))) O R2 hh (H.gM (F2.gM (h := 0))) ho (j := i + 1) (by omega)
      rw [nI_1, e1]
      simp only [Option.bind_some]
      refine ⟨(r2, wrI u 41 0 i (nI m)), rfl, F2, by rw [← hκ]; exact e2, updN ord i m, fun k hk => ?_⟩
      by_cases e : k = i
      · subst e
        rw [updN_eq, rdI_wrI, if_pos ⟨rfl, rfl, rfl⟩]
        exact ⟨m1, m2, m3, rfl⟩
      · rw [updN_ne e, rdI_wrI, if_neg (fun z => e z.2.2)]
        exact hord k (by omega)
    · right
      rw [if_pos rfl]
      exact ⟨_, rfl, i, u, rfl, by omega, F, ⟨ord, hord⟩, P⟩
  · obtain ⟨r, u⟩ := c
    obtain ⟨F, P, ord, hord⟩ := hI
    dsimp only at F P hord ⊢
    rcases P with ⟨m, m1, m2, m3, rfl⟩ | ⟨P, rfl⟩
    · have := ahd_bd (κ := κ) (S := hsB a off) m1; omega
    · unfold fM_byFull_L11
      dsimp only
      rw [if_pos rfl]
      exact ⟨_, rfl, 12, u, rfl, by omega, F, ⟨ord, hord⟩, P⟩
/-- what lines wrote -/
def FL (w w' : tt_St) : Prop :=
  (∀ k i j, k < 32 → rdI w' k i j = rdI w k i j) ∧
  (∀ k i j, ¬ k = 32 → rdL w' k i j = rdL w k i j)
theorem FL.i {w w' : tt_St} (self_ : FL w w') : ∀ k i j, k < 32 → rdI w' k i j = rdI w k i j := self_.1
theorem FL.l {w w' : tt_St} (self_ : FL w w') : ∀ k i j, ¬ k = 32 → rdL w' k i j = rdL w k i j := self_.2
theorem FL.refl (w : tt_St) : FL w w := ⟨fun _ _ _ _ => rfl, fun _ _ _ _ => rfl⟩
theorem FL.trans {u v w : tt_St} (h1 : FL u v) (h2 : FL v w) : FL u w := ⟨fun k i j h => (h2.i k i j h).trans (h1.i k i j h), fun k i j h => (h2.l k i j h).trans (h1.l k i j h)⟩
theorem FQ.fl {w w' : tt_St} (h : FQ w w') : FL w w' := ⟨fun k i j hk => h.i k i j (by omega), fun k i j _ => h.l k i j⟩
theorem FL.gC {f : Nat} {w w' : tt_St} (h : FL w w') (q : (∃ n, QW w n) → ∃ n, QW w' n) : GC f w w' := ⟨q, fun k i j hk => h.i k i j hk, fun k i j _ h2 => h.l k i j (by omega)⟩
theorem FL.wi {k i j : Nat} (w : tt_St) (x : Int32) (hk : 32 ≤ k) : FL w (wrI w k i j x) := ⟨fun a b c h => by rw [rdI_wrI, if_neg (by omega)], fun _ _ _ _ => rfl⟩
theorem FL.wl {i j : Nat} (w : tt_St) (x : Int64) : FL w (wrL w 32 i j x) := ⟨fun _ _ _ _ => rfl, fun a b c h => by rw [rdL_wrL, if_neg (fun z => h z.1)]⟩
theorem CS.fi {w w' : tt_St} {a : TS} (C : CS w a) (e : ∀ k i j, k < 32 → rdI w' k i j = rdI w k i j) : CS w' a := by
  unfold CS at C ⊢
  simp only [e 0 _ _ (by omega), e 2 _ _ (by omega), e 3 _ _ (by omega), e 4 _ _ (by omega), e 22 _ _ (by omega), e 23 _ _ (by omega), e 24 _ _ (by omega)]
  exact C
theorem HY.fi {w w' t : tt_St} {h f l s : Nat} (H : HY w t h f l s) (e : ∀ k i j, k < 32 → rdI w' k i j = rdI w k i j) : HY w' t h f l s := by
  unfold HY at H ⊢
  simp only [e 7 _ _ (by omega)]
  exact H
theorem ky_ext2 {w w' : tt_St} {a : Nat} (h1 : rdI w' 33 0 0 = rdI w 33 0 0) (h2 : rdI w' 32 a 2 = rdI w 32 a 2) (h3 : rdL w' 32 a 1 = rdL w 32 a 1) : ky w' a = ky w a := by
  unfold ky
  rw [h1, h2, h3]
theorem ky_eq {w : tt_St} {a : TS} (O : a.Ok) {V : Nat → Int64} {y : Nat} (hp : rdI w 33 0 0 = nI a.pick) (h1 : rdL w 32 y 1 = V y) (h2 : rdI w 32 y 2 = nI (a.fr (a.rg y 0))) (hf : a.fr (a.rg y 0) < 2 ^ 31) : ky w y = rkey a V y := by
  have h3 := O.pick3
  unfold ky rkey
  rw [hp, h1, h2, nI_toInt hf]
  by_cases p0 : a.pick = 0
  · rw [if_pos (by rw [p0]; rfl), if_pos p0]
  · rw [if_neg (nI_ne0 (by omega) (by omega)), if_neg p0]
    by_cases p1 : a.pick = 1
    · rw [if_pos (by rw [p1]; rfl), if_pos p1]
    · rw [if_neg (by rw [L1, nI_eq (by omega) (by omega)]; exact p1), if_neg p1]
      by_cases p2 : a.pick = 2
      · rw [if_pos (by rw [p2]; rfl), if_pos p2]
      · rw [if_neg (by rw [L2, nI_eq (by omega) (by omega)]; exact p2), if_neg p2]
theorem c_lines {w t : tt_St} {a : TS} (C : CS w a) (O : a.Ok) {h f fi la sh n0 : Nat} (H : HY w t h fi la sh) {off : Int32} (ho : offv fi la sh a.trig = off) (Q0 : QW w n0) :
    ∃ w' q n, fW_lines w h f = some w' ∧ QH w' q n (hsB a off) ∧ FL w w' ∧ ∀ y, y < 12 → hasB a off y = true → ky w' y = rkey a (room w a h f) y := by
  obtain ⟨w1, c1, c2, c3⟩ := q_clear Q0 (fun _ => 0)
  generalize hw2 : wrI w1 33 0 0 (rdI w1 0 0 20) = w2
  have F2 : FL w w2 := c3.fl.trans (hw2 ▸ FL.wi w1 _ (by omega))
  have hk := itr_inv (body := fW_lines_L20 h f) (fun i u => (nI i, u)) (fun i u => FL w u ∧ rdI u 33 0 0 = nI a.pick ∧ (∃ q n, n ≤ i ∧ QH u q n (fun y => decide (y < i) && hasB a off y)) ∧ ∀ y, y < i → hasB a off y = true → rdL u 32 y 1 = room w a h f y ∧ rdI u 32 y 2 = nI (a.fr (a.rg y 0))) (fun b => ∃ u, b = (nI 12, u) ∧ FL w u ∧ rdI u 33 0 0 = nI a.pick ∧ (∃ q n, n ≤ 12 ∧ QH u q n (fun y => decide (y < 12) && hasB a off y)) ∧ ∀ y, y < 12 → hasB a off y = true → rdL u 32 y 1 = room w a h f y ∧ rdI u 32 y 2 = nI (a.fr (a.rg y 0))) 12 w2 (by omega) ⟨F2, ?_, ⟨_, 0, Nat.le_refl _, (c2.congr (fun y => by simp)).ext ?_ ?_ ?_⟩, fun y hy => by omega⟩ (fun i u hi hI => ?_) (fun u hI => ?_)
  · obtain ⟨b, b1, u, rfl, g1, g2, ⟨q, n, g3, g4⟩, g5⟩ := hk
    refine ⟨u, q, n, ?_, g4, g1, fun y hy hb => ?_⟩
    · unfold fW_lines
      rw [c1]
      simp only [Option.bind_some, nm]
      rw [hw2, L0, b1]
      rfl
    · obtain ⟨e1, e2⟩ := g5 y hy hb
      have hn := hasB_n hb
      have := O.fr9 _ (O.rg40 y 0 hy hn) (O.rgT y 0 hy hn)
      exact ky_eq O g2 e1 e2 (by omega)
  · rw [← hw2, rdI_wrI, if_pos ⟨rfl, rfl, rfl⟩, c3.i 0 0 20 (by omega), C.pick]
  · rw [← hw2, rdI_wrI, if_neg (by omega)]
  · intro i; rw [← hw2]; rfl
  · intro y hy; simp at hy
  · obtain ⟨F, gp, ⟨q, n, gn, gq⟩, gk⟩ := hI
    have Cu := C.fi F.i
    have Hu := H.fi F.i
    unfold fW_lines_L20
    dsimp only
    rw [L12, if_neg (nI_ge hi (by omega)), c_hasTower Cu O Hu hi, ho]
    simp only [Option.bind_some]
    cases hb : hasB a off i with
    | false =>
      rw [if_pos (show b2i false = 0 by decide), nI_1]
      refine ⟨u, rfl, F, gp, ⟨q, n, by omega, gq.congr (fun y => ?_)⟩, fun y hy hy2 => ?_⟩
      · by_cases e : y = i
        · rw [e, hb]; simp
        · have : (decide (y < i + 1)) = decide (y < i) := by
            by_cases z : y < i
            · simp [z]; omega
            · simp [z]; omega
          rw [this]
      · by_cases e : y = i
        · rw [e, hb] at hy2; cases hy2
        · exact gk y (by omega) hy2
    | true =>
      have hn := hasB_n hb
      have h40 := O.rg40 i 0 hi hn
      have hT := O.rgT i 0 hi hn
      have hroom : room u a h f i = room w a h f i := room_ext (fun k i j hk => F.l k i j (by omega))
      rw [if_neg (show ¬ b2i true = 0 by decide), inB_nI hi (by omega), if_pos rfl, c_roomOf Cu O hi, hroom]
      simp only [Option.bind_some, nm]
      rw [nI_clamp (by omega)]
      generalize hu1 : wrL u 32 i 1 (room w a h f i) = u1
      have F1 : FL u u1 := hu1 ▸ FL.wl u _
      have C1 := Cu.fi F1.i
      rw [L0, c_layerAt C1 O hi hn]
      simp only [Option.bind_some]
      rw [C1.fr _ h40 hT]
      generalize hu2 : wrI u1 32 i 2 (nI (a.fr (a.rg i 0))) = u2
      have F12 : FL u u2 := F1.trans (hu2 ▸ FL.wi u1 _ (by omega))
      have rI : ∀ k x j, ¬ (k = 32 ∧ x = i) → rdI u2 k x j = rdI u k x j := fun k x j z => by
        rw [← hu2, rdI_wrI, if_neg (fun q => z ⟨q.1, q.2.1⟩), ← hu1]; rfl
      have rL : ∀ k x j, ¬ (k = 32 ∧ x = i) → rdL u2 k x j = rdL u k x j := fun k x j z => by
        rw [← hu2, rdL_wrI, ← hu1, rdL_wrL, if_neg (fun q => z ⟨q.1, q.2.1⟩)]
      have Q2 : QH u2 q n (fun y => decide (y < i) && hasB a off y) := gq.ext (rI 34 0 1 (by omega)) (fun x => by rw [← hu2, ← hu1]; rfl) (fun y hy => by
        have : y < i := by simp at hy; exact hy.1
        unfold ky
        rw [rI 33 0 0 (by omega), rI 32 y 2 (by omega), rL 32 y 1 (by omega)])
      obtain ⟨w', q', a1, a2, a3⟩ := q_add Q2 hi (by simp) (by omega)
      rw [a1]
      simp only [Option.bind_some]
      rw [nI_1]
      refine ⟨w', rfl, (F.trans F12).trans a3.fl, ?_, ⟨q', n + 1, by omega, a2.congr (fun y => ?_)⟩, fun y hy hy2 => ?_⟩
      · rw [a3.i 33 0 0 (by omega), rI 33 0 0 (by omega)]; exact gp
      · by_cases e : y = i
        · rw [e, hb]; simp
        · have : (decide (y < i + 1)) = decide (y < i) := by
            by_cases z : y < i
            · simp [z]; omega
            · simp [z]; omega
          rw [this]; simp [e]
      · rw [a3.i 32 y 2 (by omega), a3.l]
        by_cases e : y = i
        · subst e
          refine ⟨?_, ?_⟩
          · rw [← hu2, rdL_wrI, ← hu1, rdL_wrL, if_pos ⟨rfl, rfl, rfl⟩]
          · rw [← hu2, rdI_wrI, if_pos ⟨rfl, rfl, rfl⟩]
        · rw [rI 32 y 2 (by omega), rL 32 y 1 (by omega)]
          exact gk y (by omega) hy2
  · refine ⟨_, ?_, u, rfl, hI⟩
    unfold fW_lines_L20
    rw [L12, if_pos (nI_le (Nat.le_refl _) (by omega))]
