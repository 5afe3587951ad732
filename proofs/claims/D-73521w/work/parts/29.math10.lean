set_option linter.unusedVariables false
set_option linter.unusedSimpArgs false
set_option maxRecDepth 100000
/-! PLAIN LAW: the queue of towers -/
theorem i32_lt {a b : Int32} : a < b ↔ a.toInt < b.toInt := Int32.lt_iff_toInt_lt
theorem i32_le {a b : Int32} : a ≤ b ↔ a.toInt ≤ b.toInt := Int32.le_iff_toInt_le
theorem i32_ext {a b : Int32} (h : a.toInt = b.toInt) : a = b := Int32.toInt_inj.mp h
theorem i32_0 : (0 : Int32).toInt = 0 := rfl
theorem i32_1 : (1 : Int32).toInt = 1 := rfl
theorem i32_m1 : (-1 : Int32).toInt = -1 := rfl
/-! rows of numbers -/
def updN (q : Nat → Nat) (k x : Nat) : Nat → Nat := fun i => if i = k then x else q i
theorem updN_eq {q : Nat → Nat} {k x : Nat} : updN q k x k = x := if_pos rfl
theorem updN_ne {q : Nat → Nat} {k x i : Nat} (h : ¬ i = k) : updN q k x i = q i := if_neg h
/-- in a row of n these stand, each once -/
def EN (q : Nat → Nat) (n : Nat) (S : Nat → Bool) : Prop :=
  (∀ i, i < n → S (q i) = true) ∧
  (∀ i j, i < n → j < n → q i = q j → i = j) ∧
  (∀ y, S y = true → ∃ i, i < n ∧ q i = y)
theorem EN.inS {q : Nat → Nat} {n : Nat} {S : Nat → Bool} (self_ : EN q n S) : ∀ i, i < n → S (q i) = true := self_.1
theorem EN.inj {q : Nat → Nat} {n : Nat} {S : Nat → Bool} (self_ : EN q n S) : ∀ i j, i < n → j < n → q i = q j → i = j := self_.2.1
theorem EN.sur {q : Nat → Nat} {n : Nat} {S : Nat → Bool} (self_ : EN q n S) : ∀ y, S y = true → ∃ i, i < n ∧ q i = y := self_.2.2
theorem EN.swap {q : Nat → Nat} {n : Nat} {S : Nat → Bool} (E : EN q n S) {i j : Nat} (hi : i < n) (hj : j < n) : EN (updN (updN q i (q j)) j (q i)) n S := by
  have e : ∀ m, updN (updN q i (q j)) j (q i) m = q (if m = j then i else if m = i then j else m) := by
    intro m
    unfold updN
    by_cases h1 : m = j
    · rw [if_pos h1, if_pos h1]
    · rw [if_neg h1, if_neg h1]
      by_cases h2 : m = i
      · rw [if_pos h2, if_pos h2]
      · rw [if_neg h2, if_neg h2]
  have lt : ∀ m, m < n → (if m = j then i else if m = i then j else m) < n := by
    intro m hm
    split
    · exact hi
    · split
      · exact hj
      · exact hm
  refine ⟨fun m hm => ?_, fun a b ha hb h => ?_, fun y hy => ?_⟩
  · rw [e]; exact E.inS _ (lt m hm)
  · rw [e, e] at h
    have := E.inj _ _ (lt a ha) (lt b hb) h
    revert this
    repeat' split
    all_goals omega
  · obtain ⟨m, hm, hq⟩ := E.sur y hy
    refine ⟨if m = j then i else if m = i then j else m, lt m hm, ?_⟩
    rw [e, ← hq]
    congr 1
    repeat' split
    all_goals omega
theorem EN.congr {q q' : Nat → Nat} {n : Nat} {S : Nat → Bool} (E : EN q n S) (h : ∀ i, i < n → q' i = q i) : EN q' n S :=
  ⟨fun i hi => by rw [h i hi]; exact E.inS i hi, fun i j hi hj e => E.inj i j hi hj (by rw [← h i hi, ← h j hj]; exact e), fun y hy => by
    obtain ⟨i, hi, hq⟩ := E.sur y hy
    exact ⟨i, hi, by rw [h i hi]; exact hq⟩⟩
theorem EN.push {q : Nat → Nat} {n : Nat} {S : Nat → Bool} (E : EN q n S) {x : Nat} (hx : S x = false) : EN (updN q n x) (n + 1) (fun y => S y || decide (y = x)) := by
  refine ⟨fun i hi => ?_, fun i j hi hj e => ?_, fun y hy => ?_⟩
  · by_cases h : i = n
    · subst h; rw [updN_eq]; simp
    · rw [updN_ne h]; show (S (q i) || decide (q i = x)) = true; rw [E.inS i (by omega)]; rfl
  · by_cases h : i = n
    · subst h
      rw [updN_eq] at e
      by_cases h2 : j = i
      · exact h2.symm
      · rw [updN_ne h2] at e
        have := E.inS j (by omega)
        rw [← e, hx] at this
        cases this
    · rw [updN_ne h] at e
      by_cases h2 : j = n
      · subst h2
        rw [updN_eq] at e
        have := E.inS i (by omega)
        rw [e, hx] at this
        cases this
      · rw [updN_ne h2] at e
        exact E.inj i j (by omega) (by omega) e
  · by_cases h : S y = true
    · obtain ⟨i, hi, hq⟩ := E.sur y h
      exact ⟨i, by omega, by rw [updN_ne (by omega)]; exact hq⟩
    · have : y = x := by
        have h2 : S y = false := by simpa using h
        have hy' : (S y || decide (y = x)) = true := hy
        rw [h2] at hy'
        simpa using hy'
      exact ⟨n, by omega, by rw [updN_eq]; exact this.symm⟩
theorem EN.pop {q : Nat → Nat} {n : Nat} {S : Nat → Bool} (E : EN q (n + 1) S) : EN (updN q 0 (q n)) n (fun y => S y && !decide (y = q 0)) := by
  refine ⟨fun i hi => ?_, fun i j hi hj e => ?_, fun y hy => ?_⟩
  · have key : ∀ m, m < n + 1 → ¬ m = 0 → (S (q m) && !decide (q m = q 0)) = true := by
      intro m hm h0
      have h1 : ¬ q m = q 0 := fun z => h0 (E.inj m 0 hm (by omega) z)
      simp [h1, E.inS m hm]
    by_cases h : i = 0
    · subst h; rw [updN_eq]; exact key n (by omega) (by omega)
    · rw [updN_ne h]; exact key i (by omega) h
  · have g : ∀ m, updN q 0 (q n) m = q (if m = 0 then n else m) := by
      intro m
      unfold updN
      split <;> rfl
    rw [g, g] at e
    have := E.inj _ _ (by split <;> omega) (by split <;> omega) e
    revert this
    repeat' split
    all_goals omega
  · have h1 : S y = true ∧ ¬ y = q 0 := by simpa using hy
    obtain ⟨i, hi, hq⟩ := E.sur y h1.1
    have h0 : ¬ i = 0 := fun z => h1.2 (by rw [← hq, z])
    by_cases h : i = n
    · exact ⟨0, by omega, by rw [updN_eq, ← h]; exact hq⟩
    · exact ⟨i, by omega, by rw [updN_ne h0]; exact hq⟩
/-! who goes first -/
def ky (w : tt_St) (a : Nat) : Int := 16 * (if rdI w 33 0 0 = 0 then -(rdL w 32 a 1).toInt else if rdI w 33 0 0 = (1 : Int32) then -(a : Int) else if rdI w 33 0 0 = (2 : Int32) then (rdI w 32 a 2).toInt else 0) + a
theorem ky_ext {w w' : tt_St} {a : Nat} (h1 : ∀ k i j, ¬ k = 34 → rdI w' k i j = rdI w k i j) (h2 : ∀ k i j, rdL w' k i j = rdL w k i j) : ky w' a = ky w a := by
  unfold ky
  rw [h1 33 0 0 (by omega), h1 32 a 2 (by omega), h2 32 a 1]
theorem jl_cmp (x y : Int64) : ∃ c, fJL_compare x y = some c ∧ c.toInt = (if y.toInt < x.toInt then 1 else if x.toInt = y.toInt then 0 else -1) := by
  unfold fJL_compare
  by_cases h : y ≤ x
  · rw [if_pos h]
    have h' := i64_le.mp h
    by_cases e : x = y
    · rw [if_pos e]; refine ⟨0, rfl, ?_⟩; rw [e, if_neg (by omega), if_pos rfl]; rfl
    · rw [if_neg e]
      have : ¬ x.toInt = y.toInt := fun z => e (i64_ext z)
      refine ⟨1, rfl, ?_⟩; rw [if_pos (by omega)]; rfl
  · rw [if_neg h]
    have h' := mt i64_le.mpr h
    refine ⟨-1, rfl, ?_⟩; rw [if_neg (by omega), if_neg (by omega)]; rfl
theorem ji_cmp (x y : Int32) : ∃ c, fJI_compare x y = some c ∧ c.toInt = (if y.toInt < x.toInt then 1 else if x.toInt = y.toInt then 0 else -1) := by
  unfold fJI_compare
  by_cases h : y ≤ x
  · rw [if_pos h]
    have h' := i32_le.mp h
    by_cases e : x = y
    · rw [if_pos e]; refine ⟨0, rfl, ?_⟩; rw [e, if_neg (by omega), if_pos rfl]; rfl
    · rw [if_neg e]
      have : ¬ x.toInt = y.toInt := fun z => e (i32_ext z)
      refine ⟨1, rfl, ?_⟩; rw [if_pos (by omega)]; rfl
  · rw [if_neg h]
    have h' := mt i32_le.mpr h
    refine ⟨-1, rfl, ?_⟩; rw [if_neg (by omega), if_neg (by omega)]; rfl
theorem k_cmp {w : tt_St} {a b : Nat} (ha : a < 12) (hb : b < 12) : ∃ c, fK_compare w a b = some c ∧ (c < 0 ↔ ky w a < ky w b) ∧ (0 < c ↔ ky w b < ky w a) := by
  have hs : ∀ x y : Nat, x < 12 → y < 12 → (nI x - nI y).toInt = (x : Int) - y := fun x y hx hy => pk_sub_toInt (by omega) (by omega)
  have e : ∀ t1 : Int32, ∃ c, (if t1 = 0 then some (nI a - nI b) else some t1 : Option Int32) = some c ∧ c.toInt = if t1.toInt = 0 then (a : Int) - b else t1.toInt := by
    intro t1
    by_cases h : t1 = 0
    · rw [if_pos h]; exact ⟨_, rfl, by rw [h, if_pos (show (0 : Int32).toInt = 0 from rfl), hs a b ha hb]⟩
    · rw [if_neg h]; exact ⟨_, rfl, by rw [if_neg (fun z => h (i32_ext (by rw [z]; rfl)))]⟩
  have fin : ∀ t1 : Int32, ((if t1.toInt = 0 then (a : Int) - b else t1.toInt) < 0 ↔ ky w a < ky w b) → (0 < (if t1.toInt = 0 then (a : Int) - b else t1.toInt) ↔ ky w b < ky w a) → ∃ c, ((some t1 : Option Int32).bind fun t1 => (if t1 = 0 then some (nI a - nI b) else some t1 : Option Int32)).bind (fun r1 => some r1) = some c ∧ (c < 0 ↔ ky w a < ky w b) ∧ (0 < c ↔ ky w b < ky w a) := by
    intro t1 h1 h2
    obtain ⟨c, hc, hv⟩ := e t1
    refine ⟨c, ?_, ?_, ?_⟩
    · simp only [Option.bind_some]; rw [hc]; rfl
    · rw [i32_lt, hv, i32_0]; exact h1
    · rw [i32_lt, hv, i32_0]; exact h2
  unfold fK_compare fK_compare_2
  by_cases r0 : rdI w 33 0 0 = 0
  · obtain ⟨c, hc, hv⟩ := jl_cmp (rdL w 32 b 1) (rdL w 32 a 1)
    rw [if_pos r0, hc]
    refine fin c ?_ ?_
    · rw [hv]; unfold ky; rw [if_pos r0, if_pos r0]; repeat' split
      all_goals omega
    · rw [hv]; unfold ky; rw [if_pos r0, if_pos r0]; repeat' split
      all_goals omega
  · rw [if_neg r0]
    by_cases r1 : rdI w 33 0 0 = (1 : Int32)
    · rw [if_pos r1]
      refine fin _ ?_ ?_
      · rw [hs b a hb ha]; unfold ky; rw [if_neg r0, if_neg r0, if_pos r1, if_pos r1]; split <;> omega
      · rw [hs b a hb ha]; unfold ky; rw [if_neg r0, if_neg r0, if_pos r1, if_pos r1]; split <;> omega
    · rw [if_neg r1]
      by_cases r2 : rdI w 33 0 0 = (2 : Int32)
      · obtain ⟨c, hc, hv⟩ := ji_cmp (rdI w 32 a 2) (rdI w 32 b 2)
        rw [if_pos r2, hc]
        refine fin c ?_ ?_
        · rw [hv]; unfold ky; rw [if_neg r0, if_neg r0, if_neg r1, if_neg r1, if_pos r2, if_pos r2]; repeat' split
          all_goals omega
        · rw [hv]; unfold ky; rw [if_neg r0, if_neg r0, if_neg r1, if_neg r1, if_pos r2, if_pos r2]; repeat' split
          all_goals omega
      · rw [if_neg r2]
        refine fin 0 ?_ ?_
        · unfold ky; rw [if_neg r0, if_neg r0, if_neg r1, if_neg r1, if_neg r2, if_neg r2, if_pos (show (0 : Int32).toInt = 0 from rfl)]; omega
        · unfold ky; rw [if_neg r0, if_neg r0, if_neg r1, if_neg r1, if_neg r2, if_neg r2, if_pos (show (0 : Int32).toInt = 0 from rfl)]; omega
/-! halves -/
def half_chk : Bool := (List.range 13).all fun k => (decide (k = 0) || decide (((nI k - (1 : Int32)).toUInt32 >>> ((1 : Int32).toUInt32 &&& Int32.toUInt32 31)).toInt32 = nI ((k - 1) / 2))) && decide (((nI k).toUInt32 >>> ((1 : Int32).toUInt32 &&& Int32.toUInt32 31)).toInt32 = nI (k / 2)) && decide ((nI k <<< ((1 : Int32) &&& 31)) + (1 : Int32) = nI (2 * k + 1))
theorem half_ok : half_chk = true := by decide +kernel
theorem half_all {k : Nat} (hk : k < 13) : ((k = 0 ∨ ((nI k - (1 : Int32)).toUInt32 >>> ((1 : Int32).toUInt32 &&& Int32.toUInt32 31)).toInt32 = nI ((k - 1) / 2)) ∧ ((nI k).toUInt32 >>> ((1 : Int32).toUInt32 &&& Int32.toUInt32 31)).toInt32 = nI (k / 2)) ∧ (nI k <<< ((1 : Int32) &&& 31)) + (1 : Int32) = nI (2 * k + 1) := by
  have h := half_ok
  unfold half_chk at h
  rw [List.all_eq_true] at h
  have := h k (List.mem_range.mpr hk)
  simpa only [Bool.and_eq_true, Bool.or_eq_true, decide_eq_true_eq] using this
theorem half_up {k : Nat} (h0 : 0 < k) (hk : k < 13) : ((nI k - (1 : Int32)).toUInt32 >>> ((1 : Int32).toUInt32 &&& Int32.toUInt32 31)).toInt32 = nI ((k - 1) / 2) := by
  rcases (half_all hk).1.1 with h | h
  · omega
  · exact h
theorem half_n {k : Nat} (hk : k < 13) : ((nI k).toUInt32 >>> ((1 : Int32).toUInt32 &&& Int32.toUInt32 31)).toInt32 = nI (k / 2) := (half_all hk).1.2
theorem half_dn {k : Nat} (hk : k < 13) : (nI k <<< ((1 : Int32) &&& 31)) + (1 : Int32) = nI (2 * k + 1) := (half_all hk).2
theorem unO_some {β : Type} {o n : Nat} {k : Nat → Option β} (h : o < n) : unO (some o) n k = k o := if_pos h
theorem csO_some {β : Type} {o n : Nat} {a : Option β} {k : Nat → Option β} (h : o < n) : csO (some o) n a k = k o := if_pos h
theorem csO_none {β : Type} {n : Nat} {a : Option β} {k : Nat → Option β} : csO none n a k = a := rfl
/-- only places of the queue's row were written -/
def FQ0 (w w' : tt_St) : Prop :=
  (w'.1 = w.1) ∧
  (w'.2.1 = w.2.1) ∧
  (∀ k i j, ¬ (k = 35 ∧ i = 0) → rdR w' k i j = rdR w k i j)
theorem FQ0.i {w w' : tt_St} (self_ : FQ0 w w') : w'.1 = w.1 := self_.1
theorem FQ0.l {w w' : tt_St} (self_ : FQ0 w w') : w'.2.1 = w.2.1 := self_.2.1
theorem FQ0.r {w w' : tt_St} (self_ : FQ0 w w') : ∀ k i j, ¬ (k = 35 ∧ i = 0) → rdR w' k i j = rdR w k i j := self_.2.2
theorem FQ0.refl (w : tt_St) : FQ0 w w := ⟨rfl, rfl, fun _ _ _ _ => rfl⟩
theorem FQ0.trans {u v w : tt_St} (h1 : FQ0 u v) (h2 : FQ0 v w) : FQ0 u w := ⟨h2.i.trans h1.i, h2.l.trans h1.l, fun k i j h => (h2.r k i j h).trans (h1.r k i j h)⟩
theorem FQ0.w {j : Nat} (w : tt_St) (x : Option Nat) : FQ0 w (wrR w 35 0 j x) := ⟨rfl, rfl, fun a b c h => by rw [rdR_wrR, if_neg (fun q => h ⟨q.1, q.2.1⟩)]⟩
theorem FQ0.ky {w w' : tt_St} (h : FQ0 w w') (a : Nat) : ky w' a = ky w a := ky_ext (fun k i j _ => rdI_1 h.i k i j) (fun k i j => by unfold rdL; rw [h.l])
theorem up_loop {S : Nat → Bool} {x n : Nat} {κ : Nat → Int} (hn : n ≤ 12) (hS : ∀ y, S y = true → y < 12) : ∀ (d k m : Nat) (w : tt_St) (b : Nat → Nat), k ≤ d → d < m → k < n → (∀ y, ky w y = κ y) → (∀ i, i < n → ¬ i = k → rdR w 35 0 i = some (b i)) → b k = x → EN b n S → (∀ i, 0 < i → i < n → ¬ i = k → κ (b ((i - 1) / 2)) ≤ κ (b i)) → (∀ i, 0 < i → i < n → (i - 1) / 2 = k → 0 < k → κ (b ((k - 1) / 2)) ≤ κ (b i)) →
    ∃ k' w' b', itr (fQ_siftUpUsingComparator_35_33_L0 x) m (nI k, w) = some (nI k', w') ∧ k' < n ∧ FQ0 w w' ∧ (∀ i, n ≤ i → rdR w' 35 0 i = rdR w 35 0 i) ∧ (∀ i, i < n → ¬ i = k' → rdR w' 35 0 i = some (b' i)) ∧ b' k' = x ∧ EN b' n S ∧ (∀ i, 0 < i → i < n → κ (b' ((i - 1) / 2)) ≤ κ (b' i)) := by
  intro d
  induction d with
  | zero =>
    intro k m w b hk hm hkn hκ hb hx E H G
    obtain ⟨m, rfl⟩ : ∃ u, m = u + 1 := ⟨m - 1, by omega⟩
    have : k = 0 := by omega
    subst this
    refine ⟨0, w, b, ?_, hkn, FQ0.refl w, fun _ _ => rfl, hb, hx, E, fun i h0 hi => H i h0 hi (by omega)⟩
    unfold itr fQ_siftUpUsingComparator_35_33_L0
    rw [if_pos (show nI 0 ≤ 0 by decide)]
  | succ d ih =>
    intro k m w b hk hm hkn hκ hb hx E H G
    obtain ⟨m, rfl⟩ : ∃ u, m = u + 1 := ⟨m - 1, by omega⟩
    by_cases h0 : k = 0
    · subst h0
      refine ⟨0, w, b, ?_, hkn, FQ0.refl w, fun _ _ => rfl, hb, hx, E, fun i h0 hi => H i h0 hi (by omega)⟩
      unfold itr fQ_siftUpUsingComparator_35_33_L0
      rw [if_pos (show nI 0 ≤ 0 by decide)]
    · have hp : (k - 1) / 2 < k := by omega
      have hv : b ((k - 1) / 2) < 12 := hS _ (E.inS _ (by omega))
      have hxv : x < 12 := by rw [← hx]; exact hS _ (E.inS _ hkn)
      obtain ⟨c, c1, c2, c3⟩ := k_cmp (w := w) hxv hv
      rw [hκ, hκ] at c2 c3
      unfold itr fQ_siftUpUsingComparator_35_33_L0
      rw [if_neg (nI_nle (by omega) (by omega))]
      dsimp only [nm]
      rw [half_up (by omega) (by omega), inB_nI (by omega) (by omega), if_pos rfl, nI_clamp (by omega), hb _ (by omega) (by omega), unO_some hv, c1]
      simp only [Option.bind_some]
      by_cases hc : c < 0
      · rw [if_pos hc, inB_nI (by omega) (by omega), if_pos rfl, nI_clamp (by omega)]
        dsimp only
        have hlt := c2.mp hc
        rw [← hx] at hlt
        have Es := E.swap (i := k) (j := (k - 1) / 2) hkn (by omega)
        generalize hb' : updN (updN b k (b ((k - 1) / 2))) ((k - 1) / 2) (b k) = b' at Es
        have v1 : b' ((k - 1) / 2) = b k := by rw [← hb']; exact updN_eq
        have v2 : b' k = b ((k - 1) / 2) := by rw [← hb', updN_ne (by omega)]; exact updN_eq
        have v3 : ∀ i, ¬ i = k → ¬ i = (k - 1) / 2 → b' i = b i := fun i g1 g2 => by rw [← hb', updN_ne g2, updN_ne g1]
        obtain ⟨k', w', bb, r1, r2, r3, r4, r5, r6, r7, r8⟩ := ih ((k - 1) / 2) m (wrR w 35 0 k (some (b ((k - 1) / 2)))) b' (by omega) (by omega) (by omega) (fun y => by rw [← hκ y]; exact (FQ0.w w _).ky y) (fun i hi hne => by
            rw [rdR_wrR]
            by_cases g : i = k
            · rw [if_pos ⟨rfl, rfl, g⟩, g, v2]
            · rw [if_neg (fun z => g z.2.2), v3 i g hne]; exact hb i hi g) (by rw [v1, hx]) Es (fun i g0 gi gne => by
            by_cases g : i = k
            · subst g
              rw [v1, v2]; omega
            · by_cases gp : (i - 1) / 2 = k
              · rw [gp, v2, v3 i g gne]; exact G i g0 gi gp (by omega)
              · by_cases gq : (i - 1) / 2 = (k - 1) / 2
                · rw [gq, v1, v3 i g gne]
                  have := H i g0 gi g
                  rw [gq] at this
                  omega
                · rw [v3 _ gp gq, v3 i g gne]; exact H i g0 gi g) (fun i g0 gi gp g1 => by
            have e1 : b' (((k - 1) / 2 - 1) / 2) = b (((k - 1) / 2 - 1) / 2) := v3 _ (by omega) (by omega)
            have e2 := H ((k - 1) / 2) g1 (by omega) (by omega)
            rw [e1]
            by_cases g : i = k
            · rw [g, v2]; exact e2
            · have := H i g0 gi g
              rw [gp] at this
              rw [v3 i g (by omega)]
              omega)
        refine ⟨k', w', bb, r1, r2, (FQ0.w w _).trans r3, fun i hi => ?_, r5, r6, r7, r8⟩
        rw [r4 i hi, rdR_wrR, if_neg (by omega)]
      · rw [if_neg hc]
        dsimp only
        refine ⟨k, w, b, rfl, hkn, FQ0.refl w, fun _ _ => rfl, hb, hx, E, fun i g0 gi => ?_⟩
        by_cases g : i = k
        · subst g
          have := mt c2.mpr hc
          rw [hx]
          omega
        · exact H i g0 gi g
theorem dn_loop {S : Nat → Bool} {x n : Nat} {κ : Nat → Int} (hn : n ≤ 12) (hS : ∀ y, S y = true → y < 12) : ∀ (d k m : Nat) (w : tt_St) (b : Nat → Nat), n ≤ k + d → d < m → k < n → (∀ y, ky w y = κ y) → (∀ i, i < n → ¬ i = k → rdR w 35 0 i = some (b i)) → b k = x → EN b n S → (∀ i, 0 < i → i < n → ¬ (i - 1) / 2 = k → κ (b ((i - 1) / 2)) ≤ κ (b i)) → (∀ i, 0 < i → i < n → (i - 1) / 2 = k → 0 < k → κ (b ((k - 1) / 2)) ≤ κ (b i)) →
    ∃ k' w' b', itr (fQ_siftDownUsingComparator_35_33_L5 x (nI n) (nI (n / 2))) m (nI k, w) = some (nI k', w') ∧ k' < n ∧ FQ0 w w' ∧ (∀ i, n ≤ i → rdR w' 35 0 i = rdR w 35 0 i) ∧ (∀ i, i < n → ¬ i = k' → rdR w' 35 0 i = some (b' i)) ∧ b' k' = x ∧ EN b' n S ∧ (∀ i, 0 < i → i < n → κ (b' ((i - 1) / 2)) ≤ κ (b' i)) := by
  intro d
  induction d with
  | zero =>
    intro k m w b hk hm hkn
    omega
  | succ d ih =>
    intro k m w b hk hm hkn hκ hb hx E H G
    obtain ⟨m, rfl⟩ : ∃ u, m = u + 1 := ⟨m - 1, by omega⟩
    have hxv : x < 12 := by rw [← hx]; exact hS _ (E.inS _ hkn)
    by_cases hh : n / 2 ≤ k
    · refine ⟨k, w, b, ?_, hkn, FQ0.refl w, fun _ _ => rfl, hb, hx, E, fun i h0 hi => H i h0 hi (by omega)⟩
      unfold itr fQ_siftDownUsingComparator_35_33_L5
      rw [if_pos (nI_le hh (by omega))]
    · have hc1 : 2 * k + 1 < n := by omega
      -- the lesser child
      have pick : ∃ c, (c = 2 * k + 1 ∨ c = 2 * k + 2) ∧ c < n ∧ (∀ i, 0 < i → i < n → (i - 1) / 2 = k → κ (b c) ≤ κ (b i)) ∧ ((if nI n ≤ nI (2 * k + 1) + 1 then some (nI (2 * k + 1), b (2 * k + 1)) else if inB (nI (2 * k + 1) + 1) 12 then unO (rdR w 35 0 (nI (2 * k + 1) + 1).toNatClampNeg) 12 fun o13 => (fK_compare w (b (2 * k + 1)) o13).bind fun r14 => if r14 ≤ 0 then some (nI (2 * k + 1), b (2 * k + 1)) else unO (rdR w 35 0 (nI (2 * k + 1) + 1).toNatClampNeg) 12 fun o16 => some (nI (2 * k + 1) + 1, o16) else none : Option (Int32 × Nat)) = some (nI c, b c)) := by
        have hb1 : b (2 * k + 1) < 12 := hS _ (E.inS _ hc1)
        rw [nI_1]
        by_cases h2 : n ≤ 2 * k + 1 + 1
        · rw [if_pos (nI_le h2 (by omega))]
          exact ⟨2 * k + 1, Or.inl rfl, hc1, fun i g0 gi gp => by rw [show i = 2 * k + 1 by omega]; exact Int.le_refl _, rfl⟩
        · rw [if_neg (nI_ge (by omega) (by omega)), inB_nI (by omega) (by omega), if_pos rfl, nI_clamp (by omega), hb _ (by omega) (by omega)]
          have hb2 : b (2 * k + 1 + 1) < 12 := hS _ (E.inS _ (by omega))
          rw [unO_some hb2]
          obtain ⟨c, c1, c2, c3⟩ := k_cmp (w := w) hb1 hb2
          rw [hκ, hκ] at c2 c3
          rw [c1]
          simp only [Option.bind_some]
          by_cases hc : c ≤ 0
          · rw [if_pos hc]
            have : ¬ κ (b (2 * k + 1 + 1)) < κ (b (2 * k + 1)) := fun z => by
              have := i32_lt.mp (c3.mpr z)
              have := i32_le.mp hc
              omega
            exact ⟨2 * k + 1, Or.inl rfl, hc1, fun i g0 gi gp => by
              rcases (show i = 2 * k + 1 ∨ i = 2 * k + 1 + 1 by omega) with e | e
              · rw [e]; exact Int.le_refl _
              · rw [e]; omega, rfl⟩
          · rw [if_neg hc, unO_some hb2]
            have : κ (b (2 * k + 1 + 1)) < κ (b (2 * k + 1)) := c3.mp (i32_lt.mpr (by have := mt i32_le.mpr hc; rw [i32_0] at this ⊢; omega))
            exact ⟨2 * k + 1 + 1, Or.inr rfl, by omega, fun i g0 gi gp => by
              rcases (show i = 2 * k + 1 ∨ i = 2 * k + 1 + 1 by omega) with e | e
              · rw [e]; omega
              · rw [e]; exact Int.le_refl _, rfl⟩
      obtain ⟨c, hc, hcn, hmin, hpk⟩ := pick
      have hbc : b c < 12 := hS _ (E.inS _ hcn)
      have hb1 : b (2 * k + 1) < 12 := hS _ (E.inS _ hc1)
      obtain ⟨z, z1, z2, z3⟩ := k_cmp (w := w) hxv hbc
      rw [hκ, hκ] at z2 z3
      unfold itr fQ_siftDownUsingComparator_35_33_L5
      dsimp only [nm]
      rw [if_neg (nI_ge (by omega) (by omega)), half_dn (by omega), inB_nI (by omega) (by omega), if_pos rfl, nI_clamp (show 2 * k + 1 < 2 ^ 31 by omega), hb _ hc1 (by omega), unO_some hb1, hpk]
      simp only [Option.bind_some]
      rw [if_pos hbc, z1]
      simp only [Option.bind_some]
      by_cases hz : 0 < z
      · rw [if_pos hz, inB_nI (by omega) (by omega), if_pos rfl, nI_clamp (by omega)]
        dsimp only
        have hlt := z3.mp hz
        rw [← hx] at hlt
        have Es := E.swap (i := k) (j := c) hkn hcn
        generalize hb' : updN (updN b k (b c)) c (b k) = b' at Es
        have v1 : b' c = b k := by rw [← hb']; exact updN_eq
        have v2 : b' k = b c := by rw [← hb', updN_ne (by omega)]; exact updN_eq
        have v3 : ∀ i, ¬ i = k → ¬ i = c → b' i = b i := fun i g1 g2 => by rw [← hb', updN_ne g2, updN_ne g1]
        obtain ⟨k', w', bb, r1, r2, r3, r4, r5, r6, r7, r8⟩ := ih c m (wrR w 35 0 k (some (b c))) b' (by omega) (by omega) hcn (fun y => by rw [← hκ y]; exact (FQ0.w w _).ky y) (fun i hi hne => by
            rw [rdR_wrR]
            by_cases g : i = k
            · rw [if_pos ⟨rfl, rfl, g⟩, g, v2]
            · rw [if_neg (fun z => g z.2.2), v3 i g hne]; exact hb i hi g) (by rw [v1, hx]) Es (fun i g0 gi gne => by
            by_cases g : i = k
            · subst g
              rw [v2, v3 _ (by omega) (by omega)]
              exact G c (by omega) hcn (by omega) g0
            · by_cases gc : i = c
              · subst gc
                rw [v1, show (i - 1) / 2 = k by omega, v2]; omega
              · by_cases gp : (i - 1) / 2 = k
                · rw [gp, v2, v3 i g gc]; exact hmin i g0 gi gp
                · rw [v3 _ gp gne, v3 i g gc]; exact H i g0 gi gp) (fun i g0 gi gp g1 => by
            rw [show (c - 1) / 2 = k by omega, v2, v3 i (by omega) (by omega)]
            have := H i g0 gi (by omega)
            rw [gp] at this
            exact this)
        refine ⟨k', w', bb, r1, r2, (FQ0.w w _).trans r3, fun i hi => ?_, r5, r6, r7, r8⟩
        rw [r4 i hi, rdR_wrR, if_neg (by omega)]
      · rw [if_neg hz]
        dsimp only
        refine ⟨k, w, b, rfl, hkn, FQ0.refl w, fun _ _ => rfl, hb, hx, E, fun i g0 gi => ?_⟩
        by_cases g : (i - 1) / 2 = k
        · have h1 := mt z3.mpr hz
          have h2 := hmin i g0 gi g
          rw [g, hx]
          omega
        · exact H i g0 gi g
/-- what the queue holds -/
def QH (w : tt_St) (q : Nat → Nat) (n : Nat) (S : Nat → Bool) : Prop :=
  (rdI w 34 0 1 = nI n) ∧
  (n ≤ 12) ∧
  (∀ i, i < n → rdR w 35 0 i = some (q i)) ∧
  (∀ i, n ≤ i → i < 12 → rdR w 35 0 i = none) ∧
  (EN q n S) ∧
  (∀ y, S y = true → y < 12) ∧
  (∀ i, 0 < i → i < n → ky w (q ((i - 1) / 2)) ≤ ky w (q i))
theorem QH.sz {w : tt_St} {q : Nat → Nat} {n : Nat} {S : Nat → Bool} (self_ : QH w q n S) : rdI w 34 0 1 = nI n := self_.1
theorem QH.le {w : tt_St} {q : Nat → Nat} {n : Nat} {S : Nat → Bool} (self_ : QH w q n S) : n ≤ 12 := self_.2.1
theorem QH.el {w : tt_St} {q : Nat → Nat} {n : Nat} {S : Nat → Bool} (self_ : QH w q n S) : ∀ i, i < n → rdR w 35 0 i = some (q i) := self_.2.2.1
theorem QH.nil {w : tt_St} {q : Nat → Nat} {n : Nat} {S : Nat → Bool} (self_ : QH w q n S) : ∀ i, n ≤ i → i < 12 → rdR w 35 0 i = none := self_.2.2.2.1
theorem QH.en {w : tt_St} {q : Nat → Nat} {n : Nat} {S : Nat → Bool} (self_ : QH w q n S) : EN q n S := self_.2.2.2.2.1
theorem QH.lt {w : tt_St} {q : Nat → Nat} {n : Nat} {S : Nat → Bool} (self_ : QH w q n S) : ∀ y, S y = true → y < 12 := self_.2.2.2.2.2.1
theorem QH.hp {w : tt_St} {q : Nat → Nat} {n : Nat} {S : Nat → Bool} (self_ : QH w q n S) : ∀ i, 0 < i → i < n → ky w (q ((i - 1) / 2)) ≤ ky w (q i) := self_.2.2.2.2.2.2
/-- queue's cells alone were written -/
def FQ (w w' : tt_St) : Prop :=
  (∀ k i j, ¬ k = 34 → rdI w' k i j = rdI w k i j) ∧
  (∀ k i j, rdL w' k i j = rdL w k i j) ∧
  (∀ k i j, ¬ (k = 35 ∧ i = 0) → rdR w' k i j = rdR w k i j)
theorem FQ.i {w w' : tt_St} (self_ : FQ w w') : ∀ k i j, ¬ k = 34 → rdI w' k i j = rdI w k i j := self_.1
theorem FQ.l {w w' : tt_St} (self_ : FQ w w') : ∀ k i j, rdL w' k i j = rdL w k i j := self_.2.1
theorem FQ.r {w w' : tt_St} (self_ : FQ w w') : ∀ k i j, ¬ (k = 35 ∧ i = 0) → rdR w' k i j = rdR w k i j := self_.2.2
theorem FQ.refl (w : tt_St) : FQ w w := ⟨fun _ _ _ _ => rfl, fun _ _ _ => rfl, fun _ _ _ _ => rfl⟩
theorem FQ.trans {u v w : tt_St} (h1 : FQ u v) (h2 : FQ v w) : FQ u w := ⟨fun k i j h => (h2.i k i j h).trans (h1.i k i j h), fun k i j => (h2.l k i j).trans (h1.l k i j), fun k i j h => (h2.r k i j h).trans (h1.r k i j h)⟩
theorem FQ0.up {u v : tt_St} (h : FQ0 u v) : FQ u v := ⟨fun k i j _ => rdI_1 h.i k i j, fun k i j => by unfold rdL; rw [h.l], h.r⟩
theorem FQ.wi {i j : Nat} (w : tt_St) (x : Int32) : FQ w (wrI w 34 i j x) := ⟨fun a b c h => by rw [rdI_wrI, if_neg (fun q => h q.1)], fun _ _ _ => rfl, fun _ _ _ _ => rfl⟩
theorem FQ.ky {w w' : tt_St} (h : FQ w w') (a : Nat) : ky w' a = ky w a := ky_ext h.i h.l
theorem FQ.gC {f : Nat} {w w' : tt_St} (h : FQ w w') (q : (∃ n, QW w n) → ∃ n, QW w' n) : GC f w w' := ⟨q, fun k i j hk => h.i k i j (by omega), fun k i j _ _ => h.l k i j⟩
/-- the first is the least -/
theorem heap_min {κ : Nat → Int} {q : Nat → Nat} {n : Nat} (H : ∀ i, 0 < i → i < n → κ (q ((i - 1) / 2)) ≤ κ (q i)) : ∀ i, i < n → κ (q 0) ≤ κ (q i) := by
  intro i
  induction i using Nat.strongRecOn with
  | ind i ih =>
    intro hi
    by_cases h : i = 0
    · rw [h]; exact Int.le_refl _
    · have h1 := ih ((i - 1) / 2) (by omega) (by omega)
      have h2 := H i (by omega) hi
      omega
theorem QH.min {w : tt_St} {q : Nat → Nat} {n : Nat} {S : Nat → Bool} (Q : QH w q n S) {y : Nat} (hy : S y = true) : ky w (q 0) ≤ ky w y := by
  obtain ⟨i, hi, e⟩ := Q.en.sur y hy
  rw [← e]
  exact heap_min (κ := ky w) Q.hp i hi
theorem QH.ext {w w' : tt_St} {q : Nat → Nat} {n : Nat} {S : Nat → Bool} (Q : QH w q n S) (e1 : rdI w' 34 0 1 = rdI w 34 0 1) (e2 : ∀ i, rdR w' 35 0 i = rdR w 35 0 i) (e3 : ∀ y, S y = true → ky w' y = ky w y) : QH w' q n S :=
  ⟨e1.trans Q.sz, Q.le, fun i hi => (e2 i).trans (Q.el i hi), fun i h1 h2 => (e2 i).trans (Q.nil i h1 h2), Q.en, Q.lt, fun i h0 hi => by
    rw [e3 _ (Q.en.inS _ (by omega)), e3 _ (Q.en.inS _ hi)]; exact Q.hp i h0 hi⟩
theorem QH.congr {w : tt_St} {q : Nat → Nat} {n : Nat} {S S' : Nat → Bool} (Q : QH w q n S) (h : ∀ y, S' y = S y) : QH w q n S' := by
  have e : S' = S := funext h
  rw [e]; exact Q
theorem q_add {w : tt_St} {q : Nat → Nat} {n : Nat} {S : Nat → Bool} (Q : QH w q n S) {x : Nat} (hx : x < 12) (hxS : S x = false) (hn : n < 12) : ∃ w' q', fQ_add w x = some (1, w') ∧ QH w' q' (n + 1) (fun y => S y || decide (y = x)) ∧ FQ w w' := by
  generalize hw1 : wrI w 34 0 3 ((rdI w 34 0 3) + (1 : Int32)) = w1
  have F1 : FQ w w1 := hw1 ▸ FQ.wi w _
  have e1 : rdI w1 34 0 1 = nI n := by rw [← hw1, rdI_wrI, if_neg (by omega)]; exact Q.sz
  have r1 : ∀ i, rdR w1 35 0 i = rdR w 35 0 i := fun i => by rw [← hw1]; rfl
  have hS' : ∀ y, (S y || decide (y = x)) = true → y < 12 := fun y hy => by
    rcases Bool.or_eq_true _ _ ▸ hy with h | h
    · exact Q.lt y h
    · rw [of_decide_eq_true h]; exact hx
  obtain ⟨k', w2, b, g1, g2, g3, g4, g5, g6, g7, g8⟩ := up_loop (S := fun y => S y || decide (y = x)) (x := x) (n := n + 1) (κ := ky w) (by omega) hS' n n tt_fuel w1 (updN q n x) (Nat.le_refl _) (by unfold tt_fuel; omega) (by omega) (fun y => F1.ky y) (fun i hi hne => by rw [r1, updN_ne hne]; exact Q.el i (by omega)) updN_eq (Q.en.push hxS) (fun i h0 hi hne => by
    rw [updN_ne hne, updN_ne (by omega)]; exact Q.hp i h0 (by omega)) (fun i h0 hi hp => by omega)
  have F2 := g3.up
  refine ⟨wrI (wrR w2 35 0 k' (some x)) 34 0 1 (nI n + 1), b, ?_, ?_, ((F1.trans F2).trans (FQ0.w w2 _).up).trans (FQ.wi _ _)⟩
  · unfold fQ_add fQ_offer
    dsimp only [nm]
    rw [hw1, e1, if_pos (show nI n < (12 : Int32) from nI_lt (b := 12) hn (by omega))]
    unfold fQ_siftUp fQ_siftUpUsingComparator_35_33
    rw [g1]
    simp only [Option.bind_some, nm]
    rw [inB_nI (by omega) (by omega), if_pos rfl, nI_clamp (by omega)]
    rfl
  · have rr : ∀ i, rdR (wrI (wrR w2 35 0 k' (some x)) 34 0 1 (nI n + 1)) 35 0 i = if i = k' then some x else rdR w2 35 0 i := fun i => by
      rw [rdR_wrI, rdR_wrR]
      by_cases h : i = k'
      · rw [if_pos h, if_pos ⟨rfl, rfl, h⟩]
      · rw [if_neg h, if_neg (fun z => h z.2.2)]
    refine ⟨?_, by omega, fun i hi => ?_, fun i h1 h2 => ?_, g7, hS', fun i h0 hi => ?_⟩
    · rw [rdI_wrI, if_pos ⟨rfl, rfl, rfl⟩, nI_1]
    · rw [rr]
      by_cases h : i = k'
      · rw [if_pos h, h, g6]
      · rw [if_neg h]; exact g5 i hi h
    · rw [rr, if_neg (by omega), g4 i h1, r1]; exact Q.nil i (by omega) h2
    · have kk := (((F1.trans F2).trans (FQ0.w w2 (some x) (j := k')).up).trans (FQ.wi (i := 0) (j := 1) (wrR w2 35 0 k' (some x)) (nI n + 1))).ky
      rw [kk, kk]
      exact g8 i h0 hi
theorem q_poll_nil {w : tt_St} {q : Nat → Nat} {S : Nat → Bool} (Q : QH w q 0 S) : fQ_poll w = some (none, w) := by
  unfold fQ_poll
  rw [show inB (0 : Int32) 12 = true from rfl, if_pos rfl, show (0 : Int32).toNatClampNeg = 0 from rfl, Q.nil 0 (by omega) (by omega)]
  rfl
theorem q_poll {w : tt_St} {q : Nat → Nat} {n : Nat} {S : Nat → Bool} (Q : QH w q (n + 1) S) : ∃ w' q', fQ_poll w = some (some (q 0), w') ∧ QH w' q' n (fun y => S y && !decide (y = q 0)) ∧ FQ w w' := by
  have hle := Q.le
  have h0 : q 0 < 12 := Q.lt _ (Q.en.inS 0 (by omega))
  have hl : q n < 12 := Q.lt _ (Q.en.inS n (by omega))
  generalize hw1 : wrI w 34 0 3 ((rdI w 34 0 3) + (1 : Int32)) = w1
  have F1 : FQ w w1 := hw1 ▸ FQ.wi w _
  have e1 : rdI w1 34 0 1 = nI (n + 1) := by rw [← hw1, rdI_wrI, if_neg (by omega)]; exact Q.sz
  have e2 : nI (n + 1) - (1 : Int32) = nI n := nI_pred n
  generalize hw2 : wrI w1 34 0 1 (nI n) = w2
  have F2 : FQ w1 w2 := hw2 ▸ FQ.wi w1 _
  have r2 : ∀ i, rdR w2 35 0 i = rdR w 35 0 i := fun i => by rw [← hw2, ← hw1]; rfl
  have hS' : ∀ y, (S y && !decide (y = q 0)) = true → y < 12 := fun y hy => Q.lt y (Bool.and_eq_true _ _ ▸ hy).1
  have F3 : FQ w2 (wrR w2 35 0 n none) := (FQ0.w w2 _).up
  have e3 : rdI (wrR w2 35 0 n none) 34 0 1 = nI n := by rw [rdI_wrR, ← hw2, rdI_wrI, if_pos ⟨rfl, rfl, rfl⟩]
  have head : fQ_poll w = if nI n ≤ 0 then some (some (q 0), wrR w2 35 0 n none) else (fQ_siftDownUsingComparator_35_33 (wrR w2 35 0 n none) (0 : Int32) (q n) (nI n)).bind fun r11 => some (some (q 0), r11) := by
    unfold fQ_poll
    rw [show inB (0 : Int32) 12 = true from rfl, if_pos rfl, show (0 : Int32).toNatClampNeg = 0 from rfl, Q.el 0 (by omega), csO_some h0]
    dsimp only [nm]
    rw [hw1, e1, e2, hw2, inB_nI (by omega) (by omega), if_pos rfl, nI_clamp (by omega), r2, Q.el n (by omega), unO_some hl, if_pos rfl]
  rw [head]
  by_cases hn : n = 0
  · subst hn
    rw [if_pos (show nI 0 ≤ 0 by decide)]
    refine ⟨_, q, rfl, ⟨e3, by omega, fun i hi => by omega, fun i _ h2 => ?_, ?_, hS', fun i _ hi => by omega⟩, (F1.trans F2).trans F3⟩
    · rw [rdR_wrR]
      by_cases h : i = 0
      · rw [if_pos ⟨rfl, rfl, h⟩]
      · rw [if_neg (fun z => h z.2.2), r2]; exact Q.nil i (by omega) h2
    · exact Q.en.pop.congr (fun i hi => by omega)
  · rw [if_neg (nI_nle (by omega) (by omega))]
    have F13 := (F1.trans F2).trans F3
    obtain ⟨k', w4, b, g1, g2, g3, g4, g5, g6, g7, g8⟩ := dn_loop (S := fun y => S y && !decide (y = q 0)) (x := q n) (n := n) (κ := ky w) (by omega) hS' n 0 tt_fuel (wrR w2 35 0 n none) (updN q 0 (q n)) (by omega) (by unfold tt_fuel; omega) (by omega) (fun y => F13.ky y) (fun i hi hne => by
      rw [rdR_wrR, if_neg (by omega), r2, updN_ne hne]; exact Q.el i (by omega)) updN_eq Q.en.pop (fun i h0 hi hne => by
      rw [updN_ne hne, updN_ne (by omega)]; exact Q.hp i h0 (by omega)) (fun i _ _ _ h => by omega)
    have F4 := F13.trans (g3.up.trans (FQ0.w w4 (some (q n)) (j := k')).up)
    refine ⟨wrR w4 35 0 k' (some (q n)), b, ?_, ⟨?_, by omega, fun i hi => ?_, fun i h1 h2 => ?_, g7, hS', fun i h0 hi => ?_⟩, F4⟩
    · unfold fQ_siftDownUsingComparator_35_33
      dsimp only [nm]
      rw [half_n (by omega), L0, g1]
      simp only [Option.bind_some]
      rw [inB_nI (by omega) (by omega), if_pos rfl, nI_clamp (by omega)]
      rfl
    · rw [rdI_wrR, rdI_1 g3.i]; exact e3
    · rw [rdR_wrR]
      by_cases h : i = k'
      · rw [if_pos ⟨rfl, rfl, h⟩, h, g6]
      · rw [if_neg (fun z => h z.2.2)]; exact g5 i hi h
    · rw [rdR_wrR, if_neg (by omega), g4 i h1, rdR_wrR]
      by_cases h : i = n
      · rw [if_pos ⟨rfl, rfl, h⟩]
      · rw [if_neg (fun z => h z.2.2), r2]; exact Q.nil i (by omega) h2
    · rw [F4.ky, F4.ky]; exact g8 i h0 hi
/-- cleared: whatever stood there, if it stood in its first places -/
theorem QH.w {w : tt_St} {q : Nat → Nat} {n : Nat} {S : Nat → Bool} (Q : QH w q n S) : QW w n := ⟨Q.sz, Q.le, Q.nil⟩
theorem q_clear {w : tt_St} {n : Nat} (Q : QW w n) (q : Nat → Nat) : ∃ w', fQ_clear w = some w' ∧ QH w' q 0 (fun _ => false) ∧ FQ w w' := by
  have hle := Q.le
  generalize hw1 : wrI w 34 0 3 ((rdI w 34 0 3) + (1 : Int32)) = w1
  have F1 : FQ w w1 := hw1 ▸ FQ.wi w _
  have e1 : rdI w1 34 0 1 = nI n := by rw [← hw1, rdI_wrI, if_neg (by omega)]; exact Q.sz
  have r1 : ∀ i, rdR w1 35 0 i = rdR w 35 0 i := fun i => by rw [← hw1]; rfl
  have hk_ := itr_inv (body := fQ_clear_L22 (nI n)) (fun i u => (nI i, u)) (fun i u => FQ0 w1 u ∧ (∀ j, j < i → rdR u 35 0 j = none) ∧ ∀ j, i ≤ j → rdR u 35 0 j = rdR w 35 0 j) (fun b => ∃ u, b = (nI n, u) ∧ FQ0 w1 u ∧ (∀ j, j < n → rdR u 35 0 j = none) ∧ ∀ j, n ≤ j → rdR u 35 0 j = rdR w 35 0 j) n w1 (by omega) ⟨FQ0.refl _, fun j hj => by omega, fun j _ => r1 j⟩ (fun i u hi hI => ?_) (fun u hI => ?_)
  · obtain ⟨b, hb, hR⟩ := hk_
    obtain ⟨u, rfl, hF, hz, hk⟩ := hR
    refine ⟨wrI u 34 0 1 0, ?_, ⟨by rw [rdI_wrI, if_pos ⟨rfl, rfl, rfl⟩]; rfl, by omega, fun i hi => by omega, fun i _ h2 => ?_, ⟨fun i hi => by omega, fun i j hi => by omega, fun y hy => by cases hy⟩, (fun y hy => by cases hy), fun i _ hi => by omega⟩, (F1.trans hF.up).trans (FQ.wi _ _)⟩
    · unfold fQ_clear
      dsimp only [nm]
      rw [hw1, e1, L0, hb]
      rfl
    · rw [rdR_wrI]
      by_cases h : i < n
      · exact hz i h
      · rw [hk i (by omega)]; exact Q.nil i (by omega) h2
  · obtain ⟨hF, hz, hk⟩ := hI
    refine ⟨wrR u 35 0 i none, ?_, hF.trans (FQ0.w _ _), fun j hj => ?_, fun j hj => ?_⟩
    · unfold fQ_clear_L22
      dsimp only [nm]
      rw [if_neg (nI_ge hi (by omega)), inB_nI (by omega) (by omega), if_pos rfl, nI_clamp (by omega), nI_1]
    · rw [rdR_wrR]
      by_cases h : j = i
      · rw [if_pos ⟨rfl, rfl, h⟩]
      · rw [if_neg (fun z => h z.2.2)]; exact hz j (by omega)
    · rw [rdR_wrR, if_neg (by omega)]; exact hk j (by omega)
  · refine ⟨_, ?_, u, rfl, hI⟩
    unfold fQ_clear_L22
    rw [if_pos (nI_le (Nat.le_refl _) (by omega))]
