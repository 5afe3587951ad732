set_option linter.unusedVariables false
set_option linter.unusedSimpArgs false
set_option maxRecDepth 100000
/-! PLAIN LAW: rows written one after another; shares -/
def fillL (w : tt_St) (k i : Nat) (F : Nat → Int64) : Nat → tt_St
  | 0 => w
  | n + 1 => wrL (fillL w k i F n) k i n (F n)
theorem fillL_i {w : tt_St} {k i : Nat} {F : Nat → Int64} : ∀ n, (fillL w k i F n).1 = w.1
  | 0 => rfl
  | n + 1 => by show (fillL w k i F n).1 = w.1; exact fillL_i n
theorem fillL_r {w : tt_St} {k i : Nat} {F : Nat → Int64} : ∀ n, (fillL w k i F n).2.2 = w.2.2
  | 0 => rfl
  | n + 1 => by show (fillL w k i F n).2.2 = w.2.2; exact fillL_r n
theorem fillL_rd {w : tt_St} {k i : Nat} {F : Nat → Int64} : ∀ n a b c, rdL (fillL w k i F n) a b c = if a = k ∧ b = i ∧ c < n then F c else rdL w a b c := by
  intro n
  induction n with
  | zero => intro a b c; rw [if_neg (by omega)]; rfl
  | succ n ih =>
    intro a b c
    show rdL (wrL (fillL w k i F n) k i n (F n)) a b c = _
    rw [rdL_wrL, ih]
    by_cases h : a = k ∧ b = i ∧ c = n
    · obtain ⟨rfl, rfl, rfl⟩ := h
      rw [if_pos ⟨rfl, rfl, rfl⟩, if_pos ⟨rfl, rfl, by omega⟩]
    · rw [if_neg h]
      by_cases h2 : a = k ∧ b = i ∧ c < n
      · rw [if_pos h2, if_pos ⟨h2.1, h2.2.1, by omega⟩]
      · rw [if_neg h2, if_neg]
        rintro ⟨h3, h4, h5⟩
        have : ¬ c = n := fun e => h ⟨h3, h4, e⟩
        exact h2 ⟨h3, h4, by omega⟩
/-- one row (k, 0) was written alone -/
def FrR (k : Nat) (w w' : tt_St) : Prop :=
  (w'.1 = w.1) ∧
  (w'.2.2 = w.2.2) ∧
  (∀ k' i j, ¬ k' = k → rdL w' k' i j = rdL w k' i j)
theorem FrR.i {k : Nat} {w w' : tt_St} (self_ : FrR k w w') : w'.1 = w.1 := self_.1
theorem FrR.r {k : Nat} {w w' : tt_St} (self_ : FrR k w w') : w'.2.2 = w.2.2 := self_.2.1
theorem FrR.l {k : Nat} {w w' : tt_St} (self_ : FrR k w w') : ∀ k' i j, ¬ k' = k → rdL w' k' i j = rdL w k' i j := self_.2.2
theorem FrR.refl {k : Nat} (w : tt_St) : FrR k w w := ⟨rfl, rfl, fun _ _ _ _ => rfl⟩
theorem FrR.trans {k : Nat} {u v w : tt_St} (h1 : FrR k u v) (h2 : FrR k v w) : FrR k u w := ⟨h2.i.trans h1.i, h2.r.trans h1.r, fun a b c h => (h2.l a b c h).trans (h1.l a b c h)⟩
theorem FrR.w {k i j : Nat} (w : tt_St) (x : Int64) : FrR k w (wrL w k i j x) := ⟨rfl, rfl, fun a b c h => by rw [rdL_wrL, if_neg (fun q => h q.1)]⟩
theorem FrR.fill {k i n : Nat} (w : tt_St) (F : Nat → Int64) : FrR k w (fillL w k i F n) := ⟨fillL_i n, fillL_r n, fun a b c h => by rw [fillL_rd, if_neg (fun q => h q.1)]⟩
def shP (A S w : Int64) : Int64 := A / S * w + (A - A / S * S) * w / S
def shQ (A S : Int64) (W : Nat → Int64) (k : Nat) : Int64 := if S = 0 then 0 else shP A S (W k)
def shR (A S : Int64) (W : Nat → Int64) : Nat → Int64
  | 0 => A
  | k + 1 => shR A S W k - shQ A S W k
def shO (W : Nat → Int64) (r : Int64) : Nat → Int64
  | 0 => r
  | k + 1 => if shO W r k = 0 ∨ W k = 0 then shO W r k else shO W r k - 1
/-- the share of the k-th -/
def shV (A S : Int64) (W : Nat → Int64) (n k : Nat) : Int64 := if shO W (shR A S W n) k = 0 ∨ W k = 0 then shQ A S W k else shQ A S W k + 1
theorem shO_zero {W : Nat → Int64} {r : Int64} {k : Nat} (h : shO W r k = 0) : ∀ d, shO W r (k + d) = 0
  | 0 => h
  | d + 1 => by
    show (if shO W r (k + d) = 0 ∨ W (k + d) = 0 then shO W r (k + d) else shO W r (k + d) - 1) = 0
    rw [if_pos (Or.inl (shO_zero h d))]
    exact shO_zero h d
theorem shO_pos {W : Nat → Int64} {r : Int64} (hr : 0 ≤ r.toInt) : ∀ k, 0 ≤ (shO W r k).toInt ∧ (shO W r k).toInt ≤ r.toInt
  | 0 => ⟨hr, Int.le_refl _⟩
  | k + 1 => by
    have ih := shO_pos (W := W) hr k
    show 0 ≤ (if shO W r k = 0 ∨ W k = 0 then shO W r k else shO W r k - 1).toInt ∧ (if shO W r k = 0 ∨ W k = 0 then shO W r k else shO W r k - 1).toInt ≤ r.toInt
    by_cases h : shO W r k = 0 ∨ W k = 0
    · rw [if_pos h]; exact ih
    · rw [if_neg h]
      have h1 : ¬ (shO W r k).toInt = 0 := fun e => h (Or.inl (i64_ext (by rw [e]; rfl)))
      have h2 := i64_hi r
      rw [i64_sub] <;> rw [show (1 : Int64).toInt = 1 from rfl] <;> omega
theorem sumL_congr {f g : Nat → Int64} : ∀ {n}, (∀ i, i < n → f i = g i) → sumL f n = sumL g n
  | 0, _ => rfl
  | n + 1, h => by show sumL f n + f n = sumL g n + g n; rw [sumL_congr (fun i hi => h i (by omega)), h n (by omega)]
theorem shQ_congr {A S : Int64} {f g : Nat → Int64} {k : Nat} (h : f k = g k) : shQ A S f k = shQ A S g k := by unfold shQ; rw [h]
theorem shR_congr {A S : Int64} {f g : Nat → Int64} : ∀ {n}, (∀ i, i < n → f i = g i) → shR A S f n = shR A S g n
  | 0, _ => rfl
  | n + 1, h => by show shR A S f n - shQ A S f n = _; rw [shR_congr (fun i hi => h i (by omega)), shQ_congr (h n (by omega))]; rfl
theorem shO_congr {r : Int64} {f g : Nat → Int64} : ∀ {n}, (∀ i, i < n → f i = g i) → shO f r n = shO g r n
  | 0, _ => rfl
  | n + 1, h => by
    show (if shO f r n = 0 ∨ f n = 0 then shO f r n else shO f r n - 1) = (if shO g r n = 0 ∨ g n = 0 then shO g r n else shO g r n - 1)
    rw [shO_congr (fun i hi => h i (by omega)), h n (by omega)]
theorem shV_congr {A S : Int64} {f g : Nat → Int64} {n k : Nat} (hk : k < n) (h : ∀ i, i < n → f i = g i) : shV A S f n k = shV A S g n k := by
  unfold shV
  rw [shR_congr h, shO_congr (fun i hi => h i (by omega)), h k hk, shQ_congr (h k hk)]
/-! the model's -/
theorem m_weightSum {t : tt_St} {n : Nat} (hn : n ≤ 40) : fM_weightSum t (nI n) = some (sumL (rdL t 36 0) n) := mp_weightSum hn
theorem m_shares {t : tt_St} {n : Nat} {A : Int64} (hn : n ≤ 40) (h0 : ¬ sumL (rdL t 36 0) n = 0) : ∃ t', fM_shares t A (nI n) = some t' ∧ FrR 37 t t' ∧ ∀ j, j < n → rdL t' 37 0 j = shV A (sumL (rdL t 36 0) n) (rdL t 36 0) n j := by
  generalize hW : rdL t 36 0 = W
  generalize hS : sumL W n = S
  have e1 : itr (fM_shares_L13 A (nI n) S) tt_fuel (A, (0 : Int32), t) = some (shR A S W n, nI n, fillL t 37 0 (shQ A S W) n) := by
    refine itr_run (fun i => (shR A S W i, nI i, fillL t 37 0 (shQ A S W) i)) n _ (by omega) (fun i hi => ?_) ?_
    · unfold fM_shares_L13
      simp only [nm]
      rw [if_neg (nI_ge hi (by omega)), if_pos (by rw [← hS, ← hW]; exact h0), inB_nI (by omega) (by omega), if_pos rfl, nI_clamp (by omega), fillL_rd, if_neg (by omega), rdL_wrL, if_pos ⟨rfl, rfl, rfl⟩, hW, nI_1]
      have q : A / S * W i + (A - A / S * S) * W i / S = shQ A S W i := by
        unfold shQ shP
        rw [if_neg (by rw [← hS, ← hW]; exact h0)]
      rw [q]
      rfl
    · unfold fM_shares_L13
      rw [if_pos (nI_le (Nat.le_refl _) (by omega))]
  have key : ∀ d k m u, k + d = n → d < m → FrR 37 t u → (∀ j, j < n → rdL u 37 0 j = if j < k then shV A S W n j else shQ A S W j) → ∃ u', itr (fM_shares_L75 (nI n)) m (shO W (shR A S W n) k, nI k, u) = some (shO W (shR A S W n) n, nI n, u') ∧ FrR 37 t u' ∧ ∀ j, j < n → rdL u' 37 0 j = shV A S W n j := by
    intro d
    induction d with
    | zero =>
      intro k m u hk hm F hu
      obtain ⟨m, rfl⟩ : ∃ q, m = q + 1 := ⟨m - 1, by omega⟩
      have : k = n := by omega
      subst this
      refine ⟨u, ?_, F, fun j hj => by rw [hu j hj, if_pos hj]⟩
      unfold itr fM_shares_L75
      rw [if_pos (nI_le (Nat.le_refl _) (by omega))]
    | succ d ih =>
      intro k m u hk hm F hu
      obtain ⟨m, rfl⟩ : ∃ q, m = q + 1 := ⟨m - 1, by omega⟩
      have hkn : k < n := by omega
      have hwk : rdL u 36 0 k = W k := by rw [F.l 36 0 k (by omega), ← hW]
      by_cases hc : shO W (shR A S W n) k = 0 ∨ W k = 0
      · have e3 : shO W (shR A S W n) (k + 1) = shO W (shR A S W n) k := by show (if _ then _ else _) = _; rw [if_pos hc]
        obtain ⟨u', r1, r2, r3⟩ := ih (k + 1) m u (by omega) (by omega) F (fun j hj => by
          rw [hu j hj]
          by_cases h1 : j < k
          · rw [if_pos h1, if_pos (by omega)]
          · rw [if_neg h1]
            by_cases h2 : j = k
            · subst h2; rw [if_pos (by omega)]; unfold shV; rw [if_pos hc]
            · rw [if_neg (by omega)])
        rw [e3] at r1
        refine ⟨u', ?_, r2, r3⟩
        unfold itr fM_shares_L75
        simp only [nm]
        rw [if_neg (nI_ge hkn (by omega)), inB_nI (n := 40) (by omega) (by omega), nI_clamp (by omega), hwk, nI_1]
        by_cases h1 : shO W (shR A S W n) k = 0
        · rw [if_pos h1]; exact r1
        · rw [if_neg h1, if_pos rfl, if_pos (hc.resolve_left h1)]; exact r1
      · have e3 : shO W (shR A S W n) (k + 1) = shO W (shR A S W n) k - 1 := by show (if _ then _ else _) = _; rw [if_neg hc]
        obtain ⟨u', r1, r2, r3⟩ := ih (k + 1) m (wrL u 37 0 k (rdL u 37 0 k + 1)) (by omega) (by omega) (F.trans (FrR.w _ _)) (fun j hj => by
          rw [rdL_wrL]
          by_cases h2 : j = k
          · subst h2; rw [if_pos ⟨rfl, rfl, rfl⟩, if_pos (by omega), hu j hj, if_neg (by omega)]; unfold shV; rw [if_neg hc]
          · rw [if_neg (fun q => h2 q.2.2), hu j hj]
            by_cases h1 : j < k
            · rw [if_pos h1, if_pos (by omega)]
            · rw [if_neg h1, if_neg (by omega)])
        rw [e3] at r1
        refine ⟨u', ?_, r2, r3⟩
        unfold itr fM_shares_L75
        simp only [nm]
        rw [if_neg (nI_ge hkn (by omega)), inB_nI (n := 40) (by omega) (by omega), nI_clamp (by omega), hwk, nI_1, if_neg (fun q => hc (Or.inl q)), if_pos rfl, if_neg (fun q => hc (Or.inr q))]
        exact r1
  obtain ⟨u', r1, r2, r3⟩ := key n 0 tt_fuel (fillL t 37 0 (shQ A S W) n) (by omega) (by unfold tt_fuel; omega) (FrR.fill _ _) (fun j hj => by rw [fillL_rd, if_pos ⟨rfl, rfl, hj⟩, if_neg (by omega)])
  refine ⟨u', ?_, r2, r3⟩
  unfold fM_shares
  rw [m_weightSum hn, hW, hS]
  simp only [Option.bind_some]
  rw [e1]
  simp only [Option.bind_some]
  have r1' : itr (fM_shares_L75 (nI n)) tt_fuel (shR A S W n, (0 : Int32), fillL t 37 0 (shQ A S W) n) = some (shO W (shR A S W n) n, nI n, u') := r1
  rw [r1']
  rfl
/-! the component's, three rows of weights -/
theorem c_shares_26_27 {w : tt_St} {A : Int64} (hr : 0 ≤ (shR A (sumL (rdL w 26 0) 12) (rdL w 26 0) 12).toInt) : ∃ w', fT_shares_26_27 w A = some w' ∧ FrR 27 w w' ∧ ∀ j, j < 12 → rdL w' 27 0 j = shV A (sumL (rdL w 26 0) 12) (rdL w 26 0) 12 j := by
  generalize hW : rdL w 26 0 = W at hr ⊢
  generalize hS : sumL W 12 = S at hr ⊢
  have e0 : itr (fT_shares_26_27_L17 w) tt_fuel ((0 : Int64), (0 : Int32)) = some (S, nI 12) := by
    have h := itr_run (body := fT_shares_26_27_L17 w) (fun i => (sumL W i, nI i)) 12 (sumL W 12, nI 12) (by omega) (fun i hi => by
      unfold fT_shares_26_27_L17
      simp only [nm]
      rw [show (12 : Int32) = nI 12 from rfl, if_neg (nI_ge hi (by omega)), inB_nI hi (by omega), if_pos rfl, nI_clamp (by omega), nI_1, hW]
      rfl) (by
      unfold fT_shares_26_27_L17
      rw [show (12 : Int32) = nI 12 from rfl, if_pos (nI_le (Nat.le_refl _) (by omega))])
    rw [hS] at h
    exact h
  have e1 : itr (fT_shares_26_27_L47 A (S, nI 12)) tt_fuel (A, (0 : Int32), w) = some (shR A S W 12, nI 12, fillL w 27 0 (shQ A S W) 12) := by
    refine itr_run (fun i => (shR A S W i, nI i, fillL w 27 0 (shQ A S W) i)) 12 _ (by omega) (fun i hi => ?_) ?_
    · unfold fT_shares_26_27_L47
      simp only [nm]
      have hfl : rdL (fillL w 27 0 (shQ A S W) i) 26 0 i = W i := by rw [fillL_rd, if_neg (by omega), hW]
      rw [show (12 : Int32) = nI 12 from rfl, if_neg (nI_ge hi (by omega)), inB_nI hi (by omega), nI_clamp (by omega), hfl]
      have q : (if S = 0 then some (0 : Int64) else if ¬ S = 0 then if true = true then some (A / S * W i + (A - A / S * S) * W i / S) else none else none : Option Int64) = some (shQ A S W i) := by
        unfold shQ shP
        by_cases h : S = 0
        · rw [if_pos h, if_pos h]
        · rw [if_neg h, if_neg h, if_pos h, if_pos rfl]
      rw [q]
      simp only [Option.bind_some]
      rw [if_pos trivial, rdL_wrL, if_pos ⟨rfl, rfl, rfl⟩, nI_1]
      rfl
    · unfold fT_shares_26_27_L47
      rw [show (12 : Int32) = nI 12 from rfl, if_pos (nI_le (Nat.le_refl _) (by omega))]
  have key : ∀ d k m u, k + d = 12 → d < m → FrR 27 w u → (∀ j, j < 12 → rdL u 27 0 j = if j < k then shV A S W 12 j else shQ A S W j) → ∃ x u', itr fT_shares_26_27_L109 m (shO W (shR A S W 12) k, nI k, u) = some (x, u') ∧ FrR 27 w u'.2 ∧ ∀ j, j < 12 → rdL u'.2 27 0 j = shV A S W 12 j := by
    intro d
    induction d with
    | zero =>
      intro k m u hk hm F hu
      obtain ⟨m, rfl⟩ : ∃ q, m = q + 1 := ⟨m - 1, by omega⟩
      have : k = 12 := by omega
      subst this
      refine ⟨shO W (shR A S W 12) 12, (nI 12, u), ?_, F, fun j hj => by rw [hu j hj, if_pos hj]⟩
      unfold itr fT_shares_26_27_L109
      rw [show (12 : Int32) = nI 12 from rfl, if_pos (nI_le (Nat.le_refl _) (by omega))]
    | succ d ih =>
      intro k m u hk hm F hu
      obtain ⟨m, rfl⟩ : ∃ q, m = q + 1 := ⟨m - 1, by omega⟩
      have hkn : k < 12 := by omega
      have hwk : rdL u 26 0 k = W k := by rw [F.l 26 0 k (by omega), ← hW]
      have hp := (shO_pos (W := W) hr k).1
      by_cases h1 : shO W (shR A S W 12) k = 0
      · refine ⟨shO W (shR A S W 12) k, (nI k, u), ?_, F, fun j hj => ?_⟩
        · unfold itr fT_shares_26_27_L109
          rw [show (12 : Int32) = nI 12 from rfl, if_neg (nI_ge hkn (by omega)), if_pos (by rw [h1]; exact i64_le.mpr (Int.le_refl _))]
        · rw [hu j hj]
          by_cases h2 : j < k
          · rw [if_pos h2]
          · rw [if_neg h2]
            unfold shV
            have := shO_zero h1 (j - k)
            rw [show k + (j - k) = j by omega] at this
            rw [if_pos (Or.inl this)]
      have hle : ¬ shO W (shR A S W 12) k ≤ 0 := fun q => h1 (i64_ext (by have := i64_le.mp q; rw [i64_0] at this ⊢; omega))
      by_cases hc : W k = 0
      · have e3 : shO W (shR A S W 12) (k + 1) = shO W (shR A S W 12) k := by show (if _ then _ else _) = _; rw [if_pos (Or.inr hc)]
        obtain ⟨x, u', r1, r2, r3⟩ := ih (k + 1) m u (by omega) (by omega) F (fun j hj => by
          rw [hu j hj]
          by_cases h1 : j < k
          · rw [if_pos h1, if_pos (by omega)]
          · rw [if_neg h1]
            by_cases h2 : j = k
            · subst h2; rw [if_pos (by omega)]; unfold shV; rw [if_pos (Or.inr hc)]
            · rw [if_neg (by omega)])
        rw [e3] at r1
        refine ⟨x, u', ?_, r2, r3⟩
        unfold itr fT_shares_26_27_L109
        simp only [nm]
        rw [show (12 : Int32) = nI 12 from rfl, if_neg (nI_ge hkn (by omega)), if_neg hle, inB_nI hkn (by omega), if_pos rfl, nI_clamp (by omega), hwk, nI_1, if_pos hc]
        exact r1
      · have hcc : ¬ (shO W (shR A S W 12) k = 0 ∨ W k = 0) := fun q => q.elim h1 hc
        have e3 : shO W (shR A S W 12) (k + 1) = shO W (shR A S W 12) k - 1 := by show (if _ then _ else _) = _; rw [if_neg hcc]
        obtain ⟨x, u', r1, r2, r3⟩ := ih (k + 1) m (wrL u 27 0 k (rdL u 27 0 k + 1)) (by omega) (by omega) (F.trans (FrR.w _ _)) (fun j hj => by
          rw [rdL_wrL]
          by_cases h2 : j = k
          · subst h2; rw [if_pos ⟨rfl, rfl, rfl⟩, if_pos (by omega), hu j hj, if_neg (by omega)]; unfold shV; rw [if_neg hcc]
          · rw [if_neg (fun q => h2 q.2.2), hu j hj]
            by_cases h1 : j < k
            · rw [if_pos h1, if_pos (by omega)]
            · rw [if_neg h1, if_neg (by omega)])
        rw [e3] at r1
        refine ⟨x, u', ?_, r2, r3⟩
        unfold itr fT_shares_26_27_L109
        simp only [nm]
        rw [show (12 : Int32) = nI 12 from rfl, if_neg (nI_ge hkn (by omega)), if_neg hle, inB_nI hkn (by omega), if_pos rfl, nI_clamp (by omega), hwk, nI_1, if_neg hc]
        exact r1
  obtain ⟨x, u', r1, r2, r3⟩ := key 12 0 tt_fuel (fillL w 27 0 (shQ A S W) 12) (by omega) (by unfold tt_fuel; omega) (FrR.fill _ _) (fun j hj => by rw [fillL_rd, if_pos ⟨rfl, rfl, hj⟩, if_neg (by omega)])
  refine ⟨u'.2, ?_, r2, r3⟩
  unfold fT_shares_26_27
  rw [e0]
  simp only [Option.bind_some]
  rw [e1]
  simp only [Option.bind_some]
  have r1' : itr fT_shares_26_27_L109 tt_fuel (shR A S W 12, (0 : Int32), fillL w 27 0 (shQ A S W) 12) = some (x, u') := r1
  rw [r1']
  rfl
theorem c_shares_28_30 {w : tt_St} {A : Int64} (hr : 0 ≤ (shR A (sumL (rdL w 28 0) 40) (rdL w 28 0) 40).toInt) : ∃ w', fT_shares_28_30 w A = some w' ∧ FrR 30 w w' ∧ ∀ j, j < 40 → rdL w' 30 0 j = shV A (sumL (rdL w 28 0) 40) (rdL w 28 0) 40 j := by
  generalize hW : rdL w 28 0 = W at hr ⊢
  generalize hS : sumL W 40 = S at hr ⊢
  have e0 : itr (fT_shares_28_30_L17 w) tt_fuel ((0 : Int64), (0 : Int32)) = some (S, nI 40) := by
    have h := itr_run (body := fT_shares_28_30_L17 w) (fun i => (sumL W i, nI i)) 40 (sumL W 40, nI 40) (by omega) (fun i hi => by
      unfold fT_shares_28_30_L17
      simp only [nm]
      rw [show (40 : Int32) = nI 40 from rfl, if_neg (nI_ge hi (by omega)), inB_nI hi (by omega), if_pos rfl, nI_clamp (by omega), nI_1, hW]
      rfl) (by
      unfold fT_shares_28_30_L17
      rw [show (40 : Int32) = nI 40 from rfl, if_pos (nI_le (Nat.le_refl _) (by omega))])
    rw [hS] at h
    exact h
  have e1 : itr (fT_shares_28_30_L47 A (S, nI 40)) tt_fuel (A, (0 : Int32), w) = some (shR A S W 40, nI 40, fillL w 30 0 (shQ A S W) 40) := by
    refine itr_run (fun i => (shR A S W i, nI i, fillL w 30 0 (shQ A S W) i)) 40 _ (by omega) (fun i hi => ?_) ?_
    · unfold fT_shares_28_30_L47
      simp only [nm]
      have hfl : rdL (fillL w 30 0 (shQ A S W) i) 28 0 i = W i := by rw [fillL_rd, if_neg (by omega), hW]
      rw [show (40 : Int32) = nI 40 from rfl, if_neg (nI_ge hi (by omega)), inB_nI hi (by omega), nI_clamp (by omega), hfl]
      have q : (if S = 0 then some (0 : Int64) else if ¬ S = 0 then if true = true then some (A / S * W i + (A - A / S * S) * W i / S) else none else none : Option Int64) = some (shQ A S W i) := by
        unfold shQ shP
        by_cases h : S = 0
        · rw [if_pos h, if_pos h]
        · rw [if_neg h, if_neg h, if_pos h, if_pos rfl]
      rw [q]
      simp only [Option.bind_some]
      rw [if_pos trivial, rdL_wrL, if_pos ⟨rfl, rfl, rfl⟩, nI_1]
      rfl
    · unfold fT_shares_28_30_L47
      rw [show (40 : Int32) = nI 40 from rfl, if_pos (nI_le (Nat.le_refl _) (by omega))]
  have key : ∀ d k m u, k + d = 40 → d < m → FrR 30 w u → (∀ j, j < 40 → rdL u 30 0 j = if j < k then shV A S W 40 j else shQ A S W j) → ∃ x u', itr fT_shares_28_30_L109 m (shO W (shR A S W 40) k, nI k, u) = some (x, u') ∧ FrR 30 w u'.2 ∧ ∀ j, j < 40 → rdL u'.2 30 0 j = shV A S W 40 j := by
    intro d
    induction d with
    | zero =>
      intro k m u hk hm F hu
      obtain ⟨m, rfl⟩ : ∃ q, m = q + 1 := ⟨m - 1, by omega⟩
      have : k = 40 := by omega
      subst this
      refine ⟨shO W (shR A S W 40) 40, (nI 40, u), ?_, F, fun j hj => by rw [hu j hj, if_pos hj]⟩
      unfold itr fT_shares_28_30_L109
      rw [show (40 : Int32) = nI 40 from rfl, if_pos (nI_le (Nat.le_refl _) (by omega))]
    | succ d ih =>
      intro k m u hk hm F hu
      obtain ⟨m, rfl⟩ : ∃ q, m = q + 1 := ⟨m - 1, by omega⟩
      have hkn : k < 40 := by omega
      have hwk : rdL u 28 0 k = W k := by rw [F.l 28 0 k (by omega), ← hW]
      have hp := (shO_pos (W := W) hr k).1
      by_cases h1 : shO W (shR A S W 40) k = 0
      · refine ⟨shO W (shR A S W 40) k, (nI k, u), ?_, F, fun j hj => ?_⟩
        · unfold itr fT_shares_28_30_L109
          rw [show (40 : Int32) = nI 40 from rfl, if_neg (nI_ge hkn (by omega)), if_pos (by rw [h1]; exact i64_le.mpr (Int.le_refl _))]
        · rw [hu j hj]
          by_cases h2 : j < k
          · rw [if_pos h2]
          · rw [if_neg h2]
            unfold shV
            have := shO_zero h1 (j - k)
            rw [show k + (j - k) = j by omega] at this
            rw [if_pos (Or.inl this)]
      have hle : ¬ shO W (shR A S W 40) k ≤ 0 := fun q => h1 (i64_ext (by have := i64_le.mp q; rw [i64_0] at this ⊢; omega))
      by_cases hc : W k = 0
      · have e3 : shO W (shR A S W 40) (k + 1) = shO W (shR A S W 40) k := by show (if _ then _ else _) = _; rw [if_pos (Or.inr hc)]
        obtain ⟨x, u', r1, r2, r3⟩ := ih (k + 1) m u (by omega) (by omega) F (fun j hj => by
          rw [hu j hj]
          by_cases h1 : j < k
          · rw [if_pos h1, if_pos (by omega)]
          · rw [if_neg h1]
            by_cases h2 : j = k
            · subst h2; rw [if_pos (by omega)]; unfold shV; rw [if_pos (Or.inr hc)]
            · rw [if_neg (by omega)])
        rw [e3] at r1
        refine ⟨x, u', ?_, r2, r3⟩
        unfold itr fT_shares_28_30_L109
        simp only [nm]
        rw [show (40 : Int32) = nI 40 from rfl, if_neg (nI_ge hkn (by omega)), if_neg hle, inB_nI hkn (by omega), if_pos rfl, nI_clamp (by omega), hwk, nI_1, if_pos hc]
        exact r1
      · have hcc : ¬ (shO W (shR A S W 40) k = 0 ∨ W k = 0) := fun q => q.elim h1 hc
        have e3 : shO W (shR A S W 40) (k + 1) = shO W (shR A S W 40) k - 1 := by show (if _ then _ else _) = _; rw [if_neg hcc]
        obtain ⟨x, u', r1, r2, r3⟩ := ih (k + 1) m (wrL u 30 0 k (rdL u 30 0 k + 1)) (by omega) (by omega) (F.trans (FrR.w _ _)) (fun j hj => by
          rw [rdL_wrL]
          by_cases h2 : j = k
          · subst h2; rw [if_pos ⟨rfl, rfl, rfl⟩, if_pos (by omega), hu j hj, if_neg (by omega)]; unfold shV; rw [if_neg hcc]
          · rw [if_neg (fun q => h2 q.2.2), hu j hj]
            by_cases h1 : j < k
            · rw [if_pos h1, if_pos (by omega)]
            · rw [if_neg h1, if_neg (by omega)])
        rw [e3] at r1
        refine ⟨x, u', ?_, r2, r3⟩
        unfold itr fT_shares_28_30_L109
        simp only [nm]
        rw [show (40 : Int32) = nI 40 from rfl, if_neg (nI_ge hkn (by omega)), if_neg hle, inB_nI hkn (by omega), if_pos rfl, nI_clamp (by omega), hwk, nI_1, if_neg hc]
        exact r1
  obtain ⟨x, u', r1, r2, r3⟩ := key 40 0 tt_fuel (fillL w 30 0 (shQ A S W) 40) (by omega) (by unfold tt_fuel; omega) (FrR.fill _ _) (fun j hj => by rw [fillL_rd, if_pos ⟨rfl, rfl, hj⟩, if_neg (by omega)])
  refine ⟨u'.2, ?_, r2, r3⟩
  unfold fT_shares_28_30
  rw [e0]
  simp only [Option.bind_some]
  rw [e1]
  simp only [Option.bind_some]
  have r1' : itr fT_shares_28_30_L109 tt_fuel (shR A S W 40, (0 : Int32), fillL w 30 0 (shQ A S W) 40) = some (x, u') := r1
  rw [r1']
  rfl
theorem c_shares_29_30 {w : tt_St} {A : Int64} (hr : 0 ≤ (shR A (sumL (rdL w 29 0) 40) (rdL w 29 0) 40).toInt) : ∃ w', fT_shares_29_30 w A = some w' ∧ FrR 30 w w' ∧ ∀ j, j < 40 → rdL w' 30 0 j = shV A (sumL (rdL w 29 0) 40) (rdL w 29 0) 40 j := by
  generalize hW : rdL w 29 0 = W at hr ⊢
  generalize hS : sumL W 40 = S at hr ⊢
  have e0 : itr (fT_shares_29_30_L17 w) tt_fuel ((0 : Int64), (0 : Int32)) = some (S, nI 40) := by
    have h := itr_run (body := fT_shares_29_30_L17 w) (fun i => (sumL W i, nI i)) 40 (sumL W 40, nI 40) (by omega) (fun i hi => by
      unfold fT_shares_29_30_L17
      simp only [nm]
      rw [show (40 : Int32) = nI 40 from rfl, if_neg (nI_ge hi (by omega)), inB_nI hi (by omega), if_pos rfl, nI_clamp (by omega), nI_1, hW]
      rfl) (by
      unfold fT_shares_29_30_L17
      rw [show (40 : Int32) = nI 40 from rfl, if_pos (nI_le (Nat.le_refl _) (by omega))])
    rw [hS] at h
    exact h
  have e1 : itr (fT_shares_29_30_L47 A (S, nI 40)) tt_fuel (A, (0 : Int32), w) = some (shR A S W 40, nI 40, fillL w 30 0 (shQ A S W) 40) := by
    refine itr_run (fun i => (shR A S W i, nI i, fillL w 30 0 (shQ A S W) i)) 40 _ (by omega) (fun i hi => ?_) ?_
    · unfold fT_shares_29_30_L47
      simp only [nm]
      have hfl : rdL (fillL w 30 0 (shQ A S W) i) 29 0 i = W i := by rw [fillL_rd, if_neg (by omega), hW]
      rw [show (40 : Int32) = nI 40 from rfl, if_neg (nI_ge hi (by omega)), inB_nI hi (by omega), nI_clamp (by omega), hfl]
      have q : (if S = 0 then some (0 : Int64) else if ¬ S = 0 then if true = true then some (A / S * W i + (A - A / S * S) * W i / S) else none else none : Option Int64) = some (shQ A S W i) := by
        unfold shQ shP
        by_cases h : S = 0
        · rw [if_pos h, if_pos h]
        · rw [if_neg h, if_neg h, if_pos h, if_pos rfl]
      rw [q]
      simp only [Option.bind_some]
      rw [if_pos trivial, rdL_wrL, if_pos ⟨rfl, rfl, rfl⟩, nI_1]
      rfl
    · unfold fT_shares_29_30_L47
      rw [show (40 : Int32) = nI 40 from rfl, if_pos (nI_le (Nat.le_refl _) (by omega))]
  have key : ∀ d k m u, k + d = 40 → d < m → FrR 30 w u → (∀ j, j < 40 → rdL u 30 0 j = if j < k then shV A S W 40 j else shQ A S W j) → ∃ x u', itr fT_shares_29_30_L109 m (shO W (shR A S W 40) k, nI k, u) = some (x, u') ∧ FrR 30 w u'.2 ∧ ∀ j, j < 40 → rdL u'.2 30 0 j = shV A S W 40 j := by
    intro d
    induction d with
    | zero =>
      intro k m u hk hm F hu
      obtain ⟨m, rfl⟩ : ∃ q, m = q + 1 := ⟨m - 1, by omega⟩
      have : k = 40 := by omega
      subst this
      refine ⟨shO W (shR A S W 40) 40, (nI 40, u), ?_, F, fun j hj => by rw [hu j hj, if_pos hj]⟩
      unfold itr fT_shares_29_30_L109
      rw [show (40 : Int32) = nI 40 from rfl, if_pos (nI_le (Nat.le_refl _) (by omega))]
    | succ d ih =>
      intro k m u hk hm F hu
      obtain ⟨m, rfl⟩ : ∃ q, m = q + 1 := ⟨m - 1, by omega⟩
      have hkn : k < 40 := by omega
      have hwk : rdL u 29 0 k = W k := by rw [F.l 29 0 k (by omega), ← hW]
      have hp := (shO_pos (W := W) hr k).1
      by_cases h1 : shO W (shR A S W 40) k = 0
      · refine ⟨shO W (shR A S W 40) k, (nI k, u), ?_, F, fun j hj => ?_⟩
        · unfold itr fT_shares_29_30_L109
          rw [show (40 : Int32) = nI 40 from rfl, if_neg (nI_ge hkn (by omega)), if_pos (by rw [h1]; exact i64_le.mpr (Int.le_refl _))]
        · rw [hu j hj]
          by_cases h2 : j < k
          · rw [if_pos h2]
          · rw [if_neg h2]
            unfold shV
            have := shO_zero h1 (j - k)
            rw [show k + (j - k) = j by omega] at this
            rw [if_pos (Or.inl this)]
      have hle : ¬ shO W (shR A S W 40) k ≤ 0 := fun q => h1 (i64_ext (by have := i64_le.mp q; rw [i64_0] at this ⊢; omega))
      by_cases hc : W k = 0
      · have e3 : shO W (shR A S W 40) (k + 1) = shO W (shR A S W 40) k := by show (if _ then _ else _) = _; rw [if_pos (Or.inr hc)]
        obtain ⟨x, u', r1, r2, r3⟩ := ih (k + 1) m u (by omega) (by omega) F (fun j hj => by
          rw [hu j hj]
          by_cases h1 : j < k
          · rw [if_pos h1, if_pos (by omega)]
          · rw [if_neg h1]
            by_cases h2 : j = k
            · subst h2; rw [if_pos (by omega)]; unfold shV; rw [if_pos (Or.inr hc)]
            · rw [if_neg (by omega)])
        rw [e3] at r1
        refine ⟨x, u', ?_, r2, r3⟩
        unfold itr fT_shares_29_30_L109
        simp only [nm]
        rw [show (40 : Int32) = nI 40 from rfl, if_neg (nI_ge hkn (by omega)), if_neg hle, inB_nI hkn (by omega), if_pos rfl, nI_clamp (by omega), hwk, nI_1, if_pos hc]
        exact r1
      · have hcc : ¬ (shO W (shR A S W 40) k = 0 ∨ W k = 0) := fun q => q.elim h1 hc
        have e3 : shO W (shR A S W 40) (k + 1) = shO W (shR A S W 40) k - 1 := by show (if _ then _ else _) = _; rw [if_neg hcc]
        obtain ⟨x, u', r1, r2, r3⟩ := ih (k + 1) m (wrL u 30 0 k (rdL u 30 0 k + 1)) (by omega) (by omega) (F.trans (FrR.w _ _)) (fun j hj => by
          rw [rdL_wrL]
          by_cases h2 : j = k
          · subst h2; rw [if_pos ⟨rfl, rfl, rfl⟩, if_pos (by omega), hu j hj, if_neg (by omega)]; unfold shV; rw [if_neg hcc]
          · rw [if_neg (fun q => h2 q.2.2), hu j hj]
            by_cases h1 : j < k
            · rw [if_pos h1, if_pos (by omega)]
            · rw [if_neg h1, if_neg (by omega)])
        rw [e3] at r1
        refine ⟨x, u', ?_, r2, r3⟩
        unfold itr fT_shares_29_30_L109
        simp only [nm]
        rw [show (40 : Int32) = nI 40 from rfl, if_neg (nI_ge hkn (by omega)), if_neg hle, inB_nI hkn (by omega), if_pos rfl, nI_clamp (by omega), hwk, nI_1, if_neg hc]
        exact r1
  obtain ⟨x, u', r1, r2, r3⟩ := key 40 0 tt_fuel (fillL w 30 0 (shQ A S W) 40) (by omega) (by unfold tt_fuel; omega) (FrR.fill _ _) (fun j hj => by rw [fillL_rd, if_pos ⟨rfl, rfl, hj⟩, if_neg (by omega)])
  refine ⟨u'.2, ?_, r2, r3⟩
  unfold fT_shares_29_30
  rw [e0]
  simp only [Option.bind_some]
  rw [e1]
  simp only [Option.bind_some]
  have r1' : itr fT_shares_29_30_L109 tt_fuel (shR A S W 40, (0 : Int32), fillL w 30 0 (shQ A S W) 40) = some (x, u') := r1
  rw [r1']
  rfl
/-! what shares are worth -/
def sumZ (f : Nat → Int) : Nat → Int
  | 0 => 0
  | n + 1 => sumZ f n + f n
theorem sumZ_nonneg {f : Nat → Int} : ∀ {n}, (∀ i, i < n → 0 ≤ f i) → 0 ≤ sumZ f n
  | 0, _ => Int.le_refl _
  | n + 1, h => by have := sumZ_nonneg (fun i hi => h i (Nat.lt_succ_of_lt hi)); have := h n (Nat.lt_succ_self n); show 0 ≤ sumZ f n + f n; omega
theorem sumZ_le {f : Nat → Int} {b : Int} : ∀ {n : Nat}, (∀ i, i < n → f i ≤ b) → sumZ f n ≤ n * b
  | 0, _ => by simp [sumZ]
  | n + 1, h => by
    have h1 := sumZ_le (fun i hi => h i (Nat.lt_succ_of_lt hi))
    have h2 := h n (Nat.lt_succ_self n)
    show sumZ f n + f n ≤ ((n + 1 : Nat) : Int) * b
    rw [Int.natCast_add, Int.add_mul]
    simp only [Int.natCast_one, Int.one_mul]
    omega
theorem sumZ_mem {f : Nat → Int} : ∀ {n k : Nat}, (∀ i, i < n → 0 ≤ f i) → k < n → f k ≤ sumZ f n
  | n + 1, k, h, hk => by
    show f k ≤ sumZ f n + f n
    by_cases e : k = n
    · subst e
      have := sumZ_nonneg (fun i hi => h i (Nat.lt_succ_of_lt hi))
      omega
    · have := sumZ_mem (fun i hi => h i (Nat.lt_succ_of_lt hi)) (show k < n by omega)
      have := h n (Nat.lt_succ_self n)
      omega
theorem sumL_toInt {W : Nat → Int64} {b : Int} (hb : 0 ≤ b) : ∀ {n : Nat}, (n : Int) * b < 2 ^ 62 → (∀ i, i < n → 0 ≤ (W i).toInt ∧ (W i).toInt ≤ b) → (sumL W n).toInt = sumZ (fun i => (W i).toInt) n
  | 0, _, _ => rfl
  | n + 1, hn, h => by
    rw [Int.natCast_add, Int.add_mul] at hn
    simp only [Int.natCast_one, Int.one_mul] at hn
    have h1 := sumL_toInt hb (n := n) (by omega) (fun i hi => h i (Nat.lt_succ_of_lt hi))
    have h2 := h n (Nat.lt_succ_self n)
    have h3 := sumZ_nonneg (f := fun i => (W i).toInt) (n := n) (fun i hi => (h i (Nat.lt_succ_of_lt hi)).1)
    have h4 := sumZ_le (f := fun i => (W i).toInt) (n := n) (b := b) (fun i hi => (h i (Nat.lt_succ_of_lt hi)).2)
    show (sumL W n + W n).toInt = sumZ (fun i => (W i).toInt) n + (W n).toInt
    rw [i64_add] <;> rw [h1] <;> omega
/-- one share, cut -/
theorem shP_toInt {A S w : Int64} (hA : 0 ≤ A.toInt) (hS : 0 < S.toInt) (hw : 0 ≤ w.toInt) (hws : w.toInt ≤ S.toInt) (hA2 : A.toInt < 2 ^ 60) (hb : S.toInt * w.toInt < 2 ^ 62) : (shP A S w).toInt = A.toInt / S.toInt * w.toInt + A.toInt % S.toInt * w.toInt / S.toInt := by
  have d1 : (A / S).toInt = A.toInt / S.toInt := i64_div hA hS
  have q0 : 0 ≤ A.toInt / S.toInt := Int.ediv_nonneg hA (Int.le_of_lt hS)
  have q1 : A.toInt / S.toInt * S.toInt ≤ A.toInt := Int.ediv_mul_le _ (Int.ne_of_gt hS)
  have q2 : A.toInt / S.toInt * w.toInt ≤ A.toInt / S.toInt * S.toInt := Int.mul_le_mul_of_nonneg_left hws q0
  have q3 : 0 ≤ A.toInt / S.toInt * w.toInt := Int.mul_nonneg q0 hw
  have q3' : 0 ≤ A.toInt / S.toInt * S.toInt := Int.mul_nonneg q0 (Int.le_of_lt hS)
  have d2 : (A / S * w).toInt = A.toInt / S.toInt * w.toInt := by rw [i64_mul] <;> rw [d1] <;> omega
  have d3 : (A / S * S).toInt = A.toInt / S.toInt * S.toInt := by rw [i64_mul] <;> rw [d1] <;> omega
  have m1 : A.toInt - A.toInt / S.toInt * S.toInt = A.toInt % S.toInt := by
    have := Int.emod_add_mul_ediv A.toInt S.toInt
    rw [Int.mul_comm] at this
    omega
  have m2 : 0 ≤ A.toInt % S.toInt := Int.emod_nonneg _ (Int.ne_of_gt hS)
  have m3 : A.toInt % S.toInt < S.toInt := Int.emod_lt_of_pos _ hS
  have d4 : (A - A / S * S).toInt = A.toInt % S.toInt := by rw [i64_sub] <;> rw [d3] <;> omega
  have m4 : A.toInt % S.toInt * w.toInt ≤ S.toInt * w.toInt := Int.mul_le_mul_of_nonneg_right (Int.le_of_lt m3) hw
  have m5 : 0 ≤ A.toInt % S.toInt * w.toInt := Int.mul_nonneg m2 hw
  have d5 : ((A - A / S * S) * w).toInt = A.toInt % S.toInt * w.toInt := by rw [i64_mul] <;> rw [d4] <;> omega
  have d6 : ((A - A / S * S) * w / S).toInt = A.toInt % S.toInt * w.toInt / S.toInt := by rw [i64_div (by omega) hS, d5]
  have m6 : A.toInt % S.toInt * w.toInt / S.toInt ≤ w.toInt := by
    have h1 : A.toInt % S.toInt * w.toInt / S.toInt ≤ S.toInt * w.toInt / S.toInt := Int.ediv_le_ediv hS m4
    rw [Int.mul_ediv_cancel_left _ (Int.ne_of_gt hS)] at h1
    exact h1
  have m7 : 0 ≤ A.toInt % S.toInt * w.toInt / S.toInt := Int.ediv_nonneg m5 (Int.le_of_lt hS)
  unfold shP
  have hw9 := Int.mul_le_mul_of_nonneg_right (show (1 : Int) ≤ S.toInt by omega) hw
  rw [Int.one_mul] at hw9
  rw [i64_add] <;> rw [d2, d6] <;> omega
/-- of all shares, cut, no more than the amount -/
theorem sumZ_div {x : Nat → Int} {S : Int} (hS : 0 < S) : ∀ n, (∀ i, i < n → 0 ≤ x i) → sumZ (fun i => x i / S) n * S ≤ sumZ x n
  | 0, _ => by simp [sumZ]
  | n + 1, h => by
    have h1 := sumZ_div hS n (fun i hi => h i (Nat.lt_succ_of_lt hi))
    have h2 : x n / S * S ≤ x n := Int.ediv_mul_le _ (Int.ne_of_gt hS)
    show (sumZ (fun i => x i / S) n + x n / S) * S ≤ sumZ x n + x n
    rw [Int.add_mul]
    omega
theorem sumZ_mul {f : Nat → Int} {c : Int} : ∀ n, sumZ (fun i => c * f i) n = c * sumZ f n
  | 0 => by simp [sumZ]
  | n + 1 => by show sumZ (fun i => c * f i) n + c * f n = c * (sumZ f n + f n); rw [sumZ_mul n, Int.mul_add]
theorem sumZ_add {f g : Nat → Int} : ∀ n, sumZ (fun i => f i + g i) n = sumZ f n + sumZ g n
  | 0 => rfl
  | n + 1 => by show sumZ (fun i => f i + g i) n + (f n + g n) = sumZ f n + f n + (sumZ g n + g n); rw [sumZ_add n]; omega
theorem sumZ_congr {f g : Nat → Int} : ∀ {n}, (∀ i, i < n → f i = g i) → sumZ f n = sumZ g n
  | 0, _ => rfl
  | n + 1, h => by show sumZ f n + f n = sumZ g n + g n; rw [sumZ_congr (fun i hi => h i (by omega)), h n (by omega)]
theorem sumZ_mono {f : Nat → Int} {n : Nat} (h : ∀ i, i < n → 0 ≤ f i) : ∀ k, k ≤ n → sumZ f k ≤ sumZ f n := by
  intro k hk
  obtain ⟨d, rfl⟩ := Nat.exists_eq_add_of_le hk
  clear hk
  induction d with
  | zero => exact Int.le_refl _
  | succ d ih =>
    have h1 := ih (fun i hi => h i (by omega))
    have h2 := h (k + d) (by omega)
    show sumZ f k ≤ sumZ f (k + d) + f (k + d)
    omega
/-- weights that are fit for shares -/
def ShW (A : Int64) (W : Nat → Int64) (n : Nat) : Prop :=
  (0 ≤ A.toInt) ∧
  (A.toInt < 2 ^ 60) ∧
  (∃ b : Int, 0 ≤ b ∧ (n : Int) * b < 2 ^ 62 ∧ (n : Int) * b * b < 2 ^ 62 ∧ ∀ i, i < n → 0 ≤ (W i).toInt ∧ (W i).toInt ≤ b)
theorem ShW.a0 {A : Int64} {W : Nat → Int64} {n : Nat} (self_ : ShW A W n) : 0 ≤ A.toInt := self_.1
theorem ShW.a1 {A : Int64} {W : Nat → Int64} {n : Nat} (self_ : ShW A W n) : A.toInt < 2 ^ 60 := self_.2.1
theorem ShW.b {A : Int64} {W : Nat → Int64} {n : Nat} (self_ : ShW A W n) : ∃ b : Int, 0 ≤ b ∧ (n : Int) * b < 2 ^ 62 ∧ (n : Int) * b * b < 2 ^ 62 ∧ ∀ i, i < n → 0 ≤ (W i).toInt ∧ (W i).toInt ≤ b := self_.2.2
theorem ShW.sum {A : Int64} {W : Nat → Int64} {n : Nat} (H : ShW A W n) : (sumL W n).toInt = sumZ (fun i => (W i).toInt) n ∧ 0 ≤ sumZ (fun i => (W i).toInt) n ∧ (∀ i, i < n → 0 ≤ (W i).toInt ∧ (W i).toInt ≤ (sumL W n).toInt) ∧ ∀ i, i < n → (sumL W n).toInt * (W i).toInt < 2 ^ 62 := by
  obtain ⟨b, b0, b1, b2, b3⟩ := H.b
  have h1 := sumL_toInt b0 b1 b3
  have h2 := sumZ_nonneg (f := fun i => (W i).toInt) (n := n) (fun i hi => (b3 i hi).1)
  have h3 := sumZ_le (f := fun i => (W i).toInt) (n := n) (b := b) (fun i hi => (b3 i hi).2)
  refine ⟨h1, h2, fun i hi => ⟨(b3 i hi).1, by rw [h1]; exact sumZ_mem (f := fun i => (W i).toInt) (fun i hi => (b3 i hi).1) hi⟩, fun i hi => ?_⟩
  have h4 : (sumL W n).toInt * (W i).toInt ≤ (sumL W n).toInt * b := Int.mul_le_mul_of_nonneg_left (b3 i hi).2 (by rw [h1]; exact h2)
  have h5 : (sumL W n).toInt * b ≤ (n : Int) * b * b := Int.mul_le_mul_of_nonneg_right (by rw [h1]; exact h3) b0
  omega
theorem shQ_bd {A : Int64} {W : Nat → Int64} {n : Nat} (H : ShW A W n) {i : Nat} (hi : i < n) : 0 ≤ (shQ A (sumL W n) W i).toInt ∧ (¬ sumL W n = 0 → (shQ A (sumL W n) W i).toInt = A.toInt / (sumL W n).toInt * (W i).toInt + A.toInt % (sumL W n).toInt * (W i).toInt / (sumL W n).toInt) := by
  obtain ⟨h1, h2, h3, h4⟩ := H.sum
  unfold shQ
  by_cases h : sumL W n = 0
  · rw [if_pos h]; exact ⟨Int.le_refl _, fun q => absurd h q⟩
  · rw [if_neg h]
    have hS : 0 < (sumL W n).toInt := by
      have : ¬ (sumL W n).toInt = 0 := fun e => h (i64_ext (by rw [e]; rfl))
      rw [h1] at this ⊢
      omega
    have e := shP_toInt H.a0 hS (h3 i hi).1 (h3 i hi).2 H.a1 (h4 i hi)
    refine ⟨?_, fun _ => e⟩
    rw [e]
    have q0 : 0 ≤ A.toInt / (sumL W n).toInt := Int.ediv_nonneg H.a0 (Int.le_of_lt hS)
    have q3 : 0 ≤ A.toInt / (sumL W n).toInt * (W i).toInt := Int.mul_nonneg q0 (h3 i hi).1
    have m2 : 0 ≤ A.toInt % (sumL W n).toInt := Int.emod_nonneg _ (Int.ne_of_gt hS)
    have m7 : 0 ≤ A.toInt % (sumL W n).toInt * (W i).toInt / (sumL W n).toInt := Int.ediv_nonneg (Int.mul_nonneg m2 (h3 i hi).1) (Int.le_of_lt hS)
    omega
theorem shQ_sum {A : Int64} {W : Nat → Int64} {n : Nat} (H : ShW A W n) : sumZ (fun i => (shQ A (sumL W n) W i).toInt) n ≤ A.toInt := by
  obtain ⟨h1, h2, h3, h4⟩ := H.sum
  by_cases h : sumL W n = 0
  · rw [sumZ_congr (g := fun _ => 0 * (0 : Int)) (fun i hi => by show (shQ A (sumL W n) W i).toInt = _; unfold shQ; rw [if_pos h]; rfl), sumZ_mul]
    have := H.a0
    omega
  · have hS : 0 < (sumL W n).toInt := by
      have : ¬ (sumL W n).toInt = 0 := fun e => h (i64_ext (by rw [e]; rfl))
      rw [h1] at this ⊢
      omega
    have e1 : sumZ (fun i => (shQ A (sumL W n) W i).toInt) n = sumZ (fun i => A.toInt / (sumL W n).toInt * (W i).toInt + A.toInt % (sumL W n).toInt * (W i).toInt / (sumL W n).toInt) n := sumZ_congr (fun i hi => (shQ_bd H hi).2 h)
    have m2 : 0 ≤ A.toInt % (sumL W n).toInt := Int.emod_nonneg _ (Int.ne_of_gt hS)
    have e2 := sumZ_div (x := fun i => A.toInt % (sumL W n).toInt * (W i).toInt) hS n (fun i hi => Int.mul_nonneg m2 (h3 i hi).1)
    rw [sumZ_mul (f := fun i => (W i).toInt), ← h1] at e2
    have e3 : sumZ (fun i => A.toInt % (sumL W n).toInt * (W i).toInt / (sumL W n).toInt) n ≤ A.toInt % (sumL W n).toInt := Int.le_of_mul_le_mul_right e2 hS
    rw [e1, sumZ_add, sumZ_mul (f := fun i => (W i).toInt), ← h1]
    have e4 := Int.emod_add_mul_ediv A.toInt (sumL W n).toInt
    rw [Int.mul_comm] at e4
    omega
theorem shR_toInt {A : Int64} {W : Nat → Int64} {n : Nat} (H : ShW A W n) : ∀ k, k ≤ n → (shR A (sumL W n) W k).toInt = A.toInt - sumZ (fun i => (shQ A (sumL W n) W i).toInt) k := by
  intro k
  induction k with
  | zero => intro _; show A.toInt = A.toInt - 0; omega
  | succ k ih =>
    intro hk
    have h1 := ih (by omega)
    have h2 := sumZ_mono (f := fun i => (shQ A (sumL W n) W i).toInt) (n := n) (fun i hi => (shQ_bd H hi).1) (k + 1) hk
    have h3 := shQ_sum H
    have h4 := sumZ_nonneg (f := fun i => (shQ A (sumL W n) W i).toInt) (n := k + 1) (fun i hi => (shQ_bd H (by omega)).1)
    have h5 : sumZ (fun i => (shQ A (sumL W n) W i).toInt) (k + 1) = sumZ (fun i => (shQ A (sumL W n) W i).toInt) k + (shQ A (sumL W n) W k).toInt := rfl
    have h6 := i64_hi A
    have h7 := (shQ_bd H (show k < n by omega)).1
    show (shR A (sumL W n) W k - shQ A (sumL W n) W k).toInt = _
    rw [i64_sub] <;> rw [h1] <;> omega
theorem shR_pos {A : Int64} {W : Nat → Int64} {n : Nat} (H : ShW A W n) : 0 ≤ (shR A (sumL W n) W n).toInt := by
  rw [shR_toInt H n (Nat.le_refl _)]
  have := shQ_sum H
  omega
theorem shV_pos {A : Int64} {W : Nat → Int64} {n k : Nat} (H : ShW A W n) (hk : k < n) : 0 ≤ (shV A (sumL W n) W n k).toInt ∧ (shV A (sumL W n) W n k).toInt ≤ A.toInt + 1 := by
  have h1 := shQ_bd H hk
  have h2 := shQ_sum H
  have h3 := sumZ_mem (f := fun i => (shQ A (sumL W n) W i).toInt) (fun i hi => (shQ_bd H hi).1) hk
  have h4 := H.a1
  unfold shV
  split
  · omega
  · rw [i64_add] <;> rw [show (1 : Int64).toInt = 1 from rfl] <;> omega
/-- where the amount is no more than all weights, no share is more than its weight -/
theorem shV_le {A : Int64} {W : Nat → Int64} {n k : Nat} (H : ShW A W n) (hk : k < n) (hA : A.toInt ≤ (sumL W n).toInt) : (shV A (sumL W n) W n k).toInt ≤ (W k).toInt := by
  obtain ⟨h1, h2, h3, h4⟩ := H.sum
  have ha := H.a0
  by_cases h : sumL W n = 0
  · have hA0 : A.toInt = 0 := by rw [h, i64_0] at hA; omega
    have q : ∀ j, shR A (sumL W n) W j = A := by
      intro j
      induction j with
      | zero => rfl
      | succ j ih => show shR A (sumL W n) W j - shQ A (sumL W n) W j = A; rw [ih]; unfold shQ; rw [if_pos h]; simp
    have q2 : shO W (shR A (sumL W n) W n) k = 0 := by
      have := shO_zero (W := W) (r := shR A (sumL W n) W n) (k := 0) (by show shR A (sumL W n) W n = 0; rw [q]; exact i64_ext hA0) k
      rwa [Nat.zero_add] at this
    unfold shV
    rw [if_pos (Or.inl q2)]
    unfold shQ
    rw [if_pos h]
    exact (h3 k hk).1
  · have hS : 0 < (sumL W n).toInt := by
      have : ¬ (sumL W n).toInt = 0 := fun e => h (i64_ext (by rw [e]; rfl))
      rw [h1] at this ⊢
      omega
    have e := (shQ_bd H hk).2 h
    rcases Int.lt_or_eq_of_le hA with hl | hl
    · -- less than all
      have d0 : A.toInt / (sumL W n).toInt = 0 := Int.ediv_eq_zero_of_lt ha hl
      have d1 : A.toInt % (sumL W n).toInt = A.toInt := Int.emod_eq_of_lt ha hl
      rw [d0, d1, Int.zero_mul, Int.zero_add] at e
      unfold shV
      by_cases hw : W k = 0
      · rw [if_pos (Or.inr hw), e, hw, i64_0]
        simp
      · have hw1 : 0 < (W k).toInt := by
          have : ¬ (W k).toInt = 0 := fun e => hw (i64_ext (by rw [e]; rfl))
          have := (h3 k hk).1
          omega
        have d2 : A.toInt * (W k).toInt / (sumL W n).toInt < (W k).toInt := by
          apply Int.ediv_lt_of_lt_mul hS
          rw [Int.mul_comm (W k).toInt]
          exact Int.mul_lt_mul_of_pos_right hl hw1
        have d3 := (shQ_bd H hk).1
        split
        · omega
        · rw [i64_add] <;> rw [show (1 : Int64).toInt = 1 from rfl] <;> have := i64_hi (W k) <;> omega
    · -- all of it
      have d0 : A.toInt / (sumL W n).toInt = 1 := by rw [hl]; exact Int.ediv_self (Int.ne_of_gt hS)
      have d1 : A.toInt % (sumL W n).toInt = 0 := by rw [hl]; exact Int.emod_self
      have qq : ∀ i, i < n → (shQ A (sumL W n) W i).toInt = (W i).toInt := by
        intro i hi
        rw [(shQ_bd H hi).2 h, d0, d1]
        simp
      have r0 : (shR A (sumL W n) W n).toInt = 0 := by
        rw [shR_toInt H n (Nat.le_refl _), sumZ_congr (g := fun i => (W i).toInt) qq, ← h1]
        omega
      have q2 : shO W (shR A (sumL W n) W n) k = 0 := by
        have := shO_zero (W := W) (r := shR A (sumL W n) W n) (k := 0) (by show shR A (sumL W n) W n = 0; exact i64_ext r0) k
        rwa [Nat.zero_add] at this
      unfold shV
      rw [if_pos (Or.inl q2), qq k hk]
      exact Int.le_refl _
