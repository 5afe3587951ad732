set_option linter.unusedVariables false
set_option linter.unusedSimpArgs false
set_option maxRecDepth 100000
/-! PLAIN LAW: what an insurer bears of all harms; insurer -/
def allV (w : tt_St) (i : Nat) : Int64 := sumL (fun h => borneV w h i) 24
theorem c_borneBy {w : tt_St} {i : Nat} (hi : i < 10) : fW_borneBy w (nI i) = some (allV w i) := by
  have l : itr (fW_borneBy_L16 w (nI i)) tt_fuel ((0 : Int64), (0 : Int32)) = some (sumL (fun h => borneV w h i) 24, nI 24) := by
    refine itr_run (fun k => (sumL (fun h => borneV w h i) k, nI k)) 24 _ (by omega) (fun k hk => ?_) ?_
    · unfold fW_borneBy_L16
      dsimp only [nm]
      rw [show (24 : Int32) = nI 24 from rfl, if_neg (nI_ge hk (by omega)), inB_nI hk (by omega), if_pos rfl, nI_clamp (by omega), c_borne hi, Option.bind_some, nI_1]
      rfl
    · unfold fW_borneBy_L16
      rw [show (24 : Int32) = nI 24 from rfl, if_pos (nI_le (Nat.le_refl _) (by omega))]
  unfold fW_borneBy
  rw [l]
  rfl
theorem sumL_zero {f : Nat → Int64} : ∀ {n : Nat}, (∀ i, i < n → f i = 0) → sumL f n = 0
  | 0, _ => rfl
  | n + 1, h => by
    have e : sumL f (n + 1) = sumL f n + f n := rfl
    rw [e, h n (by omega), sumL_zero (fun i hi => h i (by omega))]; rfl
theorem m_bearsAll {w t : tt_St} {a : TS} {c : Nat} (R : RW w t a c d0) {i : Nat} (hi : i < 10) : fM_bearsAll t (nI i) = some (allV w i) := by
  have l : itr (fM_bearsAll_L5 t (nI i)) tt_fuel ((0 : Int64), (0 : Int32)) = some (sumL (fun h => borneV w h i) 24, nI 24) := by
    refine itr_run (fun k => (sumL (fun h => borneV w h i) k, nI k)) 24 _ (by omega) (fun k hk => ?_) ?_
    · have H := R.H k hk
      have e : sumL (fun h => borneV w h i) (k + 1) = sumL (fun h => borneV w h i) k + borneV w k i := rfl
      unfold fM_bearsAll_L5
      dsimp only [nm]
      rw [show (24 : Int32) = nI 24 from rfl, if_neg (nI_ge hk (by omega)), inB_nI (show k < 25 by omega) (by omega), if_pos rfl, nI_clamp (by omega), m_bearsOf (w := w) (by omega) hi H.fell H.bore, Option.bind_some, nI_1, e]
      rcases H.i01 with z | z
      · have zz := H.z z
        have : borneV w k i = 0 := by
          unfold borneV
          by_cases g : i = 0
          · rw [if_pos g]; exact sumL_zero (fun r hr => zz.2.2.1 r hr)
          · rw [if_neg g]; exact zz.2.1 i hi
        rw [if_pos z, this]
      · rw [z, if_neg (by decide)]
    · unfold fM_bearsAll_L5
      rw [show (24 : Int32) = nI 24 from rfl, if_pos (nI_le (Nat.le_refl _) (by omega))]
  unfold fM_bearsAll
  rw [l]
  rfl
/-- a sum in which one counts at most -/
theorem sumL_one {f : Nat → Int64} {k : Nat} : ∀ {n : Nat}, (∀ i, i < n → ¬ i = k → f i = 0) → sumL f n = if k < n then f k else 0
  | 0, _ => by rw [if_neg (by omega)]; rfl
  | n + 1, h => by
    have e : sumL f (n + 1) = sumL f n + f n := rfl
    rw [e, sumL_one (fun i hi => h i (by omega))]
    by_cases g : k = n
    · rw [if_neg (by omega), if_pos (by omega), g, Int64.zero_add]
    · rw [h n (by omega) (fun z => g z.symm), Int64.add_zero]
      by_cases g2 : k < n
      · rw [if_pos g2, if_pos (by omega)]
      · rw [if_neg g2, if_neg (by omega)]
theorem c_cash {s : tt_S3} {i : Nat} (hi : i < 10) : itr (fT_insurer_L67 (nI i) s) tt_fuel ((0 : Int64), (1 : Int32)) = some (sumL (fun k => if i = 0 ∨ k + 1 = i then rdL s.1 25 0 (k + 1) else 0) 9, nI 10) := by
  have r := itr_run (body := fT_insurer_L67 (nI i) s) (fun k => (sumL (fun k => if i = 0 ∨ k + 1 = i then rdL s.1 25 0 (k + 1) else 0) k, nI (k + 1))) 9 (sumL (fun k => if i = 0 ∨ k + 1 = i then rdL s.1 25 0 (k + 1) else 0) 9, nI 10) (by omega) (fun k hk => ?_) ?_
  · exact r
  · have e : sumL (fun k => if i = 0 ∨ k + 1 = i then rdL s.1 25 0 (k + 1) else 0) (k + 1) = sumL (fun k => if i = 0 ∨ k + 1 = i then rdL s.1 25 0 (k + 1) else 0) k + (if i = 0 ∨ k + 1 = i then rdL s.1 25 0 (k + 1) else 0) := rfl
    unfold fT_insurer_L67
    dsimp only [nm]
    rw [L10, if_neg (nI_ge (show k + 1 < 10 by omega) (by omega)), inB_nI (show k + 1 < 10 by omega) (by omega), if_pos rfl, nI_clamp (show k + 1 < 2 ^ 31 by omega), nI_1, e]
    by_cases g : i = 0
    · rw [if_pos (by rw [g]; rfl), if_pos (Or.inl g)]
    · rw [if_neg (nI_ne0 (by omega) (by omega))]
      by_cases g2 : k + 1 = i
      · rw [if_pos (by rw [g2]), if_pos (Or.inr g2)]
      · rw [if_neg (by rw [nI_eq (by omega) (by omega)]; exact g2), if_neg (fun z => z.elim g g2)]
  · unfold fT_insurer_L67
    rw [L10, if_pos (nI_le (Nat.le_refl _) (by omega))]
theorem m_cashOf {w t : tt_St} {a : TS} {c : Nat} (R : RW w t a c d0) {i : Nat} (hi : i < 10) : fM_cashOf t (nI i) = some (sumL (fun k => if i = 0 ∨ k + 1 = i then rdL w 25 0 (k + 1) else 0) 9) := by
  unfold fM_cashOf
  by_cases g : i = 0
  · have l : itr (fM_cashOf_L17 t) tt_fuel ((0 : Int64), (1 : Int32)) = some (sumL (fun k => if i = 0 ∨ k + 1 = i then rdL w 25 0 (k + 1) else 0) 9, nI 10) := by
      have r := itr_run (body := fM_cashOf_L17 t) (fun k => (sumL (fun k => if i = 0 ∨ k + 1 = i then rdL w 25 0 (k + 1) else 0) k, nI (k + 1))) 9 (sumL (fun k => if i = 0 ∨ k + 1 = i then rdL w 25 0 (k + 1) else 0) 9, nI 10) (by omega) (fun k hk => ?_) ?_
      · exact r
      · have e : sumL (fun k => if i = 0 ∨ k + 1 = i then rdL w 25 0 (k + 1) else 0) (k + 1) = sumL (fun k => if i = 0 ∨ k + 1 = i then rdL w 25 0 (k + 1) else 0) k + (if i = 0 ∨ k + 1 = i then rdL w 25 0 (k + 1) else 0) := rfl
        unfold fM_cashOf_L17
        dsimp only [nm]
        rw [L10, if_neg (nI_ge (show k + 1 < 10 by omega) (by omega)), inB_nI (show k + 1 < 10 by omega) (by omega), if_pos rfl, nI_clamp (show k + 1 < 2 ^ 31 by omega), nI_1, e, if_pos (Or.inl g), (R.cash (k + 1) (by omega)).1]
      · unfold fM_cashOf_L17
        rw [L10, if_pos (nI_le (Nat.le_refl _) (by omega))]
    rw [if_pos (by rw [g]; decide), l]
    rfl
  · rw [if_neg (nI_nle (by omega) (by omega)), inB_nI hi (by omega), if_pos rfl, nI_clamp (by omega), ← (R.cash i hi).1]
    have e := sumL_one (f := fun k => if i = 0 ∨ k + 1 = i then rdL w 25 0 (k + 1) else 0) (k := i - 1) (n := 9) (fun k hk hne => if_neg (fun z => by omega))
    rw [e, if_pos (by omega), if_pos (Or.inr (by omega)), show i - 1 + 1 = i by omega]
/-- of a layer what one who signed it counts -/
def sgV (a : TS) (i l : Nat) (F : Nat → Int64) : Int64 := sumL (fun k => if a.who l k = i then F k else 0) (a.sg l)
theorem sgV_tenths {a : TS} (O : a.Ok) {i l : Nat} (hl : l < 40) (di : ∀ k k', k < a.sg l → k' < a.sg l → a.who l k = a.who l k' → k = k') (F : Nat → Int64) : (∀ k, k < a.sg l → a.who l k = i → sgV a i l F = F k) ∧ ((∀ k, k < a.sg l → ¬ a.who l k = i) → sgV a i l F = 0) := by
  refine ⟨fun k hk e => ?_, fun h => sumL_zero (fun k hk => if_neg (h k hk))⟩
  have := sumL_one (f := fun k => if a.who l k = i then F k else 0) (k := k) (n := a.sg l) (fun j hj hne => if_neg (fun z => hne (di j k hj hk (z.trans e.symm))))
  unfold sgV
  rw [this, if_pos hk, if_pos e]
def lfV (w : tt_St) (a : TS) (l : Nat) : Int64 := (nI (a.sz l)).toInt64 * (nI (a.tm l)).toInt64 - rdL w 2 l 9
theorem m_signedBy {w t : tt_St} {a : TS} {c : Nat} (R : RW w t a c d0) {i x : Nat} (hi : i < 10) (hx : x ≤ 1) : fM_signedBy t (nI i) (nI x) = some (sumL (fun l => sgV a i l (fun k => if x = 0 then 1 else lfV w a l * (nI (a.ten l k)).toInt64 / 10)) 40) := by
  have O := R.O
  have M := R.M
  obtain ⟨G, hG⟩ : ∃ G : Nat → Nat → Int64, G = fun l k => if x = 0 then 1 else lfV w a l * (nI (a.ten l k)).toInt64 / 10 := ⟨_, rfl⟩
  have hGl : ∀ l, (fun k => if x = 0 then 1 else lfV w a l * (nI (a.ten l k)).toInt64 / 10) = G l := fun l => by rw [hG]
  have lm : itr (fM_signedBy_L5 t (nI i) (nI x)) tt_fuel ((0 : Int64), (0 : Int32)) = some (sumL (fun l => sgV a i l (G l)) 40, nI 40) := by
    refine itr_run (fun l => (sumL (fun l => sgV a i l (G l)) l, nI l)) 40 _ (by omega) (fun l hl => ?_) ?_
    · have h4 := O.sg4 l hl
      have inner : ∃ z, itr (fM_signedBy_L15 t (nI i) (nI x) (sumL (fun l => sgV a i l (G l)) l, nI l)) tt_fuel (sumL (fun l => sgV a i l (G l)) l, (0 : Int32)) = some (sumL (fun l => sgV a i l (G l)) l + sgV a i l (G l), z) := by
        by_cases ht : a.there l = true
        · have el : fM_left t (nI l) = some (lfV w a l) := by rw [m_left M O hl ht, R.used l hl]; rfl
          refine ⟨nI (a.sg l), ?_⟩
          have r := itr_run (body := fM_signedBy_L15 t (nI i) (nI x) (sumL (fun l => sgV a i l (G l)) l, nI l)) (fun k => (sumL (fun l => sgV a i l (G l)) l + sumL (fun k => if a.who l k = i then G l k else 0) k, nI k)) (a.sg l) (sumL (fun l => sgV a i l (G l)) l + sgV a i l (G l), nI (a.sg l)) (by omega) (fun k hk => ?_) ?_
          · have e0 : sumL (fun l => sgV a i l (G l)) l + sumL (fun k => if a.who l k = i then G l k else 0) 0 = sumL (fun l => sgV a i l (G l)) l := Int64.add_zero _
            rw [e0] at r
            exact r
          · have hw := O.who10 l k hl hk
            have e : sumL (fun k => if a.who l k = i then G l k else 0) (k + 1) = sumL (fun k => if a.who l k = i then G l k else 0) k + (if a.who l k = i then G l k else 0) := rfl
            unfold fM_signedBy_L15
            dsimp only [nm]
            rw [inB_nI hl (by omega), if_pos rfl, nI_clamp (show l < 2 ^ 31 by omega), M.isT l hl, ht, if_neg (show ¬ (if true = true then (1 : Int32) else 0) = 0 by decide), M.sg l hl, if_neg (nI_ge hk (by omega)), L4, ix_add, inB_nI (show 4 * l + k < 160 by omega) (by omega), if_pos rfl, nI_clamp (show 4 * l + k < 2 ^ 31 by omega), M.who l k hl hk, M.ten l k hl hk, el, Option.bind_some, nI_1, e, ← Int64.add_assoc]
            by_cases g : a.who l k = i
            · rw [if_pos (by rw [g]), if_pos g, hG]
              dsimp only
              by_cases x0 : x = 0
              · rw [if_pos (by rw [x0]; rfl), if_pos x0]
              · rw [if_neg (nI_ne0 (by omega) (by omega)), if_neg x0]
            · rw [if_neg (by rw [nI_eq (by omega) (by omega)]; exact g), if_neg g, Int64.add_zero]
          · unfold fM_signedBy_L15
            rw [inB_nI hl (by omega), if_pos rfl, nI_clamp (show l < 2 ^ 31 by omega), M.isT l hl, ht, if_neg (show ¬ (if true = true then (1 : Int32) else 0) = 0 by decide), M.sg l hl, if_pos (nI_le (Nat.le_refl _) (by omega))]
            rfl
        · have ht' : a.there l = false := by simpa using ht
          have z0 : sgV a i l (G l) = 0 := by
            unfold sgV
            rw [O.sg0 l hl ht']; rfl
          refine ⟨nI 0, ?_⟩
          rw [z0, Int64.add_zero]
          refine itr_run (fun k => (sumL (fun l => sgV a i l (G l)) l, nI k)) 0 _ (by omega) (fun k hk => by omega) ?_
          unfold fM_signedBy_L15
          rw [inB_nI hl (by omega), if_pos rfl, nI_clamp (show l < 2 ^ 31 by omega), M.isT l hl, ht', if_pos (show (if false = true then (1 : Int32) else 0) = 0 by decide)]
      obtain ⟨z, hz⟩ := inner
      unfold fM_signedBy_L5
      dsimp only
      rw [L40, if_neg (nI_ge hl (by omega)), hz, Option.bind_some, nI_1]
      rfl
    · unfold fM_signedBy_L5
      rw [L40, if_pos (nI_le (Nat.le_refl _) (by omega))]
  unfold fM_signedBy
  rw [lm, Option.bind_some]
  simp only [hGl]
