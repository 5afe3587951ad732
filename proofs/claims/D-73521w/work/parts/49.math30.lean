set_option linter.unusedVariables false
set_option linter.unusedSimpArgs false
set_option maxRecDepth 100000
/-! PLAIN LAW: a layer is placed, both sides -/
theorem nI_m1 {k : Nat} (h : 0 < k) : nI k + (-1) = nI (k - 1) := by
  obtain ⟨j, rfl⟩ : ∃ j, k = j + 1 := ⟨k - 1, by omega⟩
  have : nI (j + 1) + (-1) = nI (j + 1) - 1 := by rw [Int32.sub_eq_add_neg]
  rw [this, nI_pred]
  rfl
def meetB (a : TS) (f s x : Nat) : Prop := ¬ (f + s ≤ a.fr x) ∧ ¬ (a.top x ≤ f)
theorem c_meets {w : tt_St} {a : TS} (C : CS w a) (O : a.Ok) {x f s : Nat} (hx : x < 40) (ht : a.there x = true) (hf : f ≤ 900000000) (hs : s ≤ 100000000) : ∃ r, fY_meets w x (nI f) (nI s) = some r ∧ ((r = 0 ∧ ¬ meetB a f s x) ∨ (r = 1 ∧ meetB a f s x)) := by
  have h1 := O.fr9 x hx ht
  have h2 := O.sz1 x hx ht
  have h3 : a.top x = a.fr x + a.sz x := rfl
  unfold fY_meets
  rw [nI_add, C.fr x hx ht, c_top C O hx ht, Option.bind_some]
  unfold meetB
  by_cases e1 : f + s ≤ a.fr x
  · rw [if_pos (nI_le e1 (by omega))]
    exact ⟨0, rfl, Or.inl ⟨rfl, fun z => z.1 e1⟩⟩
  · rw [if_neg (nI_ge (by omega) (by omega))]
    by_cases e2 : a.top x ≤ f
    · rw [if_pos (nI_le e2 (by omega))]
      exact ⟨0, rfl, Or.inl ⟨rfl, fun z => z.2 e2⟩⟩
    · rw [if_neg (nI_ge (by omega) (by omega))]
      exact ⟨1, rfl, Or.inr ⟨rfl, e1, e2⟩⟩
theorem c_noMeet {w : tt_St} {a : TS} (C : CS w a) (O : a.Ok) {y f s : Nat} (hy : y < 12) (hf : f ≤ 900000000) (hs : s ≤ 100000000) : ∃ b, itr (fW_places_L33 w (nI y) (nI f) (nI s)) tt_fuel (0 : Int32) = some b ∧ (((∃ k, k < a.n y ∧ meetB a f s (a.rg y k)) ∧ b = .inr (0, w)) ∨ ((∀ k, k < a.n y → ¬ meetB a f s (a.rg y k)) ∧ ∃ x, b = .inl x)) := by
  have h6 := O.n6 y hy
  have hk_ := itr_brk (body := fW_places_L33 w (nI y) (nI f) (nI s)) (fun k (_ : Unit) => nI k) (fun k _ => ∀ j, j < k → ¬ meetB a f s (a.rg y j)) (fun b => ((∃ k, k < a.n y ∧ meetB a f s (a.rg y k)) ∧ b = .inr (0, w)) ∨ ((∀ k, k < a.n y → ¬ meetB a f s (a.rg y k)) ∧ ∃ x, b = .inl x)) (a.n y) () (by omega) (fun j hj => by omega) (fun k _ hk hI => ?_) (fun _ hI => ?_)
  · exact hk_
  · obtain ⟨r, r1, r2⟩ := c_meets C O (f := f) (s := s) (O.rg40 y k hy hk) (O.rgT y k hy hk) hf hs
    unfold fW_places_L33
    rw [nI_clamp (show y < 2 ^ 31 by omega), C.many y hy, if_neg (nI_ge hk (by omega)), c_layerAt C O hy hk, Option.bind_some, r1, Option.bind_some]
    rcases r2 with ⟨rfl, q⟩ | ⟨rfl, q⟩
    · left
      rw [if_pos rfl, nI_1]
      refine ⟨(), rfl, fun j hj => ?_⟩
      by_cases z : j = k
      · rw [z]; exact q
      · exact hI j (by omega)
    · right
      rw [if_neg (by decide)]
      exact ⟨_, rfl, Or.inl ⟨⟨k, hk, q⟩, rfl⟩⟩
  · refine ⟨.inl (nI (a.n y)), ?_, Or.inr ⟨hI, _, rfl⟩⟩
    unfold fW_places_L33
    rw [nI_clamp (show y < 2 ^ 31 by omega), C.many y hy, if_pos (nI_le (Nat.le_refl _) (by omega))]
theorem m_isIn {t : tt_St} {a : TS} (M : MS t a) (O : a.Ok) {x y : Nat} (hx : x < 40) (hy : y < 12) : fM_isIn t (nI x) (nI y) = some (b2i (a.there x && decide (a.yr x = y))) := by
  unfold fM_isIn
  rw [inB_nI hx (by omega), if_pos rfl, nI_clamp (by omega), M.isT x hx]
  by_cases ht : a.there x = true
  · have := (O.all x hx ht).1
    rw [ht, if_neg (show ¬ (if true = true then (1 : Int32) else 0) = 0 by decide), M.yr x hx ht]
    by_cases e : a.yr x = y
    · rw [if_pos (by rw [e])]; simp [e, b2i]
    · rw [if_neg (by rw [nI_eq (by omega) (by omega)]; exact e)]; simp [e, b2i]
  · have ht' : a.there x = false := by simpa using ht
    rw [ht', if_pos (show (if false = true then (1 : Int32) else 0) = 0 by decide)]
    rfl
theorem m_top {t : tt_St} {a : TS} (M : MS t a) {x : Nat} (hx : x < 40) (ht : a.there x = true) : fM_top t (nI x) = some (nI (a.top x)) := by
  unfold fM_top
  rw [inB_nI hx (by omega), if_pos rfl, nI_clamp (by omega), M.fr x hx ht, M.sz x hx ht, nI_add]
  rfl
theorem m_noMeet {t : tt_St} {a : TS} (M : MS t a) (O : a.Ok) {y f s : Nat} (hy : y < 12) (hf : f ≤ 900000000) (hs : s ≤ 100000000) : ∃ b, itr (fM_canPlace_L23 t (nI y) (nI f) (nI s)) tt_fuel (0 : Int32) = some b ∧ (((∃ x, x < 40 ∧ a.there x = true ∧ a.yr x = y ∧ meetB a f s x) ∧ b = .inr 0) ∨ ((∀ x, x < 40 → a.there x = true → a.yr x = y → ¬ meetB a f s x) ∧ ∃ x, b = .inl x)) := by
  have hk_ := itr_brk (body := fM_canPlace_L23 t (nI y) (nI f) (nI s)) (fun k (_ : Unit) => nI k) (fun k _ => ∀ x, x < k → a.there x = true → a.yr x = y → ¬ meetB a f s x) (fun b => ((∃ x, x < 40 ∧ a.there x = true ∧ a.yr x = y ∧ meetB a f s x) ∧ b = .inr 0) ∨ ((∀ x, x < 40 → a.there x = true → a.yr x = y → ¬ meetB a f s x) ∧ ∃ x, b = .inl x)) 40 () (by omega) (fun j hj => by omega) (fun k _ hk hI => ?_) (fun _ hI => ?_)
  · exact hk_
  · have nx : (a.there k = true → a.yr k = y → ¬ meetB a f s k) → ∃ c' : Unit, (some (.inl (nI k + 1)) : Option (Int32 ⊕ Int32 ⊕ Int32)) = some (.inl (nI (k + 1))) ∧ ∀ x, x < k + 1 → a.there x = true → a.yr x = y → ¬ meetB a f s x := fun q => by
      refine ⟨(), by rw [nI_1], fun x hx => ?_⟩
      by_cases z : x = k
      · rw [z]; exact q
      · exact hI x (by omega)
    unfold fM_canPlace_L23
    rw [L40, if_neg (nI_ge hk (by omega)), m_isIn M O hk hy, Option.bind_some]
    by_cases ht : a.there k = true
    · have h1 := O.fr9 k hk ht
      have h2 := O.sz1 k hk ht
      have h3 : a.top k = a.fr k + a.sz k := rfl
      by_cases e : a.yr k = y
      · have eb : (a.there k && decide (a.yr k = y)) = true := by simp [ht, e]
        rw [eb, if_neg (show ¬ b2i true = 0 by decide), m_top M hk ht, Option.bind_some]
        by_cases e2 : a.top k ≤ f
        · left
          rw [if_pos (nI_le e2 (by omega))]
          exact nx (fun _ _ z => z.2 e2)
        · rw [if_neg (nI_ge (by omega) (by omega)), inB_nI hk (by omega), if_pos rfl, nI_clamp (by omega), nI_add, M.fr k hk ht]
          by_cases e1 : f + s ≤ a.fr k
          · left
            rw [if_pos (nI_le e1 (by omega))]
            exact nx (fun _ _ z => z.1 e1)
          · right
            rw [if_neg (nI_ge (by omega) (by omega))]
            exact ⟨_, rfl, Or.inl ⟨⟨k, hk, ht, e, e1, e2⟩, rfl⟩⟩
      · left
        have eb : (a.there k && decide (a.yr k = y)) = false := by simp [e]
        rw [eb, if_pos (show b2i false = 0 by decide)]
        exact nx (fun _ z => absurd z e)
    · left
      have ht' : a.there k = false := by simpa using ht
      rw [ht', if_pos (show b2i (false && _) = 0 by rfl)]
      exact nx (fun z => absurd z ht)
  · refine ⟨.inl (nI 40), ?_, Or.inr ⟨hI, _, rfl⟩⟩
    unfold fM_canPlace_L23
    rw [L40, if_pos (nI_le (Nat.le_refl _) (by omega))]
/-- the component makes room among the rungs -/
theorem c_shift {w : tt_St} {a : TS} (O : a.Ok) {y f p : Nat} (hy : y < 12) (hf : f ≤ 900000000) (h6 : a.n y < 6) (hp : p ≤ a.n y) (pl : p = 0 ∨ a.fr (a.rg y (p - 1)) ≤ f) (pr : ∀ j, p ≤ j → j < a.n y → f < a.fr (a.rg y j)) (rung : ∀ k, k < a.n y → rdI w 22 y k = nI (a.rg y k)) (fr : ∀ x, x < 40 → a.there x = true → rdI w 2 x 5 = nI (a.fr x)) :
    ∃ u, itr (fW_places_L81 (nI y) (nI f)) tt_fuel (nI (a.n y), w) = some (nI p, u) ∧ u.2 = w.2 ∧ ∀ k i j, rdI u k i j = if k = 22 ∧ i = y ∧ p < j ∧ j ≤ a.n y then nI (a.rg y (j - 1)) else rdI w k i j := by
  have hk_ := itr_inv (body := fW_places_L81 (nI y) (nI f)) (fun i u => (nI (a.n y - i), u)) (fun i u => u.2 = w.2 ∧ ∀ k x j, rdI u k x j = if k = 22 ∧ x = y ∧ a.n y - i < j ∧ j ≤ a.n y then nI (a.rg y (j - 1)) else rdI w k x j) (fun b => ∃ u, b = (nI p, u) ∧ u.2 = w.2 ∧ ∀ k x j, rdI u k x j = if k = 22 ∧ x = y ∧ p < j ∧ j ≤ a.n y then nI (a.rg y (j - 1)) else rdI w k x j) (a.n y - p) w (by omega) ⟨rfl, fun k x j => by rw [if_neg (by omega)]⟩ (fun i u hi hI => ?_) (fun u hI => ?_)
  · obtain ⟨b, b1, u, rfl, b2⟩ := hk_
    exact ⟨u, b1, b2⟩
  · obtain ⟨h1, h2⟩ := hI
    have hk : a.n y - i - 1 < a.n y := by omega
    have h40 := O.rg40 y _ hy hk
    have hT := O.rgT y _ hy hk
    have hp2 := pr (a.n y - i - 1) (by omega) hk
    have f9 := O.fr9 _ h40 hT
    have r1 : rdI u 22 y (a.n y - i - 1) = nI (a.rg y (a.n y - i - 1)) := by rw [h2, if_neg (by omega)]; exact rung _ hk
    refine ⟨wrI u 22 y (a.n y - i) (nI (a.rg y (a.n y - i - 1))), ?_, h1, fun k x j => ?_⟩
    · unfold fW_places_L81 fW_layerAt
      dsimp only [nm]
      rw [if_neg (nI_nle (by omega) (by omega)), L1, pk_sub (by omega), inB_nI hy (by omega), if_pos rfl, inB_nI (show a.n y - i - 1 < 6 by omega) (by omega), if_pos rfl, nI_clamp (show y < 2 ^ 31 by omega), nI_clamp (show a.n y - i - 1 < 2 ^ 31 by omega), r1, inB_nI h40 (by omega), if_pos rfl, nI_clamp (show a.rg y (a.n y - i - 1) < 2 ^ 31 by omega), Option.bind_some]
      have r2 : rdI u 2 (a.rg y (a.n y - i - 1)) 5 = nI (a.fr (a.rg y (a.n y - i - 1))) := by rw [h2, if_neg (by omega)]; exact fr _ h40 hT
      rw [r2, if_neg (nI_ge hp2 (by omega)), if_pos rfl, inB_nI (show a.n y - i < 6 by omega) (by omega), if_pos rfl, nI_clamp (show a.n y - i < 2 ^ 31 by omega), show nI 1 = 1 from rfl, nI_m1 (show 0 < a.n y - i by omega), show a.n y - (i + 1) = a.n y - i - 1 by omega]
    · rw [rdI_wrI, h2]
      by_cases e : k = 22 ∧ x = y ∧ j = a.n y - i
      · rw [if_pos e, if_pos (by omega), e.2.2]
      · rw [if_neg e]
        by_cases e2 : k = 22 ∧ x = y ∧ a.n y - i < j ∧ j ≤ a.n y
        · rw [if_pos e2, if_pos (by omega)]
        · rw [if_neg e2, if_neg (by omega)]
  · obtain ⟨h1, h2⟩ := hI
    have ep : a.n y - (a.n y - p) = p := by omega
    rw [ep] at h2 ⊢
    refine ⟨_, ?_, u, rfl, h1, h2⟩
    unfold fW_places_L81
    by_cases p0 : p = 0
    · have : nI p ≤ 0 := by rw [p0]; decide
      dsimp only
      rw [if_pos this]
    · have hk : p - 1 < a.n y := by omega
      have h40 := O.rg40 y _ hy hk
      have hT := O.rgT y _ hy hk
      have pl' : a.fr (a.rg y (p - 1)) ≤ f := by rcases pl with z | z <;> omega
      have r1 : rdI u 22 y (p - 1) = nI (a.rg y (p - 1)) := by rw [h2, if_neg (by omega)]; exact rung _ hk
      have r2 : rdI u 2 (a.rg y (p - 1)) 5 = nI (a.fr (a.rg y (p - 1))) := by rw [h2, if_neg (by omega)]; exact fr _ h40 hT
      unfold fW_layerAt
      dsimp only
      rw [if_neg (nI_nle (by omega) (by omega)), L1, pk_sub (by omega), inB_nI hy (by omega), if_pos rfl, inB_nI (show p - 1 < 6 by omega) (by omega), if_pos rfl, nI_clamp (show y < 2 ^ 31 by omega), nI_clamp (show p - 1 < 2 ^ 31 by omega), r1, inB_nI h40 (by omega), if_pos rfl, nI_clamp (show a.rg y (p - 1) < 2 ^ 31 by omega), Option.bind_some, r2, if_pos (nI_le pl' (by omega))]
/-- the model does -/
theorem m_shift {t : tt_St} {a : TS} (O : a.Ok) {l y f p : Nat} (hl : l < 40) (hy : y < 12) (hf : f ≤ 900000000) (h6 : a.n y < 6) (hp : p ≤ a.n y) (pl : p = 0 ∨ a.fr (a.rg y (p - 1)) ≤ f) (pr : ∀ j, p ≤ j → j < a.n y → f < a.fr (a.rg y j)) (rung : ∀ k, k < a.n y → rdI t 33 0 (6 * y + k) = nI (a.rg y k)) (fr : ∀ x, x < 40 → a.there x = true → rdI t 9 0 x = nI (a.fr x)) (frl : rdI t 9 0 l = nI f) :
    ∃ u, itr (fM_stacks_L14 (nI l) (nI y)) tt_fuel (nI (a.n y), t) = some (nI p, u) ∧ u.2 = t.2 ∧ ∀ k i j, rdI u k i j = if k = 33 ∧ i = 0 ∧ 6 * y + p < j ∧ j ≤ 6 * y + a.n y then nI (a.rg y (j - 6 * y - 1)) else rdI t k i j := by
  have hk_ := itr_inv (body := fM_stacks_L14 (nI l) (nI y)) (fun i u => (nI (a.n y - i), u)) (fun i u => u.2 = t.2 ∧ ∀ k x j, rdI u k x j = if k = 33 ∧ x = 0 ∧ 6 * y + (a.n y - i) < j ∧ j ≤ 6 * y + a.n y then nI (a.rg y (j - 6 * y - 1)) else rdI t k x j) (fun b => ∃ u, b = (nI p, u) ∧ u.2 = t.2 ∧ ∀ k x j, rdI u k x j = if k = 33 ∧ x = 0 ∧ 6 * y + p < j ∧ j ≤ 6 * y + a.n y then nI (a.rg y (j - 6 * y - 1)) else rdI t k x j) (a.n y - p) t (by omega) ⟨rfl, fun k x j => by rw [if_neg (by omega)]⟩ (fun i u hi hI => ?_) (fun u hI => ?_)
  · obtain ⟨b, b1, u, rfl, b2⟩ := hk_
    exact ⟨u, b1, b2⟩
  · obtain ⟨h1, h2⟩ := hI
    have hk : a.n y - i - 1 < a.n y := by omega
    have h40 := O.rg40 y _ hy hk
    have hT := O.rgT y _ hy hk
    have hp2 := pr (a.n y - i - 1) (by omega) hk
    have f9 := O.fr9 _ h40 hT
    have r1 : rdI u 33 0 (6 * y + (a.n y - i) - 1) = nI (a.rg y (a.n y - i - 1)) := by rw [h2, if_neg (by omega), show 6 * y + (a.n y - i) - 1 = 6 * y + (a.n y - i - 1) by omega]; exact rung _ hk
    have r2 : rdI u 9 0 (a.rg y (a.n y - i - 1)) = nI (a.fr (a.rg y (a.n y - i - 1))) := by rw [h2, if_neg (by omega)]; exact fr _ h40 hT
    have r3 : rdI u 9 0 l = nI f := by rw [h2, if_neg (by omega)]; exact frl
    refine ⟨wrI u 33 0 (6 * y + (a.n y - i)) (nI (a.rg y (a.n y - i - 1))), ?_, h1, fun k x j => ?_⟩
    · unfold fM_stacks_L14
      dsimp only [nm]
      rw [if_neg (nI_nle (by omega) (by omega)), L6, ix_add, L1, pk_sub (by omega), inB_nI (show 6 * y + (a.n y - i) - 1 < 72 by omega) (by omega), if_pos rfl, nI_clamp (show 6 * y + (a.n y - i) - 1 < 2 ^ 31 by omega), r1, inB_nI h40 (by omega), if_pos rfl, nI_clamp (show a.rg y (a.n y - i - 1) < 2 ^ 31 by omega), r2, nI_clamp (show l < 2 ^ 31 by omega), r3, if_neg (nI_ge hp2 (by omega)), inB_nI (show 6 * y + (a.n y - i) < 72 by omega) (by omega), if_pos rfl, nI_clamp (show 6 * y + (a.n y - i) < 2 ^ 31 by omega), show nI 1 = 1 from rfl, nI_m1 (show 0 < a.n y - i by omega), show a.n y - (i + 1) = a.n y - i - 1 by omega]
    · rw [rdI_wrI, h2]
      by_cases e : k = 33 ∧ x = 0 ∧ j = 6 * y + (a.n y - i)
      · rw [if_pos e, if_pos (by omega), e.2.2, show 6 * y + (a.n y - i) - 6 * y - 1 = a.n y - i - 1 by omega]
      · rw [if_neg e]
        by_cases e2 : k = 33 ∧ x = 0 ∧ 6 * y + (a.n y - i) < j ∧ j ≤ 6 * y + a.n y
        · rw [if_pos e2, if_pos (by omega)]
        · rw [if_neg e2, if_neg (by omega)]
  · obtain ⟨h1, h2⟩ := hI
    have ep : a.n y - (a.n y - p) = p := by omega
    rw [ep] at h2 ⊢
    refine ⟨_, ?_, u, rfl, h1, h2⟩
    unfold fM_stacks_L14
    by_cases p0 : p = 0
    · have : nI p ≤ 0 := by rw [p0]; decide
      dsimp only
      rw [if_pos this]
    · have hk : p - 1 < a.n y := by omega
      have h40 := O.rg40 y _ hy hk
      have hT := O.rgT y _ hy hk
      have pl' : a.fr (a.rg y (p - 1)) ≤ f := by rcases pl with z | z <;> omega
      have r1 : rdI u 33 0 (6 * y + p - 1) = nI (a.rg y (p - 1)) := by rw [h2, if_neg (by omega), show 6 * y + p - 1 = 6 * y + (p - 1) by omega]; exact rung _ hk
      have r2 : rdI u 9 0 (a.rg y (p - 1)) = nI (a.fr (a.rg y (p - 1))) := by rw [h2, if_neg (by omega)]; exact fr _ h40 hT
      have r3 : rdI u 9 0 l = nI f := by rw [h2, if_neg (by omega)]; exact frl
      dsimp only
      rw [if_neg (nI_nle (by omega) (by omega)), L6, ix_add, L1, pk_sub (by omega), inB_nI (show 6 * y + p - 1 < 72 by omega) (by omega), if_pos rfl, nI_clamp (show 6 * y + p - 1 < 2 ^ 31 by omega), r1, inB_nI h40 (by omega), if_pos rfl, nI_clamp (show a.rg y (p - 1) < 2 ^ 31 by omega), r2, nI_clamp (show l < 2 ^ 31 by omega), r3, if_pos (nI_le pl' (by omega))]
