set_option linter.unusedVariables false
set_option linter.unusedSimpArgs false
set_option maxRecDepth 100000
/-! PLAIN LAW: a layer is placed, joined -/
theorem m_rungOf' {v : tt_St} {b : TS} (O : b.Ok) {y k : Nat} (hy : y < 12) (hk : k < b.n y) (hH : rdI v 34 0 y = nI (b.n y)) (hR : ∀ k, k < b.n y → rdI v 33 0 (6 * y + k) = nI (b.rg y k)) : fM_rungOf v (nI y) (nI k) = some (nI (b.rg y k)) := by
  have h6 := O.n6 y hy
  unfold fM_rungOf
  rw [inB_nI hy (by omega), if_pos rfl, nI_clamp (by omega), hH, if_neg (nI_ge hk (by omega)), L6, ix_add, inB_nI (by omega) (by omega), if_pos rfl, nI_clamp (by omega), hR k hk]
theorem m_holes {u : tt_St} {b : TS} (O : b.Ok) {y : Nat} (hy : y < 12) (hH : rdI u 34 0 y = nI (b.n y)) (hR : ∀ k, k < b.n y → rdI u 33 0 (6 * y + k) = nI (b.rg y k)) (hF : ∀ x, x < 40 → b.there x = true → rdI u 9 0 x = nI (b.fr x) ∧ rdI u 10 0 x = nI (b.sz x)) :
    ∃ v z, itr (fM_stacks_L102 (nI y)) tt_fuel ((0 : Int32), (0 : Int32), u) = some (nI (b.n y), z, v) ∧ v.2 = u.2 ∧ (∀ k i j, ¬ k = 35 → rdI v k i j = rdI u k i j) ∧ (∀ k, k < b.n y → rdI v 35 0 (b.rg y k) = nI (b.hole y k)) ∧ ∀ x, (∀ k, k < b.n y → ¬ b.rg y k = x) → rdI v 35 0 x = rdI u 35 0 x := by
  have h6 := O.n6 y hy
  have hk_ := itr_inv (body := fM_stacks_L102 (nI y)) (fun i v => (nI i, nI (if i = 0 then 0 else b.top (b.rg y (i - 1))), v)) (fun i v => v.2 = u.2 ∧ (∀ k i j, ¬ k = 35 → rdI v k i j = rdI u k i j) ∧ (∀ k, k < i → rdI v 35 0 (b.rg y k) = nI (b.hole y k)) ∧ ∀ x, (∀ k, k < i → ¬ b.rg y k = x) → rdI v 35 0 x = rdI u 35 0 x) (fun r => ∃ v z, r = (nI (b.n y), z, v) ∧ v.2 = u.2 ∧ (∀ k i j, ¬ k = 35 → rdI v k i j = rdI u k i j) ∧ (∀ k, k < b.n y → rdI v 35 0 (b.rg y k) = nI (b.hole y k)) ∧ ∀ x, (∀ k, k < b.n y → ¬ b.rg y k = x) → rdI v 35 0 x = rdI u 35 0 x) (b.n y) u (by omega) ⟨rfl, fun _ _ _ _ => rfl, fun k hk => by omega, fun _ _ => rfl⟩ (fun i v hi hI => ?_) (fun v hI => ?_)
  · obtain ⟨r, r1, v, z, rfl, r2⟩ := hk_
    exact ⟨v, z, r1, r2⟩
  · obtain ⟨h1, h2, h3, h4⟩ := hI
    have h40 := O.rg40 y i hy hi
    have hT := O.rgT y i hy hi
    have f9 := O.fr9 _ h40 hT
    have s9 := O.sz1 _ h40 hT
    have hle : (if i = 0 then 0 else b.top (b.rg y (i - 1))) ≤ b.fr (b.rg y i) := by
      by_cases e : i = 0
      · rw [if_pos e]; exact Nat.zero_le _
      · rw [if_neg e]
        have := O.sorted y (i - 1) hy (by omega)
        rw [show i - 1 + 1 = i by omega] at this
        exact this
    have rr : ∀ x : tt_St, (∀ k i j, ¬ k = 35 → rdI x k i j = rdI u k i j) → fM_rungOf x (nI y) (nI i) = some (nI (b.rg y i)) := fun x hx => m_rungOf' O hy hi (by rw [hx 34 0 y (by omega)]; exact hH) (fun k hk => by rw [hx 33 0 _ (by omega)]; exact hR k hk)
    have q2 : ∀ k x j, ¬ k = 35 → rdI (wrI v 35 0 (b.rg y i) (nI (b.hole y i))) k x j = rdI u k x j := fun k x j z => by rw [rdI_wrI, if_neg (fun q => z q.1)]; exact h2 k x j z
    refine ⟨wrI v 35 0 (b.rg y i) (nI (b.hole y i)), ?_, h1, q2, fun k hk => ?_, fun x hx => ?_⟩
    · unfold fM_stacks_L102
      dsimp only [nm]
      rw [nI_clamp (show y < 2 ^ 31 by omega), h2 34 0 y (by omega), hH, if_neg (nI_ge hi (by omega)), rr v h2, Option.bind_some, Option.bind_some, inB_nI h40 (by omega), if_pos rfl, if_pos rfl, nI_clamp (show b.rg y i < 2 ^ 31 by omega), h2 9 0 _ (by omega), (hF _ h40 hT).1, pk_sub hle]
      have eh : b.fr (b.rg y i) - (if i = 0 then 0 else b.top (b.rg y (i - 1))) = b.hole y i := rfl
      rw [eh, rr _ q2, Option.bind_some]
      unfold fM_top
      rw [inB_nI h40 (by omega), if_pos rfl, nI_clamp (show b.rg y i < 2 ^ 31 by omega), q2 9 0 _ (by omega), q2 10 0 _ (by omega), (hF _ h40 hT).1, (hF _ h40 hT).2, nI_add, Option.bind_some, nI_1, if_neg (show ¬ i + 1 = 0 by omega), Nat.add_sub_cancel]
      rfl
    · rw [rdI_wrI]
      by_cases e : k = i
      · rw [e, if_pos ⟨rfl, rfl, rfl⟩]
      · rw [if_neg (fun z => e (rg_inj O hy (by omega) hi z.2.2))]
        exact h3 k (by omega)
    · rw [rdI_wrI, if_neg (fun z => hx i (by omega) z.2.2.symm)]
      exact h4 x (fun k hk => hx k (by omega))
  · refine ⟨_, ?_, v, nI (if b.n y = 0 then 0 else b.top (b.rg y (b.n y - 1))), rfl, hI⟩
    unfold fM_stacks_L102
    dsimp only
    rw [nI_clamp (show y < 2 ^ 31 by omega), hI.2.1 34 0 y (by omega), hH, if_pos (nI_le (Nat.le_refl _) (by omega))]
set_option maxHeartbeats 4000000 in
theorem places_rel {w t : tt_St} {a : TS} {c l y f s m e : Nat} (R : RW w t a c d0) (hl : l < 40) (hy : y < 12) (hf : f ≤ 900000000) (hs1 : 1 ≤ s) (hs : s ≤ 100000000) (hm1 : 1 ≤ m) (hm : m ≤ 4) (fresh : a.there l = false) (he : e < 160) (em : rdI t 3 0 e = nI l) (e0 : rdI t 4 0 (4 * e) = nI y) (e1 : rdI t 4 0 (4 * e + 1) = nI f) (e2 : rdI t 4 0 (4 * e + 2) = nI s) (e3 : rdI t 4 0 (4 * e + 3) = nI m) :
    DEED (fW_places w (nI l) (nI y) (nI f) (nI s) (nI m)) (fM_canPlace t (nI y) (nI f) (nI s)) (fM_places t (nI e)) w t a c (fun x => x = l) noP := by
  have C := R.C
  have M := R.M
  have O := R.O
  have h6 := O.n6 y hy
  have cn : cntP a.there 40 < 40 := cntP_not fresh hl
  have e40 : ¬ rdI w 0 0 21 = (40 : Int32) := by rw [R.pl, L40, nI_eq (by omega) (by omega)]; omega
  have no : (fW_places w (nI l) (nI y) (nI f) (nI s) (nI m) = some (0, w) ∧ fM_canPlace t (nI y) (nI f) (nI s) = some 0) → DEED (fW_places w (nI l) (nI y) (nI f) (nI s) (nI m)) (fM_canPlace t (nI y) (nI f) (nI s)) (fM_places t (nI e)) w t a c (fun x => x = l) noP := fun z => Or.inl z
  by_cases lk : bitB a.lack y = true
  · apply no
    unfold fW_places fM_canPlace
    rw [c_isLacking C, m_isLacking M, Option.bind_some, Option.bind_some, lk, if_neg (show ¬ b2i true = 0 by decide), if_neg (show ¬ b2i true = 0 by decide)]
    exact ⟨rfl, rfl⟩
  · have lk' : bitB a.lack y = false := by simpa using lk
    by_cases n6 : a.n y = 6
    · apply no
      unfold fW_places fM_canPlace
      rw [c_isLacking C, m_isLacking M, Option.bind_some, Option.bind_some, lk', if_pos (show b2i false = 0 by decide), if_pos (show b2i false = 0 by decide), inB_nI hy (by omega), if_pos rfl, nI_clamp (by omega), C.many y hy, m_layersOf M O hy, Option.bind_some, n6, if_pos (show nI 6 = 6 from rfl), if_pos (show nI 6 = 6 from rfl)]
      exact ⟨rfl, rfl⟩
    · have hn6 : a.n y < 6 := by omega
      have n6' : ¬ nI (a.n y) = (6 : Int32) := by rw [L6, nI_eq (by omega) (by omega)]; exact n6
      obtain ⟨b, b1, b2⟩ := c_noMeet C O (f := f) (s := s) hy hf hs
      obtain ⟨d, d1, d2⟩ := m_noMeet M O (f := f) (s := s) hy hf hs
      have eqv : (∃ k, k < a.n y ∧ meetB a f s (a.rg y k)) ↔ ∃ x, x < 40 ∧ a.there x = true ∧ a.yr x = y ∧ meetB a f s x := by
        constructor
        · rintro ⟨k, k1, k2⟩
          exact ⟨a.rg y k, O.rg40 y k hy k1, O.rgT y k hy k1, O.rgY y k hy k1, k2⟩
        · rintro ⟨x, x1, x2, x3, x4⟩
          obtain ⟨_, k, k1, k2⟩ := O.all x x1 x2
          rw [x3] at k1 k2
          exact ⟨k, k1, by rw [k2]; exact x4⟩
      have mc : ∀ r : Option Int32, (d = .inr 0 → r = some 0) → ((∃ x, d = .inl x) → r = some 1) → (orRet d fun _ => some (1 : Int32)) = r := fun r q1 q2 => by
        rcases d2 with ⟨_, rfl⟩ | ⟨_, x, rfl⟩
        · rw [q1 rfl]; rfl
        · rw [q2 ⟨x, rfl⟩]; rfl
      have cB : fM_canPlace t (nI y) (nI f) (nI s) = orRet d fun _ => some (1 : Int32) := by
        unfold fM_canPlace
        rw [m_isLacking M, Option.bind_some, lk', if_pos (show b2i false = 0 by decide), m_layersOf M O hy, Option.bind_some, if_neg n6', d1, Option.bind_some]
      by_cases mt : ∃ k, k < a.n y ∧ meetB a f s (a.rg y k)
      · apply no
        constructor
        · unfold fW_places
          rw [c_isLacking C, Option.bind_some, lk', if_pos (show b2i false = 0 by decide), inB_nI hy (by omega), if_pos rfl, nI_clamp (by omega), C.many y hy, if_neg n6', if_neg e40, b1, Option.bind_some]
          rcases b2 with ⟨_, rfl⟩ | ⟨g, _⟩
          · rfl
          · obtain ⟨k, k1, k2⟩ := mt
            exact absurd k2 (g k k1)
        · rw [cB]
          rcases d2 with ⟨_, rfl⟩ | ⟨g, _⟩
          · rfl
          · obtain ⟨x, x1, x2, x3, x4⟩ := eqv.mp mt
            exact absurd x4 (g x x1 x2 x3)
      · obtain ⟨p, p1, p2, p3⟩ := ins_pos (fun k => a.fr (a.rg y k)) f (a.n y)
        have P : PLC a l y f s m p := ⟨hl, hy, hf, ⟨hs1, hs⟩, ⟨hm1, hm⟩, fresh, lk', hn6, p1, p2, p3, fun k hk => by
          by_cases z1 : f + s ≤ a.fr (a.rg y k)
          · exact Or.inl z1
          · by_cases z2 : a.top (a.rg y k) ≤ f
            · exact Or.inr z2
            · exact absurd ⟨k, hk, z1, z2⟩ mt⟩
        have O' := plc_ok P O
        have hbx : ∃ x, b = .inl x := by
          rcases b2 with ⟨g, _⟩ | ⟨_, g⟩
          · exact absurd g mt
          · exact g
        have hdx : ∃ x, d = .inl x := by
          rcases d2 with ⟨g, _⟩ | ⟨_, g⟩
          · exact absurd (eqv.mpr g) mt
          · exact g
        obtain ⟨bx, rfl⟩ := hbx
        obtain ⟨dx, rfl⟩ := hdx
        clear mt eqv b2 d2 mc no
        right
        -- the component
        have Cw : ∀ k i j, ¬ (k = 23 ∧ i = 0 ∧ j = y) → rdI (wrI w 23 0 y (nI (a.n y) + 1)) k i j = rdI w k i j := fun k i j z => by rw [rdI_wrI, if_neg z]
        obtain ⟨u, u1, u2, u3⟩ := c_shift (w := wrI w 23 0 y (nI (a.n y) + 1)) O hy hf (by omega) p1 p2 p3 (fun k hk => by rw [Cw 22 y k (by omega)]; exact C.rung y k hy hk) (fun x hx ht => by rw [Cw 2 x 5 (by omega)]; exact C.fr x hx ht)
        generalize hw' : wrI (wrI (wrI (wrI (wrI (wrI (wrI u 22 y p (nI l)) 2 l 10 1) 2 l 4 (nI y)) 2 l 5 (nI f)) 2 l 6 (nI s)) 2 l 7 (nI m)) 0 0 21 (rdI w 0 0 21 + 1) = w'
        have iw0 : ∀ k i j, ¬ (k = 22 ∧ i = y) → ¬ (k = 2 ∧ i = l) → ¬ (k = 0 ∧ i = 0 ∧ j = 21) → rdI w' k i j = rdI (wrI w 23 0 y (nI (a.n y) + 1)) k i j := fun k i j z1 z2 z3 => by
          rw [← hw', rdI_wrI, if_neg z3, rdI_wrI, if_neg (by omega), rdI_wrI, if_neg (by omega), rdI_wrI, if_neg (by omega), rdI_wrI, if_neg (by omega), rdI_wrI, if_neg (by omega), rdI_wrI, if_neg (by omega), u3, if_neg (by omega)]
        have iw : ∀ k i j, ¬ (k = 22 ∧ i = y) → ¬ (k = 2 ∧ i = l) → ¬ (k = 0 ∧ i = 0 ∧ j = 21) → ¬ (k = 23 ∧ i = 0 ∧ j = y) → rdI w' k i j = rdI w k i j := fun k i j z1 z2 z3 z4 => by rw [iw0 k i j z1 z2 z3, Cw k i j z4]
        have iwl : ∀ j, ¬ (j = 10 ∨ j = 4 ∨ j = 5 ∨ j = 6 ∨ j = 7) → rdI w' 2 l j = rdI w 2 l j := fun j z => by
          rw [← hw', rdI_wrI, if_neg (by omega), rdI_wrI, if_neg (by omega), rdI_wrI, if_neg (by omega), rdI_wrI, if_neg (by omega), rdI_wrI, if_neg (by omega), rdI_wrI, if_neg (by omega), rdI_wrI, if_neg (by omega), u3, if_neg (by omega), Cw 2 l j (by omega)]
        have iw22 : ∀ k, k < a.n y + 1 → rdI w' 22 y k = nI (rgI a l y p y k) := fun k hk => by
          rw [← hw', rdI_wrI, if_neg (by omega), rdI_wrI, if_neg (by omega), rdI_wrI, if_neg (by omega), rdI_wrI, if_neg (by omega), rdI_wrI, if_neg (by omega), rdI_wrI, if_neg (by omega), rdI_wrI, u3]
          unfold rgI
          rw [if_pos rfl]
          by_cases q1 : k < p
          · rw [if_neg (by omega), if_neg (by omega), if_pos q1, Cw 22 y k (by omega)]; exact C.rung y k hy (by omega)
          · rw [if_neg q1]
            by_cases q2 : k = p
            · rw [if_pos ⟨rfl, rfl, q2⟩, if_pos q2]
            · rw [if_neg (fun z => q2 z.2.2), if_neg q2, if_pos (by omega)]
        have v10 : rdI w' 2 l 10 = 1 := by rw [← hw', rdI_wrI, if_neg (by omega), rdI_wrI, if_neg (by omega), rdI_wrI, if_neg (by omega), rdI_wrI, if_neg (by omega), rdI_wrI, if_neg (by omega), rdI_wrI, if_pos ⟨rfl, rfl, rfl⟩]
        have v4 : rdI w' 2 l 4 = nI y := by rw [← hw', rdI_wrI, if_neg (by omega), rdI_wrI, if_neg (by omega), rdI_wrI, if_neg (by omega), rdI_wrI, if_neg (by omega), rdI_wrI, if_pos ⟨rfl, rfl, rfl⟩]
        have v5 : rdI w' 2 l 5 = nI f := by rw [← hw', rdI_wrI, if_neg (by omega), rdI_wrI, if_neg (by omega), rdI_wrI, if_neg (by omega), rdI_wrI, if_pos ⟨rfl, rfl, rfl⟩]
        have v6 : rdI w' 2 l 6 = nI s := by rw [← hw', rdI_wrI, if_neg (by omega), rdI_wrI, if_neg (by omega), rdI_wrI, if_pos ⟨rfl, rfl, rfl⟩]
        have v7 : rdI w' 2 l 7 = nI m := by rw [← hw', rdI_wrI, if_neg (by omega), rdI_wrI, if_pos ⟨rfl, rfl, rfl⟩]
        have v21 : rdI w' 0 0 21 = rdI w 0 0 21 + 1 := by rw [← hw', rdI_wrI, if_pos ⟨rfl, rfl, rfl⟩]
        have lw : ∀ k i j, rdL w' k i j = rdL w k i j := fun k i j => by
          have : w'.2 = w.2 := by rw [← hw']; exact u2
          unfold rdL; rw [this]
        have rw' : ∀ i, rdR w' 35 0 i = rdR w 35 0 i := fun i => by
          have : w'.2 = w.2 := by rw [← hw']; exact u2
          unfold rdR; rw [this]
        have hwl : fW_places w (nI l) (nI y) (nI f) (nI s) (nI m) = some (1, w') := by
          unfold fW_places
          rw [c_isLacking C, Option.bind_some, lk', if_pos (show b2i false = 0 by decide), inB_nI hy (by omega), if_pos rfl, nI_clamp (by omega), C.many y hy, if_neg n6', if_neg e40, b1, Option.bind_some]
          show (itr (fW_places_L81 (nI y) (nI f)) tt_fuel (nI (a.n y), wrI w 23 0 y (nI (a.n y) + 1))).bind _ = _
          rw [u1, Option.bind_some]
          dsimp only [nm]
          rw [inB_nI (show p < 6 by omega) (by omega), if_pos rfl, nI_clamp (show p < 2 ^ 31 by omega), inB_nI hl (by omega), if_pos rfl, nI_clamp (show l < 2 ^ 31 by omega)]
          unfold fY_lies
          dsimp only [nm]
          rw [Option.bind_some]
          have q21 : rdI (wrI (wrI (wrI (wrI (wrI (wrI u 22 y p (nI l)) 2 l 10 1) 2 l 4 (nI y)) 2 l 5 (nI f)) 2 l 6 (nI s)) 2 l 7 (nI m)) 0 0 21 = rdI w 0 0 21 := by rw [rdI_wrI, if_neg (by omega), rdI_wrI, if_neg (by omega), rdI_wrI, if_neg (by omega), rdI_wrI, if_neg (by omega), rdI_wrI, if_neg (by omega), rdI_wrI, if_neg (by omega), u3, if_neg (by omega), Cw 0 0 21 (by omega)]
          rw [q21, hw']
        -- the model
        generalize ht1 : wrI (wrI (wrI (wrI (wrI t 6 0 l 1) 8 0 l (nI y)) 9 0 l (nI f)) 10 0 l (nI s)) 11 0 l (nI m) = t1
        have it1 : ∀ k i j, ¬ ((k = 6 ∨ k = 8 ∨ k = 9 ∨ k = 10 ∨ k = 11) ∧ j = l) → rdI t1 k i j = rdI t k i j := fun k i j z => by rw [← ht1, rdI_wrI, if_neg (by omega), rdI_wrI, if_neg (by omega), rdI_wrI, if_neg (by omega), rdI_wrI, if_neg (by omega), rdI_wrI, if_neg (by omega)]
        have x6 : rdI t1 6 0 l = 1 := by rw [← ht1, rdI_wrI, if_neg (by omega), rdI_wrI, if_neg (by omega), rdI_wrI, if_neg (by omega), rdI_wrI, if_neg (by omega), rdI_wrI, if_pos ⟨rfl, rfl, rfl⟩]
        have x8 : rdI t1 8 0 l = nI y := by rw [← ht1, rdI_wrI, if_neg (by omega), rdI_wrI, if_neg (by omega), rdI_wrI, if_neg (by omega), rdI_wrI, if_pos ⟨rfl, rfl, rfl⟩]
        have x9 : rdI t1 9 0 l = nI f := by rw [← ht1, rdI_wrI, if_neg (by omega), rdI_wrI, if_neg (by omega), rdI_wrI, if_pos ⟨rfl, rfl, rfl⟩]
        have x10 : rdI t1 10 0 l = nI s := by rw [← ht1, rdI_wrI, if_neg (by omega), rdI_wrI, if_pos ⟨rfl, rfl, rfl⟩]
        have x11 : rdI t1 11 0 l = nI m := by rw [← ht1, rdI_wrI, if_pos ⟨rfl, rfl, rfl⟩]
        have nel : ∀ x, a.there x = true → ¬ x = l := fun x ht z => by rw [z, fresh] at ht; cases ht
        obtain ⟨q, q1, q2, q3⟩ := m_shift (t := t1) O hl hy hf (by omega) p1 p2 p3 (fun k hk => by rw [it1 33 0 _ (by omega)]; exact M.rung y k hy hk) (fun x hx ht => by have := nel x ht; rw [it1 9 0 x (by omega)]; exact M.fr x hx ht) x9
        generalize ht2 : wrI (wrI q 33 0 (6 * y + p) (nI l)) 34 0 y (nI (a.n y) + 1) = t2
        have it2 : ∀ k i j, ¬ (k = 33 ∧ i = 0 ∧ 6 * y ≤ j ∧ j < 6 * y + 6) → ¬ (k = 34 ∧ j = y) → rdI t2 k i j = rdI t1 k i j := fun k i j z1 z2 => by rw [← ht2, rdI_wrI, if_neg (by omega), rdI_wrI, if_neg (by omega), q3, if_neg (by omega)]
        have n' : (a.plc l y f s m p).n y = a.n y + 1 := by rw [plc_n, if_pos rfl]
        have h34 : rdI t2 34 0 y = nI ((a.plc l y f s m p).n y) := by rw [← ht2, rdI_wrI, if_pos ⟨rfl, rfl, rfl⟩, n', nI_1]
        have h33 : ∀ k, k < (a.plc l y f s m p).n y → rdI t2 33 0 (6 * y + k) = nI ((a.plc l y f s m p).rg y k) := fun k hk => by
          rw [n'] at hk
          rw [plc_rg, ← ht2, rdI_wrI, if_neg (by omega), rdI_wrI, q3]
          unfold rgI
          rw [if_pos rfl]
          by_cases g1 : k < p
          · rw [if_neg (by omega), if_neg (by omega), if_pos g1, it1 33 0 _ (by omega)]; exact M.rung y k hy (by omega)
          · rw [if_neg g1]
            by_cases g2 : k = p
            · rw [if_pos ⟨rfl, rfl, by omega⟩, if_pos g2]
            · rw [if_neg (fun z => g2 (by omega)), if_neg g2, if_pos (by omega), show 6 * y + k - 6 * y - 1 = k - 1 by omega]
        have hfs : ∀ x, x < 40 → (a.plc l y f s m p).there x = true → rdI t2 9 0 x = nI ((a.plc l y f s m p).fr x) ∧ rdI t2 10 0 x = nI ((a.plc l y f s m p).sz x) := fun x hx ht => by
          rw [plc_there] at ht
          rw [plc_fr, plc_sz, it2 9 0 x (by omega) (by omega), it2 10 0 x (by omega) (by omega)]
          by_cases g : x = l
          · rw [if_pos g, if_pos g, g]; exact ⟨x9, x10⟩
          · rw [if_neg g] at ht
            rw [if_neg g, if_neg g, it1 9 0 x (by omega), it1 10 0 x (by omega)]
            exact ⟨M.fr x hx ht, M.sz x hx ht⟩
        obtain ⟨t', z, s1, s2, s3, s4, s5⟩ := m_holes O' hy h34 h33 hfs
        have it : ∀ k i j, ¬ ((k = 6 ∨ k = 8 ∨ k = 9 ∨ k = 10 ∨ k = 11) ∧ j = l) → ¬ (k = 33 ∧ i = 0 ∧ 6 * y ≤ j ∧ j < 6 * y + 6) → ¬ (k = 34 ∧ j = y) → ¬ k = 35 → rdI t' k i j = rdI t k i j := fun k i j z1 z2 z3 z4 => by rw [s3 k i j z4, it2 k i j z2 z3, it1 k i j z1]
        have lt : ∀ k i j, rdL t' k i j = rdL t k i j := fun k i j => by
          have : t'.2 = t.2 := by rw [s2, ← ht2, show (wrI (wrI q 33 0 (6 * y + p) (nI l)) 34 0 y (nI (a.n y) + 1)).2 = q.2 from rfl, q2, ← ht1]; rfl
          unfold rdL; rw [this]
        have hml : fM_places t (nI e) = some t' := by
          have tl : ∀ (v : tt_St) (j : Nat), (∀ q, rdI v 4 0 q = rdI t 4 0 q) → j < 4 → fM_tell v (nI e) (nI j) = some (rdI t 4 0 (4 * e + j)) := fun v j hu hj => by
            unfold fM_tell
            rw [L4, ix_add, inB_nI (by omega) (by omega), if_pos rfl, nI_clamp (by omega), hu]
          unfold fM_places
          dsimp only [nm]
          rw [inB_nI he (by omega), if_pos rfl, nI_clamp (by omega), em, inB_nI hl (by omega), if_pos rfl, nI_clamp (by omega)]
          rw [show (fM_tell (wrI t 6 0 l 1) (nI e) 0) = fM_tell (wrI t 6 0 l 1) (nI e) (nI 0) from rfl, tl _ 0 (fun q => by rw [rdI_wrI, if_neg (by omega)]) (by omega), Option.bind_some, Nat.add_zero, e0]
          rw [show (fM_tell (wrI (wrI t 6 0 l 1) 8 0 l (nI y)) (nI e) 1) = fM_tell (wrI (wrI t 6 0 l 1) 8 0 l (nI y)) (nI e) (nI 1) from rfl, tl _ 1 (fun q => by rw [rdI_wrI, if_neg (by omega), rdI_wrI, if_neg (by omega)]) (by omega), Option.bind_some, e1]
          rw [L2, tl _ 2 (fun q => by rw [rdI_wrI, if_neg (by omega), rdI_wrI, if_neg (by omega), rdI_wrI, if_neg (by omega)]) (by omega), Option.bind_some, e2]
          rw [L3, tl _ 3 (fun q => by rw [rdI_wrI, if_neg (by omega), rdI_wrI, if_neg (by omega), rdI_wrI, if_neg (by omega), rdI_wrI, if_neg (by omega)]) (by omega), Option.bind_some, e3, ht1]
          unfold fM_stacks
          dsimp only [nm]
          rw [inB_nI hl (by omega), if_pos rfl, nI_clamp (show l < 2 ^ 31 by omega), x8, inB_nI hy (by omega), if_pos rfl, nI_clamp (show y < 2 ^ 31 by omega), it1 34 0 y (by omega), M.many y hy, q1, Option.bind_some]
          dsimp only
          rw [L6, ix_add, inB_nI (show 6 * y + p < 72 by omega) (by omega), if_pos rfl, nI_clamp (show 6 * y + p < 2 ^ 31 by omega)]
          have q34 : rdI (wrI q 33 0 (6 * y + p) (nI l)) 34 0 y = nI (a.n y) := by rw [rdI_wrI, if_neg (by omega), q3, if_neg (by omega), it1 34 0 y (by omega)]; exact M.many y hy
          rw [q34, ht2, s1, Option.bind_some, Option.bind_some]
        have I7 : ∀ j, rdI t' 7 0 j = rdI t 7 0 j := fun j => it 7 0 j (by omega) (by omega) (by omega) (by omega)
        refine ⟨w', t', a.plc l y f s m p, hwl, by rw [cB]; rfl, hml, ⟨?_, ?_, O', R.di, fun x hx => ?_, fun x hx => ?_, fun x hx ht => ?_, fun h hh => ?_, fun h hh => ?_, fun x k hx hk => ?_, fun i hi => ?_, ?_, ?_, ?_, ?_, R.lk, R.s0⟩, ⟨fun k j hk => it k 0 j (by omega) (by omega) (by omega) (by omega), fun j hj => it 0 0 j (by omega) (by omega) (by omega) (by omega)⟩, fun x hx ht => ?_, fun h hh hi => Or.inl ?_, fun x hx ht => ?_, fun h hh hi => ?_⟩
        · refine ⟨fun yy hyy => ?_, fun yy k hyy hk => ?_, fun x hx => ?_, fun x hx ht => ?_, fun x hx ht => ?_, fun x hx ht => ?_, fun x hx ht => ?_, fun x hx => ?_, fun x k hx hk => ?_, fun x k hx hk => ?_, fun i hi => ?_, ?_, ?_, ?_, ?_⟩
          · rw [plc_n, iw0 23 0 yy (by omega) (by omega) (by omega)]
            by_cases g : yy = y
            · rw [if_pos g, g, rdI_wrI, if_pos ⟨rfl, rfl, rfl⟩, nI_1]
            · rw [if_neg g, Cw 23 0 yy (by omega)]; exact C.many yy hyy
          · rw [plc_rg]
            rw [plc_n] at hk
            by_cases g : yy = y
            · subst g
              rw [if_pos rfl] at hk
              exact iw22 k hk
            · rw [if_neg g] at hk
              unfold rgI
              rw [if_neg g, iw 22 yy k (by omega) (by omega) (by omega) (by omega)]; exact C.rung yy k hyy hk
          · rw [plc_there]
            by_cases g : x = l
            · rw [if_pos g, g, v10]; rfl
            · rw [if_neg g, iw 2 x 10 (by omega) (by omega) (by omega) (by omega)]; exact C.isT x hx
          · rw [plc_there] at ht
            rw [plc_yr]
            by_cases g : x = l
            · rw [if_pos g, g]; exact v4
            · rw [if_neg g] at ht
              rw [if_neg g, iw 2 x 4 (by omega) (by omega) (by omega) (by omega)]; exact C.yr x hx ht
          · rw [plc_there] at ht
            rw [plc_fr]
            by_cases g : x = l
            · rw [if_pos g, g]; exact v5
            · rw [if_neg g] at ht
              rw [if_neg g, iw 2 x 5 (by omega) (by omega) (by omega) (by omega)]; exact C.fr x hx ht
          · rw [plc_there] at ht
            rw [plc_sz]
            by_cases g : x = l
            · rw [if_pos g, g]; exact v6
            · rw [if_neg g] at ht
              rw [if_neg g, iw 2 x 6 (by omega) (by omega) (by omega) (by omega)]; exact C.sz x hx ht
          · rw [plc_there] at ht
            rw [plc_tm]
            by_cases g : x = l
            · rw [if_pos g, g]; exact v7
            · rw [if_neg g] at ht
              rw [if_neg g, iw 2 x 7 (by omega) (by omega) (by omega) (by omega)]; exact C.tm x hx ht
          · show rdI w' 2 x 8 = nI (a.sg x)
            by_cases g : x = l
            · rw [g, iwl 8 (by omega)]; exact C.sg l hl
            · rw [iw 2 x 8 (by omega) (by omega) (by omega) (by omega)]; exact C.sg x hx
          · rw [iw 3 x k (by omega) (by omega) (by omega) (by omega)]; exact C.who x k hx hk
          · rw [iw 4 x k (by omega) (by omega) (by omega) (by omega)]; exact C.ten x k hx hk
          · rw [iw 24 0 i (by omega) (by omega) (by omega) (by omega)]; exact C.st i hi
          · rw [iw 0 0 17 (by omega) (by omega) (by omega) (by omega)]; exact C.lack
          · rw [iw 0 0 18 (by omega) (by omega) (by omega) (by omega)]; exact C.trig
          · rw [iw 0 0 19 (by omega) (by omega) (by omega) (by omega)]; exact C.spr
          · rw [iw 0 0 20 (by omega) (by omega) (by omega) (by omega)]; exact C.pick
        · have t2' : ∀ k i j, ¬ k = 35 → rdI t' k i j = rdI t2 k i j := s3
          refine ⟨fun yy hyy => ?_, fun yy k hyy hk => ?_, fun yy k hyy hk => ?_, fun x hx => ?_, fun x hx ht => ?_, fun x hx ht => ?_, fun x hx ht => ?_, fun x hx ht => ?_, fun x hx => ?_, fun x k hx hk => ?_, fun x k hx hk => ?_, fun i hi => ?_, ?_, ?_, ?_, ?_⟩
          · by_cases g : yy = y
            · rw [g, t2' 34 0 y (by omega)]; exact h34
            · rw [plc_n, if_neg g, it 34 0 yy (by omega) (by omega) (by omega) (by omega)]; exact M.many yy hyy
          · by_cases g : yy = y
            · subst g
              rw [t2' 33 0 _ (by omega)]; exact h33 k hk
            · rw [plc_n, if_neg g] at hk
              have := O.n6 yy hyy
              rw [plc_rg]
              unfold rgI
              rw [if_neg g, it 33 0 _ (by omega) (by omega) (by omega) (by omega)]; exact M.rung yy k hyy hk
          · by_cases g : yy = y
            · subst g
              exact s4 k hk
            · have hk' := hk
              rw [plc_n, if_neg g] at hk'
              have e1' : (a.plc l y f s m p).rg yy k = a.rg yy k := by rw [plc_rg]; unfold rgI; rw [if_neg g]
              have nl := nel _ (O.rgT yy k hyy hk')
              have eh : (a.plc l y f s m p).hole yy k = a.hole yy k := by
                unfold TS.hole
                rw [e1', plc_fr, if_neg nl]
                by_cases k0 : k = 0
                · rw [if_pos k0, if_pos k0]
                · have e2' : (a.plc l y f s m p).rg yy (k - 1) = a.rg yy (k - 1) := by rw [plc_rg]; unfold rgI; rw [if_neg g]
                  have nl2 := nel _ (O.rgT yy (k - 1) hyy (by omega))
                  rw [if_neg k0, if_neg k0, e2', plc_top, if_neg nl2]
              rw [eh, e1', s5 (a.rg yy k) (fun j hj z => by
                rcases plc_cases P O hy hj with ⟨_, _, z2⟩ | ⟨i, i1, i2, _⟩
                · rw [z2] at z; exact nl z.symm
                · rw [i2] at z
                  exact g (rg_inj2 O hy i1 hyy hk' z).1.symm), it2 35 0 _ (by omega) (by omega), it1 35 0 _ (by omega)]
              exact M.hole yy k hyy hk'
          · rw [plc_there, t2' 6 0 x (by omega), it2 6 0 x (by omega) (by omega)]
            by_cases g : x = l
            · rw [if_pos g, g, x6]; rfl
            · rw [if_neg g, it1 6 0 x (by omega)]; exact M.isT x hx
          · rw [plc_there] at ht
            rw [plc_yr, t2' 8 0 x (by omega), it2 8 0 x (by omega) (by omega)]
            by_cases g : x = l
            · rw [if_pos g, g]; exact x8
            · rw [if_neg g] at ht
              rw [if_neg g, it1 8 0 x (by omega)]; exact M.yr x hx ht
          · rw [t2' 9 0 x (by omega)]; exact (hfs x hx ht).1
          · rw [t2' 10 0 x (by omega)]; exact (hfs x hx ht).2
          · rw [plc_there] at ht
            rw [plc_tm, t2' 11 0 x (by omega), it2 11 0 x (by omega) (by omega)]
            by_cases g : x = l
            · rw [if_pos g, g]; exact x11
            · rw [if_neg g] at ht
              rw [if_neg g, it1 11 0 x (by omega)]; exact M.tm x hx ht
          · rw [it 12 0 x (by omega) (by omega) (by omega) (by omega)]; exact M.sg x hx
          · rw [it 13 0 _ (by omega) (by omega) (by omega) (by omega)]; exact M.who x k hx hk
          · rw [it 14 0 _ (by omega) (by omega) (by omega) (by omega)]; exact M.ten x k hx hk
          · rw [it 27 0 i (by omega) (by omega) (by omega) (by omega)]; exact M.st i hi
          · rw [it 0 0 29 (by omega) (by omega) (by omega) (by omega)]; exact M.lack
          · rw [it 0 0 30 (by omega) (by omega) (by omega) (by omega)]; exact M.trig
          · rw [it 0 0 31 (by omega) (by omega) (by omega) (by omega)]; exact M.spr
          · rw [it 0 0 32 (by omega) (by omega) (by omega) (by omega)]; exact M.pick
        · rw [lt, lw]; exact R.used x hx
        · rw [lw, R.us x hx]
          exact sumZ_congr (fun j _ => by rw [lw])
        · rw [plc_there] at ht
          rw [plc_sz, plc_tm, lw]
          by_cases g : x = l
          · rw [if_pos g, if_pos g, R.us x hx, sumZ_zero (fun i hi => by rw [((R.H i hi).tb x hx).2.2 (by rw [g]; exact fresh)]; rfl)]
            exact Int.mul_nonneg (by omega) (by omega)
          · rw [if_neg g] at ht
            rw [if_neg g, if_neg g]; exact R.ub x hx ht
        · have H := (R.H h hh).ext (w' := w') (t' := t') (fun k j _ _ => lw k h j) (fun j => iw 7 h j (by omega) (by omega) (by omega) (by omega)) (fun k j _ => lt k 0 j) (fun j _ => it 24 0 j (by omega) (by omega) (by omega) (by omega)) (fun k hk => it k 0 h (by omega) (by omega) (by omega) (by omega))
          refine ⟨H.took, H.thr, H.mv, H.bore, H.fell, H.had, fun x hx => ?_, fun x hx => ?_, H.pb, H.gr, H.isH, H.i01, H.hy, H.z⟩
          · have b := H.tb x hx
            rw [plc_there, plc_sz]
            by_cases g : x = l
            · rw [if_pos g, if_pos g, b.2.2 (by rw [g]; exact fresh), i64_0]
              exact ⟨by omega, fun _ => by omega, fun _ => rfl⟩
            · rw [if_neg g, if_neg g]; exact b
          · have b := H.hb x hx
            rw [plc_there]
            by_cases g : x = l
            · rw [if_pos g]; exact ⟨b.1, b.2.1, fun q => by cases q⟩
            · rw [if_neg g]; exact b
        · rw [lw, lt, I7]
          have g := R.L h hh
          exact ⟨g.1, g.2.1, by have := g.2.2.1; omega, g.2.2.2⟩
        · rw [lw, R.hs x k hx hk]
          exact sumL_congr (fun j _ => by rw [lw])
        · rw [lw, it 28 0 i (by omega) (by omega) (by omega) (by omega)]; exact R.cash i hi
        · rw [iw 0 0 23 (by omega) (by omega) (by omega) (by omega), it 0 0 48 (by omega) (by omega) (by omega) (by omega)]; exact R.fx
        · have ec : cntP (a.plc l y f s m p).there 40 = cntP a.there 40 + 1 := cntP_add (h := l) fresh (by rw [plc_there, if_pos rfl]) (fun i hi => by rw [plc_there, if_neg hi]) hl
          rw [v21, R.pl, ec, nI_1]
        · have ec : cntP (fun h => decide (rdI t 7 0 h = 1)) 24 = cntP (fun h => decide (rdI t' 7 0 h = 1)) 24 := cntP_congr (fun i hi => by rw [I7])
          rw [iw 0 0 22 (by omega) (by omega) (by omega) (by omega), R.hm, ec]
        · obtain ⟨n, Q⟩ := R.q
          exact ⟨n, Q.ext (iw 34 0 1 (by omega) (by omega) (by omega) (by omega)) rw'⟩
        · rw [plc_there] at ht
          by_cases g : x = l
          · exact Or.inr g
          · rw [if_neg g] at ht; exact Or.inl ht
        · rw [I7] at hi; exact hi
        · rw [plc_there]
          by_cases g : x = l
          · rw [if_pos g]
          · rw [if_neg g]; exact ht.elim id (fun z => absurd z g)
        · rw [I7]; exact hi.elim id (fun z => z.elim)
