set_option linter.unusedVariables false
set_option linter.unusedSimpArgs false
set_option maxRecDepth 100000
/-! PLAIN LAW: laid down -/
theorem ptB {a b c i h : Nat} (x y z : Nat → Int64) {v : Int64} : (if a = 12 ∧ b = h ∧ c = i then z i else if a = 11 ∧ b = h ∧ c = i then y i else if a = 10 ∧ b = h ∧ c = i then x i else if b = h ∧ a = 10 ∧ c < i then x c else if b = h ∧ a = 11 ∧ c < i then y c else if b = h ∧ a = 12 ∧ c < i then z c else v) = if b = h ∧ a = 10 ∧ c < i + 1 then x c else if b = h ∧ a = 11 ∧ c < i + 1 then y c else if b = h ∧ a = 12 ∧ c < i + 1 then z c else v := by
  grind (splits := 40)
theorem ptC {a b c h : Nat} {x8 x9 x10 x11 x12 x13 v : Int64} (e8 : a = 8 → x8 = x13) (e9 : a = 9 → x9 = x13) (e10 : a = 10 → x10 = x13) (e11 : a = 11 → x11 = x13) (e12 : a = 12 → x12 = x13) : (if b = h ∧ a = 10 ∧ c < 40 then x10 else if b = h ∧ a = 11 ∧ c < 40 then x11 else if b = h ∧ a = 12 ∧ c < 40 then x12 else if a = 13 ∧ b = h ∧ c < 160 then x13 else if a = 9 ∧ b = h ∧ c < 7 then x9 else if a = 8 ∧ b = h ∧ c < 10 then x8 else v) = if b = h ∧ ((a = 8 ∧ c < 10) ∨ (a = 9 ∧ c < 7) ∨ ((a = 10 ∨ a = 11 ∨ a = 12) ∧ c < 40) ∨ (a = 13 ∧ c < 160)) then x13 else v := by
  grind (splits := 40)
theorem c_addsAll {w : tt_St} {h : Nat} (hh : ¬ h = 26) : ∃ w', fF_addsAll w h 26 = some w' ∧ w'.1 = w.1 ∧ w'.2.2 = w.2.2 ∧ ∀ a b c, rdL w' a b c = if b = h ∧ ((a = 8 ∧ c < 10) ∨ (a = 9 ∧ c < 7) ∨ ((a = 10 ∨ a = 11 ∨ a = 12) ∧ c < 40) ∨ (a = 13 ∧ c < 160)) then rdL w a h c + rdL w a 26 c else rdL w a b c := by
  have one : ∀ (u : tt_St) (k N : Nat) (body : Int32 × tt_St → Option ((Int32 × tt_St) ⊕ (Int32 × tt_St))), N < 1000 → (∀ i v, i < N → body (nI i, v) = some (.inl (nI (i + 1), wrL v k h i (rdL v k h i + rdL v k 26 i)))) → (∀ v, body (nI N, v) = some (.inr (nI N, v))) → itr body tt_fuel ((0 : Int32), u) = some (nI N, fillL u k h (fun c => rdL u k h c + rdL u k 26 c) N) := by
    intro u k N body hN hs hx
    refine itr_run (fun i => (nI i, fillL u k h (fun c => rdL u k h c + rdL u k 26 c) i)) N _ hN (fun i hi => ?_) (hx _)
    rw [hs i _ hi, fillL_rd, if_neg (by omega), fillL_rd, if_neg (by omega)]
    rfl
  have a1 := one w 8 10 (fB_adds_L2 h 26) (by omega) (fun i v hi => by
    unfold fB_adds_L2
    dsimp only [nm]
    rw [L10, if_neg (nI_ge hi (by omega)), inB_nI hi (by omega), if_pos rfl, nI_clamp (by omega), nI_1]) (fun v => by
    unfold fB_adds_L2
    rw [L10, if_pos (nI_le (Nat.le_refl _) (by omega))])
  generalize hw1 : fillL w 8 h (fun c => rdL w 8 h c + rdL w 8 26 c) 10 = w1 at a1
  have a2 := one w1 9 7 (fB_adds_L31 h 26) (by omega) (fun i v hi => by
    unfold fB_adds_L31
    dsimp only [nm]
    rw [L7, if_neg (nI_ge hi (by omega)), inB_nI hi (by omega), if_pos rfl, nI_clamp (by omega), nI_1]) (fun v => by
    unfold fB_adds_L31
    rw [L7, if_pos (nI_le (Nat.le_refl _) (by omega))])
  generalize hw2 : fillL w1 9 h (fun c => rdL w1 9 h c + rdL w1 9 26 c) 7 = w2 at a2
  have a3 := one w2 13 160 (fF_addsAll_L7 h 26) (by omega) (fun i v hi => by
    unfold fF_addsAll_L7
    dsimp only [nm]
    rw [L160, if_neg (nI_ge hi (by omega)), inB_nI hi (by omega), if_pos rfl, nI_clamp (by omega), nI_1]) (fun v => by
    unfold fF_addsAll_L7
    rw [L160, if_pos (nI_le (Nat.le_refl _) (by omega))])
  generalize hw3 : fillL w2 13 h (fun c => rdL w2 13 h c + rdL w2 13 26 c) 160 = w3 at a3
  have r1 : ∀ a b c, ¬ (a = 8 ∧ b = h) → rdL w1 a b c = rdL w a b c := fun a b c q => by rw [← hw1, fillL_rd, if_neg (fun z => q ⟨z.1, z.2.1⟩)]
  have r2 : ∀ a b c, ¬ (a = 9 ∧ b = h) → rdL w2 a b c = rdL w1 a b c := fun a b c q => by rw [← hw2, fillL_rd, if_neg (fun z => q ⟨z.1, z.2.1⟩)]
  have r3 : ∀ a b c, rdL w3 a b c = if a = 13 ∧ b = h ∧ c < 160 then rdL w 13 h c + rdL w 13 26 c else if a = 9 ∧ b = h ∧ c < 7 then rdL w 9 h c + rdL w 9 26 c else if a = 8 ∧ b = h ∧ c < 10 then rdL w 8 h c + rdL w 8 26 c else rdL w a b c := fun a b c => by
    rw [← hw3, fillL_rd, r2 13 h c (by omega), r1 13 h c (by omega), r2 13 26 c (by omega), r1 13 26 c (by omega), ← hw2, fillL_rd, r1 9 h c (by omega), r1 9 26 c (by omega), ← hw1, fillL_rd]
  have i3 : w3.1 = w.1 := by rw [← hw3, fillL_i, ← hw2, fillL_i, ← hw1, fillL_i]
  have q3 : w3.2.2 = w.2.2 := by rw [← hw3, fillL_r, ← hw2, fillL_r, ← hw1, fillL_r]
  have e3 : ∀ k c, k = 10 ∨ k = 11 ∨ k = 12 → rdL w3 k h c = rdL w k h c ∧ rdL w3 k 26 c = rdL w k 26 c := fun k c hk => by
    rw [r3, r3, if_neg (by omega), if_neg (by omega), if_neg (by omega), if_neg (by omega), if_neg (by omega), if_neg (by omega)]
    exact ⟨rfl, rfl⟩
  have hk_ := itr_inv (body := fF_addsAll_L39 h 26) (fun i u => (nI i, u)) (fun i u => u.1 = w3.1 ∧ u.2.2 = w3.2.2 ∧ ∀ a b c, rdL u a b c = if b = h ∧ a = 10 ∧ c < i then rdL w 10 h c + rdL w 10 26 c else if b = h ∧ a = 11 ∧ c < i then rdL w 11 h c + rdL w 11 26 c else if b = h ∧ a = 12 ∧ c < i then rdL w 12 h c + rdL w 12 26 c else rdL w3 a b c) (fun b => ∃ u, b = (nI 40, u) ∧ u.1 = w3.1 ∧ u.2.2 = w3.2.2 ∧ ∀ a b c, rdL u a b c = if b = h ∧ a = 10 ∧ c < 40 then rdL w 10 h c + rdL w 10 26 c else if b = h ∧ a = 11 ∧ c < 40 then rdL w 11 h c + rdL w 11 26 c else if b = h ∧ a = 12 ∧ c < 40 then rdL w 12 h c + rdL w 12 26 c else rdL w3 a b c) 40 w3 (by omega) ⟨rfl, rfl, fun a b c => by rw [if_neg (by omega), if_neg (by omega), if_neg (by omega)]⟩ (fun i u hi hI => ?_) (fun u hI => ?_)
  · obtain ⟨b, b1, u, rfl, u1, u2, u3⟩ := hk_
    refine ⟨u, ?_, u1.trans i3, u2.trans q3, fun a b c => ?_⟩
    · unfold fF_addsAll fB_adds
      rw [a1]
      simp only [Option.bind_some]
      rw [a2]
      simp only [Option.bind_some]
      rw [a3]
      simp only [Option.bind_some]
      rw [L0, b1]
      rfl
    · rw [u3, r3]
      by_cases k13 : a = 13
      · subst k13
        exact ptC (x10 := rdL w 10 h c + rdL w 10 26 c) (fun z => by omega) (fun z => by omega) (fun z => by omega) (fun z => by omega) (fun z => by omega)
      · have := ptC (a := a) (b := b) (c := c) (h := h) (x8 := rdL w 8 h c + rdL w 8 26 c) (x9 := rdL w 9 h c + rdL w 9 26 c) (x10 := rdL w 10 h c + rdL w 10 26 c) (x11 := rdL w 11 h c + rdL w 11 26 c) (x12 := rdL w 12 h c + rdL w 12 26 c) (x13 := rdL w a h c + rdL w a 26 c) (v := rdL w a b c) (fun z => by rw [z]) (fun z => by rw [z]) (fun z => by rw [z]) (fun z => by rw [z]) (fun z => by rw [z])
        rw [← this]
        simp only [k13, false_and, if_false]
  · obtain ⟨h1, h2, h3⟩ := hI
    have f : ∀ k, k = 10 ∨ k = 11 ∨ k = 12 → rdL u k h i = rdL w k h i ∧ rdL u k 26 i = rdL w k 26 i := fun k hk => by
      rw [h3, h3, if_neg (by omega), if_neg (by omega), if_neg (by omega), if_neg (by omega), if_neg (by omega), if_neg (by omega)]
      exact e3 k i hk
    obtain ⟨f1, f2⟩ := f 10 (by omega)
    obtain ⟨f3, f4⟩ := f 11 (by omega)
    obtain ⟨f5, f6⟩ := f 12 (by omega)
    refine ⟨wrL (wrL (wrL u 10 h i (rdL w 10 h i + rdL w 10 26 i)) 11 h i (rdL w 11 h i + rdL w 11 26 i)) 12 h i (rdL w 12 h i + rdL w 12 26 i), ?_, h1, h2, fun a b c => ?_⟩
    · unfold fF_addsAll_L39
      dsimp only [nm]
      have y1 : ∀ x z, rdL (wrL u 10 h i x) 11 z i = rdL u 11 z i := fun x z => by rw [rdL_wrL, if_neg (by omega)]
      have y2 : ∀ x y z, rdL (wrL (wrL u 10 h i x) 11 h i y) 12 z i = rdL u 12 z i := fun x y z => by rw [rdL_wrL, if_neg (by omega), rdL_wrL, if_neg (by omega)]
      rw [L40, if_neg (nI_ge hi (by omega)), inB_nI hi (by omega), if_pos rfl, nI_clamp (by omega), nI_1, y1, y1, y2, y2, f1, f2, f3, f4, f5, f6]
    · rw [rdL_wrL, rdL_wrL, rdL_wrL, h3]
      exact ptB (fun c => rdL w 10 h c + rdL w 10 26 c) (fun c => rdL w 11 h c + rdL w 11 26 c) (fun c => rdL w 12 h c + rdL w 12 26 c)
  · refine ⟨_, ?_, u, rfl, hI⟩
    unfold fF_addsAll_L39
    rw [L40, if_pos (nI_le (Nat.le_refl _) (by omega))]
theorem ptD {a b c i : Nat} {x v : Int64} {P : Nat → Nat → Int64} {sg : Nat → Nat} (hv : a = 5 → b = i → c < sg i → v = P b c) : (if a = 5 ∧ b = i ∧ c < sg i then P b c else if a = 2 ∧ b = i ∧ c = 9 then x else v) = if a = 2 ∧ b = i ∧ c = 9 then x else if a = 5 ∧ b = i ∧ c < sg i then P b c else v := by
  grind (splits := 40)
/-- what flowed by f is used, so many times -/
theorem c_uses {w : tt_St} {a : TS} (C : CS w a) (O : a.Ok) (f : Nat) (x : Int64) : ∃ w', fW_uses w f x = some w' ∧ w'.1 = w.1 ∧ w'.2.2 = w.2.2 ∧ ∀ k b c, rdL w' k b c = if k = 2 ∧ b < 40 ∧ c = 9 then rdL w 2 b 9 + x * rdL w 10 f b else if k = 5 ∧ b < 40 ∧ c < a.sg b then rdL w 5 b c + x * rdL w 13 f (4 * b + c) else rdL w k b c := by
  have hk_ := itr_inv (body := fW_uses_L14 f x) (fun i u => (nI i, u)) (fun i u => u.1 = w.1 ∧ u.2.2 = w.2.2 ∧ ∀ k b c, rdL u k b c = if k = 2 ∧ b < i ∧ c = 9 then rdL w 2 b 9 + x * rdL w 10 f b else if k = 5 ∧ b < i ∧ c < a.sg b then rdL w 5 b c + x * rdL w 13 f (4 * b + c) else rdL w k b c) (fun b => ∃ u, b = (nI 40, u) ∧ u.1 = w.1 ∧ u.2.2 = w.2.2 ∧ ∀ k b c, rdL u k b c = if k = 2 ∧ b < 40 ∧ c = 9 then rdL w 2 b 9 + x * rdL w 10 f b else if k = 5 ∧ b < 40 ∧ c < a.sg b then rdL w 5 b c + x * rdL w 13 f (4 * b + c) else rdL w k b c) 40 w (by omega) ⟨rfl, rfl, fun a b c => by rw [if_neg (by omega), if_neg (by omega)]⟩ (fun i u hi hI => ?_) (fun u hI => ?_)
  · obtain ⟨b, b1, u, rfl, u1⟩ := hk_
    refine ⟨u, ?_, u1⟩
    unfold fW_uses
    rw [L0, b1]
    rfl
  · obtain ⟨h1, h2, h3⟩ := hI
    have h4 := O.sg4 i hi
    have v2 : rdL u 2 i 9 = rdL w 2 i 9 := by rw [h3, if_neg (by omega), if_neg (by omega)]
    have v10 : rdL u 10 f i = rdL w 10 f i := by rw [h3, if_neg (by omega), if_neg (by omega)]
    generalize hu1 : wrL u 2 i 9 (rdL w 2 i 9 + x * rdL w 10 f i) = u1
    have i1 : u1.1 = w.1 := by rw [← hu1]; exact h1
    have q1 : u1.2.2 = w.2.2 := by rw [← hu1]; exact h2
    have e1 : ∀ k b c, ¬ (k = 2 ∧ b = i ∧ c = 9) → rdL u1 k b c = rdL u k b c := fun k b c z => by rw [← hu1, rdL_wrL, if_neg z]
    have hk2 := itr_inv (body := fW_uses_L53 f x (nI i, u)) (fun j v => (nI j, v)) (fun j v => v.1 = w.1 ∧ v.2.2 = w.2.2 ∧ ∀ k b c, rdL v k b c = if k = 5 ∧ b = i ∧ c < j then rdL w 5 i c + x * rdL w 13 f (4 * i + c) else rdL u1 k b c) (fun b => ∃ v, b = (nI (a.sg i), v) ∧ v.1 = w.1 ∧ v.2.2 = w.2.2 ∧ ∀ k b c, rdL v k b c = if k = 5 ∧ b = i ∧ c < a.sg i then rdL w 5 i c + x * rdL w 13 f (4 * i + c) else rdL u1 k b c) (a.sg i) u1 (by omega) ⟨i1, q1, fun k b c => by rw [if_neg (by omega)]⟩ (fun j v hj hJ => ?_) (fun v hJ => ?_)
    · obtain ⟨b, b1, v, rfl, g1, g2, g3⟩ := hk2
      refine ⟨v, ?_, g1, g2, fun k b c => ?_⟩
      · unfold fW_uses_L14
        dsimp only [nm]
        rw [L40, if_neg (nI_ge hi (by omega)), inB_nI hi (by omega), if_pos rfl, nI_clamp (show i < 2 ^ 31 by omega), inB_nI hi (by omega), if_pos rfl, nI_clamp (show i < 2 ^ 31 by omega), v2, v10, hu1, L0, b1]
        simp only [Option.bind_some]
        rw [nI_1]
      · rw [g3, ← hu1, rdL_wrL, h3]
        by_cases e : b = i
        · subst e
          by_cases k2 : k = 2 ∧ c = 9
          · rw [if_neg (by omega), if_pos (by omega), if_pos (by omega)]
          · rw [if_neg (show ¬ (k = 2 ∧ b = b ∧ c = 9) by omega), if_neg (show ¬ (k = 2 ∧ b < b ∧ c = 9) by omega), if_neg (show ¬ (k = 5 ∧ b < b ∧ c < a.sg b) by omega), if_neg (show ¬ (k = 2 ∧ b < b + 1 ∧ c = 9) by omega)]
            by_cases k5 : k = 5 ∧ c < a.sg b
            · rw [if_pos (by omega), if_pos (by omega)]
            · rw [if_neg (by omega), if_neg (by omega)]
        · rw [if_neg (by omega), if_neg (by omega)]
          by_cases k2 : k = 2 ∧ b < i ∧ c = 9
          · rw [if_pos k2, if_pos (by omega)]
          · rw [if_neg k2, if_neg (show ¬ (k = 2 ∧ b < i + 1 ∧ c = 9) by omega)]
            by_cases k5 : k = 5 ∧ b < i ∧ c < a.sg b
            · rw [if_pos k5, if_pos (by omega)]
            · rw [if_neg k5, if_neg (by omega)]
    · obtain ⟨g1, g2, g3⟩ := hJ
      have w5 : rdL v 5 i j = rdL w 5 i j := by rw [g3, if_neg (by omega), e1 5 i j (by omega), h3, if_neg (by omega), if_neg (by omega)]
      have w13 : rdL v 13 f (4 * i + j) = rdL w 13 f (4 * i + j) := by rw [g3, if_neg (by omega), e1 13 f _ (by omega), h3, if_neg (by omega), if_neg (by omega)]
      refine ⟨wrL v 5 i j (rdL w 5 i j + x * rdL w 13 f (4 * i + j)), ?_, g1, g2, fun k b c => ?_⟩
      · unfold fW_uses_L53
        dsimp only [nm]
        rw [nI_clamp (show i < 2 ^ 31 by omega), rdI_1 g1, C.sg i hi, if_neg (nI_ge hj (by omega)), inB_nI (by omega) (by omega), if_pos rfl, L4, ix_add, inB_nI (by omega) (by omega), if_pos rfl, nI_clamp (show j < 2 ^ 31 by omega), nI_clamp (show 4 * i + j < 2 ^ 31 by omega), w5, w13, nI_1]
      · rw [rdL_wrL, g3]
        by_cases e : k = 5 ∧ b = i ∧ c = j
        · rw [if_pos e, if_pos (by omega), e.2.2]
        · rw [if_neg e]
          by_cases e2 : k = 5 ∧ b = i ∧ c < j
          · rw [if_pos e2, if_pos (by omega)]
          · rw [if_neg e2, if_neg (by omega)]
    · refine ⟨_, ?_, v, rfl, hJ⟩
      unfold fW_uses_L53
      dsimp only
      rw [nI_clamp (show i < 2 ^ 31 by omega), rdI_1 hJ.1, C.sg i hi, if_pos (nI_le (Nat.le_refl _) (by omega))]
  · refine ⟨_, ?_, u, rfl, hI⟩
    unfold fW_uses_L14
    rw [L40, if_pos (nI_le (Nat.le_refl _) (by omega))]
