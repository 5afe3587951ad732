set_option linter.unusedVariables false
set_option linter.unusedSimpArgs false
set_option maxRecDepth 100000
/-! PLAIN LAW: begins, laid aside and back; contributes, both sides -/
theorem L160 : (160 : Int32) = nI 160 := rfl
theorem L24 : (24 : Int32) = nI 24 := rfl
/-- a burden of number f is cleared -/
def BG (f : Nat) (w w' : tt_St) : Prop :=
  (w'.1 = w.1) ∧
  (w'.2.2 = w.2.2) ∧
  (∀ j, j < 10 → rdL w' 8 f j = 0) ∧
  (∀ j, j < 7 → rdL w' 9 f j = 0) ∧
  (∀ j, j < 40 → rdL w' 10 f j = 0) ∧
  (∀ j, j < 40 → rdL w' 11 f j = 0) ∧
  (∀ j, j < 40 → rdL w' 12 f j = 0) ∧
  (∀ j, j < 160 → rdL w' 13 f j = 0) ∧
  (∀ k i j, ¬ (i = f ∧ 8 ≤ k ∧ k ≤ 13) → rdL w' k i j = rdL w k i j)
theorem BG.i {f : Nat} {w w' : tt_St} (self_ : BG f w w') : w'.1 = w.1 := self_.1
theorem BG.r {f : Nat} {w w' : tt_St} (self_ : BG f w w') : w'.2.2 = w.2.2 := self_.2.1
theorem BG.z8 {f : Nat} {w w' : tt_St} (self_ : BG f w w') : ∀ j, j < 10 → rdL w' 8 f j = 0 := self_.2.2.1
theorem BG.z9 {f : Nat} {w w' : tt_St} (self_ : BG f w w') : ∀ j, j < 7 → rdL w' 9 f j = 0 := self_.2.2.2.1
theorem BG.z10 {f : Nat} {w w' : tt_St} (self_ : BG f w w') : ∀ j, j < 40 → rdL w' 10 f j = 0 := self_.2.2.2.2.1
theorem BG.z11 {f : Nat} {w w' : tt_St} (self_ : BG f w w') : ∀ j, j < 40 → rdL w' 11 f j = 0 := self_.2.2.2.2.2.1
theorem BG.z12 {f : Nat} {w w' : tt_St} (self_ : BG f w w') : ∀ j, j < 40 → rdL w' 12 f j = 0 := self_.2.2.2.2.2.2.1
theorem BG.z13 {f : Nat} {w w' : tt_St} (self_ : BG f w w') : ∀ j, j < 160 → rdL w' 13 f j = 0 := self_.2.2.2.2.2.2.2.1
theorem BG.l {f : Nat} {w w' : tt_St} (self_ : BG f w w') : ∀ k i j, ¬ (i = f ∧ 8 ≤ k ∧ k ≤ 13) → rdL w' k i j = rdL w k i j := self_.2.2.2.2.2.2.2.2
theorem c_begins_3 {w : tt_St} {f : Nat} : ∃ u, itr (fF_begins_L6 f) tt_fuel ((0 : Int32), w) = some (nI 40, u) ∧ u.1 = w.1 ∧ u.2.2 = w.2.2 ∧ ∀ a b c, rdL u a b c = if b = f ∧ (a = 10 ∨ a = 11 ∨ a = 12) ∧ c < 40 then 0 else rdL w a b c := by
  have hk_ := itr_inv (body := fF_begins_L6 f) (fun i u => (nI i, u)) (fun i u => u.1 = w.1 ∧ u.2.2 = w.2.2 ∧ ∀ a b c, rdL u a b c = if b = f ∧ (a = 10 ∨ a = 11 ∨ a = 12) ∧ c < i then 0 else rdL w a b c) (fun b => ∃ u, b = (nI 40, u) ∧ u.1 = w.1 ∧ u.2.2 = w.2.2 ∧ ∀ a b c, rdL u a b c = if b = f ∧ (a = 10 ∨ a = 11 ∨ a = 12) ∧ c < 40 then 0 else rdL w a b c) 40 w (by omega) ⟨rfl, rfl, fun a b c => by rw [if_neg (by omega)]⟩ (fun i u hi hI => ?_) (fun u hI => ?_)
  · obtain ⟨b, b1, u, rfl, b2⟩ := hk_
    exact ⟨u, b1, b2⟩
  · obtain ⟨h1, h2, h3⟩ := hI
    refine ⟨wrL (wrL (wrL u 10 f i 0) 11 f i 0) 12 f i 0, ?_, h1, h2, fun a b c => ?_⟩
    · unfold fF_begins_L6
      dsimp only [nm]
      rw [L40, if_neg (nI_ge hi (by omega)), inB_nI hi (by omega), if_pos rfl, nI_clamp (by omega), nI_1]
    · rw [rdL_wrL, rdL_wrL, rdL_wrL, h3]
      clear h3 h1 h2
      grind (splits := 40)
  · refine ⟨_, ?_, u, rfl, hI⟩
    unfold fF_begins_L6
    rw [L40, if_pos (nI_le (Nat.le_refl _) (by omega))]
theorem c_fillz {w : tt_St} {f k N : Nat} {body : Int32 × tt_St → Option ((Int32 × tt_St) ⊕ (Int32 × tt_St))} (hN : N < 1000) (hs : ∀ i u, i < N → body (nI i, u) = some (.inl (nI (i + 1), wrL u k f i 0))) (hx : ∀ u, body (nI N, u) = some (.inr (nI N, u))) : itr body tt_fuel ((0 : Int32), w) = some (nI N, fillL w k f (fun _ => 0) N) :=
  itr_run (fun i => (nI i, fillL w k f (fun _ => 0) i)) N _ hN (fun i hi => hs i _ hi) (hx _)
theorem c_beginsB {w : tt_St} {f : Nat} : fB_begins w f = some (fillL (fillL w 8 f (fun _ => 0) 10) 9 f (fun _ => 0) 7) := by
  unfold fB_begins
  rw [c_fillz (k := 8) (f := f) (N := 10) (by omega) (fun i u hi => by
    unfold fB_begins_L2
    dsimp only [nm]
    rw [L10, if_neg (nI_ge hi (by omega)), inB_nI hi (by omega), if_pos rfl, nI_clamp (by omega), nI_1]) (fun u => by
    unfold fB_begins_L2
    rw [L10, if_pos (nI_le (Nat.le_refl _) (by omega))])]
  simp only [Option.bind_some]
  rw [c_fillz (k := 9) (f := f) (N := 7) (by omega) (fun i u hi => by
    unfold fB_begins_L23
    dsimp only [nm]
    rw [L7, if_neg (nI_ge hi (by omega)), inB_nI hi (by omega), if_pos rfl, nI_clamp (by omega), nI_1]) (fun u => by
    unfold fB_begins_L23
    rw [L7, if_pos (nI_le (Nat.le_refl _) (by omega))])]
  rfl
theorem c_begins {w : tt_St} (f : Nat) : ∃ w', fF_begins w f = some w' ∧ BG f w w' := by
  obtain ⟨u, u1, u2, u3, u4⟩ := c_begins_3 (w := fillL (fillL w 8 f (fun _ => 0) 10) 9 f (fun _ => 0) 7) (f := f)
  have e8 : ∀ k i j, rdL (fillL u 13 f (fun _ => 0) 160) k i j = if i = f ∧ ((k = 13 ∧ j < 160) ∨ ((k = 10 ∨ k = 11 ∨ k = 12) ∧ j < 40) ∨ (k = 9 ∧ j < 7) ∨ (k = 8 ∧ j < 10)) then 0 else rdL w k i j := by
    intro k i j
    rw [fillL_rd, u4, fillL_rd, fillL_rd]
    grind
  refine ⟨fillL u 13 f (fun _ => 0) 160, ?_, (fillL_i _).trans (u2.trans ((fillL_i _).trans (fillL_i _))), (fillL_r _).trans (u3.trans ((fillL_r _).trans (fillL_r _))), fun j hj => ?_, fun j hj => ?_, fun j hj => ?_, fun j hj => ?_, fun j hj => ?_, fun j hj => ?_, fun k i j hk => ?_⟩
  · unfold fF_begins
    rw [c_beginsB]
    simp only [Option.bind_some]
    rw [u1]
    simp only [Option.bind_some]
    rw [c_fillz (k := 13) (f := f) (N := 160) (by omega) (fun i u hi => by
      unfold fF_begins_L41
      dsimp only [nm]
      rw [L160, if_neg (nI_ge hi (by omega)), inB_nI hi (by omega), if_pos rfl, nI_clamp (by omega), nI_1]) (fun u => by
      unfold fF_begins_L41
      rw [L160, if_pos (nI_le (Nat.le_refl _) (by omega))])]
    rfl
  all_goals rw [e8]
  · rw [if_pos (by omega)]
  · rw [if_pos (by omega)]
  · rw [if_pos (by omega)]
  · rw [if_pos (by omega)]
  · rw [if_pos (by omega)]
  · rw [if_pos (by omega)]
  · rw [if_neg (by omega)]
/-- a flow by f was written, and what is only for the moment; all of it -/
def GC2 (f : Nat) (w w' : tt_St) : Prop :=
  ((∃ n, QW w n) → ∃ n, QW w' n) ∧
  (∀ k i j, k < 32 → rdI w' k i j = rdI w k i j) ∧
  (∀ k i j, ¬ ((i = f ∨ i = 25) ∧ 8 ≤ k ∧ k ≤ 13) → ¬ (26 ≤ k ∧ k ≤ 32) → rdL w' k i j = rdL w k i j)
theorem GC2.q {f : Nat} {w w' : tt_St} (self_ : GC2 f w w') : (∃ n, QW w n) → ∃ n, QW w' n := self_.1
theorem GC2.i {f : Nat} {w w' : tt_St} (self_ : GC2 f w w') : ∀ k i j, k < 32 → rdI w' k i j = rdI w k i j := self_.2.1
theorem GC2.l {f : Nat} {w w' : tt_St} (self_ : GC2 f w w') : ∀ k i j, ¬ ((i = f ∨ i = 25) ∧ 8 ≤ k ∧ k ≤ 13) → ¬ (26 ≤ k ∧ k ≤ 32) → rdL w' k i j = rdL w k i j := self_.2.2
def GM2 (h : Nat) (t t' : tt_St) : Prop :=
  (∀ k i j, ¬ k = 41 → ¬ (k = 24 ∧ j / 160 = h) → rdI t' k i j = rdI t k i j) ∧
  (∀ k i j, ¬ (k = 15 ∨ k = 38 ∨ (k = 21 ∧ j / 40 = h) ∨ (k = 22 ∧ j / 40 = h) ∨ (k = 23 ∧ j / 40 = h) ∨ (k = 25 ∧ j / 10 = h) ∨ (k = 26 ∧ j / 7 = h)) → ¬ (36 ≤ k ∧ k ≤ 47) → rdL t' k i j = rdL t k i j)
theorem GM2.i {h : Nat} {t t' : tt_St} (self_ : GM2 h t t') : ∀ k i j, ¬ k = 41 → ¬ (k = 24 ∧ j / 160 = h) → rdI t' k i j = rdI t k i j := self_.1
theorem GM2.l {h : Nat} {t t' : tt_St} (self_ : GM2 h t t') : ∀ k i j, ¬ (k = 15 ∨ k = 38 ∨ (k = 21 ∧ j / 40 = h) ∨ (k = 22 ∧ j / 40 = h) ∨ (k = 23 ∧ j / 40 = h) ∨ (k = 25 ∧ j / 10 = h) ∨ (k = 26 ∧ j / 7 = h)) → ¬ (36 ≤ k ∧ k ≤ 47) → rdL t' k i j = rdL t k i j := self_.2
theorem GC2.refl {f : Nat} (w : tt_St) : GC2 f w w := ⟨fun q => q, fun _ _ _ _ => rfl, fun _ _ _ _ _ => rfl⟩
theorem GM2.refl {f : Nat} (w : tt_St) : GM2 f w w := ⟨fun _ _ _ _ _ => rfl, fun _ _ _ _ _ => rfl⟩
theorem GC2.trans {f : Nat} {u v w : tt_St} (h1 : GC2 f u v) (h2 : GC2 f v w) : GC2 f u w := ⟨fun q => h2.q (h1.q q), fun k i j h => (h2.i k i j h).trans (h1.i k i j h), fun k i j h h' => (h2.l k i j h h').trans (h1.l k i j h h')⟩
theorem GM2.trans {f : Nat} {u v w : tt_St} (h1 : GM2 f u v) (h2 : GM2 f v w) : GM2 f u w := ⟨fun k i j h h' => (h2.i k i j h h').trans (h1.i k i j h h'), fun k i j h h' => (h2.l k i j h h').trans (h1.l k i j h h')⟩
theorem GC.up {f : Nat} {u v : tt_St} (h : GC f u v) : GC2 f u v := ⟨h.q, h.i, fun k i j h1 h2 => h.l k i j (by omega) h2⟩
theorem GC.up25 {f : Nat} {u v : tt_St} (h : GC 25 u v) : GC2 f u v := ⟨h.q, h.i, fun k i j h1 h2 => h.l k i j (by omega) h2⟩
theorem GM.up {f : Nat} {u v : tt_St} (h : GM f u v) : GM2 f u v := ⟨fun k i j h1 _ => h.i k i j h1, fun k i j h1 h2 => h.l k i j (by omega) (by omega)⟩
theorem BG.gC {f : Nat} {w w' : tt_St} (B : BG f w w') : GC2 f w w' := ⟨QW.same B.i B.r, fun k i j _ => rdI_1 B.i k i j, fun k i j h _ => B.l k i j (by omega)⟩
theorem BG.gC25 {f : Nat} {w w' : tt_St} (B : BG 25 w w') : GC2 f w w' := ⟨QW.same B.i B.r, fun k i j _ => rdI_1 B.i k i j, fun k i j h _ => B.l k i j (by omega)⟩
theorem CS.g2 {w w' : tt_St} {a : TS} {f : Nat} (h : GC2 f w w') (C : CS w a) : CS w' a := C.fi h.i
theorem MS.g2 {t t' : tt_St} {a : TS} {f : Nat} (h : GM2 f t t') (C : MS t a) : MS t' a := by
  have e := fun k i j (h1 : ¬ k = 41) (h2 : ¬ k = 24) => h.i k i j h1 (fun q => h2 q.1)
  unfold MS at C ⊢
  simp only [e 0 _ _ (by omega) (by omega), e 6 _ _ (by omega) (by omega), e 8 _ _ (by omega) (by omega), e 9 _ _ (by omega) (by omega), e 10 _ _ (by omega) (by omega), e 11 _ _ (by omega) (by omega), e 12 _ _ (by omega) (by omega), e 13 _ _ (by omega) (by omega), e 14 _ _ (by omega) (by omega), e 27 _ _ (by omega) (by omega), e 33 _ _ (by omega) (by omega), e 34 _ _ (by omega) (by omega), e 35 _ _ (by omega) (by omega)]
  exact C
/-! the model lays aside and back -/
theorem m_aside {t : tt_St} {h : Nat} (hh : h < 25) : ∃ t', fM_laysAside t (nI h) = some t' ∧ t'.1 = t.1 ∧ t'.2.2 = t.2.2 ∧ ∀ a b c, rdL t' a b c = if b = 0 ∧ a = 42 ∧ c < 40 then rdL t 15 0 c else if b = 0 ∧ a = 43 ∧ c < 40 then rdL t 21 0 (40 * h + c) else if b = 0 ∧ a = 44 ∧ c < 40 then rdL t 22 0 (40 * h + c) else if b = 0 ∧ a = 45 ∧ c < 7 then rdL t 26 0 (7 * h + c) else rdL t a b c := by
  have hk_ := itr_inv (body := fM_laysAside_L2 (nI h)) (fun i u => (nI i, u)) (fun i u => u.1 = t.1 ∧ u.2.2 = t.2.2 ∧ ∀ a b c, rdL u a b c = if b = 0 ∧ a = 42 ∧ c < i then rdL t 15 0 c else if b = 0 ∧ a = 43 ∧ c < i then rdL t 21 0 (40 * h + c) else if b = 0 ∧ a = 44 ∧ c < i then rdL t 22 0 (40 * h + c) else rdL t a b c) (fun b => ∃ u, b = (nI 40, u) ∧ u.1 = t.1 ∧ u.2.2 = t.2.2 ∧ ∀ a b c, rdL u a b c = if b = 0 ∧ a = 42 ∧ c < 40 then rdL t 15 0 c else if b = 0 ∧ a = 43 ∧ c < 40 then rdL t 21 0 (40 * h + c) else if b = 0 ∧ a = 44 ∧ c < 40 then rdL t 22 0 (40 * h + c) else rdL t a b c) 40 t (by omega) ⟨rfl, rfl, fun a b c => by rw [if_neg (by omega), if_neg (by omega), if_neg (by omega)]⟩ (fun i u hi hI => ?_) (fun u hI => ?_)
  · obtain ⟨b, b1, u, rfl, u1, u2, u3⟩ := hk_
    refine ⟨fillL u 45 0 (fun c => rdL t 26 0 (7 * h + c)) 7, ?_, (fillL_i _).trans u1, (fillL_r _).trans u2, fun a b c => ?_⟩
    · unfold fM_laysAside
      rw [show ((0 : Int32), t) = (nI 0, t) from rfl, b1]
      simp only [Option.bind_some]
      have : itr (fM_laysAside_L62 (nI h)) tt_fuel ((0 : Int32), u) = some (nI 7, fillL u 45 0 (fun c => rdL t 26 0 (7 * h + c)) 7) := by
        refine itr_run (fun i => (nI i, fillL u 45 0 (fun c => rdL t 26 0 (7 * h + c)) i)) 7 _ (by omega) (fun i hi => ?_) ?_
        · unfold fM_laysAside_L62
          dsimp only [nm]
          rw [L7, if_neg (nI_ge hi (by omega)), ix_add, inB_nI (by omega) (by omega), if_pos rfl, inB_nI hi (by omega), if_pos rfl, nI_clamp (by omega), nI_clamp (by omega), nI_1, fillL_rd, if_neg (by omega), u3, if_neg (by omega), if_neg (by omega), if_neg (by omega)]
          rfl
        · unfold fM_laysAside_L62
          rw [L7, if_pos (nI_le (Nat.le_refl _) (by omega))]
      rw [this]
      rfl
    · rw [fillL_rd, u3]
      grind
  · obtain ⟨h1, h2, h3⟩ := hI
    have r15 : rdL u 15 0 i = rdL t 15 0 i := by rw [h3, if_neg (by omega), if_neg (by omega), if_neg (by omega)]
    have r21 : rdL u 21 0 (40 * h + i) = rdL t 21 0 (40 * h + i) := by rw [h3, if_neg (by omega), if_neg (by omega), if_neg (by omega)]
    have r22 : rdL u 22 0 (40 * h + i) = rdL t 22 0 (40 * h + i) := by rw [h3, if_neg (by omega), if_neg (by omega), if_neg (by omega)]
    refine ⟨wrL (wrL (wrL u 42 0 i (rdL t 15 0 i)) 43 0 i (rdL t 21 0 (40 * h + i))) 44 0 i (rdL t 22 0 (40 * h + i)), ?_, h1, h2, fun a b c => ?_⟩
    · unfold fM_laysAside_L2
      dsimp only [nm]
      rw [L40, if_neg (nI_ge hi (by omega)), inB_nI hi (by omega), if_pos rfl, ix_add, inB_nI (by omega) (by omega), if_pos rfl, nI_clamp (by omega), nI_clamp (by omega), nI_1, r15, rdL_wrL, if_neg (by omega), r21, rdL_wrL, if_neg (by omega), rdL_wrL, if_neg (by omega), r22]
    · rw [rdL_wrL, rdL_wrL, rdL_wrL, h3]
      clear h3 h1 h2
      grind (splits := 40)
  · refine ⟨_, ?_, u, rfl, hI⟩
    unfold fM_laysAside_L2
    rw [L40, if_pos (nI_le (Nat.le_refl _) (by omega))]
theorem m_back {t : tt_St} {h : Nat} (hh : h < 25) : ∃ t', fM_laysBack t (nI h) = some t' ∧ t'.1 = t.1 ∧ t'.2.2 = t.2.2 ∧ ∀ a b c, rdL t' a b c = if b = 0 ∧ a = 15 ∧ c < 40 then rdL t 42 0 c else if b = 0 ∧ a = 21 ∧ c / 40 = h then rdL t 43 0 (c % 40) else if b = 0 ∧ a = 22 ∧ c / 40 = h then rdL t 44 0 (c % 40) else if b = 0 ∧ a = 38 ∧ c < 40 then 0 else if b = 0 ∧ a = 26 ∧ c / 7 = h then rdL t 45 0 (c % 7) else rdL t a b c := by
  have hk_ := itr_inv (body := fM_laysBack_L2 (nI h)) (fun i u => (nI i, u)) (fun i u => u.1 = t.1 ∧ u.2.2 = t.2.2 ∧ ∀ a b c, rdL u a b c = if b = 0 ∧ a = 15 ∧ c < i then rdL t 42 0 c else if b = 0 ∧ a = 21 ∧ c / 40 = h ∧ c % 40 < i then rdL t 43 0 (c % 40) else if b = 0 ∧ a = 22 ∧ c / 40 = h ∧ c % 40 < i then rdL t 44 0 (c % 40) else if b = 0 ∧ a = 38 ∧ c < i then 0 else rdL t a b c) (fun b => ∃ u, b = (nI 40, u) ∧ u.1 = t.1 ∧ u.2.2 = t.2.2 ∧ ∀ a b c, rdL u a b c = if b = 0 ∧ a = 15 ∧ c < 40 then rdL t 42 0 c else if b = 0 ∧ a = 21 ∧ c / 40 = h ∧ c % 40 < 40 then rdL t 43 0 (c % 40) else if b = 0 ∧ a = 22 ∧ c / 40 = h ∧ c % 40 < 40 then rdL t 44 0 (c % 40) else if b = 0 ∧ a = 38 ∧ c < 40 then 0 else rdL t a b c) 40 t (by omega) ⟨rfl, rfl, fun a b c => by rw [if_neg (by omega), if_neg (by omega), if_neg (by omega), if_neg (by omega)]⟩ (fun i u hi hI => ?_) (fun u hI => ?_)
  · obtain ⟨b, b1, u, rfl, u1, u2, u3⟩ := hk_
    have hk_ := itr_inv (body := fM_laysBack_L69 (nI h)) (fun i u => (nI i, u)) (fun i v => v.1 = t.1 ∧ v.2.2 = t.2.2 ∧ ∀ a b c, rdL v a b c = if b = 0 ∧ a = 26 ∧ c / 7 = h ∧ c % 7 < i then rdL t 45 0 (c % 7) else rdL u a b c) (fun b => ∃ v, b = (nI 7, v) ∧ v.1 = t.1 ∧ v.2.2 = t.2.2 ∧ ∀ a b c, rdL v a b c = if b = 0 ∧ a = 26 ∧ c / 7 = h ∧ c % 7 < 7 then rdL t 45 0 (c % 7) else rdL u a b c) 7 u (by omega) ⟨u1, u2, fun a b c => by rw [if_neg (by omega)]⟩ (fun i v hi hI => ?_) (fun v hI => ?_)
    · obtain ⟨b', b1', v, rfl, v1, v2, v3⟩ := hk_
      refine ⟨v, ?_, v1, v2, fun a b c => ?_⟩
      · unfold fM_laysBack
        rw [show ((0 : Int32), t) = (nI 0, t) from rfl, b1]
        simp only [Option.bind_some]
        rw [L0, b1']
        rfl
      · have q1 : c % 7 < 7 := Nat.mod_lt _ (by omega)
        have q2 : c % 40 < 40 := Nat.mod_lt _ (by omega)
        rw [v3, u3]
        grind
    · obtain ⟨h1, h2, h3⟩ := hI
      have r45 : rdL v 45 0 i = rdL t 45 0 i := by rw [h3, if_neg (by omega), u3, if_neg (by omega), if_neg (by omega), if_neg (by omega), if_neg (by omega)]
      refine ⟨wrL v 26 0 (7 * h + i) (rdL t 45 0 i), ?_, h1, h2, fun a b c => ?_⟩
      · unfold fM_laysBack_L69
        dsimp only [nm]
        rw [L7, if_neg (nI_ge hi (by omega)), inB_nI hi (by omega), if_pos rfl, ix_add, inB_nI (by omega) (by omega), if_pos rfl, nI_clamp (by omega), nI_clamp (by omega), nI_1, r45]
      · rw [rdL_wrL, h3]
        have q1 : c = 7 * (c / 7) + c % 7 := by omega
        have q2 : c % 7 < 7 := by omega
        by_cases e : a = 26 ∧ b = 0 ∧ c = 7 * h + i
        · obtain ⟨rfl, rfl, rfl⟩ := e
          rw [if_pos ⟨rfl, rfl, rfl⟩, if_pos (by omega), show (7 * h + i) % 7 = i by omega]
        · rw [if_neg e]
          by_cases e2 : b = 0 ∧ a = 26 ∧ c / 7 = h ∧ c % 7 < i
          · rw [if_pos e2, if_pos (by omega)]
          · rw [if_neg e2, if_neg (by omega)]
    · refine ⟨_, ?_, v, rfl, hI⟩
      unfold fM_laysBack_L69
      rw [L7, if_pos (nI_le (Nat.le_refl _) (by omega))]
  · obtain ⟨h1, h2, h3⟩ := hI
    have r42 : rdL u 42 0 i = rdL t 42 0 i := by rw [h3, if_neg (by omega), if_neg (by omega), if_neg (by omega), if_neg (by omega)]
    have r43 : rdL u 43 0 i = rdL t 43 0 i := by rw [h3, if_neg (by omega), if_neg (by omega), if_neg (by omega), if_neg (by omega)]
    have r44 : rdL u 44 0 i = rdL t 44 0 i := by rw [h3, if_neg (by omega), if_neg (by omega), if_neg (by omega), if_neg (by omega)]
    refine ⟨wrL (wrL (wrL (wrL u 15 0 i (rdL t 42 0 i)) 21 0 (40 * h + i) (rdL t 43 0 i)) 22 0 (40 * h + i) (rdL t 44 0 i)) 38 0 i 0, ?_, h1, h2, fun a b c => ?_⟩
    · unfold fM_laysBack_L2
      dsimp only [nm]
      rw [L40, if_neg (nI_ge hi (by omega)), inB_nI hi (by omega), if_pos rfl, ix_add, inB_nI (by omega) (by omega), if_pos rfl, nI_clamp (by omega), nI_clamp (by omega), nI_1, r42, rdL_wrL, if_neg (by omega), r43, rdL_wrL, if_neg (by omega), rdL_wrL, if_neg (by omega), r44]
    · rw [rdL_wrL, rdL_wrL, rdL_wrL, rdL_wrL, h3]
      have k1 : c = 40 * h + i ↔ c / 40 = h ∧ c % 40 = i := by omega
      have q3 : (40 * h + i) % 40 = i := by omega
      clear h3 h1 h2 r42 r43 r44
      grind (splits := 40)
  · refine ⟨_, ?_, u, rfl, hI⟩
    unfold fM_laysBack_L2
    rw [L40, if_pos (nI_le (Nat.le_refl _) (by omega))]
