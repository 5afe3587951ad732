set_option linter.unusedVariables false
set_option linter.unusedSimpArgs false
set_option maxRecDepth 100000
/-! PLAIN LAW: an insurer signs, both sides -/
theorem c_tenthsOf {w : tt_St} {a : TS} (C : CS w a) (O : a.Ok) {l i : Nat} (hl : l < 40) (hi : i < 2 ^ 31) : ∃ r, fY_tenthsOf w l (nI i) = some r ∧ ((∃ k, k < a.sg l ∧ a.who l k = i ∧ r = nI (a.ten l k)) ∨ ((∀ k, k < a.sg l → ¬ a.who l k = i) ∧ r = 0)) := by
  have h4 := O.sg4 l hl
  have hk_ := itr_brk (body := fY_tenthsOf_L2 w l (nI i)) (fun k (_ : Unit) => nI k) (fun k _ => ∀ j, j < k → ¬ a.who l j = i) (fun b => (∃ k, k < a.sg l ∧ a.who l k = i ∧ b = .inr (nI (a.ten l k))) ∨ ((∀ k, k < a.sg l → ¬ a.who l k = i) ∧ ∃ x, b = .inl x)) (a.sg l) () (by omega) (fun j hj => by omega) (fun k _ hk hI => ?_) (fun _ hI => ?_)
  · obtain ⟨b, b1, b2⟩ := hk_
    unfold fY_tenthsOf
    rw [L0, b1, Option.bind_some]
    rcases b2 with ⟨k, g1, g2, rfl⟩ | ⟨g1, x, rfl⟩
    · exact ⟨_, rfl, Or.inl ⟨k, g1, g2, rfl⟩⟩
    · exact ⟨_, rfl, Or.inr ⟨g1, rfl⟩⟩
  · have hw := O.who10 l k hl hk
    unfold fY_tenthsOf_L2
    rw [C.sg l hl, if_neg (nI_ge hk (by omega)), inB_nI (by omega) (by omega), if_pos rfl, nI_clamp (by omega), C.who l k hl hk, C.ten l k hl hk]
    by_cases e : a.who l k = i
    · right
      rw [if_pos (by rw [e])]
      exact ⟨_, rfl, Or.inl ⟨k, hk, e, rfl⟩⟩
    · left
      rw [if_neg (by rw [nI_eq (by omega) hi]; exact e), nI_1]
      refine ⟨(), rfl, fun j hj => ?_⟩
      by_cases z : j = k
      · rw [z]; exact e
      · exact hI j (by omega)
  · refine ⟨.inl (nI (a.sg l)), ?_, Or.inr ⟨hI, _, rfl⟩⟩
    unfold fY_tenthsOf_L2
    rw [C.sg l hl, if_pos (nI_le (Nat.le_refl _) (by omega))]
theorem m_signedTenths {t : tt_St} {a : TS} (M : MS t a) (O : a.Ok) {l : Nat} (hl : l < 40) : fM_signedTenths t (nI l) = some (nI (tenS a l (a.sg l))) := by
  have h4 := O.sg4 l hl
  have h : itr (fM_signedTenths_L4 t (nI l)) tt_fuel ((0 : Int32), (0 : Int32)) = some (nI (tenS a l (a.sg l)), nI (a.sg l)) := by
    refine itr_run (fun i => (nI (tenS a l i), nI i)) (a.sg l) _ (by omega) (fun i hi => ?_) ?_
    · unfold fM_signedTenths_L4
      dsimp only [nm]
      rw [inB_nI hl (by omega), if_pos rfl, nI_clamp (by omega), M.sg l hl, if_neg (nI_ge hi (by omega)), L4, ix_add, inB_nI (by omega) (by omega), if_pos rfl, nI_clamp (by omega), M.ten l i hl hi, nI_add, nI_1]
      rfl
    · unfold fM_signedTenths_L4
      rw [inB_nI hl (by omega), if_pos rfl, nI_clamp (by omega), M.sg l hl, if_pos (nI_le (Nat.le_refl _) (by omega))]
  unfold fM_signedTenths
  rw [h]
  rfl
theorem m_signer {t : tt_St} {a : TS} (M : MS t a) (O : a.Ok) {l i : Nat} (hl : l < 40) (hi : i < 2 ^ 31) : ∃ b, itr (fM_canSign_L47 t (nI l) (nI i)) tt_fuel (0 : Int32) = some b ∧ (((∃ k, k < a.sg l ∧ a.who l k = i) ∧ b = .inr 0) ∨ ((∀ k, k < a.sg l → ¬ a.who l k = i) ∧ ∃ x, b = .inl x)) := by
  have h4 := O.sg4 l hl
  have hk_ := itr_brk (body := fM_canSign_L47 t (nI l) (nI i)) (fun k (_ : Unit) => nI k) (fun k _ => ∀ j, j < k → ¬ a.who l j = i) (fun b => ((∃ k, k < a.sg l ∧ a.who l k = i) ∧ b = .inr 0) ∨ ((∀ k, k < a.sg l → ¬ a.who l k = i) ∧ ∃ x, b = .inl x)) (a.sg l) () (by omega) (fun j hj => by omega) (fun k _ hk hI => ?_) (fun _ hI => ?_)
  · exact hk_
  · have hw := O.who10 l k hl hk
    unfold fM_canSign_L47
    rw [nI_clamp (show l < 2 ^ 31 by omega), M.sg l hl, if_neg (nI_ge hk (by omega)), L4, ix_add, inB_nI (by omega) (by omega), if_pos rfl, nI_clamp (by omega), M.who l k hl hk]
    by_cases e : a.who l k = i
    · right
      rw [if_pos (by rw [e])]
      exact ⟨_, rfl, Or.inl ⟨⟨k, hk, e⟩, rfl⟩⟩
    · left
      rw [if_neg (by rw [nI_eq (by omega) hi]; exact e), nI_1]
      refine ⟨(), rfl, fun j hj => ?_⟩
      by_cases z : j = k
      · rw [z]; exact e
      · exact hI j (by omega)
  · refine ⟨.inl (nI (a.sg l)), ?_, Or.inr ⟨hI, _, rfl⟩⟩
    unfold fM_canSign_L47
    rw [nI_clamp (show l < 2 ^ 31 by omega), M.sg l hl, if_pos (nI_le (Nat.le_refl _) (by omega))]
def TS.sgn (a : TS) (l i n : Nat) : TS := TS.mk a.n a.rg a.there a.yr a.fr a.sz a.tm (fun x => if x = l then a.sg x + 1 else a.sg x) (fun x k => if x = l ∧ k = a.sg l then i else a.who x k) (fun x k => if x = l ∧ k = a.sg l then n else a.ten x k) a.st a.lack a.trig a.spr a.pick
theorem signs_rel {w t : tt_St} {a : TS} {c l i n : Nat} (R : RW w t a c d0) (hl : l < 40) (hi : i < 10) (hn1 : 1 ≤ n) (hn : n ≤ 10) :
    DEED (fW_signs w (nI l) (nI i) (nI n)) (fM_canSign t (nI l) (nI i) (nI n)) (fM_signs t (nI l) (nI i) (nI n)) w t a c noP noP := by
  have C := R.C
  have M := R.M
  have O := R.O
  have h4 := O.sg4 l hl
  have h10 := tenS_le O hl (a.sg l) (Nat.le_refl _)
  have hu0 : 0 ≤ (rdL w 2 l 9).toInt := by
    rw [R.us l hl]
    exact sumZ_nonneg (fun i hi => ((R.H i hi).tb l hl).1)
  unfold fW_signs fM_canSign
  rw [inB_nI hl (by omega), if_pos rfl, if_pos rfl, nI_clamp (by omega), C.isT l hl, M.isT l hl]
  by_cases ht : a.there l = true
  · rw [ht, if_neg (show ¬ (if true = true then (1 : Int32) else 0) = 0 by decide), if_neg (show ¬ (if true = true then (1 : Int32) else 0) = 0 by decide), C.sg l hl, M.sg l hl, c_allTenths C O hl, m_signedTenths M O hl, R.used l hl]
    simp only [Option.bind_some]
    obtain ⟨r, r1, r2⟩ := c_tenthsOf C O hl (i := i) (by omega)
    obtain ⟨b, b1, b2⟩ := m_signer M O hl (i := i) (by omega)
    rw [r1, b1]
    simp only [Option.bind_some]
    by_cases s4 : a.sg l = 4
    · left
      have e : nI (a.sg l) = (4 : Int32) := by rw [s4]; rfl
      refine ⟨?_, by rw [if_pos e]⟩
      by_cases q : (0 : Int64) < rdL w 2 l 9
      · rw [if_pos q]
      · rw [if_neg q, if_pos e]
    · have e : ¬ nI (a.sg l) = (4 : Int32) := by rw [L4, nI_eq (by omega) (by omega)]; exact s4
      rw [if_neg e, if_neg e, nI_add, show (10 : Int32) = nI 10 from rfl]
      have hS : ∀ x : Nat, x < 2 ^ 31 → (nI 10 < nI x ↔ ¬ x ≤ 10) := fun x hx => by rw [nI_ltI (by omega) hx]; omega
      by_cases hT : tenS a l (a.sg l) + n ≤ 10
      · rw [if_neg (fun z => (hS _ (by omega)).mp z hT), if_pos (nI_le hT (by omega))]
        by_cases q : (0 : Int64) < rdL w 2 l 9
        · left
          rw [if_pos q, if_neg (fun z => by have := i64_lt.mp q; have := i64_le.mp z; omega)]
          exact ⟨rfl, rfl⟩
        · rw [if_neg q, if_pos (i64_le.mpr (by have := mt i64_lt.mpr q; omega))]
          rcases r2 with ⟨k, k1, k2, rfl⟩ | ⟨k1, rfl⟩
          · left
            have t1 := (O.ten1 l k hl k1).1
            have t2 := (O.ten1 l k hl k1).2
            rw [if_pos (show (0 : Int32) < nI (a.ten l k) from nI_lt (a := 0) (by omega) (by omega))]
            refine ⟨rfl, ?_⟩
            rcases b2 with ⟨_, rfl⟩ | ⟨g, _⟩
            · rfl
            · exact absurd k2 (g k k1)
          · right
            rw [if_neg (by decide)]
            have hb : (orRet b fun _ => some (1 : Int32)) = some 1 := by
              rcases b2 with ⟨⟨k, g1, g2⟩, _⟩ | ⟨_, x, rfl⟩
              · exact absurd g2 (k1 k g1)
              · rfl
            rw [hb]
            -- it signs
            generalize hw' : wrI (wrL (wrI (wrI w 3 l (a.sg l) (nI i)) 4 l (a.sg l) (nI n)) 5 l (a.sg l) 0) 2 l 8 (nI (a.sg l) + 1) = w'
            generalize ht' : wrI (wrI (wrI t 13 0 (4 * l + a.sg l) (nI i)) 14 0 (4 * l + a.sg l) (nI n)) 12 0 l (nI (a.sg l) + 1) = t'
            have iw : ∀ k x j, ¬ ((k = 3 ∨ k = 4) ∧ x = l ∧ j = a.sg l) → ¬ (k = 2 ∧ x = l ∧ j = 8) → rdI w' k x j = rdI w k x j := fun k x j z1 z2 => by rw [← hw', rdI_wrI, if_neg z2, rdI_wrL, rdI_wrI, if_neg (by omega), rdI_wrI, if_neg (by omega)]
            have it : ∀ k x j, ¬ ((k = 13 ∨ k = 14) ∧ j = 4 * l + a.sg l) → ¬ (k = 12 ∧ j = l) → rdI t' k x j = rdI t k x j := fun k x j z1 z2 => by rw [← ht', rdI_wrI, if_neg (by omega), rdI_wrI, if_neg (by omega), rdI_wrI, if_neg (by omega)]
            have lw : ∀ k x j, ¬ (k = 5 ∧ x = l ∧ j = a.sg l) → rdL w' k x j = rdL w k x j := fun k x j z => by rw [← hw', rdL_wrI, rdL_wrL, if_neg z]; rfl
            have lt : ∀ k x j, rdL t' k x j = rdL t k x j := fun k x j => by rw [← ht']; rfl
            have sgl : (a.sgn l i n).sg l = a.sg l + 1 := if_pos rfl
            have sgn : ∀ x, ¬ x = l → (a.sgn l i n).sg x = a.sg x := fun x hx => if_neg hx
            have sge : ∀ x, (a.sgn l i n).sg x = if x = l then a.sg x + 1 else a.sg x := fun _ => rfl
            have who' : ∀ x k, (a.sgn l i n).who x k = if x = l ∧ k = a.sg l then i else a.who x k := fun _ _ => rfl
            have ten' : ∀ x k, (a.sgn l i n).ten x k = if x = l ∧ k = a.sg l then n else a.ten x k := fun _ _ => rfl
            have slt : ∀ x k, x < 40 → k < (a.sgn l i n).sg x → (x = l ∧ k = a.sg l) ∨ (¬ (x = l ∧ k = a.sg l) ∧ k < a.sg x) := fun x k hx hk => by
              rw [sge] at hk
              by_cases e : x = l
              · rw [if_pos e, e] at hk
                by_cases e2 : k = a.sg l
                · exact Or.inl ⟨e, e2⟩
                · exact Or.inr ⟨fun z => e2 z.2, by rw [e]; omega⟩
              · rw [if_neg e] at hk
                exact Or.inr ⟨fun z => e z.1, hk⟩
            have O' : (a.sgn l i n).Ok := by
              refine ⟨O.n6, O.rg40, O.rgT, O.rgY, O.sorted, O.all, O.fr9, O.sz1, O.tm4, fun x hx => ?_, fun x hx hx2 => ?_, fun x k hx hk => ?_, fun x k hx hk => ?_, O.st2, O.trig3, O.spr3, O.pick3, O.lg⟩
              · have := O.sg4 x hx
                rw [sge]
                by_cases e : x = l
                · rw [if_pos e, e]; omega
                · rw [if_neg e]; exact this
              · have hx3 : a.there x = false := hx2
                have e : ¬ x = l := fun e => by rw [e, ht] at hx3; cases hx3
                rw [sgn x e]; exact O.sg0 x hx hx3
              · rw [who']
                rcases slt x k hx hk with z | z
                · rw [if_pos z]; exact hi
                · rw [if_neg z.1]; exact O.who10 x k hx z.2
              · rw [ten']
                rcases slt x k hx hk with z | z
                · rw [if_pos z]; exact ⟨hn1, hn⟩
                · rw [if_neg z.1]; exact O.ten1 x k hx z.2
            have C' : CS w' (a.sgn l i n) := by
              refine ⟨fun y hy => (iw 23 0 y (by omega) (by omega)).trans (C.many y hy), fun y k hy hk => (iw 22 y k (by omega) (by omega)).trans (C.rung y k hy hk), fun x hx => (iw 2 x 10 (by omega) (by omega)).trans (C.isT x hx), fun x hx ht => (iw 2 x 4 (by omega) (by omega)).trans (C.yr x hx ht), fun x hx ht => (iw 2 x 5 (by omega) (by omega)).trans (C.fr x hx ht), fun x hx ht => (iw 2 x 6 (by omega) (by omega)).trans (C.sz x hx ht), fun x hx ht => (iw 2 x 7 (by omega) (by omega)).trans (C.tm x hx ht), fun x hx => ?_, fun x k hx hk => ?_, fun x k hx hk => ?_, fun j hj => (iw 24 0 j (by omega) (by omega)).trans (C.st j hj), (iw 0 0 17 (by omega) (by omega)).trans C.lack, (iw 0 0 18 (by omega) (by omega)).trans C.trig, (iw 0 0 19 (by omega) (by omega)).trans C.spr, (iw 0 0 20 (by omega) (by omega)).trans C.pick⟩
              · by_cases e : x = l
                · subst e
                  rw [sgl, ← hw', rdI_wrI, if_pos ⟨rfl, rfl, rfl⟩, nI_1]
                · rw [sgn x e, iw 2 x 8 (by omega) (by omega)]; exact C.sg x hx
              · rw [who']
                rcases slt x k hx hk with z | z
                · rw [if_pos z, z.1, z.2, ← hw', rdI_wrI, if_neg (by omega), rdI_wrL, rdI_wrI, if_neg (by omega), rdI_wrI, if_pos ⟨rfl, rfl, rfl⟩]
                · rw [if_neg z.1, iw 3 x k (by omega) (by omega)]; exact C.who x k hx z.2
              · rw [ten']
                rcases slt x k hx hk with z | z
                · rw [if_pos z, z.1, z.2, ← hw', rdI_wrI, if_neg (by omega), rdI_wrL, rdI_wrI, if_pos ⟨rfl, rfl, rfl⟩]
                · rw [if_neg z.1, iw 4 x k (by omega) (by omega)]; exact C.ten x k hx z.2
            have M' : MS t' (a.sgn l i n) := by
              refine ⟨fun y hy => (it 34 0 y (by omega) (by omega)).trans (M.many y hy), fun y k hy hk => (it 33 0 _ (by omega) (by omega)).trans (M.rung y k hy hk), fun y k hy hk => (it 35 0 _ (by omega) (by omega)).trans (M.hole y k hy hk), fun x hx => (it 6 0 x (by omega) (by omega)).trans (M.isT x hx), fun x hx ht => (it 8 0 x (by omega) (by omega)).trans (M.yr x hx ht), fun x hx ht => (it 9 0 x (by omega) (by omega)).trans (M.fr x hx ht), fun x hx ht => (it 10 0 x (by omega) (by omega)).trans (M.sz x hx ht), fun x hx ht => (it 11 0 x (by omega) (by omega)).trans (M.tm x hx ht), fun x hx => ?_, fun x k hx hk => ?_, fun x k hx hk => ?_, fun j hj => (it 27 0 j (by omega) (by omega)).trans (M.st j hj), (it 0 0 29 (by omega) (by omega)).trans M.lack, (it 0 0 30 (by omega) (by omega)).trans M.trig, (it 0 0 31 (by omega) (by omega)).trans M.spr, (it 0 0 32 (by omega) (by omega)).trans M.pick⟩
              · by_cases e : x = l
                · subst e
                  rw [sgl, ← ht', rdI_wrI, if_pos ⟨rfl, rfl, rfl⟩, nI_1]
                · rw [sgn x e, it 12 0 x (by omega) (by omega)]; exact M.sg x hx
              · have s4' := O'.sg4 x hx
                rw [who']
                rcases slt x k hx hk with z | z
                · rw [if_pos z, z.1, z.2, ← ht', rdI_wrI, if_neg (by omega), rdI_wrI, if_neg (by omega), rdI_wrI, if_pos ⟨rfl, rfl, rfl⟩]
                · have := O.sg4 x hx
                  rw [if_neg z.1, it 13 0 _ (by omega) (by omega)]; exact M.who x k hx z.2
              · have s4' := O'.sg4 x hx
                rw [ten']
                rcases slt x k hx hk with z | z
                · rw [if_pos z, z.1, z.2, ← ht', rdI_wrI, if_neg (by omega), rdI_wrI, if_pos ⟨rfl, rfl, rfl⟩]
                · have := O.sg4 x hx
                  rw [if_neg z.1, it 14 0 _ (by omega) (by omega)]; exact M.ten x k hx z.2
            have I7 : ∀ j, rdI t' 7 0 j = rdI t 7 0 j := fun j => it 7 0 j (by omega) (by omega)
            refine ⟨w', t', a.sgn l i n, ?_, rfl, ?_, ⟨C', M', O', fun x k k' hx hk hk' e => ?_, fun x hx => ?_, fun x hx => ?_, fun x hx hxt => ?_, fun h hh => ?_, fun h hh => ?_, fun x k hx hk => ?_, fun j hj => ?_, ?_, ?_, ?_, ?_, R.lk, R.s0⟩, ⟨fun k j hk => it k 0 j (by omega) (by omega), fun j hj => it 0 0 j (by omega) (by omega)⟩, fun x hx h => Or.inl h, fun h hh e => Or.inl ?_, fun x hx h => h.elim id (fun z => z.elim), fun h hh e => ?_⟩
            · unfold fY_isSignedBy
              dsimp only [nm]
              have e1 : rdI (wrI w 3 l (a.sg l) (nI i)) 2 l 8 = nI (a.sg l) := by rw [rdI_wrI, if_neg (by omega)]; exact C.sg l hl
              have e2 : rdI (wrI (wrI w 3 l (a.sg l) (nI i)) 4 l (a.sg l) (nI n)) 2 l 8 = nI (a.sg l) := by rw [rdI_wrI, if_neg (by omega)]; exact e1
              have e3 : rdI (wrL (wrI (wrI w 3 l (a.sg l) (nI i)) 4 l (a.sg l) (nI n)) 5 l (a.sg l) 0) 2 l 8 = nI (a.sg l) := by rw [rdI_wrL]; exact e2
              rw [C.sg l hl, inB_nI (by omega) (by omega), if_pos rfl, nI_clamp (by omega), e1, inB_nI (by omega) (by omega), if_pos rfl, nI_clamp (by omega), e2, inB_nI (by omega) (by omega), if_pos rfl, nI_clamp (by omega), e3, hw', Option.bind_some]
            · unfold fM_signs
              dsimp only [nm]
              have e1 : rdI (wrI t 13 0 (4 * l + a.sg l) (nI i)) 12 0 l = nI (a.sg l) := by rw [rdI_wrI, if_neg (by omega)]; exact M.sg l hl
              have e2 : rdI (wrI (wrI t 13 0 (4 * l + a.sg l) (nI i)) 14 0 (4 * l + a.sg l) (nI n)) 12 0 l = nI (a.sg l) := by rw [rdI_wrI, if_neg (by omega)]; exact e1
              rw [inB_nI hl (by omega), if_pos rfl, nI_clamp (by omega), M.sg l hl, L4, ix_add, inB_nI (by omega) (by omega), if_pos rfl, nI_clamp (show 4 * l + a.sg l < 2 ^ 31 by omega), e1, ix_add, inB_nI (by omega) (by omega), if_pos rfl, nI_clamp (show 4 * l + a.sg l < 2 ^ 31 by omega), e2, ht']
            · rw [who', who'] at e
              rcases slt x k hx hk with z | z
              · rcases slt x k' hx hk' with z' | z'
                · rw [z.2, z'.2]
                · rw [if_pos z, if_neg z'.1] at e
                  rw [z.1] at e z'
                  exact absurd e.symm (k1 k' z'.2)
              · rcases slt x k' hx hk' with z' | z'
                · rw [if_neg z.1, if_pos z'] at e
                  rw [z'.1] at e z
                  exact absurd e (k1 k z.2)
                · rw [if_neg z.1, if_neg z'.1] at e
                  exact R.di x k k' hx z.2 z'.2 e
            · rw [lt, lw 2 x 9 (by omega)]; exact R.used x hx
            · rw [lw 2 x 9 (by omega), R.us x hx]
              exact sumZ_congr (fun j _ => by rw [lw 10 j x (by omega)])
            · rw [lw 2 x 9 (by omega)]; exact R.ub x hx hxt
            · have H := (R.H h hh).ext (w' := w') (t' := t') (fun k j z1 z2 => lw k h j (by omega)) (fun j => iw 7 h j (by omega) (by omega)) (fun k j _ => lt k 0 j) (fun j _ => it 24 0 j (by omega) (by omega)) (fun k hk => it k 0 h (by omega) (by omega))
              refine ⟨H.took, H.thr, H.mv, H.bore, H.fell, H.had, H.tb, H.hb, fun x k hx hk => ?_, H.gr, H.isH, H.i01, H.hy, H.z⟩
              have p := H.pb x k hx hk
              refine ⟨p.1, p.2.1, fun q => p.2.2 ?_⟩
              rw [sge] at q
              by_cases e : x = l
              · rw [if_pos e] at q; omega
              · rw [if_neg e] at q; exact q
            · rw [lw 7 h 10 (by omega), lt, I7]
              have p := R.L h hh
              exact ⟨p.1, p.2.1, by have := p.2.2.1; omega, p.2.2.2⟩
            · have e1 : sumL (fun h => rdL w' 13 h (4 * x + k)) 24 = sumL (fun h => rdL w 13 h (4 * x + k)) 24 := sumL_congr (fun j _ => by rw [lw 13 j _ (by omega)])
              rw [e1]
              rcases slt x k hx hk with z | z
              · rw [z.1, z.2, ← hw', rdL_wrI, rdL_wrL, if_pos ⟨rfl, rfl, rfl⟩]
                have e2 : sumL (fun h => rdL w 13 h (4 * l + a.sg l)) 24 = sumL (fun _ => 0) 24 := sumL_congr (fun j hj => ((R.H j hj).pb l (a.sg l) hl (by omega)).2.2 (Nat.le_refl _))
                rw [e2]
                decide
              · rw [lw 5 x k (by omega)]; exact R.hs x k hx z.2
            · rw [lw 25 0 j (by omega), it 28 0 j (by omega) (by omega)]; exact R.cash j hj
            · rw [iw 0 0 23 (by omega) (by omega), it 0 0 48 (by omega) (by omega)]; exact R.fx
            · rw [iw 0 0 21 (by omega) (by omega)]; exact R.pl
            · have e : cntP (fun h => decide (rdI t 7 0 h = 1)) 24 = cntP (fun h => decide (rdI t' 7 0 h = 1)) 24 := cntP_congr (fun i hi => by rw [I7])
              rw [iw 0 0 22 (by omega) (by omega), R.hm, e]
            · obtain ⟨m, Q⟩ := R.q
              exact ⟨m, Q.ext (iw 34 0 1 (by omega) (by omega)) (fun _ => by rw [← hw']; rfl)⟩
            · rw [I7] at e; exact e
            · rw [I7]; exact e.elim id (fun z => z.elim)
      · left
        rw [if_pos ((hS _ (by omega)).mpr hT), if_neg (fun z => hT ((nI_leI (by omega) (by omega)).mp z))]
        refine ⟨?_, rfl⟩
        by_cases q : (0 : Int64) < rdL w 2 l 9
        · rw [if_pos q]
        · rw [if_neg q]
          split <;> rfl
  · left
    have ht' : a.there l = false := by simpa using ht
    rw [ht', if_pos (show (if false = true then (1 : Int32) else 0) = 0 by decide), if_pos (show (if false = true then (1 : Int32) else 0) = 0 by decide)]
    exact ⟨rfl, rfl⟩
