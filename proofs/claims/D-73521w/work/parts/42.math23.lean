set_option linter.unusedVariables false
set_option linter.unusedSimpArgs false
set_option maxRecDepth 100000
/-! PLAIN LAW: deeds of harms, both sides -/
theorem cntP_add {p q : Nat → Bool} {h : Nat} (hp : p h = false) (hq : q h = true) (e : ∀ i, ¬ i = h → q i = p i) : ∀ {n : Nat}, h < n → cntP q n = cntP p n + 1
  | 0, z => by omega
  | n + 1, z => by
    rw [cntP_s, cntP_s]
    by_cases e1 : n = h
    · subst e1
      rw [hp, hq, cntP_congr (q := p) (fun i hi => e i (by omega))]
      rfl
    · rw [cntP_add hp hq e (n := n) (by omega), e n e1]
      split <;> rfl
theorem cntP_not {p : Nat → Bool} {h n : Nat} (hp : p h = false) (hh : h < n) : cntP p n < n := by
  have := cntP_lt (p := p) (q := fun _ => true) (n := n) (fun _ _ _ => rfl) ⟨h, hh, rfl, hp⟩
  rw [cntP_all] at this
  exact this
theorem RW.harm {w t w' t' : tt_St} {a : TS} {c h : Nat} {A : Int64} (R : RW w t a c d0) (hh : h < 24) (lw : ∀ k i j, rdL w' k i j = rdL w k i j) (lt : ∀ k i j, ¬ (k = 20 ∧ j = h) → rdL t' k i j = rdL t k i j) (iw : ∀ k i j, ¬ (k = 7 ∧ i = h) → ¬ (k = 0 ∧ j = 22) → rdI w' k i j = rdI w k i j) (it : ∀ k i j, ¬ ((k = 7 ∨ k = 16 ∨ k = 17 ∨ k = 18 ∨ k = 19) ∧ j = h) → rdI t' k i j = rdI t k i j) (hH : RH w' t' a h) (hL : rdL w 7 h 10 + A = rdL t' 20 0 h ∧ 0 ≤ (rdL t' 20 0 h).toInt ∧ (rdL t' 20 0 h).toInt ≤ 1000000000 * ((c + 1 : Nat) : Int) ∧ (rdI t' 7 0 h = 0 → rdL t' 20 0 h = 0)) (hm : rdI w' 0 0 22 = nI (cntP (fun h => decide (rdI t' 7 0 h = 1)) 24)) (rr : ∀ i, rdR w' 35 0 i = rdR w 35 0 i) : RW w' t' a (c + 1) (fun i => if i = h then A else 0) := by
  refine ⟨?_, ?_, R.O, R.di, fun l hl => ?_, fun l hl => ?_, fun l hl ht => ?_, fun i hi => ?_, fun i hi => ?_, fun l k hl hk => ?_, fun i hi => ?_, ?_, ?_, hm, ?_, R.lk, R.s0⟩
  · have C := R.C
    have e := fun k i j (h1 : ¬ k = 7) (h2 : ¬ k = 0) => iw k i j (fun q => h1 q.1) (fun q => h2 q.1)
    unfold CS at C ⊢
    simp only [iw 0 0 17 (by omega) (by omega), iw 0 0 18 (by omega) (by omega), iw 0 0 19 (by omega) (by omega), iw 0 0 20 (by omega) (by omega), e 2 _ _ (by omega) (by omega), e 3 _ _ (by omega) (by omega), e 4 _ _ (by omega) (by omega), e 22 _ _ (by omega) (by omega), e 23 _ _ (by omega) (by omega), e 24 _ _ (by omega) (by omega)]
    exact C
  · have C := R.M
    have e := fun k i j (h1 : ¬ (k = 7 ∨ k = 16 ∨ k = 17 ∨ k = 18 ∨ k = 19)) => it k i j (fun q => h1 q.1)
    unfold MS at C ⊢
    simp only [e 0 _ _ (by omega), e 6 _ _ (by omega), e 8 _ _ (by omega), e 9 _ _ (by omega), e 10 _ _ (by omega), e 11 _ _ (by omega), e 12 _ _ (by omega), e 13 _ _ (by omega), e 14 _ _ (by omega), e 27 _ _ (by omega), e 33 _ _ (by omega), e 34 _ _ (by omega), e 35 _ _ (by omega)]
    exact C
  · rw [lw, lt 15 0 l (by omega)]; exact R.used l hl
  · rw [lw, R.us l hl]
    exact sumZ_congr (fun i _ => by rw [lw])
  · rw [lw]; exact R.ub l hl ht
  · by_cases e : i = h
    · rw [e]; exact hH
    · exact (R.H i hi).ext (fun k j _ _ => lw k i j) (fun j => iw 7 i j (by omega) (by omega)) (fun k j hk => lt k 0 j (by omega)) (fun j _ => it 24 0 j (by omega)) (fun k hk => it k 0 i (by omega))
  · by_cases e : i = h
    · subst e
      dsimp only
      rw [if_pos rfl, lw]; exact hL
    · have h1 := R.L i hi
      dsimp only
      rw [if_neg e, lw, lt 20 0 i (by omega), it 7 0 i (by omega)]
      refine ⟨h1.1, h1.2.1, ?_, h1.2.2.2⟩
      have := h1.2.2.1
      omega
  · rw [lw, R.hs l k hl hk]
    exact sumL_congr (fun i _ => by rw [lw])
  · rw [lw, it 28 0 i (by omega)]; exact R.cash i hi
  · rw [iw 0 0 23 (by omega) (by omega), it 0 0 48 (by omega)]; exact R.fx
  · rw [iw 0 0 21 (by omega) (by omega)]; exact R.pl
  · obtain ⟨n, Q⟩ := R.q
    exact ⟨n, Q.ext (iw 34 0 1 (by omega) (by omega)) rr⟩
theorem RH.ints {w t w' t' : tt_St} {a : TS} {h : Nat} (R : RH w t a h) (e1 : ∀ k j, 8 ≤ k → k ≤ 13 → rdL w' k h j = rdL w k h j) (e3 : ∀ k j, (k = 21 ∨ k = 22 ∨ k = 23) ∧ j / 40 = h ∨ k = 25 ∧ j / 10 = h ∨ k = 26 ∧ j / 7 = h → rdL t' k 0 j = rdL t k 0 j) (e4 : ∀ j, j / 160 = h → rdI t' 24 0 j = rdI t 24 0 j) (gr : rdI w' 7 h 9 = rdI t' 19 0 h) (is : rdI w' 7 h 11 = rdI t' 7 0 h) (i1 : rdI t' 7 0 h = 1) (hy : ∃ f l s, HY w' t' h f l s) : RH w' t' a h := by
  refine ⟨fun l hl => ?_, fun l hl => ?_, fun l hl => ?_, fun i hi => ?_, fun r hr => ?_, fun c hc => ?_, fun l hl => ?_, fun l hl => ?_, fun l k hl hk => ?_, gr, is, Or.inr i1, fun _ => hy, fun q => ?_⟩
  · rw [e3 21 _ (by omega), e1 10 l (by omega) (by omega)]; exact R.took l hl
  · rw [e3 22 _ (by omega), e1 11 l (by omega) (by omega)]; exact R.thr l hl
  · rw [e3 23 _ (by omega), e1 12 l (by omega) (by omega)]; exact R.mv l hl
  · rw [e3 25 _ (by omega), e1 8 i (by omega) (by omega)]; exact R.bore i hi
  · rw [e3 26 _ (by omega), e1 9 r (by omega) (by omega)]; exact R.fell r hr
  · rw [e4 _ (by omega), e1 13 c (by omega) (by omega)]; exact R.had c hc
  · rw [e1 10 l (by omega) (by omega)]; exact R.tb l hl
  · rw [e1 11 l (by omega) (by omega)]; exact R.hb l hl
  · rw [e1 10 l (by omega) (by omega), e1 13 _ (by omega) (by omega)]; exact R.pb l k hl hk
  · rw [i1] at q; exact absurd q (by decide)
theorem i64_A {A : Nat} (h : A < 2 ^ 31) : (nI A).toInt64.toInt = A := nI64 h
theorem grows_rel {w t : tt_St} {a : TS} {c h A : Nat} (R : RW w t a c d0) (hc : c ≤ 200) (hh : h < 24) (hA1 : 1 ≤ A) (hA : A ≤ 1000000000) :
    DEED (fW_grows w (nI h) (nI A)) (if zb (rdI t 7 0 h) then some (rdI t 7 0 h) else none) (fM_grows t (nI h) (nI A)) w t a c noP noP := by
  have Hh := R.H h hh
  have h1 := R.L h hh
  have eA : (nI A).toInt64.toInt = A := nI64 (by omega)
  unfold fW_grows fM_grows
  dsimp only [nm]
  rw [inB_nI hh (by omega), if_pos rfl, inB_nI (show h < 25 by omega) (by omega), if_pos rfl, nI_clamp (by omega), Hh.isH]
  rcases Hh.i01 with i0 | i1
  · left
    rw [i0, if_pos rfl, if_pos (by decide)]
    exact ⟨rfl, rfl⟩
  · right
    rw [i1, if_neg (by decide), if_pos (by decide)]
    have d0h : d0 h = 0 := rfl
    rw [d0h, Int64.add_zero] at h1
    have e20 : (rdL t 20 0 h + (nI A).toInt64).toInt = (rdL t 20 0 h).toInt + A := by rw [i64_add (by omega) (by omega), eA]
    generalize hw1 : wrI w 7 h 9 (rdI w 7 h 9 + (1 : Int32)) = w1
    generalize ht1 : wrI (wrL t 20 0 h (rdL t 20 0 h + (nI A).toInt64)) 19 0 h (rdI (wrL t 20 0 h (rdL t 20 0 h + (nI A).toInt64)) 19 0 h + (1 : Int32)) = t1
    have lw : ∀ k i j, rdL w1 k i j = rdL w k i j := fun k i j => by rw [← hw1]; rfl
    have lt : ∀ k i j, ¬ (k = 20 ∧ j = h) → rdL t1 k i j = rdL t k i j := fun k i j z => by rw [← ht1, rdL_wrI, rdL_wrL, if_neg (fun q => z ⟨q.1, q.2.2⟩)]
    have iw : ∀ k i j, ¬ (k = 7 ∧ i = h ∧ j = 9) → rdI w1 k i j = rdI w k i j := fun k i j z => by rw [← hw1, rdI_wrI, if_neg z]
    have it : ∀ k i j, ¬ (k = 19 ∧ j = h) → rdI t1 k i j = rdI t k i j := fun k i j z => by rw [← ht1, rdI_wrI, if_neg (fun q => z ⟨q.1, q.2.2⟩), rdI_wrL]
    have t20 : rdL t1 20 0 h = rdL t 20 0 h + (nI A).toInt64 := by rw [← ht1, rdL_wrI, rdL_wrL, if_pos ⟨rfl, rfl, rfl⟩]
    obtain ⟨fi, la, sh, Y⟩ := Hh.hy i1
    have hH : RH w1 t1 a h := Hh.ints (fun k j _ _ => lw k h j) (fun k j hk => lt k 0 j (by omega)) (fun j _ => it 24 0 j (by omega)) (by
      rw [← hw1, ← ht1, rdI_wrI, if_pos ⟨rfl, rfl, rfl⟩, rdI_wrI, if_pos ⟨rfl, rfl, rfl⟩, rdI_wrL, Hh.gr]) (by rw [iw 7 h 11 (by omega), it 7 0 h (by omega)]; exact Hh.isH) (by rw [it 7 0 h (by omega)]; exact i1) ⟨fi, la, sh, by rw [iw 7 h 6 (by omega)]; exact Y.cf, by rw [iw 7 h 7 (by omega)]; exact Y.cl, by rw [iw 7 h 8 (by omega)]; exact Y.cs, by rw [it 16 0 h (by omega)]; exact Y.mf, by rw [it 17 0 h (by omega)]; exact Y.ml, by rw [it 18 0 h (by omega)]; exact Y.ms, Y.o1, Y.o2, Y.o3⟩
    have R1 : RW w1 t1 a (c + 1) (fun i => if i = h then (nI A).toInt64 else 0) := R.harm hh lw lt (fun k i j z1 z2 => iw k i j (by omega)) (fun k i j z => it k i j (by omega)) hH ⟨by rw [t20, h1.1], by rw [t20, e20]; omega, by rw [t20, e20]; omega, fun z => by rw [it 7 0 h (by omega), i1] at z; exact absurd z (by decide)⟩ (by
      have e : cntP (fun h => decide (rdI t 7 0 h = 1)) 24 = cntP (fun h => decide (rdI t1 7 0 h = 1)) 24 := cntP_congr (fun i hi => by rw [it 7 0 i (by omega)])
      rw [iw 0 0 22 (by omega), R.hm, e]) (fun i => by rw [← hw1]; rfl)
    obtain ⟨w', t', g1, g2, g3, g4⟩ := lays_rel R1 hh (by rw [it 7 0 h (by omega)]; exact i1) (by rw [eA]; omega) (by rw [eA]; omega)
    have I7 : ∀ i, rdI t' 7 0 i = rdI t 7 0 i := fun i => by rw [g4.i 7 0 i (by omega) (by omega), it 7 0 i (by omega)]
    refine ⟨w', t', a, ?_, rfl, ?_, g3, ?_, fun l hl ht => Or.inl ht, fun i hi ht => Or.inl ?_, fun l hl ht => ht.elim id (fun z => z.elim), fun i hi ht => ?_⟩
    · rw [g1]; rfl
    · rw [g2]; rfl
    · exact FE.trans ⟨fun k j hk => it k 0 j (by omega), fun j hj => it 0 0 j (by omega)⟩ g4.fe
    · rw [I7] at ht; exact ht
    · rw [I7]; exact ht.elim id (fun z => z.elim)
theorem isHarmed_rel {w t : tt_St} {a : TS} {c h fi la sh A e : Nat} (R : RW w t a c d0) (hc : c ≤ 200) (hh : h < 24) (h1 : fi ≤ la) (h2 : la ≤ sh) (h3 : sh < 12) (hA1 : 1 ≤ A) (hA : A ≤ 1000000000) (fresh : rdI t 7 0 h = 0) (he : e < 160) (em : rdI t 3 0 e = nI h) (e0 : rdI t 4 0 (4 * e) = nI fi) (e1 : rdI t 4 0 (4 * e + 1) = nI la) (e2 : rdI t 4 0 (4 * e + 2) = nI sh) (e3 : rdI t 4 0 (4 * e + 3) = nI A) :
    DEED (fW_isHarmed w (nI h) (nI fi) (nI la) (nI sh) (nI A)) (some 1) (fM_harms t (nI e)) w t a c noP (fun x => x = h) := by
  have Hh := R.H h hh
  have hL := R.L h hh
  have eA : (nI A).toInt64.toInt = A := nI64 (by omega)
  have d0h : d0 h = 0 := rfl
  rw [d0h, Int64.add_zero] at hL
  have l0 : rdL w 7 h 10 = 0 := by rw [hL.1, hL.2.2.2 fresh]
  have cn : cntP (fun h => decide (rdI t 7 0 h = 1)) 24 < 24 := cntP_not (h := h) (by rw [fresh]; rfl) hh
  right
  generalize hw1 : wrI (wrI (wrI (wrI (wrI w 7 h 11 1) 7 h 6 (nI fi)) 7 h 7 (nI la)) 7 h 8 (nI sh)) 0 0 22 (rdI w 0 0 22 + 1) = w1
  generalize ht1 : wrL (wrI (wrI (wrI (wrI t 7 0 h 1) 16 0 h (nI fi)) 17 0 h (nI la)) 18 0 h (nI sh)) 20 0 h (nI A).toInt64 = t1
  have lw : ∀ k i j, rdL w1 k i j = rdL w k i j := fun k i j => by rw [← hw1]; rfl
  have lt : ∀ k i j, ¬ (k = 20 ∧ j = h) → rdL t1 k i j = rdL t k i j := fun k i j z => by rw [← ht1, rdL_wrL, if_neg (fun q => z ⟨q.1, q.2.2⟩)]; rfl
  have iw : ∀ k i j, ¬ (k = 7 ∧ i = h ∧ (j = 11 ∨ j = 6 ∨ j = 7 ∨ j = 8)) → ¬ (k = 0 ∧ j = 22) → rdI w1 k i j = rdI w k i j := fun k i j z1 z2 => by rw [← hw1, rdI_wrI, if_neg (by omega), rdI_wrI, if_neg (by omega), rdI_wrI, if_neg (by omega), rdI_wrI, if_neg (by omega), rdI_wrI, if_neg (by omega)]
  have it : ∀ k i j, ¬ ((k = 7 ∨ k = 16 ∨ k = 17 ∨ k = 18) ∧ j = h) → rdI t1 k i j = rdI t k i j := fun k i j z => by rw [← ht1, rdI_wrL, rdI_wrI, if_neg (by omega), rdI_wrI, if_neg (by omega), rdI_wrI, if_neg (by omega), rdI_wrI, if_neg (by omega)]
  have t20 : rdL t1 20 0 h = (nI A).toInt64 := by rw [← ht1, rdL_wrL, if_pos ⟨rfl, rfl, rfl⟩]
  have w11 : rdI w1 7 h 11 = 1 := by rw [← hw1, rdI_wrI, if_neg (by omega), rdI_wrI, if_neg (by omega), rdI_wrI, if_neg (by omega), rdI_wrI, if_neg (by omega), rdI_wrI, if_pos ⟨rfl, rfl, rfl⟩]
  have t7 : rdI t1 7 0 h = 1 := by rw [← ht1, rdI_wrL, rdI_wrI, if_neg (by omega), rdI_wrI, if_neg (by omega), rdI_wrI, if_neg (by omega), rdI_wrI, if_pos ⟨rfl, rfl, rfl⟩]
  have hH : RH w1 t1 a h := Hh.ints (fun k j _ _ => lw k h j) (fun k j hk => lt k 0 j (by omega)) (fun j _ => it 24 0 j (by omega)) (by rw [iw 7 h 9 (by omega) (by omega), it 19 0 h (by omega)]; exact Hh.gr) (by rw [w11, t7]) t7 ⟨fi, la, sh, by rw [← hw1, rdI_wrI, if_neg (by omega), rdI_wrI, if_neg (by omega), rdI_wrI, if_neg (by omega), rdI_wrI, if_pos ⟨rfl, rfl, rfl⟩], by rw [← hw1, rdI_wrI, if_neg (by omega), rdI_wrI, if_neg (by omega), rdI_wrI, if_pos ⟨rfl, rfl, rfl⟩], by rw [← hw1, rdI_wrI, if_neg (by omega), rdI_wrI, if_pos ⟨rfl, rfl, rfl⟩], by rw [← ht1, rdI_wrL, rdI_wrI, if_neg (by omega), rdI_wrI, if_neg (by omega), rdI_wrI, if_pos ⟨rfl, rfl, rfl⟩], by rw [← ht1, rdI_wrL, rdI_wrI, if_neg (by omega), rdI_wrI, if_pos ⟨rfl, rfl, rfl⟩], by rw [← ht1, rdI_wrL, rdI_wrI, if_pos ⟨rfl, rfl, rfl⟩], h1, h2, h3⟩
  have R1 : RW w1 t1 a (c + 1) (fun i => if i = h then (nI A).toInt64 else 0) := R.harm hh lw lt (fun k i j z1 z2 => iw k i j (by omega) (by omega)) (fun k i j z => it k i j (by omega)) hH ⟨by rw [t20, l0, Int64.zero_add], by rw [t20, eA]; omega, by rw [t20, eA]; omega, fun z => by rw [t7] at z; exact absurd z (by decide)⟩ (by
    have e : cntP (fun h => decide (rdI t1 7 0 h = 1)) 24 = cntP (fun h => decide (rdI t 7 0 h = 1)) 24 + 1 := cntP_add (h := h) (by rw [fresh]; rfl) (by rw [t7]; rfl) (fun i hi => by rw [it 7 0 i (by omega)]) hh
    rw [← hw1, rdI_wrI, if_pos ⟨rfl, rfl, rfl⟩, R.hm, e, nI_1]) (fun i => by rw [← hw1]; rfl)
  obtain ⟨w', t', g1, g2, g3, g4⟩ := lays_rel R1 hh t7 (by rw [eA]; omega) (by rw [eA]; omega)
  have I7 : ∀ i, rdI t' 7 0 i = rdI t1 7 0 i := fun i => g4.i 7 0 i (by omega) (by omega)
  refine ⟨w', t', a, ?_, rfl, ?_, g3, ?_, fun l hl ht => Or.inl ht, fun i hi ht => ?_, fun l hl ht => ht.elim id (fun z => z.elim), fun i hi ht => ?_⟩
  · unfold fW_isHarmed fH_goesOn
    dsimp only [nm]
    rw [R.hm, if_neg (by rw [show (24 : Int32) = nI 24 from rfl, nI_eq (by omega) (by omega)]; omega), inB_nI hh (by omega), if_pos rfl, nI_clamp (by omega)]
    simp only [Option.bind_some]
    have w22 : rdI (wrI (wrI (wrI (wrI w 7 h 11 1) 7 h 6 (nI fi)) 7 h 7 (nI la)) 7 h 8 (nI sh)) 0 0 22 = rdI w 0 0 22 := by rw [rdI_wrI, if_neg (by omega), rdI_wrI, if_neg (by omega), rdI_wrI, if_neg (by omega), rdI_wrI, if_neg (by omega)]
    rw [w22, hw1, g1]
    rfl
  · have tl : ∀ (u : tt_St) (j : Nat), (∀ q, rdI u 4 0 q = rdI t 4 0 q) → j < 4 → fM_tell u (nI e) (nI j) = some (rdI t 4 0 (4 * e + j)) := fun u j hu hj => by
      unfold fM_tell
      rw [L4, ix_add, inB_nI (by omega) (by omega), if_pos rfl, nI_clamp (by omega), hu]
    unfold fM_harms
    dsimp only [nm]
    rw [inB_nI he (by omega), if_pos rfl, nI_clamp (by omega), em, inB_nI (show h < 25 by omega) (by omega), if_pos rfl, nI_clamp (by omega)]
    rw [show (0 : Int32) = nI 0 from rfl, tl _ 0 (fun q => by rw [rdI_wrI, if_neg (by omega)]) (by omega)]
    simp only [Option.bind_some]
    rw [Nat.add_zero, e0, show (fM_tell (wrI (wrI t 7 0 h 1) 16 0 h (nI fi)) (nI e) 1) = fM_tell (wrI (wrI t 7 0 h 1) 16 0 h (nI fi)) (nI e) (nI 1) from rfl, tl _ 1 (fun q => by rw [rdI_wrI, if_neg (by omega), rdI_wrI, if_neg (by omega)]) (by omega)]
    simp only [Option.bind_some]
    rw [e1, L2, tl _ 2 (fun q => by rw [rdI_wrI, if_neg (by omega), rdI_wrI, if_neg (by omega), rdI_wrI, if_neg (by omega)]) (by omega)]
    simp only [Option.bind_some]
    rw [e2, L3, tl _ 3 (fun q => by rw [rdI_wrI, if_neg (by omega), rdI_wrI, if_neg (by omega), rdI_wrI, if_neg (by omega), rdI_wrI, if_neg (by omega)]) (by omega)]
    simp only [Option.bind_some]
    rw [e3, ht1, t20, g2]
    rfl
  · exact FE.trans ⟨fun k j hk => it k 0 j (by omega), fun j hj => it 0 0 j (by omega)⟩ g4.fe
  · rw [I7] at ht
    by_cases e : i = h
    · exact Or.inr e
    · rw [it 7 0 i (by omega)] at ht; exact Or.inl ht
  · rw [I7]
    by_cases e : i = h
    · rw [e]; exact t7
    · rw [it 7 0 i (by omega)]; exact ht.elim id (fun z => absurd z e)
