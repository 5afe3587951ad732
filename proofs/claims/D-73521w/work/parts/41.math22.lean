set_option linter.unusedVariables false
set_option linter.unusedSimpArgs false
set_option maxRecDepth 100000
/-! PLAIN LAW: deeds, both sides (lacks, rules, settles, falls) -/
def sl_chk : Bool := (List.range 32).all fun y => decide (((nI y &&& 31).toBitVec.smod 32).toNat = y) && decide ((1 : Int32) <<< (nI y &&& 31) = nI (2 ^ y))
theorem sl_ok : sl_chk = true := by decide +kernel
theorem sl_all {y : Nat} (hy : y < 32) : ((nI y &&& 31).toBitVec.smod 32).toNat = y ∧ (1 : Int32) <<< (nI y &&& 31) = nI (2 ^ y) := by
  have h := sl_ok
  unfold sl_chk at h
  rw [List.all_eq_true] at h
  have := h y (List.mem_range.mpr hy)
  simpa only [Bool.and_eq_true, decide_eq_true_eq] using this
theorem bitB_nI {m y : Nat} (hm : m < 2 ^ 31) (hy : y < 32) : bitB (nI m) y = m.testBit y := by
  unfold bitB
  rw [pk_shrN hm _ y (sl_all hy).1, pk_andN (Nat.lt_of_le_of_lt (Nat.div_le_self _ _) (by omega)) 1 (by decide)]
  rw [Nat.testBit_eq_decide_div_mod_eq]
  have e : m / 2 ^ y % 2 ^ 1 = m / 2 ^ y % 2 := by rw [Nat.pow_one]
  rw [e]
  have h2 : m / 2 ^ y % 2 < 2 := Nat.mod_lt _ (by omega)
  rw [L1]
  exact decide_eq_decide.mpr (nI_eq (by omega) (by omega))
theorem nI_or (a b : Nat) : nI a ||| nI b = nI (a ||| b) := by
  refine Int32.toBitVec_inj.mp ?_
  show BitVec.ofNat 32 a ||| BitVec.ofNat 32 b = BitVec.ofNat 32 (a ||| b)
  exact BitVec.ofNat_or.symm
/-- the model's events' cells, and what it counts -/
def FE (t : tt_St) (t' : tt_St) : Prop :=
  (∀ k j, k = 1 ∨ k = 2 ∨ k = 3 ∨ k = 4 → rdI t' k 0 j = rdI t k 0 j) ∧
  (∀ j, j = 0 ∨ j = 5 ∨ j = 48 ∨ j = 49 → rdI t' 0 0 j = rdI t 0 0 j)
theorem FE.k {t : tt_St} {t' : tt_St} (self_ : FE t t') : ∀ k j, k = 1 ∨ k = 2 ∨ k = 3 ∨ k = 4 → rdI t' k 0 j = rdI t k 0 j := self_.1
theorem FE.f {t : tt_St} {t' : tt_St} (self_ : FE t t') : ∀ j, j = 0 ∨ j = 5 ∨ j = 48 ∨ j = 49 → rdI t' 0 0 j = rdI t 0 0 j := self_.2
theorem FE.refl (t : tt_St) : FE t t := ⟨fun _ _ _ => rfl, fun _ _ => rfl⟩
theorem FE.trans {t u v : tt_St} (h1 : FE t u) (h2 : FE u v) : FE t v := ⟨fun k j h => (h2.k k j h).trans (h1.k k j h), fun j h => (h2.f j h).trans (h1.f j h)⟩
theorem GM2.fe {h : Nat} {t t' : tt_St} (G : GM2 h t t') : FE t t' := ⟨fun k j hk => G.i k 0 j (by omega) (by omega), fun j _ => G.i 0 0 j (by omega) (by omega)⟩
theorem RW.upd {w t w' t' : tt_St} {a a' : TS} {c c' : Nat} {δ : Nat → Int64} (R : RW w t a c δ) (hc : c ≤ c') (hC : CS w' a') (hM : MS t' a') (hO : a'.Ok) (e1 : a'.there = a.there) (e2 : a'.sz = a.sz) (e3 : a'.tm = a.tm) (e4 : a'.sg = a.sg) (e5 : a'.who = a.who) (lw : ∀ k i j, ¬ k = 25 → rdL w' k i j = rdL w k i j) (lt : ∀ k i j, rdL t' k i j = rdL t k i j) (iw : ∀ h j, rdI w' 7 h j = rdI w 7 h j) (it : ∀ k j, k = 7 ∨ k = 16 ∨ k = 17 ∨ k = 18 ∨ k = 19 ∨ k = 24 → rdI t' k 0 j = rdI t k 0 j) (ca : ∀ i, i < 10 → rdL w' 25 0 i = (rdI t' 28 0 i).toInt64 ∧ (a'.st i = 0 → rdI t' 28 0 i = 0)) (fx : rdI w' 0 0 23 = rdI t' 0 0 48) (pl : rdI w' 0 0 21 = rdI w 0 0 21) (hm : rdI w' 0 0 22 = rdI w 0 0 22) (q : ∃ n, QW w' n) (lk : ∃ m, m < 4096 ∧ a'.lack = nI m) (s0 : a'.st 0 = 0) : RW w' t' a' c' δ := by
  have hH : ∀ h, h < 24 → RH w' t' a' h := fun h hh => by
    have H := (R.H h hh).ext (w' := w') (t' := t') (fun k j z1 z2 => lw k h j (by omega)) (fun j => iw h j) (fun k j _ => lt k 0 j) (fun j _ => it 24 j (by omega)) (fun k hk => it k h (by omega))
    unfold RH at H ⊢
    rw [e1, e2, e4]
    exact H
  refine ⟨hC, hM, hO, ?_, fun l hl => ?_, fun l hl => ?_, fun l hl ht => ?_, hH, fun h hh => ?_, fun l k hl hk => ?_, ca, fx, ?_, ?_, q, lk, s0⟩
  · rw [e4, e5]; exact R.di
  · rw [lt, lw 2 l 9 (by omega)]; exact R.used l hl
  · rw [lw 2 l 9 (by omega), R.us l hl]
    exact sumZ_congr (fun i _ => by rw [lw 10 i l (by omega)])
  · rw [lw 2 l 9 (by omega), e2, e3]
    rw [e1] at ht
    exact R.ub l hl ht
  · have h1 := R.L h hh
    rw [lw 7 h 10 (by omega), lt, it 7 h (by omega)]
    exact ⟨h1.1, h1.2.1, by have := h1.2.2.1; omega, h1.2.2.2⟩
  · rw [e4] at hk
    rw [lw 5 l k (by omega), R.hs l k hl hk]
    exact sumL_congr (fun i _ => by rw [lw 13 i _ (by omega)])
  · rw [pl, R.pl, e1]
  · have e : cntP (fun h => decide (rdI t 7 0 h = 1)) 24 = cntP (fun h => decide (rdI t' 7 0 h = 1)) 24 := cntP_congr (fun i _ => by rw [it 7 i (by omega)])
    rw [hm, R.hm, e]
def TS.rl (a : TS) (lk : Int32) (tr sp pk : Nat) : TS := TS.mk a.n a.rg a.there a.yr a.fr a.sz a.tm a.sg a.who a.ten a.st lk tr sp pk
def TS.stt (a : TS) (st : Nat → Nat) : TS := TS.mk a.n a.rg a.there a.yr a.fr a.sz a.tm a.sg a.who a.ten st a.lack a.trig a.spr a.pick
theorem CS.rl {w w' : tt_St} {a : TS} (C : CS w a) {lk : Int32} {tr sp pk : Nat} (e : ∀ k i j, ¬ (k = 0 ∧ i = 0 ∧ 17 ≤ j ∧ j ≤ 20) → rdI w' k i j = rdI w k i j) (h1 : rdI w' 0 0 17 = lk) (h2 : rdI w' 0 0 18 = nI tr) (h3 : rdI w' 0 0 19 = nI sp) (h4 : rdI w' 0 0 20 = nI pk) : CS w' (a.rl lk tr sp pk) :=
  ⟨fun y hy => (e 23 0 y (by omega)).trans (C.many y hy), fun y k hy hk => (e 22 y k (by omega)).trans (C.rung y k hy hk), fun l hl => (e 2 l 10 (by omega)).trans (C.isT l hl), fun l hl ht => (e 2 l 4 (by omega)).trans (C.yr l hl ht), fun l hl ht => (e 2 l 5 (by omega)).trans (C.fr l hl ht), fun l hl ht => (e 2 l 6 (by omega)).trans (C.sz l hl ht), fun l hl ht => (e 2 l 7 (by omega)).trans (C.tm l hl ht), fun l hl => (e 2 l 8 (by omega)).trans (C.sg l hl), fun l k hl hk => (e 3 l k (by omega)).trans (C.who l k hl hk), fun l k hl hk => (e 4 l k (by omega)).trans (C.ten l k hl hk), fun i hi => (e 24 0 i (by omega)).trans (C.st i hi), h1, h2, h3, h4⟩
theorem MS.rl {t t' : tt_St} {a : TS} (M : MS t a) {lk : Int32} {tr sp pk : Nat} (e : ∀ k i j, ¬ (k = 0 ∧ i = 0 ∧ 29 ≤ j ∧ j ≤ 32) → rdI t' k i j = rdI t k i j) (h1 : rdI t' 0 0 29 = lk) (h2 : rdI t' 0 0 30 = nI tr) (h3 : rdI t' 0 0 31 = nI sp) (h4 : rdI t' 0 0 32 = nI pk) : MS t' (a.rl lk tr sp pk) :=
  ⟨fun y hy => (e 34 0 y (by omega)).trans (M.many y hy), fun y k hy hk => (e 33 0 _ (by omega)).trans (M.rung y k hy hk), fun y k hy hk => (e 35 0 _ (by omega)).trans (M.hole y k hy hk), fun l hl => (e 6 0 l (by omega)).trans (M.isT l hl), fun l hl ht => (e 8 0 l (by omega)).trans (M.yr l hl ht), fun l hl ht => (e 9 0 l (by omega)).trans (M.fr l hl ht), fun l hl ht => (e 10 0 l (by omega)).trans (M.sz l hl ht), fun l hl ht => (e 11 0 l (by omega)).trans (M.tm l hl ht), fun l hl => (e 12 0 l (by omega)).trans (M.sg l hl), fun l k hl hk => (e 13 0 _ (by omega)).trans (M.who l k hl hk), fun l k hl hk => (e 14 0 _ (by omega)).trans (M.ten l k hl hk), fun i hi => (e 27 0 i (by omega)).trans (M.st i hi), h1, h2, h3, h4⟩
theorem CS.stt {w w' : tt_St} {a : TS} (C : CS w a) {st : Nat → Nat} (e : ∀ k i j, ¬ k = 24 → rdI w' k i j = rdI w k i j) (h1 : ∀ i, i < 10 → rdI w' 24 0 i = nI (st i)) : CS w' (a.stt st) :=
  ⟨fun y hy => (e 23 0 y (by omega)).trans (C.many y hy), fun y k hy hk => (e 22 y k (by omega)).trans (C.rung y k hy hk), fun l hl => (e 2 l 10 (by omega)).trans (C.isT l hl), fun l hl ht => (e 2 l 4 (by omega)).trans (C.yr l hl ht), fun l hl ht => (e 2 l 5 (by omega)).trans (C.fr l hl ht), fun l hl ht => (e 2 l 6 (by omega)).trans (C.sz l hl ht), fun l hl ht => (e 2 l 7 (by omega)).trans (C.tm l hl ht), fun l hl => (e 2 l 8 (by omega)).trans (C.sg l hl), fun l k hl hk => (e 3 l k (by omega)).trans (C.who l k hl hk), fun l k hl hk => (e 4 l k (by omega)).trans (C.ten l k hl hk), h1, (e 0 0 17 (by omega)).trans C.lack, (e 0 0 18 (by omega)).trans C.trig, (e 0 0 19 (by omega)).trans C.spr, (e 0 0 20 (by omega)).trans C.pick⟩
theorem MS.stt {t t' : tt_St} {a : TS} (M : MS t a) {st : Nat → Nat} (e : ∀ k i j, ¬ (k = 27 ∨ k = 28) → rdI t' k i j = rdI t k i j) (h1 : ∀ i, i < 10 → rdI t' 27 0 i = nI (st i)) : MS t' (a.stt st) :=
  ⟨fun y hy => (e 34 0 y (by omega)).trans (M.many y hy), fun y k hy hk => (e 33 0 _ (by omega)).trans (M.rung y k hy hk), fun y k hy hk => (e 35 0 _ (by omega)).trans (M.hole y k hy hk), fun l hl => (e 6 0 l (by omega)).trans (M.isT l hl), fun l hl ht => (e 8 0 l (by omega)).trans (M.yr l hl ht), fun l hl ht => (e 9 0 l (by omega)).trans (M.fr l hl ht), fun l hl ht => (e 10 0 l (by omega)).trans (M.sz l hl ht), fun l hl ht => (e 11 0 l (by omega)).trans (M.tm l hl ht), fun l hl => (e 12 0 l (by omega)).trans (M.sg l hl), fun l k hl hk => (e 13 0 _ (by omega)).trans (M.who l k hl hk), fun l k hl hk => (e 14 0 _ (by omega)).trans (M.ten l k hl hk), h1, (e 0 0 29 (by omega)).trans M.lack, (e 0 0 30 (by omega)).trans M.trig, (e 0 0 31 (by omega)).trans M.spr, (e 0 0 32 (by omega)).trans M.pick⟩
/-- what a deed on a world comes to, and the model's: it's done, or can't be -/
def DEED (oc : Option (Int32 × tt_St)) (can : Option Int32) (doe : Option tt_St) (w t : tt_St) (a : TS) (c : Nat) (PL HM : Nat → Prop) : Prop :=
  (oc = some (0, w) ∧ can = some 0) ∨ ∃ w' t' a', oc = some (1, w') ∧ can = some 1 ∧ doe = some t' ∧ RW w' t' a' (c + 1) d0 ∧ FE t t' ∧ (∀ l, l < 40 → a'.there l = true → a.there l = true ∨ PL l) ∧ (∀ h, h < 24 → rdI t' 7 0 h = 1 → rdI t 7 0 h = 1 ∨ HM h) ∧ (∀ l, l < 40 → a.there l = true ∨ PL l → a'.there l = true) ∧ (∀ h, h < 24 → rdI t 7 0 h = 1 ∨ HM h → rdI t' 7 0 h = 1)
def noP : Nat → Prop := fun _ => False
theorem lack_rel {w t : tt_St} {a : TS} {c y : Nat} (R : RW w t a c d0) (hy : y < 12) :
    DEED (fW_goesWithout w (nI y)) ((fM_isLacking t (nI y)).bind fun r14 => if r14 = 0 then (fM_isGap t (nI y)).bind fun r17 => if r17 = 0 then some (0 : Int32) else some (1 : Int32) else some (0 : Int32)) (some (wrI t 0 0 29 ((rdI t 0 0 29) ||| ((1 : Int32) <<< (nI y &&& 31))))) w t a c noP noP := by
  have C := R.C
  have M := R.M
  have O := R.O
  unfold fW_goesWithout
  rw [c_isLacking C, m_isLacking M, c_isGap C O hy, m_isGap M O hy]
  simp only [Option.bind_some, nm]
  cases hb : bitB a.lack y with
  | true =>
    left
    rw [if_neg (show ¬ b2i true = 0 by decide), if_neg (show ¬ b2i true = 0 by decide)]
    exact ⟨rfl, rfl⟩
  | false =>
    rw [if_pos (show b2i false = 0 by decide), if_pos (show b2i false = 0 by decide)]
    by_cases hg : a.n y = 0
    · right
      rw [if_pos hg, if_neg (show ¬ (1 : Int32) = 0 by decide), if_neg (show ¬ (1 : Int32) = 0 by decide)]
      obtain ⟨m, m1, m2⟩ := R.lk
      have el : nI m ||| ((1 : Int32) <<< (nI y &&& 31)) = nI (m ||| 2 ^ y) := by rw [(sl_all (by omega)).2, nI_or]
      have hlt : m ||| 2 ^ y < 4096 := Nat.or_lt_two_pow (n := 12) m1 (Nat.pow_lt_pow_right (by omega) hy)
      refine ⟨_, _, a.rl (nI (m ||| 2 ^ y)) a.trig a.spr a.pick, rfl, rfl, rfl, ?_, ⟨fun k j hk => ?_, fun j hj => ?_⟩, fun l hl ht => Or.inl ht, fun h hh ht => Or.inl ?_, fun l hl ht => ?_, fun h hh ht => ?_⟩
      · have iw : ∀ k i j, ¬ (k = 0 ∧ i = 0 ∧ j = 17) → rdI (wrI w 0 0 17 (rdI w 0 0 17 ||| ((1 : Int32) <<< (nI y &&& 31)))) k i j = rdI w k i j := fun k i j z => by rw [rdI_wrI, if_neg z]
        have it : ∀ k i j, ¬ (k = 0 ∧ i = 0 ∧ j = 29) → rdI (wrI t 0 0 29 (rdI t 0 0 29 ||| ((1 : Int32) <<< (nI y &&& 31)))) k i j = rdI t k i j := fun k i j z => by rw [rdI_wrI, if_neg z]
        refine R.upd (by omega) (C.rl (fun k i j z => iw k i j (by omega)) (by rw [rdI_wrI, if_pos ⟨rfl, rfl, rfl⟩, C.lack, m2, el]) ((iw 0 0 18 (by omega)).trans C.trig) ((iw 0 0 19 (by omega)).trans C.spr) ((iw 0 0 20 (by omega)).trans C.pick)) (M.rl (fun k i j z => it k i j (by omega)) (by rw [rdI_wrI, if_pos ⟨rfl, rfl, rfl⟩, M.lack, m2, el]) ((it 0 0 30 (by omega)).trans M.trig) ((it 0 0 31 (by omega)).trans M.spr) ((it 0 0 32 (by omega)).trans M.pick)) ?_ rfl rfl rfl rfl rfl (fun _ _ _ _ => rfl) (fun _ _ _ => rfl) (fun h j => iw 7 h j (by omega)) (fun k j hk => it k 0 j (by omega)) (fun i hi => ?_) ?_ (iw 0 0 21 (by omega)) (iw 0 0 22 (by omega)) ?_ ⟨_, hlt, rfl⟩ R.s0
        · refine ⟨O.n6, O.rg40, O.rgT, O.rgY, O.sorted, O.all, O.fr9, O.sz1, O.tm4, O.sg4, O.sg0, O.who10, O.ten1, O.st2, O.trig3, O.spr3, O.pick3, fun y' hy' hb' => ?_⟩
          have h1 : bitB (nI (m ||| 2 ^ y)) y' = true := decide_eq_true hb'
          rw [bitB_nI (by omega) (by omega), Nat.testBit_or, Nat.testBit_two_pow] at h1
          by_cases e : y = y'
          · rw [← e]; exact hg
          · have h2 : m.testBit y' = true := by simpa [e] using h1
            rw [← bitB_nI (by omega) (by omega), ← m2] at h2
            exact O.lg y' hy' (of_decide_eq_true h2)
        · rw [it 28 0 i (by omega)]; exact R.cash i hi
        · rw [iw 0 0 23 (by omega), it 0 0 48 (by omega)]; exact R.fx
        · obtain ⟨n, Q⟩ := R.q
          exact ⟨n, Q.ext (iw 34 0 1 (by omega)) (fun _ => rfl)⟩
      · rw [rdI_wrI, if_neg (by omega)]
      · rw [rdI_wrI, if_neg (by omega)]
      · rw [rdI_wrI, if_neg (by omega)] at ht; exact ht
      · exact ht.elim id (fun z => z.elim)
      · rw [rdI_wrI, if_neg (by omega)]; exact ht.elim id (fun z => z.elim)
    · left
      rw [if_neg hg, if_pos (show (0 : Int32) = 0 from rfl), if_pos (show (0 : Int32) = 0 from rfl)]
      exact ⟨rfl, rfl⟩
theorem rules_rel {w t : tt_St} {a : TS} {c x y z : Nat} (R : RW w t a c d0) (hx : x ≤ 3) (hy : y ≤ 3) (hz : z ≤ 3) :
    DEED (fW_rulesBy w (nI x) (nI y) (nI z)) (some 1) (if (rdI t 0 0 48) = 0 then (fM_rulesAre t (nI x) (nI y) (nI z)).bind fun r15 => some r15 else some t) w t a c noP noP := by
  have C := R.C
  have M := R.M
  have O := R.O
  right
  unfold fW_rulesBy fM_rulesAre
  rw [R.fx]
  by_cases hf : rdI t 0 0 48 = 0
  · rw [if_pos hf, if_pos hf]
    dsimp only [nm]
    have iw : ∀ k i j, ¬ (k = 0 ∧ i = 0 ∧ 18 ≤ j ∧ j ≤ 20) → rdI (wrI (wrI (wrI w 0 0 18 (nI x)) 0 0 19 (nI y)) 0 0 20 (nI z)) k i j = rdI w k i j := fun k i j q => by rw [rdI_wrI, if_neg (by omega), rdI_wrI, if_neg (by omega), rdI_wrI, if_neg (by omega)]
    have it : ∀ k i j, ¬ (k = 0 ∧ i = 0 ∧ 30 ≤ j ∧ j ≤ 32) → rdI (wrI (wrI (wrI t 0 0 30 (nI x)) 0 0 31 (nI y)) 0 0 32 (nI z)) k i j = rdI t k i j := fun k i j q => by rw [rdI_wrI, if_neg (by omega), rdI_wrI, if_neg (by omega), rdI_wrI, if_neg (by omega)]
    refine ⟨_, _, a.rl a.lack x y z, rfl, rfl, rfl, ?_, ⟨fun k j hk => it k 0 j (by omega), fun j hj => it 0 0 j (by omega)⟩, fun l hl ht => Or.inl ht, fun h hh ht => Or.inl ?_, fun l hl ht => ?_, fun h hh ht => ?_⟩
    · refine R.upd (by omega) (C.rl (fun k i j q => iw k i j (by omega)) ((iw 0 0 17 (by omega)).trans C.lack) (by rw [rdI_wrI, if_neg (by omega), rdI_wrI, if_neg (by omega), rdI_wrI, if_pos ⟨rfl, rfl, rfl⟩]) (by rw [rdI_wrI, if_neg (by omega), rdI_wrI, if_pos ⟨rfl, rfl, rfl⟩]) (by rw [rdI_wrI, if_pos ⟨rfl, rfl, rfl⟩])) (M.rl (fun k i j q => it k i j (by omega)) ((it 0 0 29 (by omega)).trans M.lack) (by rw [rdI_wrI, if_neg (by omega), rdI_wrI, if_neg (by omega), rdI_wrI, if_pos ⟨rfl, rfl, rfl⟩]) (by rw [rdI_wrI, if_neg (by omega), rdI_wrI, if_pos ⟨rfl, rfl, rfl⟩]) (by rw [rdI_wrI, if_pos ⟨rfl, rfl, rfl⟩])) ?_ rfl rfl rfl rfl rfl (fun _ _ _ _ => rfl) (fun _ _ _ => rfl) (fun h j => iw 7 h j (by omega)) (fun k j hk => it k 0 j (by omega)) (fun i hi => ?_) ?_ (iw 0 0 21 (by omega)) (iw 0 0 22 (by omega)) ?_ R.lk R.s0
      · exact ⟨O.n6, O.rg40, O.rgT, O.rgY, O.sorted, O.all, O.fr9, O.sz1, O.tm4, O.sg4, O.sg0, O.who10, O.ten1, O.st2, hx, hy, hz, O.lg⟩
      · rw [it 28 0 i (by omega)]; exact R.cash i hi
      · rw [iw 0 0 23 (by omega), it 0 0 48 (by omega)]; exact R.fx
      · obtain ⟨n, Q⟩ := R.q
        exact ⟨n, Q.ext (iw 34 0 1 (by omega)) (fun _ => rfl)⟩
    · rw [it 7 0 h (by omega)] at ht; exact ht
    · exact ht.elim id (fun z => z.elim)
    · rw [it 7 0 h (by omega)]; exact ht.elim id (fun z => z.elim)
  · rw [if_neg hf, if_neg hf]
    refine ⟨w, t, a, rfl, rfl, rfl, ?_, FE.refl t, fun l hl ht => Or.inl ht, fun h hh ht => Or.inl ht, fun l hl ht => ht.elim id (fun z => z.elim), fun h hh ht => ht.elim id (fun z => z.elim)⟩
    exact R.upd (by omega) C M O rfl rfl rfl rfl rfl (fun _ _ _ _ => rfl) (fun _ _ _ => rfl) (fun _ _ => rfl) (fun _ _ _ => rfl) R.cash R.fx rfl rfl R.q R.lk R.s0
/-- an insurer is sound no more; what the model does is given by its cells -/
theorem turns_rel {w t t' : tt_St} {a : TS} {c i to s : Nat} (R : RW w t a c d0) (hi1 : 1 ≤ i) (hi : i < 10) (hto : to = 1 ∨ to = 2) (hs : s < 2 ^ 31) (l1 : ∀ k x j, rdL t' k x j = rdL t k x j) (i1 : ∀ k x j, ¬ (k = 27 ∨ k = 28) → rdI t' k x j = rdI t k x j) (i27 : ∀ j, rdI t' 27 0 j = if j = i then nI to else rdI t 27 0 j) (i28 : a.st i = 0 → ∀ j, rdI t' 28 0 j = if j = i then nI s else rdI t 28 0 j) :
    DEED (fW_turns w (nI i) (nI to) (nI s)) (if (rdI t 27 0 i) = 0 then some (1 : Int32) else some (0 : Int32)) (some t') w t a c noP noP := by
  have C := R.C
  have M := R.M
  have O := R.O
  have h2 := O.st2 i hi
  unfold fW_turns
  dsimp only [nm]
  rw [inB_nI hi (by omega), if_pos rfl, nI_clamp (by omega), C.st i hi, M.st i hi]
  by_cases h0 : a.st i = 0
  · right
    rw [h0, if_pos (show nI 0 = 0 from rfl), if_pos (show nI 0 = 0 from rfl)]
    have i28' := i28 h0
    have iw : ∀ k x j, ¬ (k = 24 ∧ x = 0 ∧ j = i) → rdI (wrL (wrI w 24 0 i (nI to)) 25 0 i (nI s).toInt64) k x j = rdI w k x j := fun k x j q => by rw [rdI_wrL, rdI_wrI, if_neg q]
    refine ⟨_, _, a.stt (fun j => if j = i then to else a.st j), rfl, rfl, rfl, ?_, ⟨fun k j hk => i1 k 0 j (by omega), fun j hj => i1 0 0 j (by omega)⟩, fun l hl ht => Or.inl ht, fun h hh ht => Or.inl ?_, fun l hl ht => ?_, fun h hh ht => ?_⟩
    · refine R.upd (by omega) (C.stt (fun k x j q => iw k x j (by omega)) (fun j hj => ?_)) (M.stt i1 (fun j hj => ?_)) ?_ rfl rfl rfl rfl rfl (fun k x j q => ?_) l1 (fun h j => iw 7 h j (by omega)) (fun k j hk => i1 k 0 j (by omega)) (fun j hj => ?_) ?_ (iw 0 0 21 (by omega)) (iw 0 0 22 (by omega)) ?_ R.lk (show (if 0 = i then to else a.st 0) = 0 by rw [if_neg (by omega)]; exact R.s0)
      · rw [rdI_wrL, rdI_wrI]
        by_cases e : j = i
        · rw [if_pos ⟨rfl, rfl, e⟩, if_pos e]
        · rw [if_neg (fun z => e z.2.2), if_neg e]; exact C.st j hj
      · rw [i27]
        by_cases e : j = i
        · rw [if_pos e, if_pos e]
        · rw [if_neg e, if_neg e]; exact M.st j hj
      · refine ⟨O.n6, O.rg40, O.rgT, O.rgY, O.sorted, O.all, O.fr9, O.sz1, O.tm4, O.sg4, O.sg0, O.who10, O.ten1, fun j hj => ?_, O.trig3, O.spr3, O.pick3, O.lg⟩
        show (if j = i then to else a.st j) ≤ 2
        by_cases e : j = i
        · rw [if_pos e]; omega
        · rw [if_neg e]; exact O.st2 j hj
      · rw [rdL_wrL, if_neg (by omega)]; rfl
      · rw [rdL_wrL, i28']
        by_cases e : j = i
        · rw [if_pos ⟨rfl, rfl, e⟩, if_pos e]
          refine ⟨rfl, fun z => ?_⟩
          have z' : (if j = i then to else a.st j) = 0 := z
          rw [if_pos e] at z'
          omega
        · rw [if_neg (fun z => e z.2.2), if_neg e]
          refine ⟨(R.cash j hj).1, fun z => ?_⟩
          have z' : (if j = i then to else a.st j) = 0 := z
          rw [if_neg e] at z'
          exact (R.cash j hj).2 z'
      · rw [iw 0 0 23 (by omega), i1 0 0 48 (by omega)]; exact R.fx
      · obtain ⟨n, Q⟩ := R.q
        exact ⟨n, Q.ext (iw 34 0 1 (by omega)) (fun _ => rfl)⟩
    · rw [i1 7 0 h (by omega)] at ht; exact ht
    · exact ht.elim id (fun z => z.elim)
    · rw [i1 7 0 h (by omega)]; exact ht.elim id (fun z => z.elim)
  · left
    rw [if_neg (nI_ne0 (by omega) (by omega)), if_neg (nI_ne0 (by omega) (by omega))]
    exact ⟨rfl, rfl⟩
