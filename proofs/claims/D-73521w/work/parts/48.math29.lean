set_option linter.unusedVariables false
set_option linter.unusedSimpArgs false
set_option maxRecDepth 100000
/-! PLAIN LAW: a layer is placed: the picture -/
theorem ins_pos (g : Nat → Nat) (f : Nat) : ∀ n, ∃ p, p ≤ n ∧ (p = 0 ∨ g (p - 1) ≤ f) ∧ ∀ j, p ≤ j → j < n → f < g j
  | 0 => ⟨0, Nat.le_refl _, Or.inl rfl, fun j h1 h2 => by omega⟩
  | n + 1 => by
    by_cases h : g n ≤ f
    · exact ⟨n + 1, Nat.le_refl _, Or.inr h, fun j h1 h2 => by omega⟩
    · obtain ⟨p, p1, p2, p3⟩ := ins_pos g f n
      refine ⟨p, by omega, p2, fun j h1 h2 => ?_⟩
      by_cases e : j = n
      · rw [e]; omega
      · exact p3 j h1 (by omega)
def rgI (a : TS) (l y p : Nat) (yy k : Nat) : Nat := if yy = y then (if k < p then a.rg y k else if k = p then l else a.rg y (k - 1)) else a.rg yy k
def TS.plc (a : TS) (l y f s m p : Nat) : TS := TS.mk (fun yy => if yy = y then a.n yy + 1 else a.n yy) (rgI a l y p) (fun x => if x = l then true else a.there x) (fun x => if x = l then y else a.yr x) (fun x => if x = l then f else a.fr x) (fun x => if x = l then s else a.sz x) (fun x => if x = l then m else a.tm x) a.sg a.who a.ten a.st a.lack a.trig a.spr a.pick
/-- it may be placed there -/
def PLC (a : TS) (l : Nat) (y : Nat) (f : Nat) (s : Nat) (m : Nat) (p : Nat) : Prop :=
  (l < 40) ∧
  (y < 12) ∧
  (f ≤ 900000000) ∧
  (1 ≤ s ∧ s ≤ 100000000) ∧
  (1 ≤ m ∧ m ≤ 4) ∧
  (a.there l = false) ∧
  (bitB a.lack y = false) ∧
  (a.n y < 6) ∧
  (p ≤ a.n y) ∧
  (p = 0 ∨ a.fr (a.rg y (p - 1)) ≤ f) ∧
  (∀ j, p ≤ j → j < a.n y → f < a.fr (a.rg y j)) ∧
  (∀ k, k < a.n y → f + s ≤ a.fr (a.rg y k) ∨ a.top (a.rg y k) ≤ f)
theorem PLC.hl {a : TS} {l : Nat} {y : Nat} {f : Nat} {s : Nat} {m : Nat} {p : Nat} (self_ : PLC a l y f s m p) : l < 40 := self_.1
theorem PLC.hy {a : TS} {l : Nat} {y : Nat} {f : Nat} {s : Nat} {m : Nat} {p : Nat} (self_ : PLC a l y f s m p) : y < 12 := self_.2.1
theorem PLC.hf {a : TS} {l : Nat} {y : Nat} {f : Nat} {s : Nat} {m : Nat} {p : Nat} (self_ : PLC a l y f s m p) : f ≤ 900000000 := self_.2.2.1
theorem PLC.hs {a : TS} {l : Nat} {y : Nat} {f : Nat} {s : Nat} {m : Nat} {p : Nat} (self_ : PLC a l y f s m p) : 1 ≤ s ∧ s ≤ 100000000 := self_.2.2.2.1
theorem PLC.hm {a : TS} {l : Nat} {y : Nat} {f : Nat} {s : Nat} {m : Nat} {p : Nat} (self_ : PLC a l y f s m p) : 1 ≤ m ∧ m ≤ 4 := self_.2.2.2.2.1
theorem PLC.fresh {a : TS} {l : Nat} {y : Nat} {f : Nat} {s : Nat} {m : Nat} {p : Nat} (self_ : PLC a l y f s m p) : a.there l = false := self_.2.2.2.2.2.1
theorem PLC.lack {a : TS} {l : Nat} {y : Nat} {f : Nat} {s : Nat} {m : Nat} {p : Nat} (self_ : PLC a l y f s m p) : bitB a.lack y = false := self_.2.2.2.2.2.2.1
theorem PLC.n6 {a : TS} {l : Nat} {y : Nat} {f : Nat} {s : Nat} {m : Nat} {p : Nat} (self_ : PLC a l y f s m p) : a.n y < 6 := self_.2.2.2.2.2.2.2.1
theorem PLC.pn {a : TS} {l : Nat} {y : Nat} {f : Nat} {s : Nat} {m : Nat} {p : Nat} (self_ : PLC a l y f s m p) : p ≤ a.n y := self_.2.2.2.2.2.2.2.2.1
theorem PLC.pl {a : TS} {l : Nat} {y : Nat} {f : Nat} {s : Nat} {m : Nat} {p : Nat} (self_ : PLC a l y f s m p) : p = 0 ∨ a.fr (a.rg y (p - 1)) ≤ f := self_.2.2.2.2.2.2.2.2.2.1
theorem PLC.pr {a : TS} {l : Nat} {y : Nat} {f : Nat} {s : Nat} {m : Nat} {p : Nat} (self_ : PLC a l y f s m p) : ∀ j, p ≤ j → j < a.n y → f < a.fr (a.rg y j) := self_.2.2.2.2.2.2.2.2.2.2.1
theorem PLC.ap {a : TS} {l : Nat} {y : Nat} {f : Nat} {s : Nat} {m : Nat} {p : Nat} (self_ : PLC a l y f s m p) : ∀ k, k < a.n y → f + s ≤ a.fr (a.rg y k) ∨ a.top (a.rg y k) ≤ f := self_.2.2.2.2.2.2.2.2.2.2.2
section
variable {a : TS} {l y f s m p : Nat}
theorem plc_n (yy : Nat) : (a.plc l y f s m p).n yy = if yy = y then a.n yy + 1 else a.n yy := rfl
theorem plc_rg (yy k : Nat) : (a.plc l y f s m p).rg yy k = rgI a l y p yy k := rfl
theorem plc_there (x : Nat) : (a.plc l y f s m p).there x = if x = l then true else a.there x := rfl
theorem plc_yr (x : Nat) : (a.plc l y f s m p).yr x = if x = l then y else a.yr x := rfl
theorem plc_fr (x : Nat) : (a.plc l y f s m p).fr x = if x = l then f else a.fr x := rfl
theorem plc_sz (x : Nat) : (a.plc l y f s m p).sz x = if x = l then s else a.sz x := rfl
theorem plc_tm (x : Nat) : (a.plc l y f s m p).tm x = if x = l then m else a.tm x := rfl
theorem plc_top (x : Nat) : (a.plc l y f s m p).top x = if x = l then f + s else a.top x := by
  unfold TS.top
  rw [plc_fr, plc_sz]
  split <;> rfl
/-- a rung of it: an old one, or the new one -/
theorem plc_cases (P : PLC a l y f s m p) (O : a.Ok) {yy k : Nat} (hyy : yy < 12) (hk : k < (a.plc l y f s m p).n yy) : (yy = y ∧ k = p ∧ (a.plc l y f s m p).rg yy k = l) ∨ (∃ j, j < a.n yy ∧ (a.plc l y f s m p).rg yy k = a.rg yy j ∧ ¬ a.rg yy j = l ∧ (yy = y → (k < p ∧ j = k) ∨ (p < k ∧ j + 1 = k)) ∧ (¬ yy = y → j = k)) := by
  rw [plc_n] at hk
  have ne : ∀ j, j < a.n yy → ¬ a.rg yy j = l := fun j hj e => by
    have := O.rgT yy j hyy hj
    rw [e, P.fresh] at this
    cases this
  rw [plc_rg]
  unfold rgI
  by_cases e : yy = y
  · subst e
    rw [if_pos rfl] at hk
    rw [if_pos rfl]
    by_cases h1 : k < p
    · right
      have := P.pn
      exact ⟨k, by omega, by rw [if_pos h1], ne k (by omega), fun _ => Or.inl ⟨h1, rfl⟩, fun z => absurd rfl z⟩
    · rw [if_neg h1]
      by_cases h2 : k = p
      · exact Or.inl ⟨rfl, h2, by rw [if_pos h2]⟩
      · right
        exact ⟨k - 1, by omega, by rw [if_neg h2], ne _ (by omega), fun _ => Or.inr ⟨by omega, by omega⟩, fun z => absurd rfl z⟩
  · right
    rw [if_neg e] at hk
    exact ⟨k, hk, by rw [if_neg e], ne k hk, fun z => absurd z e, fun _ => rfl⟩
theorem sorted_le (O : a.Ok) {yy i j : Nat} (hy : yy < 12) (hij : i < j) (hj : j < a.n yy) : a.top (a.rg yy i) ≤ a.fr (a.rg yy j) := by
  induction j with
  | zero => omega
  | succ j ih =>
    have h1 := O.sorted yy j hy hj
    by_cases e : i = j
    · rw [e]; exact h1
    · have h2 := ih (by omega) (by omega)
      have : a.fr (a.rg yy j) ≤ a.top (a.rg yy j) := Nat.le_add_right _ _
      omega
theorem plc_ok (P : PLC a l y f s m p) (O : a.Ok) : (a.plc l y f s m p).Ok := by
  have hpn := P.pn
  have h6 := P.n6
  have low : ∀ k, k < p → a.top (a.rg y k) ≤ f := fun k hk => by
    have h1 : a.fr (a.rg y (p - 1)) ≤ f := by rcases P.pl with z | z <;> omega
    have h2 := P.ap (p - 1) (by omega)
    have h3 : a.top (a.rg y (p - 1)) ≤ f := by have := P.hs; omega
    by_cases e : k = p - 1
    · rw [e]; exact h3
    · have h4 := sorted_le O P.hy (show k < p - 1 by omega) (by omega)
      omega
  have high : ∀ k, p ≤ k → k < a.n y → f + s ≤ a.fr (a.rg y k) := fun k h1 h2 => by
    have h3 := P.pr k h1 h2
    have h4 := P.ap k h2
    have h5 : a.fr (a.rg y k) ≤ a.top (a.rg y k) := Nat.le_add_right _ _
    omega
  refine ⟨fun yy hyy => ?_, fun yy k hyy hk => ?_, fun yy k hyy hk => ?_, fun yy k hyy hk => ?_, fun yy k hyy hk => ?_, fun x hx ht => ?_, fun x hx ht => ?_, fun x hx ht => ?_, fun x hx ht => ?_, O.sg4, fun x hx ht => ?_, O.who10, O.ten1, O.st2, O.trig3, O.spr3, O.pick3, fun yy hyy hb => ?_⟩
  · have := O.n6 yy hyy
    rw [plc_n]
    by_cases e : yy = y
    · rw [if_pos e, e]; omega
    · rw [if_neg e]; exact this
  · rcases plc_cases P O hyy hk with ⟨_, _, e⟩ | ⟨j, j1, e, _⟩
    · rw [e]; exact P.hl
    · rw [e]; exact O.rg40 yy j hyy j1
  · rw [plc_there]
    rcases plc_cases P O hyy hk with ⟨_, _, e⟩ | ⟨j, j1, e, j2, _⟩
    · rw [e, if_pos rfl]
    · rw [e, if_neg j2]; exact O.rgT yy j hyy j1
  · rw [plc_yr]
    rcases plc_cases P O hyy hk with ⟨e0, _, e⟩ | ⟨j, j1, e, j2, _⟩
    · rw [e, if_pos rfl, e0]
    · rw [e, if_neg j2]; exact O.rgY yy j hyy j1
  · rw [plc_top, plc_fr]
    rcases plc_cases P O hyy (k := k) (by omega) with ⟨e0, e1, e⟩ | ⟨j, j1, e, j2, j3, j4⟩
    · rcases plc_cases P O hyy hk with ⟨_, e2, _⟩ | ⟨i, i1, i0, i2, i3, i4⟩
      · omega
      · rw [e, if_pos rfl, i0, if_neg i2]
        have := i3 e0
        rw [e0] at i1 ⊢
        exact high i (by omega) i1
    · rcases plc_cases P O hyy hk with ⟨e0, e1, e2⟩ | ⟨i, i1, i0, i2, i3, i4⟩
      · rw [e, if_neg j2, e2, if_pos rfl]
        have := j3 e0
        rw [e0]
        exact low j (by omega)
      · rw [e, if_neg j2, i0, if_neg i2]
        refine sorted_le O hyy ?_ i1
        by_cases e0 : yy = y
        · have := j3 e0
          have := i3 e0
          omega
        · have := j4 e0
          have := i4 e0
          omega
  · rw [plc_there] at ht
    rw [plc_yr]
    by_cases e : x = l
    · rw [if_pos e]
      refine ⟨P.hy, p, ?_, ?_⟩
      · rw [plc_n, if_pos rfl]; omega
      · rw [plc_rg]
        unfold rgI
        rw [if_pos rfl, if_neg (by omega), if_pos rfl, e]
    · rw [if_neg e] at ht ⊢
      obtain ⟨q1, k, q2, q3⟩ := O.all x hx ht
      refine ⟨q1, ?_⟩
      by_cases e2 : a.yr x = y
      · rw [e2] at q2 q3 ⊢
        by_cases h : k < p
        · refine ⟨k, by rw [plc_n, if_pos rfl]; omega, ?_⟩
          rw [plc_rg]; unfold rgI
          rw [if_pos rfl, if_pos h]; exact q3
        · refine ⟨k + 1, by rw [plc_n, if_pos rfl]; omega, ?_⟩
          rw [plc_rg]; unfold rgI
          rw [if_pos rfl, if_neg (by omega), if_neg (by omega), Nat.add_sub_cancel]; exact q3
      · refine ⟨k, by rw [plc_n, if_neg e2]; exact q2, ?_⟩
        rw [plc_rg]; unfold rgI
        rw [if_neg e2]; exact q3
  · rw [plc_there] at ht
    rw [plc_fr]
    by_cases e : x = l
    · rw [if_pos e]; exact P.hf
    · rw [if_neg e] at ht ⊢; exact O.fr9 x hx ht
  · rw [plc_there] at ht
    rw [plc_sz]
    by_cases e : x = l
    · rw [if_pos e]; exact P.hs
    · rw [if_neg e] at ht ⊢; exact O.sz1 x hx ht
  · rw [plc_there] at ht
    rw [plc_tm]
    by_cases e : x = l
    · rw [if_pos e]; exact P.hm
    · rw [if_neg e] at ht ⊢; exact O.tm4 x hx ht
  · rw [plc_there] at ht
    by_cases e : x = l
    · rw [if_pos e] at ht; cases ht
    · rw [if_neg e] at ht; exact O.sg0 x hx ht
  · have h1 := O.lg yy hyy hb
    rw [plc_n]
    by_cases e : yy = y
    · have : bitB a.lack y = true := by rw [← e]; exact decide_eq_true hb
      rw [P.lack] at this
      cases this
    · rw [if_neg e]; exact h1
end
