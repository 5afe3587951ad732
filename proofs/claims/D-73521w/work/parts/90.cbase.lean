set_option maxRecDepth 100000
/-! a world that is being made -/
def tkC (kd p : Nat) : Nat := match kd with
  | 0 => (match p with | 0 => 1 | 1 => 6 | 2 => 21 | 3 => 23 | 4 => 24 | 5 => 25 | 6 => 26 | 7 => 27 | 8 => 28 | 9 => 29 | 10 => 30 | 11 => 31 | 12 => 33 | 13 => 34 | 14 => 14 | 15 => 14 | 16 => 36 | _ => 52)
  | 1 => 2
  | 2 => (match p with | 0 => 3 | 1 => 4 | 2 => 5 | _ => 52)
  | 6 => 7
  | 7 => (match p with | 0 => 8 | 1 => 9 | 2 => 10 | 3 => 11 | 4 => 12 | 5 => 13 | _ => 52)
  | 14 => (match p with | 0 => 8 | 1 => 9 | 2 => 10 | 3 => 11 | 4 => 12 | 5 => 13 | _ => 52)
  | 21 => 22
  | 31 => 32
  | 34 => (match p with | 0 => 35 | 2 => 33 | _ => 52)
  | 35 => 32
  | 36 => 37
  | 37 => (match p with | 0 => 38 | _ => 52)
  | 38 => 0
  | 50 => (match p with | 0 => 0 | 1 => 0 | 2 => 7 | 3 => 51 | 4 => 54 | 5 => 56 | 6 => 59 | _ => 52)
  | 51 => 52
  | 54 => 55
  | 56 => (match p with | 0 => 57 | _ => 52)
  | 57 => (match p with | 0 => 52 | 1 => 52 | 2 => 52 | 3 => 52 | 6 => 52 | 7 => 52 | 8 => 52 | _ => 52)
  | 100 => if p < 50 then 100 + p else 52
  | _ => 52
def EC0 (dA : Nat → ClassId) (kd i : Nat) (fI : Nat → Int32) (fL : Nat → Int64) (g : Nat → Option Nat) : va_E := match kd with
  | 0 => .inr (0, [va_rf (g 0), va_rf (g 1), va_rf (g 2), va_rf (g 3), va_rf (g 4), va_rf (g 5), va_rf (g 6), va_rf (g 7), va_rf (g 8), va_rf (g 9), va_rf (g 10), va_rf (g 11), va_rf (g 12), va_rf (g 13), va_rf (g 14), va_rf (g 15), va_rf (g 16), .int (fI 17), .int (fI 18), .int (fI 19), .int (fI 20), .int (fI 21), .int (fI 22), .int (fI 23)])
  | 1 => .inl (dA 2, 40, .inr (.inr (.inr (.inr g))))
  | 2 => .inr (1, [va_rf (g 0), va_rf (g 1), va_rf (g 2), .int (fI 3), .int (fI 4), .int (fI 5), .int (fI 6), .int (fI 7), .int (fI 8), .long (fL 9), .int (fI 10)])
  | 3 => .inl (dA 0, 4, .inl fI)
  | 4 => .inl (dA 0, 4, .inl fI)
  | 5 => .inl (dA 1, 4, .inr (.inl fL))
  | 6 => .inl (dA 3, 24, .inr (.inr (.inr (.inr g))))
  | 7 => .inr (2, [va_rf (g 0), va_rf (g 1), va_rf (g 2), va_rf (g 3), va_rf (g 4), va_rf (g 5), .int (fI 6), .int (fI 7), .int (fI 8), .int (fI 9), .long (fL 10), .int (fI 11)])
  | 8 => .inl (dA 1, 10, .inr (.inl fL))
  | 9 => .inl (dA 1, 7, .inr (.inl fL))
  | 10 => .inl (dA 1, 40, .inr (.inl fL))
  | 11 => .inl (dA 1, 40, .inr (.inl fL))
  | 12 => .inl (dA 1, 40, .inr (.inl fL))
  | 13 => .inl (dA 1, 160, .inr (.inl fL))
  | 14 => .inr (3, [va_rf (g 0), va_rf (g 1), va_rf (g 2), va_rf (g 3), va_rf (g 4), va_rf (g 5)])
  | 21 => .inl (dA 4, 12, .inr (.inr (.inr (.inr g))))
  | 22 => .inl (dA 0, 6, .inl fI)
  | 23 => .inl (dA 0, 12, .inl fI)
  | 24 => .inl (dA 0, 10, .inl fI)
  | 25 => .inl (dA 1, 10, .inr (.inl fL))
  | 26 => .inl (dA 1, 12, .inr (.inl fL))
  | 27 => .inl (dA 1, 12, .inr (.inl fL))
  | 28 => .inl (dA 1, 40, .inr (.inl fL))
  | 29 => .inl (dA 1, 40, .inr (.inl fL))
  | 30 => .inl (dA 1, 40, .inr (.inl fL))
  | 31 => .inl (dA 5, 12, .inr (.inr (.inr (.inr g))))
  | 32 => .inr (4, [.int (fI 0), .long (fL 1), .int (fI 2)])
  | 33 => .inr (5, [.int (fI 0)])
  | 34 => .inr (6, [va_rf (g 0), .int (fI 1), va_rf (g 2), .int (fI 3)])
  | 35 => .inl (dA 6, 12, .inr (.inr (.inr (.inr g))))
  | 36 => .inl (dA 7, 4, .inr (.inr (.inr (.inr g))))
  | 37 => .inr (7, [va_rf (g 0)])
  | 38 => .inl (dA (10 + i % 4), 1, .inr (.inr (.inr (.inr g))))
  | 50 => .inr (8, [va_rf (g 0), va_rf (g 1), va_rf (g 2), va_rf (g 3), va_rf (g 4), va_rf (g 5), va_rf (g 6), .int (fI 7), .int (fI 8)])
  | 51 => .inl (dA 8, 160, .inr (.inr (.inr (.inr g))))
  | 54 => .inl (dA 9, 10, .inr (.inr (.inr (.inr g))))
  | 55 => .inr (10, [.int (fI 0), .long (fL 1)])
  | 56 => .inr (11, [va_rf (g 0)])
  | 57 => .inr (12, [va_rf (g 0), va_rf (g 1), va_rf (g 2), va_rf (g 3), .int (fI 4), .int (fI 5), va_rf (g 6), va_rf (g 7), va_rf (g 8)])
  | 59 => .inl (dA 0, 3, .inl fI)
  | 99 => .inl (dA 1, 1, .inr (.inl fL))
  | 100 => .inr (14, [.int (fI 0), va_rf (g 1), va_rf (g 2), va_rf (g 3), va_rf (g 4), .int (fI 5), va_rf (g 6), va_rf (g 7), va_rf (g 8), va_rf (g 9), va_rf (g 10), va_rf (g 11), va_rf (g 12), va_rf (g 13), va_rf (g 14), va_rf (g 15), va_rf (g 16), va_rf (g 17), va_rf (g 18), va_rf (g 19), va_rf (g 20), va_rf (g 21), va_rf (g 22), va_rf (g 23), va_rf (g 24), va_rf (g 25), va_rf (g 26), va_rf (g 27), va_rf (g 28), .int (fI 29), .int (fI 30), .int (fI 31), .int (fI 32), va_rf (g 33), va_rf (g 34), va_rf (g 35), va_rf (g 36), va_rf (g 37), va_rf (g 38), va_rf (g 39), va_rf (g 40), va_rf (g 41), va_rf (g 42), va_rf (g 43), va_rf (g 44), va_rf (g 45), va_rf (g 46), va_rf (g 47), .int (fI 48), .int (fI 49)])
  | 101 => .inl (dA 0, 3, .inl fI)
  | 102 => .inl (dA 0, 160, .inl fI)
  | 103 => .inl (dA 0, 160, .inl fI)
  | 104 => .inl (dA 0, 640, .inl fI)
  | 106 => .inl (dA 60, 40, .inl fI)
  | 107 => .inl (dA 60, 25, .inl fI)
  | 108 => .inl (dA 0, 40, .inl fI)
  | 109 => .inl (dA 0, 40, .inl fI)
  | 110 => .inl (dA 0, 40, .inl fI)
  | 111 => .inl (dA 0, 40, .inl fI)
  | 112 => .inl (dA 0, 40, .inl fI)
  | 113 => .inl (dA 0, 160, .inl fI)
  | 114 => .inl (dA 0, 160, .inl fI)
  | 115 => .inl (dA 1, 40, .inr (.inl fL))
  | 116 => .inl (dA 0, 25, .inl fI)
  | 117 => .inl (dA 0, 25, .inl fI)
  | 118 => .inl (dA 0, 25, .inl fI)
  | 119 => .inl (dA 0, 25, .inl fI)
  | 120 => .inl (dA 1, 25, .inr (.inl fL))
  | 121 => .inl (dA 1, 1000, .inr (.inl fL))
  | 122 => .inl (dA 1, 1000, .inr (.inl fL))
  | 123 => .inl (dA 1, 1000, .inr (.inl fL))
  | 124 => .inl (dA 0, 4000, .inl fI)
  | 125 => .inl (dA 1, 250, .inr (.inl fL))
  | 126 => .inl (dA 1, 175, .inr (.inl fL))
  | 127 => .inl (dA 0, 10, .inl fI)
  | 128 => .inl (dA 0, 10, .inl fI)
  | 133 => .inl (dA 0, 72, .inl fI)
  | 134 => .inl (dA 0, 12, .inl fI)
  | 135 => .inl (dA 0, 40, .inl fI)
  | 136 => .inl (dA 1, 40, .inr (.inl fL))
  | 137 => .inl (dA 1, 40, .inr (.inl fL))
  | 138 => .inl (dA 1, 40, .inr (.inl fL))
  | 139 => .inl (dA 1, 40, .inr (.inl fL))
  | 140 => .inl (dA 1, 12, .inr (.inl fL))
  | 141 => .inl (dA 0, 12, .inl fI)
  | 142 => .inl (dA 1, 40, .inr (.inl fL))
  | 143 => .inl (dA 1, 40, .inr (.inl fL))
  | 144 => .inl (dA 1, 40, .inr (.inl fL))
  | 145 => .inl (dA 1, 7, .inr (.inl fL))
  | 146 => .inl (dA 1, 40, .inr (.inl fL))
  | 147 => .inl (dA 1, 12, .inr (.inl fL))
  | _ => .inl (dA 0, 0, .inl fI)
theorem tkC_lt (k p : Nat) : tkC k p < 200 := by
  unfold tkC
  split <;> (try split) <;> omega
def gC (lc : Nat → Nat → Nat) (s : tt_St) (kd i : Nat) : Nat → Option Nat := fun p => if p < 160 then (rdR s kd i p).map (lc (tkC kd p)) else none
def EC (dA : Nat → ClassId) : (Nat → Nat → Nat) → tt_St → Nat → Nat → va_E := fun lc s kd i => EC0 dA kd i (rdI s kd i) (rdL s kd i) (gC lc s kd i)
def lvC (s : tt_St) (kd i : Nat) : Prop := kd < 200 ∧ i < rdN s kd
/-- all that is pointed at lives -/
def okC (s : tt_St) : Bool := (List.range 200).all fun kd => (List.range (rdN s kd)).all fun i => (List.range 160).all fun p => (rdR s kd i p).all fun t => decide (t < rdN s (tkC kd p))
theorem okC_iff {s : tt_St} : okC s = true ↔ ∀ kd, kd < 200 → ∀ i, i < rdN s kd → ∀ p, p < 160 → ∀ t, rdR s kd i p = some t → t < rdN s (tkC kd p) := by
  unfold okC
  simp only [List.all_eq_true, List.mem_range]
  constructor
  · intro h kd hk i hi p hp t ht
    have := h kd hk i hi p hp
    rw [ht] at this
    exact of_decide_eq_true this
  · intro h kd hk i hi p hp
    cases e : rdR s kd i p with
    | none => rfl
    | some t => exact decide_eq_true (h kd hk i hi p hp t e)
/-- what rides while all is made -/
def tt_KC (dA : Nat → ClassId) (A : Nat → Prop) (b L : Nat) (xs : Nat → Int32) (U : State) : Prop := tt_KS dA A b L xs U ∧ (∀ C ∈ ["TallTowers$Layer", "TallTowers$Harm", "TallTowers$Tower", "TallTowers$Spread", "TallTowers$Event", "TallTowers$Holder", "java/lang/Object"], va_AO C U) ∧ (Cond.arrayOver (.array .int)).before #[] U = true
def XC (l : Launch) (D : va_G) (dA : Nat → ClassId) (A : Nat → Prop) (pz b L : Nat) (xs : Nat → Int32) : tt_X tt_St := (l, D, clL, tysL dA, EC dA, lvC, A, tt_KC dA A b L xs)
def tt_agc {σ : Type} (X : tt_X σ) (s : σ) (lc lc' : Nat → Nat → Nat) : Prop := ∀ k j, xV X s k j → lc' k j = lc k j
theorem agc_rf {σ : Type} {X : tt_X σ} {s : σ} {lc : Nat → Nat → Nat} : tt_agc X s lc lc := fun _ _ _ => rfl
theorem Ok.agc {σ : Type} {X : tt_X σ} {s : σ} {lc : Nat → Nat → Nat} {α : Type} {o : Option α} {s1 : σ} {lc1 : Nat → Nat → Nat} {P : (Nat → Nat → Nat) → α → Prop} (h : Ok o (fun q => ∀ lc', tt_agc X s lc lc' → P lc' q)) (hc : tt_agc X s1 lc lc1) (hm : ∀ k j, xV X s k j → xV X s1 k j) : Ok o (fun q => ∀ lc', tt_agc X s1 lc1 lc' → P lc' q) :=
  h.mono fun _ hq lc' ha => hq lc' fun k j hv => (ha k j (hm k j hv)).trans (hc k j (hm k j hv))
theorem itr_loopM {ι α β γ : Type} {body : α → Option (α ⊕ β)} {n : Nat} {a0 : α} {k : β → Option γ} {K : γ → Prop} {R : ι → Prop} {PV : ι → α → Prop} {PE : ι → β → Prop} (h : Ok ((itr body n a0).bind k) K) (hx : ∀ b, Ok (k b) K → ∀ lc, R lc → PE lc b) (step : ∀ a, Ok (body a) (fun r => ∀ lc, R lc → Sum.casesOn (motive := fun _ => Prop) r (PV lc) (PE lc)) → ∀ lc, R lc → PV lc a) : ∀ lc, R lc → PV lc a0 :=
  itr_sound (P := fun a => ∀ lc, R lc → PV lc a) (E := fun b => ∀ lc, R lc → PE lc b) (fun a ha => step a (ha.mono fun r hr => by cases r with
    | inl a => exact hr
    | inr b => exact hr)) n a0 ((Ok.bind h).mono hx)
/-- one more cell of a kind, empty -/
def newA (s : tt_St) (kd : Nat) : tt_St := (fun a b c => if a = kd ∧ b = rdN s kd then 0 else s.1 a b c, fun a b c => if a = kd ∧ b = rdN s kd then 0 else s.2.1 a b c, fun a b c => if a = kd ∧ b = rdN s kd then none else s.2.2.1 a b c, fun a => if a = kd then rdN s kd + 1 else s.2.2.2 a)
theorem rdN_newA (s : tt_St) (kd k : Nat) : rdN (newA s kd) k = if k = kd then rdN s kd + 1 else rdN s k := rfl
theorem rdI_newA (s : tt_St) (kd a b c : Nat) : rdI (newA s kd) a b c = if a = kd ∧ b = rdN s kd then 0 else rdI s a b c := rfl
theorem rdL_newA (s : tt_St) (kd a b c : Nat) : rdL (newA s kd) a b c = if a = kd ∧ b = rdN s kd then 0 else rdL s a b c := rfl
theorem rdR_newA (s : tt_St) (kd a b c : Nat) : rdR (newA s kd) a b c = if a = kd ∧ b = rdN s kd then none else rdR s a b c := rfl
/-- one more object of a site of World, which has captured a world -/
def newS (s : tt_St) (w : Nat) : tt_St := wrR (newA s 38) 38 (rdN s 38) 0 (some w)
/-- twelve rows of six, and the array over them -/
def newM (s : tt_St) : tt_St := (fun a b c => if a = 22 ∧ rdN s 22 ≤ b ∧ b < rdN s 22 + 12 then 0 else s.1 a b c, s.2.1, fun a b c => if a = 21 ∧ b = rdN s 21 then (if c < 12 then some (rdN s 22 + c) else none) else s.2.2.1 a b c, fun a => if a = 21 then rdN s 21 + 1 else if a = 22 then rdN s 22 + 12 else s.2.2.2 a)
def cnLe (s t : tt_St) : Bool := ((List.range 200).all fun kd => decide (rdN s kd ≤ rdN t kd))
theorem aoA_moved {u U : State} (hvm : u.vm.Alike U.vm) (h : (Cond.arrayOver (.array .int)).before #[] u = true) : (Cond.arrayOver (.array .int)).before #[] U = true := by
  unfold Cond.before Cond.holds at h ⊢
  simp only [Cond.value] at h ⊢
  rw [hvm.findClass]
  cases hc : u.vm.findClass (FieldType.array .int).toString with
  | none => rw [hc] at h; simp at h
  | some comp =>
    rw [hc, Option.bind_some] at h
    rw [Option.bind_some]
    have a1 := va_idx_bare U.vm comp
    have a2 := va_idx_bare u.vm comp
    first | rw [hvm.bare_eq] at a1 | rw [← hvm.bare_eq] at a1
    have hi := a1.symm.trans a2
    have key : ∀ (o1 o2 : Option Nat), o1 = o2 → ((o2.bind fun c => (u.vm.classes[c]?).map fun (k : Class) => match k.kind with | .array _ ty => decide (ty = FieldType.array .int) && decide (u.vm.findClass ("[" ++ (FieldType.array .int).toString) = some c) | _ => false) == some true) = true →
        ((o1.bind fun c => (U.vm.classes[c]?).map fun (k : Class) => match k.kind with | .array _ ty => decide (ty = FieldType.array .int) && decide (U.vm.findClass ("[" ++ (FieldType.array .int).toString) = some c) | _ => false) == some true) = true := by
      intro o1 o2 he h
      subst he
      cases o1 with
      | none => simp at h
      | some c =>
        simp only [Option.bind_some] at h ⊢
        cases h2 : u.vm.classes[c]? with
        | none => rw [h2] at h; simp at h
        | some k =>
          obtain ⟨k', hk', he⟩ := hvm.2.2 _ _ h2
          have hkk : k'.kind = k.kind := by rw [he]
          rw [h2] at h
          rw [hk']
          simp only [Option.map_some, hkk, hvm.findClass] at h ⊢
          exact h
    exact key _ _ hi h
section CB
variable {l : Launch} {D : va_G} {dA : Nat → ClassId} {A : Nat → Prop} {pz b L : Nat} {xs : Nat → Int32} {lc : Nat → Nat → Nat} {s : tt_St} {cc : ByteArray} {Y : tt_Y} {Q : tt_Fin} {pc : Nat} {lv : List (Nat × Value)} {rest : List Value} {ck cn : Nat}
theorem kokC : tt_Kok (XC l D dA A pz b L xs) := by
  refine ⟨fun u U hW hh h => ⟨(kokL (l := l) (D := D) (pz := pz)).1 u U hW hh h.1, fun C hC => (h.2.1 C hC).moved hW.alike, ?_⟩, fun U g mk a h => ⟨(kokL (l := l) (D := D) (pz := pz)).2 U g mk a h.1, fun C hC => (h.2.1 C hC).moved (u := U) (Vm.Alike.refl U.vm), ?_⟩⟩
  · exact aoA_moved hW.alike h.2.2
  · exact aoA_moved (u := U) (Vm.Alike.refl U.vm) h.2.2
theorem knC : ∀ U, xK (XC l D dA A pz b L xs) U → tt_KN U := fun _ h => h.1.1.1.1
theorem kaC : ∀ U, xK (XC l D dA A pz b L xs) U → ∀ q, U.heap.size ≤ q → xA (XC l D dA A pz b L xs) q := fun _ h => h.1.1.2.2.2.2
theorem kwC : ∀ U, xK (XC l D dA A pz b L xs) U → tt_KW dA U := fun _ h => h.1.1.1
theorem EC_lc {lc' : Nat → Nat → Nat} (hok : okC s = true) (h : ∀ k j, lvC s k j → lc' k j = lc k j) {k j : Nat} (hv : lvC s k j) : EC dA lc' s k j = EC dA lc s k j := by
  unfold EC
  congr 1
  funext p
  unfold gC
  by_cases hp : p < 160
  · rw [if_pos hp, if_pos hp]
    cases e : rdR s k j p with
    | none => rfl
    | some t => exact congrArg some (h _ _ ⟨tkC_lt k p, okC_iff.mp hok k hv.1 j hv.2 p hp t e⟩)
  · rw [if_neg hp, if_neg hp]
/-- one more cell -/
theorem nc_C {s' : tt_St} {kd : Nat} {E : va_E} (hok : okC s = true) (hkd : kd < 200) (hn : ∀ k, rdN s' k = if k = kd then rdN s kd + 1 else rdN s k) (h3 : ∀ a, EC dA (lcAt lc kd (rdN s kd) a) s' kd (rdN s kd) = E) (h4 : ∀ lc' k j, ¬ (k = kd ∧ j = rdN s kd) → EC dA lc' s' k j = EC dA lc' s k j) : tt_NC (XC l D dA A pz b L xs) lc s s' kd (rdN s kd) E := by
  have h1 : ¬ lvC s kd (rdN s kd) := fun h => Nat.lt_irrefl _ h.2
  refine ⟨h1, fun k j hv => ?_, h3, fun a k j hv => ?_⟩
  · obtain ⟨hv0, hv⟩ : k < 200 ∧ j < rdN s' k := hv
    rw [hn k] at hv
    by_cases hk : k = kd
    · rw [if_pos hk] at hv
      subst hk
      by_cases hj : j = rdN s k
      · exact Or.inr ⟨rfl, hj⟩
      · exact Or.inl ⟨hv0, show j < rdN s k by omega⟩
    · rw [if_neg hk] at hv
      exact Or.inl ⟨hv0, hv⟩
  · have hv : lvC s k j := hv
    have hne : ¬ (k = kd ∧ j = rdN s kd) := fun q => by rw [q.1, q.2] at hv; exact h1 hv
    show EC dA (lcAt lc kd (rdN s kd) a) s' k j = EC dA lc s k j
    rw [h4 _ k j hne]
    exact EC_lc hok (fun k' j' hv' => lcAt_ne _ _ _ _ (fun q => by rw [q.1, q.2] at hv'; exact h1 hv')) hv
theorem EC_of {lc' : Nat → Nat → Nat} {s' : tt_St} {k j : Nat} (h1 : ∀ c, rdI s' k j c = rdI s k j c) (h2 : ∀ c, rdL s' k j c = rdL s k j c) (h3 : ∀ c, rdR s' k j c = rdR s k j c) : EC dA lc' s' k j = EC dA lc' s k j := by
  unfold EC gC
  rw [show rdI s' k j = rdI s k j from funext h1, show rdL s' k j = rdL s k j from funext h2, show rdR s' k j = rdR s k j from funext h3]
theorem nc_A {kd : Nat} (hok : okC s = true) (hkd : kd < 200) : tt_NC (XC l D dA A pz b L xs) lc s (newA s kd) kd (rdN s kd) (EC0 dA kd (rdN s kd) (fun _ => 0) (fun _ => 0) (fun _ => none)) := by
  refine nc_C hok hkd (rdN_newA s kd) (fun a => ?_) (fun lc' k j hne => EC_of (fun c => by rw [rdI_newA, if_neg hne]) (fun c => by rw [rdL_newA, if_neg hne]) (fun c => by rw [rdR_newA, if_neg hne]))
  unfold EC
  rw [show rdI (newA s kd) kd (rdN s kd) = fun _ => 0 from funext fun c => by rw [rdI_newA, if_pos ⟨rfl, rfl⟩], show rdL (newA s kd) kd (rdN s kd) = fun _ => 0 from funext fun c => by rw [rdL_newA, if_pos ⟨rfl, rfl⟩], show gC (lcAt lc kd (rdN s kd) a) (newA s kd) kd (rdN s kd) = fun _ => none from funext fun p => by
    unfold gC
    by_cases hp : p < 160
    · rw [if_pos hp, rdR_newA, if_pos ⟨rfl, rfl⟩]; rfl
    · rw [if_neg hp]]
theorem cnLe_mono {t : tt_St} (g : cnLe s t = true) : ∀ k j, xV (XC l D dA A pz b L xs) s k j → xV (XC l D dA A pz b L xs) t k j := by
  intro k j hv
  obtain ⟨h1, h2⟩ : k < 200 ∧ j < rdN s k := hv
  unfold cnLe at g
  simp only [List.all_eq_true, List.mem_range, decide_eq_true_eq] at g
  exact ⟨h1, Nat.lt_of_lt_of_le h2 (g k h1)⟩
theorem agc_of {kd : Nat} {lc' : Nat → Nat → Nat} (h : ∀ k j, ¬ (k = kd ∧ j = rdN s kd) → lc' k j = lc k j) : tt_agc (XC l D dA A pz b L xs) s lc lc' := fun k j hv => h k j fun q => by
  obtain ⟨-, hv⟩ : k < 200 ∧ j < rdN s k := hv
  rw [q.1, q.2] at hv
  omega
/-- a new object -/
theorem nC_o {idx kd ci N : Nat} {C : String} {T : u_T} {fs : List Value} (hok : okC s = true) (hkd : kd < 200) (hc : clL[ci]? = some (C, T, N)) (hE : EC0 dA kd (rdN s kd) (fun _ => 0) (fun _ => 0) (fun _ => none) = .inr (ci, fs)) (hin : ∀ w ∈ u_ws C T N, w ∈ lw_all) (ty : Nat → FieldType) (hty : ∀ k, k < N → parseFieldDescriptor (T k).2.2.1 = some (ty k)) (hfs : ∀ j, j < N → defaultValue (ty j) = vp_V fs j)
    (hlink : Cond.classLink Y.1 idx C ∈ lw_all) (hinst : Cond.instantiable C N ∈ lw_all) (hini : Cond.initialized C ∈ lw_all) (hf : ck + 1 ≤ Y.2.2.2.1.cells ∧ cn + N ≤ Y.2.2.2.1.slots) (d : decode cc pc = .ok (.new idx, 3))
    (kk : ∀ lc', tt_agc (XC l D dA A pz b L xs) s lc lc' → tt_V (XC l D dA A pz b L xs) cc Y Q (pc + 3) lv (.ref (lc' kd (rdN s kd)) :: rest) lc' (newA s kd) (ck + 1) (cn + N)) : tt_V (XC l D dA A pz b L xs) cc Y Q pc lv rest lc s ck cn :=
  v_new (kd := kd) (i := rdN s kd) (s' := newA s kd) hc hin ty hty hfs kaC hlink hinst hini (by rw [← hE]; exact nc_A hok hkd) hf d (fun lc' h => kk lc' (agc_of h))
/-- a new array of numbers -/
theorem nC_n {atype : ArrayType} {ty : FieldType} {kd N t : Nat} {cA : ClassId} {a0 : vp_A} {n : Int32} (hok : okC s = true) (hkd : kd < 200) (hty : newarray.typeOf atype = ty) (hpr : ∀ U : State, va_RA U cA ty = (U.vm.findClass ("[" ++ ty.toString) = some cA)) (harr : Cond.arrayClass ty ∈ lw_all) (ht : (tysL dA)[t]? = some (cA, ty)) (hE : EC0 dA kd (rdN s kd) (fun _ => 0) (fun _ => 0) (fun _ => none) = .inl (cA, a0)) (ha : vp_cell cA a0 = arrV cA N (fun _ => defaultValue ty)) (hn : ¬ n < 0) (hN : n.toNatClampNeg = N) (hb : N * componentBytes ty ≤ 536870912)
    (hf : ck + 1 ≤ Y.2.2.2.1.cells ∧ cn + N ≤ Y.2.2.2.1.slots) (d : decode cc pc = .ok (.newarray atype, 2))
    (kk : ∀ lc', tt_agc (XC l D dA A pz b L xs) s lc lc' → tt_V (XC l D dA A pz b L xs) cc Y Q (pc + 2) lv (.ref (lc' kd (rdN s kd)) :: rest) lc' (newA s kd) (ck + 1) (cn + N)) : tt_V (XC l D dA A pz b L xs) cc Y Q pc lv (.int n :: rest) lc s ck cn := by
  intro p1 e R s0 m args below meth c H locs ls C1 hP hS hl
  have hRe : R = Y.2.2.2.1 := C1.2.2.2.2.2.2.2.1
  have hK0 := C1.2.2.2.2.2.2.2.2.1
  have hw := C1.2.2.2.2.1
  subst hty
  refine va_newaK C1.1 C1.2.1 (hw _ harr) rfl d rfl hn hN hb (by rw [hRe]; exact hf.1) (by rw [hRe]; exact hf.2) rfl fun H1 cB e1 z1 o1 hAr hNm => ?_
  have h9 := (hK0.1.2 t _ ht).2
  rw [hpr] at h9
  have hcc : cB = cA := Option.some.inj (hNm.symm.trans h9)
  subst hcc
  have h2 := kk (lcAt lc kd (rdN s kd) H.size) (agc_of (fun k j hv => lcAt_ne _ _ _ _ hv)) p1 e R s0 m args below meth c H1 locs ls C1 (hP.new (nc_A hok hkd) (by rw [hE]; show H1[H.size]? = some (vp_cell _ _); rw [ha]; exact e1) (kaC s0 hK0.2 _ hS.1) o1) (hS.new (by omega) o1) hl
  rw [lcAt_is] at h2
  exact h2
/-- a new array of references -/
theorem nC_q {idx kd N t : Nat} {cA : ClassId} {C : String} {n : Int32} (hok : okC s = true) (hkd : kd < 200) (hlink : Cond.classLink Y.1 idx C ∈ lw_all) (hao : ∀ U, xK (XC l D dA A pz b L xs) U → va_AO C U) (ht : (tysL dA)[t]? = some (cA, .object C)) (hE : EC0 dA kd (rdN s kd) (fun _ => 0) (fun _ => 0) (fun _ => none) = .inl (cA, N, .inr (.inr (.inr (.inr (fun _ => none)))))) (hn : ¬ n < 0) (hN : n.toNatClampNeg = N) (hb : N * 4 ≤ 536870912)
    (hf : ck + 1 ≤ Y.2.2.2.1.cells ∧ cn + N ≤ Y.2.2.2.1.slots) (d : decode cc pc = .ok (.anewarray idx, 3))
    (kk : ∀ lc', tt_agc (XC l D dA A pz b L xs) s lc lc' → tt_V (XC l D dA A pz b L xs) cc Y Q (pc + 3) lv (.ref (lc' kd (rdN s kd)) :: rest) lc' (newA s kd) (ck + 1) (cn + N)) : tt_V (XC l D dA A pz b L xs) cc Y Q pc lv (.int n :: rest) lc s ck cn := by
  intro p1 e R s0 m args below meth c H locs ls C1 hP hS hl
  have hRe : R = Y.2.2.2.1 := C1.2.2.2.2.2.2.2.1
  have hK0 := C1.2.2.2.2.2.2.2.2.1
  have hw := C1.2.2.2.2.1
  subst hN
  refine W.anew C1.1 C1.2.1 C1.2.2.2.1 (hw _ hlink) ((hao _ hK0.2).use) rfl d rfl hn hb (by rw [hRe]; exact hf.1) (by rw [hRe]; exact hf.2) fun cB kA comp f1 f2 f3 f4 => ?_
  obtain ⟨_, _, -, -, -, h9⟩ := (hK0.1.2 t _ ht).2
  have hcc : cB = cA := Option.some.inj (f1.symm.trans h9)
  subst hcc
  have e1 : (H.push ({ cls := cB, slots := Array.replicate n.toNatClampNeg .null, vm := .none } : Cell))[H.size]? = some (arrV cB n.toNatClampNeg (fun _ => .null)) := by rw [Array.getElem?_push_size, ← arrV_new]
  have o1 : ∀ q : Nat, q < H.size → (H.push ({ cls := cB, slots := Array.replicate n.toNatClampNeg .null, vm := .none } : Cell))[q]? = H[q]? := fun q hq => by rw [Array.getElem?_push, if_neg (Nat.ne_of_lt hq)]
  have h2 := kk (lcAt lc kd (rdN s kd) H.size) (agc_of (fun k j hv => lcAt_ne _ _ _ _ hv)) p1 e R s0 m args below meth c _ locs ls C1 (hP.new (nc_A hok hkd) (by rw [hE]; show _ = some (vp_cell _ _); exact e1) (kaC s0 hK0.2 _ hS.1) o1) (hS.new (by rw [Array.size_push]; omega) o1) hl
  rw [lcAt_is] at h2
  exact h2
/-- an object of a site of World -/
theorem nC_l {x xi : MethodName} {idx k w mi ci mL : Nat} {sh : Lambda.Shape} {bs : ByteArray} {fi : List Nat} {C : String} (hok : okC s = true) (hw : w < rdN s 0) (hk : rdN s 38 % 4 = k) (hsh : sh.captured = [.object C])
    (hrd : ∀ U, xK (XC l D dA A pz b L xs) U → lam_Rd x pc idx sh (dA (10 + k)) (.makes (dA (10 + k))) xi U) (hi : lam_is sh x.cls bs mL mi ci fi) (hnm : ∀ c m s0, Y.2.2.2.2 c m s0 → s0.methodNamed? x = some m)
    (hW : ((Value.ref (lc 0 w) :: rest).map fun v => v.category).sum ≤ 8) (hlo : 8 + 3072 ≤ Y.2.2.2.1.locals) (hf : ck + 1 ≤ Y.2.2.2.1.cells ∧ cn + 1 ≤ Y.2.2.2.1.slots) (d : decode cc pc = .ok (.invokedynamic idx, 5))
    (kk : ∀ lc', tt_agc (XC l D dA A pz b L xs) s lc lc' → tt_V (XC l D dA A pz b L xs) cc Y Q (pc + 5) lv (.ref (lc' 38 (rdN s 38)) :: rest) lc' (newS s w) (ck + 1) (cn + 1)) : tt_V (XC l D dA A pz b L xs) cc Y Q pc lv (.ref (lc 0 w) :: rest) lc s ck cn := by
  refine v_make (kd := 38) (i := rdN s 38) (vals := [.ref (lc 0 w)]) (s' := newS s w) (E := .inl (dA (10 + k), 1, .inr (.inr (.inr (.inr (fun p => if p = 0 then some (lc 0 w) else none)))))) hrd hi hnm kaC (by rw [hsh]; rfl) (fun j v hj => ?_) (by rw [hsh]; rfl) ?_ (fun a H1 h => ?_) rfl hW hlo hf d (fun lc' h => kk lc' (agc_of h))
  · match j, hj with
    | 0, hj => cases hj; exact ⟨.object C, by rw [hsh]; rfl, rfl⟩
    | j + 1, hj => simp at hj
  · refine nc_C hok (by decide) (fun k' => rdN_newA s 38 k') (fun a => ?_) (fun lc' k' j hne => EC_of (fun c => ?_) (fun c => ?_) (fun c => ?_))
    · show EC0 dA 38 (rdN s 38) _ _ _ = _
      show (Sum.inl (dA (10 + rdN s 38 % 4), 1, Sum.inr (Sum.inr (Sum.inr (Sum.inr (gC (lcAt lc 38 (rdN s 38) a) (newS s w) 38 (rdN s 38)))))) : va_E) = _
      rw [hk]
      congr 7
      funext p
      unfold gC newS
      by_cases hp : p = 0
      · subst hp
        rw [if_pos (by decide), if_pos rfl, rdR_wrR, if_pos ⟨rfl, rfl, rfl⟩]
        show some (lcAt lc 38 (rdN s 38) a (tkC 38 0) w) = _
        rw [lcAt_ne _ _ _ _ (fun q => by have := q.1; revert this; decide)]
        rfl
      · rw [if_neg hp]
        by_cases h6 : p < 160
        · rw [if_pos h6, rdR_wrR, if_neg (fun q => hp q.2.2), rdR_newA, if_pos ⟨rfl, rfl⟩]; rfl
        · rw [if_neg h6]
    · show rdI (newA s 38) k' j c = _
      rw [rdI_newA, if_neg hne]
    · show rdL (newA s 38) k' j c = _
      rw [rdL_newA, if_neg hne]
    · unfold newS
      rw [rdR_wrR, if_neg (fun q => hne ⟨q.1, q.2.1⟩), rdR_newA, if_neg hne]
  · show H1[a]? = some (vp_cell _ _)
    rw [h, vp_cell_q]
    unfold arrV
    congr 2
end CB

