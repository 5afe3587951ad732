set_option maxRecDepth 100000
/-! a contract over one world, used in a greater one -/
theorem Met.conseq {l : Launch} {y : MethodName} {ws : List Cond} {rm : Room} {Pc Pc' : Array Value → State → Prop} {Qc Qc' : Array Value → State → Outcome → State → Prop} {mc ms : Nat} {free free' : Addr → Prop} (h : Met l y ws rm Pc Qc mc ms free) (hP : ∀ a U, Pc' a U → Pc a U) (hQ : ∀ a st o t, Pc' a st → Qc a st o t → Qc' a st o t) (hF : ∀ a U, Pc' a U → ∀ q, free q → free' q) : Met l y ws rm Pc' Qc' mc ms free' := by
  intro p e h1 h2 h3 s m args below h4 h5 h6 h7
  obtain ⟨n, o, a1, a2, a3, a4, L, a5, a6⟩ := h p e h1 h2 h3 s m args below h4 h5 (hP _ _ h6) h7
  exact ⟨n, o, a1, a2, a3, hQ _ _ _ _ h6 a4, L, a5, fun q hq => hF _ _ h6 _ (a6 q hq)⟩
theorem tt_Sp.lift {σ τ : Type} {X : tt_X τ} {X' : tt_X σ} (hl : X.1 = X'.1) {y : MethodName} {cc : ByteArray} {nl : Nat} {rt : Option FieldType} {rm : Room} {av : List Value} {lc lc' : Nat → Nat → Nat} {s : τ} {s' : σ} {Q : Option Value → (Nat → Nat → Nat) → τ → Prop} {Q' : Option Value → (Nat → Nat → Nat) → σ → Prop} (h : tt_Sp X y cc nl rt rm av lc s Q)
    (hP : ∀ U : State, tt_Pic X' lc' s' U.heap → tt_K X' U → tt_Pic X lc s U.heap ∧ tt_K X U) (hA : ∀ U : State, tt_Pic X' lc' s' U.heap → ∀ q, xA X q → xA X' q)
    (hQ : ∀ v lc1 s1 (st t : State), tt_Pic X' lc' s' st.heap → va_F (xA X) st t → Q v lc1 s1 → tt_Pic X lc1 s1 t.heap → ∃ lc2 s2, Q' v lc2 s2 ∧ tt_Pic X' lc2 s2 t.heap) : tt_Sp X' y cc nl rt rm av lc' s' Q' := by
  unfold tt_Sp at h ⊢
  rw [← hl]
  refine Met.conseq h (fun a U q => ⟨q.1, hP U q.2.1 q.2.2⟩) (fun a st o t q r => ?_) (fun a U q => hA U q.2.1)
  obtain ⟨⟨v, lc1, s1, e1, e2, e3⟩, f1, f2⟩ := r
  obtain ⟨lc2, s2, g1, g2⟩ := hQ v lc1 s1 st t q.2.1 ⟨f1, f2⟩ e2 e3
  exact ⟨⟨v, lc2, s2, e1, g1, g2⟩, f1, fun z h1 h2 => f2 z h1 (fun h3 => h2 (hA st q.2.1 z h3))⟩
/-- a callee that threw, or what comes behind it -/
def orThrow {α β γ : Type} (q : α ⊕ γ) (k : α → Option (β ⊕ γ)) : Option (β ⊕ γ) := match q with
  | .inl a => k a
  | .inr e => some (.inr e)
/-- the exceptions by number -/
def tt_exn (n : Nat) : String := if n = 0 then "java/util/NoSuchElementException" else if n = 1 then "java/lang/IllegalArgumentException" else "java/lang/IllegalStateException"
theorem Ok.throws {α β γ : Type} {o : Option (α ⊕ γ)} {k : α → Option (β ⊕ γ)} {K1 : β → Prop} {K2 : γ → Prop} (h : Ok (o.bind fun q => orThrow q k) (fun r => Sum.casesOn (motive := fun _ => Prop) r K1 K2)) : Ok o (fun r => Sum.casesOn (motive := fun _ => Prop) r (fun a => Ok (k a) (fun r => Sum.casesOn (motive := fun _ => Prop) r K1 K2)) K2) := by
  refine (Ok.bind h).mono (fun r hr => ?_)
  cases r with
  | inl a => exact hr
  | inr e =>
    have q := Ok.ret (show Ok (some (.inr e : β ⊕ γ)) _ from hr)
    exact q
