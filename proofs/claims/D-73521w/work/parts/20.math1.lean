set_option maxRecDepth 100000
/-! PLAIN LAW, general rows: loops, ints -/
theorem itr_some {α β : Type} {body : α → Option (α ⊕ β)} (f : Nat → α) (b : β) : ∀ (N n : Nat), N < n → (∀ i, i < N → body (f i) = some (.inl (f (i + 1)))) → body (f N) = some (.inr b) → itr body n (f 0) = some b := by
  intro N
  induction N generalizing f with
  | zero =>
    intro n hn _ hx
    obtain ⟨k, rfl⟩ : ∃ k, n = k + 1 := ⟨n - 1, by omega⟩
    unfold itr
    rw [hx]
  | succ N ih =>
    intro n hn hs hx
    obtain ⟨k, rfl⟩ : ∃ k, n = k + 1 := ⟨n - 1, by omega⟩
    unfold itr
    rw [hs 0 (by omega)]
    exact ih (fun i => f (i + 1)) k (by omega) (fun i hi => hs (i + 1) (by omega)) hx
/-- a loop that counts -/
theorem itr_run {α β : Type} {body : α → Option (α ⊕ β)} (f : Nat → α) (N : Nat) (b : β) (hN : N < 1000) (hs : ∀ i, i < N → body (f i) = some (.inl (f (i + 1)))) (hx : body (f N) = some (.inr b)) : itr body tt_fuel (f 0) = some b :=
  itr_some f b N tt_fuel hN hs hx
/-- a loop with an invariant -/
theorem itr_inv {α β γ : Type} {body : α → Option (α ⊕ β)} (mk : Nat → γ → α) (I : Nat → γ → Prop) (R : β → Prop) (N : Nat) (c0 : γ) (hN : N < 1000) (h0 : I 0 c0) (hs : ∀ i c, i < N → I i c → ∃ c', body (mk i c) = some (.inl (mk (i + 1) c')) ∧ I (i + 1) c') (hx : ∀ c, I N c → ∃ b, body (mk N c) = some (.inr b) ∧ R b) : ∃ b, itr body tt_fuel (mk 0 c0) = some b ∧ R b := by
  have key : ∀ (d i n : Nat) (c : γ), i + d = N → d < n → I i c → ∃ b, itr body n (mk i c) = some b ∧ R b := by
    intro d
    induction d with
    | zero =>
      intro i n c hi hn hI
      obtain ⟨k, rfl⟩ : ∃ k, n = k + 1 := ⟨n - 1, by omega⟩
      have : i = N := by omega
      subst this
      obtain ⟨b, h1, h2⟩ := hx c hI
      exact ⟨b, by unfold itr; rw [h1], h2⟩
    | succ d ih =>
      intro i n c hi hn hI
      obtain ⟨k, rfl⟩ : ∃ k, n = k + 1 := ⟨n - 1, by omega⟩
      obtain ⟨c', h1, h2⟩ := hs i c (by omega) hI
      obtain ⟨b, h3, h4⟩ := ih (i + 1) k c' (by omega) (by omega) h2
      exact ⟨b, by unfold itr; rw [h1]; exact h3, h4⟩
  exact key N 0 tt_fuel c0 (by omega) hN h0
theorem inB_nI {j n : Nat} (h : j < n) (hn : n < 2 ^ 31) : inB (nI j) n = true := by
  unfold inB
  rw [nI_clamp (by omega)]
  have h1 := nI_pos (n := j) (by omega)
  simp only [h1, decide_false, Bool.false_or, Bool.not_eq_true', decide_eq_false_iff_not]
  omega
theorem inB_of {i : Int32} {n : Nat} (h : inB i n = true) (hn : n < 2 ^ 31) : ∃ j, j < n ∧ i = nI j := vp_in_of (inB_vp h) hn
/-- a sum of longs -/
def sumL (f : Nat → Int64) : Nat → Int64
  | 0 => 0
  | n + 1 => sumL f n + f n
theorem mp_weightSum {s : tt_St} {n : Nat} (hn : n ≤ 40) : fM_weightSum s (nI n) = some (sumL (fun k => rdL s 36 0 k) n) := by
  unfold fM_weightSum
  have h := itr_run (body := fM_weightSum_L5 s (nI n)) (fun i => (sumL (fun k => rdL s 36 0 k) i, nI i)) n (sumL (fun k => rdL s 36 0 k) n, nI n) (by omega) (fun i hi => by
    unfold fM_weightSum_L5
    simp only [nm]
    rw [if_neg (nI_ge hi (by omega)), if_pos (inB_nI (by omega) (by omega)), nI_clamp (by omega), nI_1]
    rfl) (by
    unfold fM_weightSum_L5
    rw [if_pos (nI_le (Nat.le_refl _) (by omega))])
  have h0 : ((0 : Int64), (0 : Int32)) = (sumL (fun k => rdL s 36 0 k) 0, nI 0) := rfl
  rw [h0, h]
  rfl
