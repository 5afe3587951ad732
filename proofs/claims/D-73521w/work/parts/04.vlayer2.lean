set_option maxRecDepth 100000
section VROWS2
variable {σ : Type} {X : tt_X σ} {cc : ByteArray} {Y : tt_Y} {Q : tt_Fin} {pc : Nat} {lv : List (Nat × Value)} {rest : List Value} {lc : Nat → Nat → Nat} {s : σ} {ck cn : Nat}
def zB (r : Int32) : Prop := narrow .boolean (.int r) = .int r
theorem zB_0 : zB 0 := rfl
theorem zB_1 : zB 1 := rfl
theorem zF_0 : fits .boolean (.int 0) = true := rfl
theorem zF_1 : fits .boolean (.int 1) = true := rfl
def zb (r : Int32) : Bool := r == 0 || r == 1
theorem zb_zB {r : Int32} (h : zb r = true) : zB r := by
  unfold zb at h
  simp only [Bool.or_eq_true, beq_iff_eq] at h
  rcases h with h | h
  · rw [h]; exact zB_0
  · rw [h]; exact zB_1
theorem kl_0 : Int64.ofNat ((0 : Fin 2) : Nat) = 0 := rfl
theorem kl_1 : Int64.ofNat ((1 : Fin 2) : Nat) = 1 := rfl
theorem v_nmI {x : Int32} (kk : ∀ y, y = x → tt_V X cc Y Q pc lv (.int y :: rest) lc s ck cn) : tt_V X cc Y Q pc lv (.int x :: rest) lc s ck cn := kk x rfl
theorem v_nmL {x : Int64} (kk : ∀ y, y = x → tt_V X cc Y Q pc lv (.long y :: rest) lc s ck cn) : tt_V X cc Y Q pc lv (.long x :: rest) lc s ck cn := kk x rfl
theorem v_tableIn {dflt lo hi : Int} {offs : Array Int} {len : Nat} {x v : Int32} {off : Int} {tgt : Nat} (d : decode cc pc = .ok (.tableswitch dflt lo hi offs, len)) (hx : x = v) (h1 : ¬ v.toInt < lo) (h2 : ¬ hi < v.toInt) (ho : offs[(v.toInt - lo).toNat]? = some off) (ht : (pc : Int) + off = (tgt : Int)) (kk : tt_V X cc Y Q tgt lv rest lc s ck cn) : tt_V X cc Y Q pc lv (.int x :: rest) lc s ck cn := by
  subst hx
  exact fun p e R s0 m args below meth c H locs ls C hP hS hl => lv_tableIn C.1 C.2.1 d h1 h2 ho ht (kk p e R s0 m args below meth c H locs ls C hP hS hl)
theorem v_tableOut {dflt lo hi : Int} {offs : Array Int} {len : Nat} {x : Int32} {tgt : Nat} (d : decode cc pc = .ok (.tableswitch dflt lo hi offs, len)) (h : x.toInt < lo ∨ hi < x.toInt) (ht : (pc : Int) + dflt = (tgt : Int)) (kk : tt_V X cc Y Q tgt lv rest lc s ck cn) : tt_V X cc Y Q pc lv (.int x :: rest) lc s ck cn :=
  fun p e R s0 m args below meth c H locs ls C hP hS hl => lv_tableOut C.1 C.2.1 d h ht (kk p e R s0 m args below meth c H locs ls C hP hS hl)
end VROWS2
/-- behind a loop or a fork that may have ended the method -/
def orRet {α β : Type} (b : α ⊕ β) (k : α → Option β) : Option β := match b with
  | .inl a => k a
  | .inr r => some r
theorem Ok.join {α β : Type} {o : Option α} {k : α → Option β} {K : β → Prop} {PJ : α → Prop} (h : Ok (o.bind k) K) (hx : ∀ t, Ok (k t) K → PJ t) : Ok o PJ := (Ok.bind h).mono hx
theorem Ok.joinR {α β : Type} {o : Option (α ⊕ β)} {k : α → Option β} {K : β → Prop} {PJ : α → Prop} (h : Ok (o.bind fun b => orRet b k) K) (hx : ∀ t, Ok (k t) K → PJ t) : Ok o (fun r => Sum.casesOn (motive := fun _ => Prop) r PJ K) := by
  refine (Ok.bind h).mono (fun r hr => ?_)
  cases r with
  | inl a => exact hx a hr
  | inr b =>
    have q := Ok.ret (show Ok (some b) K from hr)
    exact q
theorem itr_loop {α β γ : Type} {body : α → Option (α ⊕ β)} {n : Nat} {a0 : α} {k : β → Option γ} {K : γ → Prop} {P : α → Prop} {PE : β → Prop} (h : Ok ((itr body n a0).bind k) K) (hx : ∀ b, Ok (k b) K → PE b) (step : ∀ a, Ok (body a) (fun r => Sum.casesOn (motive := fun _ => Prop) r P PE) → P a) : P a0 :=
  itr_sound step n a0 ((Ok.bind h).mono hx)
theorem itr_loopR {α β γ : Type} {body : α → Option (α ⊕ β ⊕ γ)} {n : Nat} {a0 : α} {k : β → Option γ} {K : γ → Prop} {P : α → Prop} {PE : β → Prop} (h : Ok ((itr body n a0).bind fun b => orRet b k) K) (hx : ∀ b, Ok (k b) K → PE b) (step : ∀ a, Ok (body a) (fun r => Sum.casesOn (motive := fun _ => Prop) r P (fun b => Sum.casesOn (motive := fun _ => Prop) b PE K)) → P a) : P a0 := by
  refine itr_sound step n a0 ((Ok.bind h).mono (fun r hr => ?_))
  cases r with
  | inl a => exact hx a hr
  | inr b =>
    have q := Ok.ret (show Ok (some b) K from hr)
    exact q
