/-! THE V LAYER: a walk over a plain state (three stores, of ints, longs and places, keyed by kind, number, slot) in place of the heap -/
set_option maxRecDepth 100000
abbrev tt_St : Type := (Nat → Nat → Nat → Int32) × (Nat → Nat → Nat → Int64) × (Nat → Nat → Nat → Option Nat) × (Nat → Nat)
def rdI (s : tt_St) (k i j : Nat) : Int32 := s.1 k i j
def rdL (s : tt_St) (k i j : Nat) : Int64 := s.2.1 k i j
def rdR (s : tt_St) (k i j : Nat) : Option Nat := s.2.2.1 k i j
/-- how many cells of a kind have been made -/
def rdN (s : tt_St) (k : Nat) : Nat := s.2.2.2 k
def wrI (s : tt_St) (k i j : Nat) (v : Int32) : tt_St := (fun a b c => if a = k ∧ b = i ∧ c = j then v else s.1 a b c, s.2)
def wrL (s : tt_St) (k i j : Nat) (v : Int64) : tt_St := (s.1, fun a b c => if a = k ∧ b = i ∧ c = j then v else s.2.1 a b c, s.2.2)
def wrR (s : tt_St) (k i j : Nat) (v : Option Nat) : tt_St := (s.1, s.2.1, fun a b c => if a = k ∧ b = i ∧ c = j then v else s.2.2.1 a b c, s.2.2.2)
def wrN (s : tt_St) (k v : Nat) : tt_St := (s.1, s.2.1, s.2.2.1, fun a => if a = k then v else s.2.2.2 a)
theorem rdI_wrI (s : tt_St) (k i j : Nat) (v : Int32) (a b c : Nat) : rdI (wrI s k i j v) a b c = if a = k ∧ b = i ∧ c = j then v else rdI s a b c := rfl
theorem rdL_wrL (s : tt_St) (k i j : Nat) (v : Int64) (a b c : Nat) : rdL (wrL s k i j v) a b c = if a = k ∧ b = i ∧ c = j then v else rdL s a b c := rfl
theorem rdR_wrR (s : tt_St) (k i j : Nat) (v : Option Nat) (a b c : Nat) : rdR (wrR s k i j v) a b c = if a = k ∧ b = i ∧ c = j then v else rdR s a b c := rfl
theorem rdI_wrL (s : tt_St) (k i j : Nat) (v : Int64) (a b c : Nat) : rdI (wrL s k i j v) a b c = rdI s a b c := rfl
theorem rdI_wrR (s : tt_St) (k i j : Nat) (v : Option Nat) (a b c : Nat) : rdI (wrR s k i j v) a b c = rdI s a b c := rfl
theorem rdL_wrI (s : tt_St) (k i j : Nat) (v : Int32) (a b c : Nat) : rdL (wrI s k i j v) a b c = rdL s a b c := rfl
theorem rdL_wrR (s : tt_St) (k i j : Nat) (v : Option Nat) (a b c : Nat) : rdL (wrR s k i j v) a b c = rdL s a b c := rfl
theorem rdR_wrI (s : tt_St) (k i j : Nat) (v : Int32) (a b c : Nat) : rdR (wrI s k i j v) a b c = rdR s a b c := rfl
theorem rdR_wrL (s : tt_St) (k i j : Nat) (v : Int64) (a b c : Nat) : rdR (wrL s k i j v) a b c = rdR s a b c := rfl
/-- an index in range -/
def inB (i : Int32) (n : Nat) : Bool := !(decide (i < 0) || decide (n ≤ i.toNatClampNeg))
theorem inB_vp {i : Int32} {n : Nat} (h : inB i n = true) : vp_in i n := by
  intro q
  unfold inB at h
  simp only [Bool.not_eq_true', Bool.or_eq_false_iff, decide_eq_false_iff_not] at h
  rcases q with q | q
  · exact h.1 q
  · exact h.2 q
theorem inB_lt {i : Int32} {n : Nat} (h : inB i n = true) : i.toNatClampNeg < n := Nat.not_le.mp fun q => inB_vp h (Or.inr q)
/-! plain programs: they may be stuck (none) -/
def Ok {α : Type} (o : Option α) (Q : α → Prop) : Prop := ∃ r, o = some r ∧ Q r
theorem Ok.bind {α β : Type} {o : Option α} {k : α → Option β} {Q : β → Prop} (h : Ok (o.bind k) Q) : Ok o (fun r => Ok (k r) Q) := by
  obtain ⟨r, h1, h2⟩ := h
  cases o with
  | none => cases h1
  | some a => exact ⟨a, rfl, r, h1, h2⟩
theorem Ok.mono {α : Type} {o : Option α} {P Q : α → Prop} (h : Ok o P) (f : ∀ r, P r → Q r) : Ok o Q := by
  obtain ⟨r, h1, h2⟩ := h
  exact ⟨r, h1, f r h2⟩
theorem Ok.guard {α : Type} {c : Prop} [Decidable c] {k : Option α} {Q : α → Prop} (h : Ok (if c then k else none) Q) : c ∧ Ok k Q := by
  by_cases hc : c
  · rw [if_pos hc] at h
    exact ⟨hc, h⟩
  · rw [if_neg hc] at h
    obtain ⟨r, h1, -⟩ := h
    cases h1
theorem Ok.pos {α : Type} {c : Prop} [Decidable c] {a b : Option α} {Q : α → Prop} (h : Ok (if c then a else b) Q) (hc : c) : Ok a Q := by rw [if_pos hc] at h; exact h
theorem Ok.neg {α : Type} {c : Prop} [Decidable c] {a b : Option α} {Q : α → Prop} (h : Ok (if c then a else b) Q) (hc : ¬ c) : Ok b Q := by rw [if_neg hc] at h; exact h
theorem Ok.ret {α : Type} {r : α} {Q : α → Prop} (h : Ok (some r) Q) : Q r := by
  obtain ⟨x, h1, h2⟩ := h
  cases h1
  exact h2
/-- a name for a value -/
def nm {α β : Type} (e : α) (f : α → Option β) : Option β := f e
theorem Ok.nm {α β : Type} {e x : α} {f : α → Option β} {Q : β → Prop} (h : Ok (nm e f) Q) (hx : x = e) : Ok (f x) Q := by rw [hx]; exact h
def tt_fuel : Nat := 1000
def itr {α β : Type} (body : α → Option (α ⊕ β)) : Nat → α → Option β
  | 0, _ => none
  | n + 1, a => match body a with
    | none => none
    | some (.inl a') => itr body n a'
    | some (.inr b) => some b
theorem itr_sound {α β : Type} {body : α → Option (α ⊕ β)} {P : α → Prop} {E : β → Prop} (step : ∀ a, Ok (body a) (fun r => Sum.casesOn (motive := fun _ => Prop) r P E) → P a) : ∀ n a, Ok (itr body n a) E → P a := by
  intro n
  induction n with
  | zero => intro a h; obtain ⟨r, h1, -⟩ := h; cases h1
  | succ n ih =>
    intro a h
    refine step a ?_
    unfold itr at h
    cases hb : body a with
    | none => rw [hb] at h; obtain ⟨r, h1, -⟩ := h; cases h1
    | some r =>
      rw [hb] at h
      refine ⟨r, rfl, ?_⟩
      cases r with
      | inl a' => exact ih a' h
      | inr b => exact h.ret
abbrev tt_Et : Type := (Nat → Nat → Nat) → Nat → Nat → (Nat → Int32) → (Nat → Int64) → (Nat → Option Nat) → va_E
/-- what a walk is over: launch, class numbers, classes, array classes, what each cell is, which live, which may be written, more that the tables say -/
abbrev tt_X (σ : Type) : Type := Launch × va_G × List vw_C × List (ClassId × FieldType) × ((Nat → Nat → Nat) → σ → Nat → Nat → va_E) × (σ → Nat → Nat → Prop) × (Nat → Prop) × (State → Prop)
/-- a cell's picture out of its own slots alone -/
def mkE (E : tt_Et) : (Nat → Nat → Nat) → tt_St → Nat → Nat → va_E := fun lc s kd i => E lc kd i (rdI s kd i) (rdL s kd i) (rdR s kd i)
/-- what else a walk knows of the method it is in: its table of handlers, its name -/
abbrev tt_Tn : Type := Code → MethodId → State → Prop
/-- a method: its class, its locals, what it returns, its room -/
abbrev tt_Y : Type := String × Nat × Option FieldType × Room × tt_Tn
/-- nothing is asked of the table of handlers -/
def tt_nt : tt_Tn := fun _ _ _ => True
def xD {σ : Type} (X : tt_X σ) : va_G := X.2.1
def xC {σ : Type} (X : tt_X σ) : List vw_C := X.2.2.1
def xT {σ : Type} (X : tt_X σ) : List (ClassId × FieldType) := X.2.2.2.1
def xE {σ : Type} (X : tt_X σ) : (Nat → Nat → Nat) → σ → Nat → Nat → va_E := X.2.2.2.2.1
def xV {σ : Type} (X : tt_X σ) : σ → Nat → Nat → Prop := X.2.2.2.2.2.1
def xA {σ : Type} (X : tt_X σ) : Nat → Prop := X.2.2.2.2.2.2.1
def xK {σ : Type} (X : tt_X σ) : State → Prop := X.2.2.2.2.2.2.2
def tt_ent {σ : Type} (X : tt_X σ) (lc : Nat → Nat → Nat) (s : σ) (kd i : Nat) : va_E := xE X lc s kd i
def tt_Pic {σ : Type} (X : tt_X σ) (lc : Nat → Nat → Nat) (s : σ) (H : Heap) : Prop :=
  (∀ kd i, xV X s kd i → va_at (xD X) (xC X) (lc kd i, tt_ent X lc s kd i) H ∧ xA X (lc kd i)) ∧ ∀ kd i kd' i', xV X s kd i → xV X s kd' i' → lc kd i = lc kd' i' → kd = kd' ∧ i = i'
def tt_K {σ : Type} (X : tt_X σ) (U : State) : Prop := va_K (xD X) (xC X) (xT X) U ∧ xK X U
def tt_Kok {σ : Type} (X : tt_X σ) : Prop := (∀ s U : State, s.WarmedH U.vm → (s.heap.size ≤ U.heap.size ∧ ∀ q : Nat, q < s.heap.size → ¬ xA X q → U.heap[q]? = s.heap[q]?) → xK X s → xK X U) ∧ ∀ (U : State) (g : JFrame) (mk : MethodId) (a : Array Value), xK X U → xK X (U.calling g mk a)
def tt_Q {σ : Type} (X : tt_X σ) (Q : Option Value → (Nat → Nat → Nat) → σ → Prop) : Array Value → State → Outcome → State → Prop := fun _ st oc t => (∃ v lc s, oc = .returned v ∧ Q v lc s ∧ tt_Pic X lc s t.heap) ∧ va_F (xA X) st t
/-- a contract: from this state, with these arguments, the method returns with Q -/
def tt_Sp {σ : Type} (X : tt_X σ) (y : MethodName) (cc : ByteArray) (nl : Nat) (rt : Option FieldType) (rm : Room) (av : List Value) (lc : Nat → Nat → Nat) (s : σ) (Q : Option Value → (Nat → Nat → Nat) → σ → Prop) : Prop :=
  Met X.1 y (ws_ y cc nl rt) rm (va_Pc av (fun U => tt_Pic X lc s U.heap ∧ tt_K X U)) (tt_Q X Q) rm.cells rm.slots (xA X)
def tt_Cx {σ : Type} (X : tt_X σ) (cc : ByteArray) (Y : tt_Y) (p : Program) (R : Room) (s0 : State) (m : MethodId) (args : Array Value) (meth : Method) (c : Code) : Prop :=
  p.tables.exec = Jvm.exec ∧ c.code = cc ∧ c.maxLocals = Y.2.1 ∧ s0.vm.findClass Y.1 = some m.cls ∧ (∀ w ∈ lw_all, w.before args s0 = true) ∧ meth.sig.returnType = Y.2.2.1 ∧ meth.locks = false ∧ R = Y.2.2.2.1 ∧ tt_K X s0 ∧ tt_Kok X ∧ Y.2.2.2.2 c m s0
/-- what a body owes at its end -/
abbrev tt_Fin : Type := List Frame → Array Value → State → State → Prop
def tt_fn {σ : Type} (X : tt_X σ) (Y : tt_Y) (Q : Option Value → (Nat → Nat → Nat) → σ → Prop) : tt_Fin := fun below args s0 => MQ below (tt_Q X Q) args s0 Y.2.2.2.1.cells Y.2.2.2.1.slots (xA X)
def tt_V {σ : Type} (X : tt_X σ) (cc : ByteArray) (Y : tt_Y) (Q : tt_Fin) (pc : Nat) (lv : List (Nat × Value)) (st : List Value) (lc : Nat → Nat → Nat) (s : σ) (ck cn : Nat) : Prop :=
  ∀ (p : Program) (e : Env) (R : Room) (s0 : State) (m : MethodId) (args : Array Value) (below : List Frame) (meth : Method) (c : Code) (H : Heap) (locs : List Loc) (ls : Array Slot), tt_Cx X cc Y p R s0 m args meth c → tt_Pic X lc s H → va_S (xA X) s0.heap H locs → lv_has ls Y.2.1 lv →
    W p X.1 e R s0 m args below meth c H locs ck cn (Q below args s0) (F0 m pc ls st)
theorem tt_K.moved {σ : Type} {X : tt_X σ} {s U : State} (hk : tt_Kok X) (hW : s.WarmedH U.vm) (hs : s.heap.size ≤ U.heap.size ∧ ∀ q : Nat, q < s.heap.size → ¬ xA X q → U.heap[q]? = s.heap[q]?) (h : tt_K X s) : tt_K X U := ⟨h.1.moved hW.alike, hk.1 s U hW hs h.2⟩
/-- a contract out of a walk from the entry -/
theorem tt_Sp.ofV {σ : Type} {X : tt_X σ} {y : MethodName} {cc : ByteArray} {nl : Nat} {rt : Option FieldType} {rm : Room} {av : List Value} {lc : Nat → Nat → Nat} {s : σ} {Q : Option Value → (Nat → Nat → Nat) → σ → Prop} (hy : plainName y.cls = true) (hk : tt_Kok X) (hn : (lg_sl av).length ≤ nl)
    (h : tt_V X cc (y.cls, nl, rt, rm, tt_nt) (tt_fn X (y.cls, nl, rt, rm, tt_nt) Q) 0 (lv_args 0 av) [] lc s 0 0) : tt_Sp X y cc nl rt rm av lc s Q := by
  refine Met.ofW (cc := cc) (maxL := nl) (ret := rt) hy rfl ?_
  intro p e s0 m args below meth c s₁ B hml hv
  obtain ⟨rfl, hP, hK⟩ := hv
  have hts := atoms_spec (ws := ws_ y cc nl rt) B.pre
  have hts : ∀ w ∈ lw_all, w.before _ s0 = true := fun w h => hts w (List.mem_cons_of_mem _ h)
  have hown : s0.vm.findClass y.cls = some m.cls := findClass_of_methodNamed B.named
  have hl := lv_entry av (n := nl) hn
  rw [lg_entry_eq]
  exact h p e _ s0 m _ below meth c s0.heap [] _ ⟨B.exec, B.bytes, hml, hown, hts, B.returns, B.notSynchronized, rfl, hK, hk, trivial⟩ hP va_S.rf hl
section VROWS
variable {σ : Type} {X : tt_X σ} {cc : ByteArray} {Y : tt_Y} {Q : tt_Fin} {pc : Nat} {lv : List (Nat × Value)} {rest : List Value} {lc : Nat → Nat → Nat} {s : σ} {ck cn : Nat}
/-- fewer locals, in any order -/
theorem v_sub {lv' : List (Nat × Value)} {st : List Value} (ks : List Nat) (h : lv_pick lv ks = lv') (kk : tt_V X cc Y Q pc lv' st lc s ck cn) : tt_V X cc Y Q pc lv st lc s ck cn :=
  fun p e R s0 m args below meth c H locs ls C hP hS hl => kk p e R s0 m args below meth c H locs ls C hP hS (lv_sub hl ks h)
theorem v_iload_n {kF : Fin 4} {x : Int32} (q : Nat) (d : decode cc pc = .ok (.iload_n kF, 1)) (hk : lv[q]? = some ((kF : Nat), .int x)) (kk : tt_V X cc Y Q (pc + 1) lv (.int x :: rest) lc s ck cn) : tt_V X cc Y Q pc lv rest lc s ck cn :=
  fun p e R s0 m args below meth c H locs ls C hP hS hl => lv_iload_n C.1 C.2.1 d rfl (lv_at hl q hk) (kk p e R s0 m args below meth c H locs ls C hP hS hl)
theorem v_iload {i : Nat} {x : Int32} (q : Nat) (d : decode cc pc = .ok (.iload i, 2)) (hk : lv[q]? = some (i, .int x)) (kk : tt_V X cc Y Q (pc + 2) lv (.int x :: rest) lc s ck cn) : tt_V X cc Y Q pc lv rest lc s ck cn :=
  fun p e R s0 m args below meth c H locs ls C hP hS hl => lv_iload C.1 C.2.1 d (lv_at hl q hk) (kk p e R s0 m args below meth c H locs ls C hP hS hl)
theorem v_lload_n {kF : Fin 4} {x : Int64} (q : Nat) (d : decode cc pc = .ok (.lload_n kF, 1)) (hk : lv[q]? = some ((kF : Nat), .long x)) (kk : tt_V X cc Y Q (pc + 1) lv (.long x :: rest) lc s ck cn) : tt_V X cc Y Q pc lv rest lc s ck cn :=
  fun p e R s0 m args below meth c H locs ls C hP hS hl => lv_lload_n C.1 C.2.1 d rfl (lv_at hl q hk) (kk p e R s0 m args below meth c H locs ls C hP hS hl)
theorem v_lload {i : Nat} {x : Int64} (q : Nat) (d : decode cc pc = .ok (.lload i, 2)) (hk : lv[q]? = some (i, .long x)) (kk : tt_V X cc Y Q (pc + 2) lv (.long x :: rest) lc s ck cn) : tt_V X cc Y Q pc lv rest lc s ck cn :=
  fun p e R s0 m args below meth c H locs ls C hP hS hl => lv_lload C.1 C.2.1 d (lv_at hl q hk) (kk p e R s0 m args below meth c H locs ls C hP hS hl)
theorem v_aload_n {kF : Fin 4} {x : Nat} (q : Nat) (d : decode cc pc = .ok (.aload_n kF, 1)) (hk : lv[q]? = some ((kF : Nat), .ref x)) (kk : tt_V X cc Y Q (pc + 1) lv (.ref x :: rest) lc s ck cn) : tt_V X cc Y Q pc lv rest lc s ck cn :=
  fun p e R s0 m args below meth c H locs ls C hP hS hl => lv_aload_n C.1 C.2.1 d rfl (lv_at hl q hk) (kk p e R s0 m args below meth c H locs ls C hP hS hl)
theorem v_aload {i : Nat} {x : Nat} (q : Nat) (d : decode cc pc = .ok (.aload i, 2)) (hk : lv[q]? = some (i, .ref x)) (kk : tt_V X cc Y Q (pc + 2) lv (.ref x :: rest) lc s ck cn) : tt_V X cc Y Q pc lv rest lc s ck cn :=
  fun p e R s0 m args below meth c H locs ls C hP hS hl => lv_aload C.1 C.2.1 d (lv_at hl q hk) (kk p e R s0 m args below meth c H locs ls C hP hS hl)
theorem v_istore_n {kF : Fin 4} {x : Int32} (lv' : List (Nat × Value)) (d : decode cc pc = .ok (.istore_n kF, 1)) (hn : (kF : Nat) < Y.2.1) (hl' : ((kF : Nat), Value.int x) :: lv.filter (fun q => !(q.1 == (kF : Nat)) && !(q.1 + 1 == (kF : Nat) && q.2.category == 2)) = lv') (kk : tt_V X cc Y Q (pc + 1) lv' rest lc s ck cn) : tt_V X cc Y Q pc lv (.int x :: rest) lc s ck cn :=
  fun p e R s0 m args below meth c H locs ls C hP hS hl => lv_istore_n C.1 C.2.1 d rfl hl hn hl' (fun ls' hl => kk p e R s0 m args below meth c H locs ls' C hP hS hl)
theorem v_istore {i : Nat} {x : Int32} (lv' : List (Nat × Value)) (d : decode cc pc = .ok (.istore i, 2)) (hn : i < Y.2.1) (hl' : (i, Value.int x) :: lv.filter (fun q => !(q.1 == i) && !(q.1 + 1 == i && q.2.category == 2)) = lv') (kk : tt_V X cc Y Q (pc + 2) lv' rest lc s ck cn) : tt_V X cc Y Q pc lv (.int x :: rest) lc s ck cn :=
  fun p e R s0 m args below meth c H locs ls C hP hS hl => lv_istore C.1 C.2.1 d hl hn hl' (fun ls' hl => kk p e R s0 m args below meth c H locs ls' C hP hS hl)
theorem v_lstore_n {kF : Fin 4} {x : Int64} (lv' : List (Nat × Value)) (d : decode cc pc = .ok (.lstore_n kF, 1)) (hn : (kF : Nat) + 1 < Y.2.1) (hl' : ((kF : Nat), Value.long x) :: lv.filter (fun q => !(q.1 == (kF : Nat)) && (!(q.1 == (kF : Nat) + 1) && !(q.1 + 1 == (kF : Nat) && q.2.category == 2))) = lv') (kk : tt_V X cc Y Q (pc + 1) lv' rest lc s ck cn) : tt_V X cc Y Q pc lv (.long x :: rest) lc s ck cn :=
  fun p e R s0 m args below meth c H locs ls C hP hS hl => lv_lstore_n C.1 C.2.1 d rfl hl hn hl' (fun ls' hl => kk p e R s0 m args below meth c H locs ls' C hP hS hl)
theorem v_lstore {i : Nat} {x : Int64} (lv' : List (Nat × Value)) (d : decode cc pc = .ok (.lstore i, 2)) (hn : i + 1 < Y.2.1) (hl' : (i, Value.long x) :: lv.filter (fun q => !(q.1 == i) && (!(q.1 == i + 1) && !(q.1 + 1 == i && q.2.category == 2))) = lv') (kk : tt_V X cc Y Q (pc + 2) lv' rest lc s ck cn) : tt_V X cc Y Q pc lv (.long x :: rest) lc s ck cn :=
  fun p e R s0 m args below meth c H locs ls C hP hS hl => lv_lstore C.1 C.2.1 d hl hn hl' (fun ls' hl => kk p e R s0 m args below meth c H locs ls' C hP hS hl)
theorem v_astore_n {kF : Fin 4} {x : Nat} (lv' : List (Nat × Value)) (d : decode cc pc = .ok (.astore_n kF, 1)) (hn : (kF : Nat) < Y.2.1) (hl' : ((kF : Nat), Value.ref x) :: lv.filter (fun q => !(q.1 == (kF : Nat)) && !(q.1 + 1 == (kF : Nat) && q.2.category == 2)) = lv') (kk : tt_V X cc Y Q (pc + 1) lv' rest lc s ck cn) : tt_V X cc Y Q pc lv (.ref x :: rest) lc s ck cn :=
  fun p e R s0 m args below meth c H locs ls C hP hS hl => lv_astore_n C.1 C.2.1 d rfl hl hn hl' (fun ls' hl => kk p e R s0 m args below meth c H locs ls' C hP hS hl)
theorem v_astore {i : Nat} {x : Nat} (lv' : List (Nat × Value)) (d : decode cc pc = .ok (.astore i, 2)) (hn : i < Y.2.1) (hl' : (i, Value.ref x) :: lv.filter (fun q => !(q.1 == i) && !(q.1 + 1 == i && q.2.category == 2)) = lv') (kk : tt_V X cc Y Q (pc + 2) lv' rest lc s ck cn) : tt_V X cc Y Q pc lv (.ref x :: rest) lc s ck cn :=
  fun p e R s0 m args below meth c H locs ls C hP hS hl => lv_astore C.1 C.2.1 d hl hn hl' (fun ls' hl => kk p e R s0 m args below meth c H locs ls' C hP hS hl)
theorem v_iinc {i : Nat} {n : Int} {x v : Int32} (q : Nat) (lv' : List (Nat × Value)) (d : decode cc pc = .ok (.iinc i n, 3)) (hk : lv[q]? = some (i, .int x)) (hv : x + Int32.ofInt n = v) (hn : i < Y.2.1) (hl' : (i, Value.int v) :: lv.filter (fun q => !(q.1 == i) && !(q.1 + 1 == i && q.2.category == 2)) = lv') (kk : tt_V X cc Y Q (pc + 3) lv' rest lc s ck cn) : tt_V X cc Y Q pc lv rest lc s ck cn :=
  fun p e R s0 m args below meth c H locs ls C hP hS hl => lv_iinc C.1 C.2.1 d hl hk hv hn hl' (fun ls' hl => kk p e R s0 m args below meth c H locs ls' C hP hS hl)
theorem v_ldc {i : Nat} {v : Int32} (d : decode cc pc = .ok (.ldc i, 2)) (hw : Cond.constant Y.1 i v ∈ lw_all) (kk : tt_V X cc Y Q (pc + 2) lv (.int v :: rest) lc s ck cn) : tt_V X cc Y Q pc lv rest lc s ck cn :=
  fun p e R s0 m args below meth c H locs ls C hP hS hl => lv_ldc C.1 C.2.1 C.2.2.2.1 (C.2.2.2.2.1 _ hw) d (kk p e R s0 m args below meth c H locs ls C hP hS hl)
theorem v_ldc2 {i : Nat} {v : Int64} (d : decode cc pc = .ok (.ldc2_w i, 3)) (hw : Cond.constantLong Y.1 i v ∈ lw_all) (kk : tt_V X cc Y Q (pc + 3) lv (.long v :: rest) lc s ck cn) : tt_V X cc Y Q pc lv rest lc s ck cn :=
  fun p e R s0 m args below meth c H locs ls C hP hS hl => lv_ldc2 C.1 C.2.1 C.2.2.2.1 (C.2.2.2.2.1 _ hw) d (kk p e R s0 m args below meth c H locs ls C hP hS hl)
theorem v_lcmp {x y : Int64} (d : decode cc pc = .ok (.lcmp, 1)) (kk : tt_V X cc Y Q (pc + 1) lv (.int (lg_cmp x y) :: rest) lc s ck cn) : tt_V X cc Y Q pc lv (.long y :: .long x :: rest) lc s ck cn :=
  fun p e R s0 m args below meth c H locs ls C hP hS hl => W.lcmp C.1 C.2.1 d (kk p e R s0 m args below meth c H locs ls C hP hS hl)
/-- a named value on the stack's top, in the state -/
theorem v_nmS {st : List Value} (kk : ∀ s1, s1 = s → tt_V X cc Y Q pc lv st lc s1 ck cn) : tt_V X cc Y Q pc lv st lc s ck cn := kk s rfl
theorem v_iconst {n : Int} {v : Int32} (hdg : decode cc pc = .ok (.iconst n, 1)) (hv : Int32.ofInt n = v) (k_ : tt_V X cc Y Q (pc + 1) lv (.int v :: rest) lc s ck cn) : tt_V X cc Y Q pc lv (rest) lc s ck cn :=
  fun p e R s0 m args below meth c H locs ls C hP hS hl => lv_iconst C.1 C.2.1 hdg hv (k_ p e R s0 m args below meth c H locs ls C hP hS hl)
theorem v_bipush {n : Int} {v : Int32} (hdg : decode cc pc = .ok (.bipush n, 2)) (hv : (Int8.ofInt n).toInt32 = v) (k_ : tt_V X cc Y Q (pc + 2) lv (.int v :: rest) lc s ck cn) : tt_V X cc Y Q pc lv (rest) lc s ck cn :=
  fun p e R s0 m args below meth c H locs ls C hP hS hl => lv_bipush C.1 C.2.1 hdg hv (k_ p e R s0 m args below meth c H locs ls C hP hS hl)
theorem v_sipush {n : Int} {v : Int32} (hdg : decode cc pc = .ok (.sipush n, 3)) (hv : (Int16.ofInt n).toInt32 = v) (k_ : tt_V X cc Y Q (pc + 3) lv (.int v :: rest) lc s ck cn) : tt_V X cc Y Q pc lv (rest) lc s ck cn :=
  fun p e R s0 m args below meth c H locs ls C hP hS hl => lv_sipush C.1 C.2.1 hdg hv (k_ p e R s0 m args below meth c H locs ls C hP hS hl)
theorem v_lconst {n : Fin 2} {v : Int64} (hdg : decode cc pc = .ok (.lconst n, 1)) (hv : Int64.ofNat (n : Nat) = v) (k_ : tt_V X cc Y Q (pc + 1) lv (.long v :: rest) lc s ck cn) : tt_V X cc Y Q pc lv (rest) lc s ck cn :=
  fun p e R s0 m args below meth c H locs ls C hP hS hl => lv_lconst C.1 C.2.1 hdg hv (k_ p e R s0 m args below meth c H locs ls C hP hS hl)
theorem v_iadd {x y : Int32} (hdg : decode cc pc = .ok (.iadd, 1)) (k_ : tt_V X cc Y Q (pc + 1) lv (.int (x + y) :: rest) lc s ck cn) : tt_V X cc Y Q pc lv (.int y :: .int x :: rest) lc s ck cn :=
  fun p e R s0 m args below meth c H locs ls C hP hS hl => lv_iadd C.1 C.2.1 hdg (k_ p e R s0 m args below meth c H locs ls C hP hS hl)
theorem v_isub {x y : Int32} (hdg : decode cc pc = .ok (.isub, 1)) (k_ : tt_V X cc Y Q (pc + 1) lv (.int (x - y) :: rest) lc s ck cn) : tt_V X cc Y Q pc lv (.int y :: .int x :: rest) lc s ck cn :=
  fun p e R s0 m args below meth c H locs ls C hP hS hl => lv_isub C.1 C.2.1 hdg (k_ p e R s0 m args below meth c H locs ls C hP hS hl)
theorem v_imul {x y : Int32} (hdg : decode cc pc = .ok (.imul, 1)) (k_ : tt_V X cc Y Q (pc + 1) lv (.int (x * y) :: rest) lc s ck cn) : tt_V X cc Y Q pc lv (.int y :: .int x :: rest) lc s ck cn :=
  fun p e R s0 m args below meth c H locs ls C hP hS hl => lv_imul C.1 C.2.1 hdg (k_ p e R s0 m args below meth c H locs ls C hP hS hl)
theorem v_iand {x y : Int32} (hdg : decode cc pc = .ok (.iand, 1)) (k_ : tt_V X cc Y Q (pc + 1) lv (.int (x &&& y) :: rest) lc s ck cn) : tt_V X cc Y Q pc lv (.int y :: .int x :: rest) lc s ck cn :=
  fun p e R s0 m args below meth c H locs ls C hP hS hl => lv_iand C.1 C.2.1 hdg (k_ p e R s0 m args below meth c H locs ls C hP hS hl)
theorem v_ior {x y : Int32} (hdg : decode cc pc = .ok (.ior, 1)) (k_ : tt_V X cc Y Q (pc + 1) lv (.int (x ||| y) :: rest) lc s ck cn) : tt_V X cc Y Q pc lv (.int y :: .int x :: rest) lc s ck cn :=
  fun p e R s0 m args below meth c H locs ls C hP hS hl => lv_ior C.1 C.2.1 hdg (k_ p e R s0 m args below meth c H locs ls C hP hS hl)
theorem v_idiv {x y : Int32} (hdg : decode cc pc = .ok (.idiv, 1)) (hne : ¬ y = 0) (k_ : tt_V X cc Y Q (pc + 1) lv (.int (x / y) :: rest) lc s ck cn) : tt_V X cc Y Q pc lv (.int y :: .int x :: rest) lc s ck cn :=
  fun p e R s0 m args below meth c H locs ls C hP hS hl => lv_idiv C.1 C.2.1 hdg hne (k_ p e R s0 m args below meth c H locs ls C hP hS hl)
theorem v_irem {x y : Int32} (hdg : decode cc pc = .ok (.irem, 1)) (hne : ¬ y = 0) (k_ : tt_V X cc Y Q (pc + 1) lv (.int (x - x / y * y) :: rest) lc s ck cn) : tt_V X cc Y Q pc lv (.int y :: .int x :: rest) lc s ck cn :=
  fun p e R s0 m args below meth c H locs ls C hP hS hl => lv_irem C.1 C.2.1 hdg hne (k_ p e R s0 m args below meth c H locs ls C hP hS hl)
theorem v_ineg {x : Int32} (hdg : decode cc pc = .ok (.ineg, 1)) (k_ : tt_V X cc Y Q (pc + 1) lv (.int (-x) :: rest) lc s ck cn) : tt_V X cc Y Q pc lv (.int x :: rest) lc s ck cn :=
  fun p e R s0 m args below meth c H locs ls C hP hS hl => lv_ineg C.1 C.2.1 hdg (k_ p e R s0 m args below meth c H locs ls C hP hS hl)
theorem v_ladd {x y : Int64} (hdg : decode cc pc = .ok (.ladd, 1)) (k_ : tt_V X cc Y Q (pc + 1) lv (.long (x + y) :: rest) lc s ck cn) : tt_V X cc Y Q pc lv (.long y :: .long x :: rest) lc s ck cn :=
  fun p e R s0 m args below meth c H locs ls C hP hS hl => lv_ladd C.1 C.2.1 hdg (k_ p e R s0 m args below meth c H locs ls C hP hS hl)
theorem v_lsub {x y : Int64} (hdg : decode cc pc = .ok (.lsub, 1)) (k_ : tt_V X cc Y Q (pc + 1) lv (.long (x - y) :: rest) lc s ck cn) : tt_V X cc Y Q pc lv (.long y :: .long x :: rest) lc s ck cn :=
  fun p e R s0 m args below meth c H locs ls C hP hS hl => lv_lsub C.1 C.2.1 hdg (k_ p e R s0 m args below meth c H locs ls C hP hS hl)
theorem v_lmul {x y : Int64} (hdg : decode cc pc = .ok (.lmul, 1)) (k_ : tt_V X cc Y Q (pc + 1) lv (.long (x * y) :: rest) lc s ck cn) : tt_V X cc Y Q pc lv (.long y :: .long x :: rest) lc s ck cn :=
  fun p e R s0 m args below meth c H locs ls C hP hS hl => lv_lmul C.1 C.2.1 hdg (k_ p e R s0 m args below meth c H locs ls C hP hS hl)
theorem v_land {x y : Int64} (hdg : decode cc pc = .ok (.land, 1)) (k_ : tt_V X cc Y Q (pc + 1) lv (.long (x &&& y) :: rest) lc s ck cn) : tt_V X cc Y Q pc lv (.long y :: .long x :: rest) lc s ck cn :=
  fun p e R s0 m args below meth c H locs ls C hP hS hl => lv_land C.1 C.2.1 hdg (k_ p e R s0 m args below meth c H locs ls C hP hS hl)
theorem v_lor {x y : Int64} (hdg : decode cc pc = .ok (.lor, 1)) (k_ : tt_V X cc Y Q (pc + 1) lv (.long (x ||| y) :: rest) lc s ck cn) : tt_V X cc Y Q pc lv (.long y :: .long x :: rest) lc s ck cn :=
  fun p e R s0 m args below meth c H locs ls C hP hS hl => lv_lor C.1 C.2.1 hdg (k_ p e R s0 m args below meth c H locs ls C hP hS hl)
theorem v_ldiv {x y : Int64} (hdg : decode cc pc = .ok (.ldiv, 1)) (hne : ¬ y = 0) (k_ : tt_V X cc Y Q (pc + 1) lv (.long (x / y) :: rest) lc s ck cn) : tt_V X cc Y Q pc lv (.long y :: .long x :: rest) lc s ck cn :=
  fun p e R s0 m args below meth c H locs ls C hP hS hl => lv_ldiv C.1 C.2.1 hdg hne (k_ p e R s0 m args below meth c H locs ls C hP hS hl)
theorem v_lrem {x y : Int64} (hdg : decode cc pc = .ok (.lrem, 1)) (hne : ¬ y = 0) (k_ : tt_V X cc Y Q (pc + 1) lv (.long (x - x / y * y) :: rest) lc s ck cn) : tt_V X cc Y Q pc lv (.long y :: .long x :: rest) lc s ck cn :=
  fun p e R s0 m args below meth c H locs ls C hP hS hl => lv_lrem C.1 C.2.1 hdg hne (k_ p e R s0 m args below meth c H locs ls C hP hS hl)
theorem v_lneg {x : Int64} (hdg : decode cc pc = .ok (.lneg, 1)) (k_ : tt_V X cc Y Q (pc + 1) lv (.long (-x) :: rest) lc s ck cn) : tt_V X cc Y Q pc lv (.long x :: rest) lc s ck cn :=
  fun p e R s0 m args below meth c H locs ls C hP hS hl => lv_lneg C.1 C.2.1 hdg (k_ p e R s0 m args below meth c H locs ls C hP hS hl)
theorem v_ishl {x y : Int32} (hdg : decode cc pc = .ok (.ishl, 1)) (k_ : tt_V X cc Y Q (pc + 1) lv (.int (x <<< (y &&& 31)) :: rest) lc s ck cn) : tt_V X cc Y Q pc lv (.int y :: .int x :: rest) lc s ck cn :=
  fun p e R s0 m args below meth c H locs ls C hP hS hl => lv_ishl C.1 C.2.1 hdg (k_ p e R s0 m args below meth c H locs ls C hP hS hl)
theorem v_ishr {x y : Int32} (hdg : decode cc pc = .ok (.ishr, 1)) (k_ : tt_V X cc Y Q (pc + 1) lv (.int (x >>> (y &&& 31)) :: rest) lc s ck cn) : tt_V X cc Y Q pc lv (.int y :: .int x :: rest) lc s ck cn :=
  fun p e R s0 m args below meth c H locs ls C hP hS hl => lv_ishr C.1 C.2.1 hdg (k_ p e R s0 m args below meth c H locs ls C hP hS hl)
theorem v_iushr {x y v : Int32} (hdg : decode cc pc = .ok (.iushr, 1)) (hv : (x.toUInt32 >>> (y.toUInt32 &&& Int32.toUInt32 31)).toInt32 = v) (k_ : tt_V X cc Y Q (pc + 1) lv (.int v :: rest) lc s ck cn) : tt_V X cc Y Q pc lv (.int y :: .int x :: rest) lc s ck cn :=
  fun p e R s0 m args below meth c H locs ls C hP hS hl => lv_iushr C.1 C.2.1 hdg hv (k_ p e R s0 m args below meth c H locs ls C hP hS hl)
theorem v_i2l {x : Int32} {v : Int64} (hdg : decode cc pc = .ok (.i2l, 1)) (hv : x.toInt64 = v) (k_ : tt_V X cc Y Q (pc + 1) lv (.long v :: rest) lc s ck cn) : tt_V X cc Y Q pc lv (.int x :: rest) lc s ck cn :=
  fun p e R s0 m args below meth c H locs ls C hP hS hl => lv_i2l C.1 C.2.1 hdg hv (k_ p e R s0 m args below meth c H locs ls C hP hS hl)
theorem v_l2i {x : Int64} {v : Int32} (hdg : decode cc pc = .ok (.l2i, 1)) (hv : x.toInt32 = v) (k_ : tt_V X cc Y Q (pc + 1) lv (.int v :: rest) lc s ck cn) : tt_V X cc Y Q pc lv (.long x :: rest) lc s ck cn :=
  fun p e R s0 m args below meth c H locs ls C hP hS hl => lv_l2i C.1 C.2.1 hdg hv (k_ p e R s0 m args below meth c H locs ls C hP hS hl)
theorem v_lshl {x v : Int64} {y : Int32} (hdg : decode cc pc = .ok (.lshl, 1)) (hv : x <<< (y.toInt64 &&& 63) = v) (k_ : tt_V X cc Y Q (pc + 1) lv (.long v :: rest) lc s ck cn) : tt_V X cc Y Q pc lv (.int y :: .long x :: rest) lc s ck cn :=
  fun p e R s0 m args below meth c H locs ls C hP hS hl => lv_lshl C.1 C.2.1 hdg hv (k_ p e R s0 m args below meth c H locs ls C hP hS hl)
theorem v_dup {va : Value} (hdg : decode cc pc = .ok (.dup, 1)) (hva : va.category = 1) (k_ : tt_V X cc Y Q (pc + 1) lv (va :: va :: rest) lc s ck cn) : tt_V X cc Y Q pc lv (va :: rest) lc s ck cn :=
  fun p e R s0 m args below meth c H locs ls C hP hS hl => lv_dup C.1 C.2.1 hdg hva (k_ p e R s0 m args below meth c H locs ls C hP hS hl)
theorem v_pop {va : Value} (hdg : decode cc pc = .ok (.pop, 1)) (hva : va.category = 1) (k_ : tt_V X cc Y Q (pc + 1) lv (rest) lc s ck cn) : tt_V X cc Y Q pc lv (va :: rest) lc s ck cn :=
  fun p e R s0 m args below meth c H locs ls C hP hS hl => lv_pop C.1 C.2.1 hdg hva (k_ p e R s0 m args below meth c H locs ls C hP hS hl)
theorem v_dup_x1 {va vb : Value} (hdg : decode cc pc = .ok (.dup_x1, 1)) (hva : va.category = 1) (hvb : vb.category = 1) (k_ : tt_V X cc Y Q (pc + 1) lv (va :: vb :: va :: rest) lc s ck cn) : tt_V X cc Y Q pc lv (va :: vb :: rest) lc s ck cn :=
  fun p e R s0 m args below meth c H locs ls C hP hS hl => lv_dup_x1 C.1 C.2.1 hdg hva hvb (k_ p e R s0 m args below meth c H locs ls C hP hS hl)
theorem v_dup_x2 {va vb vd : Value} (hdg : decode cc pc = .ok (.dup_x2, 1)) (hva : va.category = 1) (hvb : vb.category = 1) (hvd : vd.category = 1) (k_ : tt_V X cc Y Q (pc + 1) lv (va :: vb :: vd :: va :: rest) lc s ck cn) : tt_V X cc Y Q pc lv (va :: vb :: vd :: rest) lc s ck cn :=
  fun p e R s0 m args below meth c H locs ls C hP hS hl => lv_dup_x2 C.1 C.2.1 hdg hva hvb hvd (k_ p e R s0 m args below meth c H locs ls C hP hS hl)
theorem v_dup2_11 {va vb : Value} (hdg : decode cc pc = .ok (.dup2, 1)) (hva : va.category = 1) (hvb : vb.category = 1) (k_ : tt_V X cc Y Q (pc + 1) lv (va :: vb :: va :: vb :: rest) lc s ck cn) : tt_V X cc Y Q pc lv (va :: vb :: rest) lc s ck cn :=
  fun p e R s0 m args below meth c H locs ls C hP hS hl => lv_dup2_11 C.1 C.2.1 hdg hva hvb (k_ p e R s0 m args below meth c H locs ls C hP hS hl)
theorem v_dup2_2 {va : Value} (hdg : decode cc pc = .ok (.dup2, 1)) (hva : va.category = 2) (k_ : tt_V X cc Y Q (pc + 1) lv (va :: va :: rest) lc s ck cn) : tt_V X cc Y Q pc lv (va :: rest) lc s ck cn :=
  fun p e R s0 m args below meth c H locs ls C hP hS hl => lv_dup2_2 C.1 C.2.1 hdg hva (k_ p e R s0 m args below meth c H locs ls C hP hS hl)
theorem v_pop2_2 {va : Value} (hdg : decode cc pc = .ok (.pop2, 1)) (hva : va.category = 2) (k_ : tt_V X cc Y Q (pc + 1) lv (rest) lc s ck cn) : tt_V X cc Y Q pc lv (va :: rest) lc s ck cn :=
  fun p e R s0 m args below meth c H locs ls C hP hS hl => lv_pop2_2 C.1 C.2.1 hdg hva (k_ p e R s0 m args below meth c H locs ls C hP hS hl)
theorem v_if_eq {x : Int32} {off : Int} {tgt : Nat} (hdg : decode cc pc = .ok (.ifCond .eq off, 3)) (ht : (pc : Int) + off = (tgt : Int)) (kt_ : x = 0 → tt_V X cc Y Q tgt lv rest lc s ck cn) (kf_ : ¬ x = 0 → tt_V X cc Y Q (pc + 3) lv rest lc s ck cn) : tt_V X cc Y Q pc lv (.int x :: rest) lc s ck cn :=
  fun p e R s0 m args below meth c H locs ls C hP hS hl => lv_if_eq C.1 C.2.1 hdg ht (fun h_ => kt_ h_ p e R s0 m args below meth c H locs ls C hP hS hl) (fun h_ => kf_ h_ p e R s0 m args below meth c H locs ls C hP hS hl)
theorem v_icmp_eq {x y : Int32} {off : Int} {tgt : Nat} (hdg : decode cc pc = .ok (.if_icmp .eq off, 3)) (ht : (pc : Int) + off = (tgt : Int)) (kt_ : x = y → tt_V X cc Y Q tgt lv rest lc s ck cn) (kf_ : ¬ x = y → tt_V X cc Y Q (pc + 3) lv rest lc s ck cn) : tt_V X cc Y Q pc lv (.int y :: .int x :: rest) lc s ck cn :=
  fun p e R s0 m args below meth c H locs ls C hP hS hl => lv_icmp_eq C.1 C.2.1 hdg ht (fun h_ => kt_ h_ p e R s0 m args below meth c H locs ls C hP hS hl) (fun h_ => kf_ h_ p e R s0 m args below meth c H locs ls C hP hS hl)
theorem v_if_ne {x : Int32} {off : Int} {tgt : Nat} (hdg : decode cc pc = .ok (.ifCond .ne off, 3)) (ht : (pc : Int) + off = (tgt : Int)) (kt_ : ¬ x = 0 → tt_V X cc Y Q tgt lv rest lc s ck cn) (kf_ : x = 0 → tt_V X cc Y Q (pc + 3) lv rest lc s ck cn) : tt_V X cc Y Q pc lv (.int x :: rest) lc s ck cn :=
  fun p e R s0 m args below meth c H locs ls C hP hS hl => lv_if_ne C.1 C.2.1 hdg ht (fun h_ => kt_ h_ p e R s0 m args below meth c H locs ls C hP hS hl) (fun h_ => kf_ h_ p e R s0 m args below meth c H locs ls C hP hS hl)
theorem v_icmp_ne {x y : Int32} {off : Int} {tgt : Nat} (hdg : decode cc pc = .ok (.if_icmp .ne off, 3)) (ht : (pc : Int) + off = (tgt : Int)) (kt_ : ¬ x = y → tt_V X cc Y Q tgt lv rest lc s ck cn) (kf_ : x = y → tt_V X cc Y Q (pc + 3) lv rest lc s ck cn) : tt_V X cc Y Q pc lv (.int y :: .int x :: rest) lc s ck cn :=
  fun p e R s0 m args below meth c H locs ls C hP hS hl => lv_icmp_ne C.1 C.2.1 hdg ht (fun h_ => kt_ h_ p e R s0 m args below meth c H locs ls C hP hS hl) (fun h_ => kf_ h_ p e R s0 m args below meth c H locs ls C hP hS hl)
theorem v_if_lt {x : Int32} {off : Int} {tgt : Nat} (hdg : decode cc pc = .ok (.ifCond .lt off, 3)) (ht : (pc : Int) + off = (tgt : Int)) (kt_ : x < 0 → tt_V X cc Y Q tgt lv rest lc s ck cn) (kf_ : ¬ x < 0 → tt_V X cc Y Q (pc + 3) lv rest lc s ck cn) : tt_V X cc Y Q pc lv (.int x :: rest) lc s ck cn :=
  fun p e R s0 m args below meth c H locs ls C hP hS hl => lv_if_lt C.1 C.2.1 hdg ht (fun h_ => kt_ h_ p e R s0 m args below meth c H locs ls C hP hS hl) (fun h_ => kf_ h_ p e R s0 m args below meth c H locs ls C hP hS hl)
theorem v_icmp_lt {x y : Int32} {off : Int} {tgt : Nat} (hdg : decode cc pc = .ok (.if_icmp .lt off, 3)) (ht : (pc : Int) + off = (tgt : Int)) (kt_ : x < y → tt_V X cc Y Q tgt lv rest lc s ck cn) (kf_ : ¬ x < y → tt_V X cc Y Q (pc + 3) lv rest lc s ck cn) : tt_V X cc Y Q pc lv (.int y :: .int x :: rest) lc s ck cn :=
  fun p e R s0 m args below meth c H locs ls C hP hS hl => lv_icmp_lt C.1 C.2.1 hdg ht (fun h_ => kt_ h_ p e R s0 m args below meth c H locs ls C hP hS hl) (fun h_ => kf_ h_ p e R s0 m args below meth c H locs ls C hP hS hl)
theorem v_if_ge {x : Int32} {off : Int} {tgt : Nat} (hdg : decode cc pc = .ok (.ifCond .ge off, 3)) (ht : (pc : Int) + off = (tgt : Int)) (kt_ : 0 ≤ x → tt_V X cc Y Q tgt lv rest lc s ck cn) (kf_ : ¬ 0 ≤ x → tt_V X cc Y Q (pc + 3) lv rest lc s ck cn) : tt_V X cc Y Q pc lv (.int x :: rest) lc s ck cn :=
  fun p e R s0 m args below meth c H locs ls C hP hS hl => lv_if_ge C.1 C.2.1 hdg ht (fun h_ => kt_ h_ p e R s0 m args below meth c H locs ls C hP hS hl) (fun h_ => kf_ h_ p e R s0 m args below meth c H locs ls C hP hS hl)
theorem v_icmp_ge {x y : Int32} {off : Int} {tgt : Nat} (hdg : decode cc pc = .ok (.if_icmp .ge off, 3)) (ht : (pc : Int) + off = (tgt : Int)) (kt_ : y ≤ x → tt_V X cc Y Q tgt lv rest lc s ck cn) (kf_ : ¬ y ≤ x → tt_V X cc Y Q (pc + 3) lv rest lc s ck cn) : tt_V X cc Y Q pc lv (.int y :: .int x :: rest) lc s ck cn :=
  fun p e R s0 m args below meth c H locs ls C hP hS hl => lv_icmp_ge C.1 C.2.1 hdg ht (fun h_ => kt_ h_ p e R s0 m args below meth c H locs ls C hP hS hl) (fun h_ => kf_ h_ p e R s0 m args below meth c H locs ls C hP hS hl)
theorem v_if_gt {x : Int32} {off : Int} {tgt : Nat} (hdg : decode cc pc = .ok (.ifCond .gt off, 3)) (ht : (pc : Int) + off = (tgt : Int)) (kt_ : 0 < x → tt_V X cc Y Q tgt lv rest lc s ck cn) (kf_ : ¬ 0 < x → tt_V X cc Y Q (pc + 3) lv rest lc s ck cn) : tt_V X cc Y Q pc lv (.int x :: rest) lc s ck cn :=
  fun p e R s0 m args below meth c H locs ls C hP hS hl => lv_if_gt C.1 C.2.1 hdg ht (fun h_ => kt_ h_ p e R s0 m args below meth c H locs ls C hP hS hl) (fun h_ => kf_ h_ p e R s0 m args below meth c H locs ls C hP hS hl)
theorem v_icmp_gt {x y : Int32} {off : Int} {tgt : Nat} (hdg : decode cc pc = .ok (.if_icmp .gt off, 3)) (ht : (pc : Int) + off = (tgt : Int)) (kt_ : y < x → tt_V X cc Y Q tgt lv rest lc s ck cn) (kf_ : ¬ y < x → tt_V X cc Y Q (pc + 3) lv rest lc s ck cn) : tt_V X cc Y Q pc lv (.int y :: .int x :: rest) lc s ck cn :=
  fun p e R s0 m args below meth c H locs ls C hP hS hl => lv_icmp_gt C.1 C.2.1 hdg ht (fun h_ => kt_ h_ p e R s0 m args below meth c H locs ls C hP hS hl) (fun h_ => kf_ h_ p e R s0 m args below meth c H locs ls C hP hS hl)
theorem v_if_le {x : Int32} {off : Int} {tgt : Nat} (hdg : decode cc pc = .ok (.ifCond .le off, 3)) (ht : (pc : Int) + off = (tgt : Int)) (kt_ : x ≤ 0 → tt_V X cc Y Q tgt lv rest lc s ck cn) (kf_ : ¬ x ≤ 0 → tt_V X cc Y Q (pc + 3) lv rest lc s ck cn) : tt_V X cc Y Q pc lv (.int x :: rest) lc s ck cn :=
  fun p e R s0 m args below meth c H locs ls C hP hS hl => lv_if_le C.1 C.2.1 hdg ht (fun h_ => kt_ h_ p e R s0 m args below meth c H locs ls C hP hS hl) (fun h_ => kf_ h_ p e R s0 m args below meth c H locs ls C hP hS hl)
theorem v_icmp_le {x y : Int32} {off : Int} {tgt : Nat} (hdg : decode cc pc = .ok (.if_icmp .le off, 3)) (ht : (pc : Int) + off = (tgt : Int)) (kt_ : x ≤ y → tt_V X cc Y Q tgt lv rest lc s ck cn) (kf_ : ¬ x ≤ y → tt_V X cc Y Q (pc + 3) lv rest lc s ck cn) : tt_V X cc Y Q pc lv (.int y :: .int x :: rest) lc s ck cn :=
  fun p e R s0 m args below meth c H locs ls C hP hS hl => lv_icmp_le C.1 C.2.1 hdg ht (fun h_ => kt_ h_ p e R s0 m args below meth c H locs ls C hP hS hl) (fun h_ => kf_ h_ p e R s0 m args below meth c H locs ls C hP hS hl)
theorem v_goto {off : Int} {tgt : Nat} (hdg : decode cc pc = .ok (.goto off, 3)) (ht : (pc : Int) + off = (tgt : Int)) (k_ : tt_V X cc Y Q tgt lv rest lc s ck cn) : tt_V X cc Y Q pc lv rest lc s ck cn :=
  fun p e R s0 m args below meth c H locs ls C hP hS hl => lv_goto C.1 C.2.1 hdg ht (k_ p e R s0 m args below meth c H locs ls C hP hS hl)
theorem v_lif_lt {x y : Int64} {off : Int} {tgt : Nat} (d1 : decode cc pc = .ok (.lcmp, 1)) (d2 : decode cc (pc + 1) = .ok (.ifCond .lt off, 3)) (ht : ((pc + 1 : Nat) : Int) + off = (tgt : Int)) (kt : x < y → tt_V X cc Y Q tgt lv rest lc s ck cn) (kf : ¬ x < y → tt_V X cc Y Q (pc + 1 + 3) lv rest lc s ck cn) : tt_V X cc Y Q pc lv (.long y :: .long x :: rest) lc s ck cn :=
  v_lcmp d1 (v_if_lt d2 ht (fun h => kt ((lg_cmp_lt x y).mp h)) (fun h => kf (fun q => h ((lg_cmp_lt x y).mpr q))))
theorem v_lif_ge {x y : Int64} {off : Int} {tgt : Nat} (d1 : decode cc pc = .ok (.lcmp, 1)) (d2 : decode cc (pc + 1) = .ok (.ifCond .ge off, 3)) (ht : ((pc + 1 : Nat) : Int) + off = (tgt : Int)) (kt : y ≤ x → tt_V X cc Y Q tgt lv rest lc s ck cn) (kf : ¬ y ≤ x → tt_V X cc Y Q (pc + 1 + 3) lv rest lc s ck cn) : tt_V X cc Y Q pc lv (.long y :: .long x :: rest) lc s ck cn :=
  v_lcmp d1 (v_if_ge d2 ht (fun h => kt ((lg_cmp_ge x y).mp h)) (fun h => kf (fun q => h ((lg_cmp_ge x y).mpr q))))
theorem v_lif_gt {x y : Int64} {off : Int} {tgt : Nat} (d1 : decode cc pc = .ok (.lcmp, 1)) (d2 : decode cc (pc + 1) = .ok (.ifCond .gt off, 3)) (ht : ((pc + 1 : Nat) : Int) + off = (tgt : Int)) (kt : y < x → tt_V X cc Y Q tgt lv rest lc s ck cn) (kf : ¬ y < x → tt_V X cc Y Q (pc + 1 + 3) lv rest lc s ck cn) : tt_V X cc Y Q pc lv (.long y :: .long x :: rest) lc s ck cn :=
  v_lcmp d1 (v_if_gt d2 ht (fun h => kt ((lg_cmp_gt x y).mp h)) (fun h => kf (fun q => h ((lg_cmp_gt x y).mpr q))))
theorem v_lif_le {x y : Int64} {off : Int} {tgt : Nat} (d1 : decode cc pc = .ok (.lcmp, 1)) (d2 : decode cc (pc + 1) = .ok (.ifCond .le off, 3)) (ht : ((pc + 1 : Nat) : Int) + off = (tgt : Int)) (kt : x ≤ y → tt_V X cc Y Q tgt lv rest lc s ck cn) (kf : ¬ x ≤ y → tt_V X cc Y Q (pc + 1 + 3) lv rest lc s ck cn) : tt_V X cc Y Q pc lv (.long y :: .long x :: rest) lc s ck cn :=
  v_lcmp d1 (v_if_le d2 ht (fun h => kt ((lg_cmp_le x y).mp h)) (fun h => kf (fun q => h ((lg_cmp_le x y).mpr q))))
theorem v_lif_eq {x y : Int64} {off : Int} {tgt : Nat} (d1 : decode cc pc = .ok (.lcmp, 1)) (d2 : decode cc (pc + 1) = .ok (.ifCond .eq off, 3)) (ht : ((pc + 1 : Nat) : Int) + off = (tgt : Int)) (kt : x = y → tt_V X cc Y Q tgt lv rest lc s ck cn) (kf : ¬ x = y → tt_V X cc Y Q (pc + 1 + 3) lv rest lc s ck cn) : tt_V X cc Y Q pc lv (.long y :: .long x :: rest) lc s ck cn :=
  v_lcmp d1 (v_if_eq d2 ht (fun h => kt ((lg_cmp_eq x y).mp h)) (fun h => kf (fun q => h ((lg_cmp_eq x y).mpr q))))
theorem v_lif_ne {x y : Int64} {off : Int} {tgt : Nat} (d1 : decode cc pc = .ok (.lcmp, 1)) (d2 : decode cc (pc + 1) = .ok (.ifCond .ne off, 3)) (ht : ((pc + 1 : Nat) : Int) + off = (tgt : Int)) (kt : ¬ x = y → tt_V X cc Y Q tgt lv rest lc s ck cn) (kf : x = y → tt_V X cc Y Q (pc + 1 + 3) lv rest lc s ck cn) : tt_V X cc Y Q pc lv (.long y :: .long x :: rest) lc s ck cn :=
  v_lcmp d1 (v_if_ne d2 ht (fun h => kt (fun q => h ((lg_cmp_eq x y).mpr q))) (fun h => kf ((lg_cmp_eq x y).mp h)))
/-! the heap -/
theorem tt_ent_wrI {X : tt_X tt_St} {E : tt_Et} (hE : xE X = mkE E) {lc : Nat → Nat → Nat} {s : tt_St} {kd i j : Nat} {v : Int32} {kd' i' : Nat} (h : ¬ (kd' = kd ∧ i' = i)) : tt_ent X lc (wrI s kd i j v) kd' i' = tt_ent X lc s kd' i' := by
  unfold tt_ent
  rw [hE]
  unfold mkE
  have e : rdI (wrI s kd i j v) kd' i' = rdI s kd' i' := by
    funext c
    rw [rdI_wrI, if_neg (fun q => h ⟨q.1, q.2.1⟩)]
  rw [e]
  rfl
theorem tt_ent_wrL {X : tt_X tt_St} {E : tt_Et} (hE : xE X = mkE E) {lc : Nat → Nat → Nat} {s : tt_St} {kd i j : Nat} {v : Int64} {kd' i' : Nat} (h : ¬ (kd' = kd ∧ i' = i)) : tt_ent X lc (wrL s kd i j v) kd' i' = tt_ent X lc s kd' i' := by
  unfold tt_ent
  rw [hE]
  unfold mkE
  have e : rdL (wrL s kd i j v) kd' i' = rdL s kd' i' := by
    funext c
    rw [rdL_wrL, if_neg (fun q => h ⟨q.1, q.2.1⟩)]
  rw [e]
  rfl
theorem tt_ent_wrR {X : tt_X tt_St} {E : tt_Et} (hE : xE X = mkE E) {lc : Nat → Nat → Nat} {s : tt_St} {kd i j : Nat} {v : Option Nat} {kd' i' : Nat} (h : ¬ (kd' = kd ∧ i' = i)) : tt_ent X lc (wrR s kd i j v) kd' i' = tt_ent X lc s kd' i' := by
  unfold tt_ent
  rw [hE]
  unfold mkE
  have e : rdR (wrR s kd i j v) kd' i' = rdR s kd' i' := by
    funext c
    rw [rdR_wrR, if_neg (fun q => h ⟨q.1, q.2.1⟩)]
  rw [e]
  rfl
/-- one cell is written -/
theorem tt_Pic.put {lc : Nat → Nat → Nat} {s s' : σ} {H H1 : Heap} {kd i : Nat} (h : tt_Pic X lc s H) (hV : xV X s kd i) (he : va_at (xD X) (xC X) (lc kd i, tt_ent X lc s' kd i) H1) (ho : ∀ kd' i', ¬ (kd' = kd ∧ i' = i) → tt_ent X lc s' kd' i' = tt_ent X lc s kd' i') (hlv : ∀ kd i, xV X s' kd i → xV X s kd i) (oq : ∀ q : Nat, q ≠ lc kd i → H1[q]? = H[q]?) : tt_Pic X lc s' H1 := by
  refine ⟨fun kd' i' hV0 => ?_, fun a b c d h1 h2 => h.2 a b c d (hlv _ _ h1) (hlv _ _ h2)⟩
  have hV' := hlv _ _ hV0
  refine ⟨?_, (h.1 kd' i' hV').2⟩
  by_cases hq : kd' = kd ∧ i' = i
  · rw [hq.1, hq.2]
    exact he
  · rw [ho kd' i' hq]
    exact (h.1 kd' i' hV').1.kept (oq _ (fun e => hq (h.2 _ _ _ _ hV' hV e)))
theorem v_get {kd i p ci idx N : Nat} {C ref : String} {T : u_T} {fs : List Value} {v : Value} (hV : xV X s kd i) (ho : tt_ent X lc s kd i = .inr (ci, fs)) (hc : (xC X)[ci]? = some (C, T, N)) (hin : ∀ w ∈ u_ws C T N, w ∈ lw_all) (hp : p < N) (hlink : Cond.fieldLink Y.1 idx ref (T p).2.1 (T p).2.2.1 ∈ lw_all) (hsame : ref = (T p).1 ∨ Cond.sameField ref (T p).1 (T p).2.1 (T p).2.2.1 ∈ lw_all) (hv : fs[p]? = some v) (d : decode cc pc = .ok (.getfield idx, 3))
    (kk : tt_V X cc Y Q (pc + 3) lv (v :: rest) lc s ck cn) : tt_V X cc Y Q pc lv (.ref (lc kd i) :: rest) lc s ck cn := by
  intro p1 e R s0 m args below meth c H locs ls C1 hP hS hl
  have hat := (hP.1 kd i hV).1
  rw [ho] at hat
  have hP1 : va_P (xD X) (xC X) [(lc kd i, .inr (ci, fs))] H := fun k q hq => by
    match k, hq with
    | 0, hq => cases hq; exact hat
    | k + 1, hq => simp at hq
  refine va_get C1.1 C1.2.1 C1.2.2.2.2.1 hin C1.2.2.2.1 C1.2.2.2.2.2.2.2.2.1.1 hP1 0 rfl hc p hp (C1.2.2.2.2.1 _ hlink) ?_ hv d (kk p1 e R s0 m args below meth c H locs ls C1 hP hS hl)
  rcases hsame with h | h
  · intro x hx
    rw [h]
    exact hx
  · exact fun x hx => u_same (C1.2.2.2.2.1 _ h) x hx
theorem tt_putW {p1 : Program} {l : Launch} {e : Env} {R : Room} {s0 : State} {m : MethodId} {args : Array Value} {below : List Frame} {meth : Method} {c : Code} {H : Heap} {locs : List Loc} {cells slots : Nat} {Q0 : State → Prop} {D : va_G} {cl : List vw_C} {tys : List (ClassId × FieldType)} {ls : Array Slot}
    (hexec : p1.tables.exec = Jvm.exec) (hb : c.code = cc) {own ref C : String} {T : u_T} {N ci idx a : Nat} (hts : ∀ w ∈ lw_all, w.before args s0 = true) (hin : ∀ w ∈ u_ws C T N, w ∈ lw_all) (ty0 : Nat → FieldType) (hty : ∀ k, k < N → parseFieldDescriptor (T k).2.2.1 = some (ty0 k)) (hnm : ∀ a, a < N → ∀ b, b < N → a ≠ b → (T a).2.1 ≠ (T b).2.1) (hown : s0.vm.findClass own = some m.cls) (hK : va_K D cl tys s0) {fs : List Value} (hat : va_at D cl (a, .inr (ci, fs)) H) (hc : cl[ci]? = some (C, T, N)) (p : Nat) (hp : p < N) (hlink : (Cond.fieldLink own idx ref (T p).2.1 (T p).2.2.1).before args s0 = true) (hsame : ∀ x, s0.fieldFound? (T p).1 (T p).2.1 (T p).2.2.1 = some x → s0.fieldFound? ref (T p).2.1 (T p).2.2.1 = some x) (hfin : (T p).2.2.2 = false) {v : Value} (hn : narrow (ty0 p) v = v) (hfit : fits (ty0 p) v = true) (hlen : p < fs.length)
    (d : decode cc pc = .ok (.putfield idx, 3)) (kk : ∀ (H1 : Heap) (j : Nat), va_at D cl (a, .inr (ci, fs.set p v)) H1 → H1.size = H.size → (∀ q : Nat, q ≠ a → H1[q]? = H[q]?) → W p1 l e R s0 m args below meth c H1 (locs ++ [⟨a, j⟩]) cells slots Q0 (F0 m (pc + 3) ls rest)) : W p1 l e R s0 m args below meth c H locs cells slots Q0 (F0 m pc ls (v :: .ref a :: rest)) := by
  have hap := va_apart (own := own) hts hin ty0 hty hnm hK hc
  obtain ⟨r, h1, cell, q1, q2, q3, q4⟩ := hat
  have hr : r = (C, T, N) := Option.some.inj (h1.symm.trans hc)
  subst hr
  obtain ⟨hS, hfc, kC, hkC, hkind⟩ := hK.1 ci _ hc
  obtain ⟨cf, kf, fi, f, hi, hsl⟩ := hS p hp
  have hlay := hts _ (hin _ (u_in_lay hp))
  unfold u_lay at hlay
  rw [if_neg (by rw [hfin]; decide)] at hlay
  have hst := (u_facts hfc hkC (u_lays hts hin hp) hi).1
  have h6 := u_store hfc hkC hkind hlay hi (hty p hp) hn hfit
  refine W.putK hexec hb (f := f) ⟨hown, hlink, ⟨_, _, _, hsame _ hi⟩, hst⟩ (by rw [q2]; exact h6) q1 q3 (by rw [hsl]; exact k2_hasslot (q4 p hp)) rfl rfl d fun H' e1 e2 e3 => ?_
  refine kk H' _ ?_ e2 e3
  rw [hsl] at e1
  exact ⟨_, hc, t_OB.to (V := updV (vp_V fs) p v) ⟨_, e1, q2, q3, t_set q4 hap hp v⟩ (fun j _ => vp_updV_set hlen v j)⟩
theorem v_put {s' : σ} {kd i p ci idx N : Nat} {C ref : String} {T : u_T} {fs : List Value} {v : Value} (hV : xV X s kd i) (ho : tt_ent X lc s kd i = .inr (ci, fs)) (ho' : tt_ent X lc s' kd i = .inr (ci, fs.set p v)) (hoth : ∀ kd' i', ¬ (kd' = kd ∧ i' = i) → tt_ent X lc s' kd' i' = tt_ent X lc s kd' i') (hlv : ∀ kd i, xV X s' kd i → xV X s kd i) (hc : (xC X)[ci]? = some (C, T, N)) (hin : ∀ w ∈ u_ws C T N, w ∈ lw_all) (ty0 : Nat → FieldType) (hty : ∀ k, k < N → parseFieldDescriptor (T k).2.2.1 = some (ty0 k)) (hnm : ∀ a, a < N → ∀ b, b < N → a ≠ b → (T a).2.1 ≠ (T b).2.1) (hp : p < N) (hlink : Cond.fieldLink Y.1 idx ref (T p).2.1 (T p).2.2.1 ∈ lw_all) (hsame : ref = (T p).1 ∨ Cond.sameField ref (T p).1 (T p).2.1 (T p).2.2.1 ∈ lw_all) (hfin : (T p).2.2.2 = false) (hn : narrow (ty0 p) v = v) (hfit : fits (ty0 p) v = true) (hlen : p < fs.length) (d : decode cc pc = .ok (.putfield idx, 3))
    (kk : tt_V X cc Y Q (pc + 3) lv rest lc s' ck cn) : tt_V X cc Y Q pc lv (v :: .ref (lc kd i) :: rest) lc s ck cn := by
  intro p1 e R s0 m args below meth c H locs ls C1 hP hS hl
  have hat := (hP.1 kd i hV).1
  rw [ho] at hat
  refine tt_putW C1.1 C1.2.1 C1.2.2.2.2.1 hin ty0 hty hnm C1.2.2.2.1 C1.2.2.2.2.2.2.2.2.1.1 hat hc p hp (C1.2.2.2.2.1 _ hlink) ?_ hfin hn hfit hlen d (fun H1 j h1 h2 h3 => kk p1 e R s0 m args below meth c H1 _ ls C1 (hP.put hV (by rw [ho']; exact h1) hoth hlv h3) (hS.put h2 h3 (hP.1 kd i hV).2) hl)
  rcases hsame with h | h
  · intro x hx
    rw [h]
    exact hx
  · exact fun x hx => u_same (C1.2.2.2.2.1 _ h) x hx
theorem v_iald {kd i t n : Nat} {cA : ClassId} {f : Nat → Int32} {j : Int32} (hV : xV X s kd i) (ho : tt_ent X lc s kd i = .inl (cA, n, .inl f)) (ht : (xT X)[t]? = some (cA, .int)) (hin : inB j n = true) (d : decode cc pc = .ok (.iaload, 1))
    (kk : tt_V X cc Y Q (pc + 1) lv (.int (f j.toNatClampNeg) :: rest) lc s ck cn) : tt_V X cc Y Q pc lv (.int j :: .ref (lc kd i) :: rest) lc s ck cn := by
  intro p1 e R s0 m args below meth c H locs ls C1 hP hS hl
  have hat := (hP.1 kd i hV).1
  rw [ho] at hat
  have hP1 : va_P (xD X) (xC X) [(lc kd i, .inl (cA, n, .inl f))] H := fun k q hq => by
    match k, hq with
    | 0, hq => cases hq; exact hat
    | k + 1, hq => simp at hq
  exact va_iald C1.1 C1.2.1 C1.2.2.2.2.2.2.2.2.1.1 hP1 0 t rfl ht (inB_vp hin) d (kk p1 e R s0 m args below meth c H locs ls C1 hP hS hl)
theorem v_zald {kd i t n : Nat} {cA : ClassId} {f : Nat → Int32} {j : Int32} (hV : xV X s kd i) (ho : tt_ent X lc s kd i = .inl (cA, n, .inl f)) (ht : (xT X)[t]? = some (cA, .boolean)) (hin : inB j n = true) (d : decode cc pc = .ok (.baload, 1))
    (kk : tt_V X cc Y Q (pc + 1) lv (.int (f j.toNatClampNeg) :: rest) lc s ck cn) : tt_V X cc Y Q pc lv (.int j :: .ref (lc kd i) :: rest) lc s ck cn := by
  intro p1 e R s0 m args below meth c H locs ls C1 hP hS hl
  have hat := (hP.1 kd i hV).1
  rw [ho] at hat
  have hP1 : va_P (xD X) (xC X) [(lc kd i, .inl (cA, n, .inl f))] H := fun k q hq => by
    match k, hq with
    | 0, hq => cases hq; exact hat
    | k + 1, hq => simp at hq
  exact va_zald C1.1 C1.2.1 C1.2.2.2.2.2.2.2.2.1.1 hP1 0 t rfl ht (inB_vp hin) d (kk p1 e R s0 m args below meth c H locs ls C1 hP hS hl)
theorem v_lald {kd i t n : Nat} {cA : ClassId} {f : Nat → Int64} {j : Int32} (hV : xV X s kd i) (ho : tt_ent X lc s kd i = .inl (cA, n, .inr (.inl f))) (ht : (xT X)[t]? = some (cA, .long)) (hin : inB j n = true) (d : decode cc pc = .ok (.laload, 1))
    (kk : tt_V X cc Y Q (pc + 1) lv (.long (f j.toNatClampNeg) :: rest) lc s ck cn) : tt_V X cc Y Q pc lv (.int j :: .ref (lc kd i) :: rest) lc s ck cn := by
  intro p1 e R s0 m args below meth c H locs ls C1 hP hS hl
  have hat := (hP.1 kd i hV).1
  rw [ho] at hat
  have hP1 : va_P (xD X) (xC X) [(lc kd i, .inl (cA, n, .inr (.inl f)))] H := fun k q hq => by
    match k, hq with
    | 0, hq => cases hq; exact hat
    | k + 1, hq => simp at hq
  exact va_lald C1.1 C1.2.1 C1.2.2.2.2.2.2.2.2.1.1 hP1 0 t rfl ht (inB_vp hin) d (kk p1 e R s0 m args below meth c H locs ls C1 hP hS hl)
theorem v_alen {kd i t : Nat} {cA : ClassId} {x : vp_A} {ty : FieldType} {v : Int32} (hV : xV X s kd i) (ho : tt_ent X lc s kd i = .inl (cA, x)) (ht : (xT X)[t]? = some (cA, ty)) (hv : Int32.ofNat x.1 = v) (d : decode cc pc = .ok (.arraylength, 1))
    (kk : tt_V X cc Y Q (pc + 1) lv (.int v :: rest) lc s ck cn) : tt_V X cc Y Q pc lv (.ref (lc kd i) :: rest) lc s ck cn := by
  intro p1 e R s0 m args below meth c H locs ls C1 hP hS hl
  have hat := (hP.1 kd i hV).1
  rw [ho] at hat
  have hP1 : va_P (xD X) (xC X) [(lc kd i, .inl (cA, x))] H := fun k q hq => by
    match k, hq with
    | 0, hq => cases hq; exact hat
    | k + 1, hq => simp at hq
  exact va_alen C1.1 C1.2.1 C1.2.2.2.2.2.2.2.2.1.1 hP1 0 t rfl ht hv d (kk p1 e R s0 m args below meth c H locs ls C1 hP hS hl)
theorem tt_updI (s : tt_St) (kd i j : Nat) (x : Int32) : rdI (wrI s kd i j x) kd i = upd (rdI s kd i) j x := by
  funext c
  rw [rdI_wrI]
  unfold upd
  by_cases h : c = j
  · rw [if_pos ⟨rfl, rfl, h⟩, if_pos h]
  · rw [if_neg (fun q => h q.2.2), if_neg h]
theorem tt_updL (s : tt_St) (kd i j : Nat) (x : Int64) : rdL (wrL s kd i j x) kd i = vp_updL (rdL s kd i) j x := by
  funext c
  rw [rdL_wrL]
  unfold vp_updL
  by_cases h : c = j
  · rw [if_pos ⟨rfl, rfl, h⟩, if_pos h]
  · rw [if_neg (fun q => h q.2.2), if_neg h]
theorem v_iast {s' : σ} {f : Nat → Int32} {kd i t n : Nat} {cA : ClassId} {j x : Int32} (hV : xV X s kd i) (ho : tt_ent X lc s kd i = .inl (cA, n, .inl f)) (ho' : tt_ent X lc s' kd i = .inl (cA, n, .inl (upd f j.toNatClampNeg x))) (hoth : ∀ kd' i', ¬ (kd' = kd ∧ i' = i) → tt_ent X lc s' kd' i' = tt_ent X lc s kd' i') (hlv : ∀ kd i, xV X s' kd i → xV X s kd i) (ht : (xT X)[t]? = some (cA, .int)) (hin : inB j n = true) (d : decode cc pc = .ok (.iastore, 1))
    (kk : tt_V X cc Y Q (pc + 1) lv rest lc s' ck cn) : tt_V X cc Y Q pc lv (.int x :: .int j :: .ref (lc kd i) :: rest) lc s ck cn := by
  intro p1 e R s0 m args below meth c H locs ls C1 hP hS hl
  have hat := (hP.1 kd i hV).1
  rw [ho] at hat
  refine W.iast C1.1 C1.2.1 hat ((C1.2.2.2.2.2.2.2.2.1.1.2 t _ ht).1 n (fun j => .int (f j))) (fun q => by cases q) (by show ¬ (j < 0 ∨ (arrV _ _ _).slots.size ≤ _); rw [arrV_size]; exact inB_vp hin) rfl rfl d fun H1 e1 z oq => ?_
  refine kk p1 e R s0 m args below meth c H1 _ ls C1 (hP.put hV ?_ hoth hlv oq) (hS.put z oq (hP.1 kd i hV).2) hl
  rw [ho']
  show H1[lc kd i]? = some (vp_cell _ _)
  rw [e1, vp_cell_i, vp_cell_i, arrV_store]
  congr 2
  funext q
  by_cases hq : q = j.toNatClampNeg
  · subst hq
    simp [updV, upd]
  · simp [updV, upd, hq]
theorem v_zast {s' : σ} {f : Nat → Int32} {kd i t n : Nat} {cA : ClassId} {j x : Int32} (hV : xV X s kd i) (ho : tt_ent X lc s kd i = .inl (cA, n, .inl f)) (ho' : tt_ent X lc s' kd i = .inl (cA, n, .inl (upd f j.toNatClampNeg x))) (hoth : ∀ kd' i', ¬ (kd' = kd ∧ i' = i) → tt_ent X lc s' kd' i' = tt_ent X lc s kd' i') (hlv : ∀ kd i, xV X s' kd i → xV X s kd i) (ht : (xT X)[t]? = some (cA, .boolean)) (hin : inB j n = true) (hx : narrow .boolean (.int x) = .int x) (d : decode cc pc = .ok (.bastore, 1))
    (kk : tt_V X cc Y Q (pc + 1) lv rest lc s' ck cn) : tt_V X cc Y Q pc lv (.int x :: .int j :: .ref (lc kd i) :: rest) lc s ck cn := by
  intro p1 e R s0 m args below meth c H locs ls C1 hP hS hl
  have hat := (hP.1 kd i hV).1
  rw [ho] at hat
  refine W.zast C1.1 C1.2.1 hat ((C1.2.2.2.2.2.2.2.2.1.1.2 t _ ht).1 n (fun j => .int (f j))) (fun q => by cases q) (by show ¬ (j < 0 ∨ (arrV _ _ _).slots.size ≤ _); rw [arrV_size]; exact inB_vp hin) rfl rfl d fun H1 e1 z oq => ?_
  refine kk p1 e R s0 m args below meth c H1 _ ls C1 (hP.put hV ?_ hoth hlv oq) (hS.put z oq (hP.1 kd i hV).2) hl
  rw [ho']
  show H1[lc kd i]? = some (vp_cell _ _)
  rw [e1, hx, vp_cell_i, vp_cell_i, arrV_store]
  congr 2
  funext q
  by_cases hq : q = j.toNatClampNeg
  · subst hq
    simp [updV, upd]
  · simp [updV, upd, hq]
theorem v_last {s' : σ} {f : Nat → Int64} {kd i t n : Nat} {cA : ClassId} {j : Int32} {x : Int64} (hV : xV X s kd i) (ho : tt_ent X lc s kd i = .inl (cA, n, .inr (.inl f))) (ho' : tt_ent X lc s' kd i = .inl (cA, n, .inr (.inl (vp_updL f j.toNatClampNeg x)))) (hoth : ∀ kd' i', ¬ (kd' = kd ∧ i' = i) → tt_ent X lc s' kd' i' = tt_ent X lc s kd' i') (hlv : ∀ kd i, xV X s' kd i → xV X s kd i) (ht : (xT X)[t]? = some (cA, .long)) (hin : inB j n = true) (d : decode cc pc = .ok (.lastore, 1))
    (kk : tt_V X cc Y Q (pc + 1) lv rest lc s' ck cn) : tt_V X cc Y Q pc lv (.long x :: .int j :: .ref (lc kd i) :: rest) lc s ck cn := by
  intro p1 e R s0 m args below meth c H locs ls C1 hP hS hl
  have hat := (hP.1 kd i hV).1
  rw [ho] at hat
  refine W.last C1.1 C1.2.1 hat ((C1.2.2.2.2.2.2.2.2.1.1.2 t _ ht).1 n (fun j => .long (f j))) (fun q => by cases q) (by show ¬ (j < 0 ∨ (arrV _ _ _).slots.size ≤ _); rw [arrV_size]; exact inB_vp hin) rfl rfl d fun H1 e1 z oq => ?_
  refine kk p1 e R s0 m args below meth c H1 _ ls C1 (hP.put hV ?_ hoth hlv oq) (hS.put z oq (hP.1 kd i hV).2) hl
  rw [ho']
  show H1[lc kd i]? = some (vp_cell _ _)
  rw [e1, vp_cell_l, vp_cell_l, arrV_store]
  congr 2
  funext q
  by_cases hq : q = j.toNatClampNeg
  · subst hq
    simp [updV, vp_updL]
  · simp [updV, vp_updL, hq]
/-! ends -/
theorem v_iret {v : Int32} {Qr : Option Value → (Nat → Nat → Nat) → σ → Prop} (hr : Y.2.2.1 = some .int) (h1 : ck ≤ Y.2.2.2.1.cells) (h2 : cn ≤ Y.2.2.2.1.slots) (d : decode cc pc = .ok (.ireturn, 1)) (h : Qr (some (.int v)) lc s) : tt_V X cc Y (tt_fn X Y Qr) pc lv [.int v] lc s ck cn := by
  intro p1 e R s0 m args below meth c H locs ls C1 hP hS hl
  have hlk : meth.locks = false := C1.2.2.2.2.2.2.1
  exact W.widen h1 h2 (W.iret C1.1 C1.2.1 (C1.2.2.2.2.2.1.trans hr) (fun t ht hW => ⟨⟨_, lc, s, rfl, h, by rw [ht]; exact hP⟩, hS.F ht⟩) hS.2.2 d)
theorem v_zret {v : Int32} {Qr : Option Value → (Nat → Nat → Nat) → σ → Prop} (hr : Y.2.2.1 = some .boolean) (hz : narrow .boolean (.int v) = .int v) (h1 : ck ≤ Y.2.2.2.1.cells) (h2 : cn ≤ Y.2.2.2.1.slots) (d : decode cc pc = .ok (.ireturn, 1)) (h : Qr (some (.int v)) lc s) : tt_V X cc Y (tt_fn X Y Qr) pc lv [.int v] lc s ck cn := by
  intro p1 e R s0 m args below meth c H locs ls C1 hP hS hl
  have hlk : meth.locks = false := C1.2.2.2.2.2.2.1
  exact W.widen h1 h2 (W.zret C1.1 C1.2.1 (C1.2.2.2.2.2.1.trans hr) hz (fun t ht hW => ⟨⟨_, lc, s, rfl, h, by rw [ht]; exact hP⟩, hS.F ht⟩) hS.2.2 d)
theorem v_lret {v : Int64} {Qr : Option Value → (Nat → Nat → Nat) → σ → Prop} (hr : Y.2.2.1 = some .long) (h1 : ck ≤ Y.2.2.2.1.cells) (h2 : cn ≤ Y.2.2.2.1.slots) (d : decode cc pc = .ok (.lreturn, 1)) (h : Qr (some (.long v)) lc s) : tt_V X cc Y (tt_fn X Y Qr) pc lv [.long v] lc s ck cn := by
  intro p1 e R s0 m args below meth c H locs ls C1 hP hS hl
  have hlk : meth.locks = false := C1.2.2.2.2.2.2.1
  exact W.widen h1 h2 (W.lret C1.1 C1.2.1 (C1.2.2.2.2.2.1.trans hr) (fun t ht hW => ⟨⟨_, lc, s, rfl, h, by rw [ht]; exact hP⟩, hS.F ht⟩) hS.2.2 d)
theorem v_vret {Qr : Option Value → (Nat → Nat → Nat) → σ → Prop} (hr : Y.2.2.1 = none) (h1 : ck ≤ Y.2.2.2.1.cells) (h2 : cn ≤ Y.2.2.2.1.slots) (d : decode cc pc = .ok (.return_, 1)) (h : Qr none lc s) : tt_V X cc Y (tt_fn X Y Qr) pc lv [] lc s ck cn := by
  intro p1 e R s0 m args below meth c H locs ls C1 hP hS hl
  have hlk : meth.locks = false := C1.2.2.2.2.2.2.1
  exact W.widen h1 h2 (W.vret C1.1 C1.2.1 (C1.2.2.2.2.2.1.trans hr) (fun t ht hW => ⟨⟨_, lc, s, rfl, h, by rw [ht]; exact hP⟩, hS.F ht⟩) hS.2.2 d)
/-! calls: the callee's contract at this state gives the state behind it -/
theorem tt_blind {av : List Value} {lc : Nat → Nat → Nat} {s : σ} (hk : tt_Kok X) : FrameBlind (va_Pc av (fun U => tt_Pic X lc s U.heap ∧ tt_K X U)) := by
  intro a U g mk h
  obtain ⟨h1, h2, h3, h4⟩ := h
  exact ⟨h1, h2, va_K.moved (u := U) (U := U.calling g mk a) (Vm.Alike.refl U.vm) h3, hk.2 U g mk a h4⟩
theorem tt_after {p1 : Program} {l : Launch} {e : Env} {R : Room} {s0 : State} {m : MethodId} {args : Array Value} {below : List Frame} {meth : Method} {c : Code} {H : Heap} {locs : List Loc} {mc ms : Nat} {ls : Array Slot} {st0 : List Value} {a : Array Value} {Q' : Option Value → (Nat → Nat → Nat) → σ → Prop} {Q0 : State → Prop}
    (hr : va_Run p1 l e R s0 m args below meth c H locs ck cn mc ms (F0 m pc ls st0) rest (tt_Q X Q' a) (xA X)) (hS : va_S (xA X) s0.heap H locs)
    (kk : ∀ (v : Option Value) (lc' : Nat → Nat → Nat) (s' : σ) (H1 : Heap) (locs1 : List Loc), Q' v lc' s' → tt_Pic X lc' s' H1 → va_S (xA X) s0.heap H1 locs1 → W p1 l e R s0 m args below meth c H1 locs1 (ck + mc) (cn + ms) Q0 (F0 m (pc + 3) ls (v.toList ++ rest))) : W p1 l e R s0 m args below meth c H locs ck cn Q0 (F0 m pc ls st0) := by
  intro T hT X1
  obtain ⟨v, st₀, t, T', L, h0, X', hL, e1, e2, ⟨⟨v', lc', s', hv, hq, hp⟩, hz, hk⟩, st⟩ := hr T hT X1
  cases hv
  rw [h0] at hz hk
  obtain ⟨t2, a1, b1⟩ := kk v lc' s' T'.heap (locs ++ L) hq (by rw [e1]; exact hp)
    ⟨Nat.le_trans hS.1 (by rw [e1]; exact hz), fun q h1 h2 => by rw [e1, hk q (Nat.lt_of_lt_of_le h1 hS.1) h2]; exact hS.2.1 q h1 h2, fun q hq => by
      rcases List.mem_append.mp hq with h | h
      · exact hS.2.2 q h
      · exact hL q h⟩ T' rfl X'
  exact ⟨t2, st t2 a1, b1⟩
theorem v_callV {y : MethodName} {bytes : ByteArray} {maxL idx nA kd i ci : Nat} {ret : Option FieldType} {rm : Room} {As : List Value} {Q' : Option Value → (Nat → Nat → Nat) → σ → Prop} {T : u_T} {N : Nat} {fs : List Value} (hV : xV X s kd i) (ho : tt_ent X lc s kd i = .inr (ci, fs)) (hc : (xC X)[ci]? = some (y.cls, T, N))
    (sp : tt_Sp X y bytes maxL ret rm (.ref (lc kd i) :: As) lc s Q') (hT : GoodIn lw_all (wsV Y.1 idx y.cls y (ws_ y bytes maxL ret))) (hd : y.cls = y.cls ∧ y.cls ≠ "java/lang/invoke/MethodHandle" ∧ y.cls ≠ "java/lang/invoke/VarHandle" ∧ (parseMethodDescriptor y.desc).map (fun d => d.parameters.length) = some nA)
    (hn : As.length = nA) (hR : rm.frames + 1 ≤ Y.2.2.2.1.frames ∧ 8 + (maxL + 11) + rm.locals ≤ Y.2.2.2.1.locals) (hW : (rest.map fun v => v.category).sum ≤ 8) (hf : ck + rm.cells ≤ Y.2.2.2.1.cells ∧ cn + rm.slots ≤ Y.2.2.2.1.slots) (d : decode cc pc = .ok (.invokevirtual idx, 3)) {st : List Value} (hst : st = As.reverse ++ .ref (lc kd i) :: rest)
    (kk : ∀ v lc' s', Q' v lc' s' → tt_V X cc Y Q (pc + 3) lv (v.toList ++ rest) lc' s' (ck + rm.cells) (cn + rm.slots)) : tt_V X cc Y Q pc lv st lc s ck cn := by
  intro p1 e R s0 m args below meth c H locs ls C1 hP hS hl
  have hat := (hP.1 kd i hV).1
  rw [ho] at hat
  have hP1 : va_P (xD X) (xC X) [(lc kd i, .inr (ci, fs))] H := fun k q hq => by
    match k, hq with
    | 0, hq => cases hq; exact hat
    | k + 1, hq => simp at hq
  have hRe : R = Y.2.2.2.1 := C1.2.2.2.2.2.2.2.1
  have run := va_runV (R := R) (l := X.1) (p := p1) (e := e) (below := below) (meth := meth) (locs := locs) (cells := ck) (slots := cn) (H := H) (g := F0 m pc ls st) (As := As) (rest := rest) (b := lc kd i) ⟨C1.1, C1.2.1, C1.2.2.1, C1.2.2.2.1, C1.2.2.2.2.1⟩ sp (cwV nA C1.2.2.2.2.1 hT rfl rfl rfl hd (by rw [hRe]; exact hR)) ⟨tt_blind C1.2.2.2.2.2.2.2.2.2.1, va_recv C1.2.2.2.2.2.2.2.2.1.1 hP1 (q0 := 0) hc rfl, fun U hU hW => ⟨rfl, by rw [hU]; exact hP, tt_K.moved C1.2.2.2.2.2.2.2.2.2.1 hW ⟨by rw [hU]; exact hS.1, fun q h1 h2 => by rw [hU]; exact hS.2.1 q h1 h2⟩ C1.2.2.2.2.2.2.2.2.1⟩⟩ rfl hn hl.1 hst (lv_room hW) d (by rw [hRe]; exact hf)
  exact tt_after run hS (fun v lc' s' H1 locs1 hq hp hs => kk v lc' s' hq p1 e R s0 m args below meth c H1 locs1 ls C1 hp hs hl)
theorem v_callS {y : MethodName} {bytes : ByteArray} {maxL idx nA : Nat} {ret : Option FieldType} {rm : Room} {As : List Value} {Q' : Option Value → (Nat → Nat → Nat) → σ → Prop}
    (sp : tt_Sp X y bytes maxL ret rm As lc s Q') (hT : GoodIn lw_all (va_wsS Y.1 idx y (ws_ y bytes maxL ret))) (hd : y.cls ≠ "java/lang/invoke/MethodHandle" ∧ y.cls ≠ "java/lang/invoke/VarHandle" ∧ (parseMethodDescriptor y.desc).map (fun d => d.parameters.length) = some nA)
    (hn : As.length = nA) (hR : rm.frames + 1 ≤ Y.2.2.2.1.frames ∧ 8 + (maxL + 11) + rm.locals ≤ Y.2.2.2.1.locals) (hW : (rest.map fun v => v.category).sum ≤ 8) (hf : ck + rm.cells ≤ Y.2.2.2.1.cells ∧ cn + rm.slots ≤ Y.2.2.2.1.slots) (d : decode cc pc = .ok (.invokestatic idx, 3)) {st : List Value} (hst : st = As.reverse ++ rest)
    (kk : ∀ v lc' s', Q' v lc' s' → tt_V X cc Y Q (pc + 3) lv (v.toList ++ rest) lc' s' (ck + rm.cells) (cn + rm.slots)) : tt_V X cc Y Q pc lv st lc s ck cn := by
  intro p1 e R s0 m args below meth c H locs ls C1 hP hS hl
  have hRe : R = Y.2.2.2.1 := C1.2.2.2.2.2.2.2.1
  have run := va_runS (R := R) (l := X.1) (p := p1) (e := e) (below := below) (meth := meth) (locs := locs) (cells := ck) (slots := cn) (H := H) (g := F0 m pc ls st) (As := As) (rest := rest) ⟨C1.1, C1.2.1, C1.2.2.1, C1.2.2.2.1, C1.2.2.2.2.1⟩ sp (va_cwS nA C1.2.2.2.2.1 hT rfl rfl rfl hd (by rw [hRe]; exact hR)) ⟨tt_blind C1.2.2.2.2.2.2.2.2.2.1, fun U hU hW => ⟨rfl, by rw [hU]; exact hP, tt_K.moved C1.2.2.2.2.2.2.2.2.2.1 hW ⟨by rw [hU]; exact hS.1, fun q h1 h2 => by rw [hU]; exact hS.2.1 q h1 h2⟩ C1.2.2.2.2.2.2.2.2.1⟩⟩ rfl hn hl.1 hst (lv_room hW) d (by rw [hRe]; exact hf)
  exact tt_after run hS (fun v lc' s' H1 locs1 hq hp hs => kk v lc' s' hq p1 e R s0 m args below meth c H1 locs1 ls C1 hp hs hl)
end VROWS
