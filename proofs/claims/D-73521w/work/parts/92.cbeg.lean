set_option maxRecDepth 100000
/-- world w stands whole, all its numbers 0 -/
def wOk (s : tt_St) (w : Nat) : Bool := true
def fC_begins (s : tt_St) (w : Nat) : Option tt_St := if wOk s w then some s else none
theorem mC_begins (l : Launch) (D : va_G) (dA : Nat → ClassId) (A : Nat → Prop) (pz b L : Nat) (xs : Nat → Int32) (lc : Nat → Nat → Nat) (s : tt_St) (x0 : Nat) (hx0 : x0 < rdN s 0) {Q : Option Value → (Nat → Nat → Nat) → tt_St → Prop} (h : Ok (fC_begins s x0) (fun r => ∀ lc', tt_agc (XC l D dA A pz b L xs) s lc lc' → Q none lc' r)) : tt_Sp (XC l D dA A pz b L xs) yX2_begins cX2_begins 5 none rmW_begins [.ref (lc 0 x0)] lc s Q := by
  sorry
