set_option maxRecDepth 100000
section W2
variable {σ : Type} {X : tt_X σ} {cc : ByteArray} {Y : tt_Y} {Q : tt_Fin} {pc : Nat} {lv : List (Nat × Value)} {rest : List Value} {lc : Nat → Nat → Nat} {s : σ} {ck cn : Nat}
theorem v_ldcw {i : Nat} {v : Int32} (d : decode cc pc = .ok (.ldc_w i, 3)) (hw : Cond.constant Y.1 i v ∈ lw_all) (kk : tt_V X cc Y Q (pc + 3) lv (.int v :: rest) lc s ck cn) : tt_V X cc Y Q pc lv rest lc s ck cn :=
  fun p e R s0 m args below meth c H locs ls C hP hS hl => lv_ldcw C.1 C.2.1 C.2.2.2.1 (C.2.2.2.2.1 _ hw) d (kk p e R s0 m args below meth c H locs ls C hP hS hl)
end W2
theorem kb_63 : (Int8.ofInt 63).toInt32 = 63 := by decide
abbrev rmB_borne_14 : Room := { frames := 0, cells := 0, slots := 0, locals := 0 }
set_option maxHeartbeats 4000000 in
theorem mB_borne_14 (l : Launch) (D : va_G) (dA : Nat → ClassId) (A : Nat → Prop) (b : Bool) (lc : Nat → Nat → Nat) (s : tt_St) (x0 : Nat) (x1 : Int32) (hx0 : lvF x0) {Q : Option Value → (Nat → Nat → Nat) → tt_St → Prop} (h : Ok (fB_borne s x0 x1) (fun r => Q (some (.long r)) lc s)) : tt_Sp (XW l D dA A b) yX4_borne cX4_borne 5 (some .long) rmB_borne_14 [.ref (lc 14 x0), .int x1] lc s Q := by
  refine tt_Sp.ofV plX4 kokW (Nat.le_of_ble_eq_true rfl) ?_
  show tt_V (XW l D dA A b) cX4_borne (RX4, 5, (some .long), rmB_borne_14, tt_nt) (tt_fn (XW l D dA A b) (RX4, 5, (some .long), rmB_borne_14, tt_nt) Q) 0 [(0, .ref (lc 14 x0)), (1, .int x1)] [] lc s 0 0
  unfold fB_borne at h
  refine v_iload_n 1 dX4_borne_0 rfl ?_
  refine v_if_le (tgt := 11) dX4_borne_1 rfl (fun c1 => ?_) (fun c1 => ?_)
  · have h := Ok.pos h c1
    refine v_lconst dX4_borne_11 kl_0 ?_
    refine v_lstore_n [(2, .long (0 : Int64)), (0, .ref (lc 14 x0)), (1, .int x1)] dX4_borne_12 (Nat.le_of_ble_eq_true rfl) rfl ?_
    refine v_iconst dX4_borne_13 ic_0 ?_
    refine v_istore [(4, .int (0 : Int32)), (2, .long (0 : Int64)), (0, .ref (lc 14 x0)), (1, .int x1)] dX4_borne_14 (Nat.le_of_ble_eq_true rfl) rfl ?_
    refine v_sub [2, 1, 0] rfl ?_
    refine itr_loop (P := fun a2 : Int64 × Int32 => tt_V (XW l D dA A b) cX4_borne (RX4, 5, (some .long), rmB_borne_14, tt_nt) (tt_fn (XW l D dA A b) (RX4, 5, (some .long), rmB_borne_14, tt_nt) Q) 16 [(0, .ref (lc 14 x0)), (2, .long a2.1), (4, .int a2.2)] [] lc s 0 0) (PE := fun b3 : Int64 × Int32 => tt_V (XW l D dA A b) cX4_borne (RX4, 5, (some .long), rmB_borne_14, tt_nt) (tt_fn (XW l D dA A b) (RX4, 5, (some .long), rmB_borne_14, tt_nt) Q) 39 [(0, .ref (lc 14 x0)), (2, .long b3.1), (4, .int b3.2)] [] lc s 0 0) h (fun b3 h => ?_) (fun a2 h => ?_)
    · refine v_lload_n 1 dX4_borne_39 rfl ?_
      have h := Ok.ret h
      exact v_lret rfl (Nat.zero_le _) (Nat.zero_le _) dX4_borne_40 h
    · have h : Ok (fB_borne_L16 s x0 a2) _ := h
      unfold fB_borne_L16 at h
      refine v_iload 2 dX4_borne_16 rfl ?_
      refine v_bipush dX4_borne_18 kb_7 ?_
      refine v_icmp_ge (tgt := 39) dX4_borne_20 rfl (fun c4 => ?_) (fun c4 => ?_)
      · have h := Ok.pos h c4
        have h := Ok.ret h
        exact h
      · have h := Ok.neg h c4
        refine v_lload_n 1 dX4_borne_23 rfl ?_
        refine v_aload_n 0 dX4_borne_24 rfl ?_
        refine gW_X4_15_14 hx0 dX4_borne_25 ?_
        refine v_iload 2 dX4_borne_28 rfl ?_
        obtain ⟨g5, h⟩ := Ok.guard h
        refine lW_9 (.inr hx0) g5 dX4_borne_30 ?_
        refine v_ladd dX4_borne_31 ?_
        refine v_nmL (fun v6 e_v6 => ?_)
        have h := Ok.nm h e_v6
        refine v_lstore_n [(2, .long v6), (0, .ref (lc 14 x0)), (4, .int a2.2)] dX4_borne_32 (Nat.le_of_ble_eq_true rfl) rfl ?_
        refine v_iinc (v := (a2.2 + 1 : Int32)) 2 [(4, .int (a2.2 + 1 : Int32)), (2, .long v6), (0, .ref (lc 14 x0))] dX4_borne_33 rfl (by rw [ic_1]) (Nat.le_of_ble_eq_true rfl) rfl ?_
        refine v_goto (tgt := 16) dX4_borne_36 rfl ?_
        refine v_sub [2, 1, 0] rfl ?_
        have h := Ok.ret h
        exact h
  · have h := Ok.neg h c1
    refine v_aload_n 0 dX4_borne_4 rfl ?_
    refine gW_X4_9_14 hx0 dX4_borne_5 ?_
    refine v_iload_n 1 dX4_borne_8 rfl ?_
    obtain ⟨g7, h⟩ := Ok.guard h
    refine lW_8 (.inr hx0) g7 dX4_borne_9 ?_
    have h := Ok.ret h
    exact v_lret rfl (Nat.zero_le _) (Nat.zero_le _) dX4_borne_10 h
def fJI_bitCount (x0 : Int32) : Option (Int32) :=
  nm (x0 - (((x0.toUInt32 >>> ((1 : Int32).toUInt32 &&& Int32.toUInt32 31)).toInt32) &&& (1431655765 : Int32))) fun v1 => nm ((v1 &&& (858993459 : Int32)) + (((v1.toUInt32 >>> ((2 : Int32).toUInt32 &&& Int32.toUInt32 31)).toInt32) &&& (858993459 : Int32))) fun v2 => nm ((v2 + ((v2.toUInt32 >>> ((4 : Int32).toUInt32 &&& Int32.toUInt32 31)).toInt32)) &&& (252645135 : Int32)) fun v3 => nm (v3 + ((v3.toUInt32 >>> ((8 : Int32).toUInt32 &&& Int32.toUInt32 31)).toInt32)) fun v4 => nm (v4 + ((v4.toUInt32 >>> ((16 : Int32).toUInt32 &&& Int32.toUInt32 31)).toInt32)) fun v5 => some (v5 &&& (63 : Int32))
abbrev rmJI_bitCount : Room := { frames := 0, cells := 0, slots := 0, locals := 0 }
set_option maxHeartbeats 4000000 in
theorem mJI_bitCount {σ : Type} (X : tt_X σ) (hk : tt_Kok X) (lc : Nat → Nat → Nat) (s : σ) (x0 : Int32) {Q : Option Value → (Nat → Nat → Nat) → σ → Prop} (h : Ok (fJI_bitCount x0) (fun r => Q (some (.int r)) lc s)) : tt_Sp X yJ11_bitCount cJ11_bitCount 1 (some .int) rmJI_bitCount [.int x0] lc s Q := by
  refine tt_Sp.ofV plJ11 hk (Nat.le_of_ble_eq_true rfl) ?_
  show tt_V X cJ11_bitCount (RJ11, 1, (some .int), rmJI_bitCount, tt_nt) (tt_fn X (RJ11, 1, (some .int), rmJI_bitCount, tt_nt) Q) 0 [(0, .int x0)] [] lc s 0 0
  unfold fJI_bitCount at h
  refine v_iload_n 0 dJ11_bitCount_0 rfl ?_
  refine v_iload_n 0 dJ11_bitCount_1 rfl ?_
  refine v_iconst dJ11_bitCount_2 ic_1 ?_
  refine v_iushr dJ11_bitCount_3 rfl ?_
  refine v_ldcw dJ11_bitCount_4 q1084 ?_
  refine v_iand dJ11_bitCount_7 ?_
  refine v_isub dJ11_bitCount_8 ?_
  refine v_nmI (fun v1 e_v1 => ?_)
  have h := Ok.nm h e_v1
  refine v_istore_n [(0, .int v1)] dJ11_bitCount_9 (Nat.le_of_ble_eq_true rfl) rfl ?_
  refine v_iload_n 0 dJ11_bitCount_10 rfl ?_
  refine v_ldcw dJ11_bitCount_11 q1085 ?_
  refine v_iand dJ11_bitCount_14 ?_
  refine v_iload_n 0 dJ11_bitCount_15 rfl ?_
  refine v_iconst dJ11_bitCount_16 ic_2 ?_
  refine v_iushr dJ11_bitCount_17 rfl ?_
  refine v_ldcw dJ11_bitCount_18 q1085 ?_
  refine v_iand dJ11_bitCount_21 ?_
  refine v_iadd dJ11_bitCount_22 ?_
  refine v_nmI (fun v2 e_v2 => ?_)
  have h := Ok.nm h e_v2
  refine v_istore_n [(0, .int v2)] dJ11_bitCount_23 (Nat.le_of_ble_eq_true rfl) rfl ?_
  refine v_iload_n 0 dJ11_bitCount_24 rfl ?_
  refine v_iload_n 0 dJ11_bitCount_25 rfl ?_
  refine v_iconst dJ11_bitCount_26 ic_4 ?_
  refine v_iushr dJ11_bitCount_27 rfl ?_
  refine v_iadd dJ11_bitCount_28 ?_
  refine v_ldcw dJ11_bitCount_29 q1086 ?_
  refine v_iand dJ11_bitCount_32 ?_
  refine v_nmI (fun v3 e_v3 => ?_)
  have h := Ok.nm h e_v3
  refine v_istore_n [(0, .int v3)] dJ11_bitCount_33 (Nat.le_of_ble_eq_true rfl) rfl ?_
  refine v_iload_n 0 dJ11_bitCount_34 rfl ?_
  refine v_iload_n 0 dJ11_bitCount_35 rfl ?_
  refine v_bipush dJ11_bitCount_36 kb_8 ?_
  refine v_iushr dJ11_bitCount_38 rfl ?_
  refine v_iadd dJ11_bitCount_39 ?_
  refine v_nmI (fun v4 e_v4 => ?_)
  have h := Ok.nm h e_v4
  refine v_istore_n [(0, .int v4)] dJ11_bitCount_40 (Nat.le_of_ble_eq_true rfl) rfl ?_
  refine v_iload_n 0 dJ11_bitCount_41 rfl ?_
  refine v_iload_n 0 dJ11_bitCount_42 rfl ?_
  refine v_bipush dJ11_bitCount_43 kb_16 ?_
  refine v_iushr dJ11_bitCount_45 rfl ?_
  refine v_iadd dJ11_bitCount_46 ?_
  refine v_nmI (fun v5 e_v5 => ?_)
  have h := Ok.nm h e_v5
  refine v_istore_n [(0, .int v5)] dJ11_bitCount_47 (Nat.le_of_ble_eq_true rfl) rfl ?_
  refine v_iload_n 0 dJ11_bitCount_48 rfl ?_
  refine v_bipush dJ11_bitCount_49 kb_63 ?_
  refine v_iand dJ11_bitCount_51 ?_
  have h := Ok.ret h
  exact v_iret rfl (Nat.zero_le _) (Nat.zero_le _) dJ11_bitCount_52 h
