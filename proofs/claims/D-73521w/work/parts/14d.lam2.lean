/-! the made classes of the lambda sites, printed by glam.py -/
def lam_s1 : Lambda.Shape := match siteWord_1_1 with | .lambdaSite _ _ _ q => q | _ => default
def lam_x1 : MethodName := ⟨"TallTowers$World", "<init>", "()V"⟩
theorem lam_w1 : siteWord_1_1 = .lambdaSite lam_x1 252 93 lam_s1 := rfl
def lam_b1 : ByteArray := ⟨#[0x2a, 0xb4, 0x00, 0x0f, 0x2b, 0x20, 0x19, 0x04, 0xb6, 0x00, 0x16, 0xb1]⟩
set_option maxRecDepth 20000 in
theorem lam_i1 : lam_is lam_s1 "TallTowers$World" lam_b1 5 22 19 [15] := lam_is_of (nt := 21) (n := 18) (fi := [(15, 2, 14, "arg$1", "LTallTowers$World;")]) (by decide +kernel)
def lam_s2 : Lambda.Shape := match siteWord_1_2 with | .lambdaSite _ _ _ q => q | _ => default
def lam_x2 : MethodName := ⟨"TallTowers$World", "<init>", "()V"⟩
theorem lam_w2 : siteWord_1_2 = .lambdaSite lam_x2 268 100 lam_s2 := rfl
def lam_b2 : ByteArray := ⟨#[0x2a, 0xb4, 0x00, 0x0f, 0x2b, 0x20, 0x19, 0x04, 0xb6, 0x00, 0x16, 0xb1]⟩
set_option maxRecDepth 20000 in
theorem lam_i2 : lam_is lam_s2 "TallTowers$World" lam_b2 5 22 19 [15] := lam_is_of (nt := 21) (n := 18) (fi := [(15, 2, 14, "arg$1", "LTallTowers$World;")]) (by decide +kernel)
def lam_s3 : Lambda.Shape := match siteWord_1_3 with | .lambdaSite _ _ _ q => q | _ => default
def lam_x3 : MethodName := ⟨"TallTowers$World", "<init>", "()V"⟩
theorem lam_w3 : siteWord_1_3 = .lambdaSite lam_x3 284 101 lam_s3 := rfl
def lam_b3 : ByteArray := ⟨#[0x2a, 0xb4, 0x00, 0x0f, 0x2b, 0x20, 0x19, 0x04, 0xb6, 0x00, 0x16, 0xb1]⟩
set_option maxRecDepth 20000 in
theorem lam_i3 : lam_is lam_s3 "TallTowers$World" lam_b3 5 22 19 [15] := lam_is_of (nt := 21) (n := 18) (fi := [(15, 2, 14, "arg$1", "LTallTowers$World;")]) (by decide +kernel)
def lam_s4 : Lambda.Shape := match siteWord_1_4 with | .lambdaSite _ _ _ q => q | _ => default
def lam_x4 : MethodName := ⟨"TallTowers$World", "<init>", "()V"⟩
theorem lam_w4 : siteWord_1_4 = .lambdaSite lam_x4 300 102 lam_s4 := rfl
def lam_b4 : ByteArray := ⟨#[0x2a, 0xb4, 0x00, 0x0f, 0x2b, 0x20, 0x19, 0x04, 0xb6, 0x00, 0x16, 0xb1]⟩
set_option maxRecDepth 20000 in
theorem lam_i4 : lam_is lam_s4 "TallTowers$World" lam_b4 5 22 19 [15] := lam_is_of (nt := 21) (n := 18) (fi := [(15, 2, 14, "arg$1", "LTallTowers$World;")]) (by decide +kernel)
def lam_s5 : Lambda.Shape := match siteWord_1_5 with | .lambdaSite _ _ _ q => q | _ => default
def lam_x5 : MethodName := ⟨"TallTowers", "place", "(IIII)I"⟩
theorem lam_w5 : siteWord_1_5 = .lambdaSite lam_x5 49 111 lam_s5 := rfl
def lam_b5 : ByteArray := ⟨#[0x2a, 0xb4, 0x00, 0x13, 0x2a, 0xb4, 0x00, 0x15, 0x2a, 0xb4, 0x00, 0x17, 0x2a, 0xb4, 0x00, 0x19, 0x2a, 0xb4, 0x00, 0x1b, 0x2b, 0xb8, 0x00, 0x23, 0xac]⟩
set_option maxRecDepth 20000 in
theorem lam_i5 : lam_is lam_s5 "TallTowers" lam_b5 2 35 31 [19, 21, 23, 25, 27] := lam_is_of (nt := 34) (n := 30) (fi := [(19, 2, 18, "arg$1", "I"), (21, 2, 20, "arg$2", "I"), (23, 2, 22, "arg$3", "I"), (25, 2, 24, "arg$4", "I"), (27, 2, 26, "arg$5", "I")]) (by decide +kernel)
def lam_s6 : Lambda.Shape := match siteWord_1_6 with | .lambdaSite _ _ _ q => q | _ => default
def lam_x6 : MethodName := ⟨"TallTowers", "sign", "(III)I"⟩
theorem lam_w6 : siteWord_1_6 = .lambdaSite lam_x6 26 124 lam_s6 := rfl
def lam_b6 : ByteArray := ⟨#[0x2a, 0xb4, 0x00, 0x11, 0x2a, 0xb4, 0x00, 0x13, 0x2a, 0xb4, 0x00, 0x15, 0x2b, 0xb8, 0x00, 0x1d, 0xac]⟩
set_option maxRecDepth 20000 in
theorem lam_i6 : lam_is lam_s6 "TallTowers" lam_b6 2 29 25 [17, 19, 21] := lam_is_of (nt := 28) (n := 24) (fi := [(17, 2, 16, "arg$1", "I"), (19, 2, 18, "arg$2", "I"), (21, 2, 20, "arg$3", "I")]) (by decide +kernel)
def lam_s7 : Lambda.Shape := match siteWord_1_7 with | .lambdaSite _ _ _ q => q | _ => default
def lam_x7 : MethodName := ⟨"TallTowers", "lack", "(I)I"⟩
theorem lam_w7 : siteWord_1_7 = .lambdaSite lam_x7 9 133 lam_s7 := rfl
def lam_b7 : ByteArray := ⟨#[0x2a, 0xb4, 0x00, 0x0f, 0x2b, 0xb8, 0x00, 0x17, 0xac]⟩
set_option maxRecDepth 20000 in
theorem lam_i7 : lam_is lam_s7 "TallTowers" lam_b7 2 23 19 [15] := lam_is_of (nt := 22) (n := 18) (fi := [(15, 2, 14, "arg$1", "I")]) (by decide +kernel)
def lam_s8 : Lambda.Shape := match siteWord_1_8 with | .lambdaSite _ _ _ q => q | _ => default
def lam_x8 : MethodName := ⟨"TallTowers", "rules", "(III)I"⟩
theorem lam_w8 : siteWord_1_8 = .lambdaSite lam_x8 48 155 lam_s8 := rfl
def lam_b8 : ByteArray := ⟨#[0x2a, 0xb4, 0x00, 0x11, 0x2a, 0xb4, 0x00, 0x13, 0x2a, 0xb4, 0x00, 0x15, 0x2b, 0xb8, 0x00, 0x1d, 0xac]⟩
set_option maxRecDepth 20000 in
theorem lam_i8 : lam_is lam_s8 "TallTowers" lam_b8 2 29 25 [17, 19, 21] := lam_is_of (nt := 28) (n := 24) (fi := [(17, 2, 16, "arg$1", "I"), (19, 2, 18, "arg$2", "I"), (21, 2, 20, "arg$3", "I")]) (by decide +kernel)
def lam_s9 : Lambda.Shape := match siteWord_1_9 with | .lambdaSite _ _ _ q => q | _ => default
def lam_x9 : MethodName := ⟨"TallTowers", "harm", "(IIII)I"⟩
theorem lam_w9 : siteWord_1_9 = .lambdaSite lam_x9 36 160 lam_s9 := rfl
def lam_b9 : ByteArray := ⟨#[0x2a, 0xb4, 0x00, 0x13, 0x2a, 0xb4, 0x00, 0x15, 0x2a, 0xb4, 0x00, 0x17, 0x2a, 0xb4, 0x00, 0x19, 0x2a, 0xb4, 0x00, 0x1b, 0x2b, 0xb8, 0x00, 0x23, 0xac]⟩
set_option maxRecDepth 20000 in
theorem lam_i9 : lam_is lam_s9 "TallTowers" lam_b9 2 35 31 [19, 21, 23, 25, 27] := lam_is_of (nt := 34) (n := 30) (fi := [(19, 2, 18, "arg$1", "I"), (21, 2, 20, "arg$2", "I"), (23, 2, 22, "arg$3", "I"), (25, 2, 24, "arg$4", "I"), (27, 2, 26, "arg$5", "I")]) (by decide +kernel)
def lam_s10 : Lambda.Shape := match siteWord_1_10 with | .lambdaSite _ _ _ q => q | _ => default
def lam_x10 : MethodName := ⟨"TallTowers", "grow", "(II)J"⟩
theorem lam_w10 : siteWord_1_10 = .lambdaSite lam_x10 26 169 lam_s10 := rfl
def lam_b10 : ByteArray := ⟨#[0x2a, 0xb4, 0x00, 0x10, 0x2a, 0xb4, 0x00, 0x12, 0x2b, 0xb8, 0x00, 0x1a, 0xac]⟩
set_option maxRecDepth 20000 in
theorem lam_i10 : lam_is lam_s10 "TallTowers" lam_b10 2 26 22 [16, 18] := lam_is_of (nt := 25) (n := 21) (fi := [(16, 2, 15, "arg$1", "I"), (18, 2, 17, "arg$2", "I")]) (by decide +kernel)
def lam_s11 : Lambda.Shape := match siteWord_1_11 with | .lambdaSite _ _ _ q => q | _ => default
def lam_x11 : MethodName := ⟨"TallTowers", "settle", "(II)I"⟩
theorem lam_w11 : siteWord_1_11 = .lambdaSite lam_x11 22 172 lam_s11 := rfl
def lam_b11 : ByteArray := ⟨#[0x2a, 0xb4, 0x00, 0x10, 0x2a, 0xb4, 0x00, 0x12, 0x2b, 0xb8, 0x00, 0x1a, 0xac]⟩
set_option maxRecDepth 20000 in
theorem lam_i11 : lam_is lam_s11 "TallTowers" lam_b11 2 26 22 [16, 18] := lam_is_of (nt := 25) (n := 21) (fi := [(16, 2, 15, "arg$1", "I"), (18, 2, 17, "arg$2", "I")]) (by decide +kernel)
def lam_s12 : Lambda.Shape := match siteWord_1_12 with | .lambdaSite _ _ _ q => q | _ => default
def lam_x12 : MethodName := ⟨"TallTowers", "fall", "(I)I"⟩
theorem lam_w12 : siteWord_1_12 = .lambdaSite lam_x12 13 176 lam_s12 := rfl
def lam_b12 : ByteArray := ⟨#[0x2a, 0xb4, 0x00, 0x0f, 0x2b, 0xb8, 0x00, 0x17, 0xac]⟩
set_option maxRecDepth 20000 in
theorem lam_i12 : lam_is lam_s12 "TallTowers" lam_b12 2 23 19 [15] := lam_is_of (nt := 22) (n := 18) (fi := [(15, 2, 14, "arg$1", "I")]) (by decide +kernel)
def lam_s13 : Lambda.Shape := match siteWord_1_13 with | .lambdaSite _ _ _ q => q | _ => default
def lam_x13 : MethodName := ⟨"TallTowers", "reopen", "(I)J"⟩
theorem lam_w13 : siteWord_1_13 = .lambdaSite lam_x13 17 177 lam_s13 := rfl
def lam_b13 : ByteArray := ⟨#[0x2a, 0xb4, 0x00, 0x0f, 0x2b, 0xb8, 0x00, 0x17, 0xac]⟩
set_option maxRecDepth 20000 in
theorem lam_i13 : lam_is lam_s13 "TallTowers" lam_b13 2 23 19 [15] := lam_is_of (nt := 22) (n := 18) (fi := [(15, 2, 14, "arg$1", "I")]) (by decide +kernel)
def lam_s14 : Lambda.Shape := match siteWord_1_14 with | .lambdaSite _ _ _ q => q | _ => default
def lam_x14 : MethodName := ⟨"TallTowers", "year", "(II)J"⟩
theorem lam_w14 : siteWord_1_14 = .lambdaSite lam_x14 119 258 lam_s14 := rfl
def lam_b14 : ByteArray := ⟨#[0x2b, 0xb8, 0x00, 0x11, 0xad]⟩
set_option maxRecDepth 20000 in
theorem lam_i14 : lam_is lam_s14 "TallTowers" lam_b14 2 17 14 [] := lam_is_of (nt := 16) (n := 13) (fi := []) (by decide +kernel)
def lam_s15 : Lambda.Shape := match siteWord_1_15 with | .lambdaSite _ _ _ q => q | _ => default
def lam_x15 : MethodName := ⟨"TallTowers", "year", "(II)J"⟩
theorem lam_w15 : siteWord_1_15 = .lambdaSite lam_x15 153 265 lam_s15 := rfl
def lam_b15 : ByteArray := ⟨#[0x2b, 0xb8, 0x00, 0x11, 0xad]⟩
set_option maxRecDepth 20000 in
theorem lam_i15 : lam_is lam_s15 "TallTowers" lam_b15 2 17 14 [] := lam_is_of (nt := 16) (n := 13) (fi := []) (by decide +kernel)
def lam_s16 : Lambda.Shape := match siteWord_1_16 with | .lambdaSite _ _ _ q => q | _ => default
def lam_x16 : MethodName := ⟨"TallTowers", "year", "(II)J"⟩
theorem lam_w16 : siteWord_1_16 = .lambdaSite lam_x16 165 266 lam_s16 := rfl
def lam_b16 : ByteArray := ⟨#[0x2b, 0xb8, 0x00, 0x11, 0xad]⟩
set_option maxRecDepth 20000 in
theorem lam_i16 : lam_is lam_s16 "TallTowers" lam_b16 2 17 14 [] := lam_is_of (nt := 16) (n := 13) (fi := []) (by decide +kernel)
def lam_s17 : Lambda.Shape := match siteWord_1_17 with | .lambdaSite _ _ _ q => q | _ => default
def lam_x17 : MethodName := ⟨"TallTowers", "year", "(II)J"⟩
theorem lam_w17 : siteWord_1_17 = .lambdaSite lam_x17 176 267 lam_s17 := rfl
def lam_b17 : ByteArray := ⟨#[0x2b, 0xb8, 0x00, 0x11, 0xad]⟩
set_option maxRecDepth 20000 in
theorem lam_i17 : lam_is lam_s17 "TallTowers" lam_b17 2 17 14 [] := lam_is_of (nt := 16) (n := 13) (fi := []) (by decide +kernel)
def lam_s18 : Lambda.Shape := match siteWord_1_18 with | .lambdaSite _ _ _ q => q | _ => default
def lam_x18 : MethodName := ⟨"TallTowers", "cover", "(III)I"⟩
theorem lam_w18 : siteWord_1_18 = .lambdaSite lam_x18 25 434 lam_s18 := rfl
def lam_b18 : ByteArray := ⟨#[0x2a, 0xb4, 0x00, 0x10, 0x2a, 0xb4, 0x00, 0x12, 0x2b, 0xb8, 0x00, 0x1a, 0xad]⟩
set_option maxRecDepth 20000 in
theorem lam_i18 : lam_is lam_s18 "TallTowers" lam_b18 2 26 22 [16, 18] := lam_is_of (nt := 25) (n := 21) (fi := [(16, 2, 15, "arg$1", "I"), (18, 2, 17, "arg$2", "I")]) (by decide +kernel)
def lam_s19 : Lambda.Shape := match siteWord_1_19 with | .lambdaSite _ _ _ q => q | _ => default
def lam_x19 : MethodName := ⟨"TallTowers", "strongest", "(I)J"⟩
theorem lam_w19 : siteWord_1_19 = .lambdaSite lam_x19 24 447 lam_s19 := rfl
def lam_b19 : ByteArray := ⟨#[0x2b, 0xb8, 0x00, 0x11, 0xad]⟩
set_option maxRecDepth 20000 in
theorem lam_i19 : lam_is lam_s19 "TallTowers" lam_b19 2 17 14 [] := lam_is_of (nt := 16) (n := 13) (fi := []) (by decide +kernel)
def lam_s20 : Lambda.Shape := match siteWord_1_20 with | .lambdaSite _ _ _ q => q | _ => default
def lam_x20 : MethodName := ⟨"TallTowers", "holds", "(III)I"⟩
theorem lam_w20 : siteWord_1_20 = .lambdaSite lam_x20 22 448 lam_s20 := rfl
def lam_b20 : ByteArray := ⟨#[0x2a, 0xb4, 0x00, 0x10, 0x2a, 0xb4, 0x00, 0x12, 0x2b, 0xb8, 0x00, 0x1a, 0xad]⟩
set_option maxRecDepth 20000 in
theorem lam_i20 : lam_is lam_s20 "TallTowers" lam_b20 2 26 22 [16, 18] := lam_is_of (nt := 25) (n := 21) (fi := [(16, 2, 15, "arg$1", "I"), (18, 2, 17, "arg$2", "I")]) (by decide +kernel)
