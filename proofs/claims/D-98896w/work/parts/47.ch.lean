set_option maxRecDepth 100000
/-! java/lang/StringBuilder append -/
abbrev cJ18_append : ByteArray := prog_29_method_14_code
def yJ18_append : MethodName := ⟨RJ18, "append", "(C)Ljava/lang/StringBuilder;"⟩
def dkwJ18_append_0 : List UInt8 := [42, 27, 183, 0, 50, 87, 42, 176]
abbrev dktJ18_append_0 : List UInt8 := dkwJ18_append_0 ++ []
theorem dksJ18_append_0 : cJ18_append.data.toList.drop 0 = dktJ18_append_0 := by decide +kernel
theorem dJ18_append_0 : decode cJ18_append 0 = .ok (.aload_n 0, 1) := dk_42 (dk_at dksJ18_append_0 0 rfl rfl)
theorem dJ18_append_1 : decode cJ18_append 1 = .ok (.iload_n 1, 1) := dk_27 (dk_at dksJ18_append_0 1 rfl rfl)
theorem dJ18_append_2 : decode cJ18_append 2 = .ok (.invokespecial 50, 3) := dk_183 0 50 (dk_at dksJ18_append_0 2 rfl rfl)
theorem dJ18_append_5 : decode cJ18_append 5 = .ok (.pop, 1) := dk_87 (dk_at dksJ18_append_0 5 rfl rfl)
theorem dJ18_append_6 : decode cJ18_append 6 = .ok (.aload_n 0, 1) := dk_42 (dk_at dksJ18_append_0 6 rfl rfl)
theorem dJ18_append_7 : decode cJ18_append 7 = .ok (.areturn, 1) := dk_176 (dk_at dksJ18_append_0 7 rfl rfl)
abbrev mJ18_append : xM := (yJ18_append, cJ18_append, 2, (some (.object "java/lang/StringBuilder")), [])
def c_J18_append (x0 : Option Nat) (x1 : Int32) (T : xF) : Option (Option Nat × xF) :=
  if ¬ isO T x0 12 = true then none else
  cl (c_J17_append x0 x1 T) T fun v2 T2 =>
  some (x0, T2)
theorem w_J18_append {G : xG}  {T : xF} {x0 : Option Nat} {x1 : Int32} {q : (Option Nat × xF)} (hf : c_J18_append x0 x1 T = some q) : Ct G mJ18_append (6) T [va_rf x0, .int x1] (.inl (some (va_rf q.1))) q.2 := by
  refine Ct.ofc (plainFor_of_name (by decide +kernel)) rfl (xvQ (xvI xvN)) (Nat.le_of_ble_eq_true rfl) (show Xr G _ 0 [(0, va_rf x0), (1, .int x1)] [] _ from ?_)
  unfold c_J18_append at hf
  refine C.aload_n dJ18_append_0 rfl 0 rfl ?_
  refine X.iload_n dJ18_append_1 rfl 1 rfl ?_
  obtain ⟨c2, hf⟩ := if_n hf
  obtain ⟨v2, T2, h2, hf, l2, r2⟩ := cl_ok hf
  refine C.SUq (As := [.int x1]) (rest := []) dJ18_append_2 (w_J17_append h2) cJ18_50 (Classical.not_not.mp c2) rfl rfl (xcs xvN (Nat.le_of_ble_eq_true rfl)) rfl rfl (xD (Nat.le_of_ble_eq_true rfl)) l2 r2 ?_
  refine X.pop dJ18_append_5 (cat1 _) ?_
  refine C.aload_n dJ18_append_6 rfl 0 rfl ?_
  obtain rfl := Option.some.inj hf
  exact X.aret dJ18_append_7 rfl (Or.inl ⟨_, rfl⟩) rfl
theorem cX7_29 : xCV RX7 29 mJ18_append 1 := ⟨lw_V q1156 q1157 q1158 q150 q1159, rfl, ⟨by decide +kernel, by decide +kernel, by decide +kernel⟩, Nat.le_of_ble_eq_true rfl⟩
/-! MouldVotes$Chain add -/
abbrev cX7_add : ByteArray := prog_2_method_2_code
def yX7_add : MethodName := ⟨RX7, "add", "(CLMouldVotes$Form;)V"⟩
def dkwX7_add_0 : List UInt8 := [42, 180, 0, 19, 27, 182, 0, 29, 87, 42, 180, 0, 10, 44, 185, 0, 23, 2, 0, 87, 177]
abbrev dktX7_add_0 : List UInt8 := dkwX7_add_0 ++ []
theorem dksX7_add_0 : cX7_add.data.toList.drop 0 = dktX7_add_0 := by decide +kernel
theorem dX7_add_0 : decode cX7_add 0 = .ok (.aload_n 0, 1) := dk_42 (dk_at dksX7_add_0 0 rfl rfl)
theorem dX7_add_1 : decode cX7_add 1 = .ok (.getfield 19, 3) := dk_180 0 19 (dk_at dksX7_add_0 1 rfl rfl)
theorem dX7_add_4 : decode cX7_add 4 = .ok (.iload_n 1, 1) := dk_27 (dk_at dksX7_add_0 4 rfl rfl)
theorem dX7_add_5 : decode cX7_add 5 = .ok (.invokevirtual 29, 3) := dk_182 0 29 (dk_at dksX7_add_0 5 rfl rfl)
theorem dX7_add_8 : decode cX7_add 8 = .ok (.pop, 1) := dk_87 (dk_at dksX7_add_0 8 rfl rfl)
theorem dX7_add_9 : decode cX7_add 9 = .ok (.aload_n 0, 1) := dk_42 (dk_at dksX7_add_0 9 rfl rfl)
theorem dX7_add_10 : decode cX7_add 10 = .ok (.getfield 10, 3) := dk_180 0 10 (dk_at dksX7_add_0 10 rfl rfl)
theorem dX7_add_13 : decode cX7_add 13 = .ok (.aload_n 2, 1) := dk_44 (dk_at dksX7_add_0 13 rfl rfl)
theorem dX7_add_14 : decode cX7_add 14 = .ok (.invokeinterface 23 2, 5) := by decide +kernel
theorem dX7_add_19 : decode cX7_add 19 = .ok (.pop, 1) := dk_87 (dk_at dksX7_add_0 19 rfl rfl)
theorem dX7_add_20 : decode cX7_add 20 = .ok (.return_, 1) := dk_177 (dk_at dksX7_add_0 20 rfl rfl)
abbrev mX7_add : xM := (yX7_add, cX7_add, 3, none, [])
def c_X7_add (G : xG) (x0 : Option Nat) (x1 : Int32) (x2 : Option Nat) (T : xF) : Option (Unit × xF) :=
  (oQ T x0 6 1).bind fun v1 =>
  if ¬ isO T v1 12 = true then none else
  cl (c_J18_append v1 x1 T) T fun v5 T5 =>
  (oQ T5 x0 6 0).bind fun v10 =>
  if ¬ isO T5 v10 10 = true then none else
  cl (c_J2_add G v10 x2 T5) T5 fun v14 T14 =>
  some ((), T14)
theorem w_X7_add {G : xG}  {T : xF} {x0 : Option Nat} {x1 : Int32} {x2 : Option Nat} {q : (Unit × xF)} (hf : c_X7_add G x0 x1 x2 T = some q) : Ct G mX7_add (8) T [va_rf x0, .int x1, va_rf x2] (.inl none) q.2 := by
  refine Ct.ofc (plainFor_of_name (by decide +kernel)) rfl (xvQ (xvI (xvQ xvN))) (Nat.le_of_ble_eq_true rfl) (show Xr G _ 0 [(0, va_rf x0), (1, .int x1), (2, va_rf x2)] [] _ from ?_)
  unfold c_X7_add at hf
  refine C.aload_n dX7_add_0 rfl 0 rfl ?_
  obtain ⟨v1, h1, hf⟩ := ob hf
  refine C.getQ dX7_add_1 rX7_19 h1 ?_
  refine X.iload_n dX7_add_4 rfl 1 rfl ?_
  obtain ⟨c5, hf⟩ := if_n hf
  obtain ⟨v5, T5, h5, hf, l5, r5⟩ := cl_ok hf
  refine C.Vq (As := [.int x1]) (rest := []) dX7_add_5 (w_J18_append h5) cX7_29 (Classical.not_not.mp c5) rfl rfl (xcs xvN (Nat.le_of_ble_eq_true rfl)) rfl rfl (xD (Nat.le_of_ble_eq_true rfl)) l5 r5 ?_
  refine X.pop dX7_add_8 (cat1 _) ?_
  refine C.aload_n dX7_add_9 rfl 0 rfl ?_
  obtain ⟨v10, h10, hf⟩ := ob hf
  refine C.getQ dX7_add_10 rX7_10 h10 ?_
  refine C.aload_n dX7_add_13 rfl 2 rfl ?_
  obtain ⟨c14, hf⟩ := if_n hf
  obtain ⟨v14, T14, h14, hf, l14, r14⟩ := cl_ok hf
  refine C.Fi (As := [va_rf x2]) (rest := []) dX7_add_14 (w_J2_add h14) cX7_23 (Classical.not_not.mp c14) rfl rfl (xcs xvN (Nat.le_of_ble_eq_true rfl)) rfl rfl (xD (Nat.le_of_ble_eq_true rfl)) l14 r14 ?_
  refine X.pop dX7_add_19 rfl ?_
  obtain rfl := Option.some.inj hf
  exact X.vret dX7_add_20 rfl rfl
theorem cX5_180 : xCV RX5 180 mX7_add 2 := ⟨lw_V q1152 q1153 q1154 q146 q1155, rfl, ⟨by decide +kernel, by decide +kernel, by decide +kernel⟩, Nat.le_of_ble_eq_true rfl⟩
/-! MouldVotes$Chain plain -/
abbrev cX7_plain : ByteArray := prog_2_method_3_code
def yX7_plain : MethodName := ⟨RX7, "plain", "()LMouldVotes$Form;"⟩
def dkwX7_plain_1 : List UInt8 := [192, 0, 41, 167, 0, 4, 42, 176]
abbrev dktX7_plain_1 : List UInt8 := dkwX7_plain_1 ++ []
def dkwX7_plain_0 : List UInt8 := [42, 180, 0, 10, 185, 0, 33, 1, 0, 4, 160, 0, 19, 42, 180, 0, 10, 3, 185, 0, 37, 2, 0]
abbrev dktX7_plain_0 : List UInt8 := dkwX7_plain_0 ++ dktX7_plain_1
theorem dksX7_plain_0 : cX7_plain.data.toList.drop 0 = dktX7_plain_0 := by decide +kernel
theorem dksX7_plain_1 : cX7_plain.data.toList.drop 23 = dktX7_plain_1 := dk_seg dksX7_plain_0 23 rfl rfl
theorem dX7_plain_0 : decode cX7_plain 0 = .ok (.aload_n 0, 1) := dk_42 (dk_at dksX7_plain_0 0 rfl rfl)
theorem dX7_plain_1 : decode cX7_plain 1 = .ok (.getfield 10, 3) := dk_180 0 10 (dk_at dksX7_plain_0 1 rfl rfl)
theorem dX7_plain_4 : decode cX7_plain 4 = .ok (.invokeinterface 33 1, 5) := by decide +kernel
theorem dX7_plain_9 : decode cX7_plain 9 = .ok (.iconst 1, 1) := dk_4 (dk_at dksX7_plain_0 9 rfl rfl)
theorem dX7_plain_10 : decode cX7_plain 10 = .ok (.if_icmp .ne 19, 3) := dk_160 0 19 (dk_at dksX7_plain_0 10 rfl rfl)
theorem dX7_plain_13 : decode cX7_plain 13 = .ok (.aload_n 0, 1) := dk_42 (dk_at dksX7_plain_0 13 rfl rfl)
theorem dX7_plain_14 : decode cX7_plain 14 = .ok (.getfield 10, 3) := dk_180 0 10 (dk_at dksX7_plain_0 14 rfl rfl)
theorem dX7_plain_17 : decode cX7_plain 17 = .ok (.iconst 0, 1) := dk_3 (dk_at dksX7_plain_0 17 rfl rfl)
theorem dX7_plain_18 : decode cX7_plain 18 = .ok (.invokeinterface 37 2, 5) := by decide +kernel
theorem dX7_plain_23 : decode cX7_plain 23 = .ok (.checkcast 41, 3) := dk_192 0 41 (dk_at dksX7_plain_1 0 rfl rfl)
theorem dX7_plain_26 : decode cX7_plain 26 = .ok (.goto 4, 3) := dk_167 0 4 (dk_at dksX7_plain_1 3 rfl rfl)
theorem dX7_plain_29 : decode cX7_plain 29 = .ok (.aload_n 0, 1) := dk_42 (dk_at dksX7_plain_1 6 rfl rfl)
theorem dX7_plain_30 : decode cX7_plain 30 = .ok (.areturn, 1) := dk_176 (dk_at dksX7_plain_1 7 rfl rfl)
abbrev mX7_plain : xM := (yX7_plain, cX7_plain, 1, (some (.object "MouldVotes$Form")), [])
def c_X7_plain (T : xF) (x0 : Option Nat) : Option (Option Nat) :=
  (oQ T x0 6 0).bind fun v1 =>
  if ¬ isO T v1 10 = true then none else
  (c_J2_size T v1).bind fun v4 =>
  if v4 = (1 : Int32) then
    (oQ T x0 6 0).bind fun v14 =>
    if ¬ isO T v14 10 = true then none else
    (c_J2_get T v14 (0 : Int32)).bind fun v18 =>
    if ¬ cst T v18 [6, 7, 8, 9] = true then none else
    some v18
  else
    some x0
theorem w_X7_plain {G : xG}  {T : xF} {x0 : Option Nat} {q : (Option Nat)} (hf : c_X7_plain T x0 = some q) : Ct G mX7_plain (4) T [va_rf x0] (.inl (some (va_rf q))) T := by
  refine Ct.ofc (plainFor_of_name (by decide +kernel)) rfl (xvQ xvN) (Nat.le_of_ble_eq_true rfl) (show Xr G _ 0 [(0, va_rf x0)] [] _ from ?_)
  unfold c_X7_plain at hf
  refine C.aload_n dX7_plain_0 rfl 0 rfl ?_
  obtain ⟨v1, h1, hf⟩ := ob hf
  refine C.getQ dX7_plain_1 rX7_10 h1 ?_
  obtain ⟨c4, hf⟩ := if_n hf
  obtain ⟨v4, h4, hf⟩ := ob hf
  refine X.keep fun l4 => C.Fi (As := []) (rest := []) dX7_plain_4 (w_J2_size h4) cX7_33 (Classical.not_not.mp c4) rfl rfl (xcs xvN (Nat.le_of_ble_eq_true rfl)) rfl rfl (xD (Nat.le_of_ble_eq_true rfl)) xle.rf l4 ?_
  refine X.iconst (v := 1) dX7_plain_9 (by decide) ?_
  refine X.icmp_ne (tgt := 29) dX7_plain_10 (by decide) (fun c10 => ?_) (fun c10 => ?_)
  · have hf := if_f c10 hf
    refine C.aload_n dX7_plain_29 rfl 0 rfl ?_
    obtain rfl := Option.some.inj hf
    exact X.aret dX7_plain_30 rfl (Or.inl ⟨_, rfl⟩) rfl
  · have hf := if_t c10 hf
    refine C.aload_n dX7_plain_13 rfl 0 rfl ?_
    obtain ⟨v14, h14, hf⟩ := ob hf
    refine C.getQ dX7_plain_14 rX7_10 h14 ?_
    refine X.iconst (v := 0) dX7_plain_17 (by decide) ?_
    obtain ⟨c18, hf⟩ := if_n hf
    obtain ⟨v18, h18, hf⟩ := ob hf
    refine X.keep fun l18 => C.Fq (As := [.int (0 : Int32)]) (rest := []) dX7_plain_18 (w_J2_get h18) cX7_37 (Classical.not_not.mp c18) rfl rfl (xcs xvN (Nat.le_of_ble_eq_true rfl)) rfl rfl (xD (Nat.le_of_ble_eq_true rfl)) xle.rf l18 ?_
    obtain ⟨c23, hf⟩ := if_n hf
    refine C.cast dX7_plain_23 q529 ca_Form (Classical.not_not.mp c23) ?_
    refine X.goto (tgt := 30) dX7_plain_26 (by decide) ?_
    obtain rfl := Option.some.inj hf
    exact X.aret dX7_plain_30 rfl (Or.inl ⟨_, rfl⟩) rfl
theorem cX5_184 : xCV RX5 184 mX7_plain 0 := ⟨lw_V q1216 q1217 q1218 q146 q1219, rfl, ⟨by decide +kernel, by decide +kernel, by decide +kernel⟩, Nat.le_of_ble_eq_true rfl⟩
/-! MouldVotes$Reader product -/
abbrev cX5_product : ByteArray := prog_7_method_15_code
def yX5_product : MethodName := ⟨RX5, "product", "(I)LMouldVotes$Form;"⟩
def dkwX5_product_2 : List UInt8 := [167, 255, 223, 44, 182, 0, 184, 176]
abbrev dktX5_product_2 : List UInt8 := dkwX5_product_2 ++ []
def dkwX5_product_1 : List UInt8 := [16, 47, 182, 0, 153, 153, 0, 21, 42, 182, 0, 176, 62, 44, 29, 42, 27, 182, 0, 170, 182, 0, 180]
abbrev dktX5_product_1 : List UInt8 := dkwX5_product_1 ++ dktX5_product_2
def dkwX5_product_0 : List UInt8 := [187, 0, 168, 89, 42, 27, 182, 0, 170, 183, 0, 173, 77, 42, 16, 42, 182, 0, 153, 154, 0, 12, 42]
abbrev dktX5_product_0 : List UInt8 := dkwX5_product_0 ++ dktX5_product_1
theorem dksX5_product_0 : cX5_product.data.toList.drop 0 = dktX5_product_0 := by decide +kernel
theorem dksX5_product_1 : cX5_product.data.toList.drop 23 = dktX5_product_1 := dk_seg dksX5_product_0 23 rfl rfl
theorem dksX5_product_2 : cX5_product.data.toList.drop 46 = dktX5_product_2 := dk_seg dksX5_product_1 23 rfl rfl
theorem dX5_product_0 : decode cX5_product 0 = .ok (.new 168, 3) := dk_187 0 168 (dk_at dksX5_product_0 0 rfl rfl)
theorem dX5_product_3 : decode cX5_product 3 = .ok (.dup, 1) := dk_89 (dk_at dksX5_product_0 3 rfl rfl)
theorem dX5_product_4 : decode cX5_product 4 = .ok (.aload_n 0, 1) := dk_42 (dk_at dksX5_product_0 4 rfl rfl)
theorem dX5_product_5 : decode cX5_product 5 = .ok (.iload_n 1, 1) := dk_27 (dk_at dksX5_product_0 5 rfl rfl)
theorem dX5_product_6 : decode cX5_product 6 = .ok (.invokevirtual 170, 3) := dk_182 0 170 (dk_at dksX5_product_0 6 rfl rfl)
theorem dX5_product_9 : decode cX5_product 9 = .ok (.invokespecial 173, 3) := dk_183 0 173 (dk_at dksX5_product_0 9 rfl rfl)
theorem dX5_product_12 : decode cX5_product 12 = .ok (.astore_n 2, 1) := dk_77 (dk_at dksX5_product_0 12 rfl rfl)
theorem dX5_product_13 : decode cX5_product 13 = .ok (.aload_n 0, 1) := dk_42 (dk_at dksX5_product_0 13 rfl rfl)
theorem dX5_product_14 : decode cX5_product 14 = .ok (.bipush 42, 2) := dk_16 42 (dk_at dksX5_product_0 14 rfl rfl)
theorem dX5_product_16 : decode cX5_product 16 = .ok (.invokevirtual 153, 3) := dk_182 0 153 (dk_at dksX5_product_0 16 rfl rfl)
theorem dX5_product_19 : decode cX5_product 19 = .ok (.ifCond .ne 12, 3) := dk_154 0 12 (dk_at dksX5_product_0 19 rfl rfl)
theorem dX5_product_22 : decode cX5_product 22 = .ok (.aload_n 0, 1) := dk_42 (dk_at dksX5_product_0 22 rfl rfl)
theorem dX5_product_23 : decode cX5_product 23 = .ok (.bipush 47, 2) := dk_16 47 (dk_at dksX5_product_1 0 rfl rfl)
theorem dX5_product_25 : decode cX5_product 25 = .ok (.invokevirtual 153, 3) := dk_182 0 153 (dk_at dksX5_product_1 2 rfl rfl)
theorem dX5_product_28 : decode cX5_product 28 = .ok (.ifCond .eq 21, 3) := dk_153 0 21 (dk_at dksX5_product_1 5 rfl rfl)
theorem dX5_product_31 : decode cX5_product 31 = .ok (.aload_n 0, 1) := dk_42 (dk_at dksX5_product_1 8 rfl rfl)
theorem dX5_product_32 : decode cX5_product 32 = .ok (.invokevirtual 176, 3) := dk_182 0 176 (dk_at dksX5_product_1 9 rfl rfl)
theorem dX5_product_35 : decode cX5_product 35 = .ok (.istore_n 3, 1) := dk_62 (dk_at dksX5_product_1 12 rfl rfl)
theorem dX5_product_36 : decode cX5_product 36 = .ok (.aload_n 2, 1) := dk_44 (dk_at dksX5_product_1 13 rfl rfl)
theorem dX5_product_37 : decode cX5_product 37 = .ok (.iload_n 3, 1) := dk_29 (dk_at dksX5_product_1 14 rfl rfl)
theorem dX5_product_38 : decode cX5_product 38 = .ok (.aload_n 0, 1) := dk_42 (dk_at dksX5_product_1 15 rfl rfl)
theorem dX5_product_39 : decode cX5_product 39 = .ok (.iload_n 1, 1) := dk_27 (dk_at dksX5_product_1 16 rfl rfl)
theorem dX5_product_40 : decode cX5_product 40 = .ok (.invokevirtual 170, 3) := dk_182 0 170 (dk_at dksX5_product_1 17 rfl rfl)
theorem dX5_product_43 : decode cX5_product 43 = .ok (.invokevirtual 180, 3) := dk_182 0 180 (dk_at dksX5_product_1 20 rfl rfl)
theorem dX5_product_46 : decode cX5_product 46 = .ok (.goto (-33), 3) := dk_167 255 223 (dk_at dksX5_product_2 0 rfl rfl)
theorem dX5_product_49 : decode cX5_product 49 = .ok (.aload_n 2, 1) := dk_44 (dk_at dksX5_product_2 3 rfl rfl)
theorem dX5_product_50 : decode cX5_product 50 = .ok (.invokevirtual 184, 3) := dk_182 0 184 (dk_at dksX5_product_2 4 rfl rfl)
theorem dX5_product_53 : decode cX5_product 53 = .ok (.areturn, 1) := dk_176 (dk_at dksX5_product_2 7 rfl rfl)
abbrev mX5_product : xM := (yX5_product, cX5_product, 4, (some (.object "MouldVotes$Form")), [])
def c_X5_product_31 (G : xG) (kE : Option Nat → Int32 → xF → Option ((Option Nat ⊕ xE) × xF)) (k13 : Option Nat → Int32 → Option Nat → xF → Option ((Option Nat ⊕ xE) × xF)) (x0 : Option Nat) (x1 : Int32) (x2 : Option Nat) (T : xF) : Option ((Option Nat ⊕ xE) × xF) :=
  if ¬ isO T x0 4 = true then none else
  cl (c_X5_sign G x0 T) T fun v32 T32 =>
  if ¬ isO T32 x0 4 = true then none else
  clX (c_X5_part G kE x0 x1 T32) T32 fun v40 T40 =>
  if ¬ isO T40 x2 6 = true then none else
  cl (c_X7_add G x2 v32 v40 T40) T40 fun v43 T43 =>
  k13 x0 x1 x2 T43
theorem c_X5_product_31_ok {G : xG} {De : Nat} {kE : Option Nat → Int32 → xF → Option ((Option Nat ⊕ xE) × xF)} {T0 : xF} (hDE : 20 ≤ De) (hkE : ∀ (r : Option Nat) (x : Int32) (T : xF) (q : ((Option Nat ⊕ xE) × xF)), kE r x T = some q → Ct G mX5_expression De T [va_rf r, .int x] (xoQ q.1) q.2) {k13 : Option Nat → Int32 → Option Nat → xF → Option ((Option Nat ⊕ xE) × xF)} (hk13 : ∀ (x0 : Option Nat) (x1 : Int32) (x2 : Option Nat) (T : xF) (q : ((Option Nat ⊕ xE) × xF)), k13 x0 x1 x2 T = some q → Xr G (mX5_product, xrm (De + 2) T0 q.2, T0, xoQ q.1, q.2) 13 [(0, va_rf x0), (1, .int x1), (2, va_rf x2)] [] T) (x0 : Option Nat) (x1 : Int32) (x2 : Option Nat) (T : xF) (q : ((Option Nat ⊕ xE) × xF)) (hf : c_X5_product_31 G kE k13 x0 x1 x2 T = some q) : Xr G (mX5_product, xrm (De + 2) T0 q.2, T0, xoQ q.1, q.2) 31 [(0, va_rf x0), (1, .int x1), (2, va_rf x2)] [] T := by
  unfold c_X5_product_31 at hf
  refine C.aload_n dX5_product_31 rfl 0 rfl ?_
  obtain ⟨c32, hf⟩ := if_n hf
  obtain ⟨v32, T32, h32, hf, l32, r32⟩ := cl_ok hf
  refine C.Vi (As := []) (rest := []) dX5_product_32 (w_X5_sign h32) cX5_176 (Classical.not_not.mp c32) rfl rfl (xcs xvN (Nat.le_of_ble_eq_true rfl)) rfl rfl (xD (by omega)) l32 r32 ?_
  refine C.ist_n (L' := [(3, .int v32), (0, va_rf x0), (1, .int x1), (2, va_rf x2)]) dX5_product_35 rfl (Nat.le_of_ble_eq_true rfl) (xcQ (xcI (xcQ xcN))) rfl ?_
  refine C.aload_n dX5_product_36 rfl 3 rfl ?_
  refine X.iload_n dX5_product_37 rfl 0 rfl ?_
  refine C.aload_n dX5_product_38 rfl 1 rfl ?_
  refine X.iload_n dX5_product_39 rfl 2 rfl ?_
  obtain ⟨c40, hf⟩ := if_n hf
  rcases clX_ok hf with ⟨v40, T40, h40, hf, l40, r40⟩ | ⟨e40, T40, h40, rfl, l40⟩
  rotate_left
  · exact C.Vx (As := [.int x1]) (rest := [.int v32, va_rf x2]) dX5_product_40 (w_X5_part hDE hkE h40) cX5_170 (Classical.not_not.mp c40) rfl rfl (xcs (xvI (xvQ xvN)) (Nat.le_of_ble_eq_true rfl)) rfl rfl (xD (by omega)) l40 xle.rf (xnoh rfl) rfl
  refine C.Vq (As := [.int x1]) (rest := [.int v32, va_rf x2]) dX5_product_40 (w_X5_part hDE hkE h40) cX5_170 (Classical.not_not.mp c40) rfl rfl (xcs (xvI (xvQ xvN)) (Nat.le_of_ble_eq_true rfl)) rfl rfl (xD (by omega)) l40 r40 ?_
  obtain ⟨c43, hf⟩ := if_n hf
  obtain ⟨v43, T43, h43, hf, l43, r43⟩ := cl_ok hf
  refine C.Vv (As := [.int v32, va_rf v40]) (rest := []) dX5_product_43 (w_X7_add h43) cX5_180 (Classical.not_not.mp c43) rfl rfl (xcs xvN (Nat.le_of_ble_eq_true rfl)) rfl rfl (xD (by omega)) l43 r43 ?_
  refine X.goto (tgt := 13) dX5_product_46 (by decide) ?_
  refine X.sub [1, 2, 3] (L' := [(0, va_rf x0), (1, .int x1), (2, va_rf x2)]) rfl ?_
  exact hk13 _ _ _ _ _ hf
def c_X5_product_13_b (G : xG) (kE : Option Nat → Int32 → xF → Option ((Option Nat ⊕ xE) × xF)) (k13 : Option Nat → Int32 → Option Nat → xF → Option ((Option Nat ⊕ xE) × xF)) (x0 : Option Nat) (x1 : Int32) (x2 : Option Nat) (T : xF) : Option ((Option Nat ⊕ xE) × xF) :=
  if ¬ isO T x0 4 = true then none else
  (c_X5_isSign T x0 (42 : Int32)).bind fun v16 =>
  if v16 = 0 then
    if ¬ isO T x0 4 = true then none else
    (c_X5_isSign T x0 (47 : Int32)).bind fun v25 =>
    if v25 = 0 then
      if ¬ isO T x2 6 = true then none else
      (c_X7_plain T x2).bind fun v50 =>
      some (.inl v50, T)
    else
      c_X5_product_31 G kE k13 x0 x1 x2 T
  else
    c_X5_product_31 G kE k13 x0 x1 x2 T
def c_X5_product_13 (G : xG) (kE : Option Nat → Int32 → xF → Option ((Option Nat ⊕ xE) × xF)) : Nat → Option Nat → Int32 → Option Nat → xF → Option ((Option Nat ⊕ xE) × xF)
  | 0 => fun _ _ _ _ => none
  | n + 1 => fun x0 x1 x2 T => c_X5_product_13_b G kE (c_X5_product_13 G kE n) x0 x1 x2 T
theorem c_X5_product_13_bok {G : xG} {De : Nat} {kE : Option Nat → Int32 → xF → Option ((Option Nat ⊕ xE) × xF)} {T0 : xF} (hDE : 20 ≤ De) (hkE : ∀ (r : Option Nat) (x : Int32) (T : xF) (q : ((Option Nat ⊕ xE) × xF)), kE r x T = some q → Ct G mX5_expression De T [va_rf r, .int x] (xoQ q.1) q.2)  {k13 : Option Nat → Int32 → Option Nat → xF → Option ((Option Nat ⊕ xE) × xF)}  (hk13 : ∀ (x0 : Option Nat) (x1 : Int32) (x2 : Option Nat) (T : xF) (q : ((Option Nat ⊕ xE) × xF)), k13 x0 x1 x2 T = some q → Xr G (mX5_product, xrm (De + 2) T0 q.2, T0, xoQ q.1, q.2) 13 [(0, va_rf x0), (1, .int x1), (2, va_rf x2)] [] T) (x0 : Option Nat) (x1 : Int32) (x2 : Option Nat) (T : xF) (q : ((Option Nat ⊕ xE) × xF)) (hf : c_X5_product_13_b G kE k13 x0 x1 x2 T = some q) : Xr G (mX5_product, xrm (De + 2) T0 q.2, T0, xoQ q.1, q.2) 13 [(0, va_rf x0), (1, .int x1), (2, va_rf x2)] [] T := by
  unfold c_X5_product_13_b at hf
  refine C.aload_n dX5_product_13 rfl 0 rfl ?_
  refine X.bipush (v := 42) dX5_product_14 (by decide) ?_
  obtain ⟨c16, hf⟩ := if_n hf
  obtain ⟨v16, h16, hf⟩ := ob hf
  refine X.keep fun l16 => C.Vi (As := [.int (42 : Int32)]) (rest := []) dX5_product_16 (w_X5_isSign h16) cX5_153 (Classical.not_not.mp c16) rfl rfl (xcs xvN (Nat.le_of_ble_eq_true rfl)) rfl rfl (xD (by omega)) xle.rf l16 ?_
  refine X.if_ne (tgt := 31) dX5_product_19 (by decide) (fun c19 => ?_) (fun c19 => ?_)
  · have hf := if_f c19 hf
    refine X.sub [0, 1, 2] (L' := [(0, va_rf x0), (1, .int x1), (2, va_rf x2)]) rfl ?_
    exact c_X5_product_31_ok hDE hkE hk13 _ _ _ _ _ hf
  · have hf := if_t c19 hf
    refine C.aload_n dX5_product_22 rfl 0 rfl ?_
    refine X.bipush (v := 47) dX5_product_23 (by decide) ?_
    obtain ⟨c25, hf⟩ := if_n hf
    obtain ⟨v25, h25, hf⟩ := ob hf
    refine X.keep fun l25 => C.Vi (As := [.int (47 : Int32)]) (rest := []) dX5_product_25 (w_X5_isSign h25) cX5_153 (Classical.not_not.mp c25) rfl rfl (xcs xvN (Nat.le_of_ble_eq_true rfl)) rfl rfl (xD (by omega)) xle.rf l25 ?_
    refine X.if_eq (tgt := 49) dX5_product_28 (by decide) (fun c28 => ?_) (fun c28 => ?_)
    · have hf := if_t c28 hf
      refine C.aload_n dX5_product_49 rfl 2 rfl ?_
      obtain ⟨c50, hf⟩ := if_n hf
      obtain ⟨v50, h50, hf⟩ := ob hf
      refine X.keep fun l50 => C.Vq (As := []) (rest := []) dX5_product_50 (w_X7_plain h50) cX5_184 (Classical.not_not.mp c50) rfl rfl (xcs xvN (Nat.le_of_ble_eq_true rfl)) rfl rfl (xD (by omega)) xle.rf l50 ?_
      obtain rfl := Option.some.inj hf
      exact X.aret dX5_product_53 rfl (Or.inl ⟨_, rfl⟩) rfl
    · have hf := if_f c28 hf
      refine X.sub [0, 1, 2] (L' := [(0, va_rf x0), (1, .int x1), (2, va_rf x2)]) rfl ?_
      exact c_X5_product_31_ok hDE hkE hk13 _ _ _ _ _ hf
theorem c_X5_product_13_ok {G : xG} {De : Nat} {kE : Option Nat → Int32 → xF → Option ((Option Nat ⊕ xE) × xF)} {T0 : xF} (hDE : 20 ≤ De) (hkE : ∀ (r : Option Nat) (x : Int32) (T : xF) (q : ((Option Nat ⊕ xE) × xF)), kE r x T = some q → Ct G mX5_expression De T [va_rf r, .int x] (xoQ q.1) q.2)   : ∀ (n : Nat) (x0 : Option Nat) (x1 : Int32) (x2 : Option Nat) (T : xF) (q : ((Option Nat ⊕ xE) × xF)), c_X5_product_13 G kE n x0 x1 x2 T = some q → Xr G (mX5_product, xrm (De + 2) T0 q.2, T0, xoQ q.1, q.2) 13 [(0, va_rf x0), (1, .int x1), (2, va_rf x2)] [] T
  | 0, _, _, _, _, _, hf => by cases hf
  | n + 1, x0, x1, x2, T, q, hf => c_X5_product_13_bok hDE hkE (c_X5_product_13_ok hDE hkE n) x0 x1 x2 T q hf
def c_X5_product (G : xG) (kE : Option Nat → Int32 → xF → Option ((Option Nat ⊕ xE) × xF)) (x0 : Option Nat) (x1 : Int32) (T : xF) : Option ((Option Nat ⊕ xE) × xF) :=
  al (nO T 6 2 [.null, .null]) fun T0 =>
  if ¬ isO T0 x0 4 = true then none else
  clX (c_X5_part G kE x0 x1 T0) T0 fun v6 T6 =>
  cl (c_X7_init G (some T.2.1) v6 T6) T6 fun v9 T9 =>
  c_X5_product_13 G kE FU x0 x1 (some T.2.1) T9
theorem w_X5_product {G : xG} {De : Nat} {kE : Option Nat → Int32 → xF → Option ((Option Nat ⊕ xE) × xF)} {T : xF} (hDE : 20 ≤ De) (hkE : ∀ (r : Option Nat) (x : Int32) (T : xF) (q : ((Option Nat ⊕ xE) × xF)), kE r x T = some q → Ct G mX5_expression De T [va_rf r, .int x] (xoQ q.1) q.2) {x0 : Option Nat} {x1 : Int32} {q : ((Option Nat ⊕ xE) × xF)} (hf : c_X5_product G kE x0 x1 T = some q) : Ct G mX5_product (De + 2) T [va_rf x0, .int x1] (xoQ q.1) q.2 := by
  refine Ct.ofc (plainFor_of_name (by decide +kernel)) rfl (xvQ (xvI xvN)) (Nat.le_of_ble_eq_true rfl) (show Xr G _ 0 [(0, va_rf x0), (1, .int x1)] [] _ from ?_)
  unfold c_X5_product at hf
  obtain ⟨T0, e0, hf, l0⟩ := al_ok hf
  refine C.newE e0 dX5_product_0 clX7 q1062 q1063 q146 rfl dfX7 l0 ?_
  refine X.dup dX5_product_3 (cat1 _) ?_
  refine C.aload_n dX5_product_4 rfl 0 rfl ?_
  refine X.iload_n dX5_product_5 rfl 1 rfl ?_
  obtain ⟨c6, hf⟩ := if_n hf
  rcases clX_ok hf with ⟨v6, T6, h6, hf, l6, r6⟩ | ⟨e6, T6, h6, rfl, l6⟩
  rotate_left
  · exact C.Vx (As := [.int x1]) (rest := [va_rf (some T.2.1), va_rf (some T.2.1)]) dX5_product_6 (w_X5_part hDE hkE h6) cX5_170 (Classical.not_not.mp c6) rfl rfl (xcs (xvQ (xvQ xvN)) (Nat.le_of_ble_eq_true rfl)) rfl rfl (xD (by omega)) l6 xle.rf (xnoh rfl) rfl
  refine C.Vq (As := [.int x1]) (rest := [va_rf (some T.2.1), va_rf (some T.2.1)]) dX5_product_6 (w_X5_part hDE hkE h6) cX5_170 (Classical.not_not.mp c6) rfl rfl (xcs (xvQ (xvQ xvN)) (Nat.le_of_ble_eq_true rfl)) rfl rfl (xD (by omega)) l6 r6 ?_
  obtain ⟨v9, T9, h9, hf, l9, r9⟩ := cl_ok hf
  refine C.Iv (As := [va_rf v6]) (rest := [va_rf (some T.2.1)]) dX5_product_9 (w_X7_init h9) cX5_173 rfl rfl rfl (xcs (xvQ xvN) (Nat.le_of_ble_eq_true rfl)) (xD (by omega)) l9 r9 ?_
  refine C.ast_n (L' := [(2, va_rf (some T.2.1)), (0, va_rf x0), (1, .int x1)]) dX5_product_12 rfl (Nat.le_of_ble_eq_true rfl) (xcQ (xcI xcN)) rfl ?_
  refine X.sub [1, 2, 0] (L' := [(0, va_rf x0), (1, .int x1), (2, va_rf (some T.2.1))]) rfl ?_
  exact c_X5_product_13_ok hDE hkE FU _ _ _ _ _ hf
theorem cX5_188 : xCV RX5 188 mX5_product 1 := ⟨lw_V q1077 q1079 qs33 q132 q1080, rfl, ⟨by decide +kernel, by decide +kernel, by decide +kernel⟩, Nat.le_of_ble_eq_true rfl⟩
/-! MouldVotes$Reader sum -/
abbrev cX5_sum : ByteArray := prog_7_method_16_code
def yX5_sum : MethodName := ⟨RX5, "sum", "(I)LMouldVotes$Form;"⟩
def dkwX5_sum_2 : List UInt8 := [167, 255, 223, 44, 182, 0, 184, 176]
abbrev dktX5_sum_2 : List UInt8 := dkwX5_sum_2 ++ []
def dkwX5_sum_1 : List UInt8 := [16, 45, 182, 0, 153, 153, 0, 21, 42, 182, 0, 176, 62, 44, 29, 42, 27, 182, 0, 188, 182, 0, 180]
abbrev dktX5_sum_1 : List UInt8 := dkwX5_sum_1 ++ dktX5_sum_2
def dkwX5_sum_0 : List UInt8 := [187, 0, 168, 89, 42, 27, 182, 0, 188, 183, 0, 173, 77, 42, 16, 43, 182, 0, 153, 154, 0, 12, 42]
abbrev dktX5_sum_0 : List UInt8 := dkwX5_sum_0 ++ dktX5_sum_1
theorem dksX5_sum_0 : cX5_sum.data.toList.drop 0 = dktX5_sum_0 := by decide +kernel
theorem dksX5_sum_1 : cX5_sum.data.toList.drop 23 = dktX5_sum_1 := dk_seg dksX5_sum_0 23 rfl rfl
theorem dksX5_sum_2 : cX5_sum.data.toList.drop 46 = dktX5_sum_2 := dk_seg dksX5_sum_1 23 rfl rfl
theorem dX5_sum_0 : decode cX5_sum 0 = .ok (.new 168, 3) := dk_187 0 168 (dk_at dksX5_sum_0 0 rfl rfl)
theorem dX5_sum_3 : decode cX5_sum 3 = .ok (.dup, 1) := dk_89 (dk_at dksX5_sum_0 3 rfl rfl)
theorem dX5_sum_4 : decode cX5_sum 4 = .ok (.aload_n 0, 1) := dk_42 (dk_at dksX5_sum_0 4 rfl rfl)
theorem dX5_sum_5 : decode cX5_sum 5 = .ok (.iload_n 1, 1) := dk_27 (dk_at dksX5_sum_0 5 rfl rfl)
theorem dX5_sum_6 : decode cX5_sum 6 = .ok (.invokevirtual 188, 3) := dk_182 0 188 (dk_at dksX5_sum_0 6 rfl rfl)
theorem dX5_sum_9 : decode cX5_sum 9 = .ok (.invokespecial 173, 3) := dk_183 0 173 (dk_at dksX5_sum_0 9 rfl rfl)
theorem dX5_sum_12 : decode cX5_sum 12 = .ok (.astore_n 2, 1) := dk_77 (dk_at dksX5_sum_0 12 rfl rfl)
theorem dX5_sum_13 : decode cX5_sum 13 = .ok (.aload_n 0, 1) := dk_42 (dk_at dksX5_sum_0 13 rfl rfl)
theorem dX5_sum_14 : decode cX5_sum 14 = .ok (.bipush 43, 2) := dk_16 43 (dk_at dksX5_sum_0 14 rfl rfl)
theorem dX5_sum_16 : decode cX5_sum 16 = .ok (.invokevirtual 153, 3) := dk_182 0 153 (dk_at dksX5_sum_0 16 rfl rfl)
theorem dX5_sum_19 : decode cX5_sum 19 = .ok (.ifCond .ne 12, 3) := dk_154 0 12 (dk_at dksX5_sum_0 19 rfl rfl)
theorem dX5_sum_22 : decode cX5_sum 22 = .ok (.aload_n 0, 1) := dk_42 (dk_at dksX5_sum_0 22 rfl rfl)
theorem dX5_sum_23 : decode cX5_sum 23 = .ok (.bipush 45, 2) := dk_16 45 (dk_at dksX5_sum_1 0 rfl rfl)
theorem dX5_sum_25 : decode cX5_sum 25 = .ok (.invokevirtual 153, 3) := dk_182 0 153 (dk_at dksX5_sum_1 2 rfl rfl)
theorem dX5_sum_28 : decode cX5_sum 28 = .ok (.ifCond .eq 21, 3) := dk_153 0 21 (dk_at dksX5_sum_1 5 rfl rfl)
theorem dX5_sum_31 : decode cX5_sum 31 = .ok (.aload_n 0, 1) := dk_42 (dk_at dksX5_sum_1 8 rfl rfl)
theorem dX5_sum_32 : decode cX5_sum 32 = .ok (.invokevirtual 176, 3) := dk_182 0 176 (dk_at dksX5_sum_1 9 rfl rfl)
theorem dX5_sum_35 : decode cX5_sum 35 = .ok (.istore_n 3, 1) := dk_62 (dk_at dksX5_sum_1 12 rfl rfl)
theorem dX5_sum_36 : decode cX5_sum 36 = .ok (.aload_n 2, 1) := dk_44 (dk_at dksX5_sum_1 13 rfl rfl)
theorem dX5_sum_37 : decode cX5_sum 37 = .ok (.iload_n 3, 1) := dk_29 (dk_at dksX5_sum_1 14 rfl rfl)
theorem dX5_sum_38 : decode cX5_sum 38 = .ok (.aload_n 0, 1) := dk_42 (dk_at dksX5_sum_1 15 rfl rfl)
theorem dX5_sum_39 : decode cX5_sum 39 = .ok (.iload_n 1, 1) := dk_27 (dk_at dksX5_sum_1 16 rfl rfl)
theorem dX5_sum_40 : decode cX5_sum 40 = .ok (.invokevirtual 188, 3) := dk_182 0 188 (dk_at dksX5_sum_1 17 rfl rfl)
theorem dX5_sum_43 : decode cX5_sum 43 = .ok (.invokevirtual 180, 3) := dk_182 0 180 (dk_at dksX5_sum_1 20 rfl rfl)
theorem dX5_sum_46 : decode cX5_sum 46 = .ok (.goto (-33), 3) := dk_167 255 223 (dk_at dksX5_sum_2 0 rfl rfl)
theorem dX5_sum_49 : decode cX5_sum 49 = .ok (.aload_n 2, 1) := dk_44 (dk_at dksX5_sum_2 3 rfl rfl)
theorem dX5_sum_50 : decode cX5_sum 50 = .ok (.invokevirtual 184, 3) := dk_182 0 184 (dk_at dksX5_sum_2 4 rfl rfl)
theorem dX5_sum_53 : decode cX5_sum 53 = .ok (.areturn, 1) := dk_176 (dk_at dksX5_sum_2 7 rfl rfl)
abbrev mX5_sum : xM := (yX5_sum, cX5_sum, 4, (some (.object "MouldVotes$Form")), [])
def c_X5_sum_31 (G : xG) (kE : Option Nat → Int32 → xF → Option ((Option Nat ⊕ xE) × xF)) (k13 : Option Nat → Int32 → Option Nat → xF → Option ((Option Nat ⊕ xE) × xF)) (x0 : Option Nat) (x1 : Int32) (x2 : Option Nat) (T : xF) : Option ((Option Nat ⊕ xE) × xF) :=
  if ¬ isO T x0 4 = true then none else
  cl (c_X5_sign G x0 T) T fun v32 T32 =>
  if ¬ isO T32 x0 4 = true then none else
  clX (c_X5_product G kE x0 x1 T32) T32 fun v40 T40 =>
  if ¬ isO T40 x2 6 = true then none else
  cl (c_X7_add G x2 v32 v40 T40) T40 fun v43 T43 =>
  k13 x0 x1 x2 T43
theorem c_X5_sum_31_ok {G : xG} {De : Nat} {kE : Option Nat → Int32 → xF → Option ((Option Nat ⊕ xE) × xF)} {T0 : xF} (hDE : 20 ≤ De) (hkE : ∀ (r : Option Nat) (x : Int32) (T : xF) (q : ((Option Nat ⊕ xE) × xF)), kE r x T = some q → Ct G mX5_expression De T [va_rf r, .int x] (xoQ q.1) q.2) {k13 : Option Nat → Int32 → Option Nat → xF → Option ((Option Nat ⊕ xE) × xF)} (hk13 : ∀ (x0 : Option Nat) (x1 : Int32) (x2 : Option Nat) (T : xF) (q : ((Option Nat ⊕ xE) × xF)), k13 x0 x1 x2 T = some q → Xr G (mX5_sum, xrm (De + 3) T0 q.2, T0, xoQ q.1, q.2) 13 [(0, va_rf x0), (1, .int x1), (2, va_rf x2)] [] T) (x0 : Option Nat) (x1 : Int32) (x2 : Option Nat) (T : xF) (q : ((Option Nat ⊕ xE) × xF)) (hf : c_X5_sum_31 G kE k13 x0 x1 x2 T = some q) : Xr G (mX5_sum, xrm (De + 3) T0 q.2, T0, xoQ q.1, q.2) 31 [(0, va_rf x0), (1, .int x1), (2, va_rf x2)] [] T := by
  unfold c_X5_sum_31 at hf
  refine C.aload_n dX5_sum_31 rfl 0 rfl ?_
  obtain ⟨c32, hf⟩ := if_n hf
  obtain ⟨v32, T32, h32, hf, l32, r32⟩ := cl_ok hf
  refine C.Vi (As := []) (rest := []) dX5_sum_32 (w_X5_sign h32) cX5_176 (Classical.not_not.mp c32) rfl rfl (xcs xvN (Nat.le_of_ble_eq_true rfl)) rfl rfl (xD (by omega)) l32 r32 ?_
  refine C.ist_n (L' := [(3, .int v32), (0, va_rf x0), (1, .int x1), (2, va_rf x2)]) dX5_sum_35 rfl (Nat.le_of_ble_eq_true rfl) (xcQ (xcI (xcQ xcN))) rfl ?_
  refine C.aload_n dX5_sum_36 rfl 3 rfl ?_
  refine X.iload_n dX5_sum_37 rfl 0 rfl ?_
  refine C.aload_n dX5_sum_38 rfl 1 rfl ?_
  refine X.iload_n dX5_sum_39 rfl 2 rfl ?_
  obtain ⟨c40, hf⟩ := if_n hf
  rcases clX_ok hf with ⟨v40, T40, h40, hf, l40, r40⟩ | ⟨e40, T40, h40, rfl, l40⟩
  rotate_left
  · exact C.Vx (As := [.int x1]) (rest := [.int v32, va_rf x2]) dX5_sum_40 (w_X5_product hDE hkE h40) cX5_188 (Classical.not_not.mp c40) rfl rfl (xcs (xvI (xvQ xvN)) (Nat.le_of_ble_eq_true rfl)) rfl rfl (xD (by omega)) l40 xle.rf (xnoh rfl) rfl
  refine C.Vq (As := [.int x1]) (rest := [.int v32, va_rf x2]) dX5_sum_40 (w_X5_product hDE hkE h40) cX5_188 (Classical.not_not.mp c40) rfl rfl (xcs (xvI (xvQ xvN)) (Nat.le_of_ble_eq_true rfl)) rfl rfl (xD (by omega)) l40 r40 ?_
  obtain ⟨c43, hf⟩ := if_n hf
  obtain ⟨v43, T43, h43, hf, l43, r43⟩ := cl_ok hf
  refine C.Vv (As := [.int v32, va_rf v40]) (rest := []) dX5_sum_43 (w_X7_add h43) cX5_180 (Classical.not_not.mp c43) rfl rfl (xcs xvN (Nat.le_of_ble_eq_true rfl)) rfl rfl (xD (by omega)) l43 r43 ?_
  refine X.goto (tgt := 13) dX5_sum_46 (by decide) ?_
  refine X.sub [1, 2, 3] (L' := [(0, va_rf x0), (1, .int x1), (2, va_rf x2)]) rfl ?_
  exact hk13 _ _ _ _ _ hf
def c_X5_sum_13_b (G : xG) (kE : Option Nat → Int32 → xF → Option ((Option Nat ⊕ xE) × xF)) (k13 : Option Nat → Int32 → Option Nat → xF → Option ((Option Nat ⊕ xE) × xF)) (x0 : Option Nat) (x1 : Int32) (x2 : Option Nat) (T : xF) : Option ((Option Nat ⊕ xE) × xF) :=
  if ¬ isO T x0 4 = true then none else
  (c_X5_isSign T x0 (43 : Int32)).bind fun v16 =>
  if v16 = 0 then
    if ¬ isO T x0 4 = true then none else
    (c_X5_isSign T x0 (45 : Int32)).bind fun v25 =>
    if v25 = 0 then
      if ¬ isO T x2 6 = true then none else
      (c_X7_plain T x2).bind fun v50 =>
      some (.inl v50, T)
    else
      c_X5_sum_31 G kE k13 x0 x1 x2 T
  else
    c_X5_sum_31 G kE k13 x0 x1 x2 T
def c_X5_sum_13 (G : xG) (kE : Option Nat → Int32 → xF → Option ((Option Nat ⊕ xE) × xF)) : Nat → Option Nat → Int32 → Option Nat → xF → Option ((Option Nat ⊕ xE) × xF)
  | 0 => fun _ _ _ _ => none
  | n + 1 => fun x0 x1 x2 T => c_X5_sum_13_b G kE (c_X5_sum_13 G kE n) x0 x1 x2 T
theorem c_X5_sum_13_bok {G : xG} {De : Nat} {kE : Option Nat → Int32 → xF → Option ((Option Nat ⊕ xE) × xF)} {T0 : xF} (hDE : 20 ≤ De) (hkE : ∀ (r : Option Nat) (x : Int32) (T : xF) (q : ((Option Nat ⊕ xE) × xF)), kE r x T = some q → Ct G mX5_expression De T [va_rf r, .int x] (xoQ q.1) q.2)  {k13 : Option Nat → Int32 → Option Nat → xF → Option ((Option Nat ⊕ xE) × xF)}  (hk13 : ∀ (x0 : Option Nat) (x1 : Int32) (x2 : Option Nat) (T : xF) (q : ((Option Nat ⊕ xE) × xF)), k13 x0 x1 x2 T = some q → Xr G (mX5_sum, xrm (De + 3) T0 q.2, T0, xoQ q.1, q.2) 13 [(0, va_rf x0), (1, .int x1), (2, va_rf x2)] [] T) (x0 : Option Nat) (x1 : Int32) (x2 : Option Nat) (T : xF) (q : ((Option Nat ⊕ xE) × xF)) (hf : c_X5_sum_13_b G kE k13 x0 x1 x2 T = some q) : Xr G (mX5_sum, xrm (De + 3) T0 q.2, T0, xoQ q.1, q.2) 13 [(0, va_rf x0), (1, .int x1), (2, va_rf x2)] [] T := by
  unfold c_X5_sum_13_b at hf
  refine C.aload_n dX5_sum_13 rfl 0 rfl ?_
  refine X.bipush (v := 43) dX5_sum_14 (by decide) ?_
  obtain ⟨c16, hf⟩ := if_n hf
  obtain ⟨v16, h16, hf⟩ := ob hf
  refine X.keep fun l16 => C.Vi (As := [.int (43 : Int32)]) (rest := []) dX5_sum_16 (w_X5_isSign h16) cX5_153 (Classical.not_not.mp c16) rfl rfl (xcs xvN (Nat.le_of_ble_eq_true rfl)) rfl rfl (xD (by omega)) xle.rf l16 ?_
  refine X.if_ne (tgt := 31) dX5_sum_19 (by decide) (fun c19 => ?_) (fun c19 => ?_)
  · have hf := if_f c19 hf
    refine X.sub [0, 1, 2] (L' := [(0, va_rf x0), (1, .int x1), (2, va_rf x2)]) rfl ?_
    exact c_X5_sum_31_ok hDE hkE hk13 _ _ _ _ _ hf
  · have hf := if_t c19 hf
    refine C.aload_n dX5_sum_22 rfl 0 rfl ?_
    refine X.bipush (v := 45) dX5_sum_23 (by decide) ?_
    obtain ⟨c25, hf⟩ := if_n hf
    obtain ⟨v25, h25, hf⟩ := ob hf
    refine X.keep fun l25 => C.Vi (As := [.int (45 : Int32)]) (rest := []) dX5_sum_25 (w_X5_isSign h25) cX5_153 (Classical.not_not.mp c25) rfl rfl (xcs xvN (Nat.le_of_ble_eq_true rfl)) rfl rfl (xD (by omega)) xle.rf l25 ?_
    refine X.if_eq (tgt := 49) dX5_sum_28 (by decide) (fun c28 => ?_) (fun c28 => ?_)
    · have hf := if_t c28 hf
      refine C.aload_n dX5_sum_49 rfl 2 rfl ?_
      obtain ⟨c50, hf⟩ := if_n hf
      obtain ⟨v50, h50, hf⟩ := ob hf
      refine X.keep fun l50 => C.Vq (As := []) (rest := []) dX5_sum_50 (w_X7_plain h50) cX5_184 (Classical.not_not.mp c50) rfl rfl (xcs xvN (Nat.le_of_ble_eq_true rfl)) rfl rfl (xD (by omega)) xle.rf l50 ?_
      obtain rfl := Option.some.inj hf
      exact X.aret dX5_sum_53 rfl (Or.inl ⟨_, rfl⟩) rfl
    · have hf := if_f c28 hf
      refine X.sub [0, 1, 2] (L' := [(0, va_rf x0), (1, .int x1), (2, va_rf x2)]) rfl ?_
      exact c_X5_sum_31_ok hDE hkE hk13 _ _ _ _ _ hf
theorem c_X5_sum_13_ok {G : xG} {De : Nat} {kE : Option Nat → Int32 → xF → Option ((Option Nat ⊕ xE) × xF)} {T0 : xF} (hDE : 20 ≤ De) (hkE : ∀ (r : Option Nat) (x : Int32) (T : xF) (q : ((Option Nat ⊕ xE) × xF)), kE r x T = some q → Ct G mX5_expression De T [va_rf r, .int x] (xoQ q.1) q.2)   : ∀ (n : Nat) (x0 : Option Nat) (x1 : Int32) (x2 : Option Nat) (T : xF) (q : ((Option Nat ⊕ xE) × xF)), c_X5_sum_13 G kE n x0 x1 x2 T = some q → Xr G (mX5_sum, xrm (De + 3) T0 q.2, T0, xoQ q.1, q.2) 13 [(0, va_rf x0), (1, .int x1), (2, va_rf x2)] [] T
  | 0, _, _, _, _, _, hf => by cases hf
  | n + 1, x0, x1, x2, T, q, hf => c_X5_sum_13_bok hDE hkE (c_X5_sum_13_ok hDE hkE n) x0 x1 x2 T q hf
def c_X5_sum (G : xG) (kE : Option Nat → Int32 → xF → Option ((Option Nat ⊕ xE) × xF)) (x0 : Option Nat) (x1 : Int32) (T : xF) : Option ((Option Nat ⊕ xE) × xF) :=
  al (nO T 6 2 [.null, .null]) fun T0 =>
  if ¬ isO T0 x0 4 = true then none else
  clX (c_X5_product G kE x0 x1 T0) T0 fun v6 T6 =>
  cl (c_X7_init G (some T.2.1) v6 T6) T6 fun v9 T9 =>
  c_X5_sum_13 G kE FU x0 x1 (some T.2.1) T9
theorem w_X5_sum {G : xG} {De : Nat} {kE : Option Nat → Int32 → xF → Option ((Option Nat ⊕ xE) × xF)} {T : xF} (hDE : 20 ≤ De) (hkE : ∀ (r : Option Nat) (x : Int32) (T : xF) (q : ((Option Nat ⊕ xE) × xF)), kE r x T = some q → Ct G mX5_expression De T [va_rf r, .int x] (xoQ q.1) q.2) {x0 : Option Nat} {x1 : Int32} {q : ((Option Nat ⊕ xE) × xF)} (hf : c_X5_sum G kE x0 x1 T = some q) : Ct G mX5_sum (De + 3) T [va_rf x0, .int x1] (xoQ q.1) q.2 := by
  refine Ct.ofc (plainFor_of_name (by decide +kernel)) rfl (xvQ (xvI xvN)) (Nat.le_of_ble_eq_true rfl) (show Xr G _ 0 [(0, va_rf x0), (1, .int x1)] [] _ from ?_)
  unfold c_X5_sum at hf
  obtain ⟨T0, e0, hf, l0⟩ := al_ok hf
  refine C.newE e0 dX5_sum_0 clX7 q1062 q1063 q146 rfl dfX7 l0 ?_
  refine X.dup dX5_sum_3 (cat1 _) ?_
  refine C.aload_n dX5_sum_4 rfl 0 rfl ?_
  refine X.iload_n dX5_sum_5 rfl 1 rfl ?_
  obtain ⟨c6, hf⟩ := if_n hf
  rcases clX_ok hf with ⟨v6, T6, h6, hf, l6, r6⟩ | ⟨e6, T6, h6, rfl, l6⟩
  rotate_left
  · exact C.Vx (As := [.int x1]) (rest := [va_rf (some T.2.1), va_rf (some T.2.1)]) dX5_sum_6 (w_X5_product hDE hkE h6) cX5_188 (Classical.not_not.mp c6) rfl rfl (xcs (xvQ (xvQ xvN)) (Nat.le_of_ble_eq_true rfl)) rfl rfl (xD (by omega)) l6 xle.rf (xnoh rfl) rfl
  refine C.Vq (As := [.int x1]) (rest := [va_rf (some T.2.1), va_rf (some T.2.1)]) dX5_sum_6 (w_X5_product hDE hkE h6) cX5_188 (Classical.not_not.mp c6) rfl rfl (xcs (xvQ (xvQ xvN)) (Nat.le_of_ble_eq_true rfl)) rfl rfl (xD (by omega)) l6 r6 ?_
  obtain ⟨v9, T9, h9, hf, l9, r9⟩ := cl_ok hf
  refine C.Iv (As := [va_rf v6]) (rest := [va_rf (some T.2.1)]) dX5_sum_9 (w_X7_init h9) cX5_173 rfl rfl rfl (xcs (xvQ xvN) (Nat.le_of_ble_eq_true rfl)) (xD (by omega)) l9 r9 ?_
  refine C.ast_n (L' := [(2, va_rf (some T.2.1)), (0, va_rf x0), (1, .int x1)]) dX5_sum_12 rfl (Nat.le_of_ble_eq_true rfl) (xcQ (xcI xcN)) rfl ?_
  refine X.sub [1, 2, 0] (L' := [(0, va_rf x0), (1, .int x1), (2, va_rf (some T.2.1))]) rfl ?_
  exact c_X5_sum_13_ok hDE hkE FU _ _ _ _ _ hf
theorem cX5_193 : xCV RX5 193 mX5_sum 1 := ⟨lw_V q1073 q1075 qs32 q132 q1076, rfl, ⟨by decide +kernel, by decide +kernel, by decide +kernel⟩, Nat.le_of_ble_eq_true rfl⟩
/-! MouldVotes$Not <init> -/
abbrev cX10_init : ByteArray := prog_5_method_1_code
def yX10_init : MethodName := ⟨RX10, "<init>", "(LMouldVotes$Form;)V"⟩
def dkwX10_init_0 : List UInt8 := [42, 183, 0, 1, 42, 43, 181, 0, 7, 177]
abbrev dktX10_init_0 : List UInt8 := dkwX10_init_0 ++ []
theorem dksX10_init_0 : cX10_init.data.toList.drop 0 = dktX10_init_0 := by decide +kernel
theorem dX10_init_0 : decode cX10_init 0 = .ok (.aload_n 0, 1) := dk_42 (dk_at dksX10_init_0 0 rfl rfl)
theorem dX10_init_1 : decode cX10_init 1 = .ok (.invokespecial 1, 3) := dk_183 0 1 (dk_at dksX10_init_0 1 rfl rfl)
theorem dX10_init_4 : decode cX10_init 4 = .ok (.aload_n 0, 1) := dk_42 (dk_at dksX10_init_0 4 rfl rfl)
theorem dX10_init_5 : decode cX10_init 5 = .ok (.aload_n 1, 1) := dk_43 (dk_at dksX10_init_0 5 rfl rfl)
theorem dX10_init_6 : decode cX10_init 6 = .ok (.putfield 7, 3) := dk_181 0 7 (dk_at dksX10_init_0 6 rfl rfl)
theorem dX10_init_9 : decode cX10_init 9 = .ok (.return_, 1) := dk_177 (dk_at dksX10_init_0 9 rfl rfl)
abbrev mX10_init : xM := (yX10_init, cX10_init, 2, none, [])
def c_X10_init (x0 : Option Nat) (x1 : Option Nat) (T : xF) : Option (Unit × xF) :=
  if ¬ x0.isSome = true then none else
  (pV T x0 9 0 (va_rf x1)).bind fun T6 =>
  some ((), T6)
theorem w_X10_init {G : xG}  {T : xF} {x0 : Option Nat} {x1 : Option Nat} {q : (Unit × xF)} (hf : c_X10_init x0 x1 T = some q) : Ct G mX10_init (1) T [va_rf x0, va_rf x1] (.inl none) q.2 := by
  refine Ct.ofc (plainFor_of_name (by decide +kernel)) rfl (xvQ (xvQ xvN)) (Nat.le_of_ble_eq_true rfl) (show Xr G _ 0 [(0, va_rf x0), (1, va_rf x1)] [] _ from ?_)
  unfold c_X10_init at hf
  refine C.aload_n dX10_init_0 rfl 0 rfl ?_
  obtain ⟨c1, hf⟩ := if_n hf
  refine C.objI (Classical.not_not.mp c1) dX10_init_1 q1225 obj1 obj2 (xcs xvN (Nat.le_of_ble_eq_true rfl)) (xD1 (Nat.le_of_ble_eq_true rfl)) ?_
  refine C.aload_n dX10_init_4 rfl 0 rfl ?_
  refine C.aload_n dX10_init_5 rfl 1 rfl ?_
  obtain ⟨T6, h6, hf⟩ := ob hf
  refine C.putQ dX10_init_6 fX10_7 (fun _ => rfl) rfl h6 ?_
  obtain rfl := Option.some.inj hf
  exact X.vret dX10_init_9 rfl rfl
theorem cX5_198 : xCI RX5 198 mX10_init 1 := ⟨⟨lw_meth q1224, rfl, q152, q1222, q1223, rfl⟩, rfl, ⟨by decide +kernel, by decide +kernel, by decide +kernel⟩, Nat.le_of_ble_eq_true rfl⟩
/-! MouldVotes$Reader not -/
abbrev cX5_not : ByteArray := prog_7_method_17_code
def yX5_not : MethodName := ⟨RX5, "not", "(I)LMouldVotes$Form;"⟩
def dkwX5_not_5 : List UInt8 := [167, 255, 236, 25, 4, 176]
abbrev dktX5_not_5 : List UInt8 := dkwX5_not_5 ++ []
def dkwX5_not_4 : List UInt8 := [54, 5, 21, 5, 28, 162, 0, 20, 187, 0, 196, 89, 25, 4, 183, 0, 198, 58, 4, 132, 5, 1]
abbrev dktX5_not_4 : List UInt8 := dkwX5_not_4 ++ dktX5_not_5
def dkwX5_not_3 : List UInt8 := [182, 0, 176, 54, 4, 45, 21, 4, 42, 27, 182, 0, 193, 182, 0, 180, 45, 182, 0, 184, 58, 4, 3]
abbrev dktX5_not_3 : List UInt8 := dkwX5_not_3 ++ dktX5_not_4
def dkwX5_not_2 : List UInt8 := [183, 0, 173, 78, 42, 16, 60, 182, 0, 153, 154, 0, 12, 42, 16, 61, 182, 0, 153, 153, 0, 20, 42]
abbrev dktX5_not_2 : List UInt8 := dkwX5_not_2 ++ dktX5_not_3
def dkwX5_not_1 : List UInt8 := [182, 0, 141, 132, 2, 1, 42, 182, 0, 133, 167, 255, 224, 187, 0, 168, 89, 42, 27, 182, 0, 193]
abbrev dktX5_not_1 : List UInt8 := dkwX5_not_1 ++ dktX5_not_2
def dkwX5_not_0 : List UInt8 := [3, 61, 42, 18, 191, 182, 0, 129, 153, 0, 29, 42, 28, 16, 6, 162, 0, 7, 4, 167, 0, 4, 3, 5]
abbrev dktX5_not_0 : List UInt8 := dkwX5_not_0 ++ dktX5_not_1
theorem dksX5_not_0 : cX5_not.data.toList.drop 0 = dktX5_not_0 := by decide +kernel
theorem dksX5_not_1 : cX5_not.data.toList.drop 24 = dktX5_not_1 := dk_seg dksX5_not_0 24 rfl rfl
theorem dksX5_not_2 : cX5_not.data.toList.drop 46 = dktX5_not_2 := dk_seg dksX5_not_1 22 rfl rfl
theorem dksX5_not_3 : cX5_not.data.toList.drop 69 = dktX5_not_3 := dk_seg dksX5_not_2 23 rfl rfl
theorem dksX5_not_4 : cX5_not.data.toList.drop 92 = dktX5_not_4 := dk_seg dksX5_not_3 23 rfl rfl
theorem dksX5_not_5 : cX5_not.data.toList.drop 114 = dktX5_not_5 := dk_seg dksX5_not_4 22 rfl rfl
theorem dX5_not_0 : decode cX5_not 0 = .ok (.iconst 0, 1) := dk_3 (dk_at dksX5_not_0 0 rfl rfl)
theorem dX5_not_1 : decode cX5_not 1 = .ok (.istore_n 2, 1) := dk_61 (dk_at dksX5_not_0 1 rfl rfl)
theorem dX5_not_2 : decode cX5_not 2 = .ok (.aload_n 0, 1) := dk_42 (dk_at dksX5_not_0 2 rfl rfl)
theorem dX5_not_3 : decode cX5_not 3 = .ok (.ldc 191, 2) := dk_18 191 (dk_at dksX5_not_0 3 rfl rfl)
theorem dX5_not_5 : decode cX5_not 5 = .ok (.invokevirtual 129, 3) := dk_182 0 129 (dk_at dksX5_not_0 5 rfl rfl)
theorem dX5_not_8 : decode cX5_not 8 = .ok (.ifCond .eq 29, 3) := dk_153 0 29 (dk_at dksX5_not_0 8 rfl rfl)
theorem dX5_not_11 : decode cX5_not 11 = .ok (.aload_n 0, 1) := dk_42 (dk_at dksX5_not_0 11 rfl rfl)
theorem dX5_not_12 : decode cX5_not 12 = .ok (.iload_n 2, 1) := dk_28 (dk_at dksX5_not_0 12 rfl rfl)
theorem dX5_not_13 : decode cX5_not 13 = .ok (.bipush 6, 2) := dk_16 6 (dk_at dksX5_not_0 13 rfl rfl)
theorem dX5_not_15 : decode cX5_not 15 = .ok (.if_icmp .ge 7, 3) := dk_162 0 7 (dk_at dksX5_not_0 15 rfl rfl)
theorem dX5_not_18 : decode cX5_not 18 = .ok (.iconst 1, 1) := dk_4 (dk_at dksX5_not_0 18 rfl rfl)
theorem dX5_not_19 : decode cX5_not 19 = .ok (.goto 4, 3) := dk_167 0 4 (dk_at dksX5_not_0 19 rfl rfl)
theorem dX5_not_22 : decode cX5_not 22 = .ok (.iconst 0, 1) := dk_3 (dk_at dksX5_not_0 22 rfl rfl)
theorem dX5_not_23 : decode cX5_not 23 = .ok (.iconst 2, 1) := dk_5 (dk_at dksX5_not_0 23 rfl rfl)
theorem dX5_not_24 : decode cX5_not 24 = .ok (.invokevirtual 141, 3) := dk_182 0 141 (dk_at dksX5_not_1 0 rfl rfl)
theorem dX5_not_27 : decode cX5_not 27 = .ok (.iinc 2 1, 3) := dk_132 2 1 (dk_at dksX5_not_1 3 rfl rfl)
theorem dX5_not_30 : decode cX5_not 30 = .ok (.aload_n 0, 1) := dk_42 (dk_at dksX5_not_1 6 rfl rfl)
theorem dX5_not_31 : decode cX5_not 31 = .ok (.invokevirtual 133, 3) := dk_182 0 133 (dk_at dksX5_not_1 7 rfl rfl)
theorem dX5_not_34 : decode cX5_not 34 = .ok (.goto (-32), 3) := dk_167 255 224 (dk_at dksX5_not_1 10 rfl rfl)
theorem dX5_not_37 : decode cX5_not 37 = .ok (.new 168, 3) := dk_187 0 168 (dk_at dksX5_not_1 13 rfl rfl)
theorem dX5_not_40 : decode cX5_not 40 = .ok (.dup, 1) := dk_89 (dk_at dksX5_not_1 16 rfl rfl)
theorem dX5_not_41 : decode cX5_not 41 = .ok (.aload_n 0, 1) := dk_42 (dk_at dksX5_not_1 17 rfl rfl)
theorem dX5_not_42 : decode cX5_not 42 = .ok (.iload_n 1, 1) := dk_27 (dk_at dksX5_not_1 18 rfl rfl)
theorem dX5_not_43 : decode cX5_not 43 = .ok (.invokevirtual 193, 3) := dk_182 0 193 (dk_at dksX5_not_1 19 rfl rfl)
theorem dX5_not_46 : decode cX5_not 46 = .ok (.invokespecial 173, 3) := dk_183 0 173 (dk_at dksX5_not_2 0 rfl rfl)
theorem dX5_not_49 : decode cX5_not 49 = .ok (.astore_n 3, 1) := dk_78 (dk_at dksX5_not_2 3 rfl rfl)
theorem dX5_not_50 : decode cX5_not 50 = .ok (.aload_n 0, 1) := dk_42 (dk_at dksX5_not_2 4 rfl rfl)
theorem dX5_not_51 : decode cX5_not 51 = .ok (.bipush 60, 2) := dk_16 60 (dk_at dksX5_not_2 5 rfl rfl)
theorem dX5_not_53 : decode cX5_not 53 = .ok (.invokevirtual 153, 3) := dk_182 0 153 (dk_at dksX5_not_2 7 rfl rfl)
theorem dX5_not_56 : decode cX5_not 56 = .ok (.ifCond .ne 12, 3) := dk_154 0 12 (dk_at dksX5_not_2 10 rfl rfl)
theorem dX5_not_59 : decode cX5_not 59 = .ok (.aload_n 0, 1) := dk_42 (dk_at dksX5_not_2 13 rfl rfl)
theorem dX5_not_60 : decode cX5_not 60 = .ok (.bipush 61, 2) := dk_16 61 (dk_at dksX5_not_2 14 rfl rfl)
theorem dX5_not_62 : decode cX5_not 62 = .ok (.invokevirtual 153, 3) := dk_182 0 153 (dk_at dksX5_not_2 16 rfl rfl)
theorem dX5_not_65 : decode cX5_not 65 = .ok (.ifCond .eq 20, 3) := dk_153 0 20 (dk_at dksX5_not_2 19 rfl rfl)
theorem dX5_not_68 : decode cX5_not 68 = .ok (.aload_n 0, 1) := dk_42 (dk_at dksX5_not_2 22 rfl rfl)
theorem dX5_not_69 : decode cX5_not 69 = .ok (.invokevirtual 176, 3) := dk_182 0 176 (dk_at dksX5_not_3 0 rfl rfl)
theorem dX5_not_72 : decode cX5_not 72 = .ok (.istore 4, 2) := dk_54 4 (dk_at dksX5_not_3 3 rfl rfl)
theorem dX5_not_74 : decode cX5_not 74 = .ok (.aload_n 3, 1) := dk_45 (dk_at dksX5_not_3 5 rfl rfl)
theorem dX5_not_75 : decode cX5_not 75 = .ok (.iload 4, 2) := dk_21 4 (dk_at dksX5_not_3 6 rfl rfl)
theorem dX5_not_77 : decode cX5_not 77 = .ok (.aload_n 0, 1) := dk_42 (dk_at dksX5_not_3 8 rfl rfl)
theorem dX5_not_78 : decode cX5_not 78 = .ok (.iload_n 1, 1) := dk_27 (dk_at dksX5_not_3 9 rfl rfl)
theorem dX5_not_79 : decode cX5_not 79 = .ok (.invokevirtual 193, 3) := dk_182 0 193 (dk_at dksX5_not_3 10 rfl rfl)
theorem dX5_not_82 : decode cX5_not 82 = .ok (.invokevirtual 180, 3) := dk_182 0 180 (dk_at dksX5_not_3 13 rfl rfl)
theorem dX5_not_85 : decode cX5_not 85 = .ok (.aload_n 3, 1) := dk_45 (dk_at dksX5_not_3 16 rfl rfl)
theorem dX5_not_86 : decode cX5_not 86 = .ok (.invokevirtual 184, 3) := dk_182 0 184 (dk_at dksX5_not_3 17 rfl rfl)
theorem dX5_not_89 : decode cX5_not 89 = .ok (.astore 4, 2) := dk_58 4 (dk_at dksX5_not_3 20 rfl rfl)
theorem dX5_not_91 : decode cX5_not 91 = .ok (.iconst 0, 1) := dk_3 (dk_at dksX5_not_3 22 rfl rfl)
theorem dX5_not_92 : decode cX5_not 92 = .ok (.istore 5, 2) := dk_54 5 (dk_at dksX5_not_4 0 rfl rfl)
theorem dX5_not_94 : decode cX5_not 94 = .ok (.iload 5, 2) := dk_21 5 (dk_at dksX5_not_4 2 rfl rfl)
theorem dX5_not_96 : decode cX5_not 96 = .ok (.iload_n 2, 1) := dk_28 (dk_at dksX5_not_4 4 rfl rfl)
theorem dX5_not_97 : decode cX5_not 97 = .ok (.if_icmp .ge 20, 3) := dk_162 0 20 (dk_at dksX5_not_4 5 rfl rfl)
theorem dX5_not_100 : decode cX5_not 100 = .ok (.new 196, 3) := dk_187 0 196 (dk_at dksX5_not_4 8 rfl rfl)
theorem dX5_not_103 : decode cX5_not 103 = .ok (.dup, 1) := dk_89 (dk_at dksX5_not_4 11 rfl rfl)
theorem dX5_not_104 : decode cX5_not 104 = .ok (.aload 4, 2) := dk_25 4 (dk_at dksX5_not_4 12 rfl rfl)
theorem dX5_not_106 : decode cX5_not 106 = .ok (.invokespecial 198, 3) := dk_183 0 198 (dk_at dksX5_not_4 14 rfl rfl)
theorem dX5_not_109 : decode cX5_not 109 = .ok (.astore 4, 2) := dk_58 4 (dk_at dksX5_not_4 17 rfl rfl)
theorem dX5_not_111 : decode cX5_not 111 = .ok (.iinc 5 1, 3) := dk_132 5 1 (dk_at dksX5_not_4 19 rfl rfl)
theorem dX5_not_114 : decode cX5_not 114 = .ok (.goto (-20), 3) := dk_167 255 236 (dk_at dksX5_not_5 0 rfl rfl)
theorem dX5_not_117 : decode cX5_not 117 = .ok (.aload 4, 2) := dk_25 4 (dk_at dksX5_not_5 3 rfl rfl)
theorem dX5_not_119 : decode cX5_not 119 = .ok (.areturn, 1) := dk_176 (dk_at dksX5_not_5 5 rfl rfl)
abbrev mX5_not : xM := (yX5_not, cX5_not, 6, (some (.object "MouldVotes$Form")), [])
def c_X5_not_23 (G : xG) (kE : Option Nat → Int32 → xF → Option ((Option Nat ⊕ xE) × xF)) (k2 : Option Nat → Int32 → Int32 → xF → Option ((Option Nat ⊕ xE) × xF)) (x0 : Option Nat) (x1 : Int32) (x2 : Int32) (y0 : Int32) (y1 : Option Nat) (T : xF) : Option ((Option Nat ⊕ xE) × xF) :=
  if ¬ isO T y1 4 = true then none else
  clX (c_X5_want G y1 y0 (2 : Int32) T) T fun v24 T24 =>
  if ¬ isO T24 x0 4 = true then none else
  cl (c_X5_next G x0 T24) T24 fun v31 T31 =>
  k2 x0 x1 (x2 + 1) T31
theorem c_X5_not_23_ok {G : xG} {De : Nat} {kE : Option Nat → Int32 → xF → Option ((Option Nat ⊕ xE) × xF)} {T0 : xF} (hDE : 20 ≤ De) (hkE : ∀ (r : Option Nat) (x : Int32) (T : xF) (q : ((Option Nat ⊕ xE) × xF)), kE r x T = some q → Ct G mX5_expression De T [va_rf r, .int x] (xoQ q.1) q.2) {k2 : Option Nat → Int32 → Int32 → xF → Option ((Option Nat ⊕ xE) × xF)} (hk2 : ∀ (x0 : Option Nat) (x1 : Int32) (x2 : Int32) (T : xF) (q : ((Option Nat ⊕ xE) × xF)), k2 x0 x1 x2 T = some q → Xr G (mX5_not, xrm (De + 4) T0 q.2, T0, xoQ q.1, q.2) 2 [(0, va_rf x0), (1, .int x1), (2, .int x2)] [] T) (x0 : Option Nat) (x1 : Int32) (x2 : Int32) (y0 : Int32) (y1 : Option Nat) (T : xF) (q : ((Option Nat ⊕ xE) × xF)) (hf : c_X5_not_23 G kE k2 x0 x1 x2 y0 y1 T = some q) : Xr G (mX5_not, xrm (De + 4) T0 q.2, T0, xoQ q.1, q.2) 23 [(0, va_rf x0), (1, .int x1), (2, .int x2)] [.int y0, va_rf y1] T := by
  unfold c_X5_not_23 at hf
  refine X.iconst (v := 2) dX5_not_23 (by decide) ?_
  obtain ⟨c24, hf⟩ := if_n hf
  rcases clX_ok hf with ⟨v24, T24, h24, hf, l24, r24⟩ | ⟨e24, T24, h24, rfl, l24⟩
  rotate_left
  · exact C.Vx (As := [.int y0, .int (2 : Int32)]) (rest := []) dX5_not_24 (w_X5_want h24) cX5_141 (Classical.not_not.mp c24) rfl rfl (xcs xvN (Nat.le_of_ble_eq_true rfl)) rfl rfl (xD (by omega)) l24 xle.rf (xnoh rfl) rfl
  refine C.Vv (As := [.int y0, .int (2 : Int32)]) (rest := []) dX5_not_24 (w_X5_want h24) cX5_141 (Classical.not_not.mp c24) rfl rfl (xcs xvN (Nat.le_of_ble_eq_true rfl)) rfl rfl (xD (by omega)) l24 r24 ?_
  refine C.iinc (v := (x2 + 1)) (L' := [(2, .int (x2 + 1)), (0, va_rf x0), (1, .int x1)]) dX5_not_27 2 rfl rfl (Nat.le_of_ble_eq_true rfl) (xcQ (xcI (xcI xcN))) rfl ?_
  refine C.aload_n dX5_not_30 rfl 1 rfl ?_
  obtain ⟨c31, hf⟩ := if_n hf
  obtain ⟨v31, T31, h31, hf, l31, r31⟩ := cl_ok hf
  refine C.Vv (As := []) (rest := []) dX5_not_31 (w_X5_next h31) cX5_133 (Classical.not_not.mp c31) rfl rfl (xcs xvN (Nat.le_of_ble_eq_true rfl)) rfl rfl (xD (by omega)) l31 r31 ?_
  refine X.goto (tgt := 2) dX5_not_34 (by decide) ?_
  refine X.sub [1, 2, 0] (L' := [(0, va_rf x0), (1, .int x1), (2, .int (x2 + 1))]) rfl ?_
  exact hk2 _ _ _ _ _ hf
def c_X5_not_94_b (G : xG) (kE : Option Nat → Int32 → xF → Option ((Option Nat ⊕ xE) × xF)) (k94 : Int32 → Option Nat → Int32 → xF → Option ((Option Nat ⊕ xE) × xF)) (x2 : Int32) (x4 : Option Nat) (x5 : Int32) (T : xF) : Option ((Option Nat ⊕ xE) × xF) :=
  if x2 ≤ x5 then
    some (.inl x4, T)
  else
    al (nO T 9 1 [.null]) fun T100 =>
    cl (c_X10_init (some T.2.1) x4 T100) T100 fun v106 T106 =>
    k94 x2 (some T.2.1) (x5 + 1) T106
def c_X5_not_94 (G : xG) (kE : Option Nat → Int32 → xF → Option ((Option Nat ⊕ xE) × xF)) : Nat → Int32 → Option Nat → Int32 → xF → Option ((Option Nat ⊕ xE) × xF)
  | 0 => fun _ _ _ _ => none
  | n + 1 => fun x2 x4 x5 T => c_X5_not_94_b G kE (c_X5_not_94 G kE n) x2 x4 x5 T
theorem c_X5_not_94_bok {G : xG} {De : Nat} {kE : Option Nat → Int32 → xF → Option ((Option Nat ⊕ xE) × xF)} {T0 : xF} (hDE : 20 ≤ De) (hkE : ∀ (r : Option Nat) (x : Int32) (T : xF) (q : ((Option Nat ⊕ xE) × xF)), kE r x T = some q → Ct G mX5_expression De T [va_rf r, .int x] (xoQ q.1) q.2)  {k94 : Int32 → Option Nat → Int32 → xF → Option ((Option Nat ⊕ xE) × xF)}  (hk94 : ∀ (x2 : Int32) (x4 : Option Nat) (x5 : Int32) (T : xF) (q : ((Option Nat ⊕ xE) × xF)), k94 x2 x4 x5 T = some q → Xr G (mX5_not, xrm (De + 4) T0 q.2, T0, xoQ q.1, q.2) 94 [(2, .int x2), (4, va_rf x4), (5, .int x5)] [] T) (x2 : Int32) (x4 : Option Nat) (x5 : Int32) (T : xF) (q : ((Option Nat ⊕ xE) × xF)) (hf : c_X5_not_94_b G kE k94 x2 x4 x5 T = some q) : Xr G (mX5_not, xrm (De + 4) T0 q.2, T0, xoQ q.1, q.2) 94 [(2, .int x2), (4, va_rf x4), (5, .int x5)] [] T := by
  unfold c_X5_not_94_b at hf
  refine X.iload dX5_not_94 2 rfl ?_
  refine X.iload_n dX5_not_96 rfl 0 rfl ?_
  refine X.icmp_ge (tgt := 117) dX5_not_97 (by decide) (fun c97 => ?_) (fun c97 => ?_)
  · have hf := if_t c97 hf
    refine C.aload dX5_not_117 1 rfl ?_
    obtain rfl := Option.some.inj hf
    exact X.aret dX5_not_119 rfl (Or.inl ⟨_, rfl⟩) rfl
  · have hf := if_f c97 hf
    obtain ⟨T100, e100, hf, l100⟩ := al_ok hf
    refine C.newE e100 dX5_not_100 clX10 q1220 q1221 q152 rfl dfX10 l100 ?_
    refine X.dup dX5_not_103 (cat1 _) ?_
    refine C.aload dX5_not_104 1 rfl ?_
    obtain ⟨v106, T106, h106, hf, l106, r106⟩ := cl_ok hf
    refine C.Iv (As := [va_rf x4]) (rest := [va_rf (some T.2.1)]) dX5_not_106 (w_X10_init h106) cX5_198 rfl rfl rfl (xcs (xvQ xvN) (Nat.le_of_ble_eq_true rfl)) (xD (by omega)) l106 r106 ?_
    refine C.ast (L' := [(4, va_rf (some T.2.1)), (2, .int x2), (5, .int x5)]) dX5_not_109 (Nat.le_of_ble_eq_true rfl) (xcI (xcQ (xcI xcN))) rfl ?_
    refine C.iinc (v := (x5 + 1)) (L' := [(5, .int (x5 + 1)), (4, va_rf (some T.2.1)), (2, .int x2)]) dX5_not_111 2 rfl rfl (Nat.le_of_ble_eq_true rfl) (xcQ (xcI (xcI xcN))) rfl ?_
    refine X.goto (tgt := 94) dX5_not_114 (by decide) ?_
    refine X.sub [2, 1, 0] (L' := [(2, .int x2), (4, va_rf (some T.2.1)), (5, .int (x5 + 1))]) rfl ?_
    exact hk94 _ _ _ _ _ hf
theorem c_X5_not_94_ok {G : xG} {De : Nat} {kE : Option Nat → Int32 → xF → Option ((Option Nat ⊕ xE) × xF)} {T0 : xF} (hDE : 20 ≤ De) (hkE : ∀ (r : Option Nat) (x : Int32) (T : xF) (q : ((Option Nat ⊕ xE) × xF)), kE r x T = some q → Ct G mX5_expression De T [va_rf r, .int x] (xoQ q.1) q.2)   : ∀ (n : Nat) (x2 : Int32) (x4 : Option Nat) (x5 : Int32) (T : xF) (q : ((Option Nat ⊕ xE) × xF)), c_X5_not_94 G kE n x2 x4 x5 T = some q → Xr G (mX5_not, xrm (De + 4) T0 q.2, T0, xoQ q.1, q.2) 94 [(2, .int x2), (4, va_rf x4), (5, .int x5)] [] T
  | 0, _, _, _, _, _, hf => by cases hf
  | n + 1, x2, x4, x5, T, q, hf => c_X5_not_94_bok hDE hkE (c_X5_not_94_ok hDE hkE n) x2 x4 x5 T q hf
def c_X5_not_85 (G : xG) (kE : Option Nat → Int32 → xF → Option ((Option Nat ⊕ xE) × xF)) (x2 : Int32) (x3 : Option Nat) (T : xF) : Option ((Option Nat ⊕ xE) × xF) :=
  if ¬ isO T x3 6 = true then none else
  (c_X7_plain T x3).bind fun v86 =>
  c_X5_not_94 G kE FU x2 v86 (0 : Int32) T
theorem c_X5_not_85_ok {G : xG} {De : Nat} {kE : Option Nat → Int32 → xF → Option ((Option Nat ⊕ xE) × xF)} {T0 : xF} (hDE : 20 ≤ De) (hkE : ∀ (r : Option Nat) (x : Int32) (T : xF) (q : ((Option Nat ⊕ xE) × xF)), kE r x T = some q → Ct G mX5_expression De T [va_rf r, .int x] (xoQ q.1) q.2)   (x2 : Int32) (x3 : Option Nat) (T : xF) (q : ((Option Nat ⊕ xE) × xF)) (hf : c_X5_not_85 G kE x2 x3 T = some q) : Xr G (mX5_not, xrm (De + 4) T0 q.2, T0, xoQ q.1, q.2) 85 [(2, .int x2), (3, va_rf x3)] [] T := by
  unfold c_X5_not_85 at hf
  refine C.aload_n dX5_not_85 rfl 1 rfl ?_
  obtain ⟨c86, hf⟩ := if_n hf
  obtain ⟨v86, h86, hf⟩ := ob hf
  refine X.keep fun l86 => C.Vq (As := []) (rest := []) dX5_not_86 (w_X7_plain h86) cX5_184 (Classical.not_not.mp c86) rfl rfl (xcs xvN (Nat.le_of_ble_eq_true rfl)) rfl rfl (xD (by omega)) xle.rf l86 ?_
  refine C.ast (L' := [(4, va_rf v86), (2, .int x2), (3, va_rf x3)]) dX5_not_89 (Nat.le_of_ble_eq_true rfl) (xcI (xcQ xcN)) rfl ?_
  refine X.iconst (v := 0) dX5_not_91 (by decide) ?_
  refine C.ist (L' := [(5, .int (0 : Int32)), (4, va_rf v86), (2, .int x2), (3, va_rf x3)]) dX5_not_92 (Nat.le_of_ble_eq_true rfl) (xcQ (xcI (xcQ xcN))) rfl ?_
  refine X.sub [2, 1, 0] (L' := [(2, .int x2), (4, va_rf v86), (5, .int (0 : Int32))]) rfl ?_
  exact c_X5_not_94_ok hDE hkE FU _ _ _ _ _ hf
def c_X5_not_68 (G : xG) (kE : Option Nat → Int32 → xF → Option ((Option Nat ⊕ xE) × xF)) (x0 : Option Nat) (x1 : Int32) (x2 : Int32) (x3 : Option Nat) (T : xF) : Option ((Option Nat ⊕ xE) × xF) :=
  if ¬ isO T x0 4 = true then none else
  cl (c_X5_sign G x0 T) T fun v69 T69 =>
  if ¬ isO T69 x0 4 = true then none else
  clX (c_X5_sum G kE x0 x1 T69) T69 fun v79 T79 =>
  if ¬ isO T79 x3 6 = true then none else
  cl (c_X7_add G x3 v69 v79 T79) T79 fun v82 T82 =>
  c_X5_not_85 G kE x2 x3 T82
theorem c_X5_not_68_ok {G : xG} {De : Nat} {kE : Option Nat → Int32 → xF → Option ((Option Nat ⊕ xE) × xF)} {T0 : xF} (hDE : 20 ≤ De) (hkE : ∀ (r : Option Nat) (x : Int32) (T : xF) (q : ((Option Nat ⊕ xE) × xF)), kE r x T = some q → Ct G mX5_expression De T [va_rf r, .int x] (xoQ q.1) q.2)   (x0 : Option Nat) (x1 : Int32) (x2 : Int32) (x3 : Option Nat) (T : xF) (q : ((Option Nat ⊕ xE) × xF)) (hf : c_X5_not_68 G kE x0 x1 x2 x3 T = some q) : Xr G (mX5_not, xrm (De + 4) T0 q.2, T0, xoQ q.1, q.2) 68 [(0, va_rf x0), (1, .int x1), (2, .int x2), (3, va_rf x3)] [] T := by
  unfold c_X5_not_68 at hf
  refine C.aload_n dX5_not_68 rfl 0 rfl ?_
  obtain ⟨c69, hf⟩ := if_n hf
  obtain ⟨v69, T69, h69, hf, l69, r69⟩ := cl_ok hf
  refine C.Vi (As := []) (rest := []) dX5_not_69 (w_X5_sign h69) cX5_176 (Classical.not_not.mp c69) rfl rfl (xcs xvN (Nat.le_of_ble_eq_true rfl)) rfl rfl (xD (by omega)) l69 r69 ?_
  refine C.ist (L' := [(4, .int v69), (0, va_rf x0), (1, .int x1), (2, .int x2), (3, va_rf x3)]) dX5_not_72 (Nat.le_of_ble_eq_true rfl) (xcQ (xcI (xcI (xcQ xcN)))) rfl ?_
  refine C.aload_n dX5_not_74 rfl 4 rfl ?_
  refine X.iload dX5_not_75 0 rfl ?_
  refine C.aload_n dX5_not_77 rfl 1 rfl ?_
  refine X.iload_n dX5_not_78 rfl 2 rfl ?_
  obtain ⟨c79, hf⟩ := if_n hf
  rcases clX_ok hf with ⟨v79, T79, h79, hf, l79, r79⟩ | ⟨e79, T79, h79, rfl, l79⟩
  rotate_left
  · exact C.Vx (As := [.int x1]) (rest := [.int v69, va_rf x3]) dX5_not_79 (w_X5_sum hDE hkE h79) cX5_193 (Classical.not_not.mp c79) rfl rfl (xcs (xvI (xvQ xvN)) (Nat.le_of_ble_eq_true rfl)) rfl rfl (xD (by omega)) l79 xle.rf (xnoh rfl) rfl
  refine C.Vq (As := [.int x1]) (rest := [.int v69, va_rf x3]) dX5_not_79 (w_X5_sum hDE hkE h79) cX5_193 (Classical.not_not.mp c79) rfl rfl (xcs (xvI (xvQ xvN)) (Nat.le_of_ble_eq_true rfl)) rfl rfl (xD (by omega)) l79 r79 ?_
  obtain ⟨c82, hf⟩ := if_n hf
  obtain ⟨v82, T82, h82, hf, l82, r82⟩ := cl_ok hf
  refine C.Vv (As := [.int v69, va_rf v79]) (rest := []) dX5_not_82 (w_X7_add h82) cX5_180 (Classical.not_not.mp c82) rfl rfl (xcs xvN (Nat.le_of_ble_eq_true rfl)) rfl rfl (xD (by omega)) l82 r82 ?_
  refine X.sub [3, 4] (L' := [(2, .int x2), (3, va_rf x3)]) rfl ?_
  exact c_X5_not_85_ok hDE hkE _ _ _ _ hf
def c_X5_not_2_b (G : xG) (kE : Option Nat → Int32 → xF → Option ((Option Nat ⊕ xE) × xF)) (k2 : Option Nat → Int32 → Int32 → xF → Option ((Option Nat ⊕ xE) × xF)) (x0 : Option Nat) (x1 : Int32) (x2 : Int32) (T : xF) : Option ((Option Nat ⊕ xE) × xF) :=
  if ¬ isO T x0 4 = true then none else
  (c_X5_is G T x0 (some (gT G 14))).bind fun v5 =>
  if v5 = 0 then
    al (nO T 6 2 [.null, .null]) fun T37 =>
    if ¬ isO T37 x0 4 = true then none else
    clX (c_X5_sum G kE x0 x1 T37) T37 fun v43 T43 =>
    cl (c_X7_init G (some T.2.1) v43 T43) T43 fun v46 T46 =>
    if ¬ isO T46 x0 4 = true then none else
    (c_X5_isSign T46 x0 (60 : Int32)).bind fun v53 =>
    if v53 = 0 then
      if ¬ isO T46 x0 4 = true then none else
      (c_X5_isSign T46 x0 (61 : Int32)).bind fun v62 =>
      if v62 = 0 then
        c_X5_not_85 G kE x2 (some T.2.1) T46
      else
        c_X5_not_68 G kE x0 x1 x2 (some T.2.1) T46
    else
      c_X5_not_68 G kE x0 x1 x2 (some T.2.1) T46
  else
    if (6 : Int32) ≤ x2 then
      c_X5_not_23 G kE k2 x0 x1 x2 (0 : Int32) x0 T
    else
      c_X5_not_23 G kE k2 x0 x1 x2 (1 : Int32) x0 T
def c_X5_not_2 (G : xG) (kE : Option Nat → Int32 → xF → Option ((Option Nat ⊕ xE) × xF)) : Nat → Option Nat → Int32 → Int32 → xF → Option ((Option Nat ⊕ xE) × xF)
  | 0 => fun _ _ _ _ => none
  | n + 1 => fun x0 x1 x2 T => c_X5_not_2_b G kE (c_X5_not_2 G kE n) x0 x1 x2 T
theorem c_X5_not_2_bok {G : xG} {De : Nat} {kE : Option Nat → Int32 → xF → Option ((Option Nat ⊕ xE) × xF)} {T0 : xF} (hDE : 20 ≤ De) (hkE : ∀ (r : Option Nat) (x : Int32) (T : xF) (q : ((Option Nat ⊕ xE) × xF)), kE r x T = some q → Ct G mX5_expression De T [va_rf r, .int x] (xoQ q.1) q.2)  {k2 : Option Nat → Int32 → Int32 → xF → Option ((Option Nat ⊕ xE) × xF)}  (hk2 : ∀ (x0 : Option Nat) (x1 : Int32) (x2 : Int32) (T : xF) (q : ((Option Nat ⊕ xE) × xF)), k2 x0 x1 x2 T = some q → Xr G (mX5_not, xrm (De + 4) T0 q.2, T0, xoQ q.1, q.2) 2 [(0, va_rf x0), (1, .int x1), (2, .int x2)] [] T) (x0 : Option Nat) (x1 : Int32) (x2 : Int32) (T : xF) (q : ((Option Nat ⊕ xE) × xF)) (hf : c_X5_not_2_b G kE k2 x0 x1 x2 T = some q) : Xr G (mX5_not, xrm (De + 4) T0 q.2, T0, xoQ q.1, q.2) 2 [(0, va_rf x0), (1, .int x1), (2, .int x2)] [] T := by
  unfold c_X5_not_2_b at hf
  refine C.aload_n dX5_not_2 rfl 0 rfl ?_
  refine C.ldcS dX5_not_3 (i := 14) rfl rfl ?_
  obtain ⟨c5, hf⟩ := if_n hf
  obtain ⟨v5, h5, hf⟩ := ob hf
  refine X.keep fun l5 => C.Vi (As := [va_rf (some (gT G 14))]) (rest := []) dX5_not_5 (w_X5_is h5) cX5_129 (Classical.not_not.mp c5) rfl rfl (xcs xvN (Nat.le_of_ble_eq_true rfl)) rfl rfl (xD (by omega)) xle.rf l5 ?_
  refine X.if_eq (tgt := 37) dX5_not_8 (by decide) (fun c8 => ?_) (fun c8 => ?_)
  · have hf := if_t c8 hf
    obtain ⟨T37, e37, hf, l37⟩ := al_ok hf
    refine C.newE e37 dX5_not_37 clX7 q1062 q1063 q146 rfl dfX7 l37 ?_
    refine X.dup dX5_not_40 (cat1 _) ?_
    refine C.aload_n dX5_not_41 rfl 0 rfl ?_
    refine X.iload_n dX5_not_42 rfl 1 rfl ?_
    obtain ⟨c43, hf⟩ := if_n hf
    rcases clX_ok hf with ⟨v43, T43, h43, hf, l43, r43⟩ | ⟨e43, T43, h43, rfl, l43⟩
    rotate_left
    · exact C.Vx (As := [.int x1]) (rest := [va_rf (some T.2.1), va_rf (some T.2.1)]) dX5_not_43 (w_X5_sum hDE hkE h43) cX5_193 (Classical.not_not.mp c43) rfl rfl (xcs (xvQ (xvQ xvN)) (Nat.le_of_ble_eq_true rfl)) rfl rfl (xD (by omega)) l43 xle.rf (xnoh rfl) rfl
    refine C.Vq (As := [.int x1]) (rest := [va_rf (some T.2.1), va_rf (some T.2.1)]) dX5_not_43 (w_X5_sum hDE hkE h43) cX5_193 (Classical.not_not.mp c43) rfl rfl (xcs (xvQ (xvQ xvN)) (Nat.le_of_ble_eq_true rfl)) rfl rfl (xD (by omega)) l43 r43 ?_
    obtain ⟨v46, T46, h46, hf, l46, r46⟩ := cl_ok hf
    refine C.Iv (As := [va_rf v43]) (rest := [va_rf (some T.2.1)]) dX5_not_46 (w_X7_init h46) cX5_173 rfl rfl rfl (xcs (xvQ xvN) (Nat.le_of_ble_eq_true rfl)) (xD (by omega)) l46 r46 ?_
    refine C.ast_n (L' := [(3, va_rf (some T.2.1)), (0, va_rf x0), (1, .int x1), (2, .int x2)]) dX5_not_49 rfl (Nat.le_of_ble_eq_true rfl) (xcQ (xcI (xcI xcN))) rfl ?_
    refine C.aload_n dX5_not_50 rfl 1 rfl ?_
    refine X.bipush (v := 60) dX5_not_51 (by decide) ?_
    obtain ⟨c53, hf⟩ := if_n hf
    obtain ⟨v53, h53, hf⟩ := ob hf
    refine X.keep fun l53 => C.Vi (As := [.int (60 : Int32)]) (rest := []) dX5_not_53 (w_X5_isSign h53) cX5_153 (Classical.not_not.mp c53) rfl rfl (xcs xvN (Nat.le_of_ble_eq_true rfl)) rfl rfl (xD (by omega)) xle.rf l53 ?_
    refine X.if_ne (tgt := 68) dX5_not_56 (by decide) (fun c56 => ?_) (fun c56 => ?_)
    · have hf := if_f c56 hf
      refine X.sub [1, 2, 3, 0] (L' := [(0, va_rf x0), (1, .int x1), (2, .int x2), (3, va_rf (some T.2.1))]) rfl ?_
      exact c_X5_not_68_ok hDE hkE _ _ _ _ _ _ hf
    · have hf := if_t c56 hf
      refine C.aload_n dX5_not_59 rfl 1 rfl ?_
      refine X.bipush (v := 61) dX5_not_60 (by decide) ?_
      obtain ⟨c62, hf⟩ := if_n hf
      obtain ⟨v62, h62, hf⟩ := ob hf
      refine X.keep fun l62 => C.Vi (As := [.int (61 : Int32)]) (rest := []) dX5_not_62 (w_X5_isSign h62) cX5_153 (Classical.not_not.mp c62) rfl rfl (xcs xvN (Nat.le_of_ble_eq_true rfl)) rfl rfl (xD (by omega)) xle.rf l62 ?_
      refine X.if_eq (tgt := 85) dX5_not_65 (by decide) (fun c65 => ?_) (fun c65 => ?_)
      · have hf := if_t c65 hf
        refine X.sub [3, 0] (L' := [(2, .int x2), (3, va_rf (some T.2.1))]) rfl ?_
        exact c_X5_not_85_ok hDE hkE _ _ _ _ hf
      · have hf := if_f c65 hf
        refine X.sub [1, 2, 3, 0] (L' := [(0, va_rf x0), (1, .int x1), (2, .int x2), (3, va_rf (some T.2.1))]) rfl ?_
        exact c_X5_not_68_ok hDE hkE _ _ _ _ _ _ hf
  · have hf := if_f c8 hf
    refine C.aload_n dX5_not_11 rfl 0 rfl ?_
    refine X.iload_n dX5_not_12 rfl 2 rfl ?_
    refine X.bipush (v := 6) dX5_not_13 (by decide) ?_
    refine X.icmp_ge (tgt := 22) dX5_not_15 (by decide) (fun c15 => ?_) (fun c15 => ?_)
    · have hf := if_t c15 hf
      refine X.iconst (v := 0) dX5_not_22 (by decide) ?_
      refine X.sub [0, 1, 2] (L' := [(0, va_rf x0), (1, .int x1), (2, .int x2)]) rfl ?_
      exact c_X5_not_23_ok hDE hkE hk2 _ _ _ _ _ _ _ hf
    · have hf := if_f c15 hf
      refine X.iconst (v := 1) dX5_not_18 (by decide) ?_
      refine X.goto (tgt := 23) dX5_not_19 (by decide) ?_
      refine X.sub [0, 1, 2] (L' := [(0, va_rf x0), (1, .int x1), (2, .int x2)]) rfl ?_
      exact c_X5_not_23_ok hDE hkE hk2 _ _ _ _ _ _ _ hf
theorem c_X5_not_2_ok {G : xG} {De : Nat} {kE : Option Nat → Int32 → xF → Option ((Option Nat ⊕ xE) × xF)} {T0 : xF} (hDE : 20 ≤ De) (hkE : ∀ (r : Option Nat) (x : Int32) (T : xF) (q : ((Option Nat ⊕ xE) × xF)), kE r x T = some q → Ct G mX5_expression De T [va_rf r, .int x] (xoQ q.1) q.2)   : ∀ (n : Nat) (x0 : Option Nat) (x1 : Int32) (x2 : Int32) (T : xF) (q : ((Option Nat ⊕ xE) × xF)), c_X5_not_2 G kE n x0 x1 x2 T = some q → Xr G (mX5_not, xrm (De + 4) T0 q.2, T0, xoQ q.1, q.2) 2 [(0, va_rf x0), (1, .int x1), (2, .int x2)] [] T
  | 0, _, _, _, _, _, hf => by cases hf
  | n + 1, x0, x1, x2, T, q, hf => c_X5_not_2_bok hDE hkE (c_X5_not_2_ok hDE hkE n) x0 x1 x2 T q hf
def c_X5_not (G : xG) (kE : Option Nat → Int32 → xF → Option ((Option Nat ⊕ xE) × xF)) (x0 : Option Nat) (x1 : Int32) (T : xF) : Option ((Option Nat ⊕ xE) × xF) :=
  c_X5_not_2 G kE FU x0 x1 (0 : Int32) T
theorem w_X5_not {G : xG} {De : Nat} {kE : Option Nat → Int32 → xF → Option ((Option Nat ⊕ xE) × xF)} {T : xF} (hDE : 20 ≤ De) (hkE : ∀ (r : Option Nat) (x : Int32) (T : xF) (q : ((Option Nat ⊕ xE) × xF)), kE r x T = some q → Ct G mX5_expression De T [va_rf r, .int x] (xoQ q.1) q.2) {x0 : Option Nat} {x1 : Int32} {q : ((Option Nat ⊕ xE) × xF)} (hf : c_X5_not G kE x0 x1 T = some q) : Ct G mX5_not (De + 4) T [va_rf x0, .int x1] (xoQ q.1) q.2 := by
  refine Ct.ofc (plainFor_of_name (by decide +kernel)) rfl (xvQ (xvI xvN)) (Nat.le_of_ble_eq_true rfl) (show Xr G _ 0 [(0, va_rf x0), (1, .int x1)] [] _ from ?_)
  unfold c_X5_not at hf
  refine X.iconst (v := 0) dX5_not_0 (by decide) ?_
  refine C.ist_n (L' := [(2, .int (0 : Int32)), (0, va_rf x0), (1, .int x1)]) dX5_not_1 rfl (Nat.le_of_ble_eq_true rfl) (xcQ (xcI xcN)) rfl ?_
  refine X.sub [1, 2, 0] (L' := [(0, va_rf x0), (1, .int x1), (2, .int (0 : Int32))]) rfl ?_
  exact c_X5_not_2_ok hDE hkE FU _ _ _ _ _ hf
theorem cX5_199 : xCV RX5 199 mX5_not 1 := ⟨lw_V q1068 q1070 qs31 q132 q1071, rfl, ⟨by decide +kernel, by decide +kernel, by decide +kernel⟩, Nat.le_of_ble_eq_true rfl⟩
/-! MouldVotes$Reader passes -/
abbrev cX5_passes : ByteArray := prog_7_method_9_code
def yX5_passes : MethodName := ⟨RX5, "passes", "(Ljava/lang/String;)Z"⟩
def dkwX5_passes_0 : List UInt8 := [42, 43, 182, 0, 129, 61, 28, 153, 0, 7, 42, 182, 0, 133, 28, 172]
abbrev dktX5_passes_0 : List UInt8 := dkwX5_passes_0 ++ []
theorem dksX5_passes_0 : cX5_passes.data.toList.drop 0 = dktX5_passes_0 := by decide +kernel
theorem dX5_passes_0 : decode cX5_passes 0 = .ok (.aload_n 0, 1) := dk_42 (dk_at dksX5_passes_0 0 rfl rfl)
theorem dX5_passes_1 : decode cX5_passes 1 = .ok (.aload_n 1, 1) := dk_43 (dk_at dksX5_passes_0 1 rfl rfl)
theorem dX5_passes_2 : decode cX5_passes 2 = .ok (.invokevirtual 129, 3) := dk_182 0 129 (dk_at dksX5_passes_0 2 rfl rfl)
theorem dX5_passes_5 : decode cX5_passes 5 = .ok (.istore_n 2, 1) := dk_61 (dk_at dksX5_passes_0 5 rfl rfl)
theorem dX5_passes_6 : decode cX5_passes 6 = .ok (.iload_n 2, 1) := dk_28 (dk_at dksX5_passes_0 6 rfl rfl)
theorem dX5_passes_7 : decode cX5_passes 7 = .ok (.ifCond .eq 7, 3) := dk_153 0 7 (dk_at dksX5_passes_0 7 rfl rfl)
theorem dX5_passes_10 : decode cX5_passes 10 = .ok (.aload_n 0, 1) := dk_42 (dk_at dksX5_passes_0 10 rfl rfl)
theorem dX5_passes_11 : decode cX5_passes 11 = .ok (.invokevirtual 133, 3) := dk_182 0 133 (dk_at dksX5_passes_0 11 rfl rfl)
theorem dX5_passes_14 : decode cX5_passes 14 = .ok (.iload_n 2, 1) := dk_28 (dk_at dksX5_passes_0 14 rfl rfl)
theorem dX5_passes_15 : decode cX5_passes 15 = .ok (.ireturn, 1) := dk_172 (dk_at dksX5_passes_0 15 rfl rfl)
abbrev mX5_passes : xM := (yX5_passes, cX5_passes, 3, (some .boolean), [])
def c_X5_passes (G : xG) (x0 : Option Nat) (x1 : Option Nat) (T : xF) : Option (Int32 × xF) :=
  if ¬ isO T x0 4 = true then none else
  (c_X5_is G T x0 x1).bind fun v2 =>
  if v2 = 0 then
    if ¬ zok v2 = true then none else some (v2, T)
  else
    if ¬ isO T x0 4 = true then none else
    cl (c_X5_next G x0 T) T fun v11 T11 =>
    if ¬ zok v2 = true then none else some (v2, T11)
theorem w_X5_passes {G : xG}  {T : xF} {x0 : Option Nat} {x1 : Option Nat} {q : (Int32 × xF)} (hf : c_X5_passes G x0 x1 T = some q) : Ct G mX5_passes (6) T [va_rf x0, va_rf x1] (.inl (some (.int q.1))) q.2 := by
  refine Ct.ofc (plainFor_of_name (by decide +kernel)) rfl (xvQ (xvQ xvN)) (Nat.le_of_ble_eq_true rfl) (show Xr G _ 0 [(0, va_rf x0), (1, va_rf x1)] [] _ from ?_)
  unfold c_X5_passes at hf
  refine C.aload_n dX5_passes_0 rfl 0 rfl ?_
  refine C.aload_n dX5_passes_1 rfl 1 rfl ?_
  obtain ⟨c2, hf⟩ := if_n hf
  obtain ⟨v2, h2, hf⟩ := ob hf
  refine X.keep fun l2 => C.Vi (As := [va_rf x1]) (rest := []) dX5_passes_2 (w_X5_is h2) cX5_129 (Classical.not_not.mp c2) rfl rfl (xcs xvN (Nat.le_of_ble_eq_true rfl)) rfl rfl (xD (Nat.le_of_ble_eq_true rfl)) xle.rf l2 ?_
  refine C.ist_n (L' := [(2, .int v2), (0, va_rf x0), (1, va_rf x1)]) dX5_passes_5 rfl (Nat.le_of_ble_eq_true rfl) (xcQ (xcQ xcN)) rfl ?_
  refine X.iload_n dX5_passes_6 rfl 0 rfl ?_
  refine X.if_eq (tgt := 14) dX5_passes_7 (by decide) (fun c7 => ?_) (fun c7 => ?_)
  · have hf := if_t c7 hf
    refine X.iload_n dX5_passes_14 rfl 0 rfl ?_
    obtain ⟨cz, hf⟩ := if_n hf
    obtain rfl := Option.some.inj hf
    exact X.iret dX5_passes_15 rfl (zok_ok (Classical.not_not.mp cz)) rfl
  · have hf := if_f c7 hf
    refine C.aload_n dX5_passes_10 rfl 1 rfl ?_
    obtain ⟨c11, hf⟩ := if_n hf
    obtain ⟨v11, T11, h11, hf, l11, r11⟩ := cl_ok hf
    refine C.Vv (As := []) (rest := []) dX5_passes_11 (w_X5_next h11) cX5_133 (Classical.not_not.mp c11) rfl rfl (xcs xvN (Nat.le_of_ble_eq_true rfl)) rfl rfl (xD (Nat.le_of_ble_eq_true rfl)) l11 r11 ?_
    refine X.iload_n dX5_passes_14 rfl 0 rfl ?_
    obtain ⟨cz, hf⟩ := if_n hf
    obtain rfl := Option.some.inj hf
    exact X.iret dX5_passes_15 rfl (zok_ok (Classical.not_not.mp cz)) rfl
theorem cX5_203 : xCV RX5 203 mX5_passes 1 := ⟨lw_V q1231 q1233 qs36 q132 q1234, rfl, ⟨by decide +kernel, by decide +kernel, by decide +kernel⟩, Nat.le_of_ble_eq_true rfl⟩
/-! MouldVotes$Reader and -/
abbrev cX5_and : ByteArray := prog_7_method_18_code
def yX5_and : MethodName := ⟨RX5, "and", "(I)LMouldVotes$Form;"⟩
def dkwX5_and_1 : List UInt8 := [16, 38, 42, 27, 182, 0, 199, 182, 0, 180, 167, 255, 236, 44, 182, 0, 184, 176]
abbrev dktX5_and_1 : List UInt8 := dkwX5_and_1 ++ []
def dkwX5_and_0 : List UInt8 := [187, 0, 168, 89, 42, 27, 182, 0, 199, 183, 0, 173, 77, 42, 18, 201, 182, 0, 203, 153, 0, 17, 44]
abbrev dktX5_and_0 : List UInt8 := dkwX5_and_0 ++ dktX5_and_1
theorem dksX5_and_0 : cX5_and.data.toList.drop 0 = dktX5_and_0 := by decide +kernel
theorem dksX5_and_1 : cX5_and.data.toList.drop 23 = dktX5_and_1 := dk_seg dksX5_and_0 23 rfl rfl
theorem dX5_and_0 : decode cX5_and 0 = .ok (.new 168, 3) := dk_187 0 168 (dk_at dksX5_and_0 0 rfl rfl)
theorem dX5_and_3 : decode cX5_and 3 = .ok (.dup, 1) := dk_89 (dk_at dksX5_and_0 3 rfl rfl)
theorem dX5_and_4 : decode cX5_and 4 = .ok (.aload_n 0, 1) := dk_42 (dk_at dksX5_and_0 4 rfl rfl)
theorem dX5_and_5 : decode cX5_and 5 = .ok (.iload_n 1, 1) := dk_27 (dk_at dksX5_and_0 5 rfl rfl)
theorem dX5_and_6 : decode cX5_and 6 = .ok (.invokevirtual 199, 3) := dk_182 0 199 (dk_at dksX5_and_0 6 rfl rfl)
theorem dX5_and_9 : decode cX5_and 9 = .ok (.invokespecial 173, 3) := dk_183 0 173 (dk_at dksX5_and_0 9 rfl rfl)
theorem dX5_and_12 : decode cX5_and 12 = .ok (.astore_n 2, 1) := dk_77 (dk_at dksX5_and_0 12 rfl rfl)
theorem dX5_and_13 : decode cX5_and 13 = .ok (.aload_n 0, 1) := dk_42 (dk_at dksX5_and_0 13 rfl rfl)
theorem dX5_and_14 : decode cX5_and 14 = .ok (.ldc 201, 2) := dk_18 201 (dk_at dksX5_and_0 14 rfl rfl)
theorem dX5_and_16 : decode cX5_and 16 = .ok (.invokevirtual 203, 3) := dk_182 0 203 (dk_at dksX5_and_0 16 rfl rfl)
theorem dX5_and_19 : decode cX5_and 19 = .ok (.ifCond .eq 17, 3) := dk_153 0 17 (dk_at dksX5_and_0 19 rfl rfl)
theorem dX5_and_22 : decode cX5_and 22 = .ok (.aload_n 2, 1) := dk_44 (dk_at dksX5_and_0 22 rfl rfl)
theorem dX5_and_23 : decode cX5_and 23 = .ok (.bipush 38, 2) := dk_16 38 (dk_at dksX5_and_1 0 rfl rfl)
theorem dX5_and_25 : decode cX5_and 25 = .ok (.aload_n 0, 1) := dk_42 (dk_at dksX5_and_1 2 rfl rfl)
theorem dX5_and_26 : decode cX5_and 26 = .ok (.iload_n 1, 1) := dk_27 (dk_at dksX5_and_1 3 rfl rfl)
theorem dX5_and_27 : decode cX5_and 27 = .ok (.invokevirtual 199, 3) := dk_182 0 199 (dk_at dksX5_and_1 4 rfl rfl)
theorem dX5_and_30 : decode cX5_and 30 = .ok (.invokevirtual 180, 3) := dk_182 0 180 (dk_at dksX5_and_1 7 rfl rfl)
theorem dX5_and_33 : decode cX5_and 33 = .ok (.goto (-20), 3) := dk_167 255 236 (dk_at dksX5_and_1 10 rfl rfl)
theorem dX5_and_36 : decode cX5_and 36 = .ok (.aload_n 2, 1) := dk_44 (dk_at dksX5_and_1 13 rfl rfl)
theorem dX5_and_37 : decode cX5_and 37 = .ok (.invokevirtual 184, 3) := dk_182 0 184 (dk_at dksX5_and_1 14 rfl rfl)
theorem dX5_and_40 : decode cX5_and 40 = .ok (.areturn, 1) := dk_176 (dk_at dksX5_and_1 17 rfl rfl)
abbrev mX5_and : xM := (yX5_and, cX5_and, 3, (some (.object "MouldVotes$Form")), [])
def c_X5_and_13_b (G : xG) (kE : Option Nat → Int32 → xF → Option ((Option Nat ⊕ xE) × xF)) (k13 : Option Nat → Int32 → Option Nat → xF → Option ((Option Nat ⊕ xE) × xF)) (x0 : Option Nat) (x1 : Int32) (x2 : Option Nat) (T : xF) : Option ((Option Nat ⊕ xE) × xF) :=
  if ¬ isO T x0 4 = true then none else
  cl (c_X5_passes G x0 (some (gT G 15)) T) T fun v16 T16 =>
  if v16 = 0 then
    if ¬ isO T16 x2 6 = true then none else
    (c_X7_plain T16 x2).bind fun v37 =>
    some (.inl v37, T16)
  else
    if ¬ isO T16 x0 4 = true then none else
    clX (c_X5_not G kE x0 x1 T16) T16 fun v27 T27 =>
    if ¬ isO T27 x2 6 = true then none else
    cl (c_X7_add G x2 (38 : Int32) v27 T27) T27 fun v30 T30 =>
    k13 x0 x1 x2 T30
def c_X5_and_13 (G : xG) (kE : Option Nat → Int32 → xF → Option ((Option Nat ⊕ xE) × xF)) : Nat → Option Nat → Int32 → Option Nat → xF → Option ((Option Nat ⊕ xE) × xF)
  | 0 => fun _ _ _ _ => none
  | n + 1 => fun x0 x1 x2 T => c_X5_and_13_b G kE (c_X5_and_13 G kE n) x0 x1 x2 T
theorem c_X5_and_13_bok {G : xG} {De : Nat} {kE : Option Nat → Int32 → xF → Option ((Option Nat ⊕ xE) × xF)} {T0 : xF} (hDE : 20 ≤ De) (hkE : ∀ (r : Option Nat) (x : Int32) (T : xF) (q : ((Option Nat ⊕ xE) × xF)), kE r x T = some q → Ct G mX5_expression De T [va_rf r, .int x] (xoQ q.1) q.2)  {k13 : Option Nat → Int32 → Option Nat → xF → Option ((Option Nat ⊕ xE) × xF)}  (hk13 : ∀ (x0 : Option Nat) (x1 : Int32) (x2 : Option Nat) (T : xF) (q : ((Option Nat ⊕ xE) × xF)), k13 x0 x1 x2 T = some q → Xr G (mX5_and, xrm (De + 5) T0 q.2, T0, xoQ q.1, q.2) 13 [(0, va_rf x0), (1, .int x1), (2, va_rf x2)] [] T) (x0 : Option Nat) (x1 : Int32) (x2 : Option Nat) (T : xF) (q : ((Option Nat ⊕ xE) × xF)) (hf : c_X5_and_13_b G kE k13 x0 x1 x2 T = some q) : Xr G (mX5_and, xrm (De + 5) T0 q.2, T0, xoQ q.1, q.2) 13 [(0, va_rf x0), (1, .int x1), (2, va_rf x2)] [] T := by
  unfold c_X5_and_13_b at hf
  refine C.aload_n dX5_and_13 rfl 0 rfl ?_
  refine C.ldcS dX5_and_14 (i := 15) rfl rfl ?_
  obtain ⟨c16, hf⟩ := if_n hf
  obtain ⟨v16, T16, h16, hf, l16, r16⟩ := cl_ok hf
  refine C.Vi (As := [va_rf (some (gT G 15))]) (rest := []) dX5_and_16 (w_X5_passes h16) cX5_203 (Classical.not_not.mp c16) rfl rfl (xcs xvN (Nat.le_of_ble_eq_true rfl)) rfl rfl (xD (by omega)) l16 r16 ?_
  refine X.if_eq (tgt := 36) dX5_and_19 (by decide) (fun c19 => ?_) (fun c19 => ?_)
  · have hf := if_t c19 hf
    refine C.aload_n dX5_and_36 rfl 2 rfl ?_
    obtain ⟨c37, hf⟩ := if_n hf
    obtain ⟨v37, h37, hf⟩ := ob hf
    refine X.keep fun l37 => C.Vq (As := []) (rest := []) dX5_and_37 (w_X7_plain h37) cX5_184 (Classical.not_not.mp c37) rfl rfl (xcs xvN (Nat.le_of_ble_eq_true rfl)) rfl rfl (xD (by omega)) xle.rf l37 ?_
    obtain rfl := Option.some.inj hf
    exact X.aret dX5_and_40 rfl (Or.inl ⟨_, rfl⟩) rfl
  · have hf := if_f c19 hf
    refine C.aload_n dX5_and_22 rfl 2 rfl ?_
    refine X.bipush (v := 38) dX5_and_23 (by decide) ?_
    refine C.aload_n dX5_and_25 rfl 0 rfl ?_
    refine X.iload_n dX5_and_26 rfl 1 rfl ?_
    obtain ⟨c27, hf⟩ := if_n hf
    rcases clX_ok hf with ⟨v27, T27, h27, hf, l27, r27⟩ | ⟨e27, T27, h27, rfl, l27⟩
    rotate_left
    · exact C.Vx (As := [.int x1]) (rest := [.int (38 : Int32), va_rf x2]) dX5_and_27 (w_X5_not hDE hkE h27) cX5_199 (Classical.not_not.mp c27) rfl rfl (xcs (xvI (xvQ xvN)) (Nat.le_of_ble_eq_true rfl)) rfl rfl (xD (by omega)) l27 xle.rf (xnoh rfl) rfl
    refine C.Vq (As := [.int x1]) (rest := [.int (38 : Int32), va_rf x2]) dX5_and_27 (w_X5_not hDE hkE h27) cX5_199 (Classical.not_not.mp c27) rfl rfl (xcs (xvI (xvQ xvN)) (Nat.le_of_ble_eq_true rfl)) rfl rfl (xD (by omega)) l27 r27 ?_
    obtain ⟨c30, hf⟩ := if_n hf
    obtain ⟨v30, T30, h30, hf, l30, r30⟩ := cl_ok hf
    refine C.Vv (As := [.int (38 : Int32), va_rf v27]) (rest := []) dX5_and_30 (w_X7_add h30) cX5_180 (Classical.not_not.mp c30) rfl rfl (xcs xvN (Nat.le_of_ble_eq_true rfl)) rfl rfl (xD (by omega)) l30 r30 ?_
    refine X.goto (tgt := 13) dX5_and_33 (by decide) ?_
    refine X.sub [0, 1, 2] (L' := [(0, va_rf x0), (1, .int x1), (2, va_rf x2)]) rfl ?_
    exact hk13 _ _ _ _ _ hf
theorem c_X5_and_13_ok {G : xG} {De : Nat} {kE : Option Nat → Int32 → xF → Option ((Option Nat ⊕ xE) × xF)} {T0 : xF} (hDE : 20 ≤ De) (hkE : ∀ (r : Option Nat) (x : Int32) (T : xF) (q : ((Option Nat ⊕ xE) × xF)), kE r x T = some q → Ct G mX5_expression De T [va_rf r, .int x] (xoQ q.1) q.2)   : ∀ (n : Nat) (x0 : Option Nat) (x1 : Int32) (x2 : Option Nat) (T : xF) (q : ((Option Nat ⊕ xE) × xF)), c_X5_and_13 G kE n x0 x1 x2 T = some q → Xr G (mX5_and, xrm (De + 5) T0 q.2, T0, xoQ q.1, q.2) 13 [(0, va_rf x0), (1, .int x1), (2, va_rf x2)] [] T
  | 0, _, _, _, _, _, hf => by cases hf
  | n + 1, x0, x1, x2, T, q, hf => c_X5_and_13_bok hDE hkE (c_X5_and_13_ok hDE hkE n) x0 x1 x2 T q hf
def c_X5_and (G : xG) (kE : Option Nat → Int32 → xF → Option ((Option Nat ⊕ xE) × xF)) (x0 : Option Nat) (x1 : Int32) (T : xF) : Option ((Option Nat ⊕ xE) × xF) :=
  al (nO T 6 2 [.null, .null]) fun T0 =>
  if ¬ isO T0 x0 4 = true then none else
  clX (c_X5_not G kE x0 x1 T0) T0 fun v6 T6 =>
  cl (c_X7_init G (some T.2.1) v6 T6) T6 fun v9 T9 =>
  c_X5_and_13 G kE FU x0 x1 (some T.2.1) T9
theorem w_X5_and {G : xG} {De : Nat} {kE : Option Nat → Int32 → xF → Option ((Option Nat ⊕ xE) × xF)} {T : xF} (hDE : 20 ≤ De) (hkE : ∀ (r : Option Nat) (x : Int32) (T : xF) (q : ((Option Nat ⊕ xE) × xF)), kE r x T = some q → Ct G mX5_expression De T [va_rf r, .int x] (xoQ q.1) q.2) {x0 : Option Nat} {x1 : Int32} {q : ((Option Nat ⊕ xE) × xF)} (hf : c_X5_and G kE x0 x1 T = some q) : Ct G mX5_and (De + 5) T [va_rf x0, .int x1] (xoQ q.1) q.2 := by
  refine Ct.ofc (plainFor_of_name (by decide +kernel)) rfl (xvQ (xvI xvN)) (Nat.le_of_ble_eq_true rfl) (show Xr G _ 0 [(0, va_rf x0), (1, .int x1)] [] _ from ?_)
  unfold c_X5_and at hf
  obtain ⟨T0, e0, hf, l0⟩ := al_ok hf
  refine C.newE e0 dX5_and_0 clX7 q1062 q1063 q146 rfl dfX7 l0 ?_
  refine X.dup dX5_and_3 (cat1 _) ?_
  refine C.aload_n dX5_and_4 rfl 0 rfl ?_
  refine X.iload_n dX5_and_5 rfl 1 rfl ?_
  obtain ⟨c6, hf⟩ := if_n hf
  rcases clX_ok hf with ⟨v6, T6, h6, hf, l6, r6⟩ | ⟨e6, T6, h6, rfl, l6⟩
  rotate_left
  · exact C.Vx (As := [.int x1]) (rest := [va_rf (some T.2.1), va_rf (some T.2.1)]) dX5_and_6 (w_X5_not hDE hkE h6) cX5_199 (Classical.not_not.mp c6) rfl rfl (xcs (xvQ (xvQ xvN)) (Nat.le_of_ble_eq_true rfl)) rfl rfl (xD (by omega)) l6 xle.rf (xnoh rfl) rfl
  refine C.Vq (As := [.int x1]) (rest := [va_rf (some T.2.1), va_rf (some T.2.1)]) dX5_and_6 (w_X5_not hDE hkE h6) cX5_199 (Classical.not_not.mp c6) rfl rfl (xcs (xvQ (xvQ xvN)) (Nat.le_of_ble_eq_true rfl)) rfl rfl (xD (by omega)) l6 r6 ?_
  obtain ⟨v9, T9, h9, hf, l9, r9⟩ := cl_ok hf
  refine C.Iv (As := [va_rf v6]) (rest := [va_rf (some T.2.1)]) dX5_and_9 (w_X7_init h9) cX5_173 rfl rfl rfl (xcs (xvQ xvN) (Nat.le_of_ble_eq_true rfl)) (xD (by omega)) l9 r9 ?_
  refine C.ast_n (L' := [(2, va_rf (some T.2.1)), (0, va_rf x0), (1, .int x1)]) dX5_and_12 rfl (Nat.le_of_ble_eq_true rfl) (xcQ (xcI xcN)) rfl ?_
  refine X.sub [1, 2, 0] (L' := [(0, va_rf x0), (1, .int x1), (2, va_rf (some T.2.1))]) rfl ?_
  exact c_X5_and_13_ok hDE hkE FU _ _ _ _ _ hf
theorem cX5_206 : xCV RX5 206 mX5_and 1 := ⟨lw_V q1064 q1066 qs30 q132 q1067, rfl, ⟨by decide +kernel, by decide +kernel, by decide +kernel⟩, Nat.le_of_ble_eq_true rfl⟩
/-! MouldVotes$Reader expression -/
def c_X5_expression_64_b (G : xG) (kE : Option Nat → Int32 → xF → Option ((Option Nat ⊕ xE) × xF)) (k64 : Option Nat → Int32 → Option Nat → xF → Option ((Option Nat ⊕ xE) × xF)) (x0 : Option Nat) (x1 : Int32) (x2 : Option Nat) (T : xF) : Option ((Option Nat ⊕ xE) × xF) :=
  if ¬ isO T x0 4 = true then none else
  cl (c_X5_passes G x0 (some (gT G 16)) T) T fun v67 T67 =>
  if v67 = 0 then
    if ¬ isO T67 x2 6 = true then none else
    (c_X7_plain T67 x2).bind fun v88 =>
    some (.inl v88, T67)
  else
    if ¬ isO T67 x0 4 = true then none else
    clX (c_X5_and G kE x0 x1 T67) T67 fun v78 T78 =>
    if ¬ isO T78 x2 6 = true then none else
    cl (c_X7_add G x2 (124 : Int32) v78 T78) T78 fun v81 T81 =>
    k64 x0 x1 x2 T81
def c_X5_expression_64 (G : xG) (kE : Option Nat → Int32 → xF → Option ((Option Nat ⊕ xE) × xF)) : Nat → Option Nat → Int32 → Option Nat → xF → Option ((Option Nat ⊕ xE) × xF)
  | 0 => fun _ _ _ _ => none
  | n + 1 => fun x0 x1 x2 T => c_X5_expression_64_b G kE (c_X5_expression_64 G kE n) x0 x1 x2 T
theorem c_X5_expression_64_bok {G : xG} {De : Nat} {kE : Option Nat → Int32 → xF → Option ((Option Nat ⊕ xE) × xF)} {T0 : xF} (hDE : 20 ≤ De) (hkE : ∀ (r : Option Nat) (x : Int32) (T : xF) (q : ((Option Nat ⊕ xE) × xF)), kE r x T = some q → Ct G mX5_expression De T [va_rf r, .int x] (xoQ q.1) q.2)  {k64 : Option Nat → Int32 → Option Nat → xF → Option ((Option Nat ⊕ xE) × xF)}  (hk64 : ∀ (x0 : Option Nat) (x1 : Int32) (x2 : Option Nat) (T : xF) (q : ((Option Nat ⊕ xE) × xF)), k64 x0 x1 x2 T = some q → Xr G (mX5_expression, xrm (De + 6) T0 q.2, T0, xoQ q.1, q.2) 64 [(0, va_rf x0), (1, .int x1), (2, va_rf x2)] [] T) (x0 : Option Nat) (x1 : Int32) (x2 : Option Nat) (T : xF) (q : ((Option Nat ⊕ xE) × xF)) (hf : c_X5_expression_64_b G kE k64 x0 x1 x2 T = some q) : Xr G (mX5_expression, xrm (De + 6) T0 q.2, T0, xoQ q.1, q.2) 64 [(0, va_rf x0), (1, .int x1), (2, va_rf x2)] [] T := by
  unfold c_X5_expression_64_b at hf
  refine C.aload_n dX5_expression_64 rfl 0 rfl ?_
  refine C.ldcS dX5_expression_65 (i := 16) rfl rfl ?_
  obtain ⟨c67, hf⟩ := if_n hf
  obtain ⟨v67, T67, h67, hf, l67, r67⟩ := cl_ok hf
  refine C.Vi (As := [va_rf (some (gT G 16))]) (rest := []) dX5_expression_67 (w_X5_passes h67) cX5_203 (Classical.not_not.mp c67) rfl rfl (xcs xvN (Nat.le_of_ble_eq_true rfl)) rfl rfl (xD (by omega)) l67 r67 ?_
  refine X.if_eq (tgt := 87) dX5_expression_70 (by decide) (fun c70 => ?_) (fun c70 => ?_)
  · have hf := if_t c70 hf
    refine C.aload_n dX5_expression_87 rfl 2 rfl ?_
    obtain ⟨c88, hf⟩ := if_n hf
    obtain ⟨v88, h88, hf⟩ := ob hf
    refine X.keep fun l88 => C.Vq (As := []) (rest := []) dX5_expression_88 (w_X7_plain h88) cX5_184 (Classical.not_not.mp c88) rfl rfl (xcs xvN (Nat.le_of_ble_eq_true rfl)) rfl rfl (xD (by omega)) xle.rf l88 ?_
    obtain rfl := Option.some.inj hf
    exact X.aret dX5_expression_91 rfl (Or.inl ⟨_, rfl⟩) rfl
  · have hf := if_f c70 hf
    refine C.aload_n dX5_expression_73 rfl 2 rfl ?_
    refine X.bipush (v := 124) dX5_expression_74 (by decide) ?_
    refine C.aload_n dX5_expression_76 rfl 0 rfl ?_
    refine X.iload_n dX5_expression_77 rfl 1 rfl ?_
    obtain ⟨c78, hf⟩ := if_n hf
    rcases clX_ok hf with ⟨v78, T78, h78, hf, l78, r78⟩ | ⟨e78, T78, h78, rfl, l78⟩
    rotate_left
    · exact C.Vx (As := [.int x1]) (rest := [.int (124 : Int32), va_rf x2]) dX5_expression_78 (w_X5_and hDE hkE h78) cX5_206 (Classical.not_not.mp c78) rfl rfl (xcs (xvI (xvQ xvN)) (Nat.le_of_ble_eq_true rfl)) rfl rfl (xD (by omega)) l78 xle.rf (xnoh rfl) rfl
    refine C.Vq (As := [.int x1]) (rest := [.int (124 : Int32), va_rf x2]) dX5_expression_78 (w_X5_and hDE hkE h78) cX5_206 (Classical.not_not.mp c78) rfl rfl (xcs (xvI (xvQ xvN)) (Nat.le_of_ble_eq_true rfl)) rfl rfl (xD (by omega)) l78 r78 ?_
    obtain ⟨c81, hf⟩ := if_n hf
    obtain ⟨v81, T81, h81, hf, l81, r81⟩ := cl_ok hf
    refine C.Vv (As := [.int (124 : Int32), va_rf v78]) (rest := []) dX5_expression_81 (w_X7_add h81) cX5_180 (Classical.not_not.mp c81) rfl rfl (xcs xvN (Nat.le_of_ble_eq_true rfl)) rfl rfl (xD (by omega)) l81 r81 ?_
    refine X.goto (tgt := 64) dX5_expression_84 (by decide) ?_
    refine X.sub [0, 1, 2] (L' := [(0, va_rf x0), (1, .int x1), (2, va_rf x2)]) rfl ?_
    exact hk64 _ _ _ _ _ hf
theorem c_X5_expression_64_ok {G : xG} {De : Nat} {kE : Option Nat → Int32 → xF → Option ((Option Nat ⊕ xE) × xF)} {T0 : xF} (hDE : 20 ≤ De) (hkE : ∀ (r : Option Nat) (x : Int32) (T : xF) (q : ((Option Nat ⊕ xE) × xF)), kE r x T = some q → Ct G mX5_expression De T [va_rf r, .int x] (xoQ q.1) q.2)   : ∀ (n : Nat) (x0 : Option Nat) (x1 : Int32) (x2 : Option Nat) (T : xF) (q : ((Option Nat ⊕ xE) × xF)), c_X5_expression_64 G kE n x0 x1 x2 T = some q → Xr G (mX5_expression, xrm (De + 6) T0 q.2, T0, xoQ q.1, q.2) 64 [(0, va_rf x0), (1, .int x1), (2, va_rf x2)] [] T
  | 0, _, _, _, _, _, hf => by cases hf
  | n + 1, x0, x1, x2, T, q, hf => c_X5_expression_64_bok hDE hkE (c_X5_expression_64_ok hDE hkE n) x0 x1 x2 T q hf
def c_X5_expression_47 (G : xG) (kE : Option Nat → Int32 → xF → Option ((Option Nat ⊕ xE) × xF)) (x0 : Option Nat) (x1 : Int32) (y0 : Int32) (y1 : Option Nat) (T : xF) : Option ((Option Nat ⊕ xE) × xF) :=
  if ¬ isO T y1 4 = true then none else
  clX (c_X5_want G y1 y0 (2 : Int32) T) T fun v48 T48 =>
  al (nO T48 6 2 [.null, .null]) fun T51 =>
  if ¬ isO T51 x0 4 = true then none else
  clX (c_X5_and G kE x0 x1 T51) T51 fun v57 T57 =>
  cl (c_X7_init G (some T48.2.1) v57 T57) T57 fun v60 T60 =>
  c_X5_expression_64 G kE FU x0 x1 (some T48.2.1) T60
theorem c_X5_expression_47_ok {G : xG} {De : Nat} {kE : Option Nat → Int32 → xF → Option ((Option Nat ⊕ xE) × xF)} {T0 : xF} (hDE : 20 ≤ De) (hkE : ∀ (r : Option Nat) (x : Int32) (T : xF) (q : ((Option Nat ⊕ xE) × xF)), kE r x T = some q → Ct G mX5_expression De T [va_rf r, .int x] (xoQ q.1) q.2)   (x0 : Option Nat) (x1 : Int32) (y0 : Int32) (y1 : Option Nat) (T : xF) (q : ((Option Nat ⊕ xE) × xF)) (hf : c_X5_expression_47 G kE x0 x1 y0 y1 T = some q) : Xr G (mX5_expression, xrm (De + 6) T0 q.2, T0, xoQ q.1, q.2) 47 [(0, va_rf x0), (1, .int x1)] [.int y0, va_rf y1] T := by
  unfold c_X5_expression_47 at hf
  refine X.iconst (v := 2) dX5_expression_47 (by decide) ?_
  obtain ⟨c48, hf⟩ := if_n hf
  rcases clX_ok hf with ⟨v48, T48, h48, hf, l48, r48⟩ | ⟨e48, T48, h48, rfl, l48⟩
  rotate_left
  · exact C.Vx (As := [.int y0, .int (2 : Int32)]) (rest := []) dX5_expression_48 (w_X5_want h48) cX5_141 (Classical.not_not.mp c48) rfl rfl (xcs xvN (Nat.le_of_ble_eq_true rfl)) rfl rfl (xD (by omega)) l48 xle.rf (xnoh rfl) rfl
  refine C.Vv (As := [.int y0, .int (2 : Int32)]) (rest := []) dX5_expression_48 (w_X5_want h48) cX5_141 (Classical.not_not.mp c48) rfl rfl (xcs xvN (Nat.le_of_ble_eq_true rfl)) rfl rfl (xD (by omega)) l48 r48 ?_
  obtain ⟨T51, e51, hf, l51⟩ := al_ok hf
  refine C.newE e51 dX5_expression_51 clX7 q1062 q1063 q146 rfl dfX7 l51 ?_
  refine X.dup dX5_expression_54 (cat1 _) ?_
  refine C.aload_n dX5_expression_55 rfl 0 rfl ?_
  refine X.iload_n dX5_expression_56 rfl 1 rfl ?_
  obtain ⟨c57, hf⟩ := if_n hf
  rcases clX_ok hf with ⟨v57, T57, h57, hf, l57, r57⟩ | ⟨e57, T57, h57, rfl, l57⟩
  rotate_left
  · exact C.Vx (As := [.int x1]) (rest := [va_rf (some T48.2.1), va_rf (some T48.2.1)]) dX5_expression_57 (w_X5_and hDE hkE h57) cX5_206 (Classical.not_not.mp c57) rfl rfl (xcs (xvQ (xvQ xvN)) (Nat.le_of_ble_eq_true rfl)) rfl rfl (xD (by omega)) l57 xle.rf (xnoh rfl) rfl
  refine C.Vq (As := [.int x1]) (rest := [va_rf (some T48.2.1), va_rf (some T48.2.1)]) dX5_expression_57 (w_X5_and hDE hkE h57) cX5_206 (Classical.not_not.mp c57) rfl rfl (xcs (xvQ (xvQ xvN)) (Nat.le_of_ble_eq_true rfl)) rfl rfl (xD (by omega)) l57 r57 ?_
  obtain ⟨v60, T60, h60, hf, l60, r60⟩ := cl_ok hf
  refine C.Iv (As := [va_rf v57]) (rest := [va_rf (some T48.2.1)]) dX5_expression_60 (w_X7_init h60) cX5_173 rfl rfl rfl (xcs (xvQ xvN) (Nat.le_of_ble_eq_true rfl)) (xD (by omega)) l60 r60 ?_
  refine C.ast_n (L' := [(2, va_rf (some T48.2.1)), (0, va_rf x0), (1, .int x1)]) dX5_expression_63 rfl (Nat.le_of_ble_eq_true rfl) (xcQ (xcI xcN)) rfl ?_
  refine X.sub [1, 2, 0] (L' := [(0, va_rf x0), (1, .int x1), (2, va_rf (some T48.2.1))]) rfl ?_
  exact c_X5_expression_64_ok hDE hkE FU _ _ _ _ _ hf
def c_X5_expression_31 (G : xG) (kE : Option Nat → Int32 → xF → Option ((Option Nat ⊕ xE) × xF)) (x0 : Option Nat) (x1 : Int32) (y0 : Int32) (y1 : Option Nat) (T : xF) : Option ((Option Nat ⊕ xE) × xF) :=
  if ¬ isO T y1 4 = true then none else
  clX (c_X5_want G y1 y0 (1 : Int32) T) T fun v32 T32 =>
  if (6 : Int32) ≤ x1 then
    c_X5_expression_47 G kE x0 x1 (0 : Int32) x0 T32
  else
    c_X5_expression_47 G kE x0 x1 (1 : Int32) x0 T32
theorem c_X5_expression_31_ok {G : xG} {De : Nat} {kE : Option Nat → Int32 → xF → Option ((Option Nat ⊕ xE) × xF)} {T0 : xF} (hDE : 20 ≤ De) (hkE : ∀ (r : Option Nat) (x : Int32) (T : xF) (q : ((Option Nat ⊕ xE) × xF)), kE r x T = some q → Ct G mX5_expression De T [va_rf r, .int x] (xoQ q.1) q.2)   (x0 : Option Nat) (x1 : Int32) (y0 : Int32) (y1 : Option Nat) (T : xF) (q : ((Option Nat ⊕ xE) × xF)) (hf : c_X5_expression_31 G kE x0 x1 y0 y1 T = some q) : Xr G (mX5_expression, xrm (De + 6) T0 q.2, T0, xoQ q.1, q.2) 31 [(0, va_rf x0), (1, .int x1)] [.int y0, va_rf y1] T := by
  unfold c_X5_expression_31 at hf
  refine X.iconst (v := 1) dX5_expression_31 (by decide) ?_
  obtain ⟨c32, hf⟩ := if_n hf
  rcases clX_ok hf with ⟨v32, T32, h32, hf, l32, r32⟩ | ⟨e32, T32, h32, rfl, l32⟩
  rotate_left
  · exact C.Vx (As := [.int y0, .int (1 : Int32)]) (rest := []) dX5_expression_32 (w_X5_want h32) cX5_141 (Classical.not_not.mp c32) rfl rfl (xcs xvN (Nat.le_of_ble_eq_true rfl)) rfl rfl (xD (by omega)) l32 xle.rf (xnoh rfl) rfl
  refine C.Vv (As := [.int y0, .int (1 : Int32)]) (rest := []) dX5_expression_32 (w_X5_want h32) cX5_141 (Classical.not_not.mp c32) rfl rfl (xcs xvN (Nat.le_of_ble_eq_true rfl)) rfl rfl (xD (by omega)) l32 r32 ?_
  refine C.aload_n dX5_expression_35 rfl 0 rfl ?_
  refine X.iload_n dX5_expression_36 rfl 1 rfl ?_
  refine X.bipush (v := 6) dX5_expression_37 (by decide) ?_
  refine X.icmp_ge (tgt := 46) dX5_expression_39 (by decide) (fun c39 => ?_) (fun c39 => ?_)
  · have hf := if_t c39 hf
    refine X.iconst (v := 0) dX5_expression_46 (by decide) ?_
    refine X.sub [0, 1] (L' := [(0, va_rf x0), (1, .int x1)]) rfl ?_
    exact c_X5_expression_47_ok hDE hkE _ _ _ _ _ _ hf
  · have hf := if_f c39 hf
    refine X.iconst (v := 1) dX5_expression_42 (by decide) ?_
    refine X.goto (tgt := 47) dX5_expression_43 (by decide) ?_
    refine X.sub [0, 1] (L' := [(0, va_rf x0), (1, .int x1)]) rfl ?_
    exact c_X5_expression_47_ok hDE hkE _ _ _ _ _ _ hf
def c_X5_expression_26 (G : xG) (kE : Option Nat → Int32 → xF → Option ((Option Nat ⊕ xE) × xF)) (x0 : Option Nat) (x1 : Int32) (y0 : Option Nat) (T : xF) : Option ((Option Nat ⊕ xE) × xF) :=
  c_X5_expression_31 G kE x0 x1 (1 : Int32) y0 T
theorem c_X5_expression_26_ok {G : xG} {De : Nat} {kE : Option Nat → Int32 → xF → Option ((Option Nat ⊕ xE) × xF)} {T0 : xF} (hDE : 20 ≤ De) (hkE : ∀ (r : Option Nat) (x : Int32) (T : xF) (q : ((Option Nat ⊕ xE) × xF)), kE r x T = some q → Ct G mX5_expression De T [va_rf r, .int x] (xoQ q.1) q.2)   (x0 : Option Nat) (x1 : Int32) (y0 : Option Nat) (T : xF) (q : ((Option Nat ⊕ xE) × xF)) (hf : c_X5_expression_26 G kE x0 x1 y0 T = some q) : Xr G (mX5_expression, xrm (De + 6) T0 q.2, T0, xoQ q.1, q.2) 26 [(0, va_rf x0), (1, .int x1)] [va_rf y0] T := by
  unfold c_X5_expression_26 at hf
  refine X.iconst (v := 1) dX5_expression_26 (by decide) ?_
  refine X.goto (tgt := 31) dX5_expression_27 (by decide) ?_
  refine X.sub [0, 1] (L' := [(0, va_rf x0), (1, .int x1)]) rfl ?_
  exact c_X5_expression_31_ok hDE hkE _ _ _ _ _ _ hf
def c_X5_expression (G : xG) (kE : Option Nat → Int32 → xF → Option ((Option Nat ⊕ xE) × xF)) (x0 : Option Nat) (x1 : Int32) (T : xF) : Option ((Option Nat ⊕ xE) × xF) :=
  (oI T x0 4 8).bind fun v2 =>
  if v2 = (2 : Int32) then
    c_X5_expression_26 G kE x0 x1 x0 T
  else
    (oI T x0 4 8).bind fun v10 =>
    if v10 = (1 : Int32) then
      c_X5_expression_26 G kE x0 x1 x0 T
    else
      if ¬ isO T x0 4 = true then none else
      (c_X5_isSign T x0 (40 : Int32)).bind fun v20 =>
      if v20 = 0 then
        c_X5_expression_31 G kE x0 x1 (0 : Int32) x0 T
      else
        c_X5_expression_26 G kE x0 x1 x0 T
theorem w_X5_expression {G : xG} {De : Nat} {kE : Option Nat → Int32 → xF → Option ((Option Nat ⊕ xE) × xF)} {T : xF} (hDE : 20 ≤ De) (hkE : ∀ (r : Option Nat) (x : Int32) (T : xF) (q : ((Option Nat ⊕ xE) × xF)), kE r x T = some q → Ct G mX5_expression De T [va_rf r, .int x] (xoQ q.1) q.2) {x0 : Option Nat} {x1 : Int32} {q : ((Option Nat ⊕ xE) × xF)} (hf : c_X5_expression G kE x0 x1 T = some q) : Ct G mX5_expression (De + 6) T [va_rf x0, .int x1] (xoQ q.1) q.2 := by
  refine Ct.ofc (plainFor_of_name (by decide +kernel)) rfl (xvQ (xvI xvN)) (Nat.le_of_ble_eq_true rfl) (show Xr G _ 0 [(0, va_rf x0), (1, .int x1)] [] _ from ?_)
  unfold c_X5_expression at hf
  refine C.aload_n dX5_expression_0 rfl 0 rfl ?_
  refine C.aload_n dX5_expression_1 rfl 0 rfl ?_
  obtain ⟨v2, h2, hf⟩ := ob hf
  refine C.getI dX5_expression_2 rX5_93 h2 ?_
  refine X.iconst (v := 2) dX5_expression_5 (by decide) ?_
  refine X.icmp_eq (tgt := 26) dX5_expression_6 (by decide) (fun c6 => ?_) (fun c6 => ?_)
  · have hf := if_t c6 hf
    refine X.sub [0, 1] (L' := [(0, va_rf x0), (1, .int x1)]) rfl ?_
    exact c_X5_expression_26_ok hDE hkE _ _ _ _ _ hf
  · have hf := if_f c6 hf
    refine C.aload_n dX5_expression_9 rfl 0 rfl ?_
    obtain ⟨v10, h10, hf⟩ := ob hf
    refine C.getI dX5_expression_10 rX5_93 h10 ?_
    refine X.iconst (v := 1) dX5_expression_13 (by decide) ?_
    refine X.icmp_eq (tgt := 26) dX5_expression_14 (by decide) (fun c14 => ?_) (fun c14 => ?_)
    · have hf := if_t c14 hf
      refine X.sub [0, 1] (L' := [(0, va_rf x0), (1, .int x1)]) rfl ?_
      exact c_X5_expression_26_ok hDE hkE _ _ _ _ _ hf
    · have hf := if_f c14 hf
      refine C.aload_n dX5_expression_17 rfl 0 rfl ?_
      refine X.bipush (v := 40) dX5_expression_18 (by decide) ?_
      obtain ⟨c20, hf⟩ := if_n hf
      obtain ⟨v20, h20, hf⟩ := ob hf
      refine X.keep fun l20 => C.Vi (As := [.int (40 : Int32)]) (rest := [va_rf x0]) dX5_expression_20 (w_X5_isSign h20) cX5_153 (Classical.not_not.mp c20) rfl rfl (xcs (xvQ xvN) (Nat.le_of_ble_eq_true rfl)) rfl rfl (xD (by omega)) xle.rf l20 ?_
      refine X.if_eq (tgt := 30) dX5_expression_23 (by decide) (fun c23 => ?_) (fun c23 => ?_)
      · have hf := if_t c23 hf
        refine X.iconst (v := 0) dX5_expression_30 (by decide) ?_
        refine X.sub [0, 1] (L' := [(0, va_rf x0), (1, .int x1)]) rfl ?_
        exact c_X5_expression_31_ok hDE hkE _ _ _ _ _ _ hf
      · have hf := if_f c23 hf
        refine X.sub [0, 1] (L' := [(0, va_rf x0), (1, .int x1)]) rfl ?_
        exact c_X5_expression_26_ok hDE hkE _ _ _ _ _ hf
def cE (G : xG) : Nat → Option Nat → Int32 → xF → Option ((Option Nat ⊕ xE) × xF)
  | 0, _, _, _ => none
  | n + 1, r, x, T => c_X5_expression G (cE G n) r x T
theorem wE {G : xG} : ∀ (n : Nat) (r : Option Nat) (x : Int32) (T : xF) (q : ((Option Nat ⊕ xE) × xF)), cE G n r x T = some q → Ct G mX5_expression (20 + 6 * n) T [va_rf r, .int x] (xoQ q.1) q.2
  | 0, _, _, _, _, h => by cases h
  | n + 1, r, x, T, q, h => w_X5_expression (De := 20 + 6 * n) (by omega) (wE n) h
abbrev EFU : Nat := 8
/-! MouldVotes$Reader only -/
abbrev cX5_only : ByteArray := prog_7_method_25_code
def yX5_only : MethodName := ⟨RX5, "only", "(I)V"⟩
def dkwX5_only_9 : List UInt8 := [181, 1, 17, 177]
abbrev dktX5_only_9 : List UInt8 := dkwX5_only_9 ++ []
def dkwX5_only_8 : List UInt8 := [77, 27, 7, 160, 0, 14, 42, 180, 0, 18, 44, 181, 1, 14, 167, 0, 11, 42, 180, 0, 18, 44]
abbrev dktX5_only_8 : List UInt8 := dkwX5_only_8 ++ dktX5_only_9
def dkwX5_only_7 : List UInt8 := [27, 7, 160, 0, 10, 42, 180, 0, 61, 167, 0, 7, 42, 180, 0, 66, 181, 0, 69, 42, 3, 182, 0, 157]
abbrev dktX5_only_7 : List UInt8 := dkwX5_only_7 ++ dktX5_only_8
def dkwX5_only_6 : List UInt8 := [181, 1, 10, 167, 0, 70, 42, 180, 0, 18, 42, 4, 16, 99, 182, 0, 150, 181, 1, 12, 167, 0, 53, 42]
abbrev dktX5_only_6 : List UInt8 := dkwX5_only_6 ++ dktX5_only_7
def dkwX5_only_5 : List UInt8 := [181, 1, 5, 167, 0, 94, 42, 182, 1, 8, 167, 0, 87, 42, 180, 0, 18, 42, 4, 16, 99, 182, 0, 150]
abbrev dktX5_only_5 : List UInt8 := dkwX5_only_5 ++ dktX5_only_6
def dkwX5_only_4 : List UInt8 := [42, 180, 0, 18, 42, 4, 16, 6, 182, 0, 150, 181, 1, 2, 42, 180, 0, 18, 42, 4, 8, 182, 0, 150]
abbrev dktX5_only_4 : List UInt8 := dkwX5_only_4 ++ dktX5_only_5
def dkwX5_only_3 : List UInt8 := [170, 0, 0, 0, 100, 0, 0, 0, 0, 0, 0, 0, 3, 0, 0, 0, 29, 0, 0, 0, 59, 0, 0, 0, 66, 0, 0, 0, 83]
abbrev dktX5_only_3 : List UInt8 := dkwX5_only_3 ++ dktX5_only_4
def dkwX5_only_2 : List UInt8 := [4, 27, 120, 128, 181, 0, 255, 42, 182, 0, 133, 27]
abbrev dktX5_only_2 : List UInt8 := dkwX5_only_2 ++ dktX5_only_3
def dkwX5_only_1 : List UInt8 := [180, 0, 255, 27, 184, 0, 219, 154, 0, 7, 4, 167, 0, 4, 3, 8, 182, 0, 141, 42, 89, 180, 0, 255]
abbrev dktX5_only_1 : List UInt8 := dkwX5_only_1 ++ dktX5_only_2
def dkwX5_only_0 : List UInt8 := [42, 27, 154, 0, 10, 42, 182, 0, 252, 154, 0, 7, 4, 167, 0, 4, 3, 7, 182, 0, 141, 42, 42]
abbrev dktX5_only_0 : List UInt8 := dkwX5_only_0 ++ dktX5_only_1
theorem dksX5_only_0 : cX5_only.data.toList.drop 0 = dktX5_only_0 := by decide +kernel
theorem dksX5_only_1 : cX5_only.data.toList.drop 23 = dktX5_only_1 := dk_seg dksX5_only_0 23 rfl rfl
theorem dksX5_only_2 : cX5_only.data.toList.drop 47 = dktX5_only_2 := dk_seg dksX5_only_1 24 rfl rfl
theorem dksX5_only_3 : cX5_only.data.toList.drop 59 = dktX5_only_3 := dk_seg dksX5_only_2 12 rfl rfl
theorem dksX5_only_4 : cX5_only.data.toList.drop 88 = dktX5_only_4 := dk_seg dksX5_only_3 29 rfl rfl
theorem dksX5_only_5 : cX5_only.data.toList.drop 112 = dktX5_only_5 := dk_seg dksX5_only_4 24 rfl rfl
theorem dksX5_only_6 : cX5_only.data.toList.drop 136 = dktX5_only_6 := dk_seg dksX5_only_5 24 rfl rfl
theorem dksX5_only_7 : cX5_only.data.toList.drop 160 = dktX5_only_7 := dk_seg dksX5_only_6 24 rfl rfl
theorem dksX5_only_8 : cX5_only.data.toList.drop 184 = dktX5_only_8 := dk_seg dksX5_only_7 24 rfl rfl
theorem dksX5_only_9 : cX5_only.data.toList.drop 206 = dktX5_only_9 := dk_seg dksX5_only_8 22 rfl rfl
theorem dX5_only_0 : decode cX5_only 0 = .ok (.aload_n 0, 1) := dk_42 (dk_at dksX5_only_0 0 rfl rfl)
theorem dX5_only_1 : decode cX5_only 1 = .ok (.iload_n 1, 1) := dk_27 (dk_at dksX5_only_0 1 rfl rfl)
theorem dX5_only_2 : decode cX5_only 2 = .ok (.ifCond .ne 10, 3) := dk_154 0 10 (dk_at dksX5_only_0 2 rfl rfl)
theorem dX5_only_5 : decode cX5_only 5 = .ok (.aload_n 0, 1) := dk_42 (dk_at dksX5_only_0 5 rfl rfl)
theorem dX5_only_6 : decode cX5_only 6 = .ok (.invokevirtual 252, 3) := dk_182 0 252 (dk_at dksX5_only_0 6 rfl rfl)
theorem dX5_only_9 : decode cX5_only 9 = .ok (.ifCond .ne 7, 3) := dk_154 0 7 (dk_at dksX5_only_0 9 rfl rfl)
theorem dX5_only_12 : decode cX5_only 12 = .ok (.iconst 1, 1) := dk_4 (dk_at dksX5_only_0 12 rfl rfl)
theorem dX5_only_13 : decode cX5_only 13 = .ok (.goto 4, 3) := dk_167 0 4 (dk_at dksX5_only_0 13 rfl rfl)
theorem dX5_only_16 : decode cX5_only 16 = .ok (.iconst 0, 1) := dk_3 (dk_at dksX5_only_0 16 rfl rfl)
theorem dX5_only_17 : decode cX5_only 17 = .ok (.iconst 4, 1) := dk_7 (dk_at dksX5_only_0 17 rfl rfl)
theorem dX5_only_18 : decode cX5_only 18 = .ok (.invokevirtual 141, 3) := dk_182 0 141 (dk_at dksX5_only_0 18 rfl rfl)
theorem dX5_only_21 : decode cX5_only 21 = .ok (.aload_n 0, 1) := dk_42 (dk_at dksX5_only_0 21 rfl rfl)
theorem dX5_only_22 : decode cX5_only 22 = .ok (.aload_n 0, 1) := dk_42 (dk_at dksX5_only_0 22 rfl rfl)
theorem dX5_only_23 : decode cX5_only 23 = .ok (.getfield 255, 3) := dk_180 0 255 (dk_at dksX5_only_1 0 rfl rfl)
theorem dX5_only_26 : decode cX5_only 26 = .ok (.iload_n 1, 1) := dk_27 (dk_at dksX5_only_1 3 rfl rfl)
theorem dX5_only_27 : decode cX5_only 27 = .ok (.invokestatic 219, 3) := dk_184 0 219 (dk_at dksX5_only_1 4 rfl rfl)
theorem dX5_only_30 : decode cX5_only 30 = .ok (.ifCond .ne 7, 3) := dk_154 0 7 (dk_at dksX5_only_1 7 rfl rfl)
theorem dX5_only_33 : decode cX5_only 33 = .ok (.iconst 1, 1) := dk_4 (dk_at dksX5_only_1 10 rfl rfl)
theorem dX5_only_34 : decode cX5_only 34 = .ok (.goto 4, 3) := dk_167 0 4 (dk_at dksX5_only_1 11 rfl rfl)
theorem dX5_only_37 : decode cX5_only 37 = .ok (.iconst 0, 1) := dk_3 (dk_at dksX5_only_1 14 rfl rfl)
theorem dX5_only_38 : decode cX5_only 38 = .ok (.iconst 5, 1) := dk_8 (dk_at dksX5_only_1 15 rfl rfl)
theorem dX5_only_39 : decode cX5_only 39 = .ok (.invokevirtual 141, 3) := dk_182 0 141 (dk_at dksX5_only_1 16 rfl rfl)
theorem dX5_only_42 : decode cX5_only 42 = .ok (.aload_n 0, 1) := dk_42 (dk_at dksX5_only_1 19 rfl rfl)
theorem dX5_only_43 : decode cX5_only 43 = .ok (.dup, 1) := dk_89 (dk_at dksX5_only_1 20 rfl rfl)
theorem dX5_only_44 : decode cX5_only 44 = .ok (.getfield 255, 3) := dk_180 0 255 (dk_at dksX5_only_1 21 rfl rfl)
theorem dX5_only_47 : decode cX5_only 47 = .ok (.iconst 1, 1) := dk_4 (dk_at dksX5_only_2 0 rfl rfl)
theorem dX5_only_48 : decode cX5_only 48 = .ok (.iload_n 1, 1) := dk_27 (dk_at dksX5_only_2 1 rfl rfl)
theorem dX5_only_49 : decode cX5_only 49 = .ok (.ishl, 1) := dk_120 (dk_at dksX5_only_2 2 rfl rfl)
theorem dX5_only_50 : decode cX5_only 50 = .ok (.ior, 1) := dk_128 (dk_at dksX5_only_2 3 rfl rfl)
theorem dX5_only_51 : decode cX5_only 51 = .ok (.putfield 255, 3) := dk_181 0 255 (dk_at dksX5_only_2 4 rfl rfl)
theorem dX5_only_54 : decode cX5_only 54 = .ok (.aload_n 0, 1) := dk_42 (dk_at dksX5_only_2 7 rfl rfl)
theorem dX5_only_55 : decode cX5_only 55 = .ok (.invokevirtual 133, 3) := dk_182 0 133 (dk_at dksX5_only_2 8 rfl rfl)
theorem dX5_only_58 : decode cX5_only 58 = .ok (.iload_n 1, 1) := dk_27 (dk_at dksX5_only_2 11 rfl rfl)
theorem dX5_only_59 : decode cX5_only 59 = .ok (.tableswitch 100 0 3 #[29, 59, 66, 83], 29) := by decide +kernel
theorem dX5_only_88 : decode cX5_only 88 = .ok (.aload_n 0, 1) := dk_42 (dk_at dksX5_only_4 0 rfl rfl)
theorem dX5_only_89 : decode cX5_only 89 = .ok (.getfield 18, 3) := dk_180 0 18 (dk_at dksX5_only_4 1 rfl rfl)
theorem dX5_only_92 : decode cX5_only 92 = .ok (.aload_n 0, 1) := dk_42 (dk_at dksX5_only_4 4 rfl rfl)
theorem dX5_only_93 : decode cX5_only 93 = .ok (.iconst 1, 1) := dk_4 (dk_at dksX5_only_4 5 rfl rfl)
theorem dX5_only_94 : decode cX5_only 94 = .ok (.bipush 6, 2) := dk_16 6 (dk_at dksX5_only_4 6 rfl rfl)
theorem dX5_only_96 : decode cX5_only 96 = .ok (.invokevirtual 150, 3) := dk_182 0 150 (dk_at dksX5_only_4 8 rfl rfl)
theorem dX5_only_99 : decode cX5_only 99 = .ok (.putfield 258, 3) := dk_181 1 2 (dk_at dksX5_only_4 11 rfl rfl)
theorem dX5_only_102 : decode cX5_only 102 = .ok (.aload_n 0, 1) := dk_42 (dk_at dksX5_only_4 14 rfl rfl)
theorem dX5_only_103 : decode cX5_only 103 = .ok (.getfield 18, 3) := dk_180 0 18 (dk_at dksX5_only_4 15 rfl rfl)
theorem dX5_only_106 : decode cX5_only 106 = .ok (.aload_n 0, 1) := dk_42 (dk_at dksX5_only_4 18 rfl rfl)
theorem dX5_only_107 : decode cX5_only 107 = .ok (.iconst 1, 1) := dk_4 (dk_at dksX5_only_4 19 rfl rfl)
theorem dX5_only_108 : decode cX5_only 108 = .ok (.iconst 5, 1) := dk_8 (dk_at dksX5_only_4 20 rfl rfl)
theorem dX5_only_109 : decode cX5_only 109 = .ok (.invokevirtual 150, 3) := dk_182 0 150 (dk_at dksX5_only_4 21 rfl rfl)
theorem dX5_only_112 : decode cX5_only 112 = .ok (.putfield 261, 3) := dk_181 1 5 (dk_at dksX5_only_5 0 rfl rfl)
theorem dX5_only_115 : decode cX5_only 115 = .ok (.goto 94, 3) := dk_167 0 94 (dk_at dksX5_only_5 3 rfl rfl)
theorem dX5_only_118 : decode cX5_only 118 = .ok (.aload_n 0, 1) := dk_42 (dk_at dksX5_only_5 6 rfl rfl)
theorem dX5_only_119 : decode cX5_only 119 = .ok (.invokevirtual 264, 3) := dk_182 1 8 (dk_at dksX5_only_5 7 rfl rfl)
theorem dX5_only_122 : decode cX5_only 122 = .ok (.goto 87, 3) := dk_167 0 87 (dk_at dksX5_only_5 10 rfl rfl)
theorem dX5_only_125 : decode cX5_only 125 = .ok (.aload_n 0, 1) := dk_42 (dk_at dksX5_only_5 13 rfl rfl)
theorem dX5_only_126 : decode cX5_only 126 = .ok (.getfield 18, 3) := dk_180 0 18 (dk_at dksX5_only_5 14 rfl rfl)
theorem dX5_only_129 : decode cX5_only 129 = .ok (.aload_n 0, 1) := dk_42 (dk_at dksX5_only_5 17 rfl rfl)
theorem dX5_only_130 : decode cX5_only 130 = .ok (.iconst 1, 1) := dk_4 (dk_at dksX5_only_5 18 rfl rfl)
theorem dX5_only_131 : decode cX5_only 131 = .ok (.bipush 99, 2) := dk_16 99 (dk_at dksX5_only_5 19 rfl rfl)
theorem dX5_only_133 : decode cX5_only 133 = .ok (.invokevirtual 150, 3) := dk_182 0 150 (dk_at dksX5_only_5 21 rfl rfl)
theorem dX5_only_136 : decode cX5_only 136 = .ok (.putfield 266, 3) := dk_181 1 10 (dk_at dksX5_only_6 0 rfl rfl)
theorem dX5_only_139 : decode cX5_only 139 = .ok (.goto 70, 3) := dk_167 0 70 (dk_at dksX5_only_6 3 rfl rfl)
theorem dX5_only_142 : decode cX5_only 142 = .ok (.aload_n 0, 1) := dk_42 (dk_at dksX5_only_6 6 rfl rfl)
theorem dX5_only_143 : decode cX5_only 143 = .ok (.getfield 18, 3) := dk_180 0 18 (dk_at dksX5_only_6 7 rfl rfl)
theorem dX5_only_146 : decode cX5_only 146 = .ok (.aload_n 0, 1) := dk_42 (dk_at dksX5_only_6 10 rfl rfl)
theorem dX5_only_147 : decode cX5_only 147 = .ok (.iconst 1, 1) := dk_4 (dk_at dksX5_only_6 11 rfl rfl)
theorem dX5_only_148 : decode cX5_only 148 = .ok (.bipush 99, 2) := dk_16 99 (dk_at dksX5_only_6 12 rfl rfl)
theorem dX5_only_150 : decode cX5_only 150 = .ok (.invokevirtual 150, 3) := dk_182 0 150 (dk_at dksX5_only_6 14 rfl rfl)
theorem dX5_only_153 : decode cX5_only 153 = .ok (.putfield 268, 3) := dk_181 1 12 (dk_at dksX5_only_6 17 rfl rfl)
theorem dX5_only_156 : decode cX5_only 156 = .ok (.goto 53, 3) := dk_167 0 53 (dk_at dksX5_only_6 20 rfl rfl)
theorem dX5_only_159 : decode cX5_only 159 = .ok (.aload_n 0, 1) := dk_42 (dk_at dksX5_only_6 23 rfl rfl)
theorem dX5_only_160 : decode cX5_only 160 = .ok (.iload_n 1, 1) := dk_27 (dk_at dksX5_only_7 0 rfl rfl)
theorem dX5_only_161 : decode cX5_only 161 = .ok (.iconst 4, 1) := dk_7 (dk_at dksX5_only_7 1 rfl rfl)
theorem dX5_only_162 : decode cX5_only 162 = .ok (.if_icmp .ne 10, 3) := dk_160 0 10 (dk_at dksX5_only_7 2 rfl rfl)
theorem dX5_only_165 : decode cX5_only 165 = .ok (.aload_n 0, 1) := dk_42 (dk_at dksX5_only_7 5 rfl rfl)
theorem dX5_only_166 : decode cX5_only 166 = .ok (.getfield 61, 3) := dk_180 0 61 (dk_at dksX5_only_7 6 rfl rfl)
theorem dX5_only_169 : decode cX5_only 169 = .ok (.goto 7, 3) := dk_167 0 7 (dk_at dksX5_only_7 9 rfl rfl)
theorem dX5_only_172 : decode cX5_only 172 = .ok (.aload_n 0, 1) := dk_42 (dk_at dksX5_only_7 12 rfl rfl)
theorem dX5_only_173 : decode cX5_only 173 = .ok (.getfield 66, 3) := dk_180 0 66 (dk_at dksX5_only_7 13 rfl rfl)
theorem dX5_only_176 : decode cX5_only 176 = .ok (.putfield 69, 3) := dk_181 0 69 (dk_at dksX5_only_7 16 rfl rfl)
theorem dX5_only_179 : decode cX5_only 179 = .ok (.aload_n 0, 1) := dk_42 (dk_at dksX5_only_7 19 rfl rfl)
theorem dX5_only_180 : decode cX5_only 180 = .ok (.iconst 0, 1) := dk_3 (dk_at dksX5_only_7 20 rfl rfl)
theorem dX5_only_181 : decode cX5_only 181 = .ok (.invokevirtual 157, 3) := dk_182 0 157 (dk_at dksX5_only_7 21 rfl rfl)
theorem dX5_only_184 : decode cX5_only 184 = .ok (.astore_n 2, 1) := dk_77 (dk_at dksX5_only_8 0 rfl rfl)
theorem dX5_only_185 : decode cX5_only 185 = .ok (.iload_n 1, 1) := dk_27 (dk_at dksX5_only_8 1 rfl rfl)
theorem dX5_only_186 : decode cX5_only 186 = .ok (.iconst 4, 1) := dk_7 (dk_at dksX5_only_8 2 rfl rfl)
theorem dX5_only_187 : decode cX5_only 187 = .ok (.if_icmp .ne 14, 3) := dk_160 0 14 (dk_at dksX5_only_8 3 rfl rfl)
theorem dX5_only_190 : decode cX5_only 190 = .ok (.aload_n 0, 1) := dk_42 (dk_at dksX5_only_8 6 rfl rfl)
theorem dX5_only_191 : decode cX5_only 191 = .ok (.getfield 18, 3) := dk_180 0 18 (dk_at dksX5_only_8 7 rfl rfl)
theorem dX5_only_194 : decode cX5_only 194 = .ok (.aload_n 2, 1) := dk_44 (dk_at dksX5_only_8 10 rfl rfl)
theorem dX5_only_195 : decode cX5_only 195 = .ok (.putfield 270, 3) := dk_181 1 14 (dk_at dksX5_only_8 11 rfl rfl)
theorem dX5_only_198 : decode cX5_only 198 = .ok (.goto 11, 3) := dk_167 0 11 (dk_at dksX5_only_8 14 rfl rfl)
theorem dX5_only_201 : decode cX5_only 201 = .ok (.aload_n 0, 1) := dk_42 (dk_at dksX5_only_8 17 rfl rfl)
theorem dX5_only_202 : decode cX5_only 202 = .ok (.getfield 18, 3) := dk_180 0 18 (dk_at dksX5_only_8 18 rfl rfl)
theorem dX5_only_205 : decode cX5_only 205 = .ok (.aload_n 2, 1) := dk_44 (dk_at dksX5_only_8 21 rfl rfl)
theorem dX5_only_206 : decode cX5_only 206 = .ok (.putfield 273, 3) := dk_181 1 17 (dk_at dksX5_only_9 0 rfl rfl)
theorem dX5_only_209 : decode cX5_only 209 = .ok (.return_, 1) := dk_177 (dk_at dksX5_only_9 3 rfl rfl)
abbrev mX5_only : xM := (yX5_only, cX5_only, 3, none, [])
def c_X5_only_176 (G : xG) (x0 : Option Nat) (x1 : Int32) (y0 : Option Nat) (y1 : Option Nat) (T : xF) : Option ((Unit ⊕ xE) × xF) :=
  (pV T y1 4 6 (va_rf y0)).bind fun T176 =>
  if ¬ isO T176 x0 4 = true then none else
  clX (cE G EFU x0 (0 : Int32) T176) T176 fun v181 T181 =>
  if x1 = (4 : Int32) then
    (oQ T181 x0 4 1).bind fun v191 =>
    (pV T181 v191 1 6 (va_rf v181)).bind fun T195 =>
    some (.inl (), T195)
  else
    (oQ T181 x0 4 1).bind fun v202 =>
    (pV T181 v202 1 7 (va_rf v181)).bind fun T206 =>
    some (.inl (), T206)
theorem c_X5_only_176_ok {G : xG}  {T0 : xF}   (x0 : Option Nat) (x1 : Int32) (y0 : Option Nat) (y1 : Option Nat) (T : xF) (q : ((Unit ⊕ xE) × xF)) (hf : c_X5_only_176 G x0 x1 y0 y1 T = some q) : Xr G (mX5_only, xrm (69) T0 q.2, T0, xoV q.1, q.2) 176 [(0, va_rf x0), (1, .int x1)] [va_rf y0, va_rf y1] T := by
  unfold c_X5_only_176 at hf
  obtain ⟨T176, h176, hf⟩ := ob hf
  refine C.putQ dX5_only_176 fX5_69 (fun q => by cases q) rfl h176 ?_
  refine C.aload_n dX5_only_179 rfl 0 rfl ?_
  refine X.iconst (v := 0) dX5_only_180 (by decide) ?_
  obtain ⟨c181, hf⟩ := if_n hf
  rcases clX_ok hf with ⟨v181, T181, h181, hf, l181, r181⟩ | ⟨e181, T181, h181, rfl, l181⟩
  rotate_left
  · exact C.Vx (As := [.int (0 : Int32)]) (rest := []) dX5_only_181 (wE EFU _ _ _ _ h181) cX5_157 (Classical.not_not.mp c181) rfl rfl (xcs xvN (Nat.le_of_ble_eq_true rfl)) rfl rfl (xD (Nat.le_of_ble_eq_true rfl)) l181 xle.rf (xnoh rfl) rfl
  refine C.Vq (As := [.int (0 : Int32)]) (rest := []) dX5_only_181 (wE EFU _ _ _ _ h181) cX5_157 (Classical.not_not.mp c181) rfl rfl (xcs xvN (Nat.le_of_ble_eq_true rfl)) rfl rfl (xD (Nat.le_of_ble_eq_true rfl)) l181 r181 ?_
  refine C.ast_n (L' := [(2, va_rf v181), (0, va_rf x0), (1, .int x1)]) dX5_only_184 rfl (Nat.le_of_ble_eq_true rfl) (xcQ (xcI xcN)) rfl ?_
  refine X.iload_n dX5_only_185 rfl 2 rfl ?_
  refine X.iconst (v := 4) dX5_only_186 (by decide) ?_
  refine X.icmp_ne (tgt := 201) dX5_only_187 (by decide) (fun c187 => ?_) (fun c187 => ?_)
  · have hf := if_f c187 hf
    refine C.aload_n dX5_only_201 rfl 1 rfl ?_
    obtain ⟨v202, h202, hf⟩ := ob hf
    refine C.getQ dX5_only_202 rX5_18 h202 ?_
    refine C.aload_n dX5_only_205 rfl 0 rfl ?_
    obtain ⟨T206, h206, hf⟩ := ob hf
    refine C.putQ dX5_only_206 fX5_273 (fun q => by cases q) rfl h206 ?_
    obtain rfl := Option.some.inj hf
    exact X.vret dX5_only_209 rfl rfl
  · have hf := if_t c187 hf
    refine C.aload_n dX5_only_190 rfl 1 rfl ?_
    obtain ⟨v191, h191, hf⟩ := ob hf
    refine C.getQ dX5_only_191 rX5_18 h191 ?_
    refine C.aload_n dX5_only_194 rfl 0 rfl ?_
    obtain ⟨T195, h195, hf⟩ := ob hf
    refine C.putQ dX5_only_195 fX5_270 (fun q => by cases q) rfl h195 ?_
    refine X.goto (tgt := 209) dX5_only_198 (by decide) ?_
    obtain rfl := Option.some.inj hf
    exact X.vret dX5_only_209 rfl rfl
def c_X5_only_38 (G : xG) (x0 : Option Nat) (x1 : Int32) (y0 : Int32) (y1 : Option Nat) (T : xF) : Option ((Unit ⊕ xE) × xF) :=
  if ¬ isO T y1 4 = true then none else
  clX (c_X5_want G y1 y0 (5 : Int32) T) T fun v39 T39 =>
  (oI T39 x0 4 12).bind fun v44 =>
  (pV T39 x0 4 12 (.int (v44 ||| ((1 : Int32) <<< (x1 &&& 31))))).bind fun T51 =>
  if ¬ isO T51 x0 4 = true then none else
  cl (c_X5_next G x0 T51) T51 fun v55 T55 =>
  if x1 = (0 : Int32) then
    (oQ T55 x0 4 1).bind fun v89 =>
    if ¬ isO T55 x0 4 = true then none else
    clX (c_X5_number G x0 (1 : Int32) (6 : Int32) T55) T55 fun v96 T96 =>
    (pV T96 v89 1 2 (.int v96)).bind fun T99 =>
    (oQ T99 x0 4 1).bind fun v103 =>
    if ¬ isO T99 x0 4 = true then none else
    clX (c_X5_number G x0 (1 : Int32) (5 : Int32) T99) T99 fun v109 T109 =>
    (pV T109 v103 1 3 (.int v109)).bind fun T112 =>
    some (.inl (), T112)
  else
  if x1 = (1 : Int32) then
    if ¬ isO T55 x0 4 = true then none else
    clX (c_X5_warmths G x0 T55) T55 fun v119 T119 =>
    some (.inl (), T119)
  else
  if x1 = (2 : Int32) then
    (oQ T55 x0 4 1).bind fun v126 =>
    if ¬ isO T55 x0 4 = true then none else
    clX (c_X5_number G x0 (1 : Int32) (99 : Int32) T55) T55 fun v133 T133 =>
    (pV T133 v126 1 4 (.int v133)).bind fun T136 =>
    some (.inl (), T136)
  else
  if x1 = (3 : Int32) then
    (oQ T55 x0 4 1).bind fun v143 =>
    if ¬ isO T55 x0 4 = true then none else
    clX (c_X5_number G x0 (1 : Int32) (99 : Int32) T55) T55 fun v150 T150 =>
    (pV T150 v143 1 5 (.int v150)).bind fun T153 =>
    some (.inl (), T153)
  else
    if x1 = (4 : Int32) then
      (oQ T55 x0 4 4).bind fun v166 =>
      c_X5_only_176 G x0 x1 v166 x0 T55
    else
      (oQ T55 x0 4 5).bind fun v173 =>
      c_X5_only_176 G x0 x1 v173 x0 T55
theorem c_X5_only_38_ok {G : xG}  {T0 : xF}   (x0 : Option Nat) (x1 : Int32) (y0 : Int32) (y1 : Option Nat) (T : xF) (q : ((Unit ⊕ xE) × xF)) (hf : c_X5_only_38 G x0 x1 y0 y1 T = some q) : Xr G (mX5_only, xrm (69) T0 q.2, T0, xoV q.1, q.2) 38 [(0, va_rf x0), (1, .int x1)] [.int y0, va_rf y1] T := by
  unfold c_X5_only_38 at hf
  refine X.iconst (v := 5) dX5_only_38 (by decide) ?_
  obtain ⟨c39, hf⟩ := if_n hf
  rcases clX_ok hf with ⟨v39, T39, h39, hf, l39, r39⟩ | ⟨e39, T39, h39, rfl, l39⟩
  rotate_left
  · exact C.Vx (As := [.int y0, .int (5 : Int32)]) (rest := []) dX5_only_39 (w_X5_want h39) cX5_141 (Classical.not_not.mp c39) rfl rfl (xcs xvN (Nat.le_of_ble_eq_true rfl)) rfl rfl (xD (Nat.le_of_ble_eq_true rfl)) l39 xle.rf (xnoh rfl) rfl
  refine C.Vv (As := [.int y0, .int (5 : Int32)]) (rest := []) dX5_only_39 (w_X5_want h39) cX5_141 (Classical.not_not.mp c39) rfl rfl (xcs xvN (Nat.le_of_ble_eq_true rfl)) rfl rfl (xD (Nat.le_of_ble_eq_true rfl)) l39 r39 ?_
  refine C.aload_n dX5_only_42 rfl 0 rfl ?_
  refine X.dup dX5_only_43 (cat1 _) ?_
  obtain ⟨v44, h44, hf⟩ := ob hf
  refine C.getI dX5_only_44 rX5_255 h44 ?_
  refine X.iconst (v := 1) dX5_only_47 (by decide) ?_
  refine X.iload_n dX5_only_48 rfl 1 rfl ?_
  refine X.ishl dX5_only_49 ?_
  refine X.ior dX5_only_50 ?_
  obtain ⟨T51, h51, hf⟩ := ob hf
  refine C.putI dX5_only_51 fX5_255 (fun q => by cases q) rfl rfl h51 ?_
  refine C.aload_n dX5_only_54 rfl 0 rfl ?_
  obtain ⟨c55, hf⟩ := if_n hf
  obtain ⟨v55, T55, h55, hf, l55, r55⟩ := cl_ok hf
  refine C.Vv (As := []) (rest := []) dX5_only_55 (w_X5_next h55) cX5_133 (Classical.not_not.mp c55) rfl rfl (xcs xvN (Nat.le_of_ble_eq_true rfl)) rfl rfl (xD (Nat.le_of_ble_eq_true rfl)) l55 r55 ?_
  refine X.iload_n dX5_only_58 rfl 1 rfl ?_
  by_cases c59_0 : x1 = (0 : Int32)
  · have hf := if_t c59_0 hf
    refine X.tableC (tgt := 88) c59_0 dX5_only_59 (by decide) (by decide) rfl (by decide) ?_
    refine C.aload_n dX5_only_88 rfl 0 rfl ?_
    obtain ⟨v89, h89, hf⟩ := ob hf
    refine C.getQ dX5_only_89 rX5_18 h89 ?_
    refine C.aload_n dX5_only_92 rfl 0 rfl ?_
    refine X.iconst (v := 1) dX5_only_93 (by decide) ?_
    refine X.bipush (v := 6) dX5_only_94 (by decide) ?_
    obtain ⟨c96, hf⟩ := if_n hf
    rcases clX_ok hf with ⟨v96, T96, h96, hf, l96, r96⟩ | ⟨e96, T96, h96, rfl, l96⟩
    rotate_left
    · exact C.Vx (As := [.int (1 : Int32), .int (6 : Int32)]) (rest := [va_rf v89]) dX5_only_96 (w_X5_number h96) cX5_150 (Classical.not_not.mp c96) rfl rfl (xcs (xvQ xvN) (Nat.le_of_ble_eq_true rfl)) rfl rfl (xD (Nat.le_of_ble_eq_true rfl)) l96 xle.rf (xnoh rfl) rfl
    refine C.Vi (As := [.int (1 : Int32), .int (6 : Int32)]) (rest := [va_rf v89]) dX5_only_96 (w_X5_number h96) cX5_150 (Classical.not_not.mp c96) rfl rfl (xcs (xvQ xvN) (Nat.le_of_ble_eq_true rfl)) rfl rfl (xD (Nat.le_of_ble_eq_true rfl)) l96 r96 ?_
    obtain ⟨T99, h99, hf⟩ := ob hf
    refine C.putI dX5_only_99 fX5_258 (fun q => by cases q) rfl rfl h99 ?_
    refine C.aload_n dX5_only_102 rfl 0 rfl ?_
    obtain ⟨v103, h103, hf⟩ := ob hf
    refine C.getQ dX5_only_103 rX5_18 h103 ?_
    refine C.aload_n dX5_only_106 rfl 0 rfl ?_
    refine X.iconst (v := 1) dX5_only_107 (by decide) ?_
    refine X.iconst (v := 5) dX5_only_108 (by decide) ?_
    obtain ⟨c109, hf⟩ := if_n hf
    rcases clX_ok hf with ⟨v109, T109, h109, hf, l109, r109⟩ | ⟨e109, T109, h109, rfl, l109⟩
    rotate_left
    · exact C.Vx (As := [.int (1 : Int32), .int (5 : Int32)]) (rest := [va_rf v103]) dX5_only_109 (w_X5_number h109) cX5_150 (Classical.not_not.mp c109) rfl rfl (xcs (xvQ xvN) (Nat.le_of_ble_eq_true rfl)) rfl rfl (xD (Nat.le_of_ble_eq_true rfl)) l109 xle.rf (xnoh rfl) rfl
    refine C.Vi (As := [.int (1 : Int32), .int (5 : Int32)]) (rest := [va_rf v103]) dX5_only_109 (w_X5_number h109) cX5_150 (Classical.not_not.mp c109) rfl rfl (xcs (xvQ xvN) (Nat.le_of_ble_eq_true rfl)) rfl rfl (xD (Nat.le_of_ble_eq_true rfl)) l109 r109 ?_
    obtain ⟨T112, h112, hf⟩ := ob hf
    refine C.putI dX5_only_112 fX5_261 (fun q => by cases q) rfl rfl h112 ?_
    refine X.goto (tgt := 209) dX5_only_115 (by decide) ?_
    obtain rfl := Option.some.inj hf
    exact X.vret dX5_only_209 rfl rfl
  have hf := if_f c59_0 hf
  by_cases c59_1 : x1 = (1 : Int32)
  · have hf := if_t c59_1 hf
    refine X.tableC (tgt := 118) c59_1 dX5_only_59 (by decide) (by decide) rfl (by decide) ?_
    refine C.aload_n dX5_only_118 rfl 0 rfl ?_
    obtain ⟨c119, hf⟩ := if_n hf
    rcases clX_ok hf with ⟨v119, T119, h119, hf, l119, r119⟩ | ⟨e119, T119, h119, rfl, l119⟩
    rotate_left
    · exact C.Vx (As := []) (rest := []) dX5_only_119 (w_X5_warmths h119) cX5_264 (Classical.not_not.mp c119) rfl rfl (xcs xvN (Nat.le_of_ble_eq_true rfl)) rfl rfl (xD (Nat.le_of_ble_eq_true rfl)) l119 xle.rf (xnoh rfl) rfl
    refine C.Vv (As := []) (rest := []) dX5_only_119 (w_X5_warmths h119) cX5_264 (Classical.not_not.mp c119) rfl rfl (xcs xvN (Nat.le_of_ble_eq_true rfl)) rfl rfl (xD (Nat.le_of_ble_eq_true rfl)) l119 r119 ?_
    refine X.goto (tgt := 209) dX5_only_122 (by decide) ?_
    obtain rfl := Option.some.inj hf
    exact X.vret dX5_only_209 rfl rfl
  have hf := if_f c59_1 hf
  by_cases c59_2 : x1 = (2 : Int32)
  · have hf := if_t c59_2 hf
    refine X.tableC (tgt := 125) c59_2 dX5_only_59 (by decide) (by decide) rfl (by decide) ?_
    refine C.aload_n dX5_only_125 rfl 0 rfl ?_
    obtain ⟨v126, h126, hf⟩ := ob hf
    refine C.getQ dX5_only_126 rX5_18 h126 ?_
    refine C.aload_n dX5_only_129 rfl 0 rfl ?_
    refine X.iconst (v := 1) dX5_only_130 (by decide) ?_
    refine X.bipush (v := 99) dX5_only_131 (by decide) ?_
    obtain ⟨c133, hf⟩ := if_n hf
    rcases clX_ok hf with ⟨v133, T133, h133, hf, l133, r133⟩ | ⟨e133, T133, h133, rfl, l133⟩
    rotate_left
    · exact C.Vx (As := [.int (1 : Int32), .int (99 : Int32)]) (rest := [va_rf v126]) dX5_only_133 (w_X5_number h133) cX5_150 (Classical.not_not.mp c133) rfl rfl (xcs (xvQ xvN) (Nat.le_of_ble_eq_true rfl)) rfl rfl (xD (Nat.le_of_ble_eq_true rfl)) l133 xle.rf (xnoh rfl) rfl
    refine C.Vi (As := [.int (1 : Int32), .int (99 : Int32)]) (rest := [va_rf v126]) dX5_only_133 (w_X5_number h133) cX5_150 (Classical.not_not.mp c133) rfl rfl (xcs (xvQ xvN) (Nat.le_of_ble_eq_true rfl)) rfl rfl (xD (Nat.le_of_ble_eq_true rfl)) l133 r133 ?_
    obtain ⟨T136, h136, hf⟩ := ob hf
    refine C.putI dX5_only_136 fX5_266 (fun q => by cases q) rfl rfl h136 ?_
    refine X.goto (tgt := 209) dX5_only_139 (by decide) ?_
    obtain rfl := Option.some.inj hf
    exact X.vret dX5_only_209 rfl rfl
  have hf := if_f c59_2 hf
  by_cases c59_3 : x1 = (3 : Int32)
  · have hf := if_t c59_3 hf
    refine X.tableC (tgt := 142) c59_3 dX5_only_59 (by decide) (by decide) rfl (by decide) ?_
    refine C.aload_n dX5_only_142 rfl 0 rfl ?_
    obtain ⟨v143, h143, hf⟩ := ob hf
    refine C.getQ dX5_only_143 rX5_18 h143 ?_
    refine C.aload_n dX5_only_146 rfl 0 rfl ?_
    refine X.iconst (v := 1) dX5_only_147 (by decide) ?_
    refine X.bipush (v := 99) dX5_only_148 (by decide) ?_
    obtain ⟨c150, hf⟩ := if_n hf
    rcases clX_ok hf with ⟨v150, T150, h150, hf, l150, r150⟩ | ⟨e150, T150, h150, rfl, l150⟩
    rotate_left
    · exact C.Vx (As := [.int (1 : Int32), .int (99 : Int32)]) (rest := [va_rf v143]) dX5_only_150 (w_X5_number h150) cX5_150 (Classical.not_not.mp c150) rfl rfl (xcs (xvQ xvN) (Nat.le_of_ble_eq_true rfl)) rfl rfl (xD (Nat.le_of_ble_eq_true rfl)) l150 xle.rf (xnoh rfl) rfl
    refine C.Vi (As := [.int (1 : Int32), .int (99 : Int32)]) (rest := [va_rf v143]) dX5_only_150 (w_X5_number h150) cX5_150 (Classical.not_not.mp c150) rfl rfl (xcs (xvQ xvN) (Nat.le_of_ble_eq_true rfl)) rfl rfl (xD (Nat.le_of_ble_eq_true rfl)) l150 r150 ?_
    obtain ⟨T153, h153, hf⟩ := ob hf
    refine C.putI dX5_only_153 fX5_268 (fun q => by cases q) rfl rfl h153 ?_
    refine X.goto (tgt := 209) dX5_only_156 (by decide) ?_
    obtain rfl := Option.some.inj hf
    exact X.vret dX5_only_209 rfl rfl
  have hf := if_f c59_3 hf
  have t_c59_0 := lv_neT (a := 0) c59_0 rfl
  have t_c59_1 := lv_neT (a := 1) c59_1 rfl
  have t_c59_2 := lv_neT (a := 2) c59_2 rfl
  have t_c59_3 := lv_neT (a := 3) c59_3 rfl
  refine X.tableOut (tgt := 159) dX5_only_59 (by omega) (by decide) ?_
  refine C.aload_n dX5_only_159 rfl 0 rfl ?_
  refine X.iload_n dX5_only_160 rfl 1 rfl ?_
  refine X.iconst (v := 4) dX5_only_161 (by decide) ?_
  refine X.icmp_ne (tgt := 172) dX5_only_162 (by decide) (fun c162 => ?_) (fun c162 => ?_)
  · have hf := if_f c162 hf
    refine C.aload_n dX5_only_172 rfl 0 rfl ?_
    obtain ⟨v173, h173, hf⟩ := ob hf
    refine C.getQ dX5_only_173 rX5_66 h173 ?_
    refine X.sub [0, 1] (L' := [(0, va_rf x0), (1, .int x1)]) rfl ?_
    exact c_X5_only_176_ok _ _ _ _ _ _ hf
  · have hf := if_t c162 hf
    refine C.aload_n dX5_only_165 rfl 0 rfl ?_
    obtain ⟨v166, h166, hf⟩ := ob hf
    refine C.getQ dX5_only_166 rX5_61 h166 ?_
    refine X.goto (tgt := 176) dX5_only_169 (by decide) ?_
    refine X.sub [0, 1] (L' := [(0, va_rf x0), (1, .int x1)]) rfl ?_
    exact c_X5_only_176_ok _ _ _ _ _ _ hf
def c_X5_only_17 (G : xG) (x0 : Option Nat) (x1 : Int32) (y0 : Int32) (y1 : Option Nat) (T : xF) : Option ((Unit ⊕ xE) × xF) :=
  if ¬ isO T y1 4 = true then none else
  clX (c_X5_want G y1 y0 (4 : Int32) T) T fun v18 T18 =>
  (oI T18 x0 4 12).bind fun v23 =>
  (c_X1_isOf v23 x1).bind fun v27 =>
  if v27 = 0 then
    c_X5_only_38 G x0 x1 (1 : Int32) x0 T18
  else
    c_X5_only_38 G x0 x1 (0 : Int32) x0 T18
theorem c_X5_only_17_ok {G : xG}  {T0 : xF}   (x0 : Option Nat) (x1 : Int32) (y0 : Int32) (y1 : Option Nat) (T : xF) (q : ((Unit ⊕ xE) × xF)) (hf : c_X5_only_17 G x0 x1 y0 y1 T = some q) : Xr G (mX5_only, xrm (69) T0 q.2, T0, xoV q.1, q.2) 17 [(0, va_rf x0), (1, .int x1)] [.int y0, va_rf y1] T := by
  unfold c_X5_only_17 at hf
  refine X.iconst (v := 4) dX5_only_17 (by decide) ?_
  obtain ⟨c18, hf⟩ := if_n hf
  rcases clX_ok hf with ⟨v18, T18, h18, hf, l18, r18⟩ | ⟨e18, T18, h18, rfl, l18⟩
  rotate_left
  · exact C.Vx (As := [.int y0, .int (4 : Int32)]) (rest := []) dX5_only_18 (w_X5_want h18) cX5_141 (Classical.not_not.mp c18) rfl rfl (xcs xvN (Nat.le_of_ble_eq_true rfl)) rfl rfl (xD (Nat.le_of_ble_eq_true rfl)) l18 xle.rf (xnoh rfl) rfl
  refine C.Vv (As := [.int y0, .int (4 : Int32)]) (rest := []) dX5_only_18 (w_X5_want h18) cX5_141 (Classical.not_not.mp c18) rfl rfl (xcs xvN (Nat.le_of_ble_eq_true rfl)) rfl rfl (xD (Nat.le_of_ble_eq_true rfl)) l18 r18 ?_
  refine C.aload_n dX5_only_21 rfl 0 rfl ?_
  refine C.aload_n dX5_only_22 rfl 0 rfl ?_
  obtain ⟨v23, h23, hf⟩ := ob hf
  refine C.getI dX5_only_23 rX5_255 h23 ?_
  refine X.iload_n dX5_only_26 rfl 1 rfl ?_
  obtain ⟨v27, h27, hf⟩ := ob hf
  refine X.keep fun l27 => C.SNi (As := [.int v23, .int x1]) (rest := [va_rf x0]) dX5_only_27 (w_X1_isOf h27) cX5_219 rfl rfl (xcs (xvQ xvN) (Nat.le_of_ble_eq_true rfl)) (xD (Nat.le_of_ble_eq_true rfl)) xle.rf l27 ?_
  refine X.if_ne (tgt := 37) dX5_only_30 (by decide) (fun c30 => ?_) (fun c30 => ?_)
  · have hf := if_f c30 hf
    refine X.iconst (v := 0) dX5_only_37 (by decide) ?_
    refine X.sub [0, 1] (L' := [(0, va_rf x0), (1, .int x1)]) rfl ?_
    exact c_X5_only_38_ok _ _ _ _ _ _ hf
  · have hf := if_t c30 hf
    refine X.iconst (v := 1) dX5_only_33 (by decide) ?_
    refine X.goto (tgt := 38) dX5_only_34 (by decide) ?_
    refine X.sub [0, 1] (L' := [(0, va_rf x0), (1, .int x1)]) rfl ?_
    exact c_X5_only_38_ok _ _ _ _ _ _ hf
def c_X5_only_12 (G : xG) (x0 : Option Nat) (x1 : Int32) (y0 : Option Nat) (T : xF) : Option ((Unit ⊕ xE) × xF) :=
  c_X5_only_17 G x0 x1 (1 : Int32) y0 T
theorem c_X5_only_12_ok {G : xG}  {T0 : xF}   (x0 : Option Nat) (x1 : Int32) (y0 : Option Nat) (T : xF) (q : ((Unit ⊕ xE) × xF)) (hf : c_X5_only_12 G x0 x1 y0 T = some q) : Xr G (mX5_only, xrm (69) T0 q.2, T0, xoV q.1, q.2) 12 [(0, va_rf x0), (1, .int x1)] [va_rf y0] T := by
  unfold c_X5_only_12 at hf
  refine X.iconst (v := 1) dX5_only_12 (by decide) ?_
  refine X.goto (tgt := 17) dX5_only_13 (by decide) ?_
  refine X.sub [0, 1] (L' := [(0, va_rf x0), (1, .int x1)]) rfl ?_
  exact c_X5_only_17_ok _ _ _ _ _ _ hf
def c_X5_only (G : xG) (x0 : Option Nat) (x1 : Int32) (T : xF) : Option ((Unit ⊕ xE) × xF) :=
  if x1 = 0 then
    if ¬ isO T x0 4 = true then none else
    (c_X5_isBegun T x0).bind fun v6 =>
    if v6 = 0 then
      c_X5_only_12 G x0 x1 x0 T
    else
      c_X5_only_17 G x0 x1 (0 : Int32) x0 T
  else
    c_X5_only_12 G x0 x1 x0 T
theorem w_X5_only {G : xG}  {T : xF} {x0 : Option Nat} {x1 : Int32} {q : ((Unit ⊕ xE) × xF)} (hf : c_X5_only G x0 x1 T = some q) : Ct G mX5_only (69) T [va_rf x0, .int x1] (xoV q.1) q.2 := by
  refine Ct.ofc (plainFor_of_name (by decide +kernel)) rfl (xvQ (xvI xvN)) (Nat.le_of_ble_eq_true rfl) (show Xr G _ 0 [(0, va_rf x0), (1, .int x1)] [] _ from ?_)
  unfold c_X5_only at hf
  refine C.aload_n dX5_only_0 rfl 0 rfl ?_
  refine X.iload_n dX5_only_1 rfl 1 rfl ?_
  refine X.if_ne (tgt := 12) dX5_only_2 (by decide) (fun c2 => ?_) (fun c2 => ?_)
  · have hf := if_f c2 hf
    refine X.sub [0, 1] (L' := [(0, va_rf x0), (1, .int x1)]) rfl ?_
    exact c_X5_only_12_ok _ _ _ _ _ hf
  · have hf := if_t c2 hf
    refine C.aload_n dX5_only_5 rfl 0 rfl ?_
    obtain ⟨c6, hf⟩ := if_n hf
    obtain ⟨v6, h6, hf⟩ := ob hf
    refine X.keep fun l6 => C.Vi (As := []) (rest := [va_rf x0]) dX5_only_6 (w_X5_isBegun h6) cX5_252 (Classical.not_not.mp c6) rfl rfl (xcs (xvQ xvN) (Nat.le_of_ble_eq_true rfl)) rfl rfl (xD (Nat.le_of_ble_eq_true rfl)) xle.rf l6 ?_
    refine X.if_ne (tgt := 16) dX5_only_9 (by decide) (fun c9 => ?_) (fun c9 => ?_)
    · have hf := if_f c9 hf
      refine X.iconst (v := 0) dX5_only_16 (by decide) ?_
      refine X.sub [0, 1] (L' := [(0, va_rf x0), (1, .int x1)]) rfl ?_
      exact c_X5_only_17_ok _ _ _ _ _ _ hf
    · have hf := if_t c9 hf
      refine X.sub [0, 1] (L' := [(0, va_rf x0), (1, .int x1)]) rfl ?_
      exact c_X5_only_12_ok _ _ _ _ _ hf
theorem cX5_275 : xCV RX5 275 mX5_only 1 := ⟨lw_V q1000 q1002 qs22 q132 q1003, rfl, ⟨by decide +kernel, by decide +kernel, by decide +kernel⟩, Nat.le_of_ble_eq_true rfl⟩
/-! MouldVotes$Reader cellNow -/
abbrev cX5_cellNow : ByteArray := prog_7_method_20_code
def yX5_cellNow : MethodName := ⟨RX5, "cellNow", "()I"⟩
def dkwX5_cellNow_1 : List UInt8 := [167, 0, 4, 3, 6, 182, 0, 141, 27, 172]
abbrev dktX5_cellNow_1 : List UInt8 := dkwX5_cellNow_1 ++ []
def dkwX5_cellNow_0 : List UInt8 := [42, 3, 17, 39, 15, 182, 0, 145, 60, 42, 27, 42, 180, 0, 18, 182, 0, 210, 162, 0, 7, 4]
abbrev dktX5_cellNow_0 : List UInt8 := dkwX5_cellNow_0 ++ dktX5_cellNow_1
theorem dksX5_cellNow_0 : cX5_cellNow.data.toList.drop 0 = dktX5_cellNow_0 := by decide +kernel
theorem dksX5_cellNow_1 : cX5_cellNow.data.toList.drop 22 = dktX5_cellNow_1 := dk_seg dksX5_cellNow_0 22 rfl rfl
theorem dX5_cellNow_0 : decode cX5_cellNow 0 = .ok (.aload_n 0, 1) := dk_42 (dk_at dksX5_cellNow_0 0 rfl rfl)
theorem dX5_cellNow_1 : decode cX5_cellNow 1 = .ok (.iconst 0, 1) := dk_3 (dk_at dksX5_cellNow_0 1 rfl rfl)
theorem dX5_cellNow_2 : decode cX5_cellNow 2 = .ok (.sipush 9999, 3) := dk_17 39 15 (dk_at dksX5_cellNow_0 2 rfl rfl)
theorem dX5_cellNow_5 : decode cX5_cellNow 5 = .ok (.invokevirtual 145, 3) := dk_182 0 145 (dk_at dksX5_cellNow_0 5 rfl rfl)
theorem dX5_cellNow_8 : decode cX5_cellNow 8 = .ok (.istore_n 1, 1) := dk_60 (dk_at dksX5_cellNow_0 8 rfl rfl)
theorem dX5_cellNow_9 : decode cX5_cellNow 9 = .ok (.aload_n 0, 1) := dk_42 (dk_at dksX5_cellNow_0 9 rfl rfl)
theorem dX5_cellNow_10 : decode cX5_cellNow 10 = .ok (.iload_n 1, 1) := dk_27 (dk_at dksX5_cellNow_0 10 rfl rfl)
theorem dX5_cellNow_11 : decode cX5_cellNow 11 = .ok (.aload_n 0, 1) := dk_42 (dk_at dksX5_cellNow_0 11 rfl rfl)
theorem dX5_cellNow_12 : decode cX5_cellNow 12 = .ok (.getfield 18, 3) := dk_180 0 18 (dk_at dksX5_cellNow_0 12 rfl rfl)
theorem dX5_cellNow_15 : decode cX5_cellNow 15 = .ok (.invokevirtual 210, 3) := dk_182 0 210 (dk_at dksX5_cellNow_0 15 rfl rfl)
theorem dX5_cellNow_18 : decode cX5_cellNow 18 = .ok (.if_icmp .ge 7, 3) := dk_162 0 7 (dk_at dksX5_cellNow_0 18 rfl rfl)
theorem dX5_cellNow_21 : decode cX5_cellNow 21 = .ok (.iconst 1, 1) := dk_4 (dk_at dksX5_cellNow_0 21 rfl rfl)
theorem dX5_cellNow_22 : decode cX5_cellNow 22 = .ok (.goto 4, 3) := dk_167 0 4 (dk_at dksX5_cellNow_1 0 rfl rfl)
theorem dX5_cellNow_25 : decode cX5_cellNow 25 = .ok (.iconst 0, 1) := dk_3 (dk_at dksX5_cellNow_1 3 rfl rfl)
theorem dX5_cellNow_26 : decode cX5_cellNow 26 = .ok (.iconst 3, 1) := dk_6 (dk_at dksX5_cellNow_1 4 rfl rfl)
theorem dX5_cellNow_27 : decode cX5_cellNow 27 = .ok (.invokevirtual 141, 3) := dk_182 0 141 (dk_at dksX5_cellNow_1 5 rfl rfl)
theorem dX5_cellNow_30 : decode cX5_cellNow 30 = .ok (.iload_n 1, 1) := dk_27 (dk_at dksX5_cellNow_1 8 rfl rfl)
theorem dX5_cellNow_31 : decode cX5_cellNow 31 = .ok (.ireturn, 1) := dk_172 (dk_at dksX5_cellNow_1 9 rfl rfl)
abbrev mX5_cellNow : xM := (yX5_cellNow, cX5_cellNow, 2, (some .int), [])
def c_X5_cellNow_26 (G : xG) (x1 : Int32) (y0 : Int32) (y1 : Option Nat) (T : xF) : Option ((Int32 ⊕ xE) × xF) :=
  if ¬ isO T y1 4 = true then none else
  clX (c_X5_want G y1 y0 (3 : Int32) T) T fun v27 T27 =>
  some (.inl x1, T27)
theorem c_X5_cellNow_26_ok {G : xG}  {T0 : xF}   (x1 : Int32) (y0 : Int32) (y1 : Option Nat) (T : xF) (q : ((Int32 ⊕ xE) × xF)) (hf : c_X5_cellNow_26 G x1 y0 y1 T = some q) : Xr G (mX5_cellNow, xrm (6) T0 q.2, T0, xoI q.1, q.2) 26 [(1, .int x1)] [.int y0, va_rf y1] T := by
  unfold c_X5_cellNow_26 at hf
  refine X.iconst (v := 3) dX5_cellNow_26 (by decide) ?_
  obtain ⟨c27, hf⟩ := if_n hf
  rcases clX_ok hf with ⟨v27, T27, h27, hf, l27, r27⟩ | ⟨e27, T27, h27, rfl, l27⟩
  rotate_left
  · exact C.Vx (As := [.int y0, .int (3 : Int32)]) (rest := []) dX5_cellNow_27 (w_X5_want h27) cX5_141 (Classical.not_not.mp c27) rfl rfl (xcs xvN (Nat.le_of_ble_eq_true rfl)) rfl rfl (xD (Nat.le_of_ble_eq_true rfl)) l27 xle.rf (xnoh rfl) rfl
  refine C.Vv (As := [.int y0, .int (3 : Int32)]) (rest := []) dX5_cellNow_27 (w_X5_want h27) cX5_141 (Classical.not_not.mp c27) rfl rfl (xcs xvN (Nat.le_of_ble_eq_true rfl)) rfl rfl (xD (Nat.le_of_ble_eq_true rfl)) l27 r27 ?_
  refine X.iload_n dX5_cellNow_30 rfl 0 rfl ?_
  obtain rfl := Option.some.inj hf
  exact X.iret dX5_cellNow_31 rfl rfl rfl
def c_X5_cellNow (G : xG) (x0 : Option Nat) (T : xF) : Option ((Int32 ⊕ xE) × xF) :=
  if ¬ isO T x0 4 = true then none else
  clX (c_X5_numberNow G x0 (0 : Int32) (9999 : Int32) T) T fun v5 T5 =>
  (oQ T5 x0 4 1).bind fun v12 =>
  if ¬ isO T5 v12 1 = true then none else
  (c_X2_cells T5 v12).bind fun v15 =>
  if v15 ≤ v5 then
    c_X5_cellNow_26 G v5 (0 : Int32) x0 T5
  else
    c_X5_cellNow_26 G v5 (1 : Int32) x0 T5
theorem w_X5_cellNow {G : xG}  {T : xF} {x0 : Option Nat} {q : ((Int32 ⊕ xE) × xF)} (hf : c_X5_cellNow G x0 T = some q) : Ct G mX5_cellNow (6) T [va_rf x0] (xoI q.1) q.2 := by
  refine Ct.ofc (plainFor_of_name (by decide +kernel)) rfl (xvQ xvN) (Nat.le_of_ble_eq_true rfl) (show Xr G _ 0 [(0, va_rf x0)] [] _ from ?_)
  unfold c_X5_cellNow at hf
  refine C.aload_n dX5_cellNow_0 rfl 0 rfl ?_
  refine X.iconst (v := 0) dX5_cellNow_1 (by decide) ?_
  refine X.sipush (v := 9999) dX5_cellNow_2 (by decide) ?_
  obtain ⟨c5, hf⟩ := if_n hf
  rcases clX_ok hf with ⟨v5, T5, h5, hf, l5, r5⟩ | ⟨e5, T5, h5, rfl, l5⟩
  rotate_left
  · exact C.Vx (As := [.int (0 : Int32), .int (9999 : Int32)]) (rest := []) dX5_cellNow_5 (w_X5_numberNow h5) cX5_145 (Classical.not_not.mp c5) rfl rfl (xcs xvN (Nat.le_of_ble_eq_true rfl)) rfl rfl (xD (Nat.le_of_ble_eq_true rfl)) l5 xle.rf (xnoh rfl) rfl
  refine C.Vi (As := [.int (0 : Int32), .int (9999 : Int32)]) (rest := []) dX5_cellNow_5 (w_X5_numberNow h5) cX5_145 (Classical.not_not.mp c5) rfl rfl (xcs xvN (Nat.le_of_ble_eq_true rfl)) rfl rfl (xD (Nat.le_of_ble_eq_true rfl)) l5 r5 ?_
  refine C.ist_n (L' := [(1, .int v5), (0, va_rf x0)]) dX5_cellNow_8 rfl (Nat.le_of_ble_eq_true rfl) (xcQ xcN) rfl ?_
  refine C.aload_n dX5_cellNow_9 rfl 1 rfl ?_
  refine X.iload_n dX5_cellNow_10 rfl 0 rfl ?_
  refine C.aload_n dX5_cellNow_11 rfl 1 rfl ?_
  obtain ⟨v12, h12, hf⟩ := ob hf
  refine C.getQ dX5_cellNow_12 rX5_18 h12 ?_
  obtain ⟨c15, hf⟩ := if_n hf
  obtain ⟨v15, h15, hf⟩ := ob hf
  refine X.keep fun l15 => C.Vi (As := []) (rest := [.int v5, va_rf x0]) dX5_cellNow_15 (w_X2_cells h15) cX5_210 (Classical.not_not.mp c15) rfl rfl (xcs (xvI (xvQ xvN)) (Nat.le_of_ble_eq_true rfl)) rfl rfl (xD (Nat.le_of_ble_eq_true rfl)) xle.rf l15 ?_
  refine X.icmp_ge (tgt := 25) dX5_cellNow_18 (by decide) (fun c18 => ?_) (fun c18 => ?_)
  · have hf := if_t c18 hf
    refine X.iconst (v := 0) dX5_cellNow_25 (by decide) ?_
    refine X.sub [0] (L' := [(1, .int v5)]) rfl ?_
    exact c_X5_cellNow_26_ok _ _ _ _ _ hf
  · have hf := if_f c18 hf
    refine X.iconst (v := 1) dX5_cellNow_21 (by decide) ?_
    refine X.goto (tgt := 26) dX5_cellNow_22 (by decide) ?_
    refine X.sub [0] (L' := [(1, .int v5)]) rfl ?_
    exact c_X5_cellNow_26_ok _ _ _ _ _ hf
theorem cX5_213 : xCV RX5 213 mX5_cellNow 0 := ⟨lw_V q1241 q1243 qs38 q132 q1244, rfl, ⟨by decide +kernel, by decide +kernel, by decide +kernel⟩, Nat.le_of_ble_eq_true rfl⟩
/-! MouldVotes$Reader cell -/
abbrev cX5_cell : ByteArray := prog_7_method_21_code
def yX5_cell : MethodName := ⟨RX5, "cell", "()V"⟩
def dkwX5_cell_3 : List UInt8 := [42, 3, 16, 99, 182, 0, 150, 79, 177]
abbrev dktX5_cell_3 : List UInt8 := dkwX5_cell_3 ++ []
def dkwX5_cell_2 : List UInt8 := [42, 180, 0, 27, 180, 0, 223, 27, 42, 3, 16, 9, 182, 0, 150, 79, 42, 180, 0, 27, 180, 0, 226, 27]
abbrev dktX5_cell_2 : List UInt8 := dkwX5_cell_2 ++ dktX5_cell_3
def dkwX5_cell_1 : List UInt8 := [167, 0, 4, 3, 7, 182, 0, 141, 42, 89, 180, 0, 216, 4, 27, 120, 128, 181, 0, 216, 42, 182, 0, 133]
abbrev dktX5_cell_1 : List UInt8 := dkwX5_cell_1 ++ dktX5_cell_2
def dkwX5_cell_0 : List UInt8 := [42, 182, 0, 133, 42, 182, 0, 213, 60, 42, 42, 180, 0, 216, 27, 184, 0, 219, 154, 0, 7, 4]
abbrev dktX5_cell_0 : List UInt8 := dkwX5_cell_0 ++ dktX5_cell_1
theorem dksX5_cell_0 : cX5_cell.data.toList.drop 0 = dktX5_cell_0 := by decide +kernel
theorem dksX5_cell_1 : cX5_cell.data.toList.drop 22 = dktX5_cell_1 := dk_seg dksX5_cell_0 22 rfl rfl
theorem dksX5_cell_2 : cX5_cell.data.toList.drop 46 = dktX5_cell_2 := dk_seg dksX5_cell_1 24 rfl rfl
theorem dksX5_cell_3 : cX5_cell.data.toList.drop 70 = dktX5_cell_3 := dk_seg dksX5_cell_2 24 rfl rfl
theorem dX5_cell_0 : decode cX5_cell 0 = .ok (.aload_n 0, 1) := dk_42 (dk_at dksX5_cell_0 0 rfl rfl)
theorem dX5_cell_1 : decode cX5_cell 1 = .ok (.invokevirtual 133, 3) := dk_182 0 133 (dk_at dksX5_cell_0 1 rfl rfl)
theorem dX5_cell_4 : decode cX5_cell 4 = .ok (.aload_n 0, 1) := dk_42 (dk_at dksX5_cell_0 4 rfl rfl)
theorem dX5_cell_5 : decode cX5_cell 5 = .ok (.invokevirtual 213, 3) := dk_182 0 213 (dk_at dksX5_cell_0 5 rfl rfl)
theorem dX5_cell_8 : decode cX5_cell 8 = .ok (.istore_n 1, 1) := dk_60 (dk_at dksX5_cell_0 8 rfl rfl)
theorem dX5_cell_9 : decode cX5_cell 9 = .ok (.aload_n 0, 1) := dk_42 (dk_at dksX5_cell_0 9 rfl rfl)
theorem dX5_cell_10 : decode cX5_cell 10 = .ok (.aload_n 0, 1) := dk_42 (dk_at dksX5_cell_0 10 rfl rfl)
theorem dX5_cell_11 : decode cX5_cell 11 = .ok (.getfield 216, 3) := dk_180 0 216 (dk_at dksX5_cell_0 11 rfl rfl)
theorem dX5_cell_14 : decode cX5_cell 14 = .ok (.iload_n 1, 1) := dk_27 (dk_at dksX5_cell_0 14 rfl rfl)
theorem dX5_cell_15 : decode cX5_cell 15 = .ok (.invokestatic 219, 3) := dk_184 0 219 (dk_at dksX5_cell_0 15 rfl rfl)
theorem dX5_cell_18 : decode cX5_cell 18 = .ok (.ifCond .ne 7, 3) := dk_154 0 7 (dk_at dksX5_cell_0 18 rfl rfl)
theorem dX5_cell_21 : decode cX5_cell 21 = .ok (.iconst 1, 1) := dk_4 (dk_at dksX5_cell_0 21 rfl rfl)
theorem dX5_cell_22 : decode cX5_cell 22 = .ok (.goto 4, 3) := dk_167 0 4 (dk_at dksX5_cell_1 0 rfl rfl)
theorem dX5_cell_25 : decode cX5_cell 25 = .ok (.iconst 0, 1) := dk_3 (dk_at dksX5_cell_1 3 rfl rfl)
theorem dX5_cell_26 : decode cX5_cell 26 = .ok (.iconst 4, 1) := dk_7 (dk_at dksX5_cell_1 4 rfl rfl)
theorem dX5_cell_27 : decode cX5_cell 27 = .ok (.invokevirtual 141, 3) := dk_182 0 141 (dk_at dksX5_cell_1 5 rfl rfl)
theorem dX5_cell_30 : decode cX5_cell 30 = .ok (.aload_n 0, 1) := dk_42 (dk_at dksX5_cell_1 8 rfl rfl)
theorem dX5_cell_31 : decode cX5_cell 31 = .ok (.dup, 1) := dk_89 (dk_at dksX5_cell_1 9 rfl rfl)
theorem dX5_cell_32 : decode cX5_cell 32 = .ok (.getfield 216, 3) := dk_180 0 216 (dk_at dksX5_cell_1 10 rfl rfl)
theorem dX5_cell_35 : decode cX5_cell 35 = .ok (.iconst 1, 1) := dk_4 (dk_at dksX5_cell_1 13 rfl rfl)
theorem dX5_cell_36 : decode cX5_cell 36 = .ok (.iload_n 1, 1) := dk_27 (dk_at dksX5_cell_1 14 rfl rfl)
theorem dX5_cell_37 : decode cX5_cell 37 = .ok (.ishl, 1) := dk_120 (dk_at dksX5_cell_1 15 rfl rfl)
theorem dX5_cell_38 : decode cX5_cell 38 = .ok (.ior, 1) := dk_128 (dk_at dksX5_cell_1 16 rfl rfl)
theorem dX5_cell_39 : decode cX5_cell 39 = .ok (.putfield 216, 3) := dk_181 0 216 (dk_at dksX5_cell_1 17 rfl rfl)
theorem dX5_cell_42 : decode cX5_cell 42 = .ok (.aload_n 0, 1) := dk_42 (dk_at dksX5_cell_1 20 rfl rfl)
theorem dX5_cell_43 : decode cX5_cell 43 = .ok (.invokevirtual 133, 3) := dk_182 0 133 (dk_at dksX5_cell_1 21 rfl rfl)
theorem dX5_cell_46 : decode cX5_cell 46 = .ok (.aload_n 0, 1) := dk_42 (dk_at dksX5_cell_2 0 rfl rfl)
theorem dX5_cell_47 : decode cX5_cell 47 = .ok (.getfield 27, 3) := dk_180 0 27 (dk_at dksX5_cell_2 1 rfl rfl)
theorem dX5_cell_50 : decode cX5_cell 50 = .ok (.getfield 223, 3) := dk_180 0 223 (dk_at dksX5_cell_2 4 rfl rfl)
theorem dX5_cell_53 : decode cX5_cell 53 = .ok (.iload_n 1, 1) := dk_27 (dk_at dksX5_cell_2 7 rfl rfl)
theorem dX5_cell_54 : decode cX5_cell 54 = .ok (.aload_n 0, 1) := dk_42 (dk_at dksX5_cell_2 8 rfl rfl)
theorem dX5_cell_55 : decode cX5_cell 55 = .ok (.iconst 0, 1) := dk_3 (dk_at dksX5_cell_2 9 rfl rfl)
theorem dX5_cell_56 : decode cX5_cell 56 = .ok (.bipush 9, 2) := dk_16 9 (dk_at dksX5_cell_2 10 rfl rfl)
theorem dX5_cell_58 : decode cX5_cell 58 = .ok (.invokevirtual 150, 3) := dk_182 0 150 (dk_at dksX5_cell_2 12 rfl rfl)
theorem dX5_cell_61 : decode cX5_cell 61 = .ok (.iastore, 1) := dk_79 (dk_at dksX5_cell_2 15 rfl rfl)
theorem dX5_cell_62 : decode cX5_cell 62 = .ok (.aload_n 0, 1) := dk_42 (dk_at dksX5_cell_2 16 rfl rfl)
theorem dX5_cell_63 : decode cX5_cell 63 = .ok (.getfield 27, 3) := dk_180 0 27 (dk_at dksX5_cell_2 17 rfl rfl)
theorem dX5_cell_66 : decode cX5_cell 66 = .ok (.getfield 226, 3) := dk_180 0 226 (dk_at dksX5_cell_2 20 rfl rfl)
theorem dX5_cell_69 : decode cX5_cell 69 = .ok (.iload_n 1, 1) := dk_27 (dk_at dksX5_cell_2 23 rfl rfl)
theorem dX5_cell_70 : decode cX5_cell 70 = .ok (.aload_n 0, 1) := dk_42 (dk_at dksX5_cell_3 0 rfl rfl)
theorem dX5_cell_71 : decode cX5_cell 71 = .ok (.iconst 0, 1) := dk_3 (dk_at dksX5_cell_3 1 rfl rfl)
theorem dX5_cell_72 : decode cX5_cell 72 = .ok (.bipush 99, 2) := dk_16 99 (dk_at dksX5_cell_3 2 rfl rfl)
theorem dX5_cell_74 : decode cX5_cell 74 = .ok (.invokevirtual 150, 3) := dk_182 0 150 (dk_at dksX5_cell_3 4 rfl rfl)
theorem dX5_cell_77 : decode cX5_cell 77 = .ok (.iastore, 1) := dk_79 (dk_at dksX5_cell_3 7 rfl rfl)
theorem dX5_cell_78 : decode cX5_cell 78 = .ok (.return_, 1) := dk_177 (dk_at dksX5_cell_3 8 rfl rfl)
abbrev mX5_cell : xM := (yX5_cell, cX5_cell, 2, none, [])
def c_X5_cell_26 (G : xG) (x0 : Option Nat) (x1 : Int32) (y0 : Int32) (y1 : Option Nat) (T : xF) : Option ((Unit ⊕ xE) × xF) :=
  if ¬ isO T y1 4 = true then none else
  clX (c_X5_want G y1 y0 (4 : Int32) T) T fun v27 T27 =>
  (oI T27 x0 4 13).bind fun v32 =>
  (pV T27 x0 4 13 (.int (v32 ||| ((1 : Int32) <<< (x1 &&& 31))))).bind fun T39 =>
  if ¬ isO T39 x0 4 = true then none else
  cl (c_X5_next G x0 T39) T39 fun v43 T43 =>
  (oQ T43 x0 4 2).bind fun v47 =>
  (oQ T43 v47 2 0).bind fun v50 =>
  if ¬ isO T43 x0 4 = true then none else
  clX (c_X5_number G x0 (0 : Int32) (9 : Int32) T43) T43 fun v58 T58 =>
  (stA T58 v50 .int x1 v58).bind fun T61 =>
  (oQ T61 x0 4 2).bind fun v63 =>
  (oQ T61 v63 2 1).bind fun v66 =>
  if ¬ isO T61 x0 4 = true then none else
  clX (c_X5_number G x0 (0 : Int32) (99 : Int32) T61) T61 fun v74 T74 =>
  (stA T74 v66 .int x1 v74).bind fun T77 =>
  some (.inl (), T77)
theorem c_X5_cell_26_ok {G : xG}  {T0 : xF}   (x0 : Option Nat) (x1 : Int32) (y0 : Int32) (y1 : Option Nat) (T : xF) (q : ((Unit ⊕ xE) × xF)) (hf : c_X5_cell_26 G x0 x1 y0 y1 T = some q) : Xr G (mX5_cell, xrm (7) T0 q.2, T0, xoV q.1, q.2) 26 [(0, va_rf x0), (1, .int x1)] [.int y0, va_rf y1] T := by
  unfold c_X5_cell_26 at hf
  refine X.iconst (v := 4) dX5_cell_26 (by decide) ?_
  obtain ⟨c27, hf⟩ := if_n hf
  rcases clX_ok hf with ⟨v27, T27, h27, hf, l27, r27⟩ | ⟨e27, T27, h27, rfl, l27⟩
  rotate_left
  · exact C.Vx (As := [.int y0, .int (4 : Int32)]) (rest := []) dX5_cell_27 (w_X5_want h27) cX5_141 (Classical.not_not.mp c27) rfl rfl (xcs xvN (Nat.le_of_ble_eq_true rfl)) rfl rfl (xD (Nat.le_of_ble_eq_true rfl)) l27 xle.rf (xnoh rfl) rfl
  refine C.Vv (As := [.int y0, .int (4 : Int32)]) (rest := []) dX5_cell_27 (w_X5_want h27) cX5_141 (Classical.not_not.mp c27) rfl rfl (xcs xvN (Nat.le_of_ble_eq_true rfl)) rfl rfl (xD (Nat.le_of_ble_eq_true rfl)) l27 r27 ?_
  refine C.aload_n dX5_cell_30 rfl 0 rfl ?_
  refine X.dup dX5_cell_31 (cat1 _) ?_
  obtain ⟨v32, h32, hf⟩ := ob hf
  refine C.getI dX5_cell_32 rX5_216 h32 ?_
  refine X.iconst (v := 1) dX5_cell_35 (by decide) ?_
  refine X.iload_n dX5_cell_36 rfl 1 rfl ?_
  refine X.ishl dX5_cell_37 ?_
  refine X.ior dX5_cell_38 ?_
  obtain ⟨T39, h39, hf⟩ := ob hf
  refine C.putI dX5_cell_39 fX5_216 (fun q => by cases q) rfl rfl h39 ?_
  refine C.aload_n dX5_cell_42 rfl 0 rfl ?_
  obtain ⟨c43, hf⟩ := if_n hf
  obtain ⟨v43, T43, h43, hf, l43, r43⟩ := cl_ok hf
  refine C.Vv (As := []) (rest := []) dX5_cell_43 (w_X5_next h43) cX5_133 (Classical.not_not.mp c43) rfl rfl (xcs xvN (Nat.le_of_ble_eq_true rfl)) rfl rfl (xD (Nat.le_of_ble_eq_true rfl)) l43 r43 ?_
  refine C.aload_n dX5_cell_46 rfl 0 rfl ?_
  obtain ⟨v47, h47, hf⟩ := ob hf
  refine C.getQ dX5_cell_47 rX5_27 h47 ?_
  obtain ⟨v50, h50, hf⟩ := ob hf
  refine C.getQ dX5_cell_50 rX5_223 h50 ?_
  refine X.iload_n dX5_cell_53 rfl 1 rfl ?_
  refine C.aload_n dX5_cell_54 rfl 0 rfl ?_
  refine X.iconst (v := 0) dX5_cell_55 (by decide) ?_
  refine X.bipush (v := 9) dX5_cell_56 (by decide) ?_
  obtain ⟨c58, hf⟩ := if_n hf
  rcases clX_ok hf with ⟨v58, T58, h58, hf, l58, r58⟩ | ⟨e58, T58, h58, rfl, l58⟩
  rotate_left
  · exact C.Vx (As := [.int (0 : Int32), .int (9 : Int32)]) (rest := [.int x1, va_rf v50]) dX5_cell_58 (w_X5_number h58) cX5_150 (Classical.not_not.mp c58) rfl rfl (xcs (xvI (xvQ xvN)) (Nat.le_of_ble_eq_true rfl)) rfl rfl (xD (Nat.le_of_ble_eq_true rfl)) l58 xle.rf (xnoh rfl) rfl
  refine C.Vi (As := [.int (0 : Int32), .int (9 : Int32)]) (rest := [.int x1, va_rf v50]) dX5_cell_58 (w_X5_number h58) cX5_150 (Classical.not_not.mp c58) rfl rfl (xcs (xvI (xvQ xvN)) (Nat.le_of_ble_eq_true rfl)) rfl rfl (xD (Nat.le_of_ble_eq_true rfl)) l58 r58 ?_
  obtain ⟨T61, h61, hf⟩ := ob hf
  refine C.iast dX5_cell_61 h61 ?_
  refine C.aload_n dX5_cell_62 rfl 0 rfl ?_
  obtain ⟨v63, h63, hf⟩ := ob hf
  refine C.getQ dX5_cell_63 rX5_27 h63 ?_
  obtain ⟨v66, h66, hf⟩ := ob hf
  refine C.getQ dX5_cell_66 rX5_226 h66 ?_
  refine X.iload_n dX5_cell_69 rfl 1 rfl ?_
  refine C.aload_n dX5_cell_70 rfl 0 rfl ?_
  refine X.iconst (v := 0) dX5_cell_71 (by decide) ?_
  refine X.bipush (v := 99) dX5_cell_72 (by decide) ?_
  obtain ⟨c74, hf⟩ := if_n hf
  rcases clX_ok hf with ⟨v74, T74, h74, hf, l74, r74⟩ | ⟨e74, T74, h74, rfl, l74⟩
  rotate_left
  · exact C.Vx (As := [.int (0 : Int32), .int (99 : Int32)]) (rest := [.int x1, va_rf v66]) dX5_cell_74 (w_X5_number h74) cX5_150 (Classical.not_not.mp c74) rfl rfl (xcs (xvI (xvQ xvN)) (Nat.le_of_ble_eq_true rfl)) rfl rfl (xD (Nat.le_of_ble_eq_true rfl)) l74 xle.rf (xnoh rfl) rfl
  refine C.Vi (As := [.int (0 : Int32), .int (99 : Int32)]) (rest := [.int x1, va_rf v66]) dX5_cell_74 (w_X5_number h74) cX5_150 (Classical.not_not.mp c74) rfl rfl (xcs (xvI (xvQ xvN)) (Nat.le_of_ble_eq_true rfl)) rfl rfl (xD (Nat.le_of_ble_eq_true rfl)) l74 r74 ?_
  obtain ⟨T77, h77, hf⟩ := ob hf
  refine C.iast dX5_cell_77 h77 ?_
  obtain rfl := Option.some.inj hf
  exact X.vret dX5_cell_78 rfl rfl
def c_X5_cell (G : xG) (x0 : Option Nat) (T : xF) : Option ((Unit ⊕ xE) × xF) :=
  if ¬ isO T x0 4 = true then none else
  cl (c_X5_next G x0 T) T fun v1 T1 =>
  if ¬ isO T1 x0 4 = true then none else
  clX (c_X5_cellNow G x0 T1) T1 fun v5 T5 =>
  (oI T5 x0 4 13).bind fun v11 =>
  (c_X1_isOf v11 v5).bind fun v15 =>
  if v15 = 0 then
    c_X5_cell_26 G x0 v5 (1 : Int32) x0 T5
  else
    c_X5_cell_26 G x0 v5 (0 : Int32) x0 T5
theorem w_X5_cell {G : xG}  {T : xF} {x0 : Option Nat} {q : ((Unit ⊕ xE) × xF)} (hf : c_X5_cell G x0 T = some q) : Ct G mX5_cell (7) T [va_rf x0] (xoV q.1) q.2 := by
  refine Ct.ofc (plainFor_of_name (by decide +kernel)) rfl (xvQ xvN) (Nat.le_of_ble_eq_true rfl) (show Xr G _ 0 [(0, va_rf x0)] [] _ from ?_)
  unfold c_X5_cell at hf
  refine C.aload_n dX5_cell_0 rfl 0 rfl ?_
  obtain ⟨c1, hf⟩ := if_n hf
  obtain ⟨v1, T1, h1, hf, l1, r1⟩ := cl_ok hf
  refine C.Vv (As := []) (rest := []) dX5_cell_1 (w_X5_next h1) cX5_133 (Classical.not_not.mp c1) rfl rfl (xcs xvN (Nat.le_of_ble_eq_true rfl)) rfl rfl (xD (Nat.le_of_ble_eq_true rfl)) l1 r1 ?_
  refine C.aload_n dX5_cell_4 rfl 0 rfl ?_
  obtain ⟨c5, hf⟩ := if_n hf
  rcases clX_ok hf with ⟨v5, T5, h5, hf, l5, r5⟩ | ⟨e5, T5, h5, rfl, l5⟩
  rotate_left
  · exact C.Vx (As := []) (rest := []) dX5_cell_5 (w_X5_cellNow h5) cX5_213 (Classical.not_not.mp c5) rfl rfl (xcs xvN (Nat.le_of_ble_eq_true rfl)) rfl rfl (xD (Nat.le_of_ble_eq_true rfl)) l5 xle.rf (xnoh rfl) rfl
  refine C.Vi (As := []) (rest := []) dX5_cell_5 (w_X5_cellNow h5) cX5_213 (Classical.not_not.mp c5) rfl rfl (xcs xvN (Nat.le_of_ble_eq_true rfl)) rfl rfl (xD (Nat.le_of_ble_eq_true rfl)) l5 r5 ?_
  refine C.ist_n (L' := [(1, .int v5), (0, va_rf x0)]) dX5_cell_8 rfl (Nat.le_of_ble_eq_true rfl) (xcQ xcN) rfl ?_
  refine C.aload_n dX5_cell_9 rfl 1 rfl ?_
  refine C.aload_n dX5_cell_10 rfl 1 rfl ?_
  obtain ⟨v11, h11, hf⟩ := ob hf
  refine C.getI dX5_cell_11 rX5_216 h11 ?_
  refine X.iload_n dX5_cell_14 rfl 0 rfl ?_
  obtain ⟨v15, h15, hf⟩ := ob hf
  refine X.keep fun l15 => C.SNi (As := [.int v11, .int v5]) (rest := [va_rf x0]) dX5_cell_15 (w_X1_isOf h15) cX5_219 rfl rfl (xcs (xvQ xvN) (Nat.le_of_ble_eq_true rfl)) (xD (Nat.le_of_ble_eq_true rfl)) xle.rf l15 ?_
  refine X.if_ne (tgt := 25) dX5_cell_18 (by decide) (fun c18 => ?_) (fun c18 => ?_)
  · have hf := if_f c18 hf
    refine X.iconst (v := 0) dX5_cell_25 (by decide) ?_
    refine X.sub [1, 0] (L' := [(0, va_rf x0), (1, .int v5)]) rfl ?_
    exact c_X5_cell_26_ok _ _ _ _ _ _ hf
  · have hf := if_t c18 hf
    refine X.iconst (v := 1) dX5_cell_21 (by decide) ?_
    refine X.goto (tgt := 26) dX5_cell_22 (by decide) ?_
    refine X.sub [1, 0] (L' := [(0, va_rf x0), (1, .int v5)]) rfl ?_
    exact c_X5_cell_26_ok _ _ _ _ _ _ hf
theorem cX5_280 : xCV RX5 280 mX5_cell 0 := ⟨lw_V q1237 q1239 qs37 q132 q1240, rfl, ⟨by decide +kernel, by decide +kernel, by decide +kernel⟩, Nat.le_of_ble_eq_true rfl⟩
/-! MouldVotes$Reader mould -/
abbrev cX5_mould : ByteArray := prog_7_method_22_code
def yX5_mould : MethodName := ⟨RX5, "mould", "()V"⟩
def dkwX5_mould_4 : List UInt8 := [16, 99, 182, 0, 150, 79, 177]
abbrev dktX5_mould_4 : List UInt8 := dkwX5_mould_4 ++ []
def dkwX5_mould_3 : List UInt8 := [182, 0, 133, 42, 180, 0, 27, 180, 0, 228, 27, 28, 79, 42, 180, 0, 27, 180, 0, 238, 27, 42, 4]
abbrev dktX5_mould_3 : List UInt8 := dkwX5_mould_3 ++ dktX5_mould_4
def dkwX5_mould_2 : List UInt8 := [180, 0, 18, 180, 0, 230, 185, 0, 234, 1, 0, 162, 0, 7, 4, 167, 0, 4, 3, 6, 182, 0, 141, 42]
abbrev dktX5_mould_2 : List UInt8 := dkwX5_mould_2 ++ dktX5_mould_3
def dkwX5_mould_1 : List UInt8 := [167, 0, 4, 3, 7, 182, 0, 141, 42, 182, 0, 133, 42, 3, 17, 39, 15, 182, 0, 145, 61, 42, 28, 42]
abbrev dktX5_mould_1 : List UInt8 := dkwX5_mould_1 ++ dktX5_mould_2
def dkwX5_mould_0 : List UInt8 := [42, 182, 0, 133, 42, 182, 0, 213, 60, 42, 42, 180, 0, 27, 180, 0, 228, 27, 46, 2, 160, 0, 7, 4]
abbrev dktX5_mould_0 : List UInt8 := dkwX5_mould_0 ++ dktX5_mould_1
theorem dksX5_mould_0 : cX5_mould.data.toList.drop 0 = dktX5_mould_0 := by decide +kernel
theorem dksX5_mould_1 : cX5_mould.data.toList.drop 24 = dktX5_mould_1 := dk_seg dksX5_mould_0 24 rfl rfl
theorem dksX5_mould_2 : cX5_mould.data.toList.drop 48 = dktX5_mould_2 := dk_seg dksX5_mould_1 24 rfl rfl
theorem dksX5_mould_3 : cX5_mould.data.toList.drop 72 = dktX5_mould_3 := dk_seg dksX5_mould_2 24 rfl rfl
theorem dksX5_mould_4 : cX5_mould.data.toList.drop 95 = dktX5_mould_4 := dk_seg dksX5_mould_3 23 rfl rfl
theorem dX5_mould_0 : decode cX5_mould 0 = .ok (.aload_n 0, 1) := dk_42 (dk_at dksX5_mould_0 0 rfl rfl)
theorem dX5_mould_1 : decode cX5_mould 1 = .ok (.invokevirtual 133, 3) := dk_182 0 133 (dk_at dksX5_mould_0 1 rfl rfl)
theorem dX5_mould_4 : decode cX5_mould 4 = .ok (.aload_n 0, 1) := dk_42 (dk_at dksX5_mould_0 4 rfl rfl)
theorem dX5_mould_5 : decode cX5_mould 5 = .ok (.invokevirtual 213, 3) := dk_182 0 213 (dk_at dksX5_mould_0 5 rfl rfl)
theorem dX5_mould_8 : decode cX5_mould 8 = .ok (.istore_n 1, 1) := dk_60 (dk_at dksX5_mould_0 8 rfl rfl)
theorem dX5_mould_9 : decode cX5_mould 9 = .ok (.aload_n 0, 1) := dk_42 (dk_at dksX5_mould_0 9 rfl rfl)
theorem dX5_mould_10 : decode cX5_mould 10 = .ok (.aload_n 0, 1) := dk_42 (dk_at dksX5_mould_0 10 rfl rfl)
theorem dX5_mould_11 : decode cX5_mould 11 = .ok (.getfield 27, 3) := dk_180 0 27 (dk_at dksX5_mould_0 11 rfl rfl)
theorem dX5_mould_14 : decode cX5_mould 14 = .ok (.getfield 228, 3) := dk_180 0 228 (dk_at dksX5_mould_0 14 rfl rfl)
theorem dX5_mould_17 : decode cX5_mould 17 = .ok (.iload_n 1, 1) := dk_27 (dk_at dksX5_mould_0 17 rfl rfl)
theorem dX5_mould_18 : decode cX5_mould 18 = .ok (.iaload, 1) := dk_46 (dk_at dksX5_mould_0 18 rfl rfl)
theorem dX5_mould_19 : decode cX5_mould 19 = .ok (.iconst (-1), 1) := dk_2 (dk_at dksX5_mould_0 19 rfl rfl)
theorem dX5_mould_20 : decode cX5_mould 20 = .ok (.if_icmp .ne 7, 3) := dk_160 0 7 (dk_at dksX5_mould_0 20 rfl rfl)
theorem dX5_mould_23 : decode cX5_mould 23 = .ok (.iconst 1, 1) := dk_4 (dk_at dksX5_mould_0 23 rfl rfl)
theorem dX5_mould_24 : decode cX5_mould 24 = .ok (.goto 4, 3) := dk_167 0 4 (dk_at dksX5_mould_1 0 rfl rfl)
theorem dX5_mould_27 : decode cX5_mould 27 = .ok (.iconst 0, 1) := dk_3 (dk_at dksX5_mould_1 3 rfl rfl)
theorem dX5_mould_28 : decode cX5_mould 28 = .ok (.iconst 4, 1) := dk_7 (dk_at dksX5_mould_1 4 rfl rfl)
theorem dX5_mould_29 : decode cX5_mould 29 = .ok (.invokevirtual 141, 3) := dk_182 0 141 (dk_at dksX5_mould_1 5 rfl rfl)
theorem dX5_mould_32 : decode cX5_mould 32 = .ok (.aload_n 0, 1) := dk_42 (dk_at dksX5_mould_1 8 rfl rfl)
theorem dX5_mould_33 : decode cX5_mould 33 = .ok (.invokevirtual 133, 3) := dk_182 0 133 (dk_at dksX5_mould_1 9 rfl rfl)
theorem dX5_mould_36 : decode cX5_mould 36 = .ok (.aload_n 0, 1) := dk_42 (dk_at dksX5_mould_1 12 rfl rfl)
theorem dX5_mould_37 : decode cX5_mould 37 = .ok (.iconst 0, 1) := dk_3 (dk_at dksX5_mould_1 13 rfl rfl)
theorem dX5_mould_38 : decode cX5_mould 38 = .ok (.sipush 9999, 3) := dk_17 39 15 (dk_at dksX5_mould_1 14 rfl rfl)
theorem dX5_mould_41 : decode cX5_mould 41 = .ok (.invokevirtual 145, 3) := dk_182 0 145 (dk_at dksX5_mould_1 17 rfl rfl)
theorem dX5_mould_44 : decode cX5_mould 44 = .ok (.istore_n 2, 1) := dk_61 (dk_at dksX5_mould_1 20 rfl rfl)
theorem dX5_mould_45 : decode cX5_mould 45 = .ok (.aload_n 0, 1) := dk_42 (dk_at dksX5_mould_1 21 rfl rfl)
theorem dX5_mould_46 : decode cX5_mould 46 = .ok (.iload_n 2, 1) := dk_28 (dk_at dksX5_mould_1 22 rfl rfl)
theorem dX5_mould_47 : decode cX5_mould 47 = .ok (.aload_n 0, 1) := dk_42 (dk_at dksX5_mould_1 23 rfl rfl)
theorem dX5_mould_48 : decode cX5_mould 48 = .ok (.getfield 18, 3) := dk_180 0 18 (dk_at dksX5_mould_2 0 rfl rfl)
theorem dX5_mould_51 : decode cX5_mould 51 = .ok (.getfield 230, 3) := dk_180 0 230 (dk_at dksX5_mould_2 3 rfl rfl)
theorem dX5_mould_54 : decode cX5_mould 54 = .ok (.invokeinterface 234 1, 5) := by decide +kernel
theorem dX5_mould_59 : decode cX5_mould 59 = .ok (.if_icmp .ge 7, 3) := dk_162 0 7 (dk_at dksX5_mould_2 11 rfl rfl)
theorem dX5_mould_62 : decode cX5_mould 62 = .ok (.iconst 1, 1) := dk_4 (dk_at dksX5_mould_2 14 rfl rfl)
theorem dX5_mould_63 : decode cX5_mould 63 = .ok (.goto 4, 3) := dk_167 0 4 (dk_at dksX5_mould_2 15 rfl rfl)
theorem dX5_mould_66 : decode cX5_mould 66 = .ok (.iconst 0, 1) := dk_3 (dk_at dksX5_mould_2 18 rfl rfl)
theorem dX5_mould_67 : decode cX5_mould 67 = .ok (.iconst 3, 1) := dk_6 (dk_at dksX5_mould_2 19 rfl rfl)
theorem dX5_mould_68 : decode cX5_mould 68 = .ok (.invokevirtual 141, 3) := dk_182 0 141 (dk_at dksX5_mould_2 20 rfl rfl)
theorem dX5_mould_71 : decode cX5_mould 71 = .ok (.aload_n 0, 1) := dk_42 (dk_at dksX5_mould_2 23 rfl rfl)
theorem dX5_mould_72 : decode cX5_mould 72 = .ok (.invokevirtual 133, 3) := dk_182 0 133 (dk_at dksX5_mould_3 0 rfl rfl)
theorem dX5_mould_75 : decode cX5_mould 75 = .ok (.aload_n 0, 1) := dk_42 (dk_at dksX5_mould_3 3 rfl rfl)
theorem dX5_mould_76 : decode cX5_mould 76 = .ok (.getfield 27, 3) := dk_180 0 27 (dk_at dksX5_mould_3 4 rfl rfl)
theorem dX5_mould_79 : decode cX5_mould 79 = .ok (.getfield 228, 3) := dk_180 0 228 (dk_at dksX5_mould_3 7 rfl rfl)
theorem dX5_mould_82 : decode cX5_mould 82 = .ok (.iload_n 1, 1) := dk_27 (dk_at dksX5_mould_3 10 rfl rfl)
theorem dX5_mould_83 : decode cX5_mould 83 = .ok (.iload_n 2, 1) := dk_28 (dk_at dksX5_mould_3 11 rfl rfl)
theorem dX5_mould_84 : decode cX5_mould 84 = .ok (.iastore, 1) := dk_79 (dk_at dksX5_mould_3 12 rfl rfl)
theorem dX5_mould_85 : decode cX5_mould 85 = .ok (.aload_n 0, 1) := dk_42 (dk_at dksX5_mould_3 13 rfl rfl)
theorem dX5_mould_86 : decode cX5_mould 86 = .ok (.getfield 27, 3) := dk_180 0 27 (dk_at dksX5_mould_3 14 rfl rfl)
theorem dX5_mould_89 : decode cX5_mould 89 = .ok (.getfield 238, 3) := dk_180 0 238 (dk_at dksX5_mould_3 17 rfl rfl)
theorem dX5_mould_92 : decode cX5_mould 92 = .ok (.iload_n 1, 1) := dk_27 (dk_at dksX5_mould_3 20 rfl rfl)
theorem dX5_mould_93 : decode cX5_mould 93 = .ok (.aload_n 0, 1) := dk_42 (dk_at dksX5_mould_3 21 rfl rfl)
theorem dX5_mould_94 : decode cX5_mould 94 = .ok (.iconst 1, 1) := dk_4 (dk_at dksX5_mould_3 22 rfl rfl)
theorem dX5_mould_95 : decode cX5_mould 95 = .ok (.bipush 99, 2) := dk_16 99 (dk_at dksX5_mould_4 0 rfl rfl)
theorem dX5_mould_97 : decode cX5_mould 97 = .ok (.invokevirtual 150, 3) := dk_182 0 150 (dk_at dksX5_mould_4 2 rfl rfl)
theorem dX5_mould_100 : decode cX5_mould 100 = .ok (.iastore, 1) := dk_79 (dk_at dksX5_mould_4 5 rfl rfl)
theorem dX5_mould_101 : decode cX5_mould 101 = .ok (.return_, 1) := dk_177 (dk_at dksX5_mould_4 6 rfl rfl)
abbrev mX5_mould : xM := (yX5_mould, cX5_mould, 3, none, [])
def c_X5_mould_67 (G : xG) (x0 : Option Nat) (x1 : Int32) (x2 : Int32) (y0 : Int32) (y1 : Option Nat) (T : xF) : Option ((Unit ⊕ xE) × xF) :=
  if ¬ isO T y1 4 = true then none else
  clX (c_X5_want G y1 y0 (3 : Int32) T) T fun v68 T68 =>
  if ¬ isO T68 x0 4 = true then none else
  cl (c_X5_next G x0 T68) T68 fun v72 T72 =>
  (oQ T72 x0 4 2).bind fun v76 =>
  (oQ T72 v76 2 2).bind fun v79 =>
  (stA T72 v79 .int x1 x2).bind fun T84 =>
  (oQ T84 x0 4 2).bind fun v86 =>
  (oQ T84 v86 2 3).bind fun v89 =>
  if ¬ isO T84 x0 4 = true then none else
  clX (c_X5_number G x0 (1 : Int32) (99 : Int32) T84) T84 fun v97 T97 =>
  (stA T97 v89 .int x1 v97).bind fun T100 =>
  some (.inl (), T100)
theorem c_X5_mould_67_ok {G : xG}  {T0 : xF}   (x0 : Option Nat) (x1 : Int32) (x2 : Int32) (y0 : Int32) (y1 : Option Nat) (T : xF) (q : ((Unit ⊕ xE) × xF)) (hf : c_X5_mould_67 G x0 x1 x2 y0 y1 T = some q) : Xr G (mX5_mould, xrm (7) T0 q.2, T0, xoV q.1, q.2) 67 [(0, va_rf x0), (1, .int x1), (2, .int x2)] [.int y0, va_rf y1] T := by
  unfold c_X5_mould_67 at hf
  refine X.iconst (v := 3) dX5_mould_67 (by decide) ?_
  obtain ⟨c68, hf⟩ := if_n hf
  rcases clX_ok hf with ⟨v68, T68, h68, hf, l68, r68⟩ | ⟨e68, T68, h68, rfl, l68⟩
  rotate_left
  · exact C.Vx (As := [.int y0, .int (3 : Int32)]) (rest := []) dX5_mould_68 (w_X5_want h68) cX5_141 (Classical.not_not.mp c68) rfl rfl (xcs xvN (Nat.le_of_ble_eq_true rfl)) rfl rfl (xD (Nat.le_of_ble_eq_true rfl)) l68 xle.rf (xnoh rfl) rfl
  refine C.Vv (As := [.int y0, .int (3 : Int32)]) (rest := []) dX5_mould_68 (w_X5_want h68) cX5_141 (Classical.not_not.mp c68) rfl rfl (xcs xvN (Nat.le_of_ble_eq_true rfl)) rfl rfl (xD (Nat.le_of_ble_eq_true rfl)) l68 r68 ?_
  refine C.aload_n dX5_mould_71 rfl 0 rfl ?_
  obtain ⟨c72, hf⟩ := if_n hf
  obtain ⟨v72, T72, h72, hf, l72, r72⟩ := cl_ok hf
  refine C.Vv (As := []) (rest := []) dX5_mould_72 (w_X5_next h72) cX5_133 (Classical.not_not.mp c72) rfl rfl (xcs xvN (Nat.le_of_ble_eq_true rfl)) rfl rfl (xD (Nat.le_of_ble_eq_true rfl)) l72 r72 ?_
  refine C.aload_n dX5_mould_75 rfl 0 rfl ?_
  obtain ⟨v76, h76, hf⟩ := ob hf
  refine C.getQ dX5_mould_76 rX5_27 h76 ?_
  obtain ⟨v79, h79, hf⟩ := ob hf
  refine C.getQ dX5_mould_79 rX5_228 h79 ?_
  refine X.iload_n dX5_mould_82 rfl 1 rfl ?_
  refine X.iload_n dX5_mould_83 rfl 2 rfl ?_
  obtain ⟨T84, h84, hf⟩ := ob hf
  refine C.iast dX5_mould_84 h84 ?_
  refine C.aload_n dX5_mould_85 rfl 0 rfl ?_
  obtain ⟨v86, h86, hf⟩ := ob hf
  refine C.getQ dX5_mould_86 rX5_27 h86 ?_
  obtain ⟨v89, h89, hf⟩ := ob hf
  refine C.getQ dX5_mould_89 rX5_238 h89 ?_
  refine X.iload_n dX5_mould_92 rfl 1 rfl ?_
  refine C.aload_n dX5_mould_93 rfl 0 rfl ?_
  refine X.iconst (v := 1) dX5_mould_94 (by decide) ?_
  refine X.bipush (v := 99) dX5_mould_95 (by decide) ?_
  obtain ⟨c97, hf⟩ := if_n hf
  rcases clX_ok hf with ⟨v97, T97, h97, hf, l97, r97⟩ | ⟨e97, T97, h97, rfl, l97⟩
  rotate_left
  · exact C.Vx (As := [.int (1 : Int32), .int (99 : Int32)]) (rest := [.int x1, va_rf v89]) dX5_mould_97 (w_X5_number h97) cX5_150 (Classical.not_not.mp c97) rfl rfl (xcs (xvI (xvQ xvN)) (Nat.le_of_ble_eq_true rfl)) rfl rfl (xD (Nat.le_of_ble_eq_true rfl)) l97 xle.rf (xnoh rfl) rfl
  refine C.Vi (As := [.int (1 : Int32), .int (99 : Int32)]) (rest := [.int x1, va_rf v89]) dX5_mould_97 (w_X5_number h97) cX5_150 (Classical.not_not.mp c97) rfl rfl (xcs (xvI (xvQ xvN)) (Nat.le_of_ble_eq_true rfl)) rfl rfl (xD (Nat.le_of_ble_eq_true rfl)) l97 r97 ?_
  obtain ⟨T100, h100, hf⟩ := ob hf
  refine C.iast dX5_mould_100 h100 ?_
  obtain rfl := Option.some.inj hf
  exact X.vret dX5_mould_101 rfl rfl
def c_X5_mould_28 (G : xG) (x0 : Option Nat) (x1 : Int32) (y0 : Int32) (y1 : Option Nat) (T : xF) : Option ((Unit ⊕ xE) × xF) :=
  if ¬ isO T y1 4 = true then none else
  clX (c_X5_want G y1 y0 (4 : Int32) T) T fun v29 T29 =>
  if ¬ isO T29 x0 4 = true then none else
  cl (c_X5_next G x0 T29) T29 fun v33 T33 =>
  if ¬ isO T33 x0 4 = true then none else
  clX (c_X5_numberNow G x0 (0 : Int32) (9999 : Int32) T33) T33 fun v41 T41 =>
  (oQ T41 x0 4 1).bind fun v48 =>
  (oQ T41 v48 1 0).bind fun v51 =>
  if ¬ isO T41 v51 10 = true then none else
  (c_J2_size T41 v51).bind fun v54 =>
  if v54 ≤ v41 then
    c_X5_mould_67 G x0 x1 v41 (0 : Int32) x0 T41
  else
    c_X5_mould_67 G x0 x1 v41 (1 : Int32) x0 T41
theorem c_X5_mould_28_ok {G : xG}  {T0 : xF}   (x0 : Option Nat) (x1 : Int32) (y0 : Int32) (y1 : Option Nat) (T : xF) (q : ((Unit ⊕ xE) × xF)) (hf : c_X5_mould_28 G x0 x1 y0 y1 T = some q) : Xr G (mX5_mould, xrm (7) T0 q.2, T0, xoV q.1, q.2) 28 [(0, va_rf x0), (1, .int x1)] [.int y0, va_rf y1] T := by
  unfold c_X5_mould_28 at hf
  refine X.iconst (v := 4) dX5_mould_28 (by decide) ?_
  obtain ⟨c29, hf⟩ := if_n hf
  rcases clX_ok hf with ⟨v29, T29, h29, hf, l29, r29⟩ | ⟨e29, T29, h29, rfl, l29⟩
  rotate_left
  · exact C.Vx (As := [.int y0, .int (4 : Int32)]) (rest := []) dX5_mould_29 (w_X5_want h29) cX5_141 (Classical.not_not.mp c29) rfl rfl (xcs xvN (Nat.le_of_ble_eq_true rfl)) rfl rfl (xD (Nat.le_of_ble_eq_true rfl)) l29 xle.rf (xnoh rfl) rfl
  refine C.Vv (As := [.int y0, .int (4 : Int32)]) (rest := []) dX5_mould_29 (w_X5_want h29) cX5_141 (Classical.not_not.mp c29) rfl rfl (xcs xvN (Nat.le_of_ble_eq_true rfl)) rfl rfl (xD (Nat.le_of_ble_eq_true rfl)) l29 r29 ?_
  refine C.aload_n dX5_mould_32 rfl 0 rfl ?_
  obtain ⟨c33, hf⟩ := if_n hf
  obtain ⟨v33, T33, h33, hf, l33, r33⟩ := cl_ok hf
  refine C.Vv (As := []) (rest := []) dX5_mould_33 (w_X5_next h33) cX5_133 (Classical.not_not.mp c33) rfl rfl (xcs xvN (Nat.le_of_ble_eq_true rfl)) rfl rfl (xD (Nat.le_of_ble_eq_true rfl)) l33 r33 ?_
  refine C.aload_n dX5_mould_36 rfl 0 rfl ?_
  refine X.iconst (v := 0) dX5_mould_37 (by decide) ?_
  refine X.sipush (v := 9999) dX5_mould_38 (by decide) ?_
  obtain ⟨c41, hf⟩ := if_n hf
  rcases clX_ok hf with ⟨v41, T41, h41, hf, l41, r41⟩ | ⟨e41, T41, h41, rfl, l41⟩
  rotate_left
  · exact C.Vx (As := [.int (0 : Int32), .int (9999 : Int32)]) (rest := []) dX5_mould_41 (w_X5_numberNow h41) cX5_145 (Classical.not_not.mp c41) rfl rfl (xcs xvN (Nat.le_of_ble_eq_true rfl)) rfl rfl (xD (Nat.le_of_ble_eq_true rfl)) l41 xle.rf (xnoh rfl) rfl
  refine C.Vi (As := [.int (0 : Int32), .int (9999 : Int32)]) (rest := []) dX5_mould_41 (w_X5_numberNow h41) cX5_145 (Classical.not_not.mp c41) rfl rfl (xcs xvN (Nat.le_of_ble_eq_true rfl)) rfl rfl (xD (Nat.le_of_ble_eq_true rfl)) l41 r41 ?_
  refine C.ist_n (L' := [(2, .int v41), (0, va_rf x0), (1, .int x1)]) dX5_mould_44 rfl (Nat.le_of_ble_eq_true rfl) (xcQ (xcI xcN)) rfl ?_
  refine C.aload_n dX5_mould_45 rfl 1 rfl ?_
  refine X.iload_n dX5_mould_46 rfl 0 rfl ?_
  refine C.aload_n dX5_mould_47 rfl 1 rfl ?_
  obtain ⟨v48, h48, hf⟩ := ob hf
  refine C.getQ dX5_mould_48 rX5_18 h48 ?_
  obtain ⟨v51, h51, hf⟩ := ob hf
  refine C.getQ dX5_mould_51 rX5_230 h51 ?_
  obtain ⟨c54, hf⟩ := if_n hf
  obtain ⟨v54, h54, hf⟩ := ob hf
  refine X.keep fun l54 => C.Fi (As := []) (rest := [.int v41, va_rf x0]) dX5_mould_54 (w_J2_size h54) cX5_234 (Classical.not_not.mp c54) rfl rfl (xcs (xvI (xvQ xvN)) (Nat.le_of_ble_eq_true rfl)) rfl rfl (xD (Nat.le_of_ble_eq_true rfl)) xle.rf l54 ?_
  refine X.icmp_ge (tgt := 66) dX5_mould_59 (by decide) (fun c59 => ?_) (fun c59 => ?_)
  · have hf := if_t c59 hf
    refine X.iconst (v := 0) dX5_mould_66 (by decide) ?_
    refine X.sub [1, 2, 0] (L' := [(0, va_rf x0), (1, .int x1), (2, .int v41)]) rfl ?_
    exact c_X5_mould_67_ok _ _ _ _ _ _ _ hf
  · have hf := if_f c59 hf
    refine X.iconst (v := 1) dX5_mould_62 (by decide) ?_
    refine X.goto (tgt := 67) dX5_mould_63 (by decide) ?_
    refine X.sub [1, 2, 0] (L' := [(0, va_rf x0), (1, .int x1), (2, .int v41)]) rfl ?_
    exact c_X5_mould_67_ok _ _ _ _ _ _ _ hf
def c_X5_mould (G : xG) (x0 : Option Nat) (T : xF) : Option ((Unit ⊕ xE) × xF) :=
  if ¬ isO T x0 4 = true then none else
  cl (c_X5_next G x0 T) T fun v1 T1 =>
  if ¬ isO T1 x0 4 = true then none else
  clX (c_X5_cellNow G x0 T1) T1 fun v5 T5 =>
  (oQ T5 x0 4 2).bind fun v11 =>
  (oQ T5 v11 2 2).bind fun v14 =>
  (ldA T5 v14 .int v5).bind fun v18 =>
  if v18 = (-1 : Int32) then
    c_X5_mould_28 G x0 v5 (1 : Int32) x0 T5
  else
    c_X5_mould_28 G x0 v5 (0 : Int32) x0 T5
theorem w_X5_mould {G : xG}  {T : xF} {x0 : Option Nat} {q : ((Unit ⊕ xE) × xF)} (hf : c_X5_mould G x0 T = some q) : Ct G mX5_mould (7) T [va_rf x0] (xoV q.1) q.2 := by
  refine Ct.ofc (plainFor_of_name (by decide +kernel)) rfl (xvQ xvN) (Nat.le_of_ble_eq_true rfl) (show Xr G _ 0 [(0, va_rf x0)] [] _ from ?_)
  unfold c_X5_mould at hf
  refine C.aload_n dX5_mould_0 rfl 0 rfl ?_
  obtain ⟨c1, hf⟩ := if_n hf
  obtain ⟨v1, T1, h1, hf, l1, r1⟩ := cl_ok hf
  refine C.Vv (As := []) (rest := []) dX5_mould_1 (w_X5_next h1) cX5_133 (Classical.not_not.mp c1) rfl rfl (xcs xvN (Nat.le_of_ble_eq_true rfl)) rfl rfl (xD (Nat.le_of_ble_eq_true rfl)) l1 r1 ?_
  refine C.aload_n dX5_mould_4 rfl 0 rfl ?_
  obtain ⟨c5, hf⟩ := if_n hf
  rcases clX_ok hf with ⟨v5, T5, h5, hf, l5, r5⟩ | ⟨e5, T5, h5, rfl, l5⟩
  rotate_left
  · exact C.Vx (As := []) (rest := []) dX5_mould_5 (w_X5_cellNow h5) cX5_213 (Classical.not_not.mp c5) rfl rfl (xcs xvN (Nat.le_of_ble_eq_true rfl)) rfl rfl (xD (Nat.le_of_ble_eq_true rfl)) l5 xle.rf (xnoh rfl) rfl
  refine C.Vi (As := []) (rest := []) dX5_mould_5 (w_X5_cellNow h5) cX5_213 (Classical.not_not.mp c5) rfl rfl (xcs xvN (Nat.le_of_ble_eq_true rfl)) rfl rfl (xD (Nat.le_of_ble_eq_true rfl)) l5 r5 ?_
  refine C.ist_n (L' := [(1, .int v5), (0, va_rf x0)]) dX5_mould_8 rfl (Nat.le_of_ble_eq_true rfl) (xcQ xcN) rfl ?_
  refine C.aload_n dX5_mould_9 rfl 1 rfl ?_
  refine C.aload_n dX5_mould_10 rfl 1 rfl ?_
  obtain ⟨v11, h11, hf⟩ := ob hf
  refine C.getQ dX5_mould_11 rX5_27 h11 ?_
  obtain ⟨v14, h14, hf⟩ := ob hf
  refine C.getQ dX5_mould_14 rX5_228 h14 ?_
  refine X.iload_n dX5_mould_17 rfl 0 rfl ?_
  obtain ⟨v18, h18, hf⟩ := ob hf
  refine C.iald dX5_mould_18 h18 ?_
  refine X.iconst (v := -1) dX5_mould_19 (by decide) ?_
  refine X.icmp_ne (tgt := 27) dX5_mould_20 (by decide) (fun c20 => ?_) (fun c20 => ?_)
  · have hf := if_f c20 hf
    refine X.iconst (v := 0) dX5_mould_27 (by decide) ?_
    refine X.sub [1, 0] (L' := [(0, va_rf x0), (1, .int v5)]) rfl ?_
    exact c_X5_mould_28_ok _ _ _ _ _ _ hf
  · have hf := if_t c20 hf
    refine X.iconst (v := 1) dX5_mould_23 (by decide) ?_
    refine X.goto (tgt := 28) dX5_mould_24 (by decide) ?_
    refine X.sub [1, 0] (L' := [(0, va_rf x0), (1, .int v5)]) rfl ?_
    exact c_X5_mould_28_ok _ _ _ _ _ _ hf
theorem cX5_284 : xCV RX5 284 mX5_mould 0 := ⟨lw_V q1247 q1249 qs39 q132 q1250, rfl, ⟨by decide +kernel, by decide +kernel, by decide +kernel⟩, Nat.le_of_ble_eq_true rfl⟩
/-! MouldVotes$Reader line -/
abbrev cX5_line : ByteArray := prog_7_method_26_code
def yX5_line : MethodName := ⟨RX5, "line", "()V"⟩
def dkwX5_line_5 : List UInt8 := [182, 1, 28, 42, 42, 16, 59, 182, 0, 153, 4, 182, 0, 141, 42, 182, 0, 133, 177]
abbrev dktX5_line_5 : List UInt8 := dkwX5_line_5 ++ []
def dkwX5_line_4 : List UInt8 := [153, 0, 10, 42, 182, 1, 24, 167, 0, 19, 42, 42, 19, 1, 26, 182, 0, 129, 4, 182, 0, 141, 42]
abbrev dktX5_line_4 : List UInt8 := dkwX5_line_4 ++ dktX5_line_5
def dkwX5_line_3 : List UInt8 := [3, 6, 182, 0, 150, 184, 0, 243, 185, 0, 249, 2, 0, 87, 167, 0, 36, 42, 19, 1, 22, 182, 0, 129]
abbrev dktX5_line_3 : List UInt8 := dkwX5_line_3 ++ dktX5_line_4
def dkwX5_line_2 : List UInt8 := [162, 0, 7, 4, 167, 0, 4, 3, 5, 182, 0, 141, 42, 182, 0, 133, 42, 180, 0, 18, 180, 0, 230, 42]
abbrev dktX5_line_2 : List UInt8 := dkwX5_line_2 ++ dktX5_line_3
def dkwX5_line_1 : List UInt8 := [18, 59, 182, 0, 129, 153, 0, 58, 42, 42, 180, 0, 18, 180, 0, 230, 185, 0, 234, 1, 0, 7]
abbrev dktX5_line_1 : List UInt8 := dkwX5_line_1 ++ dktX5_line_2
def dkwX5_line_0 : List UInt8 := [42, 42, 180, 0, 45, 182, 0, 161, 60, 27, 2, 159, 0, 11, 42, 27, 182, 1, 19, 167, 0, 100, 42]
abbrev dktX5_line_0 : List UInt8 := dkwX5_line_0 ++ dktX5_line_1
theorem dksX5_line_0 : cX5_line.data.toList.drop 0 = dktX5_line_0 := by decide +kernel
theorem dksX5_line_1 : cX5_line.data.toList.drop 23 = dktX5_line_1 := dk_seg dksX5_line_0 23 rfl rfl
theorem dksX5_line_2 : cX5_line.data.toList.drop 45 = dktX5_line_2 := dk_seg dksX5_line_1 22 rfl rfl
theorem dksX5_line_3 : cX5_line.data.toList.drop 69 = dktX5_line_3 := dk_seg dksX5_line_2 24 rfl rfl
theorem dksX5_line_4 : cX5_line.data.toList.drop 93 = dktX5_line_4 := dk_seg dksX5_line_3 24 rfl rfl
theorem dksX5_line_5 : cX5_line.data.toList.drop 116 = dktX5_line_5 := dk_seg dksX5_line_4 23 rfl rfl
theorem dX5_line_0 : decode cX5_line 0 = .ok (.aload_n 0, 1) := dk_42 (dk_at dksX5_line_0 0 rfl rfl)
theorem dX5_line_1 : decode cX5_line 1 = .ok (.aload_n 0, 1) := dk_42 (dk_at dksX5_line_0 1 rfl rfl)
theorem dX5_line_2 : decode cX5_line 2 = .ok (.getfield 45, 3) := dk_180 0 45 (dk_at dksX5_line_0 2 rfl rfl)
theorem dX5_line_5 : decode cX5_line 5 = .ok (.invokevirtual 161, 3) := dk_182 0 161 (dk_at dksX5_line_0 5 rfl rfl)
theorem dX5_line_8 : decode cX5_line 8 = .ok (.istore_n 1, 1) := dk_60 (dk_at dksX5_line_0 8 rfl rfl)
theorem dX5_line_9 : decode cX5_line 9 = .ok (.iload_n 1, 1) := dk_27 (dk_at dksX5_line_0 9 rfl rfl)
theorem dX5_line_10 : decode cX5_line 10 = .ok (.iconst (-1), 1) := dk_2 (dk_at dksX5_line_0 10 rfl rfl)
theorem dX5_line_11 : decode cX5_line 11 = .ok (.if_icmp .eq 11, 3) := dk_159 0 11 (dk_at dksX5_line_0 11 rfl rfl)
theorem dX5_line_14 : decode cX5_line 14 = .ok (.aload_n 0, 1) := dk_42 (dk_at dksX5_line_0 14 rfl rfl)
theorem dX5_line_15 : decode cX5_line 15 = .ok (.iload_n 1, 1) := dk_27 (dk_at dksX5_line_0 15 rfl rfl)
theorem dX5_line_16 : decode cX5_line 16 = .ok (.invokevirtual 275, 3) := dk_182 1 19 (dk_at dksX5_line_0 16 rfl rfl)
theorem dX5_line_19 : decode cX5_line 19 = .ok (.goto 100, 3) := dk_167 0 100 (dk_at dksX5_line_0 19 rfl rfl)
theorem dX5_line_22 : decode cX5_line 22 = .ok (.aload_n 0, 1) := dk_42 (dk_at dksX5_line_0 22 rfl rfl)
theorem dX5_line_23 : decode cX5_line 23 = .ok (.ldc 59, 2) := dk_18 59 (dk_at dksX5_line_1 0 rfl rfl)
theorem dX5_line_25 : decode cX5_line 25 = .ok (.invokevirtual 129, 3) := dk_182 0 129 (dk_at dksX5_line_1 2 rfl rfl)
theorem dX5_line_28 : decode cX5_line 28 = .ok (.ifCond .eq 58, 3) := dk_153 0 58 (dk_at dksX5_line_1 5 rfl rfl)
theorem dX5_line_31 : decode cX5_line 31 = .ok (.aload_n 0, 1) := dk_42 (dk_at dksX5_line_1 8 rfl rfl)
theorem dX5_line_32 : decode cX5_line 32 = .ok (.aload_n 0, 1) := dk_42 (dk_at dksX5_line_1 9 rfl rfl)
theorem dX5_line_33 : decode cX5_line 33 = .ok (.getfield 18, 3) := dk_180 0 18 (dk_at dksX5_line_1 10 rfl rfl)
theorem dX5_line_36 : decode cX5_line 36 = .ok (.getfield 230, 3) := dk_180 0 230 (dk_at dksX5_line_1 13 rfl rfl)
theorem dX5_line_39 : decode cX5_line 39 = .ok (.invokeinterface 234 1, 5) := by decide +kernel
theorem dX5_line_44 : decode cX5_line 44 = .ok (.iconst 4, 1) := dk_7 (dk_at dksX5_line_1 21 rfl rfl)
theorem dX5_line_45 : decode cX5_line 45 = .ok (.if_icmp .ge 7, 3) := dk_162 0 7 (dk_at dksX5_line_2 0 rfl rfl)
theorem dX5_line_48 : decode cX5_line 48 = .ok (.iconst 1, 1) := dk_4 (dk_at dksX5_line_2 3 rfl rfl)
theorem dX5_line_49 : decode cX5_line 49 = .ok (.goto 4, 3) := dk_167 0 4 (dk_at dksX5_line_2 4 rfl rfl)
theorem dX5_line_52 : decode cX5_line 52 = .ok (.iconst 0, 1) := dk_3 (dk_at dksX5_line_2 7 rfl rfl)
theorem dX5_line_53 : decode cX5_line 53 = .ok (.iconst 2, 1) := dk_5 (dk_at dksX5_line_2 8 rfl rfl)
theorem dX5_line_54 : decode cX5_line 54 = .ok (.invokevirtual 141, 3) := dk_182 0 141 (dk_at dksX5_line_2 9 rfl rfl)
theorem dX5_line_57 : decode cX5_line 57 = .ok (.aload_n 0, 1) := dk_42 (dk_at dksX5_line_2 12 rfl rfl)
theorem dX5_line_58 : decode cX5_line 58 = .ok (.invokevirtual 133, 3) := dk_182 0 133 (dk_at dksX5_line_2 13 rfl rfl)
theorem dX5_line_61 : decode cX5_line 61 = .ok (.aload_n 0, 1) := dk_42 (dk_at dksX5_line_2 16 rfl rfl)
theorem dX5_line_62 : decode cX5_line 62 = .ok (.getfield 18, 3) := dk_180 0 18 (dk_at dksX5_line_2 17 rfl rfl)
theorem dX5_line_65 : decode cX5_line 65 = .ok (.getfield 230, 3) := dk_180 0 230 (dk_at dksX5_line_2 20 rfl rfl)
theorem dX5_line_68 : decode cX5_line 68 = .ok (.aload_n 0, 1) := dk_42 (dk_at dksX5_line_2 23 rfl rfl)
theorem dX5_line_69 : decode cX5_line 69 = .ok (.iconst 0, 1) := dk_3 (dk_at dksX5_line_3 0 rfl rfl)
theorem dX5_line_70 : decode cX5_line 70 = .ok (.iconst 3, 1) := dk_6 (dk_at dksX5_line_3 1 rfl rfl)
theorem dX5_line_71 : decode cX5_line 71 = .ok (.invokevirtual 150, 3) := dk_182 0 150 (dk_at dksX5_line_3 2 rfl rfl)
theorem dX5_line_74 : decode cX5_line 74 = .ok (.invokestatic 243, 3) := dk_184 0 243 (dk_at dksX5_line_3 5 rfl rfl)
theorem dX5_line_77 : decode cX5_line 77 = .ok (.invokeinterface 249 2, 5) := by decide +kernel
theorem dX5_line_82 : decode cX5_line 82 = .ok (.pop, 1) := dk_87 (dk_at dksX5_line_3 13 rfl rfl)
theorem dX5_line_83 : decode cX5_line 83 = .ok (.goto 36, 3) := dk_167 0 36 (dk_at dksX5_line_3 14 rfl rfl)
theorem dX5_line_86 : decode cX5_line 86 = .ok (.aload_n 0, 1) := dk_42 (dk_at dksX5_line_3 17 rfl rfl)
theorem dX5_line_87 : decode cX5_line 87 = .ok (.ldc_w 278, 3) := dk_19 1 22 (dk_at dksX5_line_3 18 rfl rfl)
theorem dX5_line_90 : decode cX5_line 90 = .ok (.invokevirtual 129, 3) := dk_182 0 129 (dk_at dksX5_line_3 21 rfl rfl)
theorem dX5_line_93 : decode cX5_line 93 = .ok (.ifCond .eq 10, 3) := dk_153 0 10 (dk_at dksX5_line_4 0 rfl rfl)
theorem dX5_line_96 : decode cX5_line 96 = .ok (.aload_n 0, 1) := dk_42 (dk_at dksX5_line_4 3 rfl rfl)
theorem dX5_line_97 : decode cX5_line 97 = .ok (.invokevirtual 280, 3) := dk_182 1 24 (dk_at dksX5_line_4 4 rfl rfl)
theorem dX5_line_100 : decode cX5_line 100 = .ok (.goto 19, 3) := dk_167 0 19 (dk_at dksX5_line_4 7 rfl rfl)
theorem dX5_line_103 : decode cX5_line 103 = .ok (.aload_n 0, 1) := dk_42 (dk_at dksX5_line_4 10 rfl rfl)
theorem dX5_line_104 : decode cX5_line 104 = .ok (.aload_n 0, 1) := dk_42 (dk_at dksX5_line_4 11 rfl rfl)
theorem dX5_line_105 : decode cX5_line 105 = .ok (.ldc_w 282, 3) := dk_19 1 26 (dk_at dksX5_line_4 12 rfl rfl)
theorem dX5_line_108 : decode cX5_line 108 = .ok (.invokevirtual 129, 3) := dk_182 0 129 (dk_at dksX5_line_4 15 rfl rfl)
theorem dX5_line_111 : decode cX5_line 111 = .ok (.iconst 1, 1) := dk_4 (dk_at dksX5_line_4 18 rfl rfl)
theorem dX5_line_112 : decode cX5_line 112 = .ok (.invokevirtual 141, 3) := dk_182 0 141 (dk_at dksX5_line_4 19 rfl rfl)
theorem dX5_line_115 : decode cX5_line 115 = .ok (.aload_n 0, 1) := dk_42 (dk_at dksX5_line_4 22 rfl rfl)
theorem dX5_line_116 : decode cX5_line 116 = .ok (.invokevirtual 284, 3) := dk_182 1 28 (dk_at dksX5_line_5 0 rfl rfl)
theorem dX5_line_119 : decode cX5_line 119 = .ok (.aload_n 0, 1) := dk_42 (dk_at dksX5_line_5 3 rfl rfl)
theorem dX5_line_120 : decode cX5_line 120 = .ok (.aload_n 0, 1) := dk_42 (dk_at dksX5_line_5 4 rfl rfl)
theorem dX5_line_121 : decode cX5_line 121 = .ok (.bipush 59, 2) := dk_16 59 (dk_at dksX5_line_5 5 rfl rfl)
theorem dX5_line_123 : decode cX5_line 123 = .ok (.invokevirtual 153, 3) := dk_182 0 153 (dk_at dksX5_line_5 7 rfl rfl)
theorem dX5_line_126 : decode cX5_line 126 = .ok (.iconst 1, 1) := dk_4 (dk_at dksX5_line_5 10 rfl rfl)
theorem dX5_line_127 : decode cX5_line 127 = .ok (.invokevirtual 141, 3) := dk_182 0 141 (dk_at dksX5_line_5 11 rfl rfl)
theorem dX5_line_130 : decode cX5_line 130 = .ok (.aload_n 0, 1) := dk_42 (dk_at dksX5_line_5 14 rfl rfl)
theorem dX5_line_131 : decode cX5_line 131 = .ok (.invokevirtual 133, 3) := dk_182 0 133 (dk_at dksX5_line_5 15 rfl rfl)
theorem dX5_line_134 : decode cX5_line 134 = .ok (.return_, 1) := dk_177 (dk_at dksX5_line_5 18 rfl rfl)
abbrev mX5_line : xM := (yX5_line, cX5_line, 2, none, [])
def c_X5_line_119 (G : xG) (x0 : Option Nat) (T : xF) : Option ((Unit ⊕ xE) × xF) :=
  if ¬ isO T x0 4 = true then none else
  (c_X5_isSign T x0 (59 : Int32)).bind fun v123 =>
  if ¬ isO T x0 4 = true then none else
  clX (c_X5_want G x0 v123 (1 : Int32) T) T fun v127 T127 =>
  if ¬ isO T127 x0 4 = true then none else
  cl (c_X5_next G x0 T127) T127 fun v131 T131 =>
  some (.inl (), T131)
theorem c_X5_line_119_ok {G : xG}  {T0 : xF}   (x0 : Option Nat) (T : xF) (q : ((Unit ⊕ xE) × xF)) (hf : c_X5_line_119 G x0 T = some q) : Xr G (mX5_line, xrm (70) T0 q.2, T0, xoV q.1, q.2) 119 [(0, va_rf x0)] [] T := by
  unfold c_X5_line_119 at hf
  refine C.aload_n dX5_line_119 rfl 0 rfl ?_
  refine C.aload_n dX5_line_120 rfl 0 rfl ?_
  refine X.bipush (v := 59) dX5_line_121 (by decide) ?_
  obtain ⟨c123, hf⟩ := if_n hf
  obtain ⟨v123, h123, hf⟩ := ob hf
  refine X.keep fun l123 => C.Vi (As := [.int (59 : Int32)]) (rest := [va_rf x0]) dX5_line_123 (w_X5_isSign h123) cX5_153 (Classical.not_not.mp c123) rfl rfl (xcs (xvQ xvN) (Nat.le_of_ble_eq_true rfl)) rfl rfl (xD (Nat.le_of_ble_eq_true rfl)) xle.rf l123 ?_
  refine X.iconst (v := 1) dX5_line_126 (by decide) ?_
  obtain ⟨c127, hf⟩ := if_n hf
  rcases clX_ok hf with ⟨v127, T127, h127, hf, l127, r127⟩ | ⟨e127, T127, h127, rfl, l127⟩
  rotate_left
  · exact C.Vx (As := [.int v123, .int (1 : Int32)]) (rest := []) dX5_line_127 (w_X5_want h127) cX5_141 (Classical.not_not.mp c127) rfl rfl (xcs xvN (Nat.le_of_ble_eq_true rfl)) rfl rfl (xD (Nat.le_of_ble_eq_true rfl)) l127 xle.rf (xnoh rfl) rfl
  refine C.Vv (As := [.int v123, .int (1 : Int32)]) (rest := []) dX5_line_127 (w_X5_want h127) cX5_141 (Classical.not_not.mp c127) rfl rfl (xcs xvN (Nat.le_of_ble_eq_true rfl)) rfl rfl (xD (Nat.le_of_ble_eq_true rfl)) l127 r127 ?_
  refine C.aload_n dX5_line_130 rfl 0 rfl ?_
  obtain ⟨c131, hf⟩ := if_n hf
  obtain ⟨v131, T131, h131, hf, l131, r131⟩ := cl_ok hf
  refine C.Vv (As := []) (rest := []) dX5_line_131 (w_X5_next h131) cX5_133 (Classical.not_not.mp c131) rfl rfl (xcs xvN (Nat.le_of_ble_eq_true rfl)) rfl rfl (xD (Nat.le_of_ble_eq_true rfl)) l131 r131 ?_
  obtain rfl := Option.some.inj hf
  exact X.vret dX5_line_134 rfl rfl
def c_X5_line_53 (G : xG) (x0 : Option Nat) (y0 : Int32) (y1 : Option Nat) (T : xF) : Option ((Unit ⊕ xE) × xF) :=
  if ¬ isO T y1 4 = true then none else
  clX (c_X5_want G y1 y0 (2 : Int32) T) T fun v54 T54 =>
  if ¬ isO T54 x0 4 = true then none else
  cl (c_X5_next G x0 T54) T54 fun v58 T58 =>
  (oQ T58 x0 4 1).bind fun v62 =>
  (oQ T58 v62 1 0).bind fun v65 =>
  if ¬ isO T58 x0 4 = true then none else
  clX (c_X5_number G x0 (0 : Int32) (3 : Int32) T58) T58 fun v71 T71 =>
  cl (c_J14_valueOf G v71 T71) T71 fun v74 T74 =>
  if ¬ isO T74 v65 10 = true then none else
  cl (c_J2_add G v65 v74 T74) T74 fun v77 T77 =>
  c_X5_line_119 G x0 T77
theorem c_X5_line_53_ok {G : xG}  {T0 : xF}   (x0 : Option Nat) (y0 : Int32) (y1 : Option Nat) (T : xF) (q : ((Unit ⊕ xE) × xF)) (hf : c_X5_line_53 G x0 y0 y1 T = some q) : Xr G (mX5_line, xrm (70) T0 q.2, T0, xoV q.1, q.2) 53 [(0, va_rf x0)] [.int y0, va_rf y1] T := by
  unfold c_X5_line_53 at hf
  refine X.iconst (v := 2) dX5_line_53 (by decide) ?_
  obtain ⟨c54, hf⟩ := if_n hf
  rcases clX_ok hf with ⟨v54, T54, h54, hf, l54, r54⟩ | ⟨e54, T54, h54, rfl, l54⟩
  rotate_left
  · exact C.Vx (As := [.int y0, .int (2 : Int32)]) (rest := []) dX5_line_54 (w_X5_want h54) cX5_141 (Classical.not_not.mp c54) rfl rfl (xcs xvN (Nat.le_of_ble_eq_true rfl)) rfl rfl (xD (Nat.le_of_ble_eq_true rfl)) l54 xle.rf (xnoh rfl) rfl
  refine C.Vv (As := [.int y0, .int (2 : Int32)]) (rest := []) dX5_line_54 (w_X5_want h54) cX5_141 (Classical.not_not.mp c54) rfl rfl (xcs xvN (Nat.le_of_ble_eq_true rfl)) rfl rfl (xD (Nat.le_of_ble_eq_true rfl)) l54 r54 ?_
  refine C.aload_n dX5_line_57 rfl 0 rfl ?_
  obtain ⟨c58, hf⟩ := if_n hf
  obtain ⟨v58, T58, h58, hf, l58, r58⟩ := cl_ok hf
  refine C.Vv (As := []) (rest := []) dX5_line_58 (w_X5_next h58) cX5_133 (Classical.not_not.mp c58) rfl rfl (xcs xvN (Nat.le_of_ble_eq_true rfl)) rfl rfl (xD (Nat.le_of_ble_eq_true rfl)) l58 r58 ?_
  refine C.aload_n dX5_line_61 rfl 0 rfl ?_
  obtain ⟨v62, h62, hf⟩ := ob hf
  refine C.getQ dX5_line_62 rX5_18 h62 ?_
  obtain ⟨v65, h65, hf⟩ := ob hf
  refine C.getQ dX5_line_65 rX5_230 h65 ?_
  refine C.aload_n dX5_line_68 rfl 0 rfl ?_
  refine X.iconst (v := 0) dX5_line_69 (by decide) ?_
  refine X.iconst (v := 3) dX5_line_70 (by decide) ?_
  obtain ⟨c71, hf⟩ := if_n hf
  rcases clX_ok hf with ⟨v71, T71, h71, hf, l71, r71⟩ | ⟨e71, T71, h71, rfl, l71⟩
  rotate_left
  · exact C.Vx (As := [.int (0 : Int32), .int (3 : Int32)]) (rest := [va_rf v65]) dX5_line_71 (w_X5_number h71) cX5_150 (Classical.not_not.mp c71) rfl rfl (xcs (xvQ xvN) (Nat.le_of_ble_eq_true rfl)) rfl rfl (xD (Nat.le_of_ble_eq_true rfl)) l71 xle.rf (xnoh rfl) rfl
  refine C.Vi (As := [.int (0 : Int32), .int (3 : Int32)]) (rest := [va_rf v65]) dX5_line_71 (w_X5_number h71) cX5_150 (Classical.not_not.mp c71) rfl rfl (xcs (xvQ xvN) (Nat.le_of_ble_eq_true rfl)) rfl rfl (xD (Nat.le_of_ble_eq_true rfl)) l71 r71 ?_
  obtain ⟨v74, T74, h74, hf, l74, r74⟩ := cl_ok hf
  refine C.Sq (As := [.int v71]) (rest := [va_rf v65]) dX5_line_74 (w_J14_valueOf h74) cX5_243 rfl rfl (xcs (xvQ xvN) (Nat.le_of_ble_eq_true rfl)) (xD (Nat.le_of_ble_eq_true rfl)) l74 r74 ?_
  obtain ⟨c77, hf⟩ := if_n hf
  obtain ⟨v77, T77, h77, hf, l77, r77⟩ := cl_ok hf
  refine C.Fi (As := [va_rf v74]) (rest := []) dX5_line_77 (w_J2_add h77) cX5_249 (Classical.not_not.mp c77) rfl rfl (xcs xvN (Nat.le_of_ble_eq_true rfl)) rfl rfl (xD (Nat.le_of_ble_eq_true rfl)) l77 r77 ?_
  refine X.pop dX5_line_82 rfl ?_
  refine X.goto (tgt := 119) dX5_line_83 (by decide) ?_
  refine X.sub [0] (L' := [(0, va_rf x0)]) rfl ?_
  exact c_X5_line_119_ok _ _ _ hf
def c_X5_line (G : xG) (x0 : Option Nat) (T : xF) : Option ((Unit ⊕ xE) × xF) :=
  (oQ T x0 4 3).bind fun v2 =>
  if ¬ isO T x0 4 = true then none else
  (c_X5_which G T x0 v2).bind fun v5 =>
  if v5 = (-1 : Int32) then
    if ¬ isO T x0 4 = true then none else
    (c_X5_is G T x0 (some (gT G 11))).bind fun v25 =>
    if v25 = 0 then
      if ¬ isO T x0 4 = true then none else
      (c_X5_is G T x0 (some (gT G 17))).bind fun v90 =>
      if v90 = 0 then
        if ¬ isO T x0 4 = true then none else
        (c_X5_is G T x0 (some (gT G 18))).bind fun v108 =>
        if ¬ isO T x0 4 = true then none else
        clX (c_X5_want G x0 v108 (1 : Int32) T) T fun v112 T112 =>
        if ¬ isO T112 x0 4 = true then none else
        clX (c_X5_mould G x0 T112) T112 fun v116 T116 =>
        c_X5_line_119 G x0 T116
      else
        if ¬ isO T x0 4 = true then none else
        clX (c_X5_cell G x0 T) T fun v97 T97 =>
        c_X5_line_119 G x0 T97
    else
      (oQ T x0 4 1).bind fun v33 =>
      (oQ T v33 1 0).bind fun v36 =>
      if ¬ isO T v36 10 = true then none else
      (c_J2_size T v36).bind fun v39 =>
      if (4 : Int32) ≤ v39 then
        c_X5_line_53 G x0 (0 : Int32) x0 T
      else
        c_X5_line_53 G x0 (1 : Int32) x0 T
  else
    if ¬ isO T x0 4 = true then none else
    clX (c_X5_only G x0 v5 T) T fun v16 T16 =>
    c_X5_line_119 G x0 T16
theorem w_X5_line {G : xG}  {T : xF} {x0 : Option Nat} {q : ((Unit ⊕ xE) × xF)} (hf : c_X5_line G x0 T = some q) : Ct G mX5_line (70) T [va_rf x0] (xoV q.1) q.2 := by
  refine Ct.ofc (plainFor_of_name (by decide +kernel)) rfl (xvQ xvN) (Nat.le_of_ble_eq_true rfl) (show Xr G _ 0 [(0, va_rf x0)] [] _ from ?_)
  unfold c_X5_line at hf
  refine C.aload_n dX5_line_0 rfl 0 rfl ?_
  refine C.aload_n dX5_line_1 rfl 0 rfl ?_
  obtain ⟨v2, h2, hf⟩ := ob hf
  refine C.getQ dX5_line_2 rX5_45 h2 ?_
  obtain ⟨c5, hf⟩ := if_n hf
  obtain ⟨v5, h5, hf⟩ := ob hf
  refine X.keep fun l5 => C.Vi (As := [va_rf v2]) (rest := []) dX5_line_5 (w_X5_which h5) cX5_161 (Classical.not_not.mp c5) rfl rfl (xcs xvN (Nat.le_of_ble_eq_true rfl)) rfl rfl (xD (Nat.le_of_ble_eq_true rfl)) xle.rf l5 ?_
  refine C.ist_n (L' := [(1, .int v5), (0, va_rf x0)]) dX5_line_8 rfl (Nat.le_of_ble_eq_true rfl) (xcQ xcN) rfl ?_
  refine X.iload_n dX5_line_9 rfl 0 rfl ?_
  refine X.iconst (v := -1) dX5_line_10 (by decide) ?_
  refine X.icmp_eq (tgt := 22) dX5_line_11 (by decide) (fun c11 => ?_) (fun c11 => ?_)
  · have hf := if_t c11 hf
    refine C.aload_n dX5_line_22 rfl 1 rfl ?_
    refine C.ldcS dX5_line_23 (i := 11) rfl rfl ?_
    obtain ⟨c25, hf⟩ := if_n hf
    obtain ⟨v25, h25, hf⟩ := ob hf
    refine X.keep fun l25 => C.Vi (As := [va_rf (some (gT G 11))]) (rest := []) dX5_line_25 (w_X5_is h25) cX5_129 (Classical.not_not.mp c25) rfl rfl (xcs xvN (Nat.le_of_ble_eq_true rfl)) rfl rfl (xD (Nat.le_of_ble_eq_true rfl)) xle.rf l25 ?_
    refine X.if_eq (tgt := 86) dX5_line_28 (by decide) (fun c28 => ?_) (fun c28 => ?_)
    · have hf := if_t c28 hf
      refine C.aload_n dX5_line_86 rfl 1 rfl ?_
      refine C.ldcwS dX5_line_87 (i := 17) rfl rfl ?_
      obtain ⟨c90, hf⟩ := if_n hf
      obtain ⟨v90, h90, hf⟩ := ob hf
      refine X.keep fun l90 => C.Vi (As := [va_rf (some (gT G 17))]) (rest := []) dX5_line_90 (w_X5_is h90) cX5_129 (Classical.not_not.mp c90) rfl rfl (xcs xvN (Nat.le_of_ble_eq_true rfl)) rfl rfl (xD (Nat.le_of_ble_eq_true rfl)) xle.rf l90 ?_
      refine X.if_eq (tgt := 103) dX5_line_93 (by decide) (fun c93 => ?_) (fun c93 => ?_)
      · have hf := if_t c93 hf
        refine C.aload_n dX5_line_103 rfl 1 rfl ?_
        refine C.aload_n dX5_line_104 rfl 1 rfl ?_
        refine C.ldcwS dX5_line_105 (i := 18) rfl rfl ?_
        obtain ⟨c108, hf⟩ := if_n hf
        obtain ⟨v108, h108, hf⟩ := ob hf
        refine X.keep fun l108 => C.Vi (As := [va_rf (some (gT G 18))]) (rest := [va_rf x0]) dX5_line_108 (w_X5_is h108) cX5_129 (Classical.not_not.mp c108) rfl rfl (xcs (xvQ xvN) (Nat.le_of_ble_eq_true rfl)) rfl rfl (xD (Nat.le_of_ble_eq_true rfl)) xle.rf l108 ?_
        refine X.iconst (v := 1) dX5_line_111 (by decide) ?_
        obtain ⟨c112, hf⟩ := if_n hf
        rcases clX_ok hf with ⟨v112, T112, h112, hf, l112, r112⟩ | ⟨e112, T112, h112, rfl, l112⟩
        rotate_left
        · exact C.Vx (As := [.int v108, .int (1 : Int32)]) (rest := []) dX5_line_112 (w_X5_want h112) cX5_141 (Classical.not_not.mp c112) rfl rfl (xcs xvN (Nat.le_of_ble_eq_true rfl)) rfl rfl (xD (Nat.le_of_ble_eq_true rfl)) l112 xle.rf (xnoh rfl) rfl
        refine C.Vv (As := [.int v108, .int (1 : Int32)]) (rest := []) dX5_line_112 (w_X5_want h112) cX5_141 (Classical.not_not.mp c112) rfl rfl (xcs xvN (Nat.le_of_ble_eq_true rfl)) rfl rfl (xD (Nat.le_of_ble_eq_true rfl)) l112 r112 ?_
        refine C.aload_n dX5_line_115 rfl 1 rfl ?_
        obtain ⟨c116, hf⟩ := if_n hf
        rcases clX_ok hf with ⟨v116, T116, h116, hf, l116, r116⟩ | ⟨e116, T116, h116, rfl, l116⟩
        rotate_left
        · exact C.Vx (As := []) (rest := []) dX5_line_116 (w_X5_mould h116) cX5_284 (Classical.not_not.mp c116) rfl rfl (xcs xvN (Nat.le_of_ble_eq_true rfl)) rfl rfl (xD (Nat.le_of_ble_eq_true rfl)) l116 xle.rf (xnoh rfl) rfl
        refine C.Vv (As := []) (rest := []) dX5_line_116 (w_X5_mould h116) cX5_284 (Classical.not_not.mp c116) rfl rfl (xcs xvN (Nat.le_of_ble_eq_true rfl)) rfl rfl (xD (Nat.le_of_ble_eq_true rfl)) l116 r116 ?_
        refine X.sub [1] (L' := [(0, va_rf x0)]) rfl ?_
        exact c_X5_line_119_ok _ _ _ hf
      · have hf := if_f c93 hf
        refine C.aload_n dX5_line_96 rfl 1 rfl ?_
        obtain ⟨c97, hf⟩ := if_n hf
        rcases clX_ok hf with ⟨v97, T97, h97, hf, l97, r97⟩ | ⟨e97, T97, h97, rfl, l97⟩
        rotate_left
        · exact C.Vx (As := []) (rest := []) dX5_line_97 (w_X5_cell h97) cX5_280 (Classical.not_not.mp c97) rfl rfl (xcs xvN (Nat.le_of_ble_eq_true rfl)) rfl rfl (xD (Nat.le_of_ble_eq_true rfl)) l97 xle.rf (xnoh rfl) rfl
        refine C.Vv (As := []) (rest := []) dX5_line_97 (w_X5_cell h97) cX5_280 (Classical.not_not.mp c97) rfl rfl (xcs xvN (Nat.le_of_ble_eq_true rfl)) rfl rfl (xD (Nat.le_of_ble_eq_true rfl)) l97 r97 ?_
        refine X.goto (tgt := 119) dX5_line_100 (by decide) ?_
        refine X.sub [1] (L' := [(0, va_rf x0)]) rfl ?_
        exact c_X5_line_119_ok _ _ _ hf
    · have hf := if_f c28 hf
      refine C.aload_n dX5_line_31 rfl 1 rfl ?_
      refine C.aload_n dX5_line_32 rfl 1 rfl ?_
      obtain ⟨v33, h33, hf⟩ := ob hf
      refine C.getQ dX5_line_33 rX5_18 h33 ?_
      obtain ⟨v36, h36, hf⟩ := ob hf
      refine C.getQ dX5_line_36 rX5_230 h36 ?_
      obtain ⟨c39, hf⟩ := if_n hf
      obtain ⟨v39, h39, hf⟩ := ob hf
      refine X.keep fun l39 => C.Fi (As := []) (rest := [va_rf x0]) dX5_line_39 (w_J2_size h39) cX5_234 (Classical.not_not.mp c39) rfl rfl (xcs (xvQ xvN) (Nat.le_of_ble_eq_true rfl)) rfl rfl (xD (Nat.le_of_ble_eq_true rfl)) xle.rf l39 ?_
      refine X.iconst (v := 4) dX5_line_44 (by decide) ?_
      refine X.icmp_ge (tgt := 52) dX5_line_45 (by decide) (fun c45 => ?_) (fun c45 => ?_)
      · have hf := if_t c45 hf
        refine X.iconst (v := 0) dX5_line_52 (by decide) ?_
        refine X.sub [1] (L' := [(0, va_rf x0)]) rfl ?_
        exact c_X5_line_53_ok _ _ _ _ _ hf
      · have hf := if_f c45 hf
        refine X.iconst (v := 1) dX5_line_48 (by decide) ?_
        refine X.goto (tgt := 53) dX5_line_49 (by decide) ?_
        refine X.sub [1] (L' := [(0, va_rf x0)]) rfl ?_
        exact c_X5_line_53_ok _ _ _ _ _ hf
  · have hf := if_f c11 hf
    refine C.aload_n dX5_line_14 rfl 1 rfl ?_
    refine X.iload_n dX5_line_15 rfl 0 rfl ?_
    obtain ⟨c16, hf⟩ := if_n hf
    rcases clX_ok hf with ⟨v16, T16, h16, hf, l16, r16⟩ | ⟨e16, T16, h16, rfl, l16⟩
    rotate_left
    · exact C.Vx (As := [.int v5]) (rest := []) dX5_line_16 (w_X5_only h16) cX5_275 (Classical.not_not.mp c16) rfl rfl (xcs xvN (Nat.le_of_ble_eq_true rfl)) rfl rfl (xD (Nat.le_of_ble_eq_true rfl)) l16 xle.rf (xnoh rfl) rfl
    refine C.Vv (As := [.int v5]) (rest := []) dX5_line_16 (w_X5_only h16) cX5_275 (Classical.not_not.mp c16) rfl rfl (xcs xvN (Nat.le_of_ble_eq_true rfl)) rfl rfl (xD (Nat.le_of_ble_eq_true rfl)) l16 r16 ?_
    refine X.goto (tgt := 119) dX5_line_19 (by decide) ?_
    refine X.sub [1] (L' := [(0, va_rf x0)]) rfl ?_
    exact c_X5_line_119_ok _ _ _ hf
theorem cX5_286 : xCV RX5 286 mX5_line 0 := ⟨lw_V q972 q974 qs19 q132 q975, rfl, ⟨by decide +kernel, by decide +kernel, by decide +kernel⟩, Nat.le_of_ble_eq_true rfl⟩
/-! MouldVotes$Reader read -/
abbrev cX5_read : ByteArray := prog_7_method_27_code
def yX5_read : MethodName := ⟨RX5, "read", "()LMouldVotes$Roll;"⟩
def dkwX5_read_0 : List UInt8 := [42, 182, 0, 133, 42, 180, 0, 93, 153, 0, 10, 42, 182, 1, 30, 167, 255, 245, 42, 180, 0, 18, 176]
abbrev dktX5_read_0 : List UInt8 := dkwX5_read_0 ++ []
theorem dksX5_read_0 : cX5_read.data.toList.drop 0 = dktX5_read_0 := by decide +kernel
theorem dX5_read_0 : decode cX5_read 0 = .ok (.aload_n 0, 1) := dk_42 (dk_at dksX5_read_0 0 rfl rfl)
theorem dX5_read_1 : decode cX5_read 1 = .ok (.invokevirtual 133, 3) := dk_182 0 133 (dk_at dksX5_read_0 1 rfl rfl)
theorem dX5_read_4 : decode cX5_read 4 = .ok (.aload_n 0, 1) := dk_42 (dk_at dksX5_read_0 4 rfl rfl)
theorem dX5_read_5 : decode cX5_read 5 = .ok (.getfield 93, 3) := dk_180 0 93 (dk_at dksX5_read_0 5 rfl rfl)
theorem dX5_read_8 : decode cX5_read 8 = .ok (.ifCond .eq 10, 3) := dk_153 0 10 (dk_at dksX5_read_0 8 rfl rfl)
theorem dX5_read_11 : decode cX5_read 11 = .ok (.aload_n 0, 1) := dk_42 (dk_at dksX5_read_0 11 rfl rfl)
theorem dX5_read_12 : decode cX5_read 12 = .ok (.invokevirtual 286, 3) := dk_182 1 30 (dk_at dksX5_read_0 12 rfl rfl)
theorem dX5_read_15 : decode cX5_read 15 = .ok (.goto (-11), 3) := dk_167 255 245 (dk_at dksX5_read_0 15 rfl rfl)
theorem dX5_read_18 : decode cX5_read 18 = .ok (.aload_n 0, 1) := dk_42 (dk_at dksX5_read_0 18 rfl rfl)
theorem dX5_read_19 : decode cX5_read 19 = .ok (.getfield 18, 3) := dk_180 0 18 (dk_at dksX5_read_0 19 rfl rfl)
theorem dX5_read_22 : decode cX5_read 22 = .ok (.areturn, 1) := dk_176 (dk_at dksX5_read_0 22 rfl rfl)
abbrev mX5_read : xM := (yX5_read, cX5_read, 1, (some (.object "MouldVotes$Roll")), [])
def c_X5_read_4_b (G : xG) (k4 : Option Nat → xF → Option ((Option Nat ⊕ xE) × xF)) (x0 : Option Nat) (T : xF) : Option ((Option Nat ⊕ xE) × xF) :=
  (oI T x0 4 8).bind fun v5 =>
  if v5 = 0 then
    (oQ T x0 4 1).bind fun v19 =>
    some (.inl v19, T)
  else
    if ¬ isO T x0 4 = true then none else
    clX (c_X5_line G x0 T) T fun v12 T12 =>
    k4 x0 T12
def c_X5_read_4 (G : xG) : Nat → Option Nat → xF → Option ((Option Nat ⊕ xE) × xF)
  | 0 => fun _ _ => none
  | n + 1 => fun x0 T => c_X5_read_4_b G (c_X5_read_4 G n) x0 T
theorem c_X5_read_4_bok {G : xG}  {T0 : xF}  {k4 : Option Nat → xF → Option ((Option Nat ⊕ xE) × xF)}  (hk4 : ∀ (x0 : Option Nat) (T : xF) (q : ((Option Nat ⊕ xE) × xF)), k4 x0 T = some q → Xr G (mX5_read, xrm (71) T0 q.2, T0, xoQ q.1, q.2) 4 [(0, va_rf x0)] [] T) (x0 : Option Nat) (T : xF) (q : ((Option Nat ⊕ xE) × xF)) (hf : c_X5_read_4_b G k4 x0 T = some q) : Xr G (mX5_read, xrm (71) T0 q.2, T0, xoQ q.1, q.2) 4 [(0, va_rf x0)] [] T := by
  unfold c_X5_read_4_b at hf
  refine C.aload_n dX5_read_4 rfl 0 rfl ?_
  obtain ⟨v5, h5, hf⟩ := ob hf
  refine C.getI dX5_read_5 rX5_93 h5 ?_
  refine X.if_eq (tgt := 18) dX5_read_8 (by decide) (fun c8 => ?_) (fun c8 => ?_)
  · have hf := if_t c8 hf
    refine C.aload_n dX5_read_18 rfl 0 rfl ?_
    obtain ⟨v19, h19, hf⟩ := ob hf
    refine C.getQ dX5_read_19 rX5_18 h19 ?_
    obtain rfl := Option.some.inj hf
    exact X.aret dX5_read_22 rfl (Or.inl ⟨_, rfl⟩) rfl
  · have hf := if_f c8 hf
    refine C.aload_n dX5_read_11 rfl 0 rfl ?_
    obtain ⟨c12, hf⟩ := if_n hf
    rcases clX_ok hf with ⟨v12, T12, h12, hf, l12, r12⟩ | ⟨e12, T12, h12, rfl, l12⟩
    rotate_left
    · exact C.Vx (As := []) (rest := []) dX5_read_12 (w_X5_line h12) cX5_286 (Classical.not_not.mp c12) rfl rfl (xcs xvN (Nat.le_of_ble_eq_true rfl)) rfl rfl (xD (Nat.le_of_ble_eq_true rfl)) l12 xle.rf (xnoh rfl) rfl
    refine C.Vv (As := []) (rest := []) dX5_read_12 (w_X5_line h12) cX5_286 (Classical.not_not.mp c12) rfl rfl (xcs xvN (Nat.le_of_ble_eq_true rfl)) rfl rfl (xD (Nat.le_of_ble_eq_true rfl)) l12 r12 ?_
    refine X.goto (tgt := 4) dX5_read_15 (by decide) ?_
    refine X.sub [0] (L' := [(0, va_rf x0)]) rfl ?_
    exact hk4 _ _ _ hf
theorem c_X5_read_4_ok {G : xG}  {T0 : xF}   : ∀ (n : Nat) (x0 : Option Nat) (T : xF) (q : ((Option Nat ⊕ xE) × xF)), c_X5_read_4 G n x0 T = some q → Xr G (mX5_read, xrm (71) T0 q.2, T0, xoQ q.1, q.2) 4 [(0, va_rf x0)] [] T
  | 0, _, _, _, hf => by cases hf
  | n + 1, x0, T, q, hf => c_X5_read_4_bok (c_X5_read_4_ok n) x0 T q hf
def c_X5_read (G : xG) (x0 : Option Nat) (T : xF) : Option ((Option Nat ⊕ xE) × xF) :=
  if ¬ isO T x0 4 = true then none else
  cl (c_X5_next G x0 T) T fun v1 T1 =>
  c_X5_read_4 G FU x0 T1
theorem w_X5_read {G : xG}  {T : xF} {x0 : Option Nat} {q : ((Option Nat ⊕ xE) × xF)} (hf : c_X5_read G x0 T = some q) : Ct G mX5_read (71) T [va_rf x0] (xoQ q.1) q.2 := by
  refine Ct.ofc (plainFor_of_name (by decide +kernel)) rfl (xvQ xvN) (Nat.le_of_ble_eq_true rfl) (show Xr G _ 0 [(0, va_rf x0)] [] _ from ?_)
  unfold c_X5_read at hf
  refine C.aload_n dX5_read_0 rfl 0 rfl ?_
  obtain ⟨c1, hf⟩ := if_n hf
  obtain ⟨v1, T1, h1, hf, l1, r1⟩ := cl_ok hf
  refine C.Vv (As := []) (rest := []) dX5_read_1 (w_X5_next h1) cX5_133 (Classical.not_not.mp c1) rfl rfl (xcs xvN (Nat.le_of_ble_eq_true rfl)) rfl rfl (xD (Nat.le_of_ble_eq_true rfl)) l1 r1 ?_
  refine X.sub [0] (L' := [(0, va_rf x0)]) rfl ?_
  exact c_X5_read_4_ok FU _ _ _ hf
theorem cX1_74 : xCV RX1 74 mX5_read 0 := ⟨lw_V q879 q880 q881 q132 q882, rfl, ⟨by decide +kernel, by decide +kernel, by decide +kernel⟩, Nat.le_of_ble_eq_true rfl⟩
