set_option maxRecDepth 100000
/-! MouldVotes damp -/
abbrev cX1_damp : ByteArray := prog_1_method_23_code
def yX1_damp : MethodName := ⟨RX1, "damp", "(II)I"⟩
def dkwX1_damp_2 : List UInt8 := [172]
abbrev dktX1_damp_2 : List UInt8 := dkwX1_damp_2 ++ []
def dkwX1_damp_1 : List UInt8 := [182, 0, 196, 42, 180, 0, 38, 180, 0, 149, 27, 46, 62, 42, 180, 0, 38, 180, 0, 149, 27, 28, 79, 29]
abbrev dktX1_damp_1 : List UInt8 := dkwX1_damp_1 ++ dktX1_damp_2
def dkwX1_damp_0 : List UInt8 := [42, 27, 182, 0, 145, 28, 3, 16, 9, 184, 0, 134, 154, 0, 9, 42, 4, 182, 0, 193, 172, 42]
abbrev dktX1_damp_0 : List UInt8 := dkwX1_damp_0 ++ dktX1_damp_1
theorem dksX1_damp_0 : cX1_damp.data.toList.drop 0 = dktX1_damp_0 := by decide +kernel
theorem dksX1_damp_1 : cX1_damp.data.toList.drop 22 = dktX1_damp_1 := dk_seg dksX1_damp_0 22 rfl rfl
theorem dksX1_damp_2 : cX1_damp.data.toList.drop 46 = dktX1_damp_2 := dk_seg dksX1_damp_1 24 rfl rfl
theorem dX1_damp_0 : decode cX1_damp 0 = .ok (.aload_n 0, 1) := dk_42 (dk_at dksX1_damp_0 0 rfl rfl)
theorem dX1_damp_1 : decode cX1_damp 1 = .ok (.iload_n 1, 1) := dk_27 (dk_at dksX1_damp_0 1 rfl rfl)
theorem dX1_damp_2 : decode cX1_damp 2 = .ok (.invokevirtual 145, 3) := dk_182 0 145 (dk_at dksX1_damp_0 2 rfl rfl)
theorem dX1_damp_5 : decode cX1_damp 5 = .ok (.iload_n 2, 1) := dk_28 (dk_at dksX1_damp_0 5 rfl rfl)
theorem dX1_damp_6 : decode cX1_damp 6 = .ok (.iconst 0, 1) := dk_3 (dk_at dksX1_damp_0 6 rfl rfl)
theorem dX1_damp_7 : decode cX1_damp 7 = .ok (.bipush 9, 2) := dk_16 9 (dk_at dksX1_damp_0 7 rfl rfl)
theorem dX1_damp_9 : decode cX1_damp 9 = .ok (.invokestatic 134, 3) := dk_184 0 134 (dk_at dksX1_damp_0 9 rfl rfl)
theorem dX1_damp_12 : decode cX1_damp 12 = .ok (.ifCond .ne 9, 3) := dk_154 0 9 (dk_at dksX1_damp_0 12 rfl rfl)
theorem dX1_damp_15 : decode cX1_damp 15 = .ok (.aload_n 0, 1) := dk_42 (dk_at dksX1_damp_0 15 rfl rfl)
theorem dX1_damp_16 : decode cX1_damp 16 = .ok (.iconst 1, 1) := dk_4 (dk_at dksX1_damp_0 16 rfl rfl)
theorem dX1_damp_17 : decode cX1_damp 17 = .ok (.invokevirtual 193, 3) := dk_182 0 193 (dk_at dksX1_damp_0 17 rfl rfl)
theorem dX1_damp_20 : decode cX1_damp 20 = .ok (.ireturn, 1) := dk_172 (dk_at dksX1_damp_0 20 rfl rfl)
theorem dX1_damp_21 : decode cX1_damp 21 = .ok (.aload_n 0, 1) := dk_42 (dk_at dksX1_damp_0 21 rfl rfl)
theorem dX1_damp_22 : decode cX1_damp 22 = .ok (.invokevirtual 196, 3) := dk_182 0 196 (dk_at dksX1_damp_1 0 rfl rfl)
theorem dX1_damp_25 : decode cX1_damp 25 = .ok (.aload_n 0, 1) := dk_42 (dk_at dksX1_damp_1 3 rfl rfl)
theorem dX1_damp_26 : decode cX1_damp 26 = .ok (.getfield 38, 3) := dk_180 0 38 (dk_at dksX1_damp_1 4 rfl rfl)
theorem dX1_damp_29 : decode cX1_damp 29 = .ok (.getfield 149, 3) := dk_180 0 149 (dk_at dksX1_damp_1 7 rfl rfl)
theorem dX1_damp_32 : decode cX1_damp 32 = .ok (.iload_n 1, 1) := dk_27 (dk_at dksX1_damp_1 10 rfl rfl)
theorem dX1_damp_33 : decode cX1_damp 33 = .ok (.iaload, 1) := dk_46 (dk_at dksX1_damp_1 11 rfl rfl)
theorem dX1_damp_34 : decode cX1_damp 34 = .ok (.istore_n 3, 1) := dk_62 (dk_at dksX1_damp_1 12 rfl rfl)
theorem dX1_damp_35 : decode cX1_damp 35 = .ok (.aload_n 0, 1) := dk_42 (dk_at dksX1_damp_1 13 rfl rfl)
theorem dX1_damp_36 : decode cX1_damp 36 = .ok (.getfield 38, 3) := dk_180 0 38 (dk_at dksX1_damp_1 14 rfl rfl)
theorem dX1_damp_39 : decode cX1_damp 39 = .ok (.getfield 149, 3) := dk_180 0 149 (dk_at dksX1_damp_1 17 rfl rfl)
theorem dX1_damp_42 : decode cX1_damp 42 = .ok (.iload_n 1, 1) := dk_27 (dk_at dksX1_damp_1 20 rfl rfl)
theorem dX1_damp_43 : decode cX1_damp 43 = .ok (.iload_n 2, 1) := dk_28 (dk_at dksX1_damp_1 21 rfl rfl)
theorem dX1_damp_44 : decode cX1_damp 44 = .ok (.iastore, 1) := dk_79 (dk_at dksX1_damp_1 22 rfl rfl)
theorem dX1_damp_45 : decode cX1_damp 45 = .ok (.iload_n 3, 1) := dk_29 (dk_at dksX1_damp_1 23 rfl rfl)
theorem dX1_damp_46 : decode cX1_damp 46 = .ok (.ireturn, 1) := dk_172 (dk_at dksX1_damp_2 0 rfl rfl)
abbrev mX1_damp : xM := (yX1_damp, cX1_damp, 4, (some .int), [])
def c_X1_damp (G : xG) (x0 : Option Nat) (x1 : Int32) (x2 : Int32) (T : xF) : Option ((Int32 ⊕ xE) × xF) :=
  if ¬ isO T x0 0 = true then none else
  clX (c_X1_aCell x0 x1 T) T fun v2 T2 =>
  (c_X1_in x2 (0 : Int32) (9 : Int32)).bind fun v9 =>
  if v9 = 0 then
    if ¬ isO T2 x0 0 = true then none else
    cl (c_X1_refuse x0 (1 : Int32) T2) T2 fun v17 T17 =>
    some (.inl v17, T17)
  else
    if ¬ isO T2 x0 0 = true then none else
    cl (c_X1_keepAct G x0 T2) T2 fun v22 T22 =>
    (oQ T22 x0 0 4).bind fun v26 =>
    (oQ T22 v26 2 0).bind fun v29 =>
    (ldA T22 v29 .int x1).bind fun v33 =>
    (oQ T22 x0 0 4).bind fun v36 =>
    (oQ T22 v36 2 0).bind fun v39 =>
    (stA T22 v39 .int x1 x2).bind fun T44 =>
    some (.inl v33, T44)
theorem w_X1_damp {G : xG}  {T : xF} {x0 : Option Nat} {x1 : Int32} {x2 : Int32} {q : ((Int32 ⊕ xE) × xF)} (hf : c_X1_damp G x0 x1 x2 T = some q) : Ct G mX1_damp (9) T [va_rf x0, .int x1, .int x2] (xoI q.1) q.2 := by
  refine Ct.ofc (plainFor_of_name (by decide +kernel)) rfl (xvQ (xvI (xvI xvN))) (Nat.le_of_ble_eq_true rfl) (show Xr G _ 0 [(0, va_rf x0), (1, .int x1), (2, .int x2)] [] _ from ?_)
  unfold c_X1_damp at hf
  refine C.aload_n dX1_damp_0 rfl 0 rfl ?_
  refine X.iload_n dX1_damp_1 rfl 1 rfl ?_
  obtain ⟨c2, hf⟩ := if_n hf
  rcases clX_ok hf with ⟨v2, T2, h2, hf, l2, r2⟩ | ⟨e2, T2, h2, rfl, l2⟩
  rotate_left
  · exact C.Vx (As := [.int x1]) (rest := []) dX1_damp_2 (w_X1_aCell h2) cX1_145 (Classical.not_not.mp c2) rfl rfl (xcs xvN (Nat.le_of_ble_eq_true rfl)) rfl rfl (xD (Nat.le_of_ble_eq_true rfl)) l2 xle.rf (xnoh rfl) rfl
  refine C.Vv (As := [.int x1]) (rest := []) dX1_damp_2 (w_X1_aCell h2) cX1_145 (Classical.not_not.mp c2) rfl rfl (xcs xvN (Nat.le_of_ble_eq_true rfl)) rfl rfl (xD (Nat.le_of_ble_eq_true rfl)) l2 r2 ?_
  refine X.iload_n dX1_damp_5 rfl 2 rfl ?_
  refine X.iconst (v := 0) dX1_damp_6 (by decide) ?_
  refine X.bipush (v := 9) dX1_damp_7 (by decide) ?_
  obtain ⟨v9, h9, hf⟩ := ob hf
  refine X.keep fun l9 => C.Si (As := [.int x2, .int (0 : Int32), .int (9 : Int32)]) (rest := []) dX1_damp_9 (w_X1_in h9) cX1_134 rfl rfl (xcs xvN (Nat.le_of_ble_eq_true rfl)) (xD (Nat.le_of_ble_eq_true rfl)) xle.rf l9 ?_
  refine X.if_ne (tgt := 21) dX1_damp_12 (by decide) (fun c12 => ?_) (fun c12 => ?_)
  · have hf := if_f c12 hf
    refine C.aload_n dX1_damp_21 rfl 0 rfl ?_
    obtain ⟨c22, hf⟩ := if_n hf
    obtain ⟨v22, T22, h22, hf, l22, r22⟩ := cl_ok hf
    refine C.Vv (As := []) (rest := []) dX1_damp_22 (w_X1_keepAct h22) cX1_196 (Classical.not_not.mp c22) rfl rfl (xcs xvN (Nat.le_of_ble_eq_true rfl)) rfl rfl (xD (Nat.le_of_ble_eq_true rfl)) l22 r22 ?_
    refine C.aload_n dX1_damp_25 rfl 0 rfl ?_
    obtain ⟨v26, h26, hf⟩ := ob hf
    refine C.getQ dX1_damp_26 rX1_38 h26 ?_
    obtain ⟨v29, h29, hf⟩ := ob hf
    refine C.getQ dX1_damp_29 rX1_149 h29 ?_
    refine X.iload_n dX1_damp_32 rfl 1 rfl ?_
    obtain ⟨v33, h33, hf⟩ := ob hf
    refine C.iald dX1_damp_33 h33 ?_
    refine C.ist_n (L' := [(3, .int v33), (0, va_rf x0), (1, .int x1), (2, .int x2)]) dX1_damp_34 rfl (Nat.le_of_ble_eq_true rfl) (xcQ (xcI (xcI xcN))) rfl ?_
    refine C.aload_n dX1_damp_35 rfl 1 rfl ?_
    obtain ⟨v36, h36, hf⟩ := ob hf
    refine C.getQ dX1_damp_36 rX1_38 h36 ?_
    obtain ⟨v39, h39, hf⟩ := ob hf
    refine C.getQ dX1_damp_39 rX1_149 h39 ?_
    refine X.iload_n dX1_damp_42 rfl 2 rfl ?_
    refine X.iload_n dX1_damp_43 rfl 3 rfl ?_
    obtain ⟨T44, h44, hf⟩ := ob hf
    refine C.iast dX1_damp_44 h44 ?_
    refine X.iload_n dX1_damp_45 rfl 0 rfl ?_
    obtain rfl := Option.some.inj hf
    exact X.iret dX1_damp_46 rfl rfl rfl
  · have hf := if_t c12 hf
    refine C.aload_n dX1_damp_15 rfl 0 rfl ?_
    refine X.iconst (v := 1) dX1_damp_16 (by decide) ?_
    obtain ⟨c17, hf⟩ := if_n hf
    obtain ⟨v17, T17, h17, hf, l17, r17⟩ := cl_ok hf
    refine C.Vi (As := [.int (1 : Int32)]) (rest := []) dX1_damp_17 (w_X1_refuse h17) cX1_193 (Classical.not_not.mp c17) rfl rfl (xcs xvN (Nat.le_of_ble_eq_true rfl)) rfl rfl (xD (Nat.le_of_ble_eq_true rfl)) l17 r17 ?_
    obtain rfl := Option.some.inj hf
    exact X.iret dX1_damp_20 rfl rfl rfl
/-! MouldVotes bread -/
abbrev cX1_bread : ByteArray := prog_1_method_22_code
def yX1_bread : MethodName := ⟨RX1, "bread", "(II)I"⟩
def dkwX1_bread_1 : List UInt8 := [182, 0, 196, 42, 180, 0, 38, 27, 28, 182, 0, 203, 42, 180, 0, 38, 180, 0, 152, 27, 46, 172]
abbrev dktX1_bread_1 : List UInt8 := dkwX1_bread_1 ++ []
def dkwX1_bread_0 : List UInt8 := [42, 27, 182, 0, 145, 28, 4, 16, 50, 184, 0, 134, 154, 0, 9, 42, 4, 182, 0, 193, 172, 42]
abbrev dktX1_bread_0 : List UInt8 := dkwX1_bread_0 ++ dktX1_bread_1
theorem dksX1_bread_0 : cX1_bread.data.toList.drop 0 = dktX1_bread_0 := by decide +kernel
theorem dksX1_bread_1 : cX1_bread.data.toList.drop 22 = dktX1_bread_1 := dk_seg dksX1_bread_0 22 rfl rfl
theorem dX1_bread_0 : decode cX1_bread 0 = .ok (.aload_n 0, 1) := dk_42 (dk_at dksX1_bread_0 0 rfl rfl)
theorem dX1_bread_1 : decode cX1_bread 1 = .ok (.iload_n 1, 1) := dk_27 (dk_at dksX1_bread_0 1 rfl rfl)
theorem dX1_bread_2 : decode cX1_bread 2 = .ok (.invokevirtual 145, 3) := dk_182 0 145 (dk_at dksX1_bread_0 2 rfl rfl)
theorem dX1_bread_5 : decode cX1_bread 5 = .ok (.iload_n 2, 1) := dk_28 (dk_at dksX1_bread_0 5 rfl rfl)
theorem dX1_bread_6 : decode cX1_bread 6 = .ok (.iconst 1, 1) := dk_4 (dk_at dksX1_bread_0 6 rfl rfl)
theorem dX1_bread_7 : decode cX1_bread 7 = .ok (.bipush 50, 2) := dk_16 50 (dk_at dksX1_bread_0 7 rfl rfl)
theorem dX1_bread_9 : decode cX1_bread 9 = .ok (.invokestatic 134, 3) := dk_184 0 134 (dk_at dksX1_bread_0 9 rfl rfl)
theorem dX1_bread_12 : decode cX1_bread 12 = .ok (.ifCond .ne 9, 3) := dk_154 0 9 (dk_at dksX1_bread_0 12 rfl rfl)
theorem dX1_bread_15 : decode cX1_bread 15 = .ok (.aload_n 0, 1) := dk_42 (dk_at dksX1_bread_0 15 rfl rfl)
theorem dX1_bread_16 : decode cX1_bread 16 = .ok (.iconst 1, 1) := dk_4 (dk_at dksX1_bread_0 16 rfl rfl)
theorem dX1_bread_17 : decode cX1_bread 17 = .ok (.invokevirtual 193, 3) := dk_182 0 193 (dk_at dksX1_bread_0 17 rfl rfl)
theorem dX1_bread_20 : decode cX1_bread 20 = .ok (.ireturn, 1) := dk_172 (dk_at dksX1_bread_0 20 rfl rfl)
theorem dX1_bread_21 : decode cX1_bread 21 = .ok (.aload_n 0, 1) := dk_42 (dk_at dksX1_bread_0 21 rfl rfl)
theorem dX1_bread_22 : decode cX1_bread 22 = .ok (.invokevirtual 196, 3) := dk_182 0 196 (dk_at dksX1_bread_1 0 rfl rfl)
theorem dX1_bread_25 : decode cX1_bread 25 = .ok (.aload_n 0, 1) := dk_42 (dk_at dksX1_bread_1 3 rfl rfl)
theorem dX1_bread_26 : decode cX1_bread 26 = .ok (.getfield 38, 3) := dk_180 0 38 (dk_at dksX1_bread_1 4 rfl rfl)
theorem dX1_bread_29 : decode cX1_bread 29 = .ok (.iload_n 1, 1) := dk_27 (dk_at dksX1_bread_1 7 rfl rfl)
theorem dX1_bread_30 : decode cX1_bread 30 = .ok (.iload_n 2, 1) := dk_28 (dk_at dksX1_bread_1 8 rfl rfl)
theorem dX1_bread_31 : decode cX1_bread 31 = .ok (.invokevirtual 203, 3) := dk_182 0 203 (dk_at dksX1_bread_1 9 rfl rfl)
theorem dX1_bread_34 : decode cX1_bread 34 = .ok (.aload_n 0, 1) := dk_42 (dk_at dksX1_bread_1 12 rfl rfl)
theorem dX1_bread_35 : decode cX1_bread 35 = .ok (.getfield 38, 3) := dk_180 0 38 (dk_at dksX1_bread_1 13 rfl rfl)
theorem dX1_bread_38 : decode cX1_bread 38 = .ok (.getfield 152, 3) := dk_180 0 152 (dk_at dksX1_bread_1 16 rfl rfl)
theorem dX1_bread_41 : decode cX1_bread 41 = .ok (.iload_n 1, 1) := dk_27 (dk_at dksX1_bread_1 19 rfl rfl)
theorem dX1_bread_42 : decode cX1_bread 42 = .ok (.iaload, 1) := dk_46 (dk_at dksX1_bread_1 20 rfl rfl)
theorem dX1_bread_43 : decode cX1_bread 43 = .ok (.ireturn, 1) := dk_172 (dk_at dksX1_bread_1 21 rfl rfl)
abbrev mX1_bread : xM := (yX1_bread, cX1_bread, 3, (some .int), [])
def c_X1_bread (G : xG) (x0 : Option Nat) (x1 : Int32) (x2 : Int32) (T : xF) : Option ((Int32 ⊕ xE) × xF) :=
  if ¬ isO T x0 0 = true then none else
  clX (c_X1_aCell x0 x1 T) T fun v2 T2 =>
  (c_X1_in x2 (1 : Int32) (50 : Int32)).bind fun v9 =>
  if v9 = 0 then
    if ¬ isO T2 x0 0 = true then none else
    cl (c_X1_refuse x0 (1 : Int32) T2) T2 fun v17 T17 =>
    some (.inl v17, T17)
  else
    if ¬ isO T2 x0 0 = true then none else
    cl (c_X1_keepAct G x0 T2) T2 fun v22 T22 =>
    (oQ T22 x0 0 4).bind fun v26 =>
    if ¬ isO T22 v26 2 = true then none else
    cl (c_X3_feed v26 x1 x2 T22) T22 fun v31 T31 =>
    (oQ T31 x0 0 4).bind fun v35 =>
    (oQ T31 v35 2 1).bind fun v38 =>
    (ldA T31 v38 .int x1).bind fun v42 =>
    some (.inl v42, T31)
theorem w_X1_bread {G : xG}  {T : xF} {x0 : Option Nat} {x1 : Int32} {x2 : Int32} {q : ((Int32 ⊕ xE) × xF)} (hf : c_X1_bread G x0 x1 x2 T = some q) : Ct G mX1_bread (9) T [va_rf x0, .int x1, .int x2] (xoI q.1) q.2 := by
  refine Ct.ofc (plainFor_of_name (by decide +kernel)) rfl (xvQ (xvI (xvI xvN))) (Nat.le_of_ble_eq_true rfl) (show Xr G _ 0 [(0, va_rf x0), (1, .int x1), (2, .int x2)] [] _ from ?_)
  unfold c_X1_bread at hf
  refine C.aload_n dX1_bread_0 rfl 0 rfl ?_
  refine X.iload_n dX1_bread_1 rfl 1 rfl ?_
  obtain ⟨c2, hf⟩ := if_n hf
  rcases clX_ok hf with ⟨v2, T2, h2, hf, l2, r2⟩ | ⟨e2, T2, h2, rfl, l2⟩
  rotate_left
  · exact C.Vx (As := [.int x1]) (rest := []) dX1_bread_2 (w_X1_aCell h2) cX1_145 (Classical.not_not.mp c2) rfl rfl (xcs xvN (Nat.le_of_ble_eq_true rfl)) rfl rfl (xD (Nat.le_of_ble_eq_true rfl)) l2 xle.rf (xnoh rfl) rfl
  refine C.Vv (As := [.int x1]) (rest := []) dX1_bread_2 (w_X1_aCell h2) cX1_145 (Classical.not_not.mp c2) rfl rfl (xcs xvN (Nat.le_of_ble_eq_true rfl)) rfl rfl (xD (Nat.le_of_ble_eq_true rfl)) l2 r2 ?_
  refine X.iload_n dX1_bread_5 rfl 2 rfl ?_
  refine X.iconst (v := 1) dX1_bread_6 (by decide) ?_
  refine X.bipush (v := 50) dX1_bread_7 (by decide) ?_
  obtain ⟨v9, h9, hf⟩ := ob hf
  refine X.keep fun l9 => C.Si (As := [.int x2, .int (1 : Int32), .int (50 : Int32)]) (rest := []) dX1_bread_9 (w_X1_in h9) cX1_134 rfl rfl (xcs xvN (Nat.le_of_ble_eq_true rfl)) (xD (Nat.le_of_ble_eq_true rfl)) xle.rf l9 ?_
  refine X.if_ne (tgt := 21) dX1_bread_12 (by decide) (fun c12 => ?_) (fun c12 => ?_)
  · have hf := if_f c12 hf
    refine C.aload_n dX1_bread_21 rfl 0 rfl ?_
    obtain ⟨c22, hf⟩ := if_n hf
    obtain ⟨v22, T22, h22, hf, l22, r22⟩ := cl_ok hf
    refine C.Vv (As := []) (rest := []) dX1_bread_22 (w_X1_keepAct h22) cX1_196 (Classical.not_not.mp c22) rfl rfl (xcs xvN (Nat.le_of_ble_eq_true rfl)) rfl rfl (xD (Nat.le_of_ble_eq_true rfl)) l22 r22 ?_
    refine C.aload_n dX1_bread_25 rfl 0 rfl ?_
    obtain ⟨v26, h26, hf⟩ := ob hf
    refine C.getQ dX1_bread_26 rX1_38 h26 ?_
    refine X.iload_n dX1_bread_29 rfl 1 rfl ?_
    refine X.iload_n dX1_bread_30 rfl 2 rfl ?_
    obtain ⟨c31, hf⟩ := if_n hf
    obtain ⟨v31, T31, h31, hf, l31, r31⟩ := cl_ok hf
    refine C.Vv (As := [.int x1, .int x2]) (rest := []) dX1_bread_31 (w_X3_feed h31) cX1_203 (Classical.not_not.mp c31) rfl rfl (xcs xvN (Nat.le_of_ble_eq_true rfl)) rfl rfl (xD (Nat.le_of_ble_eq_true rfl)) l31 r31 ?_
    refine C.aload_n dX1_bread_34 rfl 0 rfl ?_
    obtain ⟨v35, h35, hf⟩ := ob hf
    refine C.getQ dX1_bread_35 rX1_38 h35 ?_
    obtain ⟨v38, h38, hf⟩ := ob hf
    refine C.getQ dX1_bread_38 rX1_152 h38 ?_
    refine X.iload_n dX1_bread_41 rfl 1 rfl ?_
    obtain ⟨v42, h42, hf⟩ := ob hf
    refine C.iald dX1_bread_42 h42 ?_
    obtain rfl := Option.some.inj hf
    exact X.iret dX1_bread_43 rfl rfl rfl
  · have hf := if_t c12 hf
    refine C.aload_n dX1_bread_15 rfl 0 rfl ?_
    refine X.iconst (v := 1) dX1_bread_16 (by decide) ?_
    obtain ⟨c17, hf⟩ := if_n hf
    obtain ⟨v17, T17, h17, hf, l17, r17⟩ := cl_ok hf
    refine C.Vi (As := [.int (1 : Int32)]) (rest := []) dX1_bread_17 (w_X1_refuse h17) cX1_193 (Classical.not_not.mp c17) rfl rfl (xcs xvN (Nat.le_of_ble_eq_true rfl)) rfl rfl (xD (Nat.le_of_ble_eq_true rfl)) l17 r17 ?_
    obtain rfl := Option.some.inj hf
    exact X.iret dX1_bread_20 rfl rfl rfl
/-! MouldVotes votes -/
abbrev cX1_votes : ByteArray := prog_1_method_18_code
def yX1_votes : MethodName := ⟨RX1, "votes", "(I)I"⟩
def dkwX1_votes_0 : List UInt8 := [27, 184, 0, 176, 42, 180, 0, 38, 27, 182, 0, 179, 172]
abbrev dktX1_votes_0 : List UInt8 := dkwX1_votes_0 ++ []
theorem dksX1_votes_0 : cX1_votes.data.toList.drop 0 = dktX1_votes_0 := by decide +kernel
theorem dX1_votes_0 : decode cX1_votes 0 = .ok (.iload_n 1, 1) := dk_27 (dk_at dksX1_votes_0 0 rfl rfl)
theorem dX1_votes_1 : decode cX1_votes 1 = .ok (.invokestatic 176, 3) := dk_184 0 176 (dk_at dksX1_votes_0 1 rfl rfl)
theorem dX1_votes_4 : decode cX1_votes 4 = .ok (.aload_n 0, 1) := dk_42 (dk_at dksX1_votes_0 4 rfl rfl)
theorem dX1_votes_5 : decode cX1_votes 5 = .ok (.getfield 38, 3) := dk_180 0 38 (dk_at dksX1_votes_0 5 rfl rfl)
theorem dX1_votes_8 : decode cX1_votes 8 = .ok (.iload_n 1, 1) := dk_27 (dk_at dksX1_votes_0 8 rfl rfl)
theorem dX1_votes_9 : decode cX1_votes 9 = .ok (.invokevirtual 179, 3) := dk_182 0 179 (dk_at dksX1_votes_0 9 rfl rfl)
theorem dX1_votes_12 : decode cX1_votes 12 = .ok (.ireturn, 1) := dk_172 (dk_at dksX1_votes_0 12 rfl rfl)
abbrev mX1_votes : xM := (yX1_votes, cX1_votes, 2, (some .int), [])
def c_X1_votes (x0 : Option Nat) (x1 : Int32) (T : xF) : Option ((Int32 ⊕ xE) × xF) :=
  clX (c_X1_aParty x1 T) T fun v1 T1 =>
  (oQ T1 x0 0 4).bind fun v5 =>
  if ¬ isO T1 v5 2 = true then none else
  (c_X3_votes T1 v5 x1).bind fun v9 =>
  some (.inl v9, T1)
theorem w_X1_votes {G : xG}  {T : xF} {x0 : Option Nat} {x1 : Int32} {q : ((Int32 ⊕ xE) × xF)} (hf : c_X1_votes x0 x1 T = some q) : Ct G mX1_votes (10) T [va_rf x0, .int x1] (xoI q.1) q.2 := by
  refine Ct.ofc (plainFor_of_name (by decide +kernel)) rfl (xvQ (xvI xvN)) (Nat.le_of_ble_eq_true rfl) (show Xr G _ 0 [(0, va_rf x0), (1, .int x1)] [] _ from ?_)
  unfold c_X1_votes at hf
  refine X.iload_n dX1_votes_0 rfl 1 rfl ?_
  rcases clX_ok hf with ⟨v1, T1, h1, hf, l1, r1⟩ | ⟨e1, T1, h1, rfl, l1⟩
  rotate_left
  · exact C.Sx (As := [.int x1]) (rest := []) dX1_votes_1 (w_X1_aParty h1) cX1_176 rfl rfl (xcs xvN (Nat.le_of_ble_eq_true rfl)) (xD (Nat.le_of_ble_eq_true rfl)) l1 xle.rf (xnoh rfl) rfl
  refine C.Sv (As := [.int x1]) (rest := []) dX1_votes_1 (w_X1_aParty h1) cX1_176 rfl rfl (xcs xvN (Nat.le_of_ble_eq_true rfl)) (xD (Nat.le_of_ble_eq_true rfl)) l1 r1 ?_
  refine C.aload_n dX1_votes_4 rfl 0 rfl ?_
  obtain ⟨v5, h5, hf⟩ := ob hf
  refine C.getQ dX1_votes_5 rX1_38 h5 ?_
  refine X.iload_n dX1_votes_8 rfl 1 rfl ?_
  obtain ⟨c9, hf⟩ := if_n hf
  obtain ⟨v9, h9, hf⟩ := ob hf
  refine X.keep fun l9 => C.Vi (As := [.int x1]) (rest := []) dX1_votes_9 (w_X3_votes h9) cX1_179 (Classical.not_not.mp c9) rfl rfl (xcs xvN (Nat.le_of_ble_eq_true rfl)) rfl rfl (xD (Nat.le_of_ble_eq_true rfl)) xle.rf l9 ?_
  obtain rfl := Option.some.inj hf
  exact X.iret dX1_votes_12 rfl rfl rfl
/-! MouldVotes party -/
abbrev cX1_party : ByteArray := prog_1_method_16_code
def yX1_party : MethodName := ⟨RX1, "party", "(I)I"⟩
def dkwX1_party_1 : List UInt8 := [180, 0, 101, 27, 185, 0, 167, 2, 0, 192, 0, 171, 182, 0, 173, 172]
abbrev dktX1_party_1 : List UInt8 := dkwX1_party_1 ++ []
def dkwX1_party_0 : List UInt8 := [27, 42, 180, 0, 22, 180, 0, 101, 185, 0, 104, 1, 0, 4, 100, 184, 0, 163, 42, 180, 0, 22]
abbrev dktX1_party_0 : List UInt8 := dkwX1_party_0 ++ dktX1_party_1
theorem dksX1_party_0 : cX1_party.data.toList.drop 0 = dktX1_party_0 := by decide +kernel
theorem dksX1_party_1 : cX1_party.data.toList.drop 22 = dktX1_party_1 := dk_seg dksX1_party_0 22 rfl rfl
theorem dX1_party_0 : decode cX1_party 0 = .ok (.iload_n 1, 1) := dk_27 (dk_at dksX1_party_0 0 rfl rfl)
theorem dX1_party_1 : decode cX1_party 1 = .ok (.aload_n 0, 1) := dk_42 (dk_at dksX1_party_0 1 rfl rfl)
theorem dX1_party_2 : decode cX1_party 2 = .ok (.getfield 22, 3) := dk_180 0 22 (dk_at dksX1_party_0 2 rfl rfl)
theorem dX1_party_5 : decode cX1_party 5 = .ok (.getfield 101, 3) := dk_180 0 101 (dk_at dksX1_party_0 5 rfl rfl)
theorem dX1_party_8 : decode cX1_party 8 = .ok (.invokeinterface 104 1, 5) := by decide +kernel
theorem dX1_party_13 : decode cX1_party 13 = .ok (.iconst 1, 1) := dk_4 (dk_at dksX1_party_0 13 rfl rfl)
theorem dX1_party_14 : decode cX1_party 14 = .ok (.isub, 1) := dk_100 (dk_at dksX1_party_0 14 rfl rfl)
theorem dX1_party_15 : decode cX1_party 15 = .ok (.invokestatic 163, 3) := dk_184 0 163 (dk_at dksX1_party_0 15 rfl rfl)
theorem dX1_party_18 : decode cX1_party 18 = .ok (.aload_n 0, 1) := dk_42 (dk_at dksX1_party_0 18 rfl rfl)
theorem dX1_party_19 : decode cX1_party 19 = .ok (.getfield 22, 3) := dk_180 0 22 (dk_at dksX1_party_0 19 rfl rfl)
theorem dX1_party_22 : decode cX1_party 22 = .ok (.getfield 101, 3) := dk_180 0 101 (dk_at dksX1_party_1 0 rfl rfl)
theorem dX1_party_25 : decode cX1_party 25 = .ok (.iload_n 1, 1) := dk_27 (dk_at dksX1_party_1 3 rfl rfl)
theorem dX1_party_26 : decode cX1_party 26 = .ok (.invokeinterface 167 2, 5) := by decide +kernel
theorem dX1_party_31 : decode cX1_party 31 = .ok (.checkcast 171, 3) := dk_192 0 171 (dk_at dksX1_party_1 9 rfl rfl)
theorem dX1_party_34 : decode cX1_party 34 = .ok (.invokevirtual 173, 3) := dk_182 0 173 (dk_at dksX1_party_1 12 rfl rfl)
theorem dX1_party_37 : decode cX1_party 37 = .ok (.ireturn, 1) := dk_172 (dk_at dksX1_party_1 15 rfl rfl)
abbrev mX1_party : xM := (yX1_party, cX1_party, 2, (some .int), [])
def c_X1_party (x0 : Option Nat) (x1 : Int32) (T : xF) : Option ((Int32 ⊕ xE) × xF) :=
  (oQ T x0 0 1).bind fun v2 =>
  (oQ T v2 1 0).bind fun v5 =>
  if ¬ isO T v5 10 = true then none else
  (c_J2_size T v5).bind fun v8 =>
  clX (c_X1_oneOf x1 (v8 - (1 : Int32)) T) T fun v15 T15 =>
  (oQ T15 x0 0 1).bind fun v19 =>
  (oQ T15 v19 1 0).bind fun v22 =>
  if ¬ isO T15 v22 10 = true then none else
  (c_J2_get T15 v22 x1).bind fun v26 =>
  if ¬ cst T15 v26 [11] = true then none else
  if ¬ isO T15 v26 11 = true then none else
  (c_J14_intValue T15 v26).bind fun v34 =>
  some (.inl v34, T15)
theorem w_X1_party {G : xG}  {T : xF} {x0 : Option Nat} {x1 : Int32} {q : ((Int32 ⊕ xE) × xF)} (hf : c_X1_party x0 x1 T = some q) : Ct G mX1_party (9) T [va_rf x0, .int x1] (xoI q.1) q.2 := by
  refine Ct.ofc (plainFor_of_name (by decide +kernel)) rfl (xvQ (xvI xvN)) (Nat.le_of_ble_eq_true rfl) (show Xr G _ 0 [(0, va_rf x0), (1, .int x1)] [] _ from ?_)
  unfold c_X1_party at hf
  refine X.iload_n dX1_party_0 rfl 1 rfl ?_
  refine C.aload_n dX1_party_1 rfl 0 rfl ?_
  obtain ⟨v2, h2, hf⟩ := ob hf
  refine C.getQ dX1_party_2 rX1_22 h2 ?_
  obtain ⟨v5, h5, hf⟩ := ob hf
  refine C.getQ dX1_party_5 rX1_101 h5 ?_
  obtain ⟨c8, hf⟩ := if_n hf
  obtain ⟨v8, h8, hf⟩ := ob hf
  refine X.keep fun l8 => C.Fi (As := []) (rest := [.int x1]) dX1_party_8 (w_J2_size h8) cX1_104 (Classical.not_not.mp c8) rfl rfl (xcs (xvI xvN) (Nat.le_of_ble_eq_true rfl)) rfl rfl (xD (Nat.le_of_ble_eq_true rfl)) xle.rf l8 ?_
  refine X.iconst (v := 1) dX1_party_13 (by decide) ?_
  refine X.isub dX1_party_14 ?_
  rcases clX_ok hf with ⟨v15, T15, h15, hf, l15, r15⟩ | ⟨e15, T15, h15, rfl, l15⟩
  rotate_left
  · exact C.Sx (As := [.int x1, .int (v8 - (1 : Int32))]) (rest := []) dX1_party_15 (w_X1_oneOf h15) cX1_163 rfl rfl (xcs xvN (Nat.le_of_ble_eq_true rfl)) (xD (Nat.le_of_ble_eq_true rfl)) l15 xle.rf (xnoh rfl) rfl
  refine C.Sv (As := [.int x1, .int (v8 - (1 : Int32))]) (rest := []) dX1_party_15 (w_X1_oneOf h15) cX1_163 rfl rfl (xcs xvN (Nat.le_of_ble_eq_true rfl)) (xD (Nat.le_of_ble_eq_true rfl)) l15 r15 ?_
  refine C.aload_n dX1_party_18 rfl 0 rfl ?_
  obtain ⟨v19, h19, hf⟩ := ob hf
  refine C.getQ dX1_party_19 rX1_22 h19 ?_
  obtain ⟨v22, h22, hf⟩ := ob hf
  refine C.getQ dX1_party_22 rX1_101 h22 ?_
  refine X.iload_n dX1_party_25 rfl 1 rfl ?_
  obtain ⟨c26, hf⟩ := if_n hf
  obtain ⟨v26, h26, hf⟩ := ob hf
  refine X.keep fun l26 => C.Fq (As := [.int x1]) (rest := []) dX1_party_26 (w_J2_get h26) cX1_167 (Classical.not_not.mp c26) rfl rfl (xcs xvN (Nat.le_of_ble_eq_true rfl)) rfl rfl (xD (Nat.le_of_ble_eq_true rfl)) xle.rf l26 ?_
  obtain ⟨c31, hf⟩ := if_n hf
  refine C.cast dX1_party_31 q659 ca_Integer (Classical.not_not.mp c31) ?_
  obtain ⟨c34, hf⟩ := if_n hf
  obtain ⟨v34, h34, hf⟩ := ob hf
  refine X.keep fun l34 => C.Vi (As := []) (rest := []) dX1_party_34 (w_J14_intValue h34) cX1_173 (Classical.not_not.mp c34) rfl rfl (xcs xvN (Nat.le_of_ble_eq_true rfl)) rfl rfl (xD (Nat.le_of_ble_eq_true rfl)) xle.rf l34 ?_
  obtain rfl := Option.some.inj hf
  exact X.iret dX1_party_37 rfl rfl rfl
/-! MouldVotes beside -/
abbrev cX1_beside : ByteArray := prog_1_method_14_code
def yX1_beside : MethodName := ⟨RX1, "beside", "(I)I"⟩
def dkwX1_beside_1 : List UInt8 := [4, 160, 0, 6, 132, 2, 1, 132, 3, 1, 167, 255, 226, 28, 172]
abbrev dktX1_beside_1 : List UInt8 := dkwX1_beside_1 ++ []
def dkwX1_beside_0 : List UInt8 := [3, 61, 3, 62, 29, 42, 180, 0, 22, 182, 0, 92, 162, 0, 25, 42, 180, 0, 22, 29, 27, 182, 0, 141]
abbrev dktX1_beside_0 : List UInt8 := dkwX1_beside_0 ++ dktX1_beside_1
theorem dksX1_beside_0 : cX1_beside.data.toList.drop 0 = dktX1_beside_0 := by decide +kernel
theorem dksX1_beside_1 : cX1_beside.data.toList.drop 24 = dktX1_beside_1 := dk_seg dksX1_beside_0 24 rfl rfl
theorem dX1_beside_0 : decode cX1_beside 0 = .ok (.iconst 0, 1) := dk_3 (dk_at dksX1_beside_0 0 rfl rfl)
theorem dX1_beside_1 : decode cX1_beside 1 = .ok (.istore_n 2, 1) := dk_61 (dk_at dksX1_beside_0 1 rfl rfl)
theorem dX1_beside_2 : decode cX1_beside 2 = .ok (.iconst 0, 1) := dk_3 (dk_at dksX1_beside_0 2 rfl rfl)
theorem dX1_beside_3 : decode cX1_beside 3 = .ok (.istore_n 3, 1) := dk_62 (dk_at dksX1_beside_0 3 rfl rfl)
theorem dX1_beside_4 : decode cX1_beside 4 = .ok (.iload_n 3, 1) := dk_29 (dk_at dksX1_beside_0 4 rfl rfl)
theorem dX1_beside_5 : decode cX1_beside 5 = .ok (.aload_n 0, 1) := dk_42 (dk_at dksX1_beside_0 5 rfl rfl)
theorem dX1_beside_6 : decode cX1_beside 6 = .ok (.getfield 22, 3) := dk_180 0 22 (dk_at dksX1_beside_0 6 rfl rfl)
theorem dX1_beside_9 : decode cX1_beside 9 = .ok (.invokevirtual 92, 3) := dk_182 0 92 (dk_at dksX1_beside_0 9 rfl rfl)
theorem dX1_beside_12 : decode cX1_beside 12 = .ok (.if_icmp .ge 25, 3) := dk_162 0 25 (dk_at dksX1_beside_0 12 rfl rfl)
theorem dX1_beside_15 : decode cX1_beside 15 = .ok (.aload_n 0, 1) := dk_42 (dk_at dksX1_beside_0 15 rfl rfl)
theorem dX1_beside_16 : decode cX1_beside 16 = .ok (.getfield 22, 3) := dk_180 0 22 (dk_at dksX1_beside_0 16 rfl rfl)
theorem dX1_beside_19 : decode cX1_beside 19 = .ok (.iload_n 3, 1) := dk_29 (dk_at dksX1_beside_0 19 rfl rfl)
theorem dX1_beside_20 : decode cX1_beside 20 = .ok (.iload_n 1, 1) := dk_27 (dk_at dksX1_beside_0 20 rfl rfl)
theorem dX1_beside_21 : decode cX1_beside 21 = .ok (.invokevirtual 141, 3) := dk_182 0 141 (dk_at dksX1_beside_0 21 rfl rfl)
theorem dX1_beside_24 : decode cX1_beside 24 = .ok (.iconst 1, 1) := dk_4 (dk_at dksX1_beside_1 0 rfl rfl)
theorem dX1_beside_25 : decode cX1_beside 25 = .ok (.if_icmp .ne 6, 3) := dk_160 0 6 (dk_at dksX1_beside_1 1 rfl rfl)
theorem dX1_beside_28 : decode cX1_beside 28 = .ok (.iinc 2 1, 3) := dk_132 2 1 (dk_at dksX1_beside_1 4 rfl rfl)
theorem dX1_beside_31 : decode cX1_beside 31 = .ok (.iinc 3 1, 3) := dk_132 3 1 (dk_at dksX1_beside_1 7 rfl rfl)
theorem dX1_beside_34 : decode cX1_beside 34 = .ok (.goto (-30), 3) := dk_167 255 226 (dk_at dksX1_beside_1 10 rfl rfl)
theorem dX1_beside_37 : decode cX1_beside 37 = .ok (.iload_n 2, 1) := dk_28 (dk_at dksX1_beside_1 13 rfl rfl)
theorem dX1_beside_38 : decode cX1_beside 38 = .ok (.ireturn, 1) := dk_172 (dk_at dksX1_beside_1 14 rfl rfl)
abbrev mX1_beside : xM := (yX1_beside, cX1_beside, 4, (some .int), [])
def c_X1_beside_31 (T : xF) (k4 : Option Nat → Int32 → Int32 → Int32 → Option Int32) (x0 : Option Nat) (x1 : Int32) (x2 : Int32) (x3 : Int32) : Option Int32 :=
  k4 x0 x1 x2 (x3 + 1)
theorem c_X1_beside_31_ok {G : xG}  {T : xF} {k4 : Option Nat → Int32 → Int32 → Int32 → Option Int32} (hk4 : ∀ (x0 : Option Nat) (x1 : Int32) (x2 : Int32) (x3 : Int32) (q : Int32), k4 x0 x1 x2 x3 = some q → Xr G (mX1_beside, xrm (3) T T, T, .inl (some (.int q)), T) 4 [(0, va_rf x0), (1, .int x1), (2, .int x2), (3, .int x3)] [] T) (x0 : Option Nat) (x1 : Int32) (x2 : Int32) (x3 : Int32) (q : Int32) (hf : c_X1_beside_31 T k4 x0 x1 x2 x3 = some q) : Xr G (mX1_beside, xrm (3) T T, T, .inl (some (.int q)), T) 31 [(0, va_rf x0), (1, .int x1), (2, .int x2), (3, .int x3)] [] T := by
  unfold c_X1_beside_31 at hf
  refine C.iinc (v := (x3 + 1)) (L' := [(3, .int (x3 + 1)), (0, va_rf x0), (1, .int x1), (2, .int x2)]) dX1_beside_31 3 rfl rfl (Nat.le_of_ble_eq_true rfl) (xcQ (xcI (xcI (xcI xcN)))) rfl ?_
  refine X.goto (tgt := 4) dX1_beside_34 (by decide) ?_
  refine X.sub [1, 2, 3, 0] (L' := [(0, va_rf x0), (1, .int x1), (2, .int x2), (3, .int (x3 + 1))]) rfl ?_
  exact hk4 _ _ _ _ _ hf
def c_X1_beside_4_b (T : xF) (k4 : Option Nat → Int32 → Int32 → Int32 → Option Int32) (x0 : Option Nat) (x1 : Int32) (x2 : Int32) (x3 : Int32) : Option Int32 :=
  (oQ T x0 0 1).bind fun v6 =>
  if ¬ isO T v6 1 = true then none else
  (c_X2_cells T v6).bind fun v9 =>
  if v9 ≤ x3 then
    some x2
  else
    (oQ T x0 0 1).bind fun v16 =>
    if ¬ isO T v16 1 = true then none else
    (c_X2_steps T v16 x3 x1).bind fun v21 =>
    if v21 = (1 : Int32) then
      c_X1_beside_31 T k4 x0 x1 (x2 + 1) x3
    else
      c_X1_beside_31 T k4 x0 x1 x2 x3
def c_X1_beside_4 (T : xF) : Nat → Option Nat → Int32 → Int32 → Int32 → Option Int32
  | 0 => fun _ _ _ _ => none
  | n + 1 => fun x0 x1 x2 x3 => c_X1_beside_4_b T (c_X1_beside_4 T n) x0 x1 x2 x3
theorem c_X1_beside_4_bok {G : xG}  {T : xF}  {k4 : Option Nat → Int32 → Int32 → Int32 → Option Int32}  (hk4 : ∀ (x0 : Option Nat) (x1 : Int32) (x2 : Int32) (x3 : Int32) (q : Int32), k4 x0 x1 x2 x3 = some q → Xr G (mX1_beside, xrm (3) T T, T, .inl (some (.int q)), T) 4 [(0, va_rf x0), (1, .int x1), (2, .int x2), (3, .int x3)] [] T) (x0 : Option Nat) (x1 : Int32) (x2 : Int32) (x3 : Int32) (q : Int32) (hf : c_X1_beside_4_b T k4 x0 x1 x2 x3 = some q) : Xr G (mX1_beside, xrm (3) T T, T, .inl (some (.int q)), T) 4 [(0, va_rf x0), (1, .int x1), (2, .int x2), (3, .int x3)] [] T := by
  unfold c_X1_beside_4_b at hf
  refine X.iload_n dX1_beside_4 rfl 3 rfl ?_
  refine C.aload_n dX1_beside_5 rfl 0 rfl ?_
  obtain ⟨v6, h6, hf⟩ := ob hf
  refine C.getQ dX1_beside_6 rX1_22 h6 ?_
  obtain ⟨c9, hf⟩ := if_n hf
  obtain ⟨v9, h9, hf⟩ := ob hf
  refine X.keep fun l9 => C.Vi (As := []) (rest := [.int x3]) dX1_beside_9 (w_X2_cells h9) cX1_92 (Classical.not_not.mp c9) rfl rfl (xcs (xvI xvN) (Nat.le_of_ble_eq_true rfl)) rfl rfl (xD (Nat.le_of_ble_eq_true rfl)) xle.rf l9 ?_
  refine X.icmp_ge (tgt := 37) dX1_beside_12 (by decide) (fun c12 => ?_) (fun c12 => ?_)
  · have hf := if_t c12 hf
    refine X.iload_n dX1_beside_37 rfl 2 rfl ?_
    obtain rfl := Option.some.inj hf
    exact X.iret dX1_beside_38 rfl rfl rfl
  · have hf := if_f c12 hf
    refine C.aload_n dX1_beside_15 rfl 0 rfl ?_
    obtain ⟨v16, h16, hf⟩ := ob hf
    refine C.getQ dX1_beside_16 rX1_22 h16 ?_
    refine X.iload_n dX1_beside_19 rfl 3 rfl ?_
    refine X.iload_n dX1_beside_20 rfl 1 rfl ?_
    obtain ⟨c21, hf⟩ := if_n hf
    obtain ⟨v21, h21, hf⟩ := ob hf
    refine X.keep fun l21 => C.Vi (As := [.int x3, .int x1]) (rest := []) dX1_beside_21 (w_X2_steps h21) cX1_141 (Classical.not_not.mp c21) rfl rfl (xcs xvN (Nat.le_of_ble_eq_true rfl)) rfl rfl (xD (Nat.le_of_ble_eq_true rfl)) xle.rf l21 ?_
    refine X.iconst (v := 1) dX1_beside_24 (by decide) ?_
    refine X.icmp_ne (tgt := 31) dX1_beside_25 (by decide) (fun c25 => ?_) (fun c25 => ?_)
    · have hf := if_f c25 hf
      refine X.sub [0, 1, 2, 3] (L' := [(0, va_rf x0), (1, .int x1), (2, .int x2), (3, .int x3)]) rfl ?_
      exact c_X1_beside_31_ok hk4 _ _ _ _ _ hf
    · have hf := if_t c25 hf
      refine C.iinc (v := (x2 + 1)) (L' := [(2, .int (x2 + 1)), (0, va_rf x0), (1, .int x1), (3, .int x3)]) dX1_beside_28 2 rfl rfl (Nat.le_of_ble_eq_true rfl) (xcQ (xcI (xcI (xcI xcN)))) rfl ?_
      refine X.sub [1, 2, 0, 3] (L' := [(0, va_rf x0), (1, .int x1), (2, .int (x2 + 1)), (3, .int x3)]) rfl ?_
      exact c_X1_beside_31_ok hk4 _ _ _ _ _ hf
theorem c_X1_beside_4_ok {G : xG}  {T : xF}   : ∀ (n : Nat) (x0 : Option Nat) (x1 : Int32) (x2 : Int32) (x3 : Int32) (q : Int32), c_X1_beside_4 T n x0 x1 x2 x3 = some q → Xr G (mX1_beside, xrm (3) T T, T, .inl (some (.int q)), T) 4 [(0, va_rf x0), (1, .int x1), (2, .int x2), (3, .int x3)] [] T
  | 0, _, _, _, _, _, hf => by cases hf
  | n + 1, x0, x1, x2, x3, q, hf => c_X1_beside_4_bok (c_X1_beside_4_ok n) x0 x1 x2 x3 q hf
def c_X1_beside (T : xF) (x0 : Option Nat) (x1 : Int32) : Option Int32 :=
  c_X1_beside_4 T FU x0 x1 (0 : Int32) (0 : Int32)
theorem w_X1_beside {G : xG}  {T : xF} {x0 : Option Nat} {x1 : Int32} {q : Int32} (hf : c_X1_beside T x0 x1 = some q) : Ct G mX1_beside (3) T [va_rf x0, .int x1] (.inl (some (.int q))) T := by
  refine Ct.ofc (plainFor_of_name (by decide +kernel)) rfl (xvQ (xvI xvN)) (Nat.le_of_ble_eq_true rfl) (show Xr G _ 0 [(0, va_rf x0), (1, .int x1)] [] _ from ?_)
  unfold c_X1_beside at hf
  refine X.iconst (v := 0) dX1_beside_0 (by decide) ?_
  refine C.ist_n (L' := [(2, .int (0 : Int32)), (0, va_rf x0), (1, .int x1)]) dX1_beside_1 rfl (Nat.le_of_ble_eq_true rfl) (xcQ (xcI xcN)) rfl ?_
  refine X.iconst (v := 0) dX1_beside_2 (by decide) ?_
  refine C.ist_n (L' := [(3, .int (0 : Int32)), (2, .int (0 : Int32)), (0, va_rf x0), (1, .int x1)]) dX1_beside_3 rfl (Nat.le_of_ble_eq_true rfl) (xcI (xcQ (xcI xcN))) rfl ?_
  refine X.sub [2, 3, 1, 0] (L' := [(0, va_rf x0), (1, .int x1), (2, .int (0 : Int32)), (3, .int (0 : Int32))]) rfl ?_
  exact c_X1_beside_4_ok FU _ _ _ _ _ hf
theorem cX1_157 : xCV RX1 157 mX1_beside 1 := ⟨lw_V q1297 q1299 qs42 q121 q1300, rfl, ⟨by decide +kernel, by decide +kernel, by decide +kernel⟩, Nat.le_of_ble_eq_true rfl⟩
/-! MouldVotes cell -/
abbrev cX1_cell : ByteArray := prog_1_method_15_code
def yX1_cell : MethodName := ⟨RX1, "cell", "(II)I"⟩
def dkwX1_cell_4 : List UInt8 := [160, 0, 7, 4, 167, 0, 4, 3, 184, 0, 138, 42, 180, 0, 38, 27, 182, 0, 160, 172]
abbrev dktX1_cell_4 : List UInt8 := dkwX1_cell_4 ++ []
def dkwX1_cell_3 : List UInt8 := [180, 0, 96, 27, 46, 172, 42, 180, 0, 38, 180, 0, 155, 27, 46, 172, 42, 27, 182, 0, 157, 172, 28, 8]
abbrev dktX1_cell_3 : List UInt8 := dkwX1_cell_3 ++ dktX1_cell_4
def dkwX1_cell_2 : List UInt8 := [42, 180, 0, 38, 180, 0, 149, 27, 46, 172, 42, 180, 0, 38, 180, 0, 152, 27, 46, 172, 42, 180, 0, 38]
abbrev dktX1_cell_2 : List UInt8 := dkwX1_cell_2 ++ dktX1_cell_3
def dkwX1_cell_1 : List UInt8 := [170, 0, 0, 0, 0, 80, 0, 0, 0, 0, 0, 0, 0, 4, 0, 0, 0, 34, 0, 0, 0, 44, 0, 0, 0, 54, 0, 0, 0, 64, 0, 0, 0, 74]
abbrev dktX1_cell_1 : List UInt8 := dkwX1_cell_1 ++ dktX1_cell_2
def dkwX1_cell_0 : List UInt8 := [42, 27, 182, 0, 145, 28]
abbrev dktX1_cell_0 : List UInt8 := dkwX1_cell_0 ++ dktX1_cell_1
theorem dksX1_cell_0 : cX1_cell.data.toList.drop 0 = dktX1_cell_0 := by decide +kernel
theorem dksX1_cell_1 : cX1_cell.data.toList.drop 6 = dktX1_cell_1 := dk_seg dksX1_cell_0 6 rfl rfl
theorem dksX1_cell_2 : cX1_cell.data.toList.drop 40 = dktX1_cell_2 := dk_seg dksX1_cell_1 34 rfl rfl
theorem dksX1_cell_3 : cX1_cell.data.toList.drop 64 = dktX1_cell_3 := dk_seg dksX1_cell_2 24 rfl rfl
theorem dksX1_cell_4 : cX1_cell.data.toList.drop 88 = dktX1_cell_4 := dk_seg dksX1_cell_3 24 rfl rfl
theorem dX1_cell_0 : decode cX1_cell 0 = .ok (.aload_n 0, 1) := dk_42 (dk_at dksX1_cell_0 0 rfl rfl)
theorem dX1_cell_1 : decode cX1_cell 1 = .ok (.iload_n 1, 1) := dk_27 (dk_at dksX1_cell_0 1 rfl rfl)
theorem dX1_cell_2 : decode cX1_cell 2 = .ok (.invokevirtual 145, 3) := dk_182 0 145 (dk_at dksX1_cell_0 2 rfl rfl)
theorem dX1_cell_5 : decode cX1_cell 5 = .ok (.iload_n 2, 1) := dk_28 (dk_at dksX1_cell_0 5 rfl rfl)
theorem dX1_cell_6 : decode cX1_cell 6 = .ok (.tableswitch 80 0 4 #[34, 44, 54, 64, 74], 34) := by decide +kernel
theorem dX1_cell_40 : decode cX1_cell 40 = .ok (.aload_n 0, 1) := dk_42 (dk_at dksX1_cell_2 0 rfl rfl)
theorem dX1_cell_41 : decode cX1_cell 41 = .ok (.getfield 38, 3) := dk_180 0 38 (dk_at dksX1_cell_2 1 rfl rfl)
theorem dX1_cell_44 : decode cX1_cell 44 = .ok (.getfield 149, 3) := dk_180 0 149 (dk_at dksX1_cell_2 4 rfl rfl)
theorem dX1_cell_47 : decode cX1_cell 47 = .ok (.iload_n 1, 1) := dk_27 (dk_at dksX1_cell_2 7 rfl rfl)
theorem dX1_cell_48 : decode cX1_cell 48 = .ok (.iaload, 1) := dk_46 (dk_at dksX1_cell_2 8 rfl rfl)
theorem dX1_cell_49 : decode cX1_cell 49 = .ok (.ireturn, 1) := dk_172 (dk_at dksX1_cell_2 9 rfl rfl)
theorem dX1_cell_50 : decode cX1_cell 50 = .ok (.aload_n 0, 1) := dk_42 (dk_at dksX1_cell_2 10 rfl rfl)
theorem dX1_cell_51 : decode cX1_cell 51 = .ok (.getfield 38, 3) := dk_180 0 38 (dk_at dksX1_cell_2 11 rfl rfl)
theorem dX1_cell_54 : decode cX1_cell 54 = .ok (.getfield 152, 3) := dk_180 0 152 (dk_at dksX1_cell_2 14 rfl rfl)
theorem dX1_cell_57 : decode cX1_cell 57 = .ok (.iload_n 1, 1) := dk_27 (dk_at dksX1_cell_2 17 rfl rfl)
theorem dX1_cell_58 : decode cX1_cell 58 = .ok (.iaload, 1) := dk_46 (dk_at dksX1_cell_2 18 rfl rfl)
theorem dX1_cell_59 : decode cX1_cell 59 = .ok (.ireturn, 1) := dk_172 (dk_at dksX1_cell_2 19 rfl rfl)
theorem dX1_cell_60 : decode cX1_cell 60 = .ok (.aload_n 0, 1) := dk_42 (dk_at dksX1_cell_2 20 rfl rfl)
theorem dX1_cell_61 : decode cX1_cell 61 = .ok (.getfield 38, 3) := dk_180 0 38 (dk_at dksX1_cell_2 21 rfl rfl)
theorem dX1_cell_64 : decode cX1_cell 64 = .ok (.getfield 96, 3) := dk_180 0 96 (dk_at dksX1_cell_3 0 rfl rfl)
theorem dX1_cell_67 : decode cX1_cell 67 = .ok (.iload_n 1, 1) := dk_27 (dk_at dksX1_cell_3 3 rfl rfl)
theorem dX1_cell_68 : decode cX1_cell 68 = .ok (.iaload, 1) := dk_46 (dk_at dksX1_cell_3 4 rfl rfl)
theorem dX1_cell_69 : decode cX1_cell 69 = .ok (.ireturn, 1) := dk_172 (dk_at dksX1_cell_3 5 rfl rfl)
theorem dX1_cell_70 : decode cX1_cell 70 = .ok (.aload_n 0, 1) := dk_42 (dk_at dksX1_cell_3 6 rfl rfl)
theorem dX1_cell_71 : decode cX1_cell 71 = .ok (.getfield 38, 3) := dk_180 0 38 (dk_at dksX1_cell_3 7 rfl rfl)
theorem dX1_cell_74 : decode cX1_cell 74 = .ok (.getfield 155, 3) := dk_180 0 155 (dk_at dksX1_cell_3 10 rfl rfl)
theorem dX1_cell_77 : decode cX1_cell 77 = .ok (.iload_n 1, 1) := dk_27 (dk_at dksX1_cell_3 13 rfl rfl)
theorem dX1_cell_78 : decode cX1_cell 78 = .ok (.iaload, 1) := dk_46 (dk_at dksX1_cell_3 14 rfl rfl)
theorem dX1_cell_79 : decode cX1_cell 79 = .ok (.ireturn, 1) := dk_172 (dk_at dksX1_cell_3 15 rfl rfl)
theorem dX1_cell_80 : decode cX1_cell 80 = .ok (.aload_n 0, 1) := dk_42 (dk_at dksX1_cell_3 16 rfl rfl)
theorem dX1_cell_81 : decode cX1_cell 81 = .ok (.iload_n 1, 1) := dk_27 (dk_at dksX1_cell_3 17 rfl rfl)
theorem dX1_cell_82 : decode cX1_cell 82 = .ok (.invokevirtual 157, 3) := dk_182 0 157 (dk_at dksX1_cell_3 18 rfl rfl)
theorem dX1_cell_85 : decode cX1_cell 85 = .ok (.ireturn, 1) := dk_172 (dk_at dksX1_cell_3 21 rfl rfl)
theorem dX1_cell_86 : decode cX1_cell 86 = .ok (.iload_n 2, 1) := dk_28 (dk_at dksX1_cell_3 22 rfl rfl)
theorem dX1_cell_87 : decode cX1_cell 87 = .ok (.iconst 5, 1) := dk_8 (dk_at dksX1_cell_3 23 rfl rfl)
theorem dX1_cell_88 : decode cX1_cell 88 = .ok (.if_icmp .ne 7, 3) := dk_160 0 7 (dk_at dksX1_cell_4 0 rfl rfl)
theorem dX1_cell_91 : decode cX1_cell 91 = .ok (.iconst 1, 1) := dk_4 (dk_at dksX1_cell_4 3 rfl rfl)
theorem dX1_cell_92 : decode cX1_cell 92 = .ok (.goto 4, 3) := dk_167 0 4 (dk_at dksX1_cell_4 4 rfl rfl)
theorem dX1_cell_95 : decode cX1_cell 95 = .ok (.iconst 0, 1) := dk_3 (dk_at dksX1_cell_4 7 rfl rfl)
theorem dX1_cell_96 : decode cX1_cell 96 = .ok (.invokestatic 138, 3) := dk_184 0 138 (dk_at dksX1_cell_4 8 rfl rfl)
theorem dX1_cell_99 : decode cX1_cell 99 = .ok (.aload_n 0, 1) := dk_42 (dk_at dksX1_cell_4 11 rfl rfl)
theorem dX1_cell_100 : decode cX1_cell 100 = .ok (.getfield 38, 3) := dk_180 0 38 (dk_at dksX1_cell_4 12 rfl rfl)
theorem dX1_cell_103 : decode cX1_cell 103 = .ok (.iload_n 1, 1) := dk_27 (dk_at dksX1_cell_4 15 rfl rfl)
theorem dX1_cell_104 : decode cX1_cell 104 = .ok (.invokevirtual 160, 3) := dk_182 0 160 (dk_at dksX1_cell_4 16 rfl rfl)
theorem dX1_cell_107 : decode cX1_cell 107 = .ok (.ireturn, 1) := dk_172 (dk_at dksX1_cell_4 19 rfl rfl)
abbrev mX1_cell : xM := (yX1_cell, cX1_cell, 3, (some .int), [])
def c_X1_cell_96 (G : xG) (x0 : Option Nat) (x1 : Int32) (y0 : Int32) (T : xF) : Option ((Int32 ⊕ xE) × xF) :=
  clX (c_X1_found y0 T) T fun v96 T96 =>
  (oQ T96 x0 0 4).bind fun v100 =>
  if ¬ isO T96 v100 2 = true then none else
  cl (c_X3_grows G v100 x1 T96) T96 fun v104 T104 =>
  some (.inl v104, T104)
theorem c_X1_cell_96_ok {G : xG}  {T0 : xF}   (x0 : Option Nat) (x1 : Int32) (y0 : Int32) (T : xF) (q : ((Int32 ⊕ xE) × xF)) (hf : c_X1_cell_96 G x0 x1 y0 T = some q) : Xr G (mX1_cell, xrm (122) T0 q.2, T0, xoI q.1, q.2) 96 [(0, va_rf x0), (1, .int x1)] [.int y0] T := by
  unfold c_X1_cell_96 at hf
  rcases clX_ok hf with ⟨v96, T96, h96, hf, l96, r96⟩ | ⟨e96, T96, h96, rfl, l96⟩
  rotate_left
  · exact C.Sx (As := [.int y0]) (rest := []) dX1_cell_96 (w_X1_found h96) cX1_138 rfl rfl (xcs xvN (Nat.le_of_ble_eq_true rfl)) (xD (Nat.le_of_ble_eq_true rfl)) l96 xle.rf (xnoh rfl) rfl
  refine C.Sv (As := [.int y0]) (rest := []) dX1_cell_96 (w_X1_found h96) cX1_138 rfl rfl (xcs xvN (Nat.le_of_ble_eq_true rfl)) (xD (Nat.le_of_ble_eq_true rfl)) l96 r96 ?_
  refine C.aload_n dX1_cell_99 rfl 0 rfl ?_
  obtain ⟨v100, h100, hf⟩ := ob hf
  refine C.getQ dX1_cell_100 rX1_38 h100 ?_
  refine X.iload_n dX1_cell_103 rfl 1 rfl ?_
  obtain ⟨c104, hf⟩ := if_n hf
  obtain ⟨v104, T104, h104, hf, l104, r104⟩ := cl_ok hf
  refine C.Vi (As := [.int x1]) (rest := []) dX1_cell_104 (w_X3_grows h104) cX1_160 (Classical.not_not.mp c104) rfl rfl (xcs xvN (Nat.le_of_ble_eq_true rfl)) rfl rfl (xD (Nat.le_of_ble_eq_true rfl)) l104 r104 ?_
  obtain rfl := Option.some.inj hf
  exact X.iret dX1_cell_107 rfl rfl rfl
def c_X1_cell (G : xG) (x0 : Option Nat) (x1 : Int32) (x2 : Int32) (T : xF) : Option ((Int32 ⊕ xE) × xF) :=
  if ¬ isO T x0 0 = true then none else
  clX (c_X1_aCell x0 x1 T) T fun v2 T2 =>
  if x2 = (0 : Int32) then
    (oQ T2 x0 0 4).bind fun v41 =>
    (oQ T2 v41 2 0).bind fun v44 =>
    (ldA T2 v44 .int x1).bind fun v48 =>
    some (.inl v48, T2)
  else
  if x2 = (1 : Int32) then
    (oQ T2 x0 0 4).bind fun v51 =>
    (oQ T2 v51 2 1).bind fun v54 =>
    (ldA T2 v54 .int x1).bind fun v58 =>
    some (.inl v58, T2)
  else
  if x2 = (2 : Int32) then
    (oQ T2 x0 0 4).bind fun v61 =>
    (oQ T2 v61 2 2).bind fun v64 =>
    (ldA T2 v64 .int x1).bind fun v68 =>
    some (.inl v68, T2)
  else
  if x2 = (3 : Int32) then
    (oQ T2 x0 0 4).bind fun v71 =>
    (oQ T2 v71 2 3).bind fun v74 =>
    (ldA T2 v74 .int x1).bind fun v78 =>
    some (.inl v78, T2)
  else
  if x2 = (4 : Int32) then
    if ¬ isO T2 x0 0 = true then none else
    (c_X1_beside T2 x0 x1).bind fun v82 =>
    some (.inl v82, T2)
  else
    if x2 = (5 : Int32) then
      c_X1_cell_96 G x0 x1 (1 : Int32) T2
    else
      c_X1_cell_96 G x0 x1 (0 : Int32) T2
theorem w_X1_cell {G : xG}  {T : xF} {x0 : Option Nat} {x1 : Int32} {x2 : Int32} {q : ((Int32 ⊕ xE) × xF)} (hf : c_X1_cell G x0 x1 x2 T = some q) : Ct G mX1_cell (122) T [va_rf x0, .int x1, .int x2] (xoI q.1) q.2 := by
  refine Ct.ofc (plainFor_of_name (by decide +kernel)) rfl (xvQ (xvI (xvI xvN))) (Nat.le_of_ble_eq_true rfl) (show Xr G _ 0 [(0, va_rf x0), (1, .int x1), (2, .int x2)] [] _ from ?_)
  unfold c_X1_cell at hf
  refine C.aload_n dX1_cell_0 rfl 0 rfl ?_
  refine X.iload_n dX1_cell_1 rfl 1 rfl ?_
  obtain ⟨c2, hf⟩ := if_n hf
  rcases clX_ok hf with ⟨v2, T2, h2, hf, l2, r2⟩ | ⟨e2, T2, h2, rfl, l2⟩
  rotate_left
  · exact C.Vx (As := [.int x1]) (rest := []) dX1_cell_2 (w_X1_aCell h2) cX1_145 (Classical.not_not.mp c2) rfl rfl (xcs xvN (Nat.le_of_ble_eq_true rfl)) rfl rfl (xD (Nat.le_of_ble_eq_true rfl)) l2 xle.rf (xnoh rfl) rfl
  refine C.Vv (As := [.int x1]) (rest := []) dX1_cell_2 (w_X1_aCell h2) cX1_145 (Classical.not_not.mp c2) rfl rfl (xcs xvN (Nat.le_of_ble_eq_true rfl)) rfl rfl (xD (Nat.le_of_ble_eq_true rfl)) l2 r2 ?_
  refine X.iload_n dX1_cell_5 rfl 2 rfl ?_
  by_cases c6_0 : x2 = (0 : Int32)
  · have hf := if_t c6_0 hf
    refine X.tableC (tgt := 40) c6_0 dX1_cell_6 (by decide) (by decide) rfl (by decide) ?_
    refine C.aload_n dX1_cell_40 rfl 0 rfl ?_
    obtain ⟨v41, h41, hf⟩ := ob hf
    refine C.getQ dX1_cell_41 rX1_38 h41 ?_
    obtain ⟨v44, h44, hf⟩ := ob hf
    refine C.getQ dX1_cell_44 rX1_149 h44 ?_
    refine X.iload_n dX1_cell_47 rfl 1 rfl ?_
    obtain ⟨v48, h48, hf⟩ := ob hf
    refine C.iald dX1_cell_48 h48 ?_
    obtain rfl := Option.some.inj hf
    exact X.iret dX1_cell_49 rfl rfl rfl
  have hf := if_f c6_0 hf
  by_cases c6_1 : x2 = (1 : Int32)
  · have hf := if_t c6_1 hf
    refine X.tableC (tgt := 50) c6_1 dX1_cell_6 (by decide) (by decide) rfl (by decide) ?_
    refine C.aload_n dX1_cell_50 rfl 0 rfl ?_
    obtain ⟨v51, h51, hf⟩ := ob hf
    refine C.getQ dX1_cell_51 rX1_38 h51 ?_
    obtain ⟨v54, h54, hf⟩ := ob hf
    refine C.getQ dX1_cell_54 rX1_152 h54 ?_
    refine X.iload_n dX1_cell_57 rfl 1 rfl ?_
    obtain ⟨v58, h58, hf⟩ := ob hf
    refine C.iald dX1_cell_58 h58 ?_
    obtain rfl := Option.some.inj hf
    exact X.iret dX1_cell_59 rfl rfl rfl
  have hf := if_f c6_1 hf
  by_cases c6_2 : x2 = (2 : Int32)
  · have hf := if_t c6_2 hf
    refine X.tableC (tgt := 60) c6_2 dX1_cell_6 (by decide) (by decide) rfl (by decide) ?_
    refine C.aload_n dX1_cell_60 rfl 0 rfl ?_
    obtain ⟨v61, h61, hf⟩ := ob hf
    refine C.getQ dX1_cell_61 rX1_38 h61 ?_
    obtain ⟨v64, h64, hf⟩ := ob hf
    refine C.getQ dX1_cell_64 rX1_96 h64 ?_
    refine X.iload_n dX1_cell_67 rfl 1 rfl ?_
    obtain ⟨v68, h68, hf⟩ := ob hf
    refine C.iald dX1_cell_68 h68 ?_
    obtain rfl := Option.some.inj hf
    exact X.iret dX1_cell_69 rfl rfl rfl
  have hf := if_f c6_2 hf
  by_cases c6_3 : x2 = (3 : Int32)
  · have hf := if_t c6_3 hf
    refine X.tableC (tgt := 70) c6_3 dX1_cell_6 (by decide) (by decide) rfl (by decide) ?_
    refine C.aload_n dX1_cell_70 rfl 0 rfl ?_
    obtain ⟨v71, h71, hf⟩ := ob hf
    refine C.getQ dX1_cell_71 rX1_38 h71 ?_
    obtain ⟨v74, h74, hf⟩ := ob hf
    refine C.getQ dX1_cell_74 rX1_155 h74 ?_
    refine X.iload_n dX1_cell_77 rfl 1 rfl ?_
    obtain ⟨v78, h78, hf⟩ := ob hf
    refine C.iald dX1_cell_78 h78 ?_
    obtain rfl := Option.some.inj hf
    exact X.iret dX1_cell_79 rfl rfl rfl
  have hf := if_f c6_3 hf
  by_cases c6_4 : x2 = (4 : Int32)
  · have hf := if_t c6_4 hf
    refine X.tableC (tgt := 80) c6_4 dX1_cell_6 (by decide) (by decide) rfl (by decide) ?_
    refine C.aload_n dX1_cell_80 rfl 0 rfl ?_
    refine X.iload_n dX1_cell_81 rfl 1 rfl ?_
    obtain ⟨c82, hf⟩ := if_n hf
    obtain ⟨v82, h82, hf⟩ := ob hf
    refine X.keep fun l82 => C.Vi (As := [.int x1]) (rest := []) dX1_cell_82 (w_X1_beside h82) cX1_157 (Classical.not_not.mp c82) rfl rfl (xcs xvN (Nat.le_of_ble_eq_true rfl)) rfl rfl (xD (Nat.le_of_ble_eq_true rfl)) xle.rf l82 ?_
    obtain rfl := Option.some.inj hf
    exact X.iret dX1_cell_85 rfl rfl rfl
  have hf := if_f c6_4 hf
  have t_c6_0 := lv_neT (a := 0) c6_0 rfl
  have t_c6_1 := lv_neT (a := 1) c6_1 rfl
  have t_c6_2 := lv_neT (a := 2) c6_2 rfl
  have t_c6_3 := lv_neT (a := 3) c6_3 rfl
  have t_c6_4 := lv_neT (a := 4) c6_4 rfl
  refine X.tableOut (tgt := 86) dX1_cell_6 (by omega) (by decide) ?_
  refine X.iload_n dX1_cell_86 rfl 2 rfl ?_
  refine X.iconst (v := 5) dX1_cell_87 (by decide) ?_
  refine X.icmp_ne (tgt := 95) dX1_cell_88 (by decide) (fun c88 => ?_) (fun c88 => ?_)
  · have hf := if_f c88 hf
    refine X.iconst (v := 0) dX1_cell_95 (by decide) ?_
    refine X.sub [0, 1] (L' := [(0, va_rf x0), (1, .int x1)]) rfl ?_
    exact c_X1_cell_96_ok _ _ _ _ _ hf
  · have hf := if_t c88 hf
    refine X.iconst (v := 1) dX1_cell_91 (by decide) ?_
    refine X.goto (tgt := 96) dX1_cell_92 (by decide) ?_
    refine X.sub [0, 1] (L' := [(0, va_rf x0), (1, .int x1)]) rfl ?_
    exact c_X1_cell_96_ok _ _ _ _ _ hf
/-! MouldVotes moulds -/
abbrev cX1_moulds : ByteArray := prog_1_method_9_code
def yX1_moulds : MethodName := ⟨RX1, "moulds", "()I"⟩
def dkwX1_moulds_1 : List UInt8 := [2, 159, 0, 6, 132, 1, 1, 132, 2, 1, 167, 255, 226, 27, 172]
abbrev dktX1_moulds_1 : List UInt8 := dkwX1_moulds_1 ++ []
def dkwX1_moulds_0 : List UInt8 := [3, 60, 3, 61, 28, 42, 180, 0, 22, 182, 0, 92, 162, 0, 25, 42, 180, 0, 38, 180, 0, 96, 28, 46]
abbrev dktX1_moulds_0 : List UInt8 := dkwX1_moulds_0 ++ dktX1_moulds_1
theorem dksX1_moulds_0 : cX1_moulds.data.toList.drop 0 = dktX1_moulds_0 := by decide +kernel
theorem dksX1_moulds_1 : cX1_moulds.data.toList.drop 24 = dktX1_moulds_1 := dk_seg dksX1_moulds_0 24 rfl rfl
theorem dX1_moulds_0 : decode cX1_moulds 0 = .ok (.iconst 0, 1) := dk_3 (dk_at dksX1_moulds_0 0 rfl rfl)
theorem dX1_moulds_1 : decode cX1_moulds 1 = .ok (.istore_n 1, 1) := dk_60 (dk_at dksX1_moulds_0 1 rfl rfl)
theorem dX1_moulds_2 : decode cX1_moulds 2 = .ok (.iconst 0, 1) := dk_3 (dk_at dksX1_moulds_0 2 rfl rfl)
theorem dX1_moulds_3 : decode cX1_moulds 3 = .ok (.istore_n 2, 1) := dk_61 (dk_at dksX1_moulds_0 3 rfl rfl)
theorem dX1_moulds_4 : decode cX1_moulds 4 = .ok (.iload_n 2, 1) := dk_28 (dk_at dksX1_moulds_0 4 rfl rfl)
theorem dX1_moulds_5 : decode cX1_moulds 5 = .ok (.aload_n 0, 1) := dk_42 (dk_at dksX1_moulds_0 5 rfl rfl)
theorem dX1_moulds_6 : decode cX1_moulds 6 = .ok (.getfield 22, 3) := dk_180 0 22 (dk_at dksX1_moulds_0 6 rfl rfl)
theorem dX1_moulds_9 : decode cX1_moulds 9 = .ok (.invokevirtual 92, 3) := dk_182 0 92 (dk_at dksX1_moulds_0 9 rfl rfl)
theorem dX1_moulds_12 : decode cX1_moulds 12 = .ok (.if_icmp .ge 25, 3) := dk_162 0 25 (dk_at dksX1_moulds_0 12 rfl rfl)
theorem dX1_moulds_15 : decode cX1_moulds 15 = .ok (.aload_n 0, 1) := dk_42 (dk_at dksX1_moulds_0 15 rfl rfl)
theorem dX1_moulds_16 : decode cX1_moulds 16 = .ok (.getfield 38, 3) := dk_180 0 38 (dk_at dksX1_moulds_0 16 rfl rfl)
theorem dX1_moulds_19 : decode cX1_moulds 19 = .ok (.getfield 96, 3) := dk_180 0 96 (dk_at dksX1_moulds_0 19 rfl rfl)
theorem dX1_moulds_22 : decode cX1_moulds 22 = .ok (.iload_n 2, 1) := dk_28 (dk_at dksX1_moulds_0 22 rfl rfl)
theorem dX1_moulds_23 : decode cX1_moulds 23 = .ok (.iaload, 1) := dk_46 (dk_at dksX1_moulds_0 23 rfl rfl)
theorem dX1_moulds_24 : decode cX1_moulds 24 = .ok (.iconst (-1), 1) := dk_2 (dk_at dksX1_moulds_1 0 rfl rfl)
theorem dX1_moulds_25 : decode cX1_moulds 25 = .ok (.if_icmp .eq 6, 3) := dk_159 0 6 (dk_at dksX1_moulds_1 1 rfl rfl)
theorem dX1_moulds_28 : decode cX1_moulds 28 = .ok (.iinc 1 1, 3) := dk_132 1 1 (dk_at dksX1_moulds_1 4 rfl rfl)
theorem dX1_moulds_31 : decode cX1_moulds 31 = .ok (.iinc 2 1, 3) := dk_132 2 1 (dk_at dksX1_moulds_1 7 rfl rfl)
theorem dX1_moulds_34 : decode cX1_moulds 34 = .ok (.goto (-30), 3) := dk_167 255 226 (dk_at dksX1_moulds_1 10 rfl rfl)
theorem dX1_moulds_37 : decode cX1_moulds 37 = .ok (.iload_n 1, 1) := dk_27 (dk_at dksX1_moulds_1 13 rfl rfl)
theorem dX1_moulds_38 : decode cX1_moulds 38 = .ok (.ireturn, 1) := dk_172 (dk_at dksX1_moulds_1 14 rfl rfl)
abbrev mX1_moulds : xM := (yX1_moulds, cX1_moulds, 3, (some .int), [])
def c_X1_moulds_31 (T : xF) (k4 : Option Nat → Int32 → Int32 → Option Int32) (x0 : Option Nat) (x1 : Int32) (x2 : Int32) : Option Int32 :=
  k4 x0 x1 (x2 + 1)
theorem c_X1_moulds_31_ok {G : xG}  {T : xF} {k4 : Option Nat → Int32 → Int32 → Option Int32} (hk4 : ∀ (x0 : Option Nat) (x1 : Int32) (x2 : Int32) (q : Int32), k4 x0 x1 x2 = some q → Xr G (mX1_moulds, xrm (2) T T, T, .inl (some (.int q)), T) 4 [(0, va_rf x0), (1, .int x1), (2, .int x2)] [] T) (x0 : Option Nat) (x1 : Int32) (x2 : Int32) (q : Int32) (hf : c_X1_moulds_31 T k4 x0 x1 x2 = some q) : Xr G (mX1_moulds, xrm (2) T T, T, .inl (some (.int q)), T) 31 [(0, va_rf x0), (1, .int x1), (2, .int x2)] [] T := by
  unfold c_X1_moulds_31 at hf
  refine C.iinc (v := (x2 + 1)) (L' := [(2, .int (x2 + 1)), (0, va_rf x0), (1, .int x1)]) dX1_moulds_31 2 rfl rfl (Nat.le_of_ble_eq_true rfl) (xcQ (xcI (xcI xcN))) rfl ?_
  refine X.goto (tgt := 4) dX1_moulds_34 (by decide) ?_
  refine X.sub [1, 2, 0] (L' := [(0, va_rf x0), (1, .int x1), (2, .int (x2 + 1))]) rfl ?_
  exact hk4 _ _ _ _ hf
def c_X1_moulds_4_b (T : xF) (k4 : Option Nat → Int32 → Int32 → Option Int32) (x0 : Option Nat) (x1 : Int32) (x2 : Int32) : Option Int32 :=
  (oQ T x0 0 1).bind fun v6 =>
  if ¬ isO T v6 1 = true then none else
  (c_X2_cells T v6).bind fun v9 =>
  if v9 ≤ x2 then
    some x1
  else
    (oQ T x0 0 4).bind fun v16 =>
    (oQ T v16 2 2).bind fun v19 =>
    (ldA T v19 .int x2).bind fun v23 =>
    if v23 = (-1 : Int32) then
      c_X1_moulds_31 T k4 x0 x1 x2
    else
      c_X1_moulds_31 T k4 x0 (x1 + 1) x2
def c_X1_moulds_4 (T : xF) : Nat → Option Nat → Int32 → Int32 → Option Int32
  | 0 => fun _ _ _ => none
  | n + 1 => fun x0 x1 x2 => c_X1_moulds_4_b T (c_X1_moulds_4 T n) x0 x1 x2
theorem c_X1_moulds_4_bok {G : xG}  {T : xF}  {k4 : Option Nat → Int32 → Int32 → Option Int32}  (hk4 : ∀ (x0 : Option Nat) (x1 : Int32) (x2 : Int32) (q : Int32), k4 x0 x1 x2 = some q → Xr G (mX1_moulds, xrm (2) T T, T, .inl (some (.int q)), T) 4 [(0, va_rf x0), (1, .int x1), (2, .int x2)] [] T) (x0 : Option Nat) (x1 : Int32) (x2 : Int32) (q : Int32) (hf : c_X1_moulds_4_b T k4 x0 x1 x2 = some q) : Xr G (mX1_moulds, xrm (2) T T, T, .inl (some (.int q)), T) 4 [(0, va_rf x0), (1, .int x1), (2, .int x2)] [] T := by
  unfold c_X1_moulds_4_b at hf
  refine X.iload_n dX1_moulds_4 rfl 2 rfl ?_
  refine C.aload_n dX1_moulds_5 rfl 0 rfl ?_
  obtain ⟨v6, h6, hf⟩ := ob hf
  refine C.getQ dX1_moulds_6 rX1_22 h6 ?_
  obtain ⟨c9, hf⟩ := if_n hf
  obtain ⟨v9, h9, hf⟩ := ob hf
  refine X.keep fun l9 => C.Vi (As := []) (rest := [.int x2]) dX1_moulds_9 (w_X2_cells h9) cX1_92 (Classical.not_not.mp c9) rfl rfl (xcs (xvI xvN) (Nat.le_of_ble_eq_true rfl)) rfl rfl (xD (Nat.le_of_ble_eq_true rfl)) xle.rf l9 ?_
  refine X.icmp_ge (tgt := 37) dX1_moulds_12 (by decide) (fun c12 => ?_) (fun c12 => ?_)
  · have hf := if_t c12 hf
    refine X.iload_n dX1_moulds_37 rfl 1 rfl ?_
    obtain rfl := Option.some.inj hf
    exact X.iret dX1_moulds_38 rfl rfl rfl
  · have hf := if_f c12 hf
    refine C.aload_n dX1_moulds_15 rfl 0 rfl ?_
    obtain ⟨v16, h16, hf⟩ := ob hf
    refine C.getQ dX1_moulds_16 rX1_38 h16 ?_
    obtain ⟨v19, h19, hf⟩ := ob hf
    refine C.getQ dX1_moulds_19 rX1_96 h19 ?_
    refine X.iload_n dX1_moulds_22 rfl 2 rfl ?_
    obtain ⟨v23, h23, hf⟩ := ob hf
    refine C.iald dX1_moulds_23 h23 ?_
    refine X.iconst (v := -1) dX1_moulds_24 (by decide) ?_
    refine X.icmp_eq (tgt := 31) dX1_moulds_25 (by decide) (fun c25 => ?_) (fun c25 => ?_)
    · have hf := if_t c25 hf
      refine X.sub [0, 1, 2] (L' := [(0, va_rf x0), (1, .int x1), (2, .int x2)]) rfl ?_
      exact c_X1_moulds_31_ok hk4 _ _ _ _ hf
    · have hf := if_f c25 hf
      refine C.iinc (v := (x1 + 1)) (L' := [(1, .int (x1 + 1)), (0, va_rf x0), (2, .int x2)]) dX1_moulds_28 1 rfl rfl (Nat.le_of_ble_eq_true rfl) (xcQ (xcI (xcI xcN))) rfl ?_
      refine X.sub [1, 0, 2] (L' := [(0, va_rf x0), (1, .int (x1 + 1)), (2, .int x2)]) rfl ?_
      exact c_X1_moulds_31_ok hk4 _ _ _ _ hf
theorem c_X1_moulds_4_ok {G : xG}  {T : xF}   : ∀ (n : Nat) (x0 : Option Nat) (x1 : Int32) (x2 : Int32) (q : Int32), c_X1_moulds_4 T n x0 x1 x2 = some q → Xr G (mX1_moulds, xrm (2) T T, T, .inl (some (.int q)), T) 4 [(0, va_rf x0), (1, .int x1), (2, .int x2)] [] T
  | 0, _, _, _, _, hf => by cases hf
  | n + 1, x0, x1, x2, q, hf => c_X1_moulds_4_bok (c_X1_moulds_4_ok n) x0 x1 x2 q hf
def c_X1_moulds (T : xF) (x0 : Option Nat) : Option Int32 :=
  c_X1_moulds_4 T FU x0 (0 : Int32) (0 : Int32)
theorem w_X1_moulds {G : xG}  {T : xF} {x0 : Option Nat} {q : Int32} (hf : c_X1_moulds T x0 = some q) : Ct G mX1_moulds (2) T [va_rf x0] (.inl (some (.int q))) T := by
  refine Ct.ofc (plainFor_of_name (by decide +kernel)) rfl (xvQ xvN) (Nat.le_of_ble_eq_true rfl) (show Xr G _ 0 [(0, va_rf x0)] [] _ from ?_)
  unfold c_X1_moulds at hf
  refine X.iconst (v := 0) dX1_moulds_0 (by decide) ?_
  refine C.ist_n (L' := [(1, .int (0 : Int32)), (0, va_rf x0)]) dX1_moulds_1 rfl (Nat.le_of_ble_eq_true rfl) (xcQ xcN) rfl ?_
  refine X.iconst (v := 0) dX1_moulds_2 (by decide) ?_
  refine C.ist_n (L' := [(2, .int (0 : Int32)), (1, .int (0 : Int32)), (0, va_rf x0)]) dX1_moulds_3 rfl (Nat.le_of_ble_eq_true rfl) (xcI (xcQ xcN)) rfl ?_
  refine X.sub [2, 1, 0] (L' := [(0, va_rf x0), (1, .int (0 : Int32)), (2, .int (0 : Int32))]) rfl ?_
  exact c_X1_moulds_4_ok FU _ _ _ _ hf
theorem cX1_122 : xCV RX1 122 mX1_moulds 0 := ⟨lw_V q1260 q1262 qs40 q121 q1263, rfl, ⟨by decide +kernel, by decide +kernel, by decide +kernel⟩, Nat.le_of_ble_eq_true rfl⟩
/-! MouldVotes count -/
abbrev cX1_count : ByteArray := prog_1_method_11_code
def yX1_count : MethodName := ⟨RX1, "count", "(I)I"⟩
def dkwX1_count_7 : List UInt8 := [27, 16, 13, 16, 15, 184, 0, 134, 184, 0, 138, 42, 180, 0, 49, 27, 16, 13, 100, 46, 172]
abbrev dktX1_count_7 : List UInt8 := dkwX1_count_7 ++ []
def dkwX1_count_6 : List UInt8 := [180, 0, 55, 185, 0, 104, 1, 0, 172, 42, 180, 0, 59, 185, 0, 104, 1, 0, 172, 42, 180, 0, 62, 172]
abbrev dktX1_count_6 : List UInt8 := dkwX1_count_6 ++ dktX1_count_7
def dkwX1_count_5 : List UInt8 := [182, 0, 122, 172, 42, 180, 0, 38, 184, 0, 125, 182, 0, 128, 172, 42, 180, 0, 38, 182, 0, 131, 172, 42]
abbrev dktX1_count_5 : List UInt8 := dkwX1_count_5 ++ dktX1_count_6
def dkwX1_count_4 : List UInt8 := [180, 0, 109, 182, 0, 112, 172, 42, 180, 0, 22, 180, 0, 116, 172, 42, 180, 0, 22, 180, 0, 119, 172, 42]
abbrev dktX1_count_4 : List UInt8 := dkwX1_count_4 ++ dktX1_count_5
def dkwX1_count_3 : List UInt8 := [185, 0, 104, 1, 0, 172, 42, 180, 0, 38, 180, 0, 109, 172, 42, 180, 0, 22, 42, 180, 0, 38]
abbrev dktX1_count_3 : List UInt8 := dkwX1_count_3 ++ dktX1_count_4
def dkwX1_count_2 : List UInt8 := [42, 180, 0, 22, 182, 0, 92, 172, 42, 180, 0, 22, 180, 0, 98, 172, 42, 180, 0, 22, 180, 0, 101]
abbrev dktX1_count_2 : List UInt8 := dkwX1_count_2 ++ dktX1_count_3
def dkwX1_count_1 : List UInt8 := [170, 0, 0, 0, 0, 0, 184, 0, 0, 0, 0, 0, 0, 0, 12, 0, 0, 0, 67, 0, 0, 0, 75, 0, 0, 0, 83, 0, 0, 0, 96, 0, 0, 0, 104, 0, 0, 0, 119, 0, 0, 0, 127, 0, 0, 0, 135, 0, 0, 0, 140, 0, 0, 0, 151, 0, 0, 0, 159, 0, 0, 0, 169, 0, 0, 0, 179]
abbrev dktX1_count_1 : List UInt8 := dkwX1_count_1 ++ dktX1_count_2
def dkwX1_count_0 : List UInt8 := [27]
abbrev dktX1_count_0 : List UInt8 := dkwX1_count_0 ++ dktX1_count_1
theorem dksX1_count_0 : cX1_count.data.toList.drop 0 = dktX1_count_0 := by decide +kernel
theorem dksX1_count_1 : cX1_count.data.toList.drop 1 = dktX1_count_1 := dk_seg dksX1_count_0 1 rfl rfl
theorem dksX1_count_2 : cX1_count.data.toList.drop 68 = dktX1_count_2 := dk_seg dksX1_count_1 67 rfl rfl
theorem dksX1_count_3 : cX1_count.data.toList.drop 91 = dktX1_count_3 := dk_seg dksX1_count_2 23 rfl rfl
theorem dksX1_count_4 : cX1_count.data.toList.drop 113 = dktX1_count_4 := dk_seg dksX1_count_3 22 rfl rfl
theorem dksX1_count_5 : cX1_count.data.toList.drop 137 = dktX1_count_5 := dk_seg dksX1_count_4 24 rfl rfl
theorem dksX1_count_6 : cX1_count.data.toList.drop 161 = dktX1_count_6 := dk_seg dksX1_count_5 24 rfl rfl
theorem dksX1_count_7 : cX1_count.data.toList.drop 185 = dktX1_count_7 := dk_seg dksX1_count_6 24 rfl rfl
theorem dX1_count_0 : decode cX1_count 0 = .ok (.iload_n 1, 1) := dk_27 (dk_at dksX1_count_0 0 rfl rfl)
theorem dX1_count_1 : decode cX1_count 1 = .ok (.tableswitch 184 0 12 #[67, 75, 83, 96, 104, 119, 127, 135, 140, 151, 159, 169, 179], 67) := by decide +kernel
theorem dX1_count_68 : decode cX1_count 68 = .ok (.aload_n 0, 1) := dk_42 (dk_at dksX1_count_2 0 rfl rfl)
theorem dX1_count_69 : decode cX1_count 69 = .ok (.getfield 22, 3) := dk_180 0 22 (dk_at dksX1_count_2 1 rfl rfl)
theorem dX1_count_72 : decode cX1_count 72 = .ok (.invokevirtual 92, 3) := dk_182 0 92 (dk_at dksX1_count_2 4 rfl rfl)
theorem dX1_count_75 : decode cX1_count 75 = .ok (.ireturn, 1) := dk_172 (dk_at dksX1_count_2 7 rfl rfl)
theorem dX1_count_76 : decode cX1_count 76 = .ok (.aload_n 0, 1) := dk_42 (dk_at dksX1_count_2 8 rfl rfl)
theorem dX1_count_77 : decode cX1_count 77 = .ok (.getfield 22, 3) := dk_180 0 22 (dk_at dksX1_count_2 9 rfl rfl)
theorem dX1_count_80 : decode cX1_count 80 = .ok (.getfield 98, 3) := dk_180 0 98 (dk_at dksX1_count_2 12 rfl rfl)
theorem dX1_count_83 : decode cX1_count 83 = .ok (.ireturn, 1) := dk_172 (dk_at dksX1_count_2 15 rfl rfl)
theorem dX1_count_84 : decode cX1_count 84 = .ok (.aload_n 0, 1) := dk_42 (dk_at dksX1_count_2 16 rfl rfl)
theorem dX1_count_85 : decode cX1_count 85 = .ok (.getfield 22, 3) := dk_180 0 22 (dk_at dksX1_count_2 17 rfl rfl)
theorem dX1_count_88 : decode cX1_count 88 = .ok (.getfield 101, 3) := dk_180 0 101 (dk_at dksX1_count_2 20 rfl rfl)
theorem dX1_count_91 : decode cX1_count 91 = .ok (.invokeinterface 104 1, 5) := by decide +kernel
theorem dX1_count_96 : decode cX1_count 96 = .ok (.ireturn, 1) := dk_172 (dk_at dksX1_count_3 5 rfl rfl)
theorem dX1_count_97 : decode cX1_count 97 = .ok (.aload_n 0, 1) := dk_42 (dk_at dksX1_count_3 6 rfl rfl)
theorem dX1_count_98 : decode cX1_count 98 = .ok (.getfield 38, 3) := dk_180 0 38 (dk_at dksX1_count_3 7 rfl rfl)
theorem dX1_count_101 : decode cX1_count 101 = .ok (.getfield 109, 3) := dk_180 0 109 (dk_at dksX1_count_3 10 rfl rfl)
theorem dX1_count_104 : decode cX1_count 104 = .ok (.ireturn, 1) := dk_172 (dk_at dksX1_count_3 13 rfl rfl)
theorem dX1_count_105 : decode cX1_count 105 = .ok (.aload_n 0, 1) := dk_42 (dk_at dksX1_count_3 14 rfl rfl)
theorem dX1_count_106 : decode cX1_count 106 = .ok (.getfield 22, 3) := dk_180 0 22 (dk_at dksX1_count_3 15 rfl rfl)
theorem dX1_count_109 : decode cX1_count 109 = .ok (.aload_n 0, 1) := dk_42 (dk_at dksX1_count_3 18 rfl rfl)
theorem dX1_count_110 : decode cX1_count 110 = .ok (.getfield 38, 3) := dk_180 0 38 (dk_at dksX1_count_3 19 rfl rfl)
theorem dX1_count_113 : decode cX1_count 113 = .ok (.getfield 109, 3) := dk_180 0 109 (dk_at dksX1_count_4 0 rfl rfl)
theorem dX1_count_116 : decode cX1_count 116 = .ok (.invokevirtual 112, 3) := dk_182 0 112 (dk_at dksX1_count_4 3 rfl rfl)
theorem dX1_count_119 : decode cX1_count 119 = .ok (.ireturn, 1) := dk_172 (dk_at dksX1_count_4 6 rfl rfl)
theorem dX1_count_120 : decode cX1_count 120 = .ok (.aload_n 0, 1) := dk_42 (dk_at dksX1_count_4 7 rfl rfl)
theorem dX1_count_121 : decode cX1_count 121 = .ok (.getfield 22, 3) := dk_180 0 22 (dk_at dksX1_count_4 8 rfl rfl)
theorem dX1_count_124 : decode cX1_count 124 = .ok (.getfield 116, 3) := dk_180 0 116 (dk_at dksX1_count_4 11 rfl rfl)
theorem dX1_count_127 : decode cX1_count 127 = .ok (.ireturn, 1) := dk_172 (dk_at dksX1_count_4 14 rfl rfl)
theorem dX1_count_128 : decode cX1_count 128 = .ok (.aload_n 0, 1) := dk_42 (dk_at dksX1_count_4 15 rfl rfl)
theorem dX1_count_129 : decode cX1_count 129 = .ok (.getfield 22, 3) := dk_180 0 22 (dk_at dksX1_count_4 16 rfl rfl)
theorem dX1_count_132 : decode cX1_count 132 = .ok (.getfield 119, 3) := dk_180 0 119 (dk_at dksX1_count_4 19 rfl rfl)
theorem dX1_count_135 : decode cX1_count 135 = .ok (.ireturn, 1) := dk_172 (dk_at dksX1_count_4 22 rfl rfl)
theorem dX1_count_136 : decode cX1_count 136 = .ok (.aload_n 0, 1) := dk_42 (dk_at dksX1_count_4 23 rfl rfl)
theorem dX1_count_137 : decode cX1_count 137 = .ok (.invokevirtual 122, 3) := dk_182 0 122 (dk_at dksX1_count_5 0 rfl rfl)
theorem dX1_count_140 : decode cX1_count 140 = .ok (.ireturn, 1) := dk_172 (dk_at dksX1_count_5 3 rfl rfl)
theorem dX1_count_141 : decode cX1_count 141 = .ok (.aload_n 0, 1) := dk_42 (dk_at dksX1_count_5 4 rfl rfl)
theorem dX1_count_142 : decode cX1_count 142 = .ok (.getfield 38, 3) := dk_180 0 38 (dk_at dksX1_count_5 5 rfl rfl)
theorem dX1_count_145 : decode cX1_count 145 = .ok (.invokestatic 125, 3) := dk_184 0 125 (dk_at dksX1_count_5 8 rfl rfl)
theorem dX1_count_148 : decode cX1_count 148 = .ok (.invokevirtual 128, 3) := dk_182 0 128 (dk_at dksX1_count_5 11 rfl rfl)
theorem dX1_count_151 : decode cX1_count 151 = .ok (.ireturn, 1) := dk_172 (dk_at dksX1_count_5 14 rfl rfl)
theorem dX1_count_152 : decode cX1_count 152 = .ok (.aload_n 0, 1) := dk_42 (dk_at dksX1_count_5 15 rfl rfl)
theorem dX1_count_153 : decode cX1_count 153 = .ok (.getfield 38, 3) := dk_180 0 38 (dk_at dksX1_count_5 16 rfl rfl)
theorem dX1_count_156 : decode cX1_count 156 = .ok (.invokevirtual 131, 3) := dk_182 0 131 (dk_at dksX1_count_5 19 rfl rfl)
theorem dX1_count_159 : decode cX1_count 159 = .ok (.ireturn, 1) := dk_172 (dk_at dksX1_count_5 22 rfl rfl)
theorem dX1_count_160 : decode cX1_count 160 = .ok (.aload_n 0, 1) := dk_42 (dk_at dksX1_count_5 23 rfl rfl)
theorem dX1_count_161 : decode cX1_count 161 = .ok (.getfield 55, 3) := dk_180 0 55 (dk_at dksX1_count_6 0 rfl rfl)
theorem dX1_count_164 : decode cX1_count 164 = .ok (.invokeinterface 104 1, 5) := by decide +kernel
theorem dX1_count_169 : decode cX1_count 169 = .ok (.ireturn, 1) := dk_172 (dk_at dksX1_count_6 8 rfl rfl)
theorem dX1_count_170 : decode cX1_count 170 = .ok (.aload_n 0, 1) := dk_42 (dk_at dksX1_count_6 9 rfl rfl)
theorem dX1_count_171 : decode cX1_count 171 = .ok (.getfield 59, 3) := dk_180 0 59 (dk_at dksX1_count_6 10 rfl rfl)
theorem dX1_count_174 : decode cX1_count 174 = .ok (.invokeinterface 104 1, 5) := by decide +kernel
theorem dX1_count_179 : decode cX1_count 179 = .ok (.ireturn, 1) := dk_172 (dk_at dksX1_count_6 18 rfl rfl)
theorem dX1_count_180 : decode cX1_count 180 = .ok (.aload_n 0, 1) := dk_42 (dk_at dksX1_count_6 19 rfl rfl)
theorem dX1_count_181 : decode cX1_count 181 = .ok (.getfield 62, 3) := dk_180 0 62 (dk_at dksX1_count_6 20 rfl rfl)
theorem dX1_count_184 : decode cX1_count 184 = .ok (.ireturn, 1) := dk_172 (dk_at dksX1_count_6 23 rfl rfl)
theorem dX1_count_185 : decode cX1_count 185 = .ok (.iload_n 1, 1) := dk_27 (dk_at dksX1_count_7 0 rfl rfl)
theorem dX1_count_186 : decode cX1_count 186 = .ok (.bipush 13, 2) := dk_16 13 (dk_at dksX1_count_7 1 rfl rfl)
theorem dX1_count_188 : decode cX1_count 188 = .ok (.bipush 15, 2) := dk_16 15 (dk_at dksX1_count_7 3 rfl rfl)
theorem dX1_count_190 : decode cX1_count 190 = .ok (.invokestatic 134, 3) := dk_184 0 134 (dk_at dksX1_count_7 5 rfl rfl)
theorem dX1_count_193 : decode cX1_count 193 = .ok (.invokestatic 138, 3) := dk_184 0 138 (dk_at dksX1_count_7 8 rfl rfl)
theorem dX1_count_196 : decode cX1_count 196 = .ok (.aload_n 0, 1) := dk_42 (dk_at dksX1_count_7 11 rfl rfl)
theorem dX1_count_197 : decode cX1_count 197 = .ok (.getfield 49, 3) := dk_180 0 49 (dk_at dksX1_count_7 12 rfl rfl)
theorem dX1_count_200 : decode cX1_count 200 = .ok (.iload_n 1, 1) := dk_27 (dk_at dksX1_count_7 15 rfl rfl)
theorem dX1_count_201 : decode cX1_count 201 = .ok (.bipush 13, 2) := dk_16 13 (dk_at dksX1_count_7 16 rfl rfl)
theorem dX1_count_203 : decode cX1_count 203 = .ok (.isub, 1) := dk_100 (dk_at dksX1_count_7 18 rfl rfl)
theorem dX1_count_204 : decode cX1_count 204 = .ok (.iaload, 1) := dk_46 (dk_at dksX1_count_7 19 rfl rfl)
theorem dX1_count_205 : decode cX1_count 205 = .ok (.ireturn, 1) := dk_172 (dk_at dksX1_count_7 20 rfl rfl)
abbrev mX1_count : xM := (yX1_count, cX1_count, 2, (some .int), [])
def c_X1_count (x0 : Option Nat) (x1 : Int32) (T : xF) : Option ((Int32 ⊕ xE) × xF) :=
  if x1 = (0 : Int32) then
    (oQ T x0 0 1).bind fun v69 =>
    if ¬ isO T v69 1 = true then none else
    (c_X2_cells T v69).bind fun v72 =>
    some (.inl v72, T)
  else
  if x1 = (1 : Int32) then
    (oQ T x0 0 1).bind fun v77 =>
    (oI T v77 1 2).bind fun v80 =>
    some (.inl v80, T)
  else
  if x1 = (2 : Int32) then
    (oQ T x0 0 1).bind fun v85 =>
    (oQ T v85 1 0).bind fun v88 =>
    if ¬ isO T v88 10 = true then none else
    (c_J2_size T v88).bind fun v91 =>
    some (.inl v91, T)
  else
  if x1 = (3 : Int32) then
    (oQ T x0 0 4).bind fun v98 =>
    (oI T v98 2 4).bind fun v101 =>
    some (.inl v101, T)
  else
  if x1 = (4 : Int32) then
    (oQ T x0 0 1).bind fun v106 =>
    (oQ T x0 0 4).bind fun v110 =>
    (oI T v110 2 4).bind fun v113 =>
    if ¬ isO T v106 1 = true then none else
    (c_X2_warmth T v106 v113).bind fun v116 =>
    some (.inl v116, T)
  else
  if x1 = (5 : Int32) then
    (oQ T x0 0 1).bind fun v121 =>
    (oI T v121 1 4).bind fun v124 =>
    some (.inl v124, T)
  else
  if x1 = (6 : Int32) then
    (oQ T x0 0 1).bind fun v129 =>
    (oI T v129 1 5).bind fun v132 =>
    some (.inl v132, T)
  else
  if x1 = (7 : Int32) then
    if ¬ isO T x0 0 = true then none else
    (c_X1_moulds T x0).bind fun v137 =>
    some (.inl v137, T)
  else
  if x1 = (8 : Int32) then
    (oQ T x0 0 4).bind fun v142 =>
    (c_X1_allParties).bind fun v145 =>
    if ¬ isO T v142 2 = true then none else
    (c_X3_votesOf T v142 v145).bind fun v148 =>
    some (.inl v148, T)
  else
  if x1 = (9 : Int32) then
    (oQ T x0 0 4).bind fun v153 =>
    if ¬ isO T v153 2 = true then none else
    (c_X3_winner T v153).bind fun v156 =>
    some (.inl v156, T)
  else
  if x1 = (10 : Int32) then
    (oQ T x0 0 9).bind fun v161 =>
    if ¬ isO T v161 10 = true then none else
    (c_J2_size T v161).bind fun v164 =>
    some (.inl v164, T)
  else
  if x1 = (11 : Int32) then
    (oQ T x0 0 10).bind fun v171 =>
    if ¬ isO T v171 10 = true then none else
    (c_J2_size T v171).bind fun v174 =>
    some (.inl v174, T)
  else
  if x1 = (12 : Int32) then
    (oI T x0 0 6).bind fun v181 =>
    some (.inl v181, T)
  else
    (c_X1_in x1 (13 : Int32) (15 : Int32)).bind fun v190 =>
    clX (c_X1_found v190 T) T fun v193 T193 =>
    (oQ T193 x0 0 8).bind fun v197 =>
    (ldA T193 v197 .int (x1 - (13 : Int32))).bind fun v204 =>
    some (.inl v204, T193)
theorem w_X1_count {G : xG}  {T : xF} {x0 : Option Nat} {x1 : Int32} {q : ((Int32 ⊕ xE) × xF)} (hf : c_X1_count x0 x1 T = some q) : Ct G mX1_count (8) T [va_rf x0, .int x1] (xoI q.1) q.2 := by
  refine Ct.ofc (plainFor_of_name (by decide +kernel)) rfl (xvQ (xvI xvN)) (Nat.le_of_ble_eq_true rfl) (show Xr G _ 0 [(0, va_rf x0), (1, .int x1)] [] _ from ?_)
  unfold c_X1_count at hf
  refine X.iload_n dX1_count_0 rfl 1 rfl ?_
  by_cases c1_0 : x1 = (0 : Int32)
  · have hf := if_t c1_0 hf
    refine X.tableC (tgt := 68) c1_0 dX1_count_1 (by decide) (by decide) rfl (by decide) ?_
    refine C.aload_n dX1_count_68 rfl 0 rfl ?_
    obtain ⟨v69, h69, hf⟩ := ob hf
    refine C.getQ dX1_count_69 rX1_22 h69 ?_
    obtain ⟨c72, hf⟩ := if_n hf
    obtain ⟨v72, h72, hf⟩ := ob hf
    refine X.keep fun l72 => C.Vi (As := []) (rest := []) dX1_count_72 (w_X2_cells h72) cX1_92 (Classical.not_not.mp c72) rfl rfl (xcs xvN (Nat.le_of_ble_eq_true rfl)) rfl rfl (xD (Nat.le_of_ble_eq_true rfl)) xle.rf l72 ?_
    obtain rfl := Option.some.inj hf
    exact X.iret dX1_count_75 rfl rfl rfl
  have hf := if_f c1_0 hf
  by_cases c1_1 : x1 = (1 : Int32)
  · have hf := if_t c1_1 hf
    refine X.tableC (tgt := 76) c1_1 dX1_count_1 (by decide) (by decide) rfl (by decide) ?_
    refine C.aload_n dX1_count_76 rfl 0 rfl ?_
    obtain ⟨v77, h77, hf⟩ := ob hf
    refine C.getQ dX1_count_77 rX1_22 h77 ?_
    obtain ⟨v80, h80, hf⟩ := ob hf
    refine C.getI dX1_count_80 rX1_98 h80 ?_
    obtain rfl := Option.some.inj hf
    exact X.iret dX1_count_83 rfl rfl rfl
  have hf := if_f c1_1 hf
  by_cases c1_2 : x1 = (2 : Int32)
  · have hf := if_t c1_2 hf
    refine X.tableC (tgt := 84) c1_2 dX1_count_1 (by decide) (by decide) rfl (by decide) ?_
    refine C.aload_n dX1_count_84 rfl 0 rfl ?_
    obtain ⟨v85, h85, hf⟩ := ob hf
    refine C.getQ dX1_count_85 rX1_22 h85 ?_
    obtain ⟨v88, h88, hf⟩ := ob hf
    refine C.getQ dX1_count_88 rX1_101 h88 ?_
    obtain ⟨c91, hf⟩ := if_n hf
    obtain ⟨v91, h91, hf⟩ := ob hf
    refine X.keep fun l91 => C.Fi (As := []) (rest := []) dX1_count_91 (w_J2_size h91) cX1_104 (Classical.not_not.mp c91) rfl rfl (xcs xvN (Nat.le_of_ble_eq_true rfl)) rfl rfl (xD (Nat.le_of_ble_eq_true rfl)) xle.rf l91 ?_
    obtain rfl := Option.some.inj hf
    exact X.iret dX1_count_96 rfl rfl rfl
  have hf := if_f c1_2 hf
  by_cases c1_3 : x1 = (3 : Int32)
  · have hf := if_t c1_3 hf
    refine X.tableC (tgt := 97) c1_3 dX1_count_1 (by decide) (by decide) rfl (by decide) ?_
    refine C.aload_n dX1_count_97 rfl 0 rfl ?_
    obtain ⟨v98, h98, hf⟩ := ob hf
    refine C.getQ dX1_count_98 rX1_38 h98 ?_
    obtain ⟨v101, h101, hf⟩ := ob hf
    refine C.getI dX1_count_101 rX1_109 h101 ?_
    obtain rfl := Option.some.inj hf
    exact X.iret dX1_count_104 rfl rfl rfl
  have hf := if_f c1_3 hf
  by_cases c1_4 : x1 = (4 : Int32)
  · have hf := if_t c1_4 hf
    refine X.tableC (tgt := 105) c1_4 dX1_count_1 (by decide) (by decide) rfl (by decide) ?_
    refine C.aload_n dX1_count_105 rfl 0 rfl ?_
    obtain ⟨v106, h106, hf⟩ := ob hf
    refine C.getQ dX1_count_106 rX1_22 h106 ?_
    refine C.aload_n dX1_count_109 rfl 0 rfl ?_
    obtain ⟨v110, h110, hf⟩ := ob hf
    refine C.getQ dX1_count_110 rX1_38 h110 ?_
    obtain ⟨v113, h113, hf⟩ := ob hf
    refine C.getI dX1_count_113 rX1_109 h113 ?_
    obtain ⟨c116, hf⟩ := if_n hf
    obtain ⟨v116, h116, hf⟩ := ob hf
    refine X.keep fun l116 => C.Vi (As := [.int v113]) (rest := []) dX1_count_116 (w_X2_warmth h116) cX1_112 (Classical.not_not.mp c116) rfl rfl (xcs xvN (Nat.le_of_ble_eq_true rfl)) rfl rfl (xD (Nat.le_of_ble_eq_true rfl)) xle.rf l116 ?_
    obtain rfl := Option.some.inj hf
    exact X.iret dX1_count_119 rfl rfl rfl
  have hf := if_f c1_4 hf
  by_cases c1_5 : x1 = (5 : Int32)
  · have hf := if_t c1_5 hf
    refine X.tableC (tgt := 120) c1_5 dX1_count_1 (by decide) (by decide) rfl (by decide) ?_
    refine C.aload_n dX1_count_120 rfl 0 rfl ?_
    obtain ⟨v121, h121, hf⟩ := ob hf
    refine C.getQ dX1_count_121 rX1_22 h121 ?_
    obtain ⟨v124, h124, hf⟩ := ob hf
    refine C.getI dX1_count_124 rX1_116 h124 ?_
    obtain rfl := Option.some.inj hf
    exact X.iret dX1_count_127 rfl rfl rfl
  have hf := if_f c1_5 hf
  by_cases c1_6 : x1 = (6 : Int32)
  · have hf := if_t c1_6 hf
    refine X.tableC (tgt := 128) c1_6 dX1_count_1 (by decide) (by decide) rfl (by decide) ?_
    refine C.aload_n dX1_count_128 rfl 0 rfl ?_
    obtain ⟨v129, h129, hf⟩ := ob hf
    refine C.getQ dX1_count_129 rX1_22 h129 ?_
    obtain ⟨v132, h132, hf⟩ := ob hf
    refine C.getI dX1_count_132 rX1_119 h132 ?_
    obtain rfl := Option.some.inj hf
    exact X.iret dX1_count_135 rfl rfl rfl
  have hf := if_f c1_6 hf
  by_cases c1_7 : x1 = (7 : Int32)
  · have hf := if_t c1_7 hf
    refine X.tableC (tgt := 136) c1_7 dX1_count_1 (by decide) (by decide) rfl (by decide) ?_
    refine C.aload_n dX1_count_136 rfl 0 rfl ?_
    obtain ⟨c137, hf⟩ := if_n hf
    obtain ⟨v137, h137, hf⟩ := ob hf
    refine X.keep fun l137 => C.Vi (As := []) (rest := []) dX1_count_137 (w_X1_moulds h137) cX1_122 (Classical.not_not.mp c137) rfl rfl (xcs xvN (Nat.le_of_ble_eq_true rfl)) rfl rfl (xD (Nat.le_of_ble_eq_true rfl)) xle.rf l137 ?_
    obtain rfl := Option.some.inj hf
    exact X.iret dX1_count_140 rfl rfl rfl
  have hf := if_f c1_7 hf
  by_cases c1_8 : x1 = (8 : Int32)
  · have hf := if_t c1_8 hf
    refine X.tableC (tgt := 141) c1_8 dX1_count_1 (by decide) (by decide) rfl (by decide) ?_
    refine C.aload_n dX1_count_141 rfl 0 rfl ?_
    obtain ⟨v142, h142, hf⟩ := ob hf
    refine C.getQ dX1_count_142 rX1_38 h142 ?_
    obtain ⟨v145, h145, hf⟩ := ob hf
    refine X.keep fun l145 => C.Si (As := []) (rest := [va_rf v142]) dX1_count_145 (w_X1_allParties h145) cX1_125 rfl rfl (xcs (xvQ xvN) (Nat.le_of_ble_eq_true rfl)) (xD (Nat.le_of_ble_eq_true rfl)) xle.rf l145 ?_
    obtain ⟨c148, hf⟩ := if_n hf
    obtain ⟨v148, h148, hf⟩ := ob hf
    refine X.keep fun l148 => C.Vi (As := [.int v145]) (rest := []) dX1_count_148 (w_X3_votesOf h148) cX1_128 (Classical.not_not.mp c148) rfl rfl (xcs xvN (Nat.le_of_ble_eq_true rfl)) rfl rfl (xD (Nat.le_of_ble_eq_true rfl)) xle.rf l148 ?_
    obtain rfl := Option.some.inj hf
    exact X.iret dX1_count_151 rfl rfl rfl
  have hf := if_f c1_8 hf
  by_cases c1_9 : x1 = (9 : Int32)
  · have hf := if_t c1_9 hf
    refine X.tableC (tgt := 152) c1_9 dX1_count_1 (by decide) (by decide) rfl (by decide) ?_
    refine C.aload_n dX1_count_152 rfl 0 rfl ?_
    obtain ⟨v153, h153, hf⟩ := ob hf
    refine C.getQ dX1_count_153 rX1_38 h153 ?_
    obtain ⟨c156, hf⟩ := if_n hf
    obtain ⟨v156, h156, hf⟩ := ob hf
    refine X.keep fun l156 => C.Vi (As := []) (rest := []) dX1_count_156 (w_X3_winner h156) cX1_131 (Classical.not_not.mp c156) rfl rfl (xcs xvN (Nat.le_of_ble_eq_true rfl)) rfl rfl (xD (Nat.le_of_ble_eq_true rfl)) xle.rf l156 ?_
    obtain rfl := Option.some.inj hf
    exact X.iret dX1_count_159 rfl rfl rfl
  have hf := if_f c1_9 hf
  by_cases c1_10 : x1 = (10 : Int32)
  · have hf := if_t c1_10 hf
    refine X.tableC (tgt := 160) c1_10 dX1_count_1 (by decide) (by decide) rfl (by decide) ?_
    refine C.aload_n dX1_count_160 rfl 0 rfl ?_
    obtain ⟨v161, h161, hf⟩ := ob hf
    refine C.getQ dX1_count_161 rX1_55 h161 ?_
    obtain ⟨c164, hf⟩ := if_n hf
    obtain ⟨v164, h164, hf⟩ := ob hf
    refine X.keep fun l164 => C.Fi (As := []) (rest := []) dX1_count_164 (w_J2_size h164) cX1_104 (Classical.not_not.mp c164) rfl rfl (xcs xvN (Nat.le_of_ble_eq_true rfl)) rfl rfl (xD (Nat.le_of_ble_eq_true rfl)) xle.rf l164 ?_
    obtain rfl := Option.some.inj hf
    exact X.iret dX1_count_169 rfl rfl rfl
  have hf := if_f c1_10 hf
  by_cases c1_11 : x1 = (11 : Int32)
  · have hf := if_t c1_11 hf
    refine X.tableC (tgt := 170) c1_11 dX1_count_1 (by decide) (by decide) rfl (by decide) ?_
    refine C.aload_n dX1_count_170 rfl 0 rfl ?_
    obtain ⟨v171, h171, hf⟩ := ob hf
    refine C.getQ dX1_count_171 rX1_59 h171 ?_
    obtain ⟨c174, hf⟩ := if_n hf
    obtain ⟨v174, h174, hf⟩ := ob hf
    refine X.keep fun l174 => C.Fi (As := []) (rest := []) dX1_count_174 (w_J2_size h174) cX1_104 (Classical.not_not.mp c174) rfl rfl (xcs xvN (Nat.le_of_ble_eq_true rfl)) rfl rfl (xD (Nat.le_of_ble_eq_true rfl)) xle.rf l174 ?_
    obtain rfl := Option.some.inj hf
    exact X.iret dX1_count_179 rfl rfl rfl
  have hf := if_f c1_11 hf
  by_cases c1_12 : x1 = (12 : Int32)
  · have hf := if_t c1_12 hf
    refine X.tableC (tgt := 180) c1_12 dX1_count_1 (by decide) (by decide) rfl (by decide) ?_
    refine C.aload_n dX1_count_180 rfl 0 rfl ?_
    obtain ⟨v181, h181, hf⟩ := ob hf
    refine C.getI dX1_count_181 rX1_62 h181 ?_
    obtain rfl := Option.some.inj hf
    exact X.iret dX1_count_184 rfl rfl rfl
  have hf := if_f c1_12 hf
  have t_c1_0 := lv_neT (a := 0) c1_0 rfl
  have t_c1_1 := lv_neT (a := 1) c1_1 rfl
  have t_c1_2 := lv_neT (a := 2) c1_2 rfl
  have t_c1_3 := lv_neT (a := 3) c1_3 rfl
  have t_c1_4 := lv_neT (a := 4) c1_4 rfl
  have t_c1_5 := lv_neT (a := 5) c1_5 rfl
  have t_c1_6 := lv_neT (a := 6) c1_6 rfl
  have t_c1_7 := lv_neT (a := 7) c1_7 rfl
  have t_c1_8 := lv_neT (a := 8) c1_8 rfl
  have t_c1_9 := lv_neT (a := 9) c1_9 rfl
  have t_c1_10 := lv_neT (a := 10) c1_10 rfl
  have t_c1_11 := lv_neT (a := 11) c1_11 rfl
  have t_c1_12 := lv_neT (a := 12) c1_12 rfl
  refine X.tableOut (tgt := 185) dX1_count_1 (by omega) (by decide) ?_
  refine X.iload_n dX1_count_185 rfl 1 rfl ?_
  refine X.bipush (v := 13) dX1_count_186 (by decide) ?_
  refine X.bipush (v := 15) dX1_count_188 (by decide) ?_
  obtain ⟨v190, h190, hf⟩ := ob hf
  refine X.keep fun l190 => C.Si (As := [.int x1, .int (13 : Int32), .int (15 : Int32)]) (rest := []) dX1_count_190 (w_X1_in h190) cX1_134 rfl rfl (xcs xvN (Nat.le_of_ble_eq_true rfl)) (xD (Nat.le_of_ble_eq_true rfl)) xle.rf l190 ?_
  rcases clX_ok hf with ⟨v193, T193, h193, hf, l193, r193⟩ | ⟨e193, T193, h193, rfl, l193⟩
  rotate_left
  · exact C.Sx (As := [.int v190]) (rest := []) dX1_count_193 (w_X1_found h193) cX1_138 rfl rfl (xcs xvN (Nat.le_of_ble_eq_true rfl)) (xD (Nat.le_of_ble_eq_true rfl)) l193 xle.rf (xnoh rfl) rfl
  refine C.Sv (As := [.int v190]) (rest := []) dX1_count_193 (w_X1_found h193) cX1_138 rfl rfl (xcs xvN (Nat.le_of_ble_eq_true rfl)) (xD (Nat.le_of_ble_eq_true rfl)) l193 r193 ?_
  refine C.aload_n dX1_count_196 rfl 0 rfl ?_
  obtain ⟨v197, h197, hf⟩ := ob hf
  refine C.getQ dX1_count_197 rX1_49 h197 ?_
  refine X.iload_n dX1_count_200 rfl 1 rfl ?_
  refine X.bipush (v := 13) dX1_count_201 (by decide) ?_
  refine X.isub dX1_count_203 ?_
  obtain ⟨v204, h204, hf⟩ := ob hf
  refine C.iald dX1_count_204 h204 ?_
  obtain rfl := Option.some.inj hf
  exact X.iret dX1_count_205 rfl rfl rfl
/-! MouldVotes$Roll <init> -/
abbrev cX2_init : ByteArray := prog_8_method_1_code
def yX2_init : MethodName := ⟨RX2, "<init>", "()V"⟩
def dkwX2_init_2 : List UInt8 := [181, 0, 29, 177]
abbrev dktX2_init_2 : List UInt8 := dkwX2_init_2 ++ []
def dkwX2_init_1 : List UInt8 := [181, 0, 16, 42, 6, 181, 0, 19, 42, 6, 181, 0, 23, 42, 16, 9, 181, 0, 26, 42, 16, 6]
abbrev dktX2_init_1 : List UInt8 := dkwX2_init_1 ++ dktX2_init_2
def dkwX2_init_0 : List UInt8 := [42, 183, 0, 1, 42, 187, 0, 7, 89, 183, 0, 9, 181, 0, 10, 42, 187, 0, 7, 89, 183, 0, 9]
abbrev dktX2_init_0 : List UInt8 := dkwX2_init_0 ++ dktX2_init_1
theorem dksX2_init_0 : cX2_init.data.toList.drop 0 = dktX2_init_0 := by decide +kernel
theorem dksX2_init_1 : cX2_init.data.toList.drop 23 = dktX2_init_1 := dk_seg dksX2_init_0 23 rfl rfl
theorem dksX2_init_2 : cX2_init.data.toList.drop 45 = dktX2_init_2 := dk_seg dksX2_init_1 22 rfl rfl
theorem dX2_init_0 : decode cX2_init 0 = .ok (.aload_n 0, 1) := dk_42 (dk_at dksX2_init_0 0 rfl rfl)
theorem dX2_init_1 : decode cX2_init 1 = .ok (.invokespecial 1, 3) := dk_183 0 1 (dk_at dksX2_init_0 1 rfl rfl)
theorem dX2_init_4 : decode cX2_init 4 = .ok (.aload_n 0, 1) := dk_42 (dk_at dksX2_init_0 4 rfl rfl)
theorem dX2_init_5 : decode cX2_init 5 = .ok (.new 7, 3) := dk_187 0 7 (dk_at dksX2_init_0 5 rfl rfl)
theorem dX2_init_8 : decode cX2_init 8 = .ok (.dup, 1) := dk_89 (dk_at dksX2_init_0 8 rfl rfl)
theorem dX2_init_9 : decode cX2_init 9 = .ok (.invokespecial 9, 3) := dk_183 0 9 (dk_at dksX2_init_0 9 rfl rfl)
theorem dX2_init_12 : decode cX2_init 12 = .ok (.putfield 10, 3) := dk_181 0 10 (dk_at dksX2_init_0 12 rfl rfl)
theorem dX2_init_15 : decode cX2_init 15 = .ok (.aload_n 0, 1) := dk_42 (dk_at dksX2_init_0 15 rfl rfl)
theorem dX2_init_16 : decode cX2_init 16 = .ok (.new 7, 3) := dk_187 0 7 (dk_at dksX2_init_0 16 rfl rfl)
theorem dX2_init_19 : decode cX2_init 19 = .ok (.dup, 1) := dk_89 (dk_at dksX2_init_0 19 rfl rfl)
theorem dX2_init_20 : decode cX2_init 20 = .ok (.invokespecial 9, 3) := dk_183 0 9 (dk_at dksX2_init_0 20 rfl rfl)
theorem dX2_init_23 : decode cX2_init 23 = .ok (.putfield 16, 3) := dk_181 0 16 (dk_at dksX2_init_1 0 rfl rfl)
theorem dX2_init_26 : decode cX2_init 26 = .ok (.aload_n 0, 1) := dk_42 (dk_at dksX2_init_1 3 rfl rfl)
theorem dX2_init_27 : decode cX2_init 27 = .ok (.iconst 3, 1) := dk_6 (dk_at dksX2_init_1 4 rfl rfl)
theorem dX2_init_28 : decode cX2_init 28 = .ok (.putfield 19, 3) := dk_181 0 19 (dk_at dksX2_init_1 5 rfl rfl)
theorem dX2_init_31 : decode cX2_init 31 = .ok (.aload_n 0, 1) := dk_42 (dk_at dksX2_init_1 8 rfl rfl)
theorem dX2_init_32 : decode cX2_init 32 = .ok (.iconst 3, 1) := dk_6 (dk_at dksX2_init_1 9 rfl rfl)
theorem dX2_init_33 : decode cX2_init 33 = .ok (.putfield 23, 3) := dk_181 0 23 (dk_at dksX2_init_1 10 rfl rfl)
theorem dX2_init_36 : decode cX2_init 36 = .ok (.aload_n 0, 1) := dk_42 (dk_at dksX2_init_1 13 rfl rfl)
theorem dX2_init_37 : decode cX2_init 37 = .ok (.bipush 9, 2) := dk_16 9 (dk_at dksX2_init_1 14 rfl rfl)
theorem dX2_init_39 : decode cX2_init 39 = .ok (.putfield 26, 3) := dk_181 0 26 (dk_at dksX2_init_1 16 rfl rfl)
theorem dX2_init_42 : decode cX2_init 42 = .ok (.aload_n 0, 1) := dk_42 (dk_at dksX2_init_1 19 rfl rfl)
theorem dX2_init_43 : decode cX2_init 43 = .ok (.bipush 6, 2) := dk_16 6 (dk_at dksX2_init_1 20 rfl rfl)
theorem dX2_init_45 : decode cX2_init 45 = .ok (.putfield 29, 3) := dk_181 0 29 (dk_at dksX2_init_2 0 rfl rfl)
theorem dX2_init_48 : decode cX2_init 48 = .ok (.return_, 1) := dk_177 (dk_at dksX2_init_2 3 rfl rfl)
abbrev mX2_init : xM := (yX2_init, cX2_init, 1, none, [])
def c_X2_init (G : xG) (x0 : Option Nat) (T : xF) : Option (Unit × xF) :=
  if ¬ x0.isSome = true then none else
  al (nO T 10 3 [.int 0, .null, .int 0]) fun T5 =>
  cl (c_J2_init G (some T.2.1) T5) T5 fun v9 T9 =>
  (pV T9 x0 1 0 (va_rf (some T.2.1))).bind fun T12 =>
  al (nO T12 10 3 [.int 0, .null, .int 0]) fun T16 =>
  cl (c_J2_init G (some T12.2.1) T16) T16 fun v20 T20 =>
  (pV T20 x0 1 1 (va_rf (some T12.2.1))).bind fun T23 =>
  (pV T23 x0 1 2 (.int (3 : Int32))).bind fun T28 =>
  (pV T28 x0 1 3 (.int (3 : Int32))).bind fun T33 =>
  (pV T33 x0 1 4 (.int (9 : Int32))).bind fun T39 =>
  (pV T39 x0 1 5 (.int (6 : Int32))).bind fun T45 =>
  some ((), T45)
theorem w_X2_init {G : xG}  {T : xF} {x0 : Option Nat} {q : (Unit × xF)} (hf : c_X2_init G x0 T = some q) : Ct G mX2_init (4) T [va_rf x0] (.inl none) q.2 := by
  refine Ct.ofc (plainFor_of_name (by decide +kernel)) rfl (xvQ xvN) (Nat.le_of_ble_eq_true rfl) (show Xr G _ 0 [(0, va_rf x0)] [] _ from ?_)
  unfold c_X2_init at hf
  refine C.aload_n dX2_init_0 rfl 0 rfl ?_
  obtain ⟨c1, hf⟩ := if_n hf
  refine C.objI (Classical.not_not.mp c1) dX2_init_1 q167 obj1 obj2 (xcs xvN (Nat.le_of_ble_eq_true rfl)) (xD1 (Nat.le_of_ble_eq_true rfl)) ?_
  refine C.aload_n dX2_init_4 rfl 0 rfl ?_
  obtain ⟨T5, e5, hf, l5⟩ := al_ok hf
  refine C.newE e5 dX2_init_5 clJ2 q168 q169 q125 rfl dfJ2 l5 ?_
  refine X.dup dX2_init_8 (cat1 _) ?_
  obtain ⟨v9, T9, h9, hf, l9, r9⟩ := cl_ok hf
  refine C.Iv (As := []) (rest := [va_rf (some T.2.1), va_rf x0]) dX2_init_9 (w_J2_init h9) cX2_9 rfl rfl rfl (xcs (xvQ (xvQ xvN)) (Nat.le_of_ble_eq_true rfl)) (xD (Nat.le_of_ble_eq_true rfl)) l9 r9 ?_
  obtain ⟨T12, h12, hf⟩ := ob hf
  refine C.putQ dX2_init_12 fX2_10 (fun _ => rfl) rfl h12 ?_
  refine C.aload_n dX2_init_15 rfl 0 rfl ?_
  obtain ⟨T16, e16, hf, l16⟩ := al_ok hf
  refine C.newE e16 dX2_init_16 clJ2 q168 q169 q125 rfl dfJ2 l16 ?_
  refine X.dup dX2_init_19 (cat1 _) ?_
  obtain ⟨v20, T20, h20, hf, l20, r20⟩ := cl_ok hf
  refine C.Iv (As := []) (rest := [va_rf (some T12.2.1), va_rf x0]) dX2_init_20 (w_J2_init h20) cX2_9 rfl rfl rfl (xcs (xvQ (xvQ xvN)) (Nat.le_of_ble_eq_true rfl)) (xD (Nat.le_of_ble_eq_true rfl)) l20 r20 ?_
  obtain ⟨T23, h23, hf⟩ := ob hf
  refine C.putQ dX2_init_23 fX2_16 (fun _ => rfl) rfl h23 ?_
  refine C.aload_n dX2_init_26 rfl 0 rfl ?_
  refine X.iconst (v := 3) dX2_init_27 (by decide) ?_
  obtain ⟨T28, h28, hf⟩ := ob hf
  refine C.putI dX2_init_28 fX2_19 (fun q => by cases q) rfl rfl h28 ?_
  refine C.aload_n dX2_init_31 rfl 0 rfl ?_
  refine X.iconst (v := 3) dX2_init_32 (by decide) ?_
  obtain ⟨T33, h33, hf⟩ := ob hf
  refine C.putI dX2_init_33 fX2_23 (fun q => by cases q) rfl rfl h33 ?_
  refine C.aload_n dX2_init_36 rfl 0 rfl ?_
  refine X.bipush (v := 9) dX2_init_37 (by decide) ?_
  obtain ⟨T39, h39, hf⟩ := ob hf
  refine C.putI dX2_init_39 fX2_26 (fun q => by cases q) rfl rfl h39 ?_
  refine C.aload_n dX2_init_42 rfl 0 rfl ?_
  refine X.bipush (v := 6) dX2_init_43 (by decide) ?_
  obtain ⟨T45, h45, hf⟩ := ob hf
  refine C.putI dX2_init_45 fX2_29 (fun q => by cases q) rfl rfl h45 ?_
  obtain rfl := Option.some.inj hf
  exact X.vret dX2_init_48 rfl rfl
theorem cX1_21 : xCIN RX1 21 mX2_init 0 := ⟨⟨lw_meth q166, rfl, ⟨_, q164⟩, q122, q165, rfl⟩, rfl, ⟨by decide +kernel, by decide +kernel, by decide +kernel⟩, Nat.le_of_ble_eq_true rfl⟩
theorem cX5_17 : xCIN RX5 17 mX2_init 0 := ⟨⟨lw_meth q166, rfl, ⟨_, q813⟩, q122, q165, rfl⟩, rfl, ⟨by decide +kernel, by decide +kernel, by decide +kernel⟩, Nat.le_of_ble_eq_true rfl⟩
/-! MouldVotes$Reader <init> -/
abbrev cX5_init : ByteArray := prog_7_method_1_code
def yX5_init : MethodName := ⟨RX5, "<init>", "(LMouldVotes;I)V"⟩
def dkwX5_init_6 : List UInt8 := [83, 89, 7, 18, 51, 83, 181, 0, 66, 42, 42, 180, 0, 61, 181, 0, 69, 42, 28, 181, 0, 72, 177]
abbrev dktX5_init_6 : List UInt8 := dkwX5_init_6 ++ []
def dkwX5_init_5 : List UInt8 := [42, 8, 189, 0, 31, 89, 3, 18, 49, 83, 89, 4, 18, 64, 83, 89, 5, 18, 55, 83, 89, 6, 18, 57]
abbrev dktX5_init_5 : List UInt8 := dkwX5_init_5 ++ dktX5_init_6
def dkwX5_init_4 : List UInt8 := [89, 6, 18, 35, 83, 89, 7, 18, 55, 83, 89, 8, 18, 57, 83, 89, 16, 6, 18, 59, 83, 181, 0, 61]
abbrev dktX5_init_4 : List UInt8 := dkwX5_init_4 ++ dktX5_init_5
def dkwX5_init_3 : List UInt8 := [181, 0, 45, 42, 16, 7, 189, 0, 31, 89, 3, 18, 49, 83, 89, 4, 18, 51, 83, 89, 5, 18, 53, 83]
abbrev dktX5_init_3 : List UInt8 := dkwX5_init_3 ++ dktX5_init_4
def dkwX5_init_2 : List UInt8 := [18, 35, 83, 89, 5, 18, 37, 83, 89, 6, 18, 39, 83, 89, 7, 18, 41, 83, 89, 8, 18, 43, 83]
abbrev dktX5_init_2 : List UInt8 := dkwX5_init_2 ++ dktX5_init_3
def dkwX5_init_1 : List UInt8 := [89, 42, 180, 0, 3, 183, 0, 24, 181, 0, 27, 42, 16, 6, 189, 0, 31, 89, 3, 18, 33, 83, 89, 4]
abbrev dktX5_init_1 : List UInt8 := dkwX5_init_1 ++ dktX5_init_2
def dkwX5_init_0 : List UInt8 := [42, 43, 181, 0, 3, 42, 183, 0, 9, 42, 187, 0, 15, 89, 183, 0, 17, 181, 0, 18, 42, 187, 0, 22]
abbrev dktX5_init_0 : List UInt8 := dkwX5_init_0 ++ dktX5_init_1
theorem dksX5_init_0 : cX5_init.data.toList.drop 0 = dktX5_init_0 := by decide +kernel
theorem dksX5_init_1 : cX5_init.data.toList.drop 24 = dktX5_init_1 := dk_seg dksX5_init_0 24 rfl rfl
theorem dksX5_init_2 : cX5_init.data.toList.drop 48 = dktX5_init_2 := dk_seg dksX5_init_1 24 rfl rfl
theorem dksX5_init_3 : cX5_init.data.toList.drop 71 = dktX5_init_3 := dk_seg dksX5_init_2 23 rfl rfl
theorem dksX5_init_4 : cX5_init.data.toList.drop 95 = dktX5_init_4 := dk_seg dksX5_init_3 24 rfl rfl
theorem dksX5_init_5 : cX5_init.data.toList.drop 119 = dktX5_init_5 := dk_seg dksX5_init_4 24 rfl rfl
theorem dksX5_init_6 : cX5_init.data.toList.drop 143 = dktX5_init_6 := dk_seg dksX5_init_5 24 rfl rfl
theorem dX5_init_0 : decode cX5_init 0 = .ok (.aload_n 0, 1) := dk_42 (dk_at dksX5_init_0 0 rfl rfl)
theorem dX5_init_1 : decode cX5_init 1 = .ok (.aload_n 1, 1) := dk_43 (dk_at dksX5_init_0 1 rfl rfl)
theorem dX5_init_2 : decode cX5_init 2 = .ok (.putfield 3, 3) := dk_181 0 3 (dk_at dksX5_init_0 2 rfl rfl)
theorem dX5_init_5 : decode cX5_init 5 = .ok (.aload_n 0, 1) := dk_42 (dk_at dksX5_init_0 5 rfl rfl)
theorem dX5_init_6 : decode cX5_init 6 = .ok (.invokespecial 9, 3) := dk_183 0 9 (dk_at dksX5_init_0 6 rfl rfl)
theorem dX5_init_9 : decode cX5_init 9 = .ok (.aload_n 0, 1) := dk_42 (dk_at dksX5_init_0 9 rfl rfl)
theorem dX5_init_10 : decode cX5_init 10 = .ok (.new 15, 3) := dk_187 0 15 (dk_at dksX5_init_0 10 rfl rfl)
theorem dX5_init_13 : decode cX5_init 13 = .ok (.dup, 1) := dk_89 (dk_at dksX5_init_0 13 rfl rfl)
theorem dX5_init_14 : decode cX5_init 14 = .ok (.invokespecial 17, 3) := dk_183 0 17 (dk_at dksX5_init_0 14 rfl rfl)
theorem dX5_init_17 : decode cX5_init 17 = .ok (.putfield 18, 3) := dk_181 0 18 (dk_at dksX5_init_0 17 rfl rfl)
theorem dX5_init_20 : decode cX5_init 20 = .ok (.aload_n 0, 1) := dk_42 (dk_at dksX5_init_0 20 rfl rfl)
theorem dX5_init_21 : decode cX5_init 21 = .ok (.new 22, 3) := dk_187 0 22 (dk_at dksX5_init_0 21 rfl rfl)
theorem dX5_init_24 : decode cX5_init 24 = .ok (.dup, 1) := dk_89 (dk_at dksX5_init_1 0 rfl rfl)
theorem dX5_init_25 : decode cX5_init 25 = .ok (.aload_n 0, 1) := dk_42 (dk_at dksX5_init_1 1 rfl rfl)
theorem dX5_init_26 : decode cX5_init 26 = .ok (.getfield 3, 3) := dk_180 0 3 (dk_at dksX5_init_1 2 rfl rfl)
theorem dX5_init_29 : decode cX5_init 29 = .ok (.invokespecial 24, 3) := dk_183 0 24 (dk_at dksX5_init_1 5 rfl rfl)
theorem dX5_init_32 : decode cX5_init 32 = .ok (.putfield 27, 3) := dk_181 0 27 (dk_at dksX5_init_1 8 rfl rfl)
theorem dX5_init_35 : decode cX5_init 35 = .ok (.aload_n 0, 1) := dk_42 (dk_at dksX5_init_1 11 rfl rfl)
theorem dX5_init_36 : decode cX5_init 36 = .ok (.bipush 6, 2) := dk_16 6 (dk_at dksX5_init_1 12 rfl rfl)
theorem dX5_init_38 : decode cX5_init 38 = .ok (.anewarray 31, 3) := dk_189 0 31 (dk_at dksX5_init_1 14 rfl rfl)
theorem dX5_init_41 : decode cX5_init 41 = .ok (.dup, 1) := dk_89 (dk_at dksX5_init_1 17 rfl rfl)
theorem dX5_init_42 : decode cX5_init 42 = .ok (.iconst 0, 1) := dk_3 (dk_at dksX5_init_1 18 rfl rfl)
theorem dX5_init_43 : decode cX5_init 43 = .ok (.ldc 33, 2) := dk_18 33 (dk_at dksX5_init_1 19 rfl rfl)
theorem dX5_init_45 : decode cX5_init 45 = .ok (.aastore, 1) := dk_83 (dk_at dksX5_init_1 21 rfl rfl)
theorem dX5_init_46 : decode cX5_init 46 = .ok (.dup, 1) := dk_89 (dk_at dksX5_init_1 22 rfl rfl)
theorem dX5_init_47 : decode cX5_init 47 = .ok (.iconst 1, 1) := dk_4 (dk_at dksX5_init_1 23 rfl rfl)
theorem dX5_init_48 : decode cX5_init 48 = .ok (.ldc 35, 2) := dk_18 35 (dk_at dksX5_init_2 0 rfl rfl)
theorem dX5_init_50 : decode cX5_init 50 = .ok (.aastore, 1) := dk_83 (dk_at dksX5_init_2 2 rfl rfl)
theorem dX5_init_51 : decode cX5_init 51 = .ok (.dup, 1) := dk_89 (dk_at dksX5_init_2 3 rfl rfl)
theorem dX5_init_52 : decode cX5_init 52 = .ok (.iconst 2, 1) := dk_5 (dk_at dksX5_init_2 4 rfl rfl)
theorem dX5_init_53 : decode cX5_init 53 = .ok (.ldc 37, 2) := dk_18 37 (dk_at dksX5_init_2 5 rfl rfl)
theorem dX5_init_55 : decode cX5_init 55 = .ok (.aastore, 1) := dk_83 (dk_at dksX5_init_2 7 rfl rfl)
theorem dX5_init_56 : decode cX5_init 56 = .ok (.dup, 1) := dk_89 (dk_at dksX5_init_2 8 rfl rfl)
theorem dX5_init_57 : decode cX5_init 57 = .ok (.iconst 3, 1) := dk_6 (dk_at dksX5_init_2 9 rfl rfl)
theorem dX5_init_58 : decode cX5_init 58 = .ok (.ldc 39, 2) := dk_18 39 (dk_at dksX5_init_2 10 rfl rfl)
theorem dX5_init_60 : decode cX5_init 60 = .ok (.aastore, 1) := dk_83 (dk_at dksX5_init_2 12 rfl rfl)
theorem dX5_init_61 : decode cX5_init 61 = .ok (.dup, 1) := dk_89 (dk_at dksX5_init_2 13 rfl rfl)
theorem dX5_init_62 : decode cX5_init 62 = .ok (.iconst 4, 1) := dk_7 (dk_at dksX5_init_2 14 rfl rfl)
theorem dX5_init_63 : decode cX5_init 63 = .ok (.ldc 41, 2) := dk_18 41 (dk_at dksX5_init_2 15 rfl rfl)
theorem dX5_init_65 : decode cX5_init 65 = .ok (.aastore, 1) := dk_83 (dk_at dksX5_init_2 17 rfl rfl)
theorem dX5_init_66 : decode cX5_init 66 = .ok (.dup, 1) := dk_89 (dk_at dksX5_init_2 18 rfl rfl)
theorem dX5_init_67 : decode cX5_init 67 = .ok (.iconst 5, 1) := dk_8 (dk_at dksX5_init_2 19 rfl rfl)
theorem dX5_init_68 : decode cX5_init 68 = .ok (.ldc 43, 2) := dk_18 43 (dk_at dksX5_init_2 20 rfl rfl)
theorem dX5_init_70 : decode cX5_init 70 = .ok (.aastore, 1) := dk_83 (dk_at dksX5_init_2 22 rfl rfl)
theorem dX5_init_71 : decode cX5_init 71 = .ok (.putfield 45, 3) := dk_181 0 45 (dk_at dksX5_init_3 0 rfl rfl)
theorem dX5_init_74 : decode cX5_init 74 = .ok (.aload_n 0, 1) := dk_42 (dk_at dksX5_init_3 3 rfl rfl)
theorem dX5_init_75 : decode cX5_init 75 = .ok (.bipush 7, 2) := dk_16 7 (dk_at dksX5_init_3 4 rfl rfl)
theorem dX5_init_77 : decode cX5_init 77 = .ok (.anewarray 31, 3) := dk_189 0 31 (dk_at dksX5_init_3 6 rfl rfl)
theorem dX5_init_80 : decode cX5_init 80 = .ok (.dup, 1) := dk_89 (dk_at dksX5_init_3 9 rfl rfl)
theorem dX5_init_81 : decode cX5_init 81 = .ok (.iconst 0, 1) := dk_3 (dk_at dksX5_init_3 10 rfl rfl)
theorem dX5_init_82 : decode cX5_init 82 = .ok (.ldc 49, 2) := dk_18 49 (dk_at dksX5_init_3 11 rfl rfl)
theorem dX5_init_84 : decode cX5_init 84 = .ok (.aastore, 1) := dk_83 (dk_at dksX5_init_3 13 rfl rfl)
theorem dX5_init_85 : decode cX5_init 85 = .ok (.dup, 1) := dk_89 (dk_at dksX5_init_3 14 rfl rfl)
theorem dX5_init_86 : decode cX5_init 86 = .ok (.iconst 1, 1) := dk_4 (dk_at dksX5_init_3 15 rfl rfl)
theorem dX5_init_87 : decode cX5_init 87 = .ok (.ldc 51, 2) := dk_18 51 (dk_at dksX5_init_3 16 rfl rfl)
theorem dX5_init_89 : decode cX5_init 89 = .ok (.aastore, 1) := dk_83 (dk_at dksX5_init_3 18 rfl rfl)
theorem dX5_init_90 : decode cX5_init 90 = .ok (.dup, 1) := dk_89 (dk_at dksX5_init_3 19 rfl rfl)
theorem dX5_init_91 : decode cX5_init 91 = .ok (.iconst 2, 1) := dk_5 (dk_at dksX5_init_3 20 rfl rfl)
theorem dX5_init_92 : decode cX5_init 92 = .ok (.ldc 53, 2) := dk_18 53 (dk_at dksX5_init_3 21 rfl rfl)
theorem dX5_init_94 : decode cX5_init 94 = .ok (.aastore, 1) := dk_83 (dk_at dksX5_init_3 23 rfl rfl)
theorem dX5_init_95 : decode cX5_init 95 = .ok (.dup, 1) := dk_89 (dk_at dksX5_init_4 0 rfl rfl)
theorem dX5_init_96 : decode cX5_init 96 = .ok (.iconst 3, 1) := dk_6 (dk_at dksX5_init_4 1 rfl rfl)
theorem dX5_init_97 : decode cX5_init 97 = .ok (.ldc 35, 2) := dk_18 35 (dk_at dksX5_init_4 2 rfl rfl)
theorem dX5_init_99 : decode cX5_init 99 = .ok (.aastore, 1) := dk_83 (dk_at dksX5_init_4 4 rfl rfl)
theorem dX5_init_100 : decode cX5_init 100 = .ok (.dup, 1) := dk_89 (dk_at dksX5_init_4 5 rfl rfl)
theorem dX5_init_101 : decode cX5_init 101 = .ok (.iconst 4, 1) := dk_7 (dk_at dksX5_init_4 6 rfl rfl)
theorem dX5_init_102 : decode cX5_init 102 = .ok (.ldc 55, 2) := dk_18 55 (dk_at dksX5_init_4 7 rfl rfl)
theorem dX5_init_104 : decode cX5_init 104 = .ok (.aastore, 1) := dk_83 (dk_at dksX5_init_4 9 rfl rfl)
theorem dX5_init_105 : decode cX5_init 105 = .ok (.dup, 1) := dk_89 (dk_at dksX5_init_4 10 rfl rfl)
theorem dX5_init_106 : decode cX5_init 106 = .ok (.iconst 5, 1) := dk_8 (dk_at dksX5_init_4 11 rfl rfl)
theorem dX5_init_107 : decode cX5_init 107 = .ok (.ldc 57, 2) := dk_18 57 (dk_at dksX5_init_4 12 rfl rfl)
theorem dX5_init_109 : decode cX5_init 109 = .ok (.aastore, 1) := dk_83 (dk_at dksX5_init_4 14 rfl rfl)
theorem dX5_init_110 : decode cX5_init 110 = .ok (.dup, 1) := dk_89 (dk_at dksX5_init_4 15 rfl rfl)
theorem dX5_init_111 : decode cX5_init 111 = .ok (.bipush 6, 2) := dk_16 6 (dk_at dksX5_init_4 16 rfl rfl)
theorem dX5_init_113 : decode cX5_init 113 = .ok (.ldc 59, 2) := dk_18 59 (dk_at dksX5_init_4 18 rfl rfl)
theorem dX5_init_115 : decode cX5_init 115 = .ok (.aastore, 1) := dk_83 (dk_at dksX5_init_4 20 rfl rfl)
theorem dX5_init_116 : decode cX5_init 116 = .ok (.putfield 61, 3) := dk_181 0 61 (dk_at dksX5_init_4 21 rfl rfl)
theorem dX5_init_119 : decode cX5_init 119 = .ok (.aload_n 0, 1) := dk_42 (dk_at dksX5_init_5 0 rfl rfl)
theorem dX5_init_120 : decode cX5_init 120 = .ok (.iconst 5, 1) := dk_8 (dk_at dksX5_init_5 1 rfl rfl)
theorem dX5_init_121 : decode cX5_init 121 = .ok (.anewarray 31, 3) := dk_189 0 31 (dk_at dksX5_init_5 2 rfl rfl)
theorem dX5_init_124 : decode cX5_init 124 = .ok (.dup, 1) := dk_89 (dk_at dksX5_init_5 5 rfl rfl)
theorem dX5_init_125 : decode cX5_init 125 = .ok (.iconst 0, 1) := dk_3 (dk_at dksX5_init_5 6 rfl rfl)
theorem dX5_init_126 : decode cX5_init 126 = .ok (.ldc 49, 2) := dk_18 49 (dk_at dksX5_init_5 7 rfl rfl)
theorem dX5_init_128 : decode cX5_init 128 = .ok (.aastore, 1) := dk_83 (dk_at dksX5_init_5 9 rfl rfl)
theorem dX5_init_129 : decode cX5_init 129 = .ok (.dup, 1) := dk_89 (dk_at dksX5_init_5 10 rfl rfl)
theorem dX5_init_130 : decode cX5_init 130 = .ok (.iconst 1, 1) := dk_4 (dk_at dksX5_init_5 11 rfl rfl)
theorem dX5_init_131 : decode cX5_init 131 = .ok (.ldc 64, 2) := dk_18 64 (dk_at dksX5_init_5 12 rfl rfl)
theorem dX5_init_133 : decode cX5_init 133 = .ok (.aastore, 1) := dk_83 (dk_at dksX5_init_5 14 rfl rfl)
theorem dX5_init_134 : decode cX5_init 134 = .ok (.dup, 1) := dk_89 (dk_at dksX5_init_5 15 rfl rfl)
theorem dX5_init_135 : decode cX5_init 135 = .ok (.iconst 2, 1) := dk_5 (dk_at dksX5_init_5 16 rfl rfl)
theorem dX5_init_136 : decode cX5_init 136 = .ok (.ldc 55, 2) := dk_18 55 (dk_at dksX5_init_5 17 rfl rfl)
theorem dX5_init_138 : decode cX5_init 138 = .ok (.aastore, 1) := dk_83 (dk_at dksX5_init_5 19 rfl rfl)
theorem dX5_init_139 : decode cX5_init 139 = .ok (.dup, 1) := dk_89 (dk_at dksX5_init_5 20 rfl rfl)
theorem dX5_init_140 : decode cX5_init 140 = .ok (.iconst 3, 1) := dk_6 (dk_at dksX5_init_5 21 rfl rfl)
theorem dX5_init_141 : decode cX5_init 141 = .ok (.ldc 57, 2) := dk_18 57 (dk_at dksX5_init_5 22 rfl rfl)
theorem dX5_init_143 : decode cX5_init 143 = .ok (.aastore, 1) := dk_83 (dk_at dksX5_init_6 0 rfl rfl)
theorem dX5_init_144 : decode cX5_init 144 = .ok (.dup, 1) := dk_89 (dk_at dksX5_init_6 1 rfl rfl)
theorem dX5_init_145 : decode cX5_init 145 = .ok (.iconst 4, 1) := dk_7 (dk_at dksX5_init_6 2 rfl rfl)
theorem dX5_init_146 : decode cX5_init 146 = .ok (.ldc 51, 2) := dk_18 51 (dk_at dksX5_init_6 3 rfl rfl)
theorem dX5_init_148 : decode cX5_init 148 = .ok (.aastore, 1) := dk_83 (dk_at dksX5_init_6 5 rfl rfl)
theorem dX5_init_149 : decode cX5_init 149 = .ok (.putfield 66, 3) := dk_181 0 66 (dk_at dksX5_init_6 6 rfl rfl)
theorem dX5_init_152 : decode cX5_init 152 = .ok (.aload_n 0, 1) := dk_42 (dk_at dksX5_init_6 9 rfl rfl)
theorem dX5_init_153 : decode cX5_init 153 = .ok (.aload_n 0, 1) := dk_42 (dk_at dksX5_init_6 10 rfl rfl)
theorem dX5_init_154 : decode cX5_init 154 = .ok (.getfield 61, 3) := dk_180 0 61 (dk_at dksX5_init_6 11 rfl rfl)
theorem dX5_init_157 : decode cX5_init 157 = .ok (.putfield 69, 3) := dk_181 0 69 (dk_at dksX5_init_6 14 rfl rfl)
theorem dX5_init_160 : decode cX5_init 160 = .ok (.aload_n 0, 1) := dk_42 (dk_at dksX5_init_6 17 rfl rfl)
theorem dX5_init_161 : decode cX5_init 161 = .ok (.iload_n 2, 1) := dk_28 (dk_at dksX5_init_6 18 rfl rfl)
theorem dX5_init_162 : decode cX5_init 162 = .ok (.putfield 72, 3) := dk_181 0 72 (dk_at dksX5_init_6 19 rfl rfl)
theorem dX5_init_165 : decode cX5_init 165 = .ok (.return_, 1) := dk_177 (dk_at dksX5_init_6 22 rfl rfl)
abbrev mX5_init : xM := (yX5_init, cX5_init, 3, none, [])
def c_X5_init (G : xG) (x0 : Option Nat) (x1 : Option Nat) (x2 : Int32) (T : xF) : Option (Unit × xF) :=
  (pV T x0 4 14 (va_rf x1)).bind fun T2 =>
  if ¬ x0.isSome = true then none else
  al (nO T2 1 8 [.null, .null, .int 0, .int 0, .int 0, .int 0, .null, .null]) fun T10 =>
  cl (c_X2_init G (some T2.2.1) T10) T10 fun v14 T14 =>
  (pV T14 x0 4 1 (va_rf (some T2.2.1))).bind fun T17 =>
  al (nO T17 2 6 [.null, .null, .null, .null, .int 0, .null]) fun T21 =>
  (oQ T21 x0 4 14).bind fun v26 =>
  cl (c_X3_init (some T17.2.1) v26 T21) T21 fun v29 T29 =>
  (pV T29 x0 4 2 (va_rf (some T17.2.1))).bind fun T32 =>
  if (6 : Int32) < 0 ∨ 100000000 ≤ (6 : Int32).toNatClampNeg then none else
  al (nR T32 "java/lang/String" (6 : Int32).toNatClampNeg) fun T38 =>
  (stR T38 (some T32.2.1) (0 : Int32) (some (gT G 0))).bind fun T45 =>
  (stR T45 (some T32.2.1) (1 : Int32) (some (gT G 1))).bind fun T50 =>
  (stR T50 (some T32.2.1) (2 : Int32) (some (gT G 2))).bind fun T55 =>
  (stR T55 (some T32.2.1) (3 : Int32) (some (gT G 3))).bind fun T60 =>
  (stR T60 (some T32.2.1) (4 : Int32) (some (gT G 4))).bind fun T65 =>
  (stR T65 (some T32.2.1) (5 : Int32) (some (gT G 5))).bind fun T70 =>
  (pV T70 x0 4 3 (va_rf (some T32.2.1))).bind fun T71 =>
  if (7 : Int32) < 0 ∨ 100000000 ≤ (7 : Int32).toNatClampNeg then none else
  al (nR T71 "java/lang/String" (7 : Int32).toNatClampNeg) fun T77 =>
  (stR T77 (some T71.2.1) (0 : Int32) (some (gT G 6))).bind fun T84 =>
  (stR T84 (some T71.2.1) (1 : Int32) (some (gT G 7))).bind fun T89 =>
  (stR T89 (some T71.2.1) (2 : Int32) (some (gT G 8))).bind fun T94 =>
  (stR T94 (some T71.2.1) (3 : Int32) (some (gT G 1))).bind fun T99 =>
  (stR T99 (some T71.2.1) (4 : Int32) (some (gT G 9))).bind fun T104 =>
  (stR T104 (some T71.2.1) (5 : Int32) (some (gT G 10))).bind fun T109 =>
  (stR T109 (some T71.2.1) (6 : Int32) (some (gT G 11))).bind fun T115 =>
  (pV T115 x0 4 4 (va_rf (some T71.2.1))).bind fun T116 =>
  if (5 : Int32) < 0 ∨ 100000000 ≤ (5 : Int32).toNatClampNeg then none else
  al (nR T116 "java/lang/String" (5 : Int32).toNatClampNeg) fun T121 =>
  (stR T121 (some T116.2.1) (0 : Int32) (some (gT G 6))).bind fun T128 =>
  (stR T128 (some T116.2.1) (1 : Int32) (some (gT G 12))).bind fun T133 =>
  (stR T133 (some T116.2.1) (2 : Int32) (some (gT G 9))).bind fun T138 =>
  (stR T138 (some T116.2.1) (3 : Int32) (some (gT G 10))).bind fun T143 =>
  (stR T143 (some T116.2.1) (4 : Int32) (some (gT G 7))).bind fun T148 =>
  (pV T148 x0 4 5 (va_rf (some T116.2.1))).bind fun T149 =>
  (oQ T149 x0 4 4).bind fun v154 =>
  (pV T149 x0 4 6 (va_rf v154)).bind fun T157 =>
  (pV T157 x0 4 0 (.int x2)).bind fun T162 =>
  some ((), T162)
theorem w_X5_init {G : xG}  {T : xF} {x0 : Option Nat} {x1 : Option Nat} {x2 : Int32} {q : (Unit × xF)} (hf : c_X5_init G x0 x1 x2 T = some q) : Ct G mX5_init (5) T [va_rf x0, va_rf x1, .int x2] (.inl none) q.2 := by
  refine Ct.ofc (plainFor_of_name (by decide +kernel)) rfl (xvQ (xvQ (xvI xvN))) (Nat.le_of_ble_eq_true rfl) (show Xr G _ 0 [(0, va_rf x0), (1, va_rf x1), (2, .int x2)] [] _ from ?_)
  unfold c_X5_init at hf
  refine C.aload_n dX5_init_0 rfl 0 rfl ?_
  refine C.aload_n dX5_init_1 rfl 1 rfl ?_
  obtain ⟨T2, h2, hf⟩ := ob hf
  refine C.putQ dX5_init_2 fX5_3 (fun _ => rfl) rfl h2 ?_
  refine C.aload_n dX5_init_5 rfl 0 rfl ?_
  obtain ⟨c6, hf⟩ := if_n hf
  refine C.objI (Classical.not_not.mp c6) dX5_init_6 q811 obj1 obj2 (xcs xvN (Nat.le_of_ble_eq_true rfl)) (xD1 (Nat.le_of_ble_eq_true rfl)) ?_
  refine C.aload_n dX5_init_9 rfl 0 rfl ?_
  obtain ⟨T10, e10, hf, l10⟩ := al_ok hf
  refine C.newE e10 dX5_init_10 clX2 q812 q163 q122 rfl dfX2 l10 ?_
  refine X.dup dX5_init_13 (cat1 _) ?_
  obtain ⟨v14, T14, h14, hf, l14, r14⟩ := cl_ok hf
  refine C.INv (As := []) (rest := [va_rf (some T2.2.1), va_rf x0]) dX5_init_14 (w_X2_init h14) cX5_17 rfl rfl rfl (xcs (xvQ (xvQ xvN)) (Nat.le_of_ble_eq_true rfl)) (xD (Nat.le_of_ble_eq_true rfl)) l14 r14 ?_
  obtain ⟨T17, h17, hf⟩ := ob hf
  refine C.putQ dX5_init_17 fX5_18 (fun _ => rfl) rfl h17 ?_
  refine C.aload_n dX5_init_20 rfl 0 rfl ?_
  obtain ⟨T21, e21, hf, l21⟩ := al_ok hf
  refine C.newE e21 dX5_init_21 clX3 q814 q236 q126 rfl dfX3 l21 ?_
  refine X.dup dX5_init_24 (cat1 _) ?_
  refine C.aload_n dX5_init_25 rfl 0 rfl ?_
  obtain ⟨v26, h26, hf⟩ := ob hf
  refine C.getQ dX5_init_26 rX5_3 h26 ?_
  obtain ⟨v29, T29, h29, hf, l29, r29⟩ := cl_ok hf
  refine C.Iv (As := [va_rf v26]) (rest := [va_rf (some T17.2.1), va_rf x0]) dX5_init_29 (w_X3_init h29) cX5_24 rfl rfl rfl (xcs (xvQ (xvQ xvN)) (Nat.le_of_ble_eq_true rfl)) (xD (Nat.le_of_ble_eq_true rfl)) l29 r29 ?_
  obtain ⟨T32, h32, hf⟩ := ob hf
  refine C.putQ dX5_init_32 fX5_27 (fun _ => rfl) rfl h32 ?_
  refine C.aload_n dX5_init_35 rfl 0 rfl ?_
  refine X.bipush (v := 6) dX5_init_36 (by decide) ?_
  obtain ⟨c38, hf⟩ := if_n hf
  obtain ⟨T38, e38, hf, l38⟩ := al_ok hf
  refine C.newRE e38 dX5_init_38 q816 q817 (by decide) c38 l38 ?_
  refine X.dup dX5_init_41 (cat1 _) ?_
  refine X.iconst (v := 0) dX5_init_42 (by decide) ?_
  refine C.ldcS dX5_init_43 (i := 0) rfl rfl ?_
  obtain ⟨T45, h45, hf⟩ := ob hf
  refine C.aast dX5_init_45 h45 ?_
  refine X.dup dX5_init_46 (cat1 _) ?_
  refine X.iconst (v := 1) dX5_init_47 (by decide) ?_
  refine C.ldcS dX5_init_48 (i := 1) rfl rfl ?_
  obtain ⟨T50, h50, hf⟩ := ob hf
  refine C.aast dX5_init_50 h50 ?_
  refine X.dup dX5_init_51 (cat1 _) ?_
  refine X.iconst (v := 2) dX5_init_52 (by decide) ?_
  refine C.ldcS dX5_init_53 (i := 2) rfl rfl ?_
  obtain ⟨T55, h55, hf⟩ := ob hf
  refine C.aast dX5_init_55 h55 ?_
  refine X.dup dX5_init_56 (cat1 _) ?_
  refine X.iconst (v := 3) dX5_init_57 (by decide) ?_
  refine C.ldcS dX5_init_58 (i := 3) rfl rfl ?_
  obtain ⟨T60, h60, hf⟩ := ob hf
  refine C.aast dX5_init_60 h60 ?_
  refine X.dup dX5_init_61 (cat1 _) ?_
  refine X.iconst (v := 4) dX5_init_62 (by decide) ?_
  refine C.ldcS dX5_init_63 (i := 4) rfl rfl ?_
  obtain ⟨T65, h65, hf⟩ := ob hf
  refine C.aast dX5_init_65 h65 ?_
  refine X.dup dX5_init_66 (cat1 _) ?_
  refine X.iconst (v := 5) dX5_init_67 (by decide) ?_
  refine C.ldcS dX5_init_68 (i := 5) rfl rfl ?_
  obtain ⟨T70, h70, hf⟩ := ob hf
  refine C.aast dX5_init_70 h70 ?_
  obtain ⟨T71, h71, hf⟩ := ob hf
  refine C.putQ dX5_init_71 fX5_45 (fun _ => rfl) rfl h71 ?_
  refine C.aload_n dX5_init_74 rfl 0 rfl ?_
  refine X.bipush (v := 7) dX5_init_75 (by decide) ?_
  obtain ⟨c77, hf⟩ := if_n hf
  obtain ⟨T77, e77, hf, l77⟩ := al_ok hf
  refine C.newRE e77 dX5_init_77 q816 q817 (by decide) c77 l77 ?_
  refine X.dup dX5_init_80 (cat1 _) ?_
  refine X.iconst (v := 0) dX5_init_81 (by decide) ?_
  refine C.ldcS dX5_init_82 (i := 6) rfl rfl ?_
  obtain ⟨T84, h84, hf⟩ := ob hf
  refine C.aast dX5_init_84 h84 ?_
  refine X.dup dX5_init_85 (cat1 _) ?_
  refine X.iconst (v := 1) dX5_init_86 (by decide) ?_
  refine C.ldcS dX5_init_87 (i := 7) rfl rfl ?_
  obtain ⟨T89, h89, hf⟩ := ob hf
  refine C.aast dX5_init_89 h89 ?_
  refine X.dup dX5_init_90 (cat1 _) ?_
  refine X.iconst (v := 2) dX5_init_91 (by decide) ?_
  refine C.ldcS dX5_init_92 (i := 8) rfl rfl ?_
  obtain ⟨T94, h94, hf⟩ := ob hf
  refine C.aast dX5_init_94 h94 ?_
  refine X.dup dX5_init_95 (cat1 _) ?_
  refine X.iconst (v := 3) dX5_init_96 (by decide) ?_
  refine C.ldcS dX5_init_97 (i := 1) rfl rfl ?_
  obtain ⟨T99, h99, hf⟩ := ob hf
  refine C.aast dX5_init_99 h99 ?_
  refine X.dup dX5_init_100 (cat1 _) ?_
  refine X.iconst (v := 4) dX5_init_101 (by decide) ?_
  refine C.ldcS dX5_init_102 (i := 9) rfl rfl ?_
  obtain ⟨T104, h104, hf⟩ := ob hf
  refine C.aast dX5_init_104 h104 ?_
  refine X.dup dX5_init_105 (cat1 _) ?_
  refine X.iconst (v := 5) dX5_init_106 (by decide) ?_
  refine C.ldcS dX5_init_107 (i := 10) rfl rfl ?_
  obtain ⟨T109, h109, hf⟩ := ob hf
  refine C.aast dX5_init_109 h109 ?_
  refine X.dup dX5_init_110 (cat1 _) ?_
  refine X.bipush (v := 6) dX5_init_111 (by decide) ?_
  refine C.ldcS dX5_init_113 (i := 11) rfl rfl ?_
  obtain ⟨T115, h115, hf⟩ := ob hf
  refine C.aast dX5_init_115 h115 ?_
  obtain ⟨T116, h116, hf⟩ := ob hf
  refine C.putQ dX5_init_116 fX5_61 (fun _ => rfl) rfl h116 ?_
  refine C.aload_n dX5_init_119 rfl 0 rfl ?_
  refine X.iconst (v := 5) dX5_init_120 (by decide) ?_
  obtain ⟨c121, hf⟩ := if_n hf
  obtain ⟨T121, e121, hf, l121⟩ := al_ok hf
  refine C.newRE e121 dX5_init_121 q816 q817 (by decide) c121 l121 ?_
  refine X.dup dX5_init_124 (cat1 _) ?_
  refine X.iconst (v := 0) dX5_init_125 (by decide) ?_
  refine C.ldcS dX5_init_126 (i := 6) rfl rfl ?_
  obtain ⟨T128, h128, hf⟩ := ob hf
  refine C.aast dX5_init_128 h128 ?_
  refine X.dup dX5_init_129 (cat1 _) ?_
  refine X.iconst (v := 1) dX5_init_130 (by decide) ?_
  refine C.ldcS dX5_init_131 (i := 12) rfl rfl ?_
  obtain ⟨T133, h133, hf⟩ := ob hf
  refine C.aast dX5_init_133 h133 ?_
  refine X.dup dX5_init_134 (cat1 _) ?_
  refine X.iconst (v := 2) dX5_init_135 (by decide) ?_
  refine C.ldcS dX5_init_136 (i := 9) rfl rfl ?_
  obtain ⟨T138, h138, hf⟩ := ob hf
  refine C.aast dX5_init_138 h138 ?_
  refine X.dup dX5_init_139 (cat1 _) ?_
  refine X.iconst (v := 3) dX5_init_140 (by decide) ?_
  refine C.ldcS dX5_init_141 (i := 10) rfl rfl ?_
  obtain ⟨T143, h143, hf⟩ := ob hf
  refine C.aast dX5_init_143 h143 ?_
  refine X.dup dX5_init_144 (cat1 _) ?_
  refine X.iconst (v := 4) dX5_init_145 (by decide) ?_
  refine C.ldcS dX5_init_146 (i := 7) rfl rfl ?_
  obtain ⟨T148, h148, hf⟩ := ob hf
  refine C.aast dX5_init_148 h148 ?_
  obtain ⟨T149, h149, hf⟩ := ob hf
  refine C.putQ dX5_init_149 fX5_66 (fun _ => rfl) rfl h149 ?_
  refine C.aload_n dX5_init_152 rfl 0 rfl ?_
  refine C.aload_n dX5_init_153 rfl 0 rfl ?_
  obtain ⟨v154, h154, hf⟩ := ob hf
  refine C.getQ dX5_init_154 rX5_61 h154 ?_
  obtain ⟨T157, h157, hf⟩ := ob hf
  refine C.putQ dX5_init_157 fX5_69 (fun q => by cases q) rfl h157 ?_
  refine C.aload_n dX5_init_160 rfl 0 rfl ?_
  refine X.iload_n dX5_init_161 rfl 2 rfl ?_
  obtain ⟨T162, h162, hf⟩ := ob hf
  refine C.putI dX5_init_162 fX5_72 (fun _ => rfl) rfl rfl h162 ?_
  obtain rfl := Option.some.inj hf
  exact X.vret dX5_init_165 rfl rfl
theorem cX1_71 : xCI RX1 71 mX5_init 2 := ⟨⟨lw_meth q810, rfl, q132, q808, q809, rfl⟩, rfl, ⟨by decide +kernel, by decide +kernel, by decide +kernel⟩, Nat.le_of_ble_eq_true rfl⟩
/-! MouldVotes$Reader here -/
abbrev cX5_here : ByteArray := prog_7_method_2_code
def yX5_here : MethodName := ⟨RX5, "here", "()I"⟩
def dkwX5_here_1 : List UInt8 := [17, 0, 255, 126, 167, 0, 4, 2, 172]
abbrev dktX5_here_1 : List UInt8 := dkwX5_here_1 ++ []
def dkwX5_here_0 : List UInt8 := [42, 180, 0, 75, 42, 180, 0, 72, 162, 0, 22, 42, 180, 0, 3, 180, 0, 78, 42, 180, 0, 75, 51]
abbrev dktX5_here_0 : List UInt8 := dkwX5_here_0 ++ dktX5_here_1
theorem dksX5_here_0 : cX5_here.data.toList.drop 0 = dktX5_here_0 := by decide +kernel
theorem dksX5_here_1 : cX5_here.data.toList.drop 23 = dktX5_here_1 := dk_seg dksX5_here_0 23 rfl rfl
theorem dX5_here_0 : decode cX5_here 0 = .ok (.aload_n 0, 1) := dk_42 (dk_at dksX5_here_0 0 rfl rfl)
theorem dX5_here_1 : decode cX5_here 1 = .ok (.getfield 75, 3) := dk_180 0 75 (dk_at dksX5_here_0 1 rfl rfl)
theorem dX5_here_4 : decode cX5_here 4 = .ok (.aload_n 0, 1) := dk_42 (dk_at dksX5_here_0 4 rfl rfl)
theorem dX5_here_5 : decode cX5_here 5 = .ok (.getfield 72, 3) := dk_180 0 72 (dk_at dksX5_here_0 5 rfl rfl)
theorem dX5_here_8 : decode cX5_here 8 = .ok (.if_icmp .ge 22, 3) := dk_162 0 22 (dk_at dksX5_here_0 8 rfl rfl)
theorem dX5_here_11 : decode cX5_here 11 = .ok (.aload_n 0, 1) := dk_42 (dk_at dksX5_here_0 11 rfl rfl)
theorem dX5_here_12 : decode cX5_here 12 = .ok (.getfield 3, 3) := dk_180 0 3 (dk_at dksX5_here_0 12 rfl rfl)
theorem dX5_here_15 : decode cX5_here 15 = .ok (.getfield 78, 3) := dk_180 0 78 (dk_at dksX5_here_0 15 rfl rfl)
theorem dX5_here_18 : decode cX5_here 18 = .ok (.aload_n 0, 1) := dk_42 (dk_at dksX5_here_0 18 rfl rfl)
theorem dX5_here_19 : decode cX5_here 19 = .ok (.getfield 75, 3) := dk_180 0 75 (dk_at dksX5_here_0 19 rfl rfl)
theorem dX5_here_22 : decode cX5_here 22 = .ok (.baload, 1) := dk_51 (dk_at dksX5_here_0 22 rfl rfl)
theorem dX5_here_23 : decode cX5_here 23 = .ok (.sipush 255, 3) := dk_17 0 255 (dk_at dksX5_here_1 0 rfl rfl)
theorem dX5_here_26 : decode cX5_here 26 = .ok (.iand, 1) := dk_126 (dk_at dksX5_here_1 3 rfl rfl)
theorem dX5_here_27 : decode cX5_here 27 = .ok (.goto 4, 3) := dk_167 0 4 (dk_at dksX5_here_1 4 rfl rfl)
theorem dX5_here_30 : decode cX5_here 30 = .ok (.iconst (-1), 1) := dk_2 (dk_at dksX5_here_1 7 rfl rfl)
theorem dX5_here_31 : decode cX5_here 31 = .ok (.ireturn, 1) := dk_172 (dk_at dksX5_here_1 8 rfl rfl)
abbrev mX5_here : xM := (yX5_here, cX5_here, 1, (some .int), [])
def c_X5_here (T : xF) (x0 : Option Nat) : Option Int32 :=
  (oI T x0 4 7).bind fun v1 =>
  (oI T x0 4 0).bind fun v5 =>
  if v5 ≤ v1 then
    some (-1 : Int32)
  else
    (oQ T x0 4 14).bind fun v12 =>
    (oQ T v12 0 5).bind fun v15 =>
    (oI T x0 4 7).bind fun v19 =>
    (ldA T v15 .byte v19).bind fun v22 =>
    some (v22 &&& (255 : Int32))
theorem w_X5_here {G : xG}  {T : xF} {x0 : Option Nat} {q : Int32} (hf : c_X5_here T x0 = some q) : Ct G mX5_here (1) T [va_rf x0] (.inl (some (.int q))) T := by
  refine Ct.ofc (plainFor_of_name (by decide +kernel)) rfl (xvQ xvN) (Nat.le_of_ble_eq_true rfl) (show Xr G _ 0 [(0, va_rf x0)] [] _ from ?_)
  unfold c_X5_here at hf
  refine C.aload_n dX5_here_0 rfl 0 rfl ?_
  obtain ⟨v1, h1, hf⟩ := ob hf
  refine C.getI dX5_here_1 rX5_75 h1 ?_
  refine C.aload_n dX5_here_4 rfl 0 rfl ?_
  obtain ⟨v5, h5, hf⟩ := ob hf
  refine C.getI dX5_here_5 rX5_72 h5 ?_
  refine X.icmp_ge (tgt := 30) dX5_here_8 (by decide) (fun c8 => ?_) (fun c8 => ?_)
  · have hf := if_t c8 hf
    refine X.iconst (v := -1) dX5_here_30 (by decide) ?_
    obtain rfl := Option.some.inj hf
    exact X.iret dX5_here_31 rfl rfl rfl
  · have hf := if_f c8 hf
    refine C.aload_n dX5_here_11 rfl 0 rfl ?_
    obtain ⟨v12, h12, hf⟩ := ob hf
    refine C.getQ dX5_here_12 rX5_3 h12 ?_
    obtain ⟨v15, h15, hf⟩ := ob hf
    refine C.getQ dX5_here_15 rX5_78 h15 ?_
    refine C.aload_n dX5_here_18 rfl 0 rfl ?_
    obtain ⟨v19, h19, hf⟩ := ob hf
    refine C.getI dX5_here_19 rX5_75 h19 ?_
    obtain ⟨v22, h22, hf⟩ := ob hf
    refine C.bald dX5_here_22 h22 ?_
    refine X.sipush (v := 255) dX5_here_23 (by decide) ?_
    refine X.iand dX5_here_26 ?_
    refine X.goto (tgt := 31) dX5_here_27 (by decide) ?_
    obtain rfl := Option.some.inj hf
    exact X.iret dX5_here_31 rfl rfl rfl
theorem cX5_82 : xCV RX5 82 mX5_here 0 := ⟨lw_V q887 q889 qs16 q132 q890, rfl, ⟨by decide +kernel, by decide +kernel, by decide +kernel⟩, Nat.le_of_ble_eq_true rfl⟩
/-! MouldVotes$Reader isLetter -/
abbrev cX5_isLetter : ByteArray := prog_7_method_3_code
def yX5_isLetter : MethodName := ⟨RX5, "isLetter", "()Z"⟩
def dkwX5_isLetter_0 : List UInt8 := [42, 182, 0, 82, 16, 97, 16, 122, 184, 0, 86, 172]
abbrev dktX5_isLetter_0 : List UInt8 := dkwX5_isLetter_0 ++ []
theorem dksX5_isLetter_0 : cX5_isLetter.data.toList.drop 0 = dktX5_isLetter_0 := by decide +kernel
theorem dX5_isLetter_0 : decode cX5_isLetter 0 = .ok (.aload_n 0, 1) := dk_42 (dk_at dksX5_isLetter_0 0 rfl rfl)
theorem dX5_isLetter_1 : decode cX5_isLetter 1 = .ok (.invokevirtual 82, 3) := dk_182 0 82 (dk_at dksX5_isLetter_0 1 rfl rfl)
theorem dX5_isLetter_4 : decode cX5_isLetter 4 = .ok (.bipush 97, 2) := dk_16 97 (dk_at dksX5_isLetter_0 4 rfl rfl)
theorem dX5_isLetter_6 : decode cX5_isLetter 6 = .ok (.bipush 122, 2) := dk_16 122 (dk_at dksX5_isLetter_0 6 rfl rfl)
theorem dX5_isLetter_8 : decode cX5_isLetter 8 = .ok (.invokestatic 86, 3) := dk_184 0 86 (dk_at dksX5_isLetter_0 8 rfl rfl)
theorem dX5_isLetter_11 : decode cX5_isLetter 11 = .ok (.ireturn, 1) := dk_172 (dk_at dksX5_isLetter_0 11 rfl rfl)
abbrev mX5_isLetter : xM := (yX5_isLetter, cX5_isLetter, 1, (some .boolean), [])
def c_X5_isLetter (T : xF) (x0 : Option Nat) : Option Int32 :=
  if ¬ isO T x0 4 = true then none else
  (c_X5_here T x0).bind fun v1 =>
  (c_X1_in v1 (97 : Int32) (122 : Int32)).bind fun v8 =>
  if ¬ zok v8 = true then none else some v8
theorem w_X5_isLetter {G : xG}  {T : xF} {x0 : Option Nat} {q : Int32} (hf : c_X5_isLetter T x0 = some q) : Ct G mX5_isLetter (2) T [va_rf x0] (.inl (some (.int q))) T := by
  refine Ct.ofc (plainFor_of_name (by decide +kernel)) rfl (xvQ xvN) (Nat.le_of_ble_eq_true rfl) (show Xr G _ 0 [(0, va_rf x0)] [] _ from ?_)
  unfold c_X5_isLetter at hf
  refine C.aload_n dX5_isLetter_0 rfl 0 rfl ?_
  obtain ⟨c1, hf⟩ := if_n hf
  obtain ⟨v1, h1, hf⟩ := ob hf
  refine X.keep fun l1 => C.Vi (As := []) (rest := []) dX5_isLetter_1 (w_X5_here h1) cX5_82 (Classical.not_not.mp c1) rfl rfl (xcs xvN (Nat.le_of_ble_eq_true rfl)) rfl rfl (xD (Nat.le_of_ble_eq_true rfl)) xle.rf l1 ?_
  refine X.bipush (v := 97) dX5_isLetter_4 (by decide) ?_
  refine X.bipush (v := 122) dX5_isLetter_6 (by decide) ?_
  obtain ⟨v8, h8, hf⟩ := ob hf
  refine X.keep fun l8 => C.SNi (As := [.int v1, .int (97 : Int32), .int (122 : Int32)]) (rest := []) dX5_isLetter_8 (w_X1_in h8) cX5_86 rfl rfl (xcs xvN (Nat.le_of_ble_eq_true rfl)) (xD (Nat.le_of_ble_eq_true rfl)) xle.rf l8 ?_
  obtain ⟨cz, hf⟩ := if_n hf
  obtain rfl := Option.some.inj hf
  exact X.iret dX5_isLetter_11 rfl (zok_ok (Classical.not_not.mp cz)) rfl
theorem cX5_96 : xCV RX5 96 mX5_isLetter 0 := ⟨lw_V q891 q893 qs17 q132 q894, rfl, ⟨by decide +kernel, by decide +kernel, by decide +kernel⟩, Nat.le_of_ble_eq_true rfl⟩
/-! MouldVotes$Reader isDigit -/
abbrev cX5_isDigit : ByteArray := prog_7_method_4_code
def yX5_isDigit : MethodName := ⟨RX5, "isDigit", "()Z"⟩
def dkwX5_isDigit_0 : List UInt8 := [42, 182, 0, 82, 16, 48, 16, 57, 184, 0, 86, 172]
abbrev dktX5_isDigit_0 : List UInt8 := dkwX5_isDigit_0 ++ []
theorem dksX5_isDigit_0 : cX5_isDigit.data.toList.drop 0 = dktX5_isDigit_0 := by decide +kernel
theorem dX5_isDigit_0 : decode cX5_isDigit 0 = .ok (.aload_n 0, 1) := dk_42 (dk_at dksX5_isDigit_0 0 rfl rfl)
theorem dX5_isDigit_1 : decode cX5_isDigit 1 = .ok (.invokevirtual 82, 3) := dk_182 0 82 (dk_at dksX5_isDigit_0 1 rfl rfl)
theorem dX5_isDigit_4 : decode cX5_isDigit 4 = .ok (.bipush 48, 2) := dk_16 48 (dk_at dksX5_isDigit_0 4 rfl rfl)
theorem dX5_isDigit_6 : decode cX5_isDigit 6 = .ok (.bipush 57, 2) := dk_16 57 (dk_at dksX5_isDigit_0 6 rfl rfl)
theorem dX5_isDigit_8 : decode cX5_isDigit 8 = .ok (.invokestatic 86, 3) := dk_184 0 86 (dk_at dksX5_isDigit_0 8 rfl rfl)
theorem dX5_isDigit_11 : decode cX5_isDigit 11 = .ok (.ireturn, 1) := dk_172 (dk_at dksX5_isDigit_0 11 rfl rfl)
abbrev mX5_isDigit : xM := (yX5_isDigit, cX5_isDigit, 1, (some .boolean), [])
def c_X5_isDigit (T : xF) (x0 : Option Nat) : Option Int32 :=
  if ¬ isO T x0 4 = true then none else
  (c_X5_here T x0).bind fun v1 =>
  (c_X1_in v1 (48 : Int32) (57 : Int32)).bind fun v8 =>
  if ¬ zok v8 = true then none else some v8
theorem w_X5_isDigit {G : xG}  {T : xF} {x0 : Option Nat} {q : Int32} (hf : c_X5_isDigit T x0 = some q) : Ct G mX5_isDigit (2) T [va_rf x0] (.inl (some (.int q))) T := by
  refine Ct.ofc (plainFor_of_name (by decide +kernel)) rfl (xvQ xvN) (Nat.le_of_ble_eq_true rfl) (show Xr G _ 0 [(0, va_rf x0)] [] _ from ?_)
  unfold c_X5_isDigit at hf
  refine C.aload_n dX5_isDigit_0 rfl 0 rfl ?_
  obtain ⟨c1, hf⟩ := if_n hf
  obtain ⟨v1, h1, hf⟩ := ob hf
  refine X.keep fun l1 => C.Vi (As := []) (rest := []) dX5_isDigit_1 (w_X5_here h1) cX5_82 (Classical.not_not.mp c1) rfl rfl (xcs xvN (Nat.le_of_ble_eq_true rfl)) rfl rfl (xD (Nat.le_of_ble_eq_true rfl)) xle.rf l1 ?_
  refine X.bipush (v := 48) dX5_isDigit_4 (by decide) ?_
  refine X.bipush (v := 57) dX5_isDigit_6 (by decide) ?_
  obtain ⟨v8, h8, hf⟩ := ob hf
  refine X.keep fun l8 => C.SNi (As := [.int v1, .int (48 : Int32), .int (57 : Int32)]) (rest := []) dX5_isDigit_8 (w_X1_in h8) cX5_86 rfl rfl (xcs xvN (Nat.le_of_ble_eq_true rfl)) (xD (Nat.le_of_ble_eq_true rfl)) xle.rf l8 ?_
  obtain ⟨cz, hf⟩ := if_n hf
  obtain rfl := Option.some.inj hf
  exact X.iret dX5_isDigit_11 rfl (zok_ok (Classical.not_not.mp cz)) rfl
theorem cX5_100 : xCV RX5 100 mX5_isDigit 0 := ⟨lw_V q896 q898 qs18 q132 q899, rfl, ⟨by decide +kernel, by decide +kernel, by decide +kernel⟩, Nat.le_of_ble_eq_true rfl⟩
/-! java/lang/String isLatin1 -/
abbrev cJ8_isLatin1 : ByteArray := prog_28_method_154_code
def yJ8_isLatin1 : MethodName := ⟨RJ8, "isLatin1", "()Z"⟩
def dkwJ8_isLatin1_0 : List UInt8 := [178, 0, 38, 153, 0, 14, 42, 180, 0, 15, 154, 0, 7, 4, 167, 0, 4, 3, 172]
abbrev dktJ8_isLatin1_0 : List UInt8 := dkwJ8_isLatin1_0 ++ []
theorem dksJ8_isLatin1_0 : cJ8_isLatin1.data.toList.drop 0 = dktJ8_isLatin1_0 := by decide +kernel
theorem dJ8_isLatin1_0 : decode cJ8_isLatin1 0 = .ok (.getstatic 38, 3) := dk_178 0 38 (dk_at dksJ8_isLatin1_0 0 rfl rfl)
theorem dJ8_isLatin1_3 : decode cJ8_isLatin1 3 = .ok (.ifCond .eq 14, 3) := dk_153 0 14 (dk_at dksJ8_isLatin1_0 3 rfl rfl)
theorem dJ8_isLatin1_6 : decode cJ8_isLatin1 6 = .ok (.aload_n 0, 1) := dk_42 (dk_at dksJ8_isLatin1_0 6 rfl rfl)
theorem dJ8_isLatin1_7 : decode cJ8_isLatin1 7 = .ok (.getfield 15, 3) := dk_180 0 15 (dk_at dksJ8_isLatin1_0 7 rfl rfl)
theorem dJ8_isLatin1_10 : decode cJ8_isLatin1 10 = .ok (.ifCond .ne 7, 3) := dk_154 0 7 (dk_at dksJ8_isLatin1_0 10 rfl rfl)
theorem dJ8_isLatin1_13 : decode cJ8_isLatin1 13 = .ok (.iconst 1, 1) := dk_4 (dk_at dksJ8_isLatin1_0 13 rfl rfl)
theorem dJ8_isLatin1_14 : decode cJ8_isLatin1 14 = .ok (.goto 4, 3) := dk_167 0 4 (dk_at dksJ8_isLatin1_0 14 rfl rfl)
theorem dJ8_isLatin1_17 : decode cJ8_isLatin1 17 = .ok (.iconst 0, 1) := dk_3 (dk_at dksJ8_isLatin1_0 17 rfl rfl)
theorem dJ8_isLatin1_18 : decode cJ8_isLatin1 18 = .ok (.ireturn, 1) := dk_172 (dk_at dksJ8_isLatin1_0 18 rfl rfl)
abbrev mJ8_isLatin1 : xM := (yJ8_isLatin1, cJ8_isLatin1, 1, (some .boolean), [])
def c_J8_isLatin1 (T : xF) (x0 : Option Nat) : Option Int32 :=
  if (1 : Int32) = 0 then
    some (0 : Int32)
  else
    (oI T x0 15 1).bind fun v7 =>
    if v7 = 0 then
      some (1 : Int32)
    else
      some (0 : Int32)
theorem w_J8_isLatin1 {G : xG}  {T : xF} {x0 : Option Nat} {q : Int32} (hf : c_J8_isLatin1 T x0 = some q) : Ct G mJ8_isLatin1 (1) T [va_rf x0] (.inl (some (.int q))) T := by
  refine Ct.ofc (plainFor_of_name (by decide +kernel)) rfl (xvQ xvN) (Nat.le_of_ble_eq_true rfl) (show Xr G _ 0 [(0, va_rf x0)] [] _ from ?_)
  unfold c_J8_isLatin1 at hf
  refine X.gets dJ8_isLatin1_0 (i := 4) rfl q915 rfl ?_
  refine X.if_eq (tgt := 17) dJ8_isLatin1_3 (by decide) (fun c3 => ?_) (fun c3 => ?_)
  · have hf := if_t c3 hf
    refine X.iconst (v := 0) dJ8_isLatin1_17 (by decide) ?_
    obtain rfl := Option.some.inj hf
    exact X.iret dJ8_isLatin1_18 rfl rfl rfl
  · have hf := if_f c3 hf
    refine C.aload_n dJ8_isLatin1_6 rfl 0 rfl ?_
    obtain ⟨v7, h7, hf⟩ := ob hf
    refine C.strI (k := 1) dJ8_isLatin1_7 q2263 (by decide) h7 ?_
    refine X.if_ne (tgt := 17) dJ8_isLatin1_10 (by decide) (fun c10 => ?_) (fun c10 => ?_)
    · have hf := if_f c10 hf
      refine X.iconst (v := 0) dJ8_isLatin1_17 (by decide) ?_
      obtain rfl := Option.some.inj hf
      exact X.iret dJ8_isLatin1_18 rfl rfl rfl
    · have hf := if_t c10 hf
      refine X.iconst (v := 1) dJ8_isLatin1_13 (by decide) ?_
      refine X.goto (tgt := 18) dJ8_isLatin1_14 (by decide) ?_
      obtain rfl := Option.some.inj hf
      exact X.iret dJ8_isLatin1_18 rfl rfl rfl
theorem cJ8_492 : xCV RJ8 492 mJ8_isLatin1 0 := ⟨lw_V q911 q912 q913 q134 q914, rfl, ⟨by decide +kernel, by decide +kernel, by decide +kernel⟩, Nat.le_of_ble_eq_true rfl⟩
/-! java/lang/String coder -/
abbrev cJ8_coder : ByteArray := prog_28_method_152_code
def yJ8_coder : MethodName := ⟨RJ8, "coder", "()B"⟩
def dkwJ8_coder_0 : List UInt8 := [178, 0, 38, 153, 0, 10, 42, 180, 0, 15, 167, 0, 4, 4, 172]
abbrev dktJ8_coder_0 : List UInt8 := dkwJ8_coder_0 ++ []
theorem dksJ8_coder_0 : cJ8_coder.data.toList.drop 0 = dktJ8_coder_0 := by decide +kernel
theorem dJ8_coder_0 : decode cJ8_coder 0 = .ok (.getstatic 38, 3) := dk_178 0 38 (dk_at dksJ8_coder_0 0 rfl rfl)
theorem dJ8_coder_3 : decode cJ8_coder 3 = .ok (.ifCond .eq 10, 3) := dk_153 0 10 (dk_at dksJ8_coder_0 3 rfl rfl)
theorem dJ8_coder_6 : decode cJ8_coder 6 = .ok (.aload_n 0, 1) := dk_42 (dk_at dksJ8_coder_0 6 rfl rfl)
theorem dJ8_coder_7 : decode cJ8_coder 7 = .ok (.getfield 15, 3) := dk_180 0 15 (dk_at dksJ8_coder_0 7 rfl rfl)
theorem dJ8_coder_10 : decode cJ8_coder 10 = .ok (.goto 4, 3) := dk_167 0 4 (dk_at dksJ8_coder_0 10 rfl rfl)
theorem dJ8_coder_13 : decode cJ8_coder 13 = .ok (.iconst 1, 1) := dk_4 (dk_at dksJ8_coder_0 13 rfl rfl)
theorem dJ8_coder_14 : decode cJ8_coder 14 = .ok (.ireturn, 1) := dk_172 (dk_at dksJ8_coder_0 14 rfl rfl)
abbrev mJ8_coder : xM := (yJ8_coder, cJ8_coder, 1, (some .byte), [])
def c_J8_coder (T : xF) (x0 : Option Nat) : Option Int32 :=
  if (1 : Int32) = 0 then
    some (1 : Int32)
  else
    (oI T x0 15 1).bind fun v7 =>
    if ¬ vp_nar .byte v7 = v7 then none else some v7
theorem w_J8_coder {G : xG}  {T : xF} {x0 : Option Nat} {q : Int32} (hf : c_J8_coder T x0 = some q) : Ct G mJ8_coder (1) T [va_rf x0] (.inl (some (.int q))) T := by
  refine Ct.ofc (plainFor_of_name (by decide +kernel)) rfl (xvQ xvN) (Nat.le_of_ble_eq_true rfl) (show Xr G _ 0 [(0, va_rf x0)] [] _ from ?_)
  unfold c_J8_coder at hf
  refine X.gets dJ8_coder_0 (i := 4) rfl q915 rfl ?_
  refine X.if_eq (tgt := 13) dJ8_coder_3 (by decide) (fun c3 => ?_) (fun c3 => ?_)
  · have hf := if_t c3 hf
    refine X.iconst (v := 1) dJ8_coder_13 (by decide) ?_
    obtain rfl := Option.some.inj hf
    exact X.iret dJ8_coder_14 rfl rfl rfl
  · have hf := if_f c3 hf
    refine C.aload_n dJ8_coder_6 rfl 0 rfl ?_
    obtain ⟨v7, h7, hf⟩ := ob hf
    refine C.strI (k := 1) dJ8_coder_7 q2263 (by decide) h7 ?_
    refine X.goto (tgt := 14) dJ8_coder_10 (by decide) ?_
    obtain ⟨cz, hf⟩ := if_n hf
    obtain rfl := Option.some.inj hf
    exact X.iret dJ8_coder_14 rfl (nar_byte (Classical.not_not.mp cz)) rfl
theorem cJ8_335 : xCV RJ8 335 mJ8_coder 0 := ⟨lw_V q921 q922 q923 q134 q924, rfl, ⟨by decide +kernel, by decide +kernel, by decide +kernel⟩, Nat.le_of_ble_eq_true rfl⟩
/-! java/lang/String length -/
abbrev cJ8_length : ByteArray := prog_28_method_54_code
def yJ8_length : MethodName := ⟨RJ8, "length", "()I"⟩
def dkwJ8_length_0 : List UInt8 := [42, 180, 0, 9, 190, 42, 182, 1, 79, 122, 172]
abbrev dktJ8_length_0 : List UInt8 := dkwJ8_length_0 ++ []
theorem dksJ8_length_0 : cJ8_length.data.toList.drop 0 = dktJ8_length_0 := by decide +kernel
theorem dJ8_length_0 : decode cJ8_length 0 = .ok (.aload_n 0, 1) := dk_42 (dk_at dksJ8_length_0 0 rfl rfl)
theorem dJ8_length_1 : decode cJ8_length 1 = .ok (.getfield 9, 3) := dk_180 0 9 (dk_at dksJ8_length_0 1 rfl rfl)
theorem dJ8_length_4 : decode cJ8_length 4 = .ok (.arraylength, 1) := dk_190 (dk_at dksJ8_length_0 4 rfl rfl)
theorem dJ8_length_5 : decode cJ8_length 5 = .ok (.aload_n 0, 1) := dk_42 (dk_at dksJ8_length_0 5 rfl rfl)
theorem dJ8_length_6 : decode cJ8_length 6 = .ok (.invokevirtual 335, 3) := dk_182 1 79 (dk_at dksJ8_length_0 6 rfl rfl)
theorem dJ8_length_9 : decode cJ8_length 9 = .ok (.ishr, 1) := dk_122 (dk_at dksJ8_length_0 9 rfl rfl)
theorem dJ8_length_10 : decode cJ8_length 10 = .ok (.ireturn, 1) := dk_172 (dk_at dksJ8_length_0 10 rfl rfl)
abbrev mJ8_length : xM := (yJ8_length, cJ8_length, 1, (some .int), [])
def c_J8_length (T : xF) (x0 : Option Nat) : Option Int32 :=
  (oQ T x0 15 0).bind fun v1 =>
  (len T v1).bind fun v4 =>
  if ¬ isO T x0 15 = true then none else
  (c_J8_coder T x0).bind fun v6 =>
  some (v4 >>> (v6 &&& 31))
theorem w_J8_length {G : xG}  {T : xF} {x0 : Option Nat} {q : Int32} (hf : c_J8_length T x0 = some q) : Ct G mJ8_length (2) T [va_rf x0] (.inl (some (.int q))) T := by
  refine Ct.ofc (plainFor_of_name (by decide +kernel)) rfl (xvQ xvN) (Nat.le_of_ble_eq_true rfl) (show Xr G _ 0 [(0, va_rf x0)] [] _ from ?_)
  unfold c_J8_length at hf
  refine C.aload_n dJ8_length_0 rfl 0 rfl ?_
  obtain ⟨v1, h1, hf⟩ := ob hf
  refine C.strQ (k := 0) dJ8_length_1 q2264 (by decide) h1 ?_
  obtain ⟨v4, h4, hf⟩ := ob hf
  refine C.alen dJ8_length_4 h4 ?_
  refine C.aload_n dJ8_length_5 rfl 0 rfl ?_
  obtain ⟨c6, hf⟩ := if_n hf
  obtain ⟨v6, h6, hf⟩ := ob hf
  refine X.keep fun l6 => C.Vi (As := []) (rest := [.int v4]) dJ8_length_6 (w_J8_coder h6) cJ8_335 (Classical.not_not.mp c6) rfl rfl (xcs (xvI xvN) (Nat.le_of_ble_eq_true rfl)) rfl rfl (xD (Nat.le_of_ble_eq_true rfl)) xle.rf l6 ?_
  refine X.ishr dJ8_length_9 ?_
  obtain rfl := Option.some.inj hf
  exact X.iret dJ8_length_10 rfl rfl rfl
theorem cX5_122 : xCV RX5 122 mJ8_length 0 := ⟨lw_V q984 q918 q919 q134 q920, rfl, ⟨by decide +kernel, by decide +kernel, by decide +kernel⟩, Nat.le_of_ble_eq_true rfl⟩
theorem cJ8_505 : xCV RJ8 505 mJ8_length 0 := ⟨lw_V q917 q918 q919 q134 q920, rfl, ⟨by decide +kernel, by decide +kernel, by decide +kernel⟩, Nat.le_of_ble_eq_true rfl⟩
/-! java/lang/StringLatin1 canEncode -/
abbrev cJ9_canEncode : ByteArray := prog_30_method_4_code
def yJ9_canEncode : MethodName := ⟨RJ9, "canEncode", "(I)Z"⟩
def dkwJ9_canEncode_0 : List UInt8 := [26, 155, 0, 14, 26, 17, 0, 255, 163, 0, 7, 4, 167, 0, 4, 3, 172]
abbrev dktJ9_canEncode_0 : List UInt8 := dkwJ9_canEncode_0 ++ []
theorem dksJ9_canEncode_0 : cJ9_canEncode.data.toList.drop 0 = dktJ9_canEncode_0 := by decide +kernel
theorem dJ9_canEncode_0 : decode cJ9_canEncode 0 = .ok (.iload_n 0, 1) := dk_26 (dk_at dksJ9_canEncode_0 0 rfl rfl)
theorem dJ9_canEncode_1 : decode cJ9_canEncode 1 = .ok (.ifCond .lt 14, 3) := dk_155 0 14 (dk_at dksJ9_canEncode_0 1 rfl rfl)
theorem dJ9_canEncode_4 : decode cJ9_canEncode 4 = .ok (.iload_n 0, 1) := dk_26 (dk_at dksJ9_canEncode_0 4 rfl rfl)
theorem dJ9_canEncode_5 : decode cJ9_canEncode 5 = .ok (.sipush 255, 3) := dk_17 0 255 (dk_at dksJ9_canEncode_0 5 rfl rfl)
theorem dJ9_canEncode_8 : decode cJ9_canEncode 8 = .ok (.if_icmp .gt 7, 3) := dk_163 0 7 (dk_at dksJ9_canEncode_0 8 rfl rfl)
theorem dJ9_canEncode_11 : decode cJ9_canEncode 11 = .ok (.iconst 1, 1) := dk_4 (dk_at dksJ9_canEncode_0 11 rfl rfl)
theorem dJ9_canEncode_12 : decode cJ9_canEncode 12 = .ok (.goto 4, 3) := dk_167 0 4 (dk_at dksJ9_canEncode_0 12 rfl rfl)
theorem dJ9_canEncode_15 : decode cJ9_canEncode 15 = .ok (.iconst 0, 1) := dk_3 (dk_at dksJ9_canEncode_0 15 rfl rfl)
theorem dJ9_canEncode_16 : decode cJ9_canEncode 16 = .ok (.ireturn, 1) := dk_172 (dk_at dksJ9_canEncode_0 16 rfl rfl)
abbrev mJ9_canEncode : xM := (yJ9_canEncode, cJ9_canEncode, 1, (some .boolean), [])
def c_J9_canEncode (x0 : Int32) : Option Int32 :=
  if x0 < 0 then
    some (0 : Int32)
  else
    if (255 : Int32) < x0 then
      some (0 : Int32)
    else
      some (1 : Int32)
theorem w_J9_canEncode {G : xG}  {T : xF} {x0 : Int32} {q : Int32} (hf : c_J9_canEncode x0 = some q) : Ct G mJ9_canEncode (1) T [.int x0] (.inl (some (.int q))) T := by
  refine Ct.ofc (plainFor_of_name (by decide +kernel)) rfl (xvI xvN) (Nat.le_of_ble_eq_true rfl) (show Xr G _ 0 [(0, .int x0)] [] _ from ?_)
  unfold c_J9_canEncode at hf
  refine X.iload_n dJ9_canEncode_0 rfl 0 rfl ?_
  refine X.if_lt (tgt := 15) dJ9_canEncode_1 (by decide) (fun c1 => ?_) (fun c1 => ?_)
  · have hf := if_t c1 hf
    refine X.iconst (v := 0) dJ9_canEncode_15 (by decide) ?_
    obtain rfl := Option.some.inj hf
    exact X.iret dJ9_canEncode_16 rfl rfl rfl
  · have hf := if_f c1 hf
    refine X.iload_n dJ9_canEncode_4 rfl 0 rfl ?_
    refine X.sipush (v := 255) dJ9_canEncode_5 (by decide) ?_
    refine X.icmp_gt (tgt := 15) dJ9_canEncode_8 (by decide) (fun c8 => ?_) (fun c8 => ?_)
    · have hf := if_t c8 hf
      refine X.iconst (v := 0) dJ9_canEncode_15 (by decide) ?_
      obtain rfl := Option.some.inj hf
      exact X.iret dJ9_canEncode_16 rfl rfl rfl
    · have hf := if_f c8 hf
      refine X.iconst (v := 1) dJ9_canEncode_11 (by decide) ?_
      refine X.goto (tgt := 16) dJ9_canEncode_12 (by decide) ?_
      obtain rfl := Option.some.inj hf
      exact X.iret dJ9_canEncode_16 rfl rfl rfl
theorem cJ9_88 : xCS RJ9 88 mJ9_canEncode 1 := ⟨lw_S q928 q929 q135 q930, rfl, ⟨by decide +kernel, by decide +kernel, by decide +kernel⟩, Nat.le_of_ble_eq_true rfl⟩
/-! java/lang/StringLatin1 indexOfChar -/
abbrev cJ9_indexOfChar : ByteArray := prog_30_method_23_code
def yJ9_indexOfChar : MethodName := ⟨RJ9, "indexOfChar", "([BIII)I"⟩
def dkwJ9_indexOfChar_1 : List UInt8 := [172, 132, 5, 1, 167, 255, 235, 2, 172]
abbrev dktJ9_indexOfChar_1 : List UInt8 := dkwJ9_indexOfChar_1 ++ []
def dkwJ9_indexOfChar_0 : List UInt8 := [27, 145, 54, 4, 28, 54, 5, 21, 5, 29, 162, 0, 21, 42, 21, 5, 51, 21, 4, 160, 0, 6, 21, 5]
abbrev dktJ9_indexOfChar_0 : List UInt8 := dkwJ9_indexOfChar_0 ++ dktJ9_indexOfChar_1
theorem dksJ9_indexOfChar_0 : cJ9_indexOfChar.data.toList.drop 0 = dktJ9_indexOfChar_0 := by decide +kernel
theorem dksJ9_indexOfChar_1 : cJ9_indexOfChar.data.toList.drop 24 = dktJ9_indexOfChar_1 := dk_seg dksJ9_indexOfChar_0 24 rfl rfl
theorem dJ9_indexOfChar_0 : decode cJ9_indexOfChar 0 = .ok (.iload_n 1, 1) := dk_27 (dk_at dksJ9_indexOfChar_0 0 rfl rfl)
theorem dJ9_indexOfChar_1 : decode cJ9_indexOfChar 1 = .ok (.i2b, 1) := dk_145 (dk_at dksJ9_indexOfChar_0 1 rfl rfl)
theorem dJ9_indexOfChar_2 : decode cJ9_indexOfChar 2 = .ok (.istore 4, 2) := dk_54 4 (dk_at dksJ9_indexOfChar_0 2 rfl rfl)
theorem dJ9_indexOfChar_4 : decode cJ9_indexOfChar 4 = .ok (.iload_n 2, 1) := dk_28 (dk_at dksJ9_indexOfChar_0 4 rfl rfl)
theorem dJ9_indexOfChar_5 : decode cJ9_indexOfChar 5 = .ok (.istore 5, 2) := dk_54 5 (dk_at dksJ9_indexOfChar_0 5 rfl rfl)
theorem dJ9_indexOfChar_7 : decode cJ9_indexOfChar 7 = .ok (.iload 5, 2) := dk_21 5 (dk_at dksJ9_indexOfChar_0 7 rfl rfl)
theorem dJ9_indexOfChar_9 : decode cJ9_indexOfChar 9 = .ok (.iload_n 3, 1) := dk_29 (dk_at dksJ9_indexOfChar_0 9 rfl rfl)
theorem dJ9_indexOfChar_10 : decode cJ9_indexOfChar 10 = .ok (.if_icmp .ge 21, 3) := dk_162 0 21 (dk_at dksJ9_indexOfChar_0 10 rfl rfl)
theorem dJ9_indexOfChar_13 : decode cJ9_indexOfChar 13 = .ok (.aload_n 0, 1) := dk_42 (dk_at dksJ9_indexOfChar_0 13 rfl rfl)
theorem dJ9_indexOfChar_14 : decode cJ9_indexOfChar 14 = .ok (.iload 5, 2) := dk_21 5 (dk_at dksJ9_indexOfChar_0 14 rfl rfl)
theorem dJ9_indexOfChar_16 : decode cJ9_indexOfChar 16 = .ok (.baload, 1) := dk_51 (dk_at dksJ9_indexOfChar_0 16 rfl rfl)
theorem dJ9_indexOfChar_17 : decode cJ9_indexOfChar 17 = .ok (.iload 4, 2) := dk_21 4 (dk_at dksJ9_indexOfChar_0 17 rfl rfl)
theorem dJ9_indexOfChar_19 : decode cJ9_indexOfChar 19 = .ok (.if_icmp .ne 6, 3) := dk_160 0 6 (dk_at dksJ9_indexOfChar_0 19 rfl rfl)
theorem dJ9_indexOfChar_22 : decode cJ9_indexOfChar 22 = .ok (.iload 5, 2) := dk_21 5 (dk_at dksJ9_indexOfChar_0 22 rfl rfl)
theorem dJ9_indexOfChar_24 : decode cJ9_indexOfChar 24 = .ok (.ireturn, 1) := dk_172 (dk_at dksJ9_indexOfChar_1 0 rfl rfl)
theorem dJ9_indexOfChar_25 : decode cJ9_indexOfChar 25 = .ok (.iinc 5 1, 3) := dk_132 5 1 (dk_at dksJ9_indexOfChar_1 1 rfl rfl)
theorem dJ9_indexOfChar_28 : decode cJ9_indexOfChar 28 = .ok (.goto (-21), 3) := dk_167 255 235 (dk_at dksJ9_indexOfChar_1 4 rfl rfl)
theorem dJ9_indexOfChar_31 : decode cJ9_indexOfChar 31 = .ok (.iconst (-1), 1) := dk_2 (dk_at dksJ9_indexOfChar_1 7 rfl rfl)
theorem dJ9_indexOfChar_32 : decode cJ9_indexOfChar 32 = .ok (.ireturn, 1) := dk_172 (dk_at dksJ9_indexOfChar_1 8 rfl rfl)
abbrev mJ9_indexOfChar : xM := (yJ9_indexOfChar, cJ9_indexOfChar, 6, (some .int), [])
def c_J9_indexOfChar_7_b (T : xF) (k7 : Option Nat → Int32 → Int32 → Int32 → Option Int32) (x0 : Option Nat) (x3 : Int32) (x4 : Int32) (x5 : Int32) : Option Int32 :=
  if x3 ≤ x5 then
    some (-1 : Int32)
  else
    (ldA T x0 .byte x5).bind fun v16 =>
    if v16 = x4 then
      some x5
    else
      k7 x0 x3 x4 (x5 + 1)
def c_J9_indexOfChar_7 (T : xF) : Nat → Option Nat → Int32 → Int32 → Int32 → Option Int32
  | 0 => fun _ _ _ _ => none
  | n + 1 => fun x0 x3 x4 x5 => c_J9_indexOfChar_7_b T (c_J9_indexOfChar_7 T n) x0 x3 x4 x5
theorem c_J9_indexOfChar_7_bok {G : xG}  {T : xF}  {k7 : Option Nat → Int32 → Int32 → Int32 → Option Int32}  (hk7 : ∀ (x0 : Option Nat) (x3 : Int32) (x4 : Int32) (x5 : Int32) (q : Int32), k7 x0 x3 x4 x5 = some q → Xr G (mJ9_indexOfChar, xrm (1) T T, T, .inl (some (.int q)), T) 7 [(0, va_rf x0), (3, .int x3), (4, .int x4), (5, .int x5)] [] T) (x0 : Option Nat) (x3 : Int32) (x4 : Int32) (x5 : Int32) (q : Int32) (hf : c_J9_indexOfChar_7_b T k7 x0 x3 x4 x5 = some q) : Xr G (mJ9_indexOfChar, xrm (1) T T, T, .inl (some (.int q)), T) 7 [(0, va_rf x0), (3, .int x3), (4, .int x4), (5, .int x5)] [] T := by
  unfold c_J9_indexOfChar_7_b at hf
  refine X.iload dJ9_indexOfChar_7 3 rfl ?_
  refine X.iload_n dJ9_indexOfChar_9 rfl 1 rfl ?_
  refine X.icmp_ge (tgt := 31) dJ9_indexOfChar_10 (by decide) (fun c10 => ?_) (fun c10 => ?_)
  · have hf := if_t c10 hf
    refine X.iconst (v := -1) dJ9_indexOfChar_31 (by decide) ?_
    obtain rfl := Option.some.inj hf
    exact X.iret dJ9_indexOfChar_32 rfl rfl rfl
  · have hf := if_f c10 hf
    refine C.aload_n dJ9_indexOfChar_13 rfl 0 rfl ?_
    refine X.iload dJ9_indexOfChar_14 3 rfl ?_
    obtain ⟨v16, h16, hf⟩ := ob hf
    refine C.bald dJ9_indexOfChar_16 h16 ?_
    refine X.iload dJ9_indexOfChar_17 2 rfl ?_
    refine X.icmp_ne (tgt := 25) dJ9_indexOfChar_19 (by decide) (fun c19 => ?_) (fun c19 => ?_)
    · have hf := if_f c19 hf
      refine C.iinc (v := (x5 + 1)) (L' := [(5, .int (x5 + 1)), (0, va_rf x0), (3, .int x3), (4, .int x4)]) dJ9_indexOfChar_25 3 rfl rfl (Nat.le_of_ble_eq_true rfl) (xcQ (xcI (xcI (xcI xcN)))) rfl ?_
      refine X.goto (tgt := 7) dJ9_indexOfChar_28 (by decide) ?_
      refine X.sub [1, 2, 3, 0] (L' := [(0, va_rf x0), (3, .int x3), (4, .int x4), (5, .int (x5 + 1))]) rfl ?_
      exact hk7 _ _ _ _ _ hf
    · have hf := if_t c19 hf
      refine X.iload dJ9_indexOfChar_22 3 rfl ?_
      obtain rfl := Option.some.inj hf
      exact X.iret dJ9_indexOfChar_24 rfl rfl rfl
theorem c_J9_indexOfChar_7_ok {G : xG}  {T : xF}   : ∀ (n : Nat) (x0 : Option Nat) (x3 : Int32) (x4 : Int32) (x5 : Int32) (q : Int32), c_J9_indexOfChar_7 T n x0 x3 x4 x5 = some q → Xr G (mJ9_indexOfChar, xrm (1) T T, T, .inl (some (.int q)), T) 7 [(0, va_rf x0), (3, .int x3), (4, .int x4), (5, .int x5)] [] T
  | 0, _, _, _, _, _, hf => by cases hf
  | n + 1, x0, x3, x4, x5, q, hf => c_J9_indexOfChar_7_bok (c_J9_indexOfChar_7_ok n) x0 x3 x4 x5 q hf
def c_J9_indexOfChar (T : xF) (x0 : Option Nat) (x1 : Int32) (x2 : Int32) (x3 : Int32) : Option Int32 :=
  c_J9_indexOfChar_7 T FU x0 x3 (x1.toInt8.toInt32) x2
theorem w_J9_indexOfChar {G : xG}  {T : xF} {x0 : Option Nat} {x1 : Int32} {x2 : Int32} {x3 : Int32} {q : Int32} (hf : c_J9_indexOfChar T x0 x1 x2 x3 = some q) : Ct G mJ9_indexOfChar (1) T [va_rf x0, .int x1, .int x2, .int x3] (.inl (some (.int q))) T := by
  refine Ct.ofc (plainFor_of_name (by decide +kernel)) rfl (xvQ (xvI (xvI (xvI xvN)))) (Nat.le_of_ble_eq_true rfl) (show Xr G _ 0 [(0, va_rf x0), (1, .int x1), (2, .int x2), (3, .int x3)] [] _ from ?_)
  unfold c_J9_indexOfChar at hf
  refine X.iload_n dJ9_indexOfChar_0 rfl 1 rfl ?_
  refine X.i2b dJ9_indexOfChar_1 rfl ?_
  refine C.ist (L' := [(4, .int (x1.toInt8.toInt32)), (0, va_rf x0), (1, .int x1), (2, .int x2), (3, .int x3)]) dJ9_indexOfChar_2 (Nat.le_of_ble_eq_true rfl) (xcQ (xcI (xcI (xcI xcN)))) rfl ?_
  refine X.iload_n dJ9_indexOfChar_4 rfl 3 rfl ?_
  refine C.ist (L' := [(5, .int x2), (4, .int (x1.toInt8.toInt32)), (0, va_rf x0), (1, .int x1), (2, .int x2), (3, .int x3)]) dJ9_indexOfChar_5 (Nat.le_of_ble_eq_true rfl) (xcI (xcQ (xcI (xcI (xcI xcN))))) rfl ?_
  refine X.sub [2, 5, 1, 0] (L' := [(0, va_rf x0), (3, .int x3), (4, .int (x1.toInt8.toInt32)), (5, .int x2)]) rfl ?_
  exact c_J9_indexOfChar_7_ok FU _ _ _ _ _ hf
theorem cJ9_95 : xCS RJ9 95 mJ9_indexOfChar 4 := ⟨lw_S q933 q934 q135 q935, rfl, ⟨by decide +kernel, by decide +kernel, by decide +kernel⟩, Nat.le_of_ble_eq_true rfl⟩
/-! java/lang/StringLatin1 indexOf -/
abbrev cJ9_indexOf : ByteArray := prog_30_method_22_code
def yJ9_indexOf : MethodName := ⟨RJ9, "indexOf", "([BIII)I"⟩
def dkwJ9_indexOf_1 : List UInt8 := [161, 0, 5, 2, 172, 42, 27, 28, 29, 184, 0, 95, 172]
abbrev dktJ9_indexOf_1 : List UInt8 := dkwJ9_indexOf_1 ++ []
def dkwJ9_indexOf_0 : List UInt8 := [27, 184, 0, 88, 154, 0, 5, 2, 172, 28, 3, 184, 0, 92, 61, 29, 42, 190, 184, 0, 38, 62, 28, 29]
abbrev dktJ9_indexOf_0 : List UInt8 := dkwJ9_indexOf_0 ++ dktJ9_indexOf_1
theorem dksJ9_indexOf_0 : cJ9_indexOf.data.toList.drop 0 = dktJ9_indexOf_0 := by decide +kernel
theorem dksJ9_indexOf_1 : cJ9_indexOf.data.toList.drop 24 = dktJ9_indexOf_1 := dk_seg dksJ9_indexOf_0 24 rfl rfl
theorem dJ9_indexOf_0 : decode cJ9_indexOf 0 = .ok (.iload_n 1, 1) := dk_27 (dk_at dksJ9_indexOf_0 0 rfl rfl)
theorem dJ9_indexOf_1 : decode cJ9_indexOf 1 = .ok (.invokestatic 88, 3) := dk_184 0 88 (dk_at dksJ9_indexOf_0 1 rfl rfl)
theorem dJ9_indexOf_4 : decode cJ9_indexOf 4 = .ok (.ifCond .ne 5, 3) := dk_154 0 5 (dk_at dksJ9_indexOf_0 4 rfl rfl)
theorem dJ9_indexOf_7 : decode cJ9_indexOf 7 = .ok (.iconst (-1), 1) := dk_2 (dk_at dksJ9_indexOf_0 7 rfl rfl)
theorem dJ9_indexOf_8 : decode cJ9_indexOf 8 = .ok (.ireturn, 1) := dk_172 (dk_at dksJ9_indexOf_0 8 rfl rfl)
theorem dJ9_indexOf_9 : decode cJ9_indexOf 9 = .ok (.iload_n 2, 1) := dk_28 (dk_at dksJ9_indexOf_0 9 rfl rfl)
theorem dJ9_indexOf_10 : decode cJ9_indexOf 10 = .ok (.iconst 0, 1) := dk_3 (dk_at dksJ9_indexOf_0 10 rfl rfl)
theorem dJ9_indexOf_11 : decode cJ9_indexOf 11 = .ok (.invokestatic 92, 3) := dk_184 0 92 (dk_at dksJ9_indexOf_0 11 rfl rfl)
theorem dJ9_indexOf_14 : decode cJ9_indexOf 14 = .ok (.istore_n 2, 1) := dk_61 (dk_at dksJ9_indexOf_0 14 rfl rfl)
theorem dJ9_indexOf_15 : decode cJ9_indexOf 15 = .ok (.iload_n 3, 1) := dk_29 (dk_at dksJ9_indexOf_0 15 rfl rfl)
theorem dJ9_indexOf_16 : decode cJ9_indexOf 16 = .ok (.aload_n 0, 1) := dk_42 (dk_at dksJ9_indexOf_0 16 rfl rfl)
theorem dJ9_indexOf_17 : decode cJ9_indexOf 17 = .ok (.arraylength, 1) := dk_190 (dk_at dksJ9_indexOf_0 17 rfl rfl)
theorem dJ9_indexOf_18 : decode cJ9_indexOf 18 = .ok (.invokestatic 38, 3) := dk_184 0 38 (dk_at dksJ9_indexOf_0 18 rfl rfl)
theorem dJ9_indexOf_21 : decode cJ9_indexOf 21 = .ok (.istore_n 3, 1) := dk_62 (dk_at dksJ9_indexOf_0 21 rfl rfl)
theorem dJ9_indexOf_22 : decode cJ9_indexOf 22 = .ok (.iload_n 2, 1) := dk_28 (dk_at dksJ9_indexOf_0 22 rfl rfl)
theorem dJ9_indexOf_23 : decode cJ9_indexOf 23 = .ok (.iload_n 3, 1) := dk_29 (dk_at dksJ9_indexOf_0 23 rfl rfl)
theorem dJ9_indexOf_24 : decode cJ9_indexOf 24 = .ok (.if_icmp .lt 5, 3) := dk_161 0 5 (dk_at dksJ9_indexOf_1 0 rfl rfl)
theorem dJ9_indexOf_27 : decode cJ9_indexOf 27 = .ok (.iconst (-1), 1) := dk_2 (dk_at dksJ9_indexOf_1 3 rfl rfl)
theorem dJ9_indexOf_28 : decode cJ9_indexOf 28 = .ok (.ireturn, 1) := dk_172 (dk_at dksJ9_indexOf_1 4 rfl rfl)
theorem dJ9_indexOf_29 : decode cJ9_indexOf 29 = .ok (.aload_n 0, 1) := dk_42 (dk_at dksJ9_indexOf_1 5 rfl rfl)
theorem dJ9_indexOf_30 : decode cJ9_indexOf 30 = .ok (.iload_n 1, 1) := dk_27 (dk_at dksJ9_indexOf_1 6 rfl rfl)
theorem dJ9_indexOf_31 : decode cJ9_indexOf 31 = .ok (.iload_n 2, 1) := dk_28 (dk_at dksJ9_indexOf_1 7 rfl rfl)
theorem dJ9_indexOf_32 : decode cJ9_indexOf 32 = .ok (.iload_n 3, 1) := dk_29 (dk_at dksJ9_indexOf_1 8 rfl rfl)
theorem dJ9_indexOf_33 : decode cJ9_indexOf 33 = .ok (.invokestatic 95, 3) := dk_184 0 95 (dk_at dksJ9_indexOf_1 9 rfl rfl)
theorem dJ9_indexOf_36 : decode cJ9_indexOf 36 = .ok (.ireturn, 1) := dk_172 (dk_at dksJ9_indexOf_1 12 rfl rfl)
abbrev mJ9_indexOf : xM := (yJ9_indexOf, cJ9_indexOf, 4, (some .int), [])
def c_J9_indexOf (T : xF) (x0 : Option Nat) (x1 : Int32) (x2 : Int32) (x3 : Int32) : Option Int32 :=
  (c_J9_canEncode x1).bind fun v1 =>
  if v1 = 0 then
    some (-1 : Int32)
  else
    (c_J7_max x2 (0 : Int32)).bind fun v11 =>
    (len T x0).bind fun v17 =>
    (c_J7_min x3 v17).bind fun v18 =>
    if v11 < v18 then
      (c_J9_indexOfChar T x0 x1 v11 v18).bind fun v33 =>
      some v33
    else
      some (-1 : Int32)
theorem w_J9_indexOf {G : xG}  {T : xF} {x0 : Option Nat} {x1 : Int32} {x2 : Int32} {x3 : Int32} {q : Int32} (hf : c_J9_indexOf T x0 x1 x2 x3 = some q) : Ct G mJ9_indexOf (2) T [va_rf x0, .int x1, .int x2, .int x3] (.inl (some (.int q))) T := by
  refine Ct.ofc (plainFor_of_name (by decide +kernel)) rfl (xvQ (xvI (xvI (xvI xvN)))) (Nat.le_of_ble_eq_true rfl) (show Xr G _ 0 [(0, va_rf x0), (1, .int x1), (2, .int x2), (3, .int x3)] [] _ from ?_)
  unfold c_J9_indexOf at hf
  refine X.iload_n dJ9_indexOf_0 rfl 1 rfl ?_
  obtain ⟨v1, h1, hf⟩ := ob hf
  refine X.keep fun l1 => C.Si (As := [.int x1]) (rest := []) dJ9_indexOf_1 (w_J9_canEncode h1) cJ9_88 rfl rfl (xcs xvN (Nat.le_of_ble_eq_true rfl)) (xD (Nat.le_of_ble_eq_true rfl)) xle.rf l1 ?_
  refine X.if_ne (tgt := 9) dJ9_indexOf_4 (by decide) (fun c4 => ?_) (fun c4 => ?_)
  · have hf := if_f c4 hf
    refine X.iload_n dJ9_indexOf_9 rfl 2 rfl ?_
    refine X.iconst (v := 0) dJ9_indexOf_10 (by decide) ?_
    obtain ⟨v11, h11, hf⟩ := ob hf
    refine X.keep fun l11 => C.Si (As := [.int x2, .int (0 : Int32)]) (rest := []) dJ9_indexOf_11 (w_J7_max h11) cJ9_92 rfl rfl (xcs xvN (Nat.le_of_ble_eq_true rfl)) (xD (Nat.le_of_ble_eq_true rfl)) xle.rf l11 ?_
    refine C.ist_n (L' := [(2, .int v11), (0, va_rf x0), (1, .int x1), (3, .int x3)]) dJ9_indexOf_14 rfl (Nat.le_of_ble_eq_true rfl) (xcQ (xcI (xcI (xcI xcN)))) rfl ?_
    refine X.iload_n dJ9_indexOf_15 rfl 3 rfl ?_
    refine C.aload_n dJ9_indexOf_16 rfl 1 rfl ?_
    obtain ⟨v17, h17, hf⟩ := ob hf
    refine C.alen dJ9_indexOf_17 h17 ?_
    obtain ⟨v18, h18, hf⟩ := ob hf
    refine X.keep fun l18 => C.Si (As := [.int x3, .int v17]) (rest := []) dJ9_indexOf_18 (w_J7_min h18) cJ9_38 rfl rfl (xcs xvN (Nat.le_of_ble_eq_true rfl)) (xD (Nat.le_of_ble_eq_true rfl)) xle.rf l18 ?_
    refine C.ist_n (L' := [(3, .int v18), (2, .int v11), (0, va_rf x0), (1, .int x1)]) dJ9_indexOf_21 rfl (Nat.le_of_ble_eq_true rfl) (xcI (xcQ (xcI (xcI xcN)))) rfl ?_
    refine X.iload_n dJ9_indexOf_22 rfl 1 rfl ?_
    refine X.iload_n dJ9_indexOf_23 rfl 0 rfl ?_
    refine X.icmp_lt (tgt := 29) dJ9_indexOf_24 (by decide) (fun c24 => ?_) (fun c24 => ?_)
    · have hf := if_t c24 hf
      refine C.aload_n dJ9_indexOf_29 rfl 2 rfl ?_
      refine X.iload_n dJ9_indexOf_30 rfl 3 rfl ?_
      refine X.iload_n dJ9_indexOf_31 rfl 1 rfl ?_
      refine X.iload_n dJ9_indexOf_32 rfl 0 rfl ?_
      obtain ⟨v33, h33, hf⟩ := ob hf
      refine X.keep fun l33 => C.Si (As := [va_rf x0, .int x1, .int v11, .int v18]) (rest := []) dJ9_indexOf_33 (w_J9_indexOfChar h33) cJ9_95 rfl rfl (xcs xvN (Nat.le_of_ble_eq_true rfl)) (xD (Nat.le_of_ble_eq_true rfl)) xle.rf l33 ?_
      obtain rfl := Option.some.inj hf
      exact X.iret dJ9_indexOf_36 rfl rfl rfl
    · have hf := if_f c24 hf
      refine X.iconst (v := -1) dJ9_indexOf_27 (by decide) ?_
      obtain rfl := Option.some.inj hf
      exact X.iret dJ9_indexOf_28 rfl rfl rfl
  · have hf := if_t c4 hf
    refine X.iconst (v := -1) dJ9_indexOf_7 (by decide) ?_
    obtain rfl := Option.some.inj hf
    exact X.iret dJ9_indexOf_8 rfl rfl rfl
theorem cJ8_637 : xCS RJ8 637 mJ9_indexOf 4 := ⟨lw_S q925 q926 q135 q927, rfl, ⟨by decide +kernel, by decide +kernel, by decide +kernel⟩, Nat.le_of_ble_eq_true rfl⟩
/-! java/lang/String indexOf -/
abbrev cJ8_indexOf_2 : ByteArray := prog_28_method_80_code
def yJ8_indexOf_2 : MethodName := ⟨RJ8, "indexOf", "(II)I"⟩
def dkwJ8_indexOf_2_1 : List UInt8 := [180, 0, 9, 27, 28, 42, 182, 1, 249, 184, 2, 128, 172]
abbrev dktJ8_indexOf_2_1 : List UInt8 := dkwJ8_indexOf_2_1 ++ []
def dkwJ8_indexOf_2_0 : List UInt8 := [42, 182, 1, 236, 153, 0, 19, 42, 180, 0, 9, 27, 28, 42, 182, 1, 249, 184, 2, 125, 167, 0, 16, 42]
abbrev dktJ8_indexOf_2_0 : List UInt8 := dkwJ8_indexOf_2_0 ++ dktJ8_indexOf_2_1
theorem dksJ8_indexOf_2_0 : cJ8_indexOf_2.data.toList.drop 0 = dktJ8_indexOf_2_0 := by decide +kernel
theorem dksJ8_indexOf_2_1 : cJ8_indexOf_2.data.toList.drop 24 = dktJ8_indexOf_2_1 := dk_seg dksJ8_indexOf_2_0 24 rfl rfl
theorem dJ8_indexOf_2_0 : decode cJ8_indexOf_2 0 = .ok (.aload_n 0, 1) := dk_42 (dk_at dksJ8_indexOf_2_0 0 rfl rfl)
theorem dJ8_indexOf_2_1 : decode cJ8_indexOf_2 1 = .ok (.invokevirtual 492, 3) := dk_182 1 236 (dk_at dksJ8_indexOf_2_0 1 rfl rfl)
theorem dJ8_indexOf_2_4 : decode cJ8_indexOf_2 4 = .ok (.ifCond .eq 19, 3) := dk_153 0 19 (dk_at dksJ8_indexOf_2_0 4 rfl rfl)
theorem dJ8_indexOf_2_7 : decode cJ8_indexOf_2 7 = .ok (.aload_n 0, 1) := dk_42 (dk_at dksJ8_indexOf_2_0 7 rfl rfl)
theorem dJ8_indexOf_2_8 : decode cJ8_indexOf_2 8 = .ok (.getfield 9, 3) := dk_180 0 9 (dk_at dksJ8_indexOf_2_0 8 rfl rfl)
theorem dJ8_indexOf_2_11 : decode cJ8_indexOf_2 11 = .ok (.iload_n 1, 1) := dk_27 (dk_at dksJ8_indexOf_2_0 11 rfl rfl)
theorem dJ8_indexOf_2_12 : decode cJ8_indexOf_2 12 = .ok (.iload_n 2, 1) := dk_28 (dk_at dksJ8_indexOf_2_0 12 rfl rfl)
theorem dJ8_indexOf_2_13 : decode cJ8_indexOf_2 13 = .ok (.aload_n 0, 1) := dk_42 (dk_at dksJ8_indexOf_2_0 13 rfl rfl)
theorem dJ8_indexOf_2_14 : decode cJ8_indexOf_2 14 = .ok (.invokevirtual 505, 3) := dk_182 1 249 (dk_at dksJ8_indexOf_2_0 14 rfl rfl)
theorem dJ8_indexOf_2_17 : decode cJ8_indexOf_2 17 = .ok (.invokestatic 637, 3) := dk_184 2 125 (dk_at dksJ8_indexOf_2_0 17 rfl rfl)
theorem dJ8_indexOf_2_20 : decode cJ8_indexOf_2 20 = .ok (.goto 16, 3) := dk_167 0 16 (dk_at dksJ8_indexOf_2_0 20 rfl rfl)
theorem dJ8_indexOf_2_23 : decode cJ8_indexOf_2 23 = .ok (.aload_n 0, 1) := dk_42 (dk_at dksJ8_indexOf_2_0 23 rfl rfl)
theorem dJ8_indexOf_2_24 : decode cJ8_indexOf_2 24 = .ok (.getfield 9, 3) := dk_180 0 9 (dk_at dksJ8_indexOf_2_1 0 rfl rfl)
theorem dJ8_indexOf_2_27 : decode cJ8_indexOf_2 27 = .ok (.iload_n 1, 1) := dk_27 (dk_at dksJ8_indexOf_2_1 3 rfl rfl)
theorem dJ8_indexOf_2_28 : decode cJ8_indexOf_2 28 = .ok (.iload_n 2, 1) := dk_28 (dk_at dksJ8_indexOf_2_1 4 rfl rfl)
theorem dJ8_indexOf_2_29 : decode cJ8_indexOf_2 29 = .ok (.aload_n 0, 1) := dk_42 (dk_at dksJ8_indexOf_2_1 5 rfl rfl)
theorem dJ8_indexOf_2_30 : decode cJ8_indexOf_2 30 = .ok (.invokevirtual 505, 3) := dk_182 1 249 (dk_at dksJ8_indexOf_2_1 6 rfl rfl)
theorem dJ8_indexOf_2_33 : decode cJ8_indexOf_2 33 = .ok (.invokestatic 640, 3) := dk_184 2 128 (dk_at dksJ8_indexOf_2_1 9 rfl rfl)
theorem dJ8_indexOf_2_36 : decode cJ8_indexOf_2 36 = .ok (.ireturn, 1) := dk_172 (dk_at dksJ8_indexOf_2_1 12 rfl rfl)
abbrev mJ8_indexOf_2 : xM := (yJ8_indexOf_2, cJ8_indexOf_2, 3, (some .int), [])
def c_J8_indexOf_2 (T : xF) (x0 : Option Nat) (x1 : Int32) (x2 : Int32) : Option Int32 :=
  if ¬ isO T x0 15 = true then none else
  (c_J8_isLatin1 T x0).bind fun v1 =>
  if v1 = 0 then
    (oQ T x0 15 0).bind fun v24 =>
    if ¬ isO T x0 15 = true then none else
    (c_J8_length T x0).bind fun v30 =>
    none
  else
    (oQ T x0 15 0).bind fun v8 =>
    if ¬ isO T x0 15 = true then none else
    (c_J8_length T x0).bind fun v14 =>
    (c_J9_indexOf T v8 x1 x2 v14).bind fun v17 =>
    some v17
theorem w_J8_indexOf_2 {G : xG}  {T : xF} {x0 : Option Nat} {x1 : Int32} {x2 : Int32} {q : Int32} (hf : c_J8_indexOf_2 T x0 x1 x2 = some q) : Ct G mJ8_indexOf_2 (3) T [va_rf x0, .int x1, .int x2] (.inl (some (.int q))) T := by
  refine Ct.ofc (plainFor_of_name (by decide +kernel)) rfl (xvQ (xvI (xvI xvN))) (Nat.le_of_ble_eq_true rfl) (show Xr G _ 0 [(0, va_rf x0), (1, .int x1), (2, .int x2)] [] _ from ?_)
  unfold c_J8_indexOf_2 at hf
  refine C.aload_n dJ8_indexOf_2_0 rfl 0 rfl ?_
  obtain ⟨c1, hf⟩ := if_n hf
  obtain ⟨v1, h1, hf⟩ := ob hf
  refine X.keep fun l1 => C.Vi (As := []) (rest := []) dJ8_indexOf_2_1 (w_J8_isLatin1 h1) cJ8_492 (Classical.not_not.mp c1) rfl rfl (xcs xvN (Nat.le_of_ble_eq_true rfl)) rfl rfl (xD (Nat.le_of_ble_eq_true rfl)) xle.rf l1 ?_
  refine X.if_eq (tgt := 23) dJ8_indexOf_2_4 (by decide) (fun c4 => ?_) (fun c4 => ?_)
  · have hf := if_t c4 hf
    refine C.aload_n dJ8_indexOf_2_23 rfl 0 rfl ?_
    obtain ⟨v24, h24, hf⟩ := ob hf
    refine C.strQ (k := 0) dJ8_indexOf_2_24 q2264 (by decide) h24 ?_
    refine X.iload_n dJ8_indexOf_2_27 rfl 1 rfl ?_
    refine X.iload_n dJ8_indexOf_2_28 rfl 2 rfl ?_
    refine C.aload_n dJ8_indexOf_2_29 rfl 0 rfl ?_
    obtain ⟨c30, hf⟩ := if_n hf
    obtain ⟨v30, h30, hf⟩ := ob hf
    refine X.keep fun l30 => C.Vi (As := []) (rest := [.int x2, .int x1, va_rf v24]) dJ8_indexOf_2_30 (w_J8_length h30) cJ8_505 (Classical.not_not.mp c30) rfl rfl (xcs (xvI (xvI (xvQ xvN))) (Nat.le_of_ble_eq_true rfl)) rfl rfl (xD (Nat.le_of_ble_eq_true rfl)) xle.rf l30 ?_
    cases hf
  · have hf := if_f c4 hf
    refine C.aload_n dJ8_indexOf_2_7 rfl 0 rfl ?_
    obtain ⟨v8, h8, hf⟩ := ob hf
    refine C.strQ (k := 0) dJ8_indexOf_2_8 q2264 (by decide) h8 ?_
    refine X.iload_n dJ8_indexOf_2_11 rfl 1 rfl ?_
    refine X.iload_n dJ8_indexOf_2_12 rfl 2 rfl ?_
    refine C.aload_n dJ8_indexOf_2_13 rfl 0 rfl ?_
    obtain ⟨c14, hf⟩ := if_n hf
    obtain ⟨v14, h14, hf⟩ := ob hf
    refine X.keep fun l14 => C.Vi (As := []) (rest := [.int x2, .int x1, va_rf v8]) dJ8_indexOf_2_14 (w_J8_length h14) cJ8_505 (Classical.not_not.mp c14) rfl rfl (xcs (xvI (xvI (xvQ xvN))) (Nat.le_of_ble_eq_true rfl)) rfl rfl (xD (Nat.le_of_ble_eq_true rfl)) xle.rf l14 ?_
    obtain ⟨v17, h17, hf⟩ := ob hf
    refine X.keep fun l17 => C.Si (As := [va_rf v8, .int x1, .int x2, .int v14]) (rest := []) dJ8_indexOf_2_17 (w_J9_indexOf h17) cJ8_637 rfl rfl (xcs xvN (Nat.le_of_ble_eq_true rfl)) (xD (Nat.le_of_ble_eq_true rfl)) xle.rf l17 ?_
    refine X.goto (tgt := 36) dJ8_indexOf_2_20 (by decide) ?_
    obtain rfl := Option.some.inj hf
    exact X.iret dJ8_indexOf_2_36 rfl rfl rfl
theorem cJ8_633 : xCV RJ8 633 mJ8_indexOf_2 2 := ⟨lw_V q907 q908 q909 q134 q910, rfl, ⟨by decide +kernel, by decide +kernel, by decide +kernel⟩, Nat.le_of_ble_eq_true rfl⟩
/-! java/lang/String indexOf -/
abbrev cJ8_indexOf : ByteArray := prog_28_method_79_code
def yJ8_indexOf : MethodName := ⟨RJ8, "indexOf", "(I)I"⟩
def dkwJ8_indexOf_0 : List UInt8 := [42, 27, 3, 182, 2, 121, 172]
abbrev dktJ8_indexOf_0 : List UInt8 := dkwJ8_indexOf_0 ++ []
theorem dksJ8_indexOf_0 : cJ8_indexOf.data.toList.drop 0 = dktJ8_indexOf_0 := by decide +kernel
theorem dJ8_indexOf_0 : decode cJ8_indexOf 0 = .ok (.aload_n 0, 1) := dk_42 (dk_at dksJ8_indexOf_0 0 rfl rfl)
theorem dJ8_indexOf_1 : decode cJ8_indexOf 1 = .ok (.iload_n 1, 1) := dk_27 (dk_at dksJ8_indexOf_0 1 rfl rfl)
theorem dJ8_indexOf_2 : decode cJ8_indexOf 2 = .ok (.iconst 0, 1) := dk_3 (dk_at dksJ8_indexOf_0 2 rfl rfl)
theorem dJ8_indexOf_3 : decode cJ8_indexOf 3 = .ok (.invokevirtual 633, 3) := dk_182 2 121 (dk_at dksJ8_indexOf_0 3 rfl rfl)
theorem dJ8_indexOf_6 : decode cJ8_indexOf 6 = .ok (.ireturn, 1) := dk_172 (dk_at dksJ8_indexOf_0 6 rfl rfl)
abbrev mJ8_indexOf : xM := (yJ8_indexOf, cJ8_indexOf, 2, (some .int), [])
def c_J8_indexOf (T : xF) (x0 : Option Nat) (x1 : Int32) : Option Int32 :=
  if ¬ isO T x0 15 = true then none else
  (c_J8_indexOf_2 T x0 x1 (0 : Int32)).bind fun v3 =>
  some v3
theorem w_J8_indexOf {G : xG}  {T : xF} {x0 : Option Nat} {x1 : Int32} {q : Int32} (hf : c_J8_indexOf T x0 x1 = some q) : Ct G mJ8_indexOf (4) T [va_rf x0, .int x1] (.inl (some (.int q))) T := by
  refine Ct.ofc (plainFor_of_name (by decide +kernel)) rfl (xvQ (xvI xvN)) (Nat.le_of_ble_eq_true rfl) (show Xr G _ 0 [(0, va_rf x0), (1, .int x1)] [] _ from ?_)
  unfold c_J8_indexOf at hf
  refine C.aload_n dJ8_indexOf_0 rfl 0 rfl ?_
  refine X.iload_n dJ8_indexOf_1 rfl 1 rfl ?_
  refine X.iconst (v := 0) dJ8_indexOf_2 (by decide) ?_
  obtain ⟨c3, hf⟩ := if_n hf
  obtain ⟨v3, h3, hf⟩ := ob hf
  refine X.keep fun l3 => C.Vi (As := [.int x1, .int (0 : Int32)]) (rest := []) dJ8_indexOf_3 (w_J8_indexOf_2 h3) cJ8_633 (Classical.not_not.mp c3) rfl rfl (xcs xvN (Nat.le_of_ble_eq_true rfl)) rfl rfl (xD (Nat.le_of_ble_eq_true rfl)) xle.rf l3 ?_
  obtain rfl := Option.some.inj hf
  exact X.iret dJ8_indexOf_6 rfl rfl rfl
theorem cX5_115 : xCV RX5 115 mJ8_indexOf 1 := ⟨lw_V q903 q904 q905 q134 q906, rfl, ⟨by decide +kernel, by decide +kernel, by decide +kernel⟩, Nat.le_of_ble_eq_true rfl⟩
/-! MouldVotes$Reader next -/
abbrev cX5_next : ByteArray := prog_7_method_5_code
def yX5_next : MethodName := ⟨RX5, "next", "()V"⟩
def dkwX5_next_8 : List UInt8 := [180, 0, 75, 181, 0, 119, 177]
abbrev dktX5_next_8 : List UInt8 := dkwX5_next_8 ++ []
def dkwX5_next_7 : List UInt8 := [155, 0, 7, 6, 167, 0, 4, 7, 181, 0, 93, 42, 89, 180, 0, 75, 4, 96, 181, 0, 75, 42, 42]
abbrev dktX5_next_7 : List UInt8 := dkwX5_next_7 ++ dktX5_next_8
def dkwX5_next_6 : List UInt8 := [181, 0, 75, 167, 255, 215, 42, 5, 181, 0, 93, 167, 0, 34, 42, 18, 113, 42, 182, 0, 82, 182, 0, 115]
abbrev dktX5_next_6 : List UInt8 := dkwX5_next_6 ++ dktX5_next_7
def dkwX5_next_5 : List UInt8 := [104, 42, 182, 0, 82, 96, 16, 48, 100, 184, 0, 107, 181, 0, 103, 42, 89, 180, 0, 75, 4, 96]
abbrev dktX5_next_5 : List UInt8 := dkwX5_next_5 ++ dktX5_next_6
def dkwX5_next_4 : List UInt8 := [153, 0, 60, 42, 3, 181, 0, 103, 42, 182, 0, 100, 153, 0, 40, 42, 18, 106, 16, 10, 42, 180, 0, 103]
abbrev dktX5_next_4 : List UInt8 := dkwX5_next_4 ++ dktX5_next_5
def dkwX5_next_3 : List UInt8 := [180, 0, 75, 4, 96, 181, 0, 75, 167, 255, 239, 42, 4, 181, 0, 93, 167, 0, 98, 42, 182, 0, 100]
abbrev dktX5_next_3 : List UInt8 := dkwX5_next_3 ++ dktX5_next_4
def dkwX5_next_2 : List UInt8 := [3, 181, 0, 93, 167, 0, 133, 42, 182, 0, 96, 153, 0, 31, 42, 182, 0, 96, 153, 0, 16, 42, 89]
abbrev dktX5_next_2 : List UInt8 := dkwX5_next_2 ++ dktX5_next_3
def dkwX5_next_1 : List UInt8 := [96, 181, 0, 75, 167, 255, 228, 42, 42, 180, 0, 75, 181, 0, 90, 42, 182, 0, 82, 2, 160, 0, 11, 42]
abbrev dktX5_next_1 : List UInt8 := dkwX5_next_1 ++ dktX5_next_2
def dkwX5_next_0 : List UInt8 := [42, 182, 0, 82, 16, 32, 159, 0, 12, 42, 182, 0, 82, 16, 10, 160, 0, 16, 42, 89, 180, 0, 75, 4]
abbrev dktX5_next_0 : List UInt8 := dkwX5_next_0 ++ dktX5_next_1
theorem dksX5_next_0 : cX5_next.data.toList.drop 0 = dktX5_next_0 := by decide +kernel
theorem dksX5_next_1 : cX5_next.data.toList.drop 24 = dktX5_next_1 := dk_seg dksX5_next_0 24 rfl rfl
theorem dksX5_next_2 : cX5_next.data.toList.drop 48 = dktX5_next_2 := dk_seg dksX5_next_1 24 rfl rfl
theorem dksX5_next_3 : cX5_next.data.toList.drop 71 = dktX5_next_3 := dk_seg dksX5_next_2 23 rfl rfl
theorem dksX5_next_4 : cX5_next.data.toList.drop 94 = dktX5_next_4 := dk_seg dksX5_next_3 23 rfl rfl
theorem dksX5_next_5 : cX5_next.data.toList.drop 118 = dktX5_next_5 := dk_seg dksX5_next_4 24 rfl rfl
theorem dksX5_next_6 : cX5_next.data.toList.drop 140 = dktX5_next_6 := dk_seg dksX5_next_5 22 rfl rfl
theorem dksX5_next_7 : cX5_next.data.toList.drop 164 = dktX5_next_7 := dk_seg dksX5_next_6 24 rfl rfl
theorem dksX5_next_8 : cX5_next.data.toList.drop 187 = dktX5_next_8 := dk_seg dksX5_next_7 23 rfl rfl
theorem dX5_next_0 : decode cX5_next 0 = .ok (.aload_n 0, 1) := dk_42 (dk_at dksX5_next_0 0 rfl rfl)
theorem dX5_next_1 : decode cX5_next 1 = .ok (.invokevirtual 82, 3) := dk_182 0 82 (dk_at dksX5_next_0 1 rfl rfl)
theorem dX5_next_4 : decode cX5_next 4 = .ok (.bipush 32, 2) := dk_16 32 (dk_at dksX5_next_0 4 rfl rfl)
theorem dX5_next_6 : decode cX5_next 6 = .ok (.if_icmp .eq 12, 3) := dk_159 0 12 (dk_at dksX5_next_0 6 rfl rfl)
theorem dX5_next_9 : decode cX5_next 9 = .ok (.aload_n 0, 1) := dk_42 (dk_at dksX5_next_0 9 rfl rfl)
theorem dX5_next_10 : decode cX5_next 10 = .ok (.invokevirtual 82, 3) := dk_182 0 82 (dk_at dksX5_next_0 10 rfl rfl)
theorem dX5_next_13 : decode cX5_next 13 = .ok (.bipush 10, 2) := dk_16 10 (dk_at dksX5_next_0 13 rfl rfl)
theorem dX5_next_15 : decode cX5_next 15 = .ok (.if_icmp .ne 16, 3) := dk_160 0 16 (dk_at dksX5_next_0 15 rfl rfl)
theorem dX5_next_18 : decode cX5_next 18 = .ok (.aload_n 0, 1) := dk_42 (dk_at dksX5_next_0 18 rfl rfl)
theorem dX5_next_19 : decode cX5_next 19 = .ok (.dup, 1) := dk_89 (dk_at dksX5_next_0 19 rfl rfl)
theorem dX5_next_20 : decode cX5_next 20 = .ok (.getfield 75, 3) := dk_180 0 75 (dk_at dksX5_next_0 20 rfl rfl)
theorem dX5_next_23 : decode cX5_next 23 = .ok (.iconst 1, 1) := dk_4 (dk_at dksX5_next_0 23 rfl rfl)
theorem dX5_next_24 : decode cX5_next 24 = .ok (.iadd, 1) := dk_96 (dk_at dksX5_next_1 0 rfl rfl)
theorem dX5_next_25 : decode cX5_next 25 = .ok (.putfield 75, 3) := dk_181 0 75 (dk_at dksX5_next_1 1 rfl rfl)
theorem dX5_next_28 : decode cX5_next 28 = .ok (.goto (-28), 3) := dk_167 255 228 (dk_at dksX5_next_1 4 rfl rfl)
theorem dX5_next_31 : decode cX5_next 31 = .ok (.aload_n 0, 1) := dk_42 (dk_at dksX5_next_1 7 rfl rfl)
theorem dX5_next_32 : decode cX5_next 32 = .ok (.aload_n 0, 1) := dk_42 (dk_at dksX5_next_1 8 rfl rfl)
theorem dX5_next_33 : decode cX5_next 33 = .ok (.getfield 75, 3) := dk_180 0 75 (dk_at dksX5_next_1 9 rfl rfl)
theorem dX5_next_36 : decode cX5_next 36 = .ok (.putfield 90, 3) := dk_181 0 90 (dk_at dksX5_next_1 12 rfl rfl)
theorem dX5_next_39 : decode cX5_next 39 = .ok (.aload_n 0, 1) := dk_42 (dk_at dksX5_next_1 15 rfl rfl)
theorem dX5_next_40 : decode cX5_next 40 = .ok (.invokevirtual 82, 3) := dk_182 0 82 (dk_at dksX5_next_1 16 rfl rfl)
theorem dX5_next_43 : decode cX5_next 43 = .ok (.iconst (-1), 1) := dk_2 (dk_at dksX5_next_1 19 rfl rfl)
theorem dX5_next_44 : decode cX5_next 44 = .ok (.if_icmp .ne 11, 3) := dk_160 0 11 (dk_at dksX5_next_1 20 rfl rfl)
theorem dX5_next_47 : decode cX5_next 47 = .ok (.aload_n 0, 1) := dk_42 (dk_at dksX5_next_1 23 rfl rfl)
theorem dX5_next_48 : decode cX5_next 48 = .ok (.iconst 0, 1) := dk_3 (dk_at dksX5_next_2 0 rfl rfl)
theorem dX5_next_49 : decode cX5_next 49 = .ok (.putfield 93, 3) := dk_181 0 93 (dk_at dksX5_next_2 1 rfl rfl)
theorem dX5_next_52 : decode cX5_next 52 = .ok (.goto 133, 3) := dk_167 0 133 (dk_at dksX5_next_2 4 rfl rfl)
theorem dX5_next_55 : decode cX5_next 55 = .ok (.aload_n 0, 1) := dk_42 (dk_at dksX5_next_2 7 rfl rfl)
theorem dX5_next_56 : decode cX5_next 56 = .ok (.invokevirtual 96, 3) := dk_182 0 96 (dk_at dksX5_next_2 8 rfl rfl)
theorem dX5_next_59 : decode cX5_next 59 = .ok (.ifCond .eq 31, 3) := dk_153 0 31 (dk_at dksX5_next_2 11 rfl rfl)
theorem dX5_next_62 : decode cX5_next 62 = .ok (.aload_n 0, 1) := dk_42 (dk_at dksX5_next_2 14 rfl rfl)
theorem dX5_next_63 : decode cX5_next 63 = .ok (.invokevirtual 96, 3) := dk_182 0 96 (dk_at dksX5_next_2 15 rfl rfl)
theorem dX5_next_66 : decode cX5_next 66 = .ok (.ifCond .eq 16, 3) := dk_153 0 16 (dk_at dksX5_next_2 18 rfl rfl)
theorem dX5_next_69 : decode cX5_next 69 = .ok (.aload_n 0, 1) := dk_42 (dk_at dksX5_next_2 21 rfl rfl)
theorem dX5_next_70 : decode cX5_next 70 = .ok (.dup, 1) := dk_89 (dk_at dksX5_next_2 22 rfl rfl)
theorem dX5_next_71 : decode cX5_next 71 = .ok (.getfield 75, 3) := dk_180 0 75 (dk_at dksX5_next_3 0 rfl rfl)
theorem dX5_next_74 : decode cX5_next 74 = .ok (.iconst 1, 1) := dk_4 (dk_at dksX5_next_3 3 rfl rfl)
theorem dX5_next_75 : decode cX5_next 75 = .ok (.iadd, 1) := dk_96 (dk_at dksX5_next_3 4 rfl rfl)
theorem dX5_next_76 : decode cX5_next 76 = .ok (.putfield 75, 3) := dk_181 0 75 (dk_at dksX5_next_3 5 rfl rfl)
theorem dX5_next_79 : decode cX5_next 79 = .ok (.goto (-17), 3) := dk_167 255 239 (dk_at dksX5_next_3 8 rfl rfl)
theorem dX5_next_82 : decode cX5_next 82 = .ok (.aload_n 0, 1) := dk_42 (dk_at dksX5_next_3 11 rfl rfl)
theorem dX5_next_83 : decode cX5_next 83 = .ok (.iconst 1, 1) := dk_4 (dk_at dksX5_next_3 12 rfl rfl)
theorem dX5_next_84 : decode cX5_next 84 = .ok (.putfield 93, 3) := dk_181 0 93 (dk_at dksX5_next_3 13 rfl rfl)
theorem dX5_next_87 : decode cX5_next 87 = .ok (.goto 98, 3) := dk_167 0 98 (dk_at dksX5_next_3 16 rfl rfl)
theorem dX5_next_90 : decode cX5_next 90 = .ok (.aload_n 0, 1) := dk_42 (dk_at dksX5_next_3 19 rfl rfl)
theorem dX5_next_91 : decode cX5_next 91 = .ok (.invokevirtual 100, 3) := dk_182 0 100 (dk_at dksX5_next_3 20 rfl rfl)
theorem dX5_next_94 : decode cX5_next 94 = .ok (.ifCond .eq 60, 3) := dk_153 0 60 (dk_at dksX5_next_4 0 rfl rfl)
theorem dX5_next_97 : decode cX5_next 97 = .ok (.aload_n 0, 1) := dk_42 (dk_at dksX5_next_4 3 rfl rfl)
theorem dX5_next_98 : decode cX5_next 98 = .ok (.iconst 0, 1) := dk_3 (dk_at dksX5_next_4 4 rfl rfl)
theorem dX5_next_99 : decode cX5_next 99 = .ok (.putfield 103, 3) := dk_181 0 103 (dk_at dksX5_next_4 5 rfl rfl)
theorem dX5_next_102 : decode cX5_next 102 = .ok (.aload_n 0, 1) := dk_42 (dk_at dksX5_next_4 8 rfl rfl)
theorem dX5_next_103 : decode cX5_next 103 = .ok (.invokevirtual 100, 3) := dk_182 0 100 (dk_at dksX5_next_4 9 rfl rfl)
theorem dX5_next_106 : decode cX5_next 106 = .ok (.ifCond .eq 40, 3) := dk_153 0 40 (dk_at dksX5_next_4 12 rfl rfl)
theorem dX5_next_109 : decode cX5_next 109 = .ok (.aload_n 0, 1) := dk_42 (dk_at dksX5_next_4 15 rfl rfl)
theorem dX5_next_110 : decode cX5_next 110 = .ok (.ldc 106, 2) := dk_18 106 (dk_at dksX5_next_4 16 rfl rfl)
theorem dX5_next_112 : decode cX5_next 112 = .ok (.bipush 10, 2) := dk_16 10 (dk_at dksX5_next_4 18 rfl rfl)
theorem dX5_next_114 : decode cX5_next 114 = .ok (.aload_n 0, 1) := dk_42 (dk_at dksX5_next_4 20 rfl rfl)
theorem dX5_next_115 : decode cX5_next 115 = .ok (.getfield 103, 3) := dk_180 0 103 (dk_at dksX5_next_4 21 rfl rfl)
theorem dX5_next_118 : decode cX5_next 118 = .ok (.imul, 1) := dk_104 (dk_at dksX5_next_5 0 rfl rfl)
theorem dX5_next_119 : decode cX5_next 119 = .ok (.aload_n 0, 1) := dk_42 (dk_at dksX5_next_5 1 rfl rfl)
theorem dX5_next_120 : decode cX5_next 120 = .ok (.invokevirtual 82, 3) := dk_182 0 82 (dk_at dksX5_next_5 2 rfl rfl)
theorem dX5_next_123 : decode cX5_next 123 = .ok (.iadd, 1) := dk_96 (dk_at dksX5_next_5 5 rfl rfl)
theorem dX5_next_124 : decode cX5_next 124 = .ok (.bipush 48, 2) := dk_16 48 (dk_at dksX5_next_5 6 rfl rfl)
theorem dX5_next_126 : decode cX5_next 126 = .ok (.isub, 1) := dk_100 (dk_at dksX5_next_5 8 rfl rfl)
theorem dX5_next_127 : decode cX5_next 127 = .ok (.invokestatic 107, 3) := dk_184 0 107 (dk_at dksX5_next_5 9 rfl rfl)
theorem dX5_next_130 : decode cX5_next 130 = .ok (.putfield 103, 3) := dk_181 0 103 (dk_at dksX5_next_5 12 rfl rfl)
theorem dX5_next_133 : decode cX5_next 133 = .ok (.aload_n 0, 1) := dk_42 (dk_at dksX5_next_5 15 rfl rfl)
theorem dX5_next_134 : decode cX5_next 134 = .ok (.dup, 1) := dk_89 (dk_at dksX5_next_5 16 rfl rfl)
theorem dX5_next_135 : decode cX5_next 135 = .ok (.getfield 75, 3) := dk_180 0 75 (dk_at dksX5_next_5 17 rfl rfl)
theorem dX5_next_138 : decode cX5_next 138 = .ok (.iconst 1, 1) := dk_4 (dk_at dksX5_next_5 20 rfl rfl)
theorem dX5_next_139 : decode cX5_next 139 = .ok (.iadd, 1) := dk_96 (dk_at dksX5_next_5 21 rfl rfl)
theorem dX5_next_140 : decode cX5_next 140 = .ok (.putfield 75, 3) := dk_181 0 75 (dk_at dksX5_next_6 0 rfl rfl)
theorem dX5_next_143 : decode cX5_next 143 = .ok (.goto (-41), 3) := dk_167 255 215 (dk_at dksX5_next_6 3 rfl rfl)
theorem dX5_next_146 : decode cX5_next 146 = .ok (.aload_n 0, 1) := dk_42 (dk_at dksX5_next_6 6 rfl rfl)
theorem dX5_next_147 : decode cX5_next 147 = .ok (.iconst 2, 1) := dk_5 (dk_at dksX5_next_6 7 rfl rfl)
theorem dX5_next_148 : decode cX5_next 148 = .ok (.putfield 93, 3) := dk_181 0 93 (dk_at dksX5_next_6 8 rfl rfl)
theorem dX5_next_151 : decode cX5_next 151 = .ok (.goto 34, 3) := dk_167 0 34 (dk_at dksX5_next_6 11 rfl rfl)
theorem dX5_next_154 : decode cX5_next 154 = .ok (.aload_n 0, 1) := dk_42 (dk_at dksX5_next_6 14 rfl rfl)
theorem dX5_next_155 : decode cX5_next 155 = .ok (.ldc 113, 2) := dk_18 113 (dk_at dksX5_next_6 15 rfl rfl)
theorem dX5_next_157 : decode cX5_next 157 = .ok (.aload_n 0, 1) := dk_42 (dk_at dksX5_next_6 17 rfl rfl)
theorem dX5_next_158 : decode cX5_next 158 = .ok (.invokevirtual 82, 3) := dk_182 0 82 (dk_at dksX5_next_6 18 rfl rfl)
theorem dX5_next_161 : decode cX5_next 161 = .ok (.invokevirtual 115, 3) := dk_182 0 115 (dk_at dksX5_next_6 21 rfl rfl)
theorem dX5_next_164 : decode cX5_next 164 = .ok (.ifCond .lt 7, 3) := dk_155 0 7 (dk_at dksX5_next_7 0 rfl rfl)
theorem dX5_next_167 : decode cX5_next 167 = .ok (.iconst 3, 1) := dk_6 (dk_at dksX5_next_7 3 rfl rfl)
theorem dX5_next_168 : decode cX5_next 168 = .ok (.goto 4, 3) := dk_167 0 4 (dk_at dksX5_next_7 4 rfl rfl)
theorem dX5_next_171 : decode cX5_next 171 = .ok (.iconst 4, 1) := dk_7 (dk_at dksX5_next_7 7 rfl rfl)
theorem dX5_next_172 : decode cX5_next 172 = .ok (.putfield 93, 3) := dk_181 0 93 (dk_at dksX5_next_7 8 rfl rfl)
theorem dX5_next_175 : decode cX5_next 175 = .ok (.aload_n 0, 1) := dk_42 (dk_at dksX5_next_7 11 rfl rfl)
theorem dX5_next_176 : decode cX5_next 176 = .ok (.dup, 1) := dk_89 (dk_at dksX5_next_7 12 rfl rfl)
theorem dX5_next_177 : decode cX5_next 177 = .ok (.getfield 75, 3) := dk_180 0 75 (dk_at dksX5_next_7 13 rfl rfl)
theorem dX5_next_180 : decode cX5_next 180 = .ok (.iconst 1, 1) := dk_4 (dk_at dksX5_next_7 16 rfl rfl)
theorem dX5_next_181 : decode cX5_next 181 = .ok (.iadd, 1) := dk_96 (dk_at dksX5_next_7 17 rfl rfl)
theorem dX5_next_182 : decode cX5_next 182 = .ok (.putfield 75, 3) := dk_181 0 75 (dk_at dksX5_next_7 18 rfl rfl)
theorem dX5_next_185 : decode cX5_next 185 = .ok (.aload_n 0, 1) := dk_42 (dk_at dksX5_next_7 21 rfl rfl)
theorem dX5_next_186 : decode cX5_next 186 = .ok (.aload_n 0, 1) := dk_42 (dk_at dksX5_next_7 22 rfl rfl)
theorem dX5_next_187 : decode cX5_next 187 = .ok (.getfield 75, 3) := dk_180 0 75 (dk_at dksX5_next_8 0 rfl rfl)
theorem dX5_next_190 : decode cX5_next 190 = .ok (.putfield 119, 3) := dk_181 0 119 (dk_at dksX5_next_8 3 rfl rfl)
theorem dX5_next_193 : decode cX5_next 193 = .ok (.return_, 1) := dk_177 (dk_at dksX5_next_8 6 rfl rfl)
abbrev mX5_next : xM := (yX5_next, cX5_next, 1, none, [])
def c_X5_next_18 (G : xG) (k0 : Option Nat → xF → Option (Unit × xF)) (x0 : Option Nat) (T : xF) : Option (Unit × xF) :=
  (oI T x0 4 7).bind fun v20 =>
  (pV T x0 4 7 (.int (v20 + (1 : Int32)))).bind fun T25 =>
  k0 x0 T25
theorem c_X5_next_18_ok {G : xG}  {T0 : xF} {k0 : Option Nat → xF → Option (Unit × xF)} (hk0 : ∀ (x0 : Option Nat) (T : xF) (q : (Unit × xF)), k0 x0 T = some q → Xr G (mX5_next, xrm (5) T0 q.2, T0, .inl none, q.2) 0 [(0, va_rf x0)] [] T) (x0 : Option Nat) (T : xF) (q : (Unit × xF)) (hf : c_X5_next_18 G k0 x0 T = some q) : Xr G (mX5_next, xrm (5) T0 q.2, T0, .inl none, q.2) 18 [(0, va_rf x0)] [] T := by
  unfold c_X5_next_18 at hf
  refine C.aload_n dX5_next_18 rfl 0 rfl ?_
  refine X.dup dX5_next_19 (cat1 _) ?_
  obtain ⟨v20, h20, hf⟩ := ob hf
  refine C.getI dX5_next_20 rX5_75 h20 ?_
  refine X.iconst (v := 1) dX5_next_23 (by decide) ?_
  refine X.iadd dX5_next_24 ?_
  obtain ⟨T25, h25, hf⟩ := ob hf
  refine C.putI dX5_next_25 fX5_75 (fun q => by cases q) rfl rfl h25 ?_
  refine X.goto (tgt := 0) dX5_next_28 (by decide) ?_
  refine X.sub [0] (L' := [(0, va_rf x0)]) rfl ?_
  exact hk0 _ _ _ hf
def c_X5_next_185 (G : xG) (x0 : Option Nat) (T : xF) : Option (Unit × xF) :=
  (oI T x0 4 7).bind fun v187 =>
  (pV T x0 4 10 (.int v187)).bind fun T190 =>
  some ((), T190)
theorem c_X5_next_185_ok {G : xG}  {T0 : xF}   (x0 : Option Nat) (T : xF) (q : (Unit × xF)) (hf : c_X5_next_185 G x0 T = some q) : Xr G (mX5_next, xrm (5) T0 q.2, T0, .inl none, q.2) 185 [(0, va_rf x0)] [] T := by
  unfold c_X5_next_185 at hf
  refine C.aload_n dX5_next_185 rfl 0 rfl ?_
  refine C.aload_n dX5_next_186 rfl 0 rfl ?_
  obtain ⟨v187, h187, hf⟩ := ob hf
  refine C.getI dX5_next_187 rX5_75 h187 ?_
  obtain ⟨T190, h190, hf⟩ := ob hf
  refine C.putI dX5_next_190 fX5_119 (fun q => by cases q) rfl rfl h190 ?_
  obtain rfl := Option.some.inj hf
  exact X.vret dX5_next_193 rfl rfl
def c_X5_next_62_b (G : xG) (k62 : Option Nat → xF → Option (Unit × xF)) (x0 : Option Nat) (T : xF) : Option (Unit × xF) :=
  if ¬ isO T x0 4 = true then none else
  (c_X5_isLetter T x0).bind fun v63 =>
  if v63 = 0 then
    (pV T x0 4 8 (.int (1 : Int32))).bind fun T84 =>
    c_X5_next_185 G x0 T84
  else
    (oI T x0 4 7).bind fun v71 =>
    (pV T x0 4 7 (.int (v71 + (1 : Int32)))).bind fun T76 =>
    k62 x0 T76
def c_X5_next_62 (G : xG) : Nat → Option Nat → xF → Option (Unit × xF)
  | 0 => fun _ _ => none
  | n + 1 => fun x0 T => c_X5_next_62_b G (c_X5_next_62 G n) x0 T
theorem c_X5_next_62_bok {G : xG}  {T0 : xF}  {k62 : Option Nat → xF → Option (Unit × xF)}  (hk62 : ∀ (x0 : Option Nat) (T : xF) (q : (Unit × xF)), k62 x0 T = some q → Xr G (mX5_next, xrm (5) T0 q.2, T0, .inl none, q.2) 62 [(0, va_rf x0)] [] T) (x0 : Option Nat) (T : xF) (q : (Unit × xF)) (hf : c_X5_next_62_b G k62 x0 T = some q) : Xr G (mX5_next, xrm (5) T0 q.2, T0, .inl none, q.2) 62 [(0, va_rf x0)] [] T := by
  unfold c_X5_next_62_b at hf
  refine C.aload_n dX5_next_62 rfl 0 rfl ?_
  obtain ⟨c63, hf⟩ := if_n hf
  obtain ⟨v63, h63, hf⟩ := ob hf
  refine X.keep fun l63 => C.Vi (As := []) (rest := []) dX5_next_63 (w_X5_isLetter h63) cX5_96 (Classical.not_not.mp c63) rfl rfl (xcs xvN (Nat.le_of_ble_eq_true rfl)) rfl rfl (xD (Nat.le_of_ble_eq_true rfl)) xle.rf l63 ?_
  refine X.if_eq (tgt := 82) dX5_next_66 (by decide) (fun c66 => ?_) (fun c66 => ?_)
  · have hf := if_t c66 hf
    refine C.aload_n dX5_next_82 rfl 0 rfl ?_
    refine X.iconst (v := 1) dX5_next_83 (by decide) ?_
    obtain ⟨T84, h84, hf⟩ := ob hf
    refine C.putI dX5_next_84 fX5_93 (fun q => by cases q) rfl rfl h84 ?_
    refine X.goto (tgt := 185) dX5_next_87 (by decide) ?_
    refine X.sub [0] (L' := [(0, va_rf x0)]) rfl ?_
    exact c_X5_next_185_ok _ _ _ hf
  · have hf := if_f c66 hf
    refine C.aload_n dX5_next_69 rfl 0 rfl ?_
    refine X.dup dX5_next_70 (cat1 _) ?_
    obtain ⟨v71, h71, hf⟩ := ob hf
    refine C.getI dX5_next_71 rX5_75 h71 ?_
    refine X.iconst (v := 1) dX5_next_74 (by decide) ?_
    refine X.iadd dX5_next_75 ?_
    obtain ⟨T76, h76, hf⟩ := ob hf
    refine C.putI dX5_next_76 fX5_75 (fun q => by cases q) rfl rfl h76 ?_
    refine X.goto (tgt := 62) dX5_next_79 (by decide) ?_
    refine X.sub [0] (L' := [(0, va_rf x0)]) rfl ?_
    exact hk62 _ _ _ hf
theorem c_X5_next_62_ok {G : xG}  {T0 : xF}   : ∀ (n : Nat) (x0 : Option Nat) (T : xF) (q : (Unit × xF)), c_X5_next_62 G n x0 T = some q → Xr G (mX5_next, xrm (5) T0 q.2, T0, .inl none, q.2) 62 [(0, va_rf x0)] [] T
  | 0, _, _, _, hf => by cases hf
  | n + 1, x0, T, q, hf => c_X5_next_62_bok (c_X5_next_62_ok n) x0 T q hf
def c_X5_next_102_b (G : xG) (k102 : Option Nat → xF → Option (Unit × xF)) (x0 : Option Nat) (T : xF) : Option (Unit × xF) :=
  if ¬ isO T x0 4 = true then none else
  (c_X5_isDigit T x0).bind fun v103 =>
  if v103 = 0 then
    (pV T x0 4 8 (.int (2 : Int32))).bind fun T148 =>
    c_X5_next_185 G x0 T148
  else
    (oI T x0 4 11).bind fun v115 =>
    if ¬ isO T x0 4 = true then none else
    (c_X5_here T x0).bind fun v120 =>
    (c_J7_min (100000 : Int32) ((((10 : Int32) * v115) + v120) - (48 : Int32))).bind fun v127 =>
    (pV T x0 4 11 (.int v127)).bind fun T130 =>
    (oI T130 x0 4 7).bind fun v135 =>
    (pV T130 x0 4 7 (.int (v135 + (1 : Int32)))).bind fun T140 =>
    k102 x0 T140
def c_X5_next_102 (G : xG) : Nat → Option Nat → xF → Option (Unit × xF)
  | 0 => fun _ _ => none
  | n + 1 => fun x0 T => c_X5_next_102_b G (c_X5_next_102 G n) x0 T
theorem c_X5_next_102_bok {G : xG}  {T0 : xF}  {k102 : Option Nat → xF → Option (Unit × xF)}  (hk102 : ∀ (x0 : Option Nat) (T : xF) (q : (Unit × xF)), k102 x0 T = some q → Xr G (mX5_next, xrm (5) T0 q.2, T0, .inl none, q.2) 102 [(0, va_rf x0)] [] T) (x0 : Option Nat) (T : xF) (q : (Unit × xF)) (hf : c_X5_next_102_b G k102 x0 T = some q) : Xr G (mX5_next, xrm (5) T0 q.2, T0, .inl none, q.2) 102 [(0, va_rf x0)] [] T := by
  unfold c_X5_next_102_b at hf
  refine C.aload_n dX5_next_102 rfl 0 rfl ?_
  obtain ⟨c103, hf⟩ := if_n hf
  obtain ⟨v103, h103, hf⟩ := ob hf
  refine X.keep fun l103 => C.Vi (As := []) (rest := []) dX5_next_103 (w_X5_isDigit h103) cX5_100 (Classical.not_not.mp c103) rfl rfl (xcs xvN (Nat.le_of_ble_eq_true rfl)) rfl rfl (xD (Nat.le_of_ble_eq_true rfl)) xle.rf l103 ?_
  refine X.if_eq (tgt := 146) dX5_next_106 (by decide) (fun c106 => ?_) (fun c106 => ?_)
  · have hf := if_t c106 hf
    refine C.aload_n dX5_next_146 rfl 0 rfl ?_
    refine X.iconst (v := 2) dX5_next_147 (by decide) ?_
    obtain ⟨T148, h148, hf⟩ := ob hf
    refine C.putI dX5_next_148 fX5_93 (fun q => by cases q) rfl rfl h148 ?_
    refine X.goto (tgt := 185) dX5_next_151 (by decide) ?_
    refine X.sub [0] (L' := [(0, va_rf x0)]) rfl ?_
    exact c_X5_next_185_ok _ _ _ hf
  · have hf := if_f c106 hf
    refine C.aload_n dX5_next_109 rfl 0 rfl ?_
    refine X.ldcI (v := 100000) dX5_next_110 q900 ?_
    refine X.bipush (v := 10) dX5_next_112 (by decide) ?_
    refine C.aload_n dX5_next_114 rfl 0 rfl ?_
    obtain ⟨v115, h115, hf⟩ := ob hf
    refine C.getI dX5_next_115 rX5_103 h115 ?_
    refine X.imul dX5_next_118 ?_
    refine C.aload_n dX5_next_119 rfl 0 rfl ?_
    obtain ⟨c120, hf⟩ := if_n hf
    obtain ⟨v120, h120, hf⟩ := ob hf
    refine X.keep fun l120 => C.Vi (As := []) (rest := [.int ((10 : Int32) * v115), .int (100000 : Int32), va_rf x0]) dX5_next_120 (w_X5_here h120) cX5_82 (Classical.not_not.mp c120) rfl rfl (xcs (xvI (xvI (xvQ xvN))) (Nat.le_of_ble_eq_true rfl)) rfl rfl (xD (Nat.le_of_ble_eq_true rfl)) xle.rf l120 ?_
    refine X.iadd dX5_next_123 ?_
    refine X.bipush (v := 48) dX5_next_124 (by decide) ?_
    refine X.isub dX5_next_126 ?_
    obtain ⟨v127, h127, hf⟩ := ob hf
    refine X.keep fun l127 => C.Si (As := [.int (100000 : Int32), .int ((((10 : Int32) * v115) + v120) - (48 : Int32))]) (rest := [va_rf x0]) dX5_next_127 (w_J7_min h127) cX5_107 rfl rfl (xcs (xvQ xvN) (Nat.le_of_ble_eq_true rfl)) (xD (Nat.le_of_ble_eq_true rfl)) xle.rf l127 ?_
    obtain ⟨T130, h130, hf⟩ := ob hf
    refine C.putI dX5_next_130 fX5_103 (fun q => by cases q) rfl rfl h130 ?_
    refine C.aload_n dX5_next_133 rfl 0 rfl ?_
    refine X.dup dX5_next_134 (cat1 _) ?_
    obtain ⟨v135, h135, hf⟩ := ob hf
    refine C.getI dX5_next_135 rX5_75 h135 ?_
    refine X.iconst (v := 1) dX5_next_138 (by decide) ?_
    refine X.iadd dX5_next_139 ?_
    obtain ⟨T140, h140, hf⟩ := ob hf
    refine C.putI dX5_next_140 fX5_75 (fun q => by cases q) rfl rfl h140 ?_
    refine X.goto (tgt := 102) dX5_next_143 (by decide) ?_
    refine X.sub [0] (L' := [(0, va_rf x0)]) rfl ?_
    exact hk102 _ _ _ hf
theorem c_X5_next_102_ok {G : xG}  {T0 : xF}   : ∀ (n : Nat) (x0 : Option Nat) (T : xF) (q : (Unit × xF)), c_X5_next_102 G n x0 T = some q → Xr G (mX5_next, xrm (5) T0 q.2, T0, .inl none, q.2) 102 [(0, va_rf x0)] [] T
  | 0, _, _, _, hf => by cases hf
  | n + 1, x0, T, q, hf => c_X5_next_102_bok (c_X5_next_102_ok n) x0 T q hf
def c_X5_next_172 (G : xG) (x0 : Option Nat) (y0 : Int32) (y1 : Option Nat) (T : xF) : Option (Unit × xF) :=
  (pV T y1 4 8 (.int y0)).bind fun T172 =>
  (oI T172 x0 4 7).bind fun v177 =>
  (pV T172 x0 4 7 (.int (v177 + (1 : Int32)))).bind fun T182 =>
  c_X5_next_185 G x0 T182
theorem c_X5_next_172_ok {G : xG}  {T0 : xF}   (x0 : Option Nat) (y0 : Int32) (y1 : Option Nat) (T : xF) (q : (Unit × xF)) (hf : c_X5_next_172 G x0 y0 y1 T = some q) : Xr G (mX5_next, xrm (5) T0 q.2, T0, .inl none, q.2) 172 [(0, va_rf x0)] [.int y0, va_rf y1] T := by
  unfold c_X5_next_172 at hf
  obtain ⟨T172, h172, hf⟩ := ob hf
  refine C.putI dX5_next_172 fX5_93 (fun q => by cases q) rfl rfl h172 ?_
  refine C.aload_n dX5_next_175 rfl 0 rfl ?_
  refine X.dup dX5_next_176 (cat1 _) ?_
  obtain ⟨v177, h177, hf⟩ := ob hf
  refine C.getI dX5_next_177 rX5_75 h177 ?_
  refine X.iconst (v := 1) dX5_next_180 (by decide) ?_
  refine X.iadd dX5_next_181 ?_
  obtain ⟨T182, h182, hf⟩ := ob hf
  refine C.putI dX5_next_182 fX5_75 (fun q => by cases q) rfl rfl h182 ?_
  refine X.sub [0] (L' := [(0, va_rf x0)]) rfl ?_
  exact c_X5_next_185_ok _ _ _ hf
def c_X5_next_0_b (G : xG) (k0 : Option Nat → xF → Option (Unit × xF)) (x0 : Option Nat) (T : xF) : Option (Unit × xF) :=
  if ¬ isO T x0 4 = true then none else
  (c_X5_here T x0).bind fun v1 =>
  if v1 = (32 : Int32) then
    c_X5_next_18 G k0 x0 T
  else
    if ¬ isO T x0 4 = true then none else
    (c_X5_here T x0).bind fun v10 =>
    if v10 = (10 : Int32) then
      c_X5_next_18 G k0 x0 T
    else
      (oI T x0 4 7).bind fun v33 =>
      (pV T x0 4 9 (.int v33)).bind fun T36 =>
      if ¬ isO T36 x0 4 = true then none else
      (c_X5_here T36 x0).bind fun v40 =>
      if v40 = (-1 : Int32) then
        (pV T36 x0 4 8 (.int (0 : Int32))).bind fun T49 =>
        c_X5_next_185 G x0 T49
      else
        if ¬ isO T36 x0 4 = true then none else
        (c_X5_isLetter T36 x0).bind fun v56 =>
        if v56 = 0 then
          if ¬ isO T36 x0 4 = true then none else
          (c_X5_isDigit T36 x0).bind fun v91 =>
          if v91 = 0 then
            if ¬ isO T36 x0 4 = true then none else
            (c_X5_here T36 x0).bind fun v158 =>
            if ¬ isO T36 (some (gT G 13)) 15 = true then none else
            (c_J8_indexOf T36 (some (gT G 13)) v158).bind fun v161 =>
            if v161 < 0 then
              c_X5_next_172 G x0 (4 : Int32) x0 T36
            else
              c_X5_next_172 G x0 (3 : Int32) x0 T36
          else
            (pV T36 x0 4 11 (.int (0 : Int32))).bind fun T99 =>
            c_X5_next_102 G FU x0 T99
        else
          c_X5_next_62 G FU x0 T36
def c_X5_next_0 (G : xG) : Nat → Option Nat → xF → Option (Unit × xF)
  | 0 => fun _ _ => none
  | n + 1 => fun x0 T => c_X5_next_0_b G (c_X5_next_0 G n) x0 T
theorem c_X5_next_0_bok {G : xG}  {T0 : xF}  {k0 : Option Nat → xF → Option (Unit × xF)}  (hk0 : ∀ (x0 : Option Nat) (T : xF) (q : (Unit × xF)), k0 x0 T = some q → Xr G (mX5_next, xrm (5) T0 q.2, T0, .inl none, q.2) 0 [(0, va_rf x0)] [] T) (x0 : Option Nat) (T : xF) (q : (Unit × xF)) (hf : c_X5_next_0_b G k0 x0 T = some q) : Xr G (mX5_next, xrm (5) T0 q.2, T0, .inl none, q.2) 0 [(0, va_rf x0)] [] T := by
  unfold c_X5_next_0_b at hf
  refine C.aload_n dX5_next_0 rfl 0 rfl ?_
  obtain ⟨c1, hf⟩ := if_n hf
  obtain ⟨v1, h1, hf⟩ := ob hf
  refine X.keep fun l1 => C.Vi (As := []) (rest := []) dX5_next_1 (w_X5_here h1) cX5_82 (Classical.not_not.mp c1) rfl rfl (xcs xvN (Nat.le_of_ble_eq_true rfl)) rfl rfl (xD (Nat.le_of_ble_eq_true rfl)) xle.rf l1 ?_
  refine X.bipush (v := 32) dX5_next_4 (by decide) ?_
  refine X.icmp_eq (tgt := 18) dX5_next_6 (by decide) (fun c6 => ?_) (fun c6 => ?_)
  · have hf := if_t c6 hf
    refine X.sub [0] (L' := [(0, va_rf x0)]) rfl ?_
    exact c_X5_next_18_ok hk0 _ _ _ hf
  · have hf := if_f c6 hf
    refine C.aload_n dX5_next_9 rfl 0 rfl ?_
    obtain ⟨c10, hf⟩ := if_n hf
    obtain ⟨v10, h10, hf⟩ := ob hf
    refine X.keep fun l10 => C.Vi (As := []) (rest := []) dX5_next_10 (w_X5_here h10) cX5_82 (Classical.not_not.mp c10) rfl rfl (xcs xvN (Nat.le_of_ble_eq_true rfl)) rfl rfl (xD (Nat.le_of_ble_eq_true rfl)) xle.rf l10 ?_
    refine X.bipush (v := 10) dX5_next_13 (by decide) ?_
    refine X.icmp_ne (tgt := 31) dX5_next_15 (by decide) (fun c15 => ?_) (fun c15 => ?_)
    · have hf := if_f c15 hf
      refine C.aload_n dX5_next_31 rfl 0 rfl ?_
      refine C.aload_n dX5_next_32 rfl 0 rfl ?_
      obtain ⟨v33, h33, hf⟩ := ob hf
      refine C.getI dX5_next_33 rX5_75 h33 ?_
      obtain ⟨T36, h36, hf⟩ := ob hf
      refine C.putI dX5_next_36 fX5_90 (fun q => by cases q) rfl rfl h36 ?_
      refine C.aload_n dX5_next_39 rfl 0 rfl ?_
      obtain ⟨c40, hf⟩ := if_n hf
      obtain ⟨v40, h40, hf⟩ := ob hf
      refine X.keep fun l40 => C.Vi (As := []) (rest := []) dX5_next_40 (w_X5_here h40) cX5_82 (Classical.not_not.mp c40) rfl rfl (xcs xvN (Nat.le_of_ble_eq_true rfl)) rfl rfl (xD (Nat.le_of_ble_eq_true rfl)) xle.rf l40 ?_
      refine X.iconst (v := -1) dX5_next_43 (by decide) ?_
      refine X.icmp_ne (tgt := 55) dX5_next_44 (by decide) (fun c44 => ?_) (fun c44 => ?_)
      · have hf := if_f c44 hf
        refine C.aload_n dX5_next_55 rfl 0 rfl ?_
        obtain ⟨c56, hf⟩ := if_n hf
        obtain ⟨v56, h56, hf⟩ := ob hf
        refine X.keep fun l56 => C.Vi (As := []) (rest := []) dX5_next_56 (w_X5_isLetter h56) cX5_96 (Classical.not_not.mp c56) rfl rfl (xcs xvN (Nat.le_of_ble_eq_true rfl)) rfl rfl (xD (Nat.le_of_ble_eq_true rfl)) xle.rf l56 ?_
        refine X.if_eq (tgt := 90) dX5_next_59 (by decide) (fun c59 => ?_) (fun c59 => ?_)
        · have hf := if_t c59 hf
          refine C.aload_n dX5_next_90 rfl 0 rfl ?_
          obtain ⟨c91, hf⟩ := if_n hf
          obtain ⟨v91, h91, hf⟩ := ob hf
          refine X.keep fun l91 => C.Vi (As := []) (rest := []) dX5_next_91 (w_X5_isDigit h91) cX5_100 (Classical.not_not.mp c91) rfl rfl (xcs xvN (Nat.le_of_ble_eq_true rfl)) rfl rfl (xD (Nat.le_of_ble_eq_true rfl)) xle.rf l91 ?_
          refine X.if_eq (tgt := 154) dX5_next_94 (by decide) (fun c94 => ?_) (fun c94 => ?_)
          · have hf := if_t c94 hf
            refine C.aload_n dX5_next_154 rfl 0 rfl ?_
            refine C.ldcS dX5_next_155 (i := 13) rfl rfl ?_
            refine C.aload_n dX5_next_157 rfl 0 rfl ?_
            obtain ⟨c158, hf⟩ := if_n hf
            obtain ⟨v158, h158, hf⟩ := ob hf
            refine X.keep fun l158 => C.Vi (As := []) (rest := [va_rf (some (gT G 13)), va_rf x0]) dX5_next_158 (w_X5_here h158) cX5_82 (Classical.not_not.mp c158) rfl rfl (xcs (xvQ (xvQ xvN)) (Nat.le_of_ble_eq_true rfl)) rfl rfl (xD (Nat.le_of_ble_eq_true rfl)) xle.rf l158 ?_
            obtain ⟨c161, hf⟩ := if_n hf
            obtain ⟨v161, h161, hf⟩ := ob hf
            refine X.keep fun l161 => C.Vi (As := [.int v158]) (rest := [va_rf x0]) dX5_next_161 (w_J8_indexOf h161) cX5_115 (Classical.not_not.mp c161) rfl rfl (xcs (xvQ xvN) (Nat.le_of_ble_eq_true rfl)) rfl rfl (xD (Nat.le_of_ble_eq_true rfl)) xle.rf l161 ?_
            refine X.if_lt (tgt := 171) dX5_next_164 (by decide) (fun c164 => ?_) (fun c164 => ?_)
            · have hf := if_t c164 hf
              refine X.iconst (v := 4) dX5_next_171 (by decide) ?_
              refine X.sub [0] (L' := [(0, va_rf x0)]) rfl ?_
              exact c_X5_next_172_ok _ _ _ _ _ hf
            · have hf := if_f c164 hf
              refine X.iconst (v := 3) dX5_next_167 (by decide) ?_
              refine X.goto (tgt := 172) dX5_next_168 (by decide) ?_
              refine X.sub [0] (L' := [(0, va_rf x0)]) rfl ?_
              exact c_X5_next_172_ok _ _ _ _ _ hf
          · have hf := if_f c94 hf
            refine C.aload_n dX5_next_97 rfl 0 rfl ?_
            refine X.iconst (v := 0) dX5_next_98 (by decide) ?_
            obtain ⟨T99, h99, hf⟩ := ob hf
            refine C.putI dX5_next_99 fX5_103 (fun q => by cases q) rfl rfl h99 ?_
            refine X.sub [0] (L' := [(0, va_rf x0)]) rfl ?_
            exact c_X5_next_102_ok FU _ _ _ hf
        · have hf := if_f c59 hf
          refine X.sub [0] (L' := [(0, va_rf x0)]) rfl ?_
          exact c_X5_next_62_ok FU _ _ _ hf
      · have hf := if_t c44 hf
        refine C.aload_n dX5_next_47 rfl 0 rfl ?_
        refine X.iconst (v := 0) dX5_next_48 (by decide) ?_
        obtain ⟨T49, h49, hf⟩ := ob hf
        refine C.putI dX5_next_49 fX5_93 (fun q => by cases q) rfl rfl h49 ?_
        refine X.goto (tgt := 185) dX5_next_52 (by decide) ?_
        refine X.sub [0] (L' := [(0, va_rf x0)]) rfl ?_
        exact c_X5_next_185_ok _ _ _ hf
    · have hf := if_t c15 hf
      refine X.sub [0] (L' := [(0, va_rf x0)]) rfl ?_
      exact c_X5_next_18_ok hk0 _ _ _ hf
theorem c_X5_next_0_ok {G : xG}  {T0 : xF}   : ∀ (n : Nat) (x0 : Option Nat) (T : xF) (q : (Unit × xF)), c_X5_next_0 G n x0 T = some q → Xr G (mX5_next, xrm (5) T0 q.2, T0, .inl none, q.2) 0 [(0, va_rf x0)] [] T
  | 0, _, _, _, hf => by cases hf
  | n + 1, x0, T, q, hf => c_X5_next_0_bok (c_X5_next_0_ok n) x0 T q hf
def c_X5_next (G : xG) (x0 : Option Nat) (T : xF) : Option (Unit × xF) :=
  c_X5_next_0 G FU x0 T
theorem w_X5_next {G : xG}  {T : xF} {x0 : Option Nat} {q : (Unit × xF)} (hf : c_X5_next G x0 T = some q) : Ct G mX5_next (5) T [va_rf x0] (.inl none) q.2 := by
  refine Ct.ofc (plainFor_of_name (by decide +kernel)) rfl (xvQ xvN) (Nat.le_of_ble_eq_true rfl) (show Xr G _ 0 [(0, va_rf x0)] [] _ from ?_)
  unfold c_X5_next at hf
  refine X.sub [0] (L' := [(0, va_rf x0)]) rfl ?_
  exact c_X5_next_0_ok FU _ _ _ hf
theorem cX5_133 : xCV RX5 133 mX5_next 0 := ⟨lw_V q883 q885 qs15 q132 q886, rfl, ⟨by decide +kernel, by decide +kernel, by decide +kernel⟩, Nat.le_of_ble_eq_true rfl⟩
