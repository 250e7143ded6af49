set_option maxRecDepth 100000
/-! MouldVotes sown -/
abbrev cX1_sown : ByteArray := prog_1_method_46_code
def yX1_sown : MethodName := ⟨RX1, "sown", "(I)I"⟩
def dkwX1_sown_3 : List UInt8 := [185, 0, 167, 2, 0, 192, 0, 171, 182, 0, 173, 172]
abbrev dktX1_sown_3 : List UInt8 := dkwX1_sown_3 ++ []
def dkwX1_sown_2 : List UInt8 := [185, 0, 104, 1, 0, 167, 0, 29, 44, 185, 0, 209, 1, 0, 153, 0, 7, 2, 167, 0, 16, 44, 3]
abbrev dktX1_sown_2 : List UInt8 := dkwX1_sown_2 ++ dktX1_sown_3
def dkwX1_sown_1 : List UInt8 := [182, 1, 7, 153, 0, 7, 4, 167, 0, 4, 3, 172, 42, 182, 1, 10, 77, 27, 154, 0, 12, 44]
abbrev dktX1_sown_1 : List UInt8 := dkwX1_sown_1 ++ dktX1_sown_2
def dkwX1_sown_0 : List UInt8 := [27, 5, 184, 0, 163, 27, 5, 160, 0, 28, 42, 180, 0, 35, 42, 180, 0, 38, 182, 0, 213, 87, 42]
abbrev dktX1_sown_0 : List UInt8 := dkwX1_sown_0 ++ dktX1_sown_1
theorem dksX1_sown_0 : cX1_sown.data.toList.drop 0 = dktX1_sown_0 := by decide +kernel
theorem dksX1_sown_1 : cX1_sown.data.toList.drop 23 = dktX1_sown_1 := dk_seg dksX1_sown_0 23 rfl rfl
theorem dksX1_sown_2 : cX1_sown.data.toList.drop 45 = dktX1_sown_2 := dk_seg dksX1_sown_1 22 rfl rfl
theorem dksX1_sown_3 : cX1_sown.data.toList.drop 68 = dktX1_sown_3 := dk_seg dksX1_sown_2 23 rfl rfl
theorem dX1_sown_0 : decode cX1_sown 0 = .ok (.iload_n 1, 1) := dk_27 (dk_at dksX1_sown_0 0 rfl rfl)
theorem dX1_sown_1 : decode cX1_sown 1 = .ok (.iconst 2, 1) := dk_5 (dk_at dksX1_sown_0 1 rfl rfl)
theorem dX1_sown_2 : decode cX1_sown 2 = .ok (.invokestatic 163, 3) := dk_184 0 163 (dk_at dksX1_sown_0 2 rfl rfl)
theorem dX1_sown_5 : decode cX1_sown 5 = .ok (.iload_n 1, 1) := dk_27 (dk_at dksX1_sown_0 5 rfl rfl)
theorem dX1_sown_6 : decode cX1_sown 6 = .ok (.iconst 2, 1) := dk_5 (dk_at dksX1_sown_0 6 rfl rfl)
theorem dX1_sown_7 : decode cX1_sown 7 = .ok (.if_icmp .ne 28, 3) := dk_160 0 28 (dk_at dksX1_sown_0 7 rfl rfl)
theorem dX1_sown_10 : decode cX1_sown 10 = .ok (.aload_n 0, 1) := dk_42 (dk_at dksX1_sown_0 10 rfl rfl)
theorem dX1_sown_11 : decode cX1_sown 11 = .ok (.getfield 35, 3) := dk_180 0 35 (dk_at dksX1_sown_0 11 rfl rfl)
theorem dX1_sown_14 : decode cX1_sown 14 = .ok (.aload_n 0, 1) := dk_42 (dk_at dksX1_sown_0 14 rfl rfl)
theorem dX1_sown_15 : decode cX1_sown 15 = .ok (.getfield 38, 3) := dk_180 0 38 (dk_at dksX1_sown_0 15 rfl rfl)
theorem dX1_sown_18 : decode cX1_sown 18 = .ok (.invokevirtual 213, 3) := dk_182 0 213 (dk_at dksX1_sown_0 18 rfl rfl)
theorem dX1_sown_21 : decode cX1_sown 21 = .ok (.pop, 1) := dk_87 (dk_at dksX1_sown_0 21 rfl rfl)
theorem dX1_sown_22 : decode cX1_sown 22 = .ok (.aload_n 0, 1) := dk_42 (dk_at dksX1_sown_0 22 rfl rfl)
theorem dX1_sown_23 : decode cX1_sown 23 = .ok (.invokevirtual 263, 3) := dk_182 1 7 (dk_at dksX1_sown_1 0 rfl rfl)
theorem dX1_sown_26 : decode cX1_sown 26 = .ok (.ifCond .eq 7, 3) := dk_153 0 7 (dk_at dksX1_sown_1 3 rfl rfl)
theorem dX1_sown_29 : decode cX1_sown 29 = .ok (.iconst 1, 1) := dk_4 (dk_at dksX1_sown_1 6 rfl rfl)
theorem dX1_sown_30 : decode cX1_sown 30 = .ok (.goto 4, 3) := dk_167 0 4 (dk_at dksX1_sown_1 7 rfl rfl)
theorem dX1_sown_33 : decode cX1_sown 33 = .ok (.iconst 0, 1) := dk_3 (dk_at dksX1_sown_1 10 rfl rfl)
theorem dX1_sown_34 : decode cX1_sown 34 = .ok (.ireturn, 1) := dk_172 (dk_at dksX1_sown_1 11 rfl rfl)
theorem dX1_sown_35 : decode cX1_sown 35 = .ok (.aload_n 0, 1) := dk_42 (dk_at dksX1_sown_1 12 rfl rfl)
theorem dX1_sown_36 : decode cX1_sown 36 = .ok (.invokevirtual 266, 3) := dk_182 1 10 (dk_at dksX1_sown_1 13 rfl rfl)
theorem dX1_sown_39 : decode cX1_sown 39 = .ok (.astore_n 2, 1) := dk_77 (dk_at dksX1_sown_1 16 rfl rfl)
theorem dX1_sown_40 : decode cX1_sown 40 = .ok (.iload_n 1, 1) := dk_27 (dk_at dksX1_sown_1 17 rfl rfl)
theorem dX1_sown_41 : decode cX1_sown 41 = .ok (.ifCond .ne 12, 3) := dk_154 0 12 (dk_at dksX1_sown_1 18 rfl rfl)
theorem dX1_sown_44 : decode cX1_sown 44 = .ok (.aload_n 2, 1) := dk_44 (dk_at dksX1_sown_1 21 rfl rfl)
theorem dX1_sown_45 : decode cX1_sown 45 = .ok (.invokeinterface 104 1, 5) := by decide +kernel
theorem dX1_sown_50 : decode cX1_sown 50 = .ok (.goto 29, 3) := dk_167 0 29 (dk_at dksX1_sown_2 5 rfl rfl)
theorem dX1_sown_53 : decode cX1_sown 53 = .ok (.aload_n 2, 1) := dk_44 (dk_at dksX1_sown_2 8 rfl rfl)
theorem dX1_sown_54 : decode cX1_sown 54 = .ok (.invokeinterface 209 1, 5) := by decide +kernel
theorem dX1_sown_59 : decode cX1_sown 59 = .ok (.ifCond .eq 7, 3) := dk_153 0 7 (dk_at dksX1_sown_2 14 rfl rfl)
theorem dX1_sown_62 : decode cX1_sown 62 = .ok (.iconst (-1), 1) := dk_2 (dk_at dksX1_sown_2 17 rfl rfl)
theorem dX1_sown_63 : decode cX1_sown 63 = .ok (.goto 16, 3) := dk_167 0 16 (dk_at dksX1_sown_2 18 rfl rfl)
theorem dX1_sown_66 : decode cX1_sown 66 = .ok (.aload_n 2, 1) := dk_44 (dk_at dksX1_sown_2 21 rfl rfl)
theorem dX1_sown_67 : decode cX1_sown 67 = .ok (.iconst 0, 1) := dk_3 (dk_at dksX1_sown_2 22 rfl rfl)
theorem dX1_sown_68 : decode cX1_sown 68 = .ok (.invokeinterface 167 2, 5) := by decide +kernel
theorem dX1_sown_73 : decode cX1_sown 73 = .ok (.checkcast 171, 3) := dk_192 0 171 (dk_at dksX1_sown_3 5 rfl rfl)
theorem dX1_sown_76 : decode cX1_sown 76 = .ok (.invokevirtual 173, 3) := dk_182 0 173 (dk_at dksX1_sown_3 8 rfl rfl)
theorem dX1_sown_79 : decode cX1_sown 79 = .ok (.ireturn, 1) := dk_172 (dk_at dksX1_sown_3 11 rfl rfl)
abbrev mX1_sown : xM := (yX1_sown, cX1_sown, 3, (some .int), [])
def c_X1_sown (G : xG) (x0 : Option Nat) (x1 : Int32) (T : xF) : Option ((Int32 ⊕ xE) × xF) :=
  clX (c_X1_oneOf x1 (2 : Int32) T) T fun v2 T2 =>
  if x1 = (2 : Int32) then
    (oQ T2 x0 0 3).bind fun v11 =>
    (oQ T2 x0 0 4).bind fun v15 =>
    if ¬ isO T2 v11 2 = true then none else
    cl (c_X3_be v11 v15 T2) T2 fun v18 T18 =>
    if ¬ isO T18 x0 0 = true then none else
    cl (c_X1_isSo G x0 T18) T18 fun v23 T23 =>
    if v23 = 0 then
      some (.inl (0 : Int32), T23)
    else
      some (.inl (1 : Int32), T23)
  else
    if ¬ isO T2 x0 0 = true then none else
    cl (c_X1_sowings G x0 T2) T2 fun v36 T36 =>
    if x1 = 0 then
      if ¬ isO T36 v36 10 = true then none else
      (c_J2_size T36 v36).bind fun v45 =>
      some (.inl v45, T36)
    else
      if ¬ isO T36 v36 10 = true then none else
      (c_J2_isEmpty T36 v36).bind fun v54 =>
      if v54 = 0 then
        if ¬ isO T36 v36 10 = true then none else
        (c_J2_get T36 v36 (0 : Int32)).bind fun v68 =>
        if ¬ cst T36 v68 [11] = true then none else
        if ¬ isO T36 v68 11 = true then none else
        (c_J14_intValue T36 v68).bind fun v76 =>
        some (.inl v76, T36)
      else
        some (.inl (-1 : Int32), T36)
theorem w_X1_sown {G : xG}  {T : xF} {x0 : Option Nat} {x1 : Int32} {q : ((Int32 ⊕ xE) × xF)} (hf : c_X1_sown G x0 x1 T = some q) : Ct G mX1_sown (127) T [va_rf x0, .int x1] (xoI q.1) q.2 := by
  refine Ct.ofc (plainFor_of_name (by decide +kernel)) rfl (xvQ (xvI xvN)) (Nat.le_of_ble_eq_true rfl) (show Xr G _ 0 [(0, va_rf x0), (1, .int x1)] [] _ from ?_)
  unfold c_X1_sown at hf
  refine X.iload_n dX1_sown_0 rfl 1 rfl ?_
  refine X.iconst (v := 2) dX1_sown_1 (by decide) ?_
  rcases clX_ok hf with ⟨v2, T2, h2, hf, l2, r2⟩ | ⟨e2, T2, h2, rfl, l2⟩
  rotate_left
  · exact C.Sx (As := [.int x1, .int (2 : Int32)]) (rest := []) dX1_sown_2 (w_X1_oneOf h2) cX1_163 rfl rfl (xcs xvN (Nat.le_of_ble_eq_true rfl)) (xD (Nat.le_of_ble_eq_true rfl)) l2 xle.rf (xnoh rfl) rfl
  refine C.Sv (As := [.int x1, .int (2 : Int32)]) (rest := []) dX1_sown_2 (w_X1_oneOf h2) cX1_163 rfl rfl (xcs xvN (Nat.le_of_ble_eq_true rfl)) (xD (Nat.le_of_ble_eq_true rfl)) l2 r2 ?_
  refine X.iload_n dX1_sown_5 rfl 1 rfl ?_
  refine X.iconst (v := 2) dX1_sown_6 (by decide) ?_
  refine X.icmp_ne (tgt := 35) dX1_sown_7 (by decide) (fun c7 => ?_) (fun c7 => ?_)
  · have hf := if_f c7 hf
    refine C.aload_n dX1_sown_35 rfl 0 rfl ?_
    obtain ⟨c36, hf⟩ := if_n hf
    obtain ⟨v36, T36, h36, hf, l36, r36⟩ := cl_ok hf
    refine C.Vq (As := []) (rest := []) dX1_sown_36 (w_X1_sowings h36) cX1_266 (Classical.not_not.mp c36) rfl rfl (xcs xvN (Nat.le_of_ble_eq_true rfl)) rfl rfl (xD (Nat.le_of_ble_eq_true rfl)) l36 r36 ?_
    refine C.ast_n (L' := [(2, va_rf v36), (0, va_rf x0), (1, .int x1)]) dX1_sown_39 rfl (Nat.le_of_ble_eq_true rfl) (xcQ (xcI xcN)) rfl ?_
    refine X.iload_n dX1_sown_40 rfl 2 rfl ?_
    refine X.if_ne (tgt := 53) dX1_sown_41 (by decide) (fun c41 => ?_) (fun c41 => ?_)
    · have hf := if_f c41 hf
      refine C.aload_n dX1_sown_53 rfl 0 rfl ?_
      obtain ⟨c54, hf⟩ := if_n hf
      obtain ⟨v54, h54, hf⟩ := ob hf
      refine X.keep fun l54 => C.Fi (As := []) (rest := []) dX1_sown_54 (w_J2_isEmpty h54) cX1_209 (Classical.not_not.mp c54) rfl rfl (xcs xvN (Nat.le_of_ble_eq_true rfl)) rfl rfl (xD (Nat.le_of_ble_eq_true rfl)) xle.rf l54 ?_
      refine X.if_eq (tgt := 66) dX1_sown_59 (by decide) (fun c59 => ?_) (fun c59 => ?_)
      · have hf := if_t c59 hf
        refine C.aload_n dX1_sown_66 rfl 0 rfl ?_
        refine X.iconst (v := 0) dX1_sown_67 (by decide) ?_
        obtain ⟨c68, hf⟩ := if_n hf
        obtain ⟨v68, h68, hf⟩ := ob hf
        refine X.keep fun l68 => C.Fq (As := [.int (0 : Int32)]) (rest := []) dX1_sown_68 (w_J2_get h68) cX1_167 (Classical.not_not.mp c68) rfl rfl (xcs xvN (Nat.le_of_ble_eq_true rfl)) rfl rfl (xD (Nat.le_of_ble_eq_true rfl)) xle.rf l68 ?_
        obtain ⟨c73, hf⟩ := if_n hf
        refine C.cast dX1_sown_73 q659 ca_Integer (Classical.not_not.mp c73) ?_
        obtain ⟨c76, hf⟩ := if_n hf
        obtain ⟨v76, h76, hf⟩ := ob hf
        refine X.keep fun l76 => C.Vi (As := []) (rest := []) dX1_sown_76 (w_J14_intValue h76) cX1_173 (Classical.not_not.mp c76) rfl rfl (xcs xvN (Nat.le_of_ble_eq_true rfl)) rfl rfl (xD (Nat.le_of_ble_eq_true rfl)) xle.rf l76 ?_
        obtain rfl := Option.some.inj hf
        exact X.iret dX1_sown_79 rfl rfl rfl
      · have hf := if_f c59 hf
        refine X.iconst (v := -1) dX1_sown_62 (by decide) ?_
        refine X.goto (tgt := 79) dX1_sown_63 (by decide) ?_
        obtain rfl := Option.some.inj hf
        exact X.iret dX1_sown_79 rfl rfl rfl
    · have hf := if_t c41 hf
      refine C.aload_n dX1_sown_44 rfl 0 rfl ?_
      obtain ⟨c45, hf⟩ := if_n hf
      obtain ⟨v45, h45, hf⟩ := ob hf
      refine X.keep fun l45 => C.Fi (As := []) (rest := []) dX1_sown_45 (w_J2_size h45) cX1_104 (Classical.not_not.mp c45) rfl rfl (xcs xvN (Nat.le_of_ble_eq_true rfl)) rfl rfl (xD (Nat.le_of_ble_eq_true rfl)) xle.rf l45 ?_
      refine X.goto (tgt := 79) dX1_sown_50 (by decide) ?_
      obtain rfl := Option.some.inj hf
      exact X.iret dX1_sown_79 rfl rfl rfl
  · have hf := if_t c7 hf
    refine C.aload_n dX1_sown_10 rfl 0 rfl ?_
    obtain ⟨v11, h11, hf⟩ := ob hf
    refine C.getQ dX1_sown_11 rX1_35 h11 ?_
    refine C.aload_n dX1_sown_14 rfl 0 rfl ?_
    obtain ⟨v15, h15, hf⟩ := ob hf
    refine C.getQ dX1_sown_15 rX1_38 h15 ?_
    obtain ⟨c18, hf⟩ := if_n hf
    obtain ⟨v18, T18, h18, hf, l18, r18⟩ := cl_ok hf
    refine C.Vq (As := [va_rf v15]) (rest := []) dX1_sown_18 (w_X3_be h18) cX1_213 (Classical.not_not.mp c18) rfl rfl (xcs xvN (Nat.le_of_ble_eq_true rfl)) rfl rfl (xD (Nat.le_of_ble_eq_true rfl)) l18 r18 ?_
    refine X.pop dX1_sown_21 (cat1 _) ?_
    refine C.aload_n dX1_sown_22 rfl 0 rfl ?_
    obtain ⟨c23, hf⟩ := if_n hf
    obtain ⟨v23, T23, h23, hf, l23, r23⟩ := cl_ok hf
    refine C.Vi (As := []) (rest := []) dX1_sown_23 (w_X1_isSo h23) cX1_263 (Classical.not_not.mp c23) rfl rfl (xcs xvN (Nat.le_of_ble_eq_true rfl)) rfl rfl (xD (Nat.le_of_ble_eq_true rfl)) l23 r23 ?_
    refine X.if_eq (tgt := 33) dX1_sown_26 (by decide) (fun c26 => ?_) (fun c26 => ?_)
    · have hf := if_t c26 hf
      refine X.iconst (v := 0) dX1_sown_33 (by decide) ?_
      obtain rfl := Option.some.inj hf
      exact X.iret dX1_sown_34 rfl rfl rfl
    · have hf := if_f c26 hf
      refine X.iconst (v := 1) dX1_sown_29 (by decide) ?_
      refine X.goto (tgt := 34) dX1_sown_30 (by decide) ?_
      obtain rfl := Option.some.inj hf
      exact X.iret dX1_sown_34 rfl rfl rfl
/-! MouldVotes refuse -/
abbrev cX1_refuse : ByteArray := prog_1_method_20_code
def yX1_refuse : MethodName := ⟨RX1, "refuse", "(I)I"⟩
def dkwX1_refuse_0 : List UInt8 := [42, 180, 0, 49, 27, 92, 46, 4, 96, 79, 2, 172]
abbrev dktX1_refuse_0 : List UInt8 := dkwX1_refuse_0 ++ []
theorem dksX1_refuse_0 : cX1_refuse.data.toList.drop 0 = dktX1_refuse_0 := by decide +kernel
theorem dX1_refuse_0 : decode cX1_refuse 0 = .ok (.aload_n 0, 1) := dk_42 (dk_at dksX1_refuse_0 0 rfl rfl)
theorem dX1_refuse_1 : decode cX1_refuse 1 = .ok (.getfield 49, 3) := dk_180 0 49 (dk_at dksX1_refuse_0 1 rfl rfl)
theorem dX1_refuse_4 : decode cX1_refuse 4 = .ok (.iload_n 1, 1) := dk_27 (dk_at dksX1_refuse_0 4 rfl rfl)
theorem dX1_refuse_5 : decode cX1_refuse 5 = .ok (.dup2, 1) := dk_92 (dk_at dksX1_refuse_0 5 rfl rfl)
theorem dX1_refuse_6 : decode cX1_refuse 6 = .ok (.iaload, 1) := dk_46 (dk_at dksX1_refuse_0 6 rfl rfl)
theorem dX1_refuse_7 : decode cX1_refuse 7 = .ok (.iconst 1, 1) := dk_4 (dk_at dksX1_refuse_0 7 rfl rfl)
theorem dX1_refuse_8 : decode cX1_refuse 8 = .ok (.iadd, 1) := dk_96 (dk_at dksX1_refuse_0 8 rfl rfl)
theorem dX1_refuse_9 : decode cX1_refuse 9 = .ok (.iastore, 1) := dk_79 (dk_at dksX1_refuse_0 9 rfl rfl)
theorem dX1_refuse_10 : decode cX1_refuse 10 = .ok (.iconst (-1), 1) := dk_2 (dk_at dksX1_refuse_0 10 rfl rfl)
theorem dX1_refuse_11 : decode cX1_refuse 11 = .ok (.ireturn, 1) := dk_172 (dk_at dksX1_refuse_0 11 rfl rfl)
abbrev mX1_refuse : xM := (yX1_refuse, cX1_refuse, 2, (some .int), [])
def c_X1_refuse (x0 : Option Nat) (x1 : Int32) (T : xF) : Option (Int32 × xF) :=
  (oQ T x0 0 8).bind fun v1 =>
  (ldA T v1 .int x1).bind fun v6 =>
  (stA T v1 .int x1 (v6 + (1 : Int32))).bind fun T9 =>
  some ((-1 : Int32), T9)
theorem w_X1_refuse {G : xG}  {T : xF} {x0 : Option Nat} {x1 : Int32} {q : (Int32 × xF)} (hf : c_X1_refuse x0 x1 T = some q) : Ct G mX1_refuse (1) T [va_rf x0, .int x1] (.inl (some (.int q.1))) q.2 := by
  refine Ct.ofc (plainFor_of_name (by decide +kernel)) rfl (xvQ (xvI xvN)) (Nat.le_of_ble_eq_true rfl) (show Xr G _ 0 [(0, va_rf x0), (1, .int x1)] [] _ from ?_)
  unfold c_X1_refuse at hf
  refine C.aload_n dX1_refuse_0 rfl 0 rfl ?_
  obtain ⟨v1, h1, hf⟩ := ob hf
  refine C.getQ dX1_refuse_1 rX1_49 h1 ?_
  refine X.iload_n dX1_refuse_4 rfl 1 rfl ?_
  refine X.dup2_11 dX1_refuse_5 rfl (cat1 _) ?_
  obtain ⟨v6, h6, hf⟩ := ob hf
  refine C.iald dX1_refuse_6 h6 ?_
  refine X.iconst (v := 1) dX1_refuse_7 (by decide) ?_
  refine X.iadd dX1_refuse_8 ?_
  obtain ⟨T9, h9, hf⟩ := ob hf
  refine C.iast dX1_refuse_9 h9 ?_
  refine X.iconst (v := -1) dX1_refuse_10 (by decide) ?_
  obtain rfl := Option.some.inj hf
  exact X.iret dX1_refuse_11 rfl rfl rfl
theorem cX1_193 : xCV RX1 193 mX1_refuse 1 := ⟨lw_V q337 q339 qs0 q121 q340, rfl, ⟨by decide +kernel, by decide +kernel, by decide +kernel⟩, Nat.le_of_ble_eq_true rfl⟩
/-! MouldVotes see -/
abbrev cX1_see : ByteArray := prog_1_method_41_code
def yX1_see : MethodName := ⟨RX1, "see", "(III)I"⟩
def dkwX1_see_3 : List UInt8 := [42, 180, 0, 59, 185, 0, 104, 1, 0, 172]
abbrev dktX1_see_3 : List UInt8 := dkwX1_see_3 ++ []
def dkwX1_see_2 : List UInt8 := [180, 0, 59, 6, 188, 10, 89, 3, 27, 79, 89, 4, 28, 79, 89, 5, 29, 79, 185, 0, 186, 2, 0, 87]
abbrev dktX1_see_2 : List UInt8 := dkwX1_see_2 ++ dktX1_see_3
def dkwX1_see_1 : List UInt8 := [184, 0, 134, 153, 0, 13, 29, 3, 16, 99, 184, 0, 134, 154, 0, 9, 42, 5, 182, 0, 193, 172, 42]
abbrev dktX1_see_1 : List UInt8 := dkwX1_see_1 ++ dktX1_see_2
def dkwX1_see_0 : List UInt8 := [42, 27, 182, 0, 145, 42, 180, 0, 59, 185, 0, 104, 1, 0, 16, 8, 159, 0, 23, 28, 3, 16, 20]
abbrev dktX1_see_0 : List UInt8 := dkwX1_see_0 ++ dktX1_see_1
theorem dksX1_see_0 : cX1_see.data.toList.drop 0 = dktX1_see_0 := by decide +kernel
theorem dksX1_see_1 : cX1_see.data.toList.drop 23 = dktX1_see_1 := dk_seg dksX1_see_0 23 rfl rfl
theorem dksX1_see_2 : cX1_see.data.toList.drop 46 = dktX1_see_2 := dk_seg dksX1_see_1 23 rfl rfl
theorem dksX1_see_3 : cX1_see.data.toList.drop 70 = dktX1_see_3 := dk_seg dksX1_see_2 24 rfl rfl
theorem dX1_see_0 : decode cX1_see 0 = .ok (.aload_n 0, 1) := dk_42 (dk_at dksX1_see_0 0 rfl rfl)
theorem dX1_see_1 : decode cX1_see 1 = .ok (.iload_n 1, 1) := dk_27 (dk_at dksX1_see_0 1 rfl rfl)
theorem dX1_see_2 : decode cX1_see 2 = .ok (.invokevirtual 145, 3) := dk_182 0 145 (dk_at dksX1_see_0 2 rfl rfl)
theorem dX1_see_5 : decode cX1_see 5 = .ok (.aload_n 0, 1) := dk_42 (dk_at dksX1_see_0 5 rfl rfl)
theorem dX1_see_6 : decode cX1_see 6 = .ok (.getfield 59, 3) := dk_180 0 59 (dk_at dksX1_see_0 6 rfl rfl)
theorem dX1_see_9 : decode cX1_see 9 = .ok (.invokeinterface 104 1, 5) := by decide +kernel
theorem dX1_see_14 : decode cX1_see 14 = .ok (.bipush 8, 2) := dk_16 8 (dk_at dksX1_see_0 14 rfl rfl)
theorem dX1_see_16 : decode cX1_see 16 = .ok (.if_icmp .eq 23, 3) := dk_159 0 23 (dk_at dksX1_see_0 16 rfl rfl)
theorem dX1_see_19 : decode cX1_see 19 = .ok (.iload_n 2, 1) := dk_28 (dk_at dksX1_see_0 19 rfl rfl)
theorem dX1_see_20 : decode cX1_see 20 = .ok (.iconst 0, 1) := dk_3 (dk_at dksX1_see_0 20 rfl rfl)
theorem dX1_see_21 : decode cX1_see 21 = .ok (.bipush 20, 2) := dk_16 20 (dk_at dksX1_see_0 21 rfl rfl)
theorem dX1_see_23 : decode cX1_see 23 = .ok (.invokestatic 134, 3) := dk_184 0 134 (dk_at dksX1_see_1 0 rfl rfl)
theorem dX1_see_26 : decode cX1_see 26 = .ok (.ifCond .eq 13, 3) := dk_153 0 13 (dk_at dksX1_see_1 3 rfl rfl)
theorem dX1_see_29 : decode cX1_see 29 = .ok (.iload_n 3, 1) := dk_29 (dk_at dksX1_see_1 6 rfl rfl)
theorem dX1_see_30 : decode cX1_see 30 = .ok (.iconst 0, 1) := dk_3 (dk_at dksX1_see_1 7 rfl rfl)
theorem dX1_see_31 : decode cX1_see 31 = .ok (.bipush 99, 2) := dk_16 99 (dk_at dksX1_see_1 8 rfl rfl)
theorem dX1_see_33 : decode cX1_see 33 = .ok (.invokestatic 134, 3) := dk_184 0 134 (dk_at dksX1_see_1 10 rfl rfl)
theorem dX1_see_36 : decode cX1_see 36 = .ok (.ifCond .ne 9, 3) := dk_154 0 9 (dk_at dksX1_see_1 13 rfl rfl)
theorem dX1_see_39 : decode cX1_see 39 = .ok (.aload_n 0, 1) := dk_42 (dk_at dksX1_see_1 16 rfl rfl)
theorem dX1_see_40 : decode cX1_see 40 = .ok (.iconst 2, 1) := dk_5 (dk_at dksX1_see_1 17 rfl rfl)
theorem dX1_see_41 : decode cX1_see 41 = .ok (.invokevirtual 193, 3) := dk_182 0 193 (dk_at dksX1_see_1 18 rfl rfl)
theorem dX1_see_44 : decode cX1_see 44 = .ok (.ireturn, 1) := dk_172 (dk_at dksX1_see_1 21 rfl rfl)
theorem dX1_see_45 : decode cX1_see 45 = .ok (.aload_n 0, 1) := dk_42 (dk_at dksX1_see_1 22 rfl rfl)
theorem dX1_see_46 : decode cX1_see 46 = .ok (.getfield 59, 3) := dk_180 0 59 (dk_at dksX1_see_2 0 rfl rfl)
theorem dX1_see_49 : decode cX1_see 49 = .ok (.iconst 3, 1) := dk_6 (dk_at dksX1_see_2 3 rfl rfl)
theorem dX1_see_50 : decode cX1_see 50 = .ok (.newarray .int, 2) := dk_188_10 (dk_at dksX1_see_2 4 rfl rfl)
theorem dX1_see_52 : decode cX1_see 52 = .ok (.dup, 1) := dk_89 (dk_at dksX1_see_2 6 rfl rfl)
theorem dX1_see_53 : decode cX1_see 53 = .ok (.iconst 0, 1) := dk_3 (dk_at dksX1_see_2 7 rfl rfl)
theorem dX1_see_54 : decode cX1_see 54 = .ok (.iload_n 1, 1) := dk_27 (dk_at dksX1_see_2 8 rfl rfl)
theorem dX1_see_55 : decode cX1_see 55 = .ok (.iastore, 1) := dk_79 (dk_at dksX1_see_2 9 rfl rfl)
theorem dX1_see_56 : decode cX1_see 56 = .ok (.dup, 1) := dk_89 (dk_at dksX1_see_2 10 rfl rfl)
theorem dX1_see_57 : decode cX1_see 57 = .ok (.iconst 1, 1) := dk_4 (dk_at dksX1_see_2 11 rfl rfl)
theorem dX1_see_58 : decode cX1_see 58 = .ok (.iload_n 2, 1) := dk_28 (dk_at dksX1_see_2 12 rfl rfl)
theorem dX1_see_59 : decode cX1_see 59 = .ok (.iastore, 1) := dk_79 (dk_at dksX1_see_2 13 rfl rfl)
theorem dX1_see_60 : decode cX1_see 60 = .ok (.dup, 1) := dk_89 (dk_at dksX1_see_2 14 rfl rfl)
theorem dX1_see_61 : decode cX1_see 61 = .ok (.iconst 2, 1) := dk_5 (dk_at dksX1_see_2 15 rfl rfl)
theorem dX1_see_62 : decode cX1_see 62 = .ok (.iload_n 3, 1) := dk_29 (dk_at dksX1_see_2 16 rfl rfl)
theorem dX1_see_63 : decode cX1_see 63 = .ok (.iastore, 1) := dk_79 (dk_at dksX1_see_2 17 rfl rfl)
theorem dX1_see_64 : decode cX1_see 64 = .ok (.invokeinterface 186 2, 5) := by decide +kernel
theorem dX1_see_69 : decode cX1_see 69 = .ok (.pop, 1) := dk_87 (dk_at dksX1_see_2 23 rfl rfl)
theorem dX1_see_70 : decode cX1_see 70 = .ok (.aload_n 0, 1) := dk_42 (dk_at dksX1_see_3 0 rfl rfl)
theorem dX1_see_71 : decode cX1_see 71 = .ok (.getfield 59, 3) := dk_180 0 59 (dk_at dksX1_see_3 1 rfl rfl)
theorem dX1_see_74 : decode cX1_see 74 = .ok (.invokeinterface 104 1, 5) := by decide +kernel
theorem dX1_see_79 : decode cX1_see 79 = .ok (.ireturn, 1) := dk_172 (dk_at dksX1_see_3 9 rfl rfl)
abbrev mX1_see : xM := (yX1_see, cX1_see, 4, (some .int), [])
def c_X1_see_39 (G : xG) (x0 : Option Nat) (T : xF) : Option ((Int32 ⊕ xE) × xF) :=
  if ¬ isO T x0 0 = true then none else
  cl (c_X1_refuse x0 (2 : Int32) T) T fun v41 T41 =>
  some (.inl v41, T41)
theorem c_X1_see_39_ok {G : xG}  {T0 : xF}   (x0 : Option Nat) (T : xF) (q : ((Int32 ⊕ xE) × xF)) (hf : c_X1_see_39 G x0 T = some q) : Xr G (mX1_see, xrm (9) T0 q.2, T0, xoI q.1, q.2) 39 [(0, va_rf x0)] [] T := by
  unfold c_X1_see_39 at hf
  refine C.aload_n dX1_see_39 rfl 0 rfl ?_
  refine X.iconst (v := 2) dX1_see_40 (by decide) ?_
  obtain ⟨c41, hf⟩ := if_n hf
  obtain ⟨v41, T41, h41, hf, l41, r41⟩ := cl_ok hf
  refine C.Vi (As := [.int (2 : Int32)]) (rest := []) dX1_see_41 (w_X1_refuse h41) cX1_193 (Classical.not_not.mp c41) rfl rfl (xcs xvN (Nat.le_of_ble_eq_true rfl)) rfl rfl (xD (Nat.le_of_ble_eq_true rfl)) l41 r41 ?_
  obtain rfl := Option.some.inj hf
  exact X.iret dX1_see_44 rfl rfl rfl
def c_X1_see (G : xG) (x0 : Option Nat) (x1 : Int32) (x2 : Int32) (x3 : Int32) (T : xF) : Option ((Int32 ⊕ xE) × xF) :=
  if ¬ isO T x0 0 = true then none else
  clX (c_X1_aCell x0 x1 T) T fun v2 T2 =>
  (oQ T2 x0 0 10).bind fun v6 =>
  if ¬ isO T2 v6 10 = true then none else
  (c_J2_size T2 v6).bind fun v9 =>
  if v9 = (8 : Int32) then
    c_X1_see_39 G x0 T2
  else
    (c_X1_in x2 (0 : Int32) (20 : Int32)).bind fun v23 =>
    if v23 = 0 then
      c_X1_see_39 G x0 T2
    else
      (c_X1_in x3 (0 : Int32) (99 : Int32)).bind fun v33 =>
      if v33 = 0 then
        c_X1_see_39 G x0 T2
      else
        (oQ T2 x0 0 10).bind fun v46 =>
        if (3 : Int32) < 0 ∨ 100000000 ≤ (3 : Int32).toNatClampNeg then none else
        al (nA T2 .int (3 : Int32).toNatClampNeg) fun T50 =>
        (stA T50 (some T2.2.1) .int (0 : Int32) x1).bind fun T55 =>
        (stA T55 (some T2.2.1) .int (1 : Int32) x2).bind fun T59 =>
        (stA T59 (some T2.2.1) .int (2 : Int32) x3).bind fun T63 =>
        if ¬ isO T63 v46 10 = true then none else
        cl (c_J2_add G v46 (some T2.2.1) T63) T63 fun v64 T64 =>
        (oQ T64 x0 0 10).bind fun v71 =>
        if ¬ isO T64 v71 10 = true then none else
        (c_J2_size T64 v71).bind fun v74 =>
        some (.inl v74, T64)
theorem w_X1_see {G : xG}  {T : xF} {x0 : Option Nat} {x1 : Int32} {x2 : Int32} {x3 : Int32} {q : ((Int32 ⊕ xE) × xF)} (hf : c_X1_see G x0 x1 x2 x3 T = some q) : Ct G mX1_see (9) T [va_rf x0, .int x1, .int x2, .int x3] (xoI q.1) q.2 := by
  refine Ct.ofc (plainFor_of_name (by decide +kernel)) rfl (xvQ (xvI (xvI (xvI xvN)))) (Nat.le_of_ble_eq_true rfl) (show Xr G _ 0 [(0, va_rf x0), (1, .int x1), (2, .int x2), (3, .int x3)] [] _ from ?_)
  unfold c_X1_see at hf
  refine C.aload_n dX1_see_0 rfl 0 rfl ?_
  refine X.iload_n dX1_see_1 rfl 1 rfl ?_
  obtain ⟨c2, hf⟩ := if_n hf
  rcases clX_ok hf with ⟨v2, T2, h2, hf, l2, r2⟩ | ⟨e2, T2, h2, rfl, l2⟩
  rotate_left
  · exact C.Vx (As := [.int x1]) (rest := []) dX1_see_2 (w_X1_aCell h2) cX1_145 (Classical.not_not.mp c2) rfl rfl (xcs xvN (Nat.le_of_ble_eq_true rfl)) rfl rfl (xD (Nat.le_of_ble_eq_true rfl)) l2 xle.rf (xnoh rfl) rfl
  refine C.Vv (As := [.int x1]) (rest := []) dX1_see_2 (w_X1_aCell h2) cX1_145 (Classical.not_not.mp c2) rfl rfl (xcs xvN (Nat.le_of_ble_eq_true rfl)) rfl rfl (xD (Nat.le_of_ble_eq_true rfl)) l2 r2 ?_
  refine C.aload_n dX1_see_5 rfl 0 rfl ?_
  obtain ⟨v6, h6, hf⟩ := ob hf
  refine C.getQ dX1_see_6 rX1_59 h6 ?_
  obtain ⟨c9, hf⟩ := if_n hf
  obtain ⟨v9, h9, hf⟩ := ob hf
  refine X.keep fun l9 => C.Fi (As := []) (rest := []) dX1_see_9 (w_J2_size h9) cX1_104 (Classical.not_not.mp c9) rfl rfl (xcs xvN (Nat.le_of_ble_eq_true rfl)) rfl rfl (xD (Nat.le_of_ble_eq_true rfl)) xle.rf l9 ?_
  refine X.bipush (v := 8) dX1_see_14 (by decide) ?_
  refine X.icmp_eq (tgt := 39) dX1_see_16 (by decide) (fun c16 => ?_) (fun c16 => ?_)
  · have hf := if_t c16 hf
    refine X.sub [0] (L' := [(0, va_rf x0)]) rfl ?_
    exact c_X1_see_39_ok _ _ _ hf
  · have hf := if_f c16 hf
    refine X.iload_n dX1_see_19 rfl 2 rfl ?_
    refine X.iconst (v := 0) dX1_see_20 (by decide) ?_
    refine X.bipush (v := 20) dX1_see_21 (by decide) ?_
    obtain ⟨v23, h23, hf⟩ := ob hf
    refine X.keep fun l23 => C.Si (As := [.int x2, .int (0 : Int32), .int (20 : Int32)]) (rest := []) dX1_see_23 (w_X1_in h23) cX1_134 rfl rfl (xcs xvN (Nat.le_of_ble_eq_true rfl)) (xD (Nat.le_of_ble_eq_true rfl)) xle.rf l23 ?_
    refine X.if_eq (tgt := 39) dX1_see_26 (by decide) (fun c26 => ?_) (fun c26 => ?_)
    · have hf := if_t c26 hf
      refine X.sub [0] (L' := [(0, va_rf x0)]) rfl ?_
      exact c_X1_see_39_ok _ _ _ hf
    · have hf := if_f c26 hf
      refine X.iload_n dX1_see_29 rfl 3 rfl ?_
      refine X.iconst (v := 0) dX1_see_30 (by decide) ?_
      refine X.bipush (v := 99) dX1_see_31 (by decide) ?_
      obtain ⟨v33, h33, hf⟩ := ob hf
      refine X.keep fun l33 => C.Si (As := [.int x3, .int (0 : Int32), .int (99 : Int32)]) (rest := []) dX1_see_33 (w_X1_in h33) cX1_134 rfl rfl (xcs xvN (Nat.le_of_ble_eq_true rfl)) (xD (Nat.le_of_ble_eq_true rfl)) xle.rf l33 ?_
      refine X.if_ne (tgt := 45) dX1_see_36 (by decide) (fun c36 => ?_) (fun c36 => ?_)
      · have hf := if_f c36 hf
        refine C.aload_n dX1_see_45 rfl 0 rfl ?_
        obtain ⟨v46, h46, hf⟩ := ob hf
        refine C.getQ dX1_see_46 rX1_59 h46 ?_
        refine X.iconst (v := 3) dX1_see_49 (by decide) ?_
        obtain ⟨c50, hf⟩ := if_n hf
        obtain ⟨T50, e50, hf, l50⟩ := al_ok hf
        refine C.newaE e50 dX1_see_50 rfl (by decide) rfl q194 rfl (by decide) c50 l50 ?_
        refine X.dup dX1_see_52 (cat1 _) ?_
        refine X.iconst (v := 0) dX1_see_53 (by decide) ?_
        refine X.iload_n dX1_see_54 rfl 1 rfl ?_
        obtain ⟨T55, h55, hf⟩ := ob hf
        refine C.iast dX1_see_55 h55 ?_
        refine X.dup dX1_see_56 (cat1 _) ?_
        refine X.iconst (v := 1) dX1_see_57 (by decide) ?_
        refine X.iload_n dX1_see_58 rfl 2 rfl ?_
        obtain ⟨T59, h59, hf⟩ := ob hf
        refine C.iast dX1_see_59 h59 ?_
        refine X.dup dX1_see_60 (cat1 _) ?_
        refine X.iconst (v := 2) dX1_see_61 (by decide) ?_
        refine X.iload_n dX1_see_62 rfl 3 rfl ?_
        obtain ⟨T63, h63, hf⟩ := ob hf
        refine C.iast dX1_see_63 h63 ?_
        obtain ⟨c64, hf⟩ := if_n hf
        obtain ⟨v64, T64, h64, hf, l64, r64⟩ := cl_ok hf
        refine C.Fi (As := [va_rf (some T2.2.1)]) (rest := []) dX1_see_64 (w_J2_add h64) cX1_186 (Classical.not_not.mp c64) rfl rfl (xcs xvN (Nat.le_of_ble_eq_true rfl)) rfl rfl (xD (Nat.le_of_ble_eq_true rfl)) l64 r64 ?_
        refine X.pop dX1_see_69 rfl ?_
        refine C.aload_n dX1_see_70 rfl 0 rfl ?_
        obtain ⟨v71, h71, hf⟩ := ob hf
        refine C.getQ dX1_see_71 rX1_59 h71 ?_
        obtain ⟨c74, hf⟩ := if_n hf
        obtain ⟨v74, h74, hf⟩ := ob hf
        refine X.keep fun l74 => C.Fi (As := []) (rest := []) dX1_see_74 (w_J2_size h74) cX1_104 (Classical.not_not.mp c74) rfl rfl (xcs xvN (Nat.le_of_ble_eq_true rfl)) rfl rfl (xD (Nat.le_of_ble_eq_true rfl)) xle.rf l74 ?_
        obtain rfl := Option.some.inj hf
        exact X.iret dX1_see_79 rfl rfl rfl
      · have hf := if_t c36 hf
        refine X.sub [0] (L' := [(0, va_rf x0)]) rfl ?_
        exact c_X1_see_39_ok _ _ _ hf
/-! MouldVotes carries -/
abbrev cX1_carries : ByteArray := prog_1_method_38_code
def yX1_carries : MethodName := ⟨RX1, "carries", "(I)Z"⟩
def dkwX1_carries_1 : List UInt8 := [164, 0, 7, 4, 167, 0, 4, 3, 172]
abbrev dktX1_carries_1 : List UInt8 := dkwX1_carries_1 ++ []
def dkwX1_carries_0 : List UInt8 := [42, 180, 0, 38, 27, 182, 0, 128, 42, 180, 0, 38, 184, 0, 125, 27, 2, 130, 126, 182, 0, 128]
abbrev dktX1_carries_0 : List UInt8 := dkwX1_carries_0 ++ dktX1_carries_1
theorem dksX1_carries_0 : cX1_carries.data.toList.drop 0 = dktX1_carries_0 := by decide +kernel
theorem dksX1_carries_1 : cX1_carries.data.toList.drop 22 = dktX1_carries_1 := dk_seg dksX1_carries_0 22 rfl rfl
theorem dX1_carries_0 : decode cX1_carries 0 = .ok (.aload_n 0, 1) := dk_42 (dk_at dksX1_carries_0 0 rfl rfl)
theorem dX1_carries_1 : decode cX1_carries 1 = .ok (.getfield 38, 3) := dk_180 0 38 (dk_at dksX1_carries_0 1 rfl rfl)
theorem dX1_carries_4 : decode cX1_carries 4 = .ok (.iload_n 1, 1) := dk_27 (dk_at dksX1_carries_0 4 rfl rfl)
theorem dX1_carries_5 : decode cX1_carries 5 = .ok (.invokevirtual 128, 3) := dk_182 0 128 (dk_at dksX1_carries_0 5 rfl rfl)
theorem dX1_carries_8 : decode cX1_carries 8 = .ok (.aload_n 0, 1) := dk_42 (dk_at dksX1_carries_0 8 rfl rfl)
theorem dX1_carries_9 : decode cX1_carries 9 = .ok (.getfield 38, 3) := dk_180 0 38 (dk_at dksX1_carries_0 9 rfl rfl)
theorem dX1_carries_12 : decode cX1_carries 12 = .ok (.invokestatic 125, 3) := dk_184 0 125 (dk_at dksX1_carries_0 12 rfl rfl)
theorem dX1_carries_15 : decode cX1_carries 15 = .ok (.iload_n 1, 1) := dk_27 (dk_at dksX1_carries_0 15 rfl rfl)
theorem dX1_carries_16 : decode cX1_carries 16 = .ok (.iconst (-1), 1) := dk_2 (dk_at dksX1_carries_0 16 rfl rfl)
theorem dX1_carries_17 : decode cX1_carries 17 = .ok (.ixor, 1) := dk_130 (dk_at dksX1_carries_0 17 rfl rfl)
theorem dX1_carries_18 : decode cX1_carries 18 = .ok (.iand, 1) := dk_126 (dk_at dksX1_carries_0 18 rfl rfl)
theorem dX1_carries_19 : decode cX1_carries 19 = .ok (.invokevirtual 128, 3) := dk_182 0 128 (dk_at dksX1_carries_0 19 rfl rfl)
theorem dX1_carries_22 : decode cX1_carries 22 = .ok (.if_icmp .le 7, 3) := dk_164 0 7 (dk_at dksX1_carries_1 0 rfl rfl)
theorem dX1_carries_25 : decode cX1_carries 25 = .ok (.iconst 1, 1) := dk_4 (dk_at dksX1_carries_1 3 rfl rfl)
theorem dX1_carries_26 : decode cX1_carries 26 = .ok (.goto 4, 3) := dk_167 0 4 (dk_at dksX1_carries_1 4 rfl rfl)
theorem dX1_carries_29 : decode cX1_carries 29 = .ok (.iconst 0, 1) := dk_3 (dk_at dksX1_carries_1 7 rfl rfl)
theorem dX1_carries_30 : decode cX1_carries 30 = .ok (.ireturn, 1) := dk_172 (dk_at dksX1_carries_1 8 rfl rfl)
abbrev mX1_carries : xM := (yX1_carries, cX1_carries, 2, (some .boolean), [])
def c_X1_carries (T : xF) (x0 : Option Nat) (x1 : Int32) : Option Int32 :=
  (oQ T x0 0 4).bind fun v1 =>
  if ¬ isO T v1 2 = true then none else
  (c_X3_votesOf T v1 x1).bind fun v5 =>
  (oQ T x0 0 4).bind fun v9 =>
  (c_X1_allParties).bind fun v12 =>
  if ¬ isO T v9 2 = true then none else
  (c_X3_votesOf T v9 (v12 &&& (x1 ^^^ (-1 : Int32)))).bind fun v19 =>
  if v5 ≤ v19 then
    some (0 : Int32)
  else
    some (1 : Int32)
theorem w_X1_carries {G : xG}  {T : xF} {x0 : Option Nat} {x1 : Int32} {q : Int32} (hf : c_X1_carries T x0 x1 = some q) : Ct G mX1_carries (6) T [va_rf x0, .int x1] (.inl (some (.int q))) T := by
  refine Ct.ofc (plainFor_of_name (by decide +kernel)) rfl (xvQ (xvI xvN)) (Nat.le_of_ble_eq_true rfl) (show Xr G _ 0 [(0, va_rf x0), (1, .int x1)] [] _ from ?_)
  unfold c_X1_carries at hf
  refine C.aload_n dX1_carries_0 rfl 0 rfl ?_
  obtain ⟨v1, h1, hf⟩ := ob hf
  refine C.getQ dX1_carries_1 rX1_38 h1 ?_
  refine X.iload_n dX1_carries_4 rfl 1 rfl ?_
  obtain ⟨c5, hf⟩ := if_n hf
  obtain ⟨v5, h5, hf⟩ := ob hf
  refine X.keep fun l5 => C.Vi (As := [.int x1]) (rest := []) dX1_carries_5 (w_X3_votesOf h5) cX1_128 (Classical.not_not.mp c5) rfl rfl (xcs xvN (Nat.le_of_ble_eq_true rfl)) rfl rfl (xD (Nat.le_of_ble_eq_true rfl)) xle.rf l5 ?_
  refine C.aload_n dX1_carries_8 rfl 0 rfl ?_
  obtain ⟨v9, h9, hf⟩ := ob hf
  refine C.getQ dX1_carries_9 rX1_38 h9 ?_
  obtain ⟨v12, h12, hf⟩ := ob hf
  refine X.keep fun l12 => C.Si (As := []) (rest := [va_rf v9, .int v5]) dX1_carries_12 (w_X1_allParties h12) cX1_125 rfl rfl (xcs (xvQ (xvI xvN)) (Nat.le_of_ble_eq_true rfl)) (xD (Nat.le_of_ble_eq_true rfl)) xle.rf l12 ?_
  refine X.iload_n dX1_carries_15 rfl 1 rfl ?_
  refine X.iconst (v := -1) dX1_carries_16 (by decide) ?_
  refine X.ixor dX1_carries_17 ?_
  refine X.iand dX1_carries_18 ?_
  obtain ⟨c19, hf⟩ := if_n hf
  obtain ⟨v19, h19, hf⟩ := ob hf
  refine X.keep fun l19 => C.Vi (As := [.int (v12 &&& (x1 ^^^ (-1 : Int32)))]) (rest := [.int v5]) dX1_carries_19 (w_X3_votesOf h19) cX1_128 (Classical.not_not.mp c19) rfl rfl (xcs (xvI xvN) (Nat.le_of_ble_eq_true rfl)) rfl rfl (xD (Nat.le_of_ble_eq_true rfl)) xle.rf l19 ?_
  refine X.icmp_le (tgt := 29) dX1_carries_22 (by decide) (fun c22 => ?_) (fun c22 => ?_)
  · have hf := if_t c22 hf
    refine X.iconst (v := 0) dX1_carries_29 (by decide) ?_
    obtain rfl := Option.some.inj hf
    exact X.iret dX1_carries_30 rfl rfl rfl
  · have hf := if_f c22 hf
    refine X.iconst (v := 1) dX1_carries_25 (by decide) ?_
    refine X.goto (tgt := 30) dX1_carries_26 (by decide) ?_
    obtain rfl := Option.some.inj hf
    exact X.iret dX1_carries_30 rfl rfl rfl
theorem cX1_250 : xCV RX1 250 mX1_carries 1 := ⟨lw_V q670 q672 qs13 q121 q673, rfl, ⟨by decide +kernel, by decide +kernel, by decide +kernel⟩, Nat.le_of_ble_eq_true rfl⟩
/-! MouldVotes decisive -/
abbrev cX1_decisive : ByteArray := prog_1_method_40_code
def yX1_decisive : MethodName := ⟨RX1, "decisive", "(I)I"⟩
def dkwX1_decisive_2 : List UInt8 := [132, 3, 1, 167, 255, 213, 28, 172]
abbrev dktX1_decisive_2 : List UInt8 := dkwX1_decisive_2 ++ []
def dkwX1_decisive_1 : List UInt8 := [29, 182, 0, 250, 153, 0, 20, 42, 29, 4, 27, 120, 2, 130, 126, 182, 0, 250, 154, 0, 6, 132, 2, 1]
abbrev dktX1_decisive_1 : List UInt8 := dkwX1_decisive_1 ++ dktX1_decisive_2
def dkwX1_decisive_0 : List UInt8 := [27, 184, 0, 176, 3, 61, 3, 62, 29, 184, 0, 125, 163, 0, 42, 29, 27, 184, 0, 241, 153, 0, 28, 42]
abbrev dktX1_decisive_0 : List UInt8 := dkwX1_decisive_0 ++ dktX1_decisive_1
theorem dksX1_decisive_0 : cX1_decisive.data.toList.drop 0 = dktX1_decisive_0 := by decide +kernel
theorem dksX1_decisive_1 : cX1_decisive.data.toList.drop 24 = dktX1_decisive_1 := dk_seg dksX1_decisive_0 24 rfl rfl
theorem dksX1_decisive_2 : cX1_decisive.data.toList.drop 48 = dktX1_decisive_2 := dk_seg dksX1_decisive_1 24 rfl rfl
theorem dX1_decisive_0 : decode cX1_decisive 0 = .ok (.iload_n 1, 1) := dk_27 (dk_at dksX1_decisive_0 0 rfl rfl)
theorem dX1_decisive_1 : decode cX1_decisive 1 = .ok (.invokestatic 176, 3) := dk_184 0 176 (dk_at dksX1_decisive_0 1 rfl rfl)
theorem dX1_decisive_4 : decode cX1_decisive 4 = .ok (.iconst 0, 1) := dk_3 (dk_at dksX1_decisive_0 4 rfl rfl)
theorem dX1_decisive_5 : decode cX1_decisive 5 = .ok (.istore_n 2, 1) := dk_61 (dk_at dksX1_decisive_0 5 rfl rfl)
theorem dX1_decisive_6 : decode cX1_decisive 6 = .ok (.iconst 0, 1) := dk_3 (dk_at dksX1_decisive_0 6 rfl rfl)
theorem dX1_decisive_7 : decode cX1_decisive 7 = .ok (.istore_n 3, 1) := dk_62 (dk_at dksX1_decisive_0 7 rfl rfl)
theorem dX1_decisive_8 : decode cX1_decisive 8 = .ok (.iload_n 3, 1) := dk_29 (dk_at dksX1_decisive_0 8 rfl rfl)
theorem dX1_decisive_9 : decode cX1_decisive 9 = .ok (.invokestatic 125, 3) := dk_184 0 125 (dk_at dksX1_decisive_0 9 rfl rfl)
theorem dX1_decisive_12 : decode cX1_decisive 12 = .ok (.if_icmp .gt 42, 3) := dk_163 0 42 (dk_at dksX1_decisive_0 12 rfl rfl)
theorem dX1_decisive_15 : decode cX1_decisive 15 = .ok (.iload_n 3, 1) := dk_29 (dk_at dksX1_decisive_0 15 rfl rfl)
theorem dX1_decisive_16 : decode cX1_decisive 16 = .ok (.iload_n 1, 1) := dk_27 (dk_at dksX1_decisive_0 16 rfl rfl)
theorem dX1_decisive_17 : decode cX1_decisive 17 = .ok (.invokestatic 241, 3) := dk_184 0 241 (dk_at dksX1_decisive_0 17 rfl rfl)
theorem dX1_decisive_20 : decode cX1_decisive 20 = .ok (.ifCond .eq 28, 3) := dk_153 0 28 (dk_at dksX1_decisive_0 20 rfl rfl)
theorem dX1_decisive_23 : decode cX1_decisive 23 = .ok (.aload_n 0, 1) := dk_42 (dk_at dksX1_decisive_0 23 rfl rfl)
theorem dX1_decisive_24 : decode cX1_decisive 24 = .ok (.iload_n 3, 1) := dk_29 (dk_at dksX1_decisive_1 0 rfl rfl)
theorem dX1_decisive_25 : decode cX1_decisive 25 = .ok (.invokevirtual 250, 3) := dk_182 0 250 (dk_at dksX1_decisive_1 1 rfl rfl)
theorem dX1_decisive_28 : decode cX1_decisive 28 = .ok (.ifCond .eq 20, 3) := dk_153 0 20 (dk_at dksX1_decisive_1 4 rfl rfl)
theorem dX1_decisive_31 : decode cX1_decisive 31 = .ok (.aload_n 0, 1) := dk_42 (dk_at dksX1_decisive_1 7 rfl rfl)
theorem dX1_decisive_32 : decode cX1_decisive 32 = .ok (.iload_n 3, 1) := dk_29 (dk_at dksX1_decisive_1 8 rfl rfl)
theorem dX1_decisive_33 : decode cX1_decisive 33 = .ok (.iconst 1, 1) := dk_4 (dk_at dksX1_decisive_1 9 rfl rfl)
theorem dX1_decisive_34 : decode cX1_decisive 34 = .ok (.iload_n 1, 1) := dk_27 (dk_at dksX1_decisive_1 10 rfl rfl)
theorem dX1_decisive_35 : decode cX1_decisive 35 = .ok (.ishl, 1) := dk_120 (dk_at dksX1_decisive_1 11 rfl rfl)
theorem dX1_decisive_36 : decode cX1_decisive 36 = .ok (.iconst (-1), 1) := dk_2 (dk_at dksX1_decisive_1 12 rfl rfl)
theorem dX1_decisive_37 : decode cX1_decisive 37 = .ok (.ixor, 1) := dk_130 (dk_at dksX1_decisive_1 13 rfl rfl)
theorem dX1_decisive_38 : decode cX1_decisive 38 = .ok (.iand, 1) := dk_126 (dk_at dksX1_decisive_1 14 rfl rfl)
theorem dX1_decisive_39 : decode cX1_decisive 39 = .ok (.invokevirtual 250, 3) := dk_182 0 250 (dk_at dksX1_decisive_1 15 rfl rfl)
theorem dX1_decisive_42 : decode cX1_decisive 42 = .ok (.ifCond .ne 6, 3) := dk_154 0 6 (dk_at dksX1_decisive_1 18 rfl rfl)
theorem dX1_decisive_45 : decode cX1_decisive 45 = .ok (.iinc 2 1, 3) := dk_132 2 1 (dk_at dksX1_decisive_1 21 rfl rfl)
theorem dX1_decisive_48 : decode cX1_decisive 48 = .ok (.iinc 3 1, 3) := dk_132 3 1 (dk_at dksX1_decisive_2 0 rfl rfl)
theorem dX1_decisive_51 : decode cX1_decisive 51 = .ok (.goto (-43), 3) := dk_167 255 213 (dk_at dksX1_decisive_2 3 rfl rfl)
theorem dX1_decisive_54 : decode cX1_decisive 54 = .ok (.iload_n 2, 1) := dk_28 (dk_at dksX1_decisive_2 6 rfl rfl)
theorem dX1_decisive_55 : decode cX1_decisive 55 = .ok (.ireturn, 1) := dk_172 (dk_at dksX1_decisive_2 7 rfl rfl)
abbrev mX1_decisive : xM := (yX1_decisive, cX1_decisive, 4, (some .int), [])
def c_X1_decisive_48 (k8 : Option Nat → Int32 → Int32 → Int32 → xF → Option ((Int32 ⊕ xE) × xF)) (x0 : Option Nat) (x1 : Int32) (x2 : Int32) (x3 : Int32) (T : xF) : Option ((Int32 ⊕ xE) × xF) :=
  k8 x0 x1 x2 (x3 + 1) T
theorem c_X1_decisive_48_ok {G : xG}  {T0 : xF} {k8 : Option Nat → Int32 → Int32 → Int32 → xF → Option ((Int32 ⊕ xE) × xF)} (hk8 : ∀ (x0 : Option Nat) (x1 : Int32) (x2 : Int32) (x3 : Int32) (T : xF) (q : ((Int32 ⊕ xE) × xF)), k8 x0 x1 x2 x3 T = some q → Xr G (mX1_decisive, xrm (10) T0 q.2, T0, xoI q.1, q.2) 8 [(0, va_rf x0), (1, .int x1), (2, .int x2), (3, .int x3)] [] T) (x0 : Option Nat) (x1 : Int32) (x2 : Int32) (x3 : Int32) (T : xF) (q : ((Int32 ⊕ xE) × xF)) (hf : c_X1_decisive_48 k8 x0 x1 x2 x3 T = some q) : Xr G (mX1_decisive, xrm (10) T0 q.2, T0, xoI q.1, q.2) 48 [(0, va_rf x0), (1, .int x1), (2, .int x2), (3, .int x3)] [] T := by
  unfold c_X1_decisive_48 at hf
  refine C.iinc (v := (x3 + 1)) (L' := [(3, .int (x3 + 1)), (0, va_rf x0), (1, .int x1), (2, .int x2)]) dX1_decisive_48 3 rfl rfl (Nat.le_of_ble_eq_true rfl) (xcQ (xcI (xcI (xcI xcN)))) rfl ?_
  refine X.goto (tgt := 8) dX1_decisive_51 (by decide) ?_
  refine X.sub [1, 2, 3, 0] (L' := [(0, va_rf x0), (1, .int x1), (2, .int x2), (3, .int (x3 + 1))]) rfl ?_
  exact hk8 _ _ _ _ _ _ hf
def c_X1_decisive_8_b (k8 : Option Nat → Int32 → Int32 → Int32 → xF → Option ((Int32 ⊕ xE) × xF)) (x0 : Option Nat) (x1 : Int32) (x2 : Int32) (x3 : Int32) (T : xF) : Option ((Int32 ⊕ xE) × xF) :=
  (c_X1_allParties).bind fun v9 =>
  if v9 < x3 then
    some (.inl x2, T)
  else
    (c_X1_isOf x3 x1).bind fun v17 =>
    if v17 = 0 then
      c_X1_decisive_48 k8 x0 x1 x2 x3 T
    else
      if ¬ isO T x0 0 = true then none else
      (c_X1_carries T x0 x3).bind fun v25 =>
      if v25 = 0 then
        c_X1_decisive_48 k8 x0 x1 x2 x3 T
      else
        if ¬ isO T x0 0 = true then none else
        (c_X1_carries T x0 (x3 &&& (((1 : Int32) <<< (x1 &&& 31)) ^^^ (-1 : Int32)))).bind fun v39 =>
        if v39 = 0 then
          c_X1_decisive_48 k8 x0 x1 (x2 + 1) x3 T
        else
          c_X1_decisive_48 k8 x0 x1 x2 x3 T
def c_X1_decisive_8 : Nat → Option Nat → Int32 → Int32 → Int32 → xF → Option ((Int32 ⊕ xE) × xF)
  | 0 => fun _ _ _ _ _ => none
  | n + 1 => fun x0 x1 x2 x3 T => c_X1_decisive_8_b (c_X1_decisive_8 n) x0 x1 x2 x3 T
theorem c_X1_decisive_8_bok {G : xG}  {T0 : xF}  {k8 : Option Nat → Int32 → Int32 → Int32 → xF → Option ((Int32 ⊕ xE) × xF)}  (hk8 : ∀ (x0 : Option Nat) (x1 : Int32) (x2 : Int32) (x3 : Int32) (T : xF) (q : ((Int32 ⊕ xE) × xF)), k8 x0 x1 x2 x3 T = some q → Xr G (mX1_decisive, xrm (10) T0 q.2, T0, xoI q.1, q.2) 8 [(0, va_rf x0), (1, .int x1), (2, .int x2), (3, .int x3)] [] T) (x0 : Option Nat) (x1 : Int32) (x2 : Int32) (x3 : Int32) (T : xF) (q : ((Int32 ⊕ xE) × xF)) (hf : c_X1_decisive_8_b k8 x0 x1 x2 x3 T = some q) : Xr G (mX1_decisive, xrm (10) T0 q.2, T0, xoI q.1, q.2) 8 [(0, va_rf x0), (1, .int x1), (2, .int x2), (3, .int x3)] [] T := by
  unfold c_X1_decisive_8_b at hf
  refine X.iload_n dX1_decisive_8 rfl 3 rfl ?_
  obtain ⟨v9, h9, hf⟩ := ob hf
  refine X.keep fun l9 => C.Si (As := []) (rest := [.int x3]) dX1_decisive_9 (w_X1_allParties h9) cX1_125 rfl rfl (xcs (xvI xvN) (Nat.le_of_ble_eq_true rfl)) (xD (Nat.le_of_ble_eq_true rfl)) xle.rf l9 ?_
  refine X.icmp_gt (tgt := 54) dX1_decisive_12 (by decide) (fun c12 => ?_) (fun c12 => ?_)
  · have hf := if_t c12 hf
    refine X.iload_n dX1_decisive_54 rfl 2 rfl ?_
    obtain rfl := Option.some.inj hf
    exact X.iret dX1_decisive_55 rfl rfl rfl
  · have hf := if_f c12 hf
    refine X.iload_n dX1_decisive_15 rfl 3 rfl ?_
    refine X.iload_n dX1_decisive_16 rfl 1 rfl ?_
    obtain ⟨v17, h17, hf⟩ := ob hf
    refine X.keep fun l17 => C.Si (As := [.int x3, .int x1]) (rest := []) dX1_decisive_17 (w_X1_isOf h17) cX1_241 rfl rfl (xcs xvN (Nat.le_of_ble_eq_true rfl)) (xD (Nat.le_of_ble_eq_true rfl)) xle.rf l17 ?_
    refine X.if_eq (tgt := 48) dX1_decisive_20 (by decide) (fun c20 => ?_) (fun c20 => ?_)
    · have hf := if_t c20 hf
      refine X.sub [0, 1, 2, 3] (L' := [(0, va_rf x0), (1, .int x1), (2, .int x2), (3, .int x3)]) rfl ?_
      exact c_X1_decisive_48_ok hk8 _ _ _ _ _ _ hf
    · have hf := if_f c20 hf
      refine C.aload_n dX1_decisive_23 rfl 0 rfl ?_
      refine X.iload_n dX1_decisive_24 rfl 3 rfl ?_
      obtain ⟨c25, hf⟩ := if_n hf
      obtain ⟨v25, h25, hf⟩ := ob hf
      refine X.keep fun l25 => C.Vi (As := [.int x3]) (rest := []) dX1_decisive_25 (w_X1_carries h25) cX1_250 (Classical.not_not.mp c25) rfl rfl (xcs xvN (Nat.le_of_ble_eq_true rfl)) rfl rfl (xD (Nat.le_of_ble_eq_true rfl)) xle.rf l25 ?_
      refine X.if_eq (tgt := 48) dX1_decisive_28 (by decide) (fun c28 => ?_) (fun c28 => ?_)
      · have hf := if_t c28 hf
        refine X.sub [0, 1, 2, 3] (L' := [(0, va_rf x0), (1, .int x1), (2, .int x2), (3, .int x3)]) rfl ?_
        exact c_X1_decisive_48_ok hk8 _ _ _ _ _ _ hf
      · have hf := if_f c28 hf
        refine C.aload_n dX1_decisive_31 rfl 0 rfl ?_
        refine X.iload_n dX1_decisive_32 rfl 3 rfl ?_
        refine X.iconst (v := 1) dX1_decisive_33 (by decide) ?_
        refine X.iload_n dX1_decisive_34 rfl 1 rfl ?_
        refine X.ishl dX1_decisive_35 ?_
        refine X.iconst (v := -1) dX1_decisive_36 (by decide) ?_
        refine X.ixor dX1_decisive_37 ?_
        refine X.iand dX1_decisive_38 ?_
        obtain ⟨c39, hf⟩ := if_n hf
        obtain ⟨v39, h39, hf⟩ := ob hf
        refine X.keep fun l39 => C.Vi (As := [.int (x3 &&& (((1 : Int32) <<< (x1 &&& 31)) ^^^ (-1 : Int32)))]) (rest := []) dX1_decisive_39 (w_X1_carries h39) cX1_250 (Classical.not_not.mp c39) rfl rfl (xcs xvN (Nat.le_of_ble_eq_true rfl)) rfl rfl (xD (Nat.le_of_ble_eq_true rfl)) xle.rf l39 ?_
        refine X.if_ne (tgt := 48) dX1_decisive_42 (by decide) (fun c42 => ?_) (fun c42 => ?_)
        · have hf := if_f c42 hf
          refine X.sub [0, 1, 2, 3] (L' := [(0, va_rf x0), (1, .int x1), (2, .int x2), (3, .int x3)]) rfl ?_
          exact c_X1_decisive_48_ok hk8 _ _ _ _ _ _ hf
        · have hf := if_t c42 hf
          refine C.iinc (v := (x2 + 1)) (L' := [(2, .int (x2 + 1)), (0, va_rf x0), (1, .int x1), (3, .int x3)]) dX1_decisive_45 2 rfl rfl (Nat.le_of_ble_eq_true rfl) (xcQ (xcI (xcI (xcI xcN)))) rfl ?_
          refine X.sub [1, 2, 0, 3] (L' := [(0, va_rf x0), (1, .int x1), (2, .int (x2 + 1)), (3, .int x3)]) rfl ?_
          exact c_X1_decisive_48_ok hk8 _ _ _ _ _ _ hf
theorem c_X1_decisive_8_ok {G : xG}  {T0 : xF}   : ∀ (n : Nat) (x0 : Option Nat) (x1 : Int32) (x2 : Int32) (x3 : Int32) (T : xF) (q : ((Int32 ⊕ xE) × xF)), c_X1_decisive_8 n x0 x1 x2 x3 T = some q → Xr G (mX1_decisive, xrm (10) T0 q.2, T0, xoI q.1, q.2) 8 [(0, va_rf x0), (1, .int x1), (2, .int x2), (3, .int x3)] [] T
  | 0, _, _, _, _, _, _, hf => by cases hf
  | n + 1, x0, x1, x2, x3, T, q, hf => c_X1_decisive_8_bok (c_X1_decisive_8_ok n) x0 x1 x2 x3 T q hf
def c_X1_decisive (x0 : Option Nat) (x1 : Int32) (T : xF) : Option ((Int32 ⊕ xE) × xF) :=
  clX (c_X1_aParty x1 T) T fun v1 T1 =>
  c_X1_decisive_8 FU x0 x1 (0 : Int32) (0 : Int32) T1
theorem w_X1_decisive {G : xG}  {T : xF} {x0 : Option Nat} {x1 : Int32} {q : ((Int32 ⊕ xE) × xF)} (hf : c_X1_decisive x0 x1 T = some q) : Ct G mX1_decisive (10) T [va_rf x0, .int x1] (xoI q.1) q.2 := by
  refine Ct.ofc (plainFor_of_name (by decide +kernel)) rfl (xvQ (xvI xvN)) (Nat.le_of_ble_eq_true rfl) (show Xr G _ 0 [(0, va_rf x0), (1, .int x1)] [] _ from ?_)
  unfold c_X1_decisive at hf
  refine X.iload_n dX1_decisive_0 rfl 1 rfl ?_
  rcases clX_ok hf with ⟨v1, T1, h1, hf, l1, r1⟩ | ⟨e1, T1, h1, rfl, l1⟩
  rotate_left
  · exact C.Sx (As := [.int x1]) (rest := []) dX1_decisive_1 (w_X1_aParty h1) cX1_176 rfl rfl (xcs xvN (Nat.le_of_ble_eq_true rfl)) (xD (Nat.le_of_ble_eq_true rfl)) l1 xle.rf (xnoh rfl) rfl
  refine C.Sv (As := [.int x1]) (rest := []) dX1_decisive_1 (w_X1_aParty h1) cX1_176 rfl rfl (xcs xvN (Nat.le_of_ble_eq_true rfl)) (xD (Nat.le_of_ble_eq_true rfl)) l1 r1 ?_
  refine X.iconst (v := 0) dX1_decisive_4 (by decide) ?_
  refine C.ist_n (L' := [(2, .int (0 : Int32)), (0, va_rf x0), (1, .int x1)]) dX1_decisive_5 rfl (Nat.le_of_ble_eq_true rfl) (xcQ (xcI xcN)) rfl ?_
  refine X.iconst (v := 0) dX1_decisive_6 (by decide) ?_
  refine C.ist_n (L' := [(3, .int (0 : Int32)), (2, .int (0 : Int32)), (0, va_rf x0), (1, .int x1)]) dX1_decisive_7 rfl (Nat.le_of_ble_eq_true rfl) (xcI (xcQ (xcI xcN))) rfl ?_
  refine X.sub [2, 3, 1, 0] (L' := [(0, va_rf x0), (1, .int x1), (2, .int (0 : Int32)), (3, .int (0 : Int32))]) rfl ?_
  exact c_X1_decisive_8_ok FU _ _ _ _ _ _ hf
/-! MouldVotes frost -/
abbrev cX1_frost : ByteArray := prog_1_method_35_code
def yX1_frost : MethodName := ⟨RX1, "frost", "(II)I"⟩
def dkwX1_frost_1 : List UInt8 := [182, 0, 213, 182, 0, 223, 42, 180, 0, 35, 28, 182, 0, 199, 27, 182, 0, 179, 172]
abbrev dktX1_frost_1 : List UInt8 := dkwX1_frost_1 ++ []
def dkwX1_frost_0 : List UInt8 := [27, 184, 0, 176, 28, 3, 16, 40, 184, 0, 134, 184, 0, 65, 42, 180, 0, 35, 42, 180, 0, 38]
abbrev dktX1_frost_0 : List UInt8 := dkwX1_frost_0 ++ dktX1_frost_1
theorem dksX1_frost_0 : cX1_frost.data.toList.drop 0 = dktX1_frost_0 := by decide +kernel
theorem dksX1_frost_1 : cX1_frost.data.toList.drop 22 = dktX1_frost_1 := dk_seg dksX1_frost_0 22 rfl rfl
theorem dX1_frost_0 : decode cX1_frost 0 = .ok (.iload_n 1, 1) := dk_27 (dk_at dksX1_frost_0 0 rfl rfl)
theorem dX1_frost_1 : decode cX1_frost 1 = .ok (.invokestatic 176, 3) := dk_184 0 176 (dk_at dksX1_frost_0 1 rfl rfl)
theorem dX1_frost_4 : decode cX1_frost 4 = .ok (.iload_n 2, 1) := dk_28 (dk_at dksX1_frost_0 4 rfl rfl)
theorem dX1_frost_5 : decode cX1_frost 5 = .ok (.iconst 0, 1) := dk_3 (dk_at dksX1_frost_0 5 rfl rfl)
theorem dX1_frost_6 : decode cX1_frost 6 = .ok (.bipush 40, 2) := dk_16 40 (dk_at dksX1_frost_0 6 rfl rfl)
theorem dX1_frost_8 : decode cX1_frost 8 = .ok (.invokestatic 134, 3) := dk_184 0 134 (dk_at dksX1_frost_0 8 rfl rfl)
theorem dX1_frost_11 : decode cX1_frost 11 = .ok (.invokestatic 65, 3) := dk_184 0 65 (dk_at dksX1_frost_0 11 rfl rfl)
theorem dX1_frost_14 : decode cX1_frost 14 = .ok (.aload_n 0, 1) := dk_42 (dk_at dksX1_frost_0 14 rfl rfl)
theorem dX1_frost_15 : decode cX1_frost 15 = .ok (.getfield 35, 3) := dk_180 0 35 (dk_at dksX1_frost_0 15 rfl rfl)
theorem dX1_frost_18 : decode cX1_frost 18 = .ok (.aload_n 0, 1) := dk_42 (dk_at dksX1_frost_0 18 rfl rfl)
theorem dX1_frost_19 : decode cX1_frost 19 = .ok (.getfield 38, 3) := dk_180 0 38 (dk_at dksX1_frost_0 19 rfl rfl)
theorem dX1_frost_22 : decode cX1_frost 22 = .ok (.invokevirtual 213, 3) := dk_182 0 213 (dk_at dksX1_frost_1 0 rfl rfl)
theorem dX1_frost_25 : decode cX1_frost 25 = .ok (.invokevirtual 223, 3) := dk_182 0 223 (dk_at dksX1_frost_1 3 rfl rfl)
theorem dX1_frost_28 : decode cX1_frost 28 = .ok (.aload_n 0, 1) := dk_42 (dk_at dksX1_frost_1 6 rfl rfl)
theorem dX1_frost_29 : decode cX1_frost 29 = .ok (.getfield 35, 3) := dk_180 0 35 (dk_at dksX1_frost_1 7 rfl rfl)
theorem dX1_frost_32 : decode cX1_frost 32 = .ok (.iload_n 2, 1) := dk_28 (dk_at dksX1_frost_1 10 rfl rfl)
theorem dX1_frost_33 : decode cX1_frost 33 = .ok (.invokevirtual 199, 3) := dk_182 0 199 (dk_at dksX1_frost_1 11 rfl rfl)
theorem dX1_frost_36 : decode cX1_frost 36 = .ok (.iload_n 1, 1) := dk_27 (dk_at dksX1_frost_1 14 rfl rfl)
theorem dX1_frost_37 : decode cX1_frost 37 = .ok (.invokevirtual 179, 3) := dk_182 0 179 (dk_at dksX1_frost_1 15 rfl rfl)
theorem dX1_frost_40 : decode cX1_frost 40 = .ok (.ireturn, 1) := dk_172 (dk_at dksX1_frost_1 18 rfl rfl)
abbrev mX1_frost : xM := (yX1_frost, cX1_frost, 3, (some .int), [])
def c_X1_frost (G : xG) (x0 : Option Nat) (x1 : Int32) (x2 : Int32) (T : xF) : Option ((Int32 ⊕ xE) × xF) :=
  clX (c_X1_aParty x1 T) T fun v1 T1 =>
  (c_X1_in x2 (0 : Int32) (40 : Int32)).bind fun v8 =>
  clX (c_X1_right v8 T1) T1 fun v11 T11 =>
  (oQ T11 x0 0 3).bind fun v15 =>
  (oQ T11 x0 0 4).bind fun v19 =>
  if ¬ isO T11 v15 2 = true then none else
  cl (c_X3_be v15 v19 T11) T11 fun v22 T22 =>
  if ¬ isO T22 v22 2 = true then none else
  cl (c_X3_frost v22 T22) T22 fun v25 T25 =>
  (oQ T25 x0 0 3).bind fun v29 =>
  if ¬ isO T25 v29 2 = true then none else
  cl (c_X3_after G v29 x2 T25) T25 fun v33 T33 =>
  if ¬ isO T33 v33 2 = true then none else
  (c_X3_votes T33 v33 x1).bind fun v37 =>
  some (.inl v37, T33)
theorem w_X1_frost {G : xG}  {T : xF} {x0 : Option Nat} {x1 : Int32} {x2 : Int32} {q : ((Int32 ⊕ xE) × xF)} (hf : c_X1_frost G x0 x1 x2 T = some q) : Ct G mX1_frost (126) T [va_rf x0, .int x1, .int x2] (xoI q.1) q.2 := by
  refine Ct.ofc (plainFor_of_name (by decide +kernel)) rfl (xvQ (xvI (xvI xvN))) (Nat.le_of_ble_eq_true rfl) (show Xr G _ 0 [(0, va_rf x0), (1, .int x1), (2, .int x2)] [] _ from ?_)
  unfold c_X1_frost at hf
  refine X.iload_n dX1_frost_0 rfl 1 rfl ?_
  rcases clX_ok hf with ⟨v1, T1, h1, hf, l1, r1⟩ | ⟨e1, T1, h1, rfl, l1⟩
  rotate_left
  · exact C.Sx (As := [.int x1]) (rest := []) dX1_frost_1 (w_X1_aParty h1) cX1_176 rfl rfl (xcs xvN (Nat.le_of_ble_eq_true rfl)) (xD (Nat.le_of_ble_eq_true rfl)) l1 xle.rf (xnoh rfl) rfl
  refine C.Sv (As := [.int x1]) (rest := []) dX1_frost_1 (w_X1_aParty h1) cX1_176 rfl rfl (xcs xvN (Nat.le_of_ble_eq_true rfl)) (xD (Nat.le_of_ble_eq_true rfl)) l1 r1 ?_
  refine X.iload_n dX1_frost_4 rfl 2 rfl ?_
  refine X.iconst (v := 0) dX1_frost_5 (by decide) ?_
  refine X.bipush (v := 40) dX1_frost_6 (by decide) ?_
  obtain ⟨v8, h8, hf⟩ := ob hf
  refine X.keep fun l8 => C.Si (As := [.int x2, .int (0 : Int32), .int (40 : Int32)]) (rest := []) dX1_frost_8 (w_X1_in h8) cX1_134 rfl rfl (xcs xvN (Nat.le_of_ble_eq_true rfl)) (xD (Nat.le_of_ble_eq_true rfl)) xle.rf l8 ?_
  rcases clX_ok hf with ⟨v11, T11, h11, hf, l11, r11⟩ | ⟨e11, T11, h11, rfl, l11⟩
  rotate_left
  · exact C.Sx (As := [.int v8]) (rest := []) dX1_frost_11 (w_X1_right h11) cX1_65 rfl rfl (xcs xvN (Nat.le_of_ble_eq_true rfl)) (xD (Nat.le_of_ble_eq_true rfl)) l11 xle.rf (xnoh rfl) rfl
  refine C.Sv (As := [.int v8]) (rest := []) dX1_frost_11 (w_X1_right h11) cX1_65 rfl rfl (xcs xvN (Nat.le_of_ble_eq_true rfl)) (xD (Nat.le_of_ble_eq_true rfl)) l11 r11 ?_
  refine C.aload_n dX1_frost_14 rfl 0 rfl ?_
  obtain ⟨v15, h15, hf⟩ := ob hf
  refine C.getQ dX1_frost_15 rX1_35 h15 ?_
  refine C.aload_n dX1_frost_18 rfl 0 rfl ?_
  obtain ⟨v19, h19, hf⟩ := ob hf
  refine C.getQ dX1_frost_19 rX1_38 h19 ?_
  obtain ⟨c22, hf⟩ := if_n hf
  obtain ⟨v22, T22, h22, hf, l22, r22⟩ := cl_ok hf
  refine C.Vq (As := [va_rf v19]) (rest := []) dX1_frost_22 (w_X3_be h22) cX1_213 (Classical.not_not.mp c22) rfl rfl (xcs xvN (Nat.le_of_ble_eq_true rfl)) rfl rfl (xD (Nat.le_of_ble_eq_true rfl)) l22 r22 ?_
  obtain ⟨c25, hf⟩ := if_n hf
  obtain ⟨v25, T25, h25, hf, l25, r25⟩ := cl_ok hf
  refine C.Vv (As := []) (rest := []) dX1_frost_25 (w_X3_frost h25) cX1_223 (Classical.not_not.mp c25) rfl rfl (xcs xvN (Nat.le_of_ble_eq_true rfl)) rfl rfl (xD (Nat.le_of_ble_eq_true rfl)) l25 r25 ?_
  refine C.aload_n dX1_frost_28 rfl 0 rfl ?_
  obtain ⟨v29, h29, hf⟩ := ob hf
  refine C.getQ dX1_frost_29 rX1_35 h29 ?_
  refine X.iload_n dX1_frost_32 rfl 2 rfl ?_
  obtain ⟨c33, hf⟩ := if_n hf
  obtain ⟨v33, T33, h33, hf, l33, r33⟩ := cl_ok hf
  refine C.Vq (As := [.int x2]) (rest := []) dX1_frost_33 (w_X3_after h33) cX1_199 (Classical.not_not.mp c33) rfl rfl (xcs xvN (Nat.le_of_ble_eq_true rfl)) rfl rfl (xD (Nat.le_of_ble_eq_true rfl)) l33 r33 ?_
  refine X.iload_n dX1_frost_36 rfl 1 rfl ?_
  obtain ⟨c37, hf⟩ := if_n hf
  obtain ⟨v37, h37, hf⟩ := ob hf
  refine X.keep fun l37 => C.Vi (As := [.int x1]) (rest := []) dX1_frost_37 (w_X3_votes h37) cX1_179 (Classical.not_not.mp c37) rfl rfl (xcs xvN (Nat.le_of_ble_eq_true rfl)) rfl rfl (xD (Nat.le_of_ble_eq_true rfl)) xle.rf l37 ?_
  obtain rfl := Option.some.inj hf
  exact X.iret dX1_frost_40 rfl rfl rfl
/-! MouldVotes best -/
abbrev cX1_best : ByteArray := prog_1_method_34_code
def yX1_best : MethodName := ⟨RX1, "best", "(II)I"⟩
def dkwX1_best_4 : List UInt8 := [132, 5, 1, 167, 255, 192, 29, 172]
abbrev dktX1_best_4 : List UInt8 := dkwX1_best_4 ++ []
def dkwX1_best_3 : List UInt8 := [182, 0, 179, 54, 6, 21, 6, 21, 4, 163, 0, 6, 167, 0, 10, 21, 5, 62, 21, 6, 54, 4]
abbrev dktX1_best_3 : List UInt8 := dkwX1_best_3 ++ dktX1_best_4
def dkwX1_best_2 : List UInt8 := [42, 180, 0, 38, 182, 0, 213, 21, 5, 16, 20, 182, 0, 203, 42, 180, 0, 35, 28, 182, 0, 199, 27]
abbrev dktX1_best_2 : List UInt8 := dkwX1_best_2 ++ dktX1_best_3
def dkwX1_best_1 : List UInt8 := [182, 0, 179, 54, 4, 3, 54, 5, 21, 5, 42, 180, 0, 22, 182, 0, 92, 162, 0, 58, 42, 180, 0, 35]
abbrev dktX1_best_1 : List UInt8 := dkwX1_best_1 ++ dktX1_best_2
def dkwX1_best_0 : List UInt8 := [27, 184, 0, 176, 28, 4, 16, 40, 184, 0, 134, 184, 0, 65, 2, 62, 42, 28, 182, 0, 217, 27]
abbrev dktX1_best_0 : List UInt8 := dkwX1_best_0 ++ dktX1_best_1
theorem dksX1_best_0 : cX1_best.data.toList.drop 0 = dktX1_best_0 := by decide +kernel
theorem dksX1_best_1 : cX1_best.data.toList.drop 22 = dktX1_best_1 := dk_seg dksX1_best_0 22 rfl rfl
theorem dksX1_best_2 : cX1_best.data.toList.drop 46 = dktX1_best_2 := dk_seg dksX1_best_1 24 rfl rfl
theorem dksX1_best_3 : cX1_best.data.toList.drop 69 = dktX1_best_3 := dk_seg dksX1_best_2 23 rfl rfl
theorem dksX1_best_4 : cX1_best.data.toList.drop 91 = dktX1_best_4 := dk_seg dksX1_best_3 22 rfl rfl
theorem dX1_best_0 : decode cX1_best 0 = .ok (.iload_n 1, 1) := dk_27 (dk_at dksX1_best_0 0 rfl rfl)
theorem dX1_best_1 : decode cX1_best 1 = .ok (.invokestatic 176, 3) := dk_184 0 176 (dk_at dksX1_best_0 1 rfl rfl)
theorem dX1_best_4 : decode cX1_best 4 = .ok (.iload_n 2, 1) := dk_28 (dk_at dksX1_best_0 4 rfl rfl)
theorem dX1_best_5 : decode cX1_best 5 = .ok (.iconst 1, 1) := dk_4 (dk_at dksX1_best_0 5 rfl rfl)
theorem dX1_best_6 : decode cX1_best 6 = .ok (.bipush 40, 2) := dk_16 40 (dk_at dksX1_best_0 6 rfl rfl)
theorem dX1_best_8 : decode cX1_best 8 = .ok (.invokestatic 134, 3) := dk_184 0 134 (dk_at dksX1_best_0 8 rfl rfl)
theorem dX1_best_11 : decode cX1_best 11 = .ok (.invokestatic 65, 3) := dk_184 0 65 (dk_at dksX1_best_0 11 rfl rfl)
theorem dX1_best_14 : decode cX1_best 14 = .ok (.iconst (-1), 1) := dk_2 (dk_at dksX1_best_0 14 rfl rfl)
theorem dX1_best_15 : decode cX1_best 15 = .ok (.istore_n 3, 1) := dk_62 (dk_at dksX1_best_0 15 rfl rfl)
theorem dX1_best_16 : decode cX1_best 16 = .ok (.aload_n 0, 1) := dk_42 (dk_at dksX1_best_0 16 rfl rfl)
theorem dX1_best_17 : decode cX1_best 17 = .ok (.iload_n 2, 1) := dk_28 (dk_at dksX1_best_0 17 rfl rfl)
theorem dX1_best_18 : decode cX1_best 18 = .ok (.invokevirtual 217, 3) := dk_182 0 217 (dk_at dksX1_best_0 18 rfl rfl)
theorem dX1_best_21 : decode cX1_best 21 = .ok (.iload_n 1, 1) := dk_27 (dk_at dksX1_best_0 21 rfl rfl)
theorem dX1_best_22 : decode cX1_best 22 = .ok (.invokevirtual 179, 3) := dk_182 0 179 (dk_at dksX1_best_1 0 rfl rfl)
theorem dX1_best_25 : decode cX1_best 25 = .ok (.istore 4, 2) := dk_54 4 (dk_at dksX1_best_1 3 rfl rfl)
theorem dX1_best_27 : decode cX1_best 27 = .ok (.iconst 0, 1) := dk_3 (dk_at dksX1_best_1 5 rfl rfl)
theorem dX1_best_28 : decode cX1_best 28 = .ok (.istore 5, 2) := dk_54 5 (dk_at dksX1_best_1 6 rfl rfl)
theorem dX1_best_30 : decode cX1_best 30 = .ok (.iload 5, 2) := dk_21 5 (dk_at dksX1_best_1 8 rfl rfl)
theorem dX1_best_32 : decode cX1_best 32 = .ok (.aload_n 0, 1) := dk_42 (dk_at dksX1_best_1 10 rfl rfl)
theorem dX1_best_33 : decode cX1_best 33 = .ok (.getfield 22, 3) := dk_180 0 22 (dk_at dksX1_best_1 11 rfl rfl)
theorem dX1_best_36 : decode cX1_best 36 = .ok (.invokevirtual 92, 3) := dk_182 0 92 (dk_at dksX1_best_1 14 rfl rfl)
theorem dX1_best_39 : decode cX1_best 39 = .ok (.if_icmp .ge 58, 3) := dk_162 0 58 (dk_at dksX1_best_1 17 rfl rfl)
theorem dX1_best_42 : decode cX1_best 42 = .ok (.aload_n 0, 1) := dk_42 (dk_at dksX1_best_1 20 rfl rfl)
theorem dX1_best_43 : decode cX1_best 43 = .ok (.getfield 35, 3) := dk_180 0 35 (dk_at dksX1_best_1 21 rfl rfl)
theorem dX1_best_46 : decode cX1_best 46 = .ok (.aload_n 0, 1) := dk_42 (dk_at dksX1_best_2 0 rfl rfl)
theorem dX1_best_47 : decode cX1_best 47 = .ok (.getfield 38, 3) := dk_180 0 38 (dk_at dksX1_best_2 1 rfl rfl)
theorem dX1_best_50 : decode cX1_best 50 = .ok (.invokevirtual 213, 3) := dk_182 0 213 (dk_at dksX1_best_2 4 rfl rfl)
theorem dX1_best_53 : decode cX1_best 53 = .ok (.iload 5, 2) := dk_21 5 (dk_at dksX1_best_2 7 rfl rfl)
theorem dX1_best_55 : decode cX1_best 55 = .ok (.bipush 20, 2) := dk_16 20 (dk_at dksX1_best_2 9 rfl rfl)
theorem dX1_best_57 : decode cX1_best 57 = .ok (.invokevirtual 203, 3) := dk_182 0 203 (dk_at dksX1_best_2 11 rfl rfl)
theorem dX1_best_60 : decode cX1_best 60 = .ok (.aload_n 0, 1) := dk_42 (dk_at dksX1_best_2 14 rfl rfl)
theorem dX1_best_61 : decode cX1_best 61 = .ok (.getfield 35, 3) := dk_180 0 35 (dk_at dksX1_best_2 15 rfl rfl)
theorem dX1_best_64 : decode cX1_best 64 = .ok (.iload_n 2, 1) := dk_28 (dk_at dksX1_best_2 18 rfl rfl)
theorem dX1_best_65 : decode cX1_best 65 = .ok (.invokevirtual 199, 3) := dk_182 0 199 (dk_at dksX1_best_2 19 rfl rfl)
theorem dX1_best_68 : decode cX1_best 68 = .ok (.iload_n 1, 1) := dk_27 (dk_at dksX1_best_2 22 rfl rfl)
theorem dX1_best_69 : decode cX1_best 69 = .ok (.invokevirtual 179, 3) := dk_182 0 179 (dk_at dksX1_best_3 0 rfl rfl)
theorem dX1_best_72 : decode cX1_best 72 = .ok (.istore 6, 2) := dk_54 6 (dk_at dksX1_best_3 3 rfl rfl)
theorem dX1_best_74 : decode cX1_best 74 = .ok (.iload 6, 2) := dk_21 6 (dk_at dksX1_best_3 5 rfl rfl)
theorem dX1_best_76 : decode cX1_best 76 = .ok (.iload 4, 2) := dk_21 4 (dk_at dksX1_best_3 7 rfl rfl)
theorem dX1_best_78 : decode cX1_best 78 = .ok (.if_icmp .gt 6, 3) := dk_163 0 6 (dk_at dksX1_best_3 9 rfl rfl)
theorem dX1_best_81 : decode cX1_best 81 = .ok (.goto 10, 3) := dk_167 0 10 (dk_at dksX1_best_3 12 rfl rfl)
theorem dX1_best_84 : decode cX1_best 84 = .ok (.iload 5, 2) := dk_21 5 (dk_at dksX1_best_3 15 rfl rfl)
theorem dX1_best_86 : decode cX1_best 86 = .ok (.istore_n 3, 1) := dk_62 (dk_at dksX1_best_3 17 rfl rfl)
theorem dX1_best_87 : decode cX1_best 87 = .ok (.iload 6, 2) := dk_21 6 (dk_at dksX1_best_3 18 rfl rfl)
theorem dX1_best_89 : decode cX1_best 89 = .ok (.istore 4, 2) := dk_54 4 (dk_at dksX1_best_3 20 rfl rfl)
theorem dX1_best_91 : decode cX1_best 91 = .ok (.iinc 5 1, 3) := dk_132 5 1 (dk_at dksX1_best_4 0 rfl rfl)
theorem dX1_best_94 : decode cX1_best 94 = .ok (.goto (-64), 3) := dk_167 255 192 (dk_at dksX1_best_4 3 rfl rfl)
theorem dX1_best_97 : decode cX1_best 97 = .ok (.iload_n 3, 1) := dk_29 (dk_at dksX1_best_4 6 rfl rfl)
theorem dX1_best_98 : decode cX1_best 98 = .ok (.ireturn, 1) := dk_172 (dk_at dksX1_best_4 7 rfl rfl)
abbrev mX1_best : xM := (yX1_best, cX1_best, 7, (some .int), [])
def c_X1_best_91 (G : xG) (k30 : Option Nat → Int32 → Int32 → Int32 → Int32 → Int32 → xF → Option ((Int32 ⊕ xE) × xF)) (x0 : Option Nat) (x1 : Int32) (x2 : Int32) (x3 : Int32) (x4 : Int32) (x5 : Int32) (T : xF) : Option ((Int32 ⊕ xE) × xF) :=
  k30 x0 x1 x2 x3 x4 (x5 + 1) T
theorem c_X1_best_91_ok {G : xG}  {T0 : xF} {k30 : Option Nat → Int32 → Int32 → Int32 → Int32 → Int32 → xF → Option ((Int32 ⊕ xE) × xF)} (hk30 : ∀ (x0 : Option Nat) (x1 : Int32) (x2 : Int32) (x3 : Int32) (x4 : Int32) (x5 : Int32) (T : xF) (q : ((Int32 ⊕ xE) × xF)), k30 x0 x1 x2 x3 x4 x5 T = some q → Xr G (mX1_best, xrm (127) T0 q.2, T0, xoI q.1, q.2) 30 [(0, va_rf x0), (1, .int x1), (2, .int x2), (3, .int x3), (4, .int x4), (5, .int x5)] [] T) (x0 : Option Nat) (x1 : Int32) (x2 : Int32) (x3 : Int32) (x4 : Int32) (x5 : Int32) (T : xF) (q : ((Int32 ⊕ xE) × xF)) (hf : c_X1_best_91 G k30 x0 x1 x2 x3 x4 x5 T = some q) : Xr G (mX1_best, xrm (127) T0 q.2, T0, xoI q.1, q.2) 91 [(0, va_rf x0), (1, .int x1), (2, .int x2), (3, .int x3), (4, .int x4), (5, .int x5)] [] T := by
  unfold c_X1_best_91 at hf
  refine C.iinc (v := (x5 + 1)) (L' := [(5, .int (x5 + 1)), (0, va_rf x0), (1, .int x1), (2, .int x2), (3, .int x3), (4, .int x4)]) dX1_best_91 5 rfl rfl (Nat.le_of_ble_eq_true rfl) (xcQ (xcI (xcI (xcI (xcI (xcI xcN)))))) rfl ?_
  refine X.goto (tgt := 30) dX1_best_94 (by decide) ?_
  refine X.sub [1, 2, 3, 4, 5, 0] (L' := [(0, va_rf x0), (1, .int x1), (2, .int x2), (3, .int x3), (4, .int x4), (5, .int (x5 + 1))]) rfl ?_
  exact hk30 _ _ _ _ _ _ _ _ hf
def c_X1_best_30_b (G : xG) (k30 : Option Nat → Int32 → Int32 → Int32 → Int32 → Int32 → xF → Option ((Int32 ⊕ xE) × xF)) (x0 : Option Nat) (x1 : Int32) (x2 : Int32) (x3 : Int32) (x4 : Int32) (x5 : Int32) (T : xF) : Option ((Int32 ⊕ xE) × xF) :=
  (oQ T x0 0 1).bind fun v33 =>
  if ¬ isO T v33 1 = true then none else
  (c_X2_cells T v33).bind fun v36 =>
  if v36 ≤ x5 then
    some (.inl x3, T)
  else
    (oQ T x0 0 3).bind fun v43 =>
    (oQ T x0 0 4).bind fun v47 =>
    if ¬ isO T v43 2 = true then none else
    cl (c_X3_be v43 v47 T) T fun v50 T50 =>
    if ¬ isO T50 v50 2 = true then none else
    cl (c_X3_feed v50 x5 (20 : Int32) T50) T50 fun v57 T57 =>
    (oQ T57 x0 0 3).bind fun v61 =>
    if ¬ isO T57 v61 2 = true then none else
    cl (c_X3_after G v61 x2 T57) T57 fun v65 T65 =>
    if ¬ isO T65 v65 2 = true then none else
    (c_X3_votes T65 v65 x1).bind fun v69 =>
    if x4 < v69 then
      c_X1_best_91 G k30 x0 x1 x2 x5 v69 x5 T65
    else
      c_X1_best_91 G k30 x0 x1 x2 x3 x4 x5 T65
def c_X1_best_30 (G : xG) : Nat → Option Nat → Int32 → Int32 → Int32 → Int32 → Int32 → xF → Option ((Int32 ⊕ xE) × xF)
  | 0 => fun _ _ _ _ _ _ _ => none
  | n + 1 => fun x0 x1 x2 x3 x4 x5 T => c_X1_best_30_b G (c_X1_best_30 G n) x0 x1 x2 x3 x4 x5 T
theorem c_X1_best_30_bok {G : xG}  {T0 : xF}  {k30 : Option Nat → Int32 → Int32 → Int32 → Int32 → Int32 → xF → Option ((Int32 ⊕ xE) × xF)}  (hk30 : ∀ (x0 : Option Nat) (x1 : Int32) (x2 : Int32) (x3 : Int32) (x4 : Int32) (x5 : Int32) (T : xF) (q : ((Int32 ⊕ xE) × xF)), k30 x0 x1 x2 x3 x4 x5 T = some q → Xr G (mX1_best, xrm (127) T0 q.2, T0, xoI q.1, q.2) 30 [(0, va_rf x0), (1, .int x1), (2, .int x2), (3, .int x3), (4, .int x4), (5, .int x5)] [] T) (x0 : Option Nat) (x1 : Int32) (x2 : Int32) (x3 : Int32) (x4 : Int32) (x5 : Int32) (T : xF) (q : ((Int32 ⊕ xE) × xF)) (hf : c_X1_best_30_b G k30 x0 x1 x2 x3 x4 x5 T = some q) : Xr G (mX1_best, xrm (127) T0 q.2, T0, xoI q.1, q.2) 30 [(0, va_rf x0), (1, .int x1), (2, .int x2), (3, .int x3), (4, .int x4), (5, .int x5)] [] T := by
  unfold c_X1_best_30_b at hf
  refine X.iload dX1_best_30 5 rfl ?_
  refine C.aload_n dX1_best_32 rfl 0 rfl ?_
  obtain ⟨v33, h33, hf⟩ := ob hf
  refine C.getQ dX1_best_33 rX1_22 h33 ?_
  obtain ⟨c36, hf⟩ := if_n hf
  obtain ⟨v36, h36, hf⟩ := ob hf
  refine X.keep fun l36 => C.Vi (As := []) (rest := [.int x5]) dX1_best_36 (w_X2_cells h36) cX1_92 (Classical.not_not.mp c36) rfl rfl (xcs (xvI xvN) (Nat.le_of_ble_eq_true rfl)) rfl rfl (xD (Nat.le_of_ble_eq_true rfl)) xle.rf l36 ?_
  refine X.icmp_ge (tgt := 97) dX1_best_39 (by decide) (fun c39 => ?_) (fun c39 => ?_)
  · have hf := if_t c39 hf
    refine X.iload_n dX1_best_97 rfl 3 rfl ?_
    obtain rfl := Option.some.inj hf
    exact X.iret dX1_best_98 rfl rfl rfl
  · have hf := if_f c39 hf
    refine C.aload_n dX1_best_42 rfl 0 rfl ?_
    obtain ⟨v43, h43, hf⟩ := ob hf
    refine C.getQ dX1_best_43 rX1_35 h43 ?_
    refine C.aload_n dX1_best_46 rfl 0 rfl ?_
    obtain ⟨v47, h47, hf⟩ := ob hf
    refine C.getQ dX1_best_47 rX1_38 h47 ?_
    obtain ⟨c50, hf⟩ := if_n hf
    obtain ⟨v50, T50, h50, hf, l50, r50⟩ := cl_ok hf
    refine C.Vq (As := [va_rf v47]) (rest := []) dX1_best_50 (w_X3_be h50) cX1_213 (Classical.not_not.mp c50) rfl rfl (xcs xvN (Nat.le_of_ble_eq_true rfl)) rfl rfl (xD (Nat.le_of_ble_eq_true rfl)) l50 r50 ?_
    refine X.iload dX1_best_53 5 rfl ?_
    refine X.bipush (v := 20) dX1_best_55 (by decide) ?_
    obtain ⟨c57, hf⟩ := if_n hf
    obtain ⟨v57, T57, h57, hf, l57, r57⟩ := cl_ok hf
    refine C.Vv (As := [.int x5, .int (20 : Int32)]) (rest := []) dX1_best_57 (w_X3_feed h57) cX1_203 (Classical.not_not.mp c57) rfl rfl (xcs xvN (Nat.le_of_ble_eq_true rfl)) rfl rfl (xD (Nat.le_of_ble_eq_true rfl)) l57 r57 ?_
    refine C.aload_n dX1_best_60 rfl 0 rfl ?_
    obtain ⟨v61, h61, hf⟩ := ob hf
    refine C.getQ dX1_best_61 rX1_35 h61 ?_
    refine X.iload_n dX1_best_64 rfl 2 rfl ?_
    obtain ⟨c65, hf⟩ := if_n hf
    obtain ⟨v65, T65, h65, hf, l65, r65⟩ := cl_ok hf
    refine C.Vq (As := [.int x2]) (rest := []) dX1_best_65 (w_X3_after h65) cX1_199 (Classical.not_not.mp c65) rfl rfl (xcs xvN (Nat.le_of_ble_eq_true rfl)) rfl rfl (xD (Nat.le_of_ble_eq_true rfl)) l65 r65 ?_
    refine X.iload_n dX1_best_68 rfl 1 rfl ?_
    obtain ⟨c69, hf⟩ := if_n hf
    obtain ⟨v69, h69, hf⟩ := ob hf
    refine X.keep fun l69 => C.Vi (As := [.int x1]) (rest := []) dX1_best_69 (w_X3_votes h69) cX1_179 (Classical.not_not.mp c69) rfl rfl (xcs xvN (Nat.le_of_ble_eq_true rfl)) rfl rfl (xD (Nat.le_of_ble_eq_true rfl)) xle.rf l69 ?_
    refine C.ist (L' := [(6, .int v69), (0, va_rf x0), (1, .int x1), (2, .int x2), (3, .int x3), (4, .int x4), (5, .int x5)]) dX1_best_72 (Nat.le_of_ble_eq_true rfl) (xcQ (xcI (xcI (xcI (xcI (xcI xcN)))))) rfl ?_
    refine X.iload dX1_best_74 0 rfl ?_
    refine X.iload dX1_best_76 5 rfl ?_
    refine X.icmp_gt (tgt := 84) dX1_best_78 (by decide) (fun c78 => ?_) (fun c78 => ?_)
    · have hf := if_t c78 hf
      refine X.iload dX1_best_84 6 rfl ?_
      refine C.ist_n (L' := [(3, .int x5), (6, .int v69), (0, va_rf x0), (1, .int x1), (2, .int x2), (4, .int x4), (5, .int x5)]) dX1_best_86 rfl (Nat.le_of_ble_eq_true rfl) (xcI (xcQ (xcI (xcI (xcI (xcI (xcI xcN))))))) rfl ?_
      refine X.iload dX1_best_87 1 rfl ?_
      refine C.ist (L' := [(4, .int v69), (3, .int x5), (6, .int v69), (0, va_rf x0), (1, .int x1), (2, .int x2), (5, .int x5)]) dX1_best_89 (Nat.le_of_ble_eq_true rfl) (xcI (xcI (xcQ (xcI (xcI (xcI (xcI xcN))))))) rfl ?_
      refine X.sub [3, 4, 5, 1, 0, 6] (L' := [(0, va_rf x0), (1, .int x1), (2, .int x2), (3, .int x5), (4, .int v69), (5, .int x5)]) rfl ?_
      exact c_X1_best_91_ok hk30 _ _ _ _ _ _ _ _ hf
    · have hf := if_f c78 hf
      refine X.goto (tgt := 91) dX1_best_81 (by decide) ?_
      refine X.sub [1, 2, 3, 4, 5, 6] (L' := [(0, va_rf x0), (1, .int x1), (2, .int x2), (3, .int x3), (4, .int x4), (5, .int x5)]) rfl ?_
      exact c_X1_best_91_ok hk30 _ _ _ _ _ _ _ _ hf
theorem c_X1_best_30_ok {G : xG}  {T0 : xF}   : ∀ (n : Nat) (x0 : Option Nat) (x1 : Int32) (x2 : Int32) (x3 : Int32) (x4 : Int32) (x5 : Int32) (T : xF) (q : ((Int32 ⊕ xE) × xF)), c_X1_best_30 G n x0 x1 x2 x3 x4 x5 T = some q → Xr G (mX1_best, xrm (127) T0 q.2, T0, xoI q.1, q.2) 30 [(0, va_rf x0), (1, .int x1), (2, .int x2), (3, .int x3), (4, .int x4), (5, .int x5)] [] T
  | 0, _, _, _, _, _, _, _, _, hf => by cases hf
  | n + 1, x0, x1, x2, x3, x4, x5, T, q, hf => c_X1_best_30_bok (c_X1_best_30_ok n) x0 x1 x2 x3 x4 x5 T q hf
def c_X1_best (G : xG) (x0 : Option Nat) (x1 : Int32) (x2 : Int32) (T : xF) : Option ((Int32 ⊕ xE) × xF) :=
  clX (c_X1_aParty x1 T) T fun v1 T1 =>
  (c_X1_in x2 (1 : Int32) (40 : Int32)).bind fun v8 =>
  clX (c_X1_right v8 T1) T1 fun v11 T11 =>
  if ¬ isO T11 x0 0 = true then none else
  cl (c_X1_later G x0 x2 T11) T11 fun v18 T18 =>
  if ¬ isO T18 v18 2 = true then none else
  (c_X3_votes T18 v18 x1).bind fun v22 =>
  c_X1_best_30 G FU x0 x1 x2 (-1 : Int32) v22 (0 : Int32) T18
theorem w_X1_best {G : xG}  {T : xF} {x0 : Option Nat} {x1 : Int32} {x2 : Int32} {q : ((Int32 ⊕ xE) × xF)} (hf : c_X1_best G x0 x1 x2 T = some q) : Ct G mX1_best (127) T [va_rf x0, .int x1, .int x2] (xoI q.1) q.2 := by
  refine Ct.ofc (plainFor_of_name (by decide +kernel)) rfl (xvQ (xvI (xvI xvN))) (Nat.le_of_ble_eq_true rfl) (show Xr G _ 0 [(0, va_rf x0), (1, .int x1), (2, .int x2)] [] _ from ?_)
  unfold c_X1_best at hf
  refine X.iload_n dX1_best_0 rfl 1 rfl ?_
  rcases clX_ok hf with ⟨v1, T1, h1, hf, l1, r1⟩ | ⟨e1, T1, h1, rfl, l1⟩
  rotate_left
  · exact C.Sx (As := [.int x1]) (rest := []) dX1_best_1 (w_X1_aParty h1) cX1_176 rfl rfl (xcs xvN (Nat.le_of_ble_eq_true rfl)) (xD (Nat.le_of_ble_eq_true rfl)) l1 xle.rf (xnoh rfl) rfl
  refine C.Sv (As := [.int x1]) (rest := []) dX1_best_1 (w_X1_aParty h1) cX1_176 rfl rfl (xcs xvN (Nat.le_of_ble_eq_true rfl)) (xD (Nat.le_of_ble_eq_true rfl)) l1 r1 ?_
  refine X.iload_n dX1_best_4 rfl 2 rfl ?_
  refine X.iconst (v := 1) dX1_best_5 (by decide) ?_
  refine X.bipush (v := 40) dX1_best_6 (by decide) ?_
  obtain ⟨v8, h8, hf⟩ := ob hf
  refine X.keep fun l8 => C.Si (As := [.int x2, .int (1 : Int32), .int (40 : Int32)]) (rest := []) dX1_best_8 (w_X1_in h8) cX1_134 rfl rfl (xcs xvN (Nat.le_of_ble_eq_true rfl)) (xD (Nat.le_of_ble_eq_true rfl)) xle.rf l8 ?_
  rcases clX_ok hf with ⟨v11, T11, h11, hf, l11, r11⟩ | ⟨e11, T11, h11, rfl, l11⟩
  rotate_left
  · exact C.Sx (As := [.int v8]) (rest := []) dX1_best_11 (w_X1_right h11) cX1_65 rfl rfl (xcs xvN (Nat.le_of_ble_eq_true rfl)) (xD (Nat.le_of_ble_eq_true rfl)) l11 xle.rf (xnoh rfl) rfl
  refine C.Sv (As := [.int v8]) (rest := []) dX1_best_11 (w_X1_right h11) cX1_65 rfl rfl (xcs xvN (Nat.le_of_ble_eq_true rfl)) (xD (Nat.le_of_ble_eq_true rfl)) l11 r11 ?_
  refine X.iconst (v := -1) dX1_best_14 (by decide) ?_
  refine C.ist_n (L' := [(3, .int (-1 : Int32)), (0, va_rf x0), (1, .int x1), (2, .int x2)]) dX1_best_15 rfl (Nat.le_of_ble_eq_true rfl) (xcQ (xcI (xcI xcN))) rfl ?_
  refine C.aload_n dX1_best_16 rfl 1 rfl ?_
  refine X.iload_n dX1_best_17 rfl 3 rfl ?_
  obtain ⟨c18, hf⟩ := if_n hf
  obtain ⟨v18, T18, h18, hf, l18, r18⟩ := cl_ok hf
  refine C.Vq (As := [.int x2]) (rest := []) dX1_best_18 (w_X1_later h18) cX1_217 (Classical.not_not.mp c18) rfl rfl (xcs xvN (Nat.le_of_ble_eq_true rfl)) rfl rfl (xD (Nat.le_of_ble_eq_true rfl)) l18 r18 ?_
  refine X.iload_n dX1_best_21 rfl 2 rfl ?_
  obtain ⟨c22, hf⟩ := if_n hf
  obtain ⟨v22, h22, hf⟩ := ob hf
  refine X.keep fun l22 => C.Vi (As := [.int x1]) (rest := []) dX1_best_22 (w_X3_votes h22) cX1_179 (Classical.not_not.mp c22) rfl rfl (xcs xvN (Nat.le_of_ble_eq_true rfl)) rfl rfl (xD (Nat.le_of_ble_eq_true rfl)) xle.rf l22 ?_
  refine C.ist (L' := [(4, .int v22), (3, .int (-1 : Int32)), (0, va_rf x0), (1, .int x1), (2, .int x2)]) dX1_best_25 (Nat.le_of_ble_eq_true rfl) (xcI (xcQ (xcI (xcI xcN)))) rfl ?_
  refine X.iconst (v := 0) dX1_best_27 (by decide) ?_
  refine C.ist (L' := [(5, .int (0 : Int32)), (4, .int v22), (3, .int (-1 : Int32)), (0, va_rf x0), (1, .int x1), (2, .int x2)]) dX1_best_28 (Nat.le_of_ble_eq_true rfl) (xcI (xcI (xcQ (xcI (xcI xcN))))) rfl ?_
  refine X.sub [3, 4, 5, 2, 1, 0] (L' := [(0, va_rf x0), (1, .int x1), (2, .int x2), (3, .int (-1 : Int32)), (4, .int v22), (5, .int (0 : Int32))]) rfl ?_
  exact c_X1_best_30_ok FU _ _ _ _ _ _ _ _ hf
/-! MouldVotes least -/
abbrev cX1_least : ByteArray := prog_1_method_33_code
def yX1_least : MethodName := ⟨RX1, "least", "(III)I"⟩
def dkwX1_least_3 : List UInt8 := [172]
abbrev dktX1_least_3 : List UInt8 := dkwX1_least_3 ++ []
def dkwX1_least_2 : List UInt8 := [180, 0, 35, 29, 182, 0, 199, 182, 0, 131, 28, 160, 0, 6, 21, 4, 172, 132, 4, 1, 167, 255, 211, 2]
abbrev dktX1_least_2 : List UInt8 := dkwX1_least_2 ++ dktX1_least_3
def dkwX1_least_1 : List UInt8 := [16, 50, 163, 0, 44, 42, 180, 0, 35, 42, 180, 0, 38, 182, 0, 213, 27, 21, 4, 182, 0, 203, 42]
abbrev dktX1_least_1 : List UInt8 := dkwX1_least_1 ++ dktX1_least_2
def dkwX1_least_0 : List UInt8 := [42, 27, 182, 0, 145, 28, 184, 0, 176, 29, 4, 16, 40, 184, 0, 134, 184, 0, 65, 3, 54, 4, 21, 4]
abbrev dktX1_least_0 : List UInt8 := dkwX1_least_0 ++ dktX1_least_1
theorem dksX1_least_0 : cX1_least.data.toList.drop 0 = dktX1_least_0 := by decide +kernel
theorem dksX1_least_1 : cX1_least.data.toList.drop 24 = dktX1_least_1 := dk_seg dksX1_least_0 24 rfl rfl
theorem dksX1_least_2 : cX1_least.data.toList.drop 47 = dktX1_least_2 := dk_seg dksX1_least_1 23 rfl rfl
theorem dksX1_least_3 : cX1_least.data.toList.drop 71 = dktX1_least_3 := dk_seg dksX1_least_2 24 rfl rfl
theorem dX1_least_0 : decode cX1_least 0 = .ok (.aload_n 0, 1) := dk_42 (dk_at dksX1_least_0 0 rfl rfl)
theorem dX1_least_1 : decode cX1_least 1 = .ok (.iload_n 1, 1) := dk_27 (dk_at dksX1_least_0 1 rfl rfl)
theorem dX1_least_2 : decode cX1_least 2 = .ok (.invokevirtual 145, 3) := dk_182 0 145 (dk_at dksX1_least_0 2 rfl rfl)
theorem dX1_least_5 : decode cX1_least 5 = .ok (.iload_n 2, 1) := dk_28 (dk_at dksX1_least_0 5 rfl rfl)
theorem dX1_least_6 : decode cX1_least 6 = .ok (.invokestatic 176, 3) := dk_184 0 176 (dk_at dksX1_least_0 6 rfl rfl)
theorem dX1_least_9 : decode cX1_least 9 = .ok (.iload_n 3, 1) := dk_29 (dk_at dksX1_least_0 9 rfl rfl)
theorem dX1_least_10 : decode cX1_least 10 = .ok (.iconst 1, 1) := dk_4 (dk_at dksX1_least_0 10 rfl rfl)
theorem dX1_least_11 : decode cX1_least 11 = .ok (.bipush 40, 2) := dk_16 40 (dk_at dksX1_least_0 11 rfl rfl)
theorem dX1_least_13 : decode cX1_least 13 = .ok (.invokestatic 134, 3) := dk_184 0 134 (dk_at dksX1_least_0 13 rfl rfl)
theorem dX1_least_16 : decode cX1_least 16 = .ok (.invokestatic 65, 3) := dk_184 0 65 (dk_at dksX1_least_0 16 rfl rfl)
theorem dX1_least_19 : decode cX1_least 19 = .ok (.iconst 0, 1) := dk_3 (dk_at dksX1_least_0 19 rfl rfl)
theorem dX1_least_20 : decode cX1_least 20 = .ok (.istore 4, 2) := dk_54 4 (dk_at dksX1_least_0 20 rfl rfl)
theorem dX1_least_22 : decode cX1_least 22 = .ok (.iload 4, 2) := dk_21 4 (dk_at dksX1_least_0 22 rfl rfl)
theorem dX1_least_24 : decode cX1_least 24 = .ok (.bipush 50, 2) := dk_16 50 (dk_at dksX1_least_1 0 rfl rfl)
theorem dX1_least_26 : decode cX1_least 26 = .ok (.if_icmp .gt 44, 3) := dk_163 0 44 (dk_at dksX1_least_1 2 rfl rfl)
theorem dX1_least_29 : decode cX1_least 29 = .ok (.aload_n 0, 1) := dk_42 (dk_at dksX1_least_1 5 rfl rfl)
theorem dX1_least_30 : decode cX1_least 30 = .ok (.getfield 35, 3) := dk_180 0 35 (dk_at dksX1_least_1 6 rfl rfl)
theorem dX1_least_33 : decode cX1_least 33 = .ok (.aload_n 0, 1) := dk_42 (dk_at dksX1_least_1 9 rfl rfl)
theorem dX1_least_34 : decode cX1_least 34 = .ok (.getfield 38, 3) := dk_180 0 38 (dk_at dksX1_least_1 10 rfl rfl)
theorem dX1_least_37 : decode cX1_least 37 = .ok (.invokevirtual 213, 3) := dk_182 0 213 (dk_at dksX1_least_1 13 rfl rfl)
theorem dX1_least_40 : decode cX1_least 40 = .ok (.iload_n 1, 1) := dk_27 (dk_at dksX1_least_1 16 rfl rfl)
theorem dX1_least_41 : decode cX1_least 41 = .ok (.iload 4, 2) := dk_21 4 (dk_at dksX1_least_1 17 rfl rfl)
theorem dX1_least_43 : decode cX1_least 43 = .ok (.invokevirtual 203, 3) := dk_182 0 203 (dk_at dksX1_least_1 19 rfl rfl)
theorem dX1_least_46 : decode cX1_least 46 = .ok (.aload_n 0, 1) := dk_42 (dk_at dksX1_least_1 22 rfl rfl)
theorem dX1_least_47 : decode cX1_least 47 = .ok (.getfield 35, 3) := dk_180 0 35 (dk_at dksX1_least_2 0 rfl rfl)
theorem dX1_least_50 : decode cX1_least 50 = .ok (.iload_n 3, 1) := dk_29 (dk_at dksX1_least_2 3 rfl rfl)
theorem dX1_least_51 : decode cX1_least 51 = .ok (.invokevirtual 199, 3) := dk_182 0 199 (dk_at dksX1_least_2 4 rfl rfl)
theorem dX1_least_54 : decode cX1_least 54 = .ok (.invokevirtual 131, 3) := dk_182 0 131 (dk_at dksX1_least_2 7 rfl rfl)
theorem dX1_least_57 : decode cX1_least 57 = .ok (.iload_n 2, 1) := dk_28 (dk_at dksX1_least_2 10 rfl rfl)
theorem dX1_least_58 : decode cX1_least 58 = .ok (.if_icmp .ne 6, 3) := dk_160 0 6 (dk_at dksX1_least_2 11 rfl rfl)
theorem dX1_least_61 : decode cX1_least 61 = .ok (.iload 4, 2) := dk_21 4 (dk_at dksX1_least_2 14 rfl rfl)
theorem dX1_least_63 : decode cX1_least 63 = .ok (.ireturn, 1) := dk_172 (dk_at dksX1_least_2 16 rfl rfl)
theorem dX1_least_64 : decode cX1_least 64 = .ok (.iinc 4 1, 3) := dk_132 4 1 (dk_at dksX1_least_2 17 rfl rfl)
theorem dX1_least_67 : decode cX1_least 67 = .ok (.goto (-45), 3) := dk_167 255 211 (dk_at dksX1_least_2 20 rfl rfl)
theorem dX1_least_70 : decode cX1_least 70 = .ok (.iconst (-1), 1) := dk_2 (dk_at dksX1_least_2 23 rfl rfl)
theorem dX1_least_71 : decode cX1_least 71 = .ok (.ireturn, 1) := dk_172 (dk_at dksX1_least_3 0 rfl rfl)
abbrev mX1_least : xM := (yX1_least, cX1_least, 5, (some .int), [])
def c_X1_least_22_b (G : xG) (k22 : Option Nat → Int32 → Int32 → Int32 → Int32 → xF → Option ((Int32 ⊕ xE) × xF)) (x0 : Option Nat) (x1 : Int32) (x2 : Int32) (x3 : Int32) (x4 : Int32) (T : xF) : Option ((Int32 ⊕ xE) × xF) :=
  if (50 : Int32) < x4 then
    some (.inl (-1 : Int32), T)
  else
    (oQ T x0 0 3).bind fun v30 =>
    (oQ T x0 0 4).bind fun v34 =>
    if ¬ isO T v30 2 = true then none else
    cl (c_X3_be v30 v34 T) T fun v37 T37 =>
    if ¬ isO T37 v37 2 = true then none else
    cl (c_X3_feed v37 x1 x4 T37) T37 fun v43 T43 =>
    (oQ T43 x0 0 3).bind fun v47 =>
    if ¬ isO T43 v47 2 = true then none else
    cl (c_X3_after G v47 x3 T43) T43 fun v51 T51 =>
    if ¬ isO T51 v51 2 = true then none else
    (c_X3_winner T51 v51).bind fun v54 =>
    if v54 = x2 then
      some (.inl x4, T51)
    else
      k22 x0 x1 x2 x3 (x4 + 1) T51
def c_X1_least_22 (G : xG) : Nat → Option Nat → Int32 → Int32 → Int32 → Int32 → xF → Option ((Int32 ⊕ xE) × xF)
  | 0 => fun _ _ _ _ _ _ => none
  | n + 1 => fun x0 x1 x2 x3 x4 T => c_X1_least_22_b G (c_X1_least_22 G n) x0 x1 x2 x3 x4 T
theorem c_X1_least_22_bok {G : xG}  {T0 : xF}  {k22 : Option Nat → Int32 → Int32 → Int32 → Int32 → xF → Option ((Int32 ⊕ xE) × xF)}  (hk22 : ∀ (x0 : Option Nat) (x1 : Int32) (x2 : Int32) (x3 : Int32) (x4 : Int32) (T : xF) (q : ((Int32 ⊕ xE) × xF)), k22 x0 x1 x2 x3 x4 T = some q → Xr G (mX1_least, xrm (126) T0 q.2, T0, xoI q.1, q.2) 22 [(0, va_rf x0), (1, .int x1), (2, .int x2), (3, .int x3), (4, .int x4)] [] T) (x0 : Option Nat) (x1 : Int32) (x2 : Int32) (x3 : Int32) (x4 : Int32) (T : xF) (q : ((Int32 ⊕ xE) × xF)) (hf : c_X1_least_22_b G k22 x0 x1 x2 x3 x4 T = some q) : Xr G (mX1_least, xrm (126) T0 q.2, T0, xoI q.1, q.2) 22 [(0, va_rf x0), (1, .int x1), (2, .int x2), (3, .int x3), (4, .int x4)] [] T := by
  unfold c_X1_least_22_b at hf
  refine X.iload dX1_least_22 4 rfl ?_
  refine X.bipush (v := 50) dX1_least_24 (by decide) ?_
  refine X.icmp_gt (tgt := 70) dX1_least_26 (by decide) (fun c26 => ?_) (fun c26 => ?_)
  · have hf := if_t c26 hf
    refine X.iconst (v := -1) dX1_least_70 (by decide) ?_
    obtain rfl := Option.some.inj hf
    exact X.iret dX1_least_71 rfl rfl rfl
  · have hf := if_f c26 hf
    refine C.aload_n dX1_least_29 rfl 0 rfl ?_
    obtain ⟨v30, h30, hf⟩ := ob hf
    refine C.getQ dX1_least_30 rX1_35 h30 ?_
    refine C.aload_n dX1_least_33 rfl 0 rfl ?_
    obtain ⟨v34, h34, hf⟩ := ob hf
    refine C.getQ dX1_least_34 rX1_38 h34 ?_
    obtain ⟨c37, hf⟩ := if_n hf
    obtain ⟨v37, T37, h37, hf, l37, r37⟩ := cl_ok hf
    refine C.Vq (As := [va_rf v34]) (rest := []) dX1_least_37 (w_X3_be h37) cX1_213 (Classical.not_not.mp c37) rfl rfl (xcs xvN (Nat.le_of_ble_eq_true rfl)) rfl rfl (xD (Nat.le_of_ble_eq_true rfl)) l37 r37 ?_
    refine X.iload_n dX1_least_40 rfl 1 rfl ?_
    refine X.iload dX1_least_41 4 rfl ?_
    obtain ⟨c43, hf⟩ := if_n hf
    obtain ⟨v43, T43, h43, hf, l43, r43⟩ := cl_ok hf
    refine C.Vv (As := [.int x1, .int x4]) (rest := []) dX1_least_43 (w_X3_feed h43) cX1_203 (Classical.not_not.mp c43) rfl rfl (xcs xvN (Nat.le_of_ble_eq_true rfl)) rfl rfl (xD (Nat.le_of_ble_eq_true rfl)) l43 r43 ?_
    refine C.aload_n dX1_least_46 rfl 0 rfl ?_
    obtain ⟨v47, h47, hf⟩ := ob hf
    refine C.getQ dX1_least_47 rX1_35 h47 ?_
    refine X.iload_n dX1_least_50 rfl 3 rfl ?_
    obtain ⟨c51, hf⟩ := if_n hf
    obtain ⟨v51, T51, h51, hf, l51, r51⟩ := cl_ok hf
    refine C.Vq (As := [.int x3]) (rest := []) dX1_least_51 (w_X3_after h51) cX1_199 (Classical.not_not.mp c51) rfl rfl (xcs xvN (Nat.le_of_ble_eq_true rfl)) rfl rfl (xD (Nat.le_of_ble_eq_true rfl)) l51 r51 ?_
    obtain ⟨c54, hf⟩ := if_n hf
    obtain ⟨v54, h54, hf⟩ := ob hf
    refine X.keep fun l54 => C.Vi (As := []) (rest := []) dX1_least_54 (w_X3_winner h54) cX1_131 (Classical.not_not.mp c54) rfl rfl (xcs xvN (Nat.le_of_ble_eq_true rfl)) rfl rfl (xD (Nat.le_of_ble_eq_true rfl)) xle.rf l54 ?_
    refine X.iload_n dX1_least_57 rfl 2 rfl ?_
    refine X.icmp_ne (tgt := 64) dX1_least_58 (by decide) (fun c58 => ?_) (fun c58 => ?_)
    · have hf := if_f c58 hf
      refine C.iinc (v := (x4 + 1)) (L' := [(4, .int (x4 + 1)), (0, va_rf x0), (1, .int x1), (2, .int x2), (3, .int x3)]) dX1_least_64 4 rfl rfl (Nat.le_of_ble_eq_true rfl) (xcQ (xcI (xcI (xcI (xcI xcN))))) rfl ?_
      refine X.goto (tgt := 22) dX1_least_67 (by decide) ?_
      refine X.sub [1, 2, 3, 4, 0] (L' := [(0, va_rf x0), (1, .int x1), (2, .int x2), (3, .int x3), (4, .int (x4 + 1))]) rfl ?_
      exact hk22 _ _ _ _ _ _ _ hf
    · have hf := if_t c58 hf
      refine X.iload dX1_least_61 4 rfl ?_
      obtain rfl := Option.some.inj hf
      exact X.iret dX1_least_63 rfl rfl rfl
theorem c_X1_least_22_ok {G : xG}  {T0 : xF}   : ∀ (n : Nat) (x0 : Option Nat) (x1 : Int32) (x2 : Int32) (x3 : Int32) (x4 : Int32) (T : xF) (q : ((Int32 ⊕ xE) × xF)), c_X1_least_22 G n x0 x1 x2 x3 x4 T = some q → Xr G (mX1_least, xrm (126) T0 q.2, T0, xoI q.1, q.2) 22 [(0, va_rf x0), (1, .int x1), (2, .int x2), (3, .int x3), (4, .int x4)] [] T
  | 0, _, _, _, _, _, _, _, hf => by cases hf
  | n + 1, x0, x1, x2, x3, x4, T, q, hf => c_X1_least_22_bok (c_X1_least_22_ok n) x0 x1 x2 x3 x4 T q hf
def c_X1_least (G : xG) (x0 : Option Nat) (x1 : Int32) (x2 : Int32) (x3 : Int32) (T : xF) : Option ((Int32 ⊕ xE) × xF) :=
  if ¬ isO T x0 0 = true then none else
  clX (c_X1_aCell x0 x1 T) T fun v2 T2 =>
  clX (c_X1_aParty x2 T2) T2 fun v6 T6 =>
  (c_X1_in x3 (1 : Int32) (40 : Int32)).bind fun v13 =>
  clX (c_X1_right v13 T6) T6 fun v16 T16 =>
  c_X1_least_22 G FU x0 x1 x2 x3 (0 : Int32) T16
theorem w_X1_least {G : xG}  {T : xF} {x0 : Option Nat} {x1 : Int32} {x2 : Int32} {x3 : Int32} {q : ((Int32 ⊕ xE) × xF)} (hf : c_X1_least G x0 x1 x2 x3 T = some q) : Ct G mX1_least (126) T [va_rf x0, .int x1, .int x2, .int x3] (xoI q.1) q.2 := by
  refine Ct.ofc (plainFor_of_name (by decide +kernel)) rfl (xvQ (xvI (xvI (xvI xvN)))) (Nat.le_of_ble_eq_true rfl) (show Xr G _ 0 [(0, va_rf x0), (1, .int x1), (2, .int x2), (3, .int x3)] [] _ from ?_)
  unfold c_X1_least at hf
  refine C.aload_n dX1_least_0 rfl 0 rfl ?_
  refine X.iload_n dX1_least_1 rfl 1 rfl ?_
  obtain ⟨c2, hf⟩ := if_n hf
  rcases clX_ok hf with ⟨v2, T2, h2, hf, l2, r2⟩ | ⟨e2, T2, h2, rfl, l2⟩
  rotate_left
  · exact C.Vx (As := [.int x1]) (rest := []) dX1_least_2 (w_X1_aCell h2) cX1_145 (Classical.not_not.mp c2) rfl rfl (xcs xvN (Nat.le_of_ble_eq_true rfl)) rfl rfl (xD (Nat.le_of_ble_eq_true rfl)) l2 xle.rf (xnoh rfl) rfl
  refine C.Vv (As := [.int x1]) (rest := []) dX1_least_2 (w_X1_aCell h2) cX1_145 (Classical.not_not.mp c2) rfl rfl (xcs xvN (Nat.le_of_ble_eq_true rfl)) rfl rfl (xD (Nat.le_of_ble_eq_true rfl)) l2 r2 ?_
  refine X.iload_n dX1_least_5 rfl 2 rfl ?_
  rcases clX_ok hf with ⟨v6, T6, h6, hf, l6, r6⟩ | ⟨e6, T6, h6, rfl, l6⟩
  rotate_left
  · exact C.Sx (As := [.int x2]) (rest := []) dX1_least_6 (w_X1_aParty h6) cX1_176 rfl rfl (xcs xvN (Nat.le_of_ble_eq_true rfl)) (xD (Nat.le_of_ble_eq_true rfl)) l6 xle.rf (xnoh rfl) rfl
  refine C.Sv (As := [.int x2]) (rest := []) dX1_least_6 (w_X1_aParty h6) cX1_176 rfl rfl (xcs xvN (Nat.le_of_ble_eq_true rfl)) (xD (Nat.le_of_ble_eq_true rfl)) l6 r6 ?_
  refine X.iload_n dX1_least_9 rfl 3 rfl ?_
  refine X.iconst (v := 1) dX1_least_10 (by decide) ?_
  refine X.bipush (v := 40) dX1_least_11 (by decide) ?_
  obtain ⟨v13, h13, hf⟩ := ob hf
  refine X.keep fun l13 => C.Si (As := [.int x3, .int (1 : Int32), .int (40 : Int32)]) (rest := []) dX1_least_13 (w_X1_in h13) cX1_134 rfl rfl (xcs xvN (Nat.le_of_ble_eq_true rfl)) (xD (Nat.le_of_ble_eq_true rfl)) xle.rf l13 ?_
  rcases clX_ok hf with ⟨v16, T16, h16, hf, l16, r16⟩ | ⟨e16, T16, h16, rfl, l16⟩
  rotate_left
  · exact C.Sx (As := [.int v13]) (rest := []) dX1_least_16 (w_X1_right h16) cX1_65 rfl rfl (xcs xvN (Nat.le_of_ble_eq_true rfl)) (xD (Nat.le_of_ble_eq_true rfl)) l16 xle.rf (xnoh rfl) rfl
  refine C.Sv (As := [.int v13]) (rest := []) dX1_least_16 (w_X1_right h16) cX1_65 rfl rfl (xcs xvN (Nat.le_of_ble_eq_true rfl)) (xD (Nat.le_of_ble_eq_true rfl)) l16 r16 ?_
  refine X.iconst (v := 0) dX1_least_19 (by decide) ?_
  refine C.ist (L' := [(4, .int (0 : Int32)), (0, va_rf x0), (1, .int x1), (2, .int x2), (3, .int x3)]) dX1_least_20 (Nat.le_of_ble_eq_true rfl) (xcQ (xcI (xcI (xcI xcN)))) rfl ?_
  refine X.sub [1, 2, 3, 4, 0] (L' := [(0, va_rf x0), (1, .int x1), (2, .int x2), (3, .int x3), (4, .int (0 : Int32))]) rfl ?_
  exact c_X1_least_22_ok FU _ _ _ _ _ _ _ hf
/-! MouldVotes first -/
abbrev cX1_first : ByteArray := prog_1_method_31_code
def yX1_first : MethodName := ⟨RX1, "first", "(I)I"⟩
def dkwX1_first_2 : List UInt8 := [167, 255, 226, 2, 172]
abbrev dktX1_first_2 : List UInt8 := dkwX1_first_2 ++ []
def dkwX1_first_1 : List UInt8 := [42, 180, 0, 35, 182, 0, 131, 27, 160, 0, 5, 28, 172, 42, 180, 0, 35, 182, 0, 220, 87, 132, 2, 1]
abbrev dktX1_first_1 : List UInt8 := dkwX1_first_1 ++ dktX1_first_2
def dkwX1_first_0 : List UInt8 := [27, 184, 0, 176, 42, 180, 0, 35, 42, 180, 0, 38, 182, 0, 213, 87, 3, 61, 28, 16, 40, 163, 0, 30]
abbrev dktX1_first_0 : List UInt8 := dkwX1_first_0 ++ dktX1_first_1
theorem dksX1_first_0 : cX1_first.data.toList.drop 0 = dktX1_first_0 := by decide +kernel
theorem dksX1_first_1 : cX1_first.data.toList.drop 24 = dktX1_first_1 := dk_seg dksX1_first_0 24 rfl rfl
theorem dksX1_first_2 : cX1_first.data.toList.drop 48 = dktX1_first_2 := dk_seg dksX1_first_1 24 rfl rfl
theorem dX1_first_0 : decode cX1_first 0 = .ok (.iload_n 1, 1) := dk_27 (dk_at dksX1_first_0 0 rfl rfl)
theorem dX1_first_1 : decode cX1_first 1 = .ok (.invokestatic 176, 3) := dk_184 0 176 (dk_at dksX1_first_0 1 rfl rfl)
theorem dX1_first_4 : decode cX1_first 4 = .ok (.aload_n 0, 1) := dk_42 (dk_at dksX1_first_0 4 rfl rfl)
theorem dX1_first_5 : decode cX1_first 5 = .ok (.getfield 35, 3) := dk_180 0 35 (dk_at dksX1_first_0 5 rfl rfl)
theorem dX1_first_8 : decode cX1_first 8 = .ok (.aload_n 0, 1) := dk_42 (dk_at dksX1_first_0 8 rfl rfl)
theorem dX1_first_9 : decode cX1_first 9 = .ok (.getfield 38, 3) := dk_180 0 38 (dk_at dksX1_first_0 9 rfl rfl)
theorem dX1_first_12 : decode cX1_first 12 = .ok (.invokevirtual 213, 3) := dk_182 0 213 (dk_at dksX1_first_0 12 rfl rfl)
theorem dX1_first_15 : decode cX1_first 15 = .ok (.pop, 1) := dk_87 (dk_at dksX1_first_0 15 rfl rfl)
theorem dX1_first_16 : decode cX1_first 16 = .ok (.iconst 0, 1) := dk_3 (dk_at dksX1_first_0 16 rfl rfl)
theorem dX1_first_17 : decode cX1_first 17 = .ok (.istore_n 2, 1) := dk_61 (dk_at dksX1_first_0 17 rfl rfl)
theorem dX1_first_18 : decode cX1_first 18 = .ok (.iload_n 2, 1) := dk_28 (dk_at dksX1_first_0 18 rfl rfl)
theorem dX1_first_19 : decode cX1_first 19 = .ok (.bipush 40, 2) := dk_16 40 (dk_at dksX1_first_0 19 rfl rfl)
theorem dX1_first_21 : decode cX1_first 21 = .ok (.if_icmp .gt 30, 3) := dk_163 0 30 (dk_at dksX1_first_0 21 rfl rfl)
theorem dX1_first_24 : decode cX1_first 24 = .ok (.aload_n 0, 1) := dk_42 (dk_at dksX1_first_1 0 rfl rfl)
theorem dX1_first_25 : decode cX1_first 25 = .ok (.getfield 35, 3) := dk_180 0 35 (dk_at dksX1_first_1 1 rfl rfl)
theorem dX1_first_28 : decode cX1_first 28 = .ok (.invokevirtual 131, 3) := dk_182 0 131 (dk_at dksX1_first_1 4 rfl rfl)
theorem dX1_first_31 : decode cX1_first 31 = .ok (.iload_n 1, 1) := dk_27 (dk_at dksX1_first_1 7 rfl rfl)
theorem dX1_first_32 : decode cX1_first 32 = .ok (.if_icmp .ne 5, 3) := dk_160 0 5 (dk_at dksX1_first_1 8 rfl rfl)
theorem dX1_first_35 : decode cX1_first 35 = .ok (.iload_n 2, 1) := dk_28 (dk_at dksX1_first_1 11 rfl rfl)
theorem dX1_first_36 : decode cX1_first 36 = .ok (.ireturn, 1) := dk_172 (dk_at dksX1_first_1 12 rfl rfl)
theorem dX1_first_37 : decode cX1_first 37 = .ok (.aload_n 0, 1) := dk_42 (dk_at dksX1_first_1 13 rfl rfl)
theorem dX1_first_38 : decode cX1_first 38 = .ok (.getfield 35, 3) := dk_180 0 35 (dk_at dksX1_first_1 14 rfl rfl)
theorem dX1_first_41 : decode cX1_first 41 = .ok (.invokevirtual 220, 3) := dk_182 0 220 (dk_at dksX1_first_1 17 rfl rfl)
theorem dX1_first_44 : decode cX1_first 44 = .ok (.pop, 1) := dk_87 (dk_at dksX1_first_1 20 rfl rfl)
theorem dX1_first_45 : decode cX1_first 45 = .ok (.iinc 2 1, 3) := dk_132 2 1 (dk_at dksX1_first_1 21 rfl rfl)
theorem dX1_first_48 : decode cX1_first 48 = .ok (.goto (-30), 3) := dk_167 255 226 (dk_at dksX1_first_2 0 rfl rfl)
theorem dX1_first_51 : decode cX1_first 51 = .ok (.iconst (-1), 1) := dk_2 (dk_at dksX1_first_2 3 rfl rfl)
theorem dX1_first_52 : decode cX1_first 52 = .ok (.ireturn, 1) := dk_172 (dk_at dksX1_first_2 4 rfl rfl)
abbrev mX1_first : xM := (yX1_first, cX1_first, 3, (some .int), [])
def c_X1_first_18_b (G : xG) (k18 : Option Nat → Int32 → Int32 → xF → Option ((Int32 ⊕ xE) × xF)) (x0 : Option Nat) (x1 : Int32) (x2 : Int32) (T : xF) : Option ((Int32 ⊕ xE) × xF) :=
  if (40 : Int32) < x2 then
    some (.inl (-1 : Int32), T)
  else
    (oQ T x0 0 3).bind fun v25 =>
    if ¬ isO T v25 2 = true then none else
    (c_X3_winner T v25).bind fun v28 =>
    if v28 = x1 then
      some (.inl x2, T)
    else
      (oQ T x0 0 3).bind fun v38 =>
      if ¬ isO T v38 2 = true then none else
      cl (c_X3_pass G v38 T) T fun v41 T41 =>
      k18 x0 x1 (x2 + 1) T41
def c_X1_first_18 (G : xG) : Nat → Option Nat → Int32 → Int32 → xF → Option ((Int32 ⊕ xE) × xF)
  | 0 => fun _ _ _ _ => none
  | n + 1 => fun x0 x1 x2 T => c_X1_first_18_b G (c_X1_first_18 G n) x0 x1 x2 T
theorem c_X1_first_18_bok {G : xG}  {T0 : xF}  {k18 : Option Nat → Int32 → Int32 → xF → Option ((Int32 ⊕ xE) × xF)}  (hk18 : ∀ (x0 : Option Nat) (x1 : Int32) (x2 : Int32) (T : xF) (q : ((Int32 ⊕ xE) × xF)), k18 x0 x1 x2 T = some q → Xr G (mX1_first, xrm (125) T0 q.2, T0, xoI q.1, q.2) 18 [(0, va_rf x0), (1, .int x1), (2, .int x2)] [] T) (x0 : Option Nat) (x1 : Int32) (x2 : Int32) (T : xF) (q : ((Int32 ⊕ xE) × xF)) (hf : c_X1_first_18_b G k18 x0 x1 x2 T = some q) : Xr G (mX1_first, xrm (125) T0 q.2, T0, xoI q.1, q.2) 18 [(0, va_rf x0), (1, .int x1), (2, .int x2)] [] T := by
  unfold c_X1_first_18_b at hf
  refine X.iload_n dX1_first_18 rfl 2 rfl ?_
  refine X.bipush (v := 40) dX1_first_19 (by decide) ?_
  refine X.icmp_gt (tgt := 51) dX1_first_21 (by decide) (fun c21 => ?_) (fun c21 => ?_)
  · have hf := if_t c21 hf
    refine X.iconst (v := -1) dX1_first_51 (by decide) ?_
    obtain rfl := Option.some.inj hf
    exact X.iret dX1_first_52 rfl rfl rfl
  · have hf := if_f c21 hf
    refine C.aload_n dX1_first_24 rfl 0 rfl ?_
    obtain ⟨v25, h25, hf⟩ := ob hf
    refine C.getQ dX1_first_25 rX1_35 h25 ?_
    obtain ⟨c28, hf⟩ := if_n hf
    obtain ⟨v28, h28, hf⟩ := ob hf
    refine X.keep fun l28 => C.Vi (As := []) (rest := []) dX1_first_28 (w_X3_winner h28) cX1_131 (Classical.not_not.mp c28) rfl rfl (xcs xvN (Nat.le_of_ble_eq_true rfl)) rfl rfl (xD (Nat.le_of_ble_eq_true rfl)) xle.rf l28 ?_
    refine X.iload_n dX1_first_31 rfl 1 rfl ?_
    refine X.icmp_ne (tgt := 37) dX1_first_32 (by decide) (fun c32 => ?_) (fun c32 => ?_)
    · have hf := if_f c32 hf
      refine C.aload_n dX1_first_37 rfl 0 rfl ?_
      obtain ⟨v38, h38, hf⟩ := ob hf
      refine C.getQ dX1_first_38 rX1_35 h38 ?_
      obtain ⟨c41, hf⟩ := if_n hf
      obtain ⟨v41, T41, h41, hf, l41, r41⟩ := cl_ok hf
      refine C.Vq (As := []) (rest := []) dX1_first_41 (w_X3_pass h41) cX1_220 (Classical.not_not.mp c41) rfl rfl (xcs xvN (Nat.le_of_ble_eq_true rfl)) rfl rfl (xD (Nat.le_of_ble_eq_true rfl)) l41 r41 ?_
      refine X.pop dX1_first_44 (cat1 _) ?_
      refine C.iinc (v := (x2 + 1)) (L' := [(2, .int (x2 + 1)), (0, va_rf x0), (1, .int x1)]) dX1_first_45 2 rfl rfl (Nat.le_of_ble_eq_true rfl) (xcQ (xcI (xcI xcN))) rfl ?_
      refine X.goto (tgt := 18) dX1_first_48 (by decide) ?_
      refine X.sub [1, 2, 0] (L' := [(0, va_rf x0), (1, .int x1), (2, .int (x2 + 1))]) rfl ?_
      exact hk18 _ _ _ _ _ hf
    · have hf := if_t c32 hf
      refine X.iload_n dX1_first_35 rfl 2 rfl ?_
      obtain rfl := Option.some.inj hf
      exact X.iret dX1_first_36 rfl rfl rfl
theorem c_X1_first_18_ok {G : xG}  {T0 : xF}   : ∀ (n : Nat) (x0 : Option Nat) (x1 : Int32) (x2 : Int32) (T : xF) (q : ((Int32 ⊕ xE) × xF)), c_X1_first_18 G n x0 x1 x2 T = some q → Xr G (mX1_first, xrm (125) T0 q.2, T0, xoI q.1, q.2) 18 [(0, va_rf x0), (1, .int x1), (2, .int x2)] [] T
  | 0, _, _, _, _, _, hf => by cases hf
  | n + 1, x0, x1, x2, T, q, hf => c_X1_first_18_bok (c_X1_first_18_ok n) x0 x1 x2 T q hf
def c_X1_first (G : xG) (x0 : Option Nat) (x1 : Int32) (T : xF) : Option ((Int32 ⊕ xE) × xF) :=
  clX (c_X1_aParty x1 T) T fun v1 T1 =>
  (oQ T1 x0 0 3).bind fun v5 =>
  (oQ T1 x0 0 4).bind fun v9 =>
  if ¬ isO T1 v5 2 = true then none else
  cl (c_X3_be v5 v9 T1) T1 fun v12 T12 =>
  c_X1_first_18 G FU x0 x1 (0 : Int32) T12
theorem w_X1_first {G : xG}  {T : xF} {x0 : Option Nat} {x1 : Int32} {q : ((Int32 ⊕ xE) × xF)} (hf : c_X1_first G x0 x1 T = some q) : Ct G mX1_first (125) T [va_rf x0, .int x1] (xoI q.1) q.2 := by
  refine Ct.ofc (plainFor_of_name (by decide +kernel)) rfl (xvQ (xvI xvN)) (Nat.le_of_ble_eq_true rfl) (show Xr G _ 0 [(0, va_rf x0), (1, .int x1)] [] _ from ?_)
  unfold c_X1_first at hf
  refine X.iload_n dX1_first_0 rfl 1 rfl ?_
  rcases clX_ok hf with ⟨v1, T1, h1, hf, l1, r1⟩ | ⟨e1, T1, h1, rfl, l1⟩
  rotate_left
  · exact C.Sx (As := [.int x1]) (rest := []) dX1_first_1 (w_X1_aParty h1) cX1_176 rfl rfl (xcs xvN (Nat.le_of_ble_eq_true rfl)) (xD (Nat.le_of_ble_eq_true rfl)) l1 xle.rf (xnoh rfl) rfl
  refine C.Sv (As := [.int x1]) (rest := []) dX1_first_1 (w_X1_aParty h1) cX1_176 rfl rfl (xcs xvN (Nat.le_of_ble_eq_true rfl)) (xD (Nat.le_of_ble_eq_true rfl)) l1 r1 ?_
  refine C.aload_n dX1_first_4 rfl 0 rfl ?_
  obtain ⟨v5, h5, hf⟩ := ob hf
  refine C.getQ dX1_first_5 rX1_35 h5 ?_
  refine C.aload_n dX1_first_8 rfl 0 rfl ?_
  obtain ⟨v9, h9, hf⟩ := ob hf
  refine C.getQ dX1_first_9 rX1_38 h9 ?_
  obtain ⟨c12, hf⟩ := if_n hf
  obtain ⟨v12, T12, h12, hf, l12, r12⟩ := cl_ok hf
  refine C.Vq (As := [va_rf v9]) (rest := []) dX1_first_12 (w_X3_be h12) cX1_213 (Classical.not_not.mp c12) rfl rfl (xcs xvN (Nat.le_of_ble_eq_true rfl)) rfl rfl (xD (Nat.le_of_ble_eq_true rfl)) l12 r12 ?_
  refine X.pop dX1_first_15 (cat1 _) ?_
  refine X.iconst (v := 0) dX1_first_16 (by decide) ?_
  refine C.ist_n (L' := [(2, .int (0 : Int32)), (0, va_rf x0), (1, .int x1)]) dX1_first_17 rfl (Nat.le_of_ble_eq_true rfl) (xcQ (xcI xcN)) rfl ?_
  refine X.sub [1, 2, 0] (L' := [(0, va_rf x0), (1, .int x1), (2, .int (0 : Int32))]) rfl ?_
  exact c_X1_first_18_ok FU _ _ _ _ _ hf
/-! MouldVotes winner -/
abbrev cX1_winner : ByteArray := prog_1_method_30_code
def yX1_winner : MethodName := ⟨RX1, "winner", "(I)I"⟩
def dkwX1_winner_0 : List UInt8 := [27, 3, 16, 40, 184, 0, 134, 184, 0, 65, 42, 27, 182, 0, 217, 182, 0, 131, 172]
abbrev dktX1_winner_0 : List UInt8 := dkwX1_winner_0 ++ []
theorem dksX1_winner_0 : cX1_winner.data.toList.drop 0 = dktX1_winner_0 := by decide +kernel
theorem dX1_winner_0 : decode cX1_winner 0 = .ok (.iload_n 1, 1) := dk_27 (dk_at dksX1_winner_0 0 rfl rfl)
theorem dX1_winner_1 : decode cX1_winner 1 = .ok (.iconst 0, 1) := dk_3 (dk_at dksX1_winner_0 1 rfl rfl)
theorem dX1_winner_2 : decode cX1_winner 2 = .ok (.bipush 40, 2) := dk_16 40 (dk_at dksX1_winner_0 2 rfl rfl)
theorem dX1_winner_4 : decode cX1_winner 4 = .ok (.invokestatic 134, 3) := dk_184 0 134 (dk_at dksX1_winner_0 4 rfl rfl)
theorem dX1_winner_7 : decode cX1_winner 7 = .ok (.invokestatic 65, 3) := dk_184 0 65 (dk_at dksX1_winner_0 7 rfl rfl)
theorem dX1_winner_10 : decode cX1_winner 10 = .ok (.aload_n 0, 1) := dk_42 (dk_at dksX1_winner_0 10 rfl rfl)
theorem dX1_winner_11 : decode cX1_winner 11 = .ok (.iload_n 1, 1) := dk_27 (dk_at dksX1_winner_0 11 rfl rfl)
theorem dX1_winner_12 : decode cX1_winner 12 = .ok (.invokevirtual 217, 3) := dk_182 0 217 (dk_at dksX1_winner_0 12 rfl rfl)
theorem dX1_winner_15 : decode cX1_winner 15 = .ok (.invokevirtual 131, 3) := dk_182 0 131 (dk_at dksX1_winner_0 15 rfl rfl)
theorem dX1_winner_18 : decode cX1_winner 18 = .ok (.ireturn, 1) := dk_172 (dk_at dksX1_winner_0 18 rfl rfl)
abbrev mX1_winner : xM := (yX1_winner, cX1_winner, 2, (some .int), [])
def c_X1_winner (G : xG) (x0 : Option Nat) (x1 : Int32) (T : xF) : Option ((Int32 ⊕ xE) × xF) :=
  (c_X1_in x1 (0 : Int32) (40 : Int32)).bind fun v4 =>
  clX (c_X1_right v4 T) T fun v7 T7 =>
  if ¬ isO T7 x0 0 = true then none else
  cl (c_X1_later G x0 x1 T7) T7 fun v12 T12 =>
  if ¬ isO T12 v12 2 = true then none else
  (c_X3_winner T12 v12).bind fun v15 =>
  some (.inl v15, T12)
theorem w_X1_winner {G : xG}  {T : xF} {x0 : Option Nat} {x1 : Int32} {q : ((Int32 ⊕ xE) × xF)} (hf : c_X1_winner G x0 x1 T = some q) : Ct G mX1_winner (127) T [va_rf x0, .int x1] (xoI q.1) q.2 := by
  refine Ct.ofc (plainFor_of_name (by decide +kernel)) rfl (xvQ (xvI xvN)) (Nat.le_of_ble_eq_true rfl) (show Xr G _ 0 [(0, va_rf x0), (1, .int x1)] [] _ from ?_)
  unfold c_X1_winner at hf
  refine X.iload_n dX1_winner_0 rfl 1 rfl ?_
  refine X.iconst (v := 0) dX1_winner_1 (by decide) ?_
  refine X.bipush (v := 40) dX1_winner_2 (by decide) ?_
  obtain ⟨v4, h4, hf⟩ := ob hf
  refine X.keep fun l4 => C.Si (As := [.int x1, .int (0 : Int32), .int (40 : Int32)]) (rest := []) dX1_winner_4 (w_X1_in h4) cX1_134 rfl rfl (xcs xvN (Nat.le_of_ble_eq_true rfl)) (xD (Nat.le_of_ble_eq_true rfl)) xle.rf l4 ?_
  rcases clX_ok hf with ⟨v7, T7, h7, hf, l7, r7⟩ | ⟨e7, T7, h7, rfl, l7⟩
  rotate_left
  · exact C.Sx (As := [.int v4]) (rest := []) dX1_winner_7 (w_X1_right h7) cX1_65 rfl rfl (xcs xvN (Nat.le_of_ble_eq_true rfl)) (xD (Nat.le_of_ble_eq_true rfl)) l7 xle.rf (xnoh rfl) rfl
  refine C.Sv (As := [.int v4]) (rest := []) dX1_winner_7 (w_X1_right h7) cX1_65 rfl rfl (xcs xvN (Nat.le_of_ble_eq_true rfl)) (xD (Nat.le_of_ble_eq_true rfl)) l7 r7 ?_
  refine C.aload_n dX1_winner_10 rfl 0 rfl ?_
  refine X.iload_n dX1_winner_11 rfl 1 rfl ?_
  obtain ⟨c12, hf⟩ := if_n hf
  obtain ⟨v12, T12, h12, hf, l12, r12⟩ := cl_ok hf
  refine C.Vq (As := [.int x1]) (rest := []) dX1_winner_12 (w_X1_later h12) cX1_217 (Classical.not_not.mp c12) rfl rfl (xcs xvN (Nat.le_of_ble_eq_true rfl)) rfl rfl (xD (Nat.le_of_ble_eq_true rfl)) l12 r12 ?_
  obtain ⟨c15, hf⟩ := if_n hf
  obtain ⟨v15, h15, hf⟩ := ob hf
  refine X.keep fun l15 => C.Vi (As := []) (rest := []) dX1_winner_15 (w_X3_winner h15) cX1_131 (Classical.not_not.mp c15) rfl rfl (xcs xvN (Nat.le_of_ble_eq_true rfl)) rfl rfl (xD (Nat.le_of_ble_eq_true rfl)) xle.rf l15 ?_
  obtain rfl := Option.some.inj hf
  exact X.iret dX1_winner_18 rfl rfl rfl
/-! MouldVotes voting -/
abbrev cX1_voting : ByteArray := prog_1_method_29_code
def yX1_voting : MethodName := ⟨RX1, "voting", "(II)I"⟩
def dkwX1_voting_0 : List UInt8 := [27, 184, 0, 176, 28, 3, 16, 40, 184, 0, 134, 184, 0, 65, 42, 28, 182, 0, 217, 27, 182, 0, 179, 172]
abbrev dktX1_voting_0 : List UInt8 := dkwX1_voting_0 ++ []
theorem dksX1_voting_0 : cX1_voting.data.toList.drop 0 = dktX1_voting_0 := by decide +kernel
theorem dX1_voting_0 : decode cX1_voting 0 = .ok (.iload_n 1, 1) := dk_27 (dk_at dksX1_voting_0 0 rfl rfl)
theorem dX1_voting_1 : decode cX1_voting 1 = .ok (.invokestatic 176, 3) := dk_184 0 176 (dk_at dksX1_voting_0 1 rfl rfl)
theorem dX1_voting_4 : decode cX1_voting 4 = .ok (.iload_n 2, 1) := dk_28 (dk_at dksX1_voting_0 4 rfl rfl)
theorem dX1_voting_5 : decode cX1_voting 5 = .ok (.iconst 0, 1) := dk_3 (dk_at dksX1_voting_0 5 rfl rfl)
theorem dX1_voting_6 : decode cX1_voting 6 = .ok (.bipush 40, 2) := dk_16 40 (dk_at dksX1_voting_0 6 rfl rfl)
theorem dX1_voting_8 : decode cX1_voting 8 = .ok (.invokestatic 134, 3) := dk_184 0 134 (dk_at dksX1_voting_0 8 rfl rfl)
theorem dX1_voting_11 : decode cX1_voting 11 = .ok (.invokestatic 65, 3) := dk_184 0 65 (dk_at dksX1_voting_0 11 rfl rfl)
theorem dX1_voting_14 : decode cX1_voting 14 = .ok (.aload_n 0, 1) := dk_42 (dk_at dksX1_voting_0 14 rfl rfl)
theorem dX1_voting_15 : decode cX1_voting 15 = .ok (.iload_n 2, 1) := dk_28 (dk_at dksX1_voting_0 15 rfl rfl)
theorem dX1_voting_16 : decode cX1_voting 16 = .ok (.invokevirtual 217, 3) := dk_182 0 217 (dk_at dksX1_voting_0 16 rfl rfl)
theorem dX1_voting_19 : decode cX1_voting 19 = .ok (.iload_n 1, 1) := dk_27 (dk_at dksX1_voting_0 19 rfl rfl)
theorem dX1_voting_20 : decode cX1_voting 20 = .ok (.invokevirtual 179, 3) := dk_182 0 179 (dk_at dksX1_voting_0 20 rfl rfl)
theorem dX1_voting_23 : decode cX1_voting 23 = .ok (.ireturn, 1) := dk_172 (dk_at dksX1_voting_0 23 rfl rfl)
abbrev mX1_voting : xM := (yX1_voting, cX1_voting, 3, (some .int), [])
def c_X1_voting (G : xG) (x0 : Option Nat) (x1 : Int32) (x2 : Int32) (T : xF) : Option ((Int32 ⊕ xE) × xF) :=
  clX (c_X1_aParty x1 T) T fun v1 T1 =>
  (c_X1_in x2 (0 : Int32) (40 : Int32)).bind fun v8 =>
  clX (c_X1_right v8 T1) T1 fun v11 T11 =>
  if ¬ isO T11 x0 0 = true then none else
  cl (c_X1_later G x0 x2 T11) T11 fun v16 T16 =>
  if ¬ isO T16 v16 2 = true then none else
  (c_X3_votes T16 v16 x1).bind fun v20 =>
  some (.inl v20, T16)
theorem w_X1_voting {G : xG}  {T : xF} {x0 : Option Nat} {x1 : Int32} {x2 : Int32} {q : ((Int32 ⊕ xE) × xF)} (hf : c_X1_voting G x0 x1 x2 T = some q) : Ct G mX1_voting (127) T [va_rf x0, .int x1, .int x2] (xoI q.1) q.2 := by
  refine Ct.ofc (plainFor_of_name (by decide +kernel)) rfl (xvQ (xvI (xvI xvN))) (Nat.le_of_ble_eq_true rfl) (show Xr G _ 0 [(0, va_rf x0), (1, .int x1), (2, .int x2)] [] _ from ?_)
  unfold c_X1_voting at hf
  refine X.iload_n dX1_voting_0 rfl 1 rfl ?_
  rcases clX_ok hf with ⟨v1, T1, h1, hf, l1, r1⟩ | ⟨e1, T1, h1, rfl, l1⟩
  rotate_left
  · exact C.Sx (As := [.int x1]) (rest := []) dX1_voting_1 (w_X1_aParty h1) cX1_176 rfl rfl (xcs xvN (Nat.le_of_ble_eq_true rfl)) (xD (Nat.le_of_ble_eq_true rfl)) l1 xle.rf (xnoh rfl) rfl
  refine C.Sv (As := [.int x1]) (rest := []) dX1_voting_1 (w_X1_aParty h1) cX1_176 rfl rfl (xcs xvN (Nat.le_of_ble_eq_true rfl)) (xD (Nat.le_of_ble_eq_true rfl)) l1 r1 ?_
  refine X.iload_n dX1_voting_4 rfl 2 rfl ?_
  refine X.iconst (v := 0) dX1_voting_5 (by decide) ?_
  refine X.bipush (v := 40) dX1_voting_6 (by decide) ?_
  obtain ⟨v8, h8, hf⟩ := ob hf
  refine X.keep fun l8 => C.Si (As := [.int x2, .int (0 : Int32), .int (40 : Int32)]) (rest := []) dX1_voting_8 (w_X1_in h8) cX1_134 rfl rfl (xcs xvN (Nat.le_of_ble_eq_true rfl)) (xD (Nat.le_of_ble_eq_true rfl)) xle.rf l8 ?_
  rcases clX_ok hf with ⟨v11, T11, h11, hf, l11, r11⟩ | ⟨e11, T11, h11, rfl, l11⟩
  rotate_left
  · exact C.Sx (As := [.int v8]) (rest := []) dX1_voting_11 (w_X1_right h11) cX1_65 rfl rfl (xcs xvN (Nat.le_of_ble_eq_true rfl)) (xD (Nat.le_of_ble_eq_true rfl)) l11 xle.rf (xnoh rfl) rfl
  refine C.Sv (As := [.int v8]) (rest := []) dX1_voting_11 (w_X1_right h11) cX1_65 rfl rfl (xcs xvN (Nat.le_of_ble_eq_true rfl)) (xD (Nat.le_of_ble_eq_true rfl)) l11 r11 ?_
  refine C.aload_n dX1_voting_14 rfl 0 rfl ?_
  refine X.iload_n dX1_voting_15 rfl 2 rfl ?_
  obtain ⟨c16, hf⟩ := if_n hf
  obtain ⟨v16, T16, h16, hf, l16, r16⟩ := cl_ok hf
  refine C.Vq (As := [.int x2]) (rest := []) dX1_voting_16 (w_X1_later h16) cX1_217 (Classical.not_not.mp c16) rfl rfl (xcs xvN (Nat.le_of_ble_eq_true rfl)) rfl rfl (xD (Nat.le_of_ble_eq_true rfl)) l16 r16 ?_
  refine X.iload_n dX1_voting_19 rfl 1 rfl ?_
  obtain ⟨c20, hf⟩ := if_n hf
  obtain ⟨v20, h20, hf⟩ := ob hf
  refine X.keep fun l20 => C.Vi (As := [.int x1]) (rest := []) dX1_voting_20 (w_X3_votes h20) cX1_179 (Classical.not_not.mp c20) rfl rfl (xcs xvN (Nat.le_of_ble_eq_true rfl)) rfl rfl (xD (Nat.le_of_ble_eq_true rfl)) xle.rf l20 ?_
  obtain rfl := Option.some.inj hf
  exact X.iret dX1_voting_23 rfl rfl rfl
/-! MouldVotes then -/
abbrev cX1_then : ByteArray := prog_1_method_28_code
def yX1_then : MethodName := ⟨RX1, "then", "(III)I"⟩
def dkwX1_then_2 : List UInt8 := [25, 4, 180, 0, 155, 27, 46, 167, 0, 10, 25, 4, 180, 0, 152, 27, 46, 172]
abbrev dktX1_then_2 : List UInt8 := dkwX1_then_2 ++ []
def dkwX1_then_1 : List UInt8 := [182, 0, 217, 58, 4, 29, 154, 0, 13, 25, 4, 180, 0, 96, 27, 46, 167, 0, 25, 29, 4, 160, 0, 13]
abbrev dktX1_then_1 : List UInt8 := dkwX1_then_1 ++ dktX1_then_2
def dkwX1_then_0 : List UInt8 := [42, 27, 182, 0, 145, 29, 5, 184, 0, 163, 28, 3, 16, 40, 184, 0, 134, 184, 0, 65, 42, 28]
abbrev dktX1_then_0 : List UInt8 := dkwX1_then_0 ++ dktX1_then_1
theorem dksX1_then_0 : cX1_then.data.toList.drop 0 = dktX1_then_0 := by decide +kernel
theorem dksX1_then_1 : cX1_then.data.toList.drop 22 = dktX1_then_1 := dk_seg dksX1_then_0 22 rfl rfl
theorem dksX1_then_2 : cX1_then.data.toList.drop 46 = dktX1_then_2 := dk_seg dksX1_then_1 24 rfl rfl
theorem dX1_then_0 : decode cX1_then 0 = .ok (.aload_n 0, 1) := dk_42 (dk_at dksX1_then_0 0 rfl rfl)
theorem dX1_then_1 : decode cX1_then 1 = .ok (.iload_n 1, 1) := dk_27 (dk_at dksX1_then_0 1 rfl rfl)
theorem dX1_then_2 : decode cX1_then 2 = .ok (.invokevirtual 145, 3) := dk_182 0 145 (dk_at dksX1_then_0 2 rfl rfl)
theorem dX1_then_5 : decode cX1_then 5 = .ok (.iload_n 3, 1) := dk_29 (dk_at dksX1_then_0 5 rfl rfl)
theorem dX1_then_6 : decode cX1_then 6 = .ok (.iconst 2, 1) := dk_5 (dk_at dksX1_then_0 6 rfl rfl)
theorem dX1_then_7 : decode cX1_then 7 = .ok (.invokestatic 163, 3) := dk_184 0 163 (dk_at dksX1_then_0 7 rfl rfl)
theorem dX1_then_10 : decode cX1_then 10 = .ok (.iload_n 2, 1) := dk_28 (dk_at dksX1_then_0 10 rfl rfl)
theorem dX1_then_11 : decode cX1_then 11 = .ok (.iconst 0, 1) := dk_3 (dk_at dksX1_then_0 11 rfl rfl)
theorem dX1_then_12 : decode cX1_then 12 = .ok (.bipush 40, 2) := dk_16 40 (dk_at dksX1_then_0 12 rfl rfl)
theorem dX1_then_14 : decode cX1_then 14 = .ok (.invokestatic 134, 3) := dk_184 0 134 (dk_at dksX1_then_0 14 rfl rfl)
theorem dX1_then_17 : decode cX1_then 17 = .ok (.invokestatic 65, 3) := dk_184 0 65 (dk_at dksX1_then_0 17 rfl rfl)
theorem dX1_then_20 : decode cX1_then 20 = .ok (.aload_n 0, 1) := dk_42 (dk_at dksX1_then_0 20 rfl rfl)
theorem dX1_then_21 : decode cX1_then 21 = .ok (.iload_n 2, 1) := dk_28 (dk_at dksX1_then_0 21 rfl rfl)
theorem dX1_then_22 : decode cX1_then 22 = .ok (.invokevirtual 217, 3) := dk_182 0 217 (dk_at dksX1_then_1 0 rfl rfl)
theorem dX1_then_25 : decode cX1_then 25 = .ok (.astore 4, 2) := dk_58 4 (dk_at dksX1_then_1 3 rfl rfl)
theorem dX1_then_27 : decode cX1_then 27 = .ok (.iload_n 3, 1) := dk_29 (dk_at dksX1_then_1 5 rfl rfl)
theorem dX1_then_28 : decode cX1_then 28 = .ok (.ifCond .ne 13, 3) := dk_154 0 13 (dk_at dksX1_then_1 6 rfl rfl)
theorem dX1_then_31 : decode cX1_then 31 = .ok (.aload 4, 2) := dk_25 4 (dk_at dksX1_then_1 9 rfl rfl)
theorem dX1_then_33 : decode cX1_then 33 = .ok (.getfield 96, 3) := dk_180 0 96 (dk_at dksX1_then_1 11 rfl rfl)
theorem dX1_then_36 : decode cX1_then 36 = .ok (.iload_n 1, 1) := dk_27 (dk_at dksX1_then_1 14 rfl rfl)
theorem dX1_then_37 : decode cX1_then 37 = .ok (.iaload, 1) := dk_46 (dk_at dksX1_then_1 15 rfl rfl)
theorem dX1_then_38 : decode cX1_then 38 = .ok (.goto 25, 3) := dk_167 0 25 (dk_at dksX1_then_1 16 rfl rfl)
theorem dX1_then_41 : decode cX1_then 41 = .ok (.iload_n 3, 1) := dk_29 (dk_at dksX1_then_1 19 rfl rfl)
theorem dX1_then_42 : decode cX1_then 42 = .ok (.iconst 1, 1) := dk_4 (dk_at dksX1_then_1 20 rfl rfl)
theorem dX1_then_43 : decode cX1_then 43 = .ok (.if_icmp .ne 13, 3) := dk_160 0 13 (dk_at dksX1_then_1 21 rfl rfl)
theorem dX1_then_46 : decode cX1_then 46 = .ok (.aload 4, 2) := dk_25 4 (dk_at dksX1_then_2 0 rfl rfl)
theorem dX1_then_48 : decode cX1_then 48 = .ok (.getfield 155, 3) := dk_180 0 155 (dk_at dksX1_then_2 2 rfl rfl)
theorem dX1_then_51 : decode cX1_then 51 = .ok (.iload_n 1, 1) := dk_27 (dk_at dksX1_then_2 5 rfl rfl)
theorem dX1_then_52 : decode cX1_then 52 = .ok (.iaload, 1) := dk_46 (dk_at dksX1_then_2 6 rfl rfl)
theorem dX1_then_53 : decode cX1_then 53 = .ok (.goto 10, 3) := dk_167 0 10 (dk_at dksX1_then_2 7 rfl rfl)
theorem dX1_then_56 : decode cX1_then 56 = .ok (.aload 4, 2) := dk_25 4 (dk_at dksX1_then_2 10 rfl rfl)
theorem dX1_then_58 : decode cX1_then 58 = .ok (.getfield 152, 3) := dk_180 0 152 (dk_at dksX1_then_2 12 rfl rfl)
theorem dX1_then_61 : decode cX1_then 61 = .ok (.iload_n 1, 1) := dk_27 (dk_at dksX1_then_2 15 rfl rfl)
theorem dX1_then_62 : decode cX1_then 62 = .ok (.iaload, 1) := dk_46 (dk_at dksX1_then_2 16 rfl rfl)
theorem dX1_then_63 : decode cX1_then 63 = .ok (.ireturn, 1) := dk_172 (dk_at dksX1_then_2 17 rfl rfl)
abbrev mX1_then : xM := (yX1_then, cX1_then, 5, (some .int), [])
def c_X1_then (G : xG) (x0 : Option Nat) (x1 : Int32) (x2 : Int32) (x3 : Int32) (T : xF) : Option ((Int32 ⊕ xE) × xF) :=
  if ¬ isO T x0 0 = true then none else
  clX (c_X1_aCell x0 x1 T) T fun v2 T2 =>
  clX (c_X1_oneOf x3 (2 : Int32) T2) T2 fun v7 T7 =>
  (c_X1_in x2 (0 : Int32) (40 : Int32)).bind fun v14 =>
  clX (c_X1_right v14 T7) T7 fun v17 T17 =>
  if ¬ isO T17 x0 0 = true then none else
  cl (c_X1_later G x0 x2 T17) T17 fun v22 T22 =>
  if x3 = 0 then
    (oQ T22 v22 2 2).bind fun v33 =>
    (ldA T22 v33 .int x1).bind fun v37 =>
    some (.inl v37, T22)
  else
    if x3 = (1 : Int32) then
      (oQ T22 v22 2 3).bind fun v48 =>
      (ldA T22 v48 .int x1).bind fun v52 =>
      some (.inl v52, T22)
    else
      (oQ T22 v22 2 1).bind fun v58 =>
      (ldA T22 v58 .int x1).bind fun v62 =>
      some (.inl v62, T22)
theorem w_X1_then {G : xG}  {T : xF} {x0 : Option Nat} {x1 : Int32} {x2 : Int32} {x3 : Int32} {q : ((Int32 ⊕ xE) × xF)} (hf : c_X1_then G x0 x1 x2 x3 T = some q) : Ct G mX1_then (127) T [va_rf x0, .int x1, .int x2, .int x3] (xoI q.1) q.2 := by
  refine Ct.ofc (plainFor_of_name (by decide +kernel)) rfl (xvQ (xvI (xvI (xvI xvN)))) (Nat.le_of_ble_eq_true rfl) (show Xr G _ 0 [(0, va_rf x0), (1, .int x1), (2, .int x2), (3, .int x3)] [] _ from ?_)
  unfold c_X1_then at hf
  refine C.aload_n dX1_then_0 rfl 0 rfl ?_
  refine X.iload_n dX1_then_1 rfl 1 rfl ?_
  obtain ⟨c2, hf⟩ := if_n hf
  rcases clX_ok hf with ⟨v2, T2, h2, hf, l2, r2⟩ | ⟨e2, T2, h2, rfl, l2⟩
  rotate_left
  · exact C.Vx (As := [.int x1]) (rest := []) dX1_then_2 (w_X1_aCell h2) cX1_145 (Classical.not_not.mp c2) rfl rfl (xcs xvN (Nat.le_of_ble_eq_true rfl)) rfl rfl (xD (Nat.le_of_ble_eq_true rfl)) l2 xle.rf (xnoh rfl) rfl
  refine C.Vv (As := [.int x1]) (rest := []) dX1_then_2 (w_X1_aCell h2) cX1_145 (Classical.not_not.mp c2) rfl rfl (xcs xvN (Nat.le_of_ble_eq_true rfl)) rfl rfl (xD (Nat.le_of_ble_eq_true rfl)) l2 r2 ?_
  refine X.iload_n dX1_then_5 rfl 3 rfl ?_
  refine X.iconst (v := 2) dX1_then_6 (by decide) ?_
  rcases clX_ok hf with ⟨v7, T7, h7, hf, l7, r7⟩ | ⟨e7, T7, h7, rfl, l7⟩
  rotate_left
  · exact C.Sx (As := [.int x3, .int (2 : Int32)]) (rest := []) dX1_then_7 (w_X1_oneOf h7) cX1_163 rfl rfl (xcs xvN (Nat.le_of_ble_eq_true rfl)) (xD (Nat.le_of_ble_eq_true rfl)) l7 xle.rf (xnoh rfl) rfl
  refine C.Sv (As := [.int x3, .int (2 : Int32)]) (rest := []) dX1_then_7 (w_X1_oneOf h7) cX1_163 rfl rfl (xcs xvN (Nat.le_of_ble_eq_true rfl)) (xD (Nat.le_of_ble_eq_true rfl)) l7 r7 ?_
  refine X.iload_n dX1_then_10 rfl 2 rfl ?_
  refine X.iconst (v := 0) dX1_then_11 (by decide) ?_
  refine X.bipush (v := 40) dX1_then_12 (by decide) ?_
  obtain ⟨v14, h14, hf⟩ := ob hf
  refine X.keep fun l14 => C.Si (As := [.int x2, .int (0 : Int32), .int (40 : Int32)]) (rest := []) dX1_then_14 (w_X1_in h14) cX1_134 rfl rfl (xcs xvN (Nat.le_of_ble_eq_true rfl)) (xD (Nat.le_of_ble_eq_true rfl)) xle.rf l14 ?_
  rcases clX_ok hf with ⟨v17, T17, h17, hf, l17, r17⟩ | ⟨e17, T17, h17, rfl, l17⟩
  rotate_left
  · exact C.Sx (As := [.int v14]) (rest := []) dX1_then_17 (w_X1_right h17) cX1_65 rfl rfl (xcs xvN (Nat.le_of_ble_eq_true rfl)) (xD (Nat.le_of_ble_eq_true rfl)) l17 xle.rf (xnoh rfl) rfl
  refine C.Sv (As := [.int v14]) (rest := []) dX1_then_17 (w_X1_right h17) cX1_65 rfl rfl (xcs xvN (Nat.le_of_ble_eq_true rfl)) (xD (Nat.le_of_ble_eq_true rfl)) l17 r17 ?_
  refine C.aload_n dX1_then_20 rfl 0 rfl ?_
  refine X.iload_n dX1_then_21 rfl 2 rfl ?_
  obtain ⟨c22, hf⟩ := if_n hf
  obtain ⟨v22, T22, h22, hf, l22, r22⟩ := cl_ok hf
  refine C.Vq (As := [.int x2]) (rest := []) dX1_then_22 (w_X1_later h22) cX1_217 (Classical.not_not.mp c22) rfl rfl (xcs xvN (Nat.le_of_ble_eq_true rfl)) rfl rfl (xD (Nat.le_of_ble_eq_true rfl)) l22 r22 ?_
  refine C.ast (L' := [(4, va_rf v22), (0, va_rf x0), (1, .int x1), (2, .int x2), (3, .int x3)]) dX1_then_25 (Nat.le_of_ble_eq_true rfl) (xcQ (xcI (xcI (xcI xcN)))) rfl ?_
  refine X.iload_n dX1_then_27 rfl 4 rfl ?_
  refine X.if_ne (tgt := 41) dX1_then_28 (by decide) (fun c28 => ?_) (fun c28 => ?_)
  · have hf := if_f c28 hf
    refine X.iload_n dX1_then_41 rfl 4 rfl ?_
    refine X.iconst (v := 1) dX1_then_42 (by decide) ?_
    refine X.icmp_ne (tgt := 56) dX1_then_43 (by decide) (fun c43 => ?_) (fun c43 => ?_)
    · have hf := if_f c43 hf
      refine C.aload dX1_then_56 0 rfl ?_
      obtain ⟨v58, h58, hf⟩ := ob hf
      refine C.getQ dX1_then_58 rX1_152 h58 ?_
      refine X.iload_n dX1_then_61 rfl 2 rfl ?_
      obtain ⟨v62, h62, hf⟩ := ob hf
      refine C.iald dX1_then_62 h62 ?_
      obtain rfl := Option.some.inj hf
      exact X.iret dX1_then_63 rfl rfl rfl
    · have hf := if_t c43 hf
      refine C.aload dX1_then_46 0 rfl ?_
      obtain ⟨v48, h48, hf⟩ := ob hf
      refine C.getQ dX1_then_48 rX1_155 h48 ?_
      refine X.iload_n dX1_then_51 rfl 2 rfl ?_
      obtain ⟨v52, h52, hf⟩ := ob hf
      refine C.iald dX1_then_52 h52 ?_
      refine X.goto (tgt := 63) dX1_then_53 (by decide) ?_
      obtain rfl := Option.some.inj hf
      exact X.iret dX1_then_63 rfl rfl rfl
  · have hf := if_t c28 hf
    refine C.aload dX1_then_31 0 rfl ?_
    obtain ⟨v33, h33, hf⟩ := ob hf
    refine C.getQ dX1_then_33 rX1_96 h33 ?_
    refine X.iload_n dX1_then_36 rfl 2 rfl ?_
    obtain ⟨v37, h37, hf⟩ := ob hf
    refine C.iald dX1_then_37 h37 ?_
    refine X.goto (tgt := 63) dX1_then_38 (by decide) ?_
    obtain rfl := Option.some.inj hf
    exact X.iret dX1_then_63 rfl rfl rfl
/-! MouldVotes$Growth <init> -/
abbrev cX3_init : ByteArray := prog_4_method_1_code
def yX3_init : MethodName := ⟨RX3, "<init>", "(LMouldVotes;)V"⟩
def dkwX3_init_3 : List UInt8 := [79, 132, 2, 1, 167, 255, 225, 177]
abbrev dktX3_init_3 : List UInt8 := dkwX3_init_3 ++ []
def dkwX3_init_2 : List UInt8 := [162, 0, 31, 42, 180, 0, 15, 28, 6, 79, 42, 180, 0, 19, 28, 16, 20, 79, 42, 180, 0, 22, 28, 2]
abbrev dktX3_init_2 : List UInt8 := dkwX3_init_2 ++ dktX3_init_3
def dkwX3_init_1 : List UInt8 := [181, 0, 19, 42, 16, 30, 188, 10, 181, 0, 22, 42, 16, 30, 188, 10, 181, 0, 25, 3, 61, 28, 16, 30]
abbrev dktX3_init_1 : List UInt8 := dkwX3_init_1 ++ dktX3_init_2
def dkwX3_init_0 : List UInt8 := [42, 43, 181, 0, 3, 42, 183, 0, 9, 42, 16, 30, 188, 10, 181, 0, 15, 42, 16, 30, 188, 10]
abbrev dktX3_init_0 : List UInt8 := dkwX3_init_0 ++ dktX3_init_1
theorem dksX3_init_0 : cX3_init.data.toList.drop 0 = dktX3_init_0 := by decide +kernel
theorem dksX3_init_1 : cX3_init.data.toList.drop 22 = dktX3_init_1 := dk_seg dksX3_init_0 22 rfl rfl
theorem dksX3_init_2 : cX3_init.data.toList.drop 46 = dktX3_init_2 := dk_seg dksX3_init_1 24 rfl rfl
theorem dksX3_init_3 : cX3_init.data.toList.drop 70 = dktX3_init_3 := dk_seg dksX3_init_2 24 rfl rfl
theorem dX3_init_0 : decode cX3_init 0 = .ok (.aload_n 0, 1) := dk_42 (dk_at dksX3_init_0 0 rfl rfl)
theorem dX3_init_1 : decode cX3_init 1 = .ok (.aload_n 1, 1) := dk_43 (dk_at dksX3_init_0 1 rfl rfl)
theorem dX3_init_2 : decode cX3_init 2 = .ok (.putfield 3, 3) := dk_181 0 3 (dk_at dksX3_init_0 2 rfl rfl)
theorem dX3_init_5 : decode cX3_init 5 = .ok (.aload_n 0, 1) := dk_42 (dk_at dksX3_init_0 5 rfl rfl)
theorem dX3_init_6 : decode cX3_init 6 = .ok (.invokespecial 9, 3) := dk_183 0 9 (dk_at dksX3_init_0 6 rfl rfl)
theorem dX3_init_9 : decode cX3_init 9 = .ok (.aload_n 0, 1) := dk_42 (dk_at dksX3_init_0 9 rfl rfl)
theorem dX3_init_10 : decode cX3_init 10 = .ok (.bipush 30, 2) := dk_16 30 (dk_at dksX3_init_0 10 rfl rfl)
theorem dX3_init_12 : decode cX3_init 12 = .ok (.newarray .int, 2) := dk_188_10 (dk_at dksX3_init_0 12 rfl rfl)
theorem dX3_init_14 : decode cX3_init 14 = .ok (.putfield 15, 3) := dk_181 0 15 (dk_at dksX3_init_0 14 rfl rfl)
theorem dX3_init_17 : decode cX3_init 17 = .ok (.aload_n 0, 1) := dk_42 (dk_at dksX3_init_0 17 rfl rfl)
theorem dX3_init_18 : decode cX3_init 18 = .ok (.bipush 30, 2) := dk_16 30 (dk_at dksX3_init_0 18 rfl rfl)
theorem dX3_init_20 : decode cX3_init 20 = .ok (.newarray .int, 2) := dk_188_10 (dk_at dksX3_init_0 20 rfl rfl)
theorem dX3_init_22 : decode cX3_init 22 = .ok (.putfield 19, 3) := dk_181 0 19 (dk_at dksX3_init_1 0 rfl rfl)
theorem dX3_init_25 : decode cX3_init 25 = .ok (.aload_n 0, 1) := dk_42 (dk_at dksX3_init_1 3 rfl rfl)
theorem dX3_init_26 : decode cX3_init 26 = .ok (.bipush 30, 2) := dk_16 30 (dk_at dksX3_init_1 4 rfl rfl)
theorem dX3_init_28 : decode cX3_init 28 = .ok (.newarray .int, 2) := dk_188_10 (dk_at dksX3_init_1 6 rfl rfl)
theorem dX3_init_30 : decode cX3_init 30 = .ok (.putfield 22, 3) := dk_181 0 22 (dk_at dksX3_init_1 8 rfl rfl)
theorem dX3_init_33 : decode cX3_init 33 = .ok (.aload_n 0, 1) := dk_42 (dk_at dksX3_init_1 11 rfl rfl)
theorem dX3_init_34 : decode cX3_init 34 = .ok (.bipush 30, 2) := dk_16 30 (dk_at dksX3_init_1 12 rfl rfl)
theorem dX3_init_36 : decode cX3_init 36 = .ok (.newarray .int, 2) := dk_188_10 (dk_at dksX3_init_1 14 rfl rfl)
theorem dX3_init_38 : decode cX3_init 38 = .ok (.putfield 25, 3) := dk_181 0 25 (dk_at dksX3_init_1 16 rfl rfl)
theorem dX3_init_41 : decode cX3_init 41 = .ok (.iconst 0, 1) := dk_3 (dk_at dksX3_init_1 19 rfl rfl)
theorem dX3_init_42 : decode cX3_init 42 = .ok (.istore_n 2, 1) := dk_61 (dk_at dksX3_init_1 20 rfl rfl)
theorem dX3_init_43 : decode cX3_init 43 = .ok (.iload_n 2, 1) := dk_28 (dk_at dksX3_init_1 21 rfl rfl)
theorem dX3_init_44 : decode cX3_init 44 = .ok (.bipush 30, 2) := dk_16 30 (dk_at dksX3_init_1 22 rfl rfl)
theorem dX3_init_46 : decode cX3_init 46 = .ok (.if_icmp .ge 31, 3) := dk_162 0 31 (dk_at dksX3_init_2 0 rfl rfl)
theorem dX3_init_49 : decode cX3_init 49 = .ok (.aload_n 0, 1) := dk_42 (dk_at dksX3_init_2 3 rfl rfl)
theorem dX3_init_50 : decode cX3_init 50 = .ok (.getfield 15, 3) := dk_180 0 15 (dk_at dksX3_init_2 4 rfl rfl)
theorem dX3_init_53 : decode cX3_init 53 = .ok (.iload_n 2, 1) := dk_28 (dk_at dksX3_init_2 7 rfl rfl)
theorem dX3_init_54 : decode cX3_init 54 = .ok (.iconst 3, 1) := dk_6 (dk_at dksX3_init_2 8 rfl rfl)
theorem dX3_init_55 : decode cX3_init 55 = .ok (.iastore, 1) := dk_79 (dk_at dksX3_init_2 9 rfl rfl)
theorem dX3_init_56 : decode cX3_init 56 = .ok (.aload_n 0, 1) := dk_42 (dk_at dksX3_init_2 10 rfl rfl)
theorem dX3_init_57 : decode cX3_init 57 = .ok (.getfield 19, 3) := dk_180 0 19 (dk_at dksX3_init_2 11 rfl rfl)
theorem dX3_init_60 : decode cX3_init 60 = .ok (.iload_n 2, 1) := dk_28 (dk_at dksX3_init_2 14 rfl rfl)
theorem dX3_init_61 : decode cX3_init 61 = .ok (.bipush 20, 2) := dk_16 20 (dk_at dksX3_init_2 15 rfl rfl)
theorem dX3_init_63 : decode cX3_init 63 = .ok (.iastore, 1) := dk_79 (dk_at dksX3_init_2 17 rfl rfl)
theorem dX3_init_64 : decode cX3_init 64 = .ok (.aload_n 0, 1) := dk_42 (dk_at dksX3_init_2 18 rfl rfl)
theorem dX3_init_65 : decode cX3_init 65 = .ok (.getfield 22, 3) := dk_180 0 22 (dk_at dksX3_init_2 19 rfl rfl)
theorem dX3_init_68 : decode cX3_init 68 = .ok (.iload_n 2, 1) := dk_28 (dk_at dksX3_init_2 22 rfl rfl)
theorem dX3_init_69 : decode cX3_init 69 = .ok (.iconst (-1), 1) := dk_2 (dk_at dksX3_init_2 23 rfl rfl)
theorem dX3_init_70 : decode cX3_init 70 = .ok (.iastore, 1) := dk_79 (dk_at dksX3_init_3 0 rfl rfl)
theorem dX3_init_71 : decode cX3_init 71 = .ok (.iinc 2 1, 3) := dk_132 2 1 (dk_at dksX3_init_3 1 rfl rfl)
theorem dX3_init_74 : decode cX3_init 74 = .ok (.goto (-31), 3) := dk_167 255 225 (dk_at dksX3_init_3 4 rfl rfl)
theorem dX3_init_77 : decode cX3_init 77 = .ok (.return_, 1) := dk_177 (dk_at dksX3_init_3 7 rfl rfl)
abbrev mX3_init : xM := (yX3_init, cX3_init, 3, none, [])
def c_X3_init_43_b (k43 : Option Nat → Int32 → xF → Option (Unit × xF)) (x0 : Option Nat) (x2 : Int32) (T : xF) : Option (Unit × xF) :=
  if (30 : Int32) ≤ x2 then
    some ((), T)
  else
    (oQ T x0 2 0).bind fun v50 =>
    (stA T v50 .int x2 (3 : Int32)).bind fun T55 =>
    (oQ T55 x0 2 1).bind fun v57 =>
    (stA T55 v57 .int x2 (20 : Int32)).bind fun T63 =>
    (oQ T63 x0 2 2).bind fun v65 =>
    (stA T63 v65 .int x2 (-1 : Int32)).bind fun T70 =>
    k43 x0 (x2 + 1) T70
def c_X3_init_43 : Nat → Option Nat → Int32 → xF → Option (Unit × xF)
  | 0 => fun _ _ _ => none
  | n + 1 => fun x0 x2 T => c_X3_init_43_b (c_X3_init_43 n) x0 x2 T
theorem c_X3_init_43_bok {G : xG}  {T0 : xF}  {k43 : Option Nat → Int32 → xF → Option (Unit × xF)}  (hk43 : ∀ (x0 : Option Nat) (x2 : Int32) (T : xF) (q : (Unit × xF)), k43 x0 x2 T = some q → Xr G (mX3_init, xrm (1) T0 q.2, T0, .inl none, q.2) 43 [(0, va_rf x0), (2, .int x2)] [] T) (x0 : Option Nat) (x2 : Int32) (T : xF) (q : (Unit × xF)) (hf : c_X3_init_43_b k43 x0 x2 T = some q) : Xr G (mX3_init, xrm (1) T0 q.2, T0, .inl none, q.2) 43 [(0, va_rf x0), (2, .int x2)] [] T := by
  unfold c_X3_init_43_b at hf
  refine X.iload_n dX3_init_43 rfl 1 rfl ?_
  refine X.bipush (v := 30) dX3_init_44 (by decide) ?_
  refine X.icmp_ge (tgt := 77) dX3_init_46 (by decide) (fun c46 => ?_) (fun c46 => ?_)
  · have hf := if_t c46 hf
    obtain rfl := Option.some.inj hf
    exact X.vret dX3_init_77 rfl rfl
  · have hf := if_f c46 hf
    refine C.aload_n dX3_init_49 rfl 0 rfl ?_
    obtain ⟨v50, h50, hf⟩ := ob hf
    refine C.getQ dX3_init_50 rX3_15 h50 ?_
    refine X.iload_n dX3_init_53 rfl 1 rfl ?_
    refine X.iconst (v := 3) dX3_init_54 (by decide) ?_
    obtain ⟨T55, h55, hf⟩ := ob hf
    refine C.iast dX3_init_55 h55 ?_
    refine C.aload_n dX3_init_56 rfl 0 rfl ?_
    obtain ⟨v57, h57, hf⟩ := ob hf
    refine C.getQ dX3_init_57 rX3_19 h57 ?_
    refine X.iload_n dX3_init_60 rfl 1 rfl ?_
    refine X.bipush (v := 20) dX3_init_61 (by decide) ?_
    obtain ⟨T63, h63, hf⟩ := ob hf
    refine C.iast dX3_init_63 h63 ?_
    refine C.aload_n dX3_init_64 rfl 0 rfl ?_
    obtain ⟨v65, h65, hf⟩ := ob hf
    refine C.getQ dX3_init_65 rX3_22 h65 ?_
    refine X.iload_n dX3_init_68 rfl 1 rfl ?_
    refine X.iconst (v := -1) dX3_init_69 (by decide) ?_
    obtain ⟨T70, h70, hf⟩ := ob hf
    refine C.iast dX3_init_70 h70 ?_
    refine C.iinc (v := (x2 + 1)) (L' := [(2, .int (x2 + 1)), (0, va_rf x0)]) dX3_init_71 1 rfl rfl (Nat.le_of_ble_eq_true rfl) (xcQ (xcI xcN)) rfl ?_
    refine X.goto (tgt := 43) dX3_init_74 (by decide) ?_
    refine X.sub [1, 0] (L' := [(0, va_rf x0), (2, .int (x2 + 1))]) rfl ?_
    exact hk43 _ _ _ _ hf
theorem c_X3_init_43_ok {G : xG}  {T0 : xF}   : ∀ (n : Nat) (x0 : Option Nat) (x2 : Int32) (T : xF) (q : (Unit × xF)), c_X3_init_43 n x0 x2 T = some q → Xr G (mX3_init, xrm (1) T0 q.2, T0, .inl none, q.2) 43 [(0, va_rf x0), (2, .int x2)] [] T
  | 0, _, _, _, _, hf => by cases hf
  | n + 1, x0, x2, T, q, hf => c_X3_init_43_bok (c_X3_init_43_ok n) x0 x2 T q hf
def c_X3_init (x0 : Option Nat) (x1 : Option Nat) (T : xF) : Option (Unit × xF) :=
  (pV T x0 2 5 (va_rf x1)).bind fun T2 =>
  if ¬ x0.isSome = true then none else
  if (30 : Int32) < 0 ∨ 100000000 ≤ (30 : Int32).toNatClampNeg then none else
  al (nA T2 .int (30 : Int32).toNatClampNeg) fun T12 =>
  (pV T12 x0 2 0 (va_rf (some T2.2.1))).bind fun T14 =>
  if (30 : Int32) < 0 ∨ 100000000 ≤ (30 : Int32).toNatClampNeg then none else
  al (nA T14 .int (30 : Int32).toNatClampNeg) fun T20 =>
  (pV T20 x0 2 1 (va_rf (some T14.2.1))).bind fun T22 =>
  if (30 : Int32) < 0 ∨ 100000000 ≤ (30 : Int32).toNatClampNeg then none else
  al (nA T22 .int (30 : Int32).toNatClampNeg) fun T28 =>
  (pV T28 x0 2 2 (va_rf (some T22.2.1))).bind fun T30 =>
  if (30 : Int32) < 0 ∨ 100000000 ≤ (30 : Int32).toNatClampNeg then none else
  al (nA T30 .int (30 : Int32).toNatClampNeg) fun T36 =>
  (pV T36 x0 2 3 (va_rf (some T30.2.1))).bind fun T38 =>
  c_X3_init_43 FU x0 (0 : Int32) T38
theorem w_X3_init {G : xG}  {T : xF} {x0 : Option Nat} {x1 : Option Nat} {q : (Unit × xF)} (hf : c_X3_init x0 x1 T = some q) : Ct G mX3_init (1) T [va_rf x0, va_rf x1] (.inl none) q.2 := by
  refine Ct.ofc (plainFor_of_name (by decide +kernel)) rfl (xvQ (xvQ xvN)) (Nat.le_of_ble_eq_true rfl) (show Xr G _ 0 [(0, va_rf x0), (1, va_rf x1)] [] _ from ?_)
  unfold c_X3_init at hf
  refine C.aload_n dX3_init_0 rfl 0 rfl ?_
  refine C.aload_n dX3_init_1 rfl 1 rfl ?_
  obtain ⟨T2, h2, hf⟩ := ob hf
  refine C.putQ dX3_init_2 fX3_3 (fun _ => rfl) rfl h2 ?_
  refine C.aload_n dX3_init_5 rfl 0 rfl ?_
  obtain ⟨c6, hf⟩ := if_n hf
  refine C.objI (Classical.not_not.mp c6) dX3_init_6 q240 obj1 obj2 (xcs xvN (Nat.le_of_ble_eq_true rfl)) (xD1 (Nat.le_of_ble_eq_true rfl)) ?_
  refine C.aload_n dX3_init_9 rfl 0 rfl ?_
  refine X.bipush (v := 30) dX3_init_10 (by decide) ?_
  obtain ⟨c12, hf⟩ := if_n hf
  obtain ⟨T12, e12, hf, l12⟩ := al_ok hf
  refine C.newaE e12 dX3_init_12 rfl (by decide) rfl q194 rfl (by decide) c12 l12 ?_
  obtain ⟨T14, h14, hf⟩ := ob hf
  refine C.putQ dX3_init_14 fX3_15 (fun _ => rfl) rfl h14 ?_
  refine C.aload_n dX3_init_17 rfl 0 rfl ?_
  refine X.bipush (v := 30) dX3_init_18 (by decide) ?_
  obtain ⟨c20, hf⟩ := if_n hf
  obtain ⟨T20, e20, hf, l20⟩ := al_ok hf
  refine C.newaE e20 dX3_init_20 rfl (by decide) rfl q194 rfl (by decide) c20 l20 ?_
  obtain ⟨T22, h22, hf⟩ := ob hf
  refine C.putQ dX3_init_22 fX3_19 (fun _ => rfl) rfl h22 ?_
  refine C.aload_n dX3_init_25 rfl 0 rfl ?_
  refine X.bipush (v := 30) dX3_init_26 (by decide) ?_
  obtain ⟨c28, hf⟩ := if_n hf
  obtain ⟨T28, e28, hf, l28⟩ := al_ok hf
  refine C.newaE e28 dX3_init_28 rfl (by decide) rfl q194 rfl (by decide) c28 l28 ?_
  obtain ⟨T30, h30, hf⟩ := ob hf
  refine C.putQ dX3_init_30 fX3_22 (fun _ => rfl) rfl h30 ?_
  refine C.aload_n dX3_init_33 rfl 0 rfl ?_
  refine X.bipush (v := 30) dX3_init_34 (by decide) ?_
  obtain ⟨c36, hf⟩ := if_n hf
  obtain ⟨T36, e36, hf, l36⟩ := al_ok hf
  refine C.newaE e36 dX3_init_36 rfl (by decide) rfl q194 rfl (by decide) c36 l36 ?_
  obtain ⟨T38, h38, hf⟩ := ob hf
  refine C.putQ dX3_init_38 fX3_25 (fun _ => rfl) rfl h38 ?_
  refine X.iconst (v := 0) dX3_init_41 (by decide) ?_
  refine C.ist_n (L' := [(2, .int (0 : Int32)), (0, va_rf x0), (1, va_rf x1)]) dX3_init_42 rfl (Nat.le_of_ble_eq_true rfl) (xcQ (xcQ xcN)) rfl ?_
  refine X.sub [1, 0] (L' := [(0, va_rf x0), (2, .int (0 : Int32))]) rfl ?_
  exact c_X3_init_43_ok FU _ _ _ _ hf
theorem cX1_28 : xCI RX1 28 mX3_init 1 := ⟨⟨lw_meth q239, rfl, q126, q237, q238, rfl⟩, rfl, ⟨by decide +kernel, by decide +kernel, by decide +kernel⟩, Nat.le_of_ble_eq_true rfl⟩
theorem cX3_28 : xCI RX3 28 mX3_init 1 := ⟨⟨lw_meth q239, rfl, q126, q350, q238, rfl⟩, rfl, ⟨by decide +kernel, by decide +kernel, by decide +kernel⟩, Nat.le_of_ble_eq_true rfl⟩
theorem cX5_24 : xCI RX5 24 mX3_init 1 := ⟨⟨lw_meth q239, rfl, q126, q815, q238, rfl⟩, rfl, ⟨by decide +kernel, by decide +kernel, by decide +kernel⟩, Nat.le_of_ble_eq_true rfl⟩
/-! MouldVotes$Growth copy -/
abbrev cX3_copy : ByteArray := prog_4_method_2_code
def yX3_copy : MethodName := ⟨RX3, "copy", "()LMouldVotes$Growth;"⟩
def dkwX3_copy_0 : List UInt8 := [187, 0, 4, 89, 42, 180, 0, 3, 183, 0, 28, 42, 182, 0, 31, 176]
abbrev dktX3_copy_0 : List UInt8 := dkwX3_copy_0 ++ []
theorem dksX3_copy_0 : cX3_copy.data.toList.drop 0 = dktX3_copy_0 := by decide +kernel
theorem dX3_copy_0 : decode cX3_copy 0 = .ok (.new 4, 3) := dk_187 0 4 (dk_at dksX3_copy_0 0 rfl rfl)
theorem dX3_copy_3 : decode cX3_copy 3 = .ok (.dup, 1) := dk_89 (dk_at dksX3_copy_0 3 rfl rfl)
theorem dX3_copy_4 : decode cX3_copy 4 = .ok (.aload_n 0, 1) := dk_42 (dk_at dksX3_copy_0 4 rfl rfl)
theorem dX3_copy_5 : decode cX3_copy 5 = .ok (.getfield 3, 3) := dk_180 0 3 (dk_at dksX3_copy_0 5 rfl rfl)
theorem dX3_copy_8 : decode cX3_copy 8 = .ok (.invokespecial 28, 3) := dk_183 0 28 (dk_at dksX3_copy_0 8 rfl rfl)
theorem dX3_copy_11 : decode cX3_copy 11 = .ok (.aload_n 0, 1) := dk_42 (dk_at dksX3_copy_0 11 rfl rfl)
theorem dX3_copy_12 : decode cX3_copy 12 = .ok (.invokevirtual 31, 3) := dk_182 0 31 (dk_at dksX3_copy_0 12 rfl rfl)
theorem dX3_copy_15 : decode cX3_copy 15 = .ok (.areturn, 1) := dk_176 (dk_at dksX3_copy_0 15 rfl rfl)
abbrev mX3_copy : xM := (yX3_copy, cX3_copy, 1, (some (.object "MouldVotes$Growth")), [])
def c_X3_copy (x0 : Option Nat) (T : xF) : Option (Option Nat × xF) :=
  al (nO T 2 6 [.null, .null, .null, .null, .int 0, .null]) fun T0 =>
  (oQ T0 x0 2 5).bind fun v5 =>
  cl (c_X3_init (some T.2.1) v5 T0) T0 fun v8 T8 =>
  if ¬ isO T8 (some T.2.1) 2 = true then none else
  cl (c_X3_be (some T.2.1) x0 T8) T8 fun v12 T12 =>
  some (v12, T12)
theorem w_X3_copy {G : xG}  {T : xF} {x0 : Option Nat} {q : (Option Nat × xF)} (hf : c_X3_copy x0 T = some q) : Ct G mX3_copy (2) T [va_rf x0] (.inl (some (va_rf q.1))) q.2 := by
  refine Ct.ofc (plainFor_of_name (by decide +kernel)) rfl (xvQ xvN) (Nat.le_of_ble_eq_true rfl) (show Xr G _ 0 [(0, va_rf x0)] [] _ from ?_)
  unfold c_X3_copy at hf
  obtain ⟨T0, e0, hf, l0⟩ := al_ok hf
  refine C.newE e0 dX3_copy_0 clX3 q349 q236 q126 rfl dfX3 l0 ?_
  refine X.dup dX3_copy_3 (cat1 _) ?_
  refine C.aload_n dX3_copy_4 rfl 0 rfl ?_
  obtain ⟨v5, h5, hf⟩ := ob hf
  refine C.getQ dX3_copy_5 rX3_3 h5 ?_
  obtain ⟨v8, T8, h8, hf, l8, r8⟩ := cl_ok hf
  refine C.Iv (As := [va_rf v5]) (rest := [va_rf (some T.2.1)]) dX3_copy_8 (w_X3_init h8) cX3_28 rfl rfl rfl (xcs (xvQ xvN) (Nat.le_of_ble_eq_true rfl)) (xD (Nat.le_of_ble_eq_true rfl)) l8 r8 ?_
  refine C.aload_n dX3_copy_11 rfl 0 rfl ?_
  obtain ⟨c12, hf⟩ := if_n hf
  obtain ⟨v12, T12, h12, hf, l12, r12⟩ := cl_ok hf
  refine C.Vq (As := [va_rf x0]) (rest := []) dX3_copy_12 (w_X3_be h12) cX3_31 (Classical.not_not.mp c12) rfl rfl (xcs xvN (Nat.le_of_ble_eq_true rfl)) rfl rfl (xD (Nat.le_of_ble_eq_true rfl)) l12 r12 ?_
  obtain rfl := Option.some.inj hf
  exact X.aret dX3_copy_15 rfl (Or.inl ⟨_, rfl⟩) rfl
theorem cX1_182 : xCV RX1 182 mX3_copy 0 := ⟨lw_V q345 q346 q347 q126 q348, rfl, ⟨by decide +kernel, by decide +kernel, by decide +kernel⟩, Nat.le_of_ble_eq_true rfl⟩
/-! java/util/ArrayList fastRemove -/
abbrev cJ2_fastRemove : ByteArray := prog_38_method_39_code
def yJ2_fastRemove : MethodName := ⟨RJ2, "fastRemove", "([Ljava/lang/Object;I)V"⟩
def dkwJ2_fastRemove_1 : List UInt8 := [4, 96, 43, 28, 29, 28, 100, 184, 0, 112, 43, 42, 29, 90, 181, 0, 48, 1, 83, 177]
abbrev dktJ2_fastRemove_1 : List UInt8 := dkwJ2_fastRemove_1 ++ []
def dkwJ2_fastRemove_0 : List UInt8 := [42, 89, 180, 0, 63, 4, 96, 181, 0, 63, 42, 180, 0, 48, 4, 100, 89, 62, 28, 164, 0, 15, 43, 28]
abbrev dktJ2_fastRemove_0 : List UInt8 := dkwJ2_fastRemove_0 ++ dktJ2_fastRemove_1
theorem dksJ2_fastRemove_0 : cJ2_fastRemove.data.toList.drop 0 = dktJ2_fastRemove_0 := by decide +kernel
theorem dksJ2_fastRemove_1 : cJ2_fastRemove.data.toList.drop 24 = dktJ2_fastRemove_1 := dk_seg dksJ2_fastRemove_0 24 rfl rfl
theorem dJ2_fastRemove_0 : decode cJ2_fastRemove 0 = .ok (.aload_n 0, 1) := dk_42 (dk_at dksJ2_fastRemove_0 0 rfl rfl)
theorem dJ2_fastRemove_1 : decode cJ2_fastRemove 1 = .ok (.dup, 1) := dk_89 (dk_at dksJ2_fastRemove_0 1 rfl rfl)
theorem dJ2_fastRemove_2 : decode cJ2_fastRemove 2 = .ok (.getfield 63, 3) := dk_180 0 63 (dk_at dksJ2_fastRemove_0 2 rfl rfl)
theorem dJ2_fastRemove_5 : decode cJ2_fastRemove 5 = .ok (.iconst 1, 1) := dk_4 (dk_at dksJ2_fastRemove_0 5 rfl rfl)
theorem dJ2_fastRemove_6 : decode cJ2_fastRemove 6 = .ok (.iadd, 1) := dk_96 (dk_at dksJ2_fastRemove_0 6 rfl rfl)
theorem dJ2_fastRemove_7 : decode cJ2_fastRemove 7 = .ok (.putfield 63, 3) := dk_181 0 63 (dk_at dksJ2_fastRemove_0 7 rfl rfl)
theorem dJ2_fastRemove_10 : decode cJ2_fastRemove 10 = .ok (.aload_n 0, 1) := dk_42 (dk_at dksJ2_fastRemove_0 10 rfl rfl)
theorem dJ2_fastRemove_11 : decode cJ2_fastRemove 11 = .ok (.getfield 48, 3) := dk_180 0 48 (dk_at dksJ2_fastRemove_0 11 rfl rfl)
theorem dJ2_fastRemove_14 : decode cJ2_fastRemove 14 = .ok (.iconst 1, 1) := dk_4 (dk_at dksJ2_fastRemove_0 14 rfl rfl)
theorem dJ2_fastRemove_15 : decode cJ2_fastRemove 15 = .ok (.isub, 1) := dk_100 (dk_at dksJ2_fastRemove_0 15 rfl rfl)
theorem dJ2_fastRemove_16 : decode cJ2_fastRemove 16 = .ok (.dup, 1) := dk_89 (dk_at dksJ2_fastRemove_0 16 rfl rfl)
theorem dJ2_fastRemove_17 : decode cJ2_fastRemove 17 = .ok (.istore_n 3, 1) := dk_62 (dk_at dksJ2_fastRemove_0 17 rfl rfl)
theorem dJ2_fastRemove_18 : decode cJ2_fastRemove 18 = .ok (.iload_n 2, 1) := dk_28 (dk_at dksJ2_fastRemove_0 18 rfl rfl)
theorem dJ2_fastRemove_19 : decode cJ2_fastRemove 19 = .ok (.if_icmp .le 15, 3) := dk_164 0 15 (dk_at dksJ2_fastRemove_0 19 rfl rfl)
theorem dJ2_fastRemove_22 : decode cJ2_fastRemove 22 = .ok (.aload_n 1, 1) := dk_43 (dk_at dksJ2_fastRemove_0 22 rfl rfl)
theorem dJ2_fastRemove_23 : decode cJ2_fastRemove 23 = .ok (.iload_n 2, 1) := dk_28 (dk_at dksJ2_fastRemove_0 23 rfl rfl)
theorem dJ2_fastRemove_24 : decode cJ2_fastRemove 24 = .ok (.iconst 1, 1) := dk_4 (dk_at dksJ2_fastRemove_1 0 rfl rfl)
theorem dJ2_fastRemove_25 : decode cJ2_fastRemove 25 = .ok (.iadd, 1) := dk_96 (dk_at dksJ2_fastRemove_1 1 rfl rfl)
theorem dJ2_fastRemove_26 : decode cJ2_fastRemove 26 = .ok (.aload_n 1, 1) := dk_43 (dk_at dksJ2_fastRemove_1 2 rfl rfl)
theorem dJ2_fastRemove_27 : decode cJ2_fastRemove 27 = .ok (.iload_n 2, 1) := dk_28 (dk_at dksJ2_fastRemove_1 3 rfl rfl)
theorem dJ2_fastRemove_28 : decode cJ2_fastRemove 28 = .ok (.iload_n 3, 1) := dk_29 (dk_at dksJ2_fastRemove_1 4 rfl rfl)
theorem dJ2_fastRemove_29 : decode cJ2_fastRemove 29 = .ok (.iload_n 2, 1) := dk_28 (dk_at dksJ2_fastRemove_1 5 rfl rfl)
theorem dJ2_fastRemove_30 : decode cJ2_fastRemove 30 = .ok (.isub, 1) := dk_100 (dk_at dksJ2_fastRemove_1 6 rfl rfl)
theorem dJ2_fastRemove_31 : decode cJ2_fastRemove 31 = .ok (.invokestatic 112, 3) := dk_184 0 112 (dk_at dksJ2_fastRemove_1 7 rfl rfl)
theorem dJ2_fastRemove_34 : decode cJ2_fastRemove 34 = .ok (.aload_n 1, 1) := dk_43 (dk_at dksJ2_fastRemove_1 10 rfl rfl)
theorem dJ2_fastRemove_35 : decode cJ2_fastRemove 35 = .ok (.aload_n 0, 1) := dk_42 (dk_at dksJ2_fastRemove_1 11 rfl rfl)
theorem dJ2_fastRemove_36 : decode cJ2_fastRemove 36 = .ok (.iload_n 3, 1) := dk_29 (dk_at dksJ2_fastRemove_1 12 rfl rfl)
theorem dJ2_fastRemove_37 : decode cJ2_fastRemove 37 = .ok (.dup_x1, 1) := dk_90 (dk_at dksJ2_fastRemove_1 13 rfl rfl)
theorem dJ2_fastRemove_38 : decode cJ2_fastRemove 38 = .ok (.putfield 48, 3) := dk_181 0 48 (dk_at dksJ2_fastRemove_1 14 rfl rfl)
theorem dJ2_fastRemove_41 : decode cJ2_fastRemove 41 = .ok (.aconst_null, 1) := dk_1 (dk_at dksJ2_fastRemove_1 17 rfl rfl)
theorem dJ2_fastRemove_42 : decode cJ2_fastRemove 42 = .ok (.aastore, 1) := dk_83 (dk_at dksJ2_fastRemove_1 18 rfl rfl)
theorem dJ2_fastRemove_43 : decode cJ2_fastRemove 43 = .ok (.return_, 1) := dk_177 (dk_at dksJ2_fastRemove_1 19 rfl rfl)
abbrev mJ2_fastRemove : xM := (yJ2_fastRemove, cJ2_fastRemove, 4, none, [])
def c_J2_fastRemove_34 (x0 : Option Nat) (x1 : Option Nat) (x3 : Int32) (T : xF) : Option (Unit × xF) :=
  (pV T x0 10 2 (.int x3)).bind fun T38 =>
  (stR T38 x1 x3 none).bind fun T42 =>
  some ((), T42)
theorem c_J2_fastRemove_34_ok {G : xG}  {T0 : xF}   (x0 : Option Nat) (x1 : Option Nat) (x3 : Int32) (T : xF) (q : (Unit × xF)) (hf : c_J2_fastRemove_34 x0 x1 x3 T = some q) : Xr G (mJ2_fastRemove, xrm (1) T0 q.2, T0, .inl none, q.2) 34 [(0, va_rf x0), (1, va_rf x1), (3, .int x3)] [] T := by
  unfold c_J2_fastRemove_34 at hf
  refine C.aload_n dJ2_fastRemove_34 rfl 1 rfl ?_
  refine C.aload_n dJ2_fastRemove_35 rfl 0 rfl ?_
  refine X.iload_n dJ2_fastRemove_36 rfl 2 rfl ?_
  refine X.dup_x1 dJ2_fastRemove_37 rfl (cat1 _) ?_
  obtain ⟨T38, h38, hf⟩ := ob hf
  refine C.putI dJ2_fastRemove_38 fJ2_48 (fun q => by cases q) rfl rfl h38 ?_
  refine C.null dJ2_fastRemove_41 ?_
  obtain ⟨T42, h42, hf⟩ := ob hf
  refine C.aast dJ2_fastRemove_42 h42 ?_
  obtain rfl := Option.some.inj hf
  exact X.vret dJ2_fastRemove_43 rfl rfl
def c_J2_fastRemove (x0 : Option Nat) (x1 : Option Nat) (x2 : Int32) (T : xF) : Option (Unit × xF) :=
  (oI T x0 10 0).bind fun v2 =>
  (pV T x0 10 0 (.int (v2 + (1 : Int32)))).bind fun T7 =>
  (oI T7 x0 10 2).bind fun v11 =>
  if (v11 - (1 : Int32)) ≤ x2 then
    c_J2_fastRemove_34 x0 x1 (v11 - (1 : Int32)) T7
  else
    (cpR T7 x1 (x2 + (1 : Int32)) x1 x2 ((v11 - (1 : Int32)) - x2)).bind fun T31 =>
    c_J2_fastRemove_34 x0 x1 (v11 - (1 : Int32)) T31
theorem w_J2_fastRemove {G : xG}  {T : xF} {x0 : Option Nat} {x1 : Option Nat} {x2 : Int32} {q : (Unit × xF)} (hf : c_J2_fastRemove x0 x1 x2 T = some q) : Ct G mJ2_fastRemove (1) T [va_rf x0, va_rf x1, .int x2] (.inl none) q.2 := by
  refine Ct.ofc (plainFor_of_name (by decide +kernel)) rfl (xvQ (xvQ (xvI xvN))) (Nat.le_of_ble_eq_true rfl) (show Xr G _ 0 [(0, va_rf x0), (1, va_rf x1), (2, .int x2)] [] _ from ?_)
  unfold c_J2_fastRemove at hf
  refine C.aload_n dJ2_fastRemove_0 rfl 0 rfl ?_
  refine X.dup dJ2_fastRemove_1 (cat1 _) ?_
  obtain ⟨v2, h2, hf⟩ := ob hf
  refine C.getI dJ2_fastRemove_2 rJ2_63 h2 ?_
  refine X.iconst (v := 1) dJ2_fastRemove_5 (by decide) ?_
  refine X.iadd dJ2_fastRemove_6 ?_
  obtain ⟨T7, h7, hf⟩ := ob hf
  refine C.putI dJ2_fastRemove_7 fJ2_63 (fun q => by cases q) rfl rfl h7 ?_
  refine C.aload_n dJ2_fastRemove_10 rfl 0 rfl ?_
  obtain ⟨v11, h11, hf⟩ := ob hf
  refine C.getI dJ2_fastRemove_11 rJ2_48 h11 ?_
  refine X.iconst (v := 1) dJ2_fastRemove_14 (by decide) ?_
  refine X.isub dJ2_fastRemove_15 ?_
  refine X.dup dJ2_fastRemove_16 rfl ?_
  refine C.ist_n (L' := [(3, .int (v11 - (1 : Int32))), (0, va_rf x0), (1, va_rf x1), (2, .int x2)]) dJ2_fastRemove_17 rfl (Nat.le_of_ble_eq_true rfl) (xcQ (xcQ (xcI xcN))) rfl ?_
  refine X.iload_n dJ2_fastRemove_18 rfl 3 rfl ?_
  refine X.icmp_le (tgt := 34) dJ2_fastRemove_19 (by decide) (fun c19 => ?_) (fun c19 => ?_)
  · have hf := if_t c19 hf
    refine X.sub [1, 2, 0] (L' := [(0, va_rf x0), (1, va_rf x1), (3, .int (v11 - (1 : Int32)))]) rfl ?_
    exact c_J2_fastRemove_34_ok _ _ _ _ _ hf
  · have hf := if_f c19 hf
    refine C.aload_n dJ2_fastRemove_22 rfl 2 rfl ?_
    refine X.iload_n dJ2_fastRemove_23 rfl 3 rfl ?_
    refine X.iconst (v := 1) dJ2_fastRemove_24 (by decide) ?_
    refine X.iadd dJ2_fastRemove_25 ?_
    refine C.aload_n dJ2_fastRemove_26 rfl 2 rfl ?_
    refine X.iload_n dJ2_fastRemove_27 rfl 3 rfl ?_
    refine X.iload_n dJ2_fastRemove_28 rfl 0 rfl ?_
    refine X.iload_n dJ2_fastRemove_29 rfl 3 rfl ?_
    refine X.isub dJ2_fastRemove_30 ?_
    obtain ⟨T31, h31, hf⟩ := ob hf
    refine C.cpR dJ2_fastRemove_31 q451 ac1 ac2 ac3 h31 (xcs xvN (Nat.le_of_ble_eq_true rfl)) (xD1 (Nat.le_of_ble_eq_true rfl)) ?_
    refine X.sub [1, 2, 0] (L' := [(0, va_rf x0), (1, va_rf x1), (3, .int (v11 - (1 : Int32)))]) rfl ?_
    exact c_J2_fastRemove_34_ok _ _ _ _ _ hf
theorem cJ2_144 : xCV RJ2 144 mJ2_fastRemove 2 := ⟨lw_V q447 q449 qs5 q125 q450, rfl, ⟨by decide +kernel, by decide +kernel, by decide +kernel⟩, Nat.le_of_ble_eq_true rfl⟩
/-! java/util/ArrayList remove -/
abbrev cJ2_remove : ByteArray := prog_38_method_29_code
def yJ2_remove : MethodName := ⟨RJ2, "remove", "(I)Ljava/lang/Object;"⟩
def dkwJ2_remove_1 : List UInt8 := [45, 176]
abbrev dktJ2_remove_1 : List UInt8 := dkwJ2_remove_1 ++ []
def dkwJ2_remove_0 : List UInt8 := [27, 42, 180, 0, 48, 184, 0, 118, 87, 42, 180, 0, 9, 77, 44, 27, 50, 78, 42, 44, 27, 182, 0, 144]
abbrev dktJ2_remove_0 : List UInt8 := dkwJ2_remove_0 ++ dktJ2_remove_1
theorem dksJ2_remove_0 : cJ2_remove.data.toList.drop 0 = dktJ2_remove_0 := by decide +kernel
theorem dksJ2_remove_1 : cJ2_remove.data.toList.drop 24 = dktJ2_remove_1 := dk_seg dksJ2_remove_0 24 rfl rfl
theorem dJ2_remove_0 : decode cJ2_remove 0 = .ok (.iload_n 1, 1) := dk_27 (dk_at dksJ2_remove_0 0 rfl rfl)
theorem dJ2_remove_1 : decode cJ2_remove 1 = .ok (.aload_n 0, 1) := dk_42 (dk_at dksJ2_remove_0 1 rfl rfl)
theorem dJ2_remove_2 : decode cJ2_remove 2 = .ok (.getfield 48, 3) := dk_180 0 48 (dk_at dksJ2_remove_0 2 rfl rfl)
theorem dJ2_remove_5 : decode cJ2_remove 5 = .ok (.invokestatic 118, 3) := dk_184 0 118 (dk_at dksJ2_remove_0 5 rfl rfl)
theorem dJ2_remove_8 : decode cJ2_remove 8 = .ok (.pop, 1) := dk_87 (dk_at dksJ2_remove_0 8 rfl rfl)
theorem dJ2_remove_9 : decode cJ2_remove 9 = .ok (.aload_n 0, 1) := dk_42 (dk_at dksJ2_remove_0 9 rfl rfl)
theorem dJ2_remove_10 : decode cJ2_remove 10 = .ok (.getfield 9, 3) := dk_180 0 9 (dk_at dksJ2_remove_0 10 rfl rfl)
theorem dJ2_remove_13 : decode cJ2_remove 13 = .ok (.astore_n 2, 1) := dk_77 (dk_at dksJ2_remove_0 13 rfl rfl)
theorem dJ2_remove_14 : decode cJ2_remove 14 = .ok (.aload_n 2, 1) := dk_44 (dk_at dksJ2_remove_0 14 rfl rfl)
theorem dJ2_remove_15 : decode cJ2_remove 15 = .ok (.iload_n 1, 1) := dk_27 (dk_at dksJ2_remove_0 15 rfl rfl)
theorem dJ2_remove_16 : decode cJ2_remove 16 = .ok (.aaload, 1) := dk_50 (dk_at dksJ2_remove_0 16 rfl rfl)
theorem dJ2_remove_17 : decode cJ2_remove 17 = .ok (.astore_n 3, 1) := dk_78 (dk_at dksJ2_remove_0 17 rfl rfl)
theorem dJ2_remove_18 : decode cJ2_remove 18 = .ok (.aload_n 0, 1) := dk_42 (dk_at dksJ2_remove_0 18 rfl rfl)
theorem dJ2_remove_19 : decode cJ2_remove 19 = .ok (.aload_n 2, 1) := dk_44 (dk_at dksJ2_remove_0 19 rfl rfl)
theorem dJ2_remove_20 : decode cJ2_remove 20 = .ok (.iload_n 1, 1) := dk_27 (dk_at dksJ2_remove_0 20 rfl rfl)
theorem dJ2_remove_21 : decode cJ2_remove 21 = .ok (.invokevirtual 144, 3) := dk_182 0 144 (dk_at dksJ2_remove_0 21 rfl rfl)
theorem dJ2_remove_24 : decode cJ2_remove 24 = .ok (.aload_n 3, 1) := dk_45 (dk_at dksJ2_remove_1 0 rfl rfl)
theorem dJ2_remove_25 : decode cJ2_remove 25 = .ok (.areturn, 1) := dk_176 (dk_at dksJ2_remove_1 1 rfl rfl)
abbrev mJ2_remove : xM := (yJ2_remove, cJ2_remove, 4, (some (.object "java/lang/Object")), [])
def c_J2_remove (x0 : Option Nat) (x1 : Int32) (T : xF) : Option (Option Nat × xF) :=
  (oI T x0 10 2).bind fun v2 =>
  (c_J19_checkIndex x1 v2).bind fun v5 =>
  (oQ T x0 10 1).bind fun v10 =>
  (ldR T v10 x1).bind fun v16 =>
  if ¬ isO T x0 10 = true then none else
  cl (c_J2_fastRemove x0 v10 x1 T) T fun v21 T21 =>
  some (v16, T21)
theorem w_J2_remove {G : xG}  {T : xF} {x0 : Option Nat} {x1 : Int32} {q : (Option Nat × xF)} (hf : c_J2_remove x0 x1 T = some q) : Ct G mJ2_remove (3) T [va_rf x0, .int x1] (.inl (some (va_rf q.1))) q.2 := by
  refine Ct.ofc (plainFor_of_name (by decide +kernel)) rfl (xvQ (xvI xvN)) (Nat.le_of_ble_eq_true rfl) (show Xr G _ 0 [(0, va_rf x0), (1, .int x1)] [] _ from ?_)
  unfold c_J2_remove at hf
  refine X.iload_n dJ2_remove_0 rfl 1 rfl ?_
  refine C.aload_n dJ2_remove_1 rfl 0 rfl ?_
  obtain ⟨v2, h2, hf⟩ := ob hf
  refine C.getI dJ2_remove_2 rJ2_48 h2 ?_
  obtain ⟨v5, h5, hf⟩ := ob hf
  refine X.keep fun l5 => C.Si (As := [.int x1, .int v2]) (rest := []) dJ2_remove_5 (w_J19_checkIndex h5) cJ2_118 rfl rfl (xcs xvN (Nat.le_of_ble_eq_true rfl)) (xD (Nat.le_of_ble_eq_true rfl)) xle.rf l5 ?_
  refine X.pop dJ2_remove_8 rfl ?_
  refine C.aload_n dJ2_remove_9 rfl 0 rfl ?_
  obtain ⟨v10, h10, hf⟩ := ob hf
  refine C.getQ dJ2_remove_10 rJ2_9 h10 ?_
  refine C.ast_n (L' := [(2, va_rf v10), (0, va_rf x0), (1, .int x1)]) dJ2_remove_13 rfl (Nat.le_of_ble_eq_true rfl) (xcQ (xcI xcN)) rfl ?_
  refine C.aload_n dJ2_remove_14 rfl 0 rfl ?_
  refine X.iload_n dJ2_remove_15 rfl 2 rfl ?_
  obtain ⟨v16, h16, hf⟩ := ob hf
  refine C.aald dJ2_remove_16 h16 ?_
  refine C.ast_n (L' := [(3, va_rf v16), (2, va_rf v10), (0, va_rf x0), (1, .int x1)]) dJ2_remove_17 rfl (Nat.le_of_ble_eq_true rfl) (xcQ (xcQ (xcI xcN))) rfl ?_
  refine C.aload_n dJ2_remove_18 rfl 2 rfl ?_
  refine C.aload_n dJ2_remove_19 rfl 1 rfl ?_
  refine X.iload_n dJ2_remove_20 rfl 3 rfl ?_
  obtain ⟨c21, hf⟩ := if_n hf
  obtain ⟨v21, T21, h21, hf, l21, r21⟩ := cl_ok hf
  refine C.Vv (As := [va_rf v10, .int x1]) (rest := []) dJ2_remove_21 (w_J2_fastRemove h21) cJ2_144 (Classical.not_not.mp c21) rfl rfl (xcs xvN (Nat.le_of_ble_eq_true rfl)) rfl rfl (xD (Nat.le_of_ble_eq_true rfl)) l21 r21 ?_
  refine C.aload_n dJ2_remove_24 rfl 0 rfl ?_
  obtain rfl := Option.some.inj hf
  exact X.aret dJ2_remove_25 rfl (Or.inl ⟨_, rfl⟩) rfl
theorem cX1_190 : xCF RX1 190 "java/util/ArrayList" ⟨"java/util/List", "remove", "(I)Ljava/lang/Object;"⟩ mJ2_remove 1 := ⟨lw_F q433 q436 q438 q125 q440, rfl, ⟨by decide +kernel, by decide +kernel, by decide +kernel⟩, Nat.le_of_ble_eq_true rfl, by decide⟩
/-! MouldVotes keepAct -/
abbrev cX1_keepAct : ByteArray := prog_1_method_19_code
def yX1_keepAct : MethodName := ⟨RX1, "keepAct", "()V"⟩
def dkwX1_keepAct_1 : List UInt8 := [185, 0, 104, 1, 0, 16, 40, 164, 0, 14, 42, 180, 0, 55, 3, 185, 0, 190, 2, 0, 87, 177]
abbrev dktX1_keepAct_1 : List UInt8 := dkwX1_keepAct_1 ++ []
def dkwX1_keepAct_0 : List UInt8 := [42, 180, 0, 55, 42, 180, 0, 38, 182, 0, 182, 185, 0, 186, 2, 0, 87, 42, 180, 0, 55]
abbrev dktX1_keepAct_0 : List UInt8 := dkwX1_keepAct_0 ++ dktX1_keepAct_1
theorem dksX1_keepAct_0 : cX1_keepAct.data.toList.drop 0 = dktX1_keepAct_0 := by decide +kernel
theorem dksX1_keepAct_1 : cX1_keepAct.data.toList.drop 21 = dktX1_keepAct_1 := dk_seg dksX1_keepAct_0 21 rfl rfl
theorem dX1_keepAct_0 : decode cX1_keepAct 0 = .ok (.aload_n 0, 1) := dk_42 (dk_at dksX1_keepAct_0 0 rfl rfl)
theorem dX1_keepAct_1 : decode cX1_keepAct 1 = .ok (.getfield 55, 3) := dk_180 0 55 (dk_at dksX1_keepAct_0 1 rfl rfl)
theorem dX1_keepAct_4 : decode cX1_keepAct 4 = .ok (.aload_n 0, 1) := dk_42 (dk_at dksX1_keepAct_0 4 rfl rfl)
theorem dX1_keepAct_5 : decode cX1_keepAct 5 = .ok (.getfield 38, 3) := dk_180 0 38 (dk_at dksX1_keepAct_0 5 rfl rfl)
theorem dX1_keepAct_8 : decode cX1_keepAct 8 = .ok (.invokevirtual 182, 3) := dk_182 0 182 (dk_at dksX1_keepAct_0 8 rfl rfl)
theorem dX1_keepAct_11 : decode cX1_keepAct 11 = .ok (.invokeinterface 186 2, 5) := by decide +kernel
theorem dX1_keepAct_16 : decode cX1_keepAct 16 = .ok (.pop, 1) := dk_87 (dk_at dksX1_keepAct_0 16 rfl rfl)
theorem dX1_keepAct_17 : decode cX1_keepAct 17 = .ok (.aload_n 0, 1) := dk_42 (dk_at dksX1_keepAct_0 17 rfl rfl)
theorem dX1_keepAct_18 : decode cX1_keepAct 18 = .ok (.getfield 55, 3) := dk_180 0 55 (dk_at dksX1_keepAct_0 18 rfl rfl)
theorem dX1_keepAct_21 : decode cX1_keepAct 21 = .ok (.invokeinterface 104 1, 5) := by decide +kernel
theorem dX1_keepAct_26 : decode cX1_keepAct 26 = .ok (.bipush 40, 2) := dk_16 40 (dk_at dksX1_keepAct_1 5 rfl rfl)
theorem dX1_keepAct_28 : decode cX1_keepAct 28 = .ok (.if_icmp .le 14, 3) := dk_164 0 14 (dk_at dksX1_keepAct_1 7 rfl rfl)
theorem dX1_keepAct_31 : decode cX1_keepAct 31 = .ok (.aload_n 0, 1) := dk_42 (dk_at dksX1_keepAct_1 10 rfl rfl)
theorem dX1_keepAct_32 : decode cX1_keepAct 32 = .ok (.getfield 55, 3) := dk_180 0 55 (dk_at dksX1_keepAct_1 11 rfl rfl)
theorem dX1_keepAct_35 : decode cX1_keepAct 35 = .ok (.iconst 0, 1) := dk_3 (dk_at dksX1_keepAct_1 14 rfl rfl)
theorem dX1_keepAct_36 : decode cX1_keepAct 36 = .ok (.invokeinterface 190 2, 5) := by decide +kernel
theorem dX1_keepAct_41 : decode cX1_keepAct 41 = .ok (.pop, 1) := dk_87 (dk_at dksX1_keepAct_1 20 rfl rfl)
theorem dX1_keepAct_42 : decode cX1_keepAct 42 = .ok (.return_, 1) := dk_177 (dk_at dksX1_keepAct_1 21 rfl rfl)
abbrev mX1_keepAct : xM := (yX1_keepAct, cX1_keepAct, 1, none, [])
def c_X1_keepAct (G : xG) (x0 : Option Nat) (T : xF) : Option (Unit × xF) :=
  (oQ T x0 0 9).bind fun v1 =>
  (oQ T x0 0 4).bind fun v5 =>
  if ¬ isO T v5 2 = true then none else
  cl (c_X3_copy v5 T) T fun v8 T8 =>
  if ¬ isO T8 v1 10 = true then none else
  cl (c_J2_add G v1 v8 T8) T8 fun v11 T11 =>
  (oQ T11 x0 0 9).bind fun v18 =>
  if ¬ isO T11 v18 10 = true then none else
  (c_J2_size T11 v18).bind fun v21 =>
  if v21 ≤ (40 : Int32) then
    some ((), T11)
  else
    (oQ T11 x0 0 9).bind fun v32 =>
    if ¬ isO T11 v32 10 = true then none else
    cl (c_J2_remove v32 (0 : Int32) T11) T11 fun v36 T36 =>
    some ((), T36)
theorem w_X1_keepAct {G : xG}  {T : xF} {x0 : Option Nat} {q : (Unit × xF)} (hf : c_X1_keepAct G x0 T = some q) : Ct G mX1_keepAct (8) T [va_rf x0] (.inl none) q.2 := by
  refine Ct.ofc (plainFor_of_name (by decide +kernel)) rfl (xvQ xvN) (Nat.le_of_ble_eq_true rfl) (show Xr G _ 0 [(0, va_rf x0)] [] _ from ?_)
  unfold c_X1_keepAct at hf
  refine C.aload_n dX1_keepAct_0 rfl 0 rfl ?_
  obtain ⟨v1, h1, hf⟩ := ob hf
  refine C.getQ dX1_keepAct_1 rX1_55 h1 ?_
  refine C.aload_n dX1_keepAct_4 rfl 0 rfl ?_
  obtain ⟨v5, h5, hf⟩ := ob hf
  refine C.getQ dX1_keepAct_5 rX1_38 h5 ?_
  obtain ⟨c8, hf⟩ := if_n hf
  obtain ⟨v8, T8, h8, hf, l8, r8⟩ := cl_ok hf
  refine C.Vq (As := []) (rest := [va_rf v1]) dX1_keepAct_8 (w_X3_copy h8) cX1_182 (Classical.not_not.mp c8) rfl rfl (xcs (xvQ xvN) (Nat.le_of_ble_eq_true rfl)) rfl rfl (xD (Nat.le_of_ble_eq_true rfl)) l8 r8 ?_
  obtain ⟨c11, hf⟩ := if_n hf
  obtain ⟨v11, T11, h11, hf, l11, r11⟩ := cl_ok hf
  refine C.Fi (As := [va_rf v8]) (rest := []) dX1_keepAct_11 (w_J2_add h11) cX1_186 (Classical.not_not.mp c11) rfl rfl (xcs xvN (Nat.le_of_ble_eq_true rfl)) rfl rfl (xD (Nat.le_of_ble_eq_true rfl)) l11 r11 ?_
  refine X.pop dX1_keepAct_16 rfl ?_
  refine C.aload_n dX1_keepAct_17 rfl 0 rfl ?_
  obtain ⟨v18, h18, hf⟩ := ob hf
  refine C.getQ dX1_keepAct_18 rX1_55 h18 ?_
  obtain ⟨c21, hf⟩ := if_n hf
  obtain ⟨v21, h21, hf⟩ := ob hf
  refine X.keep fun l21 => C.Fi (As := []) (rest := []) dX1_keepAct_21 (w_J2_size h21) cX1_104 (Classical.not_not.mp c21) rfl rfl (xcs xvN (Nat.le_of_ble_eq_true rfl)) rfl rfl (xD (Nat.le_of_ble_eq_true rfl)) xle.rf l21 ?_
  refine X.bipush (v := 40) dX1_keepAct_26 (by decide) ?_
  refine X.icmp_le (tgt := 42) dX1_keepAct_28 (by decide) (fun c28 => ?_) (fun c28 => ?_)
  · have hf := if_t c28 hf
    obtain rfl := Option.some.inj hf
    exact X.vret dX1_keepAct_42 rfl rfl
  · have hf := if_f c28 hf
    refine C.aload_n dX1_keepAct_31 rfl 0 rfl ?_
    obtain ⟨v32, h32, hf⟩ := ob hf
    refine C.getQ dX1_keepAct_32 rX1_55 h32 ?_
    refine X.iconst (v := 0) dX1_keepAct_35 (by decide) ?_
    obtain ⟨c36, hf⟩ := if_n hf
    obtain ⟨v36, T36, h36, hf, l36, r36⟩ := cl_ok hf
    refine C.Fq (As := [.int (0 : Int32)]) (rest := []) dX1_keepAct_36 (w_J2_remove h36) cX1_190 (Classical.not_not.mp c36) rfl rfl (xcs xvN (Nat.le_of_ble_eq_true rfl)) rfl rfl (xD (Nat.le_of_ble_eq_true rfl)) l36 r36 ?_
    refine X.pop dX1_keepAct_41 (cat1 _) ?_
    obtain rfl := Option.some.inj hf
    exact X.vret dX1_keepAct_42 rfl rfl
theorem cX1_196 : xCV RX1 196 mX1_keepAct 0 := ⟨lw_V q341 q343 qs1 q121 q344, rfl, ⟨by decide +kernel, by decide +kernel, by decide +kernel⟩, Nat.le_of_ble_eq_true rfl⟩
/-! MouldVotes scrape -/
abbrev cX1_scrape : ByteArray := prog_1_method_25_code
def yX1_scrape : MethodName := ⟨RX1, "scrape", "(I)I"⟩
def dkwX1_scrape_1 : List UInt8 := [42, 182, 0, 196, 42, 180, 0, 38, 180, 0, 155, 27, 46, 61, 42, 180, 0, 38, 27, 182, 0, 206, 28, 172]
abbrev dktX1_scrape_1 : List UInt8 := dkwX1_scrape_1 ++ []
def dkwX1_scrape_0 : List UInt8 := [42, 27, 182, 0, 145, 42, 180, 0, 38, 180, 0, 96, 27, 46, 2, 160, 0, 9, 42, 4, 182, 0, 193, 172]
abbrev dktX1_scrape_0 : List UInt8 := dkwX1_scrape_0 ++ dktX1_scrape_1
theorem dksX1_scrape_0 : cX1_scrape.data.toList.drop 0 = dktX1_scrape_0 := by decide +kernel
theorem dksX1_scrape_1 : cX1_scrape.data.toList.drop 24 = dktX1_scrape_1 := dk_seg dksX1_scrape_0 24 rfl rfl
theorem dX1_scrape_0 : decode cX1_scrape 0 = .ok (.aload_n 0, 1) := dk_42 (dk_at dksX1_scrape_0 0 rfl rfl)
theorem dX1_scrape_1 : decode cX1_scrape 1 = .ok (.iload_n 1, 1) := dk_27 (dk_at dksX1_scrape_0 1 rfl rfl)
theorem dX1_scrape_2 : decode cX1_scrape 2 = .ok (.invokevirtual 145, 3) := dk_182 0 145 (dk_at dksX1_scrape_0 2 rfl rfl)
theorem dX1_scrape_5 : decode cX1_scrape 5 = .ok (.aload_n 0, 1) := dk_42 (dk_at dksX1_scrape_0 5 rfl rfl)
theorem dX1_scrape_6 : decode cX1_scrape 6 = .ok (.getfield 38, 3) := dk_180 0 38 (dk_at dksX1_scrape_0 6 rfl rfl)
theorem dX1_scrape_9 : decode cX1_scrape 9 = .ok (.getfield 96, 3) := dk_180 0 96 (dk_at dksX1_scrape_0 9 rfl rfl)
theorem dX1_scrape_12 : decode cX1_scrape 12 = .ok (.iload_n 1, 1) := dk_27 (dk_at dksX1_scrape_0 12 rfl rfl)
theorem dX1_scrape_13 : decode cX1_scrape 13 = .ok (.iaload, 1) := dk_46 (dk_at dksX1_scrape_0 13 rfl rfl)
theorem dX1_scrape_14 : decode cX1_scrape 14 = .ok (.iconst (-1), 1) := dk_2 (dk_at dksX1_scrape_0 14 rfl rfl)
theorem dX1_scrape_15 : decode cX1_scrape 15 = .ok (.if_icmp .ne 9, 3) := dk_160 0 9 (dk_at dksX1_scrape_0 15 rfl rfl)
theorem dX1_scrape_18 : decode cX1_scrape 18 = .ok (.aload_n 0, 1) := dk_42 (dk_at dksX1_scrape_0 18 rfl rfl)
theorem dX1_scrape_19 : decode cX1_scrape 19 = .ok (.iconst 1, 1) := dk_4 (dk_at dksX1_scrape_0 19 rfl rfl)
theorem dX1_scrape_20 : decode cX1_scrape 20 = .ok (.invokevirtual 193, 3) := dk_182 0 193 (dk_at dksX1_scrape_0 20 rfl rfl)
theorem dX1_scrape_23 : decode cX1_scrape 23 = .ok (.ireturn, 1) := dk_172 (dk_at dksX1_scrape_0 23 rfl rfl)
theorem dX1_scrape_24 : decode cX1_scrape 24 = .ok (.aload_n 0, 1) := dk_42 (dk_at dksX1_scrape_1 0 rfl rfl)
theorem dX1_scrape_25 : decode cX1_scrape 25 = .ok (.invokevirtual 196, 3) := dk_182 0 196 (dk_at dksX1_scrape_1 1 rfl rfl)
theorem dX1_scrape_28 : decode cX1_scrape 28 = .ok (.aload_n 0, 1) := dk_42 (dk_at dksX1_scrape_1 4 rfl rfl)
theorem dX1_scrape_29 : decode cX1_scrape 29 = .ok (.getfield 38, 3) := dk_180 0 38 (dk_at dksX1_scrape_1 5 rfl rfl)
theorem dX1_scrape_32 : decode cX1_scrape 32 = .ok (.getfield 155, 3) := dk_180 0 155 (dk_at dksX1_scrape_1 8 rfl rfl)
theorem dX1_scrape_35 : decode cX1_scrape 35 = .ok (.iload_n 1, 1) := dk_27 (dk_at dksX1_scrape_1 11 rfl rfl)
theorem dX1_scrape_36 : decode cX1_scrape 36 = .ok (.iaload, 1) := dk_46 (dk_at dksX1_scrape_1 12 rfl rfl)
theorem dX1_scrape_37 : decode cX1_scrape 37 = .ok (.istore_n 2, 1) := dk_61 (dk_at dksX1_scrape_1 13 rfl rfl)
theorem dX1_scrape_38 : decode cX1_scrape 38 = .ok (.aload_n 0, 1) := dk_42 (dk_at dksX1_scrape_1 14 rfl rfl)
theorem dX1_scrape_39 : decode cX1_scrape 39 = .ok (.getfield 38, 3) := dk_180 0 38 (dk_at dksX1_scrape_1 15 rfl rfl)
theorem dX1_scrape_42 : decode cX1_scrape 42 = .ok (.iload_n 1, 1) := dk_27 (dk_at dksX1_scrape_1 18 rfl rfl)
theorem dX1_scrape_43 : decode cX1_scrape 43 = .ok (.invokevirtual 206, 3) := dk_182 0 206 (dk_at dksX1_scrape_1 19 rfl rfl)
theorem dX1_scrape_46 : decode cX1_scrape 46 = .ok (.iload_n 2, 1) := dk_28 (dk_at dksX1_scrape_1 22 rfl rfl)
theorem dX1_scrape_47 : decode cX1_scrape 47 = .ok (.ireturn, 1) := dk_172 (dk_at dksX1_scrape_1 23 rfl rfl)
abbrev mX1_scrape : xM := (yX1_scrape, cX1_scrape, 3, (some .int), [])
def c_X1_scrape (G : xG) (x0 : Option Nat) (x1 : Int32) (T : xF) : Option ((Int32 ⊕ xE) × xF) :=
  if ¬ isO T x0 0 = true then none else
  clX (c_X1_aCell x0 x1 T) T fun v2 T2 =>
  (oQ T2 x0 0 4).bind fun v6 =>
  (oQ T2 v6 2 2).bind fun v9 =>
  (ldA T2 v9 .int x1).bind fun v13 =>
  if v13 = (-1 : Int32) then
    if ¬ isO T2 x0 0 = true then none else
    cl (c_X1_refuse x0 (1 : Int32) T2) T2 fun v20 T20 =>
    some (.inl v20, T20)
  else
    if ¬ isO T2 x0 0 = true then none else
    cl (c_X1_keepAct G x0 T2) T2 fun v25 T25 =>
    (oQ T25 x0 0 4).bind fun v29 =>
    (oQ T25 v29 2 3).bind fun v32 =>
    (ldA T25 v32 .int x1).bind fun v36 =>
    (oQ T25 x0 0 4).bind fun v39 =>
    if ¬ isO T25 v39 2 = true then none else
    cl (c_X3_clear v39 x1 T25) T25 fun v43 T43 =>
    some (.inl v36, T43)
theorem w_X1_scrape {G : xG}  {T : xF} {x0 : Option Nat} {x1 : Int32} {q : ((Int32 ⊕ xE) × xF)} (hf : c_X1_scrape G x0 x1 T = some q) : Ct G mX1_scrape (9) T [va_rf x0, .int x1] (xoI q.1) q.2 := by
  refine Ct.ofc (plainFor_of_name (by decide +kernel)) rfl (xvQ (xvI xvN)) (Nat.le_of_ble_eq_true rfl) (show Xr G _ 0 [(0, va_rf x0), (1, .int x1)] [] _ from ?_)
  unfold c_X1_scrape at hf
  refine C.aload_n dX1_scrape_0 rfl 0 rfl ?_
  refine X.iload_n dX1_scrape_1 rfl 1 rfl ?_
  obtain ⟨c2, hf⟩ := if_n hf
  rcases clX_ok hf with ⟨v2, T2, h2, hf, l2, r2⟩ | ⟨e2, T2, h2, rfl, l2⟩
  rotate_left
  · exact C.Vx (As := [.int x1]) (rest := []) dX1_scrape_2 (w_X1_aCell h2) cX1_145 (Classical.not_not.mp c2) rfl rfl (xcs xvN (Nat.le_of_ble_eq_true rfl)) rfl rfl (xD (Nat.le_of_ble_eq_true rfl)) l2 xle.rf (xnoh rfl) rfl
  refine C.Vv (As := [.int x1]) (rest := []) dX1_scrape_2 (w_X1_aCell h2) cX1_145 (Classical.not_not.mp c2) rfl rfl (xcs xvN (Nat.le_of_ble_eq_true rfl)) rfl rfl (xD (Nat.le_of_ble_eq_true rfl)) l2 r2 ?_
  refine C.aload_n dX1_scrape_5 rfl 0 rfl ?_
  obtain ⟨v6, h6, hf⟩ := ob hf
  refine C.getQ dX1_scrape_6 rX1_38 h6 ?_
  obtain ⟨v9, h9, hf⟩ := ob hf
  refine C.getQ dX1_scrape_9 rX1_96 h9 ?_
  refine X.iload_n dX1_scrape_12 rfl 1 rfl ?_
  obtain ⟨v13, h13, hf⟩ := ob hf
  refine C.iald dX1_scrape_13 h13 ?_
  refine X.iconst (v := -1) dX1_scrape_14 (by decide) ?_
  refine X.icmp_ne (tgt := 24) dX1_scrape_15 (by decide) (fun c15 => ?_) (fun c15 => ?_)
  · have hf := if_f c15 hf
    refine C.aload_n dX1_scrape_24 rfl 0 rfl ?_
    obtain ⟨c25, hf⟩ := if_n hf
    obtain ⟨v25, T25, h25, hf, l25, r25⟩ := cl_ok hf
    refine C.Vv (As := []) (rest := []) dX1_scrape_25 (w_X1_keepAct h25) cX1_196 (Classical.not_not.mp c25) rfl rfl (xcs xvN (Nat.le_of_ble_eq_true rfl)) rfl rfl (xD (Nat.le_of_ble_eq_true rfl)) l25 r25 ?_
    refine C.aload_n dX1_scrape_28 rfl 0 rfl ?_
    obtain ⟨v29, h29, hf⟩ := ob hf
    refine C.getQ dX1_scrape_29 rX1_38 h29 ?_
    obtain ⟨v32, h32, hf⟩ := ob hf
    refine C.getQ dX1_scrape_32 rX1_155 h32 ?_
    refine X.iload_n dX1_scrape_35 rfl 1 rfl ?_
    obtain ⟨v36, h36, hf⟩ := ob hf
    refine C.iald dX1_scrape_36 h36 ?_
    refine C.ist_n (L' := [(2, .int v36), (0, va_rf x0), (1, .int x1)]) dX1_scrape_37 rfl (Nat.le_of_ble_eq_true rfl) (xcQ (xcI xcN)) rfl ?_
    refine C.aload_n dX1_scrape_38 rfl 1 rfl ?_
    obtain ⟨v39, h39, hf⟩ := ob hf
    refine C.getQ dX1_scrape_39 rX1_38 h39 ?_
    refine X.iload_n dX1_scrape_42 rfl 2 rfl ?_
    obtain ⟨c43, hf⟩ := if_n hf
    obtain ⟨v43, T43, h43, hf, l43, r43⟩ := cl_ok hf
    refine C.Vv (As := [.int x1]) (rest := []) dX1_scrape_43 (w_X3_clear h43) cX1_206 (Classical.not_not.mp c43) rfl rfl (xcs xvN (Nat.le_of_ble_eq_true rfl)) rfl rfl (xD (Nat.le_of_ble_eq_true rfl)) l43 r43 ?_
    refine X.iload_n dX1_scrape_46 rfl 0 rfl ?_
    obtain rfl := Option.some.inj hf
    exact X.iret dX1_scrape_47 rfl rfl rfl
  · have hf := if_t c15 hf
    refine C.aload_n dX1_scrape_18 rfl 0 rfl ?_
    refine X.iconst (v := 1) dX1_scrape_19 (by decide) ?_
    obtain ⟨c20, hf⟩ := if_n hf
    obtain ⟨v20, T20, h20, hf, l20, r20⟩ := cl_ok hf
    refine C.Vi (As := [.int (1 : Int32)]) (rest := []) dX1_scrape_20 (w_X1_refuse h20) cX1_193 (Classical.not_not.mp c20) rfl rfl (xcs xvN (Nat.le_of_ble_eq_true rfl)) rfl rfl (xD (Nat.le_of_ble_eq_true rfl)) l20 r20 ?_
    obtain rfl := Option.some.inj hf
    exact X.iret dX1_scrape_23 rfl rfl rfl
/-! MouldVotes sow -/
abbrev cX1_sow : ByteArray := prog_1_method_24_code
def yX1_sow : MethodName := ⟨RX1, "sow", "(II)Z"⟩
def dkwX1_sow_3 : List UInt8 := [4, 172]
abbrev dktX1_sow_3 : List UInt8 := dkwX1_sow_3 ++ []
def dkwX1_sow_2 : List UInt8 := [42, 182, 0, 196, 42, 180, 0, 38, 180, 0, 96, 27, 28, 79, 42, 180, 0, 38, 180, 0, 155, 27, 4, 79]
abbrev dktX1_sow_2 : List UInt8 := dkwX1_sow_2 ++ dktX1_sow_3
def dkwX1_sow_1 : List UInt8 := [180, 0, 38, 180, 0, 96, 27, 46, 2, 159, 0, 15, 42, 180, 0, 49, 4, 92, 46, 4, 96, 79, 3, 172]
abbrev dktX1_sow_1 : List UInt8 := dkwX1_sow_1 ++ dktX1_sow_2
def dkwX1_sow_0 : List UInt8 := [42, 27, 182, 0, 145, 28, 42, 180, 0, 22, 180, 0, 101, 185, 0, 104, 1, 0, 4, 100, 184, 0, 163, 42]
abbrev dktX1_sow_0 : List UInt8 := dkwX1_sow_0 ++ dktX1_sow_1
theorem dksX1_sow_0 : cX1_sow.data.toList.drop 0 = dktX1_sow_0 := by decide +kernel
theorem dksX1_sow_1 : cX1_sow.data.toList.drop 24 = dktX1_sow_1 := dk_seg dksX1_sow_0 24 rfl rfl
theorem dksX1_sow_2 : cX1_sow.data.toList.drop 48 = dktX1_sow_2 := dk_seg dksX1_sow_1 24 rfl rfl
theorem dksX1_sow_3 : cX1_sow.data.toList.drop 72 = dktX1_sow_3 := dk_seg dksX1_sow_2 24 rfl rfl
theorem dX1_sow_0 : decode cX1_sow 0 = .ok (.aload_n 0, 1) := dk_42 (dk_at dksX1_sow_0 0 rfl rfl)
theorem dX1_sow_1 : decode cX1_sow 1 = .ok (.iload_n 1, 1) := dk_27 (dk_at dksX1_sow_0 1 rfl rfl)
theorem dX1_sow_2 : decode cX1_sow 2 = .ok (.invokevirtual 145, 3) := dk_182 0 145 (dk_at dksX1_sow_0 2 rfl rfl)
theorem dX1_sow_5 : decode cX1_sow 5 = .ok (.iload_n 2, 1) := dk_28 (dk_at dksX1_sow_0 5 rfl rfl)
theorem dX1_sow_6 : decode cX1_sow 6 = .ok (.aload_n 0, 1) := dk_42 (dk_at dksX1_sow_0 6 rfl rfl)
theorem dX1_sow_7 : decode cX1_sow 7 = .ok (.getfield 22, 3) := dk_180 0 22 (dk_at dksX1_sow_0 7 rfl rfl)
theorem dX1_sow_10 : decode cX1_sow 10 = .ok (.getfield 101, 3) := dk_180 0 101 (dk_at dksX1_sow_0 10 rfl rfl)
theorem dX1_sow_13 : decode cX1_sow 13 = .ok (.invokeinterface 104 1, 5) := by decide +kernel
theorem dX1_sow_18 : decode cX1_sow 18 = .ok (.iconst 1, 1) := dk_4 (dk_at dksX1_sow_0 18 rfl rfl)
theorem dX1_sow_19 : decode cX1_sow 19 = .ok (.isub, 1) := dk_100 (dk_at dksX1_sow_0 19 rfl rfl)
theorem dX1_sow_20 : decode cX1_sow 20 = .ok (.invokestatic 163, 3) := dk_184 0 163 (dk_at dksX1_sow_0 20 rfl rfl)
theorem dX1_sow_23 : decode cX1_sow 23 = .ok (.aload_n 0, 1) := dk_42 (dk_at dksX1_sow_0 23 rfl rfl)
theorem dX1_sow_24 : decode cX1_sow 24 = .ok (.getfield 38, 3) := dk_180 0 38 (dk_at dksX1_sow_1 0 rfl rfl)
theorem dX1_sow_27 : decode cX1_sow 27 = .ok (.getfield 96, 3) := dk_180 0 96 (dk_at dksX1_sow_1 3 rfl rfl)
theorem dX1_sow_30 : decode cX1_sow 30 = .ok (.iload_n 1, 1) := dk_27 (dk_at dksX1_sow_1 6 rfl rfl)
theorem dX1_sow_31 : decode cX1_sow 31 = .ok (.iaload, 1) := dk_46 (dk_at dksX1_sow_1 7 rfl rfl)
theorem dX1_sow_32 : decode cX1_sow 32 = .ok (.iconst (-1), 1) := dk_2 (dk_at dksX1_sow_1 8 rfl rfl)
theorem dX1_sow_33 : decode cX1_sow 33 = .ok (.if_icmp .eq 15, 3) := dk_159 0 15 (dk_at dksX1_sow_1 9 rfl rfl)
theorem dX1_sow_36 : decode cX1_sow 36 = .ok (.aload_n 0, 1) := dk_42 (dk_at dksX1_sow_1 12 rfl rfl)
theorem dX1_sow_37 : decode cX1_sow 37 = .ok (.getfield 49, 3) := dk_180 0 49 (dk_at dksX1_sow_1 13 rfl rfl)
theorem dX1_sow_40 : decode cX1_sow 40 = .ok (.iconst 1, 1) := dk_4 (dk_at dksX1_sow_1 16 rfl rfl)
theorem dX1_sow_41 : decode cX1_sow 41 = .ok (.dup2, 1) := dk_92 (dk_at dksX1_sow_1 17 rfl rfl)
theorem dX1_sow_42 : decode cX1_sow 42 = .ok (.iaload, 1) := dk_46 (dk_at dksX1_sow_1 18 rfl rfl)
theorem dX1_sow_43 : decode cX1_sow 43 = .ok (.iconst 1, 1) := dk_4 (dk_at dksX1_sow_1 19 rfl rfl)
theorem dX1_sow_44 : decode cX1_sow 44 = .ok (.iadd, 1) := dk_96 (dk_at dksX1_sow_1 20 rfl rfl)
theorem dX1_sow_45 : decode cX1_sow 45 = .ok (.iastore, 1) := dk_79 (dk_at dksX1_sow_1 21 rfl rfl)
theorem dX1_sow_46 : decode cX1_sow 46 = .ok (.iconst 0, 1) := dk_3 (dk_at dksX1_sow_1 22 rfl rfl)
theorem dX1_sow_47 : decode cX1_sow 47 = .ok (.ireturn, 1) := dk_172 (dk_at dksX1_sow_1 23 rfl rfl)
theorem dX1_sow_48 : decode cX1_sow 48 = .ok (.aload_n 0, 1) := dk_42 (dk_at dksX1_sow_2 0 rfl rfl)
theorem dX1_sow_49 : decode cX1_sow 49 = .ok (.invokevirtual 196, 3) := dk_182 0 196 (dk_at dksX1_sow_2 1 rfl rfl)
theorem dX1_sow_52 : decode cX1_sow 52 = .ok (.aload_n 0, 1) := dk_42 (dk_at dksX1_sow_2 4 rfl rfl)
theorem dX1_sow_53 : decode cX1_sow 53 = .ok (.getfield 38, 3) := dk_180 0 38 (dk_at dksX1_sow_2 5 rfl rfl)
theorem dX1_sow_56 : decode cX1_sow 56 = .ok (.getfield 96, 3) := dk_180 0 96 (dk_at dksX1_sow_2 8 rfl rfl)
theorem dX1_sow_59 : decode cX1_sow 59 = .ok (.iload_n 1, 1) := dk_27 (dk_at dksX1_sow_2 11 rfl rfl)
theorem dX1_sow_60 : decode cX1_sow 60 = .ok (.iload_n 2, 1) := dk_28 (dk_at dksX1_sow_2 12 rfl rfl)
theorem dX1_sow_61 : decode cX1_sow 61 = .ok (.iastore, 1) := dk_79 (dk_at dksX1_sow_2 13 rfl rfl)
theorem dX1_sow_62 : decode cX1_sow 62 = .ok (.aload_n 0, 1) := dk_42 (dk_at dksX1_sow_2 14 rfl rfl)
theorem dX1_sow_63 : decode cX1_sow 63 = .ok (.getfield 38, 3) := dk_180 0 38 (dk_at dksX1_sow_2 15 rfl rfl)
theorem dX1_sow_66 : decode cX1_sow 66 = .ok (.getfield 155, 3) := dk_180 0 155 (dk_at dksX1_sow_2 18 rfl rfl)
theorem dX1_sow_69 : decode cX1_sow 69 = .ok (.iload_n 1, 1) := dk_27 (dk_at dksX1_sow_2 21 rfl rfl)
theorem dX1_sow_70 : decode cX1_sow 70 = .ok (.iconst 1, 1) := dk_4 (dk_at dksX1_sow_2 22 rfl rfl)
theorem dX1_sow_71 : decode cX1_sow 71 = .ok (.iastore, 1) := dk_79 (dk_at dksX1_sow_2 23 rfl rfl)
theorem dX1_sow_72 : decode cX1_sow 72 = .ok (.iconst 1, 1) := dk_4 (dk_at dksX1_sow_3 0 rfl rfl)
theorem dX1_sow_73 : decode cX1_sow 73 = .ok (.ireturn, 1) := dk_172 (dk_at dksX1_sow_3 1 rfl rfl)
abbrev mX1_sow : xM := (yX1_sow, cX1_sow, 3, (some .boolean), [])
def c_X1_sow (G : xG) (x0 : Option Nat) (x1 : Int32) (x2 : Int32) (T : xF) : Option ((Int32 ⊕ xE) × xF) :=
  if ¬ isO T x0 0 = true then none else
  clX (c_X1_aCell x0 x1 T) T fun v2 T2 =>
  (oQ T2 x0 0 1).bind fun v7 =>
  (oQ T2 v7 1 0).bind fun v10 =>
  if ¬ isO T2 v10 10 = true then none else
  (c_J2_size T2 v10).bind fun v13 =>
  clX (c_X1_oneOf x2 (v13 - (1 : Int32)) T2) T2 fun v20 T20 =>
  (oQ T20 x0 0 4).bind fun v24 =>
  (oQ T20 v24 2 2).bind fun v27 =>
  (ldA T20 v27 .int x1).bind fun v31 =>
  if v31 = (-1 : Int32) then
    if ¬ isO T20 x0 0 = true then none else
    cl (c_X1_keepAct G x0 T20) T20 fun v49 T49 =>
    (oQ T49 x0 0 4).bind fun v53 =>
    (oQ T49 v53 2 2).bind fun v56 =>
    (stA T49 v56 .int x1 x2).bind fun T61 =>
    (oQ T61 x0 0 4).bind fun v63 =>
    (oQ T61 v63 2 3).bind fun v66 =>
    (stA T61 v66 .int x1 (1 : Int32)).bind fun T71 =>
    some (.inl (1 : Int32), T71)
  else
    (oQ T20 x0 0 8).bind fun v37 =>
    (ldA T20 v37 .int (1 : Int32)).bind fun v42 =>
    (stA T20 v37 .int (1 : Int32) (v42 + (1 : Int32))).bind fun T45 =>
    some (.inl (0 : Int32), T45)
theorem w_X1_sow {G : xG}  {T : xF} {x0 : Option Nat} {x1 : Int32} {x2 : Int32} {q : ((Int32 ⊕ xE) × xF)} (hf : c_X1_sow G x0 x1 x2 T = some q) : Ct G mX1_sow (9) T [va_rf x0, .int x1, .int x2] (xoI q.1) q.2 := by
  refine Ct.ofc (plainFor_of_name (by decide +kernel)) rfl (xvQ (xvI (xvI xvN))) (Nat.le_of_ble_eq_true rfl) (show Xr G _ 0 [(0, va_rf x0), (1, .int x1), (2, .int x2)] [] _ from ?_)
  unfold c_X1_sow at hf
  refine C.aload_n dX1_sow_0 rfl 0 rfl ?_
  refine X.iload_n dX1_sow_1 rfl 1 rfl ?_
  obtain ⟨c2, hf⟩ := if_n hf
  rcases clX_ok hf with ⟨v2, T2, h2, hf, l2, r2⟩ | ⟨e2, T2, h2, rfl, l2⟩
  rotate_left
  · exact C.Vx (As := [.int x1]) (rest := []) dX1_sow_2 (w_X1_aCell h2) cX1_145 (Classical.not_not.mp c2) rfl rfl (xcs xvN (Nat.le_of_ble_eq_true rfl)) rfl rfl (xD (Nat.le_of_ble_eq_true rfl)) l2 xle.rf (xnoh rfl) rfl
  refine C.Vv (As := [.int x1]) (rest := []) dX1_sow_2 (w_X1_aCell h2) cX1_145 (Classical.not_not.mp c2) rfl rfl (xcs xvN (Nat.le_of_ble_eq_true rfl)) rfl rfl (xD (Nat.le_of_ble_eq_true rfl)) l2 r2 ?_
  refine X.iload_n dX1_sow_5 rfl 2 rfl ?_
  refine C.aload_n dX1_sow_6 rfl 0 rfl ?_
  obtain ⟨v7, h7, hf⟩ := ob hf
  refine C.getQ dX1_sow_7 rX1_22 h7 ?_
  obtain ⟨v10, h10, hf⟩ := ob hf
  refine C.getQ dX1_sow_10 rX1_101 h10 ?_
  obtain ⟨c13, hf⟩ := if_n hf
  obtain ⟨v13, h13, hf⟩ := ob hf
  refine X.keep fun l13 => C.Fi (As := []) (rest := [.int x2]) dX1_sow_13 (w_J2_size h13) cX1_104 (Classical.not_not.mp c13) rfl rfl (xcs (xvI xvN) (Nat.le_of_ble_eq_true rfl)) rfl rfl (xD (Nat.le_of_ble_eq_true rfl)) xle.rf l13 ?_
  refine X.iconst (v := 1) dX1_sow_18 (by decide) ?_
  refine X.isub dX1_sow_19 ?_
  rcases clX_ok hf with ⟨v20, T20, h20, hf, l20, r20⟩ | ⟨e20, T20, h20, rfl, l20⟩
  rotate_left
  · exact C.Sx (As := [.int x2, .int (v13 - (1 : Int32))]) (rest := []) dX1_sow_20 (w_X1_oneOf h20) cX1_163 rfl rfl (xcs xvN (Nat.le_of_ble_eq_true rfl)) (xD (Nat.le_of_ble_eq_true rfl)) l20 xle.rf (xnoh rfl) rfl
  refine C.Sv (As := [.int x2, .int (v13 - (1 : Int32))]) (rest := []) dX1_sow_20 (w_X1_oneOf h20) cX1_163 rfl rfl (xcs xvN (Nat.le_of_ble_eq_true rfl)) (xD (Nat.le_of_ble_eq_true rfl)) l20 r20 ?_
  refine C.aload_n dX1_sow_23 rfl 0 rfl ?_
  obtain ⟨v24, h24, hf⟩ := ob hf
  refine C.getQ dX1_sow_24 rX1_38 h24 ?_
  obtain ⟨v27, h27, hf⟩ := ob hf
  refine C.getQ dX1_sow_27 rX1_96 h27 ?_
  refine X.iload_n dX1_sow_30 rfl 1 rfl ?_
  obtain ⟨v31, h31, hf⟩ := ob hf
  refine C.iald dX1_sow_31 h31 ?_
  refine X.iconst (v := -1) dX1_sow_32 (by decide) ?_
  refine X.icmp_eq (tgt := 48) dX1_sow_33 (by decide) (fun c33 => ?_) (fun c33 => ?_)
  · have hf := if_t c33 hf
    refine C.aload_n dX1_sow_48 rfl 0 rfl ?_
    obtain ⟨c49, hf⟩ := if_n hf
    obtain ⟨v49, T49, h49, hf, l49, r49⟩ := cl_ok hf
    refine C.Vv (As := []) (rest := []) dX1_sow_49 (w_X1_keepAct h49) cX1_196 (Classical.not_not.mp c49) rfl rfl (xcs xvN (Nat.le_of_ble_eq_true rfl)) rfl rfl (xD (Nat.le_of_ble_eq_true rfl)) l49 r49 ?_
    refine C.aload_n dX1_sow_52 rfl 0 rfl ?_
    obtain ⟨v53, h53, hf⟩ := ob hf
    refine C.getQ dX1_sow_53 rX1_38 h53 ?_
    obtain ⟨v56, h56, hf⟩ := ob hf
    refine C.getQ dX1_sow_56 rX1_96 h56 ?_
    refine X.iload_n dX1_sow_59 rfl 1 rfl ?_
    refine X.iload_n dX1_sow_60 rfl 2 rfl ?_
    obtain ⟨T61, h61, hf⟩ := ob hf
    refine C.iast dX1_sow_61 h61 ?_
    refine C.aload_n dX1_sow_62 rfl 0 rfl ?_
    obtain ⟨v63, h63, hf⟩ := ob hf
    refine C.getQ dX1_sow_63 rX1_38 h63 ?_
    obtain ⟨v66, h66, hf⟩ := ob hf
    refine C.getQ dX1_sow_66 rX1_155 h66 ?_
    refine X.iload_n dX1_sow_69 rfl 1 rfl ?_
    refine X.iconst (v := 1) dX1_sow_70 (by decide) ?_
    obtain ⟨T71, h71, hf⟩ := ob hf
    refine C.iast dX1_sow_71 h71 ?_
    refine X.iconst (v := 1) dX1_sow_72 (by decide) ?_
    obtain rfl := Option.some.inj hf
    exact X.iret dX1_sow_73 rfl rfl rfl
  · have hf := if_f c33 hf
    refine C.aload_n dX1_sow_36 rfl 0 rfl ?_
    obtain ⟨v37, h37, hf⟩ := ob hf
    refine C.getQ dX1_sow_37 rX1_49 h37 ?_
    refine X.iconst (v := 1) dX1_sow_40 (by decide) ?_
    refine X.dup2_11 dX1_sow_41 rfl (cat1 _) ?_
    obtain ⟨v42, h42, hf⟩ := ob hf
    refine C.iald dX1_sow_42 h42 ?_
    refine X.iconst (v := 1) dX1_sow_43 (by decide) ?_
    refine X.iadd dX1_sow_44 ?_
    obtain ⟨T45, h45, hf⟩ := ob hf
    refine C.iast dX1_sow_45 h45 ?_
    refine X.iconst (v := 0) dX1_sow_46 (by decide) ?_
    obtain rfl := Option.some.inj hf
    exact X.iret dX1_sow_47 rfl rfl rfl
