set_option maxRecDepth 100000
/-! MouldVotes roll -/
abbrev cX1_roll : ByteArray := prog_1_method_7_code
def yX1_roll : MethodName := ⟨RX1, "roll", "(I)I"⟩
def dkwX1_roll_4 : List UInt8 := [181, 0, 55, 42, 187, 0, 52, 89, 183, 0, 54, 181, 0, 59, 42, 1, 181, 0, 89, 3, 172]
abbrev dktX1_roll_4 : List UInt8 := dkwX1_roll_4 ++ []
def dkwX1_roll_3 : List UInt8 := [79, 45, 180, 0, 83, 172, 42, 44, 180, 0, 86, 181, 0, 38, 42, 187, 0, 52, 89, 183, 0, 54]
abbrev dktX1_roll_3 : List UInt8 := dkwX1_roll_3 ++ dktX1_roll_4
def dkwX1_roll_2 : List UInt8 := [181, 0, 22, 167, 0, 27, 78, 42, 44, 180, 0, 80, 181, 0, 45, 42, 180, 0, 49, 3, 92, 46, 4, 96]
abbrev dktX1_roll_2 : List UInt8 := dkwX1_roll_2 ++ dktX1_roll_3
def dkwX1_roll_1 : List UInt8 := [181, 0, 62, 42, 2, 181, 0, 45, 187, 0, 69, 89, 42, 27, 183, 0, 71, 77, 42, 44, 182, 0, 74]
abbrev dktX1_roll_1 : List UInt8 := dkwX1_roll_1 ++ dktX1_roll_2
def dkwX1_roll_0 : List UInt8 := [27, 155, 0, 15, 27, 42, 180, 0, 62, 163, 0, 7, 4, 167, 0, 4, 3, 184, 0, 65, 42, 3]
abbrev dktX1_roll_0 : List UInt8 := dkwX1_roll_0 ++ dktX1_roll_1
theorem dksX1_roll_0 : cX1_roll.data.toList.drop 0 = dktX1_roll_0 := by decide +kernel
theorem dksX1_roll_1 : cX1_roll.data.toList.drop 22 = dktX1_roll_1 := dk_seg dksX1_roll_0 22 rfl rfl
theorem dksX1_roll_2 : cX1_roll.data.toList.drop 45 = dktX1_roll_2 := dk_seg dksX1_roll_1 23 rfl rfl
theorem dksX1_roll_3 : cX1_roll.data.toList.drop 69 = dktX1_roll_3 := dk_seg dksX1_roll_2 24 rfl rfl
theorem dksX1_roll_4 : cX1_roll.data.toList.drop 91 = dktX1_roll_4 := dk_seg dksX1_roll_3 22 rfl rfl
theorem dX1_roll_0 : decode cX1_roll 0 = .ok (.iload_n 1, 1) := dk_27 (dk_at dksX1_roll_0 0 rfl rfl)
theorem dX1_roll_1 : decode cX1_roll 1 = .ok (.ifCond .lt 15, 3) := dk_155 0 15 (dk_at dksX1_roll_0 1 rfl rfl)
theorem dX1_roll_4 : decode cX1_roll 4 = .ok (.iload_n 1, 1) := dk_27 (dk_at dksX1_roll_0 4 rfl rfl)
theorem dX1_roll_5 : decode cX1_roll 5 = .ok (.aload_n 0, 1) := dk_42 (dk_at dksX1_roll_0 5 rfl rfl)
theorem dX1_roll_6 : decode cX1_roll 6 = .ok (.getfield 62, 3) := dk_180 0 62 (dk_at dksX1_roll_0 6 rfl rfl)
theorem dX1_roll_9 : decode cX1_roll 9 = .ok (.if_icmp .gt 7, 3) := dk_163 0 7 (dk_at dksX1_roll_0 9 rfl rfl)
theorem dX1_roll_12 : decode cX1_roll 12 = .ok (.iconst 1, 1) := dk_4 (dk_at dksX1_roll_0 12 rfl rfl)
theorem dX1_roll_13 : decode cX1_roll 13 = .ok (.goto 4, 3) := dk_167 0 4 (dk_at dksX1_roll_0 13 rfl rfl)
theorem dX1_roll_16 : decode cX1_roll 16 = .ok (.iconst 0, 1) := dk_3 (dk_at dksX1_roll_0 16 rfl rfl)
theorem dX1_roll_17 : decode cX1_roll 17 = .ok (.invokestatic 65, 3) := dk_184 0 65 (dk_at dksX1_roll_0 17 rfl rfl)
theorem dX1_roll_20 : decode cX1_roll 20 = .ok (.aload_n 0, 1) := dk_42 (dk_at dksX1_roll_0 20 rfl rfl)
theorem dX1_roll_21 : decode cX1_roll 21 = .ok (.iconst 0, 1) := dk_3 (dk_at dksX1_roll_0 21 rfl rfl)
theorem dX1_roll_22 : decode cX1_roll 22 = .ok (.putfield 62, 3) := dk_181 0 62 (dk_at dksX1_roll_1 0 rfl rfl)
theorem dX1_roll_25 : decode cX1_roll 25 = .ok (.aload_n 0, 1) := dk_42 (dk_at dksX1_roll_1 3 rfl rfl)
theorem dX1_roll_26 : decode cX1_roll 26 = .ok (.iconst (-1), 1) := dk_2 (dk_at dksX1_roll_1 4 rfl rfl)
theorem dX1_roll_27 : decode cX1_roll 27 = .ok (.putfield 45, 3) := dk_181 0 45 (dk_at dksX1_roll_1 5 rfl rfl)
theorem dX1_roll_30 : decode cX1_roll 30 = .ok (.new 69, 3) := dk_187 0 69 (dk_at dksX1_roll_1 8 rfl rfl)
theorem dX1_roll_33 : decode cX1_roll 33 = .ok (.dup, 1) := dk_89 (dk_at dksX1_roll_1 11 rfl rfl)
theorem dX1_roll_34 : decode cX1_roll 34 = .ok (.aload_n 0, 1) := dk_42 (dk_at dksX1_roll_1 12 rfl rfl)
theorem dX1_roll_35 : decode cX1_roll 35 = .ok (.iload_n 1, 1) := dk_27 (dk_at dksX1_roll_1 13 rfl rfl)
theorem dX1_roll_36 : decode cX1_roll 36 = .ok (.invokespecial 71, 3) := dk_183 0 71 (dk_at dksX1_roll_1 14 rfl rfl)
theorem dX1_roll_39 : decode cX1_roll 39 = .ok (.astore_n 2, 1) := dk_77 (dk_at dksX1_roll_1 17 rfl rfl)
theorem dX1_roll_40 : decode cX1_roll 40 = .ok (.aload_n 0, 1) := dk_42 (dk_at dksX1_roll_1 18 rfl rfl)
theorem dX1_roll_41 : decode cX1_roll 41 = .ok (.aload_n 2, 1) := dk_44 (dk_at dksX1_roll_1 19 rfl rfl)
theorem dX1_roll_42 : decode cX1_roll 42 = .ok (.invokevirtual 74, 3) := dk_182 0 74 (dk_at dksX1_roll_1 20 rfl rfl)
theorem dX1_roll_45 : decode cX1_roll 45 = .ok (.putfield 22, 3) := dk_181 0 22 (dk_at dksX1_roll_2 0 rfl rfl)
theorem dX1_roll_48 : decode cX1_roll 48 = .ok (.goto 27, 3) := dk_167 0 27 (dk_at dksX1_roll_2 3 rfl rfl)
theorem dX1_roll_51 : decode cX1_roll 51 = .ok (.astore_n 3, 1) := dk_78 (dk_at dksX1_roll_2 6 rfl rfl)
theorem dX1_roll_52 : decode cX1_roll 52 = .ok (.aload_n 0, 1) := dk_42 (dk_at dksX1_roll_2 7 rfl rfl)
theorem dX1_roll_53 : decode cX1_roll 53 = .ok (.aload_n 2, 1) := dk_44 (dk_at dksX1_roll_2 8 rfl rfl)
theorem dX1_roll_54 : decode cX1_roll 54 = .ok (.getfield 80, 3) := dk_180 0 80 (dk_at dksX1_roll_2 9 rfl rfl)
theorem dX1_roll_57 : decode cX1_roll 57 = .ok (.putfield 45, 3) := dk_181 0 45 (dk_at dksX1_roll_2 12 rfl rfl)
theorem dX1_roll_60 : decode cX1_roll 60 = .ok (.aload_n 0, 1) := dk_42 (dk_at dksX1_roll_2 15 rfl rfl)
theorem dX1_roll_61 : decode cX1_roll 61 = .ok (.getfield 49, 3) := dk_180 0 49 (dk_at dksX1_roll_2 16 rfl rfl)
theorem dX1_roll_64 : decode cX1_roll 64 = .ok (.iconst 0, 1) := dk_3 (dk_at dksX1_roll_2 19 rfl rfl)
theorem dX1_roll_65 : decode cX1_roll 65 = .ok (.dup2, 1) := dk_92 (dk_at dksX1_roll_2 20 rfl rfl)
theorem dX1_roll_66 : decode cX1_roll 66 = .ok (.iaload, 1) := dk_46 (dk_at dksX1_roll_2 21 rfl rfl)
theorem dX1_roll_67 : decode cX1_roll 67 = .ok (.iconst 1, 1) := dk_4 (dk_at dksX1_roll_2 22 rfl rfl)
theorem dX1_roll_68 : decode cX1_roll 68 = .ok (.iadd, 1) := dk_96 (dk_at dksX1_roll_2 23 rfl rfl)
theorem dX1_roll_69 : decode cX1_roll 69 = .ok (.iastore, 1) := dk_79 (dk_at dksX1_roll_3 0 rfl rfl)
theorem dX1_roll_70 : decode cX1_roll 70 = .ok (.aload_n 3, 1) := dk_45 (dk_at dksX1_roll_3 1 rfl rfl)
theorem dX1_roll_71 : decode cX1_roll 71 = .ok (.getfield 83, 3) := dk_180 0 83 (dk_at dksX1_roll_3 2 rfl rfl)
theorem dX1_roll_74 : decode cX1_roll 74 = .ok (.ireturn, 1) := dk_172 (dk_at dksX1_roll_3 5 rfl rfl)
theorem dX1_roll_75 : decode cX1_roll 75 = .ok (.aload_n 0, 1) := dk_42 (dk_at dksX1_roll_3 6 rfl rfl)
theorem dX1_roll_76 : decode cX1_roll 76 = .ok (.aload_n 2, 1) := dk_44 (dk_at dksX1_roll_3 7 rfl rfl)
theorem dX1_roll_77 : decode cX1_roll 77 = .ok (.getfield 86, 3) := dk_180 0 86 (dk_at dksX1_roll_3 8 rfl rfl)
theorem dX1_roll_80 : decode cX1_roll 80 = .ok (.putfield 38, 3) := dk_181 0 38 (dk_at dksX1_roll_3 11 rfl rfl)
theorem dX1_roll_83 : decode cX1_roll 83 = .ok (.aload_n 0, 1) := dk_42 (dk_at dksX1_roll_3 14 rfl rfl)
theorem dX1_roll_84 : decode cX1_roll 84 = .ok (.new 52, 3) := dk_187 0 52 (dk_at dksX1_roll_3 15 rfl rfl)
theorem dX1_roll_87 : decode cX1_roll 87 = .ok (.dup, 1) := dk_89 (dk_at dksX1_roll_3 18 rfl rfl)
theorem dX1_roll_88 : decode cX1_roll 88 = .ok (.invokespecial 54, 3) := dk_183 0 54 (dk_at dksX1_roll_3 19 rfl rfl)
theorem dX1_roll_91 : decode cX1_roll 91 = .ok (.putfield 55, 3) := dk_181 0 55 (dk_at dksX1_roll_4 0 rfl rfl)
theorem dX1_roll_94 : decode cX1_roll 94 = .ok (.aload_n 0, 1) := dk_42 (dk_at dksX1_roll_4 3 rfl rfl)
theorem dX1_roll_95 : decode cX1_roll 95 = .ok (.new 52, 3) := dk_187 0 52 (dk_at dksX1_roll_4 4 rfl rfl)
theorem dX1_roll_98 : decode cX1_roll 98 = .ok (.dup, 1) := dk_89 (dk_at dksX1_roll_4 7 rfl rfl)
theorem dX1_roll_99 : decode cX1_roll 99 = .ok (.invokespecial 54, 3) := dk_183 0 54 (dk_at dksX1_roll_4 8 rfl rfl)
theorem dX1_roll_102 : decode cX1_roll 102 = .ok (.putfield 59, 3) := dk_181 0 59 (dk_at dksX1_roll_4 11 rfl rfl)
theorem dX1_roll_105 : decode cX1_roll 105 = .ok (.aload_n 0, 1) := dk_42 (dk_at dksX1_roll_4 14 rfl rfl)
theorem dX1_roll_106 : decode cX1_roll 106 = .ok (.aconst_null, 1) := dk_1 (dk_at dksX1_roll_4 15 rfl rfl)
theorem dX1_roll_107 : decode cX1_roll 107 = .ok (.putfield 89, 3) := dk_181 0 89 (dk_at dksX1_roll_4 16 rfl rfl)
theorem dX1_roll_110 : decode cX1_roll 110 = .ok (.iconst 0, 1) := dk_3 (dk_at dksX1_roll_4 19 rfl rfl)
theorem dX1_roll_111 : decode cX1_roll 111 = .ok (.ireturn, 1) := dk_172 (dk_at dksX1_roll_4 20 rfl rfl)
abbrev mX1_roll : xM := (yX1_roll, cX1_roll, 4, (some .int), [(40, 48, 51, 78)])
def c_X1_roll_17 (G : xG) (x0 : Option Nat) (x1 : Int32) (y0 : Int32) (T : xF) : Option ((Int32 ⊕ xE) × xF) :=
  clX (c_X1_right y0 T) T fun v17 T17 =>
  (pV T17 x0 0 6 (.int (0 : Int32))).bind fun T22 =>
  (pV T22 x0 0 7 (.int (-1 : Int32))).bind fun T27 =>
  al (nO T27 4 15 [.int 0, .null, .null, .null, .null, .null, .null, .int 0, .int 0, .int 0, .int 0, .int 0, .int 0, .int 0, .null]) fun T30 =>
  cl (c_X5_init G (some T27.2.1) x0 x1 T30) T30 fun v36 T36 =>
  if ¬ isO T36 (some T27.2.1) 4 = true then none else
  clH (c_X5_read G (some T27.2.1) T36) T36 (fun e42 T42 =>
    if ¬ e42.1 = "MouldVotes$Wrong" then none else
    (oI T42 (some T27.2.1) 4 9).bind fun v54 =>
    (pV T42 x0 0 7 (.int v54)).bind fun T57 =>
    (oQ T57 x0 0 8).bind fun v61 =>
    (ldA T57 v61 .int (0 : Int32)).bind fun v66 =>
    (stA T57 v61 .int (0 : Int32) (v66 + (1 : Int32))).bind fun T69 =>
    (oI T69 (some e42.2) 5 6).bind fun v71 =>
    some (.inl v71, T69)) fun v42 T42 =>
  (pV T42 x0 0 1 (va_rf v42)).bind fun T45 =>
  (oQ T45 (some T27.2.1) 4 2).bind fun v77 =>
  (pV T45 x0 0 4 (va_rf v77)).bind fun T80 =>
  al (nO T80 10 3 [.int 0, .null, .int 0]) fun T84 =>
  cl (c_J2_init G (some T80.2.1) T84) T84 fun v88 T88 =>
  (pV T88 x0 0 9 (va_rf (some T80.2.1))).bind fun T91 =>
  al (nO T91 10 3 [.int 0, .null, .int 0]) fun T95 =>
  cl (c_J2_init G (some T91.2.1) T95) T95 fun v99 T99 =>
  (pV T99 x0 0 10 (va_rf (some T91.2.1))).bind fun T102 =>
  (pV T102 x0 0 11 (va_rf none)).bind fun T107 =>
  some (.inl (0 : Int32), T107)
theorem c_X1_roll_17_ok {G : xG}  {T0 : xF}   (x0 : Option Nat) (x1 : Int32) (y0 : Int32) (T : xF) (q : ((Int32 ⊕ xE) × xF)) (hf : c_X1_roll_17 G x0 x1 y0 T = some q) : Xr G (mX1_roll, xrm (72) T0 q.2, T0, xoI q.1, q.2) 17 [(0, va_rf x0), (1, .int x1)] [.int y0] T := by
  unfold c_X1_roll_17 at hf
  rcases clX_ok hf with ⟨v17, T17, h17, hf, l17, r17⟩ | ⟨e17, T17, h17, rfl, l17⟩
  rotate_left
  · exact C.Sx (As := [.int y0]) (rest := []) dX1_roll_17 (w_X1_right h17) cX1_65 rfl rfl (xcs xvN (Nat.le_of_ble_eq_true rfl)) (xD (Nat.le_of_ble_eq_true rfl)) l17 xle.rf (xnoh rfl) rfl
  refine C.Sv (As := [.int y0]) (rest := []) dX1_roll_17 (w_X1_right h17) cX1_65 rfl rfl (xcs xvN (Nat.le_of_ble_eq_true rfl)) (xD (Nat.le_of_ble_eq_true rfl)) l17 r17 ?_
  refine C.aload_n dX1_roll_20 rfl 0 rfl ?_
  refine X.iconst (v := 0) dX1_roll_21 (by decide) ?_
  obtain ⟨T22, h22, hf⟩ := ob hf
  refine C.putI dX1_roll_22 fX1_62 (fun q => by cases q) rfl rfl h22 ?_
  refine C.aload_n dX1_roll_25 rfl 0 rfl ?_
  refine X.iconst (v := -1) dX1_roll_26 (by decide) ?_
  obtain ⟨T27, h27, hf⟩ := ob hf
  refine C.putI dX1_roll_27 fX1_45 (fun q => by cases q) rfl rfl h27 ?_
  obtain ⟨T30, e30, hf, l30⟩ := al_ok hf
  refine C.newE e30 dX1_roll_30 clX5 q806 q807 q132 rfl dfX5 l30 ?_
  refine X.dup dX1_roll_33 (cat1 _) ?_
  refine C.aload_n dX1_roll_34 rfl 0 rfl ?_
  refine X.iload_n dX1_roll_35 rfl 1 rfl ?_
  obtain ⟨v36, T36, h36, hf, l36, r36⟩ := cl_ok hf
  refine C.Iv (As := [va_rf x0, .int x1]) (rest := [va_rf (some T27.2.1)]) dX1_roll_36 (w_X5_init h36) cX1_71 rfl rfl rfl (xcs (xvQ xvN) (Nat.le_of_ble_eq_true rfl)) (xD (Nat.le_of_ble_eq_true rfl)) l36 r36 ?_
  refine C.ast_n (L' := [(2, va_rf (some T27.2.1)), (0, va_rf x0), (1, .int x1)]) dX1_roll_39 rfl (Nat.le_of_ble_eq_true rfl) (xcQ (xcI xcN)) rfl ?_
  refine C.aload_n dX1_roll_40 rfl 1 rfl ?_
  refine C.aload_n dX1_roll_41 rfl 0 rfl ?_
  obtain ⟨c42, hf⟩ := if_n hf
  rcases clH_ok hf with ⟨v42, T42, h42, hf, l42, r42⟩ | ⟨e42, T42, h42, hf, l42, r42⟩
  rotate_left
  · obtain ⟨c9, hf⟩ := if_n hf
    refine C.Vh (As := []) (rest := [va_rf x0]) dX1_roll_42 (w_X5_read h42) cX1_74 (Classical.not_not.mp c42) rfl rfl (xcs (xvQ xvN) (Nat.le_of_ble_eq_true rfl)) rfl rfl (xD (Nat.le_of_ble_eq_true rfl)) l42 r42 rfl rfl (by decide) q738 q1014 (Classical.not_not.mp c9) (tgt := 51) rfl ?_
    refine C.ast_n (L' := [(3, va_rf (some e42.2)), (2, va_rf (some T27.2.1)), (0, va_rf x0), (1, .int x1)]) dX1_roll_51 rfl (Nat.le_of_ble_eq_true rfl) (xcQ (xcQ (xcI xcN))) rfl ?_
    refine C.aload_n dX1_roll_52 rfl 2 rfl ?_
    refine C.aload_n dX1_roll_53 rfl 1 rfl ?_
    obtain ⟨v54, h54, hf⟩ := ob hf
    refine C.getI dX1_roll_54 rX1_80 h54 ?_
    obtain ⟨T57, h57, hf⟩ := ob hf
    refine C.putI dX1_roll_57 fX1_45 (fun q => by cases q) rfl rfl h57 ?_
    refine C.aload_n dX1_roll_60 rfl 2 rfl ?_
    obtain ⟨v61, h61, hf⟩ := ob hf
    refine C.getQ dX1_roll_61 rX1_49 h61 ?_
    refine X.iconst (v := 0) dX1_roll_64 (by decide) ?_
    refine X.dup2_11 dX1_roll_65 rfl (cat1 _) ?_
    obtain ⟨v66, h66, hf⟩ := ob hf
    refine C.iald dX1_roll_66 h66 ?_
    refine X.iconst (v := 1) dX1_roll_67 (by decide) ?_
    refine X.iadd dX1_roll_68 ?_
    obtain ⟨T69, h69, hf⟩ := ob hf
    refine C.iast dX1_roll_69 h69 ?_
    refine C.aload_n dX1_roll_70 rfl 0 rfl ?_
    obtain ⟨v71, h71, hf⟩ := ob hf
    refine C.getI dX1_roll_71 rX1_83 h71 ?_
    obtain rfl := Option.some.inj hf
    exact X.iret dX1_roll_74 rfl rfl rfl
  refine C.Vq (As := []) (rest := [va_rf x0]) dX1_roll_42 (w_X5_read h42) cX1_74 (Classical.not_not.mp c42) rfl rfl (xcs (xvQ xvN) (Nat.le_of_ble_eq_true rfl)) rfl rfl (xD (Nat.le_of_ble_eq_true rfl)) l42 r42 ?_
  obtain ⟨T45, h45, hf⟩ := ob hf
  refine C.putQ dX1_roll_45 fX1_22 (fun q => by cases q) rfl h45 ?_
  refine X.goto (tgt := 75) dX1_roll_48 (by decide) ?_
  refine C.aload_n dX1_roll_75 rfl 1 rfl ?_
  refine C.aload_n dX1_roll_76 rfl 0 rfl ?_
  obtain ⟨v77, h77, hf⟩ := ob hf
  refine C.getQ dX1_roll_77 rX1_86 h77 ?_
  obtain ⟨T80, h80, hf⟩ := ob hf
  refine C.putQ dX1_roll_80 fX1_38 (fun q => by cases q) rfl h80 ?_
  refine C.aload_n dX1_roll_83 rfl 1 rfl ?_
  obtain ⟨T84, e84, hf, l84⟩ := al_ok hf
  refine C.newE e84 dX1_roll_84 clJ2 q269 q169 q125 rfl dfJ2 l84 ?_
  refine X.dup dX1_roll_87 (cat1 _) ?_
  obtain ⟨v88, T88, h88, hf, l88, r88⟩ := cl_ok hf
  refine C.Iv (As := []) (rest := [va_rf (some T80.2.1), va_rf x0]) dX1_roll_88 (w_J2_init h88) cX1_54 rfl rfl rfl (xcs (xvQ (xvQ xvN)) (Nat.le_of_ble_eq_true rfl)) (xD (Nat.le_of_ble_eq_true rfl)) l88 r88 ?_
  obtain ⟨T91, h91, hf⟩ := ob hf
  refine C.putQ dX1_roll_91 fX1_55 (fun q => by cases q) rfl h91 ?_
  refine C.aload_n dX1_roll_94 rfl 1 rfl ?_
  obtain ⟨T95, e95, hf, l95⟩ := al_ok hf
  refine C.newE e95 dX1_roll_95 clJ2 q269 q169 q125 rfl dfJ2 l95 ?_
  refine X.dup dX1_roll_98 (cat1 _) ?_
  obtain ⟨v99, T99, h99, hf, l99, r99⟩ := cl_ok hf
  refine C.Iv (As := []) (rest := [va_rf (some T91.2.1), va_rf x0]) dX1_roll_99 (w_J2_init h99) cX1_54 rfl rfl rfl (xcs (xvQ (xvQ xvN)) (Nat.le_of_ble_eq_true rfl)) (xD (Nat.le_of_ble_eq_true rfl)) l99 r99 ?_
  obtain ⟨T102, h102, hf⟩ := ob hf
  refine C.putQ dX1_roll_102 fX1_59 (fun q => by cases q) rfl h102 ?_
  refine C.aload_n dX1_roll_105 rfl 1 rfl ?_
  refine C.null dX1_roll_106 ?_
  obtain ⟨T107, h107, hf⟩ := ob hf
  refine C.putQ dX1_roll_107 fX1_89 (fun q => by cases q) rfl h107 ?_
  refine X.iconst (v := 0) dX1_roll_110 (by decide) ?_
  obtain rfl := Option.some.inj hf
  exact X.iret dX1_roll_111 rfl rfl rfl
def c_X1_roll_16 (G : xG) (x0 : Option Nat) (x1 : Int32) (T : xF) : Option ((Int32 ⊕ xE) × xF) :=
  c_X1_roll_17 G x0 x1 (0 : Int32) T
theorem c_X1_roll_16_ok {G : xG}  {T0 : xF}   (x0 : Option Nat) (x1 : Int32) (T : xF) (q : ((Int32 ⊕ xE) × xF)) (hf : c_X1_roll_16 G x0 x1 T = some q) : Xr G (mX1_roll, xrm (72) T0 q.2, T0, xoI q.1, q.2) 16 [(0, va_rf x0), (1, .int x1)] [] T := by
  unfold c_X1_roll_16 at hf
  refine X.iconst (v := 0) dX1_roll_16 (by decide) ?_
  refine X.sub [0, 1] (L' := [(0, va_rf x0), (1, .int x1)]) rfl ?_
  exact c_X1_roll_17_ok _ _ _ _ _ hf
def c_X1_roll (G : xG) (x0 : Option Nat) (x1 : Int32) (T : xF) : Option ((Int32 ⊕ xE) × xF) :=
  if x1 < 0 then
    c_X1_roll_16 G x0 x1 T
  else
    (oI T x0 0 6).bind fun v6 =>
    if v6 < x1 then
      c_X1_roll_16 G x0 x1 T
    else
      c_X1_roll_17 G x0 x1 (1 : Int32) T
theorem w_X1_roll {G : xG}  {T : xF} {x0 : Option Nat} {x1 : Int32} {q : ((Int32 ⊕ xE) × xF)} (hf : c_X1_roll G x0 x1 T = some q) : Ct G mX1_roll (72) T [va_rf x0, .int x1] (xoI q.1) q.2 := by
  refine Ct.ofch (plainFor_of_name (by decide +kernel)) rfl (xvQ (xvI xvN)) (Nat.le_of_ble_eq_true rfl) (show Xr G _ 0 [(0, va_rf x0), (1, .int x1)] [] _ from ?_)
  unfold c_X1_roll at hf
  refine X.iload_n dX1_roll_0 rfl 1 rfl ?_
  refine X.if_lt (tgt := 16) dX1_roll_1 (by decide) (fun c1 => ?_) (fun c1 => ?_)
  · have hf := if_t c1 hf
    refine X.sub [0, 1] (L' := [(0, va_rf x0), (1, .int x1)]) rfl ?_
    exact c_X1_roll_16_ok _ _ _ _ hf
  · have hf := if_f c1 hf
    refine X.iload_n dX1_roll_4 rfl 1 rfl ?_
    refine C.aload_n dX1_roll_5 rfl 0 rfl ?_
    obtain ⟨v6, h6, hf⟩ := ob hf
    refine C.getI dX1_roll_6 rX1_62 h6 ?_
    refine X.icmp_gt (tgt := 16) dX1_roll_9 (by decide) (fun c9 => ?_) (fun c9 => ?_)
    · have hf := if_t c9 hf
      refine X.sub [0, 1] (L' := [(0, va_rf x0), (1, .int x1)]) rfl ?_
      exact c_X1_roll_16_ok _ _ _ _ hf
    · have hf := if_f c9 hf
      refine X.iconst (v := 1) dX1_roll_12 (by decide) ?_
      refine X.goto (tgt := 17) dX1_roll_13 (by decide) ?_
      refine X.sub [0, 1] (L' := [(0, va_rf x0), (1, .int x1)]) rfl ?_
      exact c_X1_roll_17_ok _ _ _ _ _ hf
/-! java/util/ArrayList toArray -/
abbrev cJ2_toArray : ByteArray := prog_38_method_16_code
def yJ2_toArray : MethodName := ⟨RJ2, "toArray", "()[Ljava/lang/Object;"⟩
def dkwJ2_toArray_0 : List UInt8 := [42, 180, 0, 9, 42, 180, 0, 48, 184, 0, 66, 176]
abbrev dktJ2_toArray_0 : List UInt8 := dkwJ2_toArray_0 ++ []
theorem dksJ2_toArray_0 : cJ2_toArray.data.toList.drop 0 = dktJ2_toArray_0 := by decide +kernel
theorem dJ2_toArray_0 : decode cJ2_toArray 0 = .ok (.aload_n 0, 1) := dk_42 (dk_at dksJ2_toArray_0 0 rfl rfl)
theorem dJ2_toArray_1 : decode cJ2_toArray 1 = .ok (.getfield 9, 3) := dk_180 0 9 (dk_at dksJ2_toArray_0 1 rfl rfl)
theorem dJ2_toArray_4 : decode cJ2_toArray 4 = .ok (.aload_n 0, 1) := dk_42 (dk_at dksJ2_toArray_0 4 rfl rfl)
theorem dJ2_toArray_5 : decode cJ2_toArray 5 = .ok (.getfield 48, 3) := dk_180 0 48 (dk_at dksJ2_toArray_0 5 rfl rfl)
theorem dJ2_toArray_8 : decode cJ2_toArray 8 = .ok (.invokestatic 66, 3) := dk_184 0 66 (dk_at dksJ2_toArray_0 8 rfl rfl)
theorem dJ2_toArray_11 : decode cJ2_toArray 11 = .ok (.areturn, 1) := dk_176 (dk_at dksJ2_toArray_0 11 rfl rfl)
abbrev mJ2_toArray : xM := (yJ2_toArray, cJ2_toArray, 1, (some (.array (.object "java/lang/Object"))), [])
def c_J2_toArray (G : xG) (x0 : Option Nat) (T : xF) : Option (Option Nat × xF) :=
  (oQ T x0 10 1).bind fun v1 =>
  (oI T x0 10 2).bind fun v5 =>
  cl (c_J16_copyOf G v1 v5 T) T fun v8 T8 =>
  some (v8, T8)
theorem w_J2_toArray {G : xG}  {T : xF} {x0 : Option Nat} {q : (Option Nat × xF)} (hf : c_J2_toArray G x0 T = some q) : Ct G mJ2_toArray (4) T [va_rf x0] (.inl (some (va_rf q.1))) q.2 := by
  refine Ct.ofc (plainFor_of_name (by decide +kernel)) rfl (xvQ xvN) (Nat.le_of_ble_eq_true rfl) (show Xr G _ 0 [(0, va_rf x0)] [] _ from ?_)
  unfold c_J2_toArray at hf
  refine C.aload_n dJ2_toArray_0 rfl 0 rfl ?_
  obtain ⟨v1, h1, hf⟩ := ob hf
  refine C.getQ dJ2_toArray_1 rJ2_9 h1 ?_
  refine C.aload_n dJ2_toArray_4 rfl 0 rfl ?_
  obtain ⟨v5, h5, hf⟩ := ob hf
  refine C.getI dJ2_toArray_5 rJ2_48 h5 ?_
  obtain ⟨v8, T8, h8, hf, l8, r8⟩ := cl_ok hf
  refine C.Sq (As := [va_rf v1, .int v5]) (rest := []) dJ2_toArray_8 (w_J16_copyOf h8) cJ2_66 rfl rfl (xcs xvN (Nat.le_of_ble_eq_true rfl)) (xD (Nat.le_of_ble_eq_true rfl)) l8 r8 ?_
  obtain rfl := Option.some.inj hf
  exact X.aret dJ2_toArray_11 rfl (Or.inr ⟨_, rfl⟩) rfl
theorem cJ2_42 : xCF RJ2 42 "java/util/ArrayList" ⟨"java/util/Collection", "toArray", "()[Ljava/lang/Object;"⟩ mJ2_toArray 0 := ⟨lw_F q706 q710 q712 q125 q714, rfl, ⟨by decide +kernel, by decide +kernel, by decide +kernel⟩, Nat.le_of_ble_eq_true rfl, by decide⟩
/-! java/util/ArrayList <init> -/
abbrev cJ2_init_2 : ByteArray := prog_38_method_3_code
def yJ2_init_2 : MethodName := ⟨RJ2, "<init>", "(Ljava/util/Collection;)V"⟩
def dkwJ2_init_2_2 : List UInt8 := [18, 56, 184, 0, 57, 181, 0, 9, 167, 0, 10, 42, 178, 0, 15, 181, 0, 9, 177]
abbrev dktJ2_init_2_2 : List UInt8 := dkwJ2_init_2_2 ++ []
def dkwJ2_init_2_1 : List UInt8 := [185, 0, 52, 1, 0, 18, 10, 166, 0, 11, 42, 44, 181, 0, 9, 167, 0, 27, 42, 44, 42, 180, 0, 48]
abbrev dktJ2_init_2_1 : List UInt8 := dkwJ2_init_2_1 ++ dktJ2_init_2_2
def dkwJ2_init_2_0 : List UInt8 := [42, 183, 0, 1, 43, 185, 0, 42, 1, 0, 77, 42, 44, 190, 90, 181, 0, 48, 153, 0, 39, 43]
abbrev dktJ2_init_2_0 : List UInt8 := dkwJ2_init_2_0 ++ dktJ2_init_2_1
theorem dksJ2_init_2_0 : cJ2_init_2.data.toList.drop 0 = dktJ2_init_2_0 := by decide +kernel
theorem dksJ2_init_2_1 : cJ2_init_2.data.toList.drop 22 = dktJ2_init_2_1 := dk_seg dksJ2_init_2_0 22 rfl rfl
theorem dksJ2_init_2_2 : cJ2_init_2.data.toList.drop 46 = dktJ2_init_2_2 := dk_seg dksJ2_init_2_1 24 rfl rfl
theorem dJ2_init_2_0 : decode cJ2_init_2 0 = .ok (.aload_n 0, 1) := dk_42 (dk_at dksJ2_init_2_0 0 rfl rfl)
theorem dJ2_init_2_1 : decode cJ2_init_2 1 = .ok (.invokespecial 1, 3) := dk_183 0 1 (dk_at dksJ2_init_2_0 1 rfl rfl)
theorem dJ2_init_2_4 : decode cJ2_init_2 4 = .ok (.aload_n 1, 1) := dk_43 (dk_at dksJ2_init_2_0 4 rfl rfl)
theorem dJ2_init_2_5 : decode cJ2_init_2 5 = .ok (.invokeinterface 42 1, 5) := by decide +kernel
theorem dJ2_init_2_10 : decode cJ2_init_2 10 = .ok (.astore_n 2, 1) := dk_77 (dk_at dksJ2_init_2_0 10 rfl rfl)
theorem dJ2_init_2_11 : decode cJ2_init_2 11 = .ok (.aload_n 0, 1) := dk_42 (dk_at dksJ2_init_2_0 11 rfl rfl)
theorem dJ2_init_2_12 : decode cJ2_init_2 12 = .ok (.aload_n 2, 1) := dk_44 (dk_at dksJ2_init_2_0 12 rfl rfl)
theorem dJ2_init_2_13 : decode cJ2_init_2 13 = .ok (.arraylength, 1) := dk_190 (dk_at dksJ2_init_2_0 13 rfl rfl)
theorem dJ2_init_2_14 : decode cJ2_init_2 14 = .ok (.dup_x1, 1) := dk_90 (dk_at dksJ2_init_2_0 14 rfl rfl)
theorem dJ2_init_2_15 : decode cJ2_init_2 15 = .ok (.putfield 48, 3) := dk_181 0 48 (dk_at dksJ2_init_2_0 15 rfl rfl)
theorem dJ2_init_2_18 : decode cJ2_init_2 18 = .ok (.ifCond .eq 39, 3) := dk_153 0 39 (dk_at dksJ2_init_2_0 18 rfl rfl)
theorem dJ2_init_2_21 : decode cJ2_init_2 21 = .ok (.aload_n 1, 1) := dk_43 (dk_at dksJ2_init_2_0 21 rfl rfl)
theorem dJ2_init_2_22 : decode cJ2_init_2 22 = .ok (.invokeinterface 52 1, 5) := by decide +kernel
theorem dJ2_init_2_27 : decode cJ2_init_2 27 = .ok (.ldc 10, 2) := dk_18 10 (dk_at dksJ2_init_2_1 5 rfl rfl)
theorem dJ2_init_2_29 : decode cJ2_init_2 29 = .ok (.if_acmp .ne 11, 3) := dk_166 0 11 (dk_at dksJ2_init_2_1 7 rfl rfl)
theorem dJ2_init_2_32 : decode cJ2_init_2 32 = .ok (.aload_n 0, 1) := dk_42 (dk_at dksJ2_init_2_1 10 rfl rfl)
theorem dJ2_init_2_33 : decode cJ2_init_2 33 = .ok (.aload_n 2, 1) := dk_44 (dk_at dksJ2_init_2_1 11 rfl rfl)
theorem dJ2_init_2_34 : decode cJ2_init_2 34 = .ok (.putfield 9, 3) := dk_181 0 9 (dk_at dksJ2_init_2_1 12 rfl rfl)
theorem dJ2_init_2_37 : decode cJ2_init_2 37 = .ok (.goto 27, 3) := dk_167 0 27 (dk_at dksJ2_init_2_1 15 rfl rfl)
theorem dJ2_init_2_40 : decode cJ2_init_2 40 = .ok (.aload_n 0, 1) := dk_42 (dk_at dksJ2_init_2_1 18 rfl rfl)
theorem dJ2_init_2_41 : decode cJ2_init_2 41 = .ok (.aload_n 2, 1) := dk_44 (dk_at dksJ2_init_2_1 19 rfl rfl)
theorem dJ2_init_2_42 : decode cJ2_init_2 42 = .ok (.aload_n 0, 1) := dk_42 (dk_at dksJ2_init_2_1 20 rfl rfl)
theorem dJ2_init_2_43 : decode cJ2_init_2 43 = .ok (.getfield 48, 3) := dk_180 0 48 (dk_at dksJ2_init_2_1 21 rfl rfl)
theorem dJ2_init_2_46 : decode cJ2_init_2 46 = .ok (.ldc 56, 2) := dk_18 56 (dk_at dksJ2_init_2_2 0 rfl rfl)
theorem dJ2_init_2_48 : decode cJ2_init_2 48 = .ok (.invokestatic 57, 3) := dk_184 0 57 (dk_at dksJ2_init_2_2 2 rfl rfl)
theorem dJ2_init_2_51 : decode cJ2_init_2 51 = .ok (.putfield 9, 3) := dk_181 0 9 (dk_at dksJ2_init_2_2 5 rfl rfl)
theorem dJ2_init_2_54 : decode cJ2_init_2 54 = .ok (.goto 10, 3) := dk_167 0 10 (dk_at dksJ2_init_2_2 8 rfl rfl)
theorem dJ2_init_2_57 : decode cJ2_init_2 57 = .ok (.aload_n 0, 1) := dk_42 (dk_at dksJ2_init_2_2 11 rfl rfl)
theorem dJ2_init_2_58 : decode cJ2_init_2 58 = .ok (.getstatic 15, 3) := dk_178 0 15 (dk_at dksJ2_init_2_2 12 rfl rfl)
theorem dJ2_init_2_61 : decode cJ2_init_2 61 = .ok (.putfield 9, 3) := dk_181 0 9 (dk_at dksJ2_init_2_2 15 rfl rfl)
theorem dJ2_init_2_64 : decode cJ2_init_2 64 = .ok (.return_, 1) := dk_177 (dk_at dksJ2_init_2_2 18 rfl rfl)
abbrev mJ2_init_2 : xM := (yJ2_init_2, cJ2_init_2, 3, none, [])
def c_J2_init_2 (G : xG) (x0 : Option Nat) (x1 : Option Nat) (T : xF) : Option (Unit × xF) :=
  if ¬ x0.isSome = true then none else
  cl (c_J1_init x0 T) T fun v1 T1 =>
  if ¬ isO T1 x1 10 = true then none else
  cl (c_J2_toArray G x1 T1) T1 fun v5 T5 =>
  (len T5 v5).bind fun v13 =>
  (pV T5 x0 10 2 (.int v13)).bind fun T15 =>
  if v13 = 0 then
    (pV T15 x0 10 1 (va_rf (gS G 1))).bind fun T61 =>
    some ((), T61)
  else
    if ¬ isO T15 x1 10 = true then none else
    if (some (gM G 0)) = (some (gM G 0)) then
      (pV T15 x0 10 1 (va_rf v5)).bind fun T34 =>
      some ((), T34)
    else
      (oI T15 x0 10 2).bind fun v43 =>
      cl (c_J16_copyOf_2 G v5 v43 (some (gM G 1)) T15) T15 fun v48 T48 =>
      (pV T48 x0 10 1 (va_rf v48)).bind fun T51 =>
      some ((), T51)
theorem w_J2_init_2 {G : xG}  {T : xF} {x0 : Option Nat} {x1 : Option Nat} {q : (Unit × xF)} (hf : c_J2_init_2 G x0 x1 T = some q) : Ct G mJ2_init_2 (5) T [va_rf x0, va_rf x1] (.inl none) q.2 := by
  refine Ct.ofc (plainFor_of_name (by decide +kernel)) rfl (xvQ (xvQ xvN)) (Nat.le_of_ble_eq_true rfl) (show Xr G _ 0 [(0, va_rf x0), (1, va_rf x1)] [] _ from ?_)
  unfold c_J2_init_2 at hf
  refine C.aload_n dJ2_init_2_0 rfl 0 rfl ?_
  obtain ⟨c1, hf⟩ := if_n hf
  obtain ⟨v1, T1, h1, hf, l1, r1⟩ := cl_ok hf
  refine C.Iv (As := []) (rest := []) dJ2_init_2_1 (w_J1_init h1) cJ2_1 (Classical.not_not.mp c1) rfl rfl (xcs xvN (Nat.le_of_ble_eq_true rfl)) (xD (Nat.le_of_ble_eq_true rfl)) l1 r1 ?_
  refine C.aload_n dJ2_init_2_4 rfl 1 rfl ?_
  obtain ⟨c5, hf⟩ := if_n hf
  obtain ⟨v5, T5, h5, hf, l5, r5⟩ := cl_ok hf
  refine C.Fq (As := []) (rest := []) dJ2_init_2_5 (w_J2_toArray h5) cJ2_42 (Classical.not_not.mp c5) rfl rfl (xcs xvN (Nat.le_of_ble_eq_true rfl)) rfl rfl (xD (Nat.le_of_ble_eq_true rfl)) l5 r5 ?_
  refine C.ast_n (L' := [(2, va_rf v5), (0, va_rf x0), (1, va_rf x1)]) dJ2_init_2_10 rfl (Nat.le_of_ble_eq_true rfl) (xcQ (xcQ xcN)) rfl ?_
  refine C.aload_n dJ2_init_2_11 rfl 1 rfl ?_
  refine C.aload_n dJ2_init_2_12 rfl 0 rfl ?_
  obtain ⟨v13, h13, hf⟩ := ob hf
  refine C.alen dJ2_init_2_13 h13 ?_
  refine X.dup_x1 dJ2_init_2_14 rfl (cat1 _) ?_
  obtain ⟨T15, h15, hf⟩ := ob hf
  refine C.putI dJ2_init_2_15 fJ2_48 (fun q => by cases q) rfl rfl h15 ?_
  refine X.if_eq (tgt := 57) dJ2_init_2_18 (by decide) (fun c18 => ?_) (fun c18 => ?_)
  · have hf := if_t c18 hf
    refine C.aload_n dJ2_init_2_57 rfl 1 rfl ?_
    refine X.gets dJ2_init_2_58 (i := 1) rfl q724 rfl ?_
    obtain ⟨T61, h61, hf⟩ := ob hf
    refine C.putQ dJ2_init_2_61 fJ2_9 (fun q => by cases q) rfl h61 ?_
    obtain rfl := Option.some.inj hf
    exact X.vret dJ2_init_2_64 rfl rfl
  · have hf := if_f c18 hf
    refine C.aload_n dJ2_init_2_21 rfl 2 rfl ?_
    obtain ⟨c22, hf⟩ := if_n hf
    refine C.getCI dJ2_init_2_22 q716 q406 gc2 gc3 q717 q718 q720 q719 q709 (Classical.not_not.mp c22) (xcs xvN (Nat.le_of_ble_eq_true rfl)) (xD1 (Nat.le_of_ble_eq_true rfl)) ?_
    refine C.ldcM dJ2_init_2_27 (i := 0) rfl q721 ?_
    refine X.acmp_ne (tgt := 40) dJ2_init_2_29 (by decide) (fun c29 => ?_) (fun c29 => ?_)
    · have hf := if_f c29 hf
      refine C.aload_n dJ2_init_2_40 rfl 1 rfl ?_
      refine C.aload_n dJ2_init_2_41 rfl 0 rfl ?_
      refine C.aload_n dJ2_init_2_42 rfl 1 rfl ?_
      obtain ⟨v43, h43, hf⟩ := ob hf
      refine C.getI dJ2_init_2_43 rJ2_48 h43 ?_
      refine C.ldcM dJ2_init_2_46 (i := 1) rfl q722 ?_
      obtain ⟨v48, T48, h48, hf, l48, r48⟩ := cl_ok hf
      refine C.Sq (As := [va_rf v5, .int v43, va_rf (some (gM G 1))]) (rest := [va_rf x0]) dJ2_init_2_48 (w_J16_copyOf_2 h48) cJ2_57 rfl rfl (xcs (xvQ xvN) (Nat.le_of_ble_eq_true rfl)) (xD (Nat.le_of_ble_eq_true rfl)) l48 r48 ?_
      obtain ⟨T51, h51, hf⟩ := ob hf
      refine C.putQ dJ2_init_2_51 fJ2_9 (fun q => by cases q) rfl h51 ?_
      refine X.goto (tgt := 64) dJ2_init_2_54 (by decide) ?_
      obtain rfl := Option.some.inj hf
      exact X.vret dJ2_init_2_64 rfl rfl
    · have hf := if_t c29 hf
      refine C.aload_n dJ2_init_2_32 rfl 1 rfl ?_
      refine C.aload_n dJ2_init_2_33 rfl 0 rfl ?_
      obtain ⟨T34, h34, hf⟩ := ob hf
      refine C.putQ dJ2_init_2_34 fJ2_9 (fun q => by cases q) rfl h34 ?_
      refine X.goto (tgt := 64) dJ2_init_2_37 (by decide) ?_
      obtain rfl := Option.some.inj hf
      exact X.vret dJ2_init_2_64 rfl rfl
theorem cX1_290 : xCI RX1 290 mJ2_init_2 1 := ⟨⟨lw_meth q704, rfl, q125, q702, q703, rfl⟩, rfl, ⟨by decide +kernel, by decide +kernel, by decide +kernel⟩, Nat.le_of_ble_eq_true rfl⟩
/-! MouldVotes restore -/
abbrev cX1_restore : ByteArray := prog_1_method_65_code
def yX1_restore : MethodName := ⟨RX1, "restore", "()Z"⟩
def dkwX1_restore_2 : List UInt8 := [181, 0, 59, 4, 172]
abbrev dktX1_restore_2 : List UInt8 := dkwX1_restore_2 ++ []
def dkwX1_restore_1 : List UInt8 := [89, 42, 180, 1, 37, 183, 1, 34, 181, 0, 55, 42, 187, 0, 52, 89, 42, 180, 1, 40, 183, 1, 34]
abbrev dktX1_restore_1 : List UInt8 := dkwX1_restore_1 ++ dktX1_restore_2
def dkwX1_restore_0 : List UInt8 := [42, 180, 0, 89, 199, 0, 5, 3, 172, 42, 42, 180, 0, 89, 182, 0, 182, 181, 0, 38, 42, 187, 0, 52]
abbrev dktX1_restore_0 : List UInt8 := dkwX1_restore_0 ++ dktX1_restore_1
theorem dksX1_restore_0 : cX1_restore.data.toList.drop 0 = dktX1_restore_0 := by decide +kernel
theorem dksX1_restore_1 : cX1_restore.data.toList.drop 24 = dktX1_restore_1 := dk_seg dksX1_restore_0 24 rfl rfl
theorem dksX1_restore_2 : cX1_restore.data.toList.drop 47 = dktX1_restore_2 := dk_seg dksX1_restore_1 23 rfl rfl
theorem dX1_restore_0 : decode cX1_restore 0 = .ok (.aload_n 0, 1) := dk_42 (dk_at dksX1_restore_0 0 rfl rfl)
theorem dX1_restore_1 : decode cX1_restore 1 = .ok (.getfield 89, 3) := dk_180 0 89 (dk_at dksX1_restore_0 1 rfl rfl)
theorem dX1_restore_4 : decode cX1_restore 4 = .ok (.ifnonnull 5, 3) := dk_199 0 5 (dk_at dksX1_restore_0 4 rfl rfl)
theorem dX1_restore_7 : decode cX1_restore 7 = .ok (.iconst 0, 1) := dk_3 (dk_at dksX1_restore_0 7 rfl rfl)
theorem dX1_restore_8 : decode cX1_restore 8 = .ok (.ireturn, 1) := dk_172 (dk_at dksX1_restore_0 8 rfl rfl)
theorem dX1_restore_9 : decode cX1_restore 9 = .ok (.aload_n 0, 1) := dk_42 (dk_at dksX1_restore_0 9 rfl rfl)
theorem dX1_restore_10 : decode cX1_restore 10 = .ok (.aload_n 0, 1) := dk_42 (dk_at dksX1_restore_0 10 rfl rfl)
theorem dX1_restore_11 : decode cX1_restore 11 = .ok (.getfield 89, 3) := dk_180 0 89 (dk_at dksX1_restore_0 11 rfl rfl)
theorem dX1_restore_14 : decode cX1_restore 14 = .ok (.invokevirtual 182, 3) := dk_182 0 182 (dk_at dksX1_restore_0 14 rfl rfl)
theorem dX1_restore_17 : decode cX1_restore 17 = .ok (.putfield 38, 3) := dk_181 0 38 (dk_at dksX1_restore_0 17 rfl rfl)
theorem dX1_restore_20 : decode cX1_restore 20 = .ok (.aload_n 0, 1) := dk_42 (dk_at dksX1_restore_0 20 rfl rfl)
theorem dX1_restore_21 : decode cX1_restore 21 = .ok (.new 52, 3) := dk_187 0 52 (dk_at dksX1_restore_0 21 rfl rfl)
theorem dX1_restore_24 : decode cX1_restore 24 = .ok (.dup, 1) := dk_89 (dk_at dksX1_restore_1 0 rfl rfl)
theorem dX1_restore_25 : decode cX1_restore 25 = .ok (.aload_n 0, 1) := dk_42 (dk_at dksX1_restore_1 1 rfl rfl)
theorem dX1_restore_26 : decode cX1_restore 26 = .ok (.getfield 293, 3) := dk_180 1 37 (dk_at dksX1_restore_1 2 rfl rfl)
theorem dX1_restore_29 : decode cX1_restore 29 = .ok (.invokespecial 290, 3) := dk_183 1 34 (dk_at dksX1_restore_1 5 rfl rfl)
theorem dX1_restore_32 : decode cX1_restore 32 = .ok (.putfield 55, 3) := dk_181 0 55 (dk_at dksX1_restore_1 8 rfl rfl)
theorem dX1_restore_35 : decode cX1_restore 35 = .ok (.aload_n 0, 1) := dk_42 (dk_at dksX1_restore_1 11 rfl rfl)
theorem dX1_restore_36 : decode cX1_restore 36 = .ok (.new 52, 3) := dk_187 0 52 (dk_at dksX1_restore_1 12 rfl rfl)
theorem dX1_restore_39 : decode cX1_restore 39 = .ok (.dup, 1) := dk_89 (dk_at dksX1_restore_1 15 rfl rfl)
theorem dX1_restore_40 : decode cX1_restore 40 = .ok (.aload_n 0, 1) := dk_42 (dk_at dksX1_restore_1 16 rfl rfl)
theorem dX1_restore_41 : decode cX1_restore 41 = .ok (.getfield 296, 3) := dk_180 1 40 (dk_at dksX1_restore_1 17 rfl rfl)
theorem dX1_restore_44 : decode cX1_restore 44 = .ok (.invokespecial 290, 3) := dk_183 1 34 (dk_at dksX1_restore_1 20 rfl rfl)
theorem dX1_restore_47 : decode cX1_restore 47 = .ok (.putfield 59, 3) := dk_181 0 59 (dk_at dksX1_restore_2 0 rfl rfl)
theorem dX1_restore_50 : decode cX1_restore 50 = .ok (.iconst 1, 1) := dk_4 (dk_at dksX1_restore_2 3 rfl rfl)
theorem dX1_restore_51 : decode cX1_restore 51 = .ok (.ireturn, 1) := dk_172 (dk_at dksX1_restore_2 4 rfl rfl)
abbrev mX1_restore : xM := (yX1_restore, cX1_restore, 1, (some .boolean), [])
def c_X1_restore (G : xG) (x0 : Option Nat) (T : xF) : Option (Int32 × xF) :=
  (oQ T x0 0 11).bind fun v1 =>
  if v1 = none then
    some ((0 : Int32), T)
  else
    (oQ T x0 0 11).bind fun v11 =>
    if ¬ isO T v11 2 = true then none else
    cl (c_X3_copy v11 T) T fun v14 T14 =>
    (pV T14 x0 0 4 (va_rf v14)).bind fun T17 =>
    al (nO T17 10 3 [.int 0, .null, .int 0]) fun T21 =>
    (oQ T21 x0 0 12).bind fun v26 =>
    cl (c_J2_init_2 G (some T17.2.1) v26 T21) T21 fun v29 T29 =>
    (pV T29 x0 0 9 (va_rf (some T17.2.1))).bind fun T32 =>
    al (nO T32 10 3 [.int 0, .null, .int 0]) fun T36 =>
    (oQ T36 x0 0 13).bind fun v41 =>
    cl (c_J2_init_2 G (some T32.2.1) v41 T36) T36 fun v44 T44 =>
    (pV T44 x0 0 10 (va_rf (some T32.2.1))).bind fun T47 =>
    some ((1 : Int32), T47)
theorem w_X1_restore {G : xG}  {T : xF} {x0 : Option Nat} {q : (Int32 × xF)} (hf : c_X1_restore G x0 T = some q) : Ct G mX1_restore (6) T [va_rf x0] (.inl (some (.int q.1))) q.2 := by
  refine Ct.ofc (plainFor_of_name (by decide +kernel)) rfl (xvQ xvN) (Nat.le_of_ble_eq_true rfl) (show Xr G _ 0 [(0, va_rf x0)] [] _ from ?_)
  unfold c_X1_restore at hf
  refine C.aload_n dX1_restore_0 rfl 0 rfl ?_
  obtain ⟨v1, h1, hf⟩ := ob hf
  refine C.getQ dX1_restore_1 rX1_89 h1 ?_
  refine C.ifnonnull (tgt := 9) dX1_restore_4 (by decide) (fun c4 => ?_) (fun c4 => ?_)
  · have hf := if_f c4 hf
    refine C.aload_n dX1_restore_9 rfl 0 rfl ?_
    refine C.aload_n dX1_restore_10 rfl 0 rfl ?_
    obtain ⟨v11, h11, hf⟩ := ob hf
    refine C.getQ dX1_restore_11 rX1_89 h11 ?_
    obtain ⟨c14, hf⟩ := if_n hf
    obtain ⟨v14, T14, h14, hf, l14, r14⟩ := cl_ok hf
    refine C.Vq (As := []) (rest := [va_rf x0]) dX1_restore_14 (w_X3_copy h14) cX1_182 (Classical.not_not.mp c14) rfl rfl (xcs (xvQ xvN) (Nat.le_of_ble_eq_true rfl)) rfl rfl (xD (Nat.le_of_ble_eq_true rfl)) l14 r14 ?_
    obtain ⟨T17, h17, hf⟩ := ob hf
    refine C.putQ dX1_restore_17 fX1_38 (fun q => by cases q) rfl h17 ?_
    refine C.aload_n dX1_restore_20 rfl 0 rfl ?_
    obtain ⟨T21, e21, hf, l21⟩ := al_ok hf
    refine C.newE e21 dX1_restore_21 clJ2 q269 q169 q125 rfl dfJ2 l21 ?_
    refine X.dup dX1_restore_24 (cat1 _) ?_
    refine C.aload_n dX1_restore_25 rfl 0 rfl ?_
    obtain ⟨v26, h26, hf⟩ := ob hf
    refine C.getQ dX1_restore_26 rX1_293 h26 ?_
    obtain ⟨v29, T29, h29, hf, l29, r29⟩ := cl_ok hf
    refine C.Iv (As := [va_rf v26]) (rest := [va_rf (some T17.2.1), va_rf x0]) dX1_restore_29 (w_J2_init_2 h29) cX1_290 rfl rfl rfl (xcs (xvQ (xvQ xvN)) (Nat.le_of_ble_eq_true rfl)) (xD (Nat.le_of_ble_eq_true rfl)) l29 r29 ?_
    obtain ⟨T32, h32, hf⟩ := ob hf
    refine C.putQ dX1_restore_32 fX1_55 (fun q => by cases q) rfl h32 ?_
    refine C.aload_n dX1_restore_35 rfl 0 rfl ?_
    obtain ⟨T36, e36, hf, l36⟩ := al_ok hf
    refine C.newE e36 dX1_restore_36 clJ2 q269 q169 q125 rfl dfJ2 l36 ?_
    refine X.dup dX1_restore_39 (cat1 _) ?_
    refine C.aload_n dX1_restore_40 rfl 0 rfl ?_
    obtain ⟨v41, h41, hf⟩ := ob hf
    refine C.getQ dX1_restore_41 rX1_296 h41 ?_
    obtain ⟨v44, T44, h44, hf, l44, r44⟩ := cl_ok hf
    refine C.Iv (As := [va_rf v41]) (rest := [va_rf (some T32.2.1), va_rf x0]) dX1_restore_44 (w_J2_init_2 h44) cX1_290 rfl rfl rfl (xcs (xvQ (xvQ xvN)) (Nat.le_of_ble_eq_true rfl)) (xD (Nat.le_of_ble_eq_true rfl)) l44 r44 ?_
    obtain ⟨T47, h47, hf⟩ := ob hf
    refine C.putQ dX1_restore_47 fX1_59 (fun q => by cases q) rfl h47 ?_
    refine X.iconst (v := 1) dX1_restore_50 (by decide) ?_
    obtain rfl := Option.some.inj hf
    exact X.iret dX1_restore_51 rfl rfl rfl
  · have hf := if_t c4 hf
    refine X.iconst (v := 0) dX1_restore_7 (by decide) ?_
    obtain rfl := Option.some.inj hf
    exact X.iret dX1_restore_8 rfl rfl rfl
/-! MouldVotes image -/
abbrev cX1_image : ByteArray := prog_1_method_64_code
def yX1_image : MethodName := ⟨RX1, "image", "()V"⟩
def dkwX1_image_1 : List UInt8 := [181, 1, 37, 42, 187, 0, 52, 89, 42, 180, 0, 59, 183, 1, 34, 181, 1, 40, 177]
abbrev dktX1_image_1 : List UInt8 := dkwX1_image_1 ++ []
def dkwX1_image_0 : List UInt8 := [42, 42, 180, 0, 38, 182, 0, 182, 181, 0, 89, 42, 187, 0, 52, 89, 42, 180, 0, 55, 183, 1, 34]
abbrev dktX1_image_0 : List UInt8 := dkwX1_image_0 ++ dktX1_image_1
theorem dksX1_image_0 : cX1_image.data.toList.drop 0 = dktX1_image_0 := by decide +kernel
theorem dksX1_image_1 : cX1_image.data.toList.drop 23 = dktX1_image_1 := dk_seg dksX1_image_0 23 rfl rfl
theorem dX1_image_0 : decode cX1_image 0 = .ok (.aload_n 0, 1) := dk_42 (dk_at dksX1_image_0 0 rfl rfl)
theorem dX1_image_1 : decode cX1_image 1 = .ok (.aload_n 0, 1) := dk_42 (dk_at dksX1_image_0 1 rfl rfl)
theorem dX1_image_2 : decode cX1_image 2 = .ok (.getfield 38, 3) := dk_180 0 38 (dk_at dksX1_image_0 2 rfl rfl)
theorem dX1_image_5 : decode cX1_image 5 = .ok (.invokevirtual 182, 3) := dk_182 0 182 (dk_at dksX1_image_0 5 rfl rfl)
theorem dX1_image_8 : decode cX1_image 8 = .ok (.putfield 89, 3) := dk_181 0 89 (dk_at dksX1_image_0 8 rfl rfl)
theorem dX1_image_11 : decode cX1_image 11 = .ok (.aload_n 0, 1) := dk_42 (dk_at dksX1_image_0 11 rfl rfl)
theorem dX1_image_12 : decode cX1_image 12 = .ok (.new 52, 3) := dk_187 0 52 (dk_at dksX1_image_0 12 rfl rfl)
theorem dX1_image_15 : decode cX1_image 15 = .ok (.dup, 1) := dk_89 (dk_at dksX1_image_0 15 rfl rfl)
theorem dX1_image_16 : decode cX1_image 16 = .ok (.aload_n 0, 1) := dk_42 (dk_at dksX1_image_0 16 rfl rfl)
theorem dX1_image_17 : decode cX1_image 17 = .ok (.getfield 55, 3) := dk_180 0 55 (dk_at dksX1_image_0 17 rfl rfl)
theorem dX1_image_20 : decode cX1_image 20 = .ok (.invokespecial 290, 3) := dk_183 1 34 (dk_at dksX1_image_0 20 rfl rfl)
theorem dX1_image_23 : decode cX1_image 23 = .ok (.putfield 293, 3) := dk_181 1 37 (dk_at dksX1_image_1 0 rfl rfl)
theorem dX1_image_26 : decode cX1_image 26 = .ok (.aload_n 0, 1) := dk_42 (dk_at dksX1_image_1 3 rfl rfl)
theorem dX1_image_27 : decode cX1_image 27 = .ok (.new 52, 3) := dk_187 0 52 (dk_at dksX1_image_1 4 rfl rfl)
theorem dX1_image_30 : decode cX1_image 30 = .ok (.dup, 1) := dk_89 (dk_at dksX1_image_1 7 rfl rfl)
theorem dX1_image_31 : decode cX1_image 31 = .ok (.aload_n 0, 1) := dk_42 (dk_at dksX1_image_1 8 rfl rfl)
theorem dX1_image_32 : decode cX1_image 32 = .ok (.getfield 59, 3) := dk_180 0 59 (dk_at dksX1_image_1 9 rfl rfl)
theorem dX1_image_35 : decode cX1_image 35 = .ok (.invokespecial 290, 3) := dk_183 1 34 (dk_at dksX1_image_1 12 rfl rfl)
theorem dX1_image_38 : decode cX1_image 38 = .ok (.putfield 296, 3) := dk_181 1 40 (dk_at dksX1_image_1 15 rfl rfl)
theorem dX1_image_41 : decode cX1_image 41 = .ok (.return_, 1) := dk_177 (dk_at dksX1_image_1 18 rfl rfl)
abbrev mX1_image : xM := (yX1_image, cX1_image, 1, none, [])
def c_X1_image (G : xG) (x0 : Option Nat) (T : xF) : Option (Unit × xF) :=
  (oQ T x0 0 4).bind fun v2 =>
  if ¬ isO T v2 2 = true then none else
  cl (c_X3_copy v2 T) T fun v5 T5 =>
  (pV T5 x0 0 11 (va_rf v5)).bind fun T8 =>
  al (nO T8 10 3 [.int 0, .null, .int 0]) fun T12 =>
  (oQ T12 x0 0 9).bind fun v17 =>
  cl (c_J2_init_2 G (some T8.2.1) v17 T12) T12 fun v20 T20 =>
  (pV T20 x0 0 12 (va_rf (some T8.2.1))).bind fun T23 =>
  al (nO T23 10 3 [.int 0, .null, .int 0]) fun T27 =>
  (oQ T27 x0 0 10).bind fun v32 =>
  cl (c_J2_init_2 G (some T23.2.1) v32 T27) T27 fun v35 T35 =>
  (pV T35 x0 0 13 (va_rf (some T23.2.1))).bind fun T38 =>
  some ((), T38)
theorem w_X1_image {G : xG}  {T : xF} {x0 : Option Nat} {q : (Unit × xF)} (hf : c_X1_image G x0 T = some q) : Ct G mX1_image (6) T [va_rf x0] (.inl none) q.2 := by
  refine Ct.ofc (plainFor_of_name (by decide +kernel)) rfl (xvQ xvN) (Nat.le_of_ble_eq_true rfl) (show Xr G _ 0 [(0, va_rf x0)] [] _ from ?_)
  unfold c_X1_image at hf
  refine C.aload_n dX1_image_0 rfl 0 rfl ?_
  refine C.aload_n dX1_image_1 rfl 0 rfl ?_
  obtain ⟨v2, h2, hf⟩ := ob hf
  refine C.getQ dX1_image_2 rX1_38 h2 ?_
  obtain ⟨c5, hf⟩ := if_n hf
  obtain ⟨v5, T5, h5, hf, l5, r5⟩ := cl_ok hf
  refine C.Vq (As := []) (rest := [va_rf x0]) dX1_image_5 (w_X3_copy h5) cX1_182 (Classical.not_not.mp c5) rfl rfl (xcs (xvQ xvN) (Nat.le_of_ble_eq_true rfl)) rfl rfl (xD (Nat.le_of_ble_eq_true rfl)) l5 r5 ?_
  obtain ⟨T8, h8, hf⟩ := ob hf
  refine C.putQ dX1_image_8 fX1_89 (fun q => by cases q) rfl h8 ?_
  refine C.aload_n dX1_image_11 rfl 0 rfl ?_
  obtain ⟨T12, e12, hf, l12⟩ := al_ok hf
  refine C.newE e12 dX1_image_12 clJ2 q269 q169 q125 rfl dfJ2 l12 ?_
  refine X.dup dX1_image_15 (cat1 _) ?_
  refine C.aload_n dX1_image_16 rfl 0 rfl ?_
  obtain ⟨v17, h17, hf⟩ := ob hf
  refine C.getQ dX1_image_17 rX1_55 h17 ?_
  obtain ⟨v20, T20, h20, hf, l20, r20⟩ := cl_ok hf
  refine C.Iv (As := [va_rf v17]) (rest := [va_rf (some T8.2.1), va_rf x0]) dX1_image_20 (w_J2_init_2 h20) cX1_290 rfl rfl rfl (xcs (xvQ (xvQ xvN)) (Nat.le_of_ble_eq_true rfl)) (xD (Nat.le_of_ble_eq_true rfl)) l20 r20 ?_
  obtain ⟨T23, h23, hf⟩ := ob hf
  refine C.putQ dX1_image_23 fX1_293 (fun q => by cases q) rfl h23 ?_
  refine C.aload_n dX1_image_26 rfl 0 rfl ?_
  obtain ⟨T27, e27, hf, l27⟩ := al_ok hf
  refine C.newE e27 dX1_image_27 clJ2 q269 q169 q125 rfl dfJ2 l27 ?_
  refine X.dup dX1_image_30 (cat1 _) ?_
  refine C.aload_n dX1_image_31 rfl 0 rfl ?_
  obtain ⟨v32, h32, hf⟩ := ob hf
  refine C.getQ dX1_image_32 rX1_59 h32 ?_
  obtain ⟨v35, T35, h35, hf, l35, r35⟩ := cl_ok hf
  refine C.Iv (As := [va_rf v32]) (rest := [va_rf (some T23.2.1), va_rf x0]) dX1_image_35 (w_J2_init_2 h35) cX1_290 rfl rfl rfl (xcs (xvQ (xvQ xvN)) (Nat.le_of_ble_eq_true rfl)) (xD (Nat.le_of_ble_eq_true rfl)) l35 r35 ?_
  obtain ⟨T38, h38, hf⟩ := ob hf
  refine C.putQ dX1_image_38 fX1_296 (fun q => by cases q) rfl h38 ?_
  obtain rfl := Option.some.inj hf
  exact X.vret dX1_image_41 rfl rfl
/-! MouldVotes forget -/
abbrev cX1_forget : ByteArray := prog_1_method_42_code
def yX1_forget : MethodName := ⟨RX1, "forget", "()V"⟩
def dkwX1_forget_0 : List UInt8 := [42, 187, 0, 52, 89, 183, 0, 54, 181, 0, 59, 177]
abbrev dktX1_forget_0 : List UInt8 := dkwX1_forget_0 ++ []
theorem dksX1_forget_0 : cX1_forget.data.toList.drop 0 = dktX1_forget_0 := by decide +kernel
theorem dX1_forget_0 : decode cX1_forget 0 = .ok (.aload_n 0, 1) := dk_42 (dk_at dksX1_forget_0 0 rfl rfl)
theorem dX1_forget_1 : decode cX1_forget 1 = .ok (.new 52, 3) := dk_187 0 52 (dk_at dksX1_forget_0 1 rfl rfl)
theorem dX1_forget_4 : decode cX1_forget 4 = .ok (.dup, 1) := dk_89 (dk_at dksX1_forget_0 4 rfl rfl)
theorem dX1_forget_5 : decode cX1_forget 5 = .ok (.invokespecial 54, 3) := dk_183 0 54 (dk_at dksX1_forget_0 5 rfl rfl)
theorem dX1_forget_8 : decode cX1_forget 8 = .ok (.putfield 59, 3) := dk_181 0 59 (dk_at dksX1_forget_0 8 rfl rfl)
theorem dX1_forget_11 : decode cX1_forget 11 = .ok (.return_, 1) := dk_177 (dk_at dksX1_forget_0 11 rfl rfl)
abbrev mX1_forget : xM := (yX1_forget, cX1_forget, 1, none, [])
def c_X1_forget (G : xG) (x0 : Option Nat) (T : xF) : Option (Unit × xF) :=
  al (nO T 10 3 [.int 0, .null, .int 0]) fun T1 =>
  cl (c_J2_init G (some T.2.1) T1) T1 fun v5 T5 =>
  (pV T5 x0 0 10 (va_rf (some T.2.1))).bind fun T8 =>
  some ((), T8)
theorem w_X1_forget {G : xG}  {T : xF} {x0 : Option Nat} {q : (Unit × xF)} (hf : c_X1_forget G x0 T = some q) : Ct G mX1_forget (4) T [va_rf x0] (.inl none) q.2 := by
  refine Ct.ofc (plainFor_of_name (by decide +kernel)) rfl (xvQ xvN) (Nat.le_of_ble_eq_true rfl) (show Xr G _ 0 [(0, va_rf x0)] [] _ from ?_)
  unfold c_X1_forget at hf
  refine C.aload_n dX1_forget_0 rfl 0 rfl ?_
  obtain ⟨T1, e1, hf, l1⟩ := al_ok hf
  refine C.newE e1 dX1_forget_1 clJ2 q269 q169 q125 rfl dfJ2 l1 ?_
  refine X.dup dX1_forget_4 (cat1 _) ?_
  obtain ⟨v5, T5, h5, hf, l5, r5⟩ := cl_ok hf
  refine C.Iv (As := []) (rest := [va_rf (some T.2.1), va_rf x0]) dX1_forget_5 (w_J2_init h5) cX1_54 rfl rfl rfl (xcs (xvQ (xvQ xvN)) (Nat.le_of_ble_eq_true rfl)) (xD (Nat.le_of_ble_eq_true rfl)) l5 r5 ?_
  obtain ⟨T8, h8, hf⟩ := ob hf
  refine C.putQ dX1_forget_8 fX1_59 (fun q => by cases q) rfl h8 ?_
  obtain rfl := Option.some.inj hf
  exact X.vret dX1_forget_11 rfl rfl
/-! MouldVotes carry -/
abbrev cX1_carry : ByteArray := prog_1_method_39_code
def yX1_carry : MethodName := ⟨RX1, "carry", "()I"⟩
def dkwX1_carry_1 : List UInt8 := [28, 184, 0, 253, 27, 184, 0, 253, 162, 0, 5, 28, 60, 132, 2, 1, 167, 255, 220, 27, 172]
abbrev dktX1_carry_1 : List UInt8 := dkwX1_carry_1 ++ []
def dkwX1_carry_0 : List UInt8 := [2, 60, 3, 61, 28, 184, 0, 125, 163, 0, 35, 42, 28, 182, 0, 250, 153, 0, 21, 27, 2, 159, 0, 14]
abbrev dktX1_carry_0 : List UInt8 := dkwX1_carry_0 ++ dktX1_carry_1
theorem dksX1_carry_0 : cX1_carry.data.toList.drop 0 = dktX1_carry_0 := by decide +kernel
theorem dksX1_carry_1 : cX1_carry.data.toList.drop 24 = dktX1_carry_1 := dk_seg dksX1_carry_0 24 rfl rfl
theorem dX1_carry_0 : decode cX1_carry 0 = .ok (.iconst (-1), 1) := dk_2 (dk_at dksX1_carry_0 0 rfl rfl)
theorem dX1_carry_1 : decode cX1_carry 1 = .ok (.istore_n 1, 1) := dk_60 (dk_at dksX1_carry_0 1 rfl rfl)
theorem dX1_carry_2 : decode cX1_carry 2 = .ok (.iconst 0, 1) := dk_3 (dk_at dksX1_carry_0 2 rfl rfl)
theorem dX1_carry_3 : decode cX1_carry 3 = .ok (.istore_n 2, 1) := dk_61 (dk_at dksX1_carry_0 3 rfl rfl)
theorem dX1_carry_4 : decode cX1_carry 4 = .ok (.iload_n 2, 1) := dk_28 (dk_at dksX1_carry_0 4 rfl rfl)
theorem dX1_carry_5 : decode cX1_carry 5 = .ok (.invokestatic 125, 3) := dk_184 0 125 (dk_at dksX1_carry_0 5 rfl rfl)
theorem dX1_carry_8 : decode cX1_carry 8 = .ok (.if_icmp .gt 35, 3) := dk_163 0 35 (dk_at dksX1_carry_0 8 rfl rfl)
theorem dX1_carry_11 : decode cX1_carry 11 = .ok (.aload_n 0, 1) := dk_42 (dk_at dksX1_carry_0 11 rfl rfl)
theorem dX1_carry_12 : decode cX1_carry 12 = .ok (.iload_n 2, 1) := dk_28 (dk_at dksX1_carry_0 12 rfl rfl)
theorem dX1_carry_13 : decode cX1_carry 13 = .ok (.invokevirtual 250, 3) := dk_182 0 250 (dk_at dksX1_carry_0 13 rfl rfl)
theorem dX1_carry_16 : decode cX1_carry 16 = .ok (.ifCond .eq 21, 3) := dk_153 0 21 (dk_at dksX1_carry_0 16 rfl rfl)
theorem dX1_carry_19 : decode cX1_carry 19 = .ok (.iload_n 1, 1) := dk_27 (dk_at dksX1_carry_0 19 rfl rfl)
theorem dX1_carry_20 : decode cX1_carry 20 = .ok (.iconst (-1), 1) := dk_2 (dk_at dksX1_carry_0 20 rfl rfl)
theorem dX1_carry_21 : decode cX1_carry 21 = .ok (.if_icmp .eq 14, 3) := dk_159 0 14 (dk_at dksX1_carry_0 21 rfl rfl)
theorem dX1_carry_24 : decode cX1_carry 24 = .ok (.iload_n 2, 1) := dk_28 (dk_at dksX1_carry_1 0 rfl rfl)
theorem dX1_carry_25 : decode cX1_carry 25 = .ok (.invokestatic 253, 3) := dk_184 0 253 (dk_at dksX1_carry_1 1 rfl rfl)
theorem dX1_carry_28 : decode cX1_carry 28 = .ok (.iload_n 1, 1) := dk_27 (dk_at dksX1_carry_1 4 rfl rfl)
theorem dX1_carry_29 : decode cX1_carry 29 = .ok (.invokestatic 253, 3) := dk_184 0 253 (dk_at dksX1_carry_1 5 rfl rfl)
theorem dX1_carry_32 : decode cX1_carry 32 = .ok (.if_icmp .ge 5, 3) := dk_162 0 5 (dk_at dksX1_carry_1 8 rfl rfl)
theorem dX1_carry_35 : decode cX1_carry 35 = .ok (.iload_n 2, 1) := dk_28 (dk_at dksX1_carry_1 11 rfl rfl)
theorem dX1_carry_36 : decode cX1_carry 36 = .ok (.istore_n 1, 1) := dk_60 (dk_at dksX1_carry_1 12 rfl rfl)
theorem dX1_carry_37 : decode cX1_carry 37 = .ok (.iinc 2 1, 3) := dk_132 2 1 (dk_at dksX1_carry_1 13 rfl rfl)
theorem dX1_carry_40 : decode cX1_carry 40 = .ok (.goto (-36), 3) := dk_167 255 220 (dk_at dksX1_carry_1 16 rfl rfl)
theorem dX1_carry_43 : decode cX1_carry 43 = .ok (.iload_n 1, 1) := dk_27 (dk_at dksX1_carry_1 19 rfl rfl)
theorem dX1_carry_44 : decode cX1_carry 44 = .ok (.ireturn, 1) := dk_172 (dk_at dksX1_carry_1 20 rfl rfl)
abbrev mX1_carry : xM := (yX1_carry, cX1_carry, 3, (some .int), [])
def c_X1_carry_37 (T : xF) (k4 : Option Nat → Int32 → Int32 → Option Int32) (x0 : Option Nat) (x1 : Int32) (x2 : Int32) : Option Int32 :=
  k4 x0 x1 (x2 + 1)
theorem c_X1_carry_37_ok {G : xG}  {T : xF} {k4 : Option Nat → Int32 → Int32 → Option Int32} (hk4 : ∀ (x0 : Option Nat) (x1 : Int32) (x2 : Int32) (q : Int32), k4 x0 x1 x2 = some q → Xr G (mX1_carry, xrm (7) T T, T, .inl (some (.int q)), T) 4 [(0, va_rf x0), (1, .int x1), (2, .int x2)] [] T) (x0 : Option Nat) (x1 : Int32) (x2 : Int32) (q : Int32) (hf : c_X1_carry_37 T k4 x0 x1 x2 = some q) : Xr G (mX1_carry, xrm (7) T T, T, .inl (some (.int q)), T) 37 [(0, va_rf x0), (1, .int x1), (2, .int x2)] [] T := by
  unfold c_X1_carry_37 at hf
  refine C.iinc (v := (x2 + 1)) (L' := [(2, .int (x2 + 1)), (0, va_rf x0), (1, .int x1)]) dX1_carry_37 2 rfl rfl (Nat.le_of_ble_eq_true rfl) (xcQ (xcI (xcI xcN))) rfl ?_
  refine X.goto (tgt := 4) dX1_carry_40 (by decide) ?_
  refine X.sub [1, 2, 0] (L' := [(0, va_rf x0), (1, .int x1), (2, .int (x2 + 1))]) rfl ?_
  exact hk4 _ _ _ _ hf
def c_X1_carry_35 (T : xF) (k4 : Option Nat → Int32 → Int32 → Option Int32) (x0 : Option Nat) (x2 : Int32) : Option Int32 :=
  c_X1_carry_37 T k4 x0 x2 x2
theorem c_X1_carry_35_ok {G : xG}  {T : xF} {k4 : Option Nat → Int32 → Int32 → Option Int32} (hk4 : ∀ (x0 : Option Nat) (x1 : Int32) (x2 : Int32) (q : Int32), k4 x0 x1 x2 = some q → Xr G (mX1_carry, xrm (7) T T, T, .inl (some (.int q)), T) 4 [(0, va_rf x0), (1, .int x1), (2, .int x2)] [] T) (x0 : Option Nat) (x2 : Int32) (q : Int32) (hf : c_X1_carry_35 T k4 x0 x2 = some q) : Xr G (mX1_carry, xrm (7) T T, T, .inl (some (.int q)), T) 35 [(0, va_rf x0), (2, .int x2)] [] T := by
  unfold c_X1_carry_35 at hf
  refine X.iload_n dX1_carry_35 rfl 1 rfl ?_
  refine C.ist_n (L' := [(1, .int x2), (0, va_rf x0), (2, .int x2)]) dX1_carry_36 rfl (Nat.le_of_ble_eq_true rfl) (xcQ (xcI xcN)) rfl ?_
  refine X.sub [1, 0, 2] (L' := [(0, va_rf x0), (1, .int x2), (2, .int x2)]) rfl ?_
  exact c_X1_carry_37_ok hk4 _ _ _ _ hf
def c_X1_carry_4_b (T : xF) (k4 : Option Nat → Int32 → Int32 → Option Int32) (x0 : Option Nat) (x1 : Int32) (x2 : Int32) : Option Int32 :=
  (c_X1_allParties).bind fun v5 =>
  if v5 < x2 then
    some x1
  else
    if ¬ isO T x0 0 = true then none else
    (c_X1_carries T x0 x2).bind fun v13 =>
    if v13 = 0 then
      c_X1_carry_37 T k4 x0 x1 x2
    else
      if x1 = (-1 : Int32) then
        c_X1_carry_35 T k4 x0 x2
      else
        (c_J14_bitCount x2).bind fun v25 =>
        (c_J14_bitCount x1).bind fun v29 =>
        if v29 ≤ v25 then
          c_X1_carry_37 T k4 x0 x1 x2
        else
          c_X1_carry_35 T k4 x0 x2
def c_X1_carry_4 (T : xF) : Nat → Option Nat → Int32 → Int32 → Option Int32
  | 0 => fun _ _ _ => none
  | n + 1 => fun x0 x1 x2 => c_X1_carry_4_b T (c_X1_carry_4 T n) x0 x1 x2
theorem c_X1_carry_4_bok {G : xG}  {T : xF}  {k4 : Option Nat → Int32 → Int32 → Option Int32}  (hk4 : ∀ (x0 : Option Nat) (x1 : Int32) (x2 : Int32) (q : Int32), k4 x0 x1 x2 = some q → Xr G (mX1_carry, xrm (7) T T, T, .inl (some (.int q)), T) 4 [(0, va_rf x0), (1, .int x1), (2, .int x2)] [] T) (x0 : Option Nat) (x1 : Int32) (x2 : Int32) (q : Int32) (hf : c_X1_carry_4_b T k4 x0 x1 x2 = some q) : Xr G (mX1_carry, xrm (7) T T, T, .inl (some (.int q)), T) 4 [(0, va_rf x0), (1, .int x1), (2, .int x2)] [] T := by
  unfold c_X1_carry_4_b at hf
  refine X.iload_n dX1_carry_4 rfl 2 rfl ?_
  obtain ⟨v5, h5, hf⟩ := ob hf
  refine X.keep fun l5 => C.Si (As := []) (rest := [.int x2]) dX1_carry_5 (w_X1_allParties h5) cX1_125 rfl rfl (xcs (xvI xvN) (Nat.le_of_ble_eq_true rfl)) (xD (Nat.le_of_ble_eq_true rfl)) xle.rf l5 ?_
  refine X.icmp_gt (tgt := 43) dX1_carry_8 (by decide) (fun c8 => ?_) (fun c8 => ?_)
  · have hf := if_t c8 hf
    refine X.iload_n dX1_carry_43 rfl 1 rfl ?_
    obtain rfl := Option.some.inj hf
    exact X.iret dX1_carry_44 rfl rfl rfl
  · have hf := if_f c8 hf
    refine C.aload_n dX1_carry_11 rfl 0 rfl ?_
    refine X.iload_n dX1_carry_12 rfl 2 rfl ?_
    obtain ⟨c13, hf⟩ := if_n hf
    obtain ⟨v13, h13, hf⟩ := ob hf
    refine X.keep fun l13 => C.Vi (As := [.int x2]) (rest := []) dX1_carry_13 (w_X1_carries h13) cX1_250 (Classical.not_not.mp c13) rfl rfl (xcs xvN (Nat.le_of_ble_eq_true rfl)) rfl rfl (xD (Nat.le_of_ble_eq_true rfl)) xle.rf l13 ?_
    refine X.if_eq (tgt := 37) dX1_carry_16 (by decide) (fun c16 => ?_) (fun c16 => ?_)
    · have hf := if_t c16 hf
      refine X.sub [0, 1, 2] (L' := [(0, va_rf x0), (1, .int x1), (2, .int x2)]) rfl ?_
      exact c_X1_carry_37_ok hk4 _ _ _ _ hf
    · have hf := if_f c16 hf
      refine X.iload_n dX1_carry_19 rfl 1 rfl ?_
      refine X.iconst (v := -1) dX1_carry_20 (by decide) ?_
      refine X.icmp_eq (tgt := 35) dX1_carry_21 (by decide) (fun c21 => ?_) (fun c21 => ?_)
      · have hf := if_t c21 hf
        refine X.sub [0, 2] (L' := [(0, va_rf x0), (2, .int x2)]) rfl ?_
        exact c_X1_carry_35_ok hk4 _ _ _ hf
      · have hf := if_f c21 hf
        refine X.iload_n dX1_carry_24 rfl 2 rfl ?_
        obtain ⟨v25, h25, hf⟩ := ob hf
        refine X.keep fun l25 => C.Si (As := [.int x2]) (rest := []) dX1_carry_25 (w_J14_bitCount h25) cX1_253 rfl rfl (xcs xvN (Nat.le_of_ble_eq_true rfl)) (xD (Nat.le_of_ble_eq_true rfl)) xle.rf l25 ?_
        refine X.iload_n dX1_carry_28 rfl 1 rfl ?_
        obtain ⟨v29, h29, hf⟩ := ob hf
        refine X.keep fun l29 => C.Si (As := [.int x1]) (rest := [.int v25]) dX1_carry_29 (w_J14_bitCount h29) cX1_253 rfl rfl (xcs (xvI xvN) (Nat.le_of_ble_eq_true rfl)) (xD (Nat.le_of_ble_eq_true rfl)) xle.rf l29 ?_
        refine X.icmp_ge (tgt := 37) dX1_carry_32 (by decide) (fun c32 => ?_) (fun c32 => ?_)
        · have hf := if_t c32 hf
          refine X.sub [0, 1, 2] (L' := [(0, va_rf x0), (1, .int x1), (2, .int x2)]) rfl ?_
          exact c_X1_carry_37_ok hk4 _ _ _ _ hf
        · have hf := if_f c32 hf
          refine X.sub [0, 2] (L' := [(0, va_rf x0), (2, .int x2)]) rfl ?_
          exact c_X1_carry_35_ok hk4 _ _ _ hf
theorem c_X1_carry_4_ok {G : xG}  {T : xF}   : ∀ (n : Nat) (x0 : Option Nat) (x1 : Int32) (x2 : Int32) (q : Int32), c_X1_carry_4 T n x0 x1 x2 = some q → Xr G (mX1_carry, xrm (7) T T, T, .inl (some (.int q)), T) 4 [(0, va_rf x0), (1, .int x1), (2, .int x2)] [] T
  | 0, _, _, _, _, hf => by cases hf
  | n + 1, x0, x1, x2, q, hf => c_X1_carry_4_bok (c_X1_carry_4_ok n) x0 x1 x2 q hf
def c_X1_carry (T : xF) (x0 : Option Nat) : Option Int32 :=
  c_X1_carry_4 T FU x0 (-1 : Int32) (0 : Int32)
theorem w_X1_carry {G : xG}  {T : xF} {x0 : Option Nat} {q : Int32} (hf : c_X1_carry T x0 = some q) : Ct G mX1_carry (7) T [va_rf x0] (.inl (some (.int q))) T := by
  refine Ct.ofc (plainFor_of_name (by decide +kernel)) rfl (xvQ xvN) (Nat.le_of_ble_eq_true rfl) (show Xr G _ 0 [(0, va_rf x0)] [] _ from ?_)
  unfold c_X1_carry at hf
  refine X.iconst (v := -1) dX1_carry_0 (by decide) ?_
  refine C.ist_n (L' := [(1, .int (-1 : Int32)), (0, va_rf x0)]) dX1_carry_1 rfl (Nat.le_of_ble_eq_true rfl) (xcQ xcN) rfl ?_
  refine X.iconst (v := 0) dX1_carry_2 (by decide) ?_
  refine C.ist_n (L' := [(2, .int (0 : Int32)), (1, .int (-1 : Int32)), (0, va_rf x0)]) dX1_carry_3 rfl (Nat.le_of_ble_eq_true rfl) (xcI (xcQ xcN)) rfl ?_
  refine X.sub [2, 1, 0] (L' := [(0, va_rf x0), (1, .int (-1 : Int32)), (2, .int (0 : Int32))]) rfl ?_
  exact c_X1_carry_4_ok FU _ _ _ _ hf
/-! MouldVotes voters -/
abbrev cX1_voters : ByteArray := prog_1_method_36_code
def yX1_voters : MethodName := ⟨RX1, "voters", "()Ljava/util/List;"⟩
def dkwX1_voters_2 : List UInt8 := [167, 255, 220, 43, 176]
abbrev dktX1_voters_2 : List UInt8 := dkwX1_voters_2 ++ []
def dkwX1_voters_1 : List UInt8 := [180, 0, 38, 28, 182, 0, 226, 153, 0, 14, 43, 28, 184, 0, 230, 185, 0, 186, 2, 0, 87, 132, 2, 1]
abbrev dktX1_voters_1 : List UInt8 := dkwX1_voters_1 ++ dktX1_voters_2
def dkwX1_voters_0 : List UInt8 := [187, 0, 52, 89, 183, 0, 54, 76, 3, 61, 28, 42, 180, 0, 22, 182, 0, 92, 162, 0, 31, 42]
abbrev dktX1_voters_0 : List UInt8 := dkwX1_voters_0 ++ dktX1_voters_1
theorem dksX1_voters_0 : cX1_voters.data.toList.drop 0 = dktX1_voters_0 := by decide +kernel
theorem dksX1_voters_1 : cX1_voters.data.toList.drop 22 = dktX1_voters_1 := dk_seg dksX1_voters_0 22 rfl rfl
theorem dksX1_voters_2 : cX1_voters.data.toList.drop 46 = dktX1_voters_2 := dk_seg dksX1_voters_1 24 rfl rfl
theorem dX1_voters_0 : decode cX1_voters 0 = .ok (.new 52, 3) := dk_187 0 52 (dk_at dksX1_voters_0 0 rfl rfl)
theorem dX1_voters_3 : decode cX1_voters 3 = .ok (.dup, 1) := dk_89 (dk_at dksX1_voters_0 3 rfl rfl)
theorem dX1_voters_4 : decode cX1_voters 4 = .ok (.invokespecial 54, 3) := dk_183 0 54 (dk_at dksX1_voters_0 4 rfl rfl)
theorem dX1_voters_7 : decode cX1_voters 7 = .ok (.astore_n 1, 1) := dk_76 (dk_at dksX1_voters_0 7 rfl rfl)
theorem dX1_voters_8 : decode cX1_voters 8 = .ok (.iconst 0, 1) := dk_3 (dk_at dksX1_voters_0 8 rfl rfl)
theorem dX1_voters_9 : decode cX1_voters 9 = .ok (.istore_n 2, 1) := dk_61 (dk_at dksX1_voters_0 9 rfl rfl)
theorem dX1_voters_10 : decode cX1_voters 10 = .ok (.iload_n 2, 1) := dk_28 (dk_at dksX1_voters_0 10 rfl rfl)
theorem dX1_voters_11 : decode cX1_voters 11 = .ok (.aload_n 0, 1) := dk_42 (dk_at dksX1_voters_0 11 rfl rfl)
theorem dX1_voters_12 : decode cX1_voters 12 = .ok (.getfield 22, 3) := dk_180 0 22 (dk_at dksX1_voters_0 12 rfl rfl)
theorem dX1_voters_15 : decode cX1_voters 15 = .ok (.invokevirtual 92, 3) := dk_182 0 92 (dk_at dksX1_voters_0 15 rfl rfl)
theorem dX1_voters_18 : decode cX1_voters 18 = .ok (.if_icmp .ge 31, 3) := dk_162 0 31 (dk_at dksX1_voters_0 18 rfl rfl)
theorem dX1_voters_21 : decode cX1_voters 21 = .ok (.aload_n 0, 1) := dk_42 (dk_at dksX1_voters_0 21 rfl rfl)
theorem dX1_voters_22 : decode cX1_voters 22 = .ok (.getfield 38, 3) := dk_180 0 38 (dk_at dksX1_voters_1 0 rfl rfl)
theorem dX1_voters_25 : decode cX1_voters 25 = .ok (.iload_n 2, 1) := dk_28 (dk_at dksX1_voters_1 3 rfl rfl)
theorem dX1_voters_26 : decode cX1_voters 26 = .ok (.invokevirtual 226, 3) := dk_182 0 226 (dk_at dksX1_voters_1 4 rfl rfl)
theorem dX1_voters_29 : decode cX1_voters 29 = .ok (.ifCond .eq 14, 3) := dk_153 0 14 (dk_at dksX1_voters_1 7 rfl rfl)
theorem dX1_voters_32 : decode cX1_voters 32 = .ok (.aload_n 1, 1) := dk_43 (dk_at dksX1_voters_1 10 rfl rfl)
theorem dX1_voters_33 : decode cX1_voters 33 = .ok (.iload_n 2, 1) := dk_28 (dk_at dksX1_voters_1 11 rfl rfl)
theorem dX1_voters_34 : decode cX1_voters 34 = .ok (.invokestatic 230, 3) := dk_184 0 230 (dk_at dksX1_voters_1 12 rfl rfl)
theorem dX1_voters_37 : decode cX1_voters 37 = .ok (.invokeinterface 186 2, 5) := by decide +kernel
theorem dX1_voters_42 : decode cX1_voters 42 = .ok (.pop, 1) := dk_87 (dk_at dksX1_voters_1 20 rfl rfl)
theorem dX1_voters_43 : decode cX1_voters 43 = .ok (.iinc 2 1, 3) := dk_132 2 1 (dk_at dksX1_voters_1 21 rfl rfl)
theorem dX1_voters_46 : decode cX1_voters 46 = .ok (.goto (-36), 3) := dk_167 255 220 (dk_at dksX1_voters_2 0 rfl rfl)
theorem dX1_voters_49 : decode cX1_voters 49 = .ok (.aload_n 1, 1) := dk_43 (dk_at dksX1_voters_2 3 rfl rfl)
theorem dX1_voters_50 : decode cX1_voters 50 = .ok (.areturn, 1) := dk_176 (dk_at dksX1_voters_2 4 rfl rfl)
abbrev mX1_voters : xM := (yX1_voters, cX1_voters, 3, (some (.object "java/util/List")), [])
def c_X1_voters_43 (G : xG) (k10 : Option Nat → Option Nat → Int32 → xF → Option (Option Nat × xF)) (x0 : Option Nat) (x1 : Option Nat) (x2 : Int32) (T : xF) : Option (Option Nat × xF) :=
  k10 x0 x1 (x2 + 1) T
theorem c_X1_voters_43_ok {G : xG}  {T0 : xF} {k10 : Option Nat → Option Nat → Int32 → xF → Option (Option Nat × xF)} (hk10 : ∀ (x0 : Option Nat) (x1 : Option Nat) (x2 : Int32) (T : xF) (q : (Option Nat × xF)), k10 x0 x1 x2 T = some q → Xr G (mX1_voters, xrm (8) T0 q.2, T0, .inl (some (va_rf q.1)), q.2) 10 [(0, va_rf x0), (1, va_rf x1), (2, .int x2)] [] T) (x0 : Option Nat) (x1 : Option Nat) (x2 : Int32) (T : xF) (q : (Option Nat × xF)) (hf : c_X1_voters_43 G k10 x0 x1 x2 T = some q) : Xr G (mX1_voters, xrm (8) T0 q.2, T0, .inl (some (va_rf q.1)), q.2) 43 [(0, va_rf x0), (1, va_rf x1), (2, .int x2)] [] T := by
  unfold c_X1_voters_43 at hf
  refine C.iinc (v := (x2 + 1)) (L' := [(2, .int (x2 + 1)), (0, va_rf x0), (1, va_rf x1)]) dX1_voters_43 2 rfl rfl (Nat.le_of_ble_eq_true rfl) (xcQ (xcQ (xcI xcN))) rfl ?_
  refine X.goto (tgt := 10) dX1_voters_46 (by decide) ?_
  refine X.sub [1, 2, 0] (L' := [(0, va_rf x0), (1, va_rf x1), (2, .int (x2 + 1))]) rfl ?_
  exact hk10 _ _ _ _ _ hf
def c_X1_voters_10_b (G : xG) (k10 : Option Nat → Option Nat → Int32 → xF → Option (Option Nat × xF)) (x0 : Option Nat) (x1 : Option Nat) (x2 : Int32) (T : xF) : Option (Option Nat × xF) :=
  (oQ T x0 0 1).bind fun v12 =>
  if ¬ isO T v12 1 = true then none else
  (c_X2_cells T v12).bind fun v15 =>
  if v15 ≤ x2 then
    some (x1, T)
  else
    (oQ T x0 0 4).bind fun v22 =>
    if ¬ isO T v22 2 = true then none else
    (c_X3_isVoter T v22 x2).bind fun v26 =>
    if v26 = 0 then
      c_X1_voters_43 G k10 x0 x1 x2 T
    else
      cl (c_J14_valueOf G x2 T) T fun v34 T34 =>
      if ¬ isO T34 x1 10 = true then none else
      cl (c_J2_add G x1 v34 T34) T34 fun v37 T37 =>
      c_X1_voters_43 G k10 x0 x1 x2 T37
def c_X1_voters_10 (G : xG) : Nat → Option Nat → Option Nat → Int32 → xF → Option (Option Nat × xF)
  | 0 => fun _ _ _ _ => none
  | n + 1 => fun x0 x1 x2 T => c_X1_voters_10_b G (c_X1_voters_10 G n) x0 x1 x2 T
theorem c_X1_voters_10_bok {G : xG}  {T0 : xF}  {k10 : Option Nat → Option Nat → Int32 → xF → Option (Option Nat × xF)}  (hk10 : ∀ (x0 : Option Nat) (x1 : Option Nat) (x2 : Int32) (T : xF) (q : (Option Nat × xF)), k10 x0 x1 x2 T = some q → Xr G (mX1_voters, xrm (8) T0 q.2, T0, .inl (some (va_rf q.1)), q.2) 10 [(0, va_rf x0), (1, va_rf x1), (2, .int x2)] [] T) (x0 : Option Nat) (x1 : Option Nat) (x2 : Int32) (T : xF) (q : (Option Nat × xF)) (hf : c_X1_voters_10_b G k10 x0 x1 x2 T = some q) : Xr G (mX1_voters, xrm (8) T0 q.2, T0, .inl (some (va_rf q.1)), q.2) 10 [(0, va_rf x0), (1, va_rf x1), (2, .int x2)] [] T := by
  unfold c_X1_voters_10_b at hf
  refine X.iload_n dX1_voters_10 rfl 2 rfl ?_
  refine C.aload_n dX1_voters_11 rfl 0 rfl ?_
  obtain ⟨v12, h12, hf⟩ := ob hf
  refine C.getQ dX1_voters_12 rX1_22 h12 ?_
  obtain ⟨c15, hf⟩ := if_n hf
  obtain ⟨v15, h15, hf⟩ := ob hf
  refine X.keep fun l15 => C.Vi (As := []) (rest := [.int x2]) dX1_voters_15 (w_X2_cells h15) cX1_92 (Classical.not_not.mp c15) rfl rfl (xcs (xvI xvN) (Nat.le_of_ble_eq_true rfl)) rfl rfl (xD (Nat.le_of_ble_eq_true rfl)) xle.rf l15 ?_
  refine X.icmp_ge (tgt := 49) dX1_voters_18 (by decide) (fun c18 => ?_) (fun c18 => ?_)
  · have hf := if_t c18 hf
    refine C.aload_n dX1_voters_49 rfl 1 rfl ?_
    obtain rfl := Option.some.inj hf
    exact X.aret dX1_voters_50 rfl (Or.inl ⟨_, rfl⟩) rfl
  · have hf := if_f c18 hf
    refine C.aload_n dX1_voters_21 rfl 0 rfl ?_
    obtain ⟨v22, h22, hf⟩ := ob hf
    refine C.getQ dX1_voters_22 rX1_38 h22 ?_
    refine X.iload_n dX1_voters_25 rfl 2 rfl ?_
    obtain ⟨c26, hf⟩ := if_n hf
    obtain ⟨v26, h26, hf⟩ := ob hf
    refine X.keep fun l26 => C.Vi (As := [.int x2]) (rest := []) dX1_voters_26 (w_X3_isVoter h26) cX1_226 (Classical.not_not.mp c26) rfl rfl (xcs xvN (Nat.le_of_ble_eq_true rfl)) rfl rfl (xD (Nat.le_of_ble_eq_true rfl)) xle.rf l26 ?_
    refine X.if_eq (tgt := 43) dX1_voters_29 (by decide) (fun c29 => ?_) (fun c29 => ?_)
    · have hf := if_t c29 hf
      refine X.sub [0, 1, 2] (L' := [(0, va_rf x0), (1, va_rf x1), (2, .int x2)]) rfl ?_
      exact c_X1_voters_43_ok hk10 _ _ _ _ _ hf
    · have hf := if_f c29 hf
      refine C.aload_n dX1_voters_32 rfl 1 rfl ?_
      refine X.iload_n dX1_voters_33 rfl 2 rfl ?_
      obtain ⟨v34, T34, h34, hf, l34, r34⟩ := cl_ok hf
      refine C.Sq (As := [.int x2]) (rest := [va_rf x1]) dX1_voters_34 (w_J14_valueOf h34) cX1_230 rfl rfl (xcs (xvQ xvN) (Nat.le_of_ble_eq_true rfl)) (xD (Nat.le_of_ble_eq_true rfl)) l34 r34 ?_
      obtain ⟨c37, hf⟩ := if_n hf
      obtain ⟨v37, T37, h37, hf, l37, r37⟩ := cl_ok hf
      refine C.Fi (As := [va_rf v34]) (rest := []) dX1_voters_37 (w_J2_add h37) cX1_186 (Classical.not_not.mp c37) rfl rfl (xcs xvN (Nat.le_of_ble_eq_true rfl)) rfl rfl (xD (Nat.le_of_ble_eq_true rfl)) l37 r37 ?_
      refine X.pop dX1_voters_42 rfl ?_
      refine X.sub [0, 1, 2] (L' := [(0, va_rf x0), (1, va_rf x1), (2, .int x2)]) rfl ?_
      exact c_X1_voters_43_ok hk10 _ _ _ _ _ hf
theorem c_X1_voters_10_ok {G : xG}  {T0 : xF}   : ∀ (n : Nat) (x0 : Option Nat) (x1 : Option Nat) (x2 : Int32) (T : xF) (q : (Option Nat × xF)), c_X1_voters_10 G n x0 x1 x2 T = some q → Xr G (mX1_voters, xrm (8) T0 q.2, T0, .inl (some (va_rf q.1)), q.2) 10 [(0, va_rf x0), (1, va_rf x1), (2, .int x2)] [] T
  | 0, _, _, _, _, _, hf => by cases hf
  | n + 1, x0, x1, x2, T, q, hf => c_X1_voters_10_bok (c_X1_voters_10_ok n) x0 x1 x2 T q hf
def c_X1_voters (G : xG) (x0 : Option Nat) (T : xF) : Option (Option Nat × xF) :=
  al (nO T 10 3 [.int 0, .null, .int 0]) fun T0 =>
  cl (c_J2_init G (some T.2.1) T0) T0 fun v4 T4 =>
  c_X1_voters_10 G FU x0 (some T.2.1) (0 : Int32) T4
theorem w_X1_voters {G : xG}  {T : xF} {x0 : Option Nat} {q : (Option Nat × xF)} (hf : c_X1_voters G x0 T = some q) : Ct G mX1_voters (8) T [va_rf x0] (.inl (some (va_rf q.1))) q.2 := by
  refine Ct.ofc (plainFor_of_name (by decide +kernel)) rfl (xvQ xvN) (Nat.le_of_ble_eq_true rfl) (show Xr G _ 0 [(0, va_rf x0)] [] _ from ?_)
  unfold c_X1_voters at hf
  obtain ⟨T0, e0, hf, l0⟩ := al_ok hf
  refine C.newE e0 dX1_voters_0 clJ2 q269 q169 q125 rfl dfJ2 l0 ?_
  refine X.dup dX1_voters_3 (cat1 _) ?_
  obtain ⟨v4, T4, h4, hf, l4, r4⟩ := cl_ok hf
  refine C.Iv (As := []) (rest := [va_rf (some T.2.1)]) dX1_voters_4 (w_J2_init h4) cX1_54 rfl rfl rfl (xcs (xvQ xvN) (Nat.le_of_ble_eq_true rfl)) (xD (Nat.le_of_ble_eq_true rfl)) l4 r4 ?_
  refine C.ast_n (L' := [(1, va_rf (some T.2.1)), (0, va_rf x0)]) dX1_voters_7 rfl (Nat.le_of_ble_eq_true rfl) (xcQ xcN) rfl ?_
  refine X.iconst (v := 0) dX1_voters_8 (by decide) ?_
  refine C.ist_n (L' := [(2, .int (0 : Int32)), (1, va_rf (some T.2.1)), (0, va_rf x0)]) dX1_voters_9 rfl (Nat.le_of_ble_eq_true rfl) (xcQ (xcQ xcN)) rfl ?_
  refine X.sub [2, 1, 0] (L' := [(0, va_rf x0), (1, va_rf (some T.2.1)), (2, .int (0 : Int32))]) rfl ?_
  exact c_X1_voters_10_ok FU _ _ _ _ _ hf
theorem cX1_234 : xCV RX1 234 mX1_voters 0 := ⟨lw_V q623 q625 qs12 q121 q626, rfl, ⟨by decide +kernel, by decide +kernel, by decide +kernel⟩, Nat.le_of_ble_eq_true rfl⟩
/-! MouldVotes counting -/
abbrev cX1_counting : ByteArray := prog_1_method_37_code
def yX1_counting : MethodName := ⟨RX1, "counting", "()I"⟩
def dkwX1_counting_9 : List UInt8 := [132, 5, 1, 167, 255, 219, 21, 4, 172]
abbrev dktX1_counting_9 : List UInt8 := dkwX1_counting_9 ++ []
def dkwX1_counting_8 : List UInt8 := [21, 4, 45, 45, 190, 4, 100, 4, 21, 5, 120, 2, 130, 126, 50, 21, 5, 46, 184, 0, 245, 54, 4]
abbrev dktX1_counting_8 : List UInt8 := dkwX1_counting_8 ++ dktX1_counting_9
def dkwX1_counting_7 : List UInt8 := [167, 255, 146, 132, 5, 1, 167, 255, 130, 3, 54, 5, 21, 5, 28, 162, 0, 37, 28, 4, 164, 0, 32]
abbrev dktX1_counting_7 : List UInt8 := dkwX1_counting_7 ++ dktX1_counting_8
def dkwX1_counting_6 : List UInt8 := [21, 7, 120, 2, 130, 126, 50, 21, 7, 46, 96, 184, 0, 245, 79, 132, 7, 1, 167, 255, 170, 132, 6, 1]
abbrev dktX1_counting_6 : List UInt8 := dkwX1_counting_6 ++ dktX1_counting_7
def dkwX1_counting_5 : List UInt8 := [182, 0, 173, 43, 21, 7, 185, 0, 167, 2, 0, 192, 0, 171, 182, 0, 173, 182, 0, 141, 45, 21, 5, 4]
abbrev dktX1_counting_5 : List UInt8 := dkwX1_counting_5 ++ dktX1_counting_6
def dkwX1_counting_4 : List UInt8 := [45, 21, 5, 50, 21, 6, 46, 42, 180, 0, 22, 43, 21, 6, 185, 0, 167, 2, 0, 192, 0, 171]
abbrev dktX1_counting_4 : List UInt8 := dkwX1_counting_4 ++ dktX1_counting_5
def dkwX1_counting_3 : List UInt8 := [54, 7, 21, 7, 28, 162, 0, 86, 21, 5, 21, 7, 184, 0, 241, 153, 0, 70, 45, 21, 5, 50, 21, 6]
abbrev dktX1_counting_3 : List UInt8 := dkwX1_counting_3 ++ dktX1_counting_4
def dkwX1_counting_2 : List UInt8 := [190, 162, 0, 125, 3, 54, 6, 21, 6, 28, 162, 0, 110, 45, 21, 5, 50, 21, 6, 18, 240, 79, 3]
abbrev dktX1_counting_2 : List UInt8 := dkwX1_counting_2 ++ dktX1_counting_3
def dkwX1_counting_1 : List UInt8 := [197, 0, 238, 2, 78, 28, 5, 162, 0, 7, 3, 167, 0, 5, 18, 240, 54, 4, 4, 54, 5, 21, 5, 45]
abbrev dktX1_counting_1 : List UInt8 := dkwX1_counting_1 ++ dktX1_counting_2
def dkwX1_counting_0 : List UInt8 := [42, 182, 0, 234, 76, 43, 185, 0, 104, 1, 0, 61, 28, 16, 9, 164, 0, 5, 2, 172, 4, 28, 120, 28]
abbrev dktX1_counting_0 : List UInt8 := dkwX1_counting_0 ++ dktX1_counting_1
theorem dksX1_counting_0 : cX1_counting.data.toList.drop 0 = dktX1_counting_0 := by decide +kernel
theorem dksX1_counting_1 : cX1_counting.data.toList.drop 24 = dktX1_counting_1 := dk_seg dksX1_counting_0 24 rfl rfl
theorem dksX1_counting_2 : cX1_counting.data.toList.drop 48 = dktX1_counting_2 := dk_seg dksX1_counting_1 24 rfl rfl
theorem dksX1_counting_3 : cX1_counting.data.toList.drop 71 = dktX1_counting_3 := dk_seg dksX1_counting_2 23 rfl rfl
theorem dksX1_counting_4 : cX1_counting.data.toList.drop 95 = dktX1_counting_4 := dk_seg dksX1_counting_3 24 rfl rfl
theorem dksX1_counting_5 : cX1_counting.data.toList.drop 117 = dktX1_counting_5 := dk_seg dksX1_counting_4 22 rfl rfl
theorem dksX1_counting_6 : cX1_counting.data.toList.drop 141 = dktX1_counting_6 := dk_seg dksX1_counting_5 24 rfl rfl
theorem dksX1_counting_7 : cX1_counting.data.toList.drop 165 = dktX1_counting_7 := dk_seg dksX1_counting_6 24 rfl rfl
theorem dksX1_counting_8 : cX1_counting.data.toList.drop 188 = dktX1_counting_8 := dk_seg dksX1_counting_7 23 rfl rfl
theorem dksX1_counting_9 : cX1_counting.data.toList.drop 211 = dktX1_counting_9 := dk_seg dksX1_counting_8 23 rfl rfl
theorem dX1_counting_0 : decode cX1_counting 0 = .ok (.aload_n 0, 1) := dk_42 (dk_at dksX1_counting_0 0 rfl rfl)
theorem dX1_counting_1 : decode cX1_counting 1 = .ok (.invokevirtual 234, 3) := dk_182 0 234 (dk_at dksX1_counting_0 1 rfl rfl)
theorem dX1_counting_4 : decode cX1_counting 4 = .ok (.astore_n 1, 1) := dk_76 (dk_at dksX1_counting_0 4 rfl rfl)
theorem dX1_counting_5 : decode cX1_counting 5 = .ok (.aload_n 1, 1) := dk_43 (dk_at dksX1_counting_0 5 rfl rfl)
theorem dX1_counting_6 : decode cX1_counting 6 = .ok (.invokeinterface 104 1, 5) := by decide +kernel
theorem dX1_counting_11 : decode cX1_counting 11 = .ok (.istore_n 2, 1) := dk_61 (dk_at dksX1_counting_0 11 rfl rfl)
theorem dX1_counting_12 : decode cX1_counting 12 = .ok (.iload_n 2, 1) := dk_28 (dk_at dksX1_counting_0 12 rfl rfl)
theorem dX1_counting_13 : decode cX1_counting 13 = .ok (.bipush 9, 2) := dk_16 9 (dk_at dksX1_counting_0 13 rfl rfl)
theorem dX1_counting_15 : decode cX1_counting 15 = .ok (.if_icmp .le 5, 3) := dk_164 0 5 (dk_at dksX1_counting_0 15 rfl rfl)
theorem dX1_counting_18 : decode cX1_counting 18 = .ok (.iconst (-1), 1) := dk_2 (dk_at dksX1_counting_0 18 rfl rfl)
theorem dX1_counting_19 : decode cX1_counting 19 = .ok (.ireturn, 1) := dk_172 (dk_at dksX1_counting_0 19 rfl rfl)
theorem dX1_counting_20 : decode cX1_counting 20 = .ok (.iconst 1, 1) := dk_4 (dk_at dksX1_counting_0 20 rfl rfl)
theorem dX1_counting_21 : decode cX1_counting 21 = .ok (.iload_n 2, 1) := dk_28 (dk_at dksX1_counting_0 21 rfl rfl)
theorem dX1_counting_22 : decode cX1_counting 22 = .ok (.ishl, 1) := dk_120 (dk_at dksX1_counting_0 22 rfl rfl)
theorem dX1_counting_23 : decode cX1_counting 23 = .ok (.iload_n 2, 1) := dk_28 (dk_at dksX1_counting_0 23 rfl rfl)
theorem dX1_counting_24 : decode cX1_counting 24 = .ok (.multianewarray 238 2, 4) := by decide +kernel
theorem dX1_counting_28 : decode cX1_counting 28 = .ok (.astore_n 3, 1) := dk_78 (dk_at dksX1_counting_1 4 rfl rfl)
theorem dX1_counting_29 : decode cX1_counting 29 = .ok (.iload_n 2, 1) := dk_28 (dk_at dksX1_counting_1 5 rfl rfl)
theorem dX1_counting_30 : decode cX1_counting 30 = .ok (.iconst 2, 1) := dk_5 (dk_at dksX1_counting_1 6 rfl rfl)
theorem dX1_counting_31 : decode cX1_counting 31 = .ok (.if_icmp .ge 7, 3) := dk_162 0 7 (dk_at dksX1_counting_1 7 rfl rfl)
theorem dX1_counting_34 : decode cX1_counting 34 = .ok (.iconst 0, 1) := dk_3 (dk_at dksX1_counting_1 10 rfl rfl)
theorem dX1_counting_35 : decode cX1_counting 35 = .ok (.goto 5, 3) := dk_167 0 5 (dk_at dksX1_counting_1 11 rfl rfl)
theorem dX1_counting_38 : decode cX1_counting 38 = .ok (.ldc 240, 2) := dk_18 240 (dk_at dksX1_counting_1 14 rfl rfl)
theorem dX1_counting_40 : decode cX1_counting 40 = .ok (.istore 4, 2) := dk_54 4 (dk_at dksX1_counting_1 16 rfl rfl)
theorem dX1_counting_42 : decode cX1_counting 42 = .ok (.iconst 1, 1) := dk_4 (dk_at dksX1_counting_1 18 rfl rfl)
theorem dX1_counting_43 : decode cX1_counting 43 = .ok (.istore 5, 2) := dk_54 5 (dk_at dksX1_counting_1 19 rfl rfl)
theorem dX1_counting_45 : decode cX1_counting 45 = .ok (.iload 5, 2) := dk_21 5 (dk_at dksX1_counting_1 21 rfl rfl)
theorem dX1_counting_47 : decode cX1_counting 47 = .ok (.aload_n 3, 1) := dk_45 (dk_at dksX1_counting_1 23 rfl rfl)
theorem dX1_counting_48 : decode cX1_counting 48 = .ok (.arraylength, 1) := dk_190 (dk_at dksX1_counting_2 0 rfl rfl)
theorem dX1_counting_49 : decode cX1_counting 49 = .ok (.if_icmp .ge 125, 3) := dk_162 0 125 (dk_at dksX1_counting_2 1 rfl rfl)
theorem dX1_counting_52 : decode cX1_counting 52 = .ok (.iconst 0, 1) := dk_3 (dk_at dksX1_counting_2 4 rfl rfl)
theorem dX1_counting_53 : decode cX1_counting 53 = .ok (.istore 6, 2) := dk_54 6 (dk_at dksX1_counting_2 5 rfl rfl)
theorem dX1_counting_55 : decode cX1_counting 55 = .ok (.iload 6, 2) := dk_21 6 (dk_at dksX1_counting_2 7 rfl rfl)
theorem dX1_counting_57 : decode cX1_counting 57 = .ok (.iload_n 2, 1) := dk_28 (dk_at dksX1_counting_2 9 rfl rfl)
theorem dX1_counting_58 : decode cX1_counting 58 = .ok (.if_icmp .ge 110, 3) := dk_162 0 110 (dk_at dksX1_counting_2 10 rfl rfl)
theorem dX1_counting_61 : decode cX1_counting 61 = .ok (.aload_n 3, 1) := dk_45 (dk_at dksX1_counting_2 13 rfl rfl)
theorem dX1_counting_62 : decode cX1_counting 62 = .ok (.iload 5, 2) := dk_21 5 (dk_at dksX1_counting_2 14 rfl rfl)
theorem dX1_counting_64 : decode cX1_counting 64 = .ok (.aaload, 1) := dk_50 (dk_at dksX1_counting_2 16 rfl rfl)
theorem dX1_counting_65 : decode cX1_counting 65 = .ok (.iload 6, 2) := dk_21 6 (dk_at dksX1_counting_2 17 rfl rfl)
theorem dX1_counting_67 : decode cX1_counting 67 = .ok (.ldc 240, 2) := dk_18 240 (dk_at dksX1_counting_2 19 rfl rfl)
theorem dX1_counting_69 : decode cX1_counting 69 = .ok (.iastore, 1) := dk_79 (dk_at dksX1_counting_2 21 rfl rfl)
theorem dX1_counting_70 : decode cX1_counting 70 = .ok (.iconst 0, 1) := dk_3 (dk_at dksX1_counting_2 22 rfl rfl)
theorem dX1_counting_71 : decode cX1_counting 71 = .ok (.istore 7, 2) := dk_54 7 (dk_at dksX1_counting_3 0 rfl rfl)
theorem dX1_counting_73 : decode cX1_counting 73 = .ok (.iload 7, 2) := dk_21 7 (dk_at dksX1_counting_3 2 rfl rfl)
theorem dX1_counting_75 : decode cX1_counting 75 = .ok (.iload_n 2, 1) := dk_28 (dk_at dksX1_counting_3 4 rfl rfl)
theorem dX1_counting_76 : decode cX1_counting 76 = .ok (.if_icmp .ge 86, 3) := dk_162 0 86 (dk_at dksX1_counting_3 5 rfl rfl)
theorem dX1_counting_79 : decode cX1_counting 79 = .ok (.iload 5, 2) := dk_21 5 (dk_at dksX1_counting_3 8 rfl rfl)
theorem dX1_counting_81 : decode cX1_counting 81 = .ok (.iload 7, 2) := dk_21 7 (dk_at dksX1_counting_3 10 rfl rfl)
theorem dX1_counting_83 : decode cX1_counting 83 = .ok (.invokestatic 241, 3) := dk_184 0 241 (dk_at dksX1_counting_3 12 rfl rfl)
theorem dX1_counting_86 : decode cX1_counting 86 = .ok (.ifCond .eq 70, 3) := dk_153 0 70 (dk_at dksX1_counting_3 15 rfl rfl)
theorem dX1_counting_89 : decode cX1_counting 89 = .ok (.aload_n 3, 1) := dk_45 (dk_at dksX1_counting_3 18 rfl rfl)
theorem dX1_counting_90 : decode cX1_counting 90 = .ok (.iload 5, 2) := dk_21 5 (dk_at dksX1_counting_3 19 rfl rfl)
theorem dX1_counting_92 : decode cX1_counting 92 = .ok (.aaload, 1) := dk_50 (dk_at dksX1_counting_3 21 rfl rfl)
theorem dX1_counting_93 : decode cX1_counting 93 = .ok (.iload 6, 2) := dk_21 6 (dk_at dksX1_counting_3 22 rfl rfl)
theorem dX1_counting_95 : decode cX1_counting 95 = .ok (.aload_n 3, 1) := dk_45 (dk_at dksX1_counting_4 0 rfl rfl)
theorem dX1_counting_96 : decode cX1_counting 96 = .ok (.iload 5, 2) := dk_21 5 (dk_at dksX1_counting_4 1 rfl rfl)
theorem dX1_counting_98 : decode cX1_counting 98 = .ok (.aaload, 1) := dk_50 (dk_at dksX1_counting_4 3 rfl rfl)
theorem dX1_counting_99 : decode cX1_counting 99 = .ok (.iload 6, 2) := dk_21 6 (dk_at dksX1_counting_4 4 rfl rfl)
theorem dX1_counting_101 : decode cX1_counting 101 = .ok (.iaload, 1) := dk_46 (dk_at dksX1_counting_4 6 rfl rfl)
theorem dX1_counting_102 : decode cX1_counting 102 = .ok (.aload_n 0, 1) := dk_42 (dk_at dksX1_counting_4 7 rfl rfl)
theorem dX1_counting_103 : decode cX1_counting 103 = .ok (.getfield 22, 3) := dk_180 0 22 (dk_at dksX1_counting_4 8 rfl rfl)
theorem dX1_counting_106 : decode cX1_counting 106 = .ok (.aload_n 1, 1) := dk_43 (dk_at dksX1_counting_4 11 rfl rfl)
theorem dX1_counting_107 : decode cX1_counting 107 = .ok (.iload 6, 2) := dk_21 6 (dk_at dksX1_counting_4 12 rfl rfl)
theorem dX1_counting_109 : decode cX1_counting 109 = .ok (.invokeinterface 167 2, 5) := by decide +kernel
theorem dX1_counting_114 : decode cX1_counting 114 = .ok (.checkcast 171, 3) := dk_192 0 171 (dk_at dksX1_counting_4 19 rfl rfl)
theorem dX1_counting_117 : decode cX1_counting 117 = .ok (.invokevirtual 173, 3) := dk_182 0 173 (dk_at dksX1_counting_5 0 rfl rfl)
theorem dX1_counting_120 : decode cX1_counting 120 = .ok (.aload_n 1, 1) := dk_43 (dk_at dksX1_counting_5 3 rfl rfl)
theorem dX1_counting_121 : decode cX1_counting 121 = .ok (.iload 7, 2) := dk_21 7 (dk_at dksX1_counting_5 4 rfl rfl)
theorem dX1_counting_123 : decode cX1_counting 123 = .ok (.invokeinterface 167 2, 5) := by decide +kernel
theorem dX1_counting_128 : decode cX1_counting 128 = .ok (.checkcast 171, 3) := dk_192 0 171 (dk_at dksX1_counting_5 11 rfl rfl)
theorem dX1_counting_131 : decode cX1_counting 131 = .ok (.invokevirtual 173, 3) := dk_182 0 173 (dk_at dksX1_counting_5 14 rfl rfl)
theorem dX1_counting_134 : decode cX1_counting 134 = .ok (.invokevirtual 141, 3) := dk_182 0 141 (dk_at dksX1_counting_5 17 rfl rfl)
theorem dX1_counting_137 : decode cX1_counting 137 = .ok (.aload_n 3, 1) := dk_45 (dk_at dksX1_counting_5 20 rfl rfl)
theorem dX1_counting_138 : decode cX1_counting 138 = .ok (.iload 5, 2) := dk_21 5 (dk_at dksX1_counting_5 21 rfl rfl)
theorem dX1_counting_140 : decode cX1_counting 140 = .ok (.iconst 1, 1) := dk_4 (dk_at dksX1_counting_5 23 rfl rfl)
theorem dX1_counting_141 : decode cX1_counting 141 = .ok (.iload 7, 2) := dk_21 7 (dk_at dksX1_counting_6 0 rfl rfl)
theorem dX1_counting_143 : decode cX1_counting 143 = .ok (.ishl, 1) := dk_120 (dk_at dksX1_counting_6 2 rfl rfl)
theorem dX1_counting_144 : decode cX1_counting 144 = .ok (.iconst (-1), 1) := dk_2 (dk_at dksX1_counting_6 3 rfl rfl)
theorem dX1_counting_145 : decode cX1_counting 145 = .ok (.ixor, 1) := dk_130 (dk_at dksX1_counting_6 4 rfl rfl)
theorem dX1_counting_146 : decode cX1_counting 146 = .ok (.iand, 1) := dk_126 (dk_at dksX1_counting_6 5 rfl rfl)
theorem dX1_counting_147 : decode cX1_counting 147 = .ok (.aaload, 1) := dk_50 (dk_at dksX1_counting_6 6 rfl rfl)
theorem dX1_counting_148 : decode cX1_counting 148 = .ok (.iload 7, 2) := dk_21 7 (dk_at dksX1_counting_6 7 rfl rfl)
theorem dX1_counting_150 : decode cX1_counting 150 = .ok (.iaload, 1) := dk_46 (dk_at dksX1_counting_6 9 rfl rfl)
theorem dX1_counting_151 : decode cX1_counting 151 = .ok (.iadd, 1) := dk_96 (dk_at dksX1_counting_6 10 rfl rfl)
theorem dX1_counting_152 : decode cX1_counting 152 = .ok (.invokestatic 245, 3) := dk_184 0 245 (dk_at dksX1_counting_6 11 rfl rfl)
theorem dX1_counting_155 : decode cX1_counting 155 = .ok (.iastore, 1) := dk_79 (dk_at dksX1_counting_6 14 rfl rfl)
theorem dX1_counting_156 : decode cX1_counting 156 = .ok (.iinc 7 1, 3) := dk_132 7 1 (dk_at dksX1_counting_6 15 rfl rfl)
theorem dX1_counting_159 : decode cX1_counting 159 = .ok (.goto (-86), 3) := dk_167 255 170 (dk_at dksX1_counting_6 18 rfl rfl)
theorem dX1_counting_162 : decode cX1_counting 162 = .ok (.iinc 6 1, 3) := dk_132 6 1 (dk_at dksX1_counting_6 21 rfl rfl)
theorem dX1_counting_165 : decode cX1_counting 165 = .ok (.goto (-110), 3) := dk_167 255 146 (dk_at dksX1_counting_7 0 rfl rfl)
theorem dX1_counting_168 : decode cX1_counting 168 = .ok (.iinc 5 1, 3) := dk_132 5 1 (dk_at dksX1_counting_7 3 rfl rfl)
theorem dX1_counting_171 : decode cX1_counting 171 = .ok (.goto (-126), 3) := dk_167 255 130 (dk_at dksX1_counting_7 6 rfl rfl)
theorem dX1_counting_174 : decode cX1_counting 174 = .ok (.iconst 0, 1) := dk_3 (dk_at dksX1_counting_7 9 rfl rfl)
theorem dX1_counting_175 : decode cX1_counting 175 = .ok (.istore 5, 2) := dk_54 5 (dk_at dksX1_counting_7 10 rfl rfl)
theorem dX1_counting_177 : decode cX1_counting 177 = .ok (.iload 5, 2) := dk_21 5 (dk_at dksX1_counting_7 12 rfl rfl)
theorem dX1_counting_179 : decode cX1_counting 179 = .ok (.iload_n 2, 1) := dk_28 (dk_at dksX1_counting_7 14 rfl rfl)
theorem dX1_counting_180 : decode cX1_counting 180 = .ok (.if_icmp .ge 37, 3) := dk_162 0 37 (dk_at dksX1_counting_7 15 rfl rfl)
theorem dX1_counting_183 : decode cX1_counting 183 = .ok (.iload_n 2, 1) := dk_28 (dk_at dksX1_counting_7 18 rfl rfl)
theorem dX1_counting_184 : decode cX1_counting 184 = .ok (.iconst 1, 1) := dk_4 (dk_at dksX1_counting_7 19 rfl rfl)
theorem dX1_counting_185 : decode cX1_counting 185 = .ok (.if_icmp .le 32, 3) := dk_164 0 32 (dk_at dksX1_counting_7 20 rfl rfl)
theorem dX1_counting_188 : decode cX1_counting 188 = .ok (.iload 4, 2) := dk_21 4 (dk_at dksX1_counting_8 0 rfl rfl)
theorem dX1_counting_190 : decode cX1_counting 190 = .ok (.aload_n 3, 1) := dk_45 (dk_at dksX1_counting_8 2 rfl rfl)
theorem dX1_counting_191 : decode cX1_counting 191 = .ok (.aload_n 3, 1) := dk_45 (dk_at dksX1_counting_8 3 rfl rfl)
theorem dX1_counting_192 : decode cX1_counting 192 = .ok (.arraylength, 1) := dk_190 (dk_at dksX1_counting_8 4 rfl rfl)
theorem dX1_counting_193 : decode cX1_counting 193 = .ok (.iconst 1, 1) := dk_4 (dk_at dksX1_counting_8 5 rfl rfl)
theorem dX1_counting_194 : decode cX1_counting 194 = .ok (.isub, 1) := dk_100 (dk_at dksX1_counting_8 6 rfl rfl)
theorem dX1_counting_195 : decode cX1_counting 195 = .ok (.iconst 1, 1) := dk_4 (dk_at dksX1_counting_8 7 rfl rfl)
theorem dX1_counting_196 : decode cX1_counting 196 = .ok (.iload 5, 2) := dk_21 5 (dk_at dksX1_counting_8 8 rfl rfl)
theorem dX1_counting_198 : decode cX1_counting 198 = .ok (.ishl, 1) := dk_120 (dk_at dksX1_counting_8 10 rfl rfl)
theorem dX1_counting_199 : decode cX1_counting 199 = .ok (.iconst (-1), 1) := dk_2 (dk_at dksX1_counting_8 11 rfl rfl)
theorem dX1_counting_200 : decode cX1_counting 200 = .ok (.ixor, 1) := dk_130 (dk_at dksX1_counting_8 12 rfl rfl)
theorem dX1_counting_201 : decode cX1_counting 201 = .ok (.iand, 1) := dk_126 (dk_at dksX1_counting_8 13 rfl rfl)
theorem dX1_counting_202 : decode cX1_counting 202 = .ok (.aaload, 1) := dk_50 (dk_at dksX1_counting_8 14 rfl rfl)
theorem dX1_counting_203 : decode cX1_counting 203 = .ok (.iload 5, 2) := dk_21 5 (dk_at dksX1_counting_8 15 rfl rfl)
theorem dX1_counting_205 : decode cX1_counting 205 = .ok (.iaload, 1) := dk_46 (dk_at dksX1_counting_8 17 rfl rfl)
theorem dX1_counting_206 : decode cX1_counting 206 = .ok (.invokestatic 245, 3) := dk_184 0 245 (dk_at dksX1_counting_8 18 rfl rfl)
theorem dX1_counting_209 : decode cX1_counting 209 = .ok (.istore 4, 2) := dk_54 4 (dk_at dksX1_counting_8 21 rfl rfl)
theorem dX1_counting_211 : decode cX1_counting 211 = .ok (.iinc 5 1, 3) := dk_132 5 1 (dk_at dksX1_counting_9 0 rfl rfl)
theorem dX1_counting_214 : decode cX1_counting 214 = .ok (.goto (-37), 3) := dk_167 255 219 (dk_at dksX1_counting_9 3 rfl rfl)
theorem dX1_counting_217 : decode cX1_counting 217 = .ok (.iload 4, 2) := dk_21 4 (dk_at dksX1_counting_9 6 rfl rfl)
theorem dX1_counting_219 : decode cX1_counting 219 = .ok (.ireturn, 1) := dk_172 (dk_at dksX1_counting_9 8 rfl rfl)
abbrev mX1_counting : xM := (yX1_counting, cX1_counting, 8, (some .int), [])
def c_X1_counting_156 (G : xG) (k45 : Option Nat → Option Nat → Int32 → Option Nat → Int32 → Int32 → xF → Option (Int32 × xF)) (k55 : Option Nat → Option Nat → Int32 → Option Nat → Int32 → Int32 → Int32 → xF → Option (Int32 × xF)) (k73 : Option Nat → Option Nat → Int32 → Option Nat → Int32 → Int32 → Int32 → Int32 → xF → Option (Int32 × xF)) (x0 : Option Nat) (x1 : Option Nat) (x2 : Int32) (x3 : Option Nat) (x4 : Int32) (x5 : Int32) (x6 : Int32) (x7 : Int32) (T : xF) : Option (Int32 × xF) :=
  k73 x0 x1 x2 x3 x4 x5 x6 (x7 + 1) T
theorem c_X1_counting_156_ok {G : xG}  {T0 : xF} {k45 : Option Nat → Option Nat → Int32 → Option Nat → Int32 → Int32 → xF → Option (Int32 × xF)} {k55 : Option Nat → Option Nat → Int32 → Option Nat → Int32 → Int32 → Int32 → xF → Option (Int32 × xF)} {k73 : Option Nat → Option Nat → Int32 → Option Nat → Int32 → Int32 → Int32 → Int32 → xF → Option (Int32 × xF)} (hk45 : ∀ (x0 : Option Nat) (x1 : Option Nat) (x2 : Int32) (x3 : Option Nat) (x4 : Int32) (x5 : Int32) (T : xF) (q : (Int32 × xF)), k45 x0 x1 x2 x3 x4 x5 T = some q → Xr G (mX1_counting, xrm (9) T0 q.2, T0, .inl (some (.int q.1)), q.2) 45 [(0, va_rf x0), (1, va_rf x1), (2, .int x2), (3, va_rf x3), (4, .int x4), (5, .int x5)] [] T) (hk55 : ∀ (x0 : Option Nat) (x1 : Option Nat) (x2 : Int32) (x3 : Option Nat) (x4 : Int32) (x5 : Int32) (x6 : Int32) (T : xF) (q : (Int32 × xF)), k55 x0 x1 x2 x3 x4 x5 x6 T = some q → Xr G (mX1_counting, xrm (9) T0 q.2, T0, .inl (some (.int q.1)), q.2) 55 [(0, va_rf x0), (1, va_rf x1), (2, .int x2), (3, va_rf x3), (4, .int x4), (5, .int x5), (6, .int x6)] [] T) (hk73 : ∀ (x0 : Option Nat) (x1 : Option Nat) (x2 : Int32) (x3 : Option Nat) (x4 : Int32) (x5 : Int32) (x6 : Int32) (x7 : Int32) (T : xF) (q : (Int32 × xF)), k73 x0 x1 x2 x3 x4 x5 x6 x7 T = some q → Xr G (mX1_counting, xrm (9) T0 q.2, T0, .inl (some (.int q.1)), q.2) 73 [(0, va_rf x0), (1, va_rf x1), (2, .int x2), (3, va_rf x3), (4, .int x4), (5, .int x5), (6, .int x6), (7, .int x7)] [] T) (x0 : Option Nat) (x1 : Option Nat) (x2 : Int32) (x3 : Option Nat) (x4 : Int32) (x5 : Int32) (x6 : Int32) (x7 : Int32) (T : xF) (q : (Int32 × xF)) (hf : c_X1_counting_156 G k45 k55 k73 x0 x1 x2 x3 x4 x5 x6 x7 T = some q) : Xr G (mX1_counting, xrm (9) T0 q.2, T0, .inl (some (.int q.1)), q.2) 156 [(0, va_rf x0), (1, va_rf x1), (2, .int x2), (3, va_rf x3), (4, .int x4), (5, .int x5), (6, .int x6), (7, .int x7)] [] T := by
  unfold c_X1_counting_156 at hf
  refine C.iinc (v := (x7 + 1)) (L' := [(7, .int (x7 + 1)), (0, va_rf x0), (1, va_rf x1), (2, .int x2), (3, va_rf x3), (4, .int x4), (5, .int x5), (6, .int x6)]) dX1_counting_156 7 rfl rfl (Nat.le_of_ble_eq_true rfl) (xcQ (xcQ (xcI (xcQ (xcI (xcI (xcI (xcI xcN)))))))) rfl ?_
  refine X.goto (tgt := 73) dX1_counting_159 (by decide) ?_
  refine X.sub [1, 2, 3, 4, 5, 6, 7, 0] (L' := [(0, va_rf x0), (1, va_rf x1), (2, .int x2), (3, va_rf x3), (4, .int x4), (5, .int x5), (6, .int x6), (7, .int (x7 + 1))]) rfl ?_
  exact hk73 _ _ _ _ _ _ _ _ _ _ hf
def c_X1_counting_73_b (G : xG) (k45 : Option Nat → Option Nat → Int32 → Option Nat → Int32 → Int32 → xF → Option (Int32 × xF)) (k55 : Option Nat → Option Nat → Int32 → Option Nat → Int32 → Int32 → Int32 → xF → Option (Int32 × xF)) (k73 : Option Nat → Option Nat → Int32 → Option Nat → Int32 → Int32 → Int32 → Int32 → xF → Option (Int32 × xF)) (x0 : Option Nat) (x1 : Option Nat) (x2 : Int32) (x3 : Option Nat) (x4 : Int32) (x5 : Int32) (x6 : Int32) (x7 : Int32) (T : xF) : Option (Int32 × xF) :=
  if x2 ≤ x7 then
    k55 x0 x1 x2 x3 x4 x5 (x6 + 1) T
  else
    (c_X1_isOf x5 x7).bind fun v83 =>
    if v83 = 0 then
      c_X1_counting_156 G k45 k55 k73 x0 x1 x2 x3 x4 x5 x6 x7 T
    else
      (ldR T x3 x5).bind fun v92 =>
      (ldR T x3 x5).bind fun v98 =>
      (ldA T v98 .int x6).bind fun v101 =>
      (oQ T x0 0 1).bind fun v103 =>
      if ¬ isO T x1 10 = true then none else
      (c_J2_get T x1 x6).bind fun v109 =>
      if ¬ cst T v109 [11] = true then none else
      if ¬ isO T v109 11 = true then none else
      (c_J14_intValue T v109).bind fun v117 =>
      if ¬ isO T x1 10 = true then none else
      (c_J2_get T x1 x7).bind fun v123 =>
      if ¬ cst T v123 [11] = true then none else
      if ¬ isO T v123 11 = true then none else
      (c_J14_intValue T v123).bind fun v131 =>
      if ¬ isO T v103 1 = true then none else
      (c_X2_steps T v103 v117 v131).bind fun v134 =>
      (ldR T x3 (x5 &&& (((1 : Int32) <<< (x7 &&& 31)) ^^^ (-1 : Int32)))).bind fun v147 =>
      (ldA T v147 .int x7).bind fun v150 =>
      (c_J7_min v101 (v134 + v150)).bind fun v152 =>
      (stA T v92 .int x6 v152).bind fun T155 =>
      c_X1_counting_156 G k45 k55 k73 x0 x1 x2 x3 x4 x5 x6 x7 T155
def c_X1_counting_73 (G : xG) (k45 : Option Nat → Option Nat → Int32 → Option Nat → Int32 → Int32 → xF → Option (Int32 × xF)) (k55 : Option Nat → Option Nat → Int32 → Option Nat → Int32 → Int32 → Int32 → xF → Option (Int32 × xF)) : Nat → Option Nat → Option Nat → Int32 → Option Nat → Int32 → Int32 → Int32 → Int32 → xF → Option (Int32 × xF)
  | 0 => fun _ _ _ _ _ _ _ _ _ => none
  | n + 1 => fun x0 x1 x2 x3 x4 x5 x6 x7 T => c_X1_counting_73_b G k45 k55 (c_X1_counting_73 G k45 k55 n) x0 x1 x2 x3 x4 x5 x6 x7 T
theorem c_X1_counting_73_bok {G : xG}  {T0 : xF} {k45 : Option Nat → Option Nat → Int32 → Option Nat → Int32 → Int32 → xF → Option (Int32 × xF)} {k55 : Option Nat → Option Nat → Int32 → Option Nat → Int32 → Int32 → Int32 → xF → Option (Int32 × xF)} {k73 : Option Nat → Option Nat → Int32 → Option Nat → Int32 → Int32 → Int32 → Int32 → xF → Option (Int32 × xF)} (hk45 : ∀ (x0 : Option Nat) (x1 : Option Nat) (x2 : Int32) (x3 : Option Nat) (x4 : Int32) (x5 : Int32) (T : xF) (q : (Int32 × xF)), k45 x0 x1 x2 x3 x4 x5 T = some q → Xr G (mX1_counting, xrm (9) T0 q.2, T0, .inl (some (.int q.1)), q.2) 45 [(0, va_rf x0), (1, va_rf x1), (2, .int x2), (3, va_rf x3), (4, .int x4), (5, .int x5)] [] T) (hk55 : ∀ (x0 : Option Nat) (x1 : Option Nat) (x2 : Int32) (x3 : Option Nat) (x4 : Int32) (x5 : Int32) (x6 : Int32) (T : xF) (q : (Int32 × xF)), k55 x0 x1 x2 x3 x4 x5 x6 T = some q → Xr G (mX1_counting, xrm (9) T0 q.2, T0, .inl (some (.int q.1)), q.2) 55 [(0, va_rf x0), (1, va_rf x1), (2, .int x2), (3, va_rf x3), (4, .int x4), (5, .int x5), (6, .int x6)] [] T) (hk73 : ∀ (x0 : Option Nat) (x1 : Option Nat) (x2 : Int32) (x3 : Option Nat) (x4 : Int32) (x5 : Int32) (x6 : Int32) (x7 : Int32) (T : xF) (q : (Int32 × xF)), k73 x0 x1 x2 x3 x4 x5 x6 x7 T = some q → Xr G (mX1_counting, xrm (9) T0 q.2, T0, .inl (some (.int q.1)), q.2) 73 [(0, va_rf x0), (1, va_rf x1), (2, .int x2), (3, va_rf x3), (4, .int x4), (5, .int x5), (6, .int x6), (7, .int x7)] [] T) (x0 : Option Nat) (x1 : Option Nat) (x2 : Int32) (x3 : Option Nat) (x4 : Int32) (x5 : Int32) (x6 : Int32) (x7 : Int32) (T : xF) (q : (Int32 × xF)) (hf : c_X1_counting_73_b G k45 k55 k73 x0 x1 x2 x3 x4 x5 x6 x7 T = some q) : Xr G (mX1_counting, xrm (9) T0 q.2, T0, .inl (some (.int q.1)), q.2) 73 [(0, va_rf x0), (1, va_rf x1), (2, .int x2), (3, va_rf x3), (4, .int x4), (5, .int x5), (6, .int x6), (7, .int x7)] [] T := by
  unfold c_X1_counting_73_b at hf
  refine X.iload dX1_counting_73 7 rfl ?_
  refine X.iload_n dX1_counting_75 rfl 2 rfl ?_
  refine X.icmp_ge (tgt := 162) dX1_counting_76 (by decide) (fun c76 => ?_) (fun c76 => ?_)
  · have hf := if_t c76 hf
    refine C.iinc (v := (x6 + 1)) (L' := [(6, .int (x6 + 1)), (0, va_rf x0), (1, va_rf x1), (2, .int x2), (3, va_rf x3), (4, .int x4), (5, .int x5), (7, .int x7)]) dX1_counting_162 6 rfl rfl (Nat.le_of_ble_eq_true rfl) (xcQ (xcQ (xcI (xcQ (xcI (xcI (xcI (xcI xcN)))))))) rfl ?_
    refine X.goto (tgt := 55) dX1_counting_165 (by decide) ?_
    refine X.sub [1, 2, 3, 4, 5, 6, 0] (L' := [(0, va_rf x0), (1, va_rf x1), (2, .int x2), (3, va_rf x3), (4, .int x4), (5, .int x5), (6, .int (x6 + 1))]) rfl ?_
    exact hk55 _ _ _ _ _ _ _ _ _ hf
  · have hf := if_f c76 hf
    refine X.iload dX1_counting_79 5 rfl ?_
    refine X.iload dX1_counting_81 7 rfl ?_
    obtain ⟨v83, h83, hf⟩ := ob hf
    refine X.keep fun l83 => C.Si (As := [.int x5, .int x7]) (rest := []) dX1_counting_83 (w_X1_isOf h83) cX1_241 rfl rfl (xcs xvN (Nat.le_of_ble_eq_true rfl)) (xD (Nat.le_of_ble_eq_true rfl)) xle.rf l83 ?_
    refine X.if_eq (tgt := 156) dX1_counting_86 (by decide) (fun c86 => ?_) (fun c86 => ?_)
    · have hf := if_t c86 hf
      refine X.sub [0, 1, 2, 3, 4, 5, 6, 7] (L' := [(0, va_rf x0), (1, va_rf x1), (2, .int x2), (3, va_rf x3), (4, .int x4), (5, .int x5), (6, .int x6), (7, .int x7)]) rfl ?_
      exact c_X1_counting_156_ok hk45 hk55 hk73 _ _ _ _ _ _ _ _ _ _ hf
    · have hf := if_f c86 hf
      refine C.aload_n dX1_counting_89 rfl 3 rfl ?_
      refine X.iload dX1_counting_90 5 rfl ?_
      obtain ⟨v92, h92, hf⟩ := ob hf
      refine C.aald dX1_counting_92 h92 ?_
      refine X.iload dX1_counting_93 6 rfl ?_
      refine C.aload_n dX1_counting_95 rfl 3 rfl ?_
      refine X.iload dX1_counting_96 5 rfl ?_
      obtain ⟨v98, h98, hf⟩ := ob hf
      refine C.aald dX1_counting_98 h98 ?_
      refine X.iload dX1_counting_99 6 rfl ?_
      obtain ⟨v101, h101, hf⟩ := ob hf
      refine C.iald dX1_counting_101 h101 ?_
      refine C.aload_n dX1_counting_102 rfl 0 rfl ?_
      obtain ⟨v103, h103, hf⟩ := ob hf
      refine C.getQ dX1_counting_103 rX1_22 h103 ?_
      refine C.aload_n dX1_counting_106 rfl 1 rfl ?_
      refine X.iload dX1_counting_107 6 rfl ?_
      obtain ⟨c109, hf⟩ := if_n hf
      obtain ⟨v109, h109, hf⟩ := ob hf
      refine X.keep fun l109 => C.Fq (As := [.int x6]) (rest := [va_rf v103, .int v101, .int x6, va_rf v92]) dX1_counting_109 (w_J2_get h109) cX1_167 (Classical.not_not.mp c109) rfl rfl (xcs (xvQ (xvI (xvI (xvQ xvN)))) (Nat.le_of_ble_eq_true rfl)) rfl rfl (xD (Nat.le_of_ble_eq_true rfl)) xle.rf l109 ?_
      obtain ⟨c114, hf⟩ := if_n hf
      refine C.cast dX1_counting_114 q659 ca_Integer (Classical.not_not.mp c114) ?_
      obtain ⟨c117, hf⟩ := if_n hf
      obtain ⟨v117, h117, hf⟩ := ob hf
      refine X.keep fun l117 => C.Vi (As := []) (rest := [va_rf v103, .int v101, .int x6, va_rf v92]) dX1_counting_117 (w_J14_intValue h117) cX1_173 (Classical.not_not.mp c117) rfl rfl (xcs (xvQ (xvI (xvI (xvQ xvN)))) (Nat.le_of_ble_eq_true rfl)) rfl rfl (xD (Nat.le_of_ble_eq_true rfl)) xle.rf l117 ?_
      refine C.aload_n dX1_counting_120 rfl 1 rfl ?_
      refine X.iload dX1_counting_121 7 rfl ?_
      obtain ⟨c123, hf⟩ := if_n hf
      obtain ⟨v123, h123, hf⟩ := ob hf
      refine X.keep fun l123 => C.Fq (As := [.int x7]) (rest := [.int v117, va_rf v103, .int v101, .int x6, va_rf v92]) dX1_counting_123 (w_J2_get h123) cX1_167 (Classical.not_not.mp c123) rfl rfl (xcs (xvI (xvQ (xvI (xvI (xvQ xvN))))) (Nat.le_of_ble_eq_true rfl)) rfl rfl (xD (Nat.le_of_ble_eq_true rfl)) xle.rf l123 ?_
      obtain ⟨c128, hf⟩ := if_n hf
      refine C.cast dX1_counting_128 q659 ca_Integer (Classical.not_not.mp c128) ?_
      obtain ⟨c131, hf⟩ := if_n hf
      obtain ⟨v131, h131, hf⟩ := ob hf
      refine X.keep fun l131 => C.Vi (As := []) (rest := [.int v117, va_rf v103, .int v101, .int x6, va_rf v92]) dX1_counting_131 (w_J14_intValue h131) cX1_173 (Classical.not_not.mp c131) rfl rfl (xcs (xvI (xvQ (xvI (xvI (xvQ xvN))))) (Nat.le_of_ble_eq_true rfl)) rfl rfl (xD (Nat.le_of_ble_eq_true rfl)) xle.rf l131 ?_
      obtain ⟨c134, hf⟩ := if_n hf
      obtain ⟨v134, h134, hf⟩ := ob hf
      refine X.keep fun l134 => C.Vi (As := [.int v117, .int v131]) (rest := [.int v101, .int x6, va_rf v92]) dX1_counting_134 (w_X2_steps h134) cX1_141 (Classical.not_not.mp c134) rfl rfl (xcs (xvI (xvI (xvQ xvN))) (Nat.le_of_ble_eq_true rfl)) rfl rfl (xD (Nat.le_of_ble_eq_true rfl)) xle.rf l134 ?_
      refine C.aload_n dX1_counting_137 rfl 3 rfl ?_
      refine X.iload dX1_counting_138 5 rfl ?_
      refine X.iconst (v := 1) dX1_counting_140 (by decide) ?_
      refine X.iload dX1_counting_141 7 rfl ?_
      refine X.ishl dX1_counting_143 ?_
      refine X.iconst (v := -1) dX1_counting_144 (by decide) ?_
      refine X.ixor dX1_counting_145 ?_
      refine X.iand dX1_counting_146 ?_
      obtain ⟨v147, h147, hf⟩ := ob hf
      refine C.aald dX1_counting_147 h147 ?_
      refine X.iload dX1_counting_148 7 rfl ?_
      obtain ⟨v150, h150, hf⟩ := ob hf
      refine C.iald dX1_counting_150 h150 ?_
      refine X.iadd dX1_counting_151 ?_
      obtain ⟨v152, h152, hf⟩ := ob hf
      refine X.keep fun l152 => C.Si (As := [.int v101, .int (v134 + v150)]) (rest := [.int x6, va_rf v92]) dX1_counting_152 (w_J7_min h152) cX1_245 rfl rfl (xcs (xvI (xvQ xvN)) (Nat.le_of_ble_eq_true rfl)) (xD (Nat.le_of_ble_eq_true rfl)) xle.rf l152 ?_
      obtain ⟨T155, h155, hf⟩ := ob hf
      refine C.iast dX1_counting_155 h155 ?_
      refine X.sub [0, 1, 2, 3, 4, 5, 6, 7] (L' := [(0, va_rf x0), (1, va_rf x1), (2, .int x2), (3, va_rf x3), (4, .int x4), (5, .int x5), (6, .int x6), (7, .int x7)]) rfl ?_
      exact c_X1_counting_156_ok hk45 hk55 hk73 _ _ _ _ _ _ _ _ _ _ hf
theorem c_X1_counting_73_ok {G : xG}  {T0 : xF} {k45 : Option Nat → Option Nat → Int32 → Option Nat → Int32 → Int32 → xF → Option (Int32 × xF)} {k55 : Option Nat → Option Nat → Int32 → Option Nat → Int32 → Int32 → Int32 → xF → Option (Int32 × xF)} (hk45 : ∀ (x0 : Option Nat) (x1 : Option Nat) (x2 : Int32) (x3 : Option Nat) (x4 : Int32) (x5 : Int32) (T : xF) (q : (Int32 × xF)), k45 x0 x1 x2 x3 x4 x5 T = some q → Xr G (mX1_counting, xrm (9) T0 q.2, T0, .inl (some (.int q.1)), q.2) 45 [(0, va_rf x0), (1, va_rf x1), (2, .int x2), (3, va_rf x3), (4, .int x4), (5, .int x5)] [] T) (hk55 : ∀ (x0 : Option Nat) (x1 : Option Nat) (x2 : Int32) (x3 : Option Nat) (x4 : Int32) (x5 : Int32) (x6 : Int32) (T : xF) (q : (Int32 × xF)), k55 x0 x1 x2 x3 x4 x5 x6 T = some q → Xr G (mX1_counting, xrm (9) T0 q.2, T0, .inl (some (.int q.1)), q.2) 55 [(0, va_rf x0), (1, va_rf x1), (2, .int x2), (3, va_rf x3), (4, .int x4), (5, .int x5), (6, .int x6)] [] T) : ∀ (n : Nat) (x0 : Option Nat) (x1 : Option Nat) (x2 : Int32) (x3 : Option Nat) (x4 : Int32) (x5 : Int32) (x6 : Int32) (x7 : Int32) (T : xF) (q : (Int32 × xF)), c_X1_counting_73 G k45 k55 n x0 x1 x2 x3 x4 x5 x6 x7 T = some q → Xr G (mX1_counting, xrm (9) T0 q.2, T0, .inl (some (.int q.1)), q.2) 73 [(0, va_rf x0), (1, va_rf x1), (2, .int x2), (3, va_rf x3), (4, .int x4), (5, .int x5), (6, .int x6), (7, .int x7)] [] T
  | 0, _, _, _, _, _, _, _, _, _, _, hf => by cases hf
  | n + 1, x0, x1, x2, x3, x4, x5, x6, x7, T, q, hf => c_X1_counting_73_bok hk45 hk55 (c_X1_counting_73_ok hk45 hk55 n) x0 x1 x2 x3 x4 x5 x6 x7 T q hf
def c_X1_counting_55_b (G : xG) (k45 : Option Nat → Option Nat → Int32 → Option Nat → Int32 → Int32 → xF → Option (Int32 × xF)) (k55 : Option Nat → Option Nat → Int32 → Option Nat → Int32 → Int32 → Int32 → xF → Option (Int32 × xF)) (x0 : Option Nat) (x1 : Option Nat) (x2 : Int32) (x3 : Option Nat) (x4 : Int32) (x5 : Int32) (x6 : Int32) (T : xF) : Option (Int32 × xF) :=
  if x2 ≤ x6 then
    k45 x0 x1 x2 x3 x4 (x5 + 1) T
  else
    (ldR T x3 x5).bind fun v64 =>
    (stA T v64 .int x6 (100000 : Int32)).bind fun T69 =>
    c_X1_counting_73 G k45 k55 FU x0 x1 x2 x3 x4 x5 x6 (0 : Int32) T69
def c_X1_counting_55 (G : xG) (k45 : Option Nat → Option Nat → Int32 → Option Nat → Int32 → Int32 → xF → Option (Int32 × xF)) : Nat → Option Nat → Option Nat → Int32 → Option Nat → Int32 → Int32 → Int32 → xF → Option (Int32 × xF)
  | 0 => fun _ _ _ _ _ _ _ _ => none
  | n + 1 => fun x0 x1 x2 x3 x4 x5 x6 T => c_X1_counting_55_b G k45 (c_X1_counting_55 G k45 n) x0 x1 x2 x3 x4 x5 x6 T
theorem c_X1_counting_55_bok {G : xG}  {T0 : xF} {k45 : Option Nat → Option Nat → Int32 → Option Nat → Int32 → Int32 → xF → Option (Int32 × xF)} {k55 : Option Nat → Option Nat → Int32 → Option Nat → Int32 → Int32 → Int32 → xF → Option (Int32 × xF)} (hk45 : ∀ (x0 : Option Nat) (x1 : Option Nat) (x2 : Int32) (x3 : Option Nat) (x4 : Int32) (x5 : Int32) (T : xF) (q : (Int32 × xF)), k45 x0 x1 x2 x3 x4 x5 T = some q → Xr G (mX1_counting, xrm (9) T0 q.2, T0, .inl (some (.int q.1)), q.2) 45 [(0, va_rf x0), (1, va_rf x1), (2, .int x2), (3, va_rf x3), (4, .int x4), (5, .int x5)] [] T) (hk55 : ∀ (x0 : Option Nat) (x1 : Option Nat) (x2 : Int32) (x3 : Option Nat) (x4 : Int32) (x5 : Int32) (x6 : Int32) (T : xF) (q : (Int32 × xF)), k55 x0 x1 x2 x3 x4 x5 x6 T = some q → Xr G (mX1_counting, xrm (9) T0 q.2, T0, .inl (some (.int q.1)), q.2) 55 [(0, va_rf x0), (1, va_rf x1), (2, .int x2), (3, va_rf x3), (4, .int x4), (5, .int x5), (6, .int x6)] [] T) (x0 : Option Nat) (x1 : Option Nat) (x2 : Int32) (x3 : Option Nat) (x4 : Int32) (x5 : Int32) (x6 : Int32) (T : xF) (q : (Int32 × xF)) (hf : c_X1_counting_55_b G k45 k55 x0 x1 x2 x3 x4 x5 x6 T = some q) : Xr G (mX1_counting, xrm (9) T0 q.2, T0, .inl (some (.int q.1)), q.2) 55 [(0, va_rf x0), (1, va_rf x1), (2, .int x2), (3, va_rf x3), (4, .int x4), (5, .int x5), (6, .int x6)] [] T := by
  unfold c_X1_counting_55_b at hf
  refine X.iload dX1_counting_55 6 rfl ?_
  refine X.iload_n dX1_counting_57 rfl 2 rfl ?_
  refine X.icmp_ge (tgt := 168) dX1_counting_58 (by decide) (fun c58 => ?_) (fun c58 => ?_)
  · have hf := if_t c58 hf
    refine C.iinc (v := (x5 + 1)) (L' := [(5, .int (x5 + 1)), (0, va_rf x0), (1, va_rf x1), (2, .int x2), (3, va_rf x3), (4, .int x4), (6, .int x6)]) dX1_counting_168 5 rfl rfl (Nat.le_of_ble_eq_true rfl) (xcQ (xcQ (xcI (xcQ (xcI (xcI (xcI xcN))))))) rfl ?_
    refine X.goto (tgt := 45) dX1_counting_171 (by decide) ?_
    refine X.sub [1, 2, 3, 4, 5, 0] (L' := [(0, va_rf x0), (1, va_rf x1), (2, .int x2), (3, va_rf x3), (4, .int x4), (5, .int (x5 + 1))]) rfl ?_
    exact hk45 _ _ _ _ _ _ _ _ hf
  · have hf := if_f c58 hf
    refine C.aload_n dX1_counting_61 rfl 3 rfl ?_
    refine X.iload dX1_counting_62 5 rfl ?_
    obtain ⟨v64, h64, hf⟩ := ob hf
    refine C.aald dX1_counting_64 h64 ?_
    refine X.iload dX1_counting_65 6 rfl ?_
    refine X.ldcI (v := 100000) dX1_counting_67 q653 ?_
    obtain ⟨T69, h69, hf⟩ := ob hf
    refine C.iast dX1_counting_69 h69 ?_
    refine X.iconst (v := 0) dX1_counting_70 (by decide) ?_
    refine C.ist (L' := [(7, .int (0 : Int32)), (0, va_rf x0), (1, va_rf x1), (2, .int x2), (3, va_rf x3), (4, .int x4), (5, .int x5), (6, .int x6)]) dX1_counting_71 (Nat.le_of_ble_eq_true rfl) (xcQ (xcQ (xcI (xcQ (xcI (xcI (xcI xcN))))))) rfl ?_
    refine X.sub [1, 2, 3, 4, 5, 6, 7, 0] (L' := [(0, va_rf x0), (1, va_rf x1), (2, .int x2), (3, va_rf x3), (4, .int x4), (5, .int x5), (6, .int x6), (7, .int (0 : Int32))]) rfl ?_
    exact c_X1_counting_73_ok hk45 hk55 FU _ _ _ _ _ _ _ _ _ _ hf
theorem c_X1_counting_55_ok {G : xG}  {T0 : xF} {k45 : Option Nat → Option Nat → Int32 → Option Nat → Int32 → Int32 → xF → Option (Int32 × xF)} (hk45 : ∀ (x0 : Option Nat) (x1 : Option Nat) (x2 : Int32) (x3 : Option Nat) (x4 : Int32) (x5 : Int32) (T : xF) (q : (Int32 × xF)), k45 x0 x1 x2 x3 x4 x5 T = some q → Xr G (mX1_counting, xrm (9) T0 q.2, T0, .inl (some (.int q.1)), q.2) 45 [(0, va_rf x0), (1, va_rf x1), (2, .int x2), (3, va_rf x3), (4, .int x4), (5, .int x5)] [] T) : ∀ (n : Nat) (x0 : Option Nat) (x1 : Option Nat) (x2 : Int32) (x3 : Option Nat) (x4 : Int32) (x5 : Int32) (x6 : Int32) (T : xF) (q : (Int32 × xF)), c_X1_counting_55 G k45 n x0 x1 x2 x3 x4 x5 x6 T = some q → Xr G (mX1_counting, xrm (9) T0 q.2, T0, .inl (some (.int q.1)), q.2) 55 [(0, va_rf x0), (1, va_rf x1), (2, .int x2), (3, va_rf x3), (4, .int x4), (5, .int x5), (6, .int x6)] [] T
  | 0, _, _, _, _, _, _, _, _, _, hf => by cases hf
  | n + 1, x0, x1, x2, x3, x4, x5, x6, T, q, hf => c_X1_counting_55_bok hk45 (c_X1_counting_55_ok hk45 n) x0 x1 x2 x3 x4 x5 x6 T q hf
def c_X1_counting_177_b (G : xG) (k177 : Int32 → Option Nat → Int32 → Int32 → xF → Option (Int32 × xF)) (x2 : Int32) (x3 : Option Nat) (x4 : Int32) (x5 : Int32) (T : xF) : Option (Int32 × xF) :=
  if x2 ≤ x5 then
    some (x4, T)
  else
    if x2 ≤ (1 : Int32) then
      some (x4, T)
    else
      (len T x3).bind fun v192 =>
      (ldR T x3 ((v192 - (1 : Int32)) &&& (((1 : Int32) <<< (x5 &&& 31)) ^^^ (-1 : Int32)))).bind fun v202 =>
      (ldA T v202 .int x5).bind fun v205 =>
      (c_J7_min x4 v205).bind fun v206 =>
      k177 x2 x3 v206 (x5 + 1) T
def c_X1_counting_177 (G : xG) : Nat → Int32 → Option Nat → Int32 → Int32 → xF → Option (Int32 × xF)
  | 0 => fun _ _ _ _ _ => none
  | n + 1 => fun x2 x3 x4 x5 T => c_X1_counting_177_b G (c_X1_counting_177 G n) x2 x3 x4 x5 T
theorem c_X1_counting_177_bok {G : xG}  {T0 : xF}  {k177 : Int32 → Option Nat → Int32 → Int32 → xF → Option (Int32 × xF)}  (hk177 : ∀ (x2 : Int32) (x3 : Option Nat) (x4 : Int32) (x5 : Int32) (T : xF) (q : (Int32 × xF)), k177 x2 x3 x4 x5 T = some q → Xr G (mX1_counting, xrm (9) T0 q.2, T0, .inl (some (.int q.1)), q.2) 177 [(2, .int x2), (3, va_rf x3), (4, .int x4), (5, .int x5)] [] T) (x2 : Int32) (x3 : Option Nat) (x4 : Int32) (x5 : Int32) (T : xF) (q : (Int32 × xF)) (hf : c_X1_counting_177_b G k177 x2 x3 x4 x5 T = some q) : Xr G (mX1_counting, xrm (9) T0 q.2, T0, .inl (some (.int q.1)), q.2) 177 [(2, .int x2), (3, va_rf x3), (4, .int x4), (5, .int x5)] [] T := by
  unfold c_X1_counting_177_b at hf
  refine X.iload dX1_counting_177 3 rfl ?_
  refine X.iload_n dX1_counting_179 rfl 0 rfl ?_
  refine X.icmp_ge (tgt := 217) dX1_counting_180 (by decide) (fun c180 => ?_) (fun c180 => ?_)
  · have hf := if_t c180 hf
    refine X.iload dX1_counting_217 2 rfl ?_
    obtain rfl := Option.some.inj hf
    exact X.iret dX1_counting_219 rfl rfl rfl
  · have hf := if_f c180 hf
    refine X.iload_n dX1_counting_183 rfl 0 rfl ?_
    refine X.iconst (v := 1) dX1_counting_184 (by decide) ?_
    refine X.icmp_le (tgt := 217) dX1_counting_185 (by decide) (fun c185 => ?_) (fun c185 => ?_)
    · have hf := if_t c185 hf
      refine X.iload dX1_counting_217 2 rfl ?_
      obtain rfl := Option.some.inj hf
      exact X.iret dX1_counting_219 rfl rfl rfl
    · have hf := if_f c185 hf
      refine X.iload dX1_counting_188 2 rfl ?_
      refine C.aload_n dX1_counting_190 rfl 1 rfl ?_
      refine C.aload_n dX1_counting_191 rfl 1 rfl ?_
      obtain ⟨v192, h192, hf⟩ := ob hf
      refine C.alen dX1_counting_192 h192 ?_
      refine X.iconst (v := 1) dX1_counting_193 (by decide) ?_
      refine X.isub dX1_counting_194 ?_
      refine X.iconst (v := 1) dX1_counting_195 (by decide) ?_
      refine X.iload dX1_counting_196 3 rfl ?_
      refine X.ishl dX1_counting_198 ?_
      refine X.iconst (v := -1) dX1_counting_199 (by decide) ?_
      refine X.ixor dX1_counting_200 ?_
      refine X.iand dX1_counting_201 ?_
      obtain ⟨v202, h202, hf⟩ := ob hf
      refine C.aald dX1_counting_202 h202 ?_
      refine X.iload dX1_counting_203 3 rfl ?_
      obtain ⟨v205, h205, hf⟩ := ob hf
      refine C.iald dX1_counting_205 h205 ?_
      obtain ⟨v206, h206, hf⟩ := ob hf
      refine X.keep fun l206 => C.Si (As := [.int x4, .int v205]) (rest := []) dX1_counting_206 (w_J7_min h206) cX1_245 rfl rfl (xcs xvN (Nat.le_of_ble_eq_true rfl)) (xD (Nat.le_of_ble_eq_true rfl)) xle.rf l206 ?_
      refine C.ist (L' := [(4, .int v206), (2, .int x2), (3, va_rf x3), (5, .int x5)]) dX1_counting_209 (Nat.le_of_ble_eq_true rfl) (xcI (xcQ (xcI (xcI xcN)))) rfl ?_
      refine C.iinc (v := (x5 + 1)) (L' := [(5, .int (x5 + 1)), (4, .int v206), (2, .int x2), (3, va_rf x3)]) dX1_counting_211 3 rfl rfl (Nat.le_of_ble_eq_true rfl) (xcI (xcI (xcQ (xcI xcN)))) rfl ?_
      refine X.goto (tgt := 177) dX1_counting_214 (by decide) ?_
      refine X.sub [2, 3, 1, 0] (L' := [(2, .int x2), (3, va_rf x3), (4, .int v206), (5, .int (x5 + 1))]) rfl ?_
      exact hk177 _ _ _ _ _ _ hf
theorem c_X1_counting_177_ok {G : xG}  {T0 : xF}   : ∀ (n : Nat) (x2 : Int32) (x3 : Option Nat) (x4 : Int32) (x5 : Int32) (T : xF) (q : (Int32 × xF)), c_X1_counting_177 G n x2 x3 x4 x5 T = some q → Xr G (mX1_counting, xrm (9) T0 q.2, T0, .inl (some (.int q.1)), q.2) 177 [(2, .int x2), (3, va_rf x3), (4, .int x4), (5, .int x5)] [] T
  | 0, _, _, _, _, _, _, hf => by cases hf
  | n + 1, x2, x3, x4, x5, T, q, hf => c_X1_counting_177_bok (c_X1_counting_177_ok n) x2 x3 x4 x5 T q hf
def c_X1_counting_45_b (G : xG) (k45 : Option Nat → Option Nat → Int32 → Option Nat → Int32 → Int32 → xF → Option (Int32 × xF)) (x0 : Option Nat) (x1 : Option Nat) (x2 : Int32) (x3 : Option Nat) (x4 : Int32) (x5 : Int32) (T : xF) : Option (Int32 × xF) :=
  (len T x3).bind fun v48 =>
  if v48 ≤ x5 then
    c_X1_counting_177 G FU x2 x3 x4 (0 : Int32) T
  else
    c_X1_counting_55 G k45 FU x0 x1 x2 x3 x4 x5 (0 : Int32) T
def c_X1_counting_45 (G : xG) : Nat → Option Nat → Option Nat → Int32 → Option Nat → Int32 → Int32 → xF → Option (Int32 × xF)
  | 0 => fun _ _ _ _ _ _ _ => none
  | n + 1 => fun x0 x1 x2 x3 x4 x5 T => c_X1_counting_45_b G (c_X1_counting_45 G n) x0 x1 x2 x3 x4 x5 T
theorem c_X1_counting_45_bok {G : xG}  {T0 : xF}  {k45 : Option Nat → Option Nat → Int32 → Option Nat → Int32 → Int32 → xF → Option (Int32 × xF)}  (hk45 : ∀ (x0 : Option Nat) (x1 : Option Nat) (x2 : Int32) (x3 : Option Nat) (x4 : Int32) (x5 : Int32) (T : xF) (q : (Int32 × xF)), k45 x0 x1 x2 x3 x4 x5 T = some q → Xr G (mX1_counting, xrm (9) T0 q.2, T0, .inl (some (.int q.1)), q.2) 45 [(0, va_rf x0), (1, va_rf x1), (2, .int x2), (3, va_rf x3), (4, .int x4), (5, .int x5)] [] T) (x0 : Option Nat) (x1 : Option Nat) (x2 : Int32) (x3 : Option Nat) (x4 : Int32) (x5 : Int32) (T : xF) (q : (Int32 × xF)) (hf : c_X1_counting_45_b G k45 x0 x1 x2 x3 x4 x5 T = some q) : Xr G (mX1_counting, xrm (9) T0 q.2, T0, .inl (some (.int q.1)), q.2) 45 [(0, va_rf x0), (1, va_rf x1), (2, .int x2), (3, va_rf x3), (4, .int x4), (5, .int x5)] [] T := by
  unfold c_X1_counting_45_b at hf
  refine X.iload dX1_counting_45 5 rfl ?_
  refine C.aload_n dX1_counting_47 rfl 3 rfl ?_
  obtain ⟨v48, h48, hf⟩ := ob hf
  refine C.alen dX1_counting_48 h48 ?_
  refine X.icmp_ge (tgt := 174) dX1_counting_49 (by decide) (fun c49 => ?_) (fun c49 => ?_)
  · have hf := if_t c49 hf
    refine X.iconst (v := 0) dX1_counting_174 (by decide) ?_
    refine C.ist (L' := [(5, .int (0 : Int32)), (0, va_rf x0), (1, va_rf x1), (2, .int x2), (3, va_rf x3), (4, .int x4)]) dX1_counting_175 (Nat.le_of_ble_eq_true rfl) (xcQ (xcQ (xcI (xcQ (xcI (xcI xcN)))))) rfl ?_
    refine X.sub [3, 4, 5, 0] (L' := [(2, .int x2), (3, va_rf x3), (4, .int x4), (5, .int (0 : Int32))]) rfl ?_
    exact c_X1_counting_177_ok FU _ _ _ _ _ _ hf
  · have hf := if_f c49 hf
    refine X.iconst (v := 0) dX1_counting_52 (by decide) ?_
    refine C.ist (L' := [(6, .int (0 : Int32)), (0, va_rf x0), (1, va_rf x1), (2, .int x2), (3, va_rf x3), (4, .int x4), (5, .int x5)]) dX1_counting_53 (Nat.le_of_ble_eq_true rfl) (xcQ (xcQ (xcI (xcQ (xcI (xcI xcN)))))) rfl ?_
    refine X.sub [1, 2, 3, 4, 5, 6, 0] (L' := [(0, va_rf x0), (1, va_rf x1), (2, .int x2), (3, va_rf x3), (4, .int x4), (5, .int x5), (6, .int (0 : Int32))]) rfl ?_
    exact c_X1_counting_55_ok hk45 FU _ _ _ _ _ _ _ _ _ hf
theorem c_X1_counting_45_ok {G : xG}  {T0 : xF}   : ∀ (n : Nat) (x0 : Option Nat) (x1 : Option Nat) (x2 : Int32) (x3 : Option Nat) (x4 : Int32) (x5 : Int32) (T : xF) (q : (Int32 × xF)), c_X1_counting_45 G n x0 x1 x2 x3 x4 x5 T = some q → Xr G (mX1_counting, xrm (9) T0 q.2, T0, .inl (some (.int q.1)), q.2) 45 [(0, va_rf x0), (1, va_rf x1), (2, .int x2), (3, va_rf x3), (4, .int x4), (5, .int x5)] [] T
  | 0, _, _, _, _, _, _, _, _, hf => by cases hf
  | n + 1, x0, x1, x2, x3, x4, x5, T, q, hf => c_X1_counting_45_bok (c_X1_counting_45_ok n) x0 x1 x2 x3 x4 x5 T q hf
def c_X1_counting_40 (G : xG) (x0 : Option Nat) (x1 : Option Nat) (x2 : Int32) (x3 : Option Nat) (y0 : Int32) (T : xF) : Option (Int32 × xF) :=
  c_X1_counting_45 G FU x0 x1 x2 x3 y0 (1 : Int32) T
theorem c_X1_counting_40_ok {G : xG}  {T0 : xF}   (x0 : Option Nat) (x1 : Option Nat) (x2 : Int32) (x3 : Option Nat) (y0 : Int32) (T : xF) (q : (Int32 × xF)) (hf : c_X1_counting_40 G x0 x1 x2 x3 y0 T = some q) : Xr G (mX1_counting, xrm (9) T0 q.2, T0, .inl (some (.int q.1)), q.2) 40 [(0, va_rf x0), (1, va_rf x1), (2, .int x2), (3, va_rf x3)] [.int y0] T := by
  unfold c_X1_counting_40 at hf
  refine C.ist (L' := [(4, .int y0), (0, va_rf x0), (1, va_rf x1), (2, .int x2), (3, va_rf x3)]) dX1_counting_40 (Nat.le_of_ble_eq_true rfl) (xcQ (xcQ (xcI (xcQ xcN)))) rfl ?_
  refine X.iconst (v := 1) dX1_counting_42 (by decide) ?_
  refine C.ist (L' := [(5, .int (1 : Int32)), (4, .int y0), (0, va_rf x0), (1, va_rf x1), (2, .int x2), (3, va_rf x3)]) dX1_counting_43 (Nat.le_of_ble_eq_true rfl) (xcI (xcQ (xcQ (xcI (xcQ xcN))))) rfl ?_
  refine X.sub [2, 3, 4, 5, 1, 0] (L' := [(0, va_rf x0), (1, va_rf x1), (2, .int x2), (3, va_rf x3), (4, .int y0), (5, .int (1 : Int32))]) rfl ?_
  exact c_X1_counting_45_ok FU _ _ _ _ _ _ _ _ hf
def c_X1_counting (G : xG) (x0 : Option Nat) (T : xF) : Option (Int32 × xF) :=
  if ¬ isO T x0 0 = true then none else
  cl (c_X1_voters G x0 T) T fun v1 T1 =>
  if ¬ isO T1 v1 10 = true then none else
  (c_J2_size T1 v1).bind fun v6 =>
  if v6 ≤ (9 : Int32) then
    if ((1 : Int32) <<< (v6 &&& 31)) < 0 ∨ 100000000 ≤ ((1 : Int32) <<< (v6 &&& 31)).toNatClampNeg then none else
    if v6 < 0 ∨ 100000000 ≤ v6.toNatClampNeg then none else
    al (nII T1 ((1 : Int32) <<< (v6 &&& 31)).toNatClampNeg v6.toNatClampNeg) fun T24 =>
    if (2 : Int32) ≤ v6 then
      c_X1_counting_40 G x0 v1 v6 (some T1.2.1) (100000 : Int32) T24
    else
      c_X1_counting_40 G x0 v1 v6 (some T1.2.1) (0 : Int32) T24
  else
    some ((-1 : Int32), T1)
theorem w_X1_counting {G : xG}  {T : xF} {x0 : Option Nat} {q : (Int32 × xF)} (hf : c_X1_counting G x0 T = some q) : Ct G mX1_counting (9) T [va_rf x0] (.inl (some (.int q.1))) q.2 := by
  refine Ct.ofc (plainFor_of_name (by decide +kernel)) rfl (xvQ xvN) (Nat.le_of_ble_eq_true rfl) (show Xr G _ 0 [(0, va_rf x0)] [] _ from ?_)
  unfold c_X1_counting at hf
  refine C.aload_n dX1_counting_0 rfl 0 rfl ?_
  obtain ⟨c1, hf⟩ := if_n hf
  obtain ⟨v1, T1, h1, hf, l1, r1⟩ := cl_ok hf
  refine C.Vq (As := []) (rest := []) dX1_counting_1 (w_X1_voters h1) cX1_234 (Classical.not_not.mp c1) rfl rfl (xcs xvN (Nat.le_of_ble_eq_true rfl)) rfl rfl (xD (Nat.le_of_ble_eq_true rfl)) l1 r1 ?_
  refine C.ast_n (L' := [(1, va_rf v1), (0, va_rf x0)]) dX1_counting_4 rfl (Nat.le_of_ble_eq_true rfl) (xcQ xcN) rfl ?_
  refine C.aload_n dX1_counting_5 rfl 0 rfl ?_
  obtain ⟨c6, hf⟩ := if_n hf
  obtain ⟨v6, h6, hf⟩ := ob hf
  refine X.keep fun l6 => C.Fi (As := []) (rest := []) dX1_counting_6 (w_J2_size h6) cX1_104 (Classical.not_not.mp c6) rfl rfl (xcs xvN (Nat.le_of_ble_eq_true rfl)) rfl rfl (xD (Nat.le_of_ble_eq_true rfl)) xle.rf l6 ?_
  refine C.ist_n (L' := [(2, .int v6), (1, va_rf v1), (0, va_rf x0)]) dX1_counting_11 rfl (Nat.le_of_ble_eq_true rfl) (xcQ (xcQ xcN)) rfl ?_
  refine X.iload_n dX1_counting_12 rfl 0 rfl ?_
  refine X.bipush (v := 9) dX1_counting_13 (by decide) ?_
  refine X.icmp_le (tgt := 20) dX1_counting_15 (by decide) (fun c15 => ?_) (fun c15 => ?_)
  · have hf := if_t c15 hf
    refine X.iconst (v := 1) dX1_counting_20 (by decide) ?_
    refine X.iload_n dX1_counting_21 rfl 0 rfl ?_
    refine X.ishl dX1_counting_22 ?_
    refine X.iload_n dX1_counting_23 rfl 0 rfl ?_
    obtain ⟨c24, hf⟩ := if_n hf
    obtain ⟨b24, hf⟩ := if_n hf
    obtain ⟨T24, e24, hf, l24⟩ := al_ok hf
    refine C.newIIE e24 dX1_counting_24 q651 q652 q194 c24 b24 l24 ?_
    refine C.ast_n (L' := [(3, va_rf (some T1.2.1)), (2, .int v6), (1, va_rf v1), (0, va_rf x0)]) dX1_counting_28 rfl (Nat.le_of_ble_eq_true rfl) (xcI (xcQ (xcQ xcN))) rfl ?_
    refine X.iload_n dX1_counting_29 rfl 1 rfl ?_
    refine X.iconst (v := 2) dX1_counting_30 (by decide) ?_
    refine X.icmp_ge (tgt := 38) dX1_counting_31 (by decide) (fun c31 => ?_) (fun c31 => ?_)
    · have hf := if_t c31 hf
      refine X.ldcI (v := 100000) dX1_counting_38 q653 ?_
      refine X.sub [3, 2, 1, 0] (L' := [(0, va_rf x0), (1, va_rf v1), (2, .int v6), (3, va_rf (some T1.2.1))]) rfl ?_
      exact c_X1_counting_40_ok _ _ _ _ _ _ _ hf
    · have hf := if_f c31 hf
      refine X.iconst (v := 0) dX1_counting_34 (by decide) ?_
      refine X.goto (tgt := 40) dX1_counting_35 (by decide) ?_
      refine X.sub [3, 2, 1, 0] (L' := [(0, va_rf x0), (1, va_rf v1), (2, .int v6), (3, va_rf (some T1.2.1))]) rfl ?_
      exact c_X1_counting_40_ok _ _ _ _ _ _ _ hf
  · have hf := if_f c15 hf
    refine X.iconst (v := -1) dX1_counting_18 (by decide) ?_
    obtain rfl := Option.some.inj hf
    exact X.iret dX1_counting_19 rfl rfl rfl
/-! MouldVotes rest -/
abbrev cX1_rest : ByteArray := prog_1_method_32_code
def yX1_rest : MethodName := ⟨RX1, "rest", "()I"⟩
def dkwX1_rest_4 : List UInt8 := [21, 4, 154, 0, 5, 29, 61, 42, 180, 0, 35, 182, 0, 220, 87, 132, 3, 1, 167, 255, 163, 28, 172]
abbrev dktX1_rest_4 : List UInt8 := dkwX1_rest_4 ++ []
def dkwX1_rest_3 : List UInt8 := [43, 21, 5, 42, 180, 0, 35, 180, 0, 96, 21, 5, 46, 79, 132, 5, 1, 167, 255, 200, 29, 158, 0, 10]
abbrev dktX1_rest_3 : List UInt8 := dkwX1_rest_3 ++ dktX1_rest_4
def dkwX1_rest_2 : List UInt8 := [180, 0, 35, 180, 0, 96, 21, 5, 46, 43, 21, 5, 46, 160, 0, 7, 4, 167, 0, 4, 3, 126, 54, 4]
abbrev dktX1_rest_2 : List UInt8 := dkwX1_rest_2 ++ dktX1_rest_3
def dkwX1_rest_1 : List UInt8 := [163, 0, 93, 4, 54, 4, 3, 54, 5, 21, 5, 42, 180, 0, 22, 182, 0, 92, 162, 0, 50, 21, 4, 42]
abbrev dktX1_rest_1 : List UInt8 := dkwX1_rest_1 ++ dktX1_rest_2
def dkwX1_rest_0 : List UInt8 := [16, 30, 188, 10, 76, 42, 180, 0, 35, 42, 180, 0, 38, 182, 0, 213, 87, 3, 61, 3, 62, 29, 16, 40]
abbrev dktX1_rest_0 : List UInt8 := dkwX1_rest_0 ++ dktX1_rest_1
theorem dksX1_rest_0 : cX1_rest.data.toList.drop 0 = dktX1_rest_0 := by decide +kernel
theorem dksX1_rest_1 : cX1_rest.data.toList.drop 24 = dktX1_rest_1 := dk_seg dksX1_rest_0 24 rfl rfl
theorem dksX1_rest_2 : cX1_rest.data.toList.drop 48 = dktX1_rest_2 := dk_seg dksX1_rest_1 24 rfl rfl
theorem dksX1_rest_3 : cX1_rest.data.toList.drop 72 = dktX1_rest_3 := dk_seg dksX1_rest_2 24 rfl rfl
theorem dksX1_rest_4 : cX1_rest.data.toList.drop 96 = dktX1_rest_4 := dk_seg dksX1_rest_3 24 rfl rfl
theorem dX1_rest_0 : decode cX1_rest 0 = .ok (.bipush 30, 2) := dk_16 30 (dk_at dksX1_rest_0 0 rfl rfl)
theorem dX1_rest_2 : decode cX1_rest 2 = .ok (.newarray .int, 2) := dk_188_10 (dk_at dksX1_rest_0 2 rfl rfl)
theorem dX1_rest_4 : decode cX1_rest 4 = .ok (.astore_n 1, 1) := dk_76 (dk_at dksX1_rest_0 4 rfl rfl)
theorem dX1_rest_5 : decode cX1_rest 5 = .ok (.aload_n 0, 1) := dk_42 (dk_at dksX1_rest_0 5 rfl rfl)
theorem dX1_rest_6 : decode cX1_rest 6 = .ok (.getfield 35, 3) := dk_180 0 35 (dk_at dksX1_rest_0 6 rfl rfl)
theorem dX1_rest_9 : decode cX1_rest 9 = .ok (.aload_n 0, 1) := dk_42 (dk_at dksX1_rest_0 9 rfl rfl)
theorem dX1_rest_10 : decode cX1_rest 10 = .ok (.getfield 38, 3) := dk_180 0 38 (dk_at dksX1_rest_0 10 rfl rfl)
theorem dX1_rest_13 : decode cX1_rest 13 = .ok (.invokevirtual 213, 3) := dk_182 0 213 (dk_at dksX1_rest_0 13 rfl rfl)
theorem dX1_rest_16 : decode cX1_rest 16 = .ok (.pop, 1) := dk_87 (dk_at dksX1_rest_0 16 rfl rfl)
theorem dX1_rest_17 : decode cX1_rest 17 = .ok (.iconst 0, 1) := dk_3 (dk_at dksX1_rest_0 17 rfl rfl)
theorem dX1_rest_18 : decode cX1_rest 18 = .ok (.istore_n 2, 1) := dk_61 (dk_at dksX1_rest_0 18 rfl rfl)
theorem dX1_rest_19 : decode cX1_rest 19 = .ok (.iconst 0, 1) := dk_3 (dk_at dksX1_rest_0 19 rfl rfl)
theorem dX1_rest_20 : decode cX1_rest 20 = .ok (.istore_n 3, 1) := dk_62 (dk_at dksX1_rest_0 20 rfl rfl)
theorem dX1_rest_21 : decode cX1_rest 21 = .ok (.iload_n 3, 1) := dk_29 (dk_at dksX1_rest_0 21 rfl rfl)
theorem dX1_rest_22 : decode cX1_rest 22 = .ok (.bipush 40, 2) := dk_16 40 (dk_at dksX1_rest_0 22 rfl rfl)
theorem dX1_rest_24 : decode cX1_rest 24 = .ok (.if_icmp .gt 93, 3) := dk_163 0 93 (dk_at dksX1_rest_1 0 rfl rfl)
theorem dX1_rest_27 : decode cX1_rest 27 = .ok (.iconst 1, 1) := dk_4 (dk_at dksX1_rest_1 3 rfl rfl)
theorem dX1_rest_28 : decode cX1_rest 28 = .ok (.istore 4, 2) := dk_54 4 (dk_at dksX1_rest_1 4 rfl rfl)
theorem dX1_rest_30 : decode cX1_rest 30 = .ok (.iconst 0, 1) := dk_3 (dk_at dksX1_rest_1 6 rfl rfl)
theorem dX1_rest_31 : decode cX1_rest 31 = .ok (.istore 5, 2) := dk_54 5 (dk_at dksX1_rest_1 7 rfl rfl)
theorem dX1_rest_33 : decode cX1_rest 33 = .ok (.iload 5, 2) := dk_21 5 (dk_at dksX1_rest_1 9 rfl rfl)
theorem dX1_rest_35 : decode cX1_rest 35 = .ok (.aload_n 0, 1) := dk_42 (dk_at dksX1_rest_1 11 rfl rfl)
theorem dX1_rest_36 : decode cX1_rest 36 = .ok (.getfield 22, 3) := dk_180 0 22 (dk_at dksX1_rest_1 12 rfl rfl)
theorem dX1_rest_39 : decode cX1_rest 39 = .ok (.invokevirtual 92, 3) := dk_182 0 92 (dk_at dksX1_rest_1 15 rfl rfl)
theorem dX1_rest_42 : decode cX1_rest 42 = .ok (.if_icmp .ge 50, 3) := dk_162 0 50 (dk_at dksX1_rest_1 18 rfl rfl)
theorem dX1_rest_45 : decode cX1_rest 45 = .ok (.iload 4, 2) := dk_21 4 (dk_at dksX1_rest_1 21 rfl rfl)
theorem dX1_rest_47 : decode cX1_rest 47 = .ok (.aload_n 0, 1) := dk_42 (dk_at dksX1_rest_1 23 rfl rfl)
theorem dX1_rest_48 : decode cX1_rest 48 = .ok (.getfield 35, 3) := dk_180 0 35 (dk_at dksX1_rest_2 0 rfl rfl)
theorem dX1_rest_51 : decode cX1_rest 51 = .ok (.getfield 96, 3) := dk_180 0 96 (dk_at dksX1_rest_2 3 rfl rfl)
theorem dX1_rest_54 : decode cX1_rest 54 = .ok (.iload 5, 2) := dk_21 5 (dk_at dksX1_rest_2 6 rfl rfl)
theorem dX1_rest_56 : decode cX1_rest 56 = .ok (.iaload, 1) := dk_46 (dk_at dksX1_rest_2 8 rfl rfl)
theorem dX1_rest_57 : decode cX1_rest 57 = .ok (.aload_n 1, 1) := dk_43 (dk_at dksX1_rest_2 9 rfl rfl)
theorem dX1_rest_58 : decode cX1_rest 58 = .ok (.iload 5, 2) := dk_21 5 (dk_at dksX1_rest_2 10 rfl rfl)
theorem dX1_rest_60 : decode cX1_rest 60 = .ok (.iaload, 1) := dk_46 (dk_at dksX1_rest_2 12 rfl rfl)
theorem dX1_rest_61 : decode cX1_rest 61 = .ok (.if_icmp .ne 7, 3) := dk_160 0 7 (dk_at dksX1_rest_2 13 rfl rfl)
theorem dX1_rest_64 : decode cX1_rest 64 = .ok (.iconst 1, 1) := dk_4 (dk_at dksX1_rest_2 16 rfl rfl)
theorem dX1_rest_65 : decode cX1_rest 65 = .ok (.goto 4, 3) := dk_167 0 4 (dk_at dksX1_rest_2 17 rfl rfl)
theorem dX1_rest_68 : decode cX1_rest 68 = .ok (.iconst 0, 1) := dk_3 (dk_at dksX1_rest_2 20 rfl rfl)
theorem dX1_rest_69 : decode cX1_rest 69 = .ok (.iand, 1) := dk_126 (dk_at dksX1_rest_2 21 rfl rfl)
theorem dX1_rest_70 : decode cX1_rest 70 = .ok (.istore 4, 2) := dk_54 4 (dk_at dksX1_rest_2 22 rfl rfl)
theorem dX1_rest_72 : decode cX1_rest 72 = .ok (.aload_n 1, 1) := dk_43 (dk_at dksX1_rest_3 0 rfl rfl)
theorem dX1_rest_73 : decode cX1_rest 73 = .ok (.iload 5, 2) := dk_21 5 (dk_at dksX1_rest_3 1 rfl rfl)
theorem dX1_rest_75 : decode cX1_rest 75 = .ok (.aload_n 0, 1) := dk_42 (dk_at dksX1_rest_3 3 rfl rfl)
theorem dX1_rest_76 : decode cX1_rest 76 = .ok (.getfield 35, 3) := dk_180 0 35 (dk_at dksX1_rest_3 4 rfl rfl)
theorem dX1_rest_79 : decode cX1_rest 79 = .ok (.getfield 96, 3) := dk_180 0 96 (dk_at dksX1_rest_3 7 rfl rfl)
theorem dX1_rest_82 : decode cX1_rest 82 = .ok (.iload 5, 2) := dk_21 5 (dk_at dksX1_rest_3 10 rfl rfl)
theorem dX1_rest_84 : decode cX1_rest 84 = .ok (.iaload, 1) := dk_46 (dk_at dksX1_rest_3 12 rfl rfl)
theorem dX1_rest_85 : decode cX1_rest 85 = .ok (.iastore, 1) := dk_79 (dk_at dksX1_rest_3 13 rfl rfl)
theorem dX1_rest_86 : decode cX1_rest 86 = .ok (.iinc 5 1, 3) := dk_132 5 1 (dk_at dksX1_rest_3 14 rfl rfl)
theorem dX1_rest_89 : decode cX1_rest 89 = .ok (.goto (-56), 3) := dk_167 255 200 (dk_at dksX1_rest_3 17 rfl rfl)
theorem dX1_rest_92 : decode cX1_rest 92 = .ok (.iload_n 3, 1) := dk_29 (dk_at dksX1_rest_3 20 rfl rfl)
theorem dX1_rest_93 : decode cX1_rest 93 = .ok (.ifCond .le 10, 3) := dk_158 0 10 (dk_at dksX1_rest_3 21 rfl rfl)
theorem dX1_rest_96 : decode cX1_rest 96 = .ok (.iload 4, 2) := dk_21 4 (dk_at dksX1_rest_4 0 rfl rfl)
theorem dX1_rest_98 : decode cX1_rest 98 = .ok (.ifCond .ne 5, 3) := dk_154 0 5 (dk_at dksX1_rest_4 2 rfl rfl)
theorem dX1_rest_101 : decode cX1_rest 101 = .ok (.iload_n 3, 1) := dk_29 (dk_at dksX1_rest_4 5 rfl rfl)
theorem dX1_rest_102 : decode cX1_rest 102 = .ok (.istore_n 2, 1) := dk_61 (dk_at dksX1_rest_4 6 rfl rfl)
theorem dX1_rest_103 : decode cX1_rest 103 = .ok (.aload_n 0, 1) := dk_42 (dk_at dksX1_rest_4 7 rfl rfl)
theorem dX1_rest_104 : decode cX1_rest 104 = .ok (.getfield 35, 3) := dk_180 0 35 (dk_at dksX1_rest_4 8 rfl rfl)
theorem dX1_rest_107 : decode cX1_rest 107 = .ok (.invokevirtual 220, 3) := dk_182 0 220 (dk_at dksX1_rest_4 11 rfl rfl)
theorem dX1_rest_110 : decode cX1_rest 110 = .ok (.pop, 1) := dk_87 (dk_at dksX1_rest_4 14 rfl rfl)
theorem dX1_rest_111 : decode cX1_rest 111 = .ok (.iinc 3 1, 3) := dk_132 3 1 (dk_at dksX1_rest_4 15 rfl rfl)
theorem dX1_rest_114 : decode cX1_rest 114 = .ok (.goto (-93), 3) := dk_167 255 163 (dk_at dksX1_rest_4 18 rfl rfl)
theorem dX1_rest_117 : decode cX1_rest 117 = .ok (.iload_n 2, 1) := dk_28 (dk_at dksX1_rest_4 21 rfl rfl)
theorem dX1_rest_118 : decode cX1_rest 118 = .ok (.ireturn, 1) := dk_172 (dk_at dksX1_rest_4 22 rfl rfl)
abbrev mX1_rest : xM := (yX1_rest, cX1_rest, 6, (some .int), [])
def c_X1_rest_69 (G : xG) (k21 : Option Nat → Option Nat → Int32 → Int32 → xF → Option (Int32 × xF)) (k33 : Option Nat → Option Nat → Int32 → Int32 → Int32 → Int32 → xF → Option (Int32 × xF)) (x0 : Option Nat) (x1 : Option Nat) (x2 : Int32) (x3 : Int32) (x5 : Int32) (y0 : Int32) (y1 : Int32) (T : xF) : Option (Int32 × xF) :=
  (oQ T x0 0 3).bind fun v76 =>
  (oQ T v76 2 2).bind fun v79 =>
  (ldA T v79 .int x5).bind fun v84 =>
  (stA T x1 .int x5 v84).bind fun T85 =>
  k33 x0 x1 x2 x3 (y1 &&& y0) (x5 + 1) T85
theorem c_X1_rest_69_ok {G : xG}  {T0 : xF} {k21 : Option Nat → Option Nat → Int32 → Int32 → xF → Option (Int32 × xF)} {k33 : Option Nat → Option Nat → Int32 → Int32 → Int32 → Int32 → xF → Option (Int32 × xF)} (hk21 : ∀ (x0 : Option Nat) (x1 : Option Nat) (x2 : Int32) (x3 : Int32) (T : xF) (q : (Int32 × xF)), k21 x0 x1 x2 x3 T = some q → Xr G (mX1_rest, xrm (125) T0 q.2, T0, .inl (some (.int q.1)), q.2) 21 [(0, va_rf x0), (1, va_rf x1), (2, .int x2), (3, .int x3)] [] T) (hk33 : ∀ (x0 : Option Nat) (x1 : Option Nat) (x2 : Int32) (x3 : Int32) (x4 : Int32) (x5 : Int32) (T : xF) (q : (Int32 × xF)), k33 x0 x1 x2 x3 x4 x5 T = some q → Xr G (mX1_rest, xrm (125) T0 q.2, T0, .inl (some (.int q.1)), q.2) 33 [(0, va_rf x0), (1, va_rf x1), (2, .int x2), (3, .int x3), (4, .int x4), (5, .int x5)] [] T) (x0 : Option Nat) (x1 : Option Nat) (x2 : Int32) (x3 : Int32) (x5 : Int32) (y0 : Int32) (y1 : Int32) (T : xF) (q : (Int32 × xF)) (hf : c_X1_rest_69 G k21 k33 x0 x1 x2 x3 x5 y0 y1 T = some q) : Xr G (mX1_rest, xrm (125) T0 q.2, T0, .inl (some (.int q.1)), q.2) 69 [(0, va_rf x0), (1, va_rf x1), (2, .int x2), (3, .int x3), (5, .int x5)] [.int y0, .int y1] T := by
  unfold c_X1_rest_69 at hf
  refine X.iand dX1_rest_69 ?_
  refine C.ist (L' := [(4, .int (y1 &&& y0)), (0, va_rf x0), (1, va_rf x1), (2, .int x2), (3, .int x3), (5, .int x5)]) dX1_rest_70 (Nat.le_of_ble_eq_true rfl) (xcQ (xcQ (xcI (xcI (xcI xcN))))) rfl ?_
  refine C.aload_n dX1_rest_72 rfl 2 rfl ?_
  refine X.iload dX1_rest_73 5 rfl ?_
  refine C.aload_n dX1_rest_75 rfl 1 rfl ?_
  obtain ⟨v76, h76, hf⟩ := ob hf
  refine C.getQ dX1_rest_76 rX1_35 h76 ?_
  obtain ⟨v79, h79, hf⟩ := ob hf
  refine C.getQ dX1_rest_79 rX1_96 h79 ?_
  refine X.iload dX1_rest_82 5 rfl ?_
  obtain ⟨v84, h84, hf⟩ := ob hf
  refine C.iald dX1_rest_84 h84 ?_
  obtain ⟨T85, h85, hf⟩ := ob hf
  refine C.iast dX1_rest_85 h85 ?_
  refine C.iinc (v := (x5 + 1)) (L' := [(5, .int (x5 + 1)), (4, .int (y1 &&& y0)), (0, va_rf x0), (1, va_rf x1), (2, .int x2), (3, .int x3)]) dX1_rest_86 5 rfl rfl (Nat.le_of_ble_eq_true rfl) (xcI (xcQ (xcQ (xcI (xcI (xcI xcN)))))) rfl ?_
  refine X.goto (tgt := 33) dX1_rest_89 (by decide) ?_
  refine X.sub [2, 3, 4, 5, 1, 0] (L' := [(0, va_rf x0), (1, va_rf x1), (2, .int x2), (3, .int x3), (4, .int (y1 &&& y0)), (5, .int (x5 + 1))]) rfl ?_
  exact hk33 _ _ _ _ _ _ _ _ hf
def c_X1_rest_103 (G : xG) (k21 : Option Nat → Option Nat → Int32 → Int32 → xF → Option (Int32 × xF)) (x0 : Option Nat) (x1 : Option Nat) (x2 : Int32) (x3 : Int32) (T : xF) : Option (Int32 × xF) :=
  (oQ T x0 0 3).bind fun v104 =>
  if ¬ isO T v104 2 = true then none else
  cl (c_X3_pass G v104 T) T fun v107 T107 =>
  k21 x0 x1 x2 (x3 + 1) T107
theorem c_X1_rest_103_ok {G : xG}  {T0 : xF} {k21 : Option Nat → Option Nat → Int32 → Int32 → xF → Option (Int32 × xF)} (hk21 : ∀ (x0 : Option Nat) (x1 : Option Nat) (x2 : Int32) (x3 : Int32) (T : xF) (q : (Int32 × xF)), k21 x0 x1 x2 x3 T = some q → Xr G (mX1_rest, xrm (125) T0 q.2, T0, .inl (some (.int q.1)), q.2) 21 [(0, va_rf x0), (1, va_rf x1), (2, .int x2), (3, .int x3)] [] T) (x0 : Option Nat) (x1 : Option Nat) (x2 : Int32) (x3 : Int32) (T : xF) (q : (Int32 × xF)) (hf : c_X1_rest_103 G k21 x0 x1 x2 x3 T = some q) : Xr G (mX1_rest, xrm (125) T0 q.2, T0, .inl (some (.int q.1)), q.2) 103 [(0, va_rf x0), (1, va_rf x1), (2, .int x2), (3, .int x3)] [] T := by
  unfold c_X1_rest_103 at hf
  refine C.aload_n dX1_rest_103 rfl 0 rfl ?_
  obtain ⟨v104, h104, hf⟩ := ob hf
  refine C.getQ dX1_rest_104 rX1_35 h104 ?_
  obtain ⟨c107, hf⟩ := if_n hf
  obtain ⟨v107, T107, h107, hf, l107, r107⟩ := cl_ok hf
  refine C.Vq (As := []) (rest := []) dX1_rest_107 (w_X3_pass h107) cX1_220 (Classical.not_not.mp c107) rfl rfl (xcs xvN (Nat.le_of_ble_eq_true rfl)) rfl rfl (xD (Nat.le_of_ble_eq_true rfl)) l107 r107 ?_
  refine X.pop dX1_rest_110 (cat1 _) ?_
  refine C.iinc (v := (x3 + 1)) (L' := [(3, .int (x3 + 1)), (0, va_rf x0), (1, va_rf x1), (2, .int x2)]) dX1_rest_111 3 rfl rfl (Nat.le_of_ble_eq_true rfl) (xcQ (xcQ (xcI (xcI xcN)))) rfl ?_
  refine X.goto (tgt := 21) dX1_rest_114 (by decide) ?_
  refine X.sub [1, 2, 3, 0] (L' := [(0, va_rf x0), (1, va_rf x1), (2, .int x2), (3, .int (x3 + 1))]) rfl ?_
  exact hk21 _ _ _ _ _ _ hf
def c_X1_rest_33_b (G : xG) (k21 : Option Nat → Option Nat → Int32 → Int32 → xF → Option (Int32 × xF)) (k33 : Option Nat → Option Nat → Int32 → Int32 → Int32 → Int32 → xF → Option (Int32 × xF)) (x0 : Option Nat) (x1 : Option Nat) (x2 : Int32) (x3 : Int32) (x4 : Int32) (x5 : Int32) (T : xF) : Option (Int32 × xF) :=
  (oQ T x0 0 1).bind fun v36 =>
  if ¬ isO T v36 1 = true then none else
  (c_X2_cells T v36).bind fun v39 =>
  if v39 ≤ x5 then
    if x3 ≤ 0 then
      c_X1_rest_103 G k21 x0 x1 x2 x3 T
    else
      if x4 = 0 then
        c_X1_rest_103 G k21 x0 x1 x3 x3 T
      else
        c_X1_rest_103 G k21 x0 x1 x2 x3 T
  else
    (oQ T x0 0 3).bind fun v48 =>
    (oQ T v48 2 2).bind fun v51 =>
    (ldA T v51 .int x5).bind fun v56 =>
    (ldA T x1 .int x5).bind fun v60 =>
    if v56 = v60 then
      c_X1_rest_69 G k21 k33 x0 x1 x2 x3 x5 (1 : Int32) x4 T
    else
      c_X1_rest_69 G k21 k33 x0 x1 x2 x3 x5 (0 : Int32) x4 T
def c_X1_rest_33 (G : xG) (k21 : Option Nat → Option Nat → Int32 → Int32 → xF → Option (Int32 × xF)) : Nat → Option Nat → Option Nat → Int32 → Int32 → Int32 → Int32 → xF → Option (Int32 × xF)
  | 0 => fun _ _ _ _ _ _ _ => none
  | n + 1 => fun x0 x1 x2 x3 x4 x5 T => c_X1_rest_33_b G k21 (c_X1_rest_33 G k21 n) x0 x1 x2 x3 x4 x5 T
theorem c_X1_rest_33_bok {G : xG}  {T0 : xF} {k21 : Option Nat → Option Nat → Int32 → Int32 → xF → Option (Int32 × xF)} {k33 : Option Nat → Option Nat → Int32 → Int32 → Int32 → Int32 → xF → Option (Int32 × xF)} (hk21 : ∀ (x0 : Option Nat) (x1 : Option Nat) (x2 : Int32) (x3 : Int32) (T : xF) (q : (Int32 × xF)), k21 x0 x1 x2 x3 T = some q → Xr G (mX1_rest, xrm (125) T0 q.2, T0, .inl (some (.int q.1)), q.2) 21 [(0, va_rf x0), (1, va_rf x1), (2, .int x2), (3, .int x3)] [] T) (hk33 : ∀ (x0 : Option Nat) (x1 : Option Nat) (x2 : Int32) (x3 : Int32) (x4 : Int32) (x5 : Int32) (T : xF) (q : (Int32 × xF)), k33 x0 x1 x2 x3 x4 x5 T = some q → Xr G (mX1_rest, xrm (125) T0 q.2, T0, .inl (some (.int q.1)), q.2) 33 [(0, va_rf x0), (1, va_rf x1), (2, .int x2), (3, .int x3), (4, .int x4), (5, .int x5)] [] T) (x0 : Option Nat) (x1 : Option Nat) (x2 : Int32) (x3 : Int32) (x4 : Int32) (x5 : Int32) (T : xF) (q : (Int32 × xF)) (hf : c_X1_rest_33_b G k21 k33 x0 x1 x2 x3 x4 x5 T = some q) : Xr G (mX1_rest, xrm (125) T0 q.2, T0, .inl (some (.int q.1)), q.2) 33 [(0, va_rf x0), (1, va_rf x1), (2, .int x2), (3, .int x3), (4, .int x4), (5, .int x5)] [] T := by
  unfold c_X1_rest_33_b at hf
  refine X.iload dX1_rest_33 5 rfl ?_
  refine C.aload_n dX1_rest_35 rfl 0 rfl ?_
  obtain ⟨v36, h36, hf⟩ := ob hf
  refine C.getQ dX1_rest_36 rX1_22 h36 ?_
  obtain ⟨c39, hf⟩ := if_n hf
  obtain ⟨v39, h39, hf⟩ := ob hf
  refine X.keep fun l39 => C.Vi (As := []) (rest := [.int x5]) dX1_rest_39 (w_X2_cells h39) cX1_92 (Classical.not_not.mp c39) rfl rfl (xcs (xvI xvN) (Nat.le_of_ble_eq_true rfl)) rfl rfl (xD (Nat.le_of_ble_eq_true rfl)) xle.rf l39 ?_
  refine X.icmp_ge (tgt := 92) dX1_rest_42 (by decide) (fun c42 => ?_) (fun c42 => ?_)
  · have hf := if_t c42 hf
    refine X.iload_n dX1_rest_92 rfl 3 rfl ?_
    refine X.if_le (tgt := 103) dX1_rest_93 (by decide) (fun c93 => ?_) (fun c93 => ?_)
    · have hf := if_t c93 hf
      refine X.sub [0, 1, 2, 3] (L' := [(0, va_rf x0), (1, va_rf x1), (2, .int x2), (3, .int x3)]) rfl ?_
      exact c_X1_rest_103_ok hk21 _ _ _ _ _ _ hf
    · have hf := if_f c93 hf
      refine X.iload dX1_rest_96 4 rfl ?_
      refine X.if_ne (tgt := 103) dX1_rest_98 (by decide) (fun c98 => ?_) (fun c98 => ?_)
      · have hf := if_f c98 hf
        refine X.sub [0, 1, 2, 3] (L' := [(0, va_rf x0), (1, va_rf x1), (2, .int x2), (3, .int x3)]) rfl ?_
        exact c_X1_rest_103_ok hk21 _ _ _ _ _ _ hf
      · have hf := if_t c98 hf
        refine X.iload_n dX1_rest_101 rfl 3 rfl ?_
        refine C.ist_n (L' := [(2, .int x3), (0, va_rf x0), (1, va_rf x1), (3, .int x3), (4, .int x4), (5, .int x5)]) dX1_rest_102 rfl (Nat.le_of_ble_eq_true rfl) (xcQ (xcQ (xcI (xcI (xcI (xcI xcN)))))) rfl ?_
        refine X.sub [1, 2, 0, 3] (L' := [(0, va_rf x0), (1, va_rf x1), (2, .int x3), (3, .int x3)]) rfl ?_
        exact c_X1_rest_103_ok hk21 _ _ _ _ _ _ hf
  · have hf := if_f c42 hf
    refine X.iload dX1_rest_45 4 rfl ?_
    refine C.aload_n dX1_rest_47 rfl 0 rfl ?_
    obtain ⟨v48, h48, hf⟩ := ob hf
    refine C.getQ dX1_rest_48 rX1_35 h48 ?_
    obtain ⟨v51, h51, hf⟩ := ob hf
    refine C.getQ dX1_rest_51 rX1_96 h51 ?_
    refine X.iload dX1_rest_54 5 rfl ?_
    obtain ⟨v56, h56, hf⟩ := ob hf
    refine C.iald dX1_rest_56 h56 ?_
    refine C.aload_n dX1_rest_57 rfl 1 rfl ?_
    refine X.iload dX1_rest_58 5 rfl ?_
    obtain ⟨v60, h60, hf⟩ := ob hf
    refine C.iald dX1_rest_60 h60 ?_
    refine X.icmp_ne (tgt := 68) dX1_rest_61 (by decide) (fun c61 => ?_) (fun c61 => ?_)
    · have hf := if_f c61 hf
      refine X.iconst (v := 0) dX1_rest_68 (by decide) ?_
      refine X.sub [0, 1, 2, 3, 5] (L' := [(0, va_rf x0), (1, va_rf x1), (2, .int x2), (3, .int x3), (5, .int x5)]) rfl ?_
      exact c_X1_rest_69_ok hk21 hk33 _ _ _ _ _ _ _ _ _ hf
    · have hf := if_t c61 hf
      refine X.iconst (v := 1) dX1_rest_64 (by decide) ?_
      refine X.goto (tgt := 69) dX1_rest_65 (by decide) ?_
      refine X.sub [0, 1, 2, 3, 5] (L' := [(0, va_rf x0), (1, va_rf x1), (2, .int x2), (3, .int x3), (5, .int x5)]) rfl ?_
      exact c_X1_rest_69_ok hk21 hk33 _ _ _ _ _ _ _ _ _ hf
theorem c_X1_rest_33_ok {G : xG}  {T0 : xF} {k21 : Option Nat → Option Nat → Int32 → Int32 → xF → Option (Int32 × xF)} (hk21 : ∀ (x0 : Option Nat) (x1 : Option Nat) (x2 : Int32) (x3 : Int32) (T : xF) (q : (Int32 × xF)), k21 x0 x1 x2 x3 T = some q → Xr G (mX1_rest, xrm (125) T0 q.2, T0, .inl (some (.int q.1)), q.2) 21 [(0, va_rf x0), (1, va_rf x1), (2, .int x2), (3, .int x3)] [] T) : ∀ (n : Nat) (x0 : Option Nat) (x1 : Option Nat) (x2 : Int32) (x3 : Int32) (x4 : Int32) (x5 : Int32) (T : xF) (q : (Int32 × xF)), c_X1_rest_33 G k21 n x0 x1 x2 x3 x4 x5 T = some q → Xr G (mX1_rest, xrm (125) T0 q.2, T0, .inl (some (.int q.1)), q.2) 33 [(0, va_rf x0), (1, va_rf x1), (2, .int x2), (3, .int x3), (4, .int x4), (5, .int x5)] [] T
  | 0, _, _, _, _, _, _, _, _, hf => by cases hf
  | n + 1, x0, x1, x2, x3, x4, x5, T, q, hf => c_X1_rest_33_bok hk21 (c_X1_rest_33_ok hk21 n) x0 x1 x2 x3 x4 x5 T q hf
def c_X1_rest_21_b (G : xG) (k21 : Option Nat → Option Nat → Int32 → Int32 → xF → Option (Int32 × xF)) (x0 : Option Nat) (x1 : Option Nat) (x2 : Int32) (x3 : Int32) (T : xF) : Option (Int32 × xF) :=
  if (40 : Int32) < x3 then
    some (x2, T)
  else
    c_X1_rest_33 G k21 FU x0 x1 x2 x3 (1 : Int32) (0 : Int32) T
def c_X1_rest_21 (G : xG) : Nat → Option Nat → Option Nat → Int32 → Int32 → xF → Option (Int32 × xF)
  | 0 => fun _ _ _ _ _ => none
  | n + 1 => fun x0 x1 x2 x3 T => c_X1_rest_21_b G (c_X1_rest_21 G n) x0 x1 x2 x3 T
theorem c_X1_rest_21_bok {G : xG}  {T0 : xF}  {k21 : Option Nat → Option Nat → Int32 → Int32 → xF → Option (Int32 × xF)}  (hk21 : ∀ (x0 : Option Nat) (x1 : Option Nat) (x2 : Int32) (x3 : Int32) (T : xF) (q : (Int32 × xF)), k21 x0 x1 x2 x3 T = some q → Xr G (mX1_rest, xrm (125) T0 q.2, T0, .inl (some (.int q.1)), q.2) 21 [(0, va_rf x0), (1, va_rf x1), (2, .int x2), (3, .int x3)] [] T) (x0 : Option Nat) (x1 : Option Nat) (x2 : Int32) (x3 : Int32) (T : xF) (q : (Int32 × xF)) (hf : c_X1_rest_21_b G k21 x0 x1 x2 x3 T = some q) : Xr G (mX1_rest, xrm (125) T0 q.2, T0, .inl (some (.int q.1)), q.2) 21 [(0, va_rf x0), (1, va_rf x1), (2, .int x2), (3, .int x3)] [] T := by
  unfold c_X1_rest_21_b at hf
  refine X.iload_n dX1_rest_21 rfl 3 rfl ?_
  refine X.bipush (v := 40) dX1_rest_22 (by decide) ?_
  refine X.icmp_gt (tgt := 117) dX1_rest_24 (by decide) (fun c24 => ?_) (fun c24 => ?_)
  · have hf := if_t c24 hf
    refine X.iload_n dX1_rest_117 rfl 2 rfl ?_
    obtain rfl := Option.some.inj hf
    exact X.iret dX1_rest_118 rfl rfl rfl
  · have hf := if_f c24 hf
    refine X.iconst (v := 1) dX1_rest_27 (by decide) ?_
    refine C.ist (L' := [(4, .int (1 : Int32)), (0, va_rf x0), (1, va_rf x1), (2, .int x2), (3, .int x3)]) dX1_rest_28 (Nat.le_of_ble_eq_true rfl) (xcQ (xcQ (xcI (xcI xcN)))) rfl ?_
    refine X.iconst (v := 0) dX1_rest_30 (by decide) ?_
    refine C.ist (L' := [(5, .int (0 : Int32)), (4, .int (1 : Int32)), (0, va_rf x0), (1, va_rf x1), (2, .int x2), (3, .int x3)]) dX1_rest_31 (Nat.le_of_ble_eq_true rfl) (xcI (xcQ (xcQ (xcI (xcI xcN))))) rfl ?_
    refine X.sub [2, 3, 4, 5, 1, 0] (L' := [(0, va_rf x0), (1, va_rf x1), (2, .int x2), (3, .int x3), (4, .int (1 : Int32)), (5, .int (0 : Int32))]) rfl ?_
    exact c_X1_rest_33_ok hk21 FU _ _ _ _ _ _ _ _ hf
theorem c_X1_rest_21_ok {G : xG}  {T0 : xF}   : ∀ (n : Nat) (x0 : Option Nat) (x1 : Option Nat) (x2 : Int32) (x3 : Int32) (T : xF) (q : (Int32 × xF)), c_X1_rest_21 G n x0 x1 x2 x3 T = some q → Xr G (mX1_rest, xrm (125) T0 q.2, T0, .inl (some (.int q.1)), q.2) 21 [(0, va_rf x0), (1, va_rf x1), (2, .int x2), (3, .int x3)] [] T
  | 0, _, _, _, _, _, _, hf => by cases hf
  | n + 1, x0, x1, x2, x3, T, q, hf => c_X1_rest_21_bok (c_X1_rest_21_ok n) x0 x1 x2 x3 T q hf
def c_X1_rest (G : xG) (x0 : Option Nat) (T : xF) : Option (Int32 × xF) :=
  if (30 : Int32) < 0 ∨ 100000000 ≤ (30 : Int32).toNatClampNeg then none else
  al (nA T .int (30 : Int32).toNatClampNeg) fun T2 =>
  (oQ T2 x0 0 3).bind fun v6 =>
  (oQ T2 x0 0 4).bind fun v10 =>
  if ¬ isO T2 v6 2 = true then none else
  cl (c_X3_be v6 v10 T2) T2 fun v13 T13 =>
  c_X1_rest_21 G FU x0 (some T.2.1) (0 : Int32) (0 : Int32) T13
theorem w_X1_rest {G : xG}  {T : xF} {x0 : Option Nat} {q : (Int32 × xF)} (hf : c_X1_rest G x0 T = some q) : Ct G mX1_rest (125) T [va_rf x0] (.inl (some (.int q.1))) q.2 := by
  refine Ct.ofc (plainFor_of_name (by decide +kernel)) rfl (xvQ xvN) (Nat.le_of_ble_eq_true rfl) (show Xr G _ 0 [(0, va_rf x0)] [] _ from ?_)
  unfold c_X1_rest at hf
  refine X.bipush (v := 30) dX1_rest_0 (by decide) ?_
  obtain ⟨c2, hf⟩ := if_n hf
  obtain ⟨T2, e2, hf, l2⟩ := al_ok hf
  refine C.newaE e2 dX1_rest_2 rfl (by decide) rfl q194 rfl (by decide) c2 l2 ?_
  refine C.ast_n (L' := [(1, va_rf (some T.2.1)), (0, va_rf x0)]) dX1_rest_4 rfl (Nat.le_of_ble_eq_true rfl) (xcQ xcN) rfl ?_
  refine C.aload_n dX1_rest_5 rfl 1 rfl ?_
  obtain ⟨v6, h6, hf⟩ := ob hf
  refine C.getQ dX1_rest_6 rX1_35 h6 ?_
  refine C.aload_n dX1_rest_9 rfl 1 rfl ?_
  obtain ⟨v10, h10, hf⟩ := ob hf
  refine C.getQ dX1_rest_10 rX1_38 h10 ?_
  obtain ⟨c13, hf⟩ := if_n hf
  obtain ⟨v13, T13, h13, hf, l13, r13⟩ := cl_ok hf
  refine C.Vq (As := [va_rf v10]) (rest := []) dX1_rest_13 (w_X3_be h13) cX1_213 (Classical.not_not.mp c13) rfl rfl (xcs xvN (Nat.le_of_ble_eq_true rfl)) rfl rfl (xD (Nat.le_of_ble_eq_true rfl)) l13 r13 ?_
  refine X.pop dX1_rest_16 (cat1 _) ?_
  refine X.iconst (v := 0) dX1_rest_17 (by decide) ?_
  refine C.ist_n (L' := [(2, .int (0 : Int32)), (1, va_rf (some T.2.1)), (0, va_rf x0)]) dX1_rest_18 rfl (Nat.le_of_ble_eq_true rfl) (xcQ (xcQ xcN)) rfl ?_
  refine X.iconst (v := 0) dX1_rest_19 (by decide) ?_
  refine C.ist_n (L' := [(3, .int (0 : Int32)), (2, .int (0 : Int32)), (1, va_rf (some T.2.1)), (0, va_rf x0)]) dX1_rest_20 rfl (Nat.le_of_ble_eq_true rfl) (xcI (xcQ (xcQ xcN))) rfl ?_
  refine X.sub [3, 2, 1, 0] (L' := [(0, va_rf x0), (1, va_rf (some T.2.1)), (2, .int (0 : Int32)), (3, .int (0 : Int32))]) rfl ?_
  exact c_X1_rest_21_ok FU _ _ _ _ _ _ hf
/-! MouldVotes undo -/
abbrev cX1_undo : ByteArray := prog_1_method_26_code
def yX1_undo : MethodName := ⟨RX1, "undo", "()I"⟩
def dkwX1_undo_2 : List UInt8 := [180, 0, 55, 185, 0, 104, 1, 0, 172]
abbrev dktX1_undo_2 : List UInt8 := dkwX1_undo_2 ++ []
def dkwX1_undo_1 : List UInt8 := [185, 0, 104, 1, 0, 4, 100, 185, 0, 190, 2, 0, 192, 0, 26, 182, 0, 182, 181, 0, 38, 42]
abbrev dktX1_undo_1 : List UInt8 := dkwX1_undo_1 ++ dktX1_undo_2
def dkwX1_undo_0 : List UInt8 := [42, 180, 0, 55, 185, 0, 209, 1, 0, 153, 0, 5, 2, 172, 42, 42, 180, 0, 55, 42, 180, 0, 55]
abbrev dktX1_undo_0 : List UInt8 := dkwX1_undo_0 ++ dktX1_undo_1
theorem dksX1_undo_0 : cX1_undo.data.toList.drop 0 = dktX1_undo_0 := by decide +kernel
theorem dksX1_undo_1 : cX1_undo.data.toList.drop 23 = dktX1_undo_1 := dk_seg dksX1_undo_0 23 rfl rfl
theorem dksX1_undo_2 : cX1_undo.data.toList.drop 45 = dktX1_undo_2 := dk_seg dksX1_undo_1 22 rfl rfl
theorem dX1_undo_0 : decode cX1_undo 0 = .ok (.aload_n 0, 1) := dk_42 (dk_at dksX1_undo_0 0 rfl rfl)
theorem dX1_undo_1 : decode cX1_undo 1 = .ok (.getfield 55, 3) := dk_180 0 55 (dk_at dksX1_undo_0 1 rfl rfl)
theorem dX1_undo_4 : decode cX1_undo 4 = .ok (.invokeinterface 209 1, 5) := by decide +kernel
theorem dX1_undo_9 : decode cX1_undo 9 = .ok (.ifCond .eq 5, 3) := dk_153 0 5 (dk_at dksX1_undo_0 9 rfl rfl)
theorem dX1_undo_12 : decode cX1_undo 12 = .ok (.iconst (-1), 1) := dk_2 (dk_at dksX1_undo_0 12 rfl rfl)
theorem dX1_undo_13 : decode cX1_undo 13 = .ok (.ireturn, 1) := dk_172 (dk_at dksX1_undo_0 13 rfl rfl)
theorem dX1_undo_14 : decode cX1_undo 14 = .ok (.aload_n 0, 1) := dk_42 (dk_at dksX1_undo_0 14 rfl rfl)
theorem dX1_undo_15 : decode cX1_undo 15 = .ok (.aload_n 0, 1) := dk_42 (dk_at dksX1_undo_0 15 rfl rfl)
theorem dX1_undo_16 : decode cX1_undo 16 = .ok (.getfield 55, 3) := dk_180 0 55 (dk_at dksX1_undo_0 16 rfl rfl)
theorem dX1_undo_19 : decode cX1_undo 19 = .ok (.aload_n 0, 1) := dk_42 (dk_at dksX1_undo_0 19 rfl rfl)
theorem dX1_undo_20 : decode cX1_undo 20 = .ok (.getfield 55, 3) := dk_180 0 55 (dk_at dksX1_undo_0 20 rfl rfl)
theorem dX1_undo_23 : decode cX1_undo 23 = .ok (.invokeinterface 104 1, 5) := by decide +kernel
theorem dX1_undo_28 : decode cX1_undo 28 = .ok (.iconst 1, 1) := dk_4 (dk_at dksX1_undo_1 5 rfl rfl)
theorem dX1_undo_29 : decode cX1_undo 29 = .ok (.isub, 1) := dk_100 (dk_at dksX1_undo_1 6 rfl rfl)
theorem dX1_undo_30 : decode cX1_undo 30 = .ok (.invokeinterface 190 2, 5) := by decide +kernel
theorem dX1_undo_35 : decode cX1_undo 35 = .ok (.checkcast 26, 3) := dk_192 0 26 (dk_at dksX1_undo_1 12 rfl rfl)
theorem dX1_undo_38 : decode cX1_undo 38 = .ok (.invokevirtual 182, 3) := dk_182 0 182 (dk_at dksX1_undo_1 15 rfl rfl)
theorem dX1_undo_41 : decode cX1_undo 41 = .ok (.putfield 38, 3) := dk_181 0 38 (dk_at dksX1_undo_1 18 rfl rfl)
theorem dX1_undo_44 : decode cX1_undo 44 = .ok (.aload_n 0, 1) := dk_42 (dk_at dksX1_undo_1 21 rfl rfl)
theorem dX1_undo_45 : decode cX1_undo 45 = .ok (.getfield 55, 3) := dk_180 0 55 (dk_at dksX1_undo_2 0 rfl rfl)
theorem dX1_undo_48 : decode cX1_undo 48 = .ok (.invokeinterface 104 1, 5) := by decide +kernel
theorem dX1_undo_53 : decode cX1_undo 53 = .ok (.ireturn, 1) := dk_172 (dk_at dksX1_undo_2 8 rfl rfl)
abbrev mX1_undo : xM := (yX1_undo, cX1_undo, 1, (some .int), [])
def c_X1_undo (x0 : Option Nat) (T : xF) : Option (Int32 × xF) :=
  (oQ T x0 0 9).bind fun v1 =>
  if ¬ isO T v1 10 = true then none else
  (c_J2_isEmpty T v1).bind fun v4 =>
  if v4 = 0 then
    (oQ T x0 0 9).bind fun v16 =>
    (oQ T x0 0 9).bind fun v20 =>
    if ¬ isO T v20 10 = true then none else
    (c_J2_size T v20).bind fun v23 =>
    if ¬ isO T v16 10 = true then none else
    cl (c_J2_remove v16 (v23 - (1 : Int32)) T) T fun v30 T30 =>
    if ¬ cst T30 v30 [2] = true then none else
    if ¬ isO T30 v30 2 = true then none else
    cl (c_X3_copy v30 T30) T30 fun v38 T38 =>
    (pV T38 x0 0 4 (va_rf v38)).bind fun T41 =>
    (oQ T41 x0 0 9).bind fun v45 =>
    if ¬ isO T41 v45 10 = true then none else
    (c_J2_size T41 v45).bind fun v48 =>
    some (v48, T41)
  else
    some ((-1 : Int32), T)
theorem w_X1_undo {G : xG}  {T : xF} {x0 : Option Nat} {q : (Int32 × xF)} (hf : c_X1_undo x0 T = some q) : Ct G mX1_undo (4) T [va_rf x0] (.inl (some (.int q.1))) q.2 := by
  refine Ct.ofc (plainFor_of_name (by decide +kernel)) rfl (xvQ xvN) (Nat.le_of_ble_eq_true rfl) (show Xr G _ 0 [(0, va_rf x0)] [] _ from ?_)
  unfold c_X1_undo at hf
  refine C.aload_n dX1_undo_0 rfl 0 rfl ?_
  obtain ⟨v1, h1, hf⟩ := ob hf
  refine C.getQ dX1_undo_1 rX1_55 h1 ?_
  obtain ⟨c4, hf⟩ := if_n hf
  obtain ⟨v4, h4, hf⟩ := ob hf
  refine X.keep fun l4 => C.Fi (As := []) (rest := []) dX1_undo_4 (w_J2_isEmpty h4) cX1_209 (Classical.not_not.mp c4) rfl rfl (xcs xvN (Nat.le_of_ble_eq_true rfl)) rfl rfl (xD (Nat.le_of_ble_eq_true rfl)) xle.rf l4 ?_
  refine X.if_eq (tgt := 14) dX1_undo_9 (by decide) (fun c9 => ?_) (fun c9 => ?_)
  · have hf := if_t c9 hf
    refine C.aload_n dX1_undo_14 rfl 0 rfl ?_
    refine C.aload_n dX1_undo_15 rfl 0 rfl ?_
    obtain ⟨v16, h16, hf⟩ := ob hf
    refine C.getQ dX1_undo_16 rX1_55 h16 ?_
    refine C.aload_n dX1_undo_19 rfl 0 rfl ?_
    obtain ⟨v20, h20, hf⟩ := ob hf
    refine C.getQ dX1_undo_20 rX1_55 h20 ?_
    obtain ⟨c23, hf⟩ := if_n hf
    obtain ⟨v23, h23, hf⟩ := ob hf
    refine X.keep fun l23 => C.Fi (As := []) (rest := [va_rf v16, va_rf x0]) dX1_undo_23 (w_J2_size h23) cX1_104 (Classical.not_not.mp c23) rfl rfl (xcs (xvQ (xvQ xvN)) (Nat.le_of_ble_eq_true rfl)) rfl rfl (xD (Nat.le_of_ble_eq_true rfl)) xle.rf l23 ?_
    refine X.iconst (v := 1) dX1_undo_28 (by decide) ?_
    refine X.isub dX1_undo_29 ?_
    obtain ⟨c30, hf⟩ := if_n hf
    obtain ⟨v30, T30, h30, hf, l30, r30⟩ := cl_ok hf
    refine C.Fq (As := [.int (v23 - (1 : Int32))]) (rest := [va_rf x0]) dX1_undo_30 (w_J2_remove h30) cX1_190 (Classical.not_not.mp c30) rfl rfl (xcs (xvQ xvN) (Nat.le_of_ble_eq_true rfl)) rfl rfl (xD (Nat.le_of_ble_eq_true rfl)) l30 r30 ?_
    obtain ⟨c35, hf⟩ := if_n hf
    refine C.cast dX1_undo_35 q235 ca_Growth (Classical.not_not.mp c35) ?_
    obtain ⟨c38, hf⟩ := if_n hf
    obtain ⟨v38, T38, h38, hf, l38, r38⟩ := cl_ok hf
    refine C.Vq (As := []) (rest := [va_rf x0]) dX1_undo_38 (w_X3_copy h38) cX1_182 (Classical.not_not.mp c38) rfl rfl (xcs (xvQ xvN) (Nat.le_of_ble_eq_true rfl)) rfl rfl (xD (Nat.le_of_ble_eq_true rfl)) l38 r38 ?_
    obtain ⟨T41, h41, hf⟩ := ob hf
    refine C.putQ dX1_undo_41 fX1_38 (fun q => by cases q) rfl h41 ?_
    refine C.aload_n dX1_undo_44 rfl 0 rfl ?_
    obtain ⟨v45, h45, hf⟩ := ob hf
    refine C.getQ dX1_undo_45 rX1_55 h45 ?_
    obtain ⟨c48, hf⟩ := if_n hf
    obtain ⟨v48, h48, hf⟩ := ob hf
    refine X.keep fun l48 => C.Fi (As := []) (rest := []) dX1_undo_48 (w_J2_size h48) cX1_104 (Classical.not_not.mp c48) rfl rfl (xcs xvN (Nat.le_of_ble_eq_true rfl)) rfl rfl (xD (Nat.le_of_ble_eq_true rfl)) xle.rf l48 ?_
    obtain rfl := Option.some.inj hf
    exact X.iret dX1_undo_53 rfl rfl rfl
  · have hf := if_f c9 hf
    refine X.iconst (v := -1) dX1_undo_12 (by decide) ?_
    obtain rfl := Option.some.inj hf
    exact X.iret dX1_undo_13 rfl rfl rfl
/-! MouldVotes days -/
abbrev cX1_days : ByteArray := prog_1_method_21_code
def yX1_days : MethodName := ⟨RX1, "days", "(I)I"⟩
def dkwX1_days_2 : List UInt8 := [172]
abbrev dktX1_days_2 : List UInt8 := dkwX1_days_2 ++ []
def dkwX1_days_1 : List UInt8 := [164, 0, 9, 42, 4, 182, 0, 193, 172, 42, 182, 0, 196, 42, 180, 0, 38, 27, 182, 0, 199, 180, 0, 109]
abbrev dktX1_days_1 : List UInt8 := dkwX1_days_1 ++ dktX1_days_2
def dkwX1_days_0 : List UInt8 := [27, 4, 16, 20, 184, 0, 134, 153, 0, 18, 42, 180, 0, 38, 180, 0, 109, 27, 96, 17, 3, 231]
abbrev dktX1_days_0 : List UInt8 := dkwX1_days_0 ++ dktX1_days_1
theorem dksX1_days_0 : cX1_days.data.toList.drop 0 = dktX1_days_0 := by decide +kernel
theorem dksX1_days_1 : cX1_days.data.toList.drop 22 = dktX1_days_1 := dk_seg dksX1_days_0 22 rfl rfl
theorem dksX1_days_2 : cX1_days.data.toList.drop 46 = dktX1_days_2 := dk_seg dksX1_days_1 24 rfl rfl
theorem dX1_days_0 : decode cX1_days 0 = .ok (.iload_n 1, 1) := dk_27 (dk_at dksX1_days_0 0 rfl rfl)
theorem dX1_days_1 : decode cX1_days 1 = .ok (.iconst 1, 1) := dk_4 (dk_at dksX1_days_0 1 rfl rfl)
theorem dX1_days_2 : decode cX1_days 2 = .ok (.bipush 20, 2) := dk_16 20 (dk_at dksX1_days_0 2 rfl rfl)
theorem dX1_days_4 : decode cX1_days 4 = .ok (.invokestatic 134, 3) := dk_184 0 134 (dk_at dksX1_days_0 4 rfl rfl)
theorem dX1_days_7 : decode cX1_days 7 = .ok (.ifCond .eq 18, 3) := dk_153 0 18 (dk_at dksX1_days_0 7 rfl rfl)
theorem dX1_days_10 : decode cX1_days 10 = .ok (.aload_n 0, 1) := dk_42 (dk_at dksX1_days_0 10 rfl rfl)
theorem dX1_days_11 : decode cX1_days 11 = .ok (.getfield 38, 3) := dk_180 0 38 (dk_at dksX1_days_0 11 rfl rfl)
theorem dX1_days_14 : decode cX1_days 14 = .ok (.getfield 109, 3) := dk_180 0 109 (dk_at dksX1_days_0 14 rfl rfl)
theorem dX1_days_17 : decode cX1_days 17 = .ok (.iload_n 1, 1) := dk_27 (dk_at dksX1_days_0 17 rfl rfl)
theorem dX1_days_18 : decode cX1_days 18 = .ok (.iadd, 1) := dk_96 (dk_at dksX1_days_0 18 rfl rfl)
theorem dX1_days_19 : decode cX1_days 19 = .ok (.sipush 999, 3) := dk_17 3 231 (dk_at dksX1_days_0 19 rfl rfl)
theorem dX1_days_22 : decode cX1_days 22 = .ok (.if_icmp .le 9, 3) := dk_164 0 9 (dk_at dksX1_days_1 0 rfl rfl)
theorem dX1_days_25 : decode cX1_days 25 = .ok (.aload_n 0, 1) := dk_42 (dk_at dksX1_days_1 3 rfl rfl)
theorem dX1_days_26 : decode cX1_days 26 = .ok (.iconst 1, 1) := dk_4 (dk_at dksX1_days_1 4 rfl rfl)
theorem dX1_days_27 : decode cX1_days 27 = .ok (.invokevirtual 193, 3) := dk_182 0 193 (dk_at dksX1_days_1 5 rfl rfl)
theorem dX1_days_30 : decode cX1_days 30 = .ok (.ireturn, 1) := dk_172 (dk_at dksX1_days_1 8 rfl rfl)
theorem dX1_days_31 : decode cX1_days 31 = .ok (.aload_n 0, 1) := dk_42 (dk_at dksX1_days_1 9 rfl rfl)
theorem dX1_days_32 : decode cX1_days 32 = .ok (.invokevirtual 196, 3) := dk_182 0 196 (dk_at dksX1_days_1 10 rfl rfl)
theorem dX1_days_35 : decode cX1_days 35 = .ok (.aload_n 0, 1) := dk_42 (dk_at dksX1_days_1 13 rfl rfl)
theorem dX1_days_36 : decode cX1_days 36 = .ok (.getfield 38, 3) := dk_180 0 38 (dk_at dksX1_days_1 14 rfl rfl)
theorem dX1_days_39 : decode cX1_days 39 = .ok (.iload_n 1, 1) := dk_27 (dk_at dksX1_days_1 17 rfl rfl)
theorem dX1_days_40 : decode cX1_days 40 = .ok (.invokevirtual 199, 3) := dk_182 0 199 (dk_at dksX1_days_1 18 rfl rfl)
theorem dX1_days_43 : decode cX1_days 43 = .ok (.getfield 109, 3) := dk_180 0 109 (dk_at dksX1_days_1 21 rfl rfl)
theorem dX1_days_46 : decode cX1_days 46 = .ok (.ireturn, 1) := dk_172 (dk_at dksX1_days_2 0 rfl rfl)
abbrev mX1_days : xM := (yX1_days, cX1_days, 2, (some .int), [])
def c_X1_days_25 (G : xG) (x0 : Option Nat) (T : xF) : Option (Int32 × xF) :=
  if ¬ isO T x0 0 = true then none else
  cl (c_X1_refuse x0 (1 : Int32) T) T fun v27 T27 =>
  some (v27, T27)
theorem c_X1_days_25_ok {G : xG}  {T0 : xF}   (x0 : Option Nat) (T : xF) (q : (Int32 × xF)) (hf : c_X1_days_25 G x0 T = some q) : Xr G (mX1_days, xrm (126) T0 q.2, T0, .inl (some (.int q.1)), q.2) 25 [(0, va_rf x0)] [] T := by
  unfold c_X1_days_25 at hf
  refine C.aload_n dX1_days_25 rfl 0 rfl ?_
  refine X.iconst (v := 1) dX1_days_26 (by decide) ?_
  obtain ⟨c27, hf⟩ := if_n hf
  obtain ⟨v27, T27, h27, hf, l27, r27⟩ := cl_ok hf
  refine C.Vi (As := [.int (1 : Int32)]) (rest := []) dX1_days_27 (w_X1_refuse h27) cX1_193 (Classical.not_not.mp c27) rfl rfl (xcs xvN (Nat.le_of_ble_eq_true rfl)) rfl rfl (xD (Nat.le_of_ble_eq_true rfl)) l27 r27 ?_
  obtain rfl := Option.some.inj hf
  exact X.iret dX1_days_30 rfl rfl rfl
def c_X1_days (G : xG) (x0 : Option Nat) (x1 : Int32) (T : xF) : Option (Int32 × xF) :=
  (c_X1_in x1 (1 : Int32) (20 : Int32)).bind fun v4 =>
  if v4 = 0 then
    c_X1_days_25 G x0 T
  else
    (oQ T x0 0 4).bind fun v11 =>
    (oI T v11 2 4).bind fun v14 =>
    if (v14 + x1) ≤ (999 : Int32) then
      if ¬ isO T x0 0 = true then none else
      cl (c_X1_keepAct G x0 T) T fun v32 T32 =>
      (oQ T32 x0 0 4).bind fun v36 =>
      if ¬ isO T32 v36 2 = true then none else
      cl (c_X3_after G v36 x1 T32) T32 fun v40 T40 =>
      (oI T40 v40 2 4).bind fun v43 =>
      some (v43, T40)
    else
      c_X1_days_25 G x0 T
theorem w_X1_days {G : xG}  {T : xF} {x0 : Option Nat} {x1 : Int32} {q : (Int32 × xF)} (hf : c_X1_days G x0 x1 T = some q) : Ct G mX1_days (126) T [va_rf x0, .int x1] (.inl (some (.int q.1))) q.2 := by
  refine Ct.ofc (plainFor_of_name (by decide +kernel)) rfl (xvQ (xvI xvN)) (Nat.le_of_ble_eq_true rfl) (show Xr G _ 0 [(0, va_rf x0), (1, .int x1)] [] _ from ?_)
  unfold c_X1_days at hf
  refine X.iload_n dX1_days_0 rfl 1 rfl ?_
  refine X.iconst (v := 1) dX1_days_1 (by decide) ?_
  refine X.bipush (v := 20) dX1_days_2 (by decide) ?_
  obtain ⟨v4, h4, hf⟩ := ob hf
  refine X.keep fun l4 => C.Si (As := [.int x1, .int (1 : Int32), .int (20 : Int32)]) (rest := []) dX1_days_4 (w_X1_in h4) cX1_134 rfl rfl (xcs xvN (Nat.le_of_ble_eq_true rfl)) (xD (Nat.le_of_ble_eq_true rfl)) xle.rf l4 ?_
  refine X.if_eq (tgt := 25) dX1_days_7 (by decide) (fun c7 => ?_) (fun c7 => ?_)
  · have hf := if_t c7 hf
    refine X.sub [0] (L' := [(0, va_rf x0)]) rfl ?_
    exact c_X1_days_25_ok _ _ _ hf
  · have hf := if_f c7 hf
    refine C.aload_n dX1_days_10 rfl 0 rfl ?_
    obtain ⟨v11, h11, hf⟩ := ob hf
    refine C.getQ dX1_days_11 rX1_38 h11 ?_
    obtain ⟨v14, h14, hf⟩ := ob hf
    refine C.getI dX1_days_14 rX1_109 h14 ?_
    refine X.iload_n dX1_days_17 rfl 1 rfl ?_
    refine X.iadd dX1_days_18 ?_
    refine X.sipush (v := 999) dX1_days_19 (by decide) ?_
    refine X.icmp_le (tgt := 31) dX1_days_22 (by decide) (fun c22 => ?_) (fun c22 => ?_)
    · have hf := if_t c22 hf
      refine C.aload_n dX1_days_31 rfl 0 rfl ?_
      obtain ⟨c32, hf⟩ := if_n hf
      obtain ⟨v32, T32, h32, hf, l32, r32⟩ := cl_ok hf
      refine C.Vv (As := []) (rest := []) dX1_days_32 (w_X1_keepAct h32) cX1_196 (Classical.not_not.mp c32) rfl rfl (xcs xvN (Nat.le_of_ble_eq_true rfl)) rfl rfl (xD (Nat.le_of_ble_eq_true rfl)) l32 r32 ?_
      refine C.aload_n dX1_days_35 rfl 0 rfl ?_
      obtain ⟨v36, h36, hf⟩ := ob hf
      refine C.getQ dX1_days_36 rX1_38 h36 ?_
      refine X.iload_n dX1_days_39 rfl 1 rfl ?_
      obtain ⟨c40, hf⟩ := if_n hf
      obtain ⟨v40, T40, h40, hf, l40, r40⟩ := cl_ok hf
      refine C.Vq (As := [.int x1]) (rest := []) dX1_days_40 (w_X3_after h40) cX1_199 (Classical.not_not.mp c40) rfl rfl (xcs xvN (Nat.le_of_ble_eq_true rfl)) rfl rfl (xD (Nat.le_of_ble_eq_true rfl)) l40 r40 ?_
      obtain ⟨v43, h43, hf⟩ := ob hf
      refine C.getI dX1_days_43 rX1_109 h43 ?_
      obtain rfl := Option.some.inj hf
      exact X.iret dX1_days_46 rfl rfl rfl
    · have hf := if_f c22 hf
      refine X.sub [0] (L' := [(0, va_rf x0)]) rfl ?_
      exact c_X1_days_25_ok _ _ _ hf
/-! MouldVotes fault -/
abbrev cX1_fault : ByteArray := prog_1_method_8_code
def yX1_fault : MethodName := ⟨RX1, "fault", "()I"⟩
theorem dX1_fault_0 : decode cX1_fault 0 = .ok (.aload_n 0, 1) := by decide +kernel
theorem dX1_fault_1 : decode cX1_fault 1 = .ok (.getfield 45, 3) := by decide +kernel
theorem dX1_fault_4 : decode cX1_fault 4 = .ok (.ireturn, 1) := by decide +kernel
abbrev mX1_fault : xM := (yX1_fault, cX1_fault, 1, (some .int), [])
def c_X1_fault (T : xF) (x0 : Option Nat) : Option Int32 :=
  (oI T x0 0 7).bind fun v1 =>
  some v1
theorem w_X1_fault {G : xG}  {T : xF} {x0 : Option Nat} {q : Int32} (hf : c_X1_fault T x0 = some q) : Ct G mX1_fault (1) T [va_rf x0] (.inl (some (.int q))) T := by
  refine Ct.ofc (plainFor_of_name (by decide +kernel)) rfl (xvQ xvN) (Nat.le_of_ble_eq_true rfl) (show Xr G _ 0 [(0, va_rf x0)] [] _ from ?_)
  unfold c_X1_fault at hf
  refine C.aload_n dX1_fault_0 rfl 0 rfl ?_
  obtain ⟨v1, h1, hf⟩ := ob hf
  refine C.getI dX1_fault_1 rX1_45 h1 ?_
  obtain rfl := Option.some.inj hf
  exact X.iret dX1_fault_4 rfl rfl rfl
/-! MouldVotes feed -/
abbrev cX1_feed : ByteArray := prog_1_method_6_code
def yX1_feed : MethodName := ⟨RX1, "feed", "(IIIII)I"⟩
def dkwX1_feed_5 : List UInt8 := [180, 0, 62, 172]
abbrev dktX1_feed_5 : List UInt8 := dkwX1_feed_5 ++ []
def dkwX1_feed_4 : List UInt8 := [112, 104, 100, 122, 145, 84, 132, 6, 1, 167, 255, 172, 42, 89, 180, 0, 62, 16, 20, 96, 181, 0, 62, 42]
abbrev dktX1_feed_4 : List UInt8 := dkwX1_feed_4 ++ dktX1_feed_5
def dkwX1_feed_3 : List UInt8 := [21, 5, 54, 7, 42, 180, 0, 41, 42, 180, 0, 62, 21, 6, 96, 21, 7, 16, 24, 16, 8, 21, 6, 7]
abbrev dktX1_feed_3 : List UInt8 := dkwX1_feed_3 ++ dktX1_feed_4
def dkwX1_feed_2 : List UInt8 := [21, 6, 16, 12, 162, 0, 7, 29, 167, 0, 17, 21, 6, 16, 16, 162, 0, 8, 21, 4, 167, 0, 5]
abbrev dktX1_feed_2 : List UInt8 := dkwX1_feed_2 ++ dktX1_feed_3
def dkwX1_feed_1 : List UInt8 := [162, 0, 83, 21, 6, 7, 162, 0, 7, 27, 167, 0, 39, 21, 6, 16, 8, 162, 0, 7, 28, 167, 0, 28]
abbrev dktX1_feed_1 : List UInt8 := dkwX1_feed_1 ++ dktX1_feed_2
def dkwX1_feed_0 : List UInt8 := [42, 180, 0, 62, 16, 20, 96, 17, 2, 188, 164, 0, 5, 2, 172, 3, 54, 6, 21, 6, 16, 20]
abbrev dktX1_feed_0 : List UInt8 := dkwX1_feed_0 ++ dktX1_feed_1
theorem dksX1_feed_0 : cX1_feed.data.toList.drop 0 = dktX1_feed_0 := by decide +kernel
theorem dksX1_feed_1 : cX1_feed.data.toList.drop 22 = dktX1_feed_1 := dk_seg dksX1_feed_0 22 rfl rfl
theorem dksX1_feed_2 : cX1_feed.data.toList.drop 46 = dktX1_feed_2 := dk_seg dksX1_feed_1 24 rfl rfl
theorem dksX1_feed_3 : cX1_feed.data.toList.drop 69 = dktX1_feed_3 := dk_seg dksX1_feed_2 23 rfl rfl
theorem dksX1_feed_4 : cX1_feed.data.toList.drop 93 = dktX1_feed_4 := dk_seg dksX1_feed_3 24 rfl rfl
theorem dksX1_feed_5 : cX1_feed.data.toList.drop 117 = dktX1_feed_5 := dk_seg dksX1_feed_4 24 rfl rfl
theorem dX1_feed_0 : decode cX1_feed 0 = .ok (.aload_n 0, 1) := dk_42 (dk_at dksX1_feed_0 0 rfl rfl)
theorem dX1_feed_1 : decode cX1_feed 1 = .ok (.getfield 62, 3) := dk_180 0 62 (dk_at dksX1_feed_0 1 rfl rfl)
theorem dX1_feed_4 : decode cX1_feed 4 = .ok (.bipush 20, 2) := dk_16 20 (dk_at dksX1_feed_0 4 rfl rfl)
theorem dX1_feed_6 : decode cX1_feed 6 = .ok (.iadd, 1) := dk_96 (dk_at dksX1_feed_0 6 rfl rfl)
theorem dX1_feed_7 : decode cX1_feed 7 = .ok (.sipush 700, 3) := dk_17 2 188 (dk_at dksX1_feed_0 7 rfl rfl)
theorem dX1_feed_10 : decode cX1_feed 10 = .ok (.if_icmp .le 5, 3) := dk_164 0 5 (dk_at dksX1_feed_0 10 rfl rfl)
theorem dX1_feed_13 : decode cX1_feed 13 = .ok (.iconst (-1), 1) := dk_2 (dk_at dksX1_feed_0 13 rfl rfl)
theorem dX1_feed_14 : decode cX1_feed 14 = .ok (.ireturn, 1) := dk_172 (dk_at dksX1_feed_0 14 rfl rfl)
theorem dX1_feed_15 : decode cX1_feed 15 = .ok (.iconst 0, 1) := dk_3 (dk_at dksX1_feed_0 15 rfl rfl)
theorem dX1_feed_16 : decode cX1_feed 16 = .ok (.istore 6, 2) := dk_54 6 (dk_at dksX1_feed_0 16 rfl rfl)
theorem dX1_feed_18 : decode cX1_feed 18 = .ok (.iload 6, 2) := dk_21 6 (dk_at dksX1_feed_0 18 rfl rfl)
theorem dX1_feed_20 : decode cX1_feed 20 = .ok (.bipush 20, 2) := dk_16 20 (dk_at dksX1_feed_0 20 rfl rfl)
theorem dX1_feed_22 : decode cX1_feed 22 = .ok (.if_icmp .ge 83, 3) := dk_162 0 83 (dk_at dksX1_feed_1 0 rfl rfl)
theorem dX1_feed_25 : decode cX1_feed 25 = .ok (.iload 6, 2) := dk_21 6 (dk_at dksX1_feed_1 3 rfl rfl)
theorem dX1_feed_27 : decode cX1_feed 27 = .ok (.iconst 4, 1) := dk_7 (dk_at dksX1_feed_1 5 rfl rfl)
theorem dX1_feed_28 : decode cX1_feed 28 = .ok (.if_icmp .ge 7, 3) := dk_162 0 7 (dk_at dksX1_feed_1 6 rfl rfl)
theorem dX1_feed_31 : decode cX1_feed 31 = .ok (.iload_n 1, 1) := dk_27 (dk_at dksX1_feed_1 9 rfl rfl)
theorem dX1_feed_32 : decode cX1_feed 32 = .ok (.goto 39, 3) := dk_167 0 39 (dk_at dksX1_feed_1 10 rfl rfl)
theorem dX1_feed_35 : decode cX1_feed 35 = .ok (.iload 6, 2) := dk_21 6 (dk_at dksX1_feed_1 13 rfl rfl)
theorem dX1_feed_37 : decode cX1_feed 37 = .ok (.bipush 8, 2) := dk_16 8 (dk_at dksX1_feed_1 15 rfl rfl)
theorem dX1_feed_39 : decode cX1_feed 39 = .ok (.if_icmp .ge 7, 3) := dk_162 0 7 (dk_at dksX1_feed_1 17 rfl rfl)
theorem dX1_feed_42 : decode cX1_feed 42 = .ok (.iload_n 2, 1) := dk_28 (dk_at dksX1_feed_1 20 rfl rfl)
theorem dX1_feed_43 : decode cX1_feed 43 = .ok (.goto 28, 3) := dk_167 0 28 (dk_at dksX1_feed_1 21 rfl rfl)
theorem dX1_feed_46 : decode cX1_feed 46 = .ok (.iload 6, 2) := dk_21 6 (dk_at dksX1_feed_2 0 rfl rfl)
theorem dX1_feed_48 : decode cX1_feed 48 = .ok (.bipush 12, 2) := dk_16 12 (dk_at dksX1_feed_2 2 rfl rfl)
theorem dX1_feed_50 : decode cX1_feed 50 = .ok (.if_icmp .ge 7, 3) := dk_162 0 7 (dk_at dksX1_feed_2 4 rfl rfl)
theorem dX1_feed_53 : decode cX1_feed 53 = .ok (.iload_n 3, 1) := dk_29 (dk_at dksX1_feed_2 7 rfl rfl)
theorem dX1_feed_54 : decode cX1_feed 54 = .ok (.goto 17, 3) := dk_167 0 17 (dk_at dksX1_feed_2 8 rfl rfl)
theorem dX1_feed_57 : decode cX1_feed 57 = .ok (.iload 6, 2) := dk_21 6 (dk_at dksX1_feed_2 11 rfl rfl)
theorem dX1_feed_59 : decode cX1_feed 59 = .ok (.bipush 16, 2) := dk_16 16 (dk_at dksX1_feed_2 13 rfl rfl)
theorem dX1_feed_61 : decode cX1_feed 61 = .ok (.if_icmp .ge 8, 3) := dk_162 0 8 (dk_at dksX1_feed_2 15 rfl rfl)
theorem dX1_feed_64 : decode cX1_feed 64 = .ok (.iload 4, 2) := dk_21 4 (dk_at dksX1_feed_2 18 rfl rfl)
theorem dX1_feed_66 : decode cX1_feed 66 = .ok (.goto 5, 3) := dk_167 0 5 (dk_at dksX1_feed_2 20 rfl rfl)
theorem dX1_feed_69 : decode cX1_feed 69 = .ok (.iload 5, 2) := dk_21 5 (dk_at dksX1_feed_3 0 rfl rfl)
theorem dX1_feed_71 : decode cX1_feed 71 = .ok (.istore 7, 2) := dk_54 7 (dk_at dksX1_feed_3 2 rfl rfl)
theorem dX1_feed_73 : decode cX1_feed 73 = .ok (.aload_n 0, 1) := dk_42 (dk_at dksX1_feed_3 4 rfl rfl)
theorem dX1_feed_74 : decode cX1_feed 74 = .ok (.getfield 41, 3) := dk_180 0 41 (dk_at dksX1_feed_3 5 rfl rfl)
theorem dX1_feed_77 : decode cX1_feed 77 = .ok (.aload_n 0, 1) := dk_42 (dk_at dksX1_feed_3 8 rfl rfl)
theorem dX1_feed_78 : decode cX1_feed 78 = .ok (.getfield 62, 3) := dk_180 0 62 (dk_at dksX1_feed_3 9 rfl rfl)
theorem dX1_feed_81 : decode cX1_feed 81 = .ok (.iload 6, 2) := dk_21 6 (dk_at dksX1_feed_3 12 rfl rfl)
theorem dX1_feed_83 : decode cX1_feed 83 = .ok (.iadd, 1) := dk_96 (dk_at dksX1_feed_3 14 rfl rfl)
theorem dX1_feed_84 : decode cX1_feed 84 = .ok (.iload 7, 2) := dk_21 7 (dk_at dksX1_feed_3 15 rfl rfl)
theorem dX1_feed_86 : decode cX1_feed 86 = .ok (.bipush 24, 2) := dk_16 24 (dk_at dksX1_feed_3 17 rfl rfl)
theorem dX1_feed_88 : decode cX1_feed 88 = .ok (.bipush 8, 2) := dk_16 8 (dk_at dksX1_feed_3 19 rfl rfl)
theorem dX1_feed_90 : decode cX1_feed 90 = .ok (.iload 6, 2) := dk_21 6 (dk_at dksX1_feed_3 21 rfl rfl)
theorem dX1_feed_92 : decode cX1_feed 92 = .ok (.iconst 4, 1) := dk_7 (dk_at dksX1_feed_3 23 rfl rfl)
theorem dX1_feed_93 : decode cX1_feed 93 = .ok (.irem, 1) := dk_112 (dk_at dksX1_feed_4 0 rfl rfl)
theorem dX1_feed_94 : decode cX1_feed 94 = .ok (.imul, 1) := dk_104 (dk_at dksX1_feed_4 1 rfl rfl)
theorem dX1_feed_95 : decode cX1_feed 95 = .ok (.isub, 1) := dk_100 (dk_at dksX1_feed_4 2 rfl rfl)
theorem dX1_feed_96 : decode cX1_feed 96 = .ok (.ishr, 1) := dk_122 (dk_at dksX1_feed_4 3 rfl rfl)
theorem dX1_feed_97 : decode cX1_feed 97 = .ok (.i2b, 1) := dk_145 (dk_at dksX1_feed_4 4 rfl rfl)
theorem dX1_feed_98 : decode cX1_feed 98 = .ok (.bastore, 1) := dk_84 (dk_at dksX1_feed_4 5 rfl rfl)
theorem dX1_feed_99 : decode cX1_feed 99 = .ok (.iinc 6 1, 3) := dk_132 6 1 (dk_at dksX1_feed_4 6 rfl rfl)
theorem dX1_feed_102 : decode cX1_feed 102 = .ok (.goto (-84), 3) := dk_167 255 172 (dk_at dksX1_feed_4 9 rfl rfl)
theorem dX1_feed_105 : decode cX1_feed 105 = .ok (.aload_n 0, 1) := dk_42 (dk_at dksX1_feed_4 12 rfl rfl)
theorem dX1_feed_106 : decode cX1_feed 106 = .ok (.dup, 1) := dk_89 (dk_at dksX1_feed_4 13 rfl rfl)
theorem dX1_feed_107 : decode cX1_feed 107 = .ok (.getfield 62, 3) := dk_180 0 62 (dk_at dksX1_feed_4 14 rfl rfl)
theorem dX1_feed_110 : decode cX1_feed 110 = .ok (.bipush 20, 2) := dk_16 20 (dk_at dksX1_feed_4 17 rfl rfl)
theorem dX1_feed_112 : decode cX1_feed 112 = .ok (.iadd, 1) := dk_96 (dk_at dksX1_feed_4 19 rfl rfl)
theorem dX1_feed_113 : decode cX1_feed 113 = .ok (.putfield 62, 3) := dk_181 0 62 (dk_at dksX1_feed_4 20 rfl rfl)
theorem dX1_feed_116 : decode cX1_feed 116 = .ok (.aload_n 0, 1) := dk_42 (dk_at dksX1_feed_4 23 rfl rfl)
theorem dX1_feed_117 : decode cX1_feed 117 = .ok (.getfield 62, 3) := dk_180 0 62 (dk_at dksX1_feed_5 0 rfl rfl)
theorem dX1_feed_120 : decode cX1_feed 120 = .ok (.ireturn, 1) := dk_172 (dk_at dksX1_feed_5 3 rfl rfl)
abbrev mX1_feed : xM := (yX1_feed, cX1_feed, 8, (some .int), [])
def c_X1_feed_71 (k18 : Option Nat → Int32 → Int32 → Int32 → Int32 → Int32 → Int32 → xF → Option (Int32 × xF)) (x0 : Option Nat) (x1 : Int32) (x2 : Int32) (x3 : Int32) (x4 : Int32) (x5 : Int32) (x6 : Int32) (y0 : Int32) (T : xF) : Option (Int32 × xF) :=
  (oQ T x0 0 5).bind fun v74 =>
  (oI T x0 0 6).bind fun v78 =>
  if (4 : Int32) = 0 then none else
  (stA T v74 .byte (v78 + x6) (vp_nar .byte ((y0 >>> (((24 : Int32) - ((8 : Int32) * (x6 - x6 / (4 : Int32) * (4 : Int32)))) &&& 31)).toInt8.toInt32))).bind fun T98 =>
  k18 x0 x1 x2 x3 x4 x5 (x6 + 1) T98
theorem c_X1_feed_71_ok {G : xG}  {T0 : xF} {k18 : Option Nat → Int32 → Int32 → Int32 → Int32 → Int32 → Int32 → xF → Option (Int32 × xF)} (hk18 : ∀ (x0 : Option Nat) (x1 : Int32) (x2 : Int32) (x3 : Int32) (x4 : Int32) (x5 : Int32) (x6 : Int32) (T : xF) (q : (Int32 × xF)), k18 x0 x1 x2 x3 x4 x5 x6 T = some q → Xr G (mX1_feed, xrm (1) T0 q.2, T0, .inl (some (.int q.1)), q.2) 18 [(0, va_rf x0), (1, .int x1), (2, .int x2), (3, .int x3), (4, .int x4), (5, .int x5), (6, .int x6)] [] T) (x0 : Option Nat) (x1 : Int32) (x2 : Int32) (x3 : Int32) (x4 : Int32) (x5 : Int32) (x6 : Int32) (y0 : Int32) (T : xF) (q : (Int32 × xF)) (hf : c_X1_feed_71 k18 x0 x1 x2 x3 x4 x5 x6 y0 T = some q) : Xr G (mX1_feed, xrm (1) T0 q.2, T0, .inl (some (.int q.1)), q.2) 71 [(0, va_rf x0), (1, .int x1), (2, .int x2), (3, .int x3), (4, .int x4), (5, .int x5), (6, .int x6)] [.int y0] T := by
  unfold c_X1_feed_71 at hf
  refine C.ist (L' := [(7, .int y0), (0, va_rf x0), (1, .int x1), (2, .int x2), (3, .int x3), (4, .int x4), (5, .int x5), (6, .int x6)]) dX1_feed_71 (Nat.le_of_ble_eq_true rfl) (xcQ (xcI (xcI (xcI (xcI (xcI (xcI xcN))))))) rfl ?_
  refine C.aload_n dX1_feed_73 rfl 1 rfl ?_
  obtain ⟨v74, h74, hf⟩ := ob hf
  refine C.getQ dX1_feed_74 rX1_41 h74 ?_
  refine C.aload_n dX1_feed_77 rfl 1 rfl ?_
  obtain ⟨v78, h78, hf⟩ := ob hf
  refine C.getI dX1_feed_78 rX1_62 h78 ?_
  refine X.iload dX1_feed_81 7 rfl ?_
  refine X.iadd dX1_feed_83 ?_
  refine X.iload dX1_feed_84 0 rfl ?_
  refine X.bipush (v := 24) dX1_feed_86 (by decide) ?_
  refine X.bipush (v := 8) dX1_feed_88 (by decide) ?_
  refine X.iload dX1_feed_90 7 rfl ?_
  refine X.iconst (v := 4) dX1_feed_92 (by decide) ?_
  obtain ⟨c93, hf⟩ := if_n hf
  refine X.irem dX1_feed_93 c93 ?_
  refine X.imul dX1_feed_94 ?_
  refine X.isub dX1_feed_95 ?_
  refine X.ishr dX1_feed_96 ?_
  refine X.i2b dX1_feed_97 rfl ?_
  obtain ⟨T98, h98, hf⟩ := ob hf
  refine C.bast dX1_feed_98 h98 ?_
  refine C.iinc (v := (x6 + 1)) (L' := [(6, .int (x6 + 1)), (7, .int y0), (0, va_rf x0), (1, .int x1), (2, .int x2), (3, .int x3), (4, .int x4), (5, .int x5)]) dX1_feed_99 7 rfl rfl (Nat.le_of_ble_eq_true rfl) (xcI (xcQ (xcI (xcI (xcI (xcI (xcI (xcI xcN)))))))) rfl ?_
  refine X.goto (tgt := 18) dX1_feed_102 (by decide) ?_
  refine X.sub [2, 3, 4, 5, 6, 7, 0] (L' := [(0, va_rf x0), (1, .int x1), (2, .int x2), (3, .int x3), (4, .int x4), (5, .int x5), (6, .int (x6 + 1))]) rfl ?_
  exact hk18 _ _ _ _ _ _ _ _ _ hf
def c_X1_feed_18_b (k18 : Option Nat → Int32 → Int32 → Int32 → Int32 → Int32 → Int32 → xF → Option (Int32 × xF)) (x0 : Option Nat) (x1 : Int32) (x2 : Int32) (x3 : Int32) (x4 : Int32) (x5 : Int32) (x6 : Int32) (T : xF) : Option (Int32 × xF) :=
  if (20 : Int32) ≤ x6 then
    (oI T x0 0 6).bind fun v107 =>
    (pV T x0 0 6 (.int (v107 + (20 : Int32)))).bind fun T113 =>
    (oI T113 x0 0 6).bind fun v117 =>
    some (v117, T113)
  else
    if (4 : Int32) ≤ x6 then
      if (8 : Int32) ≤ x6 then
        if (12 : Int32) ≤ x6 then
          if (16 : Int32) ≤ x6 then
            c_X1_feed_71 k18 x0 x1 x2 x3 x4 x5 x6 x5 T
          else
            c_X1_feed_71 k18 x0 x1 x2 x3 x4 x5 x6 x4 T
        else
          c_X1_feed_71 k18 x0 x1 x2 x3 x4 x5 x6 x3 T
      else
        c_X1_feed_71 k18 x0 x1 x2 x3 x4 x5 x6 x2 T
    else
      c_X1_feed_71 k18 x0 x1 x2 x3 x4 x5 x6 x1 T
def c_X1_feed_18 : Nat → Option Nat → Int32 → Int32 → Int32 → Int32 → Int32 → Int32 → xF → Option (Int32 × xF)
  | 0 => fun _ _ _ _ _ _ _ _ => none
  | n + 1 => fun x0 x1 x2 x3 x4 x5 x6 T => c_X1_feed_18_b (c_X1_feed_18 n) x0 x1 x2 x3 x4 x5 x6 T
theorem c_X1_feed_18_bok {G : xG}  {T0 : xF}  {k18 : Option Nat → Int32 → Int32 → Int32 → Int32 → Int32 → Int32 → xF → Option (Int32 × xF)}  (hk18 : ∀ (x0 : Option Nat) (x1 : Int32) (x2 : Int32) (x3 : Int32) (x4 : Int32) (x5 : Int32) (x6 : Int32) (T : xF) (q : (Int32 × xF)), k18 x0 x1 x2 x3 x4 x5 x6 T = some q → Xr G (mX1_feed, xrm (1) T0 q.2, T0, .inl (some (.int q.1)), q.2) 18 [(0, va_rf x0), (1, .int x1), (2, .int x2), (3, .int x3), (4, .int x4), (5, .int x5), (6, .int x6)] [] T) (x0 : Option Nat) (x1 : Int32) (x2 : Int32) (x3 : Int32) (x4 : Int32) (x5 : Int32) (x6 : Int32) (T : xF) (q : (Int32 × xF)) (hf : c_X1_feed_18_b k18 x0 x1 x2 x3 x4 x5 x6 T = some q) : Xr G (mX1_feed, xrm (1) T0 q.2, T0, .inl (some (.int q.1)), q.2) 18 [(0, va_rf x0), (1, .int x1), (2, .int x2), (3, .int x3), (4, .int x4), (5, .int x5), (6, .int x6)] [] T := by
  unfold c_X1_feed_18_b at hf
  refine X.iload dX1_feed_18 6 rfl ?_
  refine X.bipush (v := 20) dX1_feed_20 (by decide) ?_
  refine X.icmp_ge (tgt := 105) dX1_feed_22 (by decide) (fun c22 => ?_) (fun c22 => ?_)
  · have hf := if_t c22 hf
    refine C.aload_n dX1_feed_105 rfl 0 rfl ?_
    refine X.dup dX1_feed_106 (cat1 _) ?_
    obtain ⟨v107, h107, hf⟩ := ob hf
    refine C.getI dX1_feed_107 rX1_62 h107 ?_
    refine X.bipush (v := 20) dX1_feed_110 (by decide) ?_
    refine X.iadd dX1_feed_112 ?_
    obtain ⟨T113, h113, hf⟩ := ob hf
    refine C.putI dX1_feed_113 fX1_62 (fun q => by cases q) rfl rfl h113 ?_
    refine C.aload_n dX1_feed_116 rfl 0 rfl ?_
    obtain ⟨v117, h117, hf⟩ := ob hf
    refine C.getI dX1_feed_117 rX1_62 h117 ?_
    obtain rfl := Option.some.inj hf
    exact X.iret dX1_feed_120 rfl rfl rfl
  · have hf := if_f c22 hf
    refine X.iload dX1_feed_25 6 rfl ?_
    refine X.iconst (v := 4) dX1_feed_27 (by decide) ?_
    refine X.icmp_ge (tgt := 35) dX1_feed_28 (by decide) (fun c28 => ?_) (fun c28 => ?_)
    · have hf := if_t c28 hf
      refine X.iload dX1_feed_35 6 rfl ?_
      refine X.bipush (v := 8) dX1_feed_37 (by decide) ?_
      refine X.icmp_ge (tgt := 46) dX1_feed_39 (by decide) (fun c39 => ?_) (fun c39 => ?_)
      · have hf := if_t c39 hf
        refine X.iload dX1_feed_46 6 rfl ?_
        refine X.bipush (v := 12) dX1_feed_48 (by decide) ?_
        refine X.icmp_ge (tgt := 57) dX1_feed_50 (by decide) (fun c50 => ?_) (fun c50 => ?_)
        · have hf := if_t c50 hf
          refine X.iload dX1_feed_57 6 rfl ?_
          refine X.bipush (v := 16) dX1_feed_59 (by decide) ?_
          refine X.icmp_ge (tgt := 69) dX1_feed_61 (by decide) (fun c61 => ?_) (fun c61 => ?_)
          · have hf := if_t c61 hf
            refine X.iload dX1_feed_69 5 rfl ?_
            refine X.sub [0, 1, 2, 3, 4, 5, 6] (L' := [(0, va_rf x0), (1, .int x1), (2, .int x2), (3, .int x3), (4, .int x4), (5, .int x5), (6, .int x6)]) rfl ?_
            exact c_X1_feed_71_ok hk18 _ _ _ _ _ _ _ _ _ _ hf
          · have hf := if_f c61 hf
            refine X.iload dX1_feed_64 4 rfl ?_
            refine X.goto (tgt := 71) dX1_feed_66 (by decide) ?_
            refine X.sub [0, 1, 2, 3, 4, 5, 6] (L' := [(0, va_rf x0), (1, .int x1), (2, .int x2), (3, .int x3), (4, .int x4), (5, .int x5), (6, .int x6)]) rfl ?_
            exact c_X1_feed_71_ok hk18 _ _ _ _ _ _ _ _ _ _ hf
        · have hf := if_f c50 hf
          refine X.iload_n dX1_feed_53 rfl 3 rfl ?_
          refine X.goto (tgt := 71) dX1_feed_54 (by decide) ?_
          refine X.sub [0, 1, 2, 3, 4, 5, 6] (L' := [(0, va_rf x0), (1, .int x1), (2, .int x2), (3, .int x3), (4, .int x4), (5, .int x5), (6, .int x6)]) rfl ?_
          exact c_X1_feed_71_ok hk18 _ _ _ _ _ _ _ _ _ _ hf
      · have hf := if_f c39 hf
        refine X.iload_n dX1_feed_42 rfl 2 rfl ?_
        refine X.goto (tgt := 71) dX1_feed_43 (by decide) ?_
        refine X.sub [0, 1, 2, 3, 4, 5, 6] (L' := [(0, va_rf x0), (1, .int x1), (2, .int x2), (3, .int x3), (4, .int x4), (5, .int x5), (6, .int x6)]) rfl ?_
        exact c_X1_feed_71_ok hk18 _ _ _ _ _ _ _ _ _ _ hf
    · have hf := if_f c28 hf
      refine X.iload_n dX1_feed_31 rfl 1 rfl ?_
      refine X.goto (tgt := 71) dX1_feed_32 (by decide) ?_
      refine X.sub [0, 1, 2, 3, 4, 5, 6] (L' := [(0, va_rf x0), (1, .int x1), (2, .int x2), (3, .int x3), (4, .int x4), (5, .int x5), (6, .int x6)]) rfl ?_
      exact c_X1_feed_71_ok hk18 _ _ _ _ _ _ _ _ _ _ hf
theorem c_X1_feed_18_ok {G : xG}  {T0 : xF}   : ∀ (n : Nat) (x0 : Option Nat) (x1 : Int32) (x2 : Int32) (x3 : Int32) (x4 : Int32) (x5 : Int32) (x6 : Int32) (T : xF) (q : (Int32 × xF)), c_X1_feed_18 n x0 x1 x2 x3 x4 x5 x6 T = some q → Xr G (mX1_feed, xrm (1) T0 q.2, T0, .inl (some (.int q.1)), q.2) 18 [(0, va_rf x0), (1, .int x1), (2, .int x2), (3, .int x3), (4, .int x4), (5, .int x5), (6, .int x6)] [] T
  | 0, _, _, _, _, _, _, _, _, _, hf => by cases hf
  | n + 1, x0, x1, x2, x3, x4, x5, x6, T, q, hf => c_X1_feed_18_bok (c_X1_feed_18_ok n) x0 x1 x2 x3 x4 x5 x6 T q hf
def c_X1_feed (x0 : Option Nat) (x1 : Int32) (x2 : Int32) (x3 : Int32) (x4 : Int32) (x5 : Int32) (T : xF) : Option (Int32 × xF) :=
  (oI T x0 0 6).bind fun v1 =>
  if (v1 + (20 : Int32)) ≤ (700 : Int32) then
    c_X1_feed_18 FU x0 x1 x2 x3 x4 x5 (0 : Int32) T
  else
    some ((-1 : Int32), T)
theorem w_X1_feed {G : xG}  {T : xF} {x0 : Option Nat} {x1 : Int32} {x2 : Int32} {x3 : Int32} {x4 : Int32} {x5 : Int32} {q : (Int32 × xF)} (hf : c_X1_feed x0 x1 x2 x3 x4 x5 T = some q) : Ct G mX1_feed (1) T [va_rf x0, .int x1, .int x2, .int x3, .int x4, .int x5] (.inl (some (.int q.1))) q.2 := by
  refine Ct.ofc (plainFor_of_name (by decide +kernel)) rfl (xvQ (xvI (xvI (xvI (xvI (xvI xvN)))))) (Nat.le_of_ble_eq_true rfl) (show Xr G _ 0 [(0, va_rf x0), (1, .int x1), (2, .int x2), (3, .int x3), (4, .int x4), (5, .int x5)] [] _ from ?_)
  unfold c_X1_feed at hf
  refine C.aload_n dX1_feed_0 rfl 0 rfl ?_
  obtain ⟨v1, h1, hf⟩ := ob hf
  refine C.getI dX1_feed_1 rX1_62 h1 ?_
  refine X.bipush (v := 20) dX1_feed_4 (by decide) ?_
  refine X.iadd dX1_feed_6 ?_
  refine X.sipush (v := 700) dX1_feed_7 (by decide) ?_
  refine X.icmp_le (tgt := 15) dX1_feed_10 (by decide) (fun c10 => ?_) (fun c10 => ?_)
  · have hf := if_t c10 hf
    refine X.iconst (v := 0) dX1_feed_15 (by decide) ?_
    refine C.ist (L' := [(6, .int (0 : Int32)), (0, va_rf x0), (1, .int x1), (2, .int x2), (3, .int x3), (4, .int x4), (5, .int x5)]) dX1_feed_16 (Nat.le_of_ble_eq_true rfl) (xcQ (xcI (xcI (xcI (xcI (xcI xcN)))))) rfl ?_
    refine X.sub [1, 2, 3, 4, 5, 6, 0] (L' := [(0, va_rf x0), (1, .int x1), (2, .int x2), (3, .int x3), (4, .int x4), (5, .int x5), (6, .int (0 : Int32))]) rfl ?_
    exact c_X1_feed_18_ok FU _ _ _ _ _ _ _ _ _ hf
  · have hf := if_f c10 hf
    refine X.iconst (v := -1) dX1_feed_13 (by decide) ?_
    obtain rfl := Option.some.inj hf
    exact X.iret dX1_feed_14 rfl rfl rfl
/-! MouldVotes <init> -/
abbrev cX1_init : ByteArray := prog_1_method_5_code
def yX1_init : MethodName := ⟨RX1, "<init>", "()V"⟩
def dkwX1_init_4 : List UInt8 := [187, 0, 52, 89, 183, 0, 54, 181, 0, 59, 177]
abbrev dktX1_init_4 : List UInt8 := dkwX1_init_4 ++ []
def dkwX1_init_3 : List UInt8 := [181, 0, 45, 42, 6, 188, 10, 181, 0, 49, 42, 187, 0, 52, 89, 183, 0, 54, 181, 0, 55, 42]
abbrev dktX1_init_3 : List UInt8 := dkwX1_init_3 ++ dktX1_init_4
def dkwX1_init_2 : List UInt8 := [187, 0, 26, 89, 42, 183, 0, 28, 181, 0, 38, 42, 17, 2, 188, 188, 8, 181, 0, 41, 42, 2]
abbrev dktX1_init_2 : List UInt8 := dkwX1_init_2 ++ dktX1_init_3
def dkwX1_init_1 : List UInt8 := [187, 0, 26, 89, 42, 183, 0, 28, 181, 0, 31, 42, 187, 0, 26, 89, 42, 183, 0, 28, 181, 0, 35, 42]
abbrev dktX1_init_1 : List UInt8 := dkwX1_init_1 ++ dktX1_init_2
def dkwX1_init_0 : List UInt8 := [42, 183, 0, 10, 42, 16, 7, 188, 10, 181, 0, 13, 42, 187, 0, 19, 89, 183, 0, 21, 181, 0, 22, 42]
abbrev dktX1_init_0 : List UInt8 := dkwX1_init_0 ++ dktX1_init_1
theorem dksX1_init_0 : cX1_init.data.toList.drop 0 = dktX1_init_0 := by decide +kernel
theorem dksX1_init_1 : cX1_init.data.toList.drop 24 = dktX1_init_1 := dk_seg dksX1_init_0 24 rfl rfl
theorem dksX1_init_2 : cX1_init.data.toList.drop 48 = dktX1_init_2 := dk_seg dksX1_init_1 24 rfl rfl
theorem dksX1_init_3 : cX1_init.data.toList.drop 70 = dktX1_init_3 := dk_seg dksX1_init_2 22 rfl rfl
theorem dksX1_init_4 : cX1_init.data.toList.drop 92 = dktX1_init_4 := dk_seg dksX1_init_3 22 rfl rfl
theorem dX1_init_0 : decode cX1_init 0 = .ok (.aload_n 0, 1) := dk_42 (dk_at dksX1_init_0 0 rfl rfl)
theorem dX1_init_1 : decode cX1_init 1 = .ok (.invokespecial 10, 3) := dk_183 0 10 (dk_at dksX1_init_0 1 rfl rfl)
theorem dX1_init_4 : decode cX1_init 4 = .ok (.aload_n 0, 1) := dk_42 (dk_at dksX1_init_0 4 rfl rfl)
theorem dX1_init_5 : decode cX1_init 5 = .ok (.bipush 7, 2) := dk_16 7 (dk_at dksX1_init_0 5 rfl rfl)
theorem dX1_init_7 : decode cX1_init 7 = .ok (.newarray .int, 2) := dk_188_10 (dk_at dksX1_init_0 7 rfl rfl)
theorem dX1_init_9 : decode cX1_init 9 = .ok (.putfield 13, 3) := dk_181 0 13 (dk_at dksX1_init_0 9 rfl rfl)
theorem dX1_init_12 : decode cX1_init 12 = .ok (.aload_n 0, 1) := dk_42 (dk_at dksX1_init_0 12 rfl rfl)
theorem dX1_init_13 : decode cX1_init 13 = .ok (.new 19, 3) := dk_187 0 19 (dk_at dksX1_init_0 13 rfl rfl)
theorem dX1_init_16 : decode cX1_init 16 = .ok (.dup, 1) := dk_89 (dk_at dksX1_init_0 16 rfl rfl)
theorem dX1_init_17 : decode cX1_init 17 = .ok (.invokespecial 21, 3) := dk_183 0 21 (dk_at dksX1_init_0 17 rfl rfl)
theorem dX1_init_20 : decode cX1_init 20 = .ok (.putfield 22, 3) := dk_181 0 22 (dk_at dksX1_init_0 20 rfl rfl)
theorem dX1_init_23 : decode cX1_init 23 = .ok (.aload_n 0, 1) := dk_42 (dk_at dksX1_init_0 23 rfl rfl)
theorem dX1_init_24 : decode cX1_init 24 = .ok (.new 26, 3) := dk_187 0 26 (dk_at dksX1_init_1 0 rfl rfl)
theorem dX1_init_27 : decode cX1_init 27 = .ok (.dup, 1) := dk_89 (dk_at dksX1_init_1 3 rfl rfl)
theorem dX1_init_28 : decode cX1_init 28 = .ok (.aload_n 0, 1) := dk_42 (dk_at dksX1_init_1 4 rfl rfl)
theorem dX1_init_29 : decode cX1_init 29 = .ok (.invokespecial 28, 3) := dk_183 0 28 (dk_at dksX1_init_1 5 rfl rfl)
theorem dX1_init_32 : decode cX1_init 32 = .ok (.putfield 31, 3) := dk_181 0 31 (dk_at dksX1_init_1 8 rfl rfl)
theorem dX1_init_35 : decode cX1_init 35 = .ok (.aload_n 0, 1) := dk_42 (dk_at dksX1_init_1 11 rfl rfl)
theorem dX1_init_36 : decode cX1_init 36 = .ok (.new 26, 3) := dk_187 0 26 (dk_at dksX1_init_1 12 rfl rfl)
theorem dX1_init_39 : decode cX1_init 39 = .ok (.dup, 1) := dk_89 (dk_at dksX1_init_1 15 rfl rfl)
theorem dX1_init_40 : decode cX1_init 40 = .ok (.aload_n 0, 1) := dk_42 (dk_at dksX1_init_1 16 rfl rfl)
theorem dX1_init_41 : decode cX1_init 41 = .ok (.invokespecial 28, 3) := dk_183 0 28 (dk_at dksX1_init_1 17 rfl rfl)
theorem dX1_init_44 : decode cX1_init 44 = .ok (.putfield 35, 3) := dk_181 0 35 (dk_at dksX1_init_1 20 rfl rfl)
theorem dX1_init_47 : decode cX1_init 47 = .ok (.aload_n 0, 1) := dk_42 (dk_at dksX1_init_1 23 rfl rfl)
theorem dX1_init_48 : decode cX1_init 48 = .ok (.new 26, 3) := dk_187 0 26 (dk_at dksX1_init_2 0 rfl rfl)
theorem dX1_init_51 : decode cX1_init 51 = .ok (.dup, 1) := dk_89 (dk_at dksX1_init_2 3 rfl rfl)
theorem dX1_init_52 : decode cX1_init 52 = .ok (.aload_n 0, 1) := dk_42 (dk_at dksX1_init_2 4 rfl rfl)
theorem dX1_init_53 : decode cX1_init 53 = .ok (.invokespecial 28, 3) := dk_183 0 28 (dk_at dksX1_init_2 5 rfl rfl)
theorem dX1_init_56 : decode cX1_init 56 = .ok (.putfield 38, 3) := dk_181 0 38 (dk_at dksX1_init_2 8 rfl rfl)
theorem dX1_init_59 : decode cX1_init 59 = .ok (.aload_n 0, 1) := dk_42 (dk_at dksX1_init_2 11 rfl rfl)
theorem dX1_init_60 : decode cX1_init 60 = .ok (.sipush 700, 3) := dk_17 2 188 (dk_at dksX1_init_2 12 rfl rfl)
theorem dX1_init_63 : decode cX1_init 63 = .ok (.newarray .byte, 2) := dk_188_8 (dk_at dksX1_init_2 15 rfl rfl)
theorem dX1_init_65 : decode cX1_init 65 = .ok (.putfield 41, 3) := dk_181 0 41 (dk_at dksX1_init_2 17 rfl rfl)
theorem dX1_init_68 : decode cX1_init 68 = .ok (.aload_n 0, 1) := dk_42 (dk_at dksX1_init_2 20 rfl rfl)
theorem dX1_init_69 : decode cX1_init 69 = .ok (.iconst (-1), 1) := dk_2 (dk_at dksX1_init_2 21 rfl rfl)
theorem dX1_init_70 : decode cX1_init 70 = .ok (.putfield 45, 3) := dk_181 0 45 (dk_at dksX1_init_3 0 rfl rfl)
theorem dX1_init_73 : decode cX1_init 73 = .ok (.aload_n 0, 1) := dk_42 (dk_at dksX1_init_3 3 rfl rfl)
theorem dX1_init_74 : decode cX1_init 74 = .ok (.iconst 3, 1) := dk_6 (dk_at dksX1_init_3 4 rfl rfl)
theorem dX1_init_75 : decode cX1_init 75 = .ok (.newarray .int, 2) := dk_188_10 (dk_at dksX1_init_3 5 rfl rfl)
theorem dX1_init_77 : decode cX1_init 77 = .ok (.putfield 49, 3) := dk_181 0 49 (dk_at dksX1_init_3 7 rfl rfl)
theorem dX1_init_80 : decode cX1_init 80 = .ok (.aload_n 0, 1) := dk_42 (dk_at dksX1_init_3 10 rfl rfl)
theorem dX1_init_81 : decode cX1_init 81 = .ok (.new 52, 3) := dk_187 0 52 (dk_at dksX1_init_3 11 rfl rfl)
theorem dX1_init_84 : decode cX1_init 84 = .ok (.dup, 1) := dk_89 (dk_at dksX1_init_3 14 rfl rfl)
theorem dX1_init_85 : decode cX1_init 85 = .ok (.invokespecial 54, 3) := dk_183 0 54 (dk_at dksX1_init_3 15 rfl rfl)
theorem dX1_init_88 : decode cX1_init 88 = .ok (.putfield 55, 3) := dk_181 0 55 (dk_at dksX1_init_3 18 rfl rfl)
theorem dX1_init_91 : decode cX1_init 91 = .ok (.aload_n 0, 1) := dk_42 (dk_at dksX1_init_3 21 rfl rfl)
theorem dX1_init_92 : decode cX1_init 92 = .ok (.new 52, 3) := dk_187 0 52 (dk_at dksX1_init_4 0 rfl rfl)
theorem dX1_init_95 : decode cX1_init 95 = .ok (.dup, 1) := dk_89 (dk_at dksX1_init_4 3 rfl rfl)
theorem dX1_init_96 : decode cX1_init 96 = .ok (.invokespecial 54, 3) := dk_183 0 54 (dk_at dksX1_init_4 4 rfl rfl)
theorem dX1_init_99 : decode cX1_init 99 = .ok (.putfield 59, 3) := dk_181 0 59 (dk_at dksX1_init_4 7 rfl rfl)
theorem dX1_init_102 : decode cX1_init 102 = .ok (.return_, 1) := dk_177 (dk_at dksX1_init_4 10 rfl rfl)
abbrev mX1_init : xM := (yX1_init, cX1_init, 1, none, [])
def c_X1_init (G : xG) (x0 : Option Nat) (T : xF) : Option (Unit × xF) :=
  if ¬ x0.isSome = true then none else
  if (7 : Int32) < 0 ∨ 100000000 ≤ (7 : Int32).toNatClampNeg then none else
  al (nA T .int (7 : Int32).toNatClampNeg) fun T7 =>
  (pV T7 x0 0 0 (va_rf (some T.2.1))).bind fun T9 =>
  al (nO T9 1 8 [.null, .null, .int 0, .int 0, .int 0, .int 0, .null, .null]) fun T13 =>
  cl (c_X2_init G (some T9.2.1) T13) T13 fun v17 T17 =>
  (pV T17 x0 0 1 (va_rf (some T9.2.1))).bind fun T20 =>
  al (nO T20 2 6 [.null, .null, .null, .null, .int 0, .null]) fun T24 =>
  cl (c_X3_init (some T20.2.1) x0 T24) T24 fun v29 T29 =>
  (pV T29 x0 0 2 (va_rf (some T20.2.1))).bind fun T32 =>
  al (nO T32 2 6 [.null, .null, .null, .null, .int 0, .null]) fun T36 =>
  cl (c_X3_init (some T32.2.1) x0 T36) T36 fun v41 T41 =>
  (pV T41 x0 0 3 (va_rf (some T32.2.1))).bind fun T44 =>
  al (nO T44 2 6 [.null, .null, .null, .null, .int 0, .null]) fun T48 =>
  cl (c_X3_init (some T44.2.1) x0 T48) T48 fun v53 T53 =>
  (pV T53 x0 0 4 (va_rf (some T44.2.1))).bind fun T56 =>
  if (700 : Int32) < 0 ∨ 100000000 ≤ (700 : Int32).toNatClampNeg then none else
  al (nA T56 .byte (700 : Int32).toNatClampNeg) fun T63 =>
  (pV T63 x0 0 5 (va_rf (some T56.2.1))).bind fun T65 =>
  (pV T65 x0 0 7 (.int (-1 : Int32))).bind fun T70 =>
  if (3 : Int32) < 0 ∨ 100000000 ≤ (3 : Int32).toNatClampNeg then none else
  al (nA T70 .int (3 : Int32).toNatClampNeg) fun T75 =>
  (pV T75 x0 0 8 (va_rf (some T70.2.1))).bind fun T77 =>
  al (nO T77 10 3 [.int 0, .null, .int 0]) fun T81 =>
  cl (c_J2_init G (some T77.2.1) T81) T81 fun v85 T85 =>
  (pV T85 x0 0 9 (va_rf (some T77.2.1))).bind fun T88 =>
  al (nO T88 10 3 [.int 0, .null, .int 0]) fun T92 =>
  cl (c_J2_init G (some T88.2.1) T92) T92 fun v96 T96 =>
  (pV T96 x0 0 10 (va_rf (some T88.2.1))).bind fun T99 =>
  some ((), T99)
theorem w_X1_init {G : xG}  {T : xF} {x0 : Option Nat} {q : (Unit × xF)} (hf : c_X1_init G x0 T = some q) : Ct G mX1_init (5) T [va_rf x0] (.inl none) q.2 := by
  refine Ct.ofc (plainFor_of_name (by decide +kernel)) rfl (xvQ xvN) (Nat.le_of_ble_eq_true rfl) (show Xr G _ 0 [(0, va_rf x0)] [] _ from ?_)
  unfold c_X1_init at hf
  refine C.aload_n dX1_init_0 rfl 0 rfl ?_
  obtain ⟨c1, hf⟩ := if_n hf
  refine C.objI (Classical.not_not.mp c1) dX1_init_1 q159 obj1 obj2 (xcs xvN (Nat.le_of_ble_eq_true rfl)) (xD1 (Nat.le_of_ble_eq_true rfl)) ?_
  refine C.aload_n dX1_init_4 rfl 0 rfl ?_
  refine X.bipush (v := 7) dX1_init_5 (by decide) ?_
  obtain ⟨c7, hf⟩ := if_n hf
  obtain ⟨T7, e7, hf, l7⟩ := al_ok hf
  refine C.newaE e7 dX1_init_7 rfl (by decide) rfl q194 rfl (by decide) c7 l7 ?_
  obtain ⟨T9, h9, hf⟩ := ob hf
  refine C.putQ dX1_init_9 fX1_13 (fun _ => rfl) rfl h9 ?_
  refine C.aload_n dX1_init_12 rfl 0 rfl ?_
  obtain ⟨T13, e13, hf, l13⟩ := al_ok hf
  refine C.newE e13 dX1_init_13 clX2 q162 q163 q122 rfl dfX2 l13 ?_
  refine X.dup dX1_init_16 (cat1 _) ?_
  obtain ⟨v17, T17, h17, hf, l17, r17⟩ := cl_ok hf
  refine C.INv (As := []) (rest := [va_rf (some T9.2.1), va_rf x0]) dX1_init_17 (w_X2_init h17) cX1_21 rfl rfl rfl (xcs (xvQ (xvQ xvN)) (Nat.le_of_ble_eq_true rfl)) (xD (Nat.le_of_ble_eq_true rfl)) l17 r17 ?_
  obtain ⟨T20, h20, hf⟩ := ob hf
  refine C.putQ dX1_init_20 fX1_22 (fun q => by cases q) rfl h20 ?_
  refine C.aload_n dX1_init_23 rfl 0 rfl ?_
  obtain ⟨T24, e24, hf, l24⟩ := al_ok hf
  refine C.newE e24 dX1_init_24 clX3 q235 q236 q126 rfl dfX3 l24 ?_
  refine X.dup dX1_init_27 (cat1 _) ?_
  refine C.aload_n dX1_init_28 rfl 0 rfl ?_
  obtain ⟨v29, T29, h29, hf, l29, r29⟩ := cl_ok hf
  refine C.Iv (As := [va_rf x0]) (rest := [va_rf (some T20.2.1), va_rf x0]) dX1_init_29 (w_X3_init h29) cX1_28 rfl rfl rfl (xcs (xvQ (xvQ xvN)) (Nat.le_of_ble_eq_true rfl)) (xD (Nat.le_of_ble_eq_true rfl)) l29 r29 ?_
  obtain ⟨T32, h32, hf⟩ := ob hf
  refine C.putQ dX1_init_32 fX1_31 (fun _ => rfl) rfl h32 ?_
  refine C.aload_n dX1_init_35 rfl 0 rfl ?_
  obtain ⟨T36, e36, hf, l36⟩ := al_ok hf
  refine C.newE e36 dX1_init_36 clX3 q235 q236 q126 rfl dfX3 l36 ?_
  refine X.dup dX1_init_39 (cat1 _) ?_
  refine C.aload_n dX1_init_40 rfl 0 rfl ?_
  obtain ⟨v41, T41, h41, hf, l41, r41⟩ := cl_ok hf
  refine C.Iv (As := [va_rf x0]) (rest := [va_rf (some T32.2.1), va_rf x0]) dX1_init_41 (w_X3_init h41) cX1_28 rfl rfl rfl (xcs (xvQ (xvQ xvN)) (Nat.le_of_ble_eq_true rfl)) (xD (Nat.le_of_ble_eq_true rfl)) l41 r41 ?_
  obtain ⟨T44, h44, hf⟩ := ob hf
  refine C.putQ dX1_init_44 fX1_35 (fun _ => rfl) rfl h44 ?_
  refine C.aload_n dX1_init_47 rfl 0 rfl ?_
  obtain ⟨T48, e48, hf, l48⟩ := al_ok hf
  refine C.newE e48 dX1_init_48 clX3 q235 q236 q126 rfl dfX3 l48 ?_
  refine X.dup dX1_init_51 (cat1 _) ?_
  refine C.aload_n dX1_init_52 rfl 0 rfl ?_
  obtain ⟨v53, T53, h53, hf, l53, r53⟩ := cl_ok hf
  refine C.Iv (As := [va_rf x0]) (rest := [va_rf (some T44.2.1), va_rf x0]) dX1_init_53 (w_X3_init h53) cX1_28 rfl rfl rfl (xcs (xvQ (xvQ xvN)) (Nat.le_of_ble_eq_true rfl)) (xD (Nat.le_of_ble_eq_true rfl)) l53 r53 ?_
  obtain ⟨T56, h56, hf⟩ := ob hf
  refine C.putQ dX1_init_56 fX1_38 (fun q => by cases q) rfl h56 ?_
  refine C.aload_n dX1_init_59 rfl 0 rfl ?_
  refine X.sipush (v := 700) dX1_init_60 (by decide) ?_
  obtain ⟨c63, hf⟩ := if_n hf
  obtain ⟨T63, e63, hf, l63⟩ := al_ok hf
  refine C.newaE e63 dX1_init_63 rfl (by decide) rfl q321 rfl (by decide) c63 l63 ?_
  obtain ⟨T65, h65, hf⟩ := ob hf
  refine C.putQ dX1_init_65 fX1_41 (fun _ => rfl) rfl h65 ?_
  refine C.aload_n dX1_init_68 rfl 0 rfl ?_
  refine X.iconst (v := -1) dX1_init_69 (by decide) ?_
  obtain ⟨T70, h70, hf⟩ := ob hf
  refine C.putI dX1_init_70 fX1_45 (fun q => by cases q) rfl rfl h70 ?_
  refine C.aload_n dX1_init_73 rfl 0 rfl ?_
  refine X.iconst (v := 3) dX1_init_74 (by decide) ?_
  obtain ⟨c75, hf⟩ := if_n hf
  obtain ⟨T75, e75, hf, l75⟩ := al_ok hf
  refine C.newaE e75 dX1_init_75 rfl (by decide) rfl q194 rfl (by decide) c75 l75 ?_
  obtain ⟨T77, h77, hf⟩ := ob hf
  refine C.putQ dX1_init_77 fX1_49 (fun _ => rfl) rfl h77 ?_
  refine C.aload_n dX1_init_80 rfl 0 rfl ?_
  obtain ⟨T81, e81, hf, l81⟩ := al_ok hf
  refine C.newE e81 dX1_init_81 clJ2 q269 q169 q125 rfl dfJ2 l81 ?_
  refine X.dup dX1_init_84 (cat1 _) ?_
  obtain ⟨v85, T85, h85, hf, l85, r85⟩ := cl_ok hf
  refine C.Iv (As := []) (rest := [va_rf (some T77.2.1), va_rf x0]) dX1_init_85 (w_J2_init h85) cX1_54 rfl rfl rfl (xcs (xvQ (xvQ xvN)) (Nat.le_of_ble_eq_true rfl)) (xD (Nat.le_of_ble_eq_true rfl)) l85 r85 ?_
  obtain ⟨T88, h88, hf⟩ := ob hf
  refine C.putQ dX1_init_88 fX1_55 (fun q => by cases q) rfl h88 ?_
  refine C.aload_n dX1_init_91 rfl 0 rfl ?_
  obtain ⟨T92, e92, hf, l92⟩ := al_ok hf
  refine C.newE e92 dX1_init_92 clJ2 q269 q169 q125 rfl dfJ2 l92 ?_
  refine X.dup dX1_init_95 (cat1 _) ?_
  obtain ⟨v96, T96, h96, hf, l96, r96⟩ := cl_ok hf
  refine C.Iv (As := []) (rest := [va_rf (some T88.2.1), va_rf x0]) dX1_init_96 (w_J2_init h96) cX1_54 rfl rfl rfl (xcs (xvQ (xvQ xvN)) (Nat.le_of_ble_eq_true rfl)) (xD (Nat.le_of_ble_eq_true rfl)) l96 r96 ?_
  obtain ⟨T99, h99, hf⟩ := ob hf
  refine C.putQ dX1_init_99 fX1_59 (fun q => by cases q) rfl h99 ?_
  obtain rfl := Option.some.inj hf
  exact X.vret dX1_init_102 rfl rfl
