set_option maxRecDepth 100000
/-! scrape -/
abbrev cX4_scrape : ByteArray := prog_12_method_80_code
def yX4_scrape : MethodName := ⟨RX4, "scrape", "(I)I"⟩
def dkwX4_scrape_2 : List UInt8 := [42, 3, 27, 182, 1, 90, 28, 172]
abbrev dktX4_scrape_2 : List UInt8 := dkwX4_scrape_2 ++ []
def dkwX4_scrape_1 : List UInt8 := [2, 160, 0, 9, 42, 4, 182, 1, 141, 172, 42, 182, 1, 144, 42, 180, 0, 69, 16, 91, 27, 96, 46, 61]
abbrev dktX4_scrape_1 : List UInt8 := dkwX4_scrape_1 ++ dktX4_scrape_2
def dkwX4_scrape_0 : List UInt8 := [42, 3, 181, 0, 115, 42, 27, 182, 1, 129, 154, 0, 5, 3, 172, 42, 180, 0, 69, 16, 61, 27, 96, 46]
abbrev dktX4_scrape_0 : List UInt8 := dkwX4_scrape_0 ++ dktX4_scrape_1
theorem dksX4_scrape_0 : cX4_scrape.data.toList.drop 0 = dktX4_scrape_0 := by decide +kernel
theorem dksX4_scrape_1 : cX4_scrape.data.toList.drop 24 = dktX4_scrape_1 := dk_seg dksX4_scrape_0 24 rfl rfl
theorem dksX4_scrape_2 : cX4_scrape.data.toList.drop 48 = dktX4_scrape_2 := dk_seg dksX4_scrape_1 24 rfl rfl
theorem dX4_scrape_0 : decode cX4_scrape 0 = .ok (.aload_n 0, 1) := dk_42 (dk_at dksX4_scrape_0 0 rfl rfl)
theorem dX4_scrape_1 : decode cX4_scrape 1 = .ok (.iconst 0, 1) := dk_3 (dk_at dksX4_scrape_0 1 rfl rfl)
theorem dX4_scrape_2 : decode cX4_scrape 2 = .ok (.putfield 115, 3) := dk_181 0 115 (dk_at dksX4_scrape_0 2 rfl rfl)
theorem dX4_scrape_5 : decode cX4_scrape 5 = .ok (.aload_n 0, 1) := dk_42 (dk_at dksX4_scrape_0 5 rfl rfl)
theorem dX4_scrape_6 : decode cX4_scrape 6 = .ok (.iload_n 1, 1) := dk_27 (dk_at dksX4_scrape_0 6 rfl rfl)
theorem dX4_scrape_7 : decode cX4_scrape 7 = .ok (.invokevirtual 385, 3) := dk_182 1 129 (dk_at dksX4_scrape_0 7 rfl rfl)
theorem dX4_scrape_10 : decode cX4_scrape 10 = .ok (.ifCond .ne 5, 3) := dk_154 0 5 (dk_at dksX4_scrape_0 10 rfl rfl)
theorem dX4_scrape_13 : decode cX4_scrape 13 = .ok (.iconst 0, 1) := dk_3 (dk_at dksX4_scrape_0 13 rfl rfl)
theorem dX4_scrape_14 : decode cX4_scrape 14 = .ok (.ireturn, 1) := dk_172 (dk_at dksX4_scrape_0 14 rfl rfl)
theorem dX4_scrape_15 : decode cX4_scrape 15 = .ok (.aload_n 0, 1) := dk_42 (dk_at dksX4_scrape_0 15 rfl rfl)
theorem dX4_scrape_16 : decode cX4_scrape 16 = .ok (.getfield 69, 3) := dk_180 0 69 (dk_at dksX4_scrape_0 16 rfl rfl)
theorem dX4_scrape_19 : decode cX4_scrape 19 = .ok (.bipush 61, 2) := dk_16 61 (dk_at dksX4_scrape_0 19 rfl rfl)
theorem dX4_scrape_21 : decode cX4_scrape 21 = .ok (.iload_n 1, 1) := dk_27 (dk_at dksX4_scrape_0 21 rfl rfl)
theorem dX4_scrape_22 : decode cX4_scrape 22 = .ok (.iadd, 1) := dk_96 (dk_at dksX4_scrape_0 22 rfl rfl)
theorem dX4_scrape_23 : decode cX4_scrape 23 = .ok (.iaload, 1) := dk_46 (dk_at dksX4_scrape_0 23 rfl rfl)
theorem dX4_scrape_24 : decode cX4_scrape 24 = .ok (.iconst (-1), 1) := dk_2 (dk_at dksX4_scrape_1 0 rfl rfl)
theorem dX4_scrape_25 : decode cX4_scrape 25 = .ok (.if_icmp .ne 9, 3) := dk_160 0 9 (dk_at dksX4_scrape_1 1 rfl rfl)
theorem dX4_scrape_28 : decode cX4_scrape 28 = .ok (.aload_n 0, 1) := dk_42 (dk_at dksX4_scrape_1 4 rfl rfl)
theorem dX4_scrape_29 : decode cX4_scrape 29 = .ok (.iconst 1, 1) := dk_4 (dk_at dksX4_scrape_1 5 rfl rfl)
theorem dX4_scrape_30 : decode cX4_scrape 30 = .ok (.invokevirtual 397, 3) := dk_182 1 141 (dk_at dksX4_scrape_1 6 rfl rfl)
theorem dX4_scrape_33 : decode cX4_scrape 33 = .ok (.ireturn, 1) := dk_172 (dk_at dksX4_scrape_1 9 rfl rfl)
theorem dX4_scrape_34 : decode cX4_scrape 34 = .ok (.aload_n 0, 1) := dk_42 (dk_at dksX4_scrape_1 10 rfl rfl)
theorem dX4_scrape_35 : decode cX4_scrape 35 = .ok (.invokevirtual 400, 3) := dk_182 1 144 (dk_at dksX4_scrape_1 11 rfl rfl)
theorem dX4_scrape_38 : decode cX4_scrape 38 = .ok (.aload_n 0, 1) := dk_42 (dk_at dksX4_scrape_1 14 rfl rfl)
theorem dX4_scrape_39 : decode cX4_scrape 39 = .ok (.getfield 69, 3) := dk_180 0 69 (dk_at dksX4_scrape_1 15 rfl rfl)
theorem dX4_scrape_42 : decode cX4_scrape 42 = .ok (.bipush 91, 2) := dk_16 91 (dk_at dksX4_scrape_1 18 rfl rfl)
theorem dX4_scrape_44 : decode cX4_scrape 44 = .ok (.iload_n 1, 1) := dk_27 (dk_at dksX4_scrape_1 20 rfl rfl)
theorem dX4_scrape_45 : decode cX4_scrape 45 = .ok (.iadd, 1) := dk_96 (dk_at dksX4_scrape_1 21 rfl rfl)
theorem dX4_scrape_46 : decode cX4_scrape 46 = .ok (.iaload, 1) := dk_46 (dk_at dksX4_scrape_1 22 rfl rfl)
theorem dX4_scrape_47 : decode cX4_scrape 47 = .ok (.istore_n 2, 1) := dk_61 (dk_at dksX4_scrape_1 23 rfl rfl)
theorem dX4_scrape_48 : decode cX4_scrape 48 = .ok (.aload_n 0, 1) := dk_42 (dk_at dksX4_scrape_2 0 rfl rfl)
theorem dX4_scrape_49 : decode cX4_scrape 49 = .ok (.iconst 0, 1) := dk_3 (dk_at dksX4_scrape_2 1 rfl rfl)
theorem dX4_scrape_50 : decode cX4_scrape 50 = .ok (.iload_n 1, 1) := dk_27 (dk_at dksX4_scrape_2 2 rfl rfl)
theorem dX4_scrape_51 : decode cX4_scrape 51 = .ok (.invokevirtual 346, 3) := dk_182 1 90 (dk_at dksX4_scrape_2 3 rfl rfl)
theorem dX4_scrape_54 : decode cX4_scrape 54 = .ok (.iload_n 2, 1) := dk_28 (dk_at dksX4_scrape_2 6 rfl rfl)
theorem dX4_scrape_55 : decode cX4_scrape 55 = .ok (.ireturn, 1) := dk_172 (dk_at dksX4_scrape_2 7 rfl rfl)
abbrev mX4_scrape : xM := (yX4_scrape, cX4_scrape, 3, (some .int), [])
def m_scrape (x1 : Int32) (S : MS) : Option (Int32 × MS) :=
  (m_isTheCell x1 ((sF S 0 (0 : Int32)))).bind fun q7 =>
  if q7.1 = 0 then
    some ((0 : Int32), q7.2)
  else
    (rdA q7.2 13 ((61 : Int32) + x1)).bind fun v23 =>
    if v23 = (-1 : Int32) then
      (m_refuses ((1 : Int32)) q7.2).bind fun q30 =>
      some (q30.1, q30.2)
    else
      (m_keeps q7.2).bind fun q35 =>
      (rdA q35 13 ((91 : Int32) + x1)).bind fun v46 =>
      (m_clears ((0 : Int32)) x1 q35).bind fun q51 =>
      some (v46, q51)
theorem w_scrape {G : xG} {m0 : Nat} {x1 : Int32} {S : MS} {q : (Int32 × MS)} (hf : m_scrape x1 S = some q) : CtM G m0 mX4_scrape 3 S [.ref m0, .int x1] (some (.int q.1)) q.2 := by
  intro h N Z
  refine Ct.of (by decide +kernel) rfl (Nat.le_of_ble_eq_true rfl) (show Xr G _ 0 [(0, .ref m0), (1, .int x1)] [] _ from ?_)
  unfold m_scrape at hf
  refine X.aload_n dX4_scrape_0 rfl 0 rfl ?_
  refine X.iconst (v := 0) dX4_scrape_1 (by decide) ?_
  refine M.putI dX4_scrape_2 fX4_115 (by decide) rfl rfl rfl ?_
  refine X.aload_n dX4_scrape_5 rfl 0 rfl ?_
  refine X.iload_n dX4_scrape_6 rfl 1 rfl ?_
  obtain ⟨q7, h7, hf⟩ := ob hf
  refine X.callVi (As := [.int x1]) (rest := []) (T2 := (mh m0 h q7.2, N, Z)) dX4_scrape_7 (w_isTheCell h7 h N Z) cX4_385 rfl rfl (Nat.le_of_ble_eq_true rfl) mh_0 rfl rfl (xD (Nat.le_of_ble_eq_true rfl)) xleN xleN ?_
  refine X.if_ne (tgt := 15) dX4_scrape_10 (by decide) (fun c10 => ?_) (fun c10 => ?_)
  · have hf := if_f c10 hf
    refine X.aload_n dX4_scrape_15 rfl 0 rfl ?_
    refine M.get (v := .ref (m0 + 13)) dX4_scrape_16 fX4_69 (Nat.le_of_ble_eq_true rfl) rfl ?_
    refine X.bipush (v := 61) dX4_scrape_19 (by decide) ?_
    refine X.iload_n dX4_scrape_21 rfl 1 rfl ?_
    refine X.iadd dX4_scrape_22 ?_
    obtain ⟨v23, h23, hf⟩ := ob hf
    refine M.iald dX4_scrape_23 rfl h23 ?_
    refine X.iconst (v := -1) dX4_scrape_24 (by decide) ?_
    refine X.icmp_ne (tgt := 34) dX4_scrape_25 (by decide) (fun c25 => ?_) (fun c25 => ?_)
    · have hf := if_f c25 hf
      refine X.aload_n dX4_scrape_34 rfl 0 rfl ?_
      obtain ⟨q35, h35, hf⟩ := ob hf
      refine X.callVv (As := []) (rest := []) (T2 := (mh m0 h q35, N, Z)) dX4_scrape_35 (w_keeps h35 h N Z) cX4_400 rfl rfl (Nat.le_of_ble_eq_true rfl) mh_0 rfl rfl (xD (Nat.le_of_ble_eq_true rfl)) xleN xleN ?_
      refine X.aload_n dX4_scrape_38 rfl 0 rfl ?_
      refine M.get (v := .ref (m0 + 13)) dX4_scrape_39 fX4_69 (Nat.le_of_ble_eq_true rfl) rfl ?_
      refine X.bipush (v := 91) dX4_scrape_42 (by decide) ?_
      refine X.iload_n dX4_scrape_44 rfl 1 rfl ?_
      refine X.iadd dX4_scrape_45 ?_
      obtain ⟨v46, h46, hf⟩ := ob hf
      refine M.iald dX4_scrape_46 rfl h46 ?_
      refine X.istore_n (L' := [(2, .int v46), (0, .ref m0), (1, .int x1)]) dX4_scrape_47 rfl (Nat.le_of_ble_eq_true rfl) rfl ?_
      refine X.aload_n dX4_scrape_48 rfl 1 rfl ?_
      refine X.iconst (v := 0) dX4_scrape_49 (by decide) ?_
      refine X.iload_n dX4_scrape_50 rfl 2 rfl ?_
      obtain ⟨q51, h51, hf⟩ := ob hf
      refine X.callVv (As := [.int (0 : Int32), .int x1]) (rest := []) (T2 := (mh m0 h q51, N, Z)) dX4_scrape_51 (w_clears h51 h N Z) cX4_346 rfl rfl (Nat.le_of_ble_eq_true rfl) mh_0 rfl rfl (xD (Nat.le_of_ble_eq_true rfl)) xleN xleN ?_
      refine X.iload_n dX4_scrape_54 rfl 0 rfl ?_
      obtain rfl := Option.some.inj hf
      exact X.iret dX4_scrape_55 rfl rfl rfl
    · have hf := if_t c25 hf
      refine X.aload_n dX4_scrape_28 rfl 0 rfl ?_
      refine X.iconst (v := 1) dX4_scrape_29 (by decide) ?_
      obtain ⟨q30, h30, hf⟩ := ob hf
      refine X.callVi (As := [.int (1 : Int32)]) (rest := []) (T2 := (mh m0 h q30.2, N, Z)) dX4_scrape_30 (w_refuses h30 h N Z) cX4_397 rfl rfl (Nat.le_of_ble_eq_true rfl) mh_0 rfl rfl (xD (Nat.le_of_ble_eq_true rfl)) xleN xleN ?_
      obtain rfl := Option.some.inj hf
      exact X.iret dX4_scrape_33 rfl rfl rfl
  · have hf := if_t c10 hf
    refine X.iconst (v := 0) dX4_scrape_13 (by decide) ?_
    obtain rfl := Option.some.inj hf
    exact X.iret dX4_scrape_14 rfl rfl rfl
/-! isDays -/
abbrev cX4_isDays : ByteArray := prog_12_method_81_code
def yX4_isDays : MethodName := ⟨RX4, "isDays", "(III)Z"⟩
def dkwX4_isDays_0 : List UInt8 := [42, 27, 28, 16, 40, 184, 1, 117, 29, 182, 1, 34, 172]
abbrev dktX4_isDays_0 : List UInt8 := dkwX4_isDays_0 ++ []
theorem dksX4_isDays_0 : cX4_isDays.data.toList.drop 0 = dktX4_isDays_0 := by decide +kernel
theorem dX4_isDays_0 : decode cX4_isDays 0 = .ok (.aload_n 0, 1) := dk_42 (dk_at dksX4_isDays_0 0 rfl rfl)
theorem dX4_isDays_1 : decode cX4_isDays 1 = .ok (.iload_n 1, 1) := dk_27 (dk_at dksX4_isDays_0 1 rfl rfl)
theorem dX4_isDays_2 : decode cX4_isDays 2 = .ok (.iload_n 2, 1) := dk_28 (dk_at dksX4_isDays_0 2 rfl rfl)
theorem dX4_isDays_3 : decode cX4_isDays 3 = .ok (.bipush 40, 2) := dk_16 40 (dk_at dksX4_isDays_0 3 rfl rfl)
theorem dX4_isDays_5 : decode cX4_isDays 5 = .ok (.invokestatic 373, 3) := dk_184 1 117 (dk_at dksX4_isDays_0 5 rfl rfl)
theorem dX4_isDays_8 : decode cX4_isDays 8 = .ok (.iload_n 3, 1) := dk_29 (dk_at dksX4_isDays_0 8 rfl rfl)
theorem dX4_isDays_9 : decode cX4_isDays 9 = .ok (.invokevirtual 290, 3) := dk_182 1 34 (dk_at dksX4_isDays_0 9 rfl rfl)
theorem dX4_isDays_12 : decode cX4_isDays 12 = .ok (.ireturn, 1) := dk_172 (dk_at dksX4_isDays_0 12 rfl rfl)
abbrev mX4_isDays : xM := (yX4_isDays, cX4_isDays, 4, (some .boolean), [])
def m_isDays (x1 : Int32) (x2 : Int32) (x3 : Int32) (S : MS) : Option (Int32 × MS) :=
  (m_within x1 x2 ((40 : Int32))).bind fun q5 =>
  (m_right q5 x3 S).bind fun q9 =>
  if ¬ zok q9.1 = true then none else some (q9.1, q9.2)
theorem w_isDays {G : xG} {m0 : Nat} {x1 : Int32} {x2 : Int32} {x3 : Int32} {S : MS} {q : (Int32 × MS)} (hf : m_isDays x1 x2 x3 S = some q) : CtM G m0 mX4_isDays 2 S [.ref m0, .int x1, .int x2, .int x3] (some (.int q.1)) q.2 := by
  intro h N Z
  refine Ct.of (by decide +kernel) rfl (Nat.le_of_ble_eq_true rfl) (show Xr G _ 0 [(0, .ref m0), (1, .int x1), (2, .int x2), (3, .int x3)] [] _ from ?_)
  unfold m_isDays at hf
  refine X.aload_n dX4_isDays_0 rfl 0 rfl ?_
  refine X.iload_n dX4_isDays_1 rfl 1 rfl ?_
  refine X.iload_n dX4_isDays_2 rfl 2 rfl ?_
  refine X.bipush (v := 40) dX4_isDays_3 (by decide) ?_
  obtain ⟨q5, h5, hf⟩ := ob hf
  refine X.callSi (As := [.int x1, .int x2, .int (40 : Int32)]) (rest := [.ref m0]) dX4_isDays_5 (w_within h5 _) cX4_373 rfl rfl (Nat.le_of_ble_eq_true rfl) (xD (Nat.le_of_ble_eq_true rfl)) xle.rf xleN ?_
  refine X.iload_n dX4_isDays_8 rfl 3 rfl ?_
  obtain ⟨q9, h9, hf⟩ := ob hf
  refine X.callVi (As := [.int q5, .int x3]) (rest := []) (T2 := (mh m0 h q9.2, N, Z)) dX4_isDays_9 (w_right h9 h N Z) cX4_290 rfl rfl (Nat.le_of_ble_eq_true rfl) mh_0 rfl rfl (xD (Nat.le_of_ble_eq_true rfl)) xleN xleN ?_
  obtain ⟨cz, hf⟩ := if_n hf
  obtain rfl := Option.some.inj hf
  exact X.iret dX4_isDays_12 rfl (zok_ok (Classical.not_not.mp cz)) rfl
theorem cX4_409 : xCV RX4 409 mX4_isDays 3 := ⟨lw_V q2052 q2054 qs104 q127 q2055, rfl, ⟨by decide +kernel, by decide +kernel, by decide +kernel⟩, Nat.le_of_ble_eq_true rfl⟩
/-! goesTo -/
abbrev cX4_goesTo : ByteArray := prog_12_method_82_code
def yX4_goesTo : MethodName := ⟨RX4, "goesTo", "(I)V"⟩
def dkwX4_goesTo_0 : List UInt8 := [42, 182, 1, 147, 42, 27, 182, 1, 150, 177]
abbrev dktX4_goesTo_0 : List UInt8 := dkwX4_goesTo_0 ++ []
theorem dksX4_goesTo_0 : cX4_goesTo.data.toList.drop 0 = dktX4_goesTo_0 := by decide +kernel
theorem dX4_goesTo_0 : decode cX4_goesTo 0 = .ok (.aload_n 0, 1) := dk_42 (dk_at dksX4_goesTo_0 0 rfl rfl)
theorem dX4_goesTo_1 : decode cX4_goesTo 1 = .ok (.invokevirtual 403, 3) := dk_182 1 147 (dk_at dksX4_goesTo_0 1 rfl rfl)
theorem dX4_goesTo_4 : decode cX4_goesTo 4 = .ok (.aload_n 0, 1) := dk_42 (dk_at dksX4_goesTo_0 4 rfl rfl)
theorem dX4_goesTo_5 : decode cX4_goesTo 5 = .ok (.iload_n 1, 1) := dk_27 (dk_at dksX4_goesTo_0 5 rfl rfl)
theorem dX4_goesTo_6 : decode cX4_goesTo 6 = .ok (.invokevirtual 406, 3) := dk_182 1 150 (dk_at dksX4_goesTo_0 6 rfl rfl)
theorem dX4_goesTo_9 : decode cX4_goesTo 9 = .ok (.return_, 1) := dk_177 (dk_at dksX4_goesTo_0 9 rfl rfl)
abbrev mX4_goesTo : xM := (yX4_goesTo, cX4_goesTo, 2, none, [])
def m_goesTo (x1 : Int32) (S : MS) : Option MS :=
  (m_tries S).bind fun q1 =>
  (m_daysGo x1 q1).bind fun q6 =>
  some q6
theorem w_goesTo {G : xG} {m0 : Nat} {x1 : Int32} {S : MS} {q : MS} (hf : m_goesTo x1 S = some q) : CtM G m0 mX4_goesTo 7 S [.ref m0, .int x1] none q := by
  intro h N Z
  refine Ct.of (by decide +kernel) rfl (Nat.le_of_ble_eq_true rfl) (show Xr G _ 0 [(0, .ref m0), (1, .int x1)] [] _ from ?_)
  unfold m_goesTo at hf
  refine X.aload_n dX4_goesTo_0 rfl 0 rfl ?_
  obtain ⟨q1, h1, hf⟩ := ob hf
  refine X.callVv (As := []) (rest := []) (T2 := (mh m0 h q1, N, Z)) dX4_goesTo_1 (w_tries h1 h N Z) cX4_403 rfl rfl (Nat.le_of_ble_eq_true rfl) mh_0 rfl rfl (xD (Nat.le_of_ble_eq_true rfl)) xleN xleN ?_
  refine X.aload_n dX4_goesTo_4 rfl 0 rfl ?_
  refine X.iload_n dX4_goesTo_5 rfl 1 rfl ?_
  obtain ⟨q6, h6, hf⟩ := ob hf
  refine X.callVv (As := [.int x1]) (rest := []) (T2 := (mh m0 h q6, N, Z)) dX4_goesTo_6 (w_daysGo h6 h N Z) cX4_406 rfl rfl (Nat.le_of_ble_eq_true rfl) mh_0 rfl rfl (xD (Nat.le_of_ble_eq_true rfl)) xleN xleN ?_
  obtain rfl := Option.some.inj hf
  exact X.vret dX4_goesTo_9 rfl rfl
theorem cX4_412 : xCV RX4 412 mX4_goesTo 1 := ⟨lw_V q2056 q2058 qs105 q127 q2059, rfl, ⟨by decide +kernel, by decide +kernel, by decide +kernel⟩, Nat.le_of_ble_eq_true rfl⟩
/-! then -/
abbrev cX4_then : ByteArray := prog_12_method_83_code
def yX4_then : MethodName := ⟨RX4, "then", "(III)I"⟩
def dkwX4_then_3 : List UInt8 := [172]
abbrev dktX4_then_3 : List UInt8 := dkwX4_then_3 ++ []
def dkwX4_then_2 : List UInt8 := [154, 0, 8, 16, 61, 167, 0, 15, 29, 4, 160, 0, 8, 16, 91, 167, 0, 5, 16, 31, 96, 27, 96, 46]
abbrev dktX4_then_2 : List UInt8 := dkwX4_then_2 ++ dktX4_then_3
def dkwX4_then_1 : List UInt8 := [3, 5, 182, 1, 153, 154, 0, 5, 3, 172, 42, 28, 182, 1, 156, 42, 180, 0, 69, 16, 121, 29]
abbrev dktX4_then_1 : List UInt8 := dkwX4_then_1 ++ dktX4_then_2
def dkwX4_then_0 : List UInt8 := [42, 3, 181, 0, 115, 42, 27, 182, 1, 129, 153, 0, 22, 42, 29, 5, 182, 1, 132, 153, 0, 13, 42, 28]
abbrev dktX4_then_0 : List UInt8 := dkwX4_then_0 ++ dktX4_then_1
theorem dksX4_then_0 : cX4_then.data.toList.drop 0 = dktX4_then_0 := by decide +kernel
theorem dksX4_then_1 : cX4_then.data.toList.drop 24 = dktX4_then_1 := dk_seg dksX4_then_0 24 rfl rfl
theorem dksX4_then_2 : cX4_then.data.toList.drop 46 = dktX4_then_2 := dk_seg dksX4_then_1 22 rfl rfl
theorem dksX4_then_3 : cX4_then.data.toList.drop 70 = dktX4_then_3 := dk_seg dksX4_then_2 24 rfl rfl
theorem dX4_then_0 : decode cX4_then 0 = .ok (.aload_n 0, 1) := dk_42 (dk_at dksX4_then_0 0 rfl rfl)
theorem dX4_then_1 : decode cX4_then 1 = .ok (.iconst 0, 1) := dk_3 (dk_at dksX4_then_0 1 rfl rfl)
theorem dX4_then_2 : decode cX4_then 2 = .ok (.putfield 115, 3) := dk_181 0 115 (dk_at dksX4_then_0 2 rfl rfl)
theorem dX4_then_5 : decode cX4_then 5 = .ok (.aload_n 0, 1) := dk_42 (dk_at dksX4_then_0 5 rfl rfl)
theorem dX4_then_6 : decode cX4_then 6 = .ok (.iload_n 1, 1) := dk_27 (dk_at dksX4_then_0 6 rfl rfl)
theorem dX4_then_7 : decode cX4_then 7 = .ok (.invokevirtual 385, 3) := dk_182 1 129 (dk_at dksX4_then_0 7 rfl rfl)
theorem dX4_then_10 : decode cX4_then 10 = .ok (.ifCond .eq 22, 3) := dk_153 0 22 (dk_at dksX4_then_0 10 rfl rfl)
theorem dX4_then_13 : decode cX4_then 13 = .ok (.aload_n 0, 1) := dk_42 (dk_at dksX4_then_0 13 rfl rfl)
theorem dX4_then_14 : decode cX4_then 14 = .ok (.iload_n 3, 1) := dk_29 (dk_at dksX4_then_0 14 rfl rfl)
theorem dX4_then_15 : decode cX4_then 15 = .ok (.iconst 2, 1) := dk_5 (dk_at dksX4_then_0 15 rfl rfl)
theorem dX4_then_16 : decode cX4_then 16 = .ok (.invokevirtual 388, 3) := dk_182 1 132 (dk_at dksX4_then_0 16 rfl rfl)
theorem dX4_then_19 : decode cX4_then 19 = .ok (.ifCond .eq 13, 3) := dk_153 0 13 (dk_at dksX4_then_0 19 rfl rfl)
theorem dX4_then_22 : decode cX4_then 22 = .ok (.aload_n 0, 1) := dk_42 (dk_at dksX4_then_0 22 rfl rfl)
theorem dX4_then_23 : decode cX4_then 23 = .ok (.iload_n 2, 1) := dk_28 (dk_at dksX4_then_0 23 rfl rfl)
theorem dX4_then_24 : decode cX4_then 24 = .ok (.iconst 0, 1) := dk_3 (dk_at dksX4_then_1 0 rfl rfl)
theorem dX4_then_25 : decode cX4_then 25 = .ok (.iconst 2, 1) := dk_5 (dk_at dksX4_then_1 1 rfl rfl)
theorem dX4_then_26 : decode cX4_then 26 = .ok (.invokevirtual 409, 3) := dk_182 1 153 (dk_at dksX4_then_1 2 rfl rfl)
theorem dX4_then_29 : decode cX4_then 29 = .ok (.ifCond .ne 5, 3) := dk_154 0 5 (dk_at dksX4_then_1 5 rfl rfl)
theorem dX4_then_32 : decode cX4_then 32 = .ok (.iconst 0, 1) := dk_3 (dk_at dksX4_then_1 8 rfl rfl)
theorem dX4_then_33 : decode cX4_then 33 = .ok (.ireturn, 1) := dk_172 (dk_at dksX4_then_1 9 rfl rfl)
theorem dX4_then_34 : decode cX4_then 34 = .ok (.aload_n 0, 1) := dk_42 (dk_at dksX4_then_1 10 rfl rfl)
theorem dX4_then_35 : decode cX4_then 35 = .ok (.iload_n 2, 1) := dk_28 (dk_at dksX4_then_1 11 rfl rfl)
theorem dX4_then_36 : decode cX4_then 36 = .ok (.invokevirtual 412, 3) := dk_182 1 156 (dk_at dksX4_then_1 12 rfl rfl)
theorem dX4_then_39 : decode cX4_then 39 = .ok (.aload_n 0, 1) := dk_42 (dk_at dksX4_then_1 15 rfl rfl)
theorem dX4_then_40 : decode cX4_then 40 = .ok (.getfield 69, 3) := dk_180 0 69 (dk_at dksX4_then_1 16 rfl rfl)
theorem dX4_then_43 : decode cX4_then 43 = .ok (.bipush 121, 2) := dk_16 121 (dk_at dksX4_then_1 19 rfl rfl)
theorem dX4_then_45 : decode cX4_then 45 = .ok (.iload_n 3, 1) := dk_29 (dk_at dksX4_then_1 21 rfl rfl)
theorem dX4_then_46 : decode cX4_then 46 = .ok (.ifCond .ne 8, 3) := dk_154 0 8 (dk_at dksX4_then_2 0 rfl rfl)
theorem dX4_then_49 : decode cX4_then 49 = .ok (.bipush 61, 2) := dk_16 61 (dk_at dksX4_then_2 3 rfl rfl)
theorem dX4_then_51 : decode cX4_then 51 = .ok (.goto 15, 3) := dk_167 0 15 (dk_at dksX4_then_2 5 rfl rfl)
theorem dX4_then_54 : decode cX4_then 54 = .ok (.iload_n 3, 1) := dk_29 (dk_at dksX4_then_2 8 rfl rfl)
theorem dX4_then_55 : decode cX4_then 55 = .ok (.iconst 1, 1) := dk_4 (dk_at dksX4_then_2 9 rfl rfl)
theorem dX4_then_56 : decode cX4_then 56 = .ok (.if_icmp .ne 8, 3) := dk_160 0 8 (dk_at dksX4_then_2 10 rfl rfl)
theorem dX4_then_59 : decode cX4_then 59 = .ok (.bipush 91, 2) := dk_16 91 (dk_at dksX4_then_2 13 rfl rfl)
theorem dX4_then_61 : decode cX4_then 61 = .ok (.goto 5, 3) := dk_167 0 5 (dk_at dksX4_then_2 15 rfl rfl)
theorem dX4_then_64 : decode cX4_then 64 = .ok (.bipush 31, 2) := dk_16 31 (dk_at dksX4_then_2 18 rfl rfl)
theorem dX4_then_66 : decode cX4_then 66 = .ok (.iadd, 1) := dk_96 (dk_at dksX4_then_2 20 rfl rfl)
theorem dX4_then_67 : decode cX4_then 67 = .ok (.iload_n 1, 1) := dk_27 (dk_at dksX4_then_2 21 rfl rfl)
theorem dX4_then_68 : decode cX4_then 68 = .ok (.iadd, 1) := dk_96 (dk_at dksX4_then_2 22 rfl rfl)
theorem dX4_then_69 : decode cX4_then 69 = .ok (.iaload, 1) := dk_46 (dk_at dksX4_then_2 23 rfl rfl)
theorem dX4_then_70 : decode cX4_then 70 = .ok (.ireturn, 1) := dk_172 (dk_at dksX4_then_3 0 rfl rfl)
abbrev mX4_then : xM := (yX4_then, cX4_then, 4, (some .int), [])
def m_then_66  (x1 : Int32) (y0 : Int32) (y1 : Int32) (S : MS) : Option (Int32 × MS) :=
  (rdA S 13 ((y1 + y0) + x1)).bind fun v69 =>
  some (v69, S)
theorem m_then_66_ok {G : xG} {m0 : Nat} {S0 : MS}   (x1 : Int32) (y0 : Int32) (y1 : Int32) (S : MS) (q : (Int32 × MS)) (hf : m_then_66 x1 y0 y1 S = some q) : XM G m0 mX4_then 8 S0 (some (.int q.1)) q.2 66 [(1, .int x1)] [.int y0, .int y1, .ref (m0 + 13)] S := by
  intro h N Z
  unfold m_then_66 at hf
  refine X.iadd dX4_then_66 ?_
  refine X.iload_n dX4_then_67 rfl 0 rfl ?_
  refine X.iadd dX4_then_68 ?_
  obtain ⟨v69, h69, hf⟩ := ob hf
  refine M.iald dX4_then_69 rfl h69 ?_
  obtain rfl := Option.some.inj hf
  exact X.iret dX4_then_70 rfl rfl rfl
def m_then (x1 : Int32) (x2 : Int32) (x3 : Int32) (S : MS) : Option (Int32 × MS) :=
  (m_isTheCell x1 ((sF S 0 (0 : Int32)))).bind fun q7 =>
  if q7.1 = 0 then
    some ((0 : Int32), q7.2)
  else
    (m_isWhat x3 ((2 : Int32)) q7.2).bind fun q16 =>
    if q16.1 = 0 then
      some ((0 : Int32), q16.2)
    else
      (m_isDays x2 ((0 : Int32)) ((2 : Int32)) q16.2).bind fun q26 =>
      if q26.1 = 0 then
        some ((0 : Int32), q26.2)
      else
        (m_goesTo x2 q26.2).bind fun q36 =>
        if x3 = 0 then
          m_then_66 x1 ((61 : Int32)) ((121 : Int32)) q36
        else
          if x3 = (1 : Int32) then
            m_then_66 x1 ((91 : Int32)) ((121 : Int32)) q36
          else
            m_then_66 x1 ((31 : Int32)) ((121 : Int32)) q36
theorem w_then {G : xG} {m0 : Nat} {x1 : Int32} {x2 : Int32} {x3 : Int32} {S : MS} {q : (Int32 × MS)} (hf : m_then x1 x2 x3 S = some q) : CtM G m0 mX4_then 8 S [.ref m0, .int x1, .int x2, .int x3] (some (.int q.1)) q.2 := by
  intro h N Z
  refine Ct.of (by decide +kernel) rfl (Nat.le_of_ble_eq_true rfl) (show Xr G _ 0 [(0, .ref m0), (1, .int x1), (2, .int x2), (3, .int x3)] [] _ from ?_)
  unfold m_then at hf
  refine X.aload_n dX4_then_0 rfl 0 rfl ?_
  refine X.iconst (v := 0) dX4_then_1 (by decide) ?_
  refine M.putI dX4_then_2 fX4_115 (by decide) rfl rfl rfl ?_
  refine X.aload_n dX4_then_5 rfl 0 rfl ?_
  refine X.iload_n dX4_then_6 rfl 1 rfl ?_
  obtain ⟨q7, h7, hf⟩ := ob hf
  refine X.callVi (As := [.int x1]) (rest := []) (T2 := (mh m0 h q7.2, N, Z)) dX4_then_7 (w_isTheCell h7 h N Z) cX4_385 rfl rfl (Nat.le_of_ble_eq_true rfl) mh_0 rfl rfl (xD (Nat.le_of_ble_eq_true rfl)) xleN xleN ?_
  refine X.if_eq (tgt := 32) dX4_then_10 (by decide) (fun c10 => ?_) (fun c10 => ?_)
  · have hf := if_t c10 hf
    refine X.iconst (v := 0) dX4_then_32 (by decide) ?_
    obtain rfl := Option.some.inj hf
    exact X.iret dX4_then_33 rfl rfl rfl
  · have hf := if_f c10 hf
    refine X.aload_n dX4_then_13 rfl 0 rfl ?_
    refine X.iload_n dX4_then_14 rfl 3 rfl ?_
    refine X.iconst (v := 2) dX4_then_15 (by decide) ?_
    obtain ⟨q16, h16, hf⟩ := ob hf
    refine X.callVi (As := [.int x3, .int (2 : Int32)]) (rest := []) (T2 := (mh m0 h q16.2, N, Z)) dX4_then_16 (w_isWhat h16 h N Z) cX4_388 rfl rfl (Nat.le_of_ble_eq_true rfl) mh_0 rfl rfl (xD (Nat.le_of_ble_eq_true rfl)) xleN xleN ?_
    refine X.if_eq (tgt := 32) dX4_then_19 (by decide) (fun c19 => ?_) (fun c19 => ?_)
    · have hf := if_t c19 hf
      refine X.iconst (v := 0) dX4_then_32 (by decide) ?_
      obtain rfl := Option.some.inj hf
      exact X.iret dX4_then_33 rfl rfl rfl
    · have hf := if_f c19 hf
      refine X.aload_n dX4_then_22 rfl 0 rfl ?_
      refine X.iload_n dX4_then_23 rfl 2 rfl ?_
      refine X.iconst (v := 0) dX4_then_24 (by decide) ?_
      refine X.iconst (v := 2) dX4_then_25 (by decide) ?_
      obtain ⟨q26, h26, hf⟩ := ob hf
      refine X.callVi (As := [.int x2, .int (0 : Int32), .int (2 : Int32)]) (rest := []) (T2 := (mh m0 h q26.2, N, Z)) dX4_then_26 (w_isDays h26 h N Z) cX4_409 rfl rfl (Nat.le_of_ble_eq_true rfl) mh_0 rfl rfl (xD (Nat.le_of_ble_eq_true rfl)) xleN xleN ?_
      refine X.if_ne (tgt := 34) dX4_then_29 (by decide) (fun c29 => ?_) (fun c29 => ?_)
      · have hf := if_f c29 hf
        refine X.aload_n dX4_then_34 rfl 0 rfl ?_
        refine X.iload_n dX4_then_35 rfl 2 rfl ?_
        obtain ⟨q36, h36, hf⟩ := ob hf
        refine X.callVv (As := [.int x2]) (rest := []) (T2 := (mh m0 h q36, N, Z)) dX4_then_36 (w_goesTo h36 h N Z) cX4_412 rfl rfl (Nat.le_of_ble_eq_true rfl) mh_0 rfl rfl (xD (Nat.le_of_ble_eq_true rfl)) xleN xleN ?_
        refine X.aload_n dX4_then_39 rfl 0 rfl ?_
        refine M.get (v := .ref (m0 + 13)) dX4_then_40 fX4_69 (Nat.le_of_ble_eq_true rfl) rfl ?_
        refine X.bipush (v := 121) dX4_then_43 (by decide) ?_
        refine X.iload_n dX4_then_45 rfl 3 rfl ?_
        refine X.if_ne (tgt := 54) dX4_then_46 (by decide) (fun c46 => ?_) (fun c46 => ?_)
        · have hf := if_f c46 hf
          refine X.iload_n dX4_then_54 rfl 3 rfl ?_
          refine X.iconst (v := 1) dX4_then_55 (by decide) ?_
          refine X.icmp_ne (tgt := 64) dX4_then_56 (by decide) (fun c56 => ?_) (fun c56 => ?_)
          · have hf := if_f c56 hf
            refine X.bipush (v := 31) dX4_then_64 (by decide) ?_
            refine X.sub [1] (L' := [(1, .int x1)]) rfl ?_
            exact m_then_66_ok _ _ _ _ _ hf h N Z
          · have hf := if_t c56 hf
            refine X.bipush (v := 91) dX4_then_59 (by decide) ?_
            refine X.goto (tgt := 66) dX4_then_61 (by decide) ?_
            refine X.sub [1] (L' := [(1, .int x1)]) rfl ?_
            exact m_then_66_ok _ _ _ _ _ hf h N Z
        · have hf := if_t c46 hf
          refine X.bipush (v := 61) dX4_then_49 (by decide) ?_
          refine X.goto (tgt := 66) dX4_then_51 (by decide) ?_
          refine X.sub [1] (L' := [(1, .int x1)]) rfl ?_
          exact m_then_66_ok _ _ _ _ _ hf h N Z
      · have hf := if_t c29 hf
        refine X.iconst (v := 0) dX4_then_32 (by decide) ?_
        obtain rfl := Option.some.inj hf
        exact X.iret dX4_then_33 rfl rfl rfl
/-! voting -/
abbrev cX4_voting : ByteArray := prog_12_method_84_code
def yX4_voting : MethodName := ⟨RX4, "voting", "(II)I"⟩
def dkwX4_voting_1 : List UInt8 := [172, 42, 28, 182, 1, 156, 42, 16, 121, 27, 182, 1, 114, 172]
abbrev dktX4_voting_1 : List UInt8 := dkwX4_voting_1 ++ []
def dkwX4_voting_0 : List UInt8 := [42, 3, 181, 0, 115, 42, 27, 182, 1, 138, 153, 0, 13, 42, 28, 3, 5, 182, 1, 153, 154, 0, 5, 3]
abbrev dktX4_voting_0 : List UInt8 := dkwX4_voting_0 ++ dktX4_voting_1
theorem dksX4_voting_0 : cX4_voting.data.toList.drop 0 = dktX4_voting_0 := by decide +kernel
theorem dksX4_voting_1 : cX4_voting.data.toList.drop 24 = dktX4_voting_1 := dk_seg dksX4_voting_0 24 rfl rfl
theorem dX4_voting_0 : decode cX4_voting 0 = .ok (.aload_n 0, 1) := dk_42 (dk_at dksX4_voting_0 0 rfl rfl)
theorem dX4_voting_1 : decode cX4_voting 1 = .ok (.iconst 0, 1) := dk_3 (dk_at dksX4_voting_0 1 rfl rfl)
theorem dX4_voting_2 : decode cX4_voting 2 = .ok (.putfield 115, 3) := dk_181 0 115 (dk_at dksX4_voting_0 2 rfl rfl)
theorem dX4_voting_5 : decode cX4_voting 5 = .ok (.aload_n 0, 1) := dk_42 (dk_at dksX4_voting_0 5 rfl rfl)
theorem dX4_voting_6 : decode cX4_voting 6 = .ok (.iload_n 1, 1) := dk_27 (dk_at dksX4_voting_0 6 rfl rfl)
theorem dX4_voting_7 : decode cX4_voting 7 = .ok (.invokevirtual 394, 3) := dk_182 1 138 (dk_at dksX4_voting_0 7 rfl rfl)
theorem dX4_voting_10 : decode cX4_voting 10 = .ok (.ifCond .eq 13, 3) := dk_153 0 13 (dk_at dksX4_voting_0 10 rfl rfl)
theorem dX4_voting_13 : decode cX4_voting 13 = .ok (.aload_n 0, 1) := dk_42 (dk_at dksX4_voting_0 13 rfl rfl)
theorem dX4_voting_14 : decode cX4_voting 14 = .ok (.iload_n 2, 1) := dk_28 (dk_at dksX4_voting_0 14 rfl rfl)
theorem dX4_voting_15 : decode cX4_voting 15 = .ok (.iconst 0, 1) := dk_3 (dk_at dksX4_voting_0 15 rfl rfl)
theorem dX4_voting_16 : decode cX4_voting 16 = .ok (.iconst 2, 1) := dk_5 (dk_at dksX4_voting_0 16 rfl rfl)
theorem dX4_voting_17 : decode cX4_voting 17 = .ok (.invokevirtual 409, 3) := dk_182 1 153 (dk_at dksX4_voting_0 17 rfl rfl)
theorem dX4_voting_20 : decode cX4_voting 20 = .ok (.ifCond .ne 5, 3) := dk_154 0 5 (dk_at dksX4_voting_0 20 rfl rfl)
theorem dX4_voting_23 : decode cX4_voting 23 = .ok (.iconst 0, 1) := dk_3 (dk_at dksX4_voting_0 23 rfl rfl)
theorem dX4_voting_24 : decode cX4_voting 24 = .ok (.ireturn, 1) := dk_172 (dk_at dksX4_voting_1 0 rfl rfl)
theorem dX4_voting_25 : decode cX4_voting 25 = .ok (.aload_n 0, 1) := dk_42 (dk_at dksX4_voting_1 1 rfl rfl)
theorem dX4_voting_26 : decode cX4_voting 26 = .ok (.iload_n 2, 1) := dk_28 (dk_at dksX4_voting_1 2 rfl rfl)
theorem dX4_voting_27 : decode cX4_voting 27 = .ok (.invokevirtual 412, 3) := dk_182 1 156 (dk_at dksX4_voting_1 3 rfl rfl)
theorem dX4_voting_30 : decode cX4_voting 30 = .ok (.aload_n 0, 1) := dk_42 (dk_at dksX4_voting_1 6 rfl rfl)
theorem dX4_voting_31 : decode cX4_voting 31 = .ok (.bipush 121, 2) := dk_16 121 (dk_at dksX4_voting_1 7 rfl rfl)
theorem dX4_voting_33 : decode cX4_voting 33 = .ok (.iload_n 1, 1) := dk_27 (dk_at dksX4_voting_1 9 rfl rfl)
theorem dX4_voting_34 : decode cX4_voting 34 = .ok (.invokevirtual 370, 3) := dk_182 1 114 (dk_at dksX4_voting_1 10 rfl rfl)
theorem dX4_voting_37 : decode cX4_voting 37 = .ok (.ireturn, 1) := dk_172 (dk_at dksX4_voting_1 13 rfl rfl)
abbrev mX4_voting : xM := (yX4_voting, cX4_voting, 3, (some .int), [])
def m_voting (x1 : Int32) (x2 : Int32) (S : MS) : Option (Int32 × MS) :=
  (m_isParty x1 ((sF S 0 (0 : Int32)))).bind fun q7 =>
  if q7.1 = 0 then
    some ((0 : Int32), q7.2)
  else
    (m_isDays x2 ((0 : Int32)) ((2 : Int32)) q7.2).bind fun q17 =>
    if q17.1 = 0 then
      some ((0 : Int32), q17.2)
    else
      (m_goesTo x2 q17.2).bind fun q27 =>
      (m_votesOf ((121 : Int32)) x1 q27).bind fun q34 =>
      some (q34, q27)
theorem w_voting {G : xG} {m0 : Nat} {x1 : Int32} {x2 : Int32} {S : MS} {q : (Int32 × MS)} (hf : m_voting x1 x2 S = some q) : CtM G m0 mX4_voting 8 S [.ref m0, .int x1, .int x2] (some (.int q.1)) q.2 := by
  intro h N Z
  refine Ct.of (by decide +kernel) rfl (Nat.le_of_ble_eq_true rfl) (show Xr G _ 0 [(0, .ref m0), (1, .int x1), (2, .int x2)] [] _ from ?_)
  unfold m_voting at hf
  refine X.aload_n dX4_voting_0 rfl 0 rfl ?_
  refine X.iconst (v := 0) dX4_voting_1 (by decide) ?_
  refine M.putI dX4_voting_2 fX4_115 (by decide) rfl rfl rfl ?_
  refine X.aload_n dX4_voting_5 rfl 0 rfl ?_
  refine X.iload_n dX4_voting_6 rfl 1 rfl ?_
  obtain ⟨q7, h7, hf⟩ := ob hf
  refine X.callVi (As := [.int x1]) (rest := []) (T2 := (mh m0 h q7.2, N, Z)) dX4_voting_7 (w_isParty h7 h N Z) cX4_394 rfl rfl (Nat.le_of_ble_eq_true rfl) mh_0 rfl rfl (xD (Nat.le_of_ble_eq_true rfl)) xleN xleN ?_
  refine X.if_eq (tgt := 23) dX4_voting_10 (by decide) (fun c10 => ?_) (fun c10 => ?_)
  · have hf := if_t c10 hf
    refine X.iconst (v := 0) dX4_voting_23 (by decide) ?_
    obtain rfl := Option.some.inj hf
    exact X.iret dX4_voting_24 rfl rfl rfl
  · have hf := if_f c10 hf
    refine X.aload_n dX4_voting_13 rfl 0 rfl ?_
    refine X.iload_n dX4_voting_14 rfl 2 rfl ?_
    refine X.iconst (v := 0) dX4_voting_15 (by decide) ?_
    refine X.iconst (v := 2) dX4_voting_16 (by decide) ?_
    obtain ⟨q17, h17, hf⟩ := ob hf
    refine X.callVi (As := [.int x2, .int (0 : Int32), .int (2 : Int32)]) (rest := []) (T2 := (mh m0 h q17.2, N, Z)) dX4_voting_17 (w_isDays h17 h N Z) cX4_409 rfl rfl (Nat.le_of_ble_eq_true rfl) mh_0 rfl rfl (xD (Nat.le_of_ble_eq_true rfl)) xleN xleN ?_
    refine X.if_ne (tgt := 25) dX4_voting_20 (by decide) (fun c20 => ?_) (fun c20 => ?_)
    · have hf := if_f c20 hf
      refine X.aload_n dX4_voting_25 rfl 0 rfl ?_
      refine X.iload_n dX4_voting_26 rfl 2 rfl ?_
      obtain ⟨q27, h27, hf⟩ := ob hf
      refine X.callVv (As := [.int x2]) (rest := []) (T2 := (mh m0 h q27, N, Z)) dX4_voting_27 (w_goesTo h27 h N Z) cX4_412 rfl rfl (Nat.le_of_ble_eq_true rfl) mh_0 rfl rfl (xD (Nat.le_of_ble_eq_true rfl)) xleN xleN ?_
      refine X.aload_n dX4_voting_30 rfl 0 rfl ?_
      refine X.bipush (v := 121) dX4_voting_31 (by decide) ?_
      refine X.iload_n dX4_voting_33 rfl 1 rfl ?_
      obtain ⟨q34, h34, hf⟩ := ob hf
      refine X.callVi (As := [.int (121 : Int32), .int x1]) (rest := []) dX4_voting_34 (w_votesOf h34 h N Z) cX4_370 rfl rfl (Nat.le_of_ble_eq_true rfl) mh_0 rfl rfl (xD (Nat.le_of_ble_eq_true rfl)) xleN xleN ?_
      obtain rfl := Option.some.inj hf
      exact X.iret dX4_voting_37 rfl rfl rfl
    · have hf := if_t c20 hf
      refine X.iconst (v := 0) dX4_voting_23 (by decide) ?_
      obtain rfl := Option.some.inj hf
      exact X.iret dX4_voting_24 rfl rfl rfl
/-! winner -/
abbrev cX4_winner : ByteArray := prog_12_method_85_code
def yX4_winner : MethodName := ⟨RX4, "winner", "(I)I"⟩
def dkwX4_winner_1 : List UInt8 := [16, 121, 182, 1, 126, 172]
abbrev dktX4_winner_1 : List UInt8 := dkwX4_winner_1 ++ []
def dkwX4_winner_0 : List UInt8 := [42, 3, 181, 0, 115, 42, 27, 3, 4, 182, 1, 153, 154, 0, 5, 3, 172, 42, 27, 182, 1, 156, 42]
abbrev dktX4_winner_0 : List UInt8 := dkwX4_winner_0 ++ dktX4_winner_1
theorem dksX4_winner_0 : cX4_winner.data.toList.drop 0 = dktX4_winner_0 := by decide +kernel
theorem dksX4_winner_1 : cX4_winner.data.toList.drop 23 = dktX4_winner_1 := dk_seg dksX4_winner_0 23 rfl rfl
theorem dX4_winner_0 : decode cX4_winner 0 = .ok (.aload_n 0, 1) := dk_42 (dk_at dksX4_winner_0 0 rfl rfl)
theorem dX4_winner_1 : decode cX4_winner 1 = .ok (.iconst 0, 1) := dk_3 (dk_at dksX4_winner_0 1 rfl rfl)
theorem dX4_winner_2 : decode cX4_winner 2 = .ok (.putfield 115, 3) := dk_181 0 115 (dk_at dksX4_winner_0 2 rfl rfl)
theorem dX4_winner_5 : decode cX4_winner 5 = .ok (.aload_n 0, 1) := dk_42 (dk_at dksX4_winner_0 5 rfl rfl)
theorem dX4_winner_6 : decode cX4_winner 6 = .ok (.iload_n 1, 1) := dk_27 (dk_at dksX4_winner_0 6 rfl rfl)
theorem dX4_winner_7 : decode cX4_winner 7 = .ok (.iconst 0, 1) := dk_3 (dk_at dksX4_winner_0 7 rfl rfl)
theorem dX4_winner_8 : decode cX4_winner 8 = .ok (.iconst 1, 1) := dk_4 (dk_at dksX4_winner_0 8 rfl rfl)
theorem dX4_winner_9 : decode cX4_winner 9 = .ok (.invokevirtual 409, 3) := dk_182 1 153 (dk_at dksX4_winner_0 9 rfl rfl)
theorem dX4_winner_12 : decode cX4_winner 12 = .ok (.ifCond .ne 5, 3) := dk_154 0 5 (dk_at dksX4_winner_0 12 rfl rfl)
theorem dX4_winner_15 : decode cX4_winner 15 = .ok (.iconst 0, 1) := dk_3 (dk_at dksX4_winner_0 15 rfl rfl)
theorem dX4_winner_16 : decode cX4_winner 16 = .ok (.ireturn, 1) := dk_172 (dk_at dksX4_winner_0 16 rfl rfl)
theorem dX4_winner_17 : decode cX4_winner 17 = .ok (.aload_n 0, 1) := dk_42 (dk_at dksX4_winner_0 17 rfl rfl)
theorem dX4_winner_18 : decode cX4_winner 18 = .ok (.iload_n 1, 1) := dk_27 (dk_at dksX4_winner_0 18 rfl rfl)
theorem dX4_winner_19 : decode cX4_winner 19 = .ok (.invokevirtual 412, 3) := dk_182 1 156 (dk_at dksX4_winner_0 19 rfl rfl)
theorem dX4_winner_22 : decode cX4_winner 22 = .ok (.aload_n 0, 1) := dk_42 (dk_at dksX4_winner_0 22 rfl rfl)
theorem dX4_winner_23 : decode cX4_winner 23 = .ok (.bipush 121, 2) := dk_16 121 (dk_at dksX4_winner_1 0 rfl rfl)
theorem dX4_winner_25 : decode cX4_winner 25 = .ok (.invokevirtual 382, 3) := dk_182 1 126 (dk_at dksX4_winner_1 2 rfl rfl)
theorem dX4_winner_28 : decode cX4_winner 28 = .ok (.ireturn, 1) := dk_172 (dk_at dksX4_winner_1 5 rfl rfl)
abbrev mX4_winner : xM := (yX4_winner, cX4_winner, 2, (some .int), [])
def m_winner (x1 : Int32) (S : MS) : Option (Int32 × MS) :=
  (m_isDays x1 ((0 : Int32)) ((1 : Int32)) ((sF S 0 (0 : Int32)))).bind fun q9 =>
  if q9.1 = 0 then
    some ((0 : Int32), q9.2)
  else
    (m_goesTo x1 q9.2).bind fun q19 =>
    (m_winnerIn ((121 : Int32)) q19).bind fun q25 =>
    some (q25, q19)
theorem w_winner {G : xG} {m0 : Nat} {x1 : Int32} {S : MS} {q : (Int32 × MS)} (hf : m_winner x1 S = some q) : CtM G m0 mX4_winner 8 S [.ref m0, .int x1] (some (.int q.1)) q.2 := by
  intro h N Z
  refine Ct.of (by decide +kernel) rfl (Nat.le_of_ble_eq_true rfl) (show Xr G _ 0 [(0, .ref m0), (1, .int x1)] [] _ from ?_)
  unfold m_winner at hf
  refine X.aload_n dX4_winner_0 rfl 0 rfl ?_
  refine X.iconst (v := 0) dX4_winner_1 (by decide) ?_
  refine M.putI dX4_winner_2 fX4_115 (by decide) rfl rfl rfl ?_
  refine X.aload_n dX4_winner_5 rfl 0 rfl ?_
  refine X.iload_n dX4_winner_6 rfl 1 rfl ?_
  refine X.iconst (v := 0) dX4_winner_7 (by decide) ?_
  refine X.iconst (v := 1) dX4_winner_8 (by decide) ?_
  obtain ⟨q9, h9, hf⟩ := ob hf
  refine X.callVi (As := [.int x1, .int (0 : Int32), .int (1 : Int32)]) (rest := []) (T2 := (mh m0 h q9.2, N, Z)) dX4_winner_9 (w_isDays h9 h N Z) cX4_409 rfl rfl (Nat.le_of_ble_eq_true rfl) mh_0 rfl rfl (xD (Nat.le_of_ble_eq_true rfl)) xleN xleN ?_
  refine X.if_ne (tgt := 17) dX4_winner_12 (by decide) (fun c12 => ?_) (fun c12 => ?_)
  · have hf := if_f c12 hf
    refine X.aload_n dX4_winner_17 rfl 0 rfl ?_
    refine X.iload_n dX4_winner_18 rfl 1 rfl ?_
    obtain ⟨q19, h19, hf⟩ := ob hf
    refine X.callVv (As := [.int x1]) (rest := []) (T2 := (mh m0 h q19, N, Z)) dX4_winner_19 (w_goesTo h19 h N Z) cX4_412 rfl rfl (Nat.le_of_ble_eq_true rfl) mh_0 rfl rfl (xD (Nat.le_of_ble_eq_true rfl)) xleN xleN ?_
    refine X.aload_n dX4_winner_22 rfl 0 rfl ?_
    refine X.bipush (v := 121) dX4_winner_23 (by decide) ?_
    obtain ⟨q25, h25, hf⟩ := ob hf
    refine X.callVi (As := [.int (121 : Int32)]) (rest := []) dX4_winner_25 (w_winnerIn h25 h N Z) cX4_382 rfl rfl (Nat.le_of_ble_eq_true rfl) mh_0 rfl rfl (xD (Nat.le_of_ble_eq_true rfl)) xleN xleN ?_
    obtain rfl := Option.some.inj hf
    exact X.iret dX4_winner_28 rfl rfl rfl
  · have hf := if_t c12 hf
    refine X.iconst (v := 0) dX4_winner_15 (by decide) ?_
    obtain rfl := Option.some.inj hf
    exact X.iret dX4_winner_16 rfl rfl rfl
/-! first -/
abbrev cX4_first : ByteArray := prog_12_method_86_code
def yX4_first : MethodName := ⟨RX4, "first", "(I)I"⟩
def dkwX4_first_2 : List UInt8 := [167, 255, 229, 2, 172]
abbrev dktX4_first_2 : List UInt8 := dkwX4_first_2 ++ []
def dkwX4_first_1 : List UInt8 := [163, 0, 27, 42, 16, 121, 182, 1, 126, 27, 160, 0, 5, 28, 172, 42, 16, 121, 182, 1, 107, 132, 2, 1]
abbrev dktX4_first_1 : List UInt8 := dkwX4_first_1 ++ dktX4_first_2
def dkwX4_first_0 : List UInt8 := [42, 3, 181, 0, 115, 42, 27, 182, 1, 138, 154, 0, 5, 3, 172, 42, 182, 1, 147, 3, 61, 28, 16, 40]
abbrev dktX4_first_0 : List UInt8 := dkwX4_first_0 ++ dktX4_first_1
theorem dksX4_first_0 : cX4_first.data.toList.drop 0 = dktX4_first_0 := by decide +kernel
theorem dksX4_first_1 : cX4_first.data.toList.drop 24 = dktX4_first_1 := dk_seg dksX4_first_0 24 rfl rfl
theorem dksX4_first_2 : cX4_first.data.toList.drop 48 = dktX4_first_2 := dk_seg dksX4_first_1 24 rfl rfl
theorem dX4_first_0 : decode cX4_first 0 = .ok (.aload_n 0, 1) := dk_42 (dk_at dksX4_first_0 0 rfl rfl)
theorem dX4_first_1 : decode cX4_first 1 = .ok (.iconst 0, 1) := dk_3 (dk_at dksX4_first_0 1 rfl rfl)
theorem dX4_first_2 : decode cX4_first 2 = .ok (.putfield 115, 3) := dk_181 0 115 (dk_at dksX4_first_0 2 rfl rfl)
theorem dX4_first_5 : decode cX4_first 5 = .ok (.aload_n 0, 1) := dk_42 (dk_at dksX4_first_0 5 rfl rfl)
theorem dX4_first_6 : decode cX4_first 6 = .ok (.iload_n 1, 1) := dk_27 (dk_at dksX4_first_0 6 rfl rfl)
theorem dX4_first_7 : decode cX4_first 7 = .ok (.invokevirtual 394, 3) := dk_182 1 138 (dk_at dksX4_first_0 7 rfl rfl)
theorem dX4_first_10 : decode cX4_first 10 = .ok (.ifCond .ne 5, 3) := dk_154 0 5 (dk_at dksX4_first_0 10 rfl rfl)
theorem dX4_first_13 : decode cX4_first 13 = .ok (.iconst 0, 1) := dk_3 (dk_at dksX4_first_0 13 rfl rfl)
theorem dX4_first_14 : decode cX4_first 14 = .ok (.ireturn, 1) := dk_172 (dk_at dksX4_first_0 14 rfl rfl)
theorem dX4_first_15 : decode cX4_first 15 = .ok (.aload_n 0, 1) := dk_42 (dk_at dksX4_first_0 15 rfl rfl)
theorem dX4_first_16 : decode cX4_first 16 = .ok (.invokevirtual 403, 3) := dk_182 1 147 (dk_at dksX4_first_0 16 rfl rfl)
theorem dX4_first_19 : decode cX4_first 19 = .ok (.iconst 0, 1) := dk_3 (dk_at dksX4_first_0 19 rfl rfl)
theorem dX4_first_20 : decode cX4_first 20 = .ok (.istore_n 2, 1) := dk_61 (dk_at dksX4_first_0 20 rfl rfl)
theorem dX4_first_21 : decode cX4_first 21 = .ok (.iload_n 2, 1) := dk_28 (dk_at dksX4_first_0 21 rfl rfl)
theorem dX4_first_22 : decode cX4_first 22 = .ok (.bipush 40, 2) := dk_16 40 (dk_at dksX4_first_0 22 rfl rfl)
theorem dX4_first_24 : decode cX4_first 24 = .ok (.if_icmp .gt 27, 3) := dk_163 0 27 (dk_at dksX4_first_1 0 rfl rfl)
theorem dX4_first_27 : decode cX4_first 27 = .ok (.aload_n 0, 1) := dk_42 (dk_at dksX4_first_1 3 rfl rfl)
theorem dX4_first_28 : decode cX4_first 28 = .ok (.bipush 121, 2) := dk_16 121 (dk_at dksX4_first_1 4 rfl rfl)
theorem dX4_first_30 : decode cX4_first 30 = .ok (.invokevirtual 382, 3) := dk_182 1 126 (dk_at dksX4_first_1 6 rfl rfl)
theorem dX4_first_33 : decode cX4_first 33 = .ok (.iload_n 1, 1) := dk_27 (dk_at dksX4_first_1 9 rfl rfl)
theorem dX4_first_34 : decode cX4_first 34 = .ok (.if_icmp .ne 5, 3) := dk_160 0 5 (dk_at dksX4_first_1 10 rfl rfl)
theorem dX4_first_37 : decode cX4_first 37 = .ok (.iload_n 2, 1) := dk_28 (dk_at dksX4_first_1 13 rfl rfl)
theorem dX4_first_38 : decode cX4_first 38 = .ok (.ireturn, 1) := dk_172 (dk_at dksX4_first_1 14 rfl rfl)
theorem dX4_first_39 : decode cX4_first 39 = .ok (.aload_n 0, 1) := dk_42 (dk_at dksX4_first_1 15 rfl rfl)
theorem dX4_first_40 : decode cX4_first 40 = .ok (.bipush 121, 2) := dk_16 121 (dk_at dksX4_first_1 16 rfl rfl)
theorem dX4_first_42 : decode cX4_first 42 = .ok (.invokevirtual 363, 3) := dk_182 1 107 (dk_at dksX4_first_1 18 rfl rfl)
theorem dX4_first_45 : decode cX4_first 45 = .ok (.iinc 2 1, 3) := dk_132 2 1 (dk_at dksX4_first_1 21 rfl rfl)
theorem dX4_first_48 : decode cX4_first 48 = .ok (.goto (-27), 3) := dk_167 255 229 (dk_at dksX4_first_2 0 rfl rfl)
theorem dX4_first_51 : decode cX4_first 51 = .ok (.iconst (-1), 1) := dk_2 (dk_at dksX4_first_2 3 rfl rfl)
theorem dX4_first_52 : decode cX4_first 52 = .ok (.ireturn, 1) := dk_172 (dk_at dksX4_first_2 4 rfl rfl)
abbrev mX4_first : xM := (yX4_first, cX4_first, 3, (some .int), [])
def m_first_21_b  (k21 : Int32 → Int32 → MS → Option (Int32 × MS)) (x1 : Int32) (x2 : Int32) (S : MS) : Option (Int32 × MS) :=
  if (40 : Int32) < x2 then
    some ((-1 : Int32), S)
  else
    (m_winnerIn ((121 : Int32)) S).bind fun q30 =>
    if q30 = x1 then
      some (x2, S)
    else
      (m_dayGoes ((121 : Int32)) S).bind fun q42 =>
      k21 x1 ((x2 + 1)) q42
def m_first_21  : Nat → Int32 → Int32 → MS → Option (Int32 × MS)
  | 0 => fun _ _ _ => none
  | n + 1 => fun x1 x2 S => m_first_21_b (m_first_21 n) x1 x2 S
theorem m_first_21_bok {G : xG} {m0 : Nat} {S0 : MS}  {k21 : Int32 → Int32 → MS → Option (Int32 × MS)}  (hk21 : ∀ (x1 : Int32) (x2 : Int32) (S : MS) (q : (Int32 × MS)), k21 x1 x2 S = some q → XM G m0 mX4_first 6 S0 (some (.int q.1)) q.2 21 [(0, .ref m0), (1, .int x1), (2, .int x2)] [] S) (x1 : Int32) (x2 : Int32) (S : MS) (q : (Int32 × MS)) (hf : m_first_21_b k21 x1 x2 S = some q) : XM G m0 mX4_first 6 S0 (some (.int q.1)) q.2 21 [(0, .ref m0), (1, .int x1), (2, .int x2)] [] S := by
  intro h N Z
  unfold m_first_21_b at hf
  refine X.iload_n dX4_first_21 rfl 2 rfl ?_
  refine X.bipush (v := 40) dX4_first_22 (by decide) ?_
  refine X.icmp_gt (tgt := 51) dX4_first_24 (by decide) (fun c24 => ?_) (fun c24 => ?_)
  · have hf := if_t c24 hf
    refine X.iconst (v := -1) dX4_first_51 (by decide) ?_
    obtain rfl := Option.some.inj hf
    exact X.iret dX4_first_52 rfl rfl rfl
  · have hf := if_f c24 hf
    refine X.aload_n dX4_first_27 rfl 0 rfl ?_
    refine X.bipush (v := 121) dX4_first_28 (by decide) ?_
    obtain ⟨q30, h30, hf⟩ := ob hf
    refine X.callVi (As := [.int (121 : Int32)]) (rest := []) dX4_first_30 (w_winnerIn h30 h N Z) cX4_382 rfl rfl (Nat.le_of_ble_eq_true rfl) mh_0 rfl rfl (xD (Nat.le_of_ble_eq_true rfl)) xleN xleN ?_
    refine X.iload_n dX4_first_33 rfl 1 rfl ?_
    refine X.icmp_ne (tgt := 39) dX4_first_34 (by decide) (fun c34 => ?_) (fun c34 => ?_)
    · have hf := if_f c34 hf
      refine X.aload_n dX4_first_39 rfl 0 rfl ?_
      refine X.bipush (v := 121) dX4_first_40 (by decide) ?_
      obtain ⟨q42, h42, hf⟩ := ob hf
      refine X.callVv (As := [.int (121 : Int32)]) (rest := []) (T2 := (mh m0 h q42, N, Z)) dX4_first_42 (w_dayGoes h42 h N Z) cX4_363 rfl rfl (Nat.le_of_ble_eq_true rfl) mh_0 rfl rfl (xD (Nat.le_of_ble_eq_true rfl)) xleN xleN ?_
      refine X.iinc (v := (x2 + 1)) (L' := [(2, .int (x2 + 1)), (0, .ref m0), (1, .int x1)]) dX4_first_45 2 rfl rfl (Nat.le_of_ble_eq_true rfl) rfl ?_
      refine X.goto (tgt := 21) dX4_first_48 (by decide) ?_
      refine X.sub [1, 2, 0] (L' := [(0, .ref m0), (1, .int x1), (2, .int (x2 + 1))]) rfl ?_
      exact hk21 _ _ _ _ hf h N Z
    · have hf := if_t c34 hf
      refine X.iload_n dX4_first_37 rfl 2 rfl ?_
      obtain rfl := Option.some.inj hf
      exact X.iret dX4_first_38 rfl rfl rfl
theorem m_first_21_ok {G : xG} {m0 : Nat} {S0 : MS}   : ∀ (n : Nat) (x1 : Int32) (x2 : Int32) (S : MS) (q : (Int32 × MS)), m_first_21 n x1 x2 S = some q → XM G m0 mX4_first 6 S0 (some (.int q.1)) q.2 21 [(0, .ref m0), (1, .int x1), (2, .int x2)] [] S
  | 0, _, _, _, _, hf => by cases hf
  | n + 1, x1, x2, S, q, hf => m_first_21_bok (m_first_21_ok n) x1 x2 S q hf
def m_first (x1 : Int32) (S : MS) : Option (Int32 × MS) :=
  (m_isParty x1 ((sF S 0 (0 : Int32)))).bind fun q7 =>
  if q7.1 = 0 then
    some ((0 : Int32), q7.2)
  else
    (m_tries q7.2).bind fun q16 =>
    m_first_21 FU x1 ((0 : Int32)) q16
theorem w_first {G : xG} {m0 : Nat} {x1 : Int32} {S : MS} {q : (Int32 × MS)} (hf : m_first x1 S = some q) : CtM G m0 mX4_first 6 S [.ref m0, .int x1] (some (.int q.1)) q.2 := by
  intro h N Z
  refine Ct.of (by decide +kernel) rfl (Nat.le_of_ble_eq_true rfl) (show Xr G _ 0 [(0, .ref m0), (1, .int x1)] [] _ from ?_)
  unfold m_first at hf
  refine X.aload_n dX4_first_0 rfl 0 rfl ?_
  refine X.iconst (v := 0) dX4_first_1 (by decide) ?_
  refine M.putI dX4_first_2 fX4_115 (by decide) rfl rfl rfl ?_
  refine X.aload_n dX4_first_5 rfl 0 rfl ?_
  refine X.iload_n dX4_first_6 rfl 1 rfl ?_
  obtain ⟨q7, h7, hf⟩ := ob hf
  refine X.callVi (As := [.int x1]) (rest := []) (T2 := (mh m0 h q7.2, N, Z)) dX4_first_7 (w_isParty h7 h N Z) cX4_394 rfl rfl (Nat.le_of_ble_eq_true rfl) mh_0 rfl rfl (xD (Nat.le_of_ble_eq_true rfl)) xleN xleN ?_
  refine X.if_ne (tgt := 15) dX4_first_10 (by decide) (fun c10 => ?_) (fun c10 => ?_)
  · have hf := if_f c10 hf
    refine X.aload_n dX4_first_15 rfl 0 rfl ?_
    obtain ⟨q16, h16, hf⟩ := ob hf
    refine X.callVv (As := []) (rest := []) (T2 := (mh m0 h q16, N, Z)) dX4_first_16 (w_tries h16 h N Z) cX4_403 rfl rfl (Nat.le_of_ble_eq_true rfl) mh_0 rfl rfl (xD (Nat.le_of_ble_eq_true rfl)) xleN xleN ?_
    refine X.iconst (v := 0) dX4_first_19 (by decide) ?_
    refine X.istore_n (L' := [(2, .int (0 : Int32)), (0, .ref m0), (1, .int x1)]) dX4_first_20 rfl (Nat.le_of_ble_eq_true rfl) rfl ?_
    refine X.sub [1, 2, 0] (L' := [(0, .ref m0), (1, .int x1), (2, .int (0 : Int32))]) rfl ?_
    exact m_first_21_ok FU _ _ _ _ hf h N Z
  · have hf := if_t c10 hf
    refine X.iconst (v := 0) dX4_first_13 (by decide) ?_
    obtain rfl := Option.some.inj hf
    exact X.iret dX4_first_14 rfl rfl rfl
/-! rest -/
abbrev cX4_rest : ByteArray := prog_12_method_87_code
def yX4_rest : MethodName := ⟨RX4, "rest", "()I"⟩
def dkwX4_rest_4 : List UInt8 := [27, 167, 0, 4, 28, 60, 42, 16, 121, 182, 1, 107, 132, 2, 1, 167, 255, 158, 27, 172]
abbrev dktX4_rest_4 : List UInt8 := dkwX4_rest_4 ++ []
def dkwX4_rest_3 : List UInt8 := [21, 4, 42, 180, 0, 69, 17, 0, 182, 21, 4, 96, 46, 79, 132, 4, 1, 167, 255, 191, 29, 153, 0, 7]
abbrev dktX4_rest_3 : List UInt8 := dkwX4_rest_3 ++ dktX4_rest_4
def dkwX4_rest_2 : List UInt8 := [21, 4, 96, 46, 42, 180, 0, 84, 21, 4, 46, 160, 0, 7, 4, 167, 0, 4, 3, 62, 42, 180, 0, 84]
abbrev dktX4_rest_2 : List UInt8 := dkwX4_rest_2 ++ dktX4_rest_3
def dkwX4_rest_1 : List UInt8 := [21, 4, 42, 182, 1, 65, 162, 0, 62, 29, 153, 0, 32, 28, 153, 0, 24, 42, 180, 0, 69, 17, 0, 182]
abbrev dktX4_rest_1 : List UInt8 := dkwX4_rest_1 ++ dktX4_rest_2
def dkwX4_rest_0 : List UInt8 := [42, 3, 181, 0, 115, 42, 182, 1, 147, 3, 60, 3, 61, 28, 16, 40, 163, 0, 98, 4, 62, 3, 54, 4]
abbrev dktX4_rest_0 : List UInt8 := dkwX4_rest_0 ++ dktX4_rest_1
theorem dksX4_rest_0 : cX4_rest.data.toList.drop 0 = dktX4_rest_0 := by decide +kernel
theorem dksX4_rest_1 : cX4_rest.data.toList.drop 24 = dktX4_rest_1 := dk_seg dksX4_rest_0 24 rfl rfl
theorem dksX4_rest_2 : cX4_rest.data.toList.drop 48 = dktX4_rest_2 := dk_seg dksX4_rest_1 24 rfl rfl
theorem dksX4_rest_3 : cX4_rest.data.toList.drop 72 = dktX4_rest_3 := dk_seg dksX4_rest_2 24 rfl rfl
theorem dksX4_rest_4 : cX4_rest.data.toList.drop 96 = dktX4_rest_4 := dk_seg dksX4_rest_3 24 rfl rfl
theorem dX4_rest_0 : decode cX4_rest 0 = .ok (.aload_n 0, 1) := dk_42 (dk_at dksX4_rest_0 0 rfl rfl)
theorem dX4_rest_1 : decode cX4_rest 1 = .ok (.iconst 0, 1) := dk_3 (dk_at dksX4_rest_0 1 rfl rfl)
theorem dX4_rest_2 : decode cX4_rest 2 = .ok (.putfield 115, 3) := dk_181 0 115 (dk_at dksX4_rest_0 2 rfl rfl)
theorem dX4_rest_5 : decode cX4_rest 5 = .ok (.aload_n 0, 1) := dk_42 (dk_at dksX4_rest_0 5 rfl rfl)
theorem dX4_rest_6 : decode cX4_rest 6 = .ok (.invokevirtual 403, 3) := dk_182 1 147 (dk_at dksX4_rest_0 6 rfl rfl)
theorem dX4_rest_9 : decode cX4_rest 9 = .ok (.iconst 0, 1) := dk_3 (dk_at dksX4_rest_0 9 rfl rfl)
theorem dX4_rest_10 : decode cX4_rest 10 = .ok (.istore_n 1, 1) := dk_60 (dk_at dksX4_rest_0 10 rfl rfl)
theorem dX4_rest_11 : decode cX4_rest 11 = .ok (.iconst 0, 1) := dk_3 (dk_at dksX4_rest_0 11 rfl rfl)
theorem dX4_rest_12 : decode cX4_rest 12 = .ok (.istore_n 2, 1) := dk_61 (dk_at dksX4_rest_0 12 rfl rfl)
theorem dX4_rest_13 : decode cX4_rest 13 = .ok (.iload_n 2, 1) := dk_28 (dk_at dksX4_rest_0 13 rfl rfl)
theorem dX4_rest_14 : decode cX4_rest 14 = .ok (.bipush 40, 2) := dk_16 40 (dk_at dksX4_rest_0 14 rfl rfl)
theorem dX4_rest_16 : decode cX4_rest 16 = .ok (.if_icmp .gt 98, 3) := dk_163 0 98 (dk_at dksX4_rest_0 16 rfl rfl)
theorem dX4_rest_19 : decode cX4_rest 19 = .ok (.iconst 1, 1) := dk_4 (dk_at dksX4_rest_0 19 rfl rfl)
theorem dX4_rest_20 : decode cX4_rest 20 = .ok (.istore_n 3, 1) := dk_62 (dk_at dksX4_rest_0 20 rfl rfl)
theorem dX4_rest_21 : decode cX4_rest 21 = .ok (.iconst 0, 1) := dk_3 (dk_at dksX4_rest_0 21 rfl rfl)
theorem dX4_rest_22 : decode cX4_rest 22 = .ok (.istore 4, 2) := dk_54 4 (dk_at dksX4_rest_0 22 rfl rfl)
theorem dX4_rest_24 : decode cX4_rest 24 = .ok (.iload 4, 2) := dk_21 4 (dk_at dksX4_rest_1 0 rfl rfl)
theorem dX4_rest_26 : decode cX4_rest 26 = .ok (.aload_n 0, 1) := dk_42 (dk_at dksX4_rest_1 2 rfl rfl)
theorem dX4_rest_27 : decode cX4_rest 27 = .ok (.invokevirtual 321, 3) := dk_182 1 65 (dk_at dksX4_rest_1 3 rfl rfl)
theorem dX4_rest_30 : decode cX4_rest 30 = .ok (.if_icmp .ge 62, 3) := dk_162 0 62 (dk_at dksX4_rest_1 6 rfl rfl)
theorem dX4_rest_33 : decode cX4_rest 33 = .ok (.iload_n 3, 1) := dk_29 (dk_at dksX4_rest_1 9 rfl rfl)
theorem dX4_rest_34 : decode cX4_rest 34 = .ok (.ifCond .eq 32, 3) := dk_153 0 32 (dk_at dksX4_rest_1 10 rfl rfl)
theorem dX4_rest_37 : decode cX4_rest 37 = .ok (.iload_n 2, 1) := dk_28 (dk_at dksX4_rest_1 13 rfl rfl)
theorem dX4_rest_38 : decode cX4_rest 38 = .ok (.ifCond .eq 24, 3) := dk_153 0 24 (dk_at dksX4_rest_1 14 rfl rfl)
theorem dX4_rest_41 : decode cX4_rest 41 = .ok (.aload_n 0, 1) := dk_42 (dk_at dksX4_rest_1 17 rfl rfl)
theorem dX4_rest_42 : decode cX4_rest 42 = .ok (.getfield 69, 3) := dk_180 0 69 (dk_at dksX4_rest_1 18 rfl rfl)
theorem dX4_rest_45 : decode cX4_rest 45 = .ok (.sipush 182, 3) := dk_17 0 182 (dk_at dksX4_rest_1 21 rfl rfl)
theorem dX4_rest_48 : decode cX4_rest 48 = .ok (.iload 4, 2) := dk_21 4 (dk_at dksX4_rest_2 0 rfl rfl)
theorem dX4_rest_50 : decode cX4_rest 50 = .ok (.iadd, 1) := dk_96 (dk_at dksX4_rest_2 2 rfl rfl)
theorem dX4_rest_51 : decode cX4_rest 51 = .ok (.iaload, 1) := dk_46 (dk_at dksX4_rest_2 3 rfl rfl)
theorem dX4_rest_52 : decode cX4_rest 52 = .ok (.aload_n 0, 1) := dk_42 (dk_at dksX4_rest_2 4 rfl rfl)
theorem dX4_rest_53 : decode cX4_rest 53 = .ok (.getfield 84, 3) := dk_180 0 84 (dk_at dksX4_rest_2 5 rfl rfl)
theorem dX4_rest_56 : decode cX4_rest 56 = .ok (.iload 4, 2) := dk_21 4 (dk_at dksX4_rest_2 8 rfl rfl)
theorem dX4_rest_58 : decode cX4_rest 58 = .ok (.iaload, 1) := dk_46 (dk_at dksX4_rest_2 10 rfl rfl)
theorem dX4_rest_59 : decode cX4_rest 59 = .ok (.if_icmp .ne 7, 3) := dk_160 0 7 (dk_at dksX4_rest_2 11 rfl rfl)
theorem dX4_rest_62 : decode cX4_rest 62 = .ok (.iconst 1, 1) := dk_4 (dk_at dksX4_rest_2 14 rfl rfl)
theorem dX4_rest_63 : decode cX4_rest 63 = .ok (.goto 4, 3) := dk_167 0 4 (dk_at dksX4_rest_2 15 rfl rfl)
theorem dX4_rest_66 : decode cX4_rest 66 = .ok (.iconst 0, 1) := dk_3 (dk_at dksX4_rest_2 18 rfl rfl)
theorem dX4_rest_67 : decode cX4_rest 67 = .ok (.istore_n 3, 1) := dk_62 (dk_at dksX4_rest_2 19 rfl rfl)
theorem dX4_rest_68 : decode cX4_rest 68 = .ok (.aload_n 0, 1) := dk_42 (dk_at dksX4_rest_2 20 rfl rfl)
theorem dX4_rest_69 : decode cX4_rest 69 = .ok (.getfield 84, 3) := dk_180 0 84 (dk_at dksX4_rest_2 21 rfl rfl)
theorem dX4_rest_72 : decode cX4_rest 72 = .ok (.iload 4, 2) := dk_21 4 (dk_at dksX4_rest_3 0 rfl rfl)
theorem dX4_rest_74 : decode cX4_rest 74 = .ok (.aload_n 0, 1) := dk_42 (dk_at dksX4_rest_3 2 rfl rfl)
theorem dX4_rest_75 : decode cX4_rest 75 = .ok (.getfield 69, 3) := dk_180 0 69 (dk_at dksX4_rest_3 3 rfl rfl)
theorem dX4_rest_78 : decode cX4_rest 78 = .ok (.sipush 182, 3) := dk_17 0 182 (dk_at dksX4_rest_3 6 rfl rfl)
theorem dX4_rest_81 : decode cX4_rest 81 = .ok (.iload 4, 2) := dk_21 4 (dk_at dksX4_rest_3 9 rfl rfl)
theorem dX4_rest_83 : decode cX4_rest 83 = .ok (.iadd, 1) := dk_96 (dk_at dksX4_rest_3 11 rfl rfl)
theorem dX4_rest_84 : decode cX4_rest 84 = .ok (.iaload, 1) := dk_46 (dk_at dksX4_rest_3 12 rfl rfl)
theorem dX4_rest_85 : decode cX4_rest 85 = .ok (.iastore, 1) := dk_79 (dk_at dksX4_rest_3 13 rfl rfl)
theorem dX4_rest_86 : decode cX4_rest 86 = .ok (.iinc 4 1, 3) := dk_132 4 1 (dk_at dksX4_rest_3 14 rfl rfl)
theorem dX4_rest_89 : decode cX4_rest 89 = .ok (.goto (-65), 3) := dk_167 255 191 (dk_at dksX4_rest_3 17 rfl rfl)
theorem dX4_rest_92 : decode cX4_rest 92 = .ok (.iload_n 3, 1) := dk_29 (dk_at dksX4_rest_3 20 rfl rfl)
theorem dX4_rest_93 : decode cX4_rest 93 = .ok (.ifCond .eq 7, 3) := dk_153 0 7 (dk_at dksX4_rest_3 21 rfl rfl)
theorem dX4_rest_96 : decode cX4_rest 96 = .ok (.iload_n 1, 1) := dk_27 (dk_at dksX4_rest_4 0 rfl rfl)
theorem dX4_rest_97 : decode cX4_rest 97 = .ok (.goto 4, 3) := dk_167 0 4 (dk_at dksX4_rest_4 1 rfl rfl)
theorem dX4_rest_100 : decode cX4_rest 100 = .ok (.iload_n 2, 1) := dk_28 (dk_at dksX4_rest_4 4 rfl rfl)
theorem dX4_rest_101 : decode cX4_rest 101 = .ok (.istore_n 1, 1) := dk_60 (dk_at dksX4_rest_4 5 rfl rfl)
theorem dX4_rest_102 : decode cX4_rest 102 = .ok (.aload_n 0, 1) := dk_42 (dk_at dksX4_rest_4 6 rfl rfl)
theorem dX4_rest_103 : decode cX4_rest 103 = .ok (.bipush 121, 2) := dk_16 121 (dk_at dksX4_rest_4 7 rfl rfl)
theorem dX4_rest_105 : decode cX4_rest 105 = .ok (.invokevirtual 363, 3) := dk_182 1 107 (dk_at dksX4_rest_4 9 rfl rfl)
theorem dX4_rest_108 : decode cX4_rest 108 = .ok (.iinc 2 1, 3) := dk_132 2 1 (dk_at dksX4_rest_4 12 rfl rfl)
theorem dX4_rest_111 : decode cX4_rest 111 = .ok (.goto (-98), 3) := dk_167 255 158 (dk_at dksX4_rest_4 15 rfl rfl)
theorem dX4_rest_114 : decode cX4_rest 114 = .ok (.iload_n 1, 1) := dk_27 (dk_at dksX4_rest_4 18 rfl rfl)
theorem dX4_rest_115 : decode cX4_rest 115 = .ok (.ireturn, 1) := dk_172 (dk_at dksX4_rest_4 19 rfl rfl)
abbrev mX4_rest : xM := (yX4_rest, cX4_rest, 5, (some .int), [])
def m_rest_67 (k13 : Int32 → Int32 → MS → Option (Int32 × MS)) (k24 : Int32 → Int32 → Int32 → Int32 → MS → Option (Int32 × MS)) (x1 : Int32) (x2 : Int32) (x4 : Int32) (y0 : Int32) (S : MS) : Option (Int32 × MS) :=
  (rdA S 13 ((182 : Int32) + x4)).bind fun v84 =>
  (wrA S 18 x4 v84).bind fun S85 =>
  k24 x1 x2 y0 ((x4 + 1)) S85
theorem m_rest_67_ok {G : xG} {m0 : Nat} {S0 : MS} {k13 : Int32 → Int32 → MS → Option (Int32 × MS)} {k24 : Int32 → Int32 → Int32 → Int32 → MS → Option (Int32 × MS)} (hk13 : ∀ (x1 : Int32) (x2 : Int32) (S : MS) (q : (Int32 × MS)), k13 x1 x2 S = some q → XM G m0 mX4_rest 6 S0 (some (.int q.1)) q.2 13 [(0, .ref m0), (1, .int x1), (2, .int x2)] [] S) (hk24 : ∀ (x1 : Int32) (x2 : Int32) (x3 : Int32) (x4 : Int32) (S : MS) (q : (Int32 × MS)), k24 x1 x2 x3 x4 S = some q → XM G m0 mX4_rest 6 S0 (some (.int q.1)) q.2 24 [(0, .ref m0), (1, .int x1), (2, .int x2), (3, .int x3), (4, .int x4)] [] S) (x1 : Int32) (x2 : Int32) (x4 : Int32) (y0 : Int32) (S : MS) (q : (Int32 × MS)) (hf : m_rest_67 k13 k24 x1 x2 x4 y0 S = some q) : XM G m0 mX4_rest 6 S0 (some (.int q.1)) q.2 67 [(0, .ref m0), (1, .int x1), (2, .int x2), (4, .int x4)] [.int y0] S := by
  intro h N Z
  unfold m_rest_67 at hf
  refine X.istore_n (L' := [(3, .int y0), (0, .ref m0), (1, .int x1), (2, .int x2), (4, .int x4)]) dX4_rest_67 rfl (Nat.le_of_ble_eq_true rfl) rfl ?_
  refine X.aload_n dX4_rest_68 rfl 1 rfl ?_
  refine M.get (v := .ref (m0 + 18)) dX4_rest_69 fX4_84 (Nat.le_of_ble_eq_true rfl) rfl ?_
  refine X.iload dX4_rest_72 4 rfl ?_
  refine X.aload_n dX4_rest_74 rfl 1 rfl ?_
  refine M.get (v := .ref (m0 + 13)) dX4_rest_75 fX4_69 (Nat.le_of_ble_eq_true rfl) rfl ?_
  refine X.sipush (v := 182) dX4_rest_78 (by decide) ?_
  refine X.iload dX4_rest_81 4 rfl ?_
  refine X.iadd dX4_rest_83 ?_
  obtain ⟨v84, h84, hf⟩ := ob hf
  refine M.iald dX4_rest_84 rfl h84 ?_
  obtain ⟨S85, h85, hf⟩ := ob hf
  refine M.iast dX4_rest_85 rfl h85 ?_
  refine X.iinc (v := (x4 + 1)) (L' := [(4, .int (x4 + 1)), (3, .int y0), (0, .ref m0), (1, .int x1), (2, .int x2)]) dX4_rest_86 4 rfl rfl (Nat.le_of_ble_eq_true rfl) rfl ?_
  refine X.goto (tgt := 24) dX4_rest_89 (by decide) ?_
  refine X.sub [2, 3, 4, 1, 0] (L' := [(0, .ref m0), (1, .int x1), (2, .int x2), (3, .int y0), (4, .int (x4 + 1))]) rfl ?_
  exact hk24 _ _ _ _ _ _ hf h N Z
def m_rest_62 (k13 : Int32 → Int32 → MS → Option (Int32 × MS)) (k24 : Int32 → Int32 → Int32 → Int32 → MS → Option (Int32 × MS)) (x1 : Int32) (x2 : Int32) (x4 : Int32) (S : MS) : Option (Int32 × MS) :=
  m_rest_67 k13 k24 x1 x2 x4 ((1 : Int32)) S
theorem m_rest_62_ok {G : xG} {m0 : Nat} {S0 : MS} {k13 : Int32 → Int32 → MS → Option (Int32 × MS)} {k24 : Int32 → Int32 → Int32 → Int32 → MS → Option (Int32 × MS)} (hk13 : ∀ (x1 : Int32) (x2 : Int32) (S : MS) (q : (Int32 × MS)), k13 x1 x2 S = some q → XM G m0 mX4_rest 6 S0 (some (.int q.1)) q.2 13 [(0, .ref m0), (1, .int x1), (2, .int x2)] [] S) (hk24 : ∀ (x1 : Int32) (x2 : Int32) (x3 : Int32) (x4 : Int32) (S : MS) (q : (Int32 × MS)), k24 x1 x2 x3 x4 S = some q → XM G m0 mX4_rest 6 S0 (some (.int q.1)) q.2 24 [(0, .ref m0), (1, .int x1), (2, .int x2), (3, .int x3), (4, .int x4)] [] S) (x1 : Int32) (x2 : Int32) (x4 : Int32) (S : MS) (q : (Int32 × MS)) (hf : m_rest_62 k13 k24 x1 x2 x4 S = some q) : XM G m0 mX4_rest 6 S0 (some (.int q.1)) q.2 62 [(0, .ref m0), (1, .int x1), (2, .int x2), (4, .int x4)] [] S := by
  intro h N Z
  unfold m_rest_62 at hf
  refine X.iconst (v := 1) dX4_rest_62 (by decide) ?_
  refine X.goto (tgt := 67) dX4_rest_63 (by decide) ?_
  refine X.sub [0, 1, 2, 3] (L' := [(0, .ref m0), (1, .int x1), (2, .int x2), (4, .int x4)]) rfl ?_
  exact m_rest_67_ok hk13 hk24 _ _ _ _ _ _ hf h N Z
def m_rest_66 (k13 : Int32 → Int32 → MS → Option (Int32 × MS)) (k24 : Int32 → Int32 → Int32 → Int32 → MS → Option (Int32 × MS)) (x1 : Int32) (x2 : Int32) (x4 : Int32) (S : MS) : Option (Int32 × MS) :=
  m_rest_67 k13 k24 x1 x2 x4 ((0 : Int32)) S
theorem m_rest_66_ok {G : xG} {m0 : Nat} {S0 : MS} {k13 : Int32 → Int32 → MS → Option (Int32 × MS)} {k24 : Int32 → Int32 → Int32 → Int32 → MS → Option (Int32 × MS)} (hk13 : ∀ (x1 : Int32) (x2 : Int32) (S : MS) (q : (Int32 × MS)), k13 x1 x2 S = some q → XM G m0 mX4_rest 6 S0 (some (.int q.1)) q.2 13 [(0, .ref m0), (1, .int x1), (2, .int x2)] [] S) (hk24 : ∀ (x1 : Int32) (x2 : Int32) (x3 : Int32) (x4 : Int32) (S : MS) (q : (Int32 × MS)), k24 x1 x2 x3 x4 S = some q → XM G m0 mX4_rest 6 S0 (some (.int q.1)) q.2 24 [(0, .ref m0), (1, .int x1), (2, .int x2), (3, .int x3), (4, .int x4)] [] S) (x1 : Int32) (x2 : Int32) (x4 : Int32) (S : MS) (q : (Int32 × MS)) (hf : m_rest_66 k13 k24 x1 x2 x4 S = some q) : XM G m0 mX4_rest 6 S0 (some (.int q.1)) q.2 66 [(0, .ref m0), (1, .int x1), (2, .int x2), (4, .int x4)] [] S := by
  intro h N Z
  unfold m_rest_66 at hf
  refine X.iconst (v := 0) dX4_rest_66 (by decide) ?_
  refine X.sub [0, 1, 2, 3] (L' := [(0, .ref m0), (1, .int x1), (2, .int x2), (4, .int x4)]) rfl ?_
  exact m_rest_67_ok hk13 hk24 _ _ _ _ _ _ hf h N Z
def m_rest_101 (k13 : Int32 → Int32 → MS → Option (Int32 × MS)) (x2 : Int32) (y0 : Int32) (S : MS) : Option (Int32 × MS) :=
  (m_dayGoes ((121 : Int32)) S).bind fun q105 =>
  k13 y0 ((x2 + 1)) q105
theorem m_rest_101_ok {G : xG} {m0 : Nat} {S0 : MS} {k13 : Int32 → Int32 → MS → Option (Int32 × MS)} (hk13 : ∀ (x1 : Int32) (x2 : Int32) (S : MS) (q : (Int32 × MS)), k13 x1 x2 S = some q → XM G m0 mX4_rest 6 S0 (some (.int q.1)) q.2 13 [(0, .ref m0), (1, .int x1), (2, .int x2)] [] S) (x2 : Int32) (y0 : Int32) (S : MS) (q : (Int32 × MS)) (hf : m_rest_101 k13 x2 y0 S = some q) : XM G m0 mX4_rest 6 S0 (some (.int q.1)) q.2 101 [(0, .ref m0), (2, .int x2)] [.int y0] S := by
  intro h N Z
  unfold m_rest_101 at hf
  refine X.istore_n (L' := [(1, .int y0), (0, .ref m0), (2, .int x2)]) dX4_rest_101 rfl (Nat.le_of_ble_eq_true rfl) rfl ?_
  refine X.aload_n dX4_rest_102 rfl 1 rfl ?_
  refine X.bipush (v := 121) dX4_rest_103 (by decide) ?_
  obtain ⟨q105, h105, hf⟩ := ob hf
  refine X.callVv (As := [.int (121 : Int32)]) (rest := []) (T2 := (mh m0 h q105, N, Z)) dX4_rest_105 (w_dayGoes h105 h N Z) cX4_363 rfl rfl (Nat.le_of_ble_eq_true rfl) mh_0 rfl rfl (xD (Nat.le_of_ble_eq_true rfl)) xleN xleN ?_
  refine X.iinc (v := (x2 + 1)) (L' := [(2, .int (x2 + 1)), (1, .int y0), (0, .ref m0)]) dX4_rest_108 2 rfl rfl (Nat.le_of_ble_eq_true rfl) rfl ?_
  refine X.goto (tgt := 13) dX4_rest_111 (by decide) ?_
  refine X.sub [2, 1, 0] (L' := [(0, .ref m0), (1, .int y0), (2, .int (x2 + 1))]) rfl ?_
  exact hk13 _ _ _ _ hf h N Z
def m_rest_24_b (k13 : Int32 → Int32 → MS → Option (Int32 × MS)) (k24 : Int32 → Int32 → Int32 → Int32 → MS → Option (Int32 × MS)) (x1 : Int32) (x2 : Int32) (x3 : Int32) (x4 : Int32) (S : MS) : Option (Int32 × MS) :=
  (m_cells S).bind fun q27 =>
  if q27 ≤ x4 then
    if x3 = 0 then
      m_rest_101 k13 x2 x2 S
    else
      m_rest_101 k13 x2 x1 S
  else
    if x3 = 0 then
      m_rest_66 k13 k24 x1 x2 x4 S
    else
      if x2 = 0 then
        m_rest_62 k13 k24 x1 x2 x4 S
      else
        (rdA S 13 ((182 : Int32) + x4)).bind fun v51 =>
        (rdA S 18 x4).bind fun v58 =>
        if v51 = v58 then
          m_rest_62 k13 k24 x1 x2 x4 S
        else
          m_rest_66 k13 k24 x1 x2 x4 S
def m_rest_24 (k13 : Int32 → Int32 → MS → Option (Int32 × MS)) : Nat → Int32 → Int32 → Int32 → Int32 → MS → Option (Int32 × MS)
  | 0 => fun _ _ _ _ _ => none
  | n + 1 => fun x1 x2 x3 x4 S => m_rest_24_b k13 (m_rest_24 k13 n) x1 x2 x3 x4 S
theorem m_rest_24_bok {G : xG} {m0 : Nat} {S0 : MS} {k13 : Int32 → Int32 → MS → Option (Int32 × MS)} {k24 : Int32 → Int32 → Int32 → Int32 → MS → Option (Int32 × MS)} (hk13 : ∀ (x1 : Int32) (x2 : Int32) (S : MS) (q : (Int32 × MS)), k13 x1 x2 S = some q → XM G m0 mX4_rest 6 S0 (some (.int q.1)) q.2 13 [(0, .ref m0), (1, .int x1), (2, .int x2)] [] S) (hk24 : ∀ (x1 : Int32) (x2 : Int32) (x3 : Int32) (x4 : Int32) (S : MS) (q : (Int32 × MS)), k24 x1 x2 x3 x4 S = some q → XM G m0 mX4_rest 6 S0 (some (.int q.1)) q.2 24 [(0, .ref m0), (1, .int x1), (2, .int x2), (3, .int x3), (4, .int x4)] [] S) (x1 : Int32) (x2 : Int32) (x3 : Int32) (x4 : Int32) (S : MS) (q : (Int32 × MS)) (hf : m_rest_24_b k13 k24 x1 x2 x3 x4 S = some q) : XM G m0 mX4_rest 6 S0 (some (.int q.1)) q.2 24 [(0, .ref m0), (1, .int x1), (2, .int x2), (3, .int x3), (4, .int x4)] [] S := by
  intro h N Z
  unfold m_rest_24_b at hf
  refine X.iload dX4_rest_24 4 rfl ?_
  refine X.aload_n dX4_rest_26 rfl 0 rfl ?_
  obtain ⟨q27, h27, hf⟩ := ob hf
  refine X.callVi (As := []) (rest := [.int x4]) dX4_rest_27 (w_cells h27 h N Z) cX4_321 rfl rfl (Nat.le_of_ble_eq_true rfl) mh_0 rfl rfl (xD (Nat.le_of_ble_eq_true rfl)) xleN xleN ?_
  refine X.icmp_ge (tgt := 92) dX4_rest_30 (by decide) (fun c30 => ?_) (fun c30 => ?_)
  · have hf := if_t c30 hf
    refine X.iload_n dX4_rest_92 rfl 3 rfl ?_
    refine X.if_eq (tgt := 100) dX4_rest_93 (by decide) (fun c93 => ?_) (fun c93 => ?_)
    · have hf := if_t c93 hf
      refine X.iload_n dX4_rest_100 rfl 2 rfl ?_
      refine X.sub [0, 2] (L' := [(0, .ref m0), (2, .int x2)]) rfl ?_
      exact m_rest_101_ok hk13 _ _ _ _ hf h N Z
    · have hf := if_f c93 hf
      refine X.iload_n dX4_rest_96 rfl 1 rfl ?_
      refine X.goto (tgt := 101) dX4_rest_97 (by decide) ?_
      refine X.sub [0, 2] (L' := [(0, .ref m0), (2, .int x2)]) rfl ?_
      exact m_rest_101_ok hk13 _ _ _ _ hf h N Z
  · have hf := if_f c30 hf
    refine X.iload_n dX4_rest_33 rfl 3 rfl ?_
    refine X.if_eq (tgt := 66) dX4_rest_34 (by decide) (fun c34 => ?_) (fun c34 => ?_)
    · have hf := if_t c34 hf
      refine X.sub [0, 1, 2, 4] (L' := [(0, .ref m0), (1, .int x1), (2, .int x2), (4, .int x4)]) rfl ?_
      exact m_rest_66_ok hk13 hk24 _ _ _ _ _ hf h N Z
    · have hf := if_f c34 hf
      refine X.iload_n dX4_rest_37 rfl 2 rfl ?_
      refine X.if_eq (tgt := 62) dX4_rest_38 (by decide) (fun c38 => ?_) (fun c38 => ?_)
      · have hf := if_t c38 hf
        refine X.sub [0, 1, 2, 4] (L' := [(0, .ref m0), (1, .int x1), (2, .int x2), (4, .int x4)]) rfl ?_
        exact m_rest_62_ok hk13 hk24 _ _ _ _ _ hf h N Z
      · have hf := if_f c38 hf
        refine X.aload_n dX4_rest_41 rfl 0 rfl ?_
        refine M.get (v := .ref (m0 + 13)) dX4_rest_42 fX4_69 (Nat.le_of_ble_eq_true rfl) rfl ?_
        refine X.sipush (v := 182) dX4_rest_45 (by decide) ?_
        refine X.iload dX4_rest_48 4 rfl ?_
        refine X.iadd dX4_rest_50 ?_
        obtain ⟨v51, h51, hf⟩ := ob hf
        refine M.iald dX4_rest_51 rfl h51 ?_
        refine X.aload_n dX4_rest_52 rfl 0 rfl ?_
        refine M.get (v := .ref (m0 + 18)) dX4_rest_53 fX4_84 (Nat.le_of_ble_eq_true rfl) rfl ?_
        refine X.iload dX4_rest_56 4 rfl ?_
        obtain ⟨v58, h58, hf⟩ := ob hf
        refine M.iald dX4_rest_58 rfl h58 ?_
        refine X.icmp_ne (tgt := 66) dX4_rest_59 (by decide) (fun c59 => ?_) (fun c59 => ?_)
        · have hf := if_f c59 hf
          refine X.sub [0, 1, 2, 4] (L' := [(0, .ref m0), (1, .int x1), (2, .int x2), (4, .int x4)]) rfl ?_
          exact m_rest_66_ok hk13 hk24 _ _ _ _ _ hf h N Z
        · have hf := if_t c59 hf
          refine X.sub [0, 1, 2, 4] (L' := [(0, .ref m0), (1, .int x1), (2, .int x2), (4, .int x4)]) rfl ?_
          exact m_rest_62_ok hk13 hk24 _ _ _ _ _ hf h N Z
theorem m_rest_24_ok {G : xG} {m0 : Nat} {S0 : MS} {k13 : Int32 → Int32 → MS → Option (Int32 × MS)} (hk13 : ∀ (x1 : Int32) (x2 : Int32) (S : MS) (q : (Int32 × MS)), k13 x1 x2 S = some q → XM G m0 mX4_rest 6 S0 (some (.int q.1)) q.2 13 [(0, .ref m0), (1, .int x1), (2, .int x2)] [] S) : ∀ (n : Nat) (x1 : Int32) (x2 : Int32) (x3 : Int32) (x4 : Int32) (S : MS) (q : (Int32 × MS)), m_rest_24 k13 n x1 x2 x3 x4 S = some q → XM G m0 mX4_rest 6 S0 (some (.int q.1)) q.2 24 [(0, .ref m0), (1, .int x1), (2, .int x2), (3, .int x3), (4, .int x4)] [] S
  | 0, _, _, _, _, _, _, hf => by cases hf
  | n + 1, x1, x2, x3, x4, S, q, hf => m_rest_24_bok hk13 (m_rest_24_ok hk13 n) x1 x2 x3 x4 S q hf
def m_rest_13_b  (k13 : Int32 → Int32 → MS → Option (Int32 × MS)) (x1 : Int32) (x2 : Int32) (S : MS) : Option (Int32 × MS) :=
  if (40 : Int32) < x2 then
    some (x1, S)
  else
    m_rest_24 k13 FU x1 x2 ((1 : Int32)) ((0 : Int32)) S
def m_rest_13  : Nat → Int32 → Int32 → MS → Option (Int32 × MS)
  | 0 => fun _ _ _ => none
  | n + 1 => fun x1 x2 S => m_rest_13_b (m_rest_13 n) x1 x2 S
theorem m_rest_13_bok {G : xG} {m0 : Nat} {S0 : MS}  {k13 : Int32 → Int32 → MS → Option (Int32 × MS)}  (hk13 : ∀ (x1 : Int32) (x2 : Int32) (S : MS) (q : (Int32 × MS)), k13 x1 x2 S = some q → XM G m0 mX4_rest 6 S0 (some (.int q.1)) q.2 13 [(0, .ref m0), (1, .int x1), (2, .int x2)] [] S) (x1 : Int32) (x2 : Int32) (S : MS) (q : (Int32 × MS)) (hf : m_rest_13_b k13 x1 x2 S = some q) : XM G m0 mX4_rest 6 S0 (some (.int q.1)) q.2 13 [(0, .ref m0), (1, .int x1), (2, .int x2)] [] S := by
  intro h N Z
  unfold m_rest_13_b at hf
  refine X.iload_n dX4_rest_13 rfl 2 rfl ?_
  refine X.bipush (v := 40) dX4_rest_14 (by decide) ?_
  refine X.icmp_gt (tgt := 114) dX4_rest_16 (by decide) (fun c16 => ?_) (fun c16 => ?_)
  · have hf := if_t c16 hf
    refine X.iload_n dX4_rest_114 rfl 1 rfl ?_
    obtain rfl := Option.some.inj hf
    exact X.iret dX4_rest_115 rfl rfl rfl
  · have hf := if_f c16 hf
    refine X.iconst (v := 1) dX4_rest_19 (by decide) ?_
    refine X.istore_n (L' := [(3, .int (1 : Int32)), (0, .ref m0), (1, .int x1), (2, .int x2)]) dX4_rest_20 rfl (Nat.le_of_ble_eq_true rfl) rfl ?_
    refine X.iconst (v := 0) dX4_rest_21 (by decide) ?_
    refine X.istore (L' := [(4, .int (0 : Int32)), (3, .int (1 : Int32)), (0, .ref m0), (1, .int x1), (2, .int x2)]) dX4_rest_22 (Nat.le_of_ble_eq_true rfl) rfl ?_
    refine X.sub [2, 3, 4, 1, 0] (L' := [(0, .ref m0), (1, .int x1), (2, .int x2), (3, .int (1 : Int32)), (4, .int (0 : Int32))]) rfl ?_
    exact m_rest_24_ok hk13 FU _ _ _ _ _ _ hf h N Z
theorem m_rest_13_ok {G : xG} {m0 : Nat} {S0 : MS}   : ∀ (n : Nat) (x1 : Int32) (x2 : Int32) (S : MS) (q : (Int32 × MS)), m_rest_13 n x1 x2 S = some q → XM G m0 mX4_rest 6 S0 (some (.int q.1)) q.2 13 [(0, .ref m0), (1, .int x1), (2, .int x2)] [] S
  | 0, _, _, _, _, hf => by cases hf
  | n + 1, x1, x2, S, q, hf => m_rest_13_bok (m_rest_13_ok n) x1 x2 S q hf
def m_rest  (S : MS) : Option (Int32 × MS) :=
  (m_tries ((sF S 0 (0 : Int32)))).bind fun q6 =>
  m_rest_13 FU ((0 : Int32)) ((0 : Int32)) q6
theorem w_rest {G : xG} {m0 : Nat}  {S : MS} {q : (Int32 × MS)} (hf : m_rest S = some q) : CtM G m0 mX4_rest 6 S [.ref m0] (some (.int q.1)) q.2 := by
  intro h N Z
  refine Ct.of (by decide +kernel) rfl (Nat.le_of_ble_eq_true rfl) (show Xr G _ 0 [(0, .ref m0)] [] _ from ?_)
  unfold m_rest at hf
  refine X.aload_n dX4_rest_0 rfl 0 rfl ?_
  refine X.iconst (v := 0) dX4_rest_1 (by decide) ?_
  refine M.putI dX4_rest_2 fX4_115 (by decide) rfl rfl rfl ?_
  refine X.aload_n dX4_rest_5 rfl 0 rfl ?_
  obtain ⟨q6, h6, hf⟩ := ob hf
  refine X.callVv (As := []) (rest := []) (T2 := (mh m0 h q6, N, Z)) dX4_rest_6 (w_tries h6 h N Z) cX4_403 rfl rfl (Nat.le_of_ble_eq_true rfl) mh_0 rfl rfl (xD (Nat.le_of_ble_eq_true rfl)) xleN xleN ?_
  refine X.iconst (v := 0) dX4_rest_9 (by decide) ?_
  refine X.istore_n (L' := [(1, .int (0 : Int32)), (0, .ref m0)]) dX4_rest_10 rfl (Nat.le_of_ble_eq_true rfl) rfl ?_
  refine X.iconst (v := 0) dX4_rest_11 (by decide) ?_
  refine X.istore_n (L' := [(2, .int (0 : Int32)), (1, .int (0 : Int32)), (0, .ref m0)]) dX4_rest_12 rfl (Nat.le_of_ble_eq_true rfl) rfl ?_
  refine X.sub [2, 1, 0] (L' := [(0, .ref m0), (1, .int (0 : Int32)), (2, .int (0 : Int32))]) rfl ?_
  exact m_rest_13_ok FU _ _ _ _ hf h N Z
/-! breads -/
abbrev cX4_breads : ByteArray := prog_12_method_88_code
def yX4_breads : MethodName := ⟨RX4, "breads", "(II)V"⟩
def dkwX4_breads_1 : List UInt8 := [46, 28, 96, 184, 1, 84, 79, 177]
abbrev dktX4_breads_1 : List UInt8 := dkwX4_breads_1 ++ []
def dkwX4_breads_0 : List UInt8 := [42, 182, 1, 147, 42, 180, 0, 69, 17, 0, 152, 27, 96, 16, 99, 42, 180, 0, 69, 17, 0, 152, 27, 96]
abbrev dktX4_breads_0 : List UInt8 := dkwX4_breads_0 ++ dktX4_breads_1
theorem dksX4_breads_0 : cX4_breads.data.toList.drop 0 = dktX4_breads_0 := by decide +kernel
theorem dksX4_breads_1 : cX4_breads.data.toList.drop 24 = dktX4_breads_1 := dk_seg dksX4_breads_0 24 rfl rfl
theorem dX4_breads_0 : decode cX4_breads 0 = .ok (.aload_n 0, 1) := dk_42 (dk_at dksX4_breads_0 0 rfl rfl)
theorem dX4_breads_1 : decode cX4_breads 1 = .ok (.invokevirtual 403, 3) := dk_182 1 147 (dk_at dksX4_breads_0 1 rfl rfl)
theorem dX4_breads_4 : decode cX4_breads 4 = .ok (.aload_n 0, 1) := dk_42 (dk_at dksX4_breads_0 4 rfl rfl)
theorem dX4_breads_5 : decode cX4_breads 5 = .ok (.getfield 69, 3) := dk_180 0 69 (dk_at dksX4_breads_0 5 rfl rfl)
theorem dX4_breads_8 : decode cX4_breads 8 = .ok (.sipush 152, 3) := dk_17 0 152 (dk_at dksX4_breads_0 8 rfl rfl)
theorem dX4_breads_11 : decode cX4_breads 11 = .ok (.iload_n 1, 1) := dk_27 (dk_at dksX4_breads_0 11 rfl rfl)
theorem dX4_breads_12 : decode cX4_breads 12 = .ok (.iadd, 1) := dk_96 (dk_at dksX4_breads_0 12 rfl rfl)
theorem dX4_breads_13 : decode cX4_breads 13 = .ok (.bipush 99, 2) := dk_16 99 (dk_at dksX4_breads_0 13 rfl rfl)
theorem dX4_breads_15 : decode cX4_breads 15 = .ok (.aload_n 0, 1) := dk_42 (dk_at dksX4_breads_0 15 rfl rfl)
theorem dX4_breads_16 : decode cX4_breads 16 = .ok (.getfield 69, 3) := dk_180 0 69 (dk_at dksX4_breads_0 16 rfl rfl)
theorem dX4_breads_19 : decode cX4_breads 19 = .ok (.sipush 152, 3) := dk_17 0 152 (dk_at dksX4_breads_0 19 rfl rfl)
theorem dX4_breads_22 : decode cX4_breads 22 = .ok (.iload_n 1, 1) := dk_27 (dk_at dksX4_breads_0 22 rfl rfl)
theorem dX4_breads_23 : decode cX4_breads 23 = .ok (.iadd, 1) := dk_96 (dk_at dksX4_breads_0 23 rfl rfl)
theorem dX4_breads_24 : decode cX4_breads 24 = .ok (.iaload, 1) := dk_46 (dk_at dksX4_breads_1 0 rfl rfl)
theorem dX4_breads_25 : decode cX4_breads 25 = .ok (.iload_n 2, 1) := dk_28 (dk_at dksX4_breads_1 1 rfl rfl)
theorem dX4_breads_26 : decode cX4_breads 26 = .ok (.iadd, 1) := dk_96 (dk_at dksX4_breads_1 2 rfl rfl)
theorem dX4_breads_27 : decode cX4_breads 27 = .ok (.invokestatic 340, 3) := dk_184 1 84 (dk_at dksX4_breads_1 3 rfl rfl)
theorem dX4_breads_30 : decode cX4_breads 30 = .ok (.iastore, 1) := dk_79 (dk_at dksX4_breads_1 6 rfl rfl)
theorem dX4_breads_31 : decode cX4_breads 31 = .ok (.return_, 1) := dk_177 (dk_at dksX4_breads_1 7 rfl rfl)
abbrev mX4_breads : xM := (yX4_breads, cX4_breads, 3, none, [])
def m_breads (x1 : Int32) (x2 : Int32) (S : MS) : Option MS :=
  (m_tries S).bind fun q1 =>
  (rdA q1 13 ((152 : Int32) + x1)).bind fun v24 =>
  (m_lesser ((99 : Int32)) ((v24 + x2))).bind fun q27 =>
  (wrA q1 13 ((152 : Int32) + x1) q27).bind fun S30 =>
  some S30
theorem w_breads {G : xG} {m0 : Nat} {x1 : Int32} {x2 : Int32} {S : MS} {q : MS} (hf : m_breads x1 x2 S = some q) : CtM G m0 mX4_breads 2 S [.ref m0, .int x1, .int x2] none q := by
  intro h N Z
  refine Ct.of (by decide +kernel) rfl (Nat.le_of_ble_eq_true rfl) (show Xr G _ 0 [(0, .ref m0), (1, .int x1), (2, .int x2)] [] _ from ?_)
  unfold m_breads at hf
  refine X.aload_n dX4_breads_0 rfl 0 rfl ?_
  obtain ⟨q1, h1, hf⟩ := ob hf
  refine X.callVv (As := []) (rest := []) (T2 := (mh m0 h q1, N, Z)) dX4_breads_1 (w_tries h1 h N Z) cX4_403 rfl rfl (Nat.le_of_ble_eq_true rfl) mh_0 rfl rfl (xD (Nat.le_of_ble_eq_true rfl)) xleN xleN ?_
  refine X.aload_n dX4_breads_4 rfl 0 rfl ?_
  refine M.get (v := .ref (m0 + 13)) dX4_breads_5 fX4_69 (Nat.le_of_ble_eq_true rfl) rfl ?_
  refine X.sipush (v := 152) dX4_breads_8 (by decide) ?_
  refine X.iload_n dX4_breads_11 rfl 1 rfl ?_
  refine X.iadd dX4_breads_12 ?_
  refine X.bipush (v := 99) dX4_breads_13 (by decide) ?_
  refine X.aload_n dX4_breads_15 rfl 0 rfl ?_
  refine M.get (v := .ref (m0 + 13)) dX4_breads_16 fX4_69 (Nat.le_of_ble_eq_true rfl) rfl ?_
  refine X.sipush (v := 152) dX4_breads_19 (by decide) ?_
  refine X.iload_n dX4_breads_22 rfl 1 rfl ?_
  refine X.iadd dX4_breads_23 ?_
  obtain ⟨v24, h24, hf⟩ := ob hf
  refine M.iald dX4_breads_24 rfl h24 ?_
  refine X.iload_n dX4_breads_25 rfl 2 rfl ?_
  refine X.iadd dX4_breads_26 ?_
  obtain ⟨q27, h27, hf⟩ := ob hf
  refine X.callSi (As := [.int (99 : Int32), .int (v24 + x2)]) (rest := [.int ((152 : Int32) + x1), .ref (m0 + 13)]) dX4_breads_27 (w_lesser h27 _) cX4_340 rfl rfl (Nat.le_of_ble_eq_true rfl) (xD (Nat.le_of_ble_eq_true rfl)) xle.rf xleN ?_
  obtain ⟨S30, h30, hf⟩ := ob hf
  refine M.iast dX4_breads_30 rfl h30 ?_
  obtain rfl := Option.some.inj hf
  exact X.vret dX4_breads_31 rfl rfl
theorem cX4_415 : xCV RX4 415 mX4_breads 2 := ⟨lw_V q2088 q2090 qs108 q127 q2091, rfl, ⟨by decide +kernel, by decide +kernel, by decide +kernel⟩, Nat.le_of_ble_eq_true rfl⟩
/-! least -/
abbrev cX4_least : ByteArray := prog_12_method_89_code
def yX4_least : MethodName := ⟨RX4, "least", "(III)I"⟩
def dkwX4_least_3 : List UInt8 := [167, 255, 221, 2, 172]
abbrev dktX4_least_3 : List UInt8 := dkwX4_least_3 ++ []
def dkwX4_least_2 : List UInt8 := [182, 1, 159, 42, 29, 182, 1, 150, 42, 16, 121, 182, 1, 126, 28, 160, 0, 6, 21, 4, 172, 132, 4, 1]
abbrev dktX4_least_2 : List UInt8 := dkwX4_least_2 ++ dktX4_least_3
def dkwX4_least_1 : List UInt8 := [5, 182, 1, 153, 154, 0, 5, 3, 172, 3, 54, 4, 21, 4, 16, 50, 163, 0, 34, 42, 27, 21, 4]
abbrev dktX4_least_1 : List UInt8 := dkwX4_least_1 ++ dktX4_least_2
def dkwX4_least_0 : List UInt8 := [42, 3, 181, 0, 115, 42, 27, 182, 1, 129, 153, 0, 21, 42, 28, 182, 1, 138, 153, 0, 13, 42, 29, 4]
abbrev dktX4_least_0 : List UInt8 := dkwX4_least_0 ++ dktX4_least_1
theorem dksX4_least_0 : cX4_least.data.toList.drop 0 = dktX4_least_0 := by decide +kernel
theorem dksX4_least_1 : cX4_least.data.toList.drop 24 = dktX4_least_1 := dk_seg dksX4_least_0 24 rfl rfl
theorem dksX4_least_2 : cX4_least.data.toList.drop 47 = dktX4_least_2 := dk_seg dksX4_least_1 23 rfl rfl
theorem dksX4_least_3 : cX4_least.data.toList.drop 71 = dktX4_least_3 := dk_seg dksX4_least_2 24 rfl rfl
theorem dX4_least_0 : decode cX4_least 0 = .ok (.aload_n 0, 1) := dk_42 (dk_at dksX4_least_0 0 rfl rfl)
theorem dX4_least_1 : decode cX4_least 1 = .ok (.iconst 0, 1) := dk_3 (dk_at dksX4_least_0 1 rfl rfl)
theorem dX4_least_2 : decode cX4_least 2 = .ok (.putfield 115, 3) := dk_181 0 115 (dk_at dksX4_least_0 2 rfl rfl)
theorem dX4_least_5 : decode cX4_least 5 = .ok (.aload_n 0, 1) := dk_42 (dk_at dksX4_least_0 5 rfl rfl)
theorem dX4_least_6 : decode cX4_least 6 = .ok (.iload_n 1, 1) := dk_27 (dk_at dksX4_least_0 6 rfl rfl)
theorem dX4_least_7 : decode cX4_least 7 = .ok (.invokevirtual 385, 3) := dk_182 1 129 (dk_at dksX4_least_0 7 rfl rfl)
theorem dX4_least_10 : decode cX4_least 10 = .ok (.ifCond .eq 21, 3) := dk_153 0 21 (dk_at dksX4_least_0 10 rfl rfl)
theorem dX4_least_13 : decode cX4_least 13 = .ok (.aload_n 0, 1) := dk_42 (dk_at dksX4_least_0 13 rfl rfl)
theorem dX4_least_14 : decode cX4_least 14 = .ok (.iload_n 2, 1) := dk_28 (dk_at dksX4_least_0 14 rfl rfl)
theorem dX4_least_15 : decode cX4_least 15 = .ok (.invokevirtual 394, 3) := dk_182 1 138 (dk_at dksX4_least_0 15 rfl rfl)
theorem dX4_least_18 : decode cX4_least 18 = .ok (.ifCond .eq 13, 3) := dk_153 0 13 (dk_at dksX4_least_0 18 rfl rfl)
theorem dX4_least_21 : decode cX4_least 21 = .ok (.aload_n 0, 1) := dk_42 (dk_at dksX4_least_0 21 rfl rfl)
theorem dX4_least_22 : decode cX4_least 22 = .ok (.iload_n 3, 1) := dk_29 (dk_at dksX4_least_0 22 rfl rfl)
theorem dX4_least_23 : decode cX4_least 23 = .ok (.iconst 1, 1) := dk_4 (dk_at dksX4_least_0 23 rfl rfl)
theorem dX4_least_24 : decode cX4_least 24 = .ok (.iconst 2, 1) := dk_5 (dk_at dksX4_least_1 0 rfl rfl)
theorem dX4_least_25 : decode cX4_least 25 = .ok (.invokevirtual 409, 3) := dk_182 1 153 (dk_at dksX4_least_1 1 rfl rfl)
theorem dX4_least_28 : decode cX4_least 28 = .ok (.ifCond .ne 5, 3) := dk_154 0 5 (dk_at dksX4_least_1 4 rfl rfl)
theorem dX4_least_31 : decode cX4_least 31 = .ok (.iconst 0, 1) := dk_3 (dk_at dksX4_least_1 7 rfl rfl)
theorem dX4_least_32 : decode cX4_least 32 = .ok (.ireturn, 1) := dk_172 (dk_at dksX4_least_1 8 rfl rfl)
theorem dX4_least_33 : decode cX4_least 33 = .ok (.iconst 0, 1) := dk_3 (dk_at dksX4_least_1 9 rfl rfl)
theorem dX4_least_34 : decode cX4_least 34 = .ok (.istore 4, 2) := dk_54 4 (dk_at dksX4_least_1 10 rfl rfl)
theorem dX4_least_36 : decode cX4_least 36 = .ok (.iload 4, 2) := dk_21 4 (dk_at dksX4_least_1 12 rfl rfl)
theorem dX4_least_38 : decode cX4_least 38 = .ok (.bipush 50, 2) := dk_16 50 (dk_at dksX4_least_1 14 rfl rfl)
theorem dX4_least_40 : decode cX4_least 40 = .ok (.if_icmp .gt 34, 3) := dk_163 0 34 (dk_at dksX4_least_1 16 rfl rfl)
theorem dX4_least_43 : decode cX4_least 43 = .ok (.aload_n 0, 1) := dk_42 (dk_at dksX4_least_1 19 rfl rfl)
theorem dX4_least_44 : decode cX4_least 44 = .ok (.iload_n 1, 1) := dk_27 (dk_at dksX4_least_1 20 rfl rfl)
theorem dX4_least_45 : decode cX4_least 45 = .ok (.iload 4, 2) := dk_21 4 (dk_at dksX4_least_1 21 rfl rfl)
theorem dX4_least_47 : decode cX4_least 47 = .ok (.invokevirtual 415, 3) := dk_182 1 159 (dk_at dksX4_least_2 0 rfl rfl)
theorem dX4_least_50 : decode cX4_least 50 = .ok (.aload_n 0, 1) := dk_42 (dk_at dksX4_least_2 3 rfl rfl)
theorem dX4_least_51 : decode cX4_least 51 = .ok (.iload_n 3, 1) := dk_29 (dk_at dksX4_least_2 4 rfl rfl)
theorem dX4_least_52 : decode cX4_least 52 = .ok (.invokevirtual 406, 3) := dk_182 1 150 (dk_at dksX4_least_2 5 rfl rfl)
theorem dX4_least_55 : decode cX4_least 55 = .ok (.aload_n 0, 1) := dk_42 (dk_at dksX4_least_2 8 rfl rfl)
theorem dX4_least_56 : decode cX4_least 56 = .ok (.bipush 121, 2) := dk_16 121 (dk_at dksX4_least_2 9 rfl rfl)
theorem dX4_least_58 : decode cX4_least 58 = .ok (.invokevirtual 382, 3) := dk_182 1 126 (dk_at dksX4_least_2 11 rfl rfl)
theorem dX4_least_61 : decode cX4_least 61 = .ok (.iload_n 2, 1) := dk_28 (dk_at dksX4_least_2 14 rfl rfl)
theorem dX4_least_62 : decode cX4_least 62 = .ok (.if_icmp .ne 6, 3) := dk_160 0 6 (dk_at dksX4_least_2 15 rfl rfl)
theorem dX4_least_65 : decode cX4_least 65 = .ok (.iload 4, 2) := dk_21 4 (dk_at dksX4_least_2 18 rfl rfl)
theorem dX4_least_67 : decode cX4_least 67 = .ok (.ireturn, 1) := dk_172 (dk_at dksX4_least_2 20 rfl rfl)
theorem dX4_least_68 : decode cX4_least 68 = .ok (.iinc 4 1, 3) := dk_132 4 1 (dk_at dksX4_least_2 21 rfl rfl)
theorem dX4_least_71 : decode cX4_least 71 = .ok (.goto (-35), 3) := dk_167 255 221 (dk_at dksX4_least_3 0 rfl rfl)
theorem dX4_least_74 : decode cX4_least 74 = .ok (.iconst (-1), 1) := dk_2 (dk_at dksX4_least_3 3 rfl rfl)
theorem dX4_least_75 : decode cX4_least 75 = .ok (.ireturn, 1) := dk_172 (dk_at dksX4_least_3 4 rfl rfl)
abbrev mX4_least : xM := (yX4_least, cX4_least, 5, (some .int), [])
def m_least_36_b  (k36 : Int32 → Int32 → Int32 → Int32 → MS → Option (Int32 × MS)) (x1 : Int32) (x2 : Int32) (x3 : Int32) (x4 : Int32) (S : MS) : Option (Int32 × MS) :=
  if (50 : Int32) < x4 then
    some ((-1 : Int32), S)
  else
    (m_breads x1 x4 S).bind fun q47 =>
    (m_daysGo x3 q47).bind fun q52 =>
    (m_winnerIn ((121 : Int32)) q52).bind fun q58 =>
    if q58 = x2 then
      some (x4, q52)
    else
      k36 x1 x2 x3 ((x4 + 1)) q52
def m_least_36  : Nat → Int32 → Int32 → Int32 → Int32 → MS → Option (Int32 × MS)
  | 0 => fun _ _ _ _ _ => none
  | n + 1 => fun x1 x2 x3 x4 S => m_least_36_b (m_least_36 n) x1 x2 x3 x4 S
theorem m_least_36_bok {G : xG} {m0 : Nat} {S0 : MS}  {k36 : Int32 → Int32 → Int32 → Int32 → MS → Option (Int32 × MS)}  (hk36 : ∀ (x1 : Int32) (x2 : Int32) (x3 : Int32) (x4 : Int32) (S : MS) (q : (Int32 × MS)), k36 x1 x2 x3 x4 S = some q → XM G m0 mX4_least 7 S0 (some (.int q.1)) q.2 36 [(0, .ref m0), (1, .int x1), (2, .int x2), (3, .int x3), (4, .int x4)] [] S) (x1 : Int32) (x2 : Int32) (x3 : Int32) (x4 : Int32) (S : MS) (q : (Int32 × MS)) (hf : m_least_36_b k36 x1 x2 x3 x4 S = some q) : XM G m0 mX4_least 7 S0 (some (.int q.1)) q.2 36 [(0, .ref m0), (1, .int x1), (2, .int x2), (3, .int x3), (4, .int x4)] [] S := by
  intro h N Z
  unfold m_least_36_b at hf
  refine X.iload dX4_least_36 4 rfl ?_
  refine X.bipush (v := 50) dX4_least_38 (by decide) ?_
  refine X.icmp_gt (tgt := 74) dX4_least_40 (by decide) (fun c40 => ?_) (fun c40 => ?_)
  · have hf := if_t c40 hf
    refine X.iconst (v := -1) dX4_least_74 (by decide) ?_
    obtain rfl := Option.some.inj hf
    exact X.iret dX4_least_75 rfl rfl rfl
  · have hf := if_f c40 hf
    refine X.aload_n dX4_least_43 rfl 0 rfl ?_
    refine X.iload_n dX4_least_44 rfl 1 rfl ?_
    refine X.iload dX4_least_45 4 rfl ?_
    obtain ⟨q47, h47, hf⟩ := ob hf
    refine X.callVv (As := [.int x1, .int x4]) (rest := []) (T2 := (mh m0 h q47, N, Z)) dX4_least_47 (w_breads h47 h N Z) cX4_415 rfl rfl (Nat.le_of_ble_eq_true rfl) mh_0 rfl rfl (xD (Nat.le_of_ble_eq_true rfl)) xleN xleN ?_
    refine X.aload_n dX4_least_50 rfl 0 rfl ?_
    refine X.iload_n dX4_least_51 rfl 3 rfl ?_
    obtain ⟨q52, h52, hf⟩ := ob hf
    refine X.callVv (As := [.int x3]) (rest := []) (T2 := (mh m0 h q52, N, Z)) dX4_least_52 (w_daysGo h52 h N Z) cX4_406 rfl rfl (Nat.le_of_ble_eq_true rfl) mh_0 rfl rfl (xD (Nat.le_of_ble_eq_true rfl)) xleN xleN ?_
    refine X.aload_n dX4_least_55 rfl 0 rfl ?_
    refine X.bipush (v := 121) dX4_least_56 (by decide) ?_
    obtain ⟨q58, h58, hf⟩ := ob hf
    refine X.callVi (As := [.int (121 : Int32)]) (rest := []) dX4_least_58 (w_winnerIn h58 h N Z) cX4_382 rfl rfl (Nat.le_of_ble_eq_true rfl) mh_0 rfl rfl (xD (Nat.le_of_ble_eq_true rfl)) xleN xleN ?_
    refine X.iload_n dX4_least_61 rfl 2 rfl ?_
    refine X.icmp_ne (tgt := 68) dX4_least_62 (by decide) (fun c62 => ?_) (fun c62 => ?_)
    · have hf := if_f c62 hf
      refine X.iinc (v := (x4 + 1)) (L' := [(4, .int (x4 + 1)), (0, .ref m0), (1, .int x1), (2, .int x2), (3, .int x3)]) dX4_least_68 4 rfl rfl (Nat.le_of_ble_eq_true rfl) rfl ?_
      refine X.goto (tgt := 36) dX4_least_71 (by decide) ?_
      refine X.sub [1, 2, 3, 4, 0] (L' := [(0, .ref m0), (1, .int x1), (2, .int x2), (3, .int x3), (4, .int (x4 + 1))]) rfl ?_
      exact hk36 _ _ _ _ _ _ hf h N Z
    · have hf := if_t c62 hf
      refine X.iload dX4_least_65 4 rfl ?_
      obtain rfl := Option.some.inj hf
      exact X.iret dX4_least_67 rfl rfl rfl
theorem m_least_36_ok {G : xG} {m0 : Nat} {S0 : MS}   : ∀ (n : Nat) (x1 : Int32) (x2 : Int32) (x3 : Int32) (x4 : Int32) (S : MS) (q : (Int32 × MS)), m_least_36 n x1 x2 x3 x4 S = some q → XM G m0 mX4_least 7 S0 (some (.int q.1)) q.2 36 [(0, .ref m0), (1, .int x1), (2, .int x2), (3, .int x3), (4, .int x4)] [] S
  | 0, _, _, _, _, _, _, hf => by cases hf
  | n + 1, x1, x2, x3, x4, S, q, hf => m_least_36_bok (m_least_36_ok n) x1 x2 x3 x4 S q hf
def m_least (x1 : Int32) (x2 : Int32) (x3 : Int32) (S : MS) : Option (Int32 × MS) :=
  (m_isTheCell x1 ((sF S 0 (0 : Int32)))).bind fun q7 =>
  if q7.1 = 0 then
    some ((0 : Int32), q7.2)
  else
    (m_isParty x2 q7.2).bind fun q15 =>
    if q15.1 = 0 then
      some ((0 : Int32), q15.2)
    else
      (m_isDays x3 ((1 : Int32)) ((2 : Int32)) q15.2).bind fun q25 =>
      if q25.1 = 0 then
        some ((0 : Int32), q25.2)
      else
        m_least_36 FU x1 x2 x3 ((0 : Int32)) q25.2
theorem w_least {G : xG} {m0 : Nat} {x1 : Int32} {x2 : Int32} {x3 : Int32} {S : MS} {q : (Int32 × MS)} (hf : m_least x1 x2 x3 S = some q) : CtM G m0 mX4_least 7 S [.ref m0, .int x1, .int x2, .int x3] (some (.int q.1)) q.2 := by
  intro h N Z
  refine Ct.of (by decide +kernel) rfl (Nat.le_of_ble_eq_true rfl) (show Xr G _ 0 [(0, .ref m0), (1, .int x1), (2, .int x2), (3, .int x3)] [] _ from ?_)
  unfold m_least at hf
  refine X.aload_n dX4_least_0 rfl 0 rfl ?_
  refine X.iconst (v := 0) dX4_least_1 (by decide) ?_
  refine M.putI dX4_least_2 fX4_115 (by decide) rfl rfl rfl ?_
  refine X.aload_n dX4_least_5 rfl 0 rfl ?_
  refine X.iload_n dX4_least_6 rfl 1 rfl ?_
  obtain ⟨q7, h7, hf⟩ := ob hf
  refine X.callVi (As := [.int x1]) (rest := []) (T2 := (mh m0 h q7.2, N, Z)) dX4_least_7 (w_isTheCell h7 h N Z) cX4_385 rfl rfl (Nat.le_of_ble_eq_true rfl) mh_0 rfl rfl (xD (Nat.le_of_ble_eq_true rfl)) xleN xleN ?_
  refine X.if_eq (tgt := 31) dX4_least_10 (by decide) (fun c10 => ?_) (fun c10 => ?_)
  · have hf := if_t c10 hf
    refine X.iconst (v := 0) dX4_least_31 (by decide) ?_
    obtain rfl := Option.some.inj hf
    exact X.iret dX4_least_32 rfl rfl rfl
  · have hf := if_f c10 hf
    refine X.aload_n dX4_least_13 rfl 0 rfl ?_
    refine X.iload_n dX4_least_14 rfl 2 rfl ?_
    obtain ⟨q15, h15, hf⟩ := ob hf
    refine X.callVi (As := [.int x2]) (rest := []) (T2 := (mh m0 h q15.2, N, Z)) dX4_least_15 (w_isParty h15 h N Z) cX4_394 rfl rfl (Nat.le_of_ble_eq_true rfl) mh_0 rfl rfl (xD (Nat.le_of_ble_eq_true rfl)) xleN xleN ?_
    refine X.if_eq (tgt := 31) dX4_least_18 (by decide) (fun c18 => ?_) (fun c18 => ?_)
    · have hf := if_t c18 hf
      refine X.iconst (v := 0) dX4_least_31 (by decide) ?_
      obtain rfl := Option.some.inj hf
      exact X.iret dX4_least_32 rfl rfl rfl
    · have hf := if_f c18 hf
      refine X.aload_n dX4_least_21 rfl 0 rfl ?_
      refine X.iload_n dX4_least_22 rfl 3 rfl ?_
      refine X.iconst (v := 1) dX4_least_23 (by decide) ?_
      refine X.iconst (v := 2) dX4_least_24 (by decide) ?_
      obtain ⟨q25, h25, hf⟩ := ob hf
      refine X.callVi (As := [.int x3, .int (1 : Int32), .int (2 : Int32)]) (rest := []) (T2 := (mh m0 h q25.2, N, Z)) dX4_least_25 (w_isDays h25 h N Z) cX4_409 rfl rfl (Nat.le_of_ble_eq_true rfl) mh_0 rfl rfl (xD (Nat.le_of_ble_eq_true rfl)) xleN xleN ?_
      refine X.if_ne (tgt := 33) dX4_least_28 (by decide) (fun c28 => ?_) (fun c28 => ?_)
      · have hf := if_f c28 hf
        refine X.iconst (v := 0) dX4_least_33 (by decide) ?_
        refine X.istore (L' := [(4, .int (0 : Int32)), (0, .ref m0), (1, .int x1), (2, .int x2), (3, .int x3)]) dX4_least_34 (Nat.le_of_ble_eq_true rfl) rfl ?_
        refine X.sub [1, 2, 3, 4, 0] (L' := [(0, .ref m0), (1, .int x1), (2, .int x2), (3, .int x3), (4, .int (0 : Int32))]) rfl ?_
        exact m_least_36_ok FU _ _ _ _ _ _ hf h N Z
      · have hf := if_t c28 hf
        refine X.iconst (v := 0) dX4_least_31 (by decide) ?_
        obtain rfl := Option.some.inj hf
        exact X.iret dX4_least_32 rfl rfl rfl
/-! best -/
abbrev cX4_best : ByteArray := prog_12_method_90_code
def yX4_best : MethodName := ⟨RX4, "best", "(II)I"⟩
def dkwX4_best_4 : List UInt8 := [167, 255, 206, 21, 4, 172]
abbrev dktX4_best_4 : List UInt8 := dkwX4_best_4 ++ []
def dkwX4_best_3 : List UInt8 := [182, 1, 114, 54, 6, 21, 6, 29, 163, 0, 6, 167, 0, 10, 21, 5, 54, 4, 21, 6, 62, 132, 5, 1]
abbrev dktX4_best_3 : List UInt8 := dkwX4_best_3 ++ dktX4_best_4
def dkwX4_best_2 : List UInt8 := [182, 1, 65, 162, 0, 47, 42, 21, 5, 16, 20, 182, 1, 159, 42, 28, 182, 1, 150, 42, 16, 121, 27]
abbrev dktX4_best_2 : List UInt8 := dkwX4_best_2 ++ dktX4_best_3
def dkwX4_best_1 : List UInt8 := [172, 42, 28, 182, 1, 156, 42, 16, 121, 27, 182, 1, 114, 62, 2, 54, 4, 3, 54, 5, 21, 5, 42]
abbrev dktX4_best_1 : List UInt8 := dkwX4_best_1 ++ dktX4_best_2
def dkwX4_best_0 : List UInt8 := [42, 3, 181, 0, 115, 42, 27, 182, 1, 138, 153, 0, 13, 42, 28, 4, 5, 182, 1, 153, 154, 0, 5, 3]
abbrev dktX4_best_0 : List UInt8 := dkwX4_best_0 ++ dktX4_best_1
theorem dksX4_best_0 : cX4_best.data.toList.drop 0 = dktX4_best_0 := by decide +kernel
theorem dksX4_best_1 : cX4_best.data.toList.drop 24 = dktX4_best_1 := dk_seg dksX4_best_0 24 rfl rfl
theorem dksX4_best_2 : cX4_best.data.toList.drop 47 = dktX4_best_2 := dk_seg dksX4_best_1 23 rfl rfl
theorem dksX4_best_3 : cX4_best.data.toList.drop 70 = dktX4_best_3 := dk_seg dksX4_best_2 23 rfl rfl
theorem dksX4_best_4 : cX4_best.data.toList.drop 94 = dktX4_best_4 := dk_seg dksX4_best_3 24 rfl rfl
theorem dX4_best_0 : decode cX4_best 0 = .ok (.aload_n 0, 1) := dk_42 (dk_at dksX4_best_0 0 rfl rfl)
theorem dX4_best_1 : decode cX4_best 1 = .ok (.iconst 0, 1) := dk_3 (dk_at dksX4_best_0 1 rfl rfl)
theorem dX4_best_2 : decode cX4_best 2 = .ok (.putfield 115, 3) := dk_181 0 115 (dk_at dksX4_best_0 2 rfl rfl)
theorem dX4_best_5 : decode cX4_best 5 = .ok (.aload_n 0, 1) := dk_42 (dk_at dksX4_best_0 5 rfl rfl)
theorem dX4_best_6 : decode cX4_best 6 = .ok (.iload_n 1, 1) := dk_27 (dk_at dksX4_best_0 6 rfl rfl)
theorem dX4_best_7 : decode cX4_best 7 = .ok (.invokevirtual 394, 3) := dk_182 1 138 (dk_at dksX4_best_0 7 rfl rfl)
theorem dX4_best_10 : decode cX4_best 10 = .ok (.ifCond .eq 13, 3) := dk_153 0 13 (dk_at dksX4_best_0 10 rfl rfl)
theorem dX4_best_13 : decode cX4_best 13 = .ok (.aload_n 0, 1) := dk_42 (dk_at dksX4_best_0 13 rfl rfl)
theorem dX4_best_14 : decode cX4_best 14 = .ok (.iload_n 2, 1) := dk_28 (dk_at dksX4_best_0 14 rfl rfl)
theorem dX4_best_15 : decode cX4_best 15 = .ok (.iconst 1, 1) := dk_4 (dk_at dksX4_best_0 15 rfl rfl)
theorem dX4_best_16 : decode cX4_best 16 = .ok (.iconst 2, 1) := dk_5 (dk_at dksX4_best_0 16 rfl rfl)
theorem dX4_best_17 : decode cX4_best 17 = .ok (.invokevirtual 409, 3) := dk_182 1 153 (dk_at dksX4_best_0 17 rfl rfl)
theorem dX4_best_20 : decode cX4_best 20 = .ok (.ifCond .ne 5, 3) := dk_154 0 5 (dk_at dksX4_best_0 20 rfl rfl)
theorem dX4_best_23 : decode cX4_best 23 = .ok (.iconst 0, 1) := dk_3 (dk_at dksX4_best_0 23 rfl rfl)
theorem dX4_best_24 : decode cX4_best 24 = .ok (.ireturn, 1) := dk_172 (dk_at dksX4_best_1 0 rfl rfl)
theorem dX4_best_25 : decode cX4_best 25 = .ok (.aload_n 0, 1) := dk_42 (dk_at dksX4_best_1 1 rfl rfl)
theorem dX4_best_26 : decode cX4_best 26 = .ok (.iload_n 2, 1) := dk_28 (dk_at dksX4_best_1 2 rfl rfl)
theorem dX4_best_27 : decode cX4_best 27 = .ok (.invokevirtual 412, 3) := dk_182 1 156 (dk_at dksX4_best_1 3 rfl rfl)
theorem dX4_best_30 : decode cX4_best 30 = .ok (.aload_n 0, 1) := dk_42 (dk_at dksX4_best_1 6 rfl rfl)
theorem dX4_best_31 : decode cX4_best 31 = .ok (.bipush 121, 2) := dk_16 121 (dk_at dksX4_best_1 7 rfl rfl)
theorem dX4_best_33 : decode cX4_best 33 = .ok (.iload_n 1, 1) := dk_27 (dk_at dksX4_best_1 9 rfl rfl)
theorem dX4_best_34 : decode cX4_best 34 = .ok (.invokevirtual 370, 3) := dk_182 1 114 (dk_at dksX4_best_1 10 rfl rfl)
theorem dX4_best_37 : decode cX4_best 37 = .ok (.istore_n 3, 1) := dk_62 (dk_at dksX4_best_1 13 rfl rfl)
theorem dX4_best_38 : decode cX4_best 38 = .ok (.iconst (-1), 1) := dk_2 (dk_at dksX4_best_1 14 rfl rfl)
theorem dX4_best_39 : decode cX4_best 39 = .ok (.istore 4, 2) := dk_54 4 (dk_at dksX4_best_1 15 rfl rfl)
theorem dX4_best_41 : decode cX4_best 41 = .ok (.iconst 0, 1) := dk_3 (dk_at dksX4_best_1 17 rfl rfl)
theorem dX4_best_42 : decode cX4_best 42 = .ok (.istore 5, 2) := dk_54 5 (dk_at dksX4_best_1 18 rfl rfl)
theorem dX4_best_44 : decode cX4_best 44 = .ok (.iload 5, 2) := dk_21 5 (dk_at dksX4_best_1 20 rfl rfl)
theorem dX4_best_46 : decode cX4_best 46 = .ok (.aload_n 0, 1) := dk_42 (dk_at dksX4_best_1 22 rfl rfl)
theorem dX4_best_47 : decode cX4_best 47 = .ok (.invokevirtual 321, 3) := dk_182 1 65 (dk_at dksX4_best_2 0 rfl rfl)
theorem dX4_best_50 : decode cX4_best 50 = .ok (.if_icmp .ge 47, 3) := dk_162 0 47 (dk_at dksX4_best_2 3 rfl rfl)
theorem dX4_best_53 : decode cX4_best 53 = .ok (.aload_n 0, 1) := dk_42 (dk_at dksX4_best_2 6 rfl rfl)
theorem dX4_best_54 : decode cX4_best 54 = .ok (.iload 5, 2) := dk_21 5 (dk_at dksX4_best_2 7 rfl rfl)
theorem dX4_best_56 : decode cX4_best 56 = .ok (.bipush 20, 2) := dk_16 20 (dk_at dksX4_best_2 9 rfl rfl)
theorem dX4_best_58 : decode cX4_best 58 = .ok (.invokevirtual 415, 3) := dk_182 1 159 (dk_at dksX4_best_2 11 rfl rfl)
theorem dX4_best_61 : decode cX4_best 61 = .ok (.aload_n 0, 1) := dk_42 (dk_at dksX4_best_2 14 rfl rfl)
theorem dX4_best_62 : decode cX4_best 62 = .ok (.iload_n 2, 1) := dk_28 (dk_at dksX4_best_2 15 rfl rfl)
theorem dX4_best_63 : decode cX4_best 63 = .ok (.invokevirtual 406, 3) := dk_182 1 150 (dk_at dksX4_best_2 16 rfl rfl)
theorem dX4_best_66 : decode cX4_best 66 = .ok (.aload_n 0, 1) := dk_42 (dk_at dksX4_best_2 19 rfl rfl)
theorem dX4_best_67 : decode cX4_best 67 = .ok (.bipush 121, 2) := dk_16 121 (dk_at dksX4_best_2 20 rfl rfl)
theorem dX4_best_69 : decode cX4_best 69 = .ok (.iload_n 1, 1) := dk_27 (dk_at dksX4_best_2 22 rfl rfl)
theorem dX4_best_70 : decode cX4_best 70 = .ok (.invokevirtual 370, 3) := dk_182 1 114 (dk_at dksX4_best_3 0 rfl rfl)
theorem dX4_best_73 : decode cX4_best 73 = .ok (.istore 6, 2) := dk_54 6 (dk_at dksX4_best_3 3 rfl rfl)
theorem dX4_best_75 : decode cX4_best 75 = .ok (.iload 6, 2) := dk_21 6 (dk_at dksX4_best_3 5 rfl rfl)
theorem dX4_best_77 : decode cX4_best 77 = .ok (.iload_n 3, 1) := dk_29 (dk_at dksX4_best_3 7 rfl rfl)
theorem dX4_best_78 : decode cX4_best 78 = .ok (.if_icmp .gt 6, 3) := dk_163 0 6 (dk_at dksX4_best_3 8 rfl rfl)
theorem dX4_best_81 : decode cX4_best 81 = .ok (.goto 10, 3) := dk_167 0 10 (dk_at dksX4_best_3 11 rfl rfl)
theorem dX4_best_84 : decode cX4_best 84 = .ok (.iload 5, 2) := dk_21 5 (dk_at dksX4_best_3 14 rfl rfl)
theorem dX4_best_86 : decode cX4_best 86 = .ok (.istore 4, 2) := dk_54 4 (dk_at dksX4_best_3 16 rfl rfl)
theorem dX4_best_88 : decode cX4_best 88 = .ok (.iload 6, 2) := dk_21 6 (dk_at dksX4_best_3 18 rfl rfl)
theorem dX4_best_90 : decode cX4_best 90 = .ok (.istore_n 3, 1) := dk_62 (dk_at dksX4_best_3 20 rfl rfl)
theorem dX4_best_91 : decode cX4_best 91 = .ok (.iinc 5 1, 3) := dk_132 5 1 (dk_at dksX4_best_3 21 rfl rfl)
theorem dX4_best_94 : decode cX4_best 94 = .ok (.goto (-50), 3) := dk_167 255 206 (dk_at dksX4_best_4 0 rfl rfl)
theorem dX4_best_97 : decode cX4_best 97 = .ok (.iload 4, 2) := dk_21 4 (dk_at dksX4_best_4 3 rfl rfl)
theorem dX4_best_99 : decode cX4_best 99 = .ok (.ireturn, 1) := dk_172 (dk_at dksX4_best_4 5 rfl rfl)
abbrev mX4_best : xM := (yX4_best, cX4_best, 7, (some .int), [])
def m_best_91 (k44 : Int32 → Int32 → Int32 → Int32 → Int32 → MS → Option (Int32 × MS)) (x1 : Int32) (x2 : Int32) (x3 : Int32) (x4 : Int32) (x5 : Int32) (S : MS) : Option (Int32 × MS) :=
  k44 x1 x2 x3 x4 ((x5 + 1)) S
theorem m_best_91_ok {G : xG} {m0 : Nat} {S0 : MS} {k44 : Int32 → Int32 → Int32 → Int32 → Int32 → MS → Option (Int32 × MS)} (hk44 : ∀ (x1 : Int32) (x2 : Int32) (x3 : Int32) (x4 : Int32) (x5 : Int32) (S : MS) (q : (Int32 × MS)), k44 x1 x2 x3 x4 x5 S = some q → XM G m0 mX4_best 8 S0 (some (.int q.1)) q.2 44 [(0, .ref m0), (1, .int x1), (2, .int x2), (3, .int x3), (4, .int x4), (5, .int x5)] [] S) (x1 : Int32) (x2 : Int32) (x3 : Int32) (x4 : Int32) (x5 : Int32) (S : MS) (q : (Int32 × MS)) (hf : m_best_91 k44 x1 x2 x3 x4 x5 S = some q) : XM G m0 mX4_best 8 S0 (some (.int q.1)) q.2 91 [(0, .ref m0), (1, .int x1), (2, .int x2), (3, .int x3), (4, .int x4), (5, .int x5)] [] S := by
  intro h N Z
  unfold m_best_91 at hf
  refine X.iinc (v := (x5 + 1)) (L' := [(5, .int (x5 + 1)), (0, .ref m0), (1, .int x1), (2, .int x2), (3, .int x3), (4, .int x4)]) dX4_best_91 5 rfl rfl (Nat.le_of_ble_eq_true rfl) rfl ?_
  refine X.goto (tgt := 44) dX4_best_94 (by decide) ?_
  refine X.sub [1, 2, 3, 4, 5, 0] (L' := [(0, .ref m0), (1, .int x1), (2, .int x2), (3, .int x3), (4, .int x4), (5, .int (x5 + 1))]) rfl ?_
  exact hk44 _ _ _ _ _ _ _ hf h N Z
def m_best_44_b  (k44 : Int32 → Int32 → Int32 → Int32 → Int32 → MS → Option (Int32 × MS)) (x1 : Int32) (x2 : Int32) (x3 : Int32) (x4 : Int32) (x5 : Int32) (S : MS) : Option (Int32 × MS) :=
  (m_cells S).bind fun q47 =>
  if q47 ≤ x5 then
    some (x4, S)
  else
    (m_breads x5 ((20 : Int32)) S).bind fun q58 =>
    (m_daysGo x2 q58).bind fun q63 =>
    (m_votesOf ((121 : Int32)) x1 q63).bind fun q70 =>
    if x3 < q70 then
      m_best_91 k44 x1 x2 q70 x5 x5 q63
    else
      m_best_91 k44 x1 x2 x3 x4 x5 q63
def m_best_44  : Nat → Int32 → Int32 → Int32 → Int32 → Int32 → MS → Option (Int32 × MS)
  | 0 => fun _ _ _ _ _ _ => none
  | n + 1 => fun x1 x2 x3 x4 x5 S => m_best_44_b (m_best_44 n) x1 x2 x3 x4 x5 S
theorem m_best_44_bok {G : xG} {m0 : Nat} {S0 : MS}  {k44 : Int32 → Int32 → Int32 → Int32 → Int32 → MS → Option (Int32 × MS)}  (hk44 : ∀ (x1 : Int32) (x2 : Int32) (x3 : Int32) (x4 : Int32) (x5 : Int32) (S : MS) (q : (Int32 × MS)), k44 x1 x2 x3 x4 x5 S = some q → XM G m0 mX4_best 8 S0 (some (.int q.1)) q.2 44 [(0, .ref m0), (1, .int x1), (2, .int x2), (3, .int x3), (4, .int x4), (5, .int x5)] [] S) (x1 : Int32) (x2 : Int32) (x3 : Int32) (x4 : Int32) (x5 : Int32) (S : MS) (q : (Int32 × MS)) (hf : m_best_44_b k44 x1 x2 x3 x4 x5 S = some q) : XM G m0 mX4_best 8 S0 (some (.int q.1)) q.2 44 [(0, .ref m0), (1, .int x1), (2, .int x2), (3, .int x3), (4, .int x4), (5, .int x5)] [] S := by
  intro h N Z
  unfold m_best_44_b at hf
  refine X.iload dX4_best_44 5 rfl ?_
  refine X.aload_n dX4_best_46 rfl 0 rfl ?_
  obtain ⟨q47, h47, hf⟩ := ob hf
  refine X.callVi (As := []) (rest := [.int x5]) dX4_best_47 (w_cells h47 h N Z) cX4_321 rfl rfl (Nat.le_of_ble_eq_true rfl) mh_0 rfl rfl (xD (Nat.le_of_ble_eq_true rfl)) xleN xleN ?_
  refine X.icmp_ge (tgt := 97) dX4_best_50 (by decide) (fun c50 => ?_) (fun c50 => ?_)
  · have hf := if_t c50 hf
    refine X.iload dX4_best_97 4 rfl ?_
    obtain rfl := Option.some.inj hf
    exact X.iret dX4_best_99 rfl rfl rfl
  · have hf := if_f c50 hf
    refine X.aload_n dX4_best_53 rfl 0 rfl ?_
    refine X.iload dX4_best_54 5 rfl ?_
    refine X.bipush (v := 20) dX4_best_56 (by decide) ?_
    obtain ⟨q58, h58, hf⟩ := ob hf
    refine X.callVv (As := [.int x5, .int (20 : Int32)]) (rest := []) (T2 := (mh m0 h q58, N, Z)) dX4_best_58 (w_breads h58 h N Z) cX4_415 rfl rfl (Nat.le_of_ble_eq_true rfl) mh_0 rfl rfl (xD (Nat.le_of_ble_eq_true rfl)) xleN xleN ?_
    refine X.aload_n dX4_best_61 rfl 0 rfl ?_
    refine X.iload_n dX4_best_62 rfl 2 rfl ?_
    obtain ⟨q63, h63, hf⟩ := ob hf
    refine X.callVv (As := [.int x2]) (rest := []) (T2 := (mh m0 h q63, N, Z)) dX4_best_63 (w_daysGo h63 h N Z) cX4_406 rfl rfl (Nat.le_of_ble_eq_true rfl) mh_0 rfl rfl (xD (Nat.le_of_ble_eq_true rfl)) xleN xleN ?_
    refine X.aload_n dX4_best_66 rfl 0 rfl ?_
    refine X.bipush (v := 121) dX4_best_67 (by decide) ?_
    refine X.iload_n dX4_best_69 rfl 1 rfl ?_
    obtain ⟨q70, h70, hf⟩ := ob hf
    refine X.callVi (As := [.int (121 : Int32), .int x1]) (rest := []) dX4_best_70 (w_votesOf h70 h N Z) cX4_370 rfl rfl (Nat.le_of_ble_eq_true rfl) mh_0 rfl rfl (xD (Nat.le_of_ble_eq_true rfl)) xleN xleN ?_
    refine X.istore (L' := [(6, .int q70), (0, .ref m0), (1, .int x1), (2, .int x2), (3, .int x3), (4, .int x4), (5, .int x5)]) dX4_best_73 (Nat.le_of_ble_eq_true rfl) rfl ?_
    refine X.iload dX4_best_75 0 rfl ?_
    refine X.iload_n dX4_best_77 rfl 4 rfl ?_
    refine X.icmp_gt (tgt := 84) dX4_best_78 (by decide) (fun c78 => ?_) (fun c78 => ?_)
    · have hf := if_t c78 hf
      refine X.iload dX4_best_84 6 rfl ?_
      refine X.istore (L' := [(4, .int x5), (6, .int q70), (0, .ref m0), (1, .int x1), (2, .int x2), (3, .int x3), (5, .int x5)]) dX4_best_86 (Nat.le_of_ble_eq_true rfl) rfl ?_
      refine X.iload dX4_best_88 1 rfl ?_
      refine X.istore_n (L' := [(3, .int q70), (4, .int x5), (6, .int q70), (0, .ref m0), (1, .int x1), (2, .int x2), (5, .int x5)]) dX4_best_90 rfl (Nat.le_of_ble_eq_true rfl) rfl ?_
      refine X.sub [3, 4, 5, 0, 1, 6] (L' := [(0, .ref m0), (1, .int x1), (2, .int x2), (3, .int q70), (4, .int x5), (5, .int x5)]) rfl ?_
      exact m_best_91_ok hk44 _ _ _ _ _ _ _ hf h N Z
    · have hf := if_f c78 hf
      refine X.goto (tgt := 91) dX4_best_81 (by decide) ?_
      refine X.sub [1, 2, 3, 4, 5, 6] (L' := [(0, .ref m0), (1, .int x1), (2, .int x2), (3, .int x3), (4, .int x4), (5, .int x5)]) rfl ?_
      exact m_best_91_ok hk44 _ _ _ _ _ _ _ hf h N Z
theorem m_best_44_ok {G : xG} {m0 : Nat} {S0 : MS}   : ∀ (n : Nat) (x1 : Int32) (x2 : Int32) (x3 : Int32) (x4 : Int32) (x5 : Int32) (S : MS) (q : (Int32 × MS)), m_best_44 n x1 x2 x3 x4 x5 S = some q → XM G m0 mX4_best 8 S0 (some (.int q.1)) q.2 44 [(0, .ref m0), (1, .int x1), (2, .int x2), (3, .int x3), (4, .int x4), (5, .int x5)] [] S
  | 0, _, _, _, _, _, _, _, hf => by cases hf
  | n + 1, x1, x2, x3, x4, x5, S, q, hf => m_best_44_bok (m_best_44_ok n) x1 x2 x3 x4 x5 S q hf
def m_best (x1 : Int32) (x2 : Int32) (S : MS) : Option (Int32 × MS) :=
  (m_isParty x1 ((sF S 0 (0 : Int32)))).bind fun q7 =>
  if q7.1 = 0 then
    some ((0 : Int32), q7.2)
  else
    (m_isDays x2 ((1 : Int32)) ((2 : Int32)) q7.2).bind fun q17 =>
    if q17.1 = 0 then
      some ((0 : Int32), q17.2)
    else
      (m_goesTo x2 q17.2).bind fun q27 =>
      (m_votesOf ((121 : Int32)) x1 q27).bind fun q34 =>
      m_best_44 FU x1 x2 q34 ((-1 : Int32)) ((0 : Int32)) q27
theorem w_best {G : xG} {m0 : Nat} {x1 : Int32} {x2 : Int32} {S : MS} {q : (Int32 × MS)} (hf : m_best x1 x2 S = some q) : CtM G m0 mX4_best 8 S [.ref m0, .int x1, .int x2] (some (.int q.1)) q.2 := by
  intro h N Z
  refine Ct.of (by decide +kernel) rfl (Nat.le_of_ble_eq_true rfl) (show Xr G _ 0 [(0, .ref m0), (1, .int x1), (2, .int x2)] [] _ from ?_)
  unfold m_best at hf
  refine X.aload_n dX4_best_0 rfl 0 rfl ?_
  refine X.iconst (v := 0) dX4_best_1 (by decide) ?_
  refine M.putI dX4_best_2 fX4_115 (by decide) rfl rfl rfl ?_
  refine X.aload_n dX4_best_5 rfl 0 rfl ?_
  refine X.iload_n dX4_best_6 rfl 1 rfl ?_
  obtain ⟨q7, h7, hf⟩ := ob hf
  refine X.callVi (As := [.int x1]) (rest := []) (T2 := (mh m0 h q7.2, N, Z)) dX4_best_7 (w_isParty h7 h N Z) cX4_394 rfl rfl (Nat.le_of_ble_eq_true rfl) mh_0 rfl rfl (xD (Nat.le_of_ble_eq_true rfl)) xleN xleN ?_
  refine X.if_eq (tgt := 23) dX4_best_10 (by decide) (fun c10 => ?_) (fun c10 => ?_)
  · have hf := if_t c10 hf
    refine X.iconst (v := 0) dX4_best_23 (by decide) ?_
    obtain rfl := Option.some.inj hf
    exact X.iret dX4_best_24 rfl rfl rfl
  · have hf := if_f c10 hf
    refine X.aload_n dX4_best_13 rfl 0 rfl ?_
    refine X.iload_n dX4_best_14 rfl 2 rfl ?_
    refine X.iconst (v := 1) dX4_best_15 (by decide) ?_
    refine X.iconst (v := 2) dX4_best_16 (by decide) ?_
    obtain ⟨q17, h17, hf⟩ := ob hf
    refine X.callVi (As := [.int x2, .int (1 : Int32), .int (2 : Int32)]) (rest := []) (T2 := (mh m0 h q17.2, N, Z)) dX4_best_17 (w_isDays h17 h N Z) cX4_409 rfl rfl (Nat.le_of_ble_eq_true rfl) mh_0 rfl rfl (xD (Nat.le_of_ble_eq_true rfl)) xleN xleN ?_
    refine X.if_ne (tgt := 25) dX4_best_20 (by decide) (fun c20 => ?_) (fun c20 => ?_)
    · have hf := if_f c20 hf
      refine X.aload_n dX4_best_25 rfl 0 rfl ?_
      refine X.iload_n dX4_best_26 rfl 2 rfl ?_
      obtain ⟨q27, h27, hf⟩ := ob hf
      refine X.callVv (As := [.int x2]) (rest := []) (T2 := (mh m0 h q27, N, Z)) dX4_best_27 (w_goesTo h27 h N Z) cX4_412 rfl rfl (Nat.le_of_ble_eq_true rfl) mh_0 rfl rfl (xD (Nat.le_of_ble_eq_true rfl)) xleN xleN ?_
      refine X.aload_n dX4_best_30 rfl 0 rfl ?_
      refine X.bipush (v := 121) dX4_best_31 (by decide) ?_
      refine X.iload_n dX4_best_33 rfl 1 rfl ?_
      obtain ⟨q34, h34, hf⟩ := ob hf
      refine X.callVi (As := [.int (121 : Int32), .int x1]) (rest := []) dX4_best_34 (w_votesOf h34 h N Z) cX4_370 rfl rfl (Nat.le_of_ble_eq_true rfl) mh_0 rfl rfl (xD (Nat.le_of_ble_eq_true rfl)) xleN xleN ?_
      refine X.istore_n (L' := [(3, .int q34), (0, .ref m0), (1, .int x1), (2, .int x2)]) dX4_best_37 rfl (Nat.le_of_ble_eq_true rfl) rfl ?_
      refine X.iconst (v := -1) dX4_best_38 (by decide) ?_
      refine X.istore (L' := [(4, .int (-1 : Int32)), (3, .int q34), (0, .ref m0), (1, .int x1), (2, .int x2)]) dX4_best_39 (Nat.le_of_ble_eq_true rfl) rfl ?_
      refine X.iconst (v := 0) dX4_best_41 (by decide) ?_
      refine X.istore (L' := [(5, .int (0 : Int32)), (4, .int (-1 : Int32)), (3, .int q34), (0, .ref m0), (1, .int x1), (2, .int x2)]) dX4_best_42 (Nat.le_of_ble_eq_true rfl) rfl ?_
      refine X.sub [3, 4, 5, 2, 1, 0] (L' := [(0, .ref m0), (1, .int x1), (2, .int x2), (3, .int q34), (4, .int (-1 : Int32)), (5, .int (0 : Int32))]) rfl ?_
      exact m_best_44_ok FU _ _ _ _ _ _ _ hf h N Z
    · have hf := if_t c20 hf
      refine X.iconst (v := 0) dX4_best_23 (by decide) ?_
      obtain rfl := Option.some.inj hf
      exact X.iret dX4_best_24 rfl rfl rfl
/-! freezes -/
abbrev cX4_freezes : ByteArray := prog_12_method_91_code
def yX4_freezes : MethodName := ⟨RX4, "freezes", "()V"⟩
def dkwX4_freezes_2 : List UInt8 := [16, 121, 27, 182, 1, 90, 132, 1, 1, 167, 255, 203, 177]
abbrev dktX4_freezes_2 : List UInt8 := dkwX4_freezes_2 ++ []
def dkwX4_freezes_1 : List UInt8 := [17, 0, 212, 27, 96, 46, 5, 108, 79, 42, 180, 0, 69, 17, 0, 212, 27, 96, 46, 154, 0, 10, 42]
abbrev dktX4_freezes_1 : List UInt8 := dkwX4_freezes_1 ++ dktX4_freezes_2
def dkwX4_freezes_0 : List UInt8 := [3, 60, 27, 42, 182, 1, 65, 162, 0, 51, 42, 180, 0, 69, 17, 0, 212, 27, 96, 42, 180, 0, 69]
abbrev dktX4_freezes_0 : List UInt8 := dkwX4_freezes_0 ++ dktX4_freezes_1
theorem dksX4_freezes_0 : cX4_freezes.data.toList.drop 0 = dktX4_freezes_0 := by decide +kernel
theorem dksX4_freezes_1 : cX4_freezes.data.toList.drop 23 = dktX4_freezes_1 := dk_seg dksX4_freezes_0 23 rfl rfl
theorem dksX4_freezes_2 : cX4_freezes.data.toList.drop 46 = dktX4_freezes_2 := dk_seg dksX4_freezes_1 23 rfl rfl
theorem dX4_freezes_0 : decode cX4_freezes 0 = .ok (.iconst 0, 1) := dk_3 (dk_at dksX4_freezes_0 0 rfl rfl)
theorem dX4_freezes_1 : decode cX4_freezes 1 = .ok (.istore_n 1, 1) := dk_60 (dk_at dksX4_freezes_0 1 rfl rfl)
theorem dX4_freezes_2 : decode cX4_freezes 2 = .ok (.iload_n 1, 1) := dk_27 (dk_at dksX4_freezes_0 2 rfl rfl)
theorem dX4_freezes_3 : decode cX4_freezes 3 = .ok (.aload_n 0, 1) := dk_42 (dk_at dksX4_freezes_0 3 rfl rfl)
theorem dX4_freezes_4 : decode cX4_freezes 4 = .ok (.invokevirtual 321, 3) := dk_182 1 65 (dk_at dksX4_freezes_0 4 rfl rfl)
theorem dX4_freezes_7 : decode cX4_freezes 7 = .ok (.if_icmp .ge 51, 3) := dk_162 0 51 (dk_at dksX4_freezes_0 7 rfl rfl)
theorem dX4_freezes_10 : decode cX4_freezes 10 = .ok (.aload_n 0, 1) := dk_42 (dk_at dksX4_freezes_0 10 rfl rfl)
theorem dX4_freezes_11 : decode cX4_freezes 11 = .ok (.getfield 69, 3) := dk_180 0 69 (dk_at dksX4_freezes_0 11 rfl rfl)
theorem dX4_freezes_14 : decode cX4_freezes 14 = .ok (.sipush 212, 3) := dk_17 0 212 (dk_at dksX4_freezes_0 14 rfl rfl)
theorem dX4_freezes_17 : decode cX4_freezes 17 = .ok (.iload_n 1, 1) := dk_27 (dk_at dksX4_freezes_0 17 rfl rfl)
theorem dX4_freezes_18 : decode cX4_freezes 18 = .ok (.iadd, 1) := dk_96 (dk_at dksX4_freezes_0 18 rfl rfl)
theorem dX4_freezes_19 : decode cX4_freezes 19 = .ok (.aload_n 0, 1) := dk_42 (dk_at dksX4_freezes_0 19 rfl rfl)
theorem dX4_freezes_20 : decode cX4_freezes 20 = .ok (.getfield 69, 3) := dk_180 0 69 (dk_at dksX4_freezes_0 20 rfl rfl)
theorem dX4_freezes_23 : decode cX4_freezes 23 = .ok (.sipush 212, 3) := dk_17 0 212 (dk_at dksX4_freezes_1 0 rfl rfl)
theorem dX4_freezes_26 : decode cX4_freezes 26 = .ok (.iload_n 1, 1) := dk_27 (dk_at dksX4_freezes_1 3 rfl rfl)
theorem dX4_freezes_27 : decode cX4_freezes 27 = .ok (.iadd, 1) := dk_96 (dk_at dksX4_freezes_1 4 rfl rfl)
theorem dX4_freezes_28 : decode cX4_freezes 28 = .ok (.iaload, 1) := dk_46 (dk_at dksX4_freezes_1 5 rfl rfl)
theorem dX4_freezes_29 : decode cX4_freezes 29 = .ok (.iconst 2, 1) := dk_5 (dk_at dksX4_freezes_1 6 rfl rfl)
theorem dX4_freezes_30 : decode cX4_freezes 30 = .ok (.idiv, 1) := dk_108 (dk_at dksX4_freezes_1 7 rfl rfl)
theorem dX4_freezes_31 : decode cX4_freezes 31 = .ok (.iastore, 1) := dk_79 (dk_at dksX4_freezes_1 8 rfl rfl)
theorem dX4_freezes_32 : decode cX4_freezes 32 = .ok (.aload_n 0, 1) := dk_42 (dk_at dksX4_freezes_1 9 rfl rfl)
theorem dX4_freezes_33 : decode cX4_freezes 33 = .ok (.getfield 69, 3) := dk_180 0 69 (dk_at dksX4_freezes_1 10 rfl rfl)
theorem dX4_freezes_36 : decode cX4_freezes 36 = .ok (.sipush 212, 3) := dk_17 0 212 (dk_at dksX4_freezes_1 13 rfl rfl)
theorem dX4_freezes_39 : decode cX4_freezes 39 = .ok (.iload_n 1, 1) := dk_27 (dk_at dksX4_freezes_1 16 rfl rfl)
theorem dX4_freezes_40 : decode cX4_freezes 40 = .ok (.iadd, 1) := dk_96 (dk_at dksX4_freezes_1 17 rfl rfl)
theorem dX4_freezes_41 : decode cX4_freezes 41 = .ok (.iaload, 1) := dk_46 (dk_at dksX4_freezes_1 18 rfl rfl)
theorem dX4_freezes_42 : decode cX4_freezes 42 = .ok (.ifCond .ne 10, 3) := dk_154 0 10 (dk_at dksX4_freezes_1 19 rfl rfl)
theorem dX4_freezes_45 : decode cX4_freezes 45 = .ok (.aload_n 0, 1) := dk_42 (dk_at dksX4_freezes_1 22 rfl rfl)
theorem dX4_freezes_46 : decode cX4_freezes 46 = .ok (.bipush 121, 2) := dk_16 121 (dk_at dksX4_freezes_2 0 rfl rfl)
theorem dX4_freezes_48 : decode cX4_freezes 48 = .ok (.iload_n 1, 1) := dk_27 (dk_at dksX4_freezes_2 2 rfl rfl)
theorem dX4_freezes_49 : decode cX4_freezes 49 = .ok (.invokevirtual 346, 3) := dk_182 1 90 (dk_at dksX4_freezes_2 3 rfl rfl)
theorem dX4_freezes_52 : decode cX4_freezes 52 = .ok (.iinc 1 1, 3) := dk_132 1 1 (dk_at dksX4_freezes_2 6 rfl rfl)
theorem dX4_freezes_55 : decode cX4_freezes 55 = .ok (.goto (-53), 3) := dk_167 255 203 (dk_at dksX4_freezes_2 9 rfl rfl)
theorem dX4_freezes_58 : decode cX4_freezes 58 = .ok (.return_, 1) := dk_177 (dk_at dksX4_freezes_2 12 rfl rfl)
abbrev mX4_freezes : xM := (yX4_freezes, cX4_freezes, 2, none, [])
def m_freezes_52 (k2 : Int32 → MS → Option MS) (x1 : Int32) (S : MS) : Option MS :=
  k2 ((x1 + 1)) S
theorem m_freezes_52_ok {G : xG} {m0 : Nat} {S0 : MS} {k2 : Int32 → MS → Option MS} (hk2 : ∀ (x1 : Int32) (S : MS) (q : MS), k2 x1 S = some q → XM G m0 mX4_freezes 2 S0 none q 2 [(0, .ref m0), (1, .int x1)] [] S) (x1 : Int32) (S : MS) (q : MS) (hf : m_freezes_52 k2 x1 S = some q) : XM G m0 mX4_freezes 2 S0 none q 52 [(0, .ref m0), (1, .int x1)] [] S := by
  intro h N Z
  unfold m_freezes_52 at hf
  refine X.iinc (v := (x1 + 1)) (L' := [(1, .int (x1 + 1)), (0, .ref m0)]) dX4_freezes_52 1 rfl rfl (Nat.le_of_ble_eq_true rfl) rfl ?_
  refine X.goto (tgt := 2) dX4_freezes_55 (by decide) ?_
  refine X.sub [1, 0] (L' := [(0, .ref m0), (1, .int (x1 + 1))]) rfl ?_
  exact hk2 _ _ _ hf h N Z
def m_freezes_2_b  (k2 : Int32 → MS → Option MS) (x1 : Int32) (S : MS) : Option MS :=
  (m_cells S).bind fun q4 =>
  if q4 ≤ x1 then
    some S
  else
    (rdA S 13 ((212 : Int32) + x1)).bind fun v28 =>
    if (2 : Int32) = 0 then none else
    (wrA S 13 ((212 : Int32) + x1) (v28 / (2 : Int32))).bind fun S31 =>
    (rdA S31 13 ((212 : Int32) + x1)).bind fun v41 =>
    if v41 = 0 then
      (m_clears ((121 : Int32)) x1 S31).bind fun q49 =>
      m_freezes_52 k2 x1 q49
    else
      m_freezes_52 k2 x1 S31
def m_freezes_2  : Nat → Int32 → MS → Option MS
  | 0 => fun _ _ => none
  | n + 1 => fun x1 S => m_freezes_2_b (m_freezes_2 n) x1 S
theorem m_freezes_2_bok {G : xG} {m0 : Nat} {S0 : MS}  {k2 : Int32 → MS → Option MS}  (hk2 : ∀ (x1 : Int32) (S : MS) (q : MS), k2 x1 S = some q → XM G m0 mX4_freezes 2 S0 none q 2 [(0, .ref m0), (1, .int x1)] [] S) (x1 : Int32) (S : MS) (q : MS) (hf : m_freezes_2_b k2 x1 S = some q) : XM G m0 mX4_freezes 2 S0 none q 2 [(0, .ref m0), (1, .int x1)] [] S := by
  intro h N Z
  unfold m_freezes_2_b at hf
  refine X.iload_n dX4_freezes_2 rfl 1 rfl ?_
  refine X.aload_n dX4_freezes_3 rfl 0 rfl ?_
  obtain ⟨q4, h4, hf⟩ := ob hf
  refine X.callVi (As := []) (rest := [.int x1]) dX4_freezes_4 (w_cells h4 h N Z) cX4_321 rfl rfl (Nat.le_of_ble_eq_true rfl) mh_0 rfl rfl (xD (Nat.le_of_ble_eq_true rfl)) xleN xleN ?_
  refine X.icmp_ge (tgt := 58) dX4_freezes_7 (by decide) (fun c7 => ?_) (fun c7 => ?_)
  · have hf := if_t c7 hf
    obtain rfl := Option.some.inj hf
    exact X.vret dX4_freezes_58 rfl rfl
  · have hf := if_f c7 hf
    refine X.aload_n dX4_freezes_10 rfl 0 rfl ?_
    refine M.get (v := .ref (m0 + 13)) dX4_freezes_11 fX4_69 (Nat.le_of_ble_eq_true rfl) rfl ?_
    refine X.sipush (v := 212) dX4_freezes_14 (by decide) ?_
    refine X.iload_n dX4_freezes_17 rfl 1 rfl ?_
    refine X.iadd dX4_freezes_18 ?_
    refine X.aload_n dX4_freezes_19 rfl 0 rfl ?_
    refine M.get (v := .ref (m0 + 13)) dX4_freezes_20 fX4_69 (Nat.le_of_ble_eq_true rfl) rfl ?_
    refine X.sipush (v := 212) dX4_freezes_23 (by decide) ?_
    refine X.iload_n dX4_freezes_26 rfl 1 rfl ?_
    refine X.iadd dX4_freezes_27 ?_
    obtain ⟨v28, h28, hf⟩ := ob hf
    refine M.iald dX4_freezes_28 rfl h28 ?_
    refine X.iconst (v := 2) dX4_freezes_29 (by decide) ?_
    obtain ⟨c30, hf⟩ := if_n hf
    refine X.idiv dX4_freezes_30 c30 ?_
    obtain ⟨S31, h31, hf⟩ := ob hf
    refine M.iast dX4_freezes_31 rfl h31 ?_
    refine X.aload_n dX4_freezes_32 rfl 0 rfl ?_
    refine M.get (v := .ref (m0 + 13)) dX4_freezes_33 fX4_69 (Nat.le_of_ble_eq_true rfl) rfl ?_
    refine X.sipush (v := 212) dX4_freezes_36 (by decide) ?_
    refine X.iload_n dX4_freezes_39 rfl 1 rfl ?_
    refine X.iadd dX4_freezes_40 ?_
    obtain ⟨v41, h41, hf⟩ := ob hf
    refine M.iald dX4_freezes_41 rfl h41 ?_
    refine X.if_ne (tgt := 52) dX4_freezes_42 (by decide) (fun c42 => ?_) (fun c42 => ?_)
    · have hf := if_f c42 hf
      refine X.sub [0, 1] (L' := [(0, .ref m0), (1, .int x1)]) rfl ?_
      exact m_freezes_52_ok hk2 _ _ _ hf h N Z
    · have hf := if_t c42 hf
      refine X.aload_n dX4_freezes_45 rfl 0 rfl ?_
      refine X.bipush (v := 121) dX4_freezes_46 (by decide) ?_
      refine X.iload_n dX4_freezes_48 rfl 1 rfl ?_
      obtain ⟨q49, h49, hf⟩ := ob hf
      refine X.callVv (As := [.int (121 : Int32), .int x1]) (rest := []) (T2 := (mh m0 h q49, N, Z)) dX4_freezes_49 (w_clears h49 h N Z) cX4_346 rfl rfl (Nat.le_of_ble_eq_true rfl) mh_0 rfl rfl (xD (Nat.le_of_ble_eq_true rfl)) xleN xleN ?_
      refine X.sub [0, 1] (L' := [(0, .ref m0), (1, .int x1)]) rfl ?_
      exact m_freezes_52_ok hk2 _ _ _ hf h N Z
theorem m_freezes_2_ok {G : xG} {m0 : Nat} {S0 : MS}   : ∀ (n : Nat) (x1 : Int32) (S : MS) (q : MS), m_freezes_2 n x1 S = some q → XM G m0 mX4_freezes 2 S0 none q 2 [(0, .ref m0), (1, .int x1)] [] S
  | 0, _, _, _, hf => by cases hf
  | n + 1, x1, S, q, hf => m_freezes_2_bok (m_freezes_2_ok n) x1 S q hf
def m_freezes  (S : MS) : Option MS :=
  m_freezes_2 FU ((0 : Int32)) S
theorem w_freezes {G : xG} {m0 : Nat}  {S : MS} {q : MS} (hf : m_freezes S = some q) : CtM G m0 mX4_freezes 2 S [.ref m0] none q := by
  intro h N Z
  refine Ct.of (by decide +kernel) rfl (Nat.le_of_ble_eq_true rfl) (show Xr G _ 0 [(0, .ref m0)] [] _ from ?_)
  unfold m_freezes at hf
  refine X.iconst (v := 0) dX4_freezes_0 (by decide) ?_
  refine X.istore_n (L' := [(1, .int (0 : Int32)), (0, .ref m0)]) dX4_freezes_1 rfl (Nat.le_of_ble_eq_true rfl) rfl ?_
  refine X.sub [1, 0] (L' := [(0, .ref m0), (1, .int (0 : Int32))]) rfl ?_
  exact m_freezes_2_ok FU _ _ _ hf h N Z
theorem cX4_418 : xCV RX4 418 mX4_freezes 0 := ⟨lw_V q2100 q2102 qs109 q127 q2103, rfl, ⟨by decide +kernel, by decide +kernel, by decide +kernel⟩, Nat.le_of_ble_eq_true rfl⟩
/-! frost -/
abbrev cX4_frost : ByteArray := prog_12_method_92_code
def yX4_frost : MethodName := ⟨RX4, "frost", "(II)I"⟩
def dkwX4_frost_1 : List UInt8 := [172, 42, 182, 1, 147, 42, 182, 1, 162, 42, 28, 182, 1, 150, 42, 16, 121, 27, 182, 1, 114, 172]
abbrev dktX4_frost_1 : List UInt8 := dkwX4_frost_1 ++ []
def dkwX4_frost_0 : List UInt8 := [42, 3, 181, 0, 115, 42, 27, 182, 1, 138, 153, 0, 13, 42, 28, 3, 5, 182, 1, 153, 154, 0, 5, 3]
abbrev dktX4_frost_0 : List UInt8 := dkwX4_frost_0 ++ dktX4_frost_1
theorem dksX4_frost_0 : cX4_frost.data.toList.drop 0 = dktX4_frost_0 := by decide +kernel
theorem dksX4_frost_1 : cX4_frost.data.toList.drop 24 = dktX4_frost_1 := dk_seg dksX4_frost_0 24 rfl rfl
theorem dX4_frost_0 : decode cX4_frost 0 = .ok (.aload_n 0, 1) := dk_42 (dk_at dksX4_frost_0 0 rfl rfl)
theorem dX4_frost_1 : decode cX4_frost 1 = .ok (.iconst 0, 1) := dk_3 (dk_at dksX4_frost_0 1 rfl rfl)
theorem dX4_frost_2 : decode cX4_frost 2 = .ok (.putfield 115, 3) := dk_181 0 115 (dk_at dksX4_frost_0 2 rfl rfl)
theorem dX4_frost_5 : decode cX4_frost 5 = .ok (.aload_n 0, 1) := dk_42 (dk_at dksX4_frost_0 5 rfl rfl)
theorem dX4_frost_6 : decode cX4_frost 6 = .ok (.iload_n 1, 1) := dk_27 (dk_at dksX4_frost_0 6 rfl rfl)
theorem dX4_frost_7 : decode cX4_frost 7 = .ok (.invokevirtual 394, 3) := dk_182 1 138 (dk_at dksX4_frost_0 7 rfl rfl)
theorem dX4_frost_10 : decode cX4_frost 10 = .ok (.ifCond .eq 13, 3) := dk_153 0 13 (dk_at dksX4_frost_0 10 rfl rfl)
theorem dX4_frost_13 : decode cX4_frost 13 = .ok (.aload_n 0, 1) := dk_42 (dk_at dksX4_frost_0 13 rfl rfl)
theorem dX4_frost_14 : decode cX4_frost 14 = .ok (.iload_n 2, 1) := dk_28 (dk_at dksX4_frost_0 14 rfl rfl)
theorem dX4_frost_15 : decode cX4_frost 15 = .ok (.iconst 0, 1) := dk_3 (dk_at dksX4_frost_0 15 rfl rfl)
theorem dX4_frost_16 : decode cX4_frost 16 = .ok (.iconst 2, 1) := dk_5 (dk_at dksX4_frost_0 16 rfl rfl)
theorem dX4_frost_17 : decode cX4_frost 17 = .ok (.invokevirtual 409, 3) := dk_182 1 153 (dk_at dksX4_frost_0 17 rfl rfl)
theorem dX4_frost_20 : decode cX4_frost 20 = .ok (.ifCond .ne 5, 3) := dk_154 0 5 (dk_at dksX4_frost_0 20 rfl rfl)
theorem dX4_frost_23 : decode cX4_frost 23 = .ok (.iconst 0, 1) := dk_3 (dk_at dksX4_frost_0 23 rfl rfl)
theorem dX4_frost_24 : decode cX4_frost 24 = .ok (.ireturn, 1) := dk_172 (dk_at dksX4_frost_1 0 rfl rfl)
theorem dX4_frost_25 : decode cX4_frost 25 = .ok (.aload_n 0, 1) := dk_42 (dk_at dksX4_frost_1 1 rfl rfl)
theorem dX4_frost_26 : decode cX4_frost 26 = .ok (.invokevirtual 403, 3) := dk_182 1 147 (dk_at dksX4_frost_1 2 rfl rfl)
theorem dX4_frost_29 : decode cX4_frost 29 = .ok (.aload_n 0, 1) := dk_42 (dk_at dksX4_frost_1 5 rfl rfl)
theorem dX4_frost_30 : decode cX4_frost 30 = .ok (.invokevirtual 418, 3) := dk_182 1 162 (dk_at dksX4_frost_1 6 rfl rfl)
theorem dX4_frost_33 : decode cX4_frost 33 = .ok (.aload_n 0, 1) := dk_42 (dk_at dksX4_frost_1 9 rfl rfl)
theorem dX4_frost_34 : decode cX4_frost 34 = .ok (.iload_n 2, 1) := dk_28 (dk_at dksX4_frost_1 10 rfl rfl)
theorem dX4_frost_35 : decode cX4_frost 35 = .ok (.invokevirtual 406, 3) := dk_182 1 150 (dk_at dksX4_frost_1 11 rfl rfl)
theorem dX4_frost_38 : decode cX4_frost 38 = .ok (.aload_n 0, 1) := dk_42 (dk_at dksX4_frost_1 14 rfl rfl)
theorem dX4_frost_39 : decode cX4_frost 39 = .ok (.bipush 121, 2) := dk_16 121 (dk_at dksX4_frost_1 15 rfl rfl)
theorem dX4_frost_41 : decode cX4_frost 41 = .ok (.iload_n 1, 1) := dk_27 (dk_at dksX4_frost_1 17 rfl rfl)
theorem dX4_frost_42 : decode cX4_frost 42 = .ok (.invokevirtual 370, 3) := dk_182 1 114 (dk_at dksX4_frost_1 18 rfl rfl)
theorem dX4_frost_45 : decode cX4_frost 45 = .ok (.ireturn, 1) := dk_172 (dk_at dksX4_frost_1 21 rfl rfl)
abbrev mX4_frost : xM := (yX4_frost, cX4_frost, 3, (some .int), [])
def m_frost (x1 : Int32) (x2 : Int32) (S : MS) : Option (Int32 × MS) :=
  (m_isParty x1 ((sF S 0 (0 : Int32)))).bind fun q7 =>
  if q7.1 = 0 then
    some ((0 : Int32), q7.2)
  else
    (m_isDays x2 ((0 : Int32)) ((2 : Int32)) q7.2).bind fun q17 =>
    if q17.1 = 0 then
      some ((0 : Int32), q17.2)
    else
      (m_tries q17.2).bind fun q26 =>
      (m_freezes q26).bind fun q30 =>
      (m_daysGo x2 q30).bind fun q35 =>
      (m_votesOf ((121 : Int32)) x1 q35).bind fun q42 =>
      some (q42, q35)
theorem w_frost {G : xG} {m0 : Nat} {x1 : Int32} {x2 : Int32} {S : MS} {q : (Int32 × MS)} (hf : m_frost x1 x2 S = some q) : CtM G m0 mX4_frost 7 S [.ref m0, .int x1, .int x2] (some (.int q.1)) q.2 := by
  intro h N Z
  refine Ct.of (by decide +kernel) rfl (Nat.le_of_ble_eq_true rfl) (show Xr G _ 0 [(0, .ref m0), (1, .int x1), (2, .int x2)] [] _ from ?_)
  unfold m_frost at hf
  refine X.aload_n dX4_frost_0 rfl 0 rfl ?_
  refine X.iconst (v := 0) dX4_frost_1 (by decide) ?_
  refine M.putI dX4_frost_2 fX4_115 (by decide) rfl rfl rfl ?_
  refine X.aload_n dX4_frost_5 rfl 0 rfl ?_
  refine X.iload_n dX4_frost_6 rfl 1 rfl ?_
  obtain ⟨q7, h7, hf⟩ := ob hf
  refine X.callVi (As := [.int x1]) (rest := []) (T2 := (mh m0 h q7.2, N, Z)) dX4_frost_7 (w_isParty h7 h N Z) cX4_394 rfl rfl (Nat.le_of_ble_eq_true rfl) mh_0 rfl rfl (xD (Nat.le_of_ble_eq_true rfl)) xleN xleN ?_
  refine X.if_eq (tgt := 23) dX4_frost_10 (by decide) (fun c10 => ?_) (fun c10 => ?_)
  · have hf := if_t c10 hf
    refine X.iconst (v := 0) dX4_frost_23 (by decide) ?_
    obtain rfl := Option.some.inj hf
    exact X.iret dX4_frost_24 rfl rfl rfl
  · have hf := if_f c10 hf
    refine X.aload_n dX4_frost_13 rfl 0 rfl ?_
    refine X.iload_n dX4_frost_14 rfl 2 rfl ?_
    refine X.iconst (v := 0) dX4_frost_15 (by decide) ?_
    refine X.iconst (v := 2) dX4_frost_16 (by decide) ?_
    obtain ⟨q17, h17, hf⟩ := ob hf
    refine X.callVi (As := [.int x2, .int (0 : Int32), .int (2 : Int32)]) (rest := []) (T2 := (mh m0 h q17.2, N, Z)) dX4_frost_17 (w_isDays h17 h N Z) cX4_409 rfl rfl (Nat.le_of_ble_eq_true rfl) mh_0 rfl rfl (xD (Nat.le_of_ble_eq_true rfl)) xleN xleN ?_
    refine X.if_ne (tgt := 25) dX4_frost_20 (by decide) (fun c20 => ?_) (fun c20 => ?_)
    · have hf := if_f c20 hf
      refine X.aload_n dX4_frost_25 rfl 0 rfl ?_
      obtain ⟨q26, h26, hf⟩ := ob hf
      refine X.callVv (As := []) (rest := []) (T2 := (mh m0 h q26, N, Z)) dX4_frost_26 (w_tries h26 h N Z) cX4_403 rfl rfl (Nat.le_of_ble_eq_true rfl) mh_0 rfl rfl (xD (Nat.le_of_ble_eq_true rfl)) xleN xleN ?_
      refine X.aload_n dX4_frost_29 rfl 0 rfl ?_
      obtain ⟨q30, h30, hf⟩ := ob hf
      refine X.callVv (As := []) (rest := []) (T2 := (mh m0 h q30, N, Z)) dX4_frost_30 (w_freezes h30 h N Z) cX4_418 rfl rfl (Nat.le_of_ble_eq_true rfl) mh_0 rfl rfl (xD (Nat.le_of_ble_eq_true rfl)) xleN xleN ?_
      refine X.aload_n dX4_frost_33 rfl 0 rfl ?_
      refine X.iload_n dX4_frost_34 rfl 2 rfl ?_
      obtain ⟨q35, h35, hf⟩ := ob hf
      refine X.callVv (As := [.int x2]) (rest := []) (T2 := (mh m0 h q35, N, Z)) dX4_frost_35 (w_daysGo h35 h N Z) cX4_406 rfl rfl (Nat.le_of_ble_eq_true rfl) mh_0 rfl rfl (xD (Nat.le_of_ble_eq_true rfl)) xleN xleN ?_
      refine X.aload_n dX4_frost_38 rfl 0 rfl ?_
      refine X.bipush (v := 121) dX4_frost_39 (by decide) ?_
      refine X.iload_n dX4_frost_41 rfl 1 rfl ?_
      obtain ⟨q42, h42, hf⟩ := ob hf
      refine X.callVi (As := [.int (121 : Int32), .int x1]) (rest := []) dX4_frost_42 (w_votesOf h42 h N Z) cX4_370 rfl rfl (Nat.le_of_ble_eq_true rfl) mh_0 rfl rfl (xD (Nat.le_of_ble_eq_true rfl)) xleN xleN ?_
      obtain rfl := Option.some.inj hf
      exact X.iret dX4_frost_45 rfl rfl rfl
    · have hf := if_t c20 hf
      refine X.iconst (v := 0) dX4_frost_23 (by decide) ?_
      obtain rfl := Option.some.inj hf
      exact X.iret dX4_frost_24 rfl rfl rfl
/-! counting -/
abbrev cX4_counting : ByteArray := prog_12_method_93_code
def yX4_counting : MethodName := ⟨RX4, "counting", "()I"⟩
def dkwX4_counting_9 : List UInt8 := [21, 4, 120, 104, 21, 4, 96, 46, 184, 1, 84, 62, 132, 4, 1, 167, 255, 227, 29, 172]
abbrev dktX4_counting_9 : List UInt8 := dkwX4_counting_9 ++ []
def dkwX4_counting_8 : List UInt8 := [167, 255, 139, 19, 1, 165, 62, 3, 54, 4, 21, 4, 27, 162, 0, 29, 29, 42, 180, 0, 90, 16, 9, 4]
abbrev dktX4_counting_8 : List UInt8 := dkwX4_counting_8 ++ dktX4_counting_9
def dkwX4_counting_7 : List UInt8 := [180, 0, 90, 16, 9, 29, 104, 21, 4, 96, 21, 5, 79, 132, 4, 1, 167, 255, 152, 132, 3, 255]
abbrev dktX4_counting_7 : List UInt8 := dkwX4_counting_7 ++ dktX4_counting_8
def dkwX4_counting_6 : List UInt8 := [21, 6, 120, 128, 104, 21, 6, 96, 46, 96, 184, 1, 84, 54, 5, 132, 6, 1, 167, 255, 195, 42]
abbrev dktX4_counting_6 : List UInt8 := dkwX4_counting_6 ++ dktX4_counting_7
def dkwX4_counting_5 : List UInt8 := [180, 0, 87, 21, 4, 46, 42, 180, 0, 87, 21, 6, 46, 182, 1, 68, 42, 180, 0, 90, 16, 9, 29, 4]
abbrev dktX4_counting_5 : List UInt8 := dkwX4_counting_5 ++ dktX4_counting_6
def dkwX4_counting_4 : List UInt8 := [54, 5, 3, 54, 6, 21, 6, 27, 162, 0, 61, 29, 21, 6, 122, 4, 126, 154, 0, 46, 21, 5, 42, 42]
abbrev dktX4_counting_4 : List UInt8 := dkwX4_counting_4 ++ dktX4_counting_5
def dkwX4_counting_3 : List UInt8 := [158, 0, 119, 3, 54, 4, 21, 4, 27, 162, 0, 104, 29, 28, 160, 0, 7, 3, 167, 0, 6, 19, 1, 165]
abbrev dktX4_counting_3 : List UInt8 := dkwX4_counting_3 ++ dktX4_counting_4
def dkwX4_counting_2 : List UInt8 := [132, 2, 1, 167, 255, 215, 27, 5, 162, 0, 5, 3, 172, 4, 27, 120, 4, 100, 61, 28, 62, 29]
abbrev dktX4_counting_2 : List UInt8 := dkwX4_counting_2 ++ dktX4_counting_3
def dkwX4_counting_1 : List UInt8 := [154, 0, 6, 167, 0, 21, 27, 16, 9, 160, 0, 5, 2, 172, 42, 180, 0, 87, 27, 28, 79, 132, 1, 1]
abbrev dktX4_counting_1 : List UInt8 := dkwX4_counting_1 ++ dktX4_counting_2
def dkwX4_counting_0 : List UInt8 := [42, 3, 181, 0, 115, 3, 60, 3, 61, 28, 42, 182, 1, 65, 162, 0, 39, 42, 3, 28, 182, 1, 110]
abbrev dktX4_counting_0 : List UInt8 := dkwX4_counting_0 ++ dktX4_counting_1
theorem dksX4_counting_0 : cX4_counting.data.toList.drop 0 = dktX4_counting_0 := by decide +kernel
theorem dksX4_counting_1 : cX4_counting.data.toList.drop 23 = dktX4_counting_1 := dk_seg dksX4_counting_0 23 rfl rfl
theorem dksX4_counting_2 : cX4_counting.data.toList.drop 47 = dktX4_counting_2 := dk_seg dksX4_counting_1 24 rfl rfl
theorem dksX4_counting_3 : cX4_counting.data.toList.drop 69 = dktX4_counting_3 := dk_seg dksX4_counting_2 22 rfl rfl
theorem dksX4_counting_4 : cX4_counting.data.toList.drop 93 = dktX4_counting_4 := dk_seg dksX4_counting_3 24 rfl rfl
theorem dksX4_counting_5 : cX4_counting.data.toList.drop 117 = dktX4_counting_5 := dk_seg dksX4_counting_4 24 rfl rfl
theorem dksX4_counting_6 : cX4_counting.data.toList.drop 141 = dktX4_counting_6 := dk_seg dksX4_counting_5 24 rfl rfl
theorem dksX4_counting_7 : cX4_counting.data.toList.drop 163 = dktX4_counting_7 := dk_seg dksX4_counting_6 22 rfl rfl
theorem dksX4_counting_8 : cX4_counting.data.toList.drop 185 = dktX4_counting_8 := dk_seg dksX4_counting_7 22 rfl rfl
theorem dksX4_counting_9 : cX4_counting.data.toList.drop 209 = dktX4_counting_9 := dk_seg dksX4_counting_8 24 rfl rfl
theorem dX4_counting_0 : decode cX4_counting 0 = .ok (.aload_n 0, 1) := dk_42 (dk_at dksX4_counting_0 0 rfl rfl)
theorem dX4_counting_1 : decode cX4_counting 1 = .ok (.iconst 0, 1) := dk_3 (dk_at dksX4_counting_0 1 rfl rfl)
theorem dX4_counting_2 : decode cX4_counting 2 = .ok (.putfield 115, 3) := dk_181 0 115 (dk_at dksX4_counting_0 2 rfl rfl)
theorem dX4_counting_5 : decode cX4_counting 5 = .ok (.iconst 0, 1) := dk_3 (dk_at dksX4_counting_0 5 rfl rfl)
theorem dX4_counting_6 : decode cX4_counting 6 = .ok (.istore_n 1, 1) := dk_60 (dk_at dksX4_counting_0 6 rfl rfl)
theorem dX4_counting_7 : decode cX4_counting 7 = .ok (.iconst 0, 1) := dk_3 (dk_at dksX4_counting_0 7 rfl rfl)
theorem dX4_counting_8 : decode cX4_counting 8 = .ok (.istore_n 2, 1) := dk_61 (dk_at dksX4_counting_0 8 rfl rfl)
theorem dX4_counting_9 : decode cX4_counting 9 = .ok (.iload_n 2, 1) := dk_28 (dk_at dksX4_counting_0 9 rfl rfl)
theorem dX4_counting_10 : decode cX4_counting 10 = .ok (.aload_n 0, 1) := dk_42 (dk_at dksX4_counting_0 10 rfl rfl)
theorem dX4_counting_11 : decode cX4_counting 11 = .ok (.invokevirtual 321, 3) := dk_182 1 65 (dk_at dksX4_counting_0 11 rfl rfl)
theorem dX4_counting_14 : decode cX4_counting 14 = .ok (.if_icmp .ge 39, 3) := dk_162 0 39 (dk_at dksX4_counting_0 14 rfl rfl)
theorem dX4_counting_17 : decode cX4_counting 17 = .ok (.aload_n 0, 1) := dk_42 (dk_at dksX4_counting_0 17 rfl rfl)
theorem dX4_counting_18 : decode cX4_counting 18 = .ok (.iconst 0, 1) := dk_3 (dk_at dksX4_counting_0 18 rfl rfl)
theorem dX4_counting_19 : decode cX4_counting 19 = .ok (.iload_n 2, 1) := dk_28 (dk_at dksX4_counting_0 19 rfl rfl)
theorem dX4_counting_20 : decode cX4_counting 20 = .ok (.invokevirtual 366, 3) := dk_182 1 110 (dk_at dksX4_counting_0 20 rfl rfl)
theorem dX4_counting_23 : decode cX4_counting 23 = .ok (.ifCond .ne 6, 3) := dk_154 0 6 (dk_at dksX4_counting_1 0 rfl rfl)
theorem dX4_counting_26 : decode cX4_counting 26 = .ok (.goto 21, 3) := dk_167 0 21 (dk_at dksX4_counting_1 3 rfl rfl)
theorem dX4_counting_29 : decode cX4_counting 29 = .ok (.iload_n 1, 1) := dk_27 (dk_at dksX4_counting_1 6 rfl rfl)
theorem dX4_counting_30 : decode cX4_counting 30 = .ok (.bipush 9, 2) := dk_16 9 (dk_at dksX4_counting_1 7 rfl rfl)
theorem dX4_counting_32 : decode cX4_counting 32 = .ok (.if_icmp .ne 5, 3) := dk_160 0 5 (dk_at dksX4_counting_1 9 rfl rfl)
theorem dX4_counting_35 : decode cX4_counting 35 = .ok (.iconst (-1), 1) := dk_2 (dk_at dksX4_counting_1 12 rfl rfl)
theorem dX4_counting_36 : decode cX4_counting 36 = .ok (.ireturn, 1) := dk_172 (dk_at dksX4_counting_1 13 rfl rfl)
theorem dX4_counting_37 : decode cX4_counting 37 = .ok (.aload_n 0, 1) := dk_42 (dk_at dksX4_counting_1 14 rfl rfl)
theorem dX4_counting_38 : decode cX4_counting 38 = .ok (.getfield 87, 3) := dk_180 0 87 (dk_at dksX4_counting_1 15 rfl rfl)
theorem dX4_counting_41 : decode cX4_counting 41 = .ok (.iload_n 1, 1) := dk_27 (dk_at dksX4_counting_1 18 rfl rfl)
theorem dX4_counting_42 : decode cX4_counting 42 = .ok (.iload_n 2, 1) := dk_28 (dk_at dksX4_counting_1 19 rfl rfl)
theorem dX4_counting_43 : decode cX4_counting 43 = .ok (.iastore, 1) := dk_79 (dk_at dksX4_counting_1 20 rfl rfl)
theorem dX4_counting_44 : decode cX4_counting 44 = .ok (.iinc 1 1, 3) := dk_132 1 1 (dk_at dksX4_counting_1 21 rfl rfl)
theorem dX4_counting_47 : decode cX4_counting 47 = .ok (.iinc 2 1, 3) := dk_132 2 1 (dk_at dksX4_counting_2 0 rfl rfl)
theorem dX4_counting_50 : decode cX4_counting 50 = .ok (.goto (-41), 3) := dk_167 255 215 (dk_at dksX4_counting_2 3 rfl rfl)
theorem dX4_counting_53 : decode cX4_counting 53 = .ok (.iload_n 1, 1) := dk_27 (dk_at dksX4_counting_2 6 rfl rfl)
theorem dX4_counting_54 : decode cX4_counting 54 = .ok (.iconst 2, 1) := dk_5 (dk_at dksX4_counting_2 7 rfl rfl)
theorem dX4_counting_55 : decode cX4_counting 55 = .ok (.if_icmp .ge 5, 3) := dk_162 0 5 (dk_at dksX4_counting_2 8 rfl rfl)
theorem dX4_counting_58 : decode cX4_counting 58 = .ok (.iconst 0, 1) := dk_3 (dk_at dksX4_counting_2 11 rfl rfl)
theorem dX4_counting_59 : decode cX4_counting 59 = .ok (.ireturn, 1) := dk_172 (dk_at dksX4_counting_2 12 rfl rfl)
theorem dX4_counting_60 : decode cX4_counting 60 = .ok (.iconst 1, 1) := dk_4 (dk_at dksX4_counting_2 13 rfl rfl)
theorem dX4_counting_61 : decode cX4_counting 61 = .ok (.iload_n 1, 1) := dk_27 (dk_at dksX4_counting_2 14 rfl rfl)
theorem dX4_counting_62 : decode cX4_counting 62 = .ok (.ishl, 1) := dk_120 (dk_at dksX4_counting_2 15 rfl rfl)
theorem dX4_counting_63 : decode cX4_counting 63 = .ok (.iconst 1, 1) := dk_4 (dk_at dksX4_counting_2 16 rfl rfl)
theorem dX4_counting_64 : decode cX4_counting 64 = .ok (.isub, 1) := dk_100 (dk_at dksX4_counting_2 17 rfl rfl)
theorem dX4_counting_65 : decode cX4_counting 65 = .ok (.istore_n 2, 1) := dk_61 (dk_at dksX4_counting_2 18 rfl rfl)
theorem dX4_counting_66 : decode cX4_counting 66 = .ok (.iload_n 2, 1) := dk_28 (dk_at dksX4_counting_2 19 rfl rfl)
theorem dX4_counting_67 : decode cX4_counting 67 = .ok (.istore_n 3, 1) := dk_62 (dk_at dksX4_counting_2 20 rfl rfl)
theorem dX4_counting_68 : decode cX4_counting 68 = .ok (.iload_n 3, 1) := dk_29 (dk_at dksX4_counting_2 21 rfl rfl)
theorem dX4_counting_69 : decode cX4_counting 69 = .ok (.ifCond .le 119, 3) := dk_158 0 119 (dk_at dksX4_counting_3 0 rfl rfl)
theorem dX4_counting_72 : decode cX4_counting 72 = .ok (.iconst 0, 1) := dk_3 (dk_at dksX4_counting_3 3 rfl rfl)
theorem dX4_counting_73 : decode cX4_counting 73 = .ok (.istore 4, 2) := dk_54 4 (dk_at dksX4_counting_3 4 rfl rfl)
theorem dX4_counting_75 : decode cX4_counting 75 = .ok (.iload 4, 2) := dk_21 4 (dk_at dksX4_counting_3 6 rfl rfl)
theorem dX4_counting_77 : decode cX4_counting 77 = .ok (.iload_n 1, 1) := dk_27 (dk_at dksX4_counting_3 8 rfl rfl)
theorem dX4_counting_78 : decode cX4_counting 78 = .ok (.if_icmp .ge 104, 3) := dk_162 0 104 (dk_at dksX4_counting_3 9 rfl rfl)
theorem dX4_counting_81 : decode cX4_counting 81 = .ok (.iload_n 3, 1) := dk_29 (dk_at dksX4_counting_3 12 rfl rfl)
theorem dX4_counting_82 : decode cX4_counting 82 = .ok (.iload_n 2, 1) := dk_28 (dk_at dksX4_counting_3 13 rfl rfl)
theorem dX4_counting_83 : decode cX4_counting 83 = .ok (.if_icmp .ne 7, 3) := dk_160 0 7 (dk_at dksX4_counting_3 14 rfl rfl)
theorem dX4_counting_86 : decode cX4_counting 86 = .ok (.iconst 0, 1) := dk_3 (dk_at dksX4_counting_3 17 rfl rfl)
theorem dX4_counting_87 : decode cX4_counting 87 = .ok (.goto 6, 3) := dk_167 0 6 (dk_at dksX4_counting_3 18 rfl rfl)
theorem dX4_counting_90 : decode cX4_counting 90 = .ok (.ldc_w 421, 3) := dk_19 1 165 (dk_at dksX4_counting_3 21 rfl rfl)
theorem dX4_counting_93 : decode cX4_counting 93 = .ok (.istore 5, 2) := dk_54 5 (dk_at dksX4_counting_4 0 rfl rfl)
theorem dX4_counting_95 : decode cX4_counting 95 = .ok (.iconst 0, 1) := dk_3 (dk_at dksX4_counting_4 2 rfl rfl)
theorem dX4_counting_96 : decode cX4_counting 96 = .ok (.istore 6, 2) := dk_54 6 (dk_at dksX4_counting_4 3 rfl rfl)
theorem dX4_counting_98 : decode cX4_counting 98 = .ok (.iload 6, 2) := dk_21 6 (dk_at dksX4_counting_4 5 rfl rfl)
theorem dX4_counting_100 : decode cX4_counting 100 = .ok (.iload_n 1, 1) := dk_27 (dk_at dksX4_counting_4 7 rfl rfl)
theorem dX4_counting_101 : decode cX4_counting 101 = .ok (.if_icmp .ge 61, 3) := dk_162 0 61 (dk_at dksX4_counting_4 8 rfl rfl)
theorem dX4_counting_104 : decode cX4_counting 104 = .ok (.iload_n 3, 1) := dk_29 (dk_at dksX4_counting_4 11 rfl rfl)
theorem dX4_counting_105 : decode cX4_counting 105 = .ok (.iload 6, 2) := dk_21 6 (dk_at dksX4_counting_4 12 rfl rfl)
theorem dX4_counting_107 : decode cX4_counting 107 = .ok (.ishr, 1) := dk_122 (dk_at dksX4_counting_4 14 rfl rfl)
theorem dX4_counting_108 : decode cX4_counting 108 = .ok (.iconst 1, 1) := dk_4 (dk_at dksX4_counting_4 15 rfl rfl)
theorem dX4_counting_109 : decode cX4_counting 109 = .ok (.iand, 1) := dk_126 (dk_at dksX4_counting_4 16 rfl rfl)
theorem dX4_counting_110 : decode cX4_counting 110 = .ok (.ifCond .ne 46, 3) := dk_154 0 46 (dk_at dksX4_counting_4 17 rfl rfl)
theorem dX4_counting_113 : decode cX4_counting 113 = .ok (.iload 5, 2) := dk_21 5 (dk_at dksX4_counting_4 20 rfl rfl)
theorem dX4_counting_115 : decode cX4_counting 115 = .ok (.aload_n 0, 1) := dk_42 (dk_at dksX4_counting_4 22 rfl rfl)
theorem dX4_counting_116 : decode cX4_counting 116 = .ok (.aload_n 0, 1) := dk_42 (dk_at dksX4_counting_4 23 rfl rfl)
theorem dX4_counting_117 : decode cX4_counting 117 = .ok (.getfield 87, 3) := dk_180 0 87 (dk_at dksX4_counting_5 0 rfl rfl)
theorem dX4_counting_120 : decode cX4_counting 120 = .ok (.iload 4, 2) := dk_21 4 (dk_at dksX4_counting_5 3 rfl rfl)
theorem dX4_counting_122 : decode cX4_counting 122 = .ok (.iaload, 1) := dk_46 (dk_at dksX4_counting_5 5 rfl rfl)
theorem dX4_counting_123 : decode cX4_counting 123 = .ok (.aload_n 0, 1) := dk_42 (dk_at dksX4_counting_5 6 rfl rfl)
theorem dX4_counting_124 : decode cX4_counting 124 = .ok (.getfield 87, 3) := dk_180 0 87 (dk_at dksX4_counting_5 7 rfl rfl)
theorem dX4_counting_127 : decode cX4_counting 127 = .ok (.iload 6, 2) := dk_21 6 (dk_at dksX4_counting_5 10 rfl rfl)
theorem dX4_counting_129 : decode cX4_counting 129 = .ok (.iaload, 1) := dk_46 (dk_at dksX4_counting_5 12 rfl rfl)
theorem dX4_counting_130 : decode cX4_counting 130 = .ok (.invokevirtual 324, 3) := dk_182 1 68 (dk_at dksX4_counting_5 13 rfl rfl)
theorem dX4_counting_133 : decode cX4_counting 133 = .ok (.aload_n 0, 1) := dk_42 (dk_at dksX4_counting_5 16 rfl rfl)
theorem dX4_counting_134 : decode cX4_counting 134 = .ok (.getfield 90, 3) := dk_180 0 90 (dk_at dksX4_counting_5 17 rfl rfl)
theorem dX4_counting_137 : decode cX4_counting 137 = .ok (.bipush 9, 2) := dk_16 9 (dk_at dksX4_counting_5 20 rfl rfl)
theorem dX4_counting_139 : decode cX4_counting 139 = .ok (.iload_n 3, 1) := dk_29 (dk_at dksX4_counting_5 22 rfl rfl)
theorem dX4_counting_140 : decode cX4_counting 140 = .ok (.iconst 1, 1) := dk_4 (dk_at dksX4_counting_5 23 rfl rfl)
theorem dX4_counting_141 : decode cX4_counting 141 = .ok (.iload 6, 2) := dk_21 6 (dk_at dksX4_counting_6 0 rfl rfl)
theorem dX4_counting_143 : decode cX4_counting 143 = .ok (.ishl, 1) := dk_120 (dk_at dksX4_counting_6 2 rfl rfl)
theorem dX4_counting_144 : decode cX4_counting 144 = .ok (.ior, 1) := dk_128 (dk_at dksX4_counting_6 3 rfl rfl)
theorem dX4_counting_145 : decode cX4_counting 145 = .ok (.imul, 1) := dk_104 (dk_at dksX4_counting_6 4 rfl rfl)
theorem dX4_counting_146 : decode cX4_counting 146 = .ok (.iload 6, 2) := dk_21 6 (dk_at dksX4_counting_6 5 rfl rfl)
theorem dX4_counting_148 : decode cX4_counting 148 = .ok (.iadd, 1) := dk_96 (dk_at dksX4_counting_6 7 rfl rfl)
theorem dX4_counting_149 : decode cX4_counting 149 = .ok (.iaload, 1) := dk_46 (dk_at dksX4_counting_6 8 rfl rfl)
theorem dX4_counting_150 : decode cX4_counting 150 = .ok (.iadd, 1) := dk_96 (dk_at dksX4_counting_6 9 rfl rfl)
theorem dX4_counting_151 : decode cX4_counting 151 = .ok (.invokestatic 340, 3) := dk_184 1 84 (dk_at dksX4_counting_6 10 rfl rfl)
theorem dX4_counting_154 : decode cX4_counting 154 = .ok (.istore 5, 2) := dk_54 5 (dk_at dksX4_counting_6 13 rfl rfl)
theorem dX4_counting_156 : decode cX4_counting 156 = .ok (.iinc 6 1, 3) := dk_132 6 1 (dk_at dksX4_counting_6 15 rfl rfl)
theorem dX4_counting_159 : decode cX4_counting 159 = .ok (.goto (-61), 3) := dk_167 255 195 (dk_at dksX4_counting_6 18 rfl rfl)
theorem dX4_counting_162 : decode cX4_counting 162 = .ok (.aload_n 0, 1) := dk_42 (dk_at dksX4_counting_6 21 rfl rfl)
theorem dX4_counting_163 : decode cX4_counting 163 = .ok (.getfield 90, 3) := dk_180 0 90 (dk_at dksX4_counting_7 0 rfl rfl)
theorem dX4_counting_166 : decode cX4_counting 166 = .ok (.bipush 9, 2) := dk_16 9 (dk_at dksX4_counting_7 3 rfl rfl)
theorem dX4_counting_168 : decode cX4_counting 168 = .ok (.iload_n 3, 1) := dk_29 (dk_at dksX4_counting_7 5 rfl rfl)
theorem dX4_counting_169 : decode cX4_counting 169 = .ok (.imul, 1) := dk_104 (dk_at dksX4_counting_7 6 rfl rfl)
theorem dX4_counting_170 : decode cX4_counting 170 = .ok (.iload 4, 2) := dk_21 4 (dk_at dksX4_counting_7 7 rfl rfl)
theorem dX4_counting_172 : decode cX4_counting 172 = .ok (.iadd, 1) := dk_96 (dk_at dksX4_counting_7 9 rfl rfl)
theorem dX4_counting_173 : decode cX4_counting 173 = .ok (.iload 5, 2) := dk_21 5 (dk_at dksX4_counting_7 10 rfl rfl)
theorem dX4_counting_175 : decode cX4_counting 175 = .ok (.iastore, 1) := dk_79 (dk_at dksX4_counting_7 12 rfl rfl)
theorem dX4_counting_176 : decode cX4_counting 176 = .ok (.iinc 4 1, 3) := dk_132 4 1 (dk_at dksX4_counting_7 13 rfl rfl)
theorem dX4_counting_179 : decode cX4_counting 179 = .ok (.goto (-104), 3) := dk_167 255 152 (dk_at dksX4_counting_7 16 rfl rfl)
theorem dX4_counting_182 : decode cX4_counting 182 = .ok (.iinc 3 (-1), 3) := dk_132 3 255 (dk_at dksX4_counting_7 19 rfl rfl)
theorem dX4_counting_185 : decode cX4_counting 185 = .ok (.goto (-117), 3) := dk_167 255 139 (dk_at dksX4_counting_8 0 rfl rfl)
theorem dX4_counting_188 : decode cX4_counting 188 = .ok (.ldc_w 421, 3) := dk_19 1 165 (dk_at dksX4_counting_8 3 rfl rfl)
theorem dX4_counting_191 : decode cX4_counting 191 = .ok (.istore_n 3, 1) := dk_62 (dk_at dksX4_counting_8 6 rfl rfl)
theorem dX4_counting_192 : decode cX4_counting 192 = .ok (.iconst 0, 1) := dk_3 (dk_at dksX4_counting_8 7 rfl rfl)
theorem dX4_counting_193 : decode cX4_counting 193 = .ok (.istore 4, 2) := dk_54 4 (dk_at dksX4_counting_8 8 rfl rfl)
theorem dX4_counting_195 : decode cX4_counting 195 = .ok (.iload 4, 2) := dk_21 4 (dk_at dksX4_counting_8 10 rfl rfl)
theorem dX4_counting_197 : decode cX4_counting 197 = .ok (.iload_n 1, 1) := dk_27 (dk_at dksX4_counting_8 12 rfl rfl)
theorem dX4_counting_198 : decode cX4_counting 198 = .ok (.if_icmp .ge 29, 3) := dk_162 0 29 (dk_at dksX4_counting_8 13 rfl rfl)
theorem dX4_counting_201 : decode cX4_counting 201 = .ok (.iload_n 3, 1) := dk_29 (dk_at dksX4_counting_8 16 rfl rfl)
theorem dX4_counting_202 : decode cX4_counting 202 = .ok (.aload_n 0, 1) := dk_42 (dk_at dksX4_counting_8 17 rfl rfl)
theorem dX4_counting_203 : decode cX4_counting 203 = .ok (.getfield 90, 3) := dk_180 0 90 (dk_at dksX4_counting_8 18 rfl rfl)
theorem dX4_counting_206 : decode cX4_counting 206 = .ok (.bipush 9, 2) := dk_16 9 (dk_at dksX4_counting_8 21 rfl rfl)
theorem dX4_counting_208 : decode cX4_counting 208 = .ok (.iconst 1, 1) := dk_4 (dk_at dksX4_counting_8 23 rfl rfl)
theorem dX4_counting_209 : decode cX4_counting 209 = .ok (.iload 4, 2) := dk_21 4 (dk_at dksX4_counting_9 0 rfl rfl)
theorem dX4_counting_211 : decode cX4_counting 211 = .ok (.ishl, 1) := dk_120 (dk_at dksX4_counting_9 2 rfl rfl)
theorem dX4_counting_212 : decode cX4_counting 212 = .ok (.imul, 1) := dk_104 (dk_at dksX4_counting_9 3 rfl rfl)
theorem dX4_counting_213 : decode cX4_counting 213 = .ok (.iload 4, 2) := dk_21 4 (dk_at dksX4_counting_9 4 rfl rfl)
theorem dX4_counting_215 : decode cX4_counting 215 = .ok (.iadd, 1) := dk_96 (dk_at dksX4_counting_9 6 rfl rfl)
theorem dX4_counting_216 : decode cX4_counting 216 = .ok (.iaload, 1) := dk_46 (dk_at dksX4_counting_9 7 rfl rfl)
theorem dX4_counting_217 : decode cX4_counting 217 = .ok (.invokestatic 340, 3) := dk_184 1 84 (dk_at dksX4_counting_9 8 rfl rfl)
theorem dX4_counting_220 : decode cX4_counting 220 = .ok (.istore_n 3, 1) := dk_62 (dk_at dksX4_counting_9 11 rfl rfl)
theorem dX4_counting_221 : decode cX4_counting 221 = .ok (.iinc 4 1, 3) := dk_132 4 1 (dk_at dksX4_counting_9 12 rfl rfl)
theorem dX4_counting_224 : decode cX4_counting 224 = .ok (.goto (-29), 3) := dk_167 255 227 (dk_at dksX4_counting_9 15 rfl rfl)
theorem dX4_counting_227 : decode cX4_counting 227 = .ok (.iload_n 3, 1) := dk_29 (dk_at dksX4_counting_9 18 rfl rfl)
theorem dX4_counting_228 : decode cX4_counting 228 = .ok (.ireturn, 1) := dk_172 (dk_at dksX4_counting_9 19 rfl rfl)
abbrev mX4_counting : xM := (yX4_counting, cX4_counting, 7, (some .int), [])
def m_counting_47 (k9 : Int32 → Int32 → MS → Option (Int32 × MS)) (x1 : Int32) (x2 : Int32) (S : MS) : Option (Int32 × MS) :=
  k9 x1 ((x2 + 1)) S
theorem m_counting_47_ok {G : xG} {m0 : Nat} {S0 : MS} {k9 : Int32 → Int32 → MS → Option (Int32 × MS)} (hk9 : ∀ (x1 : Int32) (x2 : Int32) (S : MS) (q : (Int32 × MS)), k9 x1 x2 S = some q → XM G m0 mX4_counting 2 S0 (some (.int q.1)) q.2 9 [(0, .ref m0), (1, .int x1), (2, .int x2)] [] S) (x1 : Int32) (x2 : Int32) (S : MS) (q : (Int32 × MS)) (hf : m_counting_47 k9 x1 x2 S = some q) : XM G m0 mX4_counting 2 S0 (some (.int q.1)) q.2 47 [(0, .ref m0), (1, .int x1), (2, .int x2)] [] S := by
  intro h N Z
  unfold m_counting_47 at hf
  refine X.iinc (v := (x2 + 1)) (L' := [(2, .int (x2 + 1)), (0, .ref m0), (1, .int x1)]) dX4_counting_47 2 rfl rfl (Nat.le_of_ble_eq_true rfl) rfl ?_
  refine X.goto (tgt := 9) dX4_counting_50 (by decide) ?_
  refine X.sub [1, 2, 0] (L' := [(0, .ref m0), (1, .int x1), (2, .int (x2 + 1))]) rfl ?_
  exact hk9 _ _ _ _ hf h N Z
def m_counting_156 (k68 : Int32 → Int32 → Int32 → MS → Option (Int32 × MS)) (k75 : Int32 → Int32 → Int32 → Int32 → MS → Option (Int32 × MS)) (k98 : Int32 → Int32 → Int32 → Int32 → Int32 → Int32 → MS → Option (Int32 × MS)) (x1 : Int32) (x2 : Int32) (x3 : Int32) (x4 : Int32) (x5 : Int32) (x6 : Int32) (S : MS) : Option (Int32 × MS) :=
  k98 x1 x2 x3 x4 x5 ((x6 + 1)) S
theorem m_counting_156_ok {G : xG} {m0 : Nat} {S0 : MS} {k68 : Int32 → Int32 → Int32 → MS → Option (Int32 × MS)} {k75 : Int32 → Int32 → Int32 → Int32 → MS → Option (Int32 × MS)} {k98 : Int32 → Int32 → Int32 → Int32 → Int32 → Int32 → MS → Option (Int32 × MS)} (hk68 : ∀ (x1 : Int32) (x2 : Int32) (x3 : Int32) (S : MS) (q : (Int32 × MS)), k68 x1 x2 x3 S = some q → XM G m0 mX4_counting 2 S0 (some (.int q.1)) q.2 68 [(0, .ref m0), (1, .int x1), (2, .int x2), (3, .int x3)] [] S) (hk75 : ∀ (x1 : Int32) (x2 : Int32) (x3 : Int32) (x4 : Int32) (S : MS) (q : (Int32 × MS)), k75 x1 x2 x3 x4 S = some q → XM G m0 mX4_counting 2 S0 (some (.int q.1)) q.2 75 [(0, .ref m0), (1, .int x1), (2, .int x2), (3, .int x3), (4, .int x4)] [] S) (hk98 : ∀ (x1 : Int32) (x2 : Int32) (x3 : Int32) (x4 : Int32) (x5 : Int32) (x6 : Int32) (S : MS) (q : (Int32 × MS)), k98 x1 x2 x3 x4 x5 x6 S = some q → XM G m0 mX4_counting 2 S0 (some (.int q.1)) q.2 98 [(0, .ref m0), (1, .int x1), (2, .int x2), (3, .int x3), (4, .int x4), (5, .int x5), (6, .int x6)] [] S) (x1 : Int32) (x2 : Int32) (x3 : Int32) (x4 : Int32) (x5 : Int32) (x6 : Int32) (S : MS) (q : (Int32 × MS)) (hf : m_counting_156 k68 k75 k98 x1 x2 x3 x4 x5 x6 S = some q) : XM G m0 mX4_counting 2 S0 (some (.int q.1)) q.2 156 [(0, .ref m0), (1, .int x1), (2, .int x2), (3, .int x3), (4, .int x4), (5, .int x5), (6, .int x6)] [] S := by
  intro h N Z
  unfold m_counting_156 at hf
  refine X.iinc (v := (x6 + 1)) (L' := [(6, .int (x6 + 1)), (0, .ref m0), (1, .int x1), (2, .int x2), (3, .int x3), (4, .int x4), (5, .int x5)]) dX4_counting_156 6 rfl rfl (Nat.le_of_ble_eq_true rfl) rfl ?_
  refine X.goto (tgt := 98) dX4_counting_159 (by decide) ?_
  refine X.sub [1, 2, 3, 4, 5, 6, 0] (L' := [(0, .ref m0), (1, .int x1), (2, .int x2), (3, .int x3), (4, .int x4), (5, .int x5), (6, .int (x6 + 1))]) rfl ?_
  exact hk98 _ _ _ _ _ _ _ _ hf h N Z
def m_counting_98_b (k68 : Int32 → Int32 → Int32 → MS → Option (Int32 × MS)) (k75 : Int32 → Int32 → Int32 → Int32 → MS → Option (Int32 × MS)) (k98 : Int32 → Int32 → Int32 → Int32 → Int32 → Int32 → MS → Option (Int32 × MS)) (x1 : Int32) (x2 : Int32) (x3 : Int32) (x4 : Int32) (x5 : Int32) (x6 : Int32) (S : MS) : Option (Int32 × MS) :=
  if x1 ≤ x6 then
    (wrA S 20 (((9 : Int32) * x3) + x4) x5).bind fun S175 =>
    k75 x1 x2 x3 ((x4 + 1)) S175
  else
    if ((x3 >>> (x6 &&& 31)) &&& (1 : Int32)) = 0 then
      (rdA S 19 x4).bind fun v122 =>
      (rdA S 19 x6).bind fun v129 =>
      (m_far v122 v129 S).bind fun q130 =>
      (rdA S 20 (((9 : Int32) * (x3 ||| ((1 : Int32) <<< (x6 &&& 31)))) + x6)).bind fun v149 =>
      (m_lesser x5 ((q130 + v149))).bind fun q151 =>
      m_counting_156 k68 k75 k98 x1 x2 x3 x4 q151 x6 S
    else
      m_counting_156 k68 k75 k98 x1 x2 x3 x4 x5 x6 S
def m_counting_98 (k68 : Int32 → Int32 → Int32 → MS → Option (Int32 × MS)) (k75 : Int32 → Int32 → Int32 → Int32 → MS → Option (Int32 × MS)) : Nat → Int32 → Int32 → Int32 → Int32 → Int32 → Int32 → MS → Option (Int32 × MS)
  | 0 => fun _ _ _ _ _ _ _ => none
  | n + 1 => fun x1 x2 x3 x4 x5 x6 S => m_counting_98_b k68 k75 (m_counting_98 k68 k75 n) x1 x2 x3 x4 x5 x6 S
theorem m_counting_98_bok {G : xG} {m0 : Nat} {S0 : MS} {k68 : Int32 → Int32 → Int32 → MS → Option (Int32 × MS)} {k75 : Int32 → Int32 → Int32 → Int32 → MS → Option (Int32 × MS)} {k98 : Int32 → Int32 → Int32 → Int32 → Int32 → Int32 → MS → Option (Int32 × MS)} (hk68 : ∀ (x1 : Int32) (x2 : Int32) (x3 : Int32) (S : MS) (q : (Int32 × MS)), k68 x1 x2 x3 S = some q → XM G m0 mX4_counting 2 S0 (some (.int q.1)) q.2 68 [(0, .ref m0), (1, .int x1), (2, .int x2), (3, .int x3)] [] S) (hk75 : ∀ (x1 : Int32) (x2 : Int32) (x3 : Int32) (x4 : Int32) (S : MS) (q : (Int32 × MS)), k75 x1 x2 x3 x4 S = some q → XM G m0 mX4_counting 2 S0 (some (.int q.1)) q.2 75 [(0, .ref m0), (1, .int x1), (2, .int x2), (3, .int x3), (4, .int x4)] [] S) (hk98 : ∀ (x1 : Int32) (x2 : Int32) (x3 : Int32) (x4 : Int32) (x5 : Int32) (x6 : Int32) (S : MS) (q : (Int32 × MS)), k98 x1 x2 x3 x4 x5 x6 S = some q → XM G m0 mX4_counting 2 S0 (some (.int q.1)) q.2 98 [(0, .ref m0), (1, .int x1), (2, .int x2), (3, .int x3), (4, .int x4), (5, .int x5), (6, .int x6)] [] S) (x1 : Int32) (x2 : Int32) (x3 : Int32) (x4 : Int32) (x5 : Int32) (x6 : Int32) (S : MS) (q : (Int32 × MS)) (hf : m_counting_98_b k68 k75 k98 x1 x2 x3 x4 x5 x6 S = some q) : XM G m0 mX4_counting 2 S0 (some (.int q.1)) q.2 98 [(0, .ref m0), (1, .int x1), (2, .int x2), (3, .int x3), (4, .int x4), (5, .int x5), (6, .int x6)] [] S := by
  intro h N Z
  unfold m_counting_98_b at hf
  refine X.iload dX4_counting_98 6 rfl ?_
  refine X.iload_n dX4_counting_100 rfl 1 rfl ?_
  refine X.icmp_ge (tgt := 162) dX4_counting_101 (by decide) (fun c101 => ?_) (fun c101 => ?_)
  · have hf := if_t c101 hf
    refine X.aload_n dX4_counting_162 rfl 0 rfl ?_
    refine M.get (v := .ref (m0 + 20)) dX4_counting_163 fX4_90 (Nat.le_of_ble_eq_true rfl) rfl ?_
    refine X.bipush (v := 9) dX4_counting_166 (by decide) ?_
    refine X.iload_n dX4_counting_168 rfl 3 rfl ?_
    refine X.imul dX4_counting_169 ?_
    refine X.iload dX4_counting_170 4 rfl ?_
    refine X.iadd dX4_counting_172 ?_
    refine X.iload dX4_counting_173 5 rfl ?_
    obtain ⟨S175, h175, hf⟩ := ob hf
    refine M.iast dX4_counting_175 rfl h175 ?_
    refine X.iinc (v := (x4 + 1)) (L' := [(4, .int (x4 + 1)), (0, .ref m0), (1, .int x1), (2, .int x2), (3, .int x3), (5, .int x5), (6, .int x6)]) dX4_counting_176 4 rfl rfl (Nat.le_of_ble_eq_true rfl) rfl ?_
    refine X.goto (tgt := 75) dX4_counting_179 (by decide) ?_
    refine X.sub [1, 2, 3, 4, 0] (L' := [(0, .ref m0), (1, .int x1), (2, .int x2), (3, .int x3), (4, .int (x4 + 1))]) rfl ?_
    exact hk75 _ _ _ _ _ _ hf h N Z
  · have hf := if_f c101 hf
    refine X.iload_n dX4_counting_104 rfl 3 rfl ?_
    refine X.iload dX4_counting_105 6 rfl ?_
    refine X.ishr dX4_counting_107 ?_
    refine X.iconst (v := 1) dX4_counting_108 (by decide) ?_
    refine X.iand dX4_counting_109 ?_
    refine X.if_ne (tgt := 156) dX4_counting_110 (by decide) (fun c110 => ?_) (fun c110 => ?_)
    · have hf := if_f c110 hf
      refine X.sub [0, 1, 2, 3, 4, 5, 6] (L' := [(0, .ref m0), (1, .int x1), (2, .int x2), (3, .int x3), (4, .int x4), (5, .int x5), (6, .int x6)]) rfl ?_
      exact m_counting_156_ok hk68 hk75 hk98 _ _ _ _ _ _ _ _ hf h N Z
    · have hf := if_t c110 hf
      refine X.iload dX4_counting_113 5 rfl ?_
      refine X.aload_n dX4_counting_115 rfl 0 rfl ?_
      refine X.aload_n dX4_counting_116 rfl 0 rfl ?_
      refine M.get (v := .ref (m0 + 19)) dX4_counting_117 fX4_87 (Nat.le_of_ble_eq_true rfl) rfl ?_
      refine X.iload dX4_counting_120 4 rfl ?_
      obtain ⟨v122, h122, hf⟩ := ob hf
      refine M.iald dX4_counting_122 rfl h122 ?_
      refine X.aload_n dX4_counting_123 rfl 0 rfl ?_
      refine M.get (v := .ref (m0 + 19)) dX4_counting_124 fX4_87 (Nat.le_of_ble_eq_true rfl) rfl ?_
      refine X.iload dX4_counting_127 6 rfl ?_
      obtain ⟨v129, h129, hf⟩ := ob hf
      refine M.iald dX4_counting_129 rfl h129 ?_
      obtain ⟨q130, h130, hf⟩ := ob hf
      refine X.callVi (As := [.int v122, .int v129]) (rest := [.int x5]) dX4_counting_130 (w_far h130 h N Z) cX4_324 rfl rfl (Nat.le_of_ble_eq_true rfl) mh_0 rfl rfl (xD (Nat.le_of_ble_eq_true rfl)) xleN xleN ?_
      refine X.aload_n dX4_counting_133 rfl 0 rfl ?_
      refine M.get (v := .ref (m0 + 20)) dX4_counting_134 fX4_90 (Nat.le_of_ble_eq_true rfl) rfl ?_
      refine X.bipush (v := 9) dX4_counting_137 (by decide) ?_
      refine X.iload_n dX4_counting_139 rfl 3 rfl ?_
      refine X.iconst (v := 1) dX4_counting_140 (by decide) ?_
      refine X.iload dX4_counting_141 6 rfl ?_
      refine X.ishl dX4_counting_143 ?_
      refine X.ior dX4_counting_144 ?_
      refine X.imul dX4_counting_145 ?_
      refine X.iload dX4_counting_146 6 rfl ?_
      refine X.iadd dX4_counting_148 ?_
      obtain ⟨v149, h149, hf⟩ := ob hf
      refine M.iald dX4_counting_149 rfl h149 ?_
      refine X.iadd dX4_counting_150 ?_
      obtain ⟨q151, h151, hf⟩ := ob hf
      refine X.callSi (As := [.int x5, .int (q130 + v149)]) (rest := []) dX4_counting_151 (w_lesser h151 _) cX4_340 rfl rfl (Nat.le_of_ble_eq_true rfl) (xD (Nat.le_of_ble_eq_true rfl)) xle.rf xleN ?_
      refine X.istore (L' := [(5, .int q151), (0, .ref m0), (1, .int x1), (2, .int x2), (3, .int x3), (4, .int x4), (6, .int x6)]) dX4_counting_154 (Nat.le_of_ble_eq_true rfl) rfl ?_
      refine X.sub [1, 2, 3, 4, 5, 0, 6] (L' := [(0, .ref m0), (1, .int x1), (2, .int x2), (3, .int x3), (4, .int x4), (5, .int q151), (6, .int x6)]) rfl ?_
      exact m_counting_156_ok hk68 hk75 hk98 _ _ _ _ _ _ _ _ hf h N Z
theorem m_counting_98_ok {G : xG} {m0 : Nat} {S0 : MS} {k68 : Int32 → Int32 → Int32 → MS → Option (Int32 × MS)} {k75 : Int32 → Int32 → Int32 → Int32 → MS → Option (Int32 × MS)} (hk68 : ∀ (x1 : Int32) (x2 : Int32) (x3 : Int32) (S : MS) (q : (Int32 × MS)), k68 x1 x2 x3 S = some q → XM G m0 mX4_counting 2 S0 (some (.int q.1)) q.2 68 [(0, .ref m0), (1, .int x1), (2, .int x2), (3, .int x3)] [] S) (hk75 : ∀ (x1 : Int32) (x2 : Int32) (x3 : Int32) (x4 : Int32) (S : MS) (q : (Int32 × MS)), k75 x1 x2 x3 x4 S = some q → XM G m0 mX4_counting 2 S0 (some (.int q.1)) q.2 75 [(0, .ref m0), (1, .int x1), (2, .int x2), (3, .int x3), (4, .int x4)] [] S) : ∀ (n : Nat) (x1 : Int32) (x2 : Int32) (x3 : Int32) (x4 : Int32) (x5 : Int32) (x6 : Int32) (S : MS) (q : (Int32 × MS)), m_counting_98 k68 k75 n x1 x2 x3 x4 x5 x6 S = some q → XM G m0 mX4_counting 2 S0 (some (.int q.1)) q.2 98 [(0, .ref m0), (1, .int x1), (2, .int x2), (3, .int x3), (4, .int x4), (5, .int x5), (6, .int x6)] [] S
  | 0, _, _, _, _, _, _, _, _, hf => by cases hf
  | n + 1, x1, x2, x3, x4, x5, x6, S, q, hf => m_counting_98_bok hk68 hk75 (m_counting_98_ok hk68 hk75 n) x1 x2 x3 x4 x5 x6 S q hf
def m_counting_93 (k68 : Int32 → Int32 → Int32 → MS → Option (Int32 × MS)) (k75 : Int32 → Int32 → Int32 → Int32 → MS → Option (Int32 × MS)) (x1 : Int32) (x2 : Int32) (x3 : Int32) (x4 : Int32) (y0 : Int32) (S : MS) : Option (Int32 × MS) :=
  m_counting_98 k68 k75 FU x1 x2 x3 x4 y0 ((0 : Int32)) S
theorem m_counting_93_ok {G : xG} {m0 : Nat} {S0 : MS} {k68 : Int32 → Int32 → Int32 → MS → Option (Int32 × MS)} {k75 : Int32 → Int32 → Int32 → Int32 → MS → Option (Int32 × MS)} (hk68 : ∀ (x1 : Int32) (x2 : Int32) (x3 : Int32) (S : MS) (q : (Int32 × MS)), k68 x1 x2 x3 S = some q → XM G m0 mX4_counting 2 S0 (some (.int q.1)) q.2 68 [(0, .ref m0), (1, .int x1), (2, .int x2), (3, .int x3)] [] S) (hk75 : ∀ (x1 : Int32) (x2 : Int32) (x3 : Int32) (x4 : Int32) (S : MS) (q : (Int32 × MS)), k75 x1 x2 x3 x4 S = some q → XM G m0 mX4_counting 2 S0 (some (.int q.1)) q.2 75 [(0, .ref m0), (1, .int x1), (2, .int x2), (3, .int x3), (4, .int x4)] [] S) (x1 : Int32) (x2 : Int32) (x3 : Int32) (x4 : Int32) (y0 : Int32) (S : MS) (q : (Int32 × MS)) (hf : m_counting_93 k68 k75 x1 x2 x3 x4 y0 S = some q) : XM G m0 mX4_counting 2 S0 (some (.int q.1)) q.2 93 [(0, .ref m0), (1, .int x1), (2, .int x2), (3, .int x3), (4, .int x4)] [.int y0] S := by
  intro h N Z
  unfold m_counting_93 at hf
  refine X.istore (L' := [(5, .int y0), (0, .ref m0), (1, .int x1), (2, .int x2), (3, .int x3), (4, .int x4)]) dX4_counting_93 (Nat.le_of_ble_eq_true rfl) rfl ?_
  refine X.iconst (v := 0) dX4_counting_95 (by decide) ?_
  refine X.istore (L' := [(6, .int (0 : Int32)), (5, .int y0), (0, .ref m0), (1, .int x1), (2, .int x2), (3, .int x3), (4, .int x4)]) dX4_counting_96 (Nat.le_of_ble_eq_true rfl) rfl ?_
  refine X.sub [2, 3, 4, 5, 6, 1, 0] (L' := [(0, .ref m0), (1, .int x1), (2, .int x2), (3, .int x3), (4, .int x4), (5, .int y0), (6, .int (0 : Int32))]) rfl ?_
  exact m_counting_98_ok hk68 hk75 FU _ _ _ _ _ _ _ _ hf h N Z
def m_counting_75_b (k68 : Int32 → Int32 → Int32 → MS → Option (Int32 × MS)) (k75 : Int32 → Int32 → Int32 → Int32 → MS → Option (Int32 × MS)) (x1 : Int32) (x2 : Int32) (x3 : Int32) (x4 : Int32) (S : MS) : Option (Int32 × MS) :=
  if x1 ≤ x4 then
    k68 x1 x2 ((x3 + (-1))) S
  else
    if x3 = x2 then
      m_counting_93 k68 k75 x1 x2 x3 x4 ((0 : Int32)) S
    else
      m_counting_93 k68 k75 x1 x2 x3 x4 ((99999 : Int32)) S
def m_counting_75 (k68 : Int32 → Int32 → Int32 → MS → Option (Int32 × MS)) : Nat → Int32 → Int32 → Int32 → Int32 → MS → Option (Int32 × MS)
  | 0 => fun _ _ _ _ _ => none
  | n + 1 => fun x1 x2 x3 x4 S => m_counting_75_b k68 (m_counting_75 k68 n) x1 x2 x3 x4 S
theorem m_counting_75_bok {G : xG} {m0 : Nat} {S0 : MS} {k68 : Int32 → Int32 → Int32 → MS → Option (Int32 × MS)} {k75 : Int32 → Int32 → Int32 → Int32 → MS → Option (Int32 × MS)} (hk68 : ∀ (x1 : Int32) (x2 : Int32) (x3 : Int32) (S : MS) (q : (Int32 × MS)), k68 x1 x2 x3 S = some q → XM G m0 mX4_counting 2 S0 (some (.int q.1)) q.2 68 [(0, .ref m0), (1, .int x1), (2, .int x2), (3, .int x3)] [] S) (hk75 : ∀ (x1 : Int32) (x2 : Int32) (x3 : Int32) (x4 : Int32) (S : MS) (q : (Int32 × MS)), k75 x1 x2 x3 x4 S = some q → XM G m0 mX4_counting 2 S0 (some (.int q.1)) q.2 75 [(0, .ref m0), (1, .int x1), (2, .int x2), (3, .int x3), (4, .int x4)] [] S) (x1 : Int32) (x2 : Int32) (x3 : Int32) (x4 : Int32) (S : MS) (q : (Int32 × MS)) (hf : m_counting_75_b k68 k75 x1 x2 x3 x4 S = some q) : XM G m0 mX4_counting 2 S0 (some (.int q.1)) q.2 75 [(0, .ref m0), (1, .int x1), (2, .int x2), (3, .int x3), (4, .int x4)] [] S := by
  intro h N Z
  unfold m_counting_75_b at hf
  refine X.iload dX4_counting_75 4 rfl ?_
  refine X.iload_n dX4_counting_77 rfl 1 rfl ?_
  refine X.icmp_ge (tgt := 182) dX4_counting_78 (by decide) (fun c78 => ?_) (fun c78 => ?_)
  · have hf := if_t c78 hf
    refine X.iinc (v := (x3 + (-1))) (L' := [(3, .int (x3 + (-1))), (0, .ref m0), (1, .int x1), (2, .int x2), (4, .int x4)]) dX4_counting_182 3 rfl rfl (Nat.le_of_ble_eq_true rfl) rfl ?_
    refine X.goto (tgt := 68) dX4_counting_185 (by decide) ?_
    refine X.sub [1, 2, 3, 0] (L' := [(0, .ref m0), (1, .int x1), (2, .int x2), (3, .int (x3 + (-1)))]) rfl ?_
    exact hk68 _ _ _ _ _ hf h N Z
  · have hf := if_f c78 hf
    refine X.iload_n dX4_counting_81 rfl 3 rfl ?_
    refine X.iload_n dX4_counting_82 rfl 2 rfl ?_
    refine X.icmp_ne (tgt := 90) dX4_counting_83 (by decide) (fun c83 => ?_) (fun c83 => ?_)
    · have hf := if_f c83 hf
      refine X.ldcwI (v := 99999) dX4_counting_90 q2108 ?_
      refine X.sub [0, 1, 2, 3, 4] (L' := [(0, .ref m0), (1, .int x1), (2, .int x2), (3, .int x3), (4, .int x4)]) rfl ?_
      exact m_counting_93_ok hk68 hk75 _ _ _ _ _ _ _ hf h N Z
    · have hf := if_t c83 hf
      refine X.iconst (v := 0) dX4_counting_86 (by decide) ?_
      refine X.goto (tgt := 93) dX4_counting_87 (by decide) ?_
      refine X.sub [0, 1, 2, 3, 4] (L' := [(0, .ref m0), (1, .int x1), (2, .int x2), (3, .int x3), (4, .int x4)]) rfl ?_
      exact m_counting_93_ok hk68 hk75 _ _ _ _ _ _ _ hf h N Z
theorem m_counting_75_ok {G : xG} {m0 : Nat} {S0 : MS} {k68 : Int32 → Int32 → Int32 → MS → Option (Int32 × MS)} (hk68 : ∀ (x1 : Int32) (x2 : Int32) (x3 : Int32) (S : MS) (q : (Int32 × MS)), k68 x1 x2 x3 S = some q → XM G m0 mX4_counting 2 S0 (some (.int q.1)) q.2 68 [(0, .ref m0), (1, .int x1), (2, .int x2), (3, .int x3)] [] S) : ∀ (n : Nat) (x1 : Int32) (x2 : Int32) (x3 : Int32) (x4 : Int32) (S : MS) (q : (Int32 × MS)), m_counting_75 k68 n x1 x2 x3 x4 S = some q → XM G m0 mX4_counting 2 S0 (some (.int q.1)) q.2 75 [(0, .ref m0), (1, .int x1), (2, .int x2), (3, .int x3), (4, .int x4)] [] S
  | 0, _, _, _, _, _, _, hf => by cases hf
  | n + 1, x1, x2, x3, x4, S, q, hf => m_counting_75_bok hk68 (m_counting_75_ok hk68 n) x1 x2 x3 x4 S q hf
def m_counting_195_b  (k195 : Int32 → Int32 → Int32 → MS → Option (Int32 × MS)) (x1 : Int32) (x3 : Int32) (x4 : Int32) (S : MS) : Option (Int32 × MS) :=
  if x1 ≤ x4 then
    some (x3, S)
  else
    (rdA S 20 (((9 : Int32) * ((1 : Int32) <<< (x4 &&& 31))) + x4)).bind fun v216 =>
    (m_lesser x3 v216).bind fun q217 =>
    k195 x1 q217 ((x4 + 1)) S
def m_counting_195  : Nat → Int32 → Int32 → Int32 → MS → Option (Int32 × MS)
  | 0 => fun _ _ _ _ => none
  | n + 1 => fun x1 x3 x4 S => m_counting_195_b (m_counting_195 n) x1 x3 x4 S
theorem m_counting_195_bok {G : xG} {m0 : Nat} {S0 : MS}  {k195 : Int32 → Int32 → Int32 → MS → Option (Int32 × MS)}  (hk195 : ∀ (x1 : Int32) (x3 : Int32) (x4 : Int32) (S : MS) (q : (Int32 × MS)), k195 x1 x3 x4 S = some q → XM G m0 mX4_counting 2 S0 (some (.int q.1)) q.2 195 [(0, .ref m0), (1, .int x1), (3, .int x3), (4, .int x4)] [] S) (x1 : Int32) (x3 : Int32) (x4 : Int32) (S : MS) (q : (Int32 × MS)) (hf : m_counting_195_b k195 x1 x3 x4 S = some q) : XM G m0 mX4_counting 2 S0 (some (.int q.1)) q.2 195 [(0, .ref m0), (1, .int x1), (3, .int x3), (4, .int x4)] [] S := by
  intro h N Z
  unfold m_counting_195_b at hf
  refine X.iload dX4_counting_195 3 rfl ?_
  refine X.iload_n dX4_counting_197 rfl 1 rfl ?_
  refine X.icmp_ge (tgt := 227) dX4_counting_198 (by decide) (fun c198 => ?_) (fun c198 => ?_)
  · have hf := if_t c198 hf
    refine X.iload_n dX4_counting_227 rfl 2 rfl ?_
    obtain rfl := Option.some.inj hf
    exact X.iret dX4_counting_228 rfl rfl rfl
  · have hf := if_f c198 hf
    refine X.iload_n dX4_counting_201 rfl 2 rfl ?_
    refine X.aload_n dX4_counting_202 rfl 0 rfl ?_
    refine M.get (v := .ref (m0 + 20)) dX4_counting_203 fX4_90 (Nat.le_of_ble_eq_true rfl) rfl ?_
    refine X.bipush (v := 9) dX4_counting_206 (by decide) ?_
    refine X.iconst (v := 1) dX4_counting_208 (by decide) ?_
    refine X.iload dX4_counting_209 3 rfl ?_
    refine X.ishl dX4_counting_211 ?_
    refine X.imul dX4_counting_212 ?_
    refine X.iload dX4_counting_213 3 rfl ?_
    refine X.iadd dX4_counting_215 ?_
    obtain ⟨v216, h216, hf⟩ := ob hf
    refine M.iald dX4_counting_216 rfl h216 ?_
    obtain ⟨q217, h217, hf⟩ := ob hf
    refine X.callSi (As := [.int x3, .int v216]) (rest := []) dX4_counting_217 (w_lesser h217 _) cX4_340 rfl rfl (Nat.le_of_ble_eq_true rfl) (xD (Nat.le_of_ble_eq_true rfl)) xle.rf xleN ?_
    refine X.istore_n (L' := [(3, .int q217), (0, .ref m0), (1, .int x1), (4, .int x4)]) dX4_counting_220 rfl (Nat.le_of_ble_eq_true rfl) rfl ?_
    refine X.iinc (v := (x4 + 1)) (L' := [(4, .int (x4 + 1)), (3, .int q217), (0, .ref m0), (1, .int x1)]) dX4_counting_221 3 rfl rfl (Nat.le_of_ble_eq_true rfl) rfl ?_
    refine X.goto (tgt := 195) dX4_counting_224 (by decide) ?_
    refine X.sub [2, 3, 1, 0] (L' := [(0, .ref m0), (1, .int x1), (3, .int q217), (4, .int (x4 + 1))]) rfl ?_
    exact hk195 _ _ _ _ _ hf h N Z
theorem m_counting_195_ok {G : xG} {m0 : Nat} {S0 : MS}   : ∀ (n : Nat) (x1 : Int32) (x3 : Int32) (x4 : Int32) (S : MS) (q : (Int32 × MS)), m_counting_195 n x1 x3 x4 S = some q → XM G m0 mX4_counting 2 S0 (some (.int q.1)) q.2 195 [(0, .ref m0), (1, .int x1), (3, .int x3), (4, .int x4)] [] S
  | 0, _, _, _, _, _, hf => by cases hf
  | n + 1, x1, x3, x4, S, q, hf => m_counting_195_bok (m_counting_195_ok n) x1 x3 x4 S q hf
def m_counting_68_b  (k68 : Int32 → Int32 → Int32 → MS → Option (Int32 × MS)) (x1 : Int32) (x2 : Int32) (x3 : Int32) (S : MS) : Option (Int32 × MS) :=
  if x3 ≤ 0 then
    m_counting_195 FU x1 ((99999 : Int32)) ((0 : Int32)) S
  else
    m_counting_75 k68 FU x1 x2 x3 ((0 : Int32)) S
def m_counting_68  : Nat → Int32 → Int32 → Int32 → MS → Option (Int32 × MS)
  | 0 => fun _ _ _ _ => none
  | n + 1 => fun x1 x2 x3 S => m_counting_68_b (m_counting_68 n) x1 x2 x3 S
theorem m_counting_68_bok {G : xG} {m0 : Nat} {S0 : MS}  {k68 : Int32 → Int32 → Int32 → MS → Option (Int32 × MS)}  (hk68 : ∀ (x1 : Int32) (x2 : Int32) (x3 : Int32) (S : MS) (q : (Int32 × MS)), k68 x1 x2 x3 S = some q → XM G m0 mX4_counting 2 S0 (some (.int q.1)) q.2 68 [(0, .ref m0), (1, .int x1), (2, .int x2), (3, .int x3)] [] S) (x1 : Int32) (x2 : Int32) (x3 : Int32) (S : MS) (q : (Int32 × MS)) (hf : m_counting_68_b k68 x1 x2 x3 S = some q) : XM G m0 mX4_counting 2 S0 (some (.int q.1)) q.2 68 [(0, .ref m0), (1, .int x1), (2, .int x2), (3, .int x3)] [] S := by
  intro h N Z
  unfold m_counting_68_b at hf
  refine X.iload_n dX4_counting_68 rfl 3 rfl ?_
  refine X.if_le (tgt := 188) dX4_counting_69 (by decide) (fun c69 => ?_) (fun c69 => ?_)
  · have hf := if_t c69 hf
    refine X.ldcwI (v := 99999) dX4_counting_188 q2108 ?_
    refine X.istore_n (L' := [(3, .int (99999 : Int32)), (0, .ref m0), (1, .int x1), (2, .int x2)]) dX4_counting_191 rfl (Nat.le_of_ble_eq_true rfl) rfl ?_
    refine X.iconst (v := 0) dX4_counting_192 (by decide) ?_
    refine X.istore (L' := [(4, .int (0 : Int32)), (3, .int (99999 : Int32)), (0, .ref m0), (1, .int x1), (2, .int x2)]) dX4_counting_193 (Nat.le_of_ble_eq_true rfl) rfl ?_
    refine X.sub [2, 3, 1, 0] (L' := [(0, .ref m0), (1, .int x1), (3, .int (99999 : Int32)), (4, .int (0 : Int32))]) rfl ?_
    exact m_counting_195_ok FU _ _ _ _ _ hf h N Z
  · have hf := if_f c69 hf
    refine X.iconst (v := 0) dX4_counting_72 (by decide) ?_
    refine X.istore (L' := [(4, .int (0 : Int32)), (0, .ref m0), (1, .int x1), (2, .int x2), (3, .int x3)]) dX4_counting_73 (Nat.le_of_ble_eq_true rfl) rfl ?_
    refine X.sub [1, 2, 3, 4, 0] (L' := [(0, .ref m0), (1, .int x1), (2, .int x2), (3, .int x3), (4, .int (0 : Int32))]) rfl ?_
    exact m_counting_75_ok hk68 FU _ _ _ _ _ _ hf h N Z
theorem m_counting_68_ok {G : xG} {m0 : Nat} {S0 : MS}   : ∀ (n : Nat) (x1 : Int32) (x2 : Int32) (x3 : Int32) (S : MS) (q : (Int32 × MS)), m_counting_68 n x1 x2 x3 S = some q → XM G m0 mX4_counting 2 S0 (some (.int q.1)) q.2 68 [(0, .ref m0), (1, .int x1), (2, .int x2), (3, .int x3)] [] S
  | 0, _, _, _, _, _, hf => by cases hf
  | n + 1, x1, x2, x3, S, q, hf => m_counting_68_bok (m_counting_68_ok n) x1 x2 x3 S q hf
def m_counting_9_b  (k9 : Int32 → Int32 → MS → Option (Int32 × MS)) (x1 : Int32) (x2 : Int32) (S : MS) : Option (Int32 × MS) :=
  (m_cells S).bind fun q11 =>
  if q11 ≤ x2 then
    if (2 : Int32) ≤ x1 then
      m_counting_68 FU x1 ((((1 : Int32) <<< (x1 &&& 31)) - (1 : Int32))) ((((1 : Int32) <<< (x1 &&& 31)) - (1 : Int32))) S
    else
      some ((0 : Int32), S)
  else
    (m_doesVote ((0 : Int32)) x2 S).bind fun q20 =>
    if q20 = 0 then
      m_counting_47 k9 x1 x2 S
    else
      if x1 = (9 : Int32) then
        some ((-1 : Int32), S)
      else
        (wrA S 19 x1 x2).bind fun S43 =>
        m_counting_47 k9 ((x1 + 1)) x2 S43
def m_counting_9  : Nat → Int32 → Int32 → MS → Option (Int32 × MS)
  | 0 => fun _ _ _ => none
  | n + 1 => fun x1 x2 S => m_counting_9_b (m_counting_9 n) x1 x2 S
theorem m_counting_9_bok {G : xG} {m0 : Nat} {S0 : MS}  {k9 : Int32 → Int32 → MS → Option (Int32 × MS)}  (hk9 : ∀ (x1 : Int32) (x2 : Int32) (S : MS) (q : (Int32 × MS)), k9 x1 x2 S = some q → XM G m0 mX4_counting 2 S0 (some (.int q.1)) q.2 9 [(0, .ref m0), (1, .int x1), (2, .int x2)] [] S) (x1 : Int32) (x2 : Int32) (S : MS) (q : (Int32 × MS)) (hf : m_counting_9_b k9 x1 x2 S = some q) : XM G m0 mX4_counting 2 S0 (some (.int q.1)) q.2 9 [(0, .ref m0), (1, .int x1), (2, .int x2)] [] S := by
  intro h N Z
  unfold m_counting_9_b at hf
  refine X.iload_n dX4_counting_9 rfl 2 rfl ?_
  refine X.aload_n dX4_counting_10 rfl 0 rfl ?_
  obtain ⟨q11, h11, hf⟩ := ob hf
  refine X.callVi (As := []) (rest := [.int x2]) dX4_counting_11 (w_cells h11 h N Z) cX4_321 rfl rfl (Nat.le_of_ble_eq_true rfl) mh_0 rfl rfl (xD (Nat.le_of_ble_eq_true rfl)) xleN xleN ?_
  refine X.icmp_ge (tgt := 53) dX4_counting_14 (by decide) (fun c14 => ?_) (fun c14 => ?_)
  · have hf := if_t c14 hf
    refine X.iload_n dX4_counting_53 rfl 1 rfl ?_
    refine X.iconst (v := 2) dX4_counting_54 (by decide) ?_
    refine X.icmp_ge (tgt := 60) dX4_counting_55 (by decide) (fun c55 => ?_) (fun c55 => ?_)
    · have hf := if_t c55 hf
      refine X.iconst (v := 1) dX4_counting_60 (by decide) ?_
      refine X.iload_n dX4_counting_61 rfl 1 rfl ?_
      refine X.ishl dX4_counting_62 ?_
      refine X.iconst (v := 1) dX4_counting_63 (by decide) ?_
      refine X.isub dX4_counting_64 ?_
      refine X.istore_n (L' := [(2, .int (((1 : Int32) <<< (x1 &&& 31)) - (1 : Int32))), (0, .ref m0), (1, .int x1)]) dX4_counting_65 rfl (Nat.le_of_ble_eq_true rfl) rfl ?_
      refine X.iload_n dX4_counting_66 rfl 0 rfl ?_
      refine X.istore_n (L' := [(3, .int (((1 : Int32) <<< (x1 &&& 31)) - (1 : Int32))), (2, .int (((1 : Int32) <<< (x1 &&& 31)) - (1 : Int32))), (0, .ref m0), (1, .int x1)]) dX4_counting_67 rfl (Nat.le_of_ble_eq_true rfl) rfl ?_
      refine X.sub [2, 3, 1, 0] (L' := [(0, .ref m0), (1, .int x1), (2, .int (((1 : Int32) <<< (x1 &&& 31)) - (1 : Int32))), (3, .int (((1 : Int32) <<< (x1 &&& 31)) - (1 : Int32)))]) rfl ?_
      exact m_counting_68_ok FU _ _ _ _ _ hf h N Z
    · have hf := if_f c55 hf
      refine X.iconst (v := 0) dX4_counting_58 (by decide) ?_
      obtain rfl := Option.some.inj hf
      exact X.iret dX4_counting_59 rfl rfl rfl
  · have hf := if_f c14 hf
    refine X.aload_n dX4_counting_17 rfl 0 rfl ?_
    refine X.iconst (v := 0) dX4_counting_18 (by decide) ?_
    refine X.iload_n dX4_counting_19 rfl 2 rfl ?_
    obtain ⟨q20, h20, hf⟩ := ob hf
    refine X.callVi (As := [.int (0 : Int32), .int x2]) (rest := []) dX4_counting_20 (w_doesVote h20 h N Z) cX4_366 rfl rfl (Nat.le_of_ble_eq_true rfl) mh_0 rfl rfl (xD (Nat.le_of_ble_eq_true rfl)) xleN xleN ?_
    refine X.if_ne (tgt := 29) dX4_counting_23 (by decide) (fun c23 => ?_) (fun c23 => ?_)
    · have hf := if_f c23 hf
      refine X.iload_n dX4_counting_29 rfl 1 rfl ?_
      refine X.bipush (v := 9) dX4_counting_30 (by decide) ?_
      refine X.icmp_ne (tgt := 37) dX4_counting_32 (by decide) (fun c32 => ?_) (fun c32 => ?_)
      · have hf := if_f c32 hf
        refine X.aload_n dX4_counting_37 rfl 0 rfl ?_
        refine M.get (v := .ref (m0 + 19)) dX4_counting_38 fX4_87 (Nat.le_of_ble_eq_true rfl) rfl ?_
        refine X.iload_n dX4_counting_41 rfl 1 rfl ?_
        refine X.iload_n dX4_counting_42 rfl 2 rfl ?_
        obtain ⟨S43, h43, hf⟩ := ob hf
        refine M.iast dX4_counting_43 rfl h43 ?_
        refine X.iinc (v := (x1 + 1)) (L' := [(1, .int (x1 + 1)), (0, .ref m0), (2, .int x2)]) dX4_counting_44 1 rfl rfl (Nat.le_of_ble_eq_true rfl) rfl ?_
        refine X.sub [1, 0, 2] (L' := [(0, .ref m0), (1, .int (x1 + 1)), (2, .int x2)]) rfl ?_
        exact m_counting_47_ok hk9 _ _ _ _ hf h N Z
      · have hf := if_t c32 hf
        refine X.iconst (v := -1) dX4_counting_35 (by decide) ?_
        obtain rfl := Option.some.inj hf
        exact X.iret dX4_counting_36 rfl rfl rfl
    · have hf := if_t c23 hf
      refine X.goto (tgt := 47) dX4_counting_26 (by decide) ?_
      refine X.sub [0, 1, 2] (L' := [(0, .ref m0), (1, .int x1), (2, .int x2)]) rfl ?_
      exact m_counting_47_ok hk9 _ _ _ _ hf h N Z
theorem m_counting_9_ok {G : xG} {m0 : Nat} {S0 : MS}   : ∀ (n : Nat) (x1 : Int32) (x2 : Int32) (S : MS) (q : (Int32 × MS)), m_counting_9 n x1 x2 S = some q → XM G m0 mX4_counting 2 S0 (some (.int q.1)) q.2 9 [(0, .ref m0), (1, .int x1), (2, .int x2)] [] S
  | 0, _, _, _, _, hf => by cases hf
  | n + 1, x1, x2, S, q, hf => m_counting_9_bok (m_counting_9_ok n) x1 x2 S q hf
def m_counting  (S : MS) : Option (Int32 × MS) :=
  m_counting_9 FU ((0 : Int32)) ((0 : Int32)) ((sF S 0 (0 : Int32)))
theorem w_counting {G : xG} {m0 : Nat}  {S : MS} {q : (Int32 × MS)} (hf : m_counting S = some q) : CtM G m0 mX4_counting 2 S [.ref m0] (some (.int q.1)) q.2 := by
  intro h N Z
  refine Ct.of (by decide +kernel) rfl (Nat.le_of_ble_eq_true rfl) (show Xr G _ 0 [(0, .ref m0)] [] _ from ?_)
  unfold m_counting at hf
  refine X.aload_n dX4_counting_0 rfl 0 rfl ?_
  refine X.iconst (v := 0) dX4_counting_1 (by decide) ?_
  refine M.putI dX4_counting_2 fX4_115 (by decide) rfl rfl rfl ?_
  refine X.iconst (v := 0) dX4_counting_5 (by decide) ?_
  refine X.istore_n (L' := [(1, .int (0 : Int32)), (0, .ref m0)]) dX4_counting_6 rfl (Nat.le_of_ble_eq_true rfl) rfl ?_
  refine X.iconst (v := 0) dX4_counting_7 (by decide) ?_
  refine X.istore_n (L' := [(2, .int (0 : Int32)), (1, .int (0 : Int32)), (0, .ref m0)]) dX4_counting_8 rfl (Nat.le_of_ble_eq_true rfl) rfl ?_
  refine X.sub [2, 1, 0] (L' := [(0, .ref m0), (1, .int (0 : Int32)), (2, .int (0 : Int32))]) rfl ?_
  exact m_counting_9_ok FU _ _ _ _ hf h N Z
/-! votesOfSet -/
abbrev cX4_votesOfSet : ByteArray := prog_12_method_94_code
def yX4_votesOfSet : MethodName := ⟨RX4, "votesOfSet", "(I)I"⟩
def dkwX4_votesOfSet_1 : List UInt8 := [182, 1, 114, 167, 0, 4, 3, 96, 61, 132, 3, 1, 167, 255, 226, 28, 172]
abbrev dktX4_votesOfSet_1 : List UInt8 := dkwX4_votesOfSet_1 ++ []
def dkwX4_votesOfSet_0 : List UInt8 := [3, 61, 3, 62, 29, 7, 162, 0, 31, 28, 27, 29, 122, 4, 126, 4, 160, 0, 12, 42, 3, 29]
abbrev dktX4_votesOfSet_0 : List UInt8 := dkwX4_votesOfSet_0 ++ dktX4_votesOfSet_1
theorem dksX4_votesOfSet_0 : cX4_votesOfSet.data.toList.drop 0 = dktX4_votesOfSet_0 := by decide +kernel
theorem dksX4_votesOfSet_1 : cX4_votesOfSet.data.toList.drop 22 = dktX4_votesOfSet_1 := dk_seg dksX4_votesOfSet_0 22 rfl rfl
theorem dX4_votesOfSet_0 : decode cX4_votesOfSet 0 = .ok (.iconst 0, 1) := dk_3 (dk_at dksX4_votesOfSet_0 0 rfl rfl)
theorem dX4_votesOfSet_1 : decode cX4_votesOfSet 1 = .ok (.istore_n 2, 1) := dk_61 (dk_at dksX4_votesOfSet_0 1 rfl rfl)
theorem dX4_votesOfSet_2 : decode cX4_votesOfSet 2 = .ok (.iconst 0, 1) := dk_3 (dk_at dksX4_votesOfSet_0 2 rfl rfl)
theorem dX4_votesOfSet_3 : decode cX4_votesOfSet 3 = .ok (.istore_n 3, 1) := dk_62 (dk_at dksX4_votesOfSet_0 3 rfl rfl)
theorem dX4_votesOfSet_4 : decode cX4_votesOfSet 4 = .ok (.iload_n 3, 1) := dk_29 (dk_at dksX4_votesOfSet_0 4 rfl rfl)
theorem dX4_votesOfSet_5 : decode cX4_votesOfSet 5 = .ok (.iconst 4, 1) := dk_7 (dk_at dksX4_votesOfSet_0 5 rfl rfl)
theorem dX4_votesOfSet_6 : decode cX4_votesOfSet 6 = .ok (.if_icmp .ge 31, 3) := dk_162 0 31 (dk_at dksX4_votesOfSet_0 6 rfl rfl)
theorem dX4_votesOfSet_9 : decode cX4_votesOfSet 9 = .ok (.iload_n 2, 1) := dk_28 (dk_at dksX4_votesOfSet_0 9 rfl rfl)
theorem dX4_votesOfSet_10 : decode cX4_votesOfSet 10 = .ok (.iload_n 1, 1) := dk_27 (dk_at dksX4_votesOfSet_0 10 rfl rfl)
theorem dX4_votesOfSet_11 : decode cX4_votesOfSet 11 = .ok (.iload_n 3, 1) := dk_29 (dk_at dksX4_votesOfSet_0 11 rfl rfl)
theorem dX4_votesOfSet_12 : decode cX4_votesOfSet 12 = .ok (.ishr, 1) := dk_122 (dk_at dksX4_votesOfSet_0 12 rfl rfl)
theorem dX4_votesOfSet_13 : decode cX4_votesOfSet 13 = .ok (.iconst 1, 1) := dk_4 (dk_at dksX4_votesOfSet_0 13 rfl rfl)
theorem dX4_votesOfSet_14 : decode cX4_votesOfSet 14 = .ok (.iand, 1) := dk_126 (dk_at dksX4_votesOfSet_0 14 rfl rfl)
theorem dX4_votesOfSet_15 : decode cX4_votesOfSet 15 = .ok (.iconst 1, 1) := dk_4 (dk_at dksX4_votesOfSet_0 15 rfl rfl)
theorem dX4_votesOfSet_16 : decode cX4_votesOfSet 16 = .ok (.if_icmp .ne 12, 3) := dk_160 0 12 (dk_at dksX4_votesOfSet_0 16 rfl rfl)
theorem dX4_votesOfSet_19 : decode cX4_votesOfSet 19 = .ok (.aload_n 0, 1) := dk_42 (dk_at dksX4_votesOfSet_0 19 rfl rfl)
theorem dX4_votesOfSet_20 : decode cX4_votesOfSet 20 = .ok (.iconst 0, 1) := dk_3 (dk_at dksX4_votesOfSet_0 20 rfl rfl)
theorem dX4_votesOfSet_21 : decode cX4_votesOfSet 21 = .ok (.iload_n 3, 1) := dk_29 (dk_at dksX4_votesOfSet_0 21 rfl rfl)
theorem dX4_votesOfSet_22 : decode cX4_votesOfSet 22 = .ok (.invokevirtual 370, 3) := dk_182 1 114 (dk_at dksX4_votesOfSet_1 0 rfl rfl)
theorem dX4_votesOfSet_25 : decode cX4_votesOfSet 25 = .ok (.goto 4, 3) := dk_167 0 4 (dk_at dksX4_votesOfSet_1 3 rfl rfl)
theorem dX4_votesOfSet_28 : decode cX4_votesOfSet 28 = .ok (.iconst 0, 1) := dk_3 (dk_at dksX4_votesOfSet_1 6 rfl rfl)
theorem dX4_votesOfSet_29 : decode cX4_votesOfSet 29 = .ok (.iadd, 1) := dk_96 (dk_at dksX4_votesOfSet_1 7 rfl rfl)
theorem dX4_votesOfSet_30 : decode cX4_votesOfSet 30 = .ok (.istore_n 2, 1) := dk_61 (dk_at dksX4_votesOfSet_1 8 rfl rfl)
theorem dX4_votesOfSet_31 : decode cX4_votesOfSet 31 = .ok (.iinc 3 1, 3) := dk_132 3 1 (dk_at dksX4_votesOfSet_1 9 rfl rfl)
theorem dX4_votesOfSet_34 : decode cX4_votesOfSet 34 = .ok (.goto (-30), 3) := dk_167 255 226 (dk_at dksX4_votesOfSet_1 12 rfl rfl)
theorem dX4_votesOfSet_37 : decode cX4_votesOfSet 37 = .ok (.iload_n 2, 1) := dk_28 (dk_at dksX4_votesOfSet_1 15 rfl rfl)
theorem dX4_votesOfSet_38 : decode cX4_votesOfSet 38 = .ok (.ireturn, 1) := dk_172 (dk_at dksX4_votesOfSet_1 16 rfl rfl)
abbrev mX4_votesOfSet : xM := (yX4_votesOfSet, cX4_votesOfSet, 4, (some .int), [])
def m_votesOfSet_29 (k4 : Int32 → Int32 → Int32 → MS → Option Int32) (x1 : Int32) (x3 : Int32) (y0 : Int32) (y1 : Int32) (S : MS) : Option Int32 :=
  k4 x1 ((y1 + y0)) ((x3 + 1)) S
theorem m_votesOfSet_29_ok {G : xG} {m0 : Nat} {k4 : Int32 → Int32 → Int32 → MS → Option Int32} (hk4 : ∀ (x1 : Int32) (x2 : Int32) (x3 : Int32) (S : MS) (q : Int32), k4 x1 x2 x3 S = some q → XM G m0 mX4_votesOfSet 3 S (some (.int q)) S 4 [(0, .ref m0), (1, .int x1), (2, .int x2), (3, .int x3)] [] S) (x1 : Int32) (x3 : Int32) (y0 : Int32) (y1 : Int32) (S : MS) (q : Int32) (hf : m_votesOfSet_29 k4 x1 x3 y0 y1 S = some q) : XM G m0 mX4_votesOfSet 3 S (some (.int q)) S 29 [(0, .ref m0), (1, .int x1), (3, .int x3)] [.int y0, .int y1] S := by
  intro h N Z
  unfold m_votesOfSet_29 at hf
  refine X.iadd dX4_votesOfSet_29 ?_
  refine X.istore_n (L' := [(2, .int (y1 + y0)), (0, .ref m0), (1, .int x1), (3, .int x3)]) dX4_votesOfSet_30 rfl (Nat.le_of_ble_eq_true rfl) rfl ?_
  refine X.iinc (v := (x3 + 1)) (L' := [(3, .int (x3 + 1)), (2, .int (y1 + y0)), (0, .ref m0), (1, .int x1)]) dX4_votesOfSet_31 3 rfl rfl (Nat.le_of_ble_eq_true rfl) rfl ?_
  refine X.goto (tgt := 4) dX4_votesOfSet_34 (by decide) ?_
  refine X.sub [2, 3, 1, 0] (L' := [(0, .ref m0), (1, .int x1), (2, .int (y1 + y0)), (3, .int (x3 + 1))]) rfl ?_
  exact hk4 _ _ _ _ _ hf h N Z
def m_votesOfSet_4_b  (k4 : Int32 → Int32 → Int32 → MS → Option Int32) (x1 : Int32) (x2 : Int32) (x3 : Int32) (S : MS) : Option Int32 :=
  if (4 : Int32) ≤ x3 then
    some x2
  else
    if ((x1 >>> (x3 &&& 31)) &&& (1 : Int32)) = (1 : Int32) then
      (m_votesOf ((0 : Int32)) x3 S).bind fun q22 =>
      m_votesOfSet_29 k4 x1 x3 q22 x2 S
    else
      m_votesOfSet_29 k4 x1 x3 ((0 : Int32)) x2 S
def m_votesOfSet_4  : Nat → Int32 → Int32 → Int32 → MS → Option Int32
  | 0 => fun _ _ _ _ => none
  | n + 1 => fun x1 x2 x3 S => m_votesOfSet_4_b (m_votesOfSet_4 n) x1 x2 x3 S
theorem m_votesOfSet_4_bok {G : xG} {m0 : Nat}  {k4 : Int32 → Int32 → Int32 → MS → Option Int32}  (hk4 : ∀ (x1 : Int32) (x2 : Int32) (x3 : Int32) (S : MS) (q : Int32), k4 x1 x2 x3 S = some q → XM G m0 mX4_votesOfSet 3 S (some (.int q)) S 4 [(0, .ref m0), (1, .int x1), (2, .int x2), (3, .int x3)] [] S) (x1 : Int32) (x2 : Int32) (x3 : Int32) (S : MS) (q : Int32) (hf : m_votesOfSet_4_b k4 x1 x2 x3 S = some q) : XM G m0 mX4_votesOfSet 3 S (some (.int q)) S 4 [(0, .ref m0), (1, .int x1), (2, .int x2), (3, .int x3)] [] S := by
  intro h N Z
  unfold m_votesOfSet_4_b at hf
  refine X.iload_n dX4_votesOfSet_4 rfl 3 rfl ?_
  refine X.iconst (v := 4) dX4_votesOfSet_5 (by decide) ?_
  refine X.icmp_ge (tgt := 37) dX4_votesOfSet_6 (by decide) (fun c6 => ?_) (fun c6 => ?_)
  · have hf := if_t c6 hf
    refine X.iload_n dX4_votesOfSet_37 rfl 2 rfl ?_
    obtain rfl := Option.some.inj hf
    exact X.iret dX4_votesOfSet_38 rfl rfl rfl
  · have hf := if_f c6 hf
    refine X.iload_n dX4_votesOfSet_9 rfl 2 rfl ?_
    refine X.iload_n dX4_votesOfSet_10 rfl 1 rfl ?_
    refine X.iload_n dX4_votesOfSet_11 rfl 3 rfl ?_
    refine X.ishr dX4_votesOfSet_12 ?_
    refine X.iconst (v := 1) dX4_votesOfSet_13 (by decide) ?_
    refine X.iand dX4_votesOfSet_14 ?_
    refine X.iconst (v := 1) dX4_votesOfSet_15 (by decide) ?_
    refine X.icmp_ne (tgt := 28) dX4_votesOfSet_16 (by decide) (fun c16 => ?_) (fun c16 => ?_)
    · have hf := if_f c16 hf
      refine X.iconst (v := 0) dX4_votesOfSet_28 (by decide) ?_
      refine X.sub [0, 1, 3] (L' := [(0, .ref m0), (1, .int x1), (3, .int x3)]) rfl ?_
      exact m_votesOfSet_29_ok hk4 _ _ _ _ _ _ hf h N Z
    · have hf := if_t c16 hf
      refine X.aload_n dX4_votesOfSet_19 rfl 0 rfl ?_
      refine X.iconst (v := 0) dX4_votesOfSet_20 (by decide) ?_
      refine X.iload_n dX4_votesOfSet_21 rfl 3 rfl ?_
      obtain ⟨q22, h22, hf⟩ := ob hf
      refine X.callVi (As := [.int (0 : Int32), .int x3]) (rest := [.int x2]) dX4_votesOfSet_22 (w_votesOf h22 h N Z) cX4_370 rfl rfl (Nat.le_of_ble_eq_true rfl) mh_0 rfl rfl (xD (Nat.le_of_ble_eq_true rfl)) xleN xleN ?_
      refine X.goto (tgt := 29) dX4_votesOfSet_25 (by decide) ?_
      refine X.sub [0, 1, 3] (L' := [(0, .ref m0), (1, .int x1), (3, .int x3)]) rfl ?_
      exact m_votesOfSet_29_ok hk4 _ _ _ _ _ _ hf h N Z
theorem m_votesOfSet_4_ok {G : xG} {m0 : Nat}   : ∀ (n : Nat) (x1 : Int32) (x2 : Int32) (x3 : Int32) (S : MS) (q : Int32), m_votesOfSet_4 n x1 x2 x3 S = some q → XM G m0 mX4_votesOfSet 3 S (some (.int q)) S 4 [(0, .ref m0), (1, .int x1), (2, .int x2), (3, .int x3)] [] S
  | 0, _, _, _, _, _, hf => by cases hf
  | n + 1, x1, x2, x3, S, q, hf => m_votesOfSet_4_bok (m_votesOfSet_4_ok n) x1 x2 x3 S q hf
def m_votesOfSet (x1 : Int32) (S : MS) : Option Int32 :=
  m_votesOfSet_4 FU x1 ((0 : Int32)) ((0 : Int32)) S
theorem w_votesOfSet {G : xG} {m0 : Nat} {x1 : Int32} {S : MS} {q : Int32} (hf : m_votesOfSet x1 S = some q) : CtM G m0 mX4_votesOfSet 3 S [.ref m0, .int x1] (some (.int q)) S := by
  intro h N Z
  refine Ct.of (by decide +kernel) rfl (Nat.le_of_ble_eq_true rfl) (show Xr G _ 0 [(0, .ref m0), (1, .int x1)] [] _ from ?_)
  unfold m_votesOfSet at hf
  refine X.iconst (v := 0) dX4_votesOfSet_0 (by decide) ?_
  refine X.istore_n (L' := [(2, .int (0 : Int32)), (0, .ref m0), (1, .int x1)]) dX4_votesOfSet_1 rfl (Nat.le_of_ble_eq_true rfl) rfl ?_
  refine X.iconst (v := 0) dX4_votesOfSet_2 (by decide) ?_
  refine X.istore_n (L' := [(3, .int (0 : Int32)), (2, .int (0 : Int32)), (0, .ref m0), (1, .int x1)]) dX4_votesOfSet_3 rfl (Nat.le_of_ble_eq_true rfl) rfl ?_
  refine X.sub [2, 3, 1, 0] (L' := [(0, .ref m0), (1, .int x1), (2, .int (0 : Int32)), (3, .int (0 : Int32))]) rfl ?_
  exact m_votesOfSet_4_ok FU _ _ _ _ _ hf h N Z
theorem cX4_422 : xCV RX4 422 mX4_votesOfSet 1 := ⟨lw_V q2117 q2119 qs111 q127 q2120, rfl, ⟨by decide +kernel, by decide +kernel, by decide +kernel⟩, Nat.le_of_ble_eq_true rfl⟩
/-! doesCarry -/
abbrev cX4_doesCarry : ByteArray := prog_12_method_95_code
def yX4_doesCarry : MethodName := ⟨RX4, "doesCarry", "(I)Z"⟩
def dkwX4_doesCarry_0 : List UInt8 := [5, 42, 27, 182, 1, 166, 104, 42, 3, 182, 1, 123, 164, 0, 7, 4, 167, 0, 4, 3, 172]
abbrev dktX4_doesCarry_0 : List UInt8 := dkwX4_doesCarry_0 ++ []
theorem dksX4_doesCarry_0 : cX4_doesCarry.data.toList.drop 0 = dktX4_doesCarry_0 := by decide +kernel
theorem dX4_doesCarry_0 : decode cX4_doesCarry 0 = .ok (.iconst 2, 1) := dk_5 (dk_at dksX4_doesCarry_0 0 rfl rfl)
theorem dX4_doesCarry_1 : decode cX4_doesCarry 1 = .ok (.aload_n 0, 1) := dk_42 (dk_at dksX4_doesCarry_0 1 rfl rfl)
theorem dX4_doesCarry_2 : decode cX4_doesCarry 2 = .ok (.iload_n 1, 1) := dk_27 (dk_at dksX4_doesCarry_0 2 rfl rfl)
theorem dX4_doesCarry_3 : decode cX4_doesCarry 3 = .ok (.invokevirtual 422, 3) := dk_182 1 166 (dk_at dksX4_doesCarry_0 3 rfl rfl)
theorem dX4_doesCarry_6 : decode cX4_doesCarry 6 = .ok (.imul, 1) := dk_104 (dk_at dksX4_doesCarry_0 6 rfl rfl)
theorem dX4_doesCarry_7 : decode cX4_doesCarry 7 = .ok (.aload_n 0, 1) := dk_42 (dk_at dksX4_doesCarry_0 7 rfl rfl)
theorem dX4_doesCarry_8 : decode cX4_doesCarry 8 = .ok (.iconst 0, 1) := dk_3 (dk_at dksX4_doesCarry_0 8 rfl rfl)
theorem dX4_doesCarry_9 : decode cX4_doesCarry 9 = .ok (.invokevirtual 379, 3) := dk_182 1 123 (dk_at dksX4_doesCarry_0 9 rfl rfl)
theorem dX4_doesCarry_12 : decode cX4_doesCarry 12 = .ok (.if_icmp .le 7, 3) := dk_164 0 7 (dk_at dksX4_doesCarry_0 12 rfl rfl)
theorem dX4_doesCarry_15 : decode cX4_doesCarry 15 = .ok (.iconst 1, 1) := dk_4 (dk_at dksX4_doesCarry_0 15 rfl rfl)
theorem dX4_doesCarry_16 : decode cX4_doesCarry 16 = .ok (.goto 4, 3) := dk_167 0 4 (dk_at dksX4_doesCarry_0 16 rfl rfl)
theorem dX4_doesCarry_19 : decode cX4_doesCarry 19 = .ok (.iconst 0, 1) := dk_3 (dk_at dksX4_doesCarry_0 19 rfl rfl)
theorem dX4_doesCarry_20 : decode cX4_doesCarry 20 = .ok (.ireturn, 1) := dk_172 (dk_at dksX4_doesCarry_0 20 rfl rfl)
abbrev mX4_doesCarry : xM := (yX4_doesCarry, cX4_doesCarry, 2, (some .boolean), [])
def m_doesCarry (x1 : Int32) (S : MS) : Option Int32 :=
  (m_votesOfSet x1 S).bind fun q3 =>
  (m_votesAll ((0 : Int32)) S).bind fun q9 =>
  if ((2 : Int32) * q3) ≤ q9 then
    some (0 : Int32)
  else
    some (1 : Int32)
theorem w_doesCarry {G : xG} {m0 : Nat} {x1 : Int32} {S : MS} {q : Int32} (hf : m_doesCarry x1 S = some q) : CtM G m0 mX4_doesCarry 4 S [.ref m0, .int x1] (some (.int q)) S := by
  intro h N Z
  refine Ct.of (by decide +kernel) rfl (Nat.le_of_ble_eq_true rfl) (show Xr G _ 0 [(0, .ref m0), (1, .int x1)] [] _ from ?_)
  unfold m_doesCarry at hf
  refine X.iconst (v := 2) dX4_doesCarry_0 (by decide) ?_
  refine X.aload_n dX4_doesCarry_1 rfl 0 rfl ?_
  refine X.iload_n dX4_doesCarry_2 rfl 1 rfl ?_
  obtain ⟨q3, h3, hf⟩ := ob hf
  refine X.callVi (As := [.int x1]) (rest := [.int (2 : Int32)]) dX4_doesCarry_3 (w_votesOfSet h3 h N Z) cX4_422 rfl rfl (Nat.le_of_ble_eq_true rfl) mh_0 rfl rfl (xD (Nat.le_of_ble_eq_true rfl)) xleN xleN ?_
  refine X.imul dX4_doesCarry_6 ?_
  refine X.aload_n dX4_doesCarry_7 rfl 0 rfl ?_
  refine X.iconst (v := 0) dX4_doesCarry_8 (by decide) ?_
  obtain ⟨q9, h9, hf⟩ := ob hf
  refine X.callVi (As := [.int (0 : Int32)]) (rest := [.int ((2 : Int32) * q3)]) dX4_doesCarry_9 (w_votesAll h9 h N Z) cX4_379 rfl rfl (Nat.le_of_ble_eq_true rfl) mh_0 rfl rfl (xD (Nat.le_of_ble_eq_true rfl)) xleN xleN ?_
  refine X.icmp_le (tgt := 19) dX4_doesCarry_12 (by decide) (fun c12 => ?_) (fun c12 => ?_)
  · have hf := if_t c12 hf
    refine X.iconst (v := 0) dX4_doesCarry_19 (by decide) ?_
    obtain rfl := Option.some.inj hf
    exact X.iret dX4_doesCarry_20 rfl rfl rfl
  · have hf := if_f c12 hf
    refine X.iconst (v := 1) dX4_doesCarry_15 (by decide) ?_
    refine X.goto (tgt := 20) dX4_doesCarry_16 (by decide) ?_
    obtain rfl := Option.some.inj hf
    exact X.iret dX4_doesCarry_20 rfl rfl rfl
theorem cX4_425 : xCV RX4 425 mX4_doesCarry 1 := ⟨lw_V q2113 q2115 qs110 q127 q2116, rfl, ⟨by decide +kernel, by decide +kernel, by decide +kernel⟩, Nat.le_of_ble_eq_true rfl⟩
/-! carry -/
abbrev cX4_carry : ByteArray := prog_12_method_96_code
def yX4_carry : MethodName := ⟨RX4, "carry", "()I"⟩
def dkwX4_carry_2 : List UInt8 := [172]
abbrev dktX4_carry_2 : List UInt8 := dkwX4_carry_2 ++ []
def dkwX4_carry_1 : List UInt8 := [2, 159, 0, 14, 28, 184, 1, 172, 27, 184, 1, 172, 162, 0, 5, 28, 60, 132, 2, 1, 167, 255, 221, 27]
abbrev dktX4_carry_1 : List UInt8 := dkwX4_carry_1 ++ dktX4_carry_2
def dkwX4_carry_0 : List UInt8 := [42, 3, 181, 0, 115, 2, 60, 3, 61, 28, 16, 16, 162, 0, 35, 42, 28, 182, 1, 169, 153, 0, 21, 27]
abbrev dktX4_carry_0 : List UInt8 := dkwX4_carry_0 ++ dktX4_carry_1
theorem dksX4_carry_0 : cX4_carry.data.toList.drop 0 = dktX4_carry_0 := by decide +kernel
theorem dksX4_carry_1 : cX4_carry.data.toList.drop 24 = dktX4_carry_1 := dk_seg dksX4_carry_0 24 rfl rfl
theorem dksX4_carry_2 : cX4_carry.data.toList.drop 48 = dktX4_carry_2 := dk_seg dksX4_carry_1 24 rfl rfl
theorem dX4_carry_0 : decode cX4_carry 0 = .ok (.aload_n 0, 1) := dk_42 (dk_at dksX4_carry_0 0 rfl rfl)
theorem dX4_carry_1 : decode cX4_carry 1 = .ok (.iconst 0, 1) := dk_3 (dk_at dksX4_carry_0 1 rfl rfl)
theorem dX4_carry_2 : decode cX4_carry 2 = .ok (.putfield 115, 3) := dk_181 0 115 (dk_at dksX4_carry_0 2 rfl rfl)
theorem dX4_carry_5 : decode cX4_carry 5 = .ok (.iconst (-1), 1) := dk_2 (dk_at dksX4_carry_0 5 rfl rfl)
theorem dX4_carry_6 : decode cX4_carry 6 = .ok (.istore_n 1, 1) := dk_60 (dk_at dksX4_carry_0 6 rfl rfl)
theorem dX4_carry_7 : decode cX4_carry 7 = .ok (.iconst 0, 1) := dk_3 (dk_at dksX4_carry_0 7 rfl rfl)
theorem dX4_carry_8 : decode cX4_carry 8 = .ok (.istore_n 2, 1) := dk_61 (dk_at dksX4_carry_0 8 rfl rfl)
theorem dX4_carry_9 : decode cX4_carry 9 = .ok (.iload_n 2, 1) := dk_28 (dk_at dksX4_carry_0 9 rfl rfl)
theorem dX4_carry_10 : decode cX4_carry 10 = .ok (.bipush 16, 2) := dk_16 16 (dk_at dksX4_carry_0 10 rfl rfl)
theorem dX4_carry_12 : decode cX4_carry 12 = .ok (.if_icmp .ge 35, 3) := dk_162 0 35 (dk_at dksX4_carry_0 12 rfl rfl)
theorem dX4_carry_15 : decode cX4_carry 15 = .ok (.aload_n 0, 1) := dk_42 (dk_at dksX4_carry_0 15 rfl rfl)
theorem dX4_carry_16 : decode cX4_carry 16 = .ok (.iload_n 2, 1) := dk_28 (dk_at dksX4_carry_0 16 rfl rfl)
theorem dX4_carry_17 : decode cX4_carry 17 = .ok (.invokevirtual 425, 3) := dk_182 1 169 (dk_at dksX4_carry_0 17 rfl rfl)
theorem dX4_carry_20 : decode cX4_carry 20 = .ok (.ifCond .eq 21, 3) := dk_153 0 21 (dk_at dksX4_carry_0 20 rfl rfl)
theorem dX4_carry_23 : decode cX4_carry 23 = .ok (.iload_n 1, 1) := dk_27 (dk_at dksX4_carry_0 23 rfl rfl)
theorem dX4_carry_24 : decode cX4_carry 24 = .ok (.iconst (-1), 1) := dk_2 (dk_at dksX4_carry_1 0 rfl rfl)
theorem dX4_carry_25 : decode cX4_carry 25 = .ok (.if_icmp .eq 14, 3) := dk_159 0 14 (dk_at dksX4_carry_1 1 rfl rfl)
theorem dX4_carry_28 : decode cX4_carry 28 = .ok (.iload_n 2, 1) := dk_28 (dk_at dksX4_carry_1 4 rfl rfl)
theorem dX4_carry_29 : decode cX4_carry 29 = .ok (.invokestatic 428, 3) := dk_184 1 172 (dk_at dksX4_carry_1 5 rfl rfl)
theorem dX4_carry_32 : decode cX4_carry 32 = .ok (.iload_n 1, 1) := dk_27 (dk_at dksX4_carry_1 8 rfl rfl)
theorem dX4_carry_33 : decode cX4_carry 33 = .ok (.invokestatic 428, 3) := dk_184 1 172 (dk_at dksX4_carry_1 9 rfl rfl)
theorem dX4_carry_36 : decode cX4_carry 36 = .ok (.if_icmp .ge 5, 3) := dk_162 0 5 (dk_at dksX4_carry_1 12 rfl rfl)
theorem dX4_carry_39 : decode cX4_carry 39 = .ok (.iload_n 2, 1) := dk_28 (dk_at dksX4_carry_1 15 rfl rfl)
theorem dX4_carry_40 : decode cX4_carry 40 = .ok (.istore_n 1, 1) := dk_60 (dk_at dksX4_carry_1 16 rfl rfl)
theorem dX4_carry_41 : decode cX4_carry 41 = .ok (.iinc 2 1, 3) := dk_132 2 1 (dk_at dksX4_carry_1 17 rfl rfl)
theorem dX4_carry_44 : decode cX4_carry 44 = .ok (.goto (-35), 3) := dk_167 255 221 (dk_at dksX4_carry_1 20 rfl rfl)
theorem dX4_carry_47 : decode cX4_carry 47 = .ok (.iload_n 1, 1) := dk_27 (dk_at dksX4_carry_1 23 rfl rfl)
theorem dX4_carry_48 : decode cX4_carry 48 = .ok (.ireturn, 1) := dk_172 (dk_at dksX4_carry_2 0 rfl rfl)
abbrev mX4_carry : xM := (yX4_carry, cX4_carry, 3, (some .int), [])
def m_carry_41 (k9 : Int32 → Int32 → MS → Option (Int32 × MS)) (x1 : Int32) (x2 : Int32) (S : MS) : Option (Int32 × MS) :=
  k9 x1 ((x2 + 1)) S
theorem m_carry_41_ok {G : xG} {m0 : Nat} {S0 : MS} {k9 : Int32 → Int32 → MS → Option (Int32 × MS)} (hk9 : ∀ (x1 : Int32) (x2 : Int32) (S : MS) (q : (Int32 × MS)), k9 x1 x2 S = some q → XM G m0 mX4_carry 5 S0 (some (.int q.1)) q.2 9 [(0, .ref m0), (1, .int x1), (2, .int x2)] [] S) (x1 : Int32) (x2 : Int32) (S : MS) (q : (Int32 × MS)) (hf : m_carry_41 k9 x1 x2 S = some q) : XM G m0 mX4_carry 5 S0 (some (.int q.1)) q.2 41 [(0, .ref m0), (1, .int x1), (2, .int x2)] [] S := by
  intro h N Z
  unfold m_carry_41 at hf
  refine X.iinc (v := (x2 + 1)) (L' := [(2, .int (x2 + 1)), (0, .ref m0), (1, .int x1)]) dX4_carry_41 2 rfl rfl (Nat.le_of_ble_eq_true rfl) rfl ?_
  refine X.goto (tgt := 9) dX4_carry_44 (by decide) ?_
  refine X.sub [1, 2, 0] (L' := [(0, .ref m0), (1, .int x1), (2, .int (x2 + 1))]) rfl ?_
  exact hk9 _ _ _ _ hf h N Z
def m_carry_39 (k9 : Int32 → Int32 → MS → Option (Int32 × MS)) (x2 : Int32) (S : MS) : Option (Int32 × MS) :=
  m_carry_41 k9 x2 x2 S
theorem m_carry_39_ok {G : xG} {m0 : Nat} {S0 : MS} {k9 : Int32 → Int32 → MS → Option (Int32 × MS)} (hk9 : ∀ (x1 : Int32) (x2 : Int32) (S : MS) (q : (Int32 × MS)), k9 x1 x2 S = some q → XM G m0 mX4_carry 5 S0 (some (.int q.1)) q.2 9 [(0, .ref m0), (1, .int x1), (2, .int x2)] [] S) (x2 : Int32) (S : MS) (q : (Int32 × MS)) (hf : m_carry_39 k9 x2 S = some q) : XM G m0 mX4_carry 5 S0 (some (.int q.1)) q.2 39 [(0, .ref m0), (2, .int x2)] [] S := by
  intro h N Z
  unfold m_carry_39 at hf
  refine X.iload_n dX4_carry_39 rfl 1 rfl ?_
  refine X.istore_n (L' := [(1, .int x2), (0, .ref m0), (2, .int x2)]) dX4_carry_40 rfl (Nat.le_of_ble_eq_true rfl) rfl ?_
  refine X.sub [1, 0, 2] (L' := [(0, .ref m0), (1, .int x2), (2, .int x2)]) rfl ?_
  exact m_carry_41_ok hk9 _ _ _ _ hf h N Z
def m_carry_9_b  (k9 : Int32 → Int32 → MS → Option (Int32 × MS)) (x1 : Int32) (x2 : Int32) (S : MS) : Option (Int32 × MS) :=
  if (16 : Int32) ≤ x2 then
    some (x1, S)
  else
    (m_doesCarry x2 S).bind fun q17 =>
    if q17 = 0 then
      m_carry_41 k9 x1 x2 S
    else
      if x1 = (-1 : Int32) then
        m_carry_39 k9 x2 S
      else
        (m_bits x2).bind fun q29 =>
        (m_bits x1).bind fun q33 =>
        if q33 ≤ q29 then
          m_carry_41 k9 x1 x2 S
        else
          m_carry_39 k9 x2 S
def m_carry_9  : Nat → Int32 → Int32 → MS → Option (Int32 × MS)
  | 0 => fun _ _ _ => none
  | n + 1 => fun x1 x2 S => m_carry_9_b (m_carry_9 n) x1 x2 S
theorem m_carry_9_bok {G : xG} {m0 : Nat} {S0 : MS}  {k9 : Int32 → Int32 → MS → Option (Int32 × MS)}  (hk9 : ∀ (x1 : Int32) (x2 : Int32) (S : MS) (q : (Int32 × MS)), k9 x1 x2 S = some q → XM G m0 mX4_carry 5 S0 (some (.int q.1)) q.2 9 [(0, .ref m0), (1, .int x1), (2, .int x2)] [] S) (x1 : Int32) (x2 : Int32) (S : MS) (q : (Int32 × MS)) (hf : m_carry_9_b k9 x1 x2 S = some q) : XM G m0 mX4_carry 5 S0 (some (.int q.1)) q.2 9 [(0, .ref m0), (1, .int x1), (2, .int x2)] [] S := by
  intro h N Z
  unfold m_carry_9_b at hf
  refine X.iload_n dX4_carry_9 rfl 2 rfl ?_
  refine X.bipush (v := 16) dX4_carry_10 (by decide) ?_
  refine X.icmp_ge (tgt := 47) dX4_carry_12 (by decide) (fun c12 => ?_) (fun c12 => ?_)
  · have hf := if_t c12 hf
    refine X.iload_n dX4_carry_47 rfl 1 rfl ?_
    obtain rfl := Option.some.inj hf
    exact X.iret dX4_carry_48 rfl rfl rfl
  · have hf := if_f c12 hf
    refine X.aload_n dX4_carry_15 rfl 0 rfl ?_
    refine X.iload_n dX4_carry_16 rfl 2 rfl ?_
    obtain ⟨q17, h17, hf⟩ := ob hf
    refine X.callVi (As := [.int x2]) (rest := []) dX4_carry_17 (w_doesCarry h17 h N Z) cX4_425 rfl rfl (Nat.le_of_ble_eq_true rfl) mh_0 rfl rfl (xD (Nat.le_of_ble_eq_true rfl)) xleN xleN ?_
    refine X.if_eq (tgt := 41) dX4_carry_20 (by decide) (fun c20 => ?_) (fun c20 => ?_)
    · have hf := if_t c20 hf
      refine X.sub [0, 1, 2] (L' := [(0, .ref m0), (1, .int x1), (2, .int x2)]) rfl ?_
      exact m_carry_41_ok hk9 _ _ _ _ hf h N Z
    · have hf := if_f c20 hf
      refine X.iload_n dX4_carry_23 rfl 1 rfl ?_
      refine X.iconst (v := -1) dX4_carry_24 (by decide) ?_
      refine X.icmp_eq (tgt := 39) dX4_carry_25 (by decide) (fun c25 => ?_) (fun c25 => ?_)
      · have hf := if_t c25 hf
        refine X.sub [0, 2] (L' := [(0, .ref m0), (2, .int x2)]) rfl ?_
        exact m_carry_39_ok hk9 _ _ _ hf h N Z
      · have hf := if_f c25 hf
        refine X.iload_n dX4_carry_28 rfl 2 rfl ?_
        obtain ⟨q29, h29, hf⟩ := ob hf
        refine X.callSi (As := [.int x2]) (rest := []) dX4_carry_29 (w_bits h29 _) cX4_428 rfl rfl (Nat.le_of_ble_eq_true rfl) (xD (Nat.le_of_ble_eq_true rfl)) xle.rf xleN ?_
        refine X.iload_n dX4_carry_32 rfl 1 rfl ?_
        obtain ⟨q33, h33, hf⟩ := ob hf
        refine X.callSi (As := [.int x1]) (rest := [.int q29]) dX4_carry_33 (w_bits h33 _) cX4_428 rfl rfl (Nat.le_of_ble_eq_true rfl) (xD (Nat.le_of_ble_eq_true rfl)) xle.rf xleN ?_
        refine X.icmp_ge (tgt := 41) dX4_carry_36 (by decide) (fun c36 => ?_) (fun c36 => ?_)
        · have hf := if_t c36 hf
          refine X.sub [0, 1, 2] (L' := [(0, .ref m0), (1, .int x1), (2, .int x2)]) rfl ?_
          exact m_carry_41_ok hk9 _ _ _ _ hf h N Z
        · have hf := if_f c36 hf
          refine X.sub [0, 2] (L' := [(0, .ref m0), (2, .int x2)]) rfl ?_
          exact m_carry_39_ok hk9 _ _ _ hf h N Z
theorem m_carry_9_ok {G : xG} {m0 : Nat} {S0 : MS}   : ∀ (n : Nat) (x1 : Int32) (x2 : Int32) (S : MS) (q : (Int32 × MS)), m_carry_9 n x1 x2 S = some q → XM G m0 mX4_carry 5 S0 (some (.int q.1)) q.2 9 [(0, .ref m0), (1, .int x1), (2, .int x2)] [] S
  | 0, _, _, _, _, hf => by cases hf
  | n + 1, x1, x2, S, q, hf => m_carry_9_bok (m_carry_9_ok n) x1 x2 S q hf
def m_carry  (S : MS) : Option (Int32 × MS) :=
  m_carry_9 FU ((-1 : Int32)) ((0 : Int32)) ((sF S 0 (0 : Int32)))
theorem w_carry {G : xG} {m0 : Nat}  {S : MS} {q : (Int32 × MS)} (hf : m_carry S = some q) : CtM G m0 mX4_carry 5 S [.ref m0] (some (.int q.1)) q.2 := by
  intro h N Z
  refine Ct.of (by decide +kernel) rfl (Nat.le_of_ble_eq_true rfl) (show Xr G _ 0 [(0, .ref m0)] [] _ from ?_)
  unfold m_carry at hf
  refine X.aload_n dX4_carry_0 rfl 0 rfl ?_
  refine X.iconst (v := 0) dX4_carry_1 (by decide) ?_
  refine M.putI dX4_carry_2 fX4_115 (by decide) rfl rfl rfl ?_
  refine X.iconst (v := -1) dX4_carry_5 (by decide) ?_
  refine X.istore_n (L' := [(1, .int (-1 : Int32)), (0, .ref m0)]) dX4_carry_6 rfl (Nat.le_of_ble_eq_true rfl) rfl ?_
  refine X.iconst (v := 0) dX4_carry_7 (by decide) ?_
  refine X.istore_n (L' := [(2, .int (0 : Int32)), (1, .int (-1 : Int32)), (0, .ref m0)]) dX4_carry_8 rfl (Nat.le_of_ble_eq_true rfl) rfl ?_
  refine X.sub [2, 1, 0] (L' := [(0, .ref m0), (1, .int (-1 : Int32)), (2, .int (0 : Int32))]) rfl ?_
  exact m_carry_9_ok FU _ _ _ _ hf h N Z
/-! decisive -/
abbrev cX4_decisive : ByteArray := prog_12_method_97_code
def yX4_decisive : MethodName := ⟨RX4, "decisive", "(I)I"⟩
def dkwX4_decisive_3 : List UInt8 := [28, 172]
abbrev dktX4_decisive_3 : List UInt8 := dkwX4_decisive_3 ++ []
def dkwX4_decisive_2 : List UInt8 := [27, 120, 2, 130, 126, 182, 1, 169, 154, 0, 7, 4, 167, 0, 4, 3, 96, 61, 132, 3, 1, 167, 255, 208]
abbrev dktX4_decisive_2 : List UInt8 := dkwX4_decisive_2 ++ dktX4_decisive_3
def dkwX4_decisive_1 : List UInt8 := [162, 0, 48, 28, 29, 27, 122, 4, 126, 4, 160, 0, 29, 42, 29, 182, 1, 169, 153, 0, 21, 42, 29, 4]
abbrev dktX4_decisive_1 : List UInt8 := dkwX4_decisive_1 ++ dktX4_decisive_2
def dkwX4_decisive_0 : List UInt8 := [42, 3, 181, 0, 115, 42, 27, 182, 1, 138, 154, 0, 5, 3, 172, 3, 61, 3, 62, 29, 16, 16]
abbrev dktX4_decisive_0 : List UInt8 := dkwX4_decisive_0 ++ dktX4_decisive_1
theorem dksX4_decisive_0 : cX4_decisive.data.toList.drop 0 = dktX4_decisive_0 := by decide +kernel
theorem dksX4_decisive_1 : cX4_decisive.data.toList.drop 22 = dktX4_decisive_1 := dk_seg dksX4_decisive_0 22 rfl rfl
theorem dksX4_decisive_2 : cX4_decisive.data.toList.drop 46 = dktX4_decisive_2 := dk_seg dksX4_decisive_1 24 rfl rfl
theorem dksX4_decisive_3 : cX4_decisive.data.toList.drop 70 = dktX4_decisive_3 := dk_seg dksX4_decisive_2 24 rfl rfl
theorem dX4_decisive_0 : decode cX4_decisive 0 = .ok (.aload_n 0, 1) := dk_42 (dk_at dksX4_decisive_0 0 rfl rfl)
theorem dX4_decisive_1 : decode cX4_decisive 1 = .ok (.iconst 0, 1) := dk_3 (dk_at dksX4_decisive_0 1 rfl rfl)
theorem dX4_decisive_2 : decode cX4_decisive 2 = .ok (.putfield 115, 3) := dk_181 0 115 (dk_at dksX4_decisive_0 2 rfl rfl)
theorem dX4_decisive_5 : decode cX4_decisive 5 = .ok (.aload_n 0, 1) := dk_42 (dk_at dksX4_decisive_0 5 rfl rfl)
theorem dX4_decisive_6 : decode cX4_decisive 6 = .ok (.iload_n 1, 1) := dk_27 (dk_at dksX4_decisive_0 6 rfl rfl)
theorem dX4_decisive_7 : decode cX4_decisive 7 = .ok (.invokevirtual 394, 3) := dk_182 1 138 (dk_at dksX4_decisive_0 7 rfl rfl)
theorem dX4_decisive_10 : decode cX4_decisive 10 = .ok (.ifCond .ne 5, 3) := dk_154 0 5 (dk_at dksX4_decisive_0 10 rfl rfl)
theorem dX4_decisive_13 : decode cX4_decisive 13 = .ok (.iconst 0, 1) := dk_3 (dk_at dksX4_decisive_0 13 rfl rfl)
theorem dX4_decisive_14 : decode cX4_decisive 14 = .ok (.ireturn, 1) := dk_172 (dk_at dksX4_decisive_0 14 rfl rfl)
theorem dX4_decisive_15 : decode cX4_decisive 15 = .ok (.iconst 0, 1) := dk_3 (dk_at dksX4_decisive_0 15 rfl rfl)
theorem dX4_decisive_16 : decode cX4_decisive 16 = .ok (.istore_n 2, 1) := dk_61 (dk_at dksX4_decisive_0 16 rfl rfl)
theorem dX4_decisive_17 : decode cX4_decisive 17 = .ok (.iconst 0, 1) := dk_3 (dk_at dksX4_decisive_0 17 rfl rfl)
theorem dX4_decisive_18 : decode cX4_decisive 18 = .ok (.istore_n 3, 1) := dk_62 (dk_at dksX4_decisive_0 18 rfl rfl)
theorem dX4_decisive_19 : decode cX4_decisive 19 = .ok (.iload_n 3, 1) := dk_29 (dk_at dksX4_decisive_0 19 rfl rfl)
theorem dX4_decisive_20 : decode cX4_decisive 20 = .ok (.bipush 16, 2) := dk_16 16 (dk_at dksX4_decisive_0 20 rfl rfl)
theorem dX4_decisive_22 : decode cX4_decisive 22 = .ok (.if_icmp .ge 48, 3) := dk_162 0 48 (dk_at dksX4_decisive_1 0 rfl rfl)
theorem dX4_decisive_25 : decode cX4_decisive 25 = .ok (.iload_n 2, 1) := dk_28 (dk_at dksX4_decisive_1 3 rfl rfl)
theorem dX4_decisive_26 : decode cX4_decisive 26 = .ok (.iload_n 3, 1) := dk_29 (dk_at dksX4_decisive_1 4 rfl rfl)
theorem dX4_decisive_27 : decode cX4_decisive 27 = .ok (.iload_n 1, 1) := dk_27 (dk_at dksX4_decisive_1 5 rfl rfl)
theorem dX4_decisive_28 : decode cX4_decisive 28 = .ok (.ishr, 1) := dk_122 (dk_at dksX4_decisive_1 6 rfl rfl)
theorem dX4_decisive_29 : decode cX4_decisive 29 = .ok (.iconst 1, 1) := dk_4 (dk_at dksX4_decisive_1 7 rfl rfl)
theorem dX4_decisive_30 : decode cX4_decisive 30 = .ok (.iand, 1) := dk_126 (dk_at dksX4_decisive_1 8 rfl rfl)
theorem dX4_decisive_31 : decode cX4_decisive 31 = .ok (.iconst 1, 1) := dk_4 (dk_at dksX4_decisive_1 9 rfl rfl)
theorem dX4_decisive_32 : decode cX4_decisive 32 = .ok (.if_icmp .ne 29, 3) := dk_160 0 29 (dk_at dksX4_decisive_1 10 rfl rfl)
theorem dX4_decisive_35 : decode cX4_decisive 35 = .ok (.aload_n 0, 1) := dk_42 (dk_at dksX4_decisive_1 13 rfl rfl)
theorem dX4_decisive_36 : decode cX4_decisive 36 = .ok (.iload_n 3, 1) := dk_29 (dk_at dksX4_decisive_1 14 rfl rfl)
theorem dX4_decisive_37 : decode cX4_decisive 37 = .ok (.invokevirtual 425, 3) := dk_182 1 169 (dk_at dksX4_decisive_1 15 rfl rfl)
theorem dX4_decisive_40 : decode cX4_decisive 40 = .ok (.ifCond .eq 21, 3) := dk_153 0 21 (dk_at dksX4_decisive_1 18 rfl rfl)
theorem dX4_decisive_43 : decode cX4_decisive 43 = .ok (.aload_n 0, 1) := dk_42 (dk_at dksX4_decisive_1 21 rfl rfl)
theorem dX4_decisive_44 : decode cX4_decisive 44 = .ok (.iload_n 3, 1) := dk_29 (dk_at dksX4_decisive_1 22 rfl rfl)
theorem dX4_decisive_45 : decode cX4_decisive 45 = .ok (.iconst 1, 1) := dk_4 (dk_at dksX4_decisive_1 23 rfl rfl)
theorem dX4_decisive_46 : decode cX4_decisive 46 = .ok (.iload_n 1, 1) := dk_27 (dk_at dksX4_decisive_2 0 rfl rfl)
theorem dX4_decisive_47 : decode cX4_decisive 47 = .ok (.ishl, 1) := dk_120 (dk_at dksX4_decisive_2 1 rfl rfl)
theorem dX4_decisive_48 : decode cX4_decisive 48 = .ok (.iconst (-1), 1) := dk_2 (dk_at dksX4_decisive_2 2 rfl rfl)
theorem dX4_decisive_49 : decode cX4_decisive 49 = .ok (.ixor, 1) := dk_130 (dk_at dksX4_decisive_2 3 rfl rfl)
theorem dX4_decisive_50 : decode cX4_decisive 50 = .ok (.iand, 1) := dk_126 (dk_at dksX4_decisive_2 4 rfl rfl)
theorem dX4_decisive_51 : decode cX4_decisive 51 = .ok (.invokevirtual 425, 3) := dk_182 1 169 (dk_at dksX4_decisive_2 5 rfl rfl)
theorem dX4_decisive_54 : decode cX4_decisive 54 = .ok (.ifCond .ne 7, 3) := dk_154 0 7 (dk_at dksX4_decisive_2 8 rfl rfl)
theorem dX4_decisive_57 : decode cX4_decisive 57 = .ok (.iconst 1, 1) := dk_4 (dk_at dksX4_decisive_2 11 rfl rfl)
theorem dX4_decisive_58 : decode cX4_decisive 58 = .ok (.goto 4, 3) := dk_167 0 4 (dk_at dksX4_decisive_2 12 rfl rfl)
theorem dX4_decisive_61 : decode cX4_decisive 61 = .ok (.iconst 0, 1) := dk_3 (dk_at dksX4_decisive_2 15 rfl rfl)
theorem dX4_decisive_62 : decode cX4_decisive 62 = .ok (.iadd, 1) := dk_96 (dk_at dksX4_decisive_2 16 rfl rfl)
theorem dX4_decisive_63 : decode cX4_decisive 63 = .ok (.istore_n 2, 1) := dk_61 (dk_at dksX4_decisive_2 17 rfl rfl)
theorem dX4_decisive_64 : decode cX4_decisive 64 = .ok (.iinc 3 1, 3) := dk_132 3 1 (dk_at dksX4_decisive_2 18 rfl rfl)
theorem dX4_decisive_67 : decode cX4_decisive 67 = .ok (.goto (-48), 3) := dk_167 255 208 (dk_at dksX4_decisive_2 21 rfl rfl)
theorem dX4_decisive_70 : decode cX4_decisive 70 = .ok (.iload_n 2, 1) := dk_28 (dk_at dksX4_decisive_3 0 rfl rfl)
theorem dX4_decisive_71 : decode cX4_decisive 71 = .ok (.ireturn, 1) := dk_172 (dk_at dksX4_decisive_3 1 rfl rfl)
abbrev mX4_decisive : xM := (yX4_decisive, cX4_decisive, 4, (some .int), [])
def m_decisive_62 (k19 : Int32 → Int32 → Int32 → MS → Option (Int32 × MS)) (x1 : Int32) (x3 : Int32) (y0 : Int32) (y1 : Int32) (S : MS) : Option (Int32 × MS) :=
  k19 x1 ((y1 + y0)) ((x3 + 1)) S
theorem m_decisive_62_ok {G : xG} {m0 : Nat} {S0 : MS} {k19 : Int32 → Int32 → Int32 → MS → Option (Int32 × MS)} (hk19 : ∀ (x1 : Int32) (x2 : Int32) (x3 : Int32) (S : MS) (q : (Int32 × MS)), k19 x1 x2 x3 S = some q → XM G m0 mX4_decisive 5 S0 (some (.int q.1)) q.2 19 [(0, .ref m0), (1, .int x1), (2, .int x2), (3, .int x3)] [] S) (x1 : Int32) (x3 : Int32) (y0 : Int32) (y1 : Int32) (S : MS) (q : (Int32 × MS)) (hf : m_decisive_62 k19 x1 x3 y0 y1 S = some q) : XM G m0 mX4_decisive 5 S0 (some (.int q.1)) q.2 62 [(0, .ref m0), (1, .int x1), (3, .int x3)] [.int y0, .int y1] S := by
  intro h N Z
  unfold m_decisive_62 at hf
  refine X.iadd dX4_decisive_62 ?_
  refine X.istore_n (L' := [(2, .int (y1 + y0)), (0, .ref m0), (1, .int x1), (3, .int x3)]) dX4_decisive_63 rfl (Nat.le_of_ble_eq_true rfl) rfl ?_
  refine X.iinc (v := (x3 + 1)) (L' := [(3, .int (x3 + 1)), (2, .int (y1 + y0)), (0, .ref m0), (1, .int x1)]) dX4_decisive_64 3 rfl rfl (Nat.le_of_ble_eq_true rfl) rfl ?_
  refine X.goto (tgt := 19) dX4_decisive_67 (by decide) ?_
  refine X.sub [2, 3, 1, 0] (L' := [(0, .ref m0), (1, .int x1), (2, .int (y1 + y0)), (3, .int (x3 + 1))]) rfl ?_
  exact hk19 _ _ _ _ _ hf h N Z
def m_decisive_61 (k19 : Int32 → Int32 → Int32 → MS → Option (Int32 × MS)) (x1 : Int32) (x3 : Int32) (y0 : Int32) (S : MS) : Option (Int32 × MS) :=
  m_decisive_62 k19 x1 x3 ((0 : Int32)) y0 S
theorem m_decisive_61_ok {G : xG} {m0 : Nat} {S0 : MS} {k19 : Int32 → Int32 → Int32 → MS → Option (Int32 × MS)} (hk19 : ∀ (x1 : Int32) (x2 : Int32) (x3 : Int32) (S : MS) (q : (Int32 × MS)), k19 x1 x2 x3 S = some q → XM G m0 mX4_decisive 5 S0 (some (.int q.1)) q.2 19 [(0, .ref m0), (1, .int x1), (2, .int x2), (3, .int x3)] [] S) (x1 : Int32) (x3 : Int32) (y0 : Int32) (S : MS) (q : (Int32 × MS)) (hf : m_decisive_61 k19 x1 x3 y0 S = some q) : XM G m0 mX4_decisive 5 S0 (some (.int q.1)) q.2 61 [(0, .ref m0), (1, .int x1), (3, .int x3)] [.int y0] S := by
  intro h N Z
  unfold m_decisive_61 at hf
  refine X.iconst (v := 0) dX4_decisive_61 (by decide) ?_
  refine X.sub [0, 1, 2] (L' := [(0, .ref m0), (1, .int x1), (3, .int x3)]) rfl ?_
  exact m_decisive_62_ok hk19 _ _ _ _ _ _ hf h N Z
def m_decisive_19_b  (k19 : Int32 → Int32 → Int32 → MS → Option (Int32 × MS)) (x1 : Int32) (x2 : Int32) (x3 : Int32) (S : MS) : Option (Int32 × MS) :=
  if (16 : Int32) ≤ x3 then
    some (x2, S)
  else
    if ((x3 >>> (x1 &&& 31)) &&& (1 : Int32)) = (1 : Int32) then
      (m_doesCarry x3 S).bind fun q37 =>
      if q37 = 0 then
        m_decisive_61 k19 x1 x3 x2 S
      else
        (m_doesCarry ((x3 &&& (((1 : Int32) <<< (x1 &&& 31)) ^^^ (-1 : Int32)))) S).bind fun q51 =>
        if q51 = 0 then
          m_decisive_62 k19 x1 x3 ((1 : Int32)) x2 S
        else
          m_decisive_61 k19 x1 x3 x2 S
    else
      m_decisive_61 k19 x1 x3 x2 S
def m_decisive_19  : Nat → Int32 → Int32 → Int32 → MS → Option (Int32 × MS)
  | 0 => fun _ _ _ _ => none
  | n + 1 => fun x1 x2 x3 S => m_decisive_19_b (m_decisive_19 n) x1 x2 x3 S
theorem m_decisive_19_bok {G : xG} {m0 : Nat} {S0 : MS}  {k19 : Int32 → Int32 → Int32 → MS → Option (Int32 × MS)}  (hk19 : ∀ (x1 : Int32) (x2 : Int32) (x3 : Int32) (S : MS) (q : (Int32 × MS)), k19 x1 x2 x3 S = some q → XM G m0 mX4_decisive 5 S0 (some (.int q.1)) q.2 19 [(0, .ref m0), (1, .int x1), (2, .int x2), (3, .int x3)] [] S) (x1 : Int32) (x2 : Int32) (x3 : Int32) (S : MS) (q : (Int32 × MS)) (hf : m_decisive_19_b k19 x1 x2 x3 S = some q) : XM G m0 mX4_decisive 5 S0 (some (.int q.1)) q.2 19 [(0, .ref m0), (1, .int x1), (2, .int x2), (3, .int x3)] [] S := by
  intro h N Z
  unfold m_decisive_19_b at hf
  refine X.iload_n dX4_decisive_19 rfl 3 rfl ?_
  refine X.bipush (v := 16) dX4_decisive_20 (by decide) ?_
  refine X.icmp_ge (tgt := 70) dX4_decisive_22 (by decide) (fun c22 => ?_) (fun c22 => ?_)
  · have hf := if_t c22 hf
    refine X.iload_n dX4_decisive_70 rfl 2 rfl ?_
    obtain rfl := Option.some.inj hf
    exact X.iret dX4_decisive_71 rfl rfl rfl
  · have hf := if_f c22 hf
    refine X.iload_n dX4_decisive_25 rfl 2 rfl ?_
    refine X.iload_n dX4_decisive_26 rfl 3 rfl ?_
    refine X.iload_n dX4_decisive_27 rfl 1 rfl ?_
    refine X.ishr dX4_decisive_28 ?_
    refine X.iconst (v := 1) dX4_decisive_29 (by decide) ?_
    refine X.iand dX4_decisive_30 ?_
    refine X.iconst (v := 1) dX4_decisive_31 (by decide) ?_
    refine X.icmp_ne (tgt := 61) dX4_decisive_32 (by decide) (fun c32 => ?_) (fun c32 => ?_)
    · have hf := if_f c32 hf
      refine X.sub [0, 1, 3] (L' := [(0, .ref m0), (1, .int x1), (3, .int x3)]) rfl ?_
      exact m_decisive_61_ok hk19 _ _ _ _ _ hf h N Z
    · have hf := if_t c32 hf
      refine X.aload_n dX4_decisive_35 rfl 0 rfl ?_
      refine X.iload_n dX4_decisive_36 rfl 3 rfl ?_
      obtain ⟨q37, h37, hf⟩ := ob hf
      refine X.callVi (As := [.int x3]) (rest := [.int x2]) dX4_decisive_37 (w_doesCarry h37 h N Z) cX4_425 rfl rfl (Nat.le_of_ble_eq_true rfl) mh_0 rfl rfl (xD (Nat.le_of_ble_eq_true rfl)) xleN xleN ?_
      refine X.if_eq (tgt := 61) dX4_decisive_40 (by decide) (fun c40 => ?_) (fun c40 => ?_)
      · have hf := if_t c40 hf
        refine X.sub [0, 1, 3] (L' := [(0, .ref m0), (1, .int x1), (3, .int x3)]) rfl ?_
        exact m_decisive_61_ok hk19 _ _ _ _ _ hf h N Z
      · have hf := if_f c40 hf
        refine X.aload_n dX4_decisive_43 rfl 0 rfl ?_
        refine X.iload_n dX4_decisive_44 rfl 3 rfl ?_
        refine X.iconst (v := 1) dX4_decisive_45 (by decide) ?_
        refine X.iload_n dX4_decisive_46 rfl 1 rfl ?_
        refine X.ishl dX4_decisive_47 ?_
        refine X.iconst (v := -1) dX4_decisive_48 (by decide) ?_
        refine X.ixor dX4_decisive_49 ?_
        refine X.iand dX4_decisive_50 ?_
        obtain ⟨q51, h51, hf⟩ := ob hf
        refine X.callVi (As := [.int (x3 &&& (((1 : Int32) <<< (x1 &&& 31)) ^^^ (-1 : Int32)))]) (rest := [.int x2]) dX4_decisive_51 (w_doesCarry h51 h N Z) cX4_425 rfl rfl (Nat.le_of_ble_eq_true rfl) mh_0 rfl rfl (xD (Nat.le_of_ble_eq_true rfl)) xleN xleN ?_
        refine X.if_ne (tgt := 61) dX4_decisive_54 (by decide) (fun c54 => ?_) (fun c54 => ?_)
        · have hf := if_f c54 hf
          refine X.sub [0, 1, 3] (L' := [(0, .ref m0), (1, .int x1), (3, .int x3)]) rfl ?_
          exact m_decisive_61_ok hk19 _ _ _ _ _ hf h N Z
        · have hf := if_t c54 hf
          refine X.iconst (v := 1) dX4_decisive_57 (by decide) ?_
          refine X.goto (tgt := 62) dX4_decisive_58 (by decide) ?_
          refine X.sub [0, 1, 3] (L' := [(0, .ref m0), (1, .int x1), (3, .int x3)]) rfl ?_
          exact m_decisive_62_ok hk19 _ _ _ _ _ _ hf h N Z
theorem m_decisive_19_ok {G : xG} {m0 : Nat} {S0 : MS}   : ∀ (n : Nat) (x1 : Int32) (x2 : Int32) (x3 : Int32) (S : MS) (q : (Int32 × MS)), m_decisive_19 n x1 x2 x3 S = some q → XM G m0 mX4_decisive 5 S0 (some (.int q.1)) q.2 19 [(0, .ref m0), (1, .int x1), (2, .int x2), (3, .int x3)] [] S
  | 0, _, _, _, _, _, hf => by cases hf
  | n + 1, x1, x2, x3, S, q, hf => m_decisive_19_bok (m_decisive_19_ok n) x1 x2 x3 S q hf
def m_decisive (x1 : Int32) (S : MS) : Option (Int32 × MS) :=
  (m_isParty x1 ((sF S 0 (0 : Int32)))).bind fun q7 =>
  if q7.1 = 0 then
    some ((0 : Int32), q7.2)
  else
    m_decisive_19 FU x1 ((0 : Int32)) ((0 : Int32)) q7.2
theorem w_decisive {G : xG} {m0 : Nat} {x1 : Int32} {S : MS} {q : (Int32 × MS)} (hf : m_decisive x1 S = some q) : CtM G m0 mX4_decisive 5 S [.ref m0, .int x1] (some (.int q.1)) q.2 := by
  intro h N Z
  refine Ct.of (by decide +kernel) rfl (Nat.le_of_ble_eq_true rfl) (show Xr G _ 0 [(0, .ref m0), (1, .int x1)] [] _ from ?_)
  unfold m_decisive at hf
  refine X.aload_n dX4_decisive_0 rfl 0 rfl ?_
  refine X.iconst (v := 0) dX4_decisive_1 (by decide) ?_
  refine M.putI dX4_decisive_2 fX4_115 (by decide) rfl rfl rfl ?_
  refine X.aload_n dX4_decisive_5 rfl 0 rfl ?_
  refine X.iload_n dX4_decisive_6 rfl 1 rfl ?_
  obtain ⟨q7, h7, hf⟩ := ob hf
  refine X.callVi (As := [.int x1]) (rest := []) (T2 := (mh m0 h q7.2, N, Z)) dX4_decisive_7 (w_isParty h7 h N Z) cX4_394 rfl rfl (Nat.le_of_ble_eq_true rfl) mh_0 rfl rfl (xD (Nat.le_of_ble_eq_true rfl)) xleN xleN ?_
  refine X.if_ne (tgt := 15) dX4_decisive_10 (by decide) (fun c10 => ?_) (fun c10 => ?_)
  · have hf := if_f c10 hf
    refine X.iconst (v := 0) dX4_decisive_15 (by decide) ?_
    refine X.istore_n (L' := [(2, .int (0 : Int32)), (0, .ref m0), (1, .int x1)]) dX4_decisive_16 rfl (Nat.le_of_ble_eq_true rfl) rfl ?_
    refine X.iconst (v := 0) dX4_decisive_17 (by decide) ?_
    refine X.istore_n (L' := [(3, .int (0 : Int32)), (2, .int (0 : Int32)), (0, .ref m0), (1, .int x1)]) dX4_decisive_18 rfl (Nat.le_of_ble_eq_true rfl) rfl ?_
    refine X.sub [2, 3, 1, 0] (L' := [(0, .ref m0), (1, .int x1), (2, .int (0 : Int32)), (3, .int (0 : Int32))]) rfl ?_
    exact m_decisive_19_ok FU _ _ _ _ _ hf h N Z
  · have hf := if_t c10 hf
    refine X.iconst (v := 0) dX4_decisive_13 (by decide) ?_
    obtain rfl := Option.some.inj hf
    exact X.iret dX4_decisive_14 rfl rfl rfl
/-! see -/
abbrev cX4_see : ByteArray := prog_12_method_98_code
def yX4_see : MethodName := ⟨RX4, "see", "(III)I"⟩
def dkwX4_see_4 : List UInt8 := [180, 1, 54, 4, 96, 181, 1, 54, 42, 180, 1, 54, 172]
abbrev dktX4_see_4 : List UInt8 := dkwX4_see_4 ++ []
def dkwX4_see_3 : List UInt8 := [180, 1, 54, 104, 4, 96, 28, 79, 42, 180, 0, 93, 6, 42, 180, 1, 54, 104, 5, 96, 29, 79, 42, 89]
abbrev dktX4_see_3 : List UInt8 := dkwX4_see_3 ++ dktX4_see_4
def dkwX4_see_2 : List UInt8 := [182, 1, 141, 172, 42, 180, 0, 93, 6, 42, 180, 1, 54, 104, 27, 79, 42, 180, 0, 93, 6, 42]
abbrev dktX4_see_2 : List UInt8 := dkwX4_see_2 ++ dktX4_see_3
def dkwX4_see_1 : List UInt8 := [28, 3, 16, 20, 184, 1, 117, 153, 0, 13, 29, 3, 16, 99, 184, 1, 117, 154, 0, 9, 42, 5]
abbrev dktX4_see_1 : List UInt8 := dkwX4_see_1 ++ dktX4_see_2
def dkwX4_see_0 : List UInt8 := [42, 3, 181, 0, 115, 42, 27, 182, 1, 129, 154, 0, 5, 3, 172, 42, 180, 1, 54, 16, 8, 159, 0, 23]
abbrev dktX4_see_0 : List UInt8 := dkwX4_see_0 ++ dktX4_see_1
theorem dksX4_see_0 : cX4_see.data.toList.drop 0 = dktX4_see_0 := by decide +kernel
theorem dksX4_see_1 : cX4_see.data.toList.drop 24 = dktX4_see_1 := dk_seg dksX4_see_0 24 rfl rfl
theorem dksX4_see_2 : cX4_see.data.toList.drop 46 = dktX4_see_2 := dk_seg dksX4_see_1 22 rfl rfl
theorem dksX4_see_3 : cX4_see.data.toList.drop 68 = dktX4_see_3 := dk_seg dksX4_see_2 22 rfl rfl
theorem dksX4_see_4 : cX4_see.data.toList.drop 92 = dktX4_see_4 := dk_seg dksX4_see_3 24 rfl rfl
theorem dX4_see_0 : decode cX4_see 0 = .ok (.aload_n 0, 1) := dk_42 (dk_at dksX4_see_0 0 rfl rfl)
theorem dX4_see_1 : decode cX4_see 1 = .ok (.iconst 0, 1) := dk_3 (dk_at dksX4_see_0 1 rfl rfl)
theorem dX4_see_2 : decode cX4_see 2 = .ok (.putfield 115, 3) := dk_181 0 115 (dk_at dksX4_see_0 2 rfl rfl)
theorem dX4_see_5 : decode cX4_see 5 = .ok (.aload_n 0, 1) := dk_42 (dk_at dksX4_see_0 5 rfl rfl)
theorem dX4_see_6 : decode cX4_see 6 = .ok (.iload_n 1, 1) := dk_27 (dk_at dksX4_see_0 6 rfl rfl)
theorem dX4_see_7 : decode cX4_see 7 = .ok (.invokevirtual 385, 3) := dk_182 1 129 (dk_at dksX4_see_0 7 rfl rfl)
theorem dX4_see_10 : decode cX4_see 10 = .ok (.ifCond .ne 5, 3) := dk_154 0 5 (dk_at dksX4_see_0 10 rfl rfl)
theorem dX4_see_13 : decode cX4_see 13 = .ok (.iconst 0, 1) := dk_3 (dk_at dksX4_see_0 13 rfl rfl)
theorem dX4_see_14 : decode cX4_see 14 = .ok (.ireturn, 1) := dk_172 (dk_at dksX4_see_0 14 rfl rfl)
theorem dX4_see_15 : decode cX4_see 15 = .ok (.aload_n 0, 1) := dk_42 (dk_at dksX4_see_0 15 rfl rfl)
theorem dX4_see_16 : decode cX4_see 16 = .ok (.getfield 310, 3) := dk_180 1 54 (dk_at dksX4_see_0 16 rfl rfl)
theorem dX4_see_19 : decode cX4_see 19 = .ok (.bipush 8, 2) := dk_16 8 (dk_at dksX4_see_0 19 rfl rfl)
theorem dX4_see_21 : decode cX4_see 21 = .ok (.if_icmp .eq 23, 3) := dk_159 0 23 (dk_at dksX4_see_0 21 rfl rfl)
theorem dX4_see_24 : decode cX4_see 24 = .ok (.iload_n 2, 1) := dk_28 (dk_at dksX4_see_1 0 rfl rfl)
theorem dX4_see_25 : decode cX4_see 25 = .ok (.iconst 0, 1) := dk_3 (dk_at dksX4_see_1 1 rfl rfl)
theorem dX4_see_26 : decode cX4_see 26 = .ok (.bipush 20, 2) := dk_16 20 (dk_at dksX4_see_1 2 rfl rfl)
theorem dX4_see_28 : decode cX4_see 28 = .ok (.invokestatic 373, 3) := dk_184 1 117 (dk_at dksX4_see_1 4 rfl rfl)
theorem dX4_see_31 : decode cX4_see 31 = .ok (.ifCond .eq 13, 3) := dk_153 0 13 (dk_at dksX4_see_1 7 rfl rfl)
theorem dX4_see_34 : decode cX4_see 34 = .ok (.iload_n 3, 1) := dk_29 (dk_at dksX4_see_1 10 rfl rfl)
theorem dX4_see_35 : decode cX4_see 35 = .ok (.iconst 0, 1) := dk_3 (dk_at dksX4_see_1 11 rfl rfl)
theorem dX4_see_36 : decode cX4_see 36 = .ok (.bipush 99, 2) := dk_16 99 (dk_at dksX4_see_1 12 rfl rfl)
theorem dX4_see_38 : decode cX4_see 38 = .ok (.invokestatic 373, 3) := dk_184 1 117 (dk_at dksX4_see_1 14 rfl rfl)
theorem dX4_see_41 : decode cX4_see 41 = .ok (.ifCond .ne 9, 3) := dk_154 0 9 (dk_at dksX4_see_1 17 rfl rfl)
theorem dX4_see_44 : decode cX4_see 44 = .ok (.aload_n 0, 1) := dk_42 (dk_at dksX4_see_1 20 rfl rfl)
theorem dX4_see_45 : decode cX4_see 45 = .ok (.iconst 2, 1) := dk_5 (dk_at dksX4_see_1 21 rfl rfl)
theorem dX4_see_46 : decode cX4_see 46 = .ok (.invokevirtual 397, 3) := dk_182 1 141 (dk_at dksX4_see_2 0 rfl rfl)
theorem dX4_see_49 : decode cX4_see 49 = .ok (.ireturn, 1) := dk_172 (dk_at dksX4_see_2 3 rfl rfl)
theorem dX4_see_50 : decode cX4_see 50 = .ok (.aload_n 0, 1) := dk_42 (dk_at dksX4_see_2 4 rfl rfl)
theorem dX4_see_51 : decode cX4_see 51 = .ok (.getfield 93, 3) := dk_180 0 93 (dk_at dksX4_see_2 5 rfl rfl)
theorem dX4_see_54 : decode cX4_see 54 = .ok (.iconst 3, 1) := dk_6 (dk_at dksX4_see_2 8 rfl rfl)
theorem dX4_see_55 : decode cX4_see 55 = .ok (.aload_n 0, 1) := dk_42 (dk_at dksX4_see_2 9 rfl rfl)
theorem dX4_see_56 : decode cX4_see 56 = .ok (.getfield 310, 3) := dk_180 1 54 (dk_at dksX4_see_2 10 rfl rfl)
theorem dX4_see_59 : decode cX4_see 59 = .ok (.imul, 1) := dk_104 (dk_at dksX4_see_2 13 rfl rfl)
theorem dX4_see_60 : decode cX4_see 60 = .ok (.iload_n 1, 1) := dk_27 (dk_at dksX4_see_2 14 rfl rfl)
theorem dX4_see_61 : decode cX4_see 61 = .ok (.iastore, 1) := dk_79 (dk_at dksX4_see_2 15 rfl rfl)
theorem dX4_see_62 : decode cX4_see 62 = .ok (.aload_n 0, 1) := dk_42 (dk_at dksX4_see_2 16 rfl rfl)
theorem dX4_see_63 : decode cX4_see 63 = .ok (.getfield 93, 3) := dk_180 0 93 (dk_at dksX4_see_2 17 rfl rfl)
theorem dX4_see_66 : decode cX4_see 66 = .ok (.iconst 3, 1) := dk_6 (dk_at dksX4_see_2 20 rfl rfl)
theorem dX4_see_67 : decode cX4_see 67 = .ok (.aload_n 0, 1) := dk_42 (dk_at dksX4_see_2 21 rfl rfl)
theorem dX4_see_68 : decode cX4_see 68 = .ok (.getfield 310, 3) := dk_180 1 54 (dk_at dksX4_see_3 0 rfl rfl)
theorem dX4_see_71 : decode cX4_see 71 = .ok (.imul, 1) := dk_104 (dk_at dksX4_see_3 3 rfl rfl)
theorem dX4_see_72 : decode cX4_see 72 = .ok (.iconst 1, 1) := dk_4 (dk_at dksX4_see_3 4 rfl rfl)
theorem dX4_see_73 : decode cX4_see 73 = .ok (.iadd, 1) := dk_96 (dk_at dksX4_see_3 5 rfl rfl)
theorem dX4_see_74 : decode cX4_see 74 = .ok (.iload_n 2, 1) := dk_28 (dk_at dksX4_see_3 6 rfl rfl)
theorem dX4_see_75 : decode cX4_see 75 = .ok (.iastore, 1) := dk_79 (dk_at dksX4_see_3 7 rfl rfl)
theorem dX4_see_76 : decode cX4_see 76 = .ok (.aload_n 0, 1) := dk_42 (dk_at dksX4_see_3 8 rfl rfl)
theorem dX4_see_77 : decode cX4_see 77 = .ok (.getfield 93, 3) := dk_180 0 93 (dk_at dksX4_see_3 9 rfl rfl)
theorem dX4_see_80 : decode cX4_see 80 = .ok (.iconst 3, 1) := dk_6 (dk_at dksX4_see_3 12 rfl rfl)
theorem dX4_see_81 : decode cX4_see 81 = .ok (.aload_n 0, 1) := dk_42 (dk_at dksX4_see_3 13 rfl rfl)
theorem dX4_see_82 : decode cX4_see 82 = .ok (.getfield 310, 3) := dk_180 1 54 (dk_at dksX4_see_3 14 rfl rfl)
theorem dX4_see_85 : decode cX4_see 85 = .ok (.imul, 1) := dk_104 (dk_at dksX4_see_3 17 rfl rfl)
theorem dX4_see_86 : decode cX4_see 86 = .ok (.iconst 2, 1) := dk_5 (dk_at dksX4_see_3 18 rfl rfl)
theorem dX4_see_87 : decode cX4_see 87 = .ok (.iadd, 1) := dk_96 (dk_at dksX4_see_3 19 rfl rfl)
theorem dX4_see_88 : decode cX4_see 88 = .ok (.iload_n 3, 1) := dk_29 (dk_at dksX4_see_3 20 rfl rfl)
theorem dX4_see_89 : decode cX4_see 89 = .ok (.iastore, 1) := dk_79 (dk_at dksX4_see_3 21 rfl rfl)
theorem dX4_see_90 : decode cX4_see 90 = .ok (.aload_n 0, 1) := dk_42 (dk_at dksX4_see_3 22 rfl rfl)
theorem dX4_see_91 : decode cX4_see 91 = .ok (.dup, 1) := dk_89 (dk_at dksX4_see_3 23 rfl rfl)
theorem dX4_see_92 : decode cX4_see 92 = .ok (.getfield 310, 3) := dk_180 1 54 (dk_at dksX4_see_4 0 rfl rfl)
theorem dX4_see_95 : decode cX4_see 95 = .ok (.iconst 1, 1) := dk_4 (dk_at dksX4_see_4 3 rfl rfl)
theorem dX4_see_96 : decode cX4_see 96 = .ok (.iadd, 1) := dk_96 (dk_at dksX4_see_4 4 rfl rfl)
theorem dX4_see_97 : decode cX4_see 97 = .ok (.putfield 310, 3) := dk_181 1 54 (dk_at dksX4_see_4 5 rfl rfl)
theorem dX4_see_100 : decode cX4_see 100 = .ok (.aload_n 0, 1) := dk_42 (dk_at dksX4_see_4 8 rfl rfl)
theorem dX4_see_101 : decode cX4_see 101 = .ok (.getfield 310, 3) := dk_180 1 54 (dk_at dksX4_see_4 9 rfl rfl)
theorem dX4_see_104 : decode cX4_see 104 = .ok (.ireturn, 1) := dk_172 (dk_at dksX4_see_4 12 rfl rfl)
abbrev mX4_see : xM := (yX4_see, cX4_see, 4, (some .int), [])
def m_see_44  (S : MS) : Option (Int32 × MS) :=
  (m_refuses ((2 : Int32)) S).bind fun q46 =>
  some (q46.1, q46.2)
theorem m_see_44_ok {G : xG} {m0 : Nat} {S0 : MS}   (S : MS) (q : (Int32 × MS)) (hf : m_see_44 S = some q) : XM G m0 mX4_see 3 S0 (some (.int q.1)) q.2 44 [(0, .ref m0)] [] S := by
  intro h N Z
  unfold m_see_44 at hf
  refine X.aload_n dX4_see_44 rfl 0 rfl ?_
  refine X.iconst (v := 2) dX4_see_45 (by decide) ?_
  obtain ⟨q46, h46, hf⟩ := ob hf
  refine X.callVi (As := [.int (2 : Int32)]) (rest := []) (T2 := (mh m0 h q46.2, N, Z)) dX4_see_46 (w_refuses h46 h N Z) cX4_397 rfl rfl (Nat.le_of_ble_eq_true rfl) mh_0 rfl rfl (xD (Nat.le_of_ble_eq_true rfl)) xleN xleN ?_
  obtain rfl := Option.some.inj hf
  exact X.iret dX4_see_49 rfl rfl rfl
def m_see (x1 : Int32) (x2 : Int32) (x3 : Int32) (S : MS) : Option (Int32 × MS) :=
  (m_isTheCell x1 ((sF S 0 (0 : Int32)))).bind fun q7 =>
  if q7.1 = 0 then
    some ((0 : Int32), q7.2)
  else
    if (q7.2.1 53) = (8 : Int32) then
      m_see_44 q7.2
    else
      (m_within x2 ((0 : Int32)) ((20 : Int32))).bind fun q28 =>
      if q28 = 0 then
        m_see_44 q7.2
      else
        (m_within x3 ((0 : Int32)) ((99 : Int32))).bind fun q38 =>
        if q38 = 0 then
          m_see_44 q7.2
        else
          (wrA q7.2 21 ((3 : Int32) * (q7.2.1 53)) x1).bind fun S61 =>
          (wrA S61 21 (((3 : Int32) * (S61.1 53)) + (1 : Int32)) x2).bind fun S75 =>
          (wrA S75 21 (((3 : Int32) * (S75.1 53)) + (2 : Int32)) x3).bind fun S89 =>
          some ((((sF S89 53 ((S89.1 53) + (1 : Int32)))).1 53), (sF S89 53 ((S89.1 53) + (1 : Int32))))
theorem w_see {G : xG} {m0 : Nat} {x1 : Int32} {x2 : Int32} {x3 : Int32} {S : MS} {q : (Int32 × MS)} (hf : m_see x1 x2 x3 S = some q) : CtM G m0 mX4_see 3 S [.ref m0, .int x1, .int x2, .int x3] (some (.int q.1)) q.2 := by
  intro h N Z
  refine Ct.of (by decide +kernel) rfl (Nat.le_of_ble_eq_true rfl) (show Xr G _ 0 [(0, .ref m0), (1, .int x1), (2, .int x2), (3, .int x3)] [] _ from ?_)
  unfold m_see at hf
  refine X.aload_n dX4_see_0 rfl 0 rfl ?_
  refine X.iconst (v := 0) dX4_see_1 (by decide) ?_
  refine M.putI dX4_see_2 fX4_115 (by decide) rfl rfl rfl ?_
  refine X.aload_n dX4_see_5 rfl 0 rfl ?_
  refine X.iload_n dX4_see_6 rfl 1 rfl ?_
  obtain ⟨q7, h7, hf⟩ := ob hf
  refine X.callVi (As := [.int x1]) (rest := []) (T2 := (mh m0 h q7.2, N, Z)) dX4_see_7 (w_isTheCell h7 h N Z) cX4_385 rfl rfl (Nat.le_of_ble_eq_true rfl) mh_0 rfl rfl (xD (Nat.le_of_ble_eq_true rfl)) xleN xleN ?_
  refine X.if_ne (tgt := 15) dX4_see_10 (by decide) (fun c10 => ?_) (fun c10 => ?_)
  · have hf := if_f c10 hf
    refine X.aload_n dX4_see_15 rfl 0 rfl ?_
    refine M.get (v := .int (q7.2.1 53)) dX4_see_16 fX4_310 (Nat.le_of_ble_eq_true rfl) rfl ?_
    refine X.bipush (v := 8) dX4_see_19 (by decide) ?_
    refine X.icmp_eq (tgt := 44) dX4_see_21 (by decide) (fun c21 => ?_) (fun c21 => ?_)
    · have hf := if_t c21 hf
      refine X.sub [0] (L' := [(0, .ref m0)]) rfl ?_
      exact m_see_44_ok _ _ hf h N Z
    · have hf := if_f c21 hf
      refine X.iload_n dX4_see_24 rfl 2 rfl ?_
      refine X.iconst (v := 0) dX4_see_25 (by decide) ?_
      refine X.bipush (v := 20) dX4_see_26 (by decide) ?_
      obtain ⟨q28, h28, hf⟩ := ob hf
      refine X.callSi (As := [.int x2, .int (0 : Int32), .int (20 : Int32)]) (rest := []) dX4_see_28 (w_within h28 _) cX4_373 rfl rfl (Nat.le_of_ble_eq_true rfl) (xD (Nat.le_of_ble_eq_true rfl)) xle.rf xleN ?_
      refine X.if_eq (tgt := 44) dX4_see_31 (by decide) (fun c31 => ?_) (fun c31 => ?_)
      · have hf := if_t c31 hf
        refine X.sub [0] (L' := [(0, .ref m0)]) rfl ?_
        exact m_see_44_ok _ _ hf h N Z
      · have hf := if_f c31 hf
        refine X.iload_n dX4_see_34 rfl 3 rfl ?_
        refine X.iconst (v := 0) dX4_see_35 (by decide) ?_
        refine X.bipush (v := 99) dX4_see_36 (by decide) ?_
        obtain ⟨q38, h38, hf⟩ := ob hf
        refine X.callSi (As := [.int x3, .int (0 : Int32), .int (99 : Int32)]) (rest := []) dX4_see_38 (w_within h38 _) cX4_373 rfl rfl (Nat.le_of_ble_eq_true rfl) (xD (Nat.le_of_ble_eq_true rfl)) xle.rf xleN ?_
        refine X.if_ne (tgt := 50) dX4_see_41 (by decide) (fun c41 => ?_) (fun c41 => ?_)
        · have hf := if_f c41 hf
          refine X.aload_n dX4_see_50 rfl 0 rfl ?_
          refine M.get (v := .ref (m0 + 21)) dX4_see_51 fX4_93 (Nat.le_of_ble_eq_true rfl) rfl ?_
          refine X.iconst (v := 3) dX4_see_54 (by decide) ?_
          refine X.aload_n dX4_see_55 rfl 0 rfl ?_
          refine M.get (v := .int (q7.2.1 53)) dX4_see_56 fX4_310 (Nat.le_of_ble_eq_true rfl) rfl ?_
          refine X.imul dX4_see_59 ?_
          refine X.iload_n dX4_see_60 rfl 1 rfl ?_
          obtain ⟨S61, h61, hf⟩ := ob hf
          refine M.iast dX4_see_61 rfl h61 ?_
          refine X.aload_n dX4_see_62 rfl 0 rfl ?_
          refine M.get (v := .ref (m0 + 21)) dX4_see_63 fX4_93 (Nat.le_of_ble_eq_true rfl) rfl ?_
          refine X.iconst (v := 3) dX4_see_66 (by decide) ?_
          refine X.aload_n dX4_see_67 rfl 0 rfl ?_
          refine M.get (v := .int (S61.1 53)) dX4_see_68 fX4_310 (Nat.le_of_ble_eq_true rfl) rfl ?_
          refine X.imul dX4_see_71 ?_
          refine X.iconst (v := 1) dX4_see_72 (by decide) ?_
          refine X.iadd dX4_see_73 ?_
          refine X.iload_n dX4_see_74 rfl 2 rfl ?_
          obtain ⟨S75, h75, hf⟩ := ob hf
          refine M.iast dX4_see_75 rfl h75 ?_
          refine X.aload_n dX4_see_76 rfl 0 rfl ?_
          refine M.get (v := .ref (m0 + 21)) dX4_see_77 fX4_93 (Nat.le_of_ble_eq_true rfl) rfl ?_
          refine X.iconst (v := 3) dX4_see_80 (by decide) ?_
          refine X.aload_n dX4_see_81 rfl 0 rfl ?_
          refine M.get (v := .int (S75.1 53)) dX4_see_82 fX4_310 (Nat.le_of_ble_eq_true rfl) rfl ?_
          refine X.imul dX4_see_85 ?_
          refine X.iconst (v := 2) dX4_see_86 (by decide) ?_
          refine X.iadd dX4_see_87 ?_
          refine X.iload_n dX4_see_88 rfl 3 rfl ?_
          obtain ⟨S89, h89, hf⟩ := ob hf
          refine M.iast dX4_see_89 rfl h89 ?_
          refine X.aload_n dX4_see_90 rfl 0 rfl ?_
          refine X.dup dX4_see_91 rfl ?_
          refine M.get (v := .int (S89.1 53)) dX4_see_92 fX4_310 (Nat.le_of_ble_eq_true rfl) rfl ?_
          refine X.iconst (v := 1) dX4_see_95 (by decide) ?_
          refine X.iadd dX4_see_96 ?_
          refine M.putI dX4_see_97 fX4_310 (by decide) rfl rfl rfl ?_
          refine X.aload_n dX4_see_100 rfl 0 rfl ?_
          refine M.get (v := .int (((sF S89 53 ((S89.1 53) + (1 : Int32)))).1 53)) dX4_see_101 fX4_310 (Nat.le_of_ble_eq_true rfl) rfl ?_
          obtain rfl := Option.some.inj hf
          exact X.iret dX4_see_104 rfl rfl rfl
        · have hf := if_t c41 hf
          refine X.sub [0] (L' := [(0, .ref m0)]) rfl ?_
          exact m_see_44_ok _ _ hf h N Z
  · have hf := if_t c10 hf
    refine X.iconst (v := 0) dX4_see_13 (by decide) ?_
    obtain rfl := Option.some.inj hf
    exact X.iret dX4_see_14 rfl rfl rfl
