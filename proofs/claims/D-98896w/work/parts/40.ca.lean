set_option maxRecDepth 100000
/-! MouldVotes$Not of -/
def c_X10_of (kF : Option Nat → Option Nat → Option Int32) (T : xF) (x0 : Option Nat) (x1 : Option Nat) : Option Int32 :=
  (oQ T x0 9 0).bind fun v1 =>
  (kF v1 x1).bind fun v5 =>
  if v5 = 0 then
    some (1 : Int32)
  else
    some (0 : Int32)
theorem w_X10_of {G : xG} {De : Nat} {kF : Option Nat → Option Nat → Option Int32} {T : xF} (hDF : 20 ≤ De) (hkF : ∀ (r v : Option Nat) (q : Int32), kF r v = some q → OfOK G De r v T q) {x0 : Option Nat} {x1 : Option Nat} {q : Int32} (hf : c_X10_of kF T x0 x1 = some q) : Ct G mX10_of (De + 1) T [va_rf x0, va_rf x1] (.inl (some (.int q))) T := by
  refine Ct.ofc (plainFor_of_name (by decide +kernel)) rfl (xvQ (xvQ xvN)) (Nat.le_of_ble_eq_true rfl) (show Xr G _ 0 [(0, va_rf x0), (1, va_rf x1)] [] _ from ?_)
  unfold c_X10_of at hf
  refine C.aload_n dX10_of_0 rfl 0 rfl ?_
  obtain ⟨v1, h1, hf⟩ := ob hf
  refine C.getQ dX10_of_1 rX10_7 h1 ?_
  refine C.aload_n dX10_of_4 rfl 1 rfl ?_
  obtain ⟨v5, h5, hf⟩ := ob hf
  refine X.keep fun l5 => C.form (rest := []) dX10_of_5 (hkF _ _ _ h5) cFX10_13 rfl (xcs xvN (Nat.le_of_ble_eq_true rfl)) (xD (by omega)) l5 ?_
  refine X.if_ne (tgt := 17) dX10_of_10 (by decide) (fun c10 => ?_) (fun c10 => ?_)
  · have hf := if_f c10 hf
    refine X.iconst (v := 0) dX10_of_17 (by decide) ?_
    obtain rfl := Option.some.inj hf
    exact X.iret dX10_of_18 rfl rfl rfl
  · have hf := if_t c10 hf
    refine X.iconst (v := 1) dX10_of_13 (by decide) ?_
    refine X.goto (tgt := 18) dX10_of_14 (by decide) ?_
    obtain rfl := Option.some.inj hf
    exact X.iret dX10_of_18 rfl rfl rfl
/-! MouldVotes$Value of -/
def c_X9_of (T : xF) (x0 : Option Nat) (x1 : Option Nat) : Option Int32 :=
  (oI T x0 8 0).bind fun v2 =>
  (ldA T x1 .int v2).bind fun v5 =>
  some v5
theorem w_X9_of {G : xG}  {T : xF} {x0 : Option Nat} {x1 : Option Nat} {q : Int32} (hf : c_X9_of T x0 x1 = some q) : Ct G mX9_of (1) T [va_rf x0, va_rf x1] (.inl (some (.int q))) T := by
  refine Ct.ofc (plainFor_of_name (by decide +kernel)) rfl (xvQ (xvQ xvN)) (Nat.le_of_ble_eq_true rfl) (show Xr G _ 0 [(0, va_rf x0), (1, va_rf x1)] [] _ from ?_)
  unfold c_X9_of at hf
  refine C.aload_n dX9_of_0 rfl 1 rfl ?_
  refine C.aload_n dX9_of_1 rfl 0 rfl ?_
  obtain ⟨v2, h2, hf⟩ := ob hf
  refine C.getI dX9_of_2 rX9_7 h2 ?_
  obtain ⟨v5, h5, hf⟩ := ob hf
  refine C.iald dX9_of_5 h5 ?_
  obtain rfl := Option.some.inj hf
  exact X.iret dX9_of_6 rfl rfl rfl
/-! MouldVotes$Number of -/
def c_X8_of (T : xF) (x0 : Option Nat) (x1 : Option Nat) : Option Int32 :=
  (oI T x0 7 0).bind fun v1 =>
  some v1
theorem w_X8_of {G : xG}  {T : xF} {x0 : Option Nat} {x1 : Option Nat} {q : Int32} (hf : c_X8_of T x0 x1 = some q) : Ct G mX8_of (1) T [va_rf x0, va_rf x1] (.inl (some (.int q))) T := by
  refine Ct.ofc (plainFor_of_name (by decide +kernel)) rfl (xvQ (xvQ xvN)) (Nat.le_of_ble_eq_true rfl) (show Xr G _ 0 [(0, va_rf x0), (1, va_rf x1)] [] _ from ?_)
  unfold c_X8_of at hf
  refine C.aload_n dX8_of_0 rfl 0 rfl ?_
  obtain ⟨v1, h1, hf⟩ := ob hf
  refine C.getI dX8_of_1 rX8_7 h1 ?_
  obtain rfl := Option.some.inj hf
  exact X.iret dX8_of_4 rfl rfl rfl
/-! jdk/internal/util/Preconditions checkIndex -/
abbrev cJ11_checkIndex : ByteArray := prog_47_method_11_code
def yJ11_checkIndex : MethodName := ⟨RJ11, "checkIndex", "(IILjava/util/function/BiFunction;)I"⟩
def dkwJ11_checkIndex_0 : List UInt8 := [26, 155, 0, 8, 26, 27, 161, 0, 10, 44, 26, 27, 184, 0, 95, 191, 26, 172]
abbrev dktJ11_checkIndex_0 : List UInt8 := dkwJ11_checkIndex_0 ++ []
theorem dksJ11_checkIndex_0 : cJ11_checkIndex.data.toList.drop 0 = dktJ11_checkIndex_0 := by decide +kernel
theorem dJ11_checkIndex_0 : decode cJ11_checkIndex 0 = .ok (.iload_n 0, 1) := dk_26 (dk_at dksJ11_checkIndex_0 0 rfl rfl)
theorem dJ11_checkIndex_1 : decode cJ11_checkIndex 1 = .ok (.ifCond .lt 8, 3) := dk_155 0 8 (dk_at dksJ11_checkIndex_0 1 rfl rfl)
theorem dJ11_checkIndex_4 : decode cJ11_checkIndex 4 = .ok (.iload_n 0, 1) := dk_26 (dk_at dksJ11_checkIndex_0 4 rfl rfl)
theorem dJ11_checkIndex_5 : decode cJ11_checkIndex 5 = .ok (.iload_n 1, 1) := dk_27 (dk_at dksJ11_checkIndex_0 5 rfl rfl)
theorem dJ11_checkIndex_6 : decode cJ11_checkIndex 6 = .ok (.if_icmp .lt 10, 3) := dk_161 0 10 (dk_at dksJ11_checkIndex_0 6 rfl rfl)
theorem dJ11_checkIndex_9 : decode cJ11_checkIndex 9 = .ok (.aload_n 2, 1) := dk_44 (dk_at dksJ11_checkIndex_0 9 rfl rfl)
theorem dJ11_checkIndex_10 : decode cJ11_checkIndex 10 = .ok (.iload_n 0, 1) := dk_26 (dk_at dksJ11_checkIndex_0 10 rfl rfl)
theorem dJ11_checkIndex_11 : decode cJ11_checkIndex 11 = .ok (.iload_n 1, 1) := dk_27 (dk_at dksJ11_checkIndex_0 11 rfl rfl)
theorem dJ11_checkIndex_12 : decode cJ11_checkIndex 12 = .ok (.invokestatic 95, 3) := dk_184 0 95 (dk_at dksJ11_checkIndex_0 12 rfl rfl)
theorem dJ11_checkIndex_15 : decode cJ11_checkIndex 15 = .ok (.athrow, 1) := dk_191 (dk_at dksJ11_checkIndex_0 15 rfl rfl)
theorem dJ11_checkIndex_16 : decode cJ11_checkIndex 16 = .ok (.iload_n 0, 1) := dk_26 (dk_at dksJ11_checkIndex_0 16 rfl rfl)
theorem dJ11_checkIndex_17 : decode cJ11_checkIndex 17 = .ok (.ireturn, 1) := dk_172 (dk_at dksJ11_checkIndex_0 17 rfl rfl)
abbrev mJ11_checkIndex : xM := (yJ11_checkIndex, cJ11_checkIndex, 3, (some .int), [])
def c_J11_checkIndex (x0 : Int32) (x1 : Int32) (x2 : Option Nat) : Option Int32 :=
  if x0 < 0 then
    none
  else
    if x0 < x1 then
      some x0
    else
      none
theorem w_J11_checkIndex {G : xG}  {T : xF} {x0 : Int32} {x1 : Int32} {x2 : Option Nat} {q : Int32} (hf : c_J11_checkIndex x0 x1 x2 = some q) : Ct G mJ11_checkIndex (1) T [.int x0, .int x1, va_rf x2] (.inl (some (.int q))) T := by
  refine Ct.ofc (plainFor_of_name (by decide +kernel)) rfl (xvI (xvI (xvQ xvN))) (Nat.le_of_ble_eq_true rfl) (show Xr G _ 0 [(0, .int x0), (1, .int x1), (2, va_rf x2)] [] _ from ?_)
  unfold c_J11_checkIndex at hf
  refine X.iload_n dJ11_checkIndex_0 rfl 0 rfl ?_
  refine X.if_lt (tgt := 9) dJ11_checkIndex_1 (by decide) (fun c1 => ?_) (fun c1 => ?_)
  · have hf := if_t c1 hf
    refine C.aload_n dJ11_checkIndex_9 rfl 2 rfl ?_
    refine X.iload_n dJ11_checkIndex_10 rfl 0 rfl ?_
    refine X.iload_n dJ11_checkIndex_11 rfl 1 rfl ?_
    cases hf
  · have hf := if_f c1 hf
    refine X.iload_n dJ11_checkIndex_4 rfl 0 rfl ?_
    refine X.iload_n dJ11_checkIndex_5 rfl 1 rfl ?_
    refine X.icmp_lt (tgt := 16) dJ11_checkIndex_6 (by decide) (fun c6 => ?_) (fun c6 => ?_)
    · have hf := if_t c6 hf
      refine X.iload_n dJ11_checkIndex_16 rfl 0 rfl ?_
      obtain rfl := Option.some.inj hf
      exact X.iret dJ11_checkIndex_17 rfl rfl rfl
    · have hf := if_f c6 hf
      refine C.aload_n dJ11_checkIndex_9 rfl 2 rfl ?_
      refine X.iload_n dJ11_checkIndex_10 rfl 0 rfl ?_
      refine X.iload_n dJ11_checkIndex_11 rfl 1 rfl ?_
      cases hf
theorem cJ8_1059 : xCS RJ8 1059 mJ11_checkIndex 3 := ⟨lw_S q568 q445 q137 q446, rfl, ⟨by decide +kernel, by decide +kernel, by decide +kernel⟩, Nat.le_of_ble_eq_true rfl⟩
theorem cJ19_105 : xCS RJ19 105 mJ11_checkIndex 3 := ⟨lw_S q444 q445 q137 q446, rfl, ⟨by decide +kernel, by decide +kernel, by decide +kernel⟩, Nat.le_of_ble_eq_true rfl⟩
/-! java/util/Objects checkIndex -/
abbrev cJ19_checkIndex : ByteArray := prog_43_method_17_code
def yJ19_checkIndex : MethodName := ⟨RJ19, "checkIndex", "(II)I"⟩
def dkwJ19_checkIndex_0 : List UInt8 := [26, 27, 1, 184, 0, 105, 172]
abbrev dktJ19_checkIndex_0 : List UInt8 := dkwJ19_checkIndex_0 ++ []
theorem dksJ19_checkIndex_0 : cJ19_checkIndex.data.toList.drop 0 = dktJ19_checkIndex_0 := by decide +kernel
theorem dJ19_checkIndex_0 : decode cJ19_checkIndex 0 = .ok (.iload_n 0, 1) := dk_26 (dk_at dksJ19_checkIndex_0 0 rfl rfl)
theorem dJ19_checkIndex_1 : decode cJ19_checkIndex 1 = .ok (.iload_n 1, 1) := dk_27 (dk_at dksJ19_checkIndex_0 1 rfl rfl)
theorem dJ19_checkIndex_2 : decode cJ19_checkIndex 2 = .ok (.aconst_null, 1) := dk_1 (dk_at dksJ19_checkIndex_0 2 rfl rfl)
theorem dJ19_checkIndex_3 : decode cJ19_checkIndex 3 = .ok (.invokestatic 105, 3) := dk_184 0 105 (dk_at dksJ19_checkIndex_0 3 rfl rfl)
theorem dJ19_checkIndex_6 : decode cJ19_checkIndex 6 = .ok (.ireturn, 1) := dk_172 (dk_at dksJ19_checkIndex_0 6 rfl rfl)
abbrev mJ19_checkIndex : xM := (yJ19_checkIndex, cJ19_checkIndex, 2, (some .int), [])
def c_J19_checkIndex (x0 : Int32) (x1 : Int32) : Option Int32 :=
  (c_J11_checkIndex x0 x1 none).bind fun v3 =>
  some v3
theorem w_J19_checkIndex {G : xG}  {T : xF} {x0 : Int32} {x1 : Int32} {q : Int32} (hf : c_J19_checkIndex x0 x1 = some q) : Ct G mJ19_checkIndex (2) T [.int x0, .int x1] (.inl (some (.int q))) T := by
  refine Ct.ofc (plainFor_of_name (by decide +kernel)) rfl (xvI (xvI xvN)) (Nat.le_of_ble_eq_true rfl) (show Xr G _ 0 [(0, .int x0), (1, .int x1)] [] _ from ?_)
  unfold c_J19_checkIndex at hf
  refine X.iload_n dJ19_checkIndex_0 rfl 0 rfl ?_
  refine X.iload_n dJ19_checkIndex_1 rfl 1 rfl ?_
  refine C.null dJ19_checkIndex_2 ?_
  obtain ⟨v3, h3, hf⟩ := ob hf
  refine X.keep fun l3 => C.Si (As := [.int x0, .int x1, va_rf none]) (rest := []) dJ19_checkIndex_3 (w_J11_checkIndex h3) cJ19_105 rfl rfl (xcs xvN (Nat.le_of_ble_eq_true rfl)) (xD (Nat.le_of_ble_eq_true rfl)) xle.rf l3 ?_
  obtain rfl := Option.some.inj hf
  exact X.iret dJ19_checkIndex_6 rfl rfl rfl
theorem cJ2_118 : xCS RJ2 118 mJ19_checkIndex 2 := ⟨lw_S q441 q442 q151 q443, rfl, ⟨by decide +kernel, by decide +kernel, by decide +kernel⟩, Nat.le_of_ble_eq_true rfl⟩
/-! java/util/ArrayList elementData -/
abbrev cJ2_elementData : ByteArray := prog_38_method_18_code
def yJ2_elementData : MethodName := ⟨RJ2, "elementData", "(I)Ljava/lang/Object;"⟩
def dkwJ2_elementData_0 : List UInt8 := [42, 180, 0, 9, 27, 50, 176]
abbrev dktJ2_elementData_0 : List UInt8 := dkwJ2_elementData_0 ++ []
theorem dksJ2_elementData_0 : cJ2_elementData.data.toList.drop 0 = dktJ2_elementData_0 := by decide +kernel
theorem dJ2_elementData_0 : decode cJ2_elementData 0 = .ok (.aload_n 0, 1) := dk_42 (dk_at dksJ2_elementData_0 0 rfl rfl)
theorem dJ2_elementData_1 : decode cJ2_elementData 1 = .ok (.getfield 9, 3) := dk_180 0 9 (dk_at dksJ2_elementData_0 1 rfl rfl)
theorem dJ2_elementData_4 : decode cJ2_elementData 4 = .ok (.iload_n 1, 1) := dk_27 (dk_at dksJ2_elementData_0 4 rfl rfl)
theorem dJ2_elementData_5 : decode cJ2_elementData 5 = .ok (.aaload, 1) := dk_50 (dk_at dksJ2_elementData_0 5 rfl rfl)
theorem dJ2_elementData_6 : decode cJ2_elementData 6 = .ok (.areturn, 1) := dk_176 (dk_at dksJ2_elementData_0 6 rfl rfl)
abbrev mJ2_elementData : xM := (yJ2_elementData, cJ2_elementData, 2, (some (.object "java/lang/Object")), [])
def c_J2_elementData (T : xF) (x0 : Option Nat) (x1 : Int32) : Option (Option Nat) :=
  (oQ T x0 10 1).bind fun v1 =>
  (ldR T v1 x1).bind fun v5 =>
  some v5
theorem w_J2_elementData {G : xG}  {T : xF} {x0 : Option Nat} {x1 : Int32} {q : (Option Nat)} (hf : c_J2_elementData T x0 x1 = some q) : Ct G mJ2_elementData (1) T [va_rf x0, .int x1] (.inl (some (va_rf q))) T := by
  refine Ct.ofc (plainFor_of_name (by decide +kernel)) rfl (xvQ (xvI xvN)) (Nat.le_of_ble_eq_true rfl) (show Xr G _ 0 [(0, va_rf x0), (1, .int x1)] [] _ from ?_)
  unfold c_J2_elementData at hf
  refine C.aload_n dJ2_elementData_0 rfl 0 rfl ?_
  obtain ⟨v1, h1, hf⟩ := ob hf
  refine C.getQ dJ2_elementData_1 rJ2_9 h1 ?_
  refine X.iload_n dJ2_elementData_4 rfl 1 rfl ?_
  obtain ⟨v5, h5, hf⟩ := ob hf
  refine C.aald dJ2_elementData_5 h5 ?_
  obtain rfl := Option.some.inj hf
  exact X.aret dJ2_elementData_6 rfl (Or.inl ⟨_, rfl⟩) rfl
theorem cJ2_123 : xCV RJ2 123 mJ2_elementData 1 := ⟨lw_V q496 q497 q498 q125 q499, rfl, ⟨by decide +kernel, by decide +kernel, by decide +kernel⟩, Nat.le_of_ble_eq_true rfl⟩
/-! java/util/ArrayList get -/
abbrev cJ2_get : ByteArray := prog_38_method_20_code
def yJ2_get : MethodName := ⟨RJ2, "get", "(I)Ljava/lang/Object;"⟩
def dkwJ2_get_0 : List UInt8 := [27, 42, 180, 0, 48, 184, 0, 118, 87, 42, 27, 182, 0, 123, 176]
abbrev dktJ2_get_0 : List UInt8 := dkwJ2_get_0 ++ []
theorem dksJ2_get_0 : cJ2_get.data.toList.drop 0 = dktJ2_get_0 := by decide +kernel
theorem dJ2_get_0 : decode cJ2_get 0 = .ok (.iload_n 1, 1) := dk_27 (dk_at dksJ2_get_0 0 rfl rfl)
theorem dJ2_get_1 : decode cJ2_get 1 = .ok (.aload_n 0, 1) := dk_42 (dk_at dksJ2_get_0 1 rfl rfl)
theorem dJ2_get_2 : decode cJ2_get 2 = .ok (.getfield 48, 3) := dk_180 0 48 (dk_at dksJ2_get_0 2 rfl rfl)
theorem dJ2_get_5 : decode cJ2_get 5 = .ok (.invokestatic 118, 3) := dk_184 0 118 (dk_at dksJ2_get_0 5 rfl rfl)
theorem dJ2_get_8 : decode cJ2_get 8 = .ok (.pop, 1) := dk_87 (dk_at dksJ2_get_0 8 rfl rfl)
theorem dJ2_get_9 : decode cJ2_get 9 = .ok (.aload_n 0, 1) := dk_42 (dk_at dksJ2_get_0 9 rfl rfl)
theorem dJ2_get_10 : decode cJ2_get 10 = .ok (.iload_n 1, 1) := dk_27 (dk_at dksJ2_get_0 10 rfl rfl)
theorem dJ2_get_11 : decode cJ2_get 11 = .ok (.invokevirtual 123, 3) := dk_182 0 123 (dk_at dksJ2_get_0 11 rfl rfl)
theorem dJ2_get_14 : decode cJ2_get 14 = .ok (.areturn, 1) := dk_176 (dk_at dksJ2_get_0 14 rfl rfl)
abbrev mJ2_get : xM := (yJ2_get, cJ2_get, 2, (some (.object "java/lang/Object")), [])
def c_J2_get (T : xF) (x0 : Option Nat) (x1 : Int32) : Option (Option Nat) :=
  (oI T x0 10 2).bind fun v2 =>
  (c_J19_checkIndex x1 v2).bind fun v5 =>
  if ¬ isO T x0 10 = true then none else
  (c_J2_elementData T x0 x1).bind fun v11 =>
  some v11
theorem w_J2_get {G : xG}  {T : xF} {x0 : Option Nat} {x1 : Int32} {q : (Option Nat)} (hf : c_J2_get T x0 x1 = some q) : Ct G mJ2_get (3) T [va_rf x0, .int x1] (.inl (some (va_rf q))) T := by
  refine Ct.ofc (plainFor_of_name (by decide +kernel)) rfl (xvQ (xvI xvN)) (Nat.le_of_ble_eq_true rfl) (show Xr G _ 0 [(0, va_rf x0), (1, .int x1)] [] _ from ?_)
  unfold c_J2_get at hf
  refine X.iload_n dJ2_get_0 rfl 1 rfl ?_
  refine C.aload_n dJ2_get_1 rfl 0 rfl ?_
  obtain ⟨v2, h2, hf⟩ := ob hf
  refine C.getI dJ2_get_2 rJ2_48 h2 ?_
  obtain ⟨v5, h5, hf⟩ := ob hf
  refine X.keep fun l5 => C.Si (As := [.int x1, .int v2]) (rest := []) dJ2_get_5 (w_J19_checkIndex h5) cJ2_118 rfl rfl (xcs xvN (Nat.le_of_ble_eq_true rfl)) (xD (Nat.le_of_ble_eq_true rfl)) xle.rf l5 ?_
  refine X.pop dJ2_get_8 rfl ?_
  refine C.aload_n dJ2_get_9 rfl 0 rfl ?_
  refine X.iload_n dJ2_get_10 rfl 1 rfl ?_
  obtain ⟨c11, hf⟩ := if_n hf
  obtain ⟨v11, h11, hf⟩ := ob hf
  refine X.keep fun l11 => C.Vq (As := [.int x1]) (rest := []) dJ2_get_11 (w_J2_elementData h11) cJ2_123 (Classical.not_not.mp c11) rfl rfl (xcs xvN (Nat.le_of_ble_eq_true rfl)) rfl rfl (xD (Nat.le_of_ble_eq_true rfl)) xle.rf l11 ?_
  obtain rfl := Option.some.inj hf
  exact X.aret dJ2_get_14 rfl (Or.inl ⟨_, rfl⟩) rfl
theorem cX1_167 : xCF RX1 167 "java/util/ArrayList" ⟨"java/util/List", "get", "(I)Ljava/lang/Object;"⟩ mJ2_get 1 := ⟨lw_F q658 q491 q493 q125 q495, rfl, ⟨by decide +kernel, by decide +kernel, by decide +kernel⟩, Nat.le_of_ble_eq_true rfl, by decide⟩
theorem cX7_37 : xCF RX7 37 "java/util/ArrayList" ⟨"java/util/List", "get", "(I)Ljava/lang/Object;"⟩ mJ2_get 1 := ⟨lw_F q528 q491 q493 q125 q495, rfl, ⟨by decide +kernel, by decide +kernel, by decide +kernel⟩, Nat.le_of_ble_eq_true rfl, by decide⟩
theorem cX3_132 : xCF RX3 132 "java/util/ArrayList" ⟨"java/util/List", "get", "(I)Ljava/lang/Object;"⟩ mJ2_get 1 := ⟨lw_F q685 q491 q493 q125 q495, rfl, ⟨by decide +kernel, by decide +kernel, by decide +kernel⟩, Nat.le_of_ble_eq_true rfl, by decide⟩
theorem cX2_42 : xCF RX2 42 "java/util/ArrayList" ⟨"java/util/List", "get", "(I)Ljava/lang/Object;"⟩ mJ2_get 1 := ⟨lw_F q488 q491 q493 q125 q495, rfl, ⟨by decide +kernel, by decide +kernel, by decide +kernel⟩, Nat.le_of_ble_eq_true rfl, by decide⟩
/-! java/util/ArrayList size -/
abbrev cJ2_size : ByteArray := prog_38_method_8_code
def yJ2_size : MethodName := ⟨RJ2, "size", "()I"⟩
theorem dJ2_size_0 : decode cJ2_size 0 = .ok (.aload_n 0, 1) := by decide +kernel
theorem dJ2_size_1 : decode cJ2_size 1 = .ok (.getfield 48, 3) := by decide +kernel
theorem dJ2_size_4 : decode cJ2_size 4 = .ok (.ireturn, 1) := by decide +kernel
abbrev mJ2_size : xM := (yJ2_size, cJ2_size, 1, (some .int), [])
def c_J2_size (T : xF) (x0 : Option Nat) : Option Int32 :=
  (oI T x0 10 2).bind fun v1 =>
  some v1
theorem w_J2_size {G : xG}  {T : xF} {x0 : Option Nat} {q : Int32} (hf : c_J2_size T x0 = some q) : Ct G mJ2_size (1) T [va_rf x0] (.inl (some (.int q))) T := by
  refine Ct.ofc (plainFor_of_name (by decide +kernel)) rfl (xvQ xvN) (Nat.le_of_ble_eq_true rfl) (show Xr G _ 0 [(0, va_rf x0)] [] _ from ?_)
  unfold c_J2_size at hf
  refine C.aload_n dJ2_size_0 rfl 0 rfl ?_
  obtain ⟨v1, h1, hf⟩ := ob hf
  refine C.getI dJ2_size_1 rJ2_48 h1 ?_
  obtain rfl := Option.some.inj hf
  exact X.iret dJ2_size_4 rfl rfl rfl
theorem cX1_104 : xCF RX1 104 "java/util/ArrayList" ⟨"java/util/List", "size", "()I"⟩ mJ2_size 0 := ⟨lw_F q424 q427 q429 q125 q431, rfl, ⟨by decide +kernel, by decide +kernel, by decide +kernel⟩, Nat.le_of_ble_eq_true rfl, by decide⟩
theorem cX7_33 : xCF RX7 33 "java/util/ArrayList" ⟨"java/util/List", "size", "()I"⟩ mJ2_size 0 := ⟨lw_F q553 q427 q429 q125 q431, rfl, ⟨by decide +kernel, by decide +kernel, by decide +kernel⟩, Nat.le_of_ble_eq_true rfl, by decide⟩
theorem cX5_234 : xCF RX5 234 "java/util/ArrayList" ⟨"java/util/List", "size", "()I"⟩ mJ2_size 0 := ⟨lw_F q1050 q427 q429 q125 q431, rfl, ⟨by decide +kernel, by decide +kernel, by decide +kernel⟩, Nat.le_of_ble_eq_true rfl, by decide⟩
theorem cX2_38 : xCF RX2 38 "java/util/ArrayList" ⟨"java/util/List", "size", "()I"⟩ mJ2_size 0 := ⟨lw_F q486 q427 q429 q125 q431, rfl, ⟨by decide +kernel, by decide +kernel, by decide +kernel⟩, Nat.le_of_ble_eq_true rfl, by decide⟩
/-! java/lang/Math min -/
abbrev cJ7_min : ByteArray := prog_25_method_69_code
def yJ7_min : MethodName := ⟨RJ7, "min", "(II)I"⟩
def dkwJ7_min_0 : List UInt8 := [26, 27, 163, 0, 7, 26, 167, 0, 4, 27, 172]
abbrev dktJ7_min_0 : List UInt8 := dkwJ7_min_0 ++ []
theorem dksJ7_min_0 : cJ7_min.data.toList.drop 0 = dktJ7_min_0 := by decide +kernel
theorem dJ7_min_0 : decode cJ7_min 0 = .ok (.iload_n 0, 1) := dk_26 (dk_at dksJ7_min_0 0 rfl rfl)
theorem dJ7_min_1 : decode cJ7_min 1 = .ok (.iload_n 1, 1) := dk_27 (dk_at dksJ7_min_0 1 rfl rfl)
theorem dJ7_min_2 : decode cJ7_min 2 = .ok (.if_icmp .gt 7, 3) := dk_163 0 7 (dk_at dksJ7_min_0 2 rfl rfl)
theorem dJ7_min_5 : decode cJ7_min 5 = .ok (.iload_n 0, 1) := dk_26 (dk_at dksJ7_min_0 5 rfl rfl)
theorem dJ7_min_6 : decode cJ7_min 6 = .ok (.goto 4, 3) := dk_167 0 4 (dk_at dksJ7_min_0 6 rfl rfl)
theorem dJ7_min_9 : decode cJ7_min 9 = .ok (.iload_n 1, 1) := dk_27 (dk_at dksJ7_min_0 9 rfl rfl)
theorem dJ7_min_10 : decode cJ7_min 10 = .ok (.ireturn, 1) := dk_172 (dk_at dksJ7_min_0 10 rfl rfl)
abbrev mJ7_min : xM := (yJ7_min, cJ7_min, 2, (some .int), [])
def c_J7_min (x0 : Int32) (x1 : Int32) : Option Int32 :=
  if x1 < x0 then
    some x1
  else
    some x0
theorem w_J7_min {G : xG}  {T : xF} {x0 : Int32} {x1 : Int32} {q : Int32} (hf : c_J7_min x0 x1 = some q) : Ct G mJ7_min (1) T [.int x0, .int x1] (.inl (some (.int q))) T := by
  refine Ct.ofc (by decide +kernel) rfl (xvI (xvI xvN)) (Nat.le_of_ble_eq_true rfl) (show Xr G _ 0 [(0, .int x0), (1, .int x1)] [] _ from ?_)
  unfold c_J7_min at hf
  refine X.iload_n dJ7_min_0 rfl 0 rfl ?_
  refine X.iload_n dJ7_min_1 rfl 1 rfl ?_
  refine X.icmp_gt (tgt := 9) dJ7_min_2 (by decide) (fun c2 => ?_) (fun c2 => ?_)
  · have hf := if_t c2 hf
    refine X.iload_n dJ7_min_9 rfl 1 rfl ?_
    obtain rfl := Option.some.inj hf
    exact X.iret dJ7_min_10 rfl rfl rfl
  · have hf := if_f c2 hf
    refine X.iload_n dJ7_min_5 rfl 0 rfl ?_
    refine X.goto (tgt := 10) dJ7_min_6 (by decide) ?_
    obtain rfl := Option.some.inj hf
    exact X.iret dJ7_min_10 rfl rfl rfl
theorem cX1_245 : xCS RX1 245 mJ7_min 2 := ⟨lw_S q662 q416 q133 q417, rfl, ⟨by decide +kernel, by decide +kernel, by decide +kernel⟩, Nat.le_of_ble_eq_true rfl⟩
theorem cX3_79 : xCS RX3 79 mJ7_min 2 := ⟨lw_S q584 q416 q133 q417, rfl, ⟨by decide +kernel, by decide +kernel, by decide +kernel⟩, Nat.le_of_ble_eq_true rfl⟩
theorem cX5_107 : xCS RX5 107 mJ7_min 2 := ⟨lw_S q901 q416 q133 q417, rfl, ⟨by decide +kernel, by decide +kernel, by decide +kernel⟩, Nat.le_of_ble_eq_true rfl⟩
theorem cJ17_138 : xCS RJ17 138 mJ7_min 2 := ⟨lw_S q562 q416 q133 q417, rfl, ⟨by decide +kernel, by decide +kernel, by decide +kernel⟩, Nat.le_of_ble_eq_true rfl⟩
theorem cJ9_38 : xCS RJ9 38 mJ7_min 2 := ⟨lw_S q932 q416 q133 q417, rfl, ⟨by decide +kernel, by decide +kernel, by decide +kernel⟩, Nat.le_of_ble_eq_true rfl⟩
theorem cJ16_304 : xCS RJ16 304 mJ7_min 2 := ⟨lw_S q415 q416 q133 q417, rfl, ⟨by decide +kernel, by decide +kernel, by decide +kernel⟩, Nat.le_of_ble_eq_true rfl⟩
/-! java/lang/String checkIndex -/
abbrev cJ8_checkIndex : ByteArray := prog_28_method_155_code
def yJ8_checkIndex : MethodName := ⟨RJ8, "checkIndex", "(II)V"⟩
def dkwJ8_checkIndex_0 : List UInt8 := [26, 27, 178, 4, 29, 184, 4, 35, 87, 177]
abbrev dktJ8_checkIndex_0 : List UInt8 := dkwJ8_checkIndex_0 ++ []
theorem dksJ8_checkIndex_0 : cJ8_checkIndex.data.toList.drop 0 = dktJ8_checkIndex_0 := by decide +kernel
theorem dJ8_checkIndex_0 : decode cJ8_checkIndex 0 = .ok (.iload_n 0, 1) := dk_26 (dk_at dksJ8_checkIndex_0 0 rfl rfl)
theorem dJ8_checkIndex_1 : decode cJ8_checkIndex 1 = .ok (.iload_n 1, 1) := dk_27 (dk_at dksJ8_checkIndex_0 1 rfl rfl)
theorem dJ8_checkIndex_2 : decode cJ8_checkIndex 2 = .ok (.getstatic 1053, 3) := dk_178 4 29 (dk_at dksJ8_checkIndex_0 2 rfl rfl)
theorem dJ8_checkIndex_5 : decode cJ8_checkIndex 5 = .ok (.invokestatic 1059, 3) := dk_184 4 35 (dk_at dksJ8_checkIndex_0 5 rfl rfl)
theorem dJ8_checkIndex_8 : decode cJ8_checkIndex 8 = .ok (.pop, 1) := dk_87 (dk_at dksJ8_checkIndex_0 8 rfl rfl)
theorem dJ8_checkIndex_9 : decode cJ8_checkIndex 9 = .ok (.return_, 1) := dk_177 (dk_at dksJ8_checkIndex_0 9 rfl rfl)
abbrev mJ8_checkIndex : xM := (yJ8_checkIndex, cJ8_checkIndex, 2, none, [])
def c_J8_checkIndex (G : xG) (x0 : Int32) (x1 : Int32) : Option Unit :=
  (c_J11_checkIndex x0 x1 (gS G 5)).bind fun v5 =>
  some ()
theorem w_J8_checkIndex {G : xG}  {T : xF} {x0 : Int32} {x1 : Int32} {q : Unit} (hf : c_J8_checkIndex G x0 x1 = some q) : Ct G mJ8_checkIndex (2) T [.int x0, .int x1] (.inl none) T := by
  refine Ct.ofc (plainFor_of_name (by decide +kernel)) rfl (xvI (xvI xvN)) (Nat.le_of_ble_eq_true rfl) (show Xr G _ 0 [(0, .int x0), (1, .int x1)] [] _ from ?_)
  unfold c_J8_checkIndex at hf
  refine X.iload_n dJ8_checkIndex_0 rfl 0 rfl ?_
  refine X.iload_n dJ8_checkIndex_1 rfl 1 rfl ?_
  refine X.gets dJ8_checkIndex_2 (i := 5) rfl q566 rfl ?_
  obtain ⟨v5, h5, hf⟩ := ob hf
  refine X.keep fun l5 => C.Si (As := [.int x0, .int x1, va_rf (gS G 5)]) (rest := []) dJ8_checkIndex_5 (w_J11_checkIndex h5) cJ8_1059 rfl rfl (xcs xvN (Nat.le_of_ble_eq_true rfl)) (xD (Nat.le_of_ble_eq_true rfl)) xle.rf l5 ?_
  refine X.pop dJ8_checkIndex_8 rfl ?_
  obtain rfl := Option.some.inj hf
  exact X.vret dJ8_checkIndex_9 rfl rfl
theorem cJ17_144 : xCS RJ17 144 mJ8_checkIndex 2 := ⟨lw_S q563 q564 q134 q565, rfl, ⟨by decide +kernel, by decide +kernel, by decide +kernel⟩, Nat.le_of_ble_eq_true rfl⟩
theorem cJ9_9 : xCS RJ9 9 mJ8_checkIndex 2 := ⟨lw_S q992 q564 q134 q565, rfl, ⟨by decide +kernel, by decide +kernel, by decide +kernel⟩, Nat.le_of_ble_eq_true rfl⟩
/-! java/lang/AbstractStringBuilder charAt -/
abbrev cJ17_charAt : ByteArray := prog_14_method_14_code
def yJ17_charAt : MethodName := ⟨RJ17, "charAt", "(I)C"⟩
def dkwJ17_charAt_1 : List UInt8 := [21, 4, 184, 0, 144, 28, 154, 0, 12, 45, 27, 51, 17, 0, 255, 126, 146, 172, 45, 27, 184, 0, 148, 172]
abbrev dktJ17_charAt_1 : List UInt8 := dkwJ17_charAt_1 ++ []
def dkwJ17_charAt_0 : List UInt8 := [42, 180, 0, 22, 61, 42, 180, 0, 15, 78, 42, 180, 0, 79, 45, 190, 28, 122, 184, 0, 138, 54, 4, 27]
abbrev dktJ17_charAt_0 : List UInt8 := dkwJ17_charAt_0 ++ dktJ17_charAt_1
theorem dksJ17_charAt_0 : cJ17_charAt.data.toList.drop 0 = dktJ17_charAt_0 := by decide +kernel
theorem dksJ17_charAt_1 : cJ17_charAt.data.toList.drop 24 = dktJ17_charAt_1 := dk_seg dksJ17_charAt_0 24 rfl rfl
theorem dJ17_charAt_0 : decode cJ17_charAt 0 = .ok (.aload_n 0, 1) := dk_42 (dk_at dksJ17_charAt_0 0 rfl rfl)
theorem dJ17_charAt_1 : decode cJ17_charAt 1 = .ok (.getfield 22, 3) := dk_180 0 22 (dk_at dksJ17_charAt_0 1 rfl rfl)
theorem dJ17_charAt_4 : decode cJ17_charAt 4 = .ok (.istore_n 2, 1) := dk_61 (dk_at dksJ17_charAt_0 4 rfl rfl)
theorem dJ17_charAt_5 : decode cJ17_charAt 5 = .ok (.aload_n 0, 1) := dk_42 (dk_at dksJ17_charAt_0 5 rfl rfl)
theorem dJ17_charAt_6 : decode cJ17_charAt 6 = .ok (.getfield 15, 3) := dk_180 0 15 (dk_at dksJ17_charAt_0 6 rfl rfl)
theorem dJ17_charAt_9 : decode cJ17_charAt 9 = .ok (.astore_n 3, 1) := dk_78 (dk_at dksJ17_charAt_0 9 rfl rfl)
theorem dJ17_charAt_10 : decode cJ17_charAt 10 = .ok (.aload_n 0, 1) := dk_42 (dk_at dksJ17_charAt_0 10 rfl rfl)
theorem dJ17_charAt_11 : decode cJ17_charAt 11 = .ok (.getfield 79, 3) := dk_180 0 79 (dk_at dksJ17_charAt_0 11 rfl rfl)
theorem dJ17_charAt_14 : decode cJ17_charAt 14 = .ok (.aload_n 3, 1) := dk_45 (dk_at dksJ17_charAt_0 14 rfl rfl)
theorem dJ17_charAt_15 : decode cJ17_charAt 15 = .ok (.arraylength, 1) := dk_190 (dk_at dksJ17_charAt_0 15 rfl rfl)
theorem dJ17_charAt_16 : decode cJ17_charAt 16 = .ok (.iload_n 2, 1) := dk_28 (dk_at dksJ17_charAt_0 16 rfl rfl)
theorem dJ17_charAt_17 : decode cJ17_charAt 17 = .ok (.ishr, 1) := dk_122 (dk_at dksJ17_charAt_0 17 rfl rfl)
theorem dJ17_charAt_18 : decode cJ17_charAt 18 = .ok (.invokestatic 138, 3) := dk_184 0 138 (dk_at dksJ17_charAt_0 18 rfl rfl)
theorem dJ17_charAt_21 : decode cJ17_charAt 21 = .ok (.istore 4, 2) := dk_54 4 (dk_at dksJ17_charAt_0 21 rfl rfl)
theorem dJ17_charAt_23 : decode cJ17_charAt 23 = .ok (.iload_n 1, 1) := dk_27 (dk_at dksJ17_charAt_0 23 rfl rfl)
theorem dJ17_charAt_24 : decode cJ17_charAt 24 = .ok (.iload 4, 2) := dk_21 4 (dk_at dksJ17_charAt_1 0 rfl rfl)
theorem dJ17_charAt_26 : decode cJ17_charAt 26 = .ok (.invokestatic 144, 3) := dk_184 0 144 (dk_at dksJ17_charAt_1 2 rfl rfl)
theorem dJ17_charAt_29 : decode cJ17_charAt 29 = .ok (.iload_n 2, 1) := dk_28 (dk_at dksJ17_charAt_1 5 rfl rfl)
theorem dJ17_charAt_30 : decode cJ17_charAt 30 = .ok (.ifCond .ne 12, 3) := dk_154 0 12 (dk_at dksJ17_charAt_1 6 rfl rfl)
theorem dJ17_charAt_33 : decode cJ17_charAt 33 = .ok (.aload_n 3, 1) := dk_45 (dk_at dksJ17_charAt_1 9 rfl rfl)
theorem dJ17_charAt_34 : decode cJ17_charAt 34 = .ok (.iload_n 1, 1) := dk_27 (dk_at dksJ17_charAt_1 10 rfl rfl)
theorem dJ17_charAt_35 : decode cJ17_charAt 35 = .ok (.baload, 1) := dk_51 (dk_at dksJ17_charAt_1 11 rfl rfl)
theorem dJ17_charAt_36 : decode cJ17_charAt 36 = .ok (.sipush 255, 3) := dk_17 0 255 (dk_at dksJ17_charAt_1 12 rfl rfl)
theorem dJ17_charAt_39 : decode cJ17_charAt 39 = .ok (.iand, 1) := dk_126 (dk_at dksJ17_charAt_1 15 rfl rfl)
theorem dJ17_charAt_40 : decode cJ17_charAt 40 = .ok (.i2c, 1) := dk_146 (dk_at dksJ17_charAt_1 16 rfl rfl)
theorem dJ17_charAt_41 : decode cJ17_charAt 41 = .ok (.ireturn, 1) := dk_172 (dk_at dksJ17_charAt_1 17 rfl rfl)
theorem dJ17_charAt_42 : decode cJ17_charAt 42 = .ok (.aload_n 3, 1) := dk_45 (dk_at dksJ17_charAt_1 18 rfl rfl)
theorem dJ17_charAt_43 : decode cJ17_charAt 43 = .ok (.iload_n 1, 1) := dk_27 (dk_at dksJ17_charAt_1 19 rfl rfl)
theorem dJ17_charAt_44 : decode cJ17_charAt 44 = .ok (.invokestatic 148, 3) := dk_184 0 148 (dk_at dksJ17_charAt_1 20 rfl rfl)
theorem dJ17_charAt_47 : decode cJ17_charAt 47 = .ok (.ireturn, 1) := dk_172 (dk_at dksJ17_charAt_1 23 rfl rfl)
abbrev mJ17_charAt : xM := (yJ17_charAt, cJ17_charAt, 5, (some .char), [])
def c_J17_charAt (G : xG) (T : xF) (x0 : Option Nat) (x1 : Int32) : Option Int32 :=
  (oI T x0 12 1).bind fun v1 =>
  (oQ T x0 12 0).bind fun v6 =>
  (oI T x0 12 3).bind fun v11 =>
  (len T v6).bind fun v15 =>
  (c_J7_min v11 (v15 >>> (v1 &&& 31))).bind fun v18 =>
  (c_J8_checkIndex G x1 v18).bind fun v26 =>
  if v1 = 0 then
    (ldA T v6 .byte x1).bind fun v35 =>
    if ¬ vp_nar .char (((v35 &&& (255 : Int32)).toUInt32 % 65536).toInt32) = (((v35 &&& (255 : Int32)).toUInt32 % 65536).toInt32) then none else some (((v35 &&& (255 : Int32)).toUInt32 % 65536).toInt32)
  else
    none
theorem w_J17_charAt {G : xG}  {T : xF} {x0 : Option Nat} {x1 : Int32} {q : Int32} (hf : c_J17_charAt G T x0 x1 = some q) : Ct G mJ17_charAt (3) T [va_rf x0, .int x1] (.inl (some (.int q))) T := by
  refine Ct.ofc (plainFor_of_name (by decide +kernel)) rfl (xvQ (xvI xvN)) (Nat.le_of_ble_eq_true rfl) (show Xr G _ 0 [(0, va_rf x0), (1, .int x1)] [] _ from ?_)
  unfold c_J17_charAt at hf
  refine C.aload_n dJ17_charAt_0 rfl 0 rfl ?_
  obtain ⟨v1, h1, hf⟩ := ob hf
  refine C.getI dJ17_charAt_1 rJ17_22 h1 ?_
  refine C.ist_n (L' := [(2, .int v1), (0, va_rf x0), (1, .int x1)]) dJ17_charAt_4 rfl (Nat.le_of_ble_eq_true rfl) (xcQ (xcI xcN)) rfl ?_
  refine C.aload_n dJ17_charAt_5 rfl 1 rfl ?_
  obtain ⟨v6, h6, hf⟩ := ob hf
  refine C.getQ dJ17_charAt_6 rJ17_15 h6 ?_
  refine C.ast_n (L' := [(3, va_rf v6), (2, .int v1), (0, va_rf x0), (1, .int x1)]) dJ17_charAt_9 rfl (Nat.le_of_ble_eq_true rfl) (xcI (xcQ (xcI xcN))) rfl ?_
  refine C.aload_n dJ17_charAt_10 rfl 2 rfl ?_
  obtain ⟨v11, h11, hf⟩ := ob hf
  refine C.getI dJ17_charAt_11 rJ17_79 h11 ?_
  refine C.aload_n dJ17_charAt_14 rfl 0 rfl ?_
  obtain ⟨v15, h15, hf⟩ := ob hf
  refine C.alen dJ17_charAt_15 h15 ?_
  refine X.iload_n dJ17_charAt_16 rfl 1 rfl ?_
  refine X.ishr dJ17_charAt_17 ?_
  obtain ⟨v18, h18, hf⟩ := ob hf
  refine X.keep fun l18 => C.Si (As := [.int v11, .int (v15 >>> (v1 &&& 31))]) (rest := []) dJ17_charAt_18 (w_J7_min h18) cJ17_138 rfl rfl (xcs xvN (Nat.le_of_ble_eq_true rfl)) (xD (Nat.le_of_ble_eq_true rfl)) xle.rf l18 ?_
  refine C.ist (L' := [(4, .int v18), (3, va_rf v6), (2, .int v1), (0, va_rf x0), (1, .int x1)]) dJ17_charAt_21 (Nat.le_of_ble_eq_true rfl) (xcQ (xcI (xcQ (xcI xcN)))) rfl ?_
  refine X.iload_n dJ17_charAt_23 rfl 4 rfl ?_
  refine X.iload dJ17_charAt_24 0 rfl ?_
  obtain ⟨v26, h26, hf⟩ := ob hf
  refine X.keep fun l26 => C.Sv (As := [.int x1, .int v18]) (rest := []) dJ17_charAt_26 (w_J8_checkIndex h26) cJ17_144 rfl rfl (xcs xvN (Nat.le_of_ble_eq_true rfl)) (xD (Nat.le_of_ble_eq_true rfl)) xle.rf l26 ?_
  refine X.iload_n dJ17_charAt_29 rfl 2 rfl ?_
  refine X.if_ne (tgt := 42) dJ17_charAt_30 (by decide) (fun c30 => ?_) (fun c30 => ?_)
  · have hf := if_f c30 hf
    refine C.aload_n dJ17_charAt_42 rfl 1 rfl ?_
    refine X.iload_n dJ17_charAt_43 rfl 4 rfl ?_
    cases hf
  · have hf := if_t c30 hf
    refine C.aload_n dJ17_charAt_33 rfl 1 rfl ?_
    refine X.iload_n dJ17_charAt_34 rfl 4 rfl ?_
    obtain ⟨v35, h35, hf⟩ := ob hf
    refine C.bald dJ17_charAt_35 h35 ?_
    refine X.sipush (v := 255) dJ17_charAt_36 (by decide) ?_
    refine X.iand dJ17_charAt_39 ?_
    refine X.i2c dJ17_charAt_40 rfl ?_
    obtain ⟨cz, hf⟩ := if_n hf
    obtain rfl := Option.some.inj hf
    exact X.iret dJ17_charAt_41 rfl (nar_char (Classical.not_not.mp cz)) rfl
theorem cJ18_329 : xCSU RJ18 329 mJ17_charAt 1 := ⟨lw_SU q558 q2230 q559 q560 q149 q561, rfl, ⟨by decide +kernel, by decide +kernel⟩, Nat.le_of_ble_eq_true rfl⟩
/-! java/lang/StringBuilder charAt -/
abbrev cJ18_charAt : ByteArray := prog_29_method_88_code
def yJ18_charAt : MethodName := ⟨RJ18, "charAt", "(I)C"⟩
def dkwJ18_charAt_0 : List UInt8 := [42, 27, 183, 1, 73, 172]
abbrev dktJ18_charAt_0 : List UInt8 := dkwJ18_charAt_0 ++ []
theorem dksJ18_charAt_0 : cJ18_charAt.data.toList.drop 0 = dktJ18_charAt_0 := by decide +kernel
theorem dJ18_charAt_0 : decode cJ18_charAt 0 = .ok (.aload_n 0, 1) := dk_42 (dk_at dksJ18_charAt_0 0 rfl rfl)
theorem dJ18_charAt_1 : decode cJ18_charAt 1 = .ok (.iload_n 1, 1) := dk_27 (dk_at dksJ18_charAt_0 1 rfl rfl)
theorem dJ18_charAt_2 : decode cJ18_charAt 2 = .ok (.invokespecial 329, 3) := dk_183 1 73 (dk_at dksJ18_charAt_0 2 rfl rfl)
theorem dJ18_charAt_5 : decode cJ18_charAt 5 = .ok (.ireturn, 1) := dk_172 (dk_at dksJ18_charAt_0 5 rfl rfl)
abbrev mJ18_charAt : xM := (yJ18_charAt, cJ18_charAt, 2, (some .char), [])
def c_J18_charAt (G : xG) (T : xF) (x0 : Option Nat) (x1 : Int32) : Option Int32 :=
  if ¬ isO T x0 12 = true then none else
  (c_J17_charAt G T x0 x1).bind fun v2 =>
  if ¬ vp_nar .char v2 = v2 then none else some v2
theorem w_J18_charAt {G : xG}  {T : xF} {x0 : Option Nat} {x1 : Int32} {q : Int32} (hf : c_J18_charAt G T x0 x1 = some q) : Ct G mJ18_charAt (4) T [va_rf x0, .int x1] (.inl (some (.int q))) T := by
  refine Ct.ofc (plainFor_of_name (by decide +kernel)) rfl (xvQ (xvI xvN)) (Nat.le_of_ble_eq_true rfl) (show Xr G _ 0 [(0, va_rf x0), (1, .int x1)] [] _ from ?_)
  unfold c_J18_charAt at hf
  refine C.aload_n dJ18_charAt_0 rfl 0 rfl ?_
  refine X.iload_n dJ18_charAt_1 rfl 1 rfl ?_
  obtain ⟨c2, hf⟩ := if_n hf
  obtain ⟨v2, h2, hf⟩ := ob hf
  refine X.keep fun l2 => C.SUi (As := [.int x1]) (rest := []) dJ18_charAt_2 (w_J17_charAt h2) cJ18_329 (Classical.not_not.mp c2) rfl rfl (xcs xvN (Nat.le_of_ble_eq_true rfl)) rfl rfl (xD (Nat.le_of_ble_eq_true rfl)) xle.rf l2 ?_
  obtain ⟨cz, hf⟩ := if_n hf
  obtain rfl := Option.some.inj hf
  exact X.iret dJ18_charAt_5 rfl (nar_char (Classical.not_not.mp cz)) rfl
theorem cX7_47 : xCV RX7 47 mJ18_charAt 1 := ⟨lw_V q554 q555 q556 q150 q557, rfl, ⟨by decide +kernel, by decide +kernel, by decide +kernel⟩, Nat.le_of_ble_eq_true rfl⟩
/-! MouldVotes$Chain by -/
abbrev cX7_by : ByteArray := prog_2_method_5_code
def yX7_by : MethodName := ⟨RX7, "by", "(CII)I"⟩
def dkwX7_by_5 : List UInt8 := [167, 0, 4, 3, 172]
abbrev dktX7_by_5 : List UInt8 := dkwX7_by_5 ++ []
def dkwX7_by_4 : List UInt8 := [153, 0, 11, 28, 153, 0, 7, 4, 167, 0, 4, 3, 172, 27, 154, 0, 7, 28, 153, 0, 7, 4]
abbrev dktX7_by_4 : List UInt8 := dkwX7_by_4 ++ dktX7_by_5
def dkwX7_by_3 : List UInt8 := [27, 28, 162, 0, 7, 4, 167, 0, 4, 3, 172, 27, 28, 160, 0, 7, 4, 167, 0, 4, 3, 172, 27]
abbrev dktX7_by_3 : List UInt8 := dkwX7_by_3 ++ dktX7_by_4
def dkwX7_by_2 : List UInt8 := [27, 28, 96, 172, 27, 28, 100, 172, 27, 28, 104, 172, 28, 154, 0, 7, 3, 167, 0, 6, 27, 28, 108, 172]
abbrev dktX7_by_2 : List UInt8 := dkwX7_by_2 ++ dktX7_by_3
def dkwX7_by_1 : List UInt8 := [170, 0, 0, 0, 0, 0, 171, 0, 0, 0, 38, 0, 0, 0, 61, 0, 0, 0, 157, 0, 0, 0, 171, 0, 0, 0, 171, 0, 0, 0, 171, 0, 0, 0, 119, 0, 0, 0, 111, 0, 0, 0, 171, 0, 0, 0, 115, 0, 0, 0, 171, 0, 0, 0, 123, 0, 0, 0, 171, 0, 0, 0, 171, 0, 0, 0, 171, 0, 0, 0, 171, 0, 0, 0, 171, 0, 0, 0, 171, 0, 0, 0, 171, 0, 0, 0, 171, 0, 0, 0, 171, 0, 0, 0, 171, 0, 0, 0, 171, 0, 0, 0, 171, 0, 0, 0, 135, 0, 0, 0, 146]
abbrev dktX7_by_1 : List UInt8 := dkwX7_by_1 ++ dktX7_by_2
def dkwX7_by_0 : List UInt8 := [26]
abbrev dktX7_by_0 : List UInt8 := dkwX7_by_0 ++ dktX7_by_1
theorem dksX7_by_0 : cX7_by.data.toList.drop 0 = dktX7_by_0 := by decide +kernel
theorem dksX7_by_1 : cX7_by.data.toList.drop 1 = dktX7_by_1 := dk_seg dksX7_by_0 1 rfl rfl
theorem dksX7_by_2 : cX7_by.data.toList.drop 112 = dktX7_by_2 := dk_seg dksX7_by_1 111 rfl rfl
theorem dksX7_by_3 : cX7_by.data.toList.drop 136 = dktX7_by_3 := dk_seg dksX7_by_2 24 rfl rfl
theorem dksX7_by_4 : cX7_by.data.toList.drop 159 = dktX7_by_4 := dk_seg dksX7_by_3 23 rfl rfl
theorem dksX7_by_5 : cX7_by.data.toList.drop 181 = dktX7_by_5 := dk_seg dksX7_by_4 22 rfl rfl
theorem dX7_by_0 : decode cX7_by 0 = .ok (.iload_n 0, 1) := dk_26 (dk_at dksX7_by_0 0 rfl rfl)
theorem dX7_by_1 : decode cX7_by 1 = .ok (.tableswitch 171 38 61 #[157, 171, 171, 171, 119, 111, 171, 115, 171, 123, 171, 171, 171, 171, 171, 171, 171, 171, 171, 171, 171, 171, 135, 146], 111) := by decide +kernel
theorem dX7_by_112 : decode cX7_by 112 = .ok (.iload_n 1, 1) := dk_27 (dk_at dksX7_by_2 0 rfl rfl)
theorem dX7_by_113 : decode cX7_by 113 = .ok (.iload_n 2, 1) := dk_28 (dk_at dksX7_by_2 1 rfl rfl)
theorem dX7_by_114 : decode cX7_by 114 = .ok (.iadd, 1) := dk_96 (dk_at dksX7_by_2 2 rfl rfl)
theorem dX7_by_115 : decode cX7_by 115 = .ok (.ireturn, 1) := dk_172 (dk_at dksX7_by_2 3 rfl rfl)
theorem dX7_by_116 : decode cX7_by 116 = .ok (.iload_n 1, 1) := dk_27 (dk_at dksX7_by_2 4 rfl rfl)
theorem dX7_by_117 : decode cX7_by 117 = .ok (.iload_n 2, 1) := dk_28 (dk_at dksX7_by_2 5 rfl rfl)
theorem dX7_by_118 : decode cX7_by 118 = .ok (.isub, 1) := dk_100 (dk_at dksX7_by_2 6 rfl rfl)
theorem dX7_by_119 : decode cX7_by 119 = .ok (.ireturn, 1) := dk_172 (dk_at dksX7_by_2 7 rfl rfl)
theorem dX7_by_120 : decode cX7_by 120 = .ok (.iload_n 1, 1) := dk_27 (dk_at dksX7_by_2 8 rfl rfl)
theorem dX7_by_121 : decode cX7_by 121 = .ok (.iload_n 2, 1) := dk_28 (dk_at dksX7_by_2 9 rfl rfl)
theorem dX7_by_122 : decode cX7_by 122 = .ok (.imul, 1) := dk_104 (dk_at dksX7_by_2 10 rfl rfl)
theorem dX7_by_123 : decode cX7_by 123 = .ok (.ireturn, 1) := dk_172 (dk_at dksX7_by_2 11 rfl rfl)
theorem dX7_by_124 : decode cX7_by 124 = .ok (.iload_n 2, 1) := dk_28 (dk_at dksX7_by_2 12 rfl rfl)
theorem dX7_by_125 : decode cX7_by 125 = .ok (.ifCond .ne 7, 3) := dk_154 0 7 (dk_at dksX7_by_2 13 rfl rfl)
theorem dX7_by_128 : decode cX7_by 128 = .ok (.iconst 0, 1) := dk_3 (dk_at dksX7_by_2 16 rfl rfl)
theorem dX7_by_129 : decode cX7_by 129 = .ok (.goto 6, 3) := dk_167 0 6 (dk_at dksX7_by_2 17 rfl rfl)
theorem dX7_by_132 : decode cX7_by 132 = .ok (.iload_n 1, 1) := dk_27 (dk_at dksX7_by_2 20 rfl rfl)
theorem dX7_by_133 : decode cX7_by 133 = .ok (.iload_n 2, 1) := dk_28 (dk_at dksX7_by_2 21 rfl rfl)
theorem dX7_by_134 : decode cX7_by 134 = .ok (.idiv, 1) := dk_108 (dk_at dksX7_by_2 22 rfl rfl)
theorem dX7_by_135 : decode cX7_by 135 = .ok (.ireturn, 1) := dk_172 (dk_at dksX7_by_2 23 rfl rfl)
theorem dX7_by_136 : decode cX7_by 136 = .ok (.iload_n 1, 1) := dk_27 (dk_at dksX7_by_3 0 rfl rfl)
theorem dX7_by_137 : decode cX7_by 137 = .ok (.iload_n 2, 1) := dk_28 (dk_at dksX7_by_3 1 rfl rfl)
theorem dX7_by_138 : decode cX7_by 138 = .ok (.if_icmp .ge 7, 3) := dk_162 0 7 (dk_at dksX7_by_3 2 rfl rfl)
theorem dX7_by_141 : decode cX7_by 141 = .ok (.iconst 1, 1) := dk_4 (dk_at dksX7_by_3 5 rfl rfl)
theorem dX7_by_142 : decode cX7_by 142 = .ok (.goto 4, 3) := dk_167 0 4 (dk_at dksX7_by_3 6 rfl rfl)
theorem dX7_by_145 : decode cX7_by 145 = .ok (.iconst 0, 1) := dk_3 (dk_at dksX7_by_3 9 rfl rfl)
theorem dX7_by_146 : decode cX7_by 146 = .ok (.ireturn, 1) := dk_172 (dk_at dksX7_by_3 10 rfl rfl)
theorem dX7_by_147 : decode cX7_by 147 = .ok (.iload_n 1, 1) := dk_27 (dk_at dksX7_by_3 11 rfl rfl)
theorem dX7_by_148 : decode cX7_by 148 = .ok (.iload_n 2, 1) := dk_28 (dk_at dksX7_by_3 12 rfl rfl)
theorem dX7_by_149 : decode cX7_by 149 = .ok (.if_icmp .ne 7, 3) := dk_160 0 7 (dk_at dksX7_by_3 13 rfl rfl)
theorem dX7_by_152 : decode cX7_by 152 = .ok (.iconst 1, 1) := dk_4 (dk_at dksX7_by_3 16 rfl rfl)
theorem dX7_by_153 : decode cX7_by 153 = .ok (.goto 4, 3) := dk_167 0 4 (dk_at dksX7_by_3 17 rfl rfl)
theorem dX7_by_156 : decode cX7_by 156 = .ok (.iconst 0, 1) := dk_3 (dk_at dksX7_by_3 20 rfl rfl)
theorem dX7_by_157 : decode cX7_by 157 = .ok (.ireturn, 1) := dk_172 (dk_at dksX7_by_3 21 rfl rfl)
theorem dX7_by_158 : decode cX7_by 158 = .ok (.iload_n 1, 1) := dk_27 (dk_at dksX7_by_3 22 rfl rfl)
theorem dX7_by_159 : decode cX7_by 159 = .ok (.ifCond .eq 11, 3) := dk_153 0 11 (dk_at dksX7_by_4 0 rfl rfl)
theorem dX7_by_162 : decode cX7_by 162 = .ok (.iload_n 2, 1) := dk_28 (dk_at dksX7_by_4 3 rfl rfl)
theorem dX7_by_163 : decode cX7_by 163 = .ok (.ifCond .eq 7, 3) := dk_153 0 7 (dk_at dksX7_by_4 4 rfl rfl)
theorem dX7_by_166 : decode cX7_by 166 = .ok (.iconst 1, 1) := dk_4 (dk_at dksX7_by_4 7 rfl rfl)
theorem dX7_by_167 : decode cX7_by 167 = .ok (.goto 4, 3) := dk_167 0 4 (dk_at dksX7_by_4 8 rfl rfl)
theorem dX7_by_170 : decode cX7_by 170 = .ok (.iconst 0, 1) := dk_3 (dk_at dksX7_by_4 11 rfl rfl)
theorem dX7_by_171 : decode cX7_by 171 = .ok (.ireturn, 1) := dk_172 (dk_at dksX7_by_4 12 rfl rfl)
theorem dX7_by_172 : decode cX7_by 172 = .ok (.iload_n 1, 1) := dk_27 (dk_at dksX7_by_4 13 rfl rfl)
theorem dX7_by_173 : decode cX7_by 173 = .ok (.ifCond .ne 7, 3) := dk_154 0 7 (dk_at dksX7_by_4 14 rfl rfl)
theorem dX7_by_176 : decode cX7_by 176 = .ok (.iload_n 2, 1) := dk_28 (dk_at dksX7_by_4 17 rfl rfl)
theorem dX7_by_177 : decode cX7_by 177 = .ok (.ifCond .eq 7, 3) := dk_153 0 7 (dk_at dksX7_by_4 18 rfl rfl)
theorem dX7_by_180 : decode cX7_by 180 = .ok (.iconst 1, 1) := dk_4 (dk_at dksX7_by_4 21 rfl rfl)
theorem dX7_by_181 : decode cX7_by 181 = .ok (.goto 4, 3) := dk_167 0 4 (dk_at dksX7_by_5 0 rfl rfl)
theorem dX7_by_184 : decode cX7_by 184 = .ok (.iconst 0, 1) := dk_3 (dk_at dksX7_by_5 3 rfl rfl)
theorem dX7_by_185 : decode cX7_by 185 = .ok (.ireturn, 1) := dk_172 (dk_at dksX7_by_5 4 rfl rfl)
abbrev mX7_by : xM := (yX7_by, cX7_by, 3, (some .int), [])
def c_X7_by_180  : Option Int32 :=
  some (1 : Int32)
theorem c_X7_by_180_ok {G : xG}  {T : xF}    (q : Int32) (hf : c_X7_by_180  = some q) : Xr G (mX7_by, xrm (1) T T, T, .inl (some (.int q)), T) 180 [] [] T := by
  unfold c_X7_by_180 at hf
  refine X.iconst (v := 1) dX7_by_180 (by decide) ?_
  refine X.goto (tgt := 185) dX7_by_181 (by decide) ?_
  obtain rfl := Option.some.inj hf
  exact X.iret dX7_by_185 rfl rfl rfl
def c_X7_by (x0 : Int32) (x1 : Int32) (x2 : Int32) : Option Int32 :=
  if x0 = (38 : Int32) then
    if x1 = 0 then
      some (0 : Int32)
    else
      if x2 = 0 then
        some (0 : Int32)
      else
        some (1 : Int32)
  else
  if x0 = (39 : Int32) then
    if x1 = 0 then
      if x2 = 0 then
        some (0 : Int32)
      else
        c_X7_by_180 
    else
      c_X7_by_180 
  else
  if x0 = (40 : Int32) then
    if x1 = 0 then
      if x2 = 0 then
        some (0 : Int32)
      else
        c_X7_by_180 
    else
      c_X7_by_180 
  else
  if x0 = (41 : Int32) then
    if x1 = 0 then
      if x2 = 0 then
        some (0 : Int32)
      else
        c_X7_by_180 
    else
      c_X7_by_180 
  else
  if x0 = (42 : Int32) then
    some (x1 * x2)
  else
  if x0 = (43 : Int32) then
    some (x1 + x2)
  else
  if x0 = (44 : Int32) then
    if x1 = 0 then
      if x2 = 0 then
        some (0 : Int32)
      else
        c_X7_by_180 
    else
      c_X7_by_180 
  else
  if x0 = (45 : Int32) then
    some (x1 - x2)
  else
  if x0 = (46 : Int32) then
    if x1 = 0 then
      if x2 = 0 then
        some (0 : Int32)
      else
        c_X7_by_180 
    else
      c_X7_by_180 
  else
  if x0 = (47 : Int32) then
    if x2 = 0 then
      some (0 : Int32)
    else
      if x2 = 0 then none else
      some (x1 / x2)
  else
  if x0 = (48 : Int32) then
    if x1 = 0 then
      if x2 = 0 then
        some (0 : Int32)
      else
        c_X7_by_180 
    else
      c_X7_by_180 
  else
  if x0 = (49 : Int32) then
    if x1 = 0 then
      if x2 = 0 then
        some (0 : Int32)
      else
        c_X7_by_180 
    else
      c_X7_by_180 
  else
  if x0 = (50 : Int32) then
    if x1 = 0 then
      if x2 = 0 then
        some (0 : Int32)
      else
        c_X7_by_180 
    else
      c_X7_by_180 
  else
  if x0 = (51 : Int32) then
    if x1 = 0 then
      if x2 = 0 then
        some (0 : Int32)
      else
        c_X7_by_180 
    else
      c_X7_by_180 
  else
  if x0 = (52 : Int32) then
    if x1 = 0 then
      if x2 = 0 then
        some (0 : Int32)
      else
        c_X7_by_180 
    else
      c_X7_by_180 
  else
  if x0 = (53 : Int32) then
    if x1 = 0 then
      if x2 = 0 then
        some (0 : Int32)
      else
        c_X7_by_180 
    else
      c_X7_by_180 
  else
  if x0 = (54 : Int32) then
    if x1 = 0 then
      if x2 = 0 then
        some (0 : Int32)
      else
        c_X7_by_180 
    else
      c_X7_by_180 
  else
  if x0 = (55 : Int32) then
    if x1 = 0 then
      if x2 = 0 then
        some (0 : Int32)
      else
        c_X7_by_180 
    else
      c_X7_by_180 
  else
  if x0 = (56 : Int32) then
    if x1 = 0 then
      if x2 = 0 then
        some (0 : Int32)
      else
        c_X7_by_180 
    else
      c_X7_by_180 
  else
  if x0 = (57 : Int32) then
    if x1 = 0 then
      if x2 = 0 then
        some (0 : Int32)
      else
        c_X7_by_180 
    else
      c_X7_by_180 
  else
  if x0 = (58 : Int32) then
    if x1 = 0 then
      if x2 = 0 then
        some (0 : Int32)
      else
        c_X7_by_180 
    else
      c_X7_by_180 
  else
  if x0 = (59 : Int32) then
    if x1 = 0 then
      if x2 = 0 then
        some (0 : Int32)
      else
        c_X7_by_180 
    else
      c_X7_by_180 
  else
  if x0 = (60 : Int32) then
    if x2 ≤ x1 then
      some (0 : Int32)
    else
      some (1 : Int32)
  else
  if x0 = (61 : Int32) then
    if x1 = x2 then
      some (1 : Int32)
    else
      some (0 : Int32)
  else
    if x1 = 0 then
      if x2 = 0 then
        some (0 : Int32)
      else
        c_X7_by_180 
    else
      c_X7_by_180 
theorem w_X7_by {G : xG}  {T : xF} {x0 : Int32} {x1 : Int32} {x2 : Int32} {q : Int32} (hf : c_X7_by x0 x1 x2 = some q) : Ct G mX7_by (1) T [.int x0, .int x1, .int x2] (.inl (some (.int q))) T := by
  refine Ct.ofc (plainFor_of_name (by decide +kernel)) rfl (xvI (xvI (xvI xvN))) (Nat.le_of_ble_eq_true rfl) (show Xr G _ 0 [(0, .int x0), (1, .int x1), (2, .int x2)] [] _ from ?_)
  unfold c_X7_by at hf
  refine X.iload_n dX7_by_0 rfl 0 rfl ?_
  by_cases c1_38 : x0 = (38 : Int32)
  · have hf := if_t c1_38 hf
    refine X.tableC (tgt := 158) c1_38 dX7_by_1 (by decide) (by decide) rfl (by decide) ?_
    refine X.iload_n dX7_by_158 rfl 1 rfl ?_
    refine X.if_eq (tgt := 170) dX7_by_159 (by decide) (fun c159 => ?_) (fun c159 => ?_)
    · have hf := if_t c159 hf
      refine X.iconst (v := 0) dX7_by_170 (by decide) ?_
      obtain rfl := Option.some.inj hf
      exact X.iret dX7_by_171 rfl rfl rfl
    · have hf := if_f c159 hf
      refine X.iload_n dX7_by_162 rfl 2 rfl ?_
      refine X.if_eq (tgt := 170) dX7_by_163 (by decide) (fun c163 => ?_) (fun c163 => ?_)
      · have hf := if_t c163 hf
        refine X.iconst (v := 0) dX7_by_170 (by decide) ?_
        obtain rfl := Option.some.inj hf
        exact X.iret dX7_by_171 rfl rfl rfl
      · have hf := if_f c163 hf
        refine X.iconst (v := 1) dX7_by_166 (by decide) ?_
        refine X.goto (tgt := 171) dX7_by_167 (by decide) ?_
        obtain rfl := Option.some.inj hf
        exact X.iret dX7_by_171 rfl rfl rfl
  have hf := if_f c1_38 hf
  by_cases c1_39 : x0 = (39 : Int32)
  · have hf := if_t c1_39 hf
    refine X.tableC (tgt := 172) c1_39 dX7_by_1 (by decide) (by decide) rfl (by decide) ?_
    refine X.iload_n dX7_by_172 rfl 1 rfl ?_
    refine X.if_ne (tgt := 180) dX7_by_173 (by decide) (fun c173 => ?_) (fun c173 => ?_)
    · have hf := if_f c173 hf
      refine X.sub [] (L' := []) rfl ?_
      exact c_X7_by_180_ok  _ hf
    · have hf := if_t c173 hf
      refine X.iload_n dX7_by_176 rfl 2 rfl ?_
      refine X.if_eq (tgt := 184) dX7_by_177 (by decide) (fun c177 => ?_) (fun c177 => ?_)
      · have hf := if_t c177 hf
        refine X.iconst (v := 0) dX7_by_184 (by decide) ?_
        obtain rfl := Option.some.inj hf
        exact X.iret dX7_by_185 rfl rfl rfl
      · have hf := if_f c177 hf
        refine X.sub [] (L' := []) rfl ?_
        exact c_X7_by_180_ok  _ hf
  have hf := if_f c1_39 hf
  by_cases c1_40 : x0 = (40 : Int32)
  · have hf := if_t c1_40 hf
    refine X.tableC (tgt := 172) c1_40 dX7_by_1 (by decide) (by decide) rfl (by decide) ?_
    refine X.iload_n dX7_by_172 rfl 1 rfl ?_
    refine X.if_ne (tgt := 180) dX7_by_173 (by decide) (fun c173 => ?_) (fun c173 => ?_)
    · have hf := if_f c173 hf
      refine X.sub [] (L' := []) rfl ?_
      exact c_X7_by_180_ok  _ hf
    · have hf := if_t c173 hf
      refine X.iload_n dX7_by_176 rfl 2 rfl ?_
      refine X.if_eq (tgt := 184) dX7_by_177 (by decide) (fun c177 => ?_) (fun c177 => ?_)
      · have hf := if_t c177 hf
        refine X.iconst (v := 0) dX7_by_184 (by decide) ?_
        obtain rfl := Option.some.inj hf
        exact X.iret dX7_by_185 rfl rfl rfl
      · have hf := if_f c177 hf
        refine X.sub [] (L' := []) rfl ?_
        exact c_X7_by_180_ok  _ hf
  have hf := if_f c1_40 hf
  by_cases c1_41 : x0 = (41 : Int32)
  · have hf := if_t c1_41 hf
    refine X.tableC (tgt := 172) c1_41 dX7_by_1 (by decide) (by decide) rfl (by decide) ?_
    refine X.iload_n dX7_by_172 rfl 1 rfl ?_
    refine X.if_ne (tgt := 180) dX7_by_173 (by decide) (fun c173 => ?_) (fun c173 => ?_)
    · have hf := if_f c173 hf
      refine X.sub [] (L' := []) rfl ?_
      exact c_X7_by_180_ok  _ hf
    · have hf := if_t c173 hf
      refine X.iload_n dX7_by_176 rfl 2 rfl ?_
      refine X.if_eq (tgt := 184) dX7_by_177 (by decide) (fun c177 => ?_) (fun c177 => ?_)
      · have hf := if_t c177 hf
        refine X.iconst (v := 0) dX7_by_184 (by decide) ?_
        obtain rfl := Option.some.inj hf
        exact X.iret dX7_by_185 rfl rfl rfl
      · have hf := if_f c177 hf
        refine X.sub [] (L' := []) rfl ?_
        exact c_X7_by_180_ok  _ hf
  have hf := if_f c1_41 hf
  by_cases c1_42 : x0 = (42 : Int32)
  · have hf := if_t c1_42 hf
    refine X.tableC (tgt := 120) c1_42 dX7_by_1 (by decide) (by decide) rfl (by decide) ?_
    refine X.iload_n dX7_by_120 rfl 1 rfl ?_
    refine X.iload_n dX7_by_121 rfl 2 rfl ?_
    refine X.imul dX7_by_122 ?_
    obtain rfl := Option.some.inj hf
    exact X.iret dX7_by_123 rfl rfl rfl
  have hf := if_f c1_42 hf
  by_cases c1_43 : x0 = (43 : Int32)
  · have hf := if_t c1_43 hf
    refine X.tableC (tgt := 112) c1_43 dX7_by_1 (by decide) (by decide) rfl (by decide) ?_
    refine X.iload_n dX7_by_112 rfl 1 rfl ?_
    refine X.iload_n dX7_by_113 rfl 2 rfl ?_
    refine X.iadd dX7_by_114 ?_
    obtain rfl := Option.some.inj hf
    exact X.iret dX7_by_115 rfl rfl rfl
  have hf := if_f c1_43 hf
  by_cases c1_44 : x0 = (44 : Int32)
  · have hf := if_t c1_44 hf
    refine X.tableC (tgt := 172) c1_44 dX7_by_1 (by decide) (by decide) rfl (by decide) ?_
    refine X.iload_n dX7_by_172 rfl 1 rfl ?_
    refine X.if_ne (tgt := 180) dX7_by_173 (by decide) (fun c173 => ?_) (fun c173 => ?_)
    · have hf := if_f c173 hf
      refine X.sub [] (L' := []) rfl ?_
      exact c_X7_by_180_ok  _ hf
    · have hf := if_t c173 hf
      refine X.iload_n dX7_by_176 rfl 2 rfl ?_
      refine X.if_eq (tgt := 184) dX7_by_177 (by decide) (fun c177 => ?_) (fun c177 => ?_)
      · have hf := if_t c177 hf
        refine X.iconst (v := 0) dX7_by_184 (by decide) ?_
        obtain rfl := Option.some.inj hf
        exact X.iret dX7_by_185 rfl rfl rfl
      · have hf := if_f c177 hf
        refine X.sub [] (L' := []) rfl ?_
        exact c_X7_by_180_ok  _ hf
  have hf := if_f c1_44 hf
  by_cases c1_45 : x0 = (45 : Int32)
  · have hf := if_t c1_45 hf
    refine X.tableC (tgt := 116) c1_45 dX7_by_1 (by decide) (by decide) rfl (by decide) ?_
    refine X.iload_n dX7_by_116 rfl 1 rfl ?_
    refine X.iload_n dX7_by_117 rfl 2 rfl ?_
    refine X.isub dX7_by_118 ?_
    obtain rfl := Option.some.inj hf
    exact X.iret dX7_by_119 rfl rfl rfl
  have hf := if_f c1_45 hf
  by_cases c1_46 : x0 = (46 : Int32)
  · have hf := if_t c1_46 hf
    refine X.tableC (tgt := 172) c1_46 dX7_by_1 (by decide) (by decide) rfl (by decide) ?_
    refine X.iload_n dX7_by_172 rfl 1 rfl ?_
    refine X.if_ne (tgt := 180) dX7_by_173 (by decide) (fun c173 => ?_) (fun c173 => ?_)
    · have hf := if_f c173 hf
      refine X.sub [] (L' := []) rfl ?_
      exact c_X7_by_180_ok  _ hf
    · have hf := if_t c173 hf
      refine X.iload_n dX7_by_176 rfl 2 rfl ?_
      refine X.if_eq (tgt := 184) dX7_by_177 (by decide) (fun c177 => ?_) (fun c177 => ?_)
      · have hf := if_t c177 hf
        refine X.iconst (v := 0) dX7_by_184 (by decide) ?_
        obtain rfl := Option.some.inj hf
        exact X.iret dX7_by_185 rfl rfl rfl
      · have hf := if_f c177 hf
        refine X.sub [] (L' := []) rfl ?_
        exact c_X7_by_180_ok  _ hf
  have hf := if_f c1_46 hf
  by_cases c1_47 : x0 = (47 : Int32)
  · have hf := if_t c1_47 hf
    refine X.tableC (tgt := 124) c1_47 dX7_by_1 (by decide) (by decide) rfl (by decide) ?_
    refine X.iload_n dX7_by_124 rfl 2 rfl ?_
    refine X.if_ne (tgt := 132) dX7_by_125 (by decide) (fun c125 => ?_) (fun c125 => ?_)
    · have hf := if_f c125 hf
      refine X.iload_n dX7_by_132 rfl 1 rfl ?_
      refine X.iload_n dX7_by_133 rfl 2 rfl ?_
      obtain ⟨c134, hf⟩ := if_n hf
      refine X.idiv dX7_by_134 c134 ?_
      obtain rfl := Option.some.inj hf
      exact X.iret dX7_by_135 rfl rfl rfl
    · have hf := if_t c125 hf
      refine X.iconst (v := 0) dX7_by_128 (by decide) ?_
      refine X.goto (tgt := 135) dX7_by_129 (by decide) ?_
      obtain rfl := Option.some.inj hf
      exact X.iret dX7_by_135 rfl rfl rfl
  have hf := if_f c1_47 hf
  by_cases c1_48 : x0 = (48 : Int32)
  · have hf := if_t c1_48 hf
    refine X.tableC (tgt := 172) c1_48 dX7_by_1 (by decide) (by decide) rfl (by decide) ?_
    refine X.iload_n dX7_by_172 rfl 1 rfl ?_
    refine X.if_ne (tgt := 180) dX7_by_173 (by decide) (fun c173 => ?_) (fun c173 => ?_)
    · have hf := if_f c173 hf
      refine X.sub [] (L' := []) rfl ?_
      exact c_X7_by_180_ok  _ hf
    · have hf := if_t c173 hf
      refine X.iload_n dX7_by_176 rfl 2 rfl ?_
      refine X.if_eq (tgt := 184) dX7_by_177 (by decide) (fun c177 => ?_) (fun c177 => ?_)
      · have hf := if_t c177 hf
        refine X.iconst (v := 0) dX7_by_184 (by decide) ?_
        obtain rfl := Option.some.inj hf
        exact X.iret dX7_by_185 rfl rfl rfl
      · have hf := if_f c177 hf
        refine X.sub [] (L' := []) rfl ?_
        exact c_X7_by_180_ok  _ hf
  have hf := if_f c1_48 hf
  by_cases c1_49 : x0 = (49 : Int32)
  · have hf := if_t c1_49 hf
    refine X.tableC (tgt := 172) c1_49 dX7_by_1 (by decide) (by decide) rfl (by decide) ?_
    refine X.iload_n dX7_by_172 rfl 1 rfl ?_
    refine X.if_ne (tgt := 180) dX7_by_173 (by decide) (fun c173 => ?_) (fun c173 => ?_)
    · have hf := if_f c173 hf
      refine X.sub [] (L' := []) rfl ?_
      exact c_X7_by_180_ok  _ hf
    · have hf := if_t c173 hf
      refine X.iload_n dX7_by_176 rfl 2 rfl ?_
      refine X.if_eq (tgt := 184) dX7_by_177 (by decide) (fun c177 => ?_) (fun c177 => ?_)
      · have hf := if_t c177 hf
        refine X.iconst (v := 0) dX7_by_184 (by decide) ?_
        obtain rfl := Option.some.inj hf
        exact X.iret dX7_by_185 rfl rfl rfl
      · have hf := if_f c177 hf
        refine X.sub [] (L' := []) rfl ?_
        exact c_X7_by_180_ok  _ hf
  have hf := if_f c1_49 hf
  by_cases c1_50 : x0 = (50 : Int32)
  · have hf := if_t c1_50 hf
    refine X.tableC (tgt := 172) c1_50 dX7_by_1 (by decide) (by decide) rfl (by decide) ?_
    refine X.iload_n dX7_by_172 rfl 1 rfl ?_
    refine X.if_ne (tgt := 180) dX7_by_173 (by decide) (fun c173 => ?_) (fun c173 => ?_)
    · have hf := if_f c173 hf
      refine X.sub [] (L' := []) rfl ?_
      exact c_X7_by_180_ok  _ hf
    · have hf := if_t c173 hf
      refine X.iload_n dX7_by_176 rfl 2 rfl ?_
      refine X.if_eq (tgt := 184) dX7_by_177 (by decide) (fun c177 => ?_) (fun c177 => ?_)
      · have hf := if_t c177 hf
        refine X.iconst (v := 0) dX7_by_184 (by decide) ?_
        obtain rfl := Option.some.inj hf
        exact X.iret dX7_by_185 rfl rfl rfl
      · have hf := if_f c177 hf
        refine X.sub [] (L' := []) rfl ?_
        exact c_X7_by_180_ok  _ hf
  have hf := if_f c1_50 hf
  by_cases c1_51 : x0 = (51 : Int32)
  · have hf := if_t c1_51 hf
    refine X.tableC (tgt := 172) c1_51 dX7_by_1 (by decide) (by decide) rfl (by decide) ?_
    refine X.iload_n dX7_by_172 rfl 1 rfl ?_
    refine X.if_ne (tgt := 180) dX7_by_173 (by decide) (fun c173 => ?_) (fun c173 => ?_)
    · have hf := if_f c173 hf
      refine X.sub [] (L' := []) rfl ?_
      exact c_X7_by_180_ok  _ hf
    · have hf := if_t c173 hf
      refine X.iload_n dX7_by_176 rfl 2 rfl ?_
      refine X.if_eq (tgt := 184) dX7_by_177 (by decide) (fun c177 => ?_) (fun c177 => ?_)
      · have hf := if_t c177 hf
        refine X.iconst (v := 0) dX7_by_184 (by decide) ?_
        obtain rfl := Option.some.inj hf
        exact X.iret dX7_by_185 rfl rfl rfl
      · have hf := if_f c177 hf
        refine X.sub [] (L' := []) rfl ?_
        exact c_X7_by_180_ok  _ hf
  have hf := if_f c1_51 hf
  by_cases c1_52 : x0 = (52 : Int32)
  · have hf := if_t c1_52 hf
    refine X.tableC (tgt := 172) c1_52 dX7_by_1 (by decide) (by decide) rfl (by decide) ?_
    refine X.iload_n dX7_by_172 rfl 1 rfl ?_
    refine X.if_ne (tgt := 180) dX7_by_173 (by decide) (fun c173 => ?_) (fun c173 => ?_)
    · have hf := if_f c173 hf
      refine X.sub [] (L' := []) rfl ?_
      exact c_X7_by_180_ok  _ hf
    · have hf := if_t c173 hf
      refine X.iload_n dX7_by_176 rfl 2 rfl ?_
      refine X.if_eq (tgt := 184) dX7_by_177 (by decide) (fun c177 => ?_) (fun c177 => ?_)
      · have hf := if_t c177 hf
        refine X.iconst (v := 0) dX7_by_184 (by decide) ?_
        obtain rfl := Option.some.inj hf
        exact X.iret dX7_by_185 rfl rfl rfl
      · have hf := if_f c177 hf
        refine X.sub [] (L' := []) rfl ?_
        exact c_X7_by_180_ok  _ hf
  have hf := if_f c1_52 hf
  by_cases c1_53 : x0 = (53 : Int32)
  · have hf := if_t c1_53 hf
    refine X.tableC (tgt := 172) c1_53 dX7_by_1 (by decide) (by decide) rfl (by decide) ?_
    refine X.iload_n dX7_by_172 rfl 1 rfl ?_
    refine X.if_ne (tgt := 180) dX7_by_173 (by decide) (fun c173 => ?_) (fun c173 => ?_)
    · have hf := if_f c173 hf
      refine X.sub [] (L' := []) rfl ?_
      exact c_X7_by_180_ok  _ hf
    · have hf := if_t c173 hf
      refine X.iload_n dX7_by_176 rfl 2 rfl ?_
      refine X.if_eq (tgt := 184) dX7_by_177 (by decide) (fun c177 => ?_) (fun c177 => ?_)
      · have hf := if_t c177 hf
        refine X.iconst (v := 0) dX7_by_184 (by decide) ?_
        obtain rfl := Option.some.inj hf
        exact X.iret dX7_by_185 rfl rfl rfl
      · have hf := if_f c177 hf
        refine X.sub [] (L' := []) rfl ?_
        exact c_X7_by_180_ok  _ hf
  have hf := if_f c1_53 hf
  by_cases c1_54 : x0 = (54 : Int32)
  · have hf := if_t c1_54 hf
    refine X.tableC (tgt := 172) c1_54 dX7_by_1 (by decide) (by decide) rfl (by decide) ?_
    refine X.iload_n dX7_by_172 rfl 1 rfl ?_
    refine X.if_ne (tgt := 180) dX7_by_173 (by decide) (fun c173 => ?_) (fun c173 => ?_)
    · have hf := if_f c173 hf
      refine X.sub [] (L' := []) rfl ?_
      exact c_X7_by_180_ok  _ hf
    · have hf := if_t c173 hf
      refine X.iload_n dX7_by_176 rfl 2 rfl ?_
      refine X.if_eq (tgt := 184) dX7_by_177 (by decide) (fun c177 => ?_) (fun c177 => ?_)
      · have hf := if_t c177 hf
        refine X.iconst (v := 0) dX7_by_184 (by decide) ?_
        obtain rfl := Option.some.inj hf
        exact X.iret dX7_by_185 rfl rfl rfl
      · have hf := if_f c177 hf
        refine X.sub [] (L' := []) rfl ?_
        exact c_X7_by_180_ok  _ hf
  have hf := if_f c1_54 hf
  by_cases c1_55 : x0 = (55 : Int32)
  · have hf := if_t c1_55 hf
    refine X.tableC (tgt := 172) c1_55 dX7_by_1 (by decide) (by decide) rfl (by decide) ?_
    refine X.iload_n dX7_by_172 rfl 1 rfl ?_
    refine X.if_ne (tgt := 180) dX7_by_173 (by decide) (fun c173 => ?_) (fun c173 => ?_)
    · have hf := if_f c173 hf
      refine X.sub [] (L' := []) rfl ?_
      exact c_X7_by_180_ok  _ hf
    · have hf := if_t c173 hf
      refine X.iload_n dX7_by_176 rfl 2 rfl ?_
      refine X.if_eq (tgt := 184) dX7_by_177 (by decide) (fun c177 => ?_) (fun c177 => ?_)
      · have hf := if_t c177 hf
        refine X.iconst (v := 0) dX7_by_184 (by decide) ?_
        obtain rfl := Option.some.inj hf
        exact X.iret dX7_by_185 rfl rfl rfl
      · have hf := if_f c177 hf
        refine X.sub [] (L' := []) rfl ?_
        exact c_X7_by_180_ok  _ hf
  have hf := if_f c1_55 hf
  by_cases c1_56 : x0 = (56 : Int32)
  · have hf := if_t c1_56 hf
    refine X.tableC (tgt := 172) c1_56 dX7_by_1 (by decide) (by decide) rfl (by decide) ?_
    refine X.iload_n dX7_by_172 rfl 1 rfl ?_
    refine X.if_ne (tgt := 180) dX7_by_173 (by decide) (fun c173 => ?_) (fun c173 => ?_)
    · have hf := if_f c173 hf
      refine X.sub [] (L' := []) rfl ?_
      exact c_X7_by_180_ok  _ hf
    · have hf := if_t c173 hf
      refine X.iload_n dX7_by_176 rfl 2 rfl ?_
      refine X.if_eq (tgt := 184) dX7_by_177 (by decide) (fun c177 => ?_) (fun c177 => ?_)
      · have hf := if_t c177 hf
        refine X.iconst (v := 0) dX7_by_184 (by decide) ?_
        obtain rfl := Option.some.inj hf
        exact X.iret dX7_by_185 rfl rfl rfl
      · have hf := if_f c177 hf
        refine X.sub [] (L' := []) rfl ?_
        exact c_X7_by_180_ok  _ hf
  have hf := if_f c1_56 hf
  by_cases c1_57 : x0 = (57 : Int32)
  · have hf := if_t c1_57 hf
    refine X.tableC (tgt := 172) c1_57 dX7_by_1 (by decide) (by decide) rfl (by decide) ?_
    refine X.iload_n dX7_by_172 rfl 1 rfl ?_
    refine X.if_ne (tgt := 180) dX7_by_173 (by decide) (fun c173 => ?_) (fun c173 => ?_)
    · have hf := if_f c173 hf
      refine X.sub [] (L' := []) rfl ?_
      exact c_X7_by_180_ok  _ hf
    · have hf := if_t c173 hf
      refine X.iload_n dX7_by_176 rfl 2 rfl ?_
      refine X.if_eq (tgt := 184) dX7_by_177 (by decide) (fun c177 => ?_) (fun c177 => ?_)
      · have hf := if_t c177 hf
        refine X.iconst (v := 0) dX7_by_184 (by decide) ?_
        obtain rfl := Option.some.inj hf
        exact X.iret dX7_by_185 rfl rfl rfl
      · have hf := if_f c177 hf
        refine X.sub [] (L' := []) rfl ?_
        exact c_X7_by_180_ok  _ hf
  have hf := if_f c1_57 hf
  by_cases c1_58 : x0 = (58 : Int32)
  · have hf := if_t c1_58 hf
    refine X.tableC (tgt := 172) c1_58 dX7_by_1 (by decide) (by decide) rfl (by decide) ?_
    refine X.iload_n dX7_by_172 rfl 1 rfl ?_
    refine X.if_ne (tgt := 180) dX7_by_173 (by decide) (fun c173 => ?_) (fun c173 => ?_)
    · have hf := if_f c173 hf
      refine X.sub [] (L' := []) rfl ?_
      exact c_X7_by_180_ok  _ hf
    · have hf := if_t c173 hf
      refine X.iload_n dX7_by_176 rfl 2 rfl ?_
      refine X.if_eq (tgt := 184) dX7_by_177 (by decide) (fun c177 => ?_) (fun c177 => ?_)
      · have hf := if_t c177 hf
        refine X.iconst (v := 0) dX7_by_184 (by decide) ?_
        obtain rfl := Option.some.inj hf
        exact X.iret dX7_by_185 rfl rfl rfl
      · have hf := if_f c177 hf
        refine X.sub [] (L' := []) rfl ?_
        exact c_X7_by_180_ok  _ hf
  have hf := if_f c1_58 hf
  by_cases c1_59 : x0 = (59 : Int32)
  · have hf := if_t c1_59 hf
    refine X.tableC (tgt := 172) c1_59 dX7_by_1 (by decide) (by decide) rfl (by decide) ?_
    refine X.iload_n dX7_by_172 rfl 1 rfl ?_
    refine X.if_ne (tgt := 180) dX7_by_173 (by decide) (fun c173 => ?_) (fun c173 => ?_)
    · have hf := if_f c173 hf
      refine X.sub [] (L' := []) rfl ?_
      exact c_X7_by_180_ok  _ hf
    · have hf := if_t c173 hf
      refine X.iload_n dX7_by_176 rfl 2 rfl ?_
      refine X.if_eq (tgt := 184) dX7_by_177 (by decide) (fun c177 => ?_) (fun c177 => ?_)
      · have hf := if_t c177 hf
        refine X.iconst (v := 0) dX7_by_184 (by decide) ?_
        obtain rfl := Option.some.inj hf
        exact X.iret dX7_by_185 rfl rfl rfl
      · have hf := if_f c177 hf
        refine X.sub [] (L' := []) rfl ?_
        exact c_X7_by_180_ok  _ hf
  have hf := if_f c1_59 hf
  by_cases c1_60 : x0 = (60 : Int32)
  · have hf := if_t c1_60 hf
    refine X.tableC (tgt := 136) c1_60 dX7_by_1 (by decide) (by decide) rfl (by decide) ?_
    refine X.iload_n dX7_by_136 rfl 1 rfl ?_
    refine X.iload_n dX7_by_137 rfl 2 rfl ?_
    refine X.icmp_ge (tgt := 145) dX7_by_138 (by decide) (fun c138 => ?_) (fun c138 => ?_)
    · have hf := if_t c138 hf
      refine X.iconst (v := 0) dX7_by_145 (by decide) ?_
      obtain rfl := Option.some.inj hf
      exact X.iret dX7_by_146 rfl rfl rfl
    · have hf := if_f c138 hf
      refine X.iconst (v := 1) dX7_by_141 (by decide) ?_
      refine X.goto (tgt := 146) dX7_by_142 (by decide) ?_
      obtain rfl := Option.some.inj hf
      exact X.iret dX7_by_146 rfl rfl rfl
  have hf := if_f c1_60 hf
  by_cases c1_61 : x0 = (61 : Int32)
  · have hf := if_t c1_61 hf
    refine X.tableC (tgt := 147) c1_61 dX7_by_1 (by decide) (by decide) rfl (by decide) ?_
    refine X.iload_n dX7_by_147 rfl 1 rfl ?_
    refine X.iload_n dX7_by_148 rfl 2 rfl ?_
    refine X.icmp_ne (tgt := 156) dX7_by_149 (by decide) (fun c149 => ?_) (fun c149 => ?_)
    · have hf := if_f c149 hf
      refine X.iconst (v := 0) dX7_by_156 (by decide) ?_
      obtain rfl := Option.some.inj hf
      exact X.iret dX7_by_157 rfl rfl rfl
    · have hf := if_t c149 hf
      refine X.iconst (v := 1) dX7_by_152 (by decide) ?_
      refine X.goto (tgt := 157) dX7_by_153 (by decide) ?_
      obtain rfl := Option.some.inj hf
      exact X.iret dX7_by_157 rfl rfl rfl
  have hf := if_f c1_61 hf
  have t_c1_38 := lv_neT (a := 38) c1_38 rfl
  have t_c1_39 := lv_neT (a := 39) c1_39 rfl
  have t_c1_40 := lv_neT (a := 40) c1_40 rfl
  have t_c1_41 := lv_neT (a := 41) c1_41 rfl
  have t_c1_42 := lv_neT (a := 42) c1_42 rfl
  have t_c1_43 := lv_neT (a := 43) c1_43 rfl
  have t_c1_44 := lv_neT (a := 44) c1_44 rfl
  have t_c1_45 := lv_neT (a := 45) c1_45 rfl
  have t_c1_46 := lv_neT (a := 46) c1_46 rfl
  have t_c1_47 := lv_neT (a := 47) c1_47 rfl
  have t_c1_48 := lv_neT (a := 48) c1_48 rfl
  have t_c1_49 := lv_neT (a := 49) c1_49 rfl
  have t_c1_50 := lv_neT (a := 50) c1_50 rfl
  have t_c1_51 := lv_neT (a := 51) c1_51 rfl
  have t_c1_52 := lv_neT (a := 52) c1_52 rfl
  have t_c1_53 := lv_neT (a := 53) c1_53 rfl
  have t_c1_54 := lv_neT (a := 54) c1_54 rfl
  have t_c1_55 := lv_neT (a := 55) c1_55 rfl
  have t_c1_56 := lv_neT (a := 56) c1_56 rfl
  have t_c1_57 := lv_neT (a := 57) c1_57 rfl
  have t_c1_58 := lv_neT (a := 58) c1_58 rfl
  have t_c1_59 := lv_neT (a := 59) c1_59 rfl
  have t_c1_60 := lv_neT (a := 60) c1_60 rfl
  have t_c1_61 := lv_neT (a := 61) c1_61 rfl
  refine X.tableOut (tgt := 172) dX7_by_1 (by omega) (by decide) ?_
  refine X.iload_n dX7_by_172 rfl 1 rfl ?_
  refine X.if_ne (tgt := 180) dX7_by_173 (by decide) (fun c173 => ?_) (fun c173 => ?_)
  · have hf := if_f c173 hf
    refine X.sub [] (L' := []) rfl ?_
    exact c_X7_by_180_ok  _ hf
  · have hf := if_t c173 hf
    refine X.iload_n dX7_by_176 rfl 2 rfl ?_
    refine X.if_eq (tgt := 184) dX7_by_177 (by decide) (fun c177 => ?_) (fun c177 => ?_)
    · have hf := if_t c177 hf
      refine X.iconst (v := 0) dX7_by_184 (by decide) ?_
      obtain rfl := Option.some.inj hf
      exact X.iret dX7_by_185 rfl rfl rfl
    · have hf := if_f c177 hf
      refine X.sub [] (L' := []) rfl ?_
      exact c_X7_by_180_ok  _ hf
theorem cX7_51 : xCS RX7 51 mX7_by 3 := ⟨lw_S q581 q582 q146 q583, rfl, ⟨by decide +kernel, by decide +kernel, by decide +kernel⟩, Nat.le_of_ble_eq_true rfl⟩
/-! MouldVotes$Chain of -/
def c_X7_of_22_b (G : xG) (kF : Option Nat → Option Nat → Option Int32) (T : xF) (k22 : Option Nat → Option Nat → Int32 → Int32 → Option Int32) (x0 : Option Nat) (x1 : Option Nat) (x2 : Int32) (x3 : Int32) : Option Int32 :=
  (oQ T x0 6 0).bind fun v24 =>
  if ¬ isO T v24 10 = true then none else
  (c_J2_size T v24).bind fun v27 =>
  if v27 ≤ x3 then
    some x2
  else
    (oQ T x0 6 1).bind fun v36 =>
    if ¬ isO T v36 12 = true then none else
    (c_J18_charAt G T v36 (x3 - (1 : Int32))).bind fun v42 =>
    (oQ T x0 6 0).bind fun v47 =>
    if ¬ isO T v47 10 = true then none else
    (c_J2_get T v47 x3).bind fun v51 =>
    if ¬ cst T v51 [6, 7, 8, 9] = true then none else
    (kF v51 x1).bind fun v60 =>
    (c_X7_by v42 x2 v60).bind fun v65 =>
    k22 x0 x1 v65 (x3 + 1)
def c_X7_of_22 (G : xG) (kF : Option Nat → Option Nat → Option Int32) (T : xF) : Nat → Option Nat → Option Nat → Int32 → Int32 → Option Int32
  | 0 => fun _ _ _ _ => none
  | n + 1 => fun x0 x1 x2 x3 => c_X7_of_22_b G kF T (c_X7_of_22 G kF T n) x0 x1 x2 x3
theorem c_X7_of_22_bok {G : xG} {De : Nat} {kF : Option Nat → Option Nat → Option Int32} {T : xF} (hDF : 20 ≤ De) (hkF : ∀ (r v : Option Nat) (q : Int32), kF r v = some q → OfOK G De r v T q)  {k22 : Option Nat → Option Nat → Int32 → Int32 → Option Int32}  (hk22 : ∀ (x0 : Option Nat) (x1 : Option Nat) (x2 : Int32) (x3 : Int32) (q : Int32), k22 x0 x1 x2 x3 = some q → Xr G (mX7_of, xrm (De + 1) T T, T, .inl (some (.int q)), T) 22 [(0, va_rf x0), (1, va_rf x1), (2, .int x2), (3, .int x3)] [] T) (x0 : Option Nat) (x1 : Option Nat) (x2 : Int32) (x3 : Int32) (q : Int32) (hf : c_X7_of_22_b G kF T k22 x0 x1 x2 x3 = some q) : Xr G (mX7_of, xrm (De + 1) T T, T, .inl (some (.int q)), T) 22 [(0, va_rf x0), (1, va_rf x1), (2, .int x2), (3, .int x3)] [] T := by
  unfold c_X7_of_22_b at hf
  refine X.iload_n dX7_of_22 rfl 3 rfl ?_
  refine C.aload_n dX7_of_23 rfl 0 rfl ?_
  obtain ⟨v24, h24, hf⟩ := ob hf
  refine C.getQ dX7_of_24 rX7_10 h24 ?_
  obtain ⟨c27, hf⟩ := if_n hf
  obtain ⟨v27, h27, hf⟩ := ob hf
  refine X.keep fun l27 => C.Fi (As := []) (rest := [.int x3]) dX7_of_27 (w_J2_size h27) cX7_33 (Classical.not_not.mp c27) rfl rfl (xcs (xvI xvN) (Nat.le_of_ble_eq_true rfl)) rfl rfl (xD (by omega)) xle.rf l27 ?_
  refine X.icmp_ge (tgt := 75) dX7_of_32 (by decide) (fun c32 => ?_) (fun c32 => ?_)
  · have hf := if_t c32 hf
    refine X.iload_n dX7_of_75 rfl 2 rfl ?_
    obtain rfl := Option.some.inj hf
    exact X.iret dX7_of_76 rfl rfl rfl
  · have hf := if_f c32 hf
    refine C.aload_n dX7_of_35 rfl 0 rfl ?_
    obtain ⟨v36, h36, hf⟩ := ob hf
    refine C.getQ dX7_of_36 rX7_19 h36 ?_
    refine X.iload_n dX7_of_39 rfl 3 rfl ?_
    refine X.iconst (v := 1) dX7_of_40 (by decide) ?_
    refine X.isub dX7_of_41 ?_
    obtain ⟨c42, hf⟩ := if_n hf
    obtain ⟨v42, h42, hf⟩ := ob hf
    refine X.keep fun l42 => C.Vi (As := [.int (x3 - (1 : Int32))]) (rest := []) dX7_of_42 (w_J18_charAt h42) cX7_47 (Classical.not_not.mp c42) rfl rfl (xcs xvN (Nat.le_of_ble_eq_true rfl)) rfl rfl (xD (by omega)) xle.rf l42 ?_
    refine X.iload_n dX7_of_45 rfl 2 rfl ?_
    refine C.aload_n dX7_of_46 rfl 0 rfl ?_
    obtain ⟨v47, h47, hf⟩ := ob hf
    refine C.getQ dX7_of_47 rX7_10 h47 ?_
    refine X.iload_n dX7_of_50 rfl 3 rfl ?_
    obtain ⟨c51, hf⟩ := if_n hf
    obtain ⟨v51, h51, hf⟩ := ob hf
    refine X.keep fun l51 => C.Fq (As := [.int x3]) (rest := [.int x2, .int v42]) dX7_of_51 (w_J2_get h51) cX7_37 (Classical.not_not.mp c51) rfl rfl (xcs (xvI (xvI xvN)) (Nat.le_of_ble_eq_true rfl)) rfl rfl (xD (by omega)) xle.rf l51 ?_
    obtain ⟨c56, hf⟩ := if_n hf
    refine C.cast dX7_of_56 q529 ca_Form (Classical.not_not.mp c56) ?_
    refine C.aload_n dX7_of_59 rfl 1 rfl ?_
    obtain ⟨v60, h60, hf⟩ := ob hf
    refine X.keep fun l60 => C.form (rest := [.int x2, .int v42]) dX7_of_60 (hkF _ _ _ h60) cFX7_43 rfl (xcs (xvI (xvI xvN)) (Nat.le_of_ble_eq_true rfl)) (xD (by omega)) l60 ?_
    obtain ⟨v65, h65, hf⟩ := ob hf
    refine X.keep fun l65 => C.Si (As := [.int v42, .int x2, .int v60]) (rest := []) dX7_of_65 (w_X7_by h65) cX7_51 rfl rfl (xcs xvN (Nat.le_of_ble_eq_true rfl)) (xD (by omega)) xle.rf l65 ?_
    refine C.ist_n (L' := [(2, .int v65), (0, va_rf x0), (1, va_rf x1), (3, .int x3)]) dX7_of_68 rfl (Nat.le_of_ble_eq_true rfl) (xcQ (xcQ (xcI (xcI xcN)))) rfl ?_
    refine C.iinc (v := (x3 + 1)) (L' := [(3, .int (x3 + 1)), (2, .int v65), (0, va_rf x0), (1, va_rf x1)]) dX7_of_69 3 rfl rfl (Nat.le_of_ble_eq_true rfl) (xcI (xcQ (xcQ (xcI xcN)))) rfl ?_
    refine X.goto (tgt := 22) dX7_of_72 (by decide) ?_
    refine X.sub [2, 3, 1, 0] (L' := [(0, va_rf x0), (1, va_rf x1), (2, .int v65), (3, .int (x3 + 1))]) rfl ?_
    exact hk22 _ _ _ _ _ hf
theorem c_X7_of_22_ok {G : xG} {De : Nat} {kF : Option Nat → Option Nat → Option Int32} {T : xF} (hDF : 20 ≤ De) (hkF : ∀ (r v : Option Nat) (q : Int32), kF r v = some q → OfOK G De r v T q)   : ∀ (n : Nat) (x0 : Option Nat) (x1 : Option Nat) (x2 : Int32) (x3 : Int32) (q : Int32), c_X7_of_22 G kF T n x0 x1 x2 x3 = some q → Xr G (mX7_of, xrm (De + 1) T T, T, .inl (some (.int q)), T) 22 [(0, va_rf x0), (1, va_rf x1), (2, .int x2), (3, .int x3)] [] T
  | 0, _, _, _, _, _, hf => by cases hf
  | n + 1, x0, x1, x2, x3, q, hf => c_X7_of_22_bok hDF hkF (c_X7_of_22_ok hDF hkF n) x0 x1 x2 x3 q hf
def c_X7_of (G : xG) (kF : Option Nat → Option Nat → Option Int32) (T : xF) (x0 : Option Nat) (x1 : Option Nat) : Option Int32 :=
  (oQ T x0 6 0).bind fun v1 =>
  if ¬ isO T v1 10 = true then none else
  (c_J2_get T v1 (0 : Int32)).bind fun v5 =>
  if ¬ cst T v5 [6, 7, 8, 9] = true then none else
  (kF v5 x1).bind fun v14 =>
  c_X7_of_22 G kF T FU x0 x1 v14 (1 : Int32)
theorem w_X7_of {G : xG} {De : Nat} {kF : Option Nat → Option Nat → Option Int32} {T : xF} (hDF : 20 ≤ De) (hkF : ∀ (r v : Option Nat) (q : Int32), kF r v = some q → OfOK G De r v T q) {x0 : Option Nat} {x1 : Option Nat} {q : Int32} (hf : c_X7_of G kF T x0 x1 = some q) : Ct G mX7_of (De + 1) T [va_rf x0, va_rf x1] (.inl (some (.int q))) T := by
  refine Ct.ofc (plainFor_of_name (by decide +kernel)) rfl (xvQ (xvQ xvN)) (Nat.le_of_ble_eq_true rfl) (show Xr G _ 0 [(0, va_rf x0), (1, va_rf x1)] [] _ from ?_)
  unfold c_X7_of at hf
  refine C.aload_n dX7_of_0 rfl 0 rfl ?_
  obtain ⟨v1, h1, hf⟩ := ob hf
  refine C.getQ dX7_of_1 rX7_10 h1 ?_
  refine X.iconst (v := 0) dX7_of_4 (by decide) ?_
  obtain ⟨c5, hf⟩ := if_n hf
  obtain ⟨v5, h5, hf⟩ := ob hf
  refine X.keep fun l5 => C.Fq (As := [.int (0 : Int32)]) (rest := []) dX7_of_5 (w_J2_get h5) cX7_37 (Classical.not_not.mp c5) rfl rfl (xcs xvN (Nat.le_of_ble_eq_true rfl)) rfl rfl (xD (by omega)) xle.rf l5 ?_
  obtain ⟨c10, hf⟩ := if_n hf
  refine C.cast dX7_of_10 q529 ca_Form (Classical.not_not.mp c10) ?_
  refine C.aload_n dX7_of_13 rfl 1 rfl ?_
  obtain ⟨v14, h14, hf⟩ := ob hf
  refine X.keep fun l14 => C.form (rest := []) dX7_of_14 (hkF _ _ _ h14) cFX7_43 rfl (xcs xvN (Nat.le_of_ble_eq_true rfl)) (xD (by omega)) l14 ?_
  refine C.ist_n (L' := [(2, .int v14), (0, va_rf x0), (1, va_rf x1)]) dX7_of_19 rfl (Nat.le_of_ble_eq_true rfl) (xcQ (xcQ xcN)) rfl ?_
  refine X.iconst (v := 1) dX7_of_20 (by decide) ?_
  refine C.ist_n (L' := [(3, .int (1 : Int32)), (2, .int v14), (0, va_rf x0), (1, va_rf x1)]) dX7_of_21 rfl (Nat.le_of_ble_eq_true rfl) (xcI (xcQ (xcQ xcN))) rfl ?_
  refine X.sub [2, 3, 1, 0] (L' := [(0, va_rf x0), (1, va_rf x1), (2, .int v14), (3, .int (1 : Int32))]) rfl ?_
  exact c_X7_of_22_ok hDF hkF FU _ _ _ _ _ hf
def c_of (G : xG) : Nat → xF → Option Nat → Option Nat → Option Int32
  | 0, _, _, _ => none
  | n + 1, T, r, v => if isO T r 6 = true then c_X7_of G (c_of G n T) T r v else if isO T r 7 = true then c_X8_of T r v else if isO T r 8 = true then c_X9_of T r v else if isO T r 9 = true then c_X10_of (c_of G n T) T r v else none
theorem w_of {G : xG} {T : xF} : ∀ (n : Nat) (r v : Option Nat) (y : Int32), c_of G n T r v = some y → OfOK G (20 + n) r v T y
  | 0, _, _, _, h => by cases h
  | n + 1, r, v, y, h => by
    unfold c_of at h
    by_cases h6 : isO T r 6 = true
    · rw [if_pos h6] at h
      exact ⟨_, 6, _, .head _, by omega, h6, w_X7_of (De := 20 + n) (by omega) (fun r v q hq => w_of n r v q hq) h⟩
    rw [if_neg h6] at h
    by_cases h7 : isO T r 7 = true
    · rw [if_pos h7] at h
      exact ⟨_, 7, _, .tail _ (.head _), by omega, h7, w_X8_of h⟩
    rw [if_neg h7] at h
    by_cases h8 : isO T r 8 = true
    · rw [if_pos h8] at h
      exact ⟨_, 8, _, .tail _ (.tail _ (.head _)), by omega, h8, w_X9_of h⟩
    rw [if_neg h8] at h
    by_cases h9 : isO T r 9 = true
    · rw [if_pos h9] at h
      exact ⟨_, 9, _, .tail _ (.tail _ (.tail _ (.head _))), by omega, h9, w_X10_of (De := 20 + n) (by omega) (fun r v q hq => w_of n r v q hq) h⟩
    rw [if_neg h9] at h
    cases h
abbrev OFU : Nat := 100
/-! MouldVotes in -/
abbrev cX1_in : ByteArray := prog_1_method_1_code
def yX1_in : MethodName := ⟨RX1, "in", "(III)Z"⟩
def dkwX1_in_0 : List UInt8 := [26, 27, 161, 0, 12, 26, 28, 163, 0, 7, 4, 167, 0, 4, 3, 172]
abbrev dktX1_in_0 : List UInt8 := dkwX1_in_0 ++ []
theorem dksX1_in_0 : cX1_in.data.toList.drop 0 = dktX1_in_0 := by decide +kernel
theorem dX1_in_0 : decode cX1_in 0 = .ok (.iload_n 0, 1) := dk_26 (dk_at dksX1_in_0 0 rfl rfl)
theorem dX1_in_1 : decode cX1_in 1 = .ok (.iload_n 1, 1) := dk_27 (dk_at dksX1_in_0 1 rfl rfl)
theorem dX1_in_2 : decode cX1_in 2 = .ok (.if_icmp .lt 12, 3) := dk_161 0 12 (dk_at dksX1_in_0 2 rfl rfl)
theorem dX1_in_5 : decode cX1_in 5 = .ok (.iload_n 0, 1) := dk_26 (dk_at dksX1_in_0 5 rfl rfl)
theorem dX1_in_6 : decode cX1_in 6 = .ok (.iload_n 2, 1) := dk_28 (dk_at dksX1_in_0 6 rfl rfl)
theorem dX1_in_7 : decode cX1_in 7 = .ok (.if_icmp .gt 7, 3) := dk_163 0 7 (dk_at dksX1_in_0 7 rfl rfl)
theorem dX1_in_10 : decode cX1_in 10 = .ok (.iconst 1, 1) := dk_4 (dk_at dksX1_in_0 10 rfl rfl)
theorem dX1_in_11 : decode cX1_in 11 = .ok (.goto 4, 3) := dk_167 0 4 (dk_at dksX1_in_0 11 rfl rfl)
theorem dX1_in_14 : decode cX1_in 14 = .ok (.iconst 0, 1) := dk_3 (dk_at dksX1_in_0 14 rfl rfl)
theorem dX1_in_15 : decode cX1_in 15 = .ok (.ireturn, 1) := dk_172 (dk_at dksX1_in_0 15 rfl rfl)
abbrev mX1_in : xM := (yX1_in, cX1_in, 3, (some .boolean), [])
def c_X1_in (x0 : Int32) (x1 : Int32) (x2 : Int32) : Option Int32 :=
  if x0 < x1 then
    some (0 : Int32)
  else
    if x2 < x0 then
      some (0 : Int32)
    else
      some (1 : Int32)
theorem w_X1_in {G : xG}  {T : xF} {x0 : Int32} {x1 : Int32} {x2 : Int32} {q : Int32} (hf : c_X1_in x0 x1 x2 = some q) : Ct G mX1_in (1) T [.int x0, .int x1, .int x2] (.inl (some (.int q))) T := by
  refine Ct.ofc (plainFor_of_name (by decide +kernel)) rfl (xvI (xvI (xvI xvN))) (Nat.le_of_ble_eq_true rfl) (show Xr G _ 0 [(0, .int x0), (1, .int x1), (2, .int x2)] [] _ from ?_)
  unfold c_X1_in at hf
  refine X.iload_n dX1_in_0 rfl 0 rfl ?_
  refine X.iload_n dX1_in_1 rfl 1 rfl ?_
  refine X.icmp_lt (tgt := 14) dX1_in_2 (by decide) (fun c2 => ?_) (fun c2 => ?_)
  · have hf := if_t c2 hf
    refine X.iconst (v := 0) dX1_in_14 (by decide) ?_
    obtain rfl := Option.some.inj hf
    exact X.iret dX1_in_15 rfl rfl rfl
  · have hf := if_f c2 hf
    refine X.iload_n dX1_in_5 rfl 0 rfl ?_
    refine X.iload_n dX1_in_6 rfl 2 rfl ?_
    refine X.icmp_gt (tgt := 14) dX1_in_7 (by decide) (fun c7 => ?_) (fun c7 => ?_)
    · have hf := if_t c7 hf
      refine X.iconst (v := 0) dX1_in_14 (by decide) ?_
      obtain rfl := Option.some.inj hf
      exact X.iret dX1_in_15 rfl rfl rfl
    · have hf := if_f c7 hf
      refine X.iconst (v := 1) dX1_in_10 (by decide) ?_
      refine X.goto (tgt := 15) dX1_in_11 (by decide) ?_
      obtain rfl := Option.some.inj hf
      exact X.iret dX1_in_15 rfl rfl rfl
theorem cX1_134 : xCS RX1 134 mX1_in 3 := ⟨lw_S q334 q335 q121 q336, rfl, ⟨by decide +kernel, by decide +kernel, by decide +kernel⟩, Nat.le_of_ble_eq_true rfl⟩
theorem cX5_86 : xCSN RX5 86 mX1_in 3 := ⟨⟨lw_meth q336, ⟨_, q895⟩, q121, q335⟩, rfl, ⟨by decide +kernel, by decide +kernel, by decide +kernel⟩, Nat.le_of_ble_eq_true rfl⟩
/-! MouldVotes found -/
abbrev cX1_found : ByteArray := prog_1_method_2_code
def yX1_found : MethodName := ⟨RX1, "found", "(Z)V"⟩
def dkwX1_found_0 : List UInt8 := [26, 154, 0, 11, 187, 0, 1, 89, 183, 0, 3, 191, 177]
abbrev dktX1_found_0 : List UInt8 := dkwX1_found_0 ++ []
theorem dksX1_found_0 : cX1_found.data.toList.drop 0 = dktX1_found_0 := by decide +kernel
theorem dX1_found_0 : decode cX1_found 0 = .ok (.iload_n 0, 1) := dk_26 (dk_at dksX1_found_0 0 rfl rfl)
theorem dX1_found_1 : decode cX1_found 1 = .ok (.ifCond .ne 11, 3) := dk_154 0 11 (dk_at dksX1_found_0 1 rfl rfl)
theorem dX1_found_4 : decode cX1_found 4 = .ok (.new 1, 3) := dk_187 0 1 (dk_at dksX1_found_0 4 rfl rfl)
theorem dX1_found_7 : decode cX1_found 7 = .ok (.dup, 1) := dk_89 (dk_at dksX1_found_0 7 rfl rfl)
theorem dX1_found_8 : decode cX1_found 8 = .ok (.invokespecial 3, 3) := dk_183 0 3 (dk_at dksX1_found_0 8 rfl rfl)
theorem dX1_found_11 : decode cX1_found 11 = .ok (.athrow, 1) := dk_191 (dk_at dksX1_found_0 11 rfl rfl)
theorem dX1_found_12 : decode cX1_found 12 = .ok (.return_, 1) := dk_177 (dk_at dksX1_found_0 12 rfl rfl)
abbrev mX1_found : xM := (yX1_found, cX1_found, 1, none, [])
def c_X1_found (x0 : Int32) (T : xF) : Option ((Unit ⊕ xE) × xF) :=
  if x0 = 0 then
    some (.inr ("java/util/NoSuchElementException", T.2.1), (T.1, T.2.1 + 1, T.2.2 + 6))
  else
    some (.inl (), T)
theorem w_X1_found {G : xG}  {T : xF} {x0 : Int32} {q : ((Unit ⊕ xE) × xF)} (hf : c_X1_found x0 T = some q) : Ct G mX1_found (7) T [.int x0] (xoV q.1) q.2 := by
  refine Ct.ofc (plainFor_of_name (by decide +kernel)) rfl (xvI xvN) (Nat.le_of_ble_eq_true rfl) (show Xr G _ 0 [(0, .int x0)] [] _ from ?_)
  unfold c_X1_found at hf
  refine X.iload_n dX1_found_0 rfl 0 rfl ?_
  refine X.if_ne (tgt := 12) dX1_found_1 (by decide) (fun c1 => ?_) (fun c1 => ?_)
  · have hf := if_f c1 hf
    obtain rfl := Option.some.inj hf
    exact X.vret dX1_found_12 rfl rfl
  · have hf := if_t c1 hf
    obtain rfl := Option.some.inj hf
    exact X.throw0 dX1_found_4 dX1_found_7 dX1_found_8 dX1_found_11 twX1_1 rfl (xcs xvN (Nat.le_of_ble_eq_true rfl)) (xDn (Nat.le_of_ble_eq_true rfl)) rfl (xnoh rfl)
theorem cX1_138 : xCS RX1 138 mX1_found 1 := ⟨lw_S q1268 q1269 q121 q1270, rfl, ⟨by decide +kernel, by decide +kernel, by decide +kernel⟩, Nat.le_of_ble_eq_true rfl⟩
/-! MouldVotes oneOf -/
abbrev cX1_oneOf : ByteArray := prog_1_method_13_code
def yX1_oneOf : MethodName := ⟨RX1, "oneOf", "(II)V"⟩
def dkwX1_oneOf_0 : List UInt8 := [26, 3, 27, 184, 0, 134, 184, 0, 138, 177]
abbrev dktX1_oneOf_0 : List UInt8 := dkwX1_oneOf_0 ++ []
theorem dksX1_oneOf_0 : cX1_oneOf.data.toList.drop 0 = dktX1_oneOf_0 := by decide +kernel
theorem dX1_oneOf_0 : decode cX1_oneOf 0 = .ok (.iload_n 0, 1) := dk_26 (dk_at dksX1_oneOf_0 0 rfl rfl)
theorem dX1_oneOf_1 : decode cX1_oneOf 1 = .ok (.iconst 0, 1) := dk_3 (dk_at dksX1_oneOf_0 1 rfl rfl)
theorem dX1_oneOf_2 : decode cX1_oneOf 2 = .ok (.iload_n 1, 1) := dk_27 (dk_at dksX1_oneOf_0 2 rfl rfl)
theorem dX1_oneOf_3 : decode cX1_oneOf 3 = .ok (.invokestatic 134, 3) := dk_184 0 134 (dk_at dksX1_oneOf_0 3 rfl rfl)
theorem dX1_oneOf_6 : decode cX1_oneOf 6 = .ok (.invokestatic 138, 3) := dk_184 0 138 (dk_at dksX1_oneOf_0 6 rfl rfl)
theorem dX1_oneOf_9 : decode cX1_oneOf 9 = .ok (.return_, 1) := dk_177 (dk_at dksX1_oneOf_0 9 rfl rfl)
abbrev mX1_oneOf : xM := (yX1_oneOf, cX1_oneOf, 2, none, [])
def c_X1_oneOf (x0 : Int32) (x1 : Int32) (T : xF) : Option ((Unit ⊕ xE) × xF) :=
  (c_X1_in x0 (0 : Int32) x1).bind fun v3 =>
  clX (c_X1_found v3 T) T fun v6 T6 =>
  some (.inl (), T6)
theorem w_X1_oneOf {G : xG}  {T : xF} {x0 : Int32} {x1 : Int32} {q : ((Unit ⊕ xE) × xF)} (hf : c_X1_oneOf x0 x1 T = some q) : Ct G mX1_oneOf (8) T [.int x0, .int x1] (xoV q.1) q.2 := by
  refine Ct.ofc (plainFor_of_name (by decide +kernel)) rfl (xvI (xvI xvN)) (Nat.le_of_ble_eq_true rfl) (show Xr G _ 0 [(0, .int x0), (1, .int x1)] [] _ from ?_)
  unfold c_X1_oneOf at hf
  refine X.iload_n dX1_oneOf_0 rfl 0 rfl ?_
  refine X.iconst (v := 0) dX1_oneOf_1 (by decide) ?_
  refine X.iload_n dX1_oneOf_2 rfl 1 rfl ?_
  obtain ⟨v3, h3, hf⟩ := ob hf
  refine X.keep fun l3 => C.Si (As := [.int x0, .int (0 : Int32), .int x1]) (rest := []) dX1_oneOf_3 (w_X1_in h3) cX1_134 rfl rfl (xcs xvN (Nat.le_of_ble_eq_true rfl)) (xD (Nat.le_of_ble_eq_true rfl)) xle.rf l3 ?_
  rcases clX_ok hf with ⟨v6, T6, h6, hf, l6, r6⟩ | ⟨e6, T6, h6, rfl, l6⟩
  rotate_left
  · exact C.Sx (As := [.int v3]) (rest := []) dX1_oneOf_6 (w_X1_found h6) cX1_138 rfl rfl (xcs xvN (Nat.le_of_ble_eq_true rfl)) (xD (Nat.le_of_ble_eq_true rfl)) l6 xle.rf (xnoh rfl) rfl
  refine C.Sv (As := [.int v3]) (rest := []) dX1_oneOf_6 (w_X1_found h6) cX1_138 rfl rfl (xcs xvN (Nat.le_of_ble_eq_true rfl)) (xD (Nat.le_of_ble_eq_true rfl)) l6 r6 ?_
  obtain rfl := Option.some.inj hf
  exact X.vret dX1_oneOf_9 rfl rfl
theorem cX1_163 : xCS RX1 163 mX1_oneOf 2 := ⟨lw_S q1309 q1310 q121 q1311, rfl, ⟨by decide +kernel, by decide +kernel, by decide +kernel⟩, Nat.le_of_ble_eq_true rfl⟩
/-! MouldVotes aParty -/
abbrev cX1_aParty : ByteArray := prog_1_method_17_code
def yX1_aParty : MethodName := ⟨RX1, "aParty", "(I)V"⟩
def dkwX1_aParty_0 : List UInt8 := [26, 6, 184, 0, 163, 177]
abbrev dktX1_aParty_0 : List UInt8 := dkwX1_aParty_0 ++ []
theorem dksX1_aParty_0 : cX1_aParty.data.toList.drop 0 = dktX1_aParty_0 := by decide +kernel
theorem dX1_aParty_0 : decode cX1_aParty 0 = .ok (.iload_n 0, 1) := dk_26 (dk_at dksX1_aParty_0 0 rfl rfl)
theorem dX1_aParty_1 : decode cX1_aParty 1 = .ok (.iconst 3, 1) := dk_6 (dk_at dksX1_aParty_0 1 rfl rfl)
theorem dX1_aParty_2 : decode cX1_aParty 2 = .ok (.invokestatic 163, 3) := dk_184 0 163 (dk_at dksX1_aParty_0 2 rfl rfl)
theorem dX1_aParty_5 : decode cX1_aParty 5 = .ok (.return_, 1) := dk_177 (dk_at dksX1_aParty_0 5 rfl rfl)
abbrev mX1_aParty : xM := (yX1_aParty, cX1_aParty, 1, none, [])
def c_X1_aParty (x0 : Int32) (T : xF) : Option ((Unit ⊕ xE) × xF) :=
  clX (c_X1_oneOf x0 (3 : Int32) T) T fun v2 T2 =>
  some (.inl (), T2)
theorem w_X1_aParty {G : xG}  {T : xF} {x0 : Int32} {q : ((Unit ⊕ xE) × xF)} (hf : c_X1_aParty x0 T = some q) : Ct G mX1_aParty (9) T [.int x0] (xoV q.1) q.2 := by
  refine Ct.ofc (plainFor_of_name (by decide +kernel)) rfl (xvI xvN) (Nat.le_of_ble_eq_true rfl) (show Xr G _ 0 [(0, .int x0)] [] _ from ?_)
  unfold c_X1_aParty at hf
  refine X.iload_n dX1_aParty_0 rfl 0 rfl ?_
  refine X.iconst (v := 3) dX1_aParty_1 (by decide) ?_
  rcases clX_ok hf with ⟨v2, T2, h2, hf, l2, r2⟩ | ⟨e2, T2, h2, rfl, l2⟩
  rotate_left
  · exact C.Sx (As := [.int x0, .int (3 : Int32)]) (rest := []) dX1_aParty_2 (w_X1_oneOf h2) cX1_163 rfl rfl (xcs xvN (Nat.le_of_ble_eq_true rfl)) (xD (Nat.le_of_ble_eq_true rfl)) l2 xle.rf (xnoh rfl) rfl
  refine C.Sv (As := [.int x0, .int (3 : Int32)]) (rest := []) dX1_aParty_2 (w_X1_oneOf h2) cX1_163 rfl rfl (xcs xvN (Nat.le_of_ble_eq_true rfl)) (xD (Nat.le_of_ble_eq_true rfl)) l2 r2 ?_
  obtain rfl := Option.some.inj hf
  exact X.vret dX1_aParty_5 rfl rfl
theorem cX1_176 : xCS RX1 176 mX1_aParty 1 := ⟨lw_S q1319 q1320 q121 q1321, rfl, ⟨by decide +kernel, by decide +kernel, by decide +kernel⟩, Nat.le_of_ble_eq_true rfl⟩
/-! MouldVotes right -/
abbrev cX1_right : ByteArray := prog_1_method_3_code
def yX1_right : MethodName := ⟨RX1, "right", "(Z)V"⟩
def dkwX1_right_0 : List UInt8 := [26, 154, 0, 11, 187, 0, 7, 89, 183, 0, 9, 191, 177]
abbrev dktX1_right_0 : List UInt8 := dkwX1_right_0 ++ []
theorem dksX1_right_0 : cX1_right.data.toList.drop 0 = dktX1_right_0 := by decide +kernel
theorem dX1_right_0 : decode cX1_right 0 = .ok (.iload_n 0, 1) := dk_26 (dk_at dksX1_right_0 0 rfl rfl)
theorem dX1_right_1 : decode cX1_right 1 = .ok (.ifCond .ne 11, 3) := dk_154 0 11 (dk_at dksX1_right_0 1 rfl rfl)
theorem dX1_right_4 : decode cX1_right 4 = .ok (.new 7, 3) := dk_187 0 7 (dk_at dksX1_right_0 4 rfl rfl)
theorem dX1_right_7 : decode cX1_right 7 = .ok (.dup, 1) := dk_89 (dk_at dksX1_right_0 7 rfl rfl)
theorem dX1_right_8 : decode cX1_right 8 = .ok (.invokespecial 9, 3) := dk_183 0 9 (dk_at dksX1_right_0 8 rfl rfl)
theorem dX1_right_11 : decode cX1_right 11 = .ok (.athrow, 1) := dk_191 (dk_at dksX1_right_0 11 rfl rfl)
theorem dX1_right_12 : decode cX1_right 12 = .ok (.return_, 1) := dk_177 (dk_at dksX1_right_0 12 rfl rfl)
abbrev mX1_right : xM := (yX1_right, cX1_right, 1, none, [])
def c_X1_right (x0 : Int32) (T : xF) : Option ((Unit ⊕ xE) × xF) :=
  if x0 = 0 then
    some (.inr ("java/lang/IllegalArgumentException", T.2.1), (T.1, T.2.1 + 1, T.2.2 + 6))
  else
    some (.inl (), T)
theorem w_X1_right {G : xG}  {T : xF} {x0 : Int32} {q : ((Unit ⊕ xE) × xF)} (hf : c_X1_right x0 T = some q) : Ct G mX1_right (7) T [.int x0] (xoV q.1) q.2 := by
  refine Ct.ofc (plainFor_of_name (by decide +kernel)) rfl (xvI xvN) (Nat.le_of_ble_eq_true rfl) (show Xr G _ 0 [(0, .int x0)] [] _ from ?_)
  unfold c_X1_right at hf
  refine X.iload_n dX1_right_0 rfl 0 rfl ?_
  refine X.if_ne (tgt := 12) dX1_right_1 (by decide) (fun c1 => ?_) (fun c1 => ?_)
  · have hf := if_f c1 hf
    obtain rfl := Option.some.inj hf
    exact X.vret dX1_right_12 rfl rfl
  · have hf := if_t c1 hf
    obtain rfl := Option.some.inj hf
    exact X.throw0 dX1_right_4 dX1_right_7 dX1_right_8 dX1_right_11 twX1_7 rfl (xcs xvN (Nat.le_of_ble_eq_true rfl)) (xDn (Nat.le_of_ble_eq_true rfl)) rfl (xnoh rfl)
theorem cX1_65 : xCS RX1 65 mX1_right 1 := ⟨lw_S q739 q740 q121 q741, rfl, ⟨by decide +kernel, by decide +kernel, by decide +kernel⟩, Nat.le_of_ble_eq_true rfl⟩
/-! MouldVotes$Growth be -/
abbrev cX3_be : ByteArray := prog_4_method_3_code
def yX3_be : MethodName := ⟨RX3, "be", "(LMouldVotes$Growth;)LMouldVotes$Growth;"⟩
def dkwX3_be_2 : List UInt8 := [28, 43, 180, 0, 25, 28, 46, 79, 132, 2, 1, 167, 255, 199, 42, 43, 180, 0, 35, 181, 0, 35, 42, 176]
abbrev dktX3_be_2 : List UInt8 := dkwX3_be_2 ++ []
def dkwX3_be_1 : List UInt8 := [28, 43, 180, 0, 19, 28, 46, 79, 42, 180, 0, 22, 28, 43, 180, 0, 22, 28, 46, 79, 42, 180, 0, 25]
abbrev dktX3_be_1 : List UInt8 := dkwX3_be_1 ++ dktX3_be_2
def dkwX3_be_0 : List UInt8 := [3, 61, 28, 16, 30, 162, 0, 57, 42, 180, 0, 15, 28, 43, 180, 0, 15, 28, 46, 79, 42, 180, 0, 19]
abbrev dktX3_be_0 : List UInt8 := dkwX3_be_0 ++ dktX3_be_1
theorem dksX3_be_0 : cX3_be.data.toList.drop 0 = dktX3_be_0 := by decide +kernel
theorem dksX3_be_1 : cX3_be.data.toList.drop 24 = dktX3_be_1 := dk_seg dksX3_be_0 24 rfl rfl
theorem dksX3_be_2 : cX3_be.data.toList.drop 48 = dktX3_be_2 := dk_seg dksX3_be_1 24 rfl rfl
theorem dX3_be_0 : decode cX3_be 0 = .ok (.iconst 0, 1) := dk_3 (dk_at dksX3_be_0 0 rfl rfl)
theorem dX3_be_1 : decode cX3_be 1 = .ok (.istore_n 2, 1) := dk_61 (dk_at dksX3_be_0 1 rfl rfl)
theorem dX3_be_2 : decode cX3_be 2 = .ok (.iload_n 2, 1) := dk_28 (dk_at dksX3_be_0 2 rfl rfl)
theorem dX3_be_3 : decode cX3_be 3 = .ok (.bipush 30, 2) := dk_16 30 (dk_at dksX3_be_0 3 rfl rfl)
theorem dX3_be_5 : decode cX3_be 5 = .ok (.if_icmp .ge 57, 3) := dk_162 0 57 (dk_at dksX3_be_0 5 rfl rfl)
theorem dX3_be_8 : decode cX3_be 8 = .ok (.aload_n 0, 1) := dk_42 (dk_at dksX3_be_0 8 rfl rfl)
theorem dX3_be_9 : decode cX3_be 9 = .ok (.getfield 15, 3) := dk_180 0 15 (dk_at dksX3_be_0 9 rfl rfl)
theorem dX3_be_12 : decode cX3_be 12 = .ok (.iload_n 2, 1) := dk_28 (dk_at dksX3_be_0 12 rfl rfl)
theorem dX3_be_13 : decode cX3_be 13 = .ok (.aload_n 1, 1) := dk_43 (dk_at dksX3_be_0 13 rfl rfl)
theorem dX3_be_14 : decode cX3_be 14 = .ok (.getfield 15, 3) := dk_180 0 15 (dk_at dksX3_be_0 14 rfl rfl)
theorem dX3_be_17 : decode cX3_be 17 = .ok (.iload_n 2, 1) := dk_28 (dk_at dksX3_be_0 17 rfl rfl)
theorem dX3_be_18 : decode cX3_be 18 = .ok (.iaload, 1) := dk_46 (dk_at dksX3_be_0 18 rfl rfl)
theorem dX3_be_19 : decode cX3_be 19 = .ok (.iastore, 1) := dk_79 (dk_at dksX3_be_0 19 rfl rfl)
theorem dX3_be_20 : decode cX3_be 20 = .ok (.aload_n 0, 1) := dk_42 (dk_at dksX3_be_0 20 rfl rfl)
theorem dX3_be_21 : decode cX3_be 21 = .ok (.getfield 19, 3) := dk_180 0 19 (dk_at dksX3_be_0 21 rfl rfl)
theorem dX3_be_24 : decode cX3_be 24 = .ok (.iload_n 2, 1) := dk_28 (dk_at dksX3_be_1 0 rfl rfl)
theorem dX3_be_25 : decode cX3_be 25 = .ok (.aload_n 1, 1) := dk_43 (dk_at dksX3_be_1 1 rfl rfl)
theorem dX3_be_26 : decode cX3_be 26 = .ok (.getfield 19, 3) := dk_180 0 19 (dk_at dksX3_be_1 2 rfl rfl)
theorem dX3_be_29 : decode cX3_be 29 = .ok (.iload_n 2, 1) := dk_28 (dk_at dksX3_be_1 5 rfl rfl)
theorem dX3_be_30 : decode cX3_be 30 = .ok (.iaload, 1) := dk_46 (dk_at dksX3_be_1 6 rfl rfl)
theorem dX3_be_31 : decode cX3_be 31 = .ok (.iastore, 1) := dk_79 (dk_at dksX3_be_1 7 rfl rfl)
theorem dX3_be_32 : decode cX3_be 32 = .ok (.aload_n 0, 1) := dk_42 (dk_at dksX3_be_1 8 rfl rfl)
theorem dX3_be_33 : decode cX3_be 33 = .ok (.getfield 22, 3) := dk_180 0 22 (dk_at dksX3_be_1 9 rfl rfl)
theorem dX3_be_36 : decode cX3_be 36 = .ok (.iload_n 2, 1) := dk_28 (dk_at dksX3_be_1 12 rfl rfl)
theorem dX3_be_37 : decode cX3_be 37 = .ok (.aload_n 1, 1) := dk_43 (dk_at dksX3_be_1 13 rfl rfl)
theorem dX3_be_38 : decode cX3_be 38 = .ok (.getfield 22, 3) := dk_180 0 22 (dk_at dksX3_be_1 14 rfl rfl)
theorem dX3_be_41 : decode cX3_be 41 = .ok (.iload_n 2, 1) := dk_28 (dk_at dksX3_be_1 17 rfl rfl)
theorem dX3_be_42 : decode cX3_be 42 = .ok (.iaload, 1) := dk_46 (dk_at dksX3_be_1 18 rfl rfl)
theorem dX3_be_43 : decode cX3_be 43 = .ok (.iastore, 1) := dk_79 (dk_at dksX3_be_1 19 rfl rfl)
theorem dX3_be_44 : decode cX3_be 44 = .ok (.aload_n 0, 1) := dk_42 (dk_at dksX3_be_1 20 rfl rfl)
theorem dX3_be_45 : decode cX3_be 45 = .ok (.getfield 25, 3) := dk_180 0 25 (dk_at dksX3_be_1 21 rfl rfl)
theorem dX3_be_48 : decode cX3_be 48 = .ok (.iload_n 2, 1) := dk_28 (dk_at dksX3_be_2 0 rfl rfl)
theorem dX3_be_49 : decode cX3_be 49 = .ok (.aload_n 1, 1) := dk_43 (dk_at dksX3_be_2 1 rfl rfl)
theorem dX3_be_50 : decode cX3_be 50 = .ok (.getfield 25, 3) := dk_180 0 25 (dk_at dksX3_be_2 2 rfl rfl)
theorem dX3_be_53 : decode cX3_be 53 = .ok (.iload_n 2, 1) := dk_28 (dk_at dksX3_be_2 5 rfl rfl)
theorem dX3_be_54 : decode cX3_be 54 = .ok (.iaload, 1) := dk_46 (dk_at dksX3_be_2 6 rfl rfl)
theorem dX3_be_55 : decode cX3_be 55 = .ok (.iastore, 1) := dk_79 (dk_at dksX3_be_2 7 rfl rfl)
theorem dX3_be_56 : decode cX3_be 56 = .ok (.iinc 2 1, 3) := dk_132 2 1 (dk_at dksX3_be_2 8 rfl rfl)
theorem dX3_be_59 : decode cX3_be 59 = .ok (.goto (-57), 3) := dk_167 255 199 (dk_at dksX3_be_2 11 rfl rfl)
theorem dX3_be_62 : decode cX3_be 62 = .ok (.aload_n 0, 1) := dk_42 (dk_at dksX3_be_2 14 rfl rfl)
theorem dX3_be_63 : decode cX3_be 63 = .ok (.aload_n 1, 1) := dk_43 (dk_at dksX3_be_2 15 rfl rfl)
theorem dX3_be_64 : decode cX3_be 64 = .ok (.getfield 35, 3) := dk_180 0 35 (dk_at dksX3_be_2 16 rfl rfl)
theorem dX3_be_67 : decode cX3_be 67 = .ok (.putfield 35, 3) := dk_181 0 35 (dk_at dksX3_be_2 19 rfl rfl)
theorem dX3_be_70 : decode cX3_be 70 = .ok (.aload_n 0, 1) := dk_42 (dk_at dksX3_be_2 22 rfl rfl)
theorem dX3_be_71 : decode cX3_be 71 = .ok (.areturn, 1) := dk_176 (dk_at dksX3_be_2 23 rfl rfl)
abbrev mX3_be : xM := (yX3_be, cX3_be, 3, (some (.object "MouldVotes$Growth")), [])
def c_X3_be_2_b (k2 : Option Nat → Option Nat → Int32 → xF → Option (Option Nat × xF)) (x0 : Option Nat) (x1 : Option Nat) (x2 : Int32) (T : xF) : Option (Option Nat × xF) :=
  if (30 : Int32) ≤ x2 then
    (oI T x1 2 4).bind fun v64 =>
    (pV T x0 2 4 (.int v64)).bind fun T67 =>
    some (x0, T67)
  else
    (oQ T x0 2 0).bind fun v9 =>
    (oQ T x1 2 0).bind fun v14 =>
    (ldA T v14 .int x2).bind fun v18 =>
    (stA T v9 .int x2 v18).bind fun T19 =>
    (oQ T19 x0 2 1).bind fun v21 =>
    (oQ T19 x1 2 1).bind fun v26 =>
    (ldA T19 v26 .int x2).bind fun v30 =>
    (stA T19 v21 .int x2 v30).bind fun T31 =>
    (oQ T31 x0 2 2).bind fun v33 =>
    (oQ T31 x1 2 2).bind fun v38 =>
    (ldA T31 v38 .int x2).bind fun v42 =>
    (stA T31 v33 .int x2 v42).bind fun T43 =>
    (oQ T43 x0 2 3).bind fun v45 =>
    (oQ T43 x1 2 3).bind fun v50 =>
    (ldA T43 v50 .int x2).bind fun v54 =>
    (stA T43 v45 .int x2 v54).bind fun T55 =>
    k2 x0 x1 (x2 + 1) T55
def c_X3_be_2 : Nat → Option Nat → Option Nat → Int32 → xF → Option (Option Nat × xF)
  | 0 => fun _ _ _ _ => none
  | n + 1 => fun x0 x1 x2 T => c_X3_be_2_b (c_X3_be_2 n) x0 x1 x2 T
theorem c_X3_be_2_bok {G : xG}  {T0 : xF}  {k2 : Option Nat → Option Nat → Int32 → xF → Option (Option Nat × xF)}  (hk2 : ∀ (x0 : Option Nat) (x1 : Option Nat) (x2 : Int32) (T : xF) (q : (Option Nat × xF)), k2 x0 x1 x2 T = some q → Xr G (mX3_be, xrm (1) T0 q.2, T0, .inl (some (va_rf q.1)), q.2) 2 [(0, va_rf x0), (1, va_rf x1), (2, .int x2)] [] T) (x0 : Option Nat) (x1 : Option Nat) (x2 : Int32) (T : xF) (q : (Option Nat × xF)) (hf : c_X3_be_2_b k2 x0 x1 x2 T = some q) : Xr G (mX3_be, xrm (1) T0 q.2, T0, .inl (some (va_rf q.1)), q.2) 2 [(0, va_rf x0), (1, va_rf x1), (2, .int x2)] [] T := by
  unfold c_X3_be_2_b at hf
  refine X.iload_n dX3_be_2 rfl 2 rfl ?_
  refine X.bipush (v := 30) dX3_be_3 (by decide) ?_
  refine X.icmp_ge (tgt := 62) dX3_be_5 (by decide) (fun c5 => ?_) (fun c5 => ?_)
  · have hf := if_t c5 hf
    refine C.aload_n dX3_be_62 rfl 0 rfl ?_
    refine C.aload_n dX3_be_63 rfl 1 rfl ?_
    obtain ⟨v64, h64, hf⟩ := ob hf
    refine C.getI dX3_be_64 rX3_35 h64 ?_
    obtain ⟨T67, h67, hf⟩ := ob hf
    refine C.putI dX3_be_67 fX3_35 (fun q => by cases q) rfl rfl h67 ?_
    refine C.aload_n dX3_be_70 rfl 0 rfl ?_
    obtain rfl := Option.some.inj hf
    exact X.aret dX3_be_71 rfl (Or.inl ⟨_, rfl⟩) rfl
  · have hf := if_f c5 hf
    refine C.aload_n dX3_be_8 rfl 0 rfl ?_
    obtain ⟨v9, h9, hf⟩ := ob hf
    refine C.getQ dX3_be_9 rX3_15 h9 ?_
    refine X.iload_n dX3_be_12 rfl 2 rfl ?_
    refine C.aload_n dX3_be_13 rfl 1 rfl ?_
    obtain ⟨v14, h14, hf⟩ := ob hf
    refine C.getQ dX3_be_14 rX3_15 h14 ?_
    refine X.iload_n dX3_be_17 rfl 2 rfl ?_
    obtain ⟨v18, h18, hf⟩ := ob hf
    refine C.iald dX3_be_18 h18 ?_
    obtain ⟨T19, h19, hf⟩ := ob hf
    refine C.iast dX3_be_19 h19 ?_
    refine C.aload_n dX3_be_20 rfl 0 rfl ?_
    obtain ⟨v21, h21, hf⟩ := ob hf
    refine C.getQ dX3_be_21 rX3_19 h21 ?_
    refine X.iload_n dX3_be_24 rfl 2 rfl ?_
    refine C.aload_n dX3_be_25 rfl 1 rfl ?_
    obtain ⟨v26, h26, hf⟩ := ob hf
    refine C.getQ dX3_be_26 rX3_19 h26 ?_
    refine X.iload_n dX3_be_29 rfl 2 rfl ?_
    obtain ⟨v30, h30, hf⟩ := ob hf
    refine C.iald dX3_be_30 h30 ?_
    obtain ⟨T31, h31, hf⟩ := ob hf
    refine C.iast dX3_be_31 h31 ?_
    refine C.aload_n dX3_be_32 rfl 0 rfl ?_
    obtain ⟨v33, h33, hf⟩ := ob hf
    refine C.getQ dX3_be_33 rX3_22 h33 ?_
    refine X.iload_n dX3_be_36 rfl 2 rfl ?_
    refine C.aload_n dX3_be_37 rfl 1 rfl ?_
    obtain ⟨v38, h38, hf⟩ := ob hf
    refine C.getQ dX3_be_38 rX3_22 h38 ?_
    refine X.iload_n dX3_be_41 rfl 2 rfl ?_
    obtain ⟨v42, h42, hf⟩ := ob hf
    refine C.iald dX3_be_42 h42 ?_
    obtain ⟨T43, h43, hf⟩ := ob hf
    refine C.iast dX3_be_43 h43 ?_
    refine C.aload_n dX3_be_44 rfl 0 rfl ?_
    obtain ⟨v45, h45, hf⟩ := ob hf
    refine C.getQ dX3_be_45 rX3_25 h45 ?_
    refine X.iload_n dX3_be_48 rfl 2 rfl ?_
    refine C.aload_n dX3_be_49 rfl 1 rfl ?_
    obtain ⟨v50, h50, hf⟩ := ob hf
    refine C.getQ dX3_be_50 rX3_25 h50 ?_
    refine X.iload_n dX3_be_53 rfl 2 rfl ?_
    obtain ⟨v54, h54, hf⟩ := ob hf
    refine C.iald dX3_be_54 h54 ?_
    obtain ⟨T55, h55, hf⟩ := ob hf
    refine C.iast dX3_be_55 h55 ?_
    refine C.iinc (v := (x2 + 1)) (L' := [(2, .int (x2 + 1)), (0, va_rf x0), (1, va_rf x1)]) dX3_be_56 2 rfl rfl (Nat.le_of_ble_eq_true rfl) (xcQ (xcQ (xcI xcN))) rfl ?_
    refine X.goto (tgt := 2) dX3_be_59 (by decide) ?_
    refine X.sub [1, 2, 0] (L' := [(0, va_rf x0), (1, va_rf x1), (2, .int (x2 + 1))]) rfl ?_
    exact hk2 _ _ _ _ _ hf
theorem c_X3_be_2_ok {G : xG}  {T0 : xF}   : ∀ (n : Nat) (x0 : Option Nat) (x1 : Option Nat) (x2 : Int32) (T : xF) (q : (Option Nat × xF)), c_X3_be_2 n x0 x1 x2 T = some q → Xr G (mX3_be, xrm (1) T0 q.2, T0, .inl (some (va_rf q.1)), q.2) 2 [(0, va_rf x0), (1, va_rf x1), (2, .int x2)] [] T
  | 0, _, _, _, _, _, hf => by cases hf
  | n + 1, x0, x1, x2, T, q, hf => c_X3_be_2_bok (c_X3_be_2_ok n) x0 x1 x2 T q hf
def c_X3_be (x0 : Option Nat) (x1 : Option Nat) (T : xF) : Option (Option Nat × xF) :=
  c_X3_be_2 FU x0 x1 (0 : Int32) T
theorem w_X3_be {G : xG}  {T : xF} {x0 : Option Nat} {x1 : Option Nat} {q : (Option Nat × xF)} (hf : c_X3_be x0 x1 T = some q) : Ct G mX3_be (1) T [va_rf x0, va_rf x1] (.inl (some (va_rf q.1))) q.2 := by
  refine Ct.ofc (plainFor_of_name (by decide +kernel)) rfl (xvQ (xvQ xvN)) (Nat.le_of_ble_eq_true rfl) (show Xr G _ 0 [(0, va_rf x0), (1, va_rf x1)] [] _ from ?_)
  unfold c_X3_be at hf
  refine X.iconst (v := 0) dX3_be_0 (by decide) ?_
  refine C.ist_n (L' := [(2, .int (0 : Int32)), (0, va_rf x0), (1, va_rf x1)]) dX3_be_1 rfl (Nat.le_of_ble_eq_true rfl) (xcQ (xcQ xcN)) rfl ?_
  refine X.sub [1, 2, 0] (L' := [(0, va_rf x0), (1, va_rf x1), (2, .int (0 : Int32))]) rfl ?_
  exact c_X3_be_2_ok FU _ _ _ _ _ hf
theorem cX1_213 : xCV RX1 213 mX3_be 1 := ⟨lw_V q616 q352 q353 q126 q354, rfl, ⟨by decide +kernel, by decide +kernel, by decide +kernel⟩, Nat.le_of_ble_eq_true rfl⟩
theorem cX3_31 : xCV RX3 31 mX3_be 1 := ⟨lw_V q351 q352 q353 q126 q354, rfl, ⟨by decide +kernel, by decide +kernel, by decide +kernel⟩, Nat.le_of_ble_eq_true rfl⟩
/-! MouldVotes$Roll cells -/
abbrev cX2_cells : ByteArray := prog_8_method_2_code
def yX2_cells : MethodName := ⟨RX2, "cells", "()I"⟩
def dkwX2_cells_0 : List UInt8 := [42, 180, 0, 19, 42, 180, 0, 23, 104, 172]
abbrev dktX2_cells_0 : List UInt8 := dkwX2_cells_0 ++ []
theorem dksX2_cells_0 : cX2_cells.data.toList.drop 0 = dktX2_cells_0 := by decide +kernel
theorem dX2_cells_0 : decode cX2_cells 0 = .ok (.aload_n 0, 1) := dk_42 (dk_at dksX2_cells_0 0 rfl rfl)
theorem dX2_cells_1 : decode cX2_cells 1 = .ok (.getfield 19, 3) := dk_180 0 19 (dk_at dksX2_cells_0 1 rfl rfl)
theorem dX2_cells_4 : decode cX2_cells 4 = .ok (.aload_n 0, 1) := dk_42 (dk_at dksX2_cells_0 4 rfl rfl)
theorem dX2_cells_5 : decode cX2_cells 5 = .ok (.getfield 23, 3) := dk_180 0 23 (dk_at dksX2_cells_0 5 rfl rfl)
theorem dX2_cells_8 : decode cX2_cells 8 = .ok (.imul, 1) := dk_104 (dk_at dksX2_cells_0 8 rfl rfl)
theorem dX2_cells_9 : decode cX2_cells 9 = .ok (.ireturn, 1) := dk_172 (dk_at dksX2_cells_0 9 rfl rfl)
abbrev mX2_cells : xM := (yX2_cells, cX2_cells, 1, (some .int), [])
def c_X2_cells (T : xF) (x0 : Option Nat) : Option Int32 :=
  (oI T x0 1 2).bind fun v1 =>
  (oI T x0 1 3).bind fun v5 =>
  some (v1 * v5)
theorem w_X2_cells {G : xG}  {T : xF} {x0 : Option Nat} {q : Int32} (hf : c_X2_cells T x0 = some q) : Ct G mX2_cells (1) T [va_rf x0] (.inl (some (.int q))) T := by
  refine Ct.ofc (plainFor_of_name (by decide +kernel)) rfl (xvQ xvN) (Nat.le_of_ble_eq_true rfl) (show Xr G _ 0 [(0, va_rf x0)] [] _ from ?_)
  unfold c_X2_cells at hf
  refine C.aload_n dX2_cells_0 rfl 0 rfl ?_
  obtain ⟨v1, h1, hf⟩ := ob hf
  refine C.getI dX2_cells_1 rX2_19 h1 ?_
  refine C.aload_n dX2_cells_4 rfl 0 rfl ?_
  obtain ⟨v5, h5, hf⟩ := ob hf
  refine C.getI dX2_cells_5 rX2_23 h5 ?_
  refine X.imul dX2_cells_8 ?_
  obtain rfl := Option.some.inj hf
  exact X.iret dX2_cells_9 rfl rfl rfl
theorem cX1_92 : xCV RX1 92 mX2_cells 0 := ⟨lw_V q617 q465 q466 q122 q467, rfl, ⟨by decide +kernel, by decide +kernel, by decide +kernel⟩, Nat.le_of_ble_eq_true rfl⟩
theorem cX3_43 : xCV RX3 43 mX2_cells 0 := ⟨lw_V q464 q465 q466 q122 q467, rfl, ⟨by decide +kernel, by decide +kernel, by decide +kernel⟩, Nat.le_of_ble_eq_true rfl⟩
theorem cX5_210 : xCV RX5 210 mX2_cells 0 := ⟨lw_V q1245 q465 q466 q122 q467, rfl, ⟨by decide +kernel, by decide +kernel, by decide +kernel⟩, Nat.le_of_ble_eq_true rfl⟩
/-! java/util/ArrayList isEmpty -/
abbrev cJ2_isEmpty : ByteArray := prog_38_method_9_code
def yJ2_isEmpty : MethodName := ⟨RJ2, "isEmpty", "()Z"⟩
def dkwJ2_isEmpty_0 : List UInt8 := [42, 180, 0, 48, 154, 0, 7, 4, 167, 0, 4, 3, 172]
abbrev dktJ2_isEmpty_0 : List UInt8 := dkwJ2_isEmpty_0 ++ []
theorem dksJ2_isEmpty_0 : cJ2_isEmpty.data.toList.drop 0 = dktJ2_isEmpty_0 := by decide +kernel
theorem dJ2_isEmpty_0 : decode cJ2_isEmpty 0 = .ok (.aload_n 0, 1) := dk_42 (dk_at dksJ2_isEmpty_0 0 rfl rfl)
theorem dJ2_isEmpty_1 : decode cJ2_isEmpty 1 = .ok (.getfield 48, 3) := dk_180 0 48 (dk_at dksJ2_isEmpty_0 1 rfl rfl)
theorem dJ2_isEmpty_4 : decode cJ2_isEmpty 4 = .ok (.ifCond .ne 7, 3) := dk_154 0 7 (dk_at dksJ2_isEmpty_0 4 rfl rfl)
theorem dJ2_isEmpty_7 : decode cJ2_isEmpty 7 = .ok (.iconst 1, 1) := dk_4 (dk_at dksJ2_isEmpty_0 7 rfl rfl)
theorem dJ2_isEmpty_8 : decode cJ2_isEmpty 8 = .ok (.goto 4, 3) := dk_167 0 4 (dk_at dksJ2_isEmpty_0 8 rfl rfl)
theorem dJ2_isEmpty_11 : decode cJ2_isEmpty 11 = .ok (.iconst 0, 1) := dk_3 (dk_at dksJ2_isEmpty_0 11 rfl rfl)
theorem dJ2_isEmpty_12 : decode cJ2_isEmpty 12 = .ok (.ireturn, 1) := dk_172 (dk_at dksJ2_isEmpty_0 12 rfl rfl)
abbrev mJ2_isEmpty : xM := (yJ2_isEmpty, cJ2_isEmpty, 1, (some .boolean), [])
def c_J2_isEmpty (T : xF) (x0 : Option Nat) : Option Int32 :=
  (oI T x0 10 2).bind fun v1 =>
  if v1 = 0 then
    some (1 : Int32)
  else
    some (0 : Int32)
theorem w_J2_isEmpty {G : xG}  {T : xF} {x0 : Option Nat} {q : Int32} (hf : c_J2_isEmpty T x0 = some q) : Ct G mJ2_isEmpty (1) T [va_rf x0] (.inl (some (.int q))) T := by
  refine Ct.ofc (plainFor_of_name (by decide +kernel)) rfl (xvQ xvN) (Nat.le_of_ble_eq_true rfl) (show Xr G _ 0 [(0, va_rf x0)] [] _ from ?_)
  unfold c_J2_isEmpty at hf
  refine C.aload_n dJ2_isEmpty_0 rfl 0 rfl ?_
  obtain ⟨v1, h1, hf⟩ := ob hf
  refine C.getI dJ2_isEmpty_1 rJ2_48 h1 ?_
  refine X.if_ne (tgt := 11) dJ2_isEmpty_4 (by decide) (fun c4 => ?_) (fun c4 => ?_)
  · have hf := if_f c4 hf
    refine X.iconst (v := 0) dJ2_isEmpty_11 (by decide) ?_
    obtain rfl := Option.some.inj hf
    exact X.iret dJ2_isEmpty_12 rfl rfl rfl
  · have hf := if_t c4 hf
    refine X.iconst (v := 1) dJ2_isEmpty_7 (by decide) ?_
    refine X.goto (tgt := 12) dJ2_isEmpty_8 (by decide) ?_
    obtain rfl := Option.some.inj hf
    exact X.iret dJ2_isEmpty_12 rfl rfl rfl
theorem cX1_209 : xCF RX1 209 "java/util/ArrayList" ⟨"java/util/List", "isEmpty", "()Z"⟩ mJ2_isEmpty 0 := ⟨lw_F q611 q480 q482 q125 q484, rfl, ⟨by decide +kernel, by decide +kernel, by decide +kernel⟩, Nat.le_of_ble_eq_true rfl, by decide⟩
theorem cX2_32 : xCF RX2 32 "java/util/ArrayList" ⟨"java/util/List", "isEmpty", "()Z"⟩ mJ2_isEmpty 0 := ⟨lw_F q477 q480 q482 q125 q484, rfl, ⟨by decide +kernel, by decide +kernel, by decide +kernel⟩, Nat.le_of_ble_eq_true rfl, by decide⟩
/-! java/lang/Integer intValue -/
abbrev cJ14_intValue : ByteArray := prog_22_method_27_code
def yJ14_intValue : MethodName := ⟨RJ14, "intValue", "()I"⟩
theorem dJ14_intValue_0 : decode cJ14_intValue 0 = .ok (.aload_n 0, 1) := by decide +kernel
theorem dJ14_intValue_1 : decode cJ14_intValue 1 = .ok (.getfield 205, 3) := by decide +kernel
theorem dJ14_intValue_4 : decode cJ14_intValue 4 = .ok (.ireturn, 1) := by decide +kernel
abbrev mJ14_intValue : xM := (yJ14_intValue, cJ14_intValue, 1, (some .int), [])
def c_J14_intValue (T : xF) (x0 : Option Nat) : Option Int32 :=
  (oI T x0 11 0).bind fun v1 =>
  some v1
theorem w_J14_intValue {G : xG}  {T : xF} {x0 : Option Nat} {q : Int32} (hf : c_J14_intValue T x0 = some q) : Ct G mJ14_intValue (1) T [va_rf x0] (.inl (some (.int q))) T := by
  refine Ct.ofc (plainFor_of_name (by decide +kernel)) rfl (xvQ xvN) (Nat.le_of_ble_eq_true rfl) (show Xr G _ 0 [(0, va_rf x0)] [] _ from ?_)
  unfold c_J14_intValue at hf
  refine C.aload_n dJ14_intValue_0 rfl 0 rfl ?_
  obtain ⟨v1, h1, hf⟩ := ob hf
  refine C.getI dJ14_intValue_1 rJ14_205 h1 ?_
  obtain rfl := Option.some.inj hf
  exact X.iret dJ14_intValue_4 rfl rfl rfl
theorem cX1_173 : xCV RX1 173 mJ14_intValue 0 := ⟨lw_V q660 q502 q503 q141 q504, rfl, ⟨by decide +kernel, by decide +kernel, by decide +kernel⟩, Nat.le_of_ble_eq_true rfl⟩
theorem cX3_140 : xCV RX3 140 mJ14_intValue 0 := ⟨lw_V q687 q502 q503 q141 q504, rfl, ⟨by decide +kernel, by decide +kernel, by decide +kernel⟩, Nat.le_of_ble_eq_true rfl⟩
theorem cX2_48 : xCV RX2 48 mJ14_intValue 0 := ⟨lw_V q501 q502 q503 q141 q504, rfl, ⟨by decide +kernel, by decide +kernel, by decide +kernel⟩, Nat.le_of_ble_eq_true rfl⟩
/-! MouldVotes$Roll warmth -/
abbrev cX2_warmth : ByteArray := prog_8_method_3_code
def yX2_warmth : MethodName := ⟨RX2, "warmth", "(I)I"⟩
def dkwX2_warmth_1 : List UInt8 := [180, 0, 16, 185, 0, 38, 1, 0, 112, 185, 0, 42, 2, 0, 192, 0, 46, 182, 0, 48, 172]
abbrev dktX2_warmth_1 : List UInt8 := dkwX2_warmth_1 ++ []
def dkwX2_warmth_0 : List UInt8 := [42, 180, 0, 16, 185, 0, 32, 1, 0, 153, 0, 7, 8, 167, 0, 29, 42, 180, 0, 16, 27, 42]
abbrev dktX2_warmth_0 : List UInt8 := dkwX2_warmth_0 ++ dktX2_warmth_1
theorem dksX2_warmth_0 : cX2_warmth.data.toList.drop 0 = dktX2_warmth_0 := by decide +kernel
theorem dksX2_warmth_1 : cX2_warmth.data.toList.drop 22 = dktX2_warmth_1 := dk_seg dksX2_warmth_0 22 rfl rfl
theorem dX2_warmth_0 : decode cX2_warmth 0 = .ok (.aload_n 0, 1) := dk_42 (dk_at dksX2_warmth_0 0 rfl rfl)
theorem dX2_warmth_1 : decode cX2_warmth 1 = .ok (.getfield 16, 3) := dk_180 0 16 (dk_at dksX2_warmth_0 1 rfl rfl)
theorem dX2_warmth_4 : decode cX2_warmth 4 = .ok (.invokeinterface 32 1, 5) := by decide +kernel
theorem dX2_warmth_9 : decode cX2_warmth 9 = .ok (.ifCond .eq 7, 3) := dk_153 0 7 (dk_at dksX2_warmth_0 9 rfl rfl)
theorem dX2_warmth_12 : decode cX2_warmth 12 = .ok (.iconst 5, 1) := dk_8 (dk_at dksX2_warmth_0 12 rfl rfl)
theorem dX2_warmth_13 : decode cX2_warmth 13 = .ok (.goto 29, 3) := dk_167 0 29 (dk_at dksX2_warmth_0 13 rfl rfl)
theorem dX2_warmth_16 : decode cX2_warmth 16 = .ok (.aload_n 0, 1) := dk_42 (dk_at dksX2_warmth_0 16 rfl rfl)
theorem dX2_warmth_17 : decode cX2_warmth 17 = .ok (.getfield 16, 3) := dk_180 0 16 (dk_at dksX2_warmth_0 17 rfl rfl)
theorem dX2_warmth_20 : decode cX2_warmth 20 = .ok (.iload_n 1, 1) := dk_27 (dk_at dksX2_warmth_0 20 rfl rfl)
theorem dX2_warmth_21 : decode cX2_warmth 21 = .ok (.aload_n 0, 1) := dk_42 (dk_at dksX2_warmth_0 21 rfl rfl)
theorem dX2_warmth_22 : decode cX2_warmth 22 = .ok (.getfield 16, 3) := dk_180 0 16 (dk_at dksX2_warmth_1 0 rfl rfl)
theorem dX2_warmth_25 : decode cX2_warmth 25 = .ok (.invokeinterface 38 1, 5) := by decide +kernel
theorem dX2_warmth_30 : decode cX2_warmth 30 = .ok (.irem, 1) := dk_112 (dk_at dksX2_warmth_1 8 rfl rfl)
theorem dX2_warmth_31 : decode cX2_warmth 31 = .ok (.invokeinterface 42 2, 5) := by decide +kernel
theorem dX2_warmth_36 : decode cX2_warmth 36 = .ok (.checkcast 46, 3) := dk_192 0 46 (dk_at dksX2_warmth_1 14 rfl rfl)
theorem dX2_warmth_39 : decode cX2_warmth 39 = .ok (.invokevirtual 48, 3) := dk_182 0 48 (dk_at dksX2_warmth_1 17 rfl rfl)
theorem dX2_warmth_42 : decode cX2_warmth 42 = .ok (.ireturn, 1) := dk_172 (dk_at dksX2_warmth_1 20 rfl rfl)
abbrev mX2_warmth : xM := (yX2_warmth, cX2_warmth, 2, (some .int), [])
def c_X2_warmth (T : xF) (x0 : Option Nat) (x1 : Int32) : Option Int32 :=
  (oQ T x0 1 1).bind fun v1 =>
  if ¬ isO T v1 10 = true then none else
  (c_J2_isEmpty T v1).bind fun v4 =>
  if v4 = 0 then
    (oQ T x0 1 1).bind fun v17 =>
    (oQ T x0 1 1).bind fun v22 =>
    if ¬ isO T v22 10 = true then none else
    (c_J2_size T v22).bind fun v25 =>
    if v25 = 0 then none else
    if ¬ isO T v17 10 = true then none else
    (c_J2_get T v17 (x1 - x1 / v25 * v25)).bind fun v31 =>
    if ¬ cst T v31 [11] = true then none else
    if ¬ isO T v31 11 = true then none else
    (c_J14_intValue T v31).bind fun v39 =>
    some v39
  else
    some (5 : Int32)
theorem w_X2_warmth {G : xG}  {T : xF} {x0 : Option Nat} {x1 : Int32} {q : Int32} (hf : c_X2_warmth T x0 x1 = some q) : Ct G mX2_warmth (4) T [va_rf x0, .int x1] (.inl (some (.int q))) T := by
  refine Ct.ofc (plainFor_of_name (by decide +kernel)) rfl (xvQ (xvI xvN)) (Nat.le_of_ble_eq_true rfl) (show Xr G _ 0 [(0, va_rf x0), (1, .int x1)] [] _ from ?_)
  unfold c_X2_warmth at hf
  refine C.aload_n dX2_warmth_0 rfl 0 rfl ?_
  obtain ⟨v1, h1, hf⟩ := ob hf
  refine C.getQ dX2_warmth_1 rX2_16 h1 ?_
  obtain ⟨c4, hf⟩ := if_n hf
  obtain ⟨v4, h4, hf⟩ := ob hf
  refine X.keep fun l4 => C.Fi (As := []) (rest := []) dX2_warmth_4 (w_J2_isEmpty h4) cX2_32 (Classical.not_not.mp c4) rfl rfl (xcs xvN (Nat.le_of_ble_eq_true rfl)) rfl rfl (xD (Nat.le_of_ble_eq_true rfl)) xle.rf l4 ?_
  refine X.if_eq (tgt := 16) dX2_warmth_9 (by decide) (fun c9 => ?_) (fun c9 => ?_)
  · have hf := if_t c9 hf
    refine C.aload_n dX2_warmth_16 rfl 0 rfl ?_
    obtain ⟨v17, h17, hf⟩ := ob hf
    refine C.getQ dX2_warmth_17 rX2_16 h17 ?_
    refine X.iload_n dX2_warmth_20 rfl 1 rfl ?_
    refine C.aload_n dX2_warmth_21 rfl 0 rfl ?_
    obtain ⟨v22, h22, hf⟩ := ob hf
    refine C.getQ dX2_warmth_22 rX2_16 h22 ?_
    obtain ⟨c25, hf⟩ := if_n hf
    obtain ⟨v25, h25, hf⟩ := ob hf
    refine X.keep fun l25 => C.Fi (As := []) (rest := [.int x1, va_rf v17]) dX2_warmth_25 (w_J2_size h25) cX2_38 (Classical.not_not.mp c25) rfl rfl (xcs (xvI (xvQ xvN)) (Nat.le_of_ble_eq_true rfl)) rfl rfl (xD (Nat.le_of_ble_eq_true rfl)) xle.rf l25 ?_
    obtain ⟨c30, hf⟩ := if_n hf
    refine X.irem dX2_warmth_30 c30 ?_
    obtain ⟨c31, hf⟩ := if_n hf
    obtain ⟨v31, h31, hf⟩ := ob hf
    refine X.keep fun l31 => C.Fq (As := [.int (x1 - x1 / v25 * v25)]) (rest := []) dX2_warmth_31 (w_J2_get h31) cX2_42 (Classical.not_not.mp c31) rfl rfl (xcs xvN (Nat.le_of_ble_eq_true rfl)) rfl rfl (xD (Nat.le_of_ble_eq_true rfl)) xle.rf l31 ?_
    obtain ⟨c36, hf⟩ := if_n hf
    refine C.cast dX2_warmth_36 q500 ca_Integer (Classical.not_not.mp c36) ?_
    obtain ⟨c39, hf⟩ := if_n hf
    obtain ⟨v39, h39, hf⟩ := ob hf
    refine X.keep fun l39 => C.Vi (As := []) (rest := []) dX2_warmth_39 (w_J14_intValue h39) cX2_48 (Classical.not_not.mp c39) rfl rfl (xcs xvN (Nat.le_of_ble_eq_true rfl)) rfl rfl (xD (Nat.le_of_ble_eq_true rfl)) xle.rf l39 ?_
    obtain rfl := Option.some.inj hf
    exact X.iret dX2_warmth_42 rfl rfl rfl
  · have hf := if_f c9 hf
    refine X.iconst (v := 5) dX2_warmth_12 (by decide) ?_
    refine X.goto (tgt := 42) dX2_warmth_13 (by decide) ?_
    obtain rfl := Option.some.inj hf
    exact X.iret dX2_warmth_42 rfl rfl rfl
theorem cX1_112 : xCV RX1 112 mX2_warmth 1 := ⟨lw_V q1259 q473 q474 q122 q475, rfl, ⟨by decide +kernel, by decide +kernel, by decide +kernel⟩, Nat.le_of_ble_eq_true rfl⟩
theorem cX3_53 : xCV RX3 53 mX2_warmth 1 := ⟨lw_V q472 q473 q474 q122 q475, rfl, ⟨by decide +kernel, by decide +kernel, by decide +kernel⟩, Nat.le_of_ble_eq_true rfl⟩
/-! java/lang/Math abs -/
abbrev cJ7_abs : ByteArray := prog_25_method_59_code
def yJ7_abs : MethodName := ⟨RJ7, "abs", "(I)I"⟩
def dkwJ7_abs_0 : List UInt8 := [26, 156, 0, 8, 26, 116, 167, 0, 4, 26, 172]
abbrev dktJ7_abs_0 : List UInt8 := dkwJ7_abs_0 ++ []
theorem dksJ7_abs_0 : cJ7_abs.data.toList.drop 0 = dktJ7_abs_0 := by decide +kernel
theorem dJ7_abs_0 : decode cJ7_abs 0 = .ok (.iload_n 0, 1) := dk_26 (dk_at dksJ7_abs_0 0 rfl rfl)
theorem dJ7_abs_1 : decode cJ7_abs 1 = .ok (.ifCond .ge 8, 3) := dk_156 0 8 (dk_at dksJ7_abs_0 1 rfl rfl)
theorem dJ7_abs_4 : decode cJ7_abs 4 = .ok (.iload_n 0, 1) := dk_26 (dk_at dksJ7_abs_0 4 rfl rfl)
theorem dJ7_abs_5 : decode cJ7_abs 5 = .ok (.ineg, 1) := dk_116 (dk_at dksJ7_abs_0 5 rfl rfl)
theorem dJ7_abs_6 : decode cJ7_abs 6 = .ok (.goto 4, 3) := dk_167 0 4 (dk_at dksJ7_abs_0 6 rfl rfl)
theorem dJ7_abs_9 : decode cJ7_abs 9 = .ok (.iload_n 0, 1) := dk_26 (dk_at dksJ7_abs_0 9 rfl rfl)
theorem dJ7_abs_10 : decode cJ7_abs 10 = .ok (.ireturn, 1) := dk_172 (dk_at dksJ7_abs_0 10 rfl rfl)
abbrev mJ7_abs : xM := (yJ7_abs, cJ7_abs, 1, (some .int), [])
def c_J7_abs (x0 : Int32) : Option Int32 :=
  if 0 ≤ x0 then
    some x0
  else
    some (-x0)
theorem w_J7_abs {G : xG}  {T : xF} {x0 : Int32} {q : Int32} (hf : c_J7_abs x0 = some q) : Ct G mJ7_abs (1) T [.int x0] (.inl (some (.int q))) T := by
  refine Ct.ofc (by decide +kernel) rfl (xvI xvN) (Nat.le_of_ble_eq_true rfl) (show Xr G _ 0 [(0, .int x0)] [] _ from ?_)
  unfold c_J7_abs at hf
  refine X.iload_n dJ7_abs_0 rfl 0 rfl ?_
  refine X.if_ge (tgt := 9) dJ7_abs_1 (by decide) (fun c1 => ?_) (fun c1 => ?_)
  · have hf := if_t c1 hf
    refine X.iload_n dJ7_abs_9 rfl 0 rfl ?_
    obtain rfl := Option.some.inj hf
    exact X.iret dJ7_abs_10 rfl rfl rfl
  · have hf := if_f c1 hf
    refine X.iload_n dJ7_abs_4 rfl 0 rfl ?_
    refine X.ineg dJ7_abs_5 ?_
    refine X.goto (tgt := 10) dJ7_abs_6 (by decide) ?_
    obtain rfl := Option.some.inj hf
    exact X.iret dJ7_abs_10 rfl rfl rfl
theorem cX3_57 : xCS RX3 57 mJ7_abs 1 := ⟨lw_S q505 q506 q133 q507, rfl, ⟨by decide +kernel, by decide +kernel, by decide +kernel⟩, Nat.le_of_ble_eq_true rfl⟩
theorem cX2_51 : xCS RX2 51 mJ7_abs 1 := ⟨lw_S q516 q506 q133 q507, rfl, ⟨by decide +kernel, by decide +kernel, by decide +kernel⟩, Nat.le_of_ble_eq_true rfl⟩
/-! MouldVotes$Roll steps -/
abbrev cX2_steps : ByteArray := prog_8_method_4_code
def yX2_steps : MethodName := ⟨RX2, "steps", "(II)I"⟩
def dkwX2_steps_1 : List UInt8 := [180, 0, 19, 112, 100, 184, 0, 51, 96, 172]
abbrev dktX2_steps_1 : List UInt8 := dkwX2_steps_1 ++ []
def dkwX2_steps_0 : List UInt8 := [27, 42, 180, 0, 19, 108, 28, 42, 180, 0, 19, 108, 100, 184, 0, 51, 27, 42, 180, 0, 19, 112, 28, 42]
abbrev dktX2_steps_0 : List UInt8 := dkwX2_steps_0 ++ dktX2_steps_1
theorem dksX2_steps_0 : cX2_steps.data.toList.drop 0 = dktX2_steps_0 := by decide +kernel
theorem dksX2_steps_1 : cX2_steps.data.toList.drop 24 = dktX2_steps_1 := dk_seg dksX2_steps_0 24 rfl rfl
theorem dX2_steps_0 : decode cX2_steps 0 = .ok (.iload_n 1, 1) := dk_27 (dk_at dksX2_steps_0 0 rfl rfl)
theorem dX2_steps_1 : decode cX2_steps 1 = .ok (.aload_n 0, 1) := dk_42 (dk_at dksX2_steps_0 1 rfl rfl)
theorem dX2_steps_2 : decode cX2_steps 2 = .ok (.getfield 19, 3) := dk_180 0 19 (dk_at dksX2_steps_0 2 rfl rfl)
theorem dX2_steps_5 : decode cX2_steps 5 = .ok (.idiv, 1) := dk_108 (dk_at dksX2_steps_0 5 rfl rfl)
theorem dX2_steps_6 : decode cX2_steps 6 = .ok (.iload_n 2, 1) := dk_28 (dk_at dksX2_steps_0 6 rfl rfl)
theorem dX2_steps_7 : decode cX2_steps 7 = .ok (.aload_n 0, 1) := dk_42 (dk_at dksX2_steps_0 7 rfl rfl)
theorem dX2_steps_8 : decode cX2_steps 8 = .ok (.getfield 19, 3) := dk_180 0 19 (dk_at dksX2_steps_0 8 rfl rfl)
theorem dX2_steps_11 : decode cX2_steps 11 = .ok (.idiv, 1) := dk_108 (dk_at dksX2_steps_0 11 rfl rfl)
theorem dX2_steps_12 : decode cX2_steps 12 = .ok (.isub, 1) := dk_100 (dk_at dksX2_steps_0 12 rfl rfl)
theorem dX2_steps_13 : decode cX2_steps 13 = .ok (.invokestatic 51, 3) := dk_184 0 51 (dk_at dksX2_steps_0 13 rfl rfl)
theorem dX2_steps_16 : decode cX2_steps 16 = .ok (.iload_n 1, 1) := dk_27 (dk_at dksX2_steps_0 16 rfl rfl)
theorem dX2_steps_17 : decode cX2_steps 17 = .ok (.aload_n 0, 1) := dk_42 (dk_at dksX2_steps_0 17 rfl rfl)
theorem dX2_steps_18 : decode cX2_steps 18 = .ok (.getfield 19, 3) := dk_180 0 19 (dk_at dksX2_steps_0 18 rfl rfl)
theorem dX2_steps_21 : decode cX2_steps 21 = .ok (.irem, 1) := dk_112 (dk_at dksX2_steps_0 21 rfl rfl)
theorem dX2_steps_22 : decode cX2_steps 22 = .ok (.iload_n 2, 1) := dk_28 (dk_at dksX2_steps_0 22 rfl rfl)
theorem dX2_steps_23 : decode cX2_steps 23 = .ok (.aload_n 0, 1) := dk_42 (dk_at dksX2_steps_0 23 rfl rfl)
theorem dX2_steps_24 : decode cX2_steps 24 = .ok (.getfield 19, 3) := dk_180 0 19 (dk_at dksX2_steps_1 0 rfl rfl)
theorem dX2_steps_27 : decode cX2_steps 27 = .ok (.irem, 1) := dk_112 (dk_at dksX2_steps_1 3 rfl rfl)
theorem dX2_steps_28 : decode cX2_steps 28 = .ok (.isub, 1) := dk_100 (dk_at dksX2_steps_1 4 rfl rfl)
theorem dX2_steps_29 : decode cX2_steps 29 = .ok (.invokestatic 51, 3) := dk_184 0 51 (dk_at dksX2_steps_1 5 rfl rfl)
theorem dX2_steps_32 : decode cX2_steps 32 = .ok (.iadd, 1) := dk_96 (dk_at dksX2_steps_1 8 rfl rfl)
theorem dX2_steps_33 : decode cX2_steps 33 = .ok (.ireturn, 1) := dk_172 (dk_at dksX2_steps_1 9 rfl rfl)
abbrev mX2_steps : xM := (yX2_steps, cX2_steps, 3, (some .int), [])
def c_X2_steps (T : xF) (x0 : Option Nat) (x1 : Int32) (x2 : Int32) : Option Int32 :=
  (oI T x0 1 2).bind fun v2 =>
  if v2 = 0 then none else
  (oI T x0 1 2).bind fun v8 =>
  if v8 = 0 then none else
  (c_J7_abs ((x1 / v2) - (x2 / v8))).bind fun v13 =>
  (oI T x0 1 2).bind fun v18 =>
  if v18 = 0 then none else
  (oI T x0 1 2).bind fun v24 =>
  if v24 = 0 then none else
  (c_J7_abs ((x1 - x1 / v18 * v18) - (x2 - x2 / v24 * v24))).bind fun v29 =>
  some (v13 + v29)
theorem w_X2_steps {G : xG}  {T : xF} {x0 : Option Nat} {x1 : Int32} {x2 : Int32} {q : Int32} (hf : c_X2_steps T x0 x1 x2 = some q) : Ct G mX2_steps (2) T [va_rf x0, .int x1, .int x2] (.inl (some (.int q))) T := by
  refine Ct.ofc (plainFor_of_name (by decide +kernel)) rfl (xvQ (xvI (xvI xvN))) (Nat.le_of_ble_eq_true rfl) (show Xr G _ 0 [(0, va_rf x0), (1, .int x1), (2, .int x2)] [] _ from ?_)
  unfold c_X2_steps at hf
  refine X.iload_n dX2_steps_0 rfl 1 rfl ?_
  refine C.aload_n dX2_steps_1 rfl 0 rfl ?_
  obtain ⟨v2, h2, hf⟩ := ob hf
  refine C.getI dX2_steps_2 rX2_19 h2 ?_
  obtain ⟨c5, hf⟩ := if_n hf
  refine X.idiv dX2_steps_5 c5 ?_
  refine X.iload_n dX2_steps_6 rfl 2 rfl ?_
  refine C.aload_n dX2_steps_7 rfl 0 rfl ?_
  obtain ⟨v8, h8, hf⟩ := ob hf
  refine C.getI dX2_steps_8 rX2_19 h8 ?_
  obtain ⟨c11, hf⟩ := if_n hf
  refine X.idiv dX2_steps_11 c11 ?_
  refine X.isub dX2_steps_12 ?_
  obtain ⟨v13, h13, hf⟩ := ob hf
  refine X.keep fun l13 => C.Si (As := [.int ((x1 / v2) - (x2 / v8))]) (rest := []) dX2_steps_13 (w_J7_abs h13) cX2_51 rfl rfl (xcs xvN (Nat.le_of_ble_eq_true rfl)) (xD (Nat.le_of_ble_eq_true rfl)) xle.rf l13 ?_
  refine X.iload_n dX2_steps_16 rfl 1 rfl ?_
  refine C.aload_n dX2_steps_17 rfl 0 rfl ?_
  obtain ⟨v18, h18, hf⟩ := ob hf
  refine C.getI dX2_steps_18 rX2_19 h18 ?_
  obtain ⟨c21, hf⟩ := if_n hf
  refine X.irem dX2_steps_21 c21 ?_
  refine X.iload_n dX2_steps_22 rfl 2 rfl ?_
  refine C.aload_n dX2_steps_23 rfl 0 rfl ?_
  obtain ⟨v24, h24, hf⟩ := ob hf
  refine C.getI dX2_steps_24 rX2_19 h24 ?_
  obtain ⟨c27, hf⟩ := if_n hf
  refine X.irem dX2_steps_27 c27 ?_
  refine X.isub dX2_steps_28 ?_
  obtain ⟨v29, h29, hf⟩ := ob hf
  refine X.keep fun l29 => C.Si (As := [.int ((x1 - x1 / v18 * v18) - (x2 - x2 / v24 * v24))]) (rest := [.int v13]) dX2_steps_29 (w_J7_abs h29) cX2_51 rfl rfl (xcs (xvI xvN) (Nat.le_of_ble_eq_true rfl)) (xD (Nat.le_of_ble_eq_true rfl)) xle.rf l29 ?_
  refine X.iadd dX2_steps_32 ?_
  obtain rfl := Option.some.inj hf
  exact X.iret dX2_steps_33 rfl rfl rfl
theorem cX1_141 : xCV RX1 141 mX2_steps 2 := ⟨lw_V q661 q513 q514 q122 q515, rfl, ⟨by decide +kernel, by decide +kernel, by decide +kernel⟩, Nat.le_of_ble_eq_true rfl⟩
theorem cX3_49 : xCV RX3 49 mX2_steps 2 := ⟨lw_V q512 q513 q514 q122 q515, rfl, ⟨by decide +kernel, by decide +kernel, by decide +kernel⟩, Nat.le_of_ble_eq_true rfl⟩
/-! MouldVotes$Growth beside -/
abbrev cX3_beside : ByteArray := prog_4_method_4_code
def yX3_beside : MethodName := ⟨RX3, "beside", "(IZ)I"⟩
def dkwX3_beside_3 : List UInt8 := [160, 0, 6, 132, 3, 1, 132, 4, 1, 167, 255, 182, 29, 172]
abbrev dktX3_beside_3 : List UInt8 := dkwX3_beside_3 ++ []
def dkwX3_beside_2 : List UInt8 := [42, 180, 0, 22, 21, 4, 46, 42, 180, 0, 22, 27, 46, 160, 0, 7, 4, 167, 0, 4, 3, 28]
abbrev dktX3_beside_2 : List UInt8 := dkwX3_beside_2 ++ dktX3_beside_3
def dkwX3_beside_1 : List UInt8 := [21, 4, 46, 2, 159, 0, 48, 42, 180, 0, 3, 180, 0, 39, 21, 4, 27, 182, 0, 49, 4, 160, 0, 31]
abbrev dktX3_beside_1 : List UInt8 := dkwX3_beside_1 ++ dktX3_beside_2
def dkwX3_beside_0 : List UInt8 := [3, 62, 3, 54, 4, 21, 4, 42, 180, 0, 3, 180, 0, 39, 182, 0, 43, 162, 0, 65, 42, 180, 0, 22]
abbrev dktX3_beside_0 : List UInt8 := dkwX3_beside_0 ++ dktX3_beside_1
theorem dksX3_beside_0 : cX3_beside.data.toList.drop 0 = dktX3_beside_0 := by decide +kernel
theorem dksX3_beside_1 : cX3_beside.data.toList.drop 24 = dktX3_beside_1 := dk_seg dksX3_beside_0 24 rfl rfl
theorem dksX3_beside_2 : cX3_beside.data.toList.drop 48 = dktX3_beside_2 := dk_seg dksX3_beside_1 24 rfl rfl
theorem dksX3_beside_3 : cX3_beside.data.toList.drop 70 = dktX3_beside_3 := dk_seg dksX3_beside_2 22 rfl rfl
theorem dX3_beside_0 : decode cX3_beside 0 = .ok (.iconst 0, 1) := dk_3 (dk_at dksX3_beside_0 0 rfl rfl)
theorem dX3_beside_1 : decode cX3_beside 1 = .ok (.istore_n 3, 1) := dk_62 (dk_at dksX3_beside_0 1 rfl rfl)
theorem dX3_beside_2 : decode cX3_beside 2 = .ok (.iconst 0, 1) := dk_3 (dk_at dksX3_beside_0 2 rfl rfl)
theorem dX3_beside_3 : decode cX3_beside 3 = .ok (.istore 4, 2) := dk_54 4 (dk_at dksX3_beside_0 3 rfl rfl)
theorem dX3_beside_5 : decode cX3_beside 5 = .ok (.iload 4, 2) := dk_21 4 (dk_at dksX3_beside_0 5 rfl rfl)
theorem dX3_beside_7 : decode cX3_beside 7 = .ok (.aload_n 0, 1) := dk_42 (dk_at dksX3_beside_0 7 rfl rfl)
theorem dX3_beside_8 : decode cX3_beside 8 = .ok (.getfield 3, 3) := dk_180 0 3 (dk_at dksX3_beside_0 8 rfl rfl)
theorem dX3_beside_11 : decode cX3_beside 11 = .ok (.getfield 39, 3) := dk_180 0 39 (dk_at dksX3_beside_0 11 rfl rfl)
theorem dX3_beside_14 : decode cX3_beside 14 = .ok (.invokevirtual 43, 3) := dk_182 0 43 (dk_at dksX3_beside_0 14 rfl rfl)
theorem dX3_beside_17 : decode cX3_beside 17 = .ok (.if_icmp .ge 65, 3) := dk_162 0 65 (dk_at dksX3_beside_0 17 rfl rfl)
theorem dX3_beside_20 : decode cX3_beside 20 = .ok (.aload_n 0, 1) := dk_42 (dk_at dksX3_beside_0 20 rfl rfl)
theorem dX3_beside_21 : decode cX3_beside 21 = .ok (.getfield 22, 3) := dk_180 0 22 (dk_at dksX3_beside_0 21 rfl rfl)
theorem dX3_beside_24 : decode cX3_beside 24 = .ok (.iload 4, 2) := dk_21 4 (dk_at dksX3_beside_1 0 rfl rfl)
theorem dX3_beside_26 : decode cX3_beside 26 = .ok (.iaload, 1) := dk_46 (dk_at dksX3_beside_1 2 rfl rfl)
theorem dX3_beside_27 : decode cX3_beside 27 = .ok (.iconst (-1), 1) := dk_2 (dk_at dksX3_beside_1 3 rfl rfl)
theorem dX3_beside_28 : decode cX3_beside 28 = .ok (.if_icmp .eq 48, 3) := dk_159 0 48 (dk_at dksX3_beside_1 4 rfl rfl)
theorem dX3_beside_31 : decode cX3_beside 31 = .ok (.aload_n 0, 1) := dk_42 (dk_at dksX3_beside_1 7 rfl rfl)
theorem dX3_beside_32 : decode cX3_beside 32 = .ok (.getfield 3, 3) := dk_180 0 3 (dk_at dksX3_beside_1 8 rfl rfl)
theorem dX3_beside_35 : decode cX3_beside 35 = .ok (.getfield 39, 3) := dk_180 0 39 (dk_at dksX3_beside_1 11 rfl rfl)
theorem dX3_beside_38 : decode cX3_beside 38 = .ok (.iload 4, 2) := dk_21 4 (dk_at dksX3_beside_1 14 rfl rfl)
theorem dX3_beside_40 : decode cX3_beside 40 = .ok (.iload_n 1, 1) := dk_27 (dk_at dksX3_beside_1 16 rfl rfl)
theorem dX3_beside_41 : decode cX3_beside 41 = .ok (.invokevirtual 49, 3) := dk_182 0 49 (dk_at dksX3_beside_1 17 rfl rfl)
theorem dX3_beside_44 : decode cX3_beside 44 = .ok (.iconst 1, 1) := dk_4 (dk_at dksX3_beside_1 20 rfl rfl)
theorem dX3_beside_45 : decode cX3_beside 45 = .ok (.if_icmp .ne 31, 3) := dk_160 0 31 (dk_at dksX3_beside_1 21 rfl rfl)
theorem dX3_beside_48 : decode cX3_beside 48 = .ok (.aload_n 0, 1) := dk_42 (dk_at dksX3_beside_2 0 rfl rfl)
theorem dX3_beside_49 : decode cX3_beside 49 = .ok (.getfield 22, 3) := dk_180 0 22 (dk_at dksX3_beside_2 1 rfl rfl)
theorem dX3_beside_52 : decode cX3_beside 52 = .ok (.iload 4, 2) := dk_21 4 (dk_at dksX3_beside_2 4 rfl rfl)
theorem dX3_beside_54 : decode cX3_beside 54 = .ok (.iaload, 1) := dk_46 (dk_at dksX3_beside_2 6 rfl rfl)
theorem dX3_beside_55 : decode cX3_beside 55 = .ok (.aload_n 0, 1) := dk_42 (dk_at dksX3_beside_2 7 rfl rfl)
theorem dX3_beside_56 : decode cX3_beside 56 = .ok (.getfield 22, 3) := dk_180 0 22 (dk_at dksX3_beside_2 8 rfl rfl)
theorem dX3_beside_59 : decode cX3_beside 59 = .ok (.iload_n 1, 1) := dk_27 (dk_at dksX3_beside_2 11 rfl rfl)
theorem dX3_beside_60 : decode cX3_beside 60 = .ok (.iaload, 1) := dk_46 (dk_at dksX3_beside_2 12 rfl rfl)
theorem dX3_beside_61 : decode cX3_beside 61 = .ok (.if_icmp .ne 7, 3) := dk_160 0 7 (dk_at dksX3_beside_2 13 rfl rfl)
theorem dX3_beside_64 : decode cX3_beside 64 = .ok (.iconst 1, 1) := dk_4 (dk_at dksX3_beside_2 16 rfl rfl)
theorem dX3_beside_65 : decode cX3_beside 65 = .ok (.goto 4, 3) := dk_167 0 4 (dk_at dksX3_beside_2 17 rfl rfl)
theorem dX3_beside_68 : decode cX3_beside 68 = .ok (.iconst 0, 1) := dk_3 (dk_at dksX3_beside_2 20 rfl rfl)
theorem dX3_beside_69 : decode cX3_beside 69 = .ok (.iload_n 2, 1) := dk_28 (dk_at dksX3_beside_2 21 rfl rfl)
theorem dX3_beside_70 : decode cX3_beside 70 = .ok (.if_icmp .ne 6, 3) := dk_160 0 6 (dk_at dksX3_beside_3 0 rfl rfl)
theorem dX3_beside_73 : decode cX3_beside 73 = .ok (.iinc 3 1, 3) := dk_132 3 1 (dk_at dksX3_beside_3 3 rfl rfl)
theorem dX3_beside_76 : decode cX3_beside 76 = .ok (.iinc 4 1, 3) := dk_132 4 1 (dk_at dksX3_beside_3 6 rfl rfl)
theorem dX3_beside_79 : decode cX3_beside 79 = .ok (.goto (-74), 3) := dk_167 255 182 (dk_at dksX3_beside_3 9 rfl rfl)
theorem dX3_beside_82 : decode cX3_beside 82 = .ok (.iload_n 3, 1) := dk_29 (dk_at dksX3_beside_3 12 rfl rfl)
theorem dX3_beside_83 : decode cX3_beside 83 = .ok (.ireturn, 1) := dk_172 (dk_at dksX3_beside_3 13 rfl rfl)
abbrev mX3_beside : xM := (yX3_beside, cX3_beside, 5, (some .int), [])
def c_X3_beside_76 (T : xF) (k5 : Option Nat → Int32 → Int32 → Int32 → Int32 → Option Int32) (x0 : Option Nat) (x1 : Int32) (x2 : Int32) (x3 : Int32) (x4 : Int32) : Option Int32 :=
  k5 x0 x1 x2 x3 (x4 + 1)
theorem c_X3_beside_76_ok {G : xG}  {T : xF} {k5 : Option Nat → Int32 → Int32 → Int32 → Int32 → Option Int32} (hk5 : ∀ (x0 : Option Nat) (x1 : Int32) (x2 : Int32) (x3 : Int32) (x4 : Int32) (q : Int32), k5 x0 x1 x2 x3 x4 = some q → Xr G (mX3_beside, xrm (3) T T, T, .inl (some (.int q)), T) 5 [(0, va_rf x0), (1, .int x1), (2, .int x2), (3, .int x3), (4, .int x4)] [] T) (x0 : Option Nat) (x1 : Int32) (x2 : Int32) (x3 : Int32) (x4 : Int32) (q : Int32) (hf : c_X3_beside_76 T k5 x0 x1 x2 x3 x4 = some q) : Xr G (mX3_beside, xrm (3) T T, T, .inl (some (.int q)), T) 76 [(0, va_rf x0), (1, .int x1), (2, .int x2), (3, .int x3), (4, .int x4)] [] T := by
  unfold c_X3_beside_76 at hf
  refine C.iinc (v := (x4 + 1)) (L' := [(4, .int (x4 + 1)), (0, va_rf x0), (1, .int x1), (2, .int x2), (3, .int x3)]) dX3_beside_76 4 rfl rfl (Nat.le_of_ble_eq_true rfl) (xcQ (xcI (xcI (xcI (xcI xcN))))) rfl ?_
  refine X.goto (tgt := 5) dX3_beside_79 (by decide) ?_
  refine X.sub [1, 2, 3, 4, 0] (L' := [(0, va_rf x0), (1, .int x1), (2, .int x2), (3, .int x3), (4, .int (x4 + 1))]) rfl ?_
  exact hk5 _ _ _ _ _ _ hf
def c_X3_beside_69 (T : xF) (k5 : Option Nat → Int32 → Int32 → Int32 → Int32 → Option Int32) (x0 : Option Nat) (x1 : Int32) (x2 : Int32) (x3 : Int32) (x4 : Int32) (y0 : Int32) : Option Int32 :=
  if y0 = x2 then
    c_X3_beside_76 T k5 x0 x1 x2 (x3 + 1) x4
  else
    c_X3_beside_76 T k5 x0 x1 x2 x3 x4
theorem c_X3_beside_69_ok {G : xG}  {T : xF} {k5 : Option Nat → Int32 → Int32 → Int32 → Int32 → Option Int32} (hk5 : ∀ (x0 : Option Nat) (x1 : Int32) (x2 : Int32) (x3 : Int32) (x4 : Int32) (q : Int32), k5 x0 x1 x2 x3 x4 = some q → Xr G (mX3_beside, xrm (3) T T, T, .inl (some (.int q)), T) 5 [(0, va_rf x0), (1, .int x1), (2, .int x2), (3, .int x3), (4, .int x4)] [] T) (x0 : Option Nat) (x1 : Int32) (x2 : Int32) (x3 : Int32) (x4 : Int32) (y0 : Int32) (q : Int32) (hf : c_X3_beside_69 T k5 x0 x1 x2 x3 x4 y0 = some q) : Xr G (mX3_beside, xrm (3) T T, T, .inl (some (.int q)), T) 69 [(0, va_rf x0), (1, .int x1), (2, .int x2), (3, .int x3), (4, .int x4)] [.int y0] T := by
  unfold c_X3_beside_69 at hf
  refine X.iload_n dX3_beside_69 rfl 2 rfl ?_
  refine X.icmp_ne (tgt := 76) dX3_beside_70 (by decide) (fun c70 => ?_) (fun c70 => ?_)
  · have hf := if_f c70 hf
    refine X.sub [0, 1, 2, 3, 4] (L' := [(0, va_rf x0), (1, .int x1), (2, .int x2), (3, .int x3), (4, .int x4)]) rfl ?_
    exact c_X3_beside_76_ok hk5 _ _ _ _ _ _ hf
  · have hf := if_t c70 hf
    refine C.iinc (v := (x3 + 1)) (L' := [(3, .int (x3 + 1)), (0, va_rf x0), (1, .int x1), (2, .int x2), (4, .int x4)]) dX3_beside_73 3 rfl rfl (Nat.le_of_ble_eq_true rfl) (xcQ (xcI (xcI (xcI (xcI xcN))))) rfl ?_
    refine X.sub [1, 2, 3, 0, 4] (L' := [(0, va_rf x0), (1, .int x1), (2, .int x2), (3, .int (x3 + 1)), (4, .int x4)]) rfl ?_
    exact c_X3_beside_76_ok hk5 _ _ _ _ _ _ hf
def c_X3_beside_5_b (T : xF) (k5 : Option Nat → Int32 → Int32 → Int32 → Int32 → Option Int32) (x0 : Option Nat) (x1 : Int32) (x2 : Int32) (x3 : Int32) (x4 : Int32) : Option Int32 :=
  (oQ T x0 2 5).bind fun v8 =>
  (oQ T v8 0 1).bind fun v11 =>
  if ¬ isO T v11 1 = true then none else
  (c_X2_cells T v11).bind fun v14 =>
  if v14 ≤ x4 then
    some x3
  else
    (oQ T x0 2 2).bind fun v21 =>
    (ldA T v21 .int x4).bind fun v26 =>
    if v26 = (-1 : Int32) then
      c_X3_beside_76 T k5 x0 x1 x2 x3 x4
    else
      (oQ T x0 2 5).bind fun v32 =>
      (oQ T v32 0 1).bind fun v35 =>
      if ¬ isO T v35 1 = true then none else
      (c_X2_steps T v35 x4 x1).bind fun v41 =>
      if v41 = (1 : Int32) then
        (oQ T x0 2 2).bind fun v49 =>
        (ldA T v49 .int x4).bind fun v54 =>
        (oQ T x0 2 2).bind fun v56 =>
        (ldA T v56 .int x1).bind fun v60 =>
        if v54 = v60 then
          c_X3_beside_69 T k5 x0 x1 x2 x3 x4 (1 : Int32)
        else
          c_X3_beside_69 T k5 x0 x1 x2 x3 x4 (0 : Int32)
      else
        c_X3_beside_76 T k5 x0 x1 x2 x3 x4
def c_X3_beside_5 (T : xF) : Nat → Option Nat → Int32 → Int32 → Int32 → Int32 → Option Int32
  | 0 => fun _ _ _ _ _ => none
  | n + 1 => fun x0 x1 x2 x3 x4 => c_X3_beside_5_b T (c_X3_beside_5 T n) x0 x1 x2 x3 x4
theorem c_X3_beside_5_bok {G : xG}  {T : xF}  {k5 : Option Nat → Int32 → Int32 → Int32 → Int32 → Option Int32}  (hk5 : ∀ (x0 : Option Nat) (x1 : Int32) (x2 : Int32) (x3 : Int32) (x4 : Int32) (q : Int32), k5 x0 x1 x2 x3 x4 = some q → Xr G (mX3_beside, xrm (3) T T, T, .inl (some (.int q)), T) 5 [(0, va_rf x0), (1, .int x1), (2, .int x2), (3, .int x3), (4, .int x4)] [] T) (x0 : Option Nat) (x1 : Int32) (x2 : Int32) (x3 : Int32) (x4 : Int32) (q : Int32) (hf : c_X3_beside_5_b T k5 x0 x1 x2 x3 x4 = some q) : Xr G (mX3_beside, xrm (3) T T, T, .inl (some (.int q)), T) 5 [(0, va_rf x0), (1, .int x1), (2, .int x2), (3, .int x3), (4, .int x4)] [] T := by
  unfold c_X3_beside_5_b at hf
  refine X.iload dX3_beside_5 4 rfl ?_
  refine C.aload_n dX3_beside_7 rfl 0 rfl ?_
  obtain ⟨v8, h8, hf⟩ := ob hf
  refine C.getQ dX3_beside_8 rX3_3 h8 ?_
  obtain ⟨v11, h11, hf⟩ := ob hf
  refine C.getQ dX3_beside_11 rX3_39 h11 ?_
  obtain ⟨c14, hf⟩ := if_n hf
  obtain ⟨v14, h14, hf⟩ := ob hf
  refine X.keep fun l14 => C.Vi (As := []) (rest := [.int x4]) dX3_beside_14 (w_X2_cells h14) cX3_43 (Classical.not_not.mp c14) rfl rfl (xcs (xvI xvN) (Nat.le_of_ble_eq_true rfl)) rfl rfl (xD (Nat.le_of_ble_eq_true rfl)) xle.rf l14 ?_
  refine X.icmp_ge (tgt := 82) dX3_beside_17 (by decide) (fun c17 => ?_) (fun c17 => ?_)
  · have hf := if_t c17 hf
    refine X.iload_n dX3_beside_82 rfl 3 rfl ?_
    obtain rfl := Option.some.inj hf
    exact X.iret dX3_beside_83 rfl rfl rfl
  · have hf := if_f c17 hf
    refine C.aload_n dX3_beside_20 rfl 0 rfl ?_
    obtain ⟨v21, h21, hf⟩ := ob hf
    refine C.getQ dX3_beside_21 rX3_22 h21 ?_
    refine X.iload dX3_beside_24 4 rfl ?_
    obtain ⟨v26, h26, hf⟩ := ob hf
    refine C.iald dX3_beside_26 h26 ?_
    refine X.iconst (v := -1) dX3_beside_27 (by decide) ?_
    refine X.icmp_eq (tgt := 76) dX3_beside_28 (by decide) (fun c28 => ?_) (fun c28 => ?_)
    · have hf := if_t c28 hf
      refine X.sub [0, 1, 2, 3, 4] (L' := [(0, va_rf x0), (1, .int x1), (2, .int x2), (3, .int x3), (4, .int x4)]) rfl ?_
      exact c_X3_beside_76_ok hk5 _ _ _ _ _ _ hf
    · have hf := if_f c28 hf
      refine C.aload_n dX3_beside_31 rfl 0 rfl ?_
      obtain ⟨v32, h32, hf⟩ := ob hf
      refine C.getQ dX3_beside_32 rX3_3 h32 ?_
      obtain ⟨v35, h35, hf⟩ := ob hf
      refine C.getQ dX3_beside_35 rX3_39 h35 ?_
      refine X.iload dX3_beside_38 4 rfl ?_
      refine X.iload_n dX3_beside_40 rfl 1 rfl ?_
      obtain ⟨c41, hf⟩ := if_n hf
      obtain ⟨v41, h41, hf⟩ := ob hf
      refine X.keep fun l41 => C.Vi (As := [.int x4, .int x1]) (rest := []) dX3_beside_41 (w_X2_steps h41) cX3_49 (Classical.not_not.mp c41) rfl rfl (xcs xvN (Nat.le_of_ble_eq_true rfl)) rfl rfl (xD (Nat.le_of_ble_eq_true rfl)) xle.rf l41 ?_
      refine X.iconst (v := 1) dX3_beside_44 (by decide) ?_
      refine X.icmp_ne (tgt := 76) dX3_beside_45 (by decide) (fun c45 => ?_) (fun c45 => ?_)
      · have hf := if_f c45 hf
        refine X.sub [0, 1, 2, 3, 4] (L' := [(0, va_rf x0), (1, .int x1), (2, .int x2), (3, .int x3), (4, .int x4)]) rfl ?_
        exact c_X3_beside_76_ok hk5 _ _ _ _ _ _ hf
      · have hf := if_t c45 hf
        refine C.aload_n dX3_beside_48 rfl 0 rfl ?_
        obtain ⟨v49, h49, hf⟩ := ob hf
        refine C.getQ dX3_beside_49 rX3_22 h49 ?_
        refine X.iload dX3_beside_52 4 rfl ?_
        obtain ⟨v54, h54, hf⟩ := ob hf
        refine C.iald dX3_beside_54 h54 ?_
        refine C.aload_n dX3_beside_55 rfl 0 rfl ?_
        obtain ⟨v56, h56, hf⟩ := ob hf
        refine C.getQ dX3_beside_56 rX3_22 h56 ?_
        refine X.iload_n dX3_beside_59 rfl 1 rfl ?_
        obtain ⟨v60, h60, hf⟩ := ob hf
        refine C.iald dX3_beside_60 h60 ?_
        refine X.icmp_ne (tgt := 68) dX3_beside_61 (by decide) (fun c61 => ?_) (fun c61 => ?_)
        · have hf := if_f c61 hf
          refine X.iconst (v := 0) dX3_beside_68 (by decide) ?_
          refine X.sub [0, 1, 2, 3, 4] (L' := [(0, va_rf x0), (1, .int x1), (2, .int x2), (3, .int x3), (4, .int x4)]) rfl ?_
          exact c_X3_beside_69_ok hk5 _ _ _ _ _ _ _ hf
        · have hf := if_t c61 hf
          refine X.iconst (v := 1) dX3_beside_64 (by decide) ?_
          refine X.goto (tgt := 69) dX3_beside_65 (by decide) ?_
          refine X.sub [0, 1, 2, 3, 4] (L' := [(0, va_rf x0), (1, .int x1), (2, .int x2), (3, .int x3), (4, .int x4)]) rfl ?_
          exact c_X3_beside_69_ok hk5 _ _ _ _ _ _ _ hf
theorem c_X3_beside_5_ok {G : xG}  {T : xF}   : ∀ (n : Nat) (x0 : Option Nat) (x1 : Int32) (x2 : Int32) (x3 : Int32) (x4 : Int32) (q : Int32), c_X3_beside_5 T n x0 x1 x2 x3 x4 = some q → Xr G (mX3_beside, xrm (3) T T, T, .inl (some (.int q)), T) 5 [(0, va_rf x0), (1, .int x1), (2, .int x2), (3, .int x3), (4, .int x4)] [] T
  | 0, _, _, _, _, _, _, hf => by cases hf
  | n + 1, x0, x1, x2, x3, x4, q, hf => c_X3_beside_5_bok (c_X3_beside_5_ok n) x0 x1 x2 x3 x4 q hf
def c_X3_beside (T : xF) (x0 : Option Nat) (x1 : Int32) (x2 : Int32) : Option Int32 :=
  c_X3_beside_5 T FU x0 x1 x2 (0 : Int32) (0 : Int32)
theorem w_X3_beside {G : xG}  {T : xF} {x0 : Option Nat} {x1 : Int32} {x2 : Int32} {q : Int32} (hf : c_X3_beside T x0 x1 x2 = some q) : Ct G mX3_beside (3) T [va_rf x0, .int x1, .int x2] (.inl (some (.int q))) T := by
  refine Ct.ofc (plainFor_of_name (by decide +kernel)) rfl (xvQ (xvI (xvI xvN))) (Nat.le_of_ble_eq_true rfl) (show Xr G _ 0 [(0, va_rf x0), (1, .int x1), (2, .int x2)] [] _ from ?_)
  unfold c_X3_beside at hf
  refine X.iconst (v := 0) dX3_beside_0 (by decide) ?_
  refine C.ist_n (L' := [(3, .int (0 : Int32)), (0, va_rf x0), (1, .int x1), (2, .int x2)]) dX3_beside_1 rfl (Nat.le_of_ble_eq_true rfl) (xcQ (xcI (xcI xcN))) rfl ?_
  refine X.iconst (v := 0) dX3_beside_2 (by decide) ?_
  refine C.ist (L' := [(4, .int (0 : Int32)), (3, .int (0 : Int32)), (0, va_rf x0), (1, .int x1), (2, .int x2)]) dX3_beside_3 (Nat.le_of_ble_eq_true rfl) (xcI (xcQ (xcI (xcI xcN)))) rfl ?_
  refine X.sub [2, 3, 4, 1, 0] (L' := [(0, va_rf x0), (1, .int x1), (2, .int x2), (3, .int (0 : Int32)), (4, .int (0 : Int32))]) rfl ?_
  exact c_X3_beside_5_ok FU _ _ _ _ _ _ hf
theorem cX3_69 : xCV RX3 69 mX3_beside 2 := ⟨lw_V q508 q510 qs7 q126 q511, rfl, ⟨by decide +kernel, by decide +kernel, by decide +kernel⟩, Nat.le_of_ble_eq_true rfl⟩
/-! java/lang/Math max -/
abbrev cJ7_max : ByteArray := prog_25_method_65_code
def yJ7_max : MethodName := ⟨RJ7, "max", "(II)I"⟩
def dkwJ7_max_0 : List UInt8 := [26, 27, 161, 0, 7, 26, 167, 0, 4, 27, 172]
abbrev dktJ7_max_0 : List UInt8 := dkwJ7_max_0 ++ []
theorem dksJ7_max_0 : cJ7_max.data.toList.drop 0 = dktJ7_max_0 := by decide +kernel
theorem dJ7_max_0 : decode cJ7_max 0 = .ok (.iload_n 0, 1) := dk_26 (dk_at dksJ7_max_0 0 rfl rfl)
theorem dJ7_max_1 : decode cJ7_max 1 = .ok (.iload_n 1, 1) := dk_27 (dk_at dksJ7_max_0 1 rfl rfl)
theorem dJ7_max_2 : decode cJ7_max 2 = .ok (.if_icmp .lt 7, 3) := dk_161 0 7 (dk_at dksJ7_max_0 2 rfl rfl)
theorem dJ7_max_5 : decode cJ7_max 5 = .ok (.iload_n 0, 1) := dk_26 (dk_at dksJ7_max_0 5 rfl rfl)
theorem dJ7_max_6 : decode cJ7_max 6 = .ok (.goto 4, 3) := dk_167 0 4 (dk_at dksJ7_max_0 6 rfl rfl)
theorem dJ7_max_9 : decode cJ7_max 9 = .ok (.iload_n 1, 1) := dk_27 (dk_at dksJ7_max_0 9 rfl rfl)
theorem dJ7_max_10 : decode cJ7_max 10 = .ok (.ireturn, 1) := dk_172 (dk_at dksJ7_max_0 10 rfl rfl)
abbrev mJ7_max : xM := (yJ7_max, cJ7_max, 2, (some .int), [])
def c_J7_max (x0 : Int32) (x1 : Int32) : Option Int32 :=
  if x0 < x1 then
    some x1
  else
    some x0
theorem w_J7_max {G : xG}  {T : xF} {x0 : Int32} {x1 : Int32} {q : Int32} (hf : c_J7_max x0 x1 = some q) : Ct G mJ7_max (1) T [.int x0, .int x1] (.inl (some (.int q))) T := by
  refine Ct.ofc (by decide +kernel) rfl (xvI (xvI xvN)) (Nat.le_of_ble_eq_true rfl) (show Xr G _ 0 [(0, .int x0), (1, .int x1)] [] _ from ?_)
  unfold c_J7_max at hf
  refine X.iload_n dJ7_max_0 rfl 0 rfl ?_
  refine X.iload_n dJ7_max_1 rfl 1 rfl ?_
  refine X.icmp_lt (tgt := 9) dJ7_max_2 (by decide) (fun c2 => ?_) (fun c2 => ?_)
  · have hf := if_t c2 hf
    refine X.iload_n dJ7_max_9 rfl 1 rfl ?_
    obtain rfl := Option.some.inj hf
    exact X.iret dJ7_max_10 rfl rfl rfl
  · have hf := if_f c2 hf
    refine X.iload_n dJ7_max_5 rfl 0 rfl ?_
    refine X.goto (tgt := 10) dJ7_max_6 (by decide) ?_
    obtain rfl := Option.some.inj hf
    exact X.iret dJ7_max_10 rfl rfl rfl
theorem cX1_257 : xCS RX1 257 mJ7_max 2 := ⟨lw_S q1439 q381 q133 q382, rfl, ⟨by decide +kernel, by decide +kernel, by decide +kernel⟩, Nat.le_of_ble_eq_true rfl⟩
theorem cX3_82 : xCS RX3 82 mJ7_max 2 := ⟨lw_S q585 q381 q133 q382, rfl, ⟨by decide +kernel, by decide +kernel, by decide +kernel⟩, Nat.le_of_ble_eq_true rfl⟩
theorem cJ9_92 : xCS RJ9 92 mJ7_max 2 := ⟨lw_S q931 q381 q133 q382, rfl, ⟨by decide +kernel, by decide +kernel, by decide +kernel⟩, Nat.le_of_ble_eq_true rfl⟩
theorem cJ2_79 : xCS RJ2 79 mJ7_max 2 := ⟨lw_S q421 q381 q133 q382, rfl, ⟨by decide +kernel, by decide +kernel, by decide +kernel⟩, Nat.le_of_ble_eq_true rfl⟩
theorem cJ15_194 : xCS RJ15 194 mJ7_max 2 := ⟨lw_S q380 q381 q133 q382, rfl, ⟨by decide +kernel, by decide +kernel, by decide +kernel⟩, Nat.le_of_ble_eq_true rfl⟩
/-! MouldVotes$Growth grows -/
abbrev cX3_grows : ByteArray := prog_4_method_5_code
def yX3_grows : MethodName := ⟨RX3, "grows", "(I)I"⟩
def dkwX3_grows_9 : List UInt8 := [184, 0, 79, 172]
abbrev dktX3_grows_9 : List UInt8 := dkwX3_grows_9 ++ []
def dkwX3_grows_8 : List UInt8 := [180, 0, 66, 185, 0, 73, 2, 0, 184, 0, 79, 184, 0, 82, 61, 28, 42, 180, 0, 19, 27, 46]
abbrev dktX3_grows_8 : List UInt8 := dkwX3_grows_8 ++ dktX3_grows_9
def dkwX3_grows_7 : List UInt8 := [180, 0, 22, 27, 46, 79, 16, 236, 16, 20, 42, 180, 0, 3, 180, 0, 39, 180, 0, 62, 42, 180, 0, 3]
abbrev dktX3_grows_7 : List UInt8 := dkwX3_grows_7 ++ dktX3_grows_8
def dkwX3_grows_6 : List UInt8 := [180, 0, 3, 180, 0, 66, 8, 42, 27, 3, 182, 0, 69, 79, 42, 180, 0, 3, 180, 0, 66, 16, 6, 42]
abbrev dktX3_grows_6 : List UInt8 := dkwX3_grows_6 ++ dktX3_grows_7
def dkwX3_grows_5 : List UInt8 := [180, 0, 35, 182, 0, 53, 79, 42, 180, 0, 3, 180, 0, 66, 7, 42, 27, 4, 182, 0, 69, 79, 42]
abbrev dktX3_grows_5 : List UInt8 := dkwX3_grows_5 ++ dktX3_grows_6
def dkwX3_grows_4 : List UInt8 := [180, 0, 19, 27, 46, 79, 42, 180, 0, 3, 180, 0, 66, 6, 42, 180, 0, 3, 180, 0, 39, 42]
abbrev dktX3_grows_4 : List UInt8 := dkwX3_grows_4 ++ dktX3_grows_5
def dkwX3_grows_3 : List UInt8 := [180, 0, 3, 180, 0, 66, 4, 42, 180, 0, 15, 27, 46, 79, 42, 180, 0, 3, 180, 0, 66, 5, 42]
abbrev dktX3_grows_3 : List UInt8 := dkwX3_grows_3 ++ dktX3_grows_4
def dkwX3_grows_2 : List UInt8 := [180, 0, 62, 198, 0, 150, 42, 180, 0, 3, 180, 0, 66, 3, 42, 180, 0, 25, 27, 46, 79, 42]
abbrev dktX3_grows_2 : List UInt8 := dkwX3_grows_2 ++ dktX3_grows_3
def dkwX3_grows_1 : List UInt8 := [180, 0, 39, 42, 180, 0, 35, 182, 0, 53, 8, 100, 184, 0, 57, 100, 61, 42, 180, 0, 3, 180, 0, 39]
abbrev dktX3_grows_1 : List UInt8 := dkwX3_grows_1 ++ dktX3_grows_2
def dkwX3_grows_0 : List UInt8 := [42, 180, 0, 22, 27, 46, 2, 160, 0, 5, 3, 172, 42, 180, 0, 15, 27, 46, 42, 180, 0, 3]
abbrev dktX3_grows_0 : List UInt8 := dkwX3_grows_0 ++ dktX3_grows_1
theorem dksX3_grows_0 : cX3_grows.data.toList.drop 0 = dktX3_grows_0 := by decide +kernel
theorem dksX3_grows_1 : cX3_grows.data.toList.drop 22 = dktX3_grows_1 := dk_seg dksX3_grows_0 22 rfl rfl
theorem dksX3_grows_2 : cX3_grows.data.toList.drop 46 = dktX3_grows_2 := dk_seg dksX3_grows_1 24 rfl rfl
theorem dksX3_grows_3 : cX3_grows.data.toList.drop 68 = dktX3_grows_3 := dk_seg dksX3_grows_2 22 rfl rfl
theorem dksX3_grows_4 : cX3_grows.data.toList.drop 91 = dktX3_grows_4 := dk_seg dksX3_grows_3 23 rfl rfl
theorem dksX3_grows_5 : cX3_grows.data.toList.drop 113 = dktX3_grows_5 := dk_seg dksX3_grows_4 22 rfl rfl
theorem dksX3_grows_6 : cX3_grows.data.toList.drop 136 = dktX3_grows_6 := dk_seg dksX3_grows_5 23 rfl rfl
theorem dksX3_grows_7 : cX3_grows.data.toList.drop 160 = dktX3_grows_7 := dk_seg dksX3_grows_6 24 rfl rfl
theorem dksX3_grows_8 : cX3_grows.data.toList.drop 184 = dktX3_grows_8 := dk_seg dksX3_grows_7 24 rfl rfl
theorem dksX3_grows_9 : cX3_grows.data.toList.drop 206 = dktX3_grows_9 := dk_seg dksX3_grows_8 22 rfl rfl
theorem dX3_grows_0 : decode cX3_grows 0 = .ok (.aload_n 0, 1) := dk_42 (dk_at dksX3_grows_0 0 rfl rfl)
theorem dX3_grows_1 : decode cX3_grows 1 = .ok (.getfield 22, 3) := dk_180 0 22 (dk_at dksX3_grows_0 1 rfl rfl)
theorem dX3_grows_4 : decode cX3_grows 4 = .ok (.iload_n 1, 1) := dk_27 (dk_at dksX3_grows_0 4 rfl rfl)
theorem dX3_grows_5 : decode cX3_grows 5 = .ok (.iaload, 1) := dk_46 (dk_at dksX3_grows_0 5 rfl rfl)
theorem dX3_grows_6 : decode cX3_grows 6 = .ok (.iconst (-1), 1) := dk_2 (dk_at dksX3_grows_0 6 rfl rfl)
theorem dX3_grows_7 : decode cX3_grows 7 = .ok (.if_icmp .ne 5, 3) := dk_160 0 5 (dk_at dksX3_grows_0 7 rfl rfl)
theorem dX3_grows_10 : decode cX3_grows 10 = .ok (.iconst 0, 1) := dk_3 (dk_at dksX3_grows_0 10 rfl rfl)
theorem dX3_grows_11 : decode cX3_grows 11 = .ok (.ireturn, 1) := dk_172 (dk_at dksX3_grows_0 11 rfl rfl)
theorem dX3_grows_12 : decode cX3_grows 12 = .ok (.aload_n 0, 1) := dk_42 (dk_at dksX3_grows_0 12 rfl rfl)
theorem dX3_grows_13 : decode cX3_grows 13 = .ok (.getfield 15, 3) := dk_180 0 15 (dk_at dksX3_grows_0 13 rfl rfl)
theorem dX3_grows_16 : decode cX3_grows 16 = .ok (.iload_n 1, 1) := dk_27 (dk_at dksX3_grows_0 16 rfl rfl)
theorem dX3_grows_17 : decode cX3_grows 17 = .ok (.iaload, 1) := dk_46 (dk_at dksX3_grows_0 17 rfl rfl)
theorem dX3_grows_18 : decode cX3_grows 18 = .ok (.aload_n 0, 1) := dk_42 (dk_at dksX3_grows_0 18 rfl rfl)
theorem dX3_grows_19 : decode cX3_grows 19 = .ok (.getfield 3, 3) := dk_180 0 3 (dk_at dksX3_grows_0 19 rfl rfl)
theorem dX3_grows_22 : decode cX3_grows 22 = .ok (.getfield 39, 3) := dk_180 0 39 (dk_at dksX3_grows_1 0 rfl rfl)
theorem dX3_grows_25 : decode cX3_grows 25 = .ok (.aload_n 0, 1) := dk_42 (dk_at dksX3_grows_1 3 rfl rfl)
theorem dX3_grows_26 : decode cX3_grows 26 = .ok (.getfield 35, 3) := dk_180 0 35 (dk_at dksX3_grows_1 4 rfl rfl)
theorem dX3_grows_29 : decode cX3_grows 29 = .ok (.invokevirtual 53, 3) := dk_182 0 53 (dk_at dksX3_grows_1 7 rfl rfl)
theorem dX3_grows_32 : decode cX3_grows 32 = .ok (.iconst 5, 1) := dk_8 (dk_at dksX3_grows_1 10 rfl rfl)
theorem dX3_grows_33 : decode cX3_grows 33 = .ok (.isub, 1) := dk_100 (dk_at dksX3_grows_1 11 rfl rfl)
theorem dX3_grows_34 : decode cX3_grows 34 = .ok (.invokestatic 57, 3) := dk_184 0 57 (dk_at dksX3_grows_1 12 rfl rfl)
theorem dX3_grows_37 : decode cX3_grows 37 = .ok (.isub, 1) := dk_100 (dk_at dksX3_grows_1 15 rfl rfl)
theorem dX3_grows_38 : decode cX3_grows 38 = .ok (.istore_n 2, 1) := dk_61 (dk_at dksX3_grows_1 16 rfl rfl)
theorem dX3_grows_39 : decode cX3_grows 39 = .ok (.aload_n 0, 1) := dk_42 (dk_at dksX3_grows_1 17 rfl rfl)
theorem dX3_grows_40 : decode cX3_grows 40 = .ok (.getfield 3, 3) := dk_180 0 3 (dk_at dksX3_grows_1 18 rfl rfl)
theorem dX3_grows_43 : decode cX3_grows 43 = .ok (.getfield 39, 3) := dk_180 0 39 (dk_at dksX3_grows_1 21 rfl rfl)
theorem dX3_grows_46 : decode cX3_grows 46 = .ok (.getfield 62, 3) := dk_180 0 62 (dk_at dksX3_grows_2 0 rfl rfl)
theorem dX3_grows_49 : decode cX3_grows 49 = .ok (.ifnull 150, 3) := dk_198 0 150 (dk_at dksX3_grows_2 3 rfl rfl)
theorem dX3_grows_52 : decode cX3_grows 52 = .ok (.aload_n 0, 1) := dk_42 (dk_at dksX3_grows_2 6 rfl rfl)
theorem dX3_grows_53 : decode cX3_grows 53 = .ok (.getfield 3, 3) := dk_180 0 3 (dk_at dksX3_grows_2 7 rfl rfl)
theorem dX3_grows_56 : decode cX3_grows 56 = .ok (.getfield 66, 3) := dk_180 0 66 (dk_at dksX3_grows_2 10 rfl rfl)
theorem dX3_grows_59 : decode cX3_grows 59 = .ok (.iconst 0, 1) := dk_3 (dk_at dksX3_grows_2 13 rfl rfl)
theorem dX3_grows_60 : decode cX3_grows 60 = .ok (.aload_n 0, 1) := dk_42 (dk_at dksX3_grows_2 14 rfl rfl)
theorem dX3_grows_61 : decode cX3_grows 61 = .ok (.getfield 25, 3) := dk_180 0 25 (dk_at dksX3_grows_2 15 rfl rfl)
theorem dX3_grows_64 : decode cX3_grows 64 = .ok (.iload_n 1, 1) := dk_27 (dk_at dksX3_grows_2 18 rfl rfl)
theorem dX3_grows_65 : decode cX3_grows 65 = .ok (.iaload, 1) := dk_46 (dk_at dksX3_grows_2 19 rfl rfl)
theorem dX3_grows_66 : decode cX3_grows 66 = .ok (.iastore, 1) := dk_79 (dk_at dksX3_grows_2 20 rfl rfl)
theorem dX3_grows_67 : decode cX3_grows 67 = .ok (.aload_n 0, 1) := dk_42 (dk_at dksX3_grows_2 21 rfl rfl)
theorem dX3_grows_68 : decode cX3_grows 68 = .ok (.getfield 3, 3) := dk_180 0 3 (dk_at dksX3_grows_3 0 rfl rfl)
theorem dX3_grows_71 : decode cX3_grows 71 = .ok (.getfield 66, 3) := dk_180 0 66 (dk_at dksX3_grows_3 3 rfl rfl)
theorem dX3_grows_74 : decode cX3_grows 74 = .ok (.iconst 1, 1) := dk_4 (dk_at dksX3_grows_3 6 rfl rfl)
theorem dX3_grows_75 : decode cX3_grows 75 = .ok (.aload_n 0, 1) := dk_42 (dk_at dksX3_grows_3 7 rfl rfl)
theorem dX3_grows_76 : decode cX3_grows 76 = .ok (.getfield 15, 3) := dk_180 0 15 (dk_at dksX3_grows_3 8 rfl rfl)
theorem dX3_grows_79 : decode cX3_grows 79 = .ok (.iload_n 1, 1) := dk_27 (dk_at dksX3_grows_3 11 rfl rfl)
theorem dX3_grows_80 : decode cX3_grows 80 = .ok (.iaload, 1) := dk_46 (dk_at dksX3_grows_3 12 rfl rfl)
theorem dX3_grows_81 : decode cX3_grows 81 = .ok (.iastore, 1) := dk_79 (dk_at dksX3_grows_3 13 rfl rfl)
theorem dX3_grows_82 : decode cX3_grows 82 = .ok (.aload_n 0, 1) := dk_42 (dk_at dksX3_grows_3 14 rfl rfl)
theorem dX3_grows_83 : decode cX3_grows 83 = .ok (.getfield 3, 3) := dk_180 0 3 (dk_at dksX3_grows_3 15 rfl rfl)
theorem dX3_grows_86 : decode cX3_grows 86 = .ok (.getfield 66, 3) := dk_180 0 66 (dk_at dksX3_grows_3 18 rfl rfl)
theorem dX3_grows_89 : decode cX3_grows 89 = .ok (.iconst 2, 1) := dk_5 (dk_at dksX3_grows_3 21 rfl rfl)
theorem dX3_grows_90 : decode cX3_grows 90 = .ok (.aload_n 0, 1) := dk_42 (dk_at dksX3_grows_3 22 rfl rfl)
theorem dX3_grows_91 : decode cX3_grows 91 = .ok (.getfield 19, 3) := dk_180 0 19 (dk_at dksX3_grows_4 0 rfl rfl)
theorem dX3_grows_94 : decode cX3_grows 94 = .ok (.iload_n 1, 1) := dk_27 (dk_at dksX3_grows_4 3 rfl rfl)
theorem dX3_grows_95 : decode cX3_grows 95 = .ok (.iaload, 1) := dk_46 (dk_at dksX3_grows_4 4 rfl rfl)
theorem dX3_grows_96 : decode cX3_grows 96 = .ok (.iastore, 1) := dk_79 (dk_at dksX3_grows_4 5 rfl rfl)
theorem dX3_grows_97 : decode cX3_grows 97 = .ok (.aload_n 0, 1) := dk_42 (dk_at dksX3_grows_4 6 rfl rfl)
theorem dX3_grows_98 : decode cX3_grows 98 = .ok (.getfield 3, 3) := dk_180 0 3 (dk_at dksX3_grows_4 7 rfl rfl)
theorem dX3_grows_101 : decode cX3_grows 101 = .ok (.getfield 66, 3) := dk_180 0 66 (dk_at dksX3_grows_4 10 rfl rfl)
theorem dX3_grows_104 : decode cX3_grows 104 = .ok (.iconst 3, 1) := dk_6 (dk_at dksX3_grows_4 13 rfl rfl)
theorem dX3_grows_105 : decode cX3_grows 105 = .ok (.aload_n 0, 1) := dk_42 (dk_at dksX3_grows_4 14 rfl rfl)
theorem dX3_grows_106 : decode cX3_grows 106 = .ok (.getfield 3, 3) := dk_180 0 3 (dk_at dksX3_grows_4 15 rfl rfl)
theorem dX3_grows_109 : decode cX3_grows 109 = .ok (.getfield 39, 3) := dk_180 0 39 (dk_at dksX3_grows_4 18 rfl rfl)
theorem dX3_grows_112 : decode cX3_grows 112 = .ok (.aload_n 0, 1) := dk_42 (dk_at dksX3_grows_4 21 rfl rfl)
theorem dX3_grows_113 : decode cX3_grows 113 = .ok (.getfield 35, 3) := dk_180 0 35 (dk_at dksX3_grows_5 0 rfl rfl)
theorem dX3_grows_116 : decode cX3_grows 116 = .ok (.invokevirtual 53, 3) := dk_182 0 53 (dk_at dksX3_grows_5 3 rfl rfl)
theorem dX3_grows_119 : decode cX3_grows 119 = .ok (.iastore, 1) := dk_79 (dk_at dksX3_grows_5 6 rfl rfl)
theorem dX3_grows_120 : decode cX3_grows 120 = .ok (.aload_n 0, 1) := dk_42 (dk_at dksX3_grows_5 7 rfl rfl)
theorem dX3_grows_121 : decode cX3_grows 121 = .ok (.getfield 3, 3) := dk_180 0 3 (dk_at dksX3_grows_5 8 rfl rfl)
theorem dX3_grows_124 : decode cX3_grows 124 = .ok (.getfield 66, 3) := dk_180 0 66 (dk_at dksX3_grows_5 11 rfl rfl)
theorem dX3_grows_127 : decode cX3_grows 127 = .ok (.iconst 4, 1) := dk_7 (dk_at dksX3_grows_5 14 rfl rfl)
theorem dX3_grows_128 : decode cX3_grows 128 = .ok (.aload_n 0, 1) := dk_42 (dk_at dksX3_grows_5 15 rfl rfl)
theorem dX3_grows_129 : decode cX3_grows 129 = .ok (.iload_n 1, 1) := dk_27 (dk_at dksX3_grows_5 16 rfl rfl)
theorem dX3_grows_130 : decode cX3_grows 130 = .ok (.iconst 1, 1) := dk_4 (dk_at dksX3_grows_5 17 rfl rfl)
theorem dX3_grows_131 : decode cX3_grows 131 = .ok (.invokevirtual 69, 3) := dk_182 0 69 (dk_at dksX3_grows_5 18 rfl rfl)
theorem dX3_grows_134 : decode cX3_grows 134 = .ok (.iastore, 1) := dk_79 (dk_at dksX3_grows_5 21 rfl rfl)
theorem dX3_grows_135 : decode cX3_grows 135 = .ok (.aload_n 0, 1) := dk_42 (dk_at dksX3_grows_5 22 rfl rfl)
theorem dX3_grows_136 : decode cX3_grows 136 = .ok (.getfield 3, 3) := dk_180 0 3 (dk_at dksX3_grows_6 0 rfl rfl)
theorem dX3_grows_139 : decode cX3_grows 139 = .ok (.getfield 66, 3) := dk_180 0 66 (dk_at dksX3_grows_6 3 rfl rfl)
theorem dX3_grows_142 : decode cX3_grows 142 = .ok (.iconst 5, 1) := dk_8 (dk_at dksX3_grows_6 6 rfl rfl)
theorem dX3_grows_143 : decode cX3_grows 143 = .ok (.aload_n 0, 1) := dk_42 (dk_at dksX3_grows_6 7 rfl rfl)
theorem dX3_grows_144 : decode cX3_grows 144 = .ok (.iload_n 1, 1) := dk_27 (dk_at dksX3_grows_6 8 rfl rfl)
theorem dX3_grows_145 : decode cX3_grows 145 = .ok (.iconst 0, 1) := dk_3 (dk_at dksX3_grows_6 9 rfl rfl)
theorem dX3_grows_146 : decode cX3_grows 146 = .ok (.invokevirtual 69, 3) := dk_182 0 69 (dk_at dksX3_grows_6 10 rfl rfl)
theorem dX3_grows_149 : decode cX3_grows 149 = .ok (.iastore, 1) := dk_79 (dk_at dksX3_grows_6 13 rfl rfl)
theorem dX3_grows_150 : decode cX3_grows 150 = .ok (.aload_n 0, 1) := dk_42 (dk_at dksX3_grows_6 14 rfl rfl)
theorem dX3_grows_151 : decode cX3_grows 151 = .ok (.getfield 3, 3) := dk_180 0 3 (dk_at dksX3_grows_6 15 rfl rfl)
theorem dX3_grows_154 : decode cX3_grows 154 = .ok (.getfield 66, 3) := dk_180 0 66 (dk_at dksX3_grows_6 18 rfl rfl)
theorem dX3_grows_157 : decode cX3_grows 157 = .ok (.bipush 6, 2) := dk_16 6 (dk_at dksX3_grows_6 21 rfl rfl)
theorem dX3_grows_159 : decode cX3_grows 159 = .ok (.aload_n 0, 1) := dk_42 (dk_at dksX3_grows_6 23 rfl rfl)
theorem dX3_grows_160 : decode cX3_grows 160 = .ok (.getfield 22, 3) := dk_180 0 22 (dk_at dksX3_grows_7 0 rfl rfl)
theorem dX3_grows_163 : decode cX3_grows 163 = .ok (.iload_n 1, 1) := dk_27 (dk_at dksX3_grows_7 3 rfl rfl)
theorem dX3_grows_164 : decode cX3_grows 164 = .ok (.iaload, 1) := dk_46 (dk_at dksX3_grows_7 4 rfl rfl)
theorem dX3_grows_165 : decode cX3_grows 165 = .ok (.iastore, 1) := dk_79 (dk_at dksX3_grows_7 5 rfl rfl)
theorem dX3_grows_166 : decode cX3_grows 166 = .ok (.bipush (-20), 2) := dk_16 236 (dk_at dksX3_grows_7 6 rfl rfl)
theorem dX3_grows_168 : decode cX3_grows 168 = .ok (.bipush 20, 2) := dk_16 20 (dk_at dksX3_grows_7 8 rfl rfl)
theorem dX3_grows_170 : decode cX3_grows 170 = .ok (.aload_n 0, 1) := dk_42 (dk_at dksX3_grows_7 10 rfl rfl)
theorem dX3_grows_171 : decode cX3_grows 171 = .ok (.getfield 3, 3) := dk_180 0 3 (dk_at dksX3_grows_7 11 rfl rfl)
theorem dX3_grows_174 : decode cX3_grows 174 = .ok (.getfield 39, 3) := dk_180 0 39 (dk_at dksX3_grows_7 14 rfl rfl)
theorem dX3_grows_177 : decode cX3_grows 177 = .ok (.getfield 62, 3) := dk_180 0 62 (dk_at dksX3_grows_7 17 rfl rfl)
theorem dX3_grows_180 : decode cX3_grows 180 = .ok (.aload_n 0, 1) := dk_42 (dk_at dksX3_grows_7 20 rfl rfl)
theorem dX3_grows_181 : decode cX3_grows 181 = .ok (.getfield 3, 3) := dk_180 0 3 (dk_at dksX3_grows_7 21 rfl rfl)
theorem dX3_grows_184 : decode cX3_grows 184 = .ok (.getfield 66, 3) := dk_180 0 66 (dk_at dksX3_grows_8 0 rfl rfl)
theorem dX3_grows_187 : decode cX3_grows 187 = .ok (.invokeinterface 73 2, 5) := by decide +kernel
theorem dX3_grows_192 : decode cX3_grows 192 = .ok (.invokestatic 79, 3) := dk_184 0 79 (dk_at dksX3_grows_8 8 rfl rfl)
theorem dX3_grows_195 : decode cX3_grows 195 = .ok (.invokestatic 82, 3) := dk_184 0 82 (dk_at dksX3_grows_8 11 rfl rfl)
theorem dX3_grows_198 : decode cX3_grows 198 = .ok (.istore_n 2, 1) := dk_61 (dk_at dksX3_grows_8 14 rfl rfl)
theorem dX3_grows_199 : decode cX3_grows 199 = .ok (.iload_n 2, 1) := dk_28 (dk_at dksX3_grows_8 15 rfl rfl)
theorem dX3_grows_200 : decode cX3_grows 200 = .ok (.aload_n 0, 1) := dk_42 (dk_at dksX3_grows_8 16 rfl rfl)
theorem dX3_grows_201 : decode cX3_grows 201 = .ok (.getfield 19, 3) := dk_180 0 19 (dk_at dksX3_grows_8 17 rfl rfl)
theorem dX3_grows_204 : decode cX3_grows 204 = .ok (.iload_n 1, 1) := dk_27 (dk_at dksX3_grows_8 20 rfl rfl)
theorem dX3_grows_205 : decode cX3_grows 205 = .ok (.iaload, 1) := dk_46 (dk_at dksX3_grows_8 21 rfl rfl)
theorem dX3_grows_206 : decode cX3_grows 206 = .ok (.invokestatic 79, 3) := dk_184 0 79 (dk_at dksX3_grows_9 0 rfl rfl)
theorem dX3_grows_209 : decode cX3_grows 209 = .ok (.ireturn, 1) := dk_172 (dk_at dksX3_grows_9 3 rfl rfl)
abbrev mX3_grows : xM := (yX3_grows, cX3_grows, 3, (some .int), [])
def c_X3_grows_199 (G : xG) (x0 : Option Nat) (x1 : Int32) (x2 : Int32) (T : xF) : Option (Int32 × xF) :=
  (oQ T x0 2 1).bind fun v201 =>
  (ldA T v201 .int x1).bind fun v205 =>
  (c_J7_min x2 v205).bind fun v206 =>
  some (v206, T)
theorem c_X3_grows_199_ok {G : xG}  {T0 : xF}   (x0 : Option Nat) (x1 : Int32) (x2 : Int32) (T : xF) (q : (Int32 × xF)) (hf : c_X3_grows_199 G x0 x1 x2 T = some q) : Xr G (mX3_grows, xrm (121) T0 q.2, T0, .inl (some (.int q.1)), q.2) 199 [(0, va_rf x0), (1, .int x1), (2, .int x2)] [] T := by
  unfold c_X3_grows_199 at hf
  refine X.iload_n dX3_grows_199 rfl 2 rfl ?_
  refine C.aload_n dX3_grows_200 rfl 0 rfl ?_
  obtain ⟨v201, h201, hf⟩ := ob hf
  refine C.getQ dX3_grows_201 rX3_19 h201 ?_
  refine X.iload_n dX3_grows_204 rfl 1 rfl ?_
  obtain ⟨v205, h205, hf⟩ := ob hf
  refine C.iald dX3_grows_205 h205 ?_
  obtain ⟨v206, h206, hf⟩ := ob hf
  refine X.keep fun l206 => C.Si (As := [.int x2, .int v205]) (rest := []) dX3_grows_206 (w_J7_min h206) cX3_79 rfl rfl (xcs xvN (Nat.le_of_ble_eq_true rfl)) (xD (Nat.le_of_ble_eq_true rfl)) xle.rf l206 ?_
  obtain rfl := Option.some.inj hf
  exact X.iret dX3_grows_209 rfl rfl rfl
def c_X3_grows (G : xG) (x0 : Option Nat) (x1 : Int32) (T : xF) : Option (Int32 × xF) :=
  (oQ T x0 2 2).bind fun v1 =>
  (ldA T v1 .int x1).bind fun v5 =>
  if v5 = (-1 : Int32) then
    some ((0 : Int32), T)
  else
    (oQ T x0 2 0).bind fun v13 =>
    (ldA T v13 .int x1).bind fun v17 =>
    (oQ T x0 2 5).bind fun v19 =>
    (oQ T v19 0 1).bind fun v22 =>
    (oI T x0 2 4).bind fun v26 =>
    if ¬ isO T v22 1 = true then none else
    (c_X2_warmth T v22 v26).bind fun v29 =>
    (c_J7_abs (v29 - (5 : Int32))).bind fun v34 =>
    (oQ T x0 2 5).bind fun v40 =>
    (oQ T v40 0 1).bind fun v43 =>
    (oQ T v43 1 6).bind fun v46 =>
    if v46 = none then
      c_X3_grows_199 G x0 x1 (v17 - v34) T
    else
      (oQ T x0 2 5).bind fun v53 =>
      (oQ T v53 0 0).bind fun v56 =>
      (oQ T x0 2 3).bind fun v61 =>
      (ldA T v61 .int x1).bind fun v65 =>
      (stA T v56 .int (0 : Int32) v65).bind fun T66 =>
      (oQ T66 x0 2 5).bind fun v68 =>
      (oQ T66 v68 0 0).bind fun v71 =>
      (oQ T66 x0 2 0).bind fun v76 =>
      (ldA T66 v76 .int x1).bind fun v80 =>
      (stA T66 v71 .int (1 : Int32) v80).bind fun T81 =>
      (oQ T81 x0 2 5).bind fun v83 =>
      (oQ T81 v83 0 0).bind fun v86 =>
      (oQ T81 x0 2 1).bind fun v91 =>
      (ldA T81 v91 .int x1).bind fun v95 =>
      (stA T81 v86 .int (2 : Int32) v95).bind fun T96 =>
      (oQ T96 x0 2 5).bind fun v98 =>
      (oQ T96 v98 0 0).bind fun v101 =>
      (oQ T96 x0 2 5).bind fun v106 =>
      (oQ T96 v106 0 1).bind fun v109 =>
      (oI T96 x0 2 4).bind fun v113 =>
      if ¬ isO T96 v109 1 = true then none else
      (c_X2_warmth T96 v109 v113).bind fun v116 =>
      (stA T96 v101 .int (3 : Int32) v116).bind fun T119 =>
      (oQ T119 x0 2 5).bind fun v121 =>
      (oQ T119 v121 0 0).bind fun v124 =>
      if ¬ isO T119 x0 2 = true then none else
      (c_X3_beside T119 x0 x1 (1 : Int32)).bind fun v131 =>
      (stA T119 v124 .int (4 : Int32) v131).bind fun T134 =>
      (oQ T134 x0 2 5).bind fun v136 =>
      (oQ T134 v136 0 0).bind fun v139 =>
      if ¬ isO T134 x0 2 = true then none else
      (c_X3_beside T134 x0 x1 (0 : Int32)).bind fun v146 =>
      (stA T134 v139 .int (5 : Int32) v146).bind fun T149 =>
      (oQ T149 x0 2 5).bind fun v151 =>
      (oQ T149 v151 0 0).bind fun v154 =>
      (oQ T149 x0 2 2).bind fun v160 =>
      (ldA T149 v160 .int x1).bind fun v164 =>
      (stA T149 v154 .int (6 : Int32) v164).bind fun T165 =>
      (oQ T165 x0 2 5).bind fun v171 =>
      (oQ T165 v171 0 1).bind fun v174 =>
      (oQ T165 v174 1 6).bind fun v177 =>
      (oQ T165 x0 2 5).bind fun v181 =>
      (oQ T165 v181 0 0).bind fun v184 =>
      (c_of G OFU T165 v177 v184).bind fun v187 =>
      (c_J7_min (20 : Int32) v187).bind fun v192 =>
      (c_J7_max (-20 : Int32) v192).bind fun v195 =>
      c_X3_grows_199 G x0 x1 v195 T165
theorem w_X3_grows {G : xG}  {T : xF} {x0 : Option Nat} {x1 : Int32} {q : (Int32 × xF)} (hf : c_X3_grows G x0 x1 T = some q) : Ct G mX3_grows (121) T [va_rf x0, .int x1] (.inl (some (.int q.1))) q.2 := by
  refine Ct.ofc (plainFor_of_name (by decide +kernel)) rfl (xvQ (xvI xvN)) (Nat.le_of_ble_eq_true rfl) (show Xr G _ 0 [(0, va_rf x0), (1, .int x1)] [] _ from ?_)
  unfold c_X3_grows at hf
  refine C.aload_n dX3_grows_0 rfl 0 rfl ?_
  obtain ⟨v1, h1, hf⟩ := ob hf
  refine C.getQ dX3_grows_1 rX3_22 h1 ?_
  refine X.iload_n dX3_grows_4 rfl 1 rfl ?_
  obtain ⟨v5, h5, hf⟩ := ob hf
  refine C.iald dX3_grows_5 h5 ?_
  refine X.iconst (v := -1) dX3_grows_6 (by decide) ?_
  refine X.icmp_ne (tgt := 12) dX3_grows_7 (by decide) (fun c7 => ?_) (fun c7 => ?_)
  · have hf := if_f c7 hf
    refine C.aload_n dX3_grows_12 rfl 0 rfl ?_
    obtain ⟨v13, h13, hf⟩ := ob hf
    refine C.getQ dX3_grows_13 rX3_15 h13 ?_
    refine X.iload_n dX3_grows_16 rfl 1 rfl ?_
    obtain ⟨v17, h17, hf⟩ := ob hf
    refine C.iald dX3_grows_17 h17 ?_
    refine C.aload_n dX3_grows_18 rfl 0 rfl ?_
    obtain ⟨v19, h19, hf⟩ := ob hf
    refine C.getQ dX3_grows_19 rX3_3 h19 ?_
    obtain ⟨v22, h22, hf⟩ := ob hf
    refine C.getQ dX3_grows_22 rX3_39 h22 ?_
    refine C.aload_n dX3_grows_25 rfl 0 rfl ?_
    obtain ⟨v26, h26, hf⟩ := ob hf
    refine C.getI dX3_grows_26 rX3_35 h26 ?_
    obtain ⟨c29, hf⟩ := if_n hf
    obtain ⟨v29, h29, hf⟩ := ob hf
    refine X.keep fun l29 => C.Vi (As := [.int v26]) (rest := [.int v17]) dX3_grows_29 (w_X2_warmth h29) cX3_53 (Classical.not_not.mp c29) rfl rfl (xcs (xvI xvN) (Nat.le_of_ble_eq_true rfl)) rfl rfl (xD (Nat.le_of_ble_eq_true rfl)) xle.rf l29 ?_
    refine X.iconst (v := 5) dX3_grows_32 (by decide) ?_
    refine X.isub dX3_grows_33 ?_
    obtain ⟨v34, h34, hf⟩ := ob hf
    refine X.keep fun l34 => C.Si (As := [.int (v29 - (5 : Int32))]) (rest := [.int v17]) dX3_grows_34 (w_J7_abs h34) cX3_57 rfl rfl (xcs (xvI xvN) (Nat.le_of_ble_eq_true rfl)) (xD (Nat.le_of_ble_eq_true rfl)) xle.rf l34 ?_
    refine X.isub dX3_grows_37 ?_
    refine C.ist_n (L' := [(2, .int (v17 - v34)), (0, va_rf x0), (1, .int x1)]) dX3_grows_38 rfl (Nat.le_of_ble_eq_true rfl) (xcQ (xcI xcN)) rfl ?_
    refine C.aload_n dX3_grows_39 rfl 1 rfl ?_
    obtain ⟨v40, h40, hf⟩ := ob hf
    refine C.getQ dX3_grows_40 rX3_3 h40 ?_
    obtain ⟨v43, h43, hf⟩ := ob hf
    refine C.getQ dX3_grows_43 rX3_39 h43 ?_
    obtain ⟨v46, h46, hf⟩ := ob hf
    refine C.getQ dX3_grows_46 rX3_62 h46 ?_
    refine C.ifnull (tgt := 199) dX3_grows_49 (by decide) (fun c49 => ?_) (fun c49 => ?_)
    · have hf := if_t c49 hf
      refine X.sub [1, 2, 0] (L' := [(0, va_rf x0), (1, .int x1), (2, .int (v17 - v34))]) rfl ?_
      exact c_X3_grows_199_ok _ _ _ _ _ hf
    · have hf := if_f c49 hf
      refine C.aload_n dX3_grows_52 rfl 1 rfl ?_
      obtain ⟨v53, h53, hf⟩ := ob hf
      refine C.getQ dX3_grows_53 rX3_3 h53 ?_
      obtain ⟨v56, h56, hf⟩ := ob hf
      refine C.getQ dX3_grows_56 rX3_66 h56 ?_
      refine X.iconst (v := 0) dX3_grows_59 (by decide) ?_
      refine C.aload_n dX3_grows_60 rfl 1 rfl ?_
      obtain ⟨v61, h61, hf⟩ := ob hf
      refine C.getQ dX3_grows_61 rX3_25 h61 ?_
      refine X.iload_n dX3_grows_64 rfl 2 rfl ?_
      obtain ⟨v65, h65, hf⟩ := ob hf
      refine C.iald dX3_grows_65 h65 ?_
      obtain ⟨T66, h66, hf⟩ := ob hf
      refine C.iast dX3_grows_66 h66 ?_
      refine C.aload_n dX3_grows_67 rfl 1 rfl ?_
      obtain ⟨v68, h68, hf⟩ := ob hf
      refine C.getQ dX3_grows_68 rX3_3 h68 ?_
      obtain ⟨v71, h71, hf⟩ := ob hf
      refine C.getQ dX3_grows_71 rX3_66 h71 ?_
      refine X.iconst (v := 1) dX3_grows_74 (by decide) ?_
      refine C.aload_n dX3_grows_75 rfl 1 rfl ?_
      obtain ⟨v76, h76, hf⟩ := ob hf
      refine C.getQ dX3_grows_76 rX3_15 h76 ?_
      refine X.iload_n dX3_grows_79 rfl 2 rfl ?_
      obtain ⟨v80, h80, hf⟩ := ob hf
      refine C.iald dX3_grows_80 h80 ?_
      obtain ⟨T81, h81, hf⟩ := ob hf
      refine C.iast dX3_grows_81 h81 ?_
      refine C.aload_n dX3_grows_82 rfl 1 rfl ?_
      obtain ⟨v83, h83, hf⟩ := ob hf
      refine C.getQ dX3_grows_83 rX3_3 h83 ?_
      obtain ⟨v86, h86, hf⟩ := ob hf
      refine C.getQ dX3_grows_86 rX3_66 h86 ?_
      refine X.iconst (v := 2) dX3_grows_89 (by decide) ?_
      refine C.aload_n dX3_grows_90 rfl 1 rfl ?_
      obtain ⟨v91, h91, hf⟩ := ob hf
      refine C.getQ dX3_grows_91 rX3_19 h91 ?_
      refine X.iload_n dX3_grows_94 rfl 2 rfl ?_
      obtain ⟨v95, h95, hf⟩ := ob hf
      refine C.iald dX3_grows_95 h95 ?_
      obtain ⟨T96, h96, hf⟩ := ob hf
      refine C.iast dX3_grows_96 h96 ?_
      refine C.aload_n dX3_grows_97 rfl 1 rfl ?_
      obtain ⟨v98, h98, hf⟩ := ob hf
      refine C.getQ dX3_grows_98 rX3_3 h98 ?_
      obtain ⟨v101, h101, hf⟩ := ob hf
      refine C.getQ dX3_grows_101 rX3_66 h101 ?_
      refine X.iconst (v := 3) dX3_grows_104 (by decide) ?_
      refine C.aload_n dX3_grows_105 rfl 1 rfl ?_
      obtain ⟨v106, h106, hf⟩ := ob hf
      refine C.getQ dX3_grows_106 rX3_3 h106 ?_
      obtain ⟨v109, h109, hf⟩ := ob hf
      refine C.getQ dX3_grows_109 rX3_39 h109 ?_
      refine C.aload_n dX3_grows_112 rfl 1 rfl ?_
      obtain ⟨v113, h113, hf⟩ := ob hf
      refine C.getI dX3_grows_113 rX3_35 h113 ?_
      obtain ⟨c116, hf⟩ := if_n hf
      obtain ⟨v116, h116, hf⟩ := ob hf
      refine X.keep fun l116 => C.Vi (As := [.int v113]) (rest := [.int (3 : Int32), va_rf v101]) dX3_grows_116 (w_X2_warmth h116) cX3_53 (Classical.not_not.mp c116) rfl rfl (xcs (xvI (xvQ xvN)) (Nat.le_of_ble_eq_true rfl)) rfl rfl (xD (Nat.le_of_ble_eq_true rfl)) xle.rf l116 ?_
      obtain ⟨T119, h119, hf⟩ := ob hf
      refine C.iast dX3_grows_119 h119 ?_
      refine C.aload_n dX3_grows_120 rfl 1 rfl ?_
      obtain ⟨v121, h121, hf⟩ := ob hf
      refine C.getQ dX3_grows_121 rX3_3 h121 ?_
      obtain ⟨v124, h124, hf⟩ := ob hf
      refine C.getQ dX3_grows_124 rX3_66 h124 ?_
      refine X.iconst (v := 4) dX3_grows_127 (by decide) ?_
      refine C.aload_n dX3_grows_128 rfl 1 rfl ?_
      refine X.iload_n dX3_grows_129 rfl 2 rfl ?_
      refine X.iconst (v := 1) dX3_grows_130 (by decide) ?_
      obtain ⟨c131, hf⟩ := if_n hf
      obtain ⟨v131, h131, hf⟩ := ob hf
      refine X.keep fun l131 => C.Vi (As := [.int x1, .int (1 : Int32)]) (rest := [.int (4 : Int32), va_rf v124]) dX3_grows_131 (w_X3_beside h131) cX3_69 (Classical.not_not.mp c131) rfl rfl (xcs (xvI (xvQ xvN)) (Nat.le_of_ble_eq_true rfl)) rfl rfl (xD (Nat.le_of_ble_eq_true rfl)) xle.rf l131 ?_
      obtain ⟨T134, h134, hf⟩ := ob hf
      refine C.iast dX3_grows_134 h134 ?_
      refine C.aload_n dX3_grows_135 rfl 1 rfl ?_
      obtain ⟨v136, h136, hf⟩ := ob hf
      refine C.getQ dX3_grows_136 rX3_3 h136 ?_
      obtain ⟨v139, h139, hf⟩ := ob hf
      refine C.getQ dX3_grows_139 rX3_66 h139 ?_
      refine X.iconst (v := 5) dX3_grows_142 (by decide) ?_
      refine C.aload_n dX3_grows_143 rfl 1 rfl ?_
      refine X.iload_n dX3_grows_144 rfl 2 rfl ?_
      refine X.iconst (v := 0) dX3_grows_145 (by decide) ?_
      obtain ⟨c146, hf⟩ := if_n hf
      obtain ⟨v146, h146, hf⟩ := ob hf
      refine X.keep fun l146 => C.Vi (As := [.int x1, .int (0 : Int32)]) (rest := [.int (5 : Int32), va_rf v139]) dX3_grows_146 (w_X3_beside h146) cX3_69 (Classical.not_not.mp c146) rfl rfl (xcs (xvI (xvQ xvN)) (Nat.le_of_ble_eq_true rfl)) rfl rfl (xD (Nat.le_of_ble_eq_true rfl)) xle.rf l146 ?_
      obtain ⟨T149, h149, hf⟩ := ob hf
      refine C.iast dX3_grows_149 h149 ?_
      refine C.aload_n dX3_grows_150 rfl 1 rfl ?_
      obtain ⟨v151, h151, hf⟩ := ob hf
      refine C.getQ dX3_grows_151 rX3_3 h151 ?_
      obtain ⟨v154, h154, hf⟩ := ob hf
      refine C.getQ dX3_grows_154 rX3_66 h154 ?_
      refine X.bipush (v := 6) dX3_grows_157 (by decide) ?_
      refine C.aload_n dX3_grows_159 rfl 1 rfl ?_
      obtain ⟨v160, h160, hf⟩ := ob hf
      refine C.getQ dX3_grows_160 rX3_22 h160 ?_
      refine X.iload_n dX3_grows_163 rfl 2 rfl ?_
      obtain ⟨v164, h164, hf⟩ := ob hf
      refine C.iald dX3_grows_164 h164 ?_
      obtain ⟨T165, h165, hf⟩ := ob hf
      refine C.iast dX3_grows_165 h165 ?_
      refine X.bipush (v := -20) dX3_grows_166 (by decide) ?_
      refine X.bipush (v := 20) dX3_grows_168 (by decide) ?_
      refine C.aload_n dX3_grows_170 rfl 1 rfl ?_
      obtain ⟨v171, h171, hf⟩ := ob hf
      refine C.getQ dX3_grows_171 rX3_3 h171 ?_
      obtain ⟨v174, h174, hf⟩ := ob hf
      refine C.getQ dX3_grows_174 rX3_39 h174 ?_
      obtain ⟨v177, h177, hf⟩ := ob hf
      refine C.getQ dX3_grows_177 rX3_62 h177 ?_
      refine C.aload_n dX3_grows_180 rfl 1 rfl ?_
      obtain ⟨v181, h181, hf⟩ := ob hf
      refine C.getQ dX3_grows_181 rX3_3 h181 ?_
      obtain ⟨v184, h184, hf⟩ := ob hf
      refine C.getQ dX3_grows_184 rX3_66 h184 ?_
      obtain ⟨v187, h187, hf⟩ := ob hf
      refine X.keep fun l187 => C.form (rest := [.int (20 : Int32), .int (-20 : Int32)]) dX3_grows_187 (w_of OFU _ _ _ h187) cFX3_73 rfl (xcs (xvI (xvI xvN)) (Nat.le_of_ble_eq_true rfl)) (xD (Nat.le_of_ble_eq_true rfl)) l187 ?_
      obtain ⟨v192, h192, hf⟩ := ob hf
      refine X.keep fun l192 => C.Si (As := [.int (20 : Int32), .int v187]) (rest := [.int (-20 : Int32)]) dX3_grows_192 (w_J7_min h192) cX3_79 rfl rfl (xcs (xvI xvN) (Nat.le_of_ble_eq_true rfl)) (xD (Nat.le_of_ble_eq_true rfl)) xle.rf l192 ?_
      obtain ⟨v195, h195, hf⟩ := ob hf
      refine X.keep fun l195 => C.Si (As := [.int (-20 : Int32), .int v192]) (rest := []) dX3_grows_195 (w_J7_max h195) cX3_82 rfl rfl (xcs xvN (Nat.le_of_ble_eq_true rfl)) (xD (Nat.le_of_ble_eq_true rfl)) xle.rf l195 ?_
      refine C.ist_n (L' := [(2, .int v195), (0, va_rf x0), (1, .int x1)]) dX3_grows_198 rfl (Nat.le_of_ble_eq_true rfl) (xcI (xcQ (xcI xcN))) rfl ?_
      refine X.sub [1, 2, 0] (L' := [(0, va_rf x0), (1, .int x1), (2, .int v195)]) rfl ?_
      exact c_X3_grows_199_ok _ _ _ _ _ hf
  · have hf := if_t c7 hf
    refine X.iconst (v := 0) dX3_grows_10 (by decide) ?_
    obtain rfl := Option.some.inj hf
    exact X.iret dX3_grows_11 rfl rfl rfl
theorem cX1_160 : xCV RX1 160 mX3_grows 1 := ⟨lw_V q1301 q469 q470 q126 q471, rfl, ⟨by decide +kernel, by decide +kernel, by decide +kernel⟩, Nat.le_of_ble_eq_true rfl⟩
theorem cX3_88 : xCV RX3 88 mX3_grows 1 := ⟨lw_V q468 q469 q470 q126 q471, rfl, ⟨by decide +kernel, by decide +kernel, by decide +kernel⟩, Nat.le_of_ble_eq_true rfl⟩
/-! MouldVotes$Growth clear -/
abbrev cX3_clear : ByteArray := prog_4_method_7_code
def yX3_clear : MethodName := ⟨RX3, "clear", "(I)V"⟩
def dkwX3_clear_0 : List UInt8 := [42, 180, 0, 22, 27, 2, 79, 42, 180, 0, 25, 27, 3, 79, 177]
abbrev dktX3_clear_0 : List UInt8 := dkwX3_clear_0 ++ []
theorem dksX3_clear_0 : cX3_clear.data.toList.drop 0 = dktX3_clear_0 := by decide +kernel
theorem dX3_clear_0 : decode cX3_clear 0 = .ok (.aload_n 0, 1) := dk_42 (dk_at dksX3_clear_0 0 rfl rfl)
theorem dX3_clear_1 : decode cX3_clear 1 = .ok (.getfield 22, 3) := dk_180 0 22 (dk_at dksX3_clear_0 1 rfl rfl)
theorem dX3_clear_4 : decode cX3_clear 4 = .ok (.iload_n 1, 1) := dk_27 (dk_at dksX3_clear_0 4 rfl rfl)
theorem dX3_clear_5 : decode cX3_clear 5 = .ok (.iconst (-1), 1) := dk_2 (dk_at dksX3_clear_0 5 rfl rfl)
theorem dX3_clear_6 : decode cX3_clear 6 = .ok (.iastore, 1) := dk_79 (dk_at dksX3_clear_0 6 rfl rfl)
theorem dX3_clear_7 : decode cX3_clear 7 = .ok (.aload_n 0, 1) := dk_42 (dk_at dksX3_clear_0 7 rfl rfl)
theorem dX3_clear_8 : decode cX3_clear 8 = .ok (.getfield 25, 3) := dk_180 0 25 (dk_at dksX3_clear_0 8 rfl rfl)
theorem dX3_clear_11 : decode cX3_clear 11 = .ok (.iload_n 1, 1) := dk_27 (dk_at dksX3_clear_0 11 rfl rfl)
theorem dX3_clear_12 : decode cX3_clear 12 = .ok (.iconst 0, 1) := dk_3 (dk_at dksX3_clear_0 12 rfl rfl)
theorem dX3_clear_13 : decode cX3_clear 13 = .ok (.iastore, 1) := dk_79 (dk_at dksX3_clear_0 13 rfl rfl)
theorem dX3_clear_14 : decode cX3_clear 14 = .ok (.return_, 1) := dk_177 (dk_at dksX3_clear_0 14 rfl rfl)
abbrev mX3_clear : xM := (yX3_clear, cX3_clear, 2, none, [])
def c_X3_clear (x0 : Option Nat) (x1 : Int32) (T : xF) : Option (Unit × xF) :=
  (oQ T x0 2 2).bind fun v1 =>
  (stA T v1 .int x1 (-1 : Int32)).bind fun T6 =>
  (oQ T6 x0 2 3).bind fun v8 =>
  (stA T6 v8 .int x1 (0 : Int32)).bind fun T13 =>
  some ((), T13)
theorem w_X3_clear {G : xG}  {T : xF} {x0 : Option Nat} {x1 : Int32} {q : (Unit × xF)} (hf : c_X3_clear x0 x1 T = some q) : Ct G mX3_clear (1) T [va_rf x0, .int x1] (.inl none) q.2 := by
  refine Ct.ofc (plainFor_of_name (by decide +kernel)) rfl (xvQ (xvI xvN)) (Nat.le_of_ble_eq_true rfl) (show Xr G _ 0 [(0, va_rf x0), (1, .int x1)] [] _ from ?_)
  unfold c_X3_clear at hf
  refine C.aload_n dX3_clear_0 rfl 0 rfl ?_
  obtain ⟨v1, h1, hf⟩ := ob hf
  refine C.getQ dX3_clear_1 rX3_22 h1 ?_
  refine X.iload_n dX3_clear_4 rfl 1 rfl ?_
  refine X.iconst (v := -1) dX3_clear_5 (by decide) ?_
  obtain ⟨T6, h6, hf⟩ := ob hf
  refine C.iast dX3_clear_6 h6 ?_
  refine C.aload_n dX3_clear_7 rfl 0 rfl ?_
  obtain ⟨v8, h8, hf⟩ := ob hf
  refine C.getQ dX3_clear_8 rX3_25 h8 ?_
  refine X.iload_n dX3_clear_11 rfl 1 rfl ?_
  refine X.iconst (v := 0) dX3_clear_12 (by decide) ?_
  obtain ⟨T13, h13, hf⟩ := ob hf
  refine C.iast dX3_clear_13 h13 ?_
  obtain rfl := Option.some.inj hf
  exact X.vret dX3_clear_14 rfl rfl
theorem cX1_206 : xCV RX1 206 mX3_clear 1 := ⟨lw_V q1355 q587 q588 q126 q589, rfl, ⟨by decide +kernel, by decide +kernel, by decide +kernel⟩, Nat.le_of_ble_eq_true rfl⟩
theorem cX3_90 : xCV RX3 90 mX3_clear 1 := ⟨lw_V q586 q587 q588 q126 q589, rfl, ⟨by decide +kernel, by decide +kernel, by decide +kernel⟩, Nat.le_of_ble_eq_true rfl⟩
/-! MouldVotes$Growth grow -/
abbrev cX3_grow : ByteArray := prog_4_method_8_code
def yX3_grow : MethodName := ⟨RX3, "grow", "(LMouldVotes$Growth;)V"⟩
def dkwX3_grow_3 : List UInt8 := [180, 0, 25, 28, 46, 157, 0, 8, 42, 28, 182, 0, 90, 132, 2, 1, 167, 255, 173, 177]
abbrev dktX3_grow_3 : List UInt8 := dkwX3_grow_3 ++ []
def dkwX3_grow_2 : List UInt8 := [46, 29, 96, 184, 0, 79, 79, 42, 180, 0, 19, 28, 92, 46, 3, 29, 184, 0, 82, 100, 79, 42]
abbrev dktX3_grow_2 : List UInt8 := dkwX3_grow_2 ++ dktX3_grow_3
def dkwX3_grow_1 : List UInt8 := [160, 0, 6, 167, 0, 56, 43, 28, 182, 0, 88, 62, 42, 180, 0, 25, 28, 16, 99, 42, 180, 0, 25, 28]
abbrev dktX3_grow_1 : List UInt8 := dkwX3_grow_1 ++ dktX3_grow_2
def dkwX3_grow_0 : List UInt8 := [3, 61, 28, 42, 180, 0, 3, 180, 0, 39, 182, 0, 43, 162, 0, 75, 42, 180, 0, 22, 28, 46, 2]
abbrev dktX3_grow_0 : List UInt8 := dkwX3_grow_0 ++ dktX3_grow_1
theorem dksX3_grow_0 : cX3_grow.data.toList.drop 0 = dktX3_grow_0 := by decide +kernel
theorem dksX3_grow_1 : cX3_grow.data.toList.drop 23 = dktX3_grow_1 := dk_seg dksX3_grow_0 23 rfl rfl
theorem dksX3_grow_2 : cX3_grow.data.toList.drop 47 = dktX3_grow_2 := dk_seg dksX3_grow_1 24 rfl rfl
theorem dksX3_grow_3 : cX3_grow.data.toList.drop 69 = dktX3_grow_3 := dk_seg dksX3_grow_2 22 rfl rfl
theorem dX3_grow_0 : decode cX3_grow 0 = .ok (.iconst 0, 1) := dk_3 (dk_at dksX3_grow_0 0 rfl rfl)
theorem dX3_grow_1 : decode cX3_grow 1 = .ok (.istore_n 2, 1) := dk_61 (dk_at dksX3_grow_0 1 rfl rfl)
theorem dX3_grow_2 : decode cX3_grow 2 = .ok (.iload_n 2, 1) := dk_28 (dk_at dksX3_grow_0 2 rfl rfl)
theorem dX3_grow_3 : decode cX3_grow 3 = .ok (.aload_n 0, 1) := dk_42 (dk_at dksX3_grow_0 3 rfl rfl)
theorem dX3_grow_4 : decode cX3_grow 4 = .ok (.getfield 3, 3) := dk_180 0 3 (dk_at dksX3_grow_0 4 rfl rfl)
theorem dX3_grow_7 : decode cX3_grow 7 = .ok (.getfield 39, 3) := dk_180 0 39 (dk_at dksX3_grow_0 7 rfl rfl)
theorem dX3_grow_10 : decode cX3_grow 10 = .ok (.invokevirtual 43, 3) := dk_182 0 43 (dk_at dksX3_grow_0 10 rfl rfl)
theorem dX3_grow_13 : decode cX3_grow 13 = .ok (.if_icmp .ge 75, 3) := dk_162 0 75 (dk_at dksX3_grow_0 13 rfl rfl)
theorem dX3_grow_16 : decode cX3_grow 16 = .ok (.aload_n 0, 1) := dk_42 (dk_at dksX3_grow_0 16 rfl rfl)
theorem dX3_grow_17 : decode cX3_grow 17 = .ok (.getfield 22, 3) := dk_180 0 22 (dk_at dksX3_grow_0 17 rfl rfl)
theorem dX3_grow_20 : decode cX3_grow 20 = .ok (.iload_n 2, 1) := dk_28 (dk_at dksX3_grow_0 20 rfl rfl)
theorem dX3_grow_21 : decode cX3_grow 21 = .ok (.iaload, 1) := dk_46 (dk_at dksX3_grow_0 21 rfl rfl)
theorem dX3_grow_22 : decode cX3_grow 22 = .ok (.iconst (-1), 1) := dk_2 (dk_at dksX3_grow_0 22 rfl rfl)
theorem dX3_grow_23 : decode cX3_grow 23 = .ok (.if_icmp .ne 6, 3) := dk_160 0 6 (dk_at dksX3_grow_1 0 rfl rfl)
theorem dX3_grow_26 : decode cX3_grow 26 = .ok (.goto 56, 3) := dk_167 0 56 (dk_at dksX3_grow_1 3 rfl rfl)
theorem dX3_grow_29 : decode cX3_grow 29 = .ok (.aload_n 1, 1) := dk_43 (dk_at dksX3_grow_1 6 rfl rfl)
theorem dX3_grow_30 : decode cX3_grow 30 = .ok (.iload_n 2, 1) := dk_28 (dk_at dksX3_grow_1 7 rfl rfl)
theorem dX3_grow_31 : decode cX3_grow 31 = .ok (.invokevirtual 88, 3) := dk_182 0 88 (dk_at dksX3_grow_1 8 rfl rfl)
theorem dX3_grow_34 : decode cX3_grow 34 = .ok (.istore_n 3, 1) := dk_62 (dk_at dksX3_grow_1 11 rfl rfl)
theorem dX3_grow_35 : decode cX3_grow 35 = .ok (.aload_n 0, 1) := dk_42 (dk_at dksX3_grow_1 12 rfl rfl)
theorem dX3_grow_36 : decode cX3_grow 36 = .ok (.getfield 25, 3) := dk_180 0 25 (dk_at dksX3_grow_1 13 rfl rfl)
theorem dX3_grow_39 : decode cX3_grow 39 = .ok (.iload_n 2, 1) := dk_28 (dk_at dksX3_grow_1 16 rfl rfl)
theorem dX3_grow_40 : decode cX3_grow 40 = .ok (.bipush 99, 2) := dk_16 99 (dk_at dksX3_grow_1 17 rfl rfl)
theorem dX3_grow_42 : decode cX3_grow 42 = .ok (.aload_n 0, 1) := dk_42 (dk_at dksX3_grow_1 19 rfl rfl)
theorem dX3_grow_43 : decode cX3_grow 43 = .ok (.getfield 25, 3) := dk_180 0 25 (dk_at dksX3_grow_1 20 rfl rfl)
theorem dX3_grow_46 : decode cX3_grow 46 = .ok (.iload_n 2, 1) := dk_28 (dk_at dksX3_grow_1 23 rfl rfl)
theorem dX3_grow_47 : decode cX3_grow 47 = .ok (.iaload, 1) := dk_46 (dk_at dksX3_grow_2 0 rfl rfl)
theorem dX3_grow_48 : decode cX3_grow 48 = .ok (.iload_n 3, 1) := dk_29 (dk_at dksX3_grow_2 1 rfl rfl)
theorem dX3_grow_49 : decode cX3_grow 49 = .ok (.iadd, 1) := dk_96 (dk_at dksX3_grow_2 2 rfl rfl)
theorem dX3_grow_50 : decode cX3_grow 50 = .ok (.invokestatic 79, 3) := dk_184 0 79 (dk_at dksX3_grow_2 3 rfl rfl)
theorem dX3_grow_53 : decode cX3_grow 53 = .ok (.iastore, 1) := dk_79 (dk_at dksX3_grow_2 6 rfl rfl)
theorem dX3_grow_54 : decode cX3_grow 54 = .ok (.aload_n 0, 1) := dk_42 (dk_at dksX3_grow_2 7 rfl rfl)
theorem dX3_grow_55 : decode cX3_grow 55 = .ok (.getfield 19, 3) := dk_180 0 19 (dk_at dksX3_grow_2 8 rfl rfl)
theorem dX3_grow_58 : decode cX3_grow 58 = .ok (.iload_n 2, 1) := dk_28 (dk_at dksX3_grow_2 11 rfl rfl)
theorem dX3_grow_59 : decode cX3_grow 59 = .ok (.dup2, 1) := dk_92 (dk_at dksX3_grow_2 12 rfl rfl)
theorem dX3_grow_60 : decode cX3_grow 60 = .ok (.iaload, 1) := dk_46 (dk_at dksX3_grow_2 13 rfl rfl)
theorem dX3_grow_61 : decode cX3_grow 61 = .ok (.iconst 0, 1) := dk_3 (dk_at dksX3_grow_2 14 rfl rfl)
theorem dX3_grow_62 : decode cX3_grow 62 = .ok (.iload_n 3, 1) := dk_29 (dk_at dksX3_grow_2 15 rfl rfl)
theorem dX3_grow_63 : decode cX3_grow 63 = .ok (.invokestatic 82, 3) := dk_184 0 82 (dk_at dksX3_grow_2 16 rfl rfl)
theorem dX3_grow_66 : decode cX3_grow 66 = .ok (.isub, 1) := dk_100 (dk_at dksX3_grow_2 19 rfl rfl)
theorem dX3_grow_67 : decode cX3_grow 67 = .ok (.iastore, 1) := dk_79 (dk_at dksX3_grow_2 20 rfl rfl)
theorem dX3_grow_68 : decode cX3_grow 68 = .ok (.aload_n 0, 1) := dk_42 (dk_at dksX3_grow_2 21 rfl rfl)
theorem dX3_grow_69 : decode cX3_grow 69 = .ok (.getfield 25, 3) := dk_180 0 25 (dk_at dksX3_grow_3 0 rfl rfl)
theorem dX3_grow_72 : decode cX3_grow 72 = .ok (.iload_n 2, 1) := dk_28 (dk_at dksX3_grow_3 3 rfl rfl)
theorem dX3_grow_73 : decode cX3_grow 73 = .ok (.iaload, 1) := dk_46 (dk_at dksX3_grow_3 4 rfl rfl)
theorem dX3_grow_74 : decode cX3_grow 74 = .ok (.ifCond .gt 8, 3) := dk_157 0 8 (dk_at dksX3_grow_3 5 rfl rfl)
theorem dX3_grow_77 : decode cX3_grow 77 = .ok (.aload_n 0, 1) := dk_42 (dk_at dksX3_grow_3 8 rfl rfl)
theorem dX3_grow_78 : decode cX3_grow 78 = .ok (.iload_n 2, 1) := dk_28 (dk_at dksX3_grow_3 9 rfl rfl)
theorem dX3_grow_79 : decode cX3_grow 79 = .ok (.invokevirtual 90, 3) := dk_182 0 90 (dk_at dksX3_grow_3 10 rfl rfl)
theorem dX3_grow_82 : decode cX3_grow 82 = .ok (.iinc 2 1, 3) := dk_132 2 1 (dk_at dksX3_grow_3 13 rfl rfl)
theorem dX3_grow_85 : decode cX3_grow 85 = .ok (.goto (-83), 3) := dk_167 255 173 (dk_at dksX3_grow_3 16 rfl rfl)
theorem dX3_grow_88 : decode cX3_grow 88 = .ok (.return_, 1) := dk_177 (dk_at dksX3_grow_3 19 rfl rfl)
abbrev mX3_grow : xM := (yX3_grow, cX3_grow, 4, none, [])
def c_X3_grow_82 (G : xG) (k2 : Option Nat → Option Nat → Int32 → xF → Option (Unit × xF)) (x0 : Option Nat) (x1 : Option Nat) (x2 : Int32) (T : xF) : Option (Unit × xF) :=
  k2 x0 x1 (x2 + 1) T
theorem c_X3_grow_82_ok {G : xG}  {T0 : xF} {k2 : Option Nat → Option Nat → Int32 → xF → Option (Unit × xF)} (hk2 : ∀ (x0 : Option Nat) (x1 : Option Nat) (x2 : Int32) (T : xF) (q : (Unit × xF)), k2 x0 x1 x2 T = some q → Xr G (mX3_grow, xrm (122) T0 q.2, T0, .inl none, q.2) 2 [(0, va_rf x0), (1, va_rf x1), (2, .int x2)] [] T) (x0 : Option Nat) (x1 : Option Nat) (x2 : Int32) (T : xF) (q : (Unit × xF)) (hf : c_X3_grow_82 G k2 x0 x1 x2 T = some q) : Xr G (mX3_grow, xrm (122) T0 q.2, T0, .inl none, q.2) 82 [(0, va_rf x0), (1, va_rf x1), (2, .int x2)] [] T := by
  unfold c_X3_grow_82 at hf
  refine C.iinc (v := (x2 + 1)) (L' := [(2, .int (x2 + 1)), (0, va_rf x0), (1, va_rf x1)]) dX3_grow_82 2 rfl rfl (Nat.le_of_ble_eq_true rfl) (xcQ (xcQ (xcI xcN))) rfl ?_
  refine X.goto (tgt := 2) dX3_grow_85 (by decide) ?_
  refine X.sub [1, 2, 0] (L' := [(0, va_rf x0), (1, va_rf x1), (2, .int (x2 + 1))]) rfl ?_
  exact hk2 _ _ _ _ _ hf
def c_X3_grow_2_b (G : xG) (k2 : Option Nat → Option Nat → Int32 → xF → Option (Unit × xF)) (x0 : Option Nat) (x1 : Option Nat) (x2 : Int32) (T : xF) : Option (Unit × xF) :=
  (oQ T x0 2 5).bind fun v4 =>
  (oQ T v4 0 1).bind fun v7 =>
  if ¬ isO T v7 1 = true then none else
  (c_X2_cells T v7).bind fun v10 =>
  if v10 ≤ x2 then
    some ((), T)
  else
    (oQ T x0 2 2).bind fun v17 =>
    (ldA T v17 .int x2).bind fun v21 =>
    if v21 = (-1 : Int32) then
      c_X3_grow_82 G k2 x0 x1 x2 T
    else
      if ¬ isO T x1 2 = true then none else
      cl (c_X3_grows G x1 x2 T) T fun v31 T31 =>
      (oQ T31 x0 2 3).bind fun v36 =>
      (oQ T31 x0 2 3).bind fun v43 =>
      (ldA T31 v43 .int x2).bind fun v47 =>
      (c_J7_min (99 : Int32) (v47 + v31)).bind fun v50 =>
      (stA T31 v36 .int x2 v50).bind fun T53 =>
      (oQ T53 x0 2 1).bind fun v55 =>
      (ldA T53 v55 .int x2).bind fun v60 =>
      (c_J7_max (0 : Int32) v31).bind fun v63 =>
      (stA T53 v55 .int x2 (v60 - v63)).bind fun T67 =>
      (oQ T67 x0 2 3).bind fun v69 =>
      (ldA T67 v69 .int x2).bind fun v73 =>
      if 0 < v73 then
        c_X3_grow_82 G k2 x0 x1 x2 T67
      else
        if ¬ isO T67 x0 2 = true then none else
        cl (c_X3_clear x0 x2 T67) T67 fun v79 T79 =>
        c_X3_grow_82 G k2 x0 x1 x2 T79
def c_X3_grow_2 (G : xG) : Nat → Option Nat → Option Nat → Int32 → xF → Option (Unit × xF)
  | 0 => fun _ _ _ _ => none
  | n + 1 => fun x0 x1 x2 T => c_X3_grow_2_b G (c_X3_grow_2 G n) x0 x1 x2 T
theorem c_X3_grow_2_bok {G : xG}  {T0 : xF}  {k2 : Option Nat → Option Nat → Int32 → xF → Option (Unit × xF)}  (hk2 : ∀ (x0 : Option Nat) (x1 : Option Nat) (x2 : Int32) (T : xF) (q : (Unit × xF)), k2 x0 x1 x2 T = some q → Xr G (mX3_grow, xrm (122) T0 q.2, T0, .inl none, q.2) 2 [(0, va_rf x0), (1, va_rf x1), (2, .int x2)] [] T) (x0 : Option Nat) (x1 : Option Nat) (x2 : Int32) (T : xF) (q : (Unit × xF)) (hf : c_X3_grow_2_b G k2 x0 x1 x2 T = some q) : Xr G (mX3_grow, xrm (122) T0 q.2, T0, .inl none, q.2) 2 [(0, va_rf x0), (1, va_rf x1), (2, .int x2)] [] T := by
  unfold c_X3_grow_2_b at hf
  refine X.iload_n dX3_grow_2 rfl 2 rfl ?_
  refine C.aload_n dX3_grow_3 rfl 0 rfl ?_
  obtain ⟨v4, h4, hf⟩ := ob hf
  refine C.getQ dX3_grow_4 rX3_3 h4 ?_
  obtain ⟨v7, h7, hf⟩ := ob hf
  refine C.getQ dX3_grow_7 rX3_39 h7 ?_
  obtain ⟨c10, hf⟩ := if_n hf
  obtain ⟨v10, h10, hf⟩ := ob hf
  refine X.keep fun l10 => C.Vi (As := []) (rest := [.int x2]) dX3_grow_10 (w_X2_cells h10) cX3_43 (Classical.not_not.mp c10) rfl rfl (xcs (xvI xvN) (Nat.le_of_ble_eq_true rfl)) rfl rfl (xD (Nat.le_of_ble_eq_true rfl)) xle.rf l10 ?_
  refine X.icmp_ge (tgt := 88) dX3_grow_13 (by decide) (fun c13 => ?_) (fun c13 => ?_)
  · have hf := if_t c13 hf
    obtain rfl := Option.some.inj hf
    exact X.vret dX3_grow_88 rfl rfl
  · have hf := if_f c13 hf
    refine C.aload_n dX3_grow_16 rfl 0 rfl ?_
    obtain ⟨v17, h17, hf⟩ := ob hf
    refine C.getQ dX3_grow_17 rX3_22 h17 ?_
    refine X.iload_n dX3_grow_20 rfl 2 rfl ?_
    obtain ⟨v21, h21, hf⟩ := ob hf
    refine C.iald dX3_grow_21 h21 ?_
    refine X.iconst (v := -1) dX3_grow_22 (by decide) ?_
    refine X.icmp_ne (tgt := 29) dX3_grow_23 (by decide) (fun c23 => ?_) (fun c23 => ?_)
    · have hf := if_f c23 hf
      refine C.aload_n dX3_grow_29 rfl 1 rfl ?_
      refine X.iload_n dX3_grow_30 rfl 2 rfl ?_
      obtain ⟨c31, hf⟩ := if_n hf
      obtain ⟨v31, T31, h31, hf, l31, r31⟩ := cl_ok hf
      refine C.Vi (As := [.int x2]) (rest := []) dX3_grow_31 (w_X3_grows h31) cX3_88 (Classical.not_not.mp c31) rfl rfl (xcs xvN (Nat.le_of_ble_eq_true rfl)) rfl rfl (xD (Nat.le_of_ble_eq_true rfl)) l31 r31 ?_
      refine C.ist_n (L' := [(3, .int v31), (0, va_rf x0), (1, va_rf x1), (2, .int x2)]) dX3_grow_34 rfl (Nat.le_of_ble_eq_true rfl) (xcQ (xcQ (xcI xcN))) rfl ?_
      refine C.aload_n dX3_grow_35 rfl 1 rfl ?_
      obtain ⟨v36, h36, hf⟩ := ob hf
      refine C.getQ dX3_grow_36 rX3_25 h36 ?_
      refine X.iload_n dX3_grow_39 rfl 3 rfl ?_
      refine X.bipush (v := 99) dX3_grow_40 (by decide) ?_
      refine C.aload_n dX3_grow_42 rfl 1 rfl ?_
      obtain ⟨v43, h43, hf⟩ := ob hf
      refine C.getQ dX3_grow_43 rX3_25 h43 ?_
      refine X.iload_n dX3_grow_46 rfl 3 rfl ?_
      obtain ⟨v47, h47, hf⟩ := ob hf
      refine C.iald dX3_grow_47 h47 ?_
      refine X.iload_n dX3_grow_48 rfl 0 rfl ?_
      refine X.iadd dX3_grow_49 ?_
      obtain ⟨v50, h50, hf⟩ := ob hf
      refine X.keep fun l50 => C.Si (As := [.int (99 : Int32), .int (v47 + v31)]) (rest := [.int x2, va_rf v36]) dX3_grow_50 (w_J7_min h50) cX3_79 rfl rfl (xcs (xvI (xvQ xvN)) (Nat.le_of_ble_eq_true rfl)) (xD (Nat.le_of_ble_eq_true rfl)) xle.rf l50 ?_
      obtain ⟨T53, h53, hf⟩ := ob hf
      refine C.iast dX3_grow_53 h53 ?_
      refine C.aload_n dX3_grow_54 rfl 1 rfl ?_
      obtain ⟨v55, h55, hf⟩ := ob hf
      refine C.getQ dX3_grow_55 rX3_19 h55 ?_
      refine X.iload_n dX3_grow_58 rfl 3 rfl ?_
      refine X.dup2_11 dX3_grow_59 rfl (cat1 _) ?_
      obtain ⟨v60, h60, hf⟩ := ob hf
      refine C.iald dX3_grow_60 h60 ?_
      refine X.iconst (v := 0) dX3_grow_61 (by decide) ?_
      refine X.iload_n dX3_grow_62 rfl 0 rfl ?_
      obtain ⟨v63, h63, hf⟩ := ob hf
      refine X.keep fun l63 => C.Si (As := [.int (0 : Int32), .int v31]) (rest := [.int v60, .int x2, va_rf v55]) dX3_grow_63 (w_J7_max h63) cX3_82 rfl rfl (xcs (xvI (xvI (xvQ xvN))) (Nat.le_of_ble_eq_true rfl)) (xD (Nat.le_of_ble_eq_true rfl)) xle.rf l63 ?_
      refine X.isub dX3_grow_66 ?_
      obtain ⟨T67, h67, hf⟩ := ob hf
      refine C.iast dX3_grow_67 h67 ?_
      refine C.aload_n dX3_grow_68 rfl 1 rfl ?_
      obtain ⟨v69, h69, hf⟩ := ob hf
      refine C.getQ dX3_grow_69 rX3_25 h69 ?_
      refine X.iload_n dX3_grow_72 rfl 3 rfl ?_
      obtain ⟨v73, h73, hf⟩ := ob hf
      refine C.iald dX3_grow_73 h73 ?_
      refine X.if_gt (tgt := 82) dX3_grow_74 (by decide) (fun c74 => ?_) (fun c74 => ?_)
      · have hf := if_t c74 hf
        refine X.sub [1, 2, 3] (L' := [(0, va_rf x0), (1, va_rf x1), (2, .int x2)]) rfl ?_
        exact c_X3_grow_82_ok hk2 _ _ _ _ _ hf
      · have hf := if_f c74 hf
        refine C.aload_n dX3_grow_77 rfl 1 rfl ?_
        refine X.iload_n dX3_grow_78 rfl 3 rfl ?_
        obtain ⟨c79, hf⟩ := if_n hf
        obtain ⟨v79, T79, h79, hf, l79, r79⟩ := cl_ok hf
        refine C.Vv (As := [.int x2]) (rest := []) dX3_grow_79 (w_X3_clear h79) cX3_90 (Classical.not_not.mp c79) rfl rfl (xcs xvN (Nat.le_of_ble_eq_true rfl)) rfl rfl (xD (Nat.le_of_ble_eq_true rfl)) l79 r79 ?_
        refine X.sub [1, 2, 3] (L' := [(0, va_rf x0), (1, va_rf x1), (2, .int x2)]) rfl ?_
        exact c_X3_grow_82_ok hk2 _ _ _ _ _ hf
    · have hf := if_t c23 hf
      refine X.goto (tgt := 82) dX3_grow_26 (by decide) ?_
      refine X.sub [0, 1, 2] (L' := [(0, va_rf x0), (1, va_rf x1), (2, .int x2)]) rfl ?_
      exact c_X3_grow_82_ok hk2 _ _ _ _ _ hf
theorem c_X3_grow_2_ok {G : xG}  {T0 : xF}   : ∀ (n : Nat) (x0 : Option Nat) (x1 : Option Nat) (x2 : Int32) (T : xF) (q : (Unit × xF)), c_X3_grow_2 G n x0 x1 x2 T = some q → Xr G (mX3_grow, xrm (122) T0 q.2, T0, .inl none, q.2) 2 [(0, va_rf x0), (1, va_rf x1), (2, .int x2)] [] T
  | 0, _, _, _, _, _, hf => by cases hf
  | n + 1, x0, x1, x2, T, q, hf => c_X3_grow_2_bok (c_X3_grow_2_ok n) x0 x1 x2 T q hf
def c_X3_grow (G : xG) (x0 : Option Nat) (x1 : Option Nat) (T : xF) : Option (Unit × xF) :=
  c_X3_grow_2 G FU x0 x1 (0 : Int32) T
theorem w_X3_grow {G : xG}  {T : xF} {x0 : Option Nat} {x1 : Option Nat} {q : (Unit × xF)} (hf : c_X3_grow G x0 x1 T = some q) : Ct G mX3_grow (122) T [va_rf x0, va_rf x1] (.inl none) q.2 := by
  refine Ct.ofc (plainFor_of_name (by decide +kernel)) rfl (xvQ (xvQ xvN)) (Nat.le_of_ble_eq_true rfl) (show Xr G _ 0 [(0, va_rf x0), (1, va_rf x1)] [] _ from ?_)
  unfold c_X3_grow at hf
  refine X.iconst (v := 0) dX3_grow_0 (by decide) ?_
  refine C.ist_n (L' := [(2, .int (0 : Int32)), (0, va_rf x0), (1, va_rf x1)]) dX3_grow_1 rfl (Nat.le_of_ble_eq_true rfl) (xcQ (xcQ xcN)) rfl ?_
  refine X.sub [1, 2, 0] (L' := [(0, va_rf x0), (1, va_rf x1), (2, .int (0 : Int32))]) rfl ?_
  exact c_X3_grow_2_ok FU _ _ _ _ _ hf
theorem cX3_107 : xCV RX3 107 mX3_grow 1 := ⟨lw_V q460 q462 qs6 q126 q463, rfl, ⟨by decide +kernel, by decide +kernel, by decide +kernel⟩, Nat.le_of_ble_eq_true rfl⟩
/-! MouldVotes$Growth beats -/
abbrev cX3_beats : ByteArray := prog_4_method_6_code
def yX3_beats : MethodName := ⟨RX3, "beats", "(II)Z"⟩
def dkwX3_beats_7 : List UInt8 := [167, 0, 4, 3, 172]
abbrev dktX3_beats_7 : List UInt8 := dkwX3_beats_7 ++ []
def dkwX3_beats_6 : List UInt8 := [180, 0, 39, 180, 0, 85, 42, 180, 0, 3, 180, 0, 66, 185, 0, 73, 2, 0, 158, 0, 7, 4]
abbrev dktX3_beats_6 : List UInt8 := dkwX3_beats_6 ++ dktX3_beats_7
def dkwX3_beats_5 : List UInt8 := [3, 182, 0, 69, 79, 42, 180, 0, 3, 180, 0, 66, 7, 42, 180, 0, 15, 28, 46, 79, 42, 180, 0, 3]
abbrev dktX3_beats_5 : List UInt8 := dkwX3_beats_5 ++ dktX3_beats_6
def dkwX3_beats_4 : List UInt8 := [180, 0, 3, 180, 0, 66, 5, 42, 27, 4, 182, 0, 69, 79, 42, 180, 0, 3, 180, 0, 66, 6, 42, 27]
abbrev dktX3_beats_4 : List UInt8 := dkwX3_beats_4 ++ dktX3_beats_5
def dkwX3_beats_3 : List UInt8 := [3, 42, 180, 0, 25, 27, 46, 79, 42, 180, 0, 3, 180, 0, 66, 4, 42, 180, 0, 25, 28, 46, 79, 42]
abbrev dktX3_beats_3 : List UInt8 := dkwX3_beats_3 ++ dktX3_beats_4
def dkwX3_beats_2 : List UInt8 := [5, 42, 180, 0, 25, 28, 46, 104, 164, 0, 7, 4, 167, 0, 4, 3, 172, 42, 180, 0, 3, 180, 0, 66]
abbrev dktX3_beats_2 : List UInt8 := dkwX3_beats_2 ++ dktX3_beats_3
def dkwX3_beats_1 : List UInt8 := [160, 0, 5, 3, 172, 42, 180, 0, 3, 180, 0, 39, 180, 0, 85, 199, 0, 26, 42, 180, 0, 25, 27, 46]
abbrev dktX3_beats_1 : List UInt8 := dkwX3_beats_1 ++ dktX3_beats_2
def dkwX3_beats_0 : List UInt8 := [42, 180, 0, 22, 27, 46, 2, 159, 0, 18, 42, 180, 0, 22, 27, 46, 42, 180, 0, 22, 28, 46]
abbrev dktX3_beats_0 : List UInt8 := dkwX3_beats_0 ++ dktX3_beats_1
theorem dksX3_beats_0 : cX3_beats.data.toList.drop 0 = dktX3_beats_0 := by decide +kernel
theorem dksX3_beats_1 : cX3_beats.data.toList.drop 22 = dktX3_beats_1 := dk_seg dksX3_beats_0 22 rfl rfl
theorem dksX3_beats_2 : cX3_beats.data.toList.drop 46 = dktX3_beats_2 := dk_seg dksX3_beats_1 24 rfl rfl
theorem dksX3_beats_3 : cX3_beats.data.toList.drop 70 = dktX3_beats_3 := dk_seg dksX3_beats_2 24 rfl rfl
theorem dksX3_beats_4 : cX3_beats.data.toList.drop 94 = dktX3_beats_4 := dk_seg dksX3_beats_3 24 rfl rfl
theorem dksX3_beats_5 : cX3_beats.data.toList.drop 118 = dktX3_beats_5 := dk_seg dksX3_beats_4 24 rfl rfl
theorem dksX3_beats_6 : cX3_beats.data.toList.drop 142 = dktX3_beats_6 := dk_seg dksX3_beats_5 24 rfl rfl
theorem dksX3_beats_7 : cX3_beats.data.toList.drop 164 = dktX3_beats_7 := dk_seg dksX3_beats_6 22 rfl rfl
theorem dX3_beats_0 : decode cX3_beats 0 = .ok (.aload_n 0, 1) := dk_42 (dk_at dksX3_beats_0 0 rfl rfl)
theorem dX3_beats_1 : decode cX3_beats 1 = .ok (.getfield 22, 3) := dk_180 0 22 (dk_at dksX3_beats_0 1 rfl rfl)
theorem dX3_beats_4 : decode cX3_beats 4 = .ok (.iload_n 1, 1) := dk_27 (dk_at dksX3_beats_0 4 rfl rfl)
theorem dX3_beats_5 : decode cX3_beats 5 = .ok (.iaload, 1) := dk_46 (dk_at dksX3_beats_0 5 rfl rfl)
theorem dX3_beats_6 : decode cX3_beats 6 = .ok (.iconst (-1), 1) := dk_2 (dk_at dksX3_beats_0 6 rfl rfl)
theorem dX3_beats_7 : decode cX3_beats 7 = .ok (.if_icmp .eq 18, 3) := dk_159 0 18 (dk_at dksX3_beats_0 7 rfl rfl)
theorem dX3_beats_10 : decode cX3_beats 10 = .ok (.aload_n 0, 1) := dk_42 (dk_at dksX3_beats_0 10 rfl rfl)
theorem dX3_beats_11 : decode cX3_beats 11 = .ok (.getfield 22, 3) := dk_180 0 22 (dk_at dksX3_beats_0 11 rfl rfl)
theorem dX3_beats_14 : decode cX3_beats 14 = .ok (.iload_n 1, 1) := dk_27 (dk_at dksX3_beats_0 14 rfl rfl)
theorem dX3_beats_15 : decode cX3_beats 15 = .ok (.iaload, 1) := dk_46 (dk_at dksX3_beats_0 15 rfl rfl)
theorem dX3_beats_16 : decode cX3_beats 16 = .ok (.aload_n 0, 1) := dk_42 (dk_at dksX3_beats_0 16 rfl rfl)
theorem dX3_beats_17 : decode cX3_beats 17 = .ok (.getfield 22, 3) := dk_180 0 22 (dk_at dksX3_beats_0 17 rfl rfl)
theorem dX3_beats_20 : decode cX3_beats 20 = .ok (.iload_n 2, 1) := dk_28 (dk_at dksX3_beats_0 20 rfl rfl)
theorem dX3_beats_21 : decode cX3_beats 21 = .ok (.iaload, 1) := dk_46 (dk_at dksX3_beats_0 21 rfl rfl)
theorem dX3_beats_22 : decode cX3_beats 22 = .ok (.if_icmp .ne 5, 3) := dk_160 0 5 (dk_at dksX3_beats_1 0 rfl rfl)
theorem dX3_beats_25 : decode cX3_beats 25 = .ok (.iconst 0, 1) := dk_3 (dk_at dksX3_beats_1 3 rfl rfl)
theorem dX3_beats_26 : decode cX3_beats 26 = .ok (.ireturn, 1) := dk_172 (dk_at dksX3_beats_1 4 rfl rfl)
theorem dX3_beats_27 : decode cX3_beats 27 = .ok (.aload_n 0, 1) := dk_42 (dk_at dksX3_beats_1 5 rfl rfl)
theorem dX3_beats_28 : decode cX3_beats 28 = .ok (.getfield 3, 3) := dk_180 0 3 (dk_at dksX3_beats_1 6 rfl rfl)
theorem dX3_beats_31 : decode cX3_beats 31 = .ok (.getfield 39, 3) := dk_180 0 39 (dk_at dksX3_beats_1 9 rfl rfl)
theorem dX3_beats_34 : decode cX3_beats 34 = .ok (.getfield 85, 3) := dk_180 0 85 (dk_at dksX3_beats_1 12 rfl rfl)
theorem dX3_beats_37 : decode cX3_beats 37 = .ok (.ifnonnull 26, 3) := dk_199 0 26 (dk_at dksX3_beats_1 15 rfl rfl)
theorem dX3_beats_40 : decode cX3_beats 40 = .ok (.aload_n 0, 1) := dk_42 (dk_at dksX3_beats_1 18 rfl rfl)
theorem dX3_beats_41 : decode cX3_beats 41 = .ok (.getfield 25, 3) := dk_180 0 25 (dk_at dksX3_beats_1 19 rfl rfl)
theorem dX3_beats_44 : decode cX3_beats 44 = .ok (.iload_n 1, 1) := dk_27 (dk_at dksX3_beats_1 22 rfl rfl)
theorem dX3_beats_45 : decode cX3_beats 45 = .ok (.iaload, 1) := dk_46 (dk_at dksX3_beats_1 23 rfl rfl)
theorem dX3_beats_46 : decode cX3_beats 46 = .ok (.iconst 2, 1) := dk_5 (dk_at dksX3_beats_2 0 rfl rfl)
theorem dX3_beats_47 : decode cX3_beats 47 = .ok (.aload_n 0, 1) := dk_42 (dk_at dksX3_beats_2 1 rfl rfl)
theorem dX3_beats_48 : decode cX3_beats 48 = .ok (.getfield 25, 3) := dk_180 0 25 (dk_at dksX3_beats_2 2 rfl rfl)
theorem dX3_beats_51 : decode cX3_beats 51 = .ok (.iload_n 2, 1) := dk_28 (dk_at dksX3_beats_2 5 rfl rfl)
theorem dX3_beats_52 : decode cX3_beats 52 = .ok (.iaload, 1) := dk_46 (dk_at dksX3_beats_2 6 rfl rfl)
theorem dX3_beats_53 : decode cX3_beats 53 = .ok (.imul, 1) := dk_104 (dk_at dksX3_beats_2 7 rfl rfl)
theorem dX3_beats_54 : decode cX3_beats 54 = .ok (.if_icmp .le 7, 3) := dk_164 0 7 (dk_at dksX3_beats_2 8 rfl rfl)
theorem dX3_beats_57 : decode cX3_beats 57 = .ok (.iconst 1, 1) := dk_4 (dk_at dksX3_beats_2 11 rfl rfl)
theorem dX3_beats_58 : decode cX3_beats 58 = .ok (.goto 4, 3) := dk_167 0 4 (dk_at dksX3_beats_2 12 rfl rfl)
theorem dX3_beats_61 : decode cX3_beats 61 = .ok (.iconst 0, 1) := dk_3 (dk_at dksX3_beats_2 15 rfl rfl)
theorem dX3_beats_62 : decode cX3_beats 62 = .ok (.ireturn, 1) := dk_172 (dk_at dksX3_beats_2 16 rfl rfl)
theorem dX3_beats_63 : decode cX3_beats 63 = .ok (.aload_n 0, 1) := dk_42 (dk_at dksX3_beats_2 17 rfl rfl)
theorem dX3_beats_64 : decode cX3_beats 64 = .ok (.getfield 3, 3) := dk_180 0 3 (dk_at dksX3_beats_2 18 rfl rfl)
theorem dX3_beats_67 : decode cX3_beats 67 = .ok (.getfield 66, 3) := dk_180 0 66 (dk_at dksX3_beats_2 21 rfl rfl)
theorem dX3_beats_70 : decode cX3_beats 70 = .ok (.iconst 0, 1) := dk_3 (dk_at dksX3_beats_3 0 rfl rfl)
theorem dX3_beats_71 : decode cX3_beats 71 = .ok (.aload_n 0, 1) := dk_42 (dk_at dksX3_beats_3 1 rfl rfl)
theorem dX3_beats_72 : decode cX3_beats 72 = .ok (.getfield 25, 3) := dk_180 0 25 (dk_at dksX3_beats_3 2 rfl rfl)
theorem dX3_beats_75 : decode cX3_beats 75 = .ok (.iload_n 1, 1) := dk_27 (dk_at dksX3_beats_3 5 rfl rfl)
theorem dX3_beats_76 : decode cX3_beats 76 = .ok (.iaload, 1) := dk_46 (dk_at dksX3_beats_3 6 rfl rfl)
theorem dX3_beats_77 : decode cX3_beats 77 = .ok (.iastore, 1) := dk_79 (dk_at dksX3_beats_3 7 rfl rfl)
theorem dX3_beats_78 : decode cX3_beats 78 = .ok (.aload_n 0, 1) := dk_42 (dk_at dksX3_beats_3 8 rfl rfl)
theorem dX3_beats_79 : decode cX3_beats 79 = .ok (.getfield 3, 3) := dk_180 0 3 (dk_at dksX3_beats_3 9 rfl rfl)
theorem dX3_beats_82 : decode cX3_beats 82 = .ok (.getfield 66, 3) := dk_180 0 66 (dk_at dksX3_beats_3 12 rfl rfl)
theorem dX3_beats_85 : decode cX3_beats 85 = .ok (.iconst 1, 1) := dk_4 (dk_at dksX3_beats_3 15 rfl rfl)
theorem dX3_beats_86 : decode cX3_beats 86 = .ok (.aload_n 0, 1) := dk_42 (dk_at dksX3_beats_3 16 rfl rfl)
theorem dX3_beats_87 : decode cX3_beats 87 = .ok (.getfield 25, 3) := dk_180 0 25 (dk_at dksX3_beats_3 17 rfl rfl)
theorem dX3_beats_90 : decode cX3_beats 90 = .ok (.iload_n 2, 1) := dk_28 (dk_at dksX3_beats_3 20 rfl rfl)
theorem dX3_beats_91 : decode cX3_beats 91 = .ok (.iaload, 1) := dk_46 (dk_at dksX3_beats_3 21 rfl rfl)
theorem dX3_beats_92 : decode cX3_beats 92 = .ok (.iastore, 1) := dk_79 (dk_at dksX3_beats_3 22 rfl rfl)
theorem dX3_beats_93 : decode cX3_beats 93 = .ok (.aload_n 0, 1) := dk_42 (dk_at dksX3_beats_3 23 rfl rfl)
theorem dX3_beats_94 : decode cX3_beats 94 = .ok (.getfield 3, 3) := dk_180 0 3 (dk_at dksX3_beats_4 0 rfl rfl)
theorem dX3_beats_97 : decode cX3_beats 97 = .ok (.getfield 66, 3) := dk_180 0 66 (dk_at dksX3_beats_4 3 rfl rfl)
theorem dX3_beats_100 : decode cX3_beats 100 = .ok (.iconst 2, 1) := dk_5 (dk_at dksX3_beats_4 6 rfl rfl)
theorem dX3_beats_101 : decode cX3_beats 101 = .ok (.aload_n 0, 1) := dk_42 (dk_at dksX3_beats_4 7 rfl rfl)
theorem dX3_beats_102 : decode cX3_beats 102 = .ok (.iload_n 1, 1) := dk_27 (dk_at dksX3_beats_4 8 rfl rfl)
theorem dX3_beats_103 : decode cX3_beats 103 = .ok (.iconst 1, 1) := dk_4 (dk_at dksX3_beats_4 9 rfl rfl)
theorem dX3_beats_104 : decode cX3_beats 104 = .ok (.invokevirtual 69, 3) := dk_182 0 69 (dk_at dksX3_beats_4 10 rfl rfl)
theorem dX3_beats_107 : decode cX3_beats 107 = .ok (.iastore, 1) := dk_79 (dk_at dksX3_beats_4 13 rfl rfl)
theorem dX3_beats_108 : decode cX3_beats 108 = .ok (.aload_n 0, 1) := dk_42 (dk_at dksX3_beats_4 14 rfl rfl)
theorem dX3_beats_109 : decode cX3_beats 109 = .ok (.getfield 3, 3) := dk_180 0 3 (dk_at dksX3_beats_4 15 rfl rfl)
theorem dX3_beats_112 : decode cX3_beats 112 = .ok (.getfield 66, 3) := dk_180 0 66 (dk_at dksX3_beats_4 18 rfl rfl)
theorem dX3_beats_115 : decode cX3_beats 115 = .ok (.iconst 3, 1) := dk_6 (dk_at dksX3_beats_4 21 rfl rfl)
theorem dX3_beats_116 : decode cX3_beats 116 = .ok (.aload_n 0, 1) := dk_42 (dk_at dksX3_beats_4 22 rfl rfl)
theorem dX3_beats_117 : decode cX3_beats 117 = .ok (.iload_n 1, 1) := dk_27 (dk_at dksX3_beats_4 23 rfl rfl)
theorem dX3_beats_118 : decode cX3_beats 118 = .ok (.iconst 0, 1) := dk_3 (dk_at dksX3_beats_5 0 rfl rfl)
theorem dX3_beats_119 : decode cX3_beats 119 = .ok (.invokevirtual 69, 3) := dk_182 0 69 (dk_at dksX3_beats_5 1 rfl rfl)
theorem dX3_beats_122 : decode cX3_beats 122 = .ok (.iastore, 1) := dk_79 (dk_at dksX3_beats_5 4 rfl rfl)
theorem dX3_beats_123 : decode cX3_beats 123 = .ok (.aload_n 0, 1) := dk_42 (dk_at dksX3_beats_5 5 rfl rfl)
theorem dX3_beats_124 : decode cX3_beats 124 = .ok (.getfield 3, 3) := dk_180 0 3 (dk_at dksX3_beats_5 6 rfl rfl)
theorem dX3_beats_127 : decode cX3_beats 127 = .ok (.getfield 66, 3) := dk_180 0 66 (dk_at dksX3_beats_5 9 rfl rfl)
theorem dX3_beats_130 : decode cX3_beats 130 = .ok (.iconst 4, 1) := dk_7 (dk_at dksX3_beats_5 12 rfl rfl)
theorem dX3_beats_131 : decode cX3_beats 131 = .ok (.aload_n 0, 1) := dk_42 (dk_at dksX3_beats_5 13 rfl rfl)
theorem dX3_beats_132 : decode cX3_beats 132 = .ok (.getfield 15, 3) := dk_180 0 15 (dk_at dksX3_beats_5 14 rfl rfl)
theorem dX3_beats_135 : decode cX3_beats 135 = .ok (.iload_n 2, 1) := dk_28 (dk_at dksX3_beats_5 17 rfl rfl)
theorem dX3_beats_136 : decode cX3_beats 136 = .ok (.iaload, 1) := dk_46 (dk_at dksX3_beats_5 18 rfl rfl)
theorem dX3_beats_137 : decode cX3_beats 137 = .ok (.iastore, 1) := dk_79 (dk_at dksX3_beats_5 19 rfl rfl)
theorem dX3_beats_138 : decode cX3_beats 138 = .ok (.aload_n 0, 1) := dk_42 (dk_at dksX3_beats_5 20 rfl rfl)
theorem dX3_beats_139 : decode cX3_beats 139 = .ok (.getfield 3, 3) := dk_180 0 3 (dk_at dksX3_beats_5 21 rfl rfl)
theorem dX3_beats_142 : decode cX3_beats 142 = .ok (.getfield 39, 3) := dk_180 0 39 (dk_at dksX3_beats_6 0 rfl rfl)
theorem dX3_beats_145 : decode cX3_beats 145 = .ok (.getfield 85, 3) := dk_180 0 85 (dk_at dksX3_beats_6 3 rfl rfl)
theorem dX3_beats_148 : decode cX3_beats 148 = .ok (.aload_n 0, 1) := dk_42 (dk_at dksX3_beats_6 6 rfl rfl)
theorem dX3_beats_149 : decode cX3_beats 149 = .ok (.getfield 3, 3) := dk_180 0 3 (dk_at dksX3_beats_6 7 rfl rfl)
theorem dX3_beats_152 : decode cX3_beats 152 = .ok (.getfield 66, 3) := dk_180 0 66 (dk_at dksX3_beats_6 10 rfl rfl)
theorem dX3_beats_155 : decode cX3_beats 155 = .ok (.invokeinterface 73 2, 5) := by decide +kernel
theorem dX3_beats_160 : decode cX3_beats 160 = .ok (.ifCond .le 7, 3) := dk_158 0 7 (dk_at dksX3_beats_6 18 rfl rfl)
theorem dX3_beats_163 : decode cX3_beats 163 = .ok (.iconst 1, 1) := dk_4 (dk_at dksX3_beats_6 21 rfl rfl)
theorem dX3_beats_164 : decode cX3_beats 164 = .ok (.goto 4, 3) := dk_167 0 4 (dk_at dksX3_beats_7 0 rfl rfl)
theorem dX3_beats_167 : decode cX3_beats 167 = .ok (.iconst 0, 1) := dk_3 (dk_at dksX3_beats_7 3 rfl rfl)
theorem dX3_beats_168 : decode cX3_beats 168 = .ok (.ireturn, 1) := dk_172 (dk_at dksX3_beats_7 4 rfl rfl)
abbrev mX3_beats : xM := (yX3_beats, cX3_beats, 3, (some .boolean), [])
def c_X3_beats (G : xG) (x0 : Option Nat) (x1 : Int32) (x2 : Int32) (T : xF) : Option (Int32 × xF) :=
  (oQ T x0 2 2).bind fun v1 =>
  (ldA T v1 .int x1).bind fun v5 =>
  if v5 = (-1 : Int32) then
    some ((0 : Int32), T)
  else
    (oQ T x0 2 2).bind fun v11 =>
    (ldA T v11 .int x1).bind fun v15 =>
    (oQ T x0 2 2).bind fun v17 =>
    (ldA T v17 .int x2).bind fun v21 =>
    if v15 = v21 then
      some ((0 : Int32), T)
    else
      (oQ T x0 2 5).bind fun v28 =>
      (oQ T v28 0 1).bind fun v31 =>
      (oQ T v31 1 7).bind fun v34 =>
      if v34 = none then
        (oQ T x0 2 3).bind fun v41 =>
        (ldA T v41 .int x1).bind fun v45 =>
        (oQ T x0 2 3).bind fun v48 =>
        (ldA T v48 .int x2).bind fun v52 =>
        if v45 ≤ ((2 : Int32) * v52) then
          some ((0 : Int32), T)
        else
          some ((1 : Int32), T)
      else
        (oQ T x0 2 5).bind fun v64 =>
        (oQ T v64 0 0).bind fun v67 =>
        (oQ T x0 2 3).bind fun v72 =>
        (ldA T v72 .int x1).bind fun v76 =>
        (stA T v67 .int (0 : Int32) v76).bind fun T77 =>
        (oQ T77 x0 2 5).bind fun v79 =>
        (oQ T77 v79 0 0).bind fun v82 =>
        (oQ T77 x0 2 3).bind fun v87 =>
        (ldA T77 v87 .int x2).bind fun v91 =>
        (stA T77 v82 .int (1 : Int32) v91).bind fun T92 =>
        (oQ T92 x0 2 5).bind fun v94 =>
        (oQ T92 v94 0 0).bind fun v97 =>
        if ¬ isO T92 x0 2 = true then none else
        (c_X3_beside T92 x0 x1 (1 : Int32)).bind fun v104 =>
        (stA T92 v97 .int (2 : Int32) v104).bind fun T107 =>
        (oQ T107 x0 2 5).bind fun v109 =>
        (oQ T107 v109 0 0).bind fun v112 =>
        if ¬ isO T107 x0 2 = true then none else
        (c_X3_beside T107 x0 x1 (0 : Int32)).bind fun v119 =>
        (stA T107 v112 .int (3 : Int32) v119).bind fun T122 =>
        (oQ T122 x0 2 5).bind fun v124 =>
        (oQ T122 v124 0 0).bind fun v127 =>
        (oQ T122 x0 2 0).bind fun v132 =>
        (ldA T122 v132 .int x2).bind fun v136 =>
        (stA T122 v127 .int (4 : Int32) v136).bind fun T137 =>
        (oQ T137 x0 2 5).bind fun v139 =>
        (oQ T137 v139 0 1).bind fun v142 =>
        (oQ T137 v142 1 7).bind fun v145 =>
        (oQ T137 x0 2 5).bind fun v149 =>
        (oQ T137 v149 0 0).bind fun v152 =>
        (c_of G OFU T137 v145 v152).bind fun v155 =>
        if v155 ≤ 0 then
          some ((0 : Int32), T137)
        else
          some ((1 : Int32), T137)
theorem w_X3_beats {G : xG}  {T : xF} {x0 : Option Nat} {x1 : Int32} {x2 : Int32} {q : (Int32 × xF)} (hf : c_X3_beats G x0 x1 x2 T = some q) : Ct G mX3_beats (121) T [va_rf x0, .int x1, .int x2] (.inl (some (.int q.1))) q.2 := by
  refine Ct.ofc (plainFor_of_name (by decide +kernel)) rfl (xvQ (xvI (xvI xvN))) (Nat.le_of_ble_eq_true rfl) (show Xr G _ 0 [(0, va_rf x0), (1, .int x1), (2, .int x2)] [] _ from ?_)
  unfold c_X3_beats at hf
  refine C.aload_n dX3_beats_0 rfl 0 rfl ?_
  obtain ⟨v1, h1, hf⟩ := ob hf
  refine C.getQ dX3_beats_1 rX3_22 h1 ?_
  refine X.iload_n dX3_beats_4 rfl 1 rfl ?_
  obtain ⟨v5, h5, hf⟩ := ob hf
  refine C.iald dX3_beats_5 h5 ?_
  refine X.iconst (v := -1) dX3_beats_6 (by decide) ?_
  refine X.icmp_eq (tgt := 25) dX3_beats_7 (by decide) (fun c7 => ?_) (fun c7 => ?_)
  · have hf := if_t c7 hf
    refine X.iconst (v := 0) dX3_beats_25 (by decide) ?_
    obtain rfl := Option.some.inj hf
    exact X.iret dX3_beats_26 rfl rfl rfl
  · have hf := if_f c7 hf
    refine C.aload_n dX3_beats_10 rfl 0 rfl ?_
    obtain ⟨v11, h11, hf⟩ := ob hf
    refine C.getQ dX3_beats_11 rX3_22 h11 ?_
    refine X.iload_n dX3_beats_14 rfl 1 rfl ?_
    obtain ⟨v15, h15, hf⟩ := ob hf
    refine C.iald dX3_beats_15 h15 ?_
    refine C.aload_n dX3_beats_16 rfl 0 rfl ?_
    obtain ⟨v17, h17, hf⟩ := ob hf
    refine C.getQ dX3_beats_17 rX3_22 h17 ?_
    refine X.iload_n dX3_beats_20 rfl 2 rfl ?_
    obtain ⟨v21, h21, hf⟩ := ob hf
    refine C.iald dX3_beats_21 h21 ?_
    refine X.icmp_ne (tgt := 27) dX3_beats_22 (by decide) (fun c22 => ?_) (fun c22 => ?_)
    · have hf := if_f c22 hf
      refine C.aload_n dX3_beats_27 rfl 0 rfl ?_
      obtain ⟨v28, h28, hf⟩ := ob hf
      refine C.getQ dX3_beats_28 rX3_3 h28 ?_
      obtain ⟨v31, h31, hf⟩ := ob hf
      refine C.getQ dX3_beats_31 rX3_39 h31 ?_
      obtain ⟨v34, h34, hf⟩ := ob hf
      refine C.getQ dX3_beats_34 rX3_85 h34 ?_
      refine C.ifnonnull (tgt := 63) dX3_beats_37 (by decide) (fun c37 => ?_) (fun c37 => ?_)
      · have hf := if_f c37 hf
        refine C.aload_n dX3_beats_63 rfl 0 rfl ?_
        obtain ⟨v64, h64, hf⟩ := ob hf
        refine C.getQ dX3_beats_64 rX3_3 h64 ?_
        obtain ⟨v67, h67, hf⟩ := ob hf
        refine C.getQ dX3_beats_67 rX3_66 h67 ?_
        refine X.iconst (v := 0) dX3_beats_70 (by decide) ?_
        refine C.aload_n dX3_beats_71 rfl 0 rfl ?_
        obtain ⟨v72, h72, hf⟩ := ob hf
        refine C.getQ dX3_beats_72 rX3_25 h72 ?_
        refine X.iload_n dX3_beats_75 rfl 1 rfl ?_
        obtain ⟨v76, h76, hf⟩ := ob hf
        refine C.iald dX3_beats_76 h76 ?_
        obtain ⟨T77, h77, hf⟩ := ob hf
        refine C.iast dX3_beats_77 h77 ?_
        refine C.aload_n dX3_beats_78 rfl 0 rfl ?_
        obtain ⟨v79, h79, hf⟩ := ob hf
        refine C.getQ dX3_beats_79 rX3_3 h79 ?_
        obtain ⟨v82, h82, hf⟩ := ob hf
        refine C.getQ dX3_beats_82 rX3_66 h82 ?_
        refine X.iconst (v := 1) dX3_beats_85 (by decide) ?_
        refine C.aload_n dX3_beats_86 rfl 0 rfl ?_
        obtain ⟨v87, h87, hf⟩ := ob hf
        refine C.getQ dX3_beats_87 rX3_25 h87 ?_
        refine X.iload_n dX3_beats_90 rfl 2 rfl ?_
        obtain ⟨v91, h91, hf⟩ := ob hf
        refine C.iald dX3_beats_91 h91 ?_
        obtain ⟨T92, h92, hf⟩ := ob hf
        refine C.iast dX3_beats_92 h92 ?_
        refine C.aload_n dX3_beats_93 rfl 0 rfl ?_
        obtain ⟨v94, h94, hf⟩ := ob hf
        refine C.getQ dX3_beats_94 rX3_3 h94 ?_
        obtain ⟨v97, h97, hf⟩ := ob hf
        refine C.getQ dX3_beats_97 rX3_66 h97 ?_
        refine X.iconst (v := 2) dX3_beats_100 (by decide) ?_
        refine C.aload_n dX3_beats_101 rfl 0 rfl ?_
        refine X.iload_n dX3_beats_102 rfl 1 rfl ?_
        refine X.iconst (v := 1) dX3_beats_103 (by decide) ?_
        obtain ⟨c104, hf⟩ := if_n hf
        obtain ⟨v104, h104, hf⟩ := ob hf
        refine X.keep fun l104 => C.Vi (As := [.int x1, .int (1 : Int32)]) (rest := [.int (2 : Int32), va_rf v97]) dX3_beats_104 (w_X3_beside h104) cX3_69 (Classical.not_not.mp c104) rfl rfl (xcs (xvI (xvQ xvN)) (Nat.le_of_ble_eq_true rfl)) rfl rfl (xD (Nat.le_of_ble_eq_true rfl)) xle.rf l104 ?_
        obtain ⟨T107, h107, hf⟩ := ob hf
        refine C.iast dX3_beats_107 h107 ?_
        refine C.aload_n dX3_beats_108 rfl 0 rfl ?_
        obtain ⟨v109, h109, hf⟩ := ob hf
        refine C.getQ dX3_beats_109 rX3_3 h109 ?_
        obtain ⟨v112, h112, hf⟩ := ob hf
        refine C.getQ dX3_beats_112 rX3_66 h112 ?_
        refine X.iconst (v := 3) dX3_beats_115 (by decide) ?_
        refine C.aload_n dX3_beats_116 rfl 0 rfl ?_
        refine X.iload_n dX3_beats_117 rfl 1 rfl ?_
        refine X.iconst (v := 0) dX3_beats_118 (by decide) ?_
        obtain ⟨c119, hf⟩ := if_n hf
        obtain ⟨v119, h119, hf⟩ := ob hf
        refine X.keep fun l119 => C.Vi (As := [.int x1, .int (0 : Int32)]) (rest := [.int (3 : Int32), va_rf v112]) dX3_beats_119 (w_X3_beside h119) cX3_69 (Classical.not_not.mp c119) rfl rfl (xcs (xvI (xvQ xvN)) (Nat.le_of_ble_eq_true rfl)) rfl rfl (xD (Nat.le_of_ble_eq_true rfl)) xle.rf l119 ?_
        obtain ⟨T122, h122, hf⟩ := ob hf
        refine C.iast dX3_beats_122 h122 ?_
        refine C.aload_n dX3_beats_123 rfl 0 rfl ?_
        obtain ⟨v124, h124, hf⟩ := ob hf
        refine C.getQ dX3_beats_124 rX3_3 h124 ?_
        obtain ⟨v127, h127, hf⟩ := ob hf
        refine C.getQ dX3_beats_127 rX3_66 h127 ?_
        refine X.iconst (v := 4) dX3_beats_130 (by decide) ?_
        refine C.aload_n dX3_beats_131 rfl 0 rfl ?_
        obtain ⟨v132, h132, hf⟩ := ob hf
        refine C.getQ dX3_beats_132 rX3_15 h132 ?_
        refine X.iload_n dX3_beats_135 rfl 2 rfl ?_
        obtain ⟨v136, h136, hf⟩ := ob hf
        refine C.iald dX3_beats_136 h136 ?_
        obtain ⟨T137, h137, hf⟩ := ob hf
        refine C.iast dX3_beats_137 h137 ?_
        refine C.aload_n dX3_beats_138 rfl 0 rfl ?_
        obtain ⟨v139, h139, hf⟩ := ob hf
        refine C.getQ dX3_beats_139 rX3_3 h139 ?_
        obtain ⟨v142, h142, hf⟩ := ob hf
        refine C.getQ dX3_beats_142 rX3_39 h142 ?_
        obtain ⟨v145, h145, hf⟩ := ob hf
        refine C.getQ dX3_beats_145 rX3_85 h145 ?_
        refine C.aload_n dX3_beats_148 rfl 0 rfl ?_
        obtain ⟨v149, h149, hf⟩ := ob hf
        refine C.getQ dX3_beats_149 rX3_3 h149 ?_
        obtain ⟨v152, h152, hf⟩ := ob hf
        refine C.getQ dX3_beats_152 rX3_66 h152 ?_
        obtain ⟨v155, h155, hf⟩ := ob hf
        refine X.keep fun l155 => C.form (rest := []) dX3_beats_155 (w_of OFU _ _ _ h155) cFX3_73 rfl (xcs xvN (Nat.le_of_ble_eq_true rfl)) (xD (Nat.le_of_ble_eq_true rfl)) l155 ?_
        refine X.if_le (tgt := 167) dX3_beats_160 (by decide) (fun c160 => ?_) (fun c160 => ?_)
        · have hf := if_t c160 hf
          refine X.iconst (v := 0) dX3_beats_167 (by decide) ?_
          obtain rfl := Option.some.inj hf
          exact X.iret dX3_beats_168 rfl rfl rfl
        · have hf := if_f c160 hf
          refine X.iconst (v := 1) dX3_beats_163 (by decide) ?_
          refine X.goto (tgt := 168) dX3_beats_164 (by decide) ?_
          obtain rfl := Option.some.inj hf
          exact X.iret dX3_beats_168 rfl rfl rfl
      · have hf := if_t c37 hf
        refine C.aload_n dX3_beats_40 rfl 0 rfl ?_
        obtain ⟨v41, h41, hf⟩ := ob hf
        refine C.getQ dX3_beats_41 rX3_25 h41 ?_
        refine X.iload_n dX3_beats_44 rfl 1 rfl ?_
        obtain ⟨v45, h45, hf⟩ := ob hf
        refine C.iald dX3_beats_45 h45 ?_
        refine X.iconst (v := 2) dX3_beats_46 (by decide) ?_
        refine C.aload_n dX3_beats_47 rfl 0 rfl ?_
        obtain ⟨v48, h48, hf⟩ := ob hf
        refine C.getQ dX3_beats_48 rX3_25 h48 ?_
        refine X.iload_n dX3_beats_51 rfl 2 rfl ?_
        obtain ⟨v52, h52, hf⟩ := ob hf
        refine C.iald dX3_beats_52 h52 ?_
        refine X.imul dX3_beats_53 ?_
        refine X.icmp_le (tgt := 61) dX3_beats_54 (by decide) (fun c54 => ?_) (fun c54 => ?_)
        · have hf := if_t c54 hf
          refine X.iconst (v := 0) dX3_beats_61 (by decide) ?_
          obtain rfl := Option.some.inj hf
          exact X.iret dX3_beats_62 rfl rfl rfl
        · have hf := if_f c54 hf
          refine X.iconst (v := 1) dX3_beats_57 (by decide) ?_
          refine X.goto (tgt := 62) dX3_beats_58 (by decide) ?_
          obtain rfl := Option.some.inj hf
          exact X.iret dX3_beats_62 rfl rfl rfl
    · have hf := if_t c22 hf
      refine X.iconst (v := 0) dX3_beats_25 (by decide) ?_
      obtain rfl := Option.some.inj hf
      exact X.iret dX3_beats_26 rfl rfl rfl
theorem cX3_97 : xCV RX3 97 mX3_beats 2 := ⟨lw_V q598 q600 qs10 q126 q601, rfl, ⟨by decide +kernel, by decide +kernel, by decide +kernel⟩, Nat.le_of_ble_eq_true rfl⟩
