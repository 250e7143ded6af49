set_option maxRecDepth 100000
/-! MouldVotes$Growth frost -/
abbrev cX3_frost : ByteArray := prog_4_method_14_code
def yX3_frost : MethodName := ⟨RX3, "frost", "()V"⟩
def dkwX3_frost_1 : List UInt8 := [108, 79, 42, 180, 0, 25, 27, 46, 154, 0, 8, 42, 27, 182, 0, 90, 132, 1, 1, 167, 255, 215, 177]
abbrev dktX3_frost_1 : List UInt8 := dkwX3_frost_1 ++ []
def dkwX3_frost_0 : List UInt8 := [3, 60, 27, 42, 180, 0, 3, 180, 0, 39, 182, 0, 43, 162, 0, 33, 42, 180, 0, 25, 27, 92, 46, 5]
abbrev dktX3_frost_0 : List UInt8 := dkwX3_frost_0 ++ dktX3_frost_1
theorem dksX3_frost_0 : cX3_frost.data.toList.drop 0 = dktX3_frost_0 := by decide +kernel
theorem dksX3_frost_1 : cX3_frost.data.toList.drop 24 = dktX3_frost_1 := dk_seg dksX3_frost_0 24 rfl rfl
theorem dX3_frost_0 : decode cX3_frost 0 = .ok (.iconst 0, 1) := dk_3 (dk_at dksX3_frost_0 0 rfl rfl)
theorem dX3_frost_1 : decode cX3_frost 1 = .ok (.istore_n 1, 1) := dk_60 (dk_at dksX3_frost_0 1 rfl rfl)
theorem dX3_frost_2 : decode cX3_frost 2 = .ok (.iload_n 1, 1) := dk_27 (dk_at dksX3_frost_0 2 rfl rfl)
theorem dX3_frost_3 : decode cX3_frost 3 = .ok (.aload_n 0, 1) := dk_42 (dk_at dksX3_frost_0 3 rfl rfl)
theorem dX3_frost_4 : decode cX3_frost 4 = .ok (.getfield 3, 3) := dk_180 0 3 (dk_at dksX3_frost_0 4 rfl rfl)
theorem dX3_frost_7 : decode cX3_frost 7 = .ok (.getfield 39, 3) := dk_180 0 39 (dk_at dksX3_frost_0 7 rfl rfl)
theorem dX3_frost_10 : decode cX3_frost 10 = .ok (.invokevirtual 43, 3) := dk_182 0 43 (dk_at dksX3_frost_0 10 rfl rfl)
theorem dX3_frost_13 : decode cX3_frost 13 = .ok (.if_icmp .ge 33, 3) := dk_162 0 33 (dk_at dksX3_frost_0 13 rfl rfl)
theorem dX3_frost_16 : decode cX3_frost 16 = .ok (.aload_n 0, 1) := dk_42 (dk_at dksX3_frost_0 16 rfl rfl)
theorem dX3_frost_17 : decode cX3_frost 17 = .ok (.getfield 25, 3) := dk_180 0 25 (dk_at dksX3_frost_0 17 rfl rfl)
theorem dX3_frost_20 : decode cX3_frost 20 = .ok (.iload_n 1, 1) := dk_27 (dk_at dksX3_frost_0 20 rfl rfl)
theorem dX3_frost_21 : decode cX3_frost 21 = .ok (.dup2, 1) := dk_92 (dk_at dksX3_frost_0 21 rfl rfl)
theorem dX3_frost_22 : decode cX3_frost 22 = .ok (.iaload, 1) := dk_46 (dk_at dksX3_frost_0 22 rfl rfl)
theorem dX3_frost_23 : decode cX3_frost 23 = .ok (.iconst 2, 1) := dk_5 (dk_at dksX3_frost_0 23 rfl rfl)
theorem dX3_frost_24 : decode cX3_frost 24 = .ok (.idiv, 1) := dk_108 (dk_at dksX3_frost_1 0 rfl rfl)
theorem dX3_frost_25 : decode cX3_frost 25 = .ok (.iastore, 1) := dk_79 (dk_at dksX3_frost_1 1 rfl rfl)
theorem dX3_frost_26 : decode cX3_frost 26 = .ok (.aload_n 0, 1) := dk_42 (dk_at dksX3_frost_1 2 rfl rfl)
theorem dX3_frost_27 : decode cX3_frost 27 = .ok (.getfield 25, 3) := dk_180 0 25 (dk_at dksX3_frost_1 3 rfl rfl)
theorem dX3_frost_30 : decode cX3_frost 30 = .ok (.iload_n 1, 1) := dk_27 (dk_at dksX3_frost_1 6 rfl rfl)
theorem dX3_frost_31 : decode cX3_frost 31 = .ok (.iaload, 1) := dk_46 (dk_at dksX3_frost_1 7 rfl rfl)
theorem dX3_frost_32 : decode cX3_frost 32 = .ok (.ifCond .ne 8, 3) := dk_154 0 8 (dk_at dksX3_frost_1 8 rfl rfl)
theorem dX3_frost_35 : decode cX3_frost 35 = .ok (.aload_n 0, 1) := dk_42 (dk_at dksX3_frost_1 11 rfl rfl)
theorem dX3_frost_36 : decode cX3_frost 36 = .ok (.iload_n 1, 1) := dk_27 (dk_at dksX3_frost_1 12 rfl rfl)
theorem dX3_frost_37 : decode cX3_frost 37 = .ok (.invokevirtual 90, 3) := dk_182 0 90 (dk_at dksX3_frost_1 13 rfl rfl)
theorem dX3_frost_40 : decode cX3_frost 40 = .ok (.iinc 1 1, 3) := dk_132 1 1 (dk_at dksX3_frost_1 16 rfl rfl)
theorem dX3_frost_43 : decode cX3_frost 43 = .ok (.goto (-41), 3) := dk_167 255 215 (dk_at dksX3_frost_1 19 rfl rfl)
theorem dX3_frost_46 : decode cX3_frost 46 = .ok (.return_, 1) := dk_177 (dk_at dksX3_frost_1 22 rfl rfl)
abbrev mX3_frost : xM := (yX3_frost, cX3_frost, 2, none, [])
def c_X3_frost_40 (k2 : Option Nat → Int32 → xF → Option (Unit × xF)) (x0 : Option Nat) (x1 : Int32) (T : xF) : Option (Unit × xF) :=
  k2 x0 (x1 + 1) T
theorem c_X3_frost_40_ok {G : xG}  {T0 : xF} {k2 : Option Nat → Int32 → xF → Option (Unit × xF)} (hk2 : ∀ (x0 : Option Nat) (x1 : Int32) (T : xF) (q : (Unit × xF)), k2 x0 x1 T = some q → Xr G (mX3_frost, xrm (2) T0 q.2, T0, .inl none, q.2) 2 [(0, va_rf x0), (1, .int x1)] [] T) (x0 : Option Nat) (x1 : Int32) (T : xF) (q : (Unit × xF)) (hf : c_X3_frost_40 k2 x0 x1 T = some q) : Xr G (mX3_frost, xrm (2) T0 q.2, T0, .inl none, q.2) 40 [(0, va_rf x0), (1, .int x1)] [] T := by
  unfold c_X3_frost_40 at hf
  refine C.iinc (v := (x1 + 1)) (L' := [(1, .int (x1 + 1)), (0, va_rf x0)]) dX3_frost_40 1 rfl rfl (Nat.le_of_ble_eq_true rfl) (xcQ (xcI xcN)) rfl ?_
  refine X.goto (tgt := 2) dX3_frost_43 (by decide) ?_
  refine X.sub [1, 0] (L' := [(0, va_rf x0), (1, .int (x1 + 1))]) rfl ?_
  exact hk2 _ _ _ _ hf
def c_X3_frost_2_b (k2 : Option Nat → Int32 → xF → Option (Unit × xF)) (x0 : Option Nat) (x1 : Int32) (T : xF) : Option (Unit × xF) :=
  (oQ T x0 2 5).bind fun v4 =>
  (oQ T v4 0 1).bind fun v7 =>
  if ¬ isO T v7 1 = true then none else
  (c_X2_cells T v7).bind fun v10 =>
  if v10 ≤ x1 then
    some ((), T)
  else
    (oQ T x0 2 3).bind fun v17 =>
    (ldA T v17 .int x1).bind fun v22 =>
    if (2 : Int32) = 0 then none else
    (stA T v17 .int x1 (v22 / (2 : Int32))).bind fun T25 =>
    (oQ T25 x0 2 3).bind fun v27 =>
    (ldA T25 v27 .int x1).bind fun v31 =>
    if v31 = 0 then
      if ¬ isO T25 x0 2 = true then none else
      cl (c_X3_clear x0 x1 T25) T25 fun v37 T37 =>
      c_X3_frost_40 k2 x0 x1 T37
    else
      c_X3_frost_40 k2 x0 x1 T25
def c_X3_frost_2 : Nat → Option Nat → Int32 → xF → Option (Unit × xF)
  | 0 => fun _ _ _ => none
  | n + 1 => fun x0 x1 T => c_X3_frost_2_b (c_X3_frost_2 n) x0 x1 T
theorem c_X3_frost_2_bok {G : xG}  {T0 : xF}  {k2 : Option Nat → Int32 → xF → Option (Unit × xF)}  (hk2 : ∀ (x0 : Option Nat) (x1 : Int32) (T : xF) (q : (Unit × xF)), k2 x0 x1 T = some q → Xr G (mX3_frost, xrm (2) T0 q.2, T0, .inl none, q.2) 2 [(0, va_rf x0), (1, .int x1)] [] T) (x0 : Option Nat) (x1 : Int32) (T : xF) (q : (Unit × xF)) (hf : c_X3_frost_2_b k2 x0 x1 T = some q) : Xr G (mX3_frost, xrm (2) T0 q.2, T0, .inl none, q.2) 2 [(0, va_rf x0), (1, .int x1)] [] T := by
  unfold c_X3_frost_2_b at hf
  refine X.iload_n dX3_frost_2 rfl 1 rfl ?_
  refine C.aload_n dX3_frost_3 rfl 0 rfl ?_
  obtain ⟨v4, h4, hf⟩ := ob hf
  refine C.getQ dX3_frost_4 rX3_3 h4 ?_
  obtain ⟨v7, h7, hf⟩ := ob hf
  refine C.getQ dX3_frost_7 rX3_39 h7 ?_
  obtain ⟨c10, hf⟩ := if_n hf
  obtain ⟨v10, h10, hf⟩ := ob hf
  refine X.keep fun l10 => C.Vi (As := []) (rest := [.int x1]) dX3_frost_10 (w_X2_cells h10) cX3_43 (Classical.not_not.mp c10) rfl rfl (xcs (xvI xvN) (Nat.le_of_ble_eq_true rfl)) rfl rfl (xD (Nat.le_of_ble_eq_true rfl)) xle.rf l10 ?_
  refine X.icmp_ge (tgt := 46) dX3_frost_13 (by decide) (fun c13 => ?_) (fun c13 => ?_)
  · have hf := if_t c13 hf
    obtain rfl := Option.some.inj hf
    exact X.vret dX3_frost_46 rfl rfl
  · have hf := if_f c13 hf
    refine C.aload_n dX3_frost_16 rfl 0 rfl ?_
    obtain ⟨v17, h17, hf⟩ := ob hf
    refine C.getQ dX3_frost_17 rX3_25 h17 ?_
    refine X.iload_n dX3_frost_20 rfl 1 rfl ?_
    refine X.dup2_11 dX3_frost_21 rfl (cat1 _) ?_
    obtain ⟨v22, h22, hf⟩ := ob hf
    refine C.iald dX3_frost_22 h22 ?_
    refine X.iconst (v := 2) dX3_frost_23 (by decide) ?_
    obtain ⟨c24, hf⟩ := if_n hf
    refine X.idiv dX3_frost_24 c24 ?_
    obtain ⟨T25, h25, hf⟩ := ob hf
    refine C.iast dX3_frost_25 h25 ?_
    refine C.aload_n dX3_frost_26 rfl 0 rfl ?_
    obtain ⟨v27, h27, hf⟩ := ob hf
    refine C.getQ dX3_frost_27 rX3_25 h27 ?_
    refine X.iload_n dX3_frost_30 rfl 1 rfl ?_
    obtain ⟨v31, h31, hf⟩ := ob hf
    refine C.iald dX3_frost_31 h31 ?_
    refine X.if_ne (tgt := 40) dX3_frost_32 (by decide) (fun c32 => ?_) (fun c32 => ?_)
    · have hf := if_f c32 hf
      refine X.sub [0, 1] (L' := [(0, va_rf x0), (1, .int x1)]) rfl ?_
      exact c_X3_frost_40_ok hk2 _ _ _ _ hf
    · have hf := if_t c32 hf
      refine C.aload_n dX3_frost_35 rfl 0 rfl ?_
      refine X.iload_n dX3_frost_36 rfl 1 rfl ?_
      obtain ⟨c37, hf⟩ := if_n hf
      obtain ⟨v37, T37, h37, hf, l37, r37⟩ := cl_ok hf
      refine C.Vv (As := [.int x1]) (rest := []) dX3_frost_37 (w_X3_clear h37) cX3_90 (Classical.not_not.mp c37) rfl rfl (xcs xvN (Nat.le_of_ble_eq_true rfl)) rfl rfl (xD (Nat.le_of_ble_eq_true rfl)) l37 r37 ?_
      refine X.sub [0, 1] (L' := [(0, va_rf x0), (1, .int x1)]) rfl ?_
      exact c_X3_frost_40_ok hk2 _ _ _ _ hf
theorem c_X3_frost_2_ok {G : xG}  {T0 : xF}   : ∀ (n : Nat) (x0 : Option Nat) (x1 : Int32) (T : xF) (q : (Unit × xF)), c_X3_frost_2 n x0 x1 T = some q → Xr G (mX3_frost, xrm (2) T0 q.2, T0, .inl none, q.2) 2 [(0, va_rf x0), (1, .int x1)] [] T
  | 0, _, _, _, _, hf => by cases hf
  | n + 1, x0, x1, T, q, hf => c_X3_frost_2_bok (c_X3_frost_2_ok n) x0 x1 T q hf
def c_X3_frost (x0 : Option Nat) (T : xF) : Option (Unit × xF) :=
  c_X3_frost_2 FU x0 (0 : Int32) T
theorem w_X3_frost {G : xG}  {T : xF} {x0 : Option Nat} {q : (Unit × xF)} (hf : c_X3_frost x0 T = some q) : Ct G mX3_frost (2) T [va_rf x0] (.inl none) q.2 := by
  refine Ct.ofc (plainFor_of_name (by decide +kernel)) rfl (xvQ xvN) (Nat.le_of_ble_eq_true rfl) (show Xr G _ 0 [(0, va_rf x0)] [] _ from ?_)
  unfold c_X3_frost at hf
  refine X.iconst (v := 0) dX3_frost_0 (by decide) ?_
  refine C.ist_n (L' := [(1, .int (0 : Int32)), (0, va_rf x0)]) dX3_frost_1 rfl (Nat.le_of_ble_eq_true rfl) (xcQ xcN) rfl ?_
  refine X.sub [1, 0] (L' := [(0, va_rf x0), (1, .int (0 : Int32))]) rfl ?_
  exact c_X3_frost_2_ok FU _ _ _ _ hf
theorem cX1_223 : xCV RX1 223 mX3_frost 0 := ⟨lw_V q1409 q1410 q1411 q126 q1412, rfl, ⟨by decide +kernel, by decide +kernel, by decide +kernel⟩, Nat.le_of_ble_eq_true rfl⟩
/-! MouldVotes frosts -/
abbrev cX1_frosts : ByteArray := prog_1_method_48_code
def yX1_frosts : MethodName := ⟨RX1, "frosts", "(III)I"⟩
def dkwX1_frosts_6 : List UInt8 := [132, 5, 1, 167, 255, 149, 21, 4, 172]
abbrev dktX1_frosts_6 : List UInt8 := dkwX1_frosts_6 ++ []
def dkwX1_frosts_5 : List UInt8 := [132, 7, 1, 167, 255, 199, 42, 180, 0, 35, 182, 0, 131, 27, 160, 0, 10, 21, 4, 21, 6, 96, 54, 4]
abbrev dktX1_frosts_5 : List UInt8 := dkwX1_frosts_5 ++ dktX1_frosts_6
def dkwX1_frosts_4 : List UInt8 := [153, 0, 7, 29, 167, 0, 7, 16, 10, 29, 100, 104, 54, 6, 42, 180, 0, 35, 182, 0, 220, 87]
abbrev dktX1_frosts_4 : List UInt8 := dkwX1_frosts_4 ++ dktX1_frosts_5
def dkwX1_frosts_3 : List UInt8 := [21, 7, 184, 0, 241, 153, 0, 10, 42, 180, 0, 35, 182, 0, 223, 21, 6, 21, 5, 21, 7, 184, 0, 241]
abbrev dktX1_frosts_3 : List UInt8 := dkwX1_frosts_3 ++ dktX1_frosts_4
def dkwX1_frosts_2 : List UInt8 := [42, 180, 0, 35, 42, 180, 0, 38, 182, 0, 213, 87, 3, 54, 7, 21, 7, 28, 162, 0, 57, 21, 5]
abbrev dktX1_frosts_2 : List UInt8 := dkwX1_frosts_2 ++ dktX1_frosts_3
def dkwX1_frosts_1 : List UInt8 := [167, 0, 4, 3, 184, 0, 65, 3, 54, 4, 3, 54, 5, 21, 5, 4, 28, 120, 162, 0, 105, 4, 54, 6]
abbrev dktX1_frosts_1 : List UInt8 := dkwX1_frosts_1 ++ dktX1_frosts_2
def dkwX1_frosts_0 : List UInt8 := [27, 184, 0, 176, 28, 4, 8, 184, 0, 134, 153, 0, 17, 29, 3, 16, 10, 184, 0, 134, 153, 0, 7, 4]
abbrev dktX1_frosts_0 : List UInt8 := dkwX1_frosts_0 ++ dktX1_frosts_1
theorem dksX1_frosts_0 : cX1_frosts.data.toList.drop 0 = dktX1_frosts_0 := by decide +kernel
theorem dksX1_frosts_1 : cX1_frosts.data.toList.drop 24 = dktX1_frosts_1 := dk_seg dksX1_frosts_0 24 rfl rfl
theorem dksX1_frosts_2 : cX1_frosts.data.toList.drop 48 = dktX1_frosts_2 := dk_seg dksX1_frosts_1 24 rfl rfl
theorem dksX1_frosts_3 : cX1_frosts.data.toList.drop 71 = dktX1_frosts_3 := dk_seg dksX1_frosts_2 23 rfl rfl
theorem dksX1_frosts_4 : cX1_frosts.data.toList.drop 95 = dktX1_frosts_4 := dk_seg dksX1_frosts_3 24 rfl rfl
theorem dksX1_frosts_5 : cX1_frosts.data.toList.drop 117 = dktX1_frosts_5 := dk_seg dksX1_frosts_4 22 rfl rfl
theorem dksX1_frosts_6 : cX1_frosts.data.toList.drop 141 = dktX1_frosts_6 := dk_seg dksX1_frosts_5 24 rfl rfl
theorem dX1_frosts_0 : decode cX1_frosts 0 = .ok (.iload_n 1, 1) := dk_27 (dk_at dksX1_frosts_0 0 rfl rfl)
theorem dX1_frosts_1 : decode cX1_frosts 1 = .ok (.invokestatic 176, 3) := dk_184 0 176 (dk_at dksX1_frosts_0 1 rfl rfl)
theorem dX1_frosts_4 : decode cX1_frosts 4 = .ok (.iload_n 2, 1) := dk_28 (dk_at dksX1_frosts_0 4 rfl rfl)
theorem dX1_frosts_5 : decode cX1_frosts 5 = .ok (.iconst 1, 1) := dk_4 (dk_at dksX1_frosts_0 5 rfl rfl)
theorem dX1_frosts_6 : decode cX1_frosts 6 = .ok (.iconst 5, 1) := dk_8 (dk_at dksX1_frosts_0 6 rfl rfl)
theorem dX1_frosts_7 : decode cX1_frosts 7 = .ok (.invokestatic 134, 3) := dk_184 0 134 (dk_at dksX1_frosts_0 7 rfl rfl)
theorem dX1_frosts_10 : decode cX1_frosts 10 = .ok (.ifCond .eq 17, 3) := dk_153 0 17 (dk_at dksX1_frosts_0 10 rfl rfl)
theorem dX1_frosts_13 : decode cX1_frosts 13 = .ok (.iload_n 3, 1) := dk_29 (dk_at dksX1_frosts_0 13 rfl rfl)
theorem dX1_frosts_14 : decode cX1_frosts 14 = .ok (.iconst 0, 1) := dk_3 (dk_at dksX1_frosts_0 14 rfl rfl)
theorem dX1_frosts_15 : decode cX1_frosts 15 = .ok (.bipush 10, 2) := dk_16 10 (dk_at dksX1_frosts_0 15 rfl rfl)
theorem dX1_frosts_17 : decode cX1_frosts 17 = .ok (.invokestatic 134, 3) := dk_184 0 134 (dk_at dksX1_frosts_0 17 rfl rfl)
theorem dX1_frosts_20 : decode cX1_frosts 20 = .ok (.ifCond .eq 7, 3) := dk_153 0 7 (dk_at dksX1_frosts_0 20 rfl rfl)
theorem dX1_frosts_23 : decode cX1_frosts 23 = .ok (.iconst 1, 1) := dk_4 (dk_at dksX1_frosts_0 23 rfl rfl)
theorem dX1_frosts_24 : decode cX1_frosts 24 = .ok (.goto 4, 3) := dk_167 0 4 (dk_at dksX1_frosts_1 0 rfl rfl)
theorem dX1_frosts_27 : decode cX1_frosts 27 = .ok (.iconst 0, 1) := dk_3 (dk_at dksX1_frosts_1 3 rfl rfl)
theorem dX1_frosts_28 : decode cX1_frosts 28 = .ok (.invokestatic 65, 3) := dk_184 0 65 (dk_at dksX1_frosts_1 4 rfl rfl)
theorem dX1_frosts_31 : decode cX1_frosts 31 = .ok (.iconst 0, 1) := dk_3 (dk_at dksX1_frosts_1 7 rfl rfl)
theorem dX1_frosts_32 : decode cX1_frosts 32 = .ok (.istore 4, 2) := dk_54 4 (dk_at dksX1_frosts_1 8 rfl rfl)
theorem dX1_frosts_34 : decode cX1_frosts 34 = .ok (.iconst 0, 1) := dk_3 (dk_at dksX1_frosts_1 10 rfl rfl)
theorem dX1_frosts_35 : decode cX1_frosts 35 = .ok (.istore 5, 2) := dk_54 5 (dk_at dksX1_frosts_1 11 rfl rfl)
theorem dX1_frosts_37 : decode cX1_frosts 37 = .ok (.iload 5, 2) := dk_21 5 (dk_at dksX1_frosts_1 13 rfl rfl)
theorem dX1_frosts_39 : decode cX1_frosts 39 = .ok (.iconst 1, 1) := dk_4 (dk_at dksX1_frosts_1 15 rfl rfl)
theorem dX1_frosts_40 : decode cX1_frosts 40 = .ok (.iload_n 2, 1) := dk_28 (dk_at dksX1_frosts_1 16 rfl rfl)
theorem dX1_frosts_41 : decode cX1_frosts 41 = .ok (.ishl, 1) := dk_120 (dk_at dksX1_frosts_1 17 rfl rfl)
theorem dX1_frosts_42 : decode cX1_frosts 42 = .ok (.if_icmp .ge 105, 3) := dk_162 0 105 (dk_at dksX1_frosts_1 18 rfl rfl)
theorem dX1_frosts_45 : decode cX1_frosts 45 = .ok (.iconst 1, 1) := dk_4 (dk_at dksX1_frosts_1 21 rfl rfl)
theorem dX1_frosts_46 : decode cX1_frosts 46 = .ok (.istore 6, 2) := dk_54 6 (dk_at dksX1_frosts_1 22 rfl rfl)
theorem dX1_frosts_48 : decode cX1_frosts 48 = .ok (.aload_n 0, 1) := dk_42 (dk_at dksX1_frosts_2 0 rfl rfl)
theorem dX1_frosts_49 : decode cX1_frosts 49 = .ok (.getfield 35, 3) := dk_180 0 35 (dk_at dksX1_frosts_2 1 rfl rfl)
theorem dX1_frosts_52 : decode cX1_frosts 52 = .ok (.aload_n 0, 1) := dk_42 (dk_at dksX1_frosts_2 4 rfl rfl)
theorem dX1_frosts_53 : decode cX1_frosts 53 = .ok (.getfield 38, 3) := dk_180 0 38 (dk_at dksX1_frosts_2 5 rfl rfl)
theorem dX1_frosts_56 : decode cX1_frosts 56 = .ok (.invokevirtual 213, 3) := dk_182 0 213 (dk_at dksX1_frosts_2 8 rfl rfl)
theorem dX1_frosts_59 : decode cX1_frosts 59 = .ok (.pop, 1) := dk_87 (dk_at dksX1_frosts_2 11 rfl rfl)
theorem dX1_frosts_60 : decode cX1_frosts 60 = .ok (.iconst 0, 1) := dk_3 (dk_at dksX1_frosts_2 12 rfl rfl)
theorem dX1_frosts_61 : decode cX1_frosts 61 = .ok (.istore 7, 2) := dk_54 7 (dk_at dksX1_frosts_2 13 rfl rfl)
theorem dX1_frosts_63 : decode cX1_frosts 63 = .ok (.iload 7, 2) := dk_21 7 (dk_at dksX1_frosts_2 15 rfl rfl)
theorem dX1_frosts_65 : decode cX1_frosts 65 = .ok (.iload_n 2, 1) := dk_28 (dk_at dksX1_frosts_2 17 rfl rfl)
theorem dX1_frosts_66 : decode cX1_frosts 66 = .ok (.if_icmp .ge 57, 3) := dk_162 0 57 (dk_at dksX1_frosts_2 18 rfl rfl)
theorem dX1_frosts_69 : decode cX1_frosts 69 = .ok (.iload 5, 2) := dk_21 5 (dk_at dksX1_frosts_2 21 rfl rfl)
theorem dX1_frosts_71 : decode cX1_frosts 71 = .ok (.iload 7, 2) := dk_21 7 (dk_at dksX1_frosts_3 0 rfl rfl)
theorem dX1_frosts_73 : decode cX1_frosts 73 = .ok (.invokestatic 241, 3) := dk_184 0 241 (dk_at dksX1_frosts_3 2 rfl rfl)
theorem dX1_frosts_76 : decode cX1_frosts 76 = .ok (.ifCond .eq 10, 3) := dk_153 0 10 (dk_at dksX1_frosts_3 5 rfl rfl)
theorem dX1_frosts_79 : decode cX1_frosts 79 = .ok (.aload_n 0, 1) := dk_42 (dk_at dksX1_frosts_3 8 rfl rfl)
theorem dX1_frosts_80 : decode cX1_frosts 80 = .ok (.getfield 35, 3) := dk_180 0 35 (dk_at dksX1_frosts_3 9 rfl rfl)
theorem dX1_frosts_83 : decode cX1_frosts 83 = .ok (.invokevirtual 223, 3) := dk_182 0 223 (dk_at dksX1_frosts_3 12 rfl rfl)
theorem dX1_frosts_86 : decode cX1_frosts 86 = .ok (.iload 6, 2) := dk_21 6 (dk_at dksX1_frosts_3 15 rfl rfl)
theorem dX1_frosts_88 : decode cX1_frosts 88 = .ok (.iload 5, 2) := dk_21 5 (dk_at dksX1_frosts_3 17 rfl rfl)
theorem dX1_frosts_90 : decode cX1_frosts 90 = .ok (.iload 7, 2) := dk_21 7 (dk_at dksX1_frosts_3 19 rfl rfl)
theorem dX1_frosts_92 : decode cX1_frosts 92 = .ok (.invokestatic 241, 3) := dk_184 0 241 (dk_at dksX1_frosts_3 21 rfl rfl)
theorem dX1_frosts_95 : decode cX1_frosts 95 = .ok (.ifCond .eq 7, 3) := dk_153 0 7 (dk_at dksX1_frosts_4 0 rfl rfl)
theorem dX1_frosts_98 : decode cX1_frosts 98 = .ok (.iload_n 3, 1) := dk_29 (dk_at dksX1_frosts_4 3 rfl rfl)
theorem dX1_frosts_99 : decode cX1_frosts 99 = .ok (.goto 7, 3) := dk_167 0 7 (dk_at dksX1_frosts_4 4 rfl rfl)
theorem dX1_frosts_102 : decode cX1_frosts 102 = .ok (.bipush 10, 2) := dk_16 10 (dk_at dksX1_frosts_4 7 rfl rfl)
theorem dX1_frosts_104 : decode cX1_frosts 104 = .ok (.iload_n 3, 1) := dk_29 (dk_at dksX1_frosts_4 9 rfl rfl)
theorem dX1_frosts_105 : decode cX1_frosts 105 = .ok (.isub, 1) := dk_100 (dk_at dksX1_frosts_4 10 rfl rfl)
theorem dX1_frosts_106 : decode cX1_frosts 106 = .ok (.imul, 1) := dk_104 (dk_at dksX1_frosts_4 11 rfl rfl)
theorem dX1_frosts_107 : decode cX1_frosts 107 = .ok (.istore 6, 2) := dk_54 6 (dk_at dksX1_frosts_4 12 rfl rfl)
theorem dX1_frosts_109 : decode cX1_frosts 109 = .ok (.aload_n 0, 1) := dk_42 (dk_at dksX1_frosts_4 14 rfl rfl)
theorem dX1_frosts_110 : decode cX1_frosts 110 = .ok (.getfield 35, 3) := dk_180 0 35 (dk_at dksX1_frosts_4 15 rfl rfl)
theorem dX1_frosts_113 : decode cX1_frosts 113 = .ok (.invokevirtual 220, 3) := dk_182 0 220 (dk_at dksX1_frosts_4 18 rfl rfl)
theorem dX1_frosts_116 : decode cX1_frosts 116 = .ok (.pop, 1) := dk_87 (dk_at dksX1_frosts_4 21 rfl rfl)
theorem dX1_frosts_117 : decode cX1_frosts 117 = .ok (.iinc 7 1, 3) := dk_132 7 1 (dk_at dksX1_frosts_5 0 rfl rfl)
theorem dX1_frosts_120 : decode cX1_frosts 120 = .ok (.goto (-57), 3) := dk_167 255 199 (dk_at dksX1_frosts_5 3 rfl rfl)
theorem dX1_frosts_123 : decode cX1_frosts 123 = .ok (.aload_n 0, 1) := dk_42 (dk_at dksX1_frosts_5 6 rfl rfl)
theorem dX1_frosts_124 : decode cX1_frosts 124 = .ok (.getfield 35, 3) := dk_180 0 35 (dk_at dksX1_frosts_5 7 rfl rfl)
theorem dX1_frosts_127 : decode cX1_frosts 127 = .ok (.invokevirtual 131, 3) := dk_182 0 131 (dk_at dksX1_frosts_5 10 rfl rfl)
theorem dX1_frosts_130 : decode cX1_frosts 130 = .ok (.iload_n 1, 1) := dk_27 (dk_at dksX1_frosts_5 13 rfl rfl)
theorem dX1_frosts_131 : decode cX1_frosts 131 = .ok (.if_icmp .ne 10, 3) := dk_160 0 10 (dk_at dksX1_frosts_5 14 rfl rfl)
theorem dX1_frosts_134 : decode cX1_frosts 134 = .ok (.iload 4, 2) := dk_21 4 (dk_at dksX1_frosts_5 17 rfl rfl)
theorem dX1_frosts_136 : decode cX1_frosts 136 = .ok (.iload 6, 2) := dk_21 6 (dk_at dksX1_frosts_5 19 rfl rfl)
theorem dX1_frosts_138 : decode cX1_frosts 138 = .ok (.iadd, 1) := dk_96 (dk_at dksX1_frosts_5 21 rfl rfl)
theorem dX1_frosts_139 : decode cX1_frosts 139 = .ok (.istore 4, 2) := dk_54 4 (dk_at dksX1_frosts_5 22 rfl rfl)
theorem dX1_frosts_141 : decode cX1_frosts 141 = .ok (.iinc 5 1, 3) := dk_132 5 1 (dk_at dksX1_frosts_6 0 rfl rfl)
theorem dX1_frosts_144 : decode cX1_frosts 144 = .ok (.goto (-107), 3) := dk_167 255 149 (dk_at dksX1_frosts_6 3 rfl rfl)
theorem dX1_frosts_147 : decode cX1_frosts 147 = .ok (.iload 4, 2) := dk_21 4 (dk_at dksX1_frosts_6 6 rfl rfl)
theorem dX1_frosts_149 : decode cX1_frosts 149 = .ok (.ireturn, 1) := dk_172 (dk_at dksX1_frosts_6 8 rfl rfl)
abbrev mX1_frosts : xM := (yX1_frosts, cX1_frosts, 8, (some .int), [])
def c_X1_frosts_106 (G : xG) (k37 : Option Nat → Int32 → Int32 → Int32 → Int32 → Int32 → xF → Option ((Int32 ⊕ xE) × xF)) (k63 : Option Nat → Int32 → Int32 → Int32 → Int32 → Int32 → Int32 → Int32 → xF → Option ((Int32 ⊕ xE) × xF)) (x0 : Option Nat) (x1 : Int32) (x2 : Int32) (x3 : Int32) (x4 : Int32) (x5 : Int32) (x7 : Int32) (y0 : Int32) (y1 : Int32) (T : xF) : Option ((Int32 ⊕ xE) × xF) :=
  (oQ T x0 0 3).bind fun v110 =>
  if ¬ isO T v110 2 = true then none else
  cl (c_X3_pass G v110 T) T fun v113 T113 =>
  k63 x0 x1 x2 x3 x4 x5 (y1 * y0) (x7 + 1) T113
theorem c_X1_frosts_106_ok {G : xG}  {T0 : xF} {k37 : Option Nat → Int32 → Int32 → Int32 → Int32 → Int32 → xF → Option ((Int32 ⊕ xE) × xF)} {k63 : Option Nat → Int32 → Int32 → Int32 → Int32 → Int32 → Int32 → Int32 → xF → Option ((Int32 ⊕ xE) × xF)} (hk37 : ∀ (x0 : Option Nat) (x1 : Int32) (x2 : Int32) (x3 : Int32) (x4 : Int32) (x5 : Int32) (T : xF) (q : ((Int32 ⊕ xE) × xF)), k37 x0 x1 x2 x3 x4 x5 T = some q → Xr G (mX1_frosts, xrm (125) T0 q.2, T0, xoI q.1, q.2) 37 [(0, va_rf x0), (1, .int x1), (2, .int x2), (3, .int x3), (4, .int x4), (5, .int x5)] [] T) (hk63 : ∀ (x0 : Option Nat) (x1 : Int32) (x2 : Int32) (x3 : Int32) (x4 : Int32) (x5 : Int32) (x6 : Int32) (x7 : Int32) (T : xF) (q : ((Int32 ⊕ xE) × xF)), k63 x0 x1 x2 x3 x4 x5 x6 x7 T = some q → Xr G (mX1_frosts, xrm (125) T0 q.2, T0, xoI q.1, q.2) 63 [(0, va_rf x0), (1, .int x1), (2, .int x2), (3, .int x3), (4, .int x4), (5, .int x5), (6, .int x6), (7, .int x7)] [] T) (x0 : Option Nat) (x1 : Int32) (x2 : Int32) (x3 : Int32) (x4 : Int32) (x5 : Int32) (x7 : Int32) (y0 : Int32) (y1 : Int32) (T : xF) (q : ((Int32 ⊕ xE) × xF)) (hf : c_X1_frosts_106 G k37 k63 x0 x1 x2 x3 x4 x5 x7 y0 y1 T = some q) : Xr G (mX1_frosts, xrm (125) T0 q.2, T0, xoI q.1, q.2) 106 [(0, va_rf x0), (1, .int x1), (2, .int x2), (3, .int x3), (4, .int x4), (5, .int x5), (7, .int x7)] [.int y0, .int y1] T := by
  unfold c_X1_frosts_106 at hf
  refine X.imul dX1_frosts_106 ?_
  refine C.ist (L' := [(6, .int (y1 * y0)), (0, va_rf x0), (1, .int x1), (2, .int x2), (3, .int x3), (4, .int x4), (5, .int x5), (7, .int x7)]) dX1_frosts_107 (Nat.le_of_ble_eq_true rfl) (xcQ (xcI (xcI (xcI (xcI (xcI (xcI xcN))))))) rfl ?_
  refine C.aload_n dX1_frosts_109 rfl 1 rfl ?_
  obtain ⟨v110, h110, hf⟩ := ob hf
  refine C.getQ dX1_frosts_110 rX1_35 h110 ?_
  obtain ⟨c113, hf⟩ := if_n hf
  obtain ⟨v113, T113, h113, hf, l113, r113⟩ := cl_ok hf
  refine C.Vq (As := []) (rest := []) dX1_frosts_113 (w_X3_pass h113) cX1_220 (Classical.not_not.mp c113) rfl rfl (xcs xvN (Nat.le_of_ble_eq_true rfl)) rfl rfl (xD (Nat.le_of_ble_eq_true rfl)) l113 r113 ?_
  refine X.pop dX1_frosts_116 (cat1 _) ?_
  refine C.iinc (v := (x7 + 1)) (L' := [(7, .int (x7 + 1)), (6, .int (y1 * y0)), (0, va_rf x0), (1, .int x1), (2, .int x2), (3, .int x3), (4, .int x4), (5, .int x5)]) dX1_frosts_117 7 rfl rfl (Nat.le_of_ble_eq_true rfl) (xcI (xcQ (xcI (xcI (xcI (xcI (xcI (xcI xcN)))))))) rfl ?_
  refine X.goto (tgt := 63) dX1_frosts_120 (by decide) ?_
  refine X.sub [2, 3, 4, 5, 6, 7, 1, 0] (L' := [(0, va_rf x0), (1, .int x1), (2, .int x2), (3, .int x3), (4, .int x4), (5, .int x5), (6, .int (y1 * y0)), (7, .int (x7 + 1))]) rfl ?_
  exact hk63 _ _ _ _ _ _ _ _ _ _ hf
def c_X1_frosts_86 (G : xG) (k37 : Option Nat → Int32 → Int32 → Int32 → Int32 → Int32 → xF → Option ((Int32 ⊕ xE) × xF)) (k63 : Option Nat → Int32 → Int32 → Int32 → Int32 → Int32 → Int32 → Int32 → xF → Option ((Int32 ⊕ xE) × xF)) (x0 : Option Nat) (x1 : Int32) (x2 : Int32) (x3 : Int32) (x4 : Int32) (x5 : Int32) (x6 : Int32) (x7 : Int32) (T : xF) : Option ((Int32 ⊕ xE) × xF) :=
  (c_X1_isOf x5 x7).bind fun v92 =>
  if v92 = 0 then
    c_X1_frosts_106 G k37 k63 x0 x1 x2 x3 x4 x5 x7 ((10 : Int32) - x3) x6 T
  else
    c_X1_frosts_106 G k37 k63 x0 x1 x2 x3 x4 x5 x7 x3 x6 T
theorem c_X1_frosts_86_ok {G : xG}  {T0 : xF} {k37 : Option Nat → Int32 → Int32 → Int32 → Int32 → Int32 → xF → Option ((Int32 ⊕ xE) × xF)} {k63 : Option Nat → Int32 → Int32 → Int32 → Int32 → Int32 → Int32 → Int32 → xF → Option ((Int32 ⊕ xE) × xF)} (hk37 : ∀ (x0 : Option Nat) (x1 : Int32) (x2 : Int32) (x3 : Int32) (x4 : Int32) (x5 : Int32) (T : xF) (q : ((Int32 ⊕ xE) × xF)), k37 x0 x1 x2 x3 x4 x5 T = some q → Xr G (mX1_frosts, xrm (125) T0 q.2, T0, xoI q.1, q.2) 37 [(0, va_rf x0), (1, .int x1), (2, .int x2), (3, .int x3), (4, .int x4), (5, .int x5)] [] T) (hk63 : ∀ (x0 : Option Nat) (x1 : Int32) (x2 : Int32) (x3 : Int32) (x4 : Int32) (x5 : Int32) (x6 : Int32) (x7 : Int32) (T : xF) (q : ((Int32 ⊕ xE) × xF)), k63 x0 x1 x2 x3 x4 x5 x6 x7 T = some q → Xr G (mX1_frosts, xrm (125) T0 q.2, T0, xoI q.1, q.2) 63 [(0, va_rf x0), (1, .int x1), (2, .int x2), (3, .int x3), (4, .int x4), (5, .int x5), (6, .int x6), (7, .int x7)] [] T) (x0 : Option Nat) (x1 : Int32) (x2 : Int32) (x3 : Int32) (x4 : Int32) (x5 : Int32) (x6 : Int32) (x7 : Int32) (T : xF) (q : ((Int32 ⊕ xE) × xF)) (hf : c_X1_frosts_86 G k37 k63 x0 x1 x2 x3 x4 x5 x6 x7 T = some q) : Xr G (mX1_frosts, xrm (125) T0 q.2, T0, xoI q.1, q.2) 86 [(0, va_rf x0), (1, .int x1), (2, .int x2), (3, .int x3), (4, .int x4), (5, .int x5), (6, .int x6), (7, .int x7)] [] T := by
  unfold c_X1_frosts_86 at hf
  refine X.iload dX1_frosts_86 6 rfl ?_
  refine X.iload dX1_frosts_88 5 rfl ?_
  refine X.iload dX1_frosts_90 7 rfl ?_
  obtain ⟨v92, h92, hf⟩ := ob hf
  refine X.keep fun l92 => C.Si (As := [.int x5, .int x7]) (rest := [.int x6]) dX1_frosts_92 (w_X1_isOf h92) cX1_241 rfl rfl (xcs (xvI xvN) (Nat.le_of_ble_eq_true rfl)) (xD (Nat.le_of_ble_eq_true rfl)) xle.rf l92 ?_
  refine X.if_eq (tgt := 102) dX1_frosts_95 (by decide) (fun c95 => ?_) (fun c95 => ?_)
  · have hf := if_t c95 hf
    refine X.bipush (v := 10) dX1_frosts_102 (by decide) ?_
    refine X.iload_n dX1_frosts_104 rfl 3 rfl ?_
    refine X.isub dX1_frosts_105 ?_
    refine X.sub [0, 1, 2, 3, 4, 5, 7] (L' := [(0, va_rf x0), (1, .int x1), (2, .int x2), (3, .int x3), (4, .int x4), (5, .int x5), (7, .int x7)]) rfl ?_
    exact c_X1_frosts_106_ok hk37 hk63 _ _ _ _ _ _ _ _ _ _ _ hf
  · have hf := if_f c95 hf
    refine X.iload_n dX1_frosts_98 rfl 3 rfl ?_
    refine X.goto (tgt := 106) dX1_frosts_99 (by decide) ?_
    refine X.sub [0, 1, 2, 3, 4, 5, 7] (L' := [(0, va_rf x0), (1, .int x1), (2, .int x2), (3, .int x3), (4, .int x4), (5, .int x5), (7, .int x7)]) rfl ?_
    exact c_X1_frosts_106_ok hk37 hk63 _ _ _ _ _ _ _ _ _ _ _ hf
def c_X1_frosts_141 (G : xG) (k37 : Option Nat → Int32 → Int32 → Int32 → Int32 → Int32 → xF → Option ((Int32 ⊕ xE) × xF)) (x0 : Option Nat) (x1 : Int32) (x2 : Int32) (x3 : Int32) (x4 : Int32) (x5 : Int32) (T : xF) : Option ((Int32 ⊕ xE) × xF) :=
  k37 x0 x1 x2 x3 x4 (x5 + 1) T
theorem c_X1_frosts_141_ok {G : xG}  {T0 : xF} {k37 : Option Nat → Int32 → Int32 → Int32 → Int32 → Int32 → xF → Option ((Int32 ⊕ xE) × xF)} (hk37 : ∀ (x0 : Option Nat) (x1 : Int32) (x2 : Int32) (x3 : Int32) (x4 : Int32) (x5 : Int32) (T : xF) (q : ((Int32 ⊕ xE) × xF)), k37 x0 x1 x2 x3 x4 x5 T = some q → Xr G (mX1_frosts, xrm (125) T0 q.2, T0, xoI q.1, q.2) 37 [(0, va_rf x0), (1, .int x1), (2, .int x2), (3, .int x3), (4, .int x4), (5, .int x5)] [] T) (x0 : Option Nat) (x1 : Int32) (x2 : Int32) (x3 : Int32) (x4 : Int32) (x5 : Int32) (T : xF) (q : ((Int32 ⊕ xE) × xF)) (hf : c_X1_frosts_141 G k37 x0 x1 x2 x3 x4 x5 T = some q) : Xr G (mX1_frosts, xrm (125) T0 q.2, T0, xoI q.1, q.2) 141 [(0, va_rf x0), (1, .int x1), (2, .int x2), (3, .int x3), (4, .int x4), (5, .int x5)] [] T := by
  unfold c_X1_frosts_141 at hf
  refine C.iinc (v := (x5 + 1)) (L' := [(5, .int (x5 + 1)), (0, va_rf x0), (1, .int x1), (2, .int x2), (3, .int x3), (4, .int x4)]) dX1_frosts_141 5 rfl rfl (Nat.le_of_ble_eq_true rfl) (xcQ (xcI (xcI (xcI (xcI (xcI xcN)))))) rfl ?_
  refine X.goto (tgt := 37) dX1_frosts_144 (by decide) ?_
  refine X.sub [1, 2, 3, 4, 5, 0] (L' := [(0, va_rf x0), (1, .int x1), (2, .int x2), (3, .int x3), (4, .int x4), (5, .int (x5 + 1))]) rfl ?_
  exact hk37 _ _ _ _ _ _ _ _ hf
def c_X1_frosts_63_b (G : xG) (k37 : Option Nat → Int32 → Int32 → Int32 → Int32 → Int32 → xF → Option ((Int32 ⊕ xE) × xF)) (k63 : Option Nat → Int32 → Int32 → Int32 → Int32 → Int32 → Int32 → Int32 → xF → Option ((Int32 ⊕ xE) × xF)) (x0 : Option Nat) (x1 : Int32) (x2 : Int32) (x3 : Int32) (x4 : Int32) (x5 : Int32) (x6 : Int32) (x7 : Int32) (T : xF) : Option ((Int32 ⊕ xE) × xF) :=
  if x2 ≤ x7 then
    (oQ T x0 0 3).bind fun v124 =>
    if ¬ isO T v124 2 = true then none else
    (c_X3_winner T v124).bind fun v127 =>
    if v127 = x1 then
      c_X1_frosts_141 G k37 x0 x1 x2 x3 (x4 + x6) x5 T
    else
      c_X1_frosts_141 G k37 x0 x1 x2 x3 x4 x5 T
  else
    (c_X1_isOf x5 x7).bind fun v73 =>
    if v73 = 0 then
      c_X1_frosts_86 G k37 k63 x0 x1 x2 x3 x4 x5 x6 x7 T
    else
      (oQ T x0 0 3).bind fun v80 =>
      if ¬ isO T v80 2 = true then none else
      cl (c_X3_frost v80 T) T fun v83 T83 =>
      c_X1_frosts_86 G k37 k63 x0 x1 x2 x3 x4 x5 x6 x7 T83
def c_X1_frosts_63 (G : xG) (k37 : Option Nat → Int32 → Int32 → Int32 → Int32 → Int32 → xF → Option ((Int32 ⊕ xE) × xF)) : Nat → Option Nat → Int32 → Int32 → Int32 → Int32 → Int32 → Int32 → Int32 → xF → Option ((Int32 ⊕ xE) × xF)
  | 0 => fun _ _ _ _ _ _ _ _ _ => none
  | n + 1 => fun x0 x1 x2 x3 x4 x5 x6 x7 T => c_X1_frosts_63_b G k37 (c_X1_frosts_63 G k37 n) x0 x1 x2 x3 x4 x5 x6 x7 T
theorem c_X1_frosts_63_bok {G : xG}  {T0 : xF} {k37 : Option Nat → Int32 → Int32 → Int32 → Int32 → Int32 → xF → Option ((Int32 ⊕ xE) × xF)} {k63 : Option Nat → Int32 → Int32 → Int32 → Int32 → Int32 → Int32 → Int32 → xF → Option ((Int32 ⊕ xE) × xF)} (hk37 : ∀ (x0 : Option Nat) (x1 : Int32) (x2 : Int32) (x3 : Int32) (x4 : Int32) (x5 : Int32) (T : xF) (q : ((Int32 ⊕ xE) × xF)), k37 x0 x1 x2 x3 x4 x5 T = some q → Xr G (mX1_frosts, xrm (125) T0 q.2, T0, xoI q.1, q.2) 37 [(0, va_rf x0), (1, .int x1), (2, .int x2), (3, .int x3), (4, .int x4), (5, .int x5)] [] T) (hk63 : ∀ (x0 : Option Nat) (x1 : Int32) (x2 : Int32) (x3 : Int32) (x4 : Int32) (x5 : Int32) (x6 : Int32) (x7 : Int32) (T : xF) (q : ((Int32 ⊕ xE) × xF)), k63 x0 x1 x2 x3 x4 x5 x6 x7 T = some q → Xr G (mX1_frosts, xrm (125) T0 q.2, T0, xoI q.1, q.2) 63 [(0, va_rf x0), (1, .int x1), (2, .int x2), (3, .int x3), (4, .int x4), (5, .int x5), (6, .int x6), (7, .int x7)] [] T) (x0 : Option Nat) (x1 : Int32) (x2 : Int32) (x3 : Int32) (x4 : Int32) (x5 : Int32) (x6 : Int32) (x7 : Int32) (T : xF) (q : ((Int32 ⊕ xE) × xF)) (hf : c_X1_frosts_63_b G k37 k63 x0 x1 x2 x3 x4 x5 x6 x7 T = some q) : Xr G (mX1_frosts, xrm (125) T0 q.2, T0, xoI q.1, q.2) 63 [(0, va_rf x0), (1, .int x1), (2, .int x2), (3, .int x3), (4, .int x4), (5, .int x5), (6, .int x6), (7, .int x7)] [] T := by
  unfold c_X1_frosts_63_b at hf
  refine X.iload dX1_frosts_63 7 rfl ?_
  refine X.iload_n dX1_frosts_65 rfl 2 rfl ?_
  refine X.icmp_ge (tgt := 123) dX1_frosts_66 (by decide) (fun c66 => ?_) (fun c66 => ?_)
  · have hf := if_t c66 hf
    refine C.aload_n dX1_frosts_123 rfl 0 rfl ?_
    obtain ⟨v124, h124, hf⟩ := ob hf
    refine C.getQ dX1_frosts_124 rX1_35 h124 ?_
    obtain ⟨c127, hf⟩ := if_n hf
    obtain ⟨v127, h127, hf⟩ := ob hf
    refine X.keep fun l127 => C.Vi (As := []) (rest := []) dX1_frosts_127 (w_X3_winner h127) cX1_131 (Classical.not_not.mp c127) rfl rfl (xcs xvN (Nat.le_of_ble_eq_true rfl)) rfl rfl (xD (Nat.le_of_ble_eq_true rfl)) xle.rf l127 ?_
    refine X.iload_n dX1_frosts_130 rfl 1 rfl ?_
    refine X.icmp_ne (tgt := 141) dX1_frosts_131 (by decide) (fun c131 => ?_) (fun c131 => ?_)
    · have hf := if_f c131 hf
      refine X.sub [0, 1, 2, 3, 4, 5] (L' := [(0, va_rf x0), (1, .int x1), (2, .int x2), (3, .int x3), (4, .int x4), (5, .int x5)]) rfl ?_
      exact c_X1_frosts_141_ok hk37 _ _ _ _ _ _ _ _ hf
    · have hf := if_t c131 hf
      refine X.iload dX1_frosts_134 4 rfl ?_
      refine X.iload dX1_frosts_136 6 rfl ?_
      refine X.iadd dX1_frosts_138 ?_
      refine C.ist (L' := [(4, .int (x4 + x6)), (0, va_rf x0), (1, .int x1), (2, .int x2), (3, .int x3), (5, .int x5), (6, .int x6), (7, .int x7)]) dX1_frosts_139 (Nat.le_of_ble_eq_true rfl) (xcQ (xcI (xcI (xcI (xcI (xcI (xcI (xcI xcN)))))))) rfl ?_
      refine X.sub [1, 2, 3, 4, 0, 5] (L' := [(0, va_rf x0), (1, .int x1), (2, .int x2), (3, .int x3), (4, .int (x4 + x6)), (5, .int x5)]) rfl ?_
      exact c_X1_frosts_141_ok hk37 _ _ _ _ _ _ _ _ hf
  · have hf := if_f c66 hf
    refine X.iload dX1_frosts_69 5 rfl ?_
    refine X.iload dX1_frosts_71 7 rfl ?_
    obtain ⟨v73, h73, hf⟩ := ob hf
    refine X.keep fun l73 => C.Si (As := [.int x5, .int x7]) (rest := []) dX1_frosts_73 (w_X1_isOf h73) cX1_241 rfl rfl (xcs xvN (Nat.le_of_ble_eq_true rfl)) (xD (Nat.le_of_ble_eq_true rfl)) xle.rf l73 ?_
    refine X.if_eq (tgt := 86) dX1_frosts_76 (by decide) (fun c76 => ?_) (fun c76 => ?_)
    · have hf := if_t c76 hf
      refine X.sub [0, 1, 2, 3, 4, 5, 6, 7] (L' := [(0, va_rf x0), (1, .int x1), (2, .int x2), (3, .int x3), (4, .int x4), (5, .int x5), (6, .int x6), (7, .int x7)]) rfl ?_
      exact c_X1_frosts_86_ok hk37 hk63 _ _ _ _ _ _ _ _ _ _ hf
    · have hf := if_f c76 hf
      refine C.aload_n dX1_frosts_79 rfl 0 rfl ?_
      obtain ⟨v80, h80, hf⟩ := ob hf
      refine C.getQ dX1_frosts_80 rX1_35 h80 ?_
      obtain ⟨c83, hf⟩ := if_n hf
      obtain ⟨v83, T83, h83, hf, l83, r83⟩ := cl_ok hf
      refine C.Vv (As := []) (rest := []) dX1_frosts_83 (w_X3_frost h83) cX1_223 (Classical.not_not.mp c83) rfl rfl (xcs xvN (Nat.le_of_ble_eq_true rfl)) rfl rfl (xD (Nat.le_of_ble_eq_true rfl)) l83 r83 ?_
      refine X.sub [0, 1, 2, 3, 4, 5, 6, 7] (L' := [(0, va_rf x0), (1, .int x1), (2, .int x2), (3, .int x3), (4, .int x4), (5, .int x5), (6, .int x6), (7, .int x7)]) rfl ?_
      exact c_X1_frosts_86_ok hk37 hk63 _ _ _ _ _ _ _ _ _ _ hf
theorem c_X1_frosts_63_ok {G : xG}  {T0 : xF} {k37 : Option Nat → Int32 → Int32 → Int32 → Int32 → Int32 → xF → Option ((Int32 ⊕ xE) × xF)} (hk37 : ∀ (x0 : Option Nat) (x1 : Int32) (x2 : Int32) (x3 : Int32) (x4 : Int32) (x5 : Int32) (T : xF) (q : ((Int32 ⊕ xE) × xF)), k37 x0 x1 x2 x3 x4 x5 T = some q → Xr G (mX1_frosts, xrm (125) T0 q.2, T0, xoI q.1, q.2) 37 [(0, va_rf x0), (1, .int x1), (2, .int x2), (3, .int x3), (4, .int x4), (5, .int x5)] [] T) : ∀ (n : Nat) (x0 : Option Nat) (x1 : Int32) (x2 : Int32) (x3 : Int32) (x4 : Int32) (x5 : Int32) (x6 : Int32) (x7 : Int32) (T : xF) (q : ((Int32 ⊕ xE) × xF)), c_X1_frosts_63 G k37 n x0 x1 x2 x3 x4 x5 x6 x7 T = some q → Xr G (mX1_frosts, xrm (125) T0 q.2, T0, xoI q.1, q.2) 63 [(0, va_rf x0), (1, .int x1), (2, .int x2), (3, .int x3), (4, .int x4), (5, .int x5), (6, .int x6), (7, .int x7)] [] T
  | 0, _, _, _, _, _, _, _, _, _, _, hf => by cases hf
  | n + 1, x0, x1, x2, x3, x4, x5, x6, x7, T, q, hf => c_X1_frosts_63_bok hk37 (c_X1_frosts_63_ok hk37 n) x0 x1 x2 x3 x4 x5 x6 x7 T q hf
def c_X1_frosts_37_b (G : xG) (k37 : Option Nat → Int32 → Int32 → Int32 → Int32 → Int32 → xF → Option ((Int32 ⊕ xE) × xF)) (x0 : Option Nat) (x1 : Int32) (x2 : Int32) (x3 : Int32) (x4 : Int32) (x5 : Int32) (T : xF) : Option ((Int32 ⊕ xE) × xF) :=
  if ((1 : Int32) <<< (x2 &&& 31)) ≤ x5 then
    some (.inl x4, T)
  else
    (oQ T x0 0 3).bind fun v49 =>
    (oQ T x0 0 4).bind fun v53 =>
    if ¬ isO T v49 2 = true then none else
    cl (c_X3_be v49 v53 T) T fun v56 T56 =>
    c_X1_frosts_63 G k37 FU x0 x1 x2 x3 x4 x5 (1 : Int32) (0 : Int32) T56
def c_X1_frosts_37 (G : xG) : Nat → Option Nat → Int32 → Int32 → Int32 → Int32 → Int32 → xF → Option ((Int32 ⊕ xE) × xF)
  | 0 => fun _ _ _ _ _ _ _ => none
  | n + 1 => fun x0 x1 x2 x3 x4 x5 T => c_X1_frosts_37_b G (c_X1_frosts_37 G n) x0 x1 x2 x3 x4 x5 T
theorem c_X1_frosts_37_bok {G : xG}  {T0 : xF}  {k37 : Option Nat → Int32 → Int32 → Int32 → Int32 → Int32 → xF → Option ((Int32 ⊕ xE) × xF)}  (hk37 : ∀ (x0 : Option Nat) (x1 : Int32) (x2 : Int32) (x3 : Int32) (x4 : Int32) (x5 : Int32) (T : xF) (q : ((Int32 ⊕ xE) × xF)), k37 x0 x1 x2 x3 x4 x5 T = some q → Xr G (mX1_frosts, xrm (125) T0 q.2, T0, xoI q.1, q.2) 37 [(0, va_rf x0), (1, .int x1), (2, .int x2), (3, .int x3), (4, .int x4), (5, .int x5)] [] T) (x0 : Option Nat) (x1 : Int32) (x2 : Int32) (x3 : Int32) (x4 : Int32) (x5 : Int32) (T : xF) (q : ((Int32 ⊕ xE) × xF)) (hf : c_X1_frosts_37_b G k37 x0 x1 x2 x3 x4 x5 T = some q) : Xr G (mX1_frosts, xrm (125) T0 q.2, T0, xoI q.1, q.2) 37 [(0, va_rf x0), (1, .int x1), (2, .int x2), (3, .int x3), (4, .int x4), (5, .int x5)] [] T := by
  unfold c_X1_frosts_37_b at hf
  refine X.iload dX1_frosts_37 5 rfl ?_
  refine X.iconst (v := 1) dX1_frosts_39 (by decide) ?_
  refine X.iload_n dX1_frosts_40 rfl 2 rfl ?_
  refine X.ishl dX1_frosts_41 ?_
  refine X.icmp_ge (tgt := 147) dX1_frosts_42 (by decide) (fun c42 => ?_) (fun c42 => ?_)
  · have hf := if_t c42 hf
    refine X.iload dX1_frosts_147 4 rfl ?_
    obtain rfl := Option.some.inj hf
    exact X.iret dX1_frosts_149 rfl rfl rfl
  · have hf := if_f c42 hf
    refine X.iconst (v := 1) dX1_frosts_45 (by decide) ?_
    refine C.ist (L' := [(6, .int (1 : Int32)), (0, va_rf x0), (1, .int x1), (2, .int x2), (3, .int x3), (4, .int x4), (5, .int x5)]) dX1_frosts_46 (Nat.le_of_ble_eq_true rfl) (xcQ (xcI (xcI (xcI (xcI (xcI xcN)))))) rfl ?_
    refine C.aload_n dX1_frosts_48 rfl 1 rfl ?_
    obtain ⟨v49, h49, hf⟩ := ob hf
    refine C.getQ dX1_frosts_49 rX1_35 h49 ?_
    refine C.aload_n dX1_frosts_52 rfl 1 rfl ?_
    obtain ⟨v53, h53, hf⟩ := ob hf
    refine C.getQ dX1_frosts_53 rX1_38 h53 ?_
    obtain ⟨c56, hf⟩ := if_n hf
    obtain ⟨v56, T56, h56, hf, l56, r56⟩ := cl_ok hf
    refine C.Vq (As := [va_rf v53]) (rest := []) dX1_frosts_56 (w_X3_be h56) cX1_213 (Classical.not_not.mp c56) rfl rfl (xcs xvN (Nat.le_of_ble_eq_true rfl)) rfl rfl (xD (Nat.le_of_ble_eq_true rfl)) l56 r56 ?_
    refine X.pop dX1_frosts_59 (cat1 _) ?_
    refine X.iconst (v := 0) dX1_frosts_60 (by decide) ?_
    refine C.ist (L' := [(7, .int (0 : Int32)), (6, .int (1 : Int32)), (0, va_rf x0), (1, .int x1), (2, .int x2), (3, .int x3), (4, .int x4), (5, .int x5)]) dX1_frosts_61 (Nat.le_of_ble_eq_true rfl) (xcI (xcQ (xcI (xcI (xcI (xcI (xcI xcN))))))) rfl ?_
    refine X.sub [2, 3, 4, 5, 6, 7, 1, 0] (L' := [(0, va_rf x0), (1, .int x1), (2, .int x2), (3, .int x3), (4, .int x4), (5, .int x5), (6, .int (1 : Int32)), (7, .int (0 : Int32))]) rfl ?_
    exact c_X1_frosts_63_ok hk37 FU _ _ _ _ _ _ _ _ _ _ hf
theorem c_X1_frosts_37_ok {G : xG}  {T0 : xF}   : ∀ (n : Nat) (x0 : Option Nat) (x1 : Int32) (x2 : Int32) (x3 : Int32) (x4 : Int32) (x5 : Int32) (T : xF) (q : ((Int32 ⊕ xE) × xF)), c_X1_frosts_37 G n x0 x1 x2 x3 x4 x5 T = some q → Xr G (mX1_frosts, xrm (125) T0 q.2, T0, xoI q.1, q.2) 37 [(0, va_rf x0), (1, .int x1), (2, .int x2), (3, .int x3), (4, .int x4), (5, .int x5)] [] T
  | 0, _, _, _, _, _, _, _, _, hf => by cases hf
  | n + 1, x0, x1, x2, x3, x4, x5, T, q, hf => c_X1_frosts_37_bok (c_X1_frosts_37_ok n) x0 x1 x2 x3 x4 x5 T q hf
def c_X1_frosts_28 (G : xG) (x0 : Option Nat) (x1 : Int32) (x2 : Int32) (x3 : Int32) (y0 : Int32) (T : xF) : Option ((Int32 ⊕ xE) × xF) :=
  clX (c_X1_right y0 T) T fun v28 T28 =>
  c_X1_frosts_37 G FU x0 x1 x2 x3 (0 : Int32) (0 : Int32) T28
theorem c_X1_frosts_28_ok {G : xG}  {T0 : xF}   (x0 : Option Nat) (x1 : Int32) (x2 : Int32) (x3 : Int32) (y0 : Int32) (T : xF) (q : ((Int32 ⊕ xE) × xF)) (hf : c_X1_frosts_28 G x0 x1 x2 x3 y0 T = some q) : Xr G (mX1_frosts, xrm (125) T0 q.2, T0, xoI q.1, q.2) 28 [(0, va_rf x0), (1, .int x1), (2, .int x2), (3, .int x3)] [.int y0] T := by
  unfold c_X1_frosts_28 at hf
  rcases clX_ok hf with ⟨v28, T28, h28, hf, l28, r28⟩ | ⟨e28, T28, h28, rfl, l28⟩
  rotate_left
  · exact C.Sx (As := [.int y0]) (rest := []) dX1_frosts_28 (w_X1_right h28) cX1_65 rfl rfl (xcs xvN (Nat.le_of_ble_eq_true rfl)) (xD (Nat.le_of_ble_eq_true rfl)) l28 xle.rf (xnoh rfl) rfl
  refine C.Sv (As := [.int y0]) (rest := []) dX1_frosts_28 (w_X1_right h28) cX1_65 rfl rfl (xcs xvN (Nat.le_of_ble_eq_true rfl)) (xD (Nat.le_of_ble_eq_true rfl)) l28 r28 ?_
  refine X.iconst (v := 0) dX1_frosts_31 (by decide) ?_
  refine C.ist (L' := [(4, .int (0 : Int32)), (0, va_rf x0), (1, .int x1), (2, .int x2), (3, .int x3)]) dX1_frosts_32 (Nat.le_of_ble_eq_true rfl) (xcQ (xcI (xcI (xcI xcN)))) rfl ?_
  refine X.iconst (v := 0) dX1_frosts_34 (by decide) ?_
  refine C.ist (L' := [(5, .int (0 : Int32)), (4, .int (0 : Int32)), (0, va_rf x0), (1, .int x1), (2, .int x2), (3, .int x3)]) dX1_frosts_35 (Nat.le_of_ble_eq_true rfl) (xcI (xcQ (xcI (xcI (xcI xcN))))) rfl ?_
  refine X.sub [2, 3, 4, 5, 1, 0] (L' := [(0, va_rf x0), (1, .int x1), (2, .int x2), (3, .int x3), (4, .int (0 : Int32)), (5, .int (0 : Int32))]) rfl ?_
  exact c_X1_frosts_37_ok FU _ _ _ _ _ _ _ _ hf
def c_X1_frosts_27 (G : xG) (x0 : Option Nat) (x1 : Int32) (x2 : Int32) (x3 : Int32) (T : xF) : Option ((Int32 ⊕ xE) × xF) :=
  c_X1_frosts_28 G x0 x1 x2 x3 (0 : Int32) T
theorem c_X1_frosts_27_ok {G : xG}  {T0 : xF}   (x0 : Option Nat) (x1 : Int32) (x2 : Int32) (x3 : Int32) (T : xF) (q : ((Int32 ⊕ xE) × xF)) (hf : c_X1_frosts_27 G x0 x1 x2 x3 T = some q) : Xr G (mX1_frosts, xrm (125) T0 q.2, T0, xoI q.1, q.2) 27 [(0, va_rf x0), (1, .int x1), (2, .int x2), (3, .int x3)] [] T := by
  unfold c_X1_frosts_27 at hf
  refine X.iconst (v := 0) dX1_frosts_27 (by decide) ?_
  refine X.sub [0, 1, 2, 3] (L' := [(0, va_rf x0), (1, .int x1), (2, .int x2), (3, .int x3)]) rfl ?_
  exact c_X1_frosts_28_ok _ _ _ _ _ _ _ hf
def c_X1_frosts (G : xG) (x0 : Option Nat) (x1 : Int32) (x2 : Int32) (x3 : Int32) (T : xF) : Option ((Int32 ⊕ xE) × xF) :=
  clX (c_X1_aParty x1 T) T fun v1 T1 =>
  (c_X1_in x2 (1 : Int32) (5 : Int32)).bind fun v7 =>
  if v7 = 0 then
    c_X1_frosts_27 G x0 x1 x2 x3 T1
  else
    (c_X1_in x3 (0 : Int32) (10 : Int32)).bind fun v17 =>
    if v17 = 0 then
      c_X1_frosts_27 G x0 x1 x2 x3 T1
    else
      c_X1_frosts_28 G x0 x1 x2 x3 (1 : Int32) T1
theorem w_X1_frosts {G : xG}  {T : xF} {x0 : Option Nat} {x1 : Int32} {x2 : Int32} {x3 : Int32} {q : ((Int32 ⊕ xE) × xF)} (hf : c_X1_frosts G x0 x1 x2 x3 T = some q) : Ct G mX1_frosts (125) T [va_rf x0, .int x1, .int x2, .int x3] (xoI q.1) q.2 := by
  refine Ct.ofc (plainFor_of_name (by decide +kernel)) rfl (xvQ (xvI (xvI (xvI xvN)))) (Nat.le_of_ble_eq_true rfl) (show Xr G _ 0 [(0, va_rf x0), (1, .int x1), (2, .int x2), (3, .int x3)] [] _ from ?_)
  unfold c_X1_frosts at hf
  refine X.iload_n dX1_frosts_0 rfl 1 rfl ?_
  rcases clX_ok hf with ⟨v1, T1, h1, hf, l1, r1⟩ | ⟨e1, T1, h1, rfl, l1⟩
  rotate_left
  · exact C.Sx (As := [.int x1]) (rest := []) dX1_frosts_1 (w_X1_aParty h1) cX1_176 rfl rfl (xcs xvN (Nat.le_of_ble_eq_true rfl)) (xD (Nat.le_of_ble_eq_true rfl)) l1 xle.rf (xnoh rfl) rfl
  refine C.Sv (As := [.int x1]) (rest := []) dX1_frosts_1 (w_X1_aParty h1) cX1_176 rfl rfl (xcs xvN (Nat.le_of_ble_eq_true rfl)) (xD (Nat.le_of_ble_eq_true rfl)) l1 r1 ?_
  refine X.iload_n dX1_frosts_4 rfl 2 rfl ?_
  refine X.iconst (v := 1) dX1_frosts_5 (by decide) ?_
  refine X.iconst (v := 5) dX1_frosts_6 (by decide) ?_
  obtain ⟨v7, h7, hf⟩ := ob hf
  refine X.keep fun l7 => C.Si (As := [.int x2, .int (1 : Int32), .int (5 : Int32)]) (rest := []) dX1_frosts_7 (w_X1_in h7) cX1_134 rfl rfl (xcs xvN (Nat.le_of_ble_eq_true rfl)) (xD (Nat.le_of_ble_eq_true rfl)) xle.rf l7 ?_
  refine X.if_eq (tgt := 27) dX1_frosts_10 (by decide) (fun c10 => ?_) (fun c10 => ?_)
  · have hf := if_t c10 hf
    refine X.sub [0, 1, 2, 3] (L' := [(0, va_rf x0), (1, .int x1), (2, .int x2), (3, .int x3)]) rfl ?_
    exact c_X1_frosts_27_ok _ _ _ _ _ _ hf
  · have hf := if_f c10 hf
    refine X.iload_n dX1_frosts_13 rfl 3 rfl ?_
    refine X.iconst (v := 0) dX1_frosts_14 (by decide) ?_
    refine X.bipush (v := 10) dX1_frosts_15 (by decide) ?_
    obtain ⟨v17, h17, hf⟩ := ob hf
    refine X.keep fun l17 => C.Si (As := [.int x3, .int (0 : Int32), .int (10 : Int32)]) (rest := []) dX1_frosts_17 (w_X1_in h17) cX1_134 rfl rfl (xcs xvN (Nat.le_of_ble_eq_true rfl)) (xD (Nat.le_of_ble_eq_true rfl)) xle.rf l17 ?_
    refine X.if_eq (tgt := 27) dX1_frosts_20 (by decide) (fun c20 => ?_) (fun c20 => ?_)
    · have hf := if_t c20 hf
      refine X.sub [0, 1, 2, 3] (L' := [(0, va_rf x0), (1, .int x1), (2, .int x2), (3, .int x3)]) rfl ?_
      exact c_X1_frosts_27_ok _ _ _ _ _ _ hf
    · have hf := if_f c20 hf
      refine X.iconst (v := 1) dX1_frosts_23 (by decide) ?_
      refine X.goto (tgt := 28) dX1_frosts_24 (by decide) ?_
      refine X.sub [0, 1, 2, 3] (L' := [(0, va_rf x0), (1, .int x1), (2, .int x2), (3, .int x3)]) rfl ?_
      exact c_X1_frosts_28_ok _ _ _ _ _ _ _ hf
/-! java/util/AbstractCollection <init> -/
abbrev cJ0_init : ByteArray := prog_36_method_1_code
def yJ0_init : MethodName := ⟨RJ0, "<init>", "()V"⟩
theorem dJ0_init_0 : decode cJ0_init 0 = .ok (.aload_n 0, 1) := by decide +kernel
theorem dJ0_init_1 : decode cJ0_init 1 = .ok (.invokespecial 1, 3) := by decide +kernel
theorem dJ0_init_4 : decode cJ0_init 4 = .ok (.return_, 1) := by decide +kernel
abbrev mJ0_init : xM := (yJ0_init, cJ0_init, 1, none, [])
def c_J0_init (x0 : Option Nat) : Option Unit :=
  if ¬ x0.isSome = true then none else
  some ()
theorem w_J0_init {G : xG}  {T : xF} {x0 : Option Nat} {q : Unit} (hf : c_J0_init x0 = some q) : Ct G mJ0_init (1) T [va_rf x0] (.inl none) T := by
  refine Ct.ofc (plainFor_of_name (by decide +kernel)) rfl (xvQ xvN) (Nat.le_of_ble_eq_true rfl) (show Xr G _ 0 [(0, va_rf x0)] [] _ from ?_)
  unfold c_J0_init at hf
  refine C.aload_n dJ0_init_0 rfl 0 rfl ?_
  obtain ⟨c1, hf⟩ := if_n hf
  refine C.objI (Classical.not_not.mp c1) dJ0_init_1 q179 obj1 obj2 (xcs xvN (Nat.le_of_ble_eq_true rfl)) (xD1 (Nat.le_of_ble_eq_true rfl)) ?_
  obtain rfl := Option.some.inj hf
  exact X.vret dJ0_init_4 rfl rfl
theorem cJ1_1 : xCI RJ1 1 mJ0_init 0 := ⟨⟨lw_meth q178, rfl, q123, q176, q177, rfl⟩, rfl, ⟨by decide +kernel, by decide +kernel, by decide +kernel⟩, Nat.le_of_ble_eq_true rfl⟩
/-! java/util/AbstractList <init> -/
abbrev cJ1_init : ByteArray := prog_37_method_1_code
def yJ1_init : MethodName := ⟨RJ1, "<init>", "()V"⟩
def dkwJ1_init_0 : List UInt8 := [42, 183, 0, 1, 42, 3, 181, 0, 7, 177]
abbrev dktJ1_init_0 : List UInt8 := dkwJ1_init_0 ++ []
theorem dksJ1_init_0 : cJ1_init.data.toList.drop 0 = dktJ1_init_0 := by decide +kernel
theorem dJ1_init_0 : decode cJ1_init 0 = .ok (.aload_n 0, 1) := dk_42 (dk_at dksJ1_init_0 0 rfl rfl)
theorem dJ1_init_1 : decode cJ1_init 1 = .ok (.invokespecial 1, 3) := dk_183 0 1 (dk_at dksJ1_init_0 1 rfl rfl)
theorem dJ1_init_4 : decode cJ1_init 4 = .ok (.aload_n 0, 1) := dk_42 (dk_at dksJ1_init_0 4 rfl rfl)
theorem dJ1_init_5 : decode cJ1_init 5 = .ok (.iconst 0, 1) := dk_3 (dk_at dksJ1_init_0 5 rfl rfl)
theorem dJ1_init_6 : decode cJ1_init 6 = .ok (.putfield 7, 3) := dk_181 0 7 (dk_at dksJ1_init_0 6 rfl rfl)
theorem dJ1_init_9 : decode cJ1_init 9 = .ok (.return_, 1) := dk_177 (dk_at dksJ1_init_0 9 rfl rfl)
abbrev mJ1_init : xM := (yJ1_init, cJ1_init, 1, none, [])
def c_J1_init (x0 : Option Nat) (T : xF) : Option (Unit × xF) :=
  if ¬ x0.isSome = true then none else
  (c_J0_init x0).bind fun v1 =>
  (pV T x0 10 0 (.int (0 : Int32))).bind fun T6 =>
  some ((), T6)
theorem w_J1_init {G : xG}  {T : xF} {x0 : Option Nat} {q : (Unit × xF)} (hf : c_J1_init x0 T = some q) : Ct G mJ1_init (2) T [va_rf x0] (.inl none) q.2 := by
  refine Ct.ofc (plainFor_of_name (by decide +kernel)) rfl (xvQ xvN) (Nat.le_of_ble_eq_true rfl) (show Xr G _ 0 [(0, va_rf x0)] [] _ from ?_)
  unfold c_J1_init at hf
  refine C.aload_n dJ1_init_0 rfl 0 rfl ?_
  obtain ⟨c1, hf⟩ := if_n hf
  obtain ⟨v1, h1, hf⟩ := ob hf
  refine X.keep fun l1 => C.Iv (As := []) (rest := []) dJ1_init_1 (w_J0_init h1) cJ1_1 (Classical.not_not.mp c1) rfl rfl (xcs xvN (Nat.le_of_ble_eq_true rfl)) (xD (Nat.le_of_ble_eq_true rfl)) xle.rf l1 ?_
  refine C.aload_n dJ1_init_4 rfl 0 rfl ?_
  refine X.iconst (v := 0) dJ1_init_5 (by decide) ?_
  obtain ⟨T6, h6, hf⟩ := ob hf
  refine C.putI dJ1_init_6 fJ1_7 (fun q => by cases q) rfl rfl h6 ?_
  obtain rfl := Option.some.inj hf
  exact X.vret dJ1_init_9 rfl rfl
theorem cJ2_1 : xCI RJ2 1 mJ1_init 0 := ⟨⟨lw_meth q175, rfl, q124, q173, q174, rfl⟩, rfl, ⟨by decide +kernel, by decide +kernel, by decide +kernel⟩, Nat.le_of_ble_eq_true rfl⟩
/-! java/util/ArrayList <init> -/
abbrev cJ2_init : ByteArray := prog_38_method_2_code
def yJ2_init : MethodName := ⟨RJ2, "<init>", "()V"⟩
def dkwJ2_init_0 : List UInt8 := [42, 183, 0, 1, 42, 178, 0, 39, 181, 0, 9, 177]
abbrev dktJ2_init_0 : List UInt8 := dkwJ2_init_0 ++ []
theorem dksJ2_init_0 : cJ2_init.data.toList.drop 0 = dktJ2_init_0 := by decide +kernel
theorem dJ2_init_0 : decode cJ2_init 0 = .ok (.aload_n 0, 1) := dk_42 (dk_at dksJ2_init_0 0 rfl rfl)
theorem dJ2_init_1 : decode cJ2_init 1 = .ok (.invokespecial 1, 3) := dk_183 0 1 (dk_at dksJ2_init_0 1 rfl rfl)
theorem dJ2_init_4 : decode cJ2_init 4 = .ok (.aload_n 0, 1) := dk_42 (dk_at dksJ2_init_0 4 rfl rfl)
theorem dJ2_init_5 : decode cJ2_init 5 = .ok (.getstatic 39, 3) := dk_178 0 39 (dk_at dksJ2_init_0 5 rfl rfl)
theorem dJ2_init_8 : decode cJ2_init 8 = .ok (.putfield 9, 3) := dk_181 0 9 (dk_at dksJ2_init_0 8 rfl rfl)
theorem dJ2_init_11 : decode cJ2_init 11 = .ok (.return_, 1) := dk_177 (dk_at dksJ2_init_0 11 rfl rfl)
abbrev mJ2_init : xM := (yJ2_init, cJ2_init, 1, none, [])
def c_J2_init (G : xG) (x0 : Option Nat) (T : xF) : Option (Unit × xF) :=
  if ¬ x0.isSome = true then none else
  cl (c_J1_init x0 T) T fun v1 T1 =>
  (pV T1 x0 10 1 (va_rf (gS G 0))).bind fun T8 =>
  some ((), T8)
theorem w_J2_init {G : xG}  {T : xF} {x0 : Option Nat} {q : (Unit × xF)} (hf : c_J2_init G x0 T = some q) : Ct G mJ2_init (3) T [va_rf x0] (.inl none) q.2 := by
  refine Ct.ofc (plainFor_of_name (by decide +kernel)) rfl (xvQ xvN) (Nat.le_of_ble_eq_true rfl) (show Xr G _ 0 [(0, va_rf x0)] [] _ from ?_)
  unfold c_J2_init at hf
  refine C.aload_n dJ2_init_0 rfl 0 rfl ?_
  obtain ⟨c1, hf⟩ := if_n hf
  obtain ⟨v1, T1, h1, hf, l1, r1⟩ := cl_ok hf
  refine C.Iv (As := []) (rest := []) dJ2_init_1 (w_J1_init h1) cJ2_1 (Classical.not_not.mp c1) rfl rfl (xcs xvN (Nat.le_of_ble_eq_true rfl)) (xD (Nat.le_of_ble_eq_true rfl)) l1 r1 ?_
  refine C.aload_n dJ2_init_4 rfl 0 rfl ?_
  refine X.gets dJ2_init_5 (i := 0) rfl q180 rfl ?_
  obtain ⟨T8, h8, hf⟩ := ob hf
  refine C.putQ dJ2_init_8 fJ2_9 (fun q => by cases q) rfl h8 ?_
  obtain rfl := Option.some.inj hf
  exact X.vret dJ2_init_11 rfl rfl
theorem cX1_54 : xCI RX1 54 mJ2_init 0 := ⟨⟨lw_meth q172, rfl, q125, q270, q171, rfl⟩, rfl, ⟨by decide +kernel, by decide +kernel, by decide +kernel⟩, Nat.le_of_ble_eq_true rfl⟩
theorem cX7_9 : xCI RX7 9 mJ2_init 0 := ⟨⟨lw_meth q172, rfl, q125, q1110, q171, rfl⟩, rfl, ⟨by decide +kernel, by decide +kernel, by decide +kernel⟩, Nat.le_of_ble_eq_true rfl⟩
theorem cX2_9 : xCI RX2 9 mJ2_init 0 := ⟨⟨lw_meth q172, rfl, q125, q170, q171, rfl⟩, rfl, ⟨by decide +kernel, by decide +kernel, by decide +kernel⟩, Nat.le_of_ble_eq_true rfl⟩
/-! MouldVotes trySowing -/
abbrev cX1_trySowing : ByteArray := prog_1_method_44_code
def yX1_trySowing : MethodName := ⟨RX1, "trySowing", "(II)V"⟩
def dkwX1_trySowing_1 : List UInt8 := [180, 0, 35, 180, 0, 155, 27, 4, 79, 177]
abbrev dktX1_trySowing_1 : List UInt8 := dkwX1_trySowing_1 ++ []
def dkwX1_trySowing_0 : List UInt8 := [42, 180, 0, 35, 42, 180, 0, 38, 182, 0, 213, 87, 42, 180, 0, 35, 180, 0, 96, 27, 28, 79, 42]
abbrev dktX1_trySowing_0 : List UInt8 := dkwX1_trySowing_0 ++ dktX1_trySowing_1
theorem dksX1_trySowing_0 : cX1_trySowing.data.toList.drop 0 = dktX1_trySowing_0 := by decide +kernel
theorem dksX1_trySowing_1 : cX1_trySowing.data.toList.drop 23 = dktX1_trySowing_1 := dk_seg dksX1_trySowing_0 23 rfl rfl
theorem dX1_trySowing_0 : decode cX1_trySowing 0 = .ok (.aload_n 0, 1) := dk_42 (dk_at dksX1_trySowing_0 0 rfl rfl)
theorem dX1_trySowing_1 : decode cX1_trySowing 1 = .ok (.getfield 35, 3) := dk_180 0 35 (dk_at dksX1_trySowing_0 1 rfl rfl)
theorem dX1_trySowing_4 : decode cX1_trySowing 4 = .ok (.aload_n 0, 1) := dk_42 (dk_at dksX1_trySowing_0 4 rfl rfl)
theorem dX1_trySowing_5 : decode cX1_trySowing 5 = .ok (.getfield 38, 3) := dk_180 0 38 (dk_at dksX1_trySowing_0 5 rfl rfl)
theorem dX1_trySowing_8 : decode cX1_trySowing 8 = .ok (.invokevirtual 213, 3) := dk_182 0 213 (dk_at dksX1_trySowing_0 8 rfl rfl)
theorem dX1_trySowing_11 : decode cX1_trySowing 11 = .ok (.pop, 1) := dk_87 (dk_at dksX1_trySowing_0 11 rfl rfl)
theorem dX1_trySowing_12 : decode cX1_trySowing 12 = .ok (.aload_n 0, 1) := dk_42 (dk_at dksX1_trySowing_0 12 rfl rfl)
theorem dX1_trySowing_13 : decode cX1_trySowing 13 = .ok (.getfield 35, 3) := dk_180 0 35 (dk_at dksX1_trySowing_0 13 rfl rfl)
theorem dX1_trySowing_16 : decode cX1_trySowing 16 = .ok (.getfield 96, 3) := dk_180 0 96 (dk_at dksX1_trySowing_0 16 rfl rfl)
theorem dX1_trySowing_19 : decode cX1_trySowing 19 = .ok (.iload_n 1, 1) := dk_27 (dk_at dksX1_trySowing_0 19 rfl rfl)
theorem dX1_trySowing_20 : decode cX1_trySowing 20 = .ok (.iload_n 2, 1) := dk_28 (dk_at dksX1_trySowing_0 20 rfl rfl)
theorem dX1_trySowing_21 : decode cX1_trySowing 21 = .ok (.iastore, 1) := dk_79 (dk_at dksX1_trySowing_0 21 rfl rfl)
theorem dX1_trySowing_22 : decode cX1_trySowing 22 = .ok (.aload_n 0, 1) := dk_42 (dk_at dksX1_trySowing_0 22 rfl rfl)
theorem dX1_trySowing_23 : decode cX1_trySowing 23 = .ok (.getfield 35, 3) := dk_180 0 35 (dk_at dksX1_trySowing_1 0 rfl rfl)
theorem dX1_trySowing_26 : decode cX1_trySowing 26 = .ok (.getfield 155, 3) := dk_180 0 155 (dk_at dksX1_trySowing_1 3 rfl rfl)
theorem dX1_trySowing_29 : decode cX1_trySowing 29 = .ok (.iload_n 1, 1) := dk_27 (dk_at dksX1_trySowing_1 6 rfl rfl)
theorem dX1_trySowing_30 : decode cX1_trySowing 30 = .ok (.iconst 1, 1) := dk_4 (dk_at dksX1_trySowing_1 7 rfl rfl)
theorem dX1_trySowing_31 : decode cX1_trySowing 31 = .ok (.iastore, 1) := dk_79 (dk_at dksX1_trySowing_1 8 rfl rfl)
theorem dX1_trySowing_32 : decode cX1_trySowing 32 = .ok (.return_, 1) := dk_177 (dk_at dksX1_trySowing_1 9 rfl rfl)
abbrev mX1_trySowing : xM := (yX1_trySowing, cX1_trySowing, 3, none, [])
def c_X1_trySowing (x0 : Option Nat) (x1 : Int32) (x2 : Int32) (T : xF) : Option (Unit × xF) :=
  (oQ T x0 0 3).bind fun v1 =>
  (oQ T x0 0 4).bind fun v5 =>
  if ¬ isO T v1 2 = true then none else
  cl (c_X3_be v1 v5 T) T fun v8 T8 =>
  (oQ T8 x0 0 3).bind fun v13 =>
  (oQ T8 v13 2 2).bind fun v16 =>
  (stA T8 v16 .int x1 x2).bind fun T21 =>
  (oQ T21 x0 0 3).bind fun v23 =>
  (oQ T21 v23 2 3).bind fun v26 =>
  (stA T21 v26 .int x1 (1 : Int32)).bind fun T31 =>
  some ((), T31)
theorem w_X1_trySowing {G : xG}  {T : xF} {x0 : Option Nat} {x1 : Int32} {x2 : Int32} {q : (Unit × xF)} (hf : c_X1_trySowing x0 x1 x2 T = some q) : Ct G mX1_trySowing (2) T [va_rf x0, .int x1, .int x2] (.inl none) q.2 := by
  refine Ct.ofc (plainFor_of_name (by decide +kernel)) rfl (xvQ (xvI (xvI xvN))) (Nat.le_of_ble_eq_true rfl) (show Xr G _ 0 [(0, va_rf x0), (1, .int x1), (2, .int x2)] [] _ from ?_)
  unfold c_X1_trySowing at hf
  refine C.aload_n dX1_trySowing_0 rfl 0 rfl ?_
  obtain ⟨v1, h1, hf⟩ := ob hf
  refine C.getQ dX1_trySowing_1 rX1_35 h1 ?_
  refine C.aload_n dX1_trySowing_4 rfl 0 rfl ?_
  obtain ⟨v5, h5, hf⟩ := ob hf
  refine C.getQ dX1_trySowing_5 rX1_38 h5 ?_
  obtain ⟨c8, hf⟩ := if_n hf
  obtain ⟨v8, T8, h8, hf, l8, r8⟩ := cl_ok hf
  refine C.Vq (As := [va_rf v5]) (rest := []) dX1_trySowing_8 (w_X3_be h8) cX1_213 (Classical.not_not.mp c8) rfl rfl (xcs xvN (Nat.le_of_ble_eq_true rfl)) rfl rfl (xD (Nat.le_of_ble_eq_true rfl)) l8 r8 ?_
  refine X.pop dX1_trySowing_11 (cat1 _) ?_
  refine C.aload_n dX1_trySowing_12 rfl 0 rfl ?_
  obtain ⟨v13, h13, hf⟩ := ob hf
  refine C.getQ dX1_trySowing_13 rX1_35 h13 ?_
  obtain ⟨v16, h16, hf⟩ := ob hf
  refine C.getQ dX1_trySowing_16 rX1_96 h16 ?_
  refine X.iload_n dX1_trySowing_19 rfl 1 rfl ?_
  refine X.iload_n dX1_trySowing_20 rfl 2 rfl ?_
  obtain ⟨T21, h21, hf⟩ := ob hf
  refine C.iast dX1_trySowing_21 h21 ?_
  refine C.aload_n dX1_trySowing_22 rfl 0 rfl ?_
  obtain ⟨v23, h23, hf⟩ := ob hf
  refine C.getQ dX1_trySowing_23 rX1_35 h23 ?_
  obtain ⟨v26, h26, hf⟩ := ob hf
  refine C.getQ dX1_trySowing_26 rX1_155 h26 ?_
  refine X.iload_n dX1_trySowing_29 rfl 1 rfl ?_
  refine X.iconst (v := 1) dX1_trySowing_30 (by decide) ?_
  obtain ⟨T31, h31, hf⟩ := ob hf
  refine C.iast dX1_trySowing_31 h31 ?_
  obtain rfl := Option.some.inj hf
  exact X.vret dX1_trySowing_32 rfl rfl
theorem cX1_260 : xCV RX1 260 mX1_trySowing 2 := ⟨lw_V q1444 q1446 qs46 q121 q1447, rfl, ⟨by decide +kernel, by decide +kernel, by decide +kernel⟩, Nat.le_of_ble_eq_true rfl⟩
/-! MouldVotes isSo -/
abbrev cX1_isSo : ByteArray := prog_1_method_43_code
def yX1_isSo : MethodName := ⟨RX1, "isSo", "()Z"⟩
def dkwX1_isSo_5 : List UInt8 := [180, 0, 35, 182, 0, 220, 87, 132, 2, 1, 167, 255, 175, 4, 172]
abbrev dktX1_isSo_5 : List UInt8 := dkwX1_isSo_5 ++ []
def dkwX1_isSo_4 : List UInt8 := [180, 0, 155, 25, 4, 3, 46, 46, 25, 4, 5, 46, 159, 0, 5, 3, 172, 132, 3, 1, 167, 255, 196, 42]
abbrev dktX1_isSo_4 : List UInt8 := dkwX1_isSo_4 ++ dktX1_isSo_5
def dkwX1_isSo_3 : List UInt8 := [185, 0, 167, 2, 0, 192, 1, 0, 58, 4, 25, 4, 4, 46, 28, 160, 0, 24, 42, 180, 0, 35]
abbrev dktX1_isSo_3 : List UInt8 := dkwX1_isSo_3 ++ dktX1_isSo_4
def dkwX1_isSo_2 : List UInt8 := [163, 0, 82, 3, 62, 29, 42, 180, 0, 59, 185, 0, 104, 1, 0, 162, 0, 53, 42, 180, 0, 59, 29]
abbrev dktX1_isSo_2 : List UInt8 := dkwX1_isSo_2 ++ dktX1_isSo_3
def dkwX1_isSo_1 : List UInt8 := [185, 0, 167, 2, 0, 192, 1, 0, 4, 46, 184, 1, 1, 60, 132, 2, 1, 167, 255, 220, 3, 61, 28, 27]
abbrev dktX1_isSo_1 : List UInt8 := dkwX1_isSo_1 ++ dktX1_isSo_2
def dkwX1_isSo_0 : List UInt8 := [3, 60, 3, 61, 28, 42, 180, 0, 59, 185, 0, 104, 1, 0, 162, 0, 29, 27, 42, 180, 0, 59, 28]
abbrev dktX1_isSo_0 : List UInt8 := dkwX1_isSo_0 ++ dktX1_isSo_1
theorem dksX1_isSo_0 : cX1_isSo.data.toList.drop 0 = dktX1_isSo_0 := by decide +kernel
theorem dksX1_isSo_1 : cX1_isSo.data.toList.drop 23 = dktX1_isSo_1 := dk_seg dksX1_isSo_0 23 rfl rfl
theorem dksX1_isSo_2 : cX1_isSo.data.toList.drop 47 = dktX1_isSo_2 := dk_seg dksX1_isSo_1 24 rfl rfl
theorem dksX1_isSo_3 : cX1_isSo.data.toList.drop 70 = dktX1_isSo_3 := dk_seg dksX1_isSo_2 23 rfl rfl
theorem dksX1_isSo_4 : cX1_isSo.data.toList.drop 92 = dktX1_isSo_4 := dk_seg dksX1_isSo_3 22 rfl rfl
theorem dksX1_isSo_5 : cX1_isSo.data.toList.drop 116 = dktX1_isSo_5 := dk_seg dksX1_isSo_4 24 rfl rfl
theorem dX1_isSo_0 : decode cX1_isSo 0 = .ok (.iconst 0, 1) := dk_3 (dk_at dksX1_isSo_0 0 rfl rfl)
theorem dX1_isSo_1 : decode cX1_isSo 1 = .ok (.istore_n 1, 1) := dk_60 (dk_at dksX1_isSo_0 1 rfl rfl)
theorem dX1_isSo_2 : decode cX1_isSo 2 = .ok (.iconst 0, 1) := dk_3 (dk_at dksX1_isSo_0 2 rfl rfl)
theorem dX1_isSo_3 : decode cX1_isSo 3 = .ok (.istore_n 2, 1) := dk_61 (dk_at dksX1_isSo_0 3 rfl rfl)
theorem dX1_isSo_4 : decode cX1_isSo 4 = .ok (.iload_n 2, 1) := dk_28 (dk_at dksX1_isSo_0 4 rfl rfl)
theorem dX1_isSo_5 : decode cX1_isSo 5 = .ok (.aload_n 0, 1) := dk_42 (dk_at dksX1_isSo_0 5 rfl rfl)
theorem dX1_isSo_6 : decode cX1_isSo 6 = .ok (.getfield 59, 3) := dk_180 0 59 (dk_at dksX1_isSo_0 6 rfl rfl)
theorem dX1_isSo_9 : decode cX1_isSo 9 = .ok (.invokeinterface 104 1, 5) := by decide +kernel
theorem dX1_isSo_14 : decode cX1_isSo 14 = .ok (.if_icmp .ge 29, 3) := dk_162 0 29 (dk_at dksX1_isSo_0 14 rfl rfl)
theorem dX1_isSo_17 : decode cX1_isSo 17 = .ok (.iload_n 1, 1) := dk_27 (dk_at dksX1_isSo_0 17 rfl rfl)
theorem dX1_isSo_18 : decode cX1_isSo 18 = .ok (.aload_n 0, 1) := dk_42 (dk_at dksX1_isSo_0 18 rfl rfl)
theorem dX1_isSo_19 : decode cX1_isSo 19 = .ok (.getfield 59, 3) := dk_180 0 59 (dk_at dksX1_isSo_0 19 rfl rfl)
theorem dX1_isSo_22 : decode cX1_isSo 22 = .ok (.iload_n 2, 1) := dk_28 (dk_at dksX1_isSo_0 22 rfl rfl)
theorem dX1_isSo_23 : decode cX1_isSo 23 = .ok (.invokeinterface 167 2, 5) := by decide +kernel
theorem dX1_isSo_28 : decode cX1_isSo 28 = .ok (.checkcast 256, 3) := dk_192 1 0 (dk_at dksX1_isSo_1 5 rfl rfl)
theorem dX1_isSo_31 : decode cX1_isSo 31 = .ok (.iconst 1, 1) := dk_4 (dk_at dksX1_isSo_1 8 rfl rfl)
theorem dX1_isSo_32 : decode cX1_isSo 32 = .ok (.iaload, 1) := dk_46 (dk_at dksX1_isSo_1 9 rfl rfl)
theorem dX1_isSo_33 : decode cX1_isSo 33 = .ok (.invokestatic 257, 3) := dk_184 1 1 (dk_at dksX1_isSo_1 10 rfl rfl)
theorem dX1_isSo_36 : decode cX1_isSo 36 = .ok (.istore_n 1, 1) := dk_60 (dk_at dksX1_isSo_1 13 rfl rfl)
theorem dX1_isSo_37 : decode cX1_isSo 37 = .ok (.iinc 2 1, 3) := dk_132 2 1 (dk_at dksX1_isSo_1 14 rfl rfl)
theorem dX1_isSo_40 : decode cX1_isSo 40 = .ok (.goto (-36), 3) := dk_167 255 220 (dk_at dksX1_isSo_1 17 rfl rfl)
theorem dX1_isSo_43 : decode cX1_isSo 43 = .ok (.iconst 0, 1) := dk_3 (dk_at dksX1_isSo_1 20 rfl rfl)
theorem dX1_isSo_44 : decode cX1_isSo 44 = .ok (.istore_n 2, 1) := dk_61 (dk_at dksX1_isSo_1 21 rfl rfl)
theorem dX1_isSo_45 : decode cX1_isSo 45 = .ok (.iload_n 2, 1) := dk_28 (dk_at dksX1_isSo_1 22 rfl rfl)
theorem dX1_isSo_46 : decode cX1_isSo 46 = .ok (.iload_n 1, 1) := dk_27 (dk_at dksX1_isSo_1 23 rfl rfl)
theorem dX1_isSo_47 : decode cX1_isSo 47 = .ok (.if_icmp .gt 82, 3) := dk_163 0 82 (dk_at dksX1_isSo_2 0 rfl rfl)
theorem dX1_isSo_50 : decode cX1_isSo 50 = .ok (.iconst 0, 1) := dk_3 (dk_at dksX1_isSo_2 3 rfl rfl)
theorem dX1_isSo_51 : decode cX1_isSo 51 = .ok (.istore_n 3, 1) := dk_62 (dk_at dksX1_isSo_2 4 rfl rfl)
theorem dX1_isSo_52 : decode cX1_isSo 52 = .ok (.iload_n 3, 1) := dk_29 (dk_at dksX1_isSo_2 5 rfl rfl)
theorem dX1_isSo_53 : decode cX1_isSo 53 = .ok (.aload_n 0, 1) := dk_42 (dk_at dksX1_isSo_2 6 rfl rfl)
theorem dX1_isSo_54 : decode cX1_isSo 54 = .ok (.getfield 59, 3) := dk_180 0 59 (dk_at dksX1_isSo_2 7 rfl rfl)
theorem dX1_isSo_57 : decode cX1_isSo 57 = .ok (.invokeinterface 104 1, 5) := by decide +kernel
theorem dX1_isSo_62 : decode cX1_isSo 62 = .ok (.if_icmp .ge 53, 3) := dk_162 0 53 (dk_at dksX1_isSo_2 15 rfl rfl)
theorem dX1_isSo_65 : decode cX1_isSo 65 = .ok (.aload_n 0, 1) := dk_42 (dk_at dksX1_isSo_2 18 rfl rfl)
theorem dX1_isSo_66 : decode cX1_isSo 66 = .ok (.getfield 59, 3) := dk_180 0 59 (dk_at dksX1_isSo_2 19 rfl rfl)
theorem dX1_isSo_69 : decode cX1_isSo 69 = .ok (.iload_n 3, 1) := dk_29 (dk_at dksX1_isSo_2 22 rfl rfl)
theorem dX1_isSo_70 : decode cX1_isSo 70 = .ok (.invokeinterface 167 2, 5) := by decide +kernel
theorem dX1_isSo_75 : decode cX1_isSo 75 = .ok (.checkcast 256, 3) := dk_192 1 0 (dk_at dksX1_isSo_3 5 rfl rfl)
theorem dX1_isSo_78 : decode cX1_isSo 78 = .ok (.astore 4, 2) := dk_58 4 (dk_at dksX1_isSo_3 8 rfl rfl)
theorem dX1_isSo_80 : decode cX1_isSo 80 = .ok (.aload 4, 2) := dk_25 4 (dk_at dksX1_isSo_3 10 rfl rfl)
theorem dX1_isSo_82 : decode cX1_isSo 82 = .ok (.iconst 1, 1) := dk_4 (dk_at dksX1_isSo_3 12 rfl rfl)
theorem dX1_isSo_83 : decode cX1_isSo 83 = .ok (.iaload, 1) := dk_46 (dk_at dksX1_isSo_3 13 rfl rfl)
theorem dX1_isSo_84 : decode cX1_isSo 84 = .ok (.iload_n 2, 1) := dk_28 (dk_at dksX1_isSo_3 14 rfl rfl)
theorem dX1_isSo_85 : decode cX1_isSo 85 = .ok (.if_icmp .ne 24, 3) := dk_160 0 24 (dk_at dksX1_isSo_3 15 rfl rfl)
theorem dX1_isSo_88 : decode cX1_isSo 88 = .ok (.aload_n 0, 1) := dk_42 (dk_at dksX1_isSo_3 18 rfl rfl)
theorem dX1_isSo_89 : decode cX1_isSo 89 = .ok (.getfield 35, 3) := dk_180 0 35 (dk_at dksX1_isSo_3 19 rfl rfl)
theorem dX1_isSo_92 : decode cX1_isSo 92 = .ok (.getfield 155, 3) := dk_180 0 155 (dk_at dksX1_isSo_4 0 rfl rfl)
theorem dX1_isSo_95 : decode cX1_isSo 95 = .ok (.aload 4, 2) := dk_25 4 (dk_at dksX1_isSo_4 3 rfl rfl)
theorem dX1_isSo_97 : decode cX1_isSo 97 = .ok (.iconst 0, 1) := dk_3 (dk_at dksX1_isSo_4 5 rfl rfl)
theorem dX1_isSo_98 : decode cX1_isSo 98 = .ok (.iaload, 1) := dk_46 (dk_at dksX1_isSo_4 6 rfl rfl)
theorem dX1_isSo_99 : decode cX1_isSo 99 = .ok (.iaload, 1) := dk_46 (dk_at dksX1_isSo_4 7 rfl rfl)
theorem dX1_isSo_100 : decode cX1_isSo 100 = .ok (.aload 4, 2) := dk_25 4 (dk_at dksX1_isSo_4 8 rfl rfl)
theorem dX1_isSo_102 : decode cX1_isSo 102 = .ok (.iconst 2, 1) := dk_5 (dk_at dksX1_isSo_4 10 rfl rfl)
theorem dX1_isSo_103 : decode cX1_isSo 103 = .ok (.iaload, 1) := dk_46 (dk_at dksX1_isSo_4 11 rfl rfl)
theorem dX1_isSo_104 : decode cX1_isSo 104 = .ok (.if_icmp .eq 5, 3) := dk_159 0 5 (dk_at dksX1_isSo_4 12 rfl rfl)
theorem dX1_isSo_107 : decode cX1_isSo 107 = .ok (.iconst 0, 1) := dk_3 (dk_at dksX1_isSo_4 15 rfl rfl)
theorem dX1_isSo_108 : decode cX1_isSo 108 = .ok (.ireturn, 1) := dk_172 (dk_at dksX1_isSo_4 16 rfl rfl)
theorem dX1_isSo_109 : decode cX1_isSo 109 = .ok (.iinc 3 1, 3) := dk_132 3 1 (dk_at dksX1_isSo_4 17 rfl rfl)
theorem dX1_isSo_112 : decode cX1_isSo 112 = .ok (.goto (-60), 3) := dk_167 255 196 (dk_at dksX1_isSo_4 20 rfl rfl)
theorem dX1_isSo_115 : decode cX1_isSo 115 = .ok (.aload_n 0, 1) := dk_42 (dk_at dksX1_isSo_4 23 rfl rfl)
theorem dX1_isSo_116 : decode cX1_isSo 116 = .ok (.getfield 35, 3) := dk_180 0 35 (dk_at dksX1_isSo_5 0 rfl rfl)
theorem dX1_isSo_119 : decode cX1_isSo 119 = .ok (.invokevirtual 220, 3) := dk_182 0 220 (dk_at dksX1_isSo_5 3 rfl rfl)
theorem dX1_isSo_122 : decode cX1_isSo 122 = .ok (.pop, 1) := dk_87 (dk_at dksX1_isSo_5 6 rfl rfl)
theorem dX1_isSo_123 : decode cX1_isSo 123 = .ok (.iinc 2 1, 3) := dk_132 2 1 (dk_at dksX1_isSo_5 7 rfl rfl)
theorem dX1_isSo_126 : decode cX1_isSo 126 = .ok (.goto (-81), 3) := dk_167 255 175 (dk_at dksX1_isSo_5 10 rfl rfl)
theorem dX1_isSo_129 : decode cX1_isSo 129 = .ok (.iconst 1, 1) := dk_4 (dk_at dksX1_isSo_5 13 rfl rfl)
theorem dX1_isSo_130 : decode cX1_isSo 130 = .ok (.ireturn, 1) := dk_172 (dk_at dksX1_isSo_5 14 rfl rfl)
abbrev mX1_isSo : xM := (yX1_isSo, cX1_isSo, 5, (some .boolean), [])
def c_X1_isSo_109 (G : xG) (k45 : Option Nat → Int32 → Int32 → xF → Option (Int32 × xF)) (k52 : Option Nat → Int32 → Int32 → Int32 → xF → Option (Int32 × xF)) (x0 : Option Nat) (x1 : Int32) (x2 : Int32) (x3 : Int32) (T : xF) : Option (Int32 × xF) :=
  k52 x0 x1 x2 (x3 + 1) T
theorem c_X1_isSo_109_ok {G : xG}  {T0 : xF} {k45 : Option Nat → Int32 → Int32 → xF → Option (Int32 × xF)} {k52 : Option Nat → Int32 → Int32 → Int32 → xF → Option (Int32 × xF)} (hk45 : ∀ (x0 : Option Nat) (x1 : Int32) (x2 : Int32) (T : xF) (q : (Int32 × xF)), k45 x0 x1 x2 T = some q → Xr G (mX1_isSo, xrm (125) T0 q.2, T0, .inl (some (.int q.1)), q.2) 45 [(0, va_rf x0), (1, .int x1), (2, .int x2)] [] T) (hk52 : ∀ (x0 : Option Nat) (x1 : Int32) (x2 : Int32) (x3 : Int32) (T : xF) (q : (Int32 × xF)), k52 x0 x1 x2 x3 T = some q → Xr G (mX1_isSo, xrm (125) T0 q.2, T0, .inl (some (.int q.1)), q.2) 52 [(0, va_rf x0), (1, .int x1), (2, .int x2), (3, .int x3)] [] T) (x0 : Option Nat) (x1 : Int32) (x2 : Int32) (x3 : Int32) (T : xF) (q : (Int32 × xF)) (hf : c_X1_isSo_109 G k45 k52 x0 x1 x2 x3 T = some q) : Xr G (mX1_isSo, xrm (125) T0 q.2, T0, .inl (some (.int q.1)), q.2) 109 [(0, va_rf x0), (1, .int x1), (2, .int x2), (3, .int x3)] [] T := by
  unfold c_X1_isSo_109 at hf
  refine C.iinc (v := (x3 + 1)) (L' := [(3, .int (x3 + 1)), (0, va_rf x0), (1, .int x1), (2, .int x2)]) dX1_isSo_109 3 rfl rfl (Nat.le_of_ble_eq_true rfl) (xcQ (xcI (xcI (xcI xcN)))) rfl ?_
  refine X.goto (tgt := 52) dX1_isSo_112 (by decide) ?_
  refine X.sub [1, 2, 3, 0] (L' := [(0, va_rf x0), (1, .int x1), (2, .int x2), (3, .int (x3 + 1))]) rfl ?_
  exact hk52 _ _ _ _ _ _ hf
def c_X1_isSo_52_b (G : xG) (k45 : Option Nat → Int32 → Int32 → xF → Option (Int32 × xF)) (k52 : Option Nat → Int32 → Int32 → Int32 → xF → Option (Int32 × xF)) (x0 : Option Nat) (x1 : Int32) (x2 : Int32) (x3 : Int32) (T : xF) : Option (Int32 × xF) :=
  (oQ T x0 0 10).bind fun v54 =>
  if ¬ isO T v54 10 = true then none else
  (c_J2_size T v54).bind fun v57 =>
  if v57 ≤ x3 then
    (oQ T x0 0 3).bind fun v116 =>
    if ¬ isO T v116 2 = true then none else
    cl (c_X3_pass G v116 T) T fun v119 T119 =>
    k45 x0 x1 (x2 + 1) T119
  else
    (oQ T x0 0 10).bind fun v66 =>
    if ¬ isO T v66 10 = true then none else
    (c_J2_get T v66 x3).bind fun v70 =>
    if ¬ cstI T v70 = true then none else
    (ldA T v70 .int (1 : Int32)).bind fun v83 =>
    if v83 = x2 then
      (oQ T x0 0 3).bind fun v89 =>
      (oQ T v89 2 3).bind fun v92 =>
      (ldA T v70 .int (0 : Int32)).bind fun v98 =>
      (ldA T v92 .int v98).bind fun v99 =>
      (ldA T v70 .int (2 : Int32)).bind fun v103 =>
      if v99 = v103 then
        c_X1_isSo_109 G k45 k52 x0 x1 x2 x3 T
      else
        some ((0 : Int32), T)
    else
      c_X1_isSo_109 G k45 k52 x0 x1 x2 x3 T
def c_X1_isSo_52 (G : xG) (k45 : Option Nat → Int32 → Int32 → xF → Option (Int32 × xF)) : Nat → Option Nat → Int32 → Int32 → Int32 → xF → Option (Int32 × xF)
  | 0 => fun _ _ _ _ _ => none
  | n + 1 => fun x0 x1 x2 x3 T => c_X1_isSo_52_b G k45 (c_X1_isSo_52 G k45 n) x0 x1 x2 x3 T
theorem c_X1_isSo_52_bok {G : xG}  {T0 : xF} {k45 : Option Nat → Int32 → Int32 → xF → Option (Int32 × xF)} {k52 : Option Nat → Int32 → Int32 → Int32 → xF → Option (Int32 × xF)} (hk45 : ∀ (x0 : Option Nat) (x1 : Int32) (x2 : Int32) (T : xF) (q : (Int32 × xF)), k45 x0 x1 x2 T = some q → Xr G (mX1_isSo, xrm (125) T0 q.2, T0, .inl (some (.int q.1)), q.2) 45 [(0, va_rf x0), (1, .int x1), (2, .int x2)] [] T) (hk52 : ∀ (x0 : Option Nat) (x1 : Int32) (x2 : Int32) (x3 : Int32) (T : xF) (q : (Int32 × xF)), k52 x0 x1 x2 x3 T = some q → Xr G (mX1_isSo, xrm (125) T0 q.2, T0, .inl (some (.int q.1)), q.2) 52 [(0, va_rf x0), (1, .int x1), (2, .int x2), (3, .int x3)] [] T) (x0 : Option Nat) (x1 : Int32) (x2 : Int32) (x3 : Int32) (T : xF) (q : (Int32 × xF)) (hf : c_X1_isSo_52_b G k45 k52 x0 x1 x2 x3 T = some q) : Xr G (mX1_isSo, xrm (125) T0 q.2, T0, .inl (some (.int q.1)), q.2) 52 [(0, va_rf x0), (1, .int x1), (2, .int x2), (3, .int x3)] [] T := by
  unfold c_X1_isSo_52_b at hf
  refine X.iload_n dX1_isSo_52 rfl 3 rfl ?_
  refine C.aload_n dX1_isSo_53 rfl 0 rfl ?_
  obtain ⟨v54, h54, hf⟩ := ob hf
  refine C.getQ dX1_isSo_54 rX1_59 h54 ?_
  obtain ⟨c57, hf⟩ := if_n hf
  obtain ⟨v57, h57, hf⟩ := ob hf
  refine X.keep fun l57 => C.Fi (As := []) (rest := [.int x3]) dX1_isSo_57 (w_J2_size h57) cX1_104 (Classical.not_not.mp c57) rfl rfl (xcs (xvI xvN) (Nat.le_of_ble_eq_true rfl)) rfl rfl (xD (Nat.le_of_ble_eq_true rfl)) xle.rf l57 ?_
  refine X.icmp_ge (tgt := 115) dX1_isSo_62 (by decide) (fun c62 => ?_) (fun c62 => ?_)
  · have hf := if_t c62 hf
    refine C.aload_n dX1_isSo_115 rfl 0 rfl ?_
    obtain ⟨v116, h116, hf⟩ := ob hf
    refine C.getQ dX1_isSo_116 rX1_35 h116 ?_
    obtain ⟨c119, hf⟩ := if_n hf
    obtain ⟨v119, T119, h119, hf, l119, r119⟩ := cl_ok hf
    refine C.Vq (As := []) (rest := []) dX1_isSo_119 (w_X3_pass h119) cX1_220 (Classical.not_not.mp c119) rfl rfl (xcs xvN (Nat.le_of_ble_eq_true rfl)) rfl rfl (xD (Nat.le_of_ble_eq_true rfl)) l119 r119 ?_
    refine X.pop dX1_isSo_122 (cat1 _) ?_
    refine C.iinc (v := (x2 + 1)) (L' := [(2, .int (x2 + 1)), (0, va_rf x0), (1, .int x1), (3, .int x3)]) dX1_isSo_123 2 rfl rfl (Nat.le_of_ble_eq_true rfl) (xcQ (xcI (xcI (xcI xcN)))) rfl ?_
    refine X.goto (tgt := 45) dX1_isSo_126 (by decide) ?_
    refine X.sub [1, 2, 0] (L' := [(0, va_rf x0), (1, .int x1), (2, .int (x2 + 1))]) rfl ?_
    exact hk45 _ _ _ _ _ hf
  · have hf := if_f c62 hf
    refine C.aload_n dX1_isSo_65 rfl 0 rfl ?_
    obtain ⟨v66, h66, hf⟩ := ob hf
    refine C.getQ dX1_isSo_66 rX1_59 h66 ?_
    refine X.iload_n dX1_isSo_69 rfl 3 rfl ?_
    obtain ⟨c70, hf⟩ := if_n hf
    obtain ⟨v70, h70, hf⟩ := ob hf
    refine X.keep fun l70 => C.Fq (As := [.int x3]) (rest := []) dX1_isSo_70 (w_J2_get h70) cX1_167 (Classical.not_not.mp c70) rfl rfl (xcs xvN (Nat.le_of_ble_eq_true rfl)) rfl rfl (xD (Nat.le_of_ble_eq_true rfl)) xle.rf l70 ?_
    obtain ⟨c75, hf⟩ := if_n hf
    refine C.castI dX1_isSo_75 q1438 (Classical.not_not.mp c75) ?_
    refine C.ast (L' := [(4, va_rf v70), (0, va_rf x0), (1, .int x1), (2, .int x2), (3, .int x3)]) dX1_isSo_78 (Nat.le_of_ble_eq_true rfl) (xcQ (xcI (xcI (xcI xcN)))) rfl ?_
    refine C.aload dX1_isSo_80 0 rfl ?_
    refine X.iconst (v := 1) dX1_isSo_82 (by decide) ?_
    obtain ⟨v83, h83, hf⟩ := ob hf
    refine C.iald dX1_isSo_83 h83 ?_
    refine X.iload_n dX1_isSo_84 rfl 3 rfl ?_
    refine X.icmp_ne (tgt := 109) dX1_isSo_85 (by decide) (fun c85 => ?_) (fun c85 => ?_)
    · have hf := if_f c85 hf
      refine X.sub [1, 2, 3, 4] (L' := [(0, va_rf x0), (1, .int x1), (2, .int x2), (3, .int x3)]) rfl ?_
      exact c_X1_isSo_109_ok hk45 hk52 _ _ _ _ _ _ hf
    · have hf := if_t c85 hf
      refine C.aload_n dX1_isSo_88 rfl 1 rfl ?_
      obtain ⟨v89, h89, hf⟩ := ob hf
      refine C.getQ dX1_isSo_89 rX1_35 h89 ?_
      obtain ⟨v92, h92, hf⟩ := ob hf
      refine C.getQ dX1_isSo_92 rX1_155 h92 ?_
      refine C.aload dX1_isSo_95 0 rfl ?_
      refine X.iconst (v := 0) dX1_isSo_97 (by decide) ?_
      obtain ⟨v98, h98, hf⟩ := ob hf
      refine C.iald dX1_isSo_98 h98 ?_
      obtain ⟨v99, h99, hf⟩ := ob hf
      refine C.iald dX1_isSo_99 h99 ?_
      refine C.aload dX1_isSo_100 0 rfl ?_
      refine X.iconst (v := 2) dX1_isSo_102 (by decide) ?_
      obtain ⟨v103, h103, hf⟩ := ob hf
      refine C.iald dX1_isSo_103 h103 ?_
      refine X.icmp_eq (tgt := 109) dX1_isSo_104 (by decide) (fun c104 => ?_) (fun c104 => ?_)
      · have hf := if_t c104 hf
        refine X.sub [1, 2, 3, 4] (L' := [(0, va_rf x0), (1, .int x1), (2, .int x2), (3, .int x3)]) rfl ?_
        exact c_X1_isSo_109_ok hk45 hk52 _ _ _ _ _ _ hf
      · have hf := if_f c104 hf
        refine X.iconst (v := 0) dX1_isSo_107 (by decide) ?_
        obtain rfl := Option.some.inj hf
        exact X.iret dX1_isSo_108 rfl rfl rfl
theorem c_X1_isSo_52_ok {G : xG}  {T0 : xF} {k45 : Option Nat → Int32 → Int32 → xF → Option (Int32 × xF)} (hk45 : ∀ (x0 : Option Nat) (x1 : Int32) (x2 : Int32) (T : xF) (q : (Int32 × xF)), k45 x0 x1 x2 T = some q → Xr G (mX1_isSo, xrm (125) T0 q.2, T0, .inl (some (.int q.1)), q.2) 45 [(0, va_rf x0), (1, .int x1), (2, .int x2)] [] T) : ∀ (n : Nat) (x0 : Option Nat) (x1 : Int32) (x2 : Int32) (x3 : Int32) (T : xF) (q : (Int32 × xF)), c_X1_isSo_52 G k45 n x0 x1 x2 x3 T = some q → Xr G (mX1_isSo, xrm (125) T0 q.2, T0, .inl (some (.int q.1)), q.2) 52 [(0, va_rf x0), (1, .int x1), (2, .int x2), (3, .int x3)] [] T
  | 0, _, _, _, _, _, _, hf => by cases hf
  | n + 1, x0, x1, x2, x3, T, q, hf => c_X1_isSo_52_bok hk45 (c_X1_isSo_52_ok hk45 n) x0 x1 x2 x3 T q hf
def c_X1_isSo_45_b (G : xG) (k45 : Option Nat → Int32 → Int32 → xF → Option (Int32 × xF)) (x0 : Option Nat) (x1 : Int32) (x2 : Int32) (T : xF) : Option (Int32 × xF) :=
  if x1 < x2 then
    some ((1 : Int32), T)
  else
    c_X1_isSo_52 G k45 FU x0 x1 x2 (0 : Int32) T
def c_X1_isSo_45 (G : xG) : Nat → Option Nat → Int32 → Int32 → xF → Option (Int32 × xF)
  | 0 => fun _ _ _ _ => none
  | n + 1 => fun x0 x1 x2 T => c_X1_isSo_45_b G (c_X1_isSo_45 G n) x0 x1 x2 T
theorem c_X1_isSo_45_bok {G : xG}  {T0 : xF}  {k45 : Option Nat → Int32 → Int32 → xF → Option (Int32 × xF)}  (hk45 : ∀ (x0 : Option Nat) (x1 : Int32) (x2 : Int32) (T : xF) (q : (Int32 × xF)), k45 x0 x1 x2 T = some q → Xr G (mX1_isSo, xrm (125) T0 q.2, T0, .inl (some (.int q.1)), q.2) 45 [(0, va_rf x0), (1, .int x1), (2, .int x2)] [] T) (x0 : Option Nat) (x1 : Int32) (x2 : Int32) (T : xF) (q : (Int32 × xF)) (hf : c_X1_isSo_45_b G k45 x0 x1 x2 T = some q) : Xr G (mX1_isSo, xrm (125) T0 q.2, T0, .inl (some (.int q.1)), q.2) 45 [(0, va_rf x0), (1, .int x1), (2, .int x2)] [] T := by
  unfold c_X1_isSo_45_b at hf
  refine X.iload_n dX1_isSo_45 rfl 2 rfl ?_
  refine X.iload_n dX1_isSo_46 rfl 1 rfl ?_
  refine X.icmp_gt (tgt := 129) dX1_isSo_47 (by decide) (fun c47 => ?_) (fun c47 => ?_)
  · have hf := if_t c47 hf
    refine X.iconst (v := 1) dX1_isSo_129 (by decide) ?_
    obtain rfl := Option.some.inj hf
    exact X.iret dX1_isSo_130 rfl rfl rfl
  · have hf := if_f c47 hf
    refine X.iconst (v := 0) dX1_isSo_50 (by decide) ?_
    refine C.ist_n (L' := [(3, .int (0 : Int32)), (0, va_rf x0), (1, .int x1), (2, .int x2)]) dX1_isSo_51 rfl (Nat.le_of_ble_eq_true rfl) (xcQ (xcI (xcI xcN))) rfl ?_
    refine X.sub [1, 2, 3, 0] (L' := [(0, va_rf x0), (1, .int x1), (2, .int x2), (3, .int (0 : Int32))]) rfl ?_
    exact c_X1_isSo_52_ok hk45 FU _ _ _ _ _ _ hf
theorem c_X1_isSo_45_ok {G : xG}  {T0 : xF}   : ∀ (n : Nat) (x0 : Option Nat) (x1 : Int32) (x2 : Int32) (T : xF) (q : (Int32 × xF)), c_X1_isSo_45 G n x0 x1 x2 T = some q → Xr G (mX1_isSo, xrm (125) T0 q.2, T0, .inl (some (.int q.1)), q.2) 45 [(0, va_rf x0), (1, .int x1), (2, .int x2)] [] T
  | 0, _, _, _, _, _, hf => by cases hf
  | n + 1, x0, x1, x2, T, q, hf => c_X1_isSo_45_bok (c_X1_isSo_45_ok n) x0 x1 x2 T q hf
def c_X1_isSo_4_b (G : xG) (k4 : Option Nat → Int32 → Int32 → xF → Option (Int32 × xF)) (x0 : Option Nat) (x1 : Int32) (x2 : Int32) (T : xF) : Option (Int32 × xF) :=
  (oQ T x0 0 10).bind fun v6 =>
  if ¬ isO T v6 10 = true then none else
  (c_J2_size T v6).bind fun v9 =>
  if v9 ≤ x2 then
    c_X1_isSo_45 G FU x0 x1 (0 : Int32) T
  else
    (oQ T x0 0 10).bind fun v19 =>
    if ¬ isO T v19 10 = true then none else
    (c_J2_get T v19 x2).bind fun v23 =>
    if ¬ cstI T v23 = true then none else
    (ldA T v23 .int (1 : Int32)).bind fun v32 =>
    (c_J7_max x1 v32).bind fun v33 =>
    k4 x0 v33 (x2 + 1) T
def c_X1_isSo_4 (G : xG) : Nat → Option Nat → Int32 → Int32 → xF → Option (Int32 × xF)
  | 0 => fun _ _ _ _ => none
  | n + 1 => fun x0 x1 x2 T => c_X1_isSo_4_b G (c_X1_isSo_4 G n) x0 x1 x2 T
theorem c_X1_isSo_4_bok {G : xG}  {T0 : xF}  {k4 : Option Nat → Int32 → Int32 → xF → Option (Int32 × xF)}  (hk4 : ∀ (x0 : Option Nat) (x1 : Int32) (x2 : Int32) (T : xF) (q : (Int32 × xF)), k4 x0 x1 x2 T = some q → Xr G (mX1_isSo, xrm (125) T0 q.2, T0, .inl (some (.int q.1)), q.2) 4 [(0, va_rf x0), (1, .int x1), (2, .int x2)] [] T) (x0 : Option Nat) (x1 : Int32) (x2 : Int32) (T : xF) (q : (Int32 × xF)) (hf : c_X1_isSo_4_b G k4 x0 x1 x2 T = some q) : Xr G (mX1_isSo, xrm (125) T0 q.2, T0, .inl (some (.int q.1)), q.2) 4 [(0, va_rf x0), (1, .int x1), (2, .int x2)] [] T := by
  unfold c_X1_isSo_4_b at hf
  refine X.iload_n dX1_isSo_4 rfl 2 rfl ?_
  refine C.aload_n dX1_isSo_5 rfl 0 rfl ?_
  obtain ⟨v6, h6, hf⟩ := ob hf
  refine C.getQ dX1_isSo_6 rX1_59 h6 ?_
  obtain ⟨c9, hf⟩ := if_n hf
  obtain ⟨v9, h9, hf⟩ := ob hf
  refine X.keep fun l9 => C.Fi (As := []) (rest := [.int x2]) dX1_isSo_9 (w_J2_size h9) cX1_104 (Classical.not_not.mp c9) rfl rfl (xcs (xvI xvN) (Nat.le_of_ble_eq_true rfl)) rfl rfl (xD (Nat.le_of_ble_eq_true rfl)) xle.rf l9 ?_
  refine X.icmp_ge (tgt := 43) dX1_isSo_14 (by decide) (fun c14 => ?_) (fun c14 => ?_)
  · have hf := if_t c14 hf
    refine X.iconst (v := 0) dX1_isSo_43 (by decide) ?_
    refine C.ist_n (L' := [(2, .int (0 : Int32)), (0, va_rf x0), (1, .int x1)]) dX1_isSo_44 rfl (Nat.le_of_ble_eq_true rfl) (xcQ (xcI (xcI xcN))) rfl ?_
    refine X.sub [1, 2, 0] (L' := [(0, va_rf x0), (1, .int x1), (2, .int (0 : Int32))]) rfl ?_
    exact c_X1_isSo_45_ok FU _ _ _ _ _ hf
  · have hf := if_f c14 hf
    refine X.iload_n dX1_isSo_17 rfl 1 rfl ?_
    refine C.aload_n dX1_isSo_18 rfl 0 rfl ?_
    obtain ⟨v19, h19, hf⟩ := ob hf
    refine C.getQ dX1_isSo_19 rX1_59 h19 ?_
    refine X.iload_n dX1_isSo_22 rfl 2 rfl ?_
    obtain ⟨c23, hf⟩ := if_n hf
    obtain ⟨v23, h23, hf⟩ := ob hf
    refine X.keep fun l23 => C.Fq (As := [.int x2]) (rest := [.int x1]) dX1_isSo_23 (w_J2_get h23) cX1_167 (Classical.not_not.mp c23) rfl rfl (xcs (xvI xvN) (Nat.le_of_ble_eq_true rfl)) rfl rfl (xD (Nat.le_of_ble_eq_true rfl)) xle.rf l23 ?_
    obtain ⟨c28, hf⟩ := if_n hf
    refine C.castI dX1_isSo_28 q1438 (Classical.not_not.mp c28) ?_
    refine X.iconst (v := 1) dX1_isSo_31 (by decide) ?_
    obtain ⟨v32, h32, hf⟩ := ob hf
    refine C.iald dX1_isSo_32 h32 ?_
    obtain ⟨v33, h33, hf⟩ := ob hf
    refine X.keep fun l33 => C.Si (As := [.int x1, .int v32]) (rest := []) dX1_isSo_33 (w_J7_max h33) cX1_257 rfl rfl (xcs xvN (Nat.le_of_ble_eq_true rfl)) (xD (Nat.le_of_ble_eq_true rfl)) xle.rf l33 ?_
    refine C.ist_n (L' := [(1, .int v33), (0, va_rf x0), (2, .int x2)]) dX1_isSo_36 rfl (Nat.le_of_ble_eq_true rfl) (xcQ (xcI (xcI xcN))) rfl ?_
    refine C.iinc (v := (x2 + 1)) (L' := [(2, .int (x2 + 1)), (1, .int v33), (0, va_rf x0)]) dX1_isSo_37 2 rfl rfl (Nat.le_of_ble_eq_true rfl) (xcI (xcQ (xcI xcN))) rfl ?_
    refine X.goto (tgt := 4) dX1_isSo_40 (by decide) ?_
    refine X.sub [2, 1, 0] (L' := [(0, va_rf x0), (1, .int v33), (2, .int (x2 + 1))]) rfl ?_
    exact hk4 _ _ _ _ _ hf
theorem c_X1_isSo_4_ok {G : xG}  {T0 : xF}   : ∀ (n : Nat) (x0 : Option Nat) (x1 : Int32) (x2 : Int32) (T : xF) (q : (Int32 × xF)), c_X1_isSo_4 G n x0 x1 x2 T = some q → Xr G (mX1_isSo, xrm (125) T0 q.2, T0, .inl (some (.int q.1)), q.2) 4 [(0, va_rf x0), (1, .int x1), (2, .int x2)] [] T
  | 0, _, _, _, _, _, hf => by cases hf
  | n + 1, x0, x1, x2, T, q, hf => c_X1_isSo_4_bok (c_X1_isSo_4_ok n) x0 x1 x2 T q hf
def c_X1_isSo (G : xG) (x0 : Option Nat) (T : xF) : Option (Int32 × xF) :=
  c_X1_isSo_4 G FU x0 (0 : Int32) (0 : Int32) T
theorem w_X1_isSo {G : xG}  {T : xF} {x0 : Option Nat} {q : (Int32 × xF)} (hf : c_X1_isSo G x0 T = some q) : Ct G mX1_isSo (125) T [va_rf x0] (.inl (some (.int q.1))) q.2 := by
  refine Ct.ofc (plainFor_of_name (by decide +kernel)) rfl (xvQ xvN) (Nat.le_of_ble_eq_true rfl) (show Xr G _ 0 [(0, va_rf x0)] [] _ from ?_)
  unfold c_X1_isSo at hf
  refine X.iconst (v := 0) dX1_isSo_0 (by decide) ?_
  refine C.ist_n (L' := [(1, .int (0 : Int32)), (0, va_rf x0)]) dX1_isSo_1 rfl (Nat.le_of_ble_eq_true rfl) (xcQ xcN) rfl ?_
  refine X.iconst (v := 0) dX1_isSo_2 (by decide) ?_
  refine C.ist_n (L' := [(2, .int (0 : Int32)), (1, .int (0 : Int32)), (0, va_rf x0)]) dX1_isSo_3 rfl (Nat.le_of_ble_eq_true rfl) (xcI (xcQ xcN)) rfl ?_
  refine X.sub [2, 1, 0] (L' := [(0, va_rf x0), (1, .int (0 : Int32)), (2, .int (0 : Int32))]) rfl ?_
  exact c_X1_isSo_4_ok FU _ _ _ _ _ hf
theorem cX1_263 : xCV RX1 263 mX1_isSo 0 := ⟨lw_V q1434 q1436 qs44 q121 q1437, rfl, ⟨by decide +kernel, by decide +kernel, by decide +kernel⟩, Nat.le_of_ble_eq_true rfl⟩
/-! java/lang/Number <init> -/
abbrev cJ13_init : ByteArray := prog_26_method_1_code
def yJ13_init : MethodName := ⟨RJ13, "<init>", "()V"⟩
theorem dJ13_init_0 : decode cJ13_init 0 = .ok (.aload_n 0, 1) := by decide +kernel
theorem dJ13_init_1 : decode cJ13_init 1 = .ok (.invokespecial 1, 3) := by decide +kernel
theorem dJ13_init_4 : decode cJ13_init 4 = .ok (.return_, 1) := by decide +kernel
abbrev mJ13_init : xM := (yJ13_init, cJ13_init, 1, none, [])
def c_J13_init (x0 : Option Nat) : Option Unit :=
  if ¬ x0.isSome = true then none else
  some ()
theorem w_J13_init {G : xG}  {T : xF} {x0 : Option Nat} {q : Unit} (hf : c_J13_init x0 = some q) : Ct G mJ13_init (1) T [va_rf x0] (.inl none) T := by
  refine Ct.ofc (plainFor_of_name (by decide +kernel)) rfl (xvQ xvN) (Nat.le_of_ble_eq_true rfl) (show Xr G _ 0 [(0, va_rf x0)] [] _ from ?_)
  unfold c_J13_init at hf
  refine C.aload_n dJ13_init_0 rfl 0 rfl ?_
  obtain ⟨c1, hf⟩ := if_n hf
  refine C.objI (Classical.not_not.mp c1) dJ13_init_1 q646 obj1 obj2 (xcs xvN (Nat.le_of_ble_eq_true rfl)) (xD1 (Nat.le_of_ble_eq_true rfl)) ?_
  obtain rfl := Option.some.inj hf
  exact X.vret dJ13_init_4 rfl rfl
theorem cJ14_202 : xCI RJ14 202 mJ13_init 0 := ⟨⟨lw_meth q645, rfl, q140, q643, q644, rfl⟩, rfl, ⟨by decide +kernel, by decide +kernel, by decide +kernel⟩, Nat.le_of_ble_eq_true rfl⟩
/-! java/lang/Integer <init> -/
abbrev cJ14_init : ByteArray := prog_22_method_23_code
def yJ14_init : MethodName := ⟨RJ14, "<init>", "(I)V"⟩
def dkwJ14_init_0 : List UInt8 := [42, 183, 0, 202, 42, 27, 181, 0, 205, 177]
abbrev dktJ14_init_0 : List UInt8 := dkwJ14_init_0 ++ []
theorem dksJ14_init_0 : cJ14_init.data.toList.drop 0 = dktJ14_init_0 := by decide +kernel
theorem dJ14_init_0 : decode cJ14_init 0 = .ok (.aload_n 0, 1) := dk_42 (dk_at dksJ14_init_0 0 rfl rfl)
theorem dJ14_init_1 : decode cJ14_init 1 = .ok (.invokespecial 202, 3) := dk_183 0 202 (dk_at dksJ14_init_0 1 rfl rfl)
theorem dJ14_init_4 : decode cJ14_init 4 = .ok (.aload_n 0, 1) := dk_42 (dk_at dksJ14_init_0 4 rfl rfl)
theorem dJ14_init_5 : decode cJ14_init 5 = .ok (.iload_n 1, 1) := dk_27 (dk_at dksJ14_init_0 5 rfl rfl)
theorem dJ14_init_6 : decode cJ14_init 6 = .ok (.putfield 205, 3) := dk_181 0 205 (dk_at dksJ14_init_0 6 rfl rfl)
theorem dJ14_init_9 : decode cJ14_init 9 = .ok (.return_, 1) := dk_177 (dk_at dksJ14_init_0 9 rfl rfl)
abbrev mJ14_init : xM := (yJ14_init, cJ14_init, 2, none, [])
def c_J14_init (x0 : Option Nat) (x1 : Int32) (T : xF) : Option (Unit × xF) :=
  if ¬ x0.isSome = true then none else
  (c_J13_init x0).bind fun v1 =>
  (pV T x0 11 0 (.int x1)).bind fun T6 =>
  some ((), T6)
theorem w_J14_init {G : xG}  {T : xF} {x0 : Option Nat} {x1 : Int32} {q : (Unit × xF)} (hf : c_J14_init x0 x1 T = some q) : Ct G mJ14_init (2) T [va_rf x0, .int x1] (.inl none) q.2 := by
  refine Ct.ofc (plainFor_of_name (by decide +kernel)) rfl (xvQ (xvI xvN)) (Nat.le_of_ble_eq_true rfl) (show Xr G _ 0 [(0, va_rf x0), (1, .int x1)] [] _ from ?_)
  unfold c_J14_init at hf
  refine C.aload_n dJ14_init_0 rfl 0 rfl ?_
  obtain ⟨c1, hf⟩ := if_n hf
  obtain ⟨v1, h1, hf⟩ := ob hf
  refine X.keep fun l1 => C.Iv (As := []) (rest := []) dJ14_init_1 (w_J13_init h1) cJ14_202 (Classical.not_not.mp c1) rfl rfl (xcs xvN (Nat.le_of_ble_eq_true rfl)) (xD (Nat.le_of_ble_eq_true rfl)) xle.rf l1 ?_
  refine C.aload_n dJ14_init_4 rfl 0 rfl ?_
  refine X.iload_n dJ14_init_5 rfl 1 rfl ?_
  obtain ⟨T6, h6, hf⟩ := ob hf
  refine C.putI dJ14_init_6 fJ14_205 (fun _ => rfl) rfl rfl h6 ?_
  obtain rfl := Option.some.inj hf
  exact X.vret dJ14_init_9 rfl rfl
theorem cJ14_199 : xCI RJ14 199 mJ14_init 1 := ⟨⟨lw_meth q642, rfl, q141, q640, q641, rfl⟩, rfl, ⟨by decide +kernel, by decide +kernel, by decide +kernel⟩, Nat.le_of_ble_eq_true rfl⟩
/-! java/lang/Integer valueOf -/
abbrev cJ14_valueOf : ByteArray := prog_22_method_22_code
def yJ14_valueOf : MethodName := ⟨RJ14, "valueOf", "(I)Ljava/lang/Integer;"⟩
def dkwJ14_valueOf_1 : List UInt8 := [187, 0, 1, 89, 26, 183, 0, 199, 176]
abbrev dktJ14_valueOf_1 : List UInt8 := dkwJ14_valueOf_1 ++ []
def dkwJ14_valueOf_0 : List UInt8 := [26, 16, 128, 161, 0, 20, 26, 178, 0, 191, 163, 0, 13, 178, 0, 195, 26, 17, 0, 128, 96, 50, 176]
abbrev dktJ14_valueOf_0 : List UInt8 := dkwJ14_valueOf_0 ++ dktJ14_valueOf_1
theorem dksJ14_valueOf_0 : cJ14_valueOf.data.toList.drop 0 = dktJ14_valueOf_0 := by decide +kernel
theorem dksJ14_valueOf_1 : cJ14_valueOf.data.toList.drop 23 = dktJ14_valueOf_1 := dk_seg dksJ14_valueOf_0 23 rfl rfl
theorem dJ14_valueOf_0 : decode cJ14_valueOf 0 = .ok (.iload_n 0, 1) := dk_26 (dk_at dksJ14_valueOf_0 0 rfl rfl)
theorem dJ14_valueOf_1 : decode cJ14_valueOf 1 = .ok (.bipush (-128), 2) := dk_16 128 (dk_at dksJ14_valueOf_0 1 rfl rfl)
theorem dJ14_valueOf_3 : decode cJ14_valueOf 3 = .ok (.if_icmp .lt 20, 3) := dk_161 0 20 (dk_at dksJ14_valueOf_0 3 rfl rfl)
theorem dJ14_valueOf_6 : decode cJ14_valueOf 6 = .ok (.iload_n 0, 1) := dk_26 (dk_at dksJ14_valueOf_0 6 rfl rfl)
theorem dJ14_valueOf_7 : decode cJ14_valueOf 7 = .ok (.getstatic 191, 3) := dk_178 0 191 (dk_at dksJ14_valueOf_0 7 rfl rfl)
theorem dJ14_valueOf_10 : decode cJ14_valueOf 10 = .ok (.if_icmp .gt 13, 3) := dk_163 0 13 (dk_at dksJ14_valueOf_0 10 rfl rfl)
theorem dJ14_valueOf_13 : decode cJ14_valueOf 13 = .ok (.getstatic 195, 3) := dk_178 0 195 (dk_at dksJ14_valueOf_0 13 rfl rfl)
theorem dJ14_valueOf_16 : decode cJ14_valueOf 16 = .ok (.iload_n 0, 1) := dk_26 (dk_at dksJ14_valueOf_0 16 rfl rfl)
theorem dJ14_valueOf_17 : decode cJ14_valueOf 17 = .ok (.sipush 128, 3) := dk_17 0 128 (dk_at dksJ14_valueOf_0 17 rfl rfl)
theorem dJ14_valueOf_20 : decode cJ14_valueOf 20 = .ok (.iadd, 1) := dk_96 (dk_at dksJ14_valueOf_0 20 rfl rfl)
theorem dJ14_valueOf_21 : decode cJ14_valueOf 21 = .ok (.aaload, 1) := dk_50 (dk_at dksJ14_valueOf_0 21 rfl rfl)
theorem dJ14_valueOf_22 : decode cJ14_valueOf 22 = .ok (.areturn, 1) := dk_176 (dk_at dksJ14_valueOf_0 22 rfl rfl)
theorem dJ14_valueOf_23 : decode cJ14_valueOf 23 = .ok (.new 1, 3) := dk_187 0 1 (dk_at dksJ14_valueOf_1 0 rfl rfl)
theorem dJ14_valueOf_26 : decode cJ14_valueOf 26 = .ok (.dup, 1) := dk_89 (dk_at dksJ14_valueOf_1 3 rfl rfl)
theorem dJ14_valueOf_27 : decode cJ14_valueOf 27 = .ok (.iload_n 0, 1) := dk_26 (dk_at dksJ14_valueOf_1 4 rfl rfl)
theorem dJ14_valueOf_28 : decode cJ14_valueOf 28 = .ok (.invokespecial 199, 3) := dk_183 0 199 (dk_at dksJ14_valueOf_1 5 rfl rfl)
theorem dJ14_valueOf_31 : decode cJ14_valueOf 31 = .ok (.areturn, 1) := dk_176 (dk_at dksJ14_valueOf_1 8 rfl rfl)
abbrev mJ14_valueOf : xM := (yJ14_valueOf, cJ14_valueOf, 1, (some (.object "java/lang/Integer")), [])
def c_J14_valueOf_23 (G : xG) (x0 : Int32) (T : xF) : Option (Option Nat × xF) :=
  al (nO T 11 1 [.int 0]) fun T23 =>
  cl (c_J14_init (some T.2.1) x0 T23) T23 fun v28 T28 =>
  some ((some T.2.1), T28)
theorem c_J14_valueOf_23_ok {G : xG}  {T0 : xF}   (x0 : Int32) (T : xF) (q : (Option Nat × xF)) (hf : c_J14_valueOf_23 G x0 T = some q) : Xr G (mJ14_valueOf, xrm (3) T0 q.2, T0, .inl (some (va_rf q.1)), q.2) 23 [(0, .int x0)] [] T := by
  unfold c_J14_valueOf_23 at hf
  obtain ⟨T23, e23, hf, l23⟩ := al_ok hf
  refine C.newE e23 dJ14_valueOf_23 clJ14 q638 q639 q141 rfl dfJ14 l23 ?_
  refine X.dup dJ14_valueOf_26 (cat1 _) ?_
  refine X.iload_n dJ14_valueOf_27 rfl 0 rfl ?_
  obtain ⟨v28, T28, h28, hf, l28, r28⟩ := cl_ok hf
  refine C.Iv (As := [.int x0]) (rest := [va_rf (some T.2.1)]) dJ14_valueOf_28 (w_J14_init h28) cJ14_199 rfl rfl rfl (xcs (xvQ xvN) (Nat.le_of_ble_eq_true rfl)) (xD (Nat.le_of_ble_eq_true rfl)) l28 r28 ?_
  obtain rfl := Option.some.inj hf
  exact X.aret dJ14_valueOf_31 rfl (Or.inl ⟨_, rfl⟩) rfl
def c_J14_valueOf (G : xG) (x0 : Int32) (T : xF) : Option (Option Nat × xF) :=
  if x0 < (-128 : Int32) then
    c_J14_valueOf_23 G x0 T
  else
    if (127 : Int32) < x0 then
      c_J14_valueOf_23 G x0 T
    else
      (ldR T (gS G 2) (x0 + (128 : Int32))).bind fun v21 =>
      some (v21, T)
theorem w_J14_valueOf {G : xG}  {T : xF} {x0 : Int32} {q : (Option Nat × xF)} (hf : c_J14_valueOf G x0 T = some q) : Ct G mJ14_valueOf (3) T [.int x0] (.inl (some (va_rf q.1))) q.2 := by
  refine Ct.ofc (plainFor_of_name (by decide +kernel)) rfl (xvI xvN) (Nat.le_of_ble_eq_true rfl) (show Xr G _ 0 [(0, .int x0)] [] _ from ?_)
  unfold c_J14_valueOf at hf
  refine X.iload_n dJ14_valueOf_0 rfl 0 rfl ?_
  refine X.bipush (v := -128) dJ14_valueOf_1 (by decide) ?_
  refine X.icmp_lt (tgt := 23) dJ14_valueOf_3 (by decide) (fun c3 => ?_) (fun c3 => ?_)
  · have hf := if_t c3 hf
    refine X.sub [0] (L' := [(0, .int x0)]) rfl ?_
    exact c_J14_valueOf_23_ok _ _ _ hf
  · have hf := if_f c3 hf
    refine X.iload_n dJ14_valueOf_6 rfl 0 rfl ?_
    refine X.gets dJ14_valueOf_7 (i := 3) rfl q634 rfl ?_
    refine X.icmp_gt (tgt := 23) dJ14_valueOf_10 (by decide) (fun c10 => ?_) (fun c10 => ?_)
    · have hf := if_t c10 hf
      refine X.sub [0] (L' := [(0, .int x0)]) rfl ?_
      exact c_J14_valueOf_23_ok _ _ _ hf
    · have hf := if_f c10 hf
      refine X.gets dJ14_valueOf_13 (i := 2) rfl q636 rfl ?_
      refine X.iload_n dJ14_valueOf_16 rfl 0 rfl ?_
      refine X.sipush (v := 128) dJ14_valueOf_17 (by decide) ?_
      refine X.iadd dJ14_valueOf_20 ?_
      obtain ⟨v21, h21, hf⟩ := ob hf
      refine C.aald dJ14_valueOf_21 h21 ?_
      obtain rfl := Option.some.inj hf
      exact X.aret dJ14_valueOf_22 rfl (Or.inl ⟨_, rfl⟩) rfl
theorem cX1_230 : xCS RX1 230 mJ14_valueOf 1 := ⟨lw_S q631 q632 q141 q633, rfl, ⟨by decide +kernel, by decide +kernel, by decide +kernel⟩, Nat.le_of_ble_eq_true rfl⟩
theorem cX5_243 : xCS RX5 243 mJ14_valueOf 1 := ⟨lw_S q1051 q632 q141 q633, rfl, ⟨by decide +kernel, by decide +kernel, by decide +kernel⟩, Nat.le_of_ble_eq_true rfl⟩
/-! jdk/internal/util/ArraysSupport newLength -/
abbrev cJ15_newLength : ByteArray := prog_46_method_27_code
def yJ15_newLength : MethodName := ⟨RJ15, "newLength", "(III)I"⟩
def dkwJ15_newLength_1 : List UInt8 := [184, 0, 201, 172]
abbrev dktJ15_newLength_1 : List UInt8 := dkwJ15_newLength_1 ++ []
def dkwJ15_newLength_0 : List UInt8 := [26, 27, 28, 184, 0, 194, 96, 62, 3, 29, 162, 0, 11, 29, 18, 200, 163, 0, 5, 29, 172, 26, 27]
abbrev dktJ15_newLength_0 : List UInt8 := dkwJ15_newLength_0 ++ dktJ15_newLength_1
theorem dksJ15_newLength_0 : cJ15_newLength.data.toList.drop 0 = dktJ15_newLength_0 := by decide +kernel
theorem dksJ15_newLength_1 : cJ15_newLength.data.toList.drop 23 = dktJ15_newLength_1 := dk_seg dksJ15_newLength_0 23 rfl rfl
theorem dJ15_newLength_0 : decode cJ15_newLength 0 = .ok (.iload_n 0, 1) := dk_26 (dk_at dksJ15_newLength_0 0 rfl rfl)
theorem dJ15_newLength_1 : decode cJ15_newLength 1 = .ok (.iload_n 1, 1) := dk_27 (dk_at dksJ15_newLength_0 1 rfl rfl)
theorem dJ15_newLength_2 : decode cJ15_newLength 2 = .ok (.iload_n 2, 1) := dk_28 (dk_at dksJ15_newLength_0 2 rfl rfl)
theorem dJ15_newLength_3 : decode cJ15_newLength 3 = .ok (.invokestatic 194, 3) := dk_184 0 194 (dk_at dksJ15_newLength_0 3 rfl rfl)
theorem dJ15_newLength_6 : decode cJ15_newLength 6 = .ok (.iadd, 1) := dk_96 (dk_at dksJ15_newLength_0 6 rfl rfl)
theorem dJ15_newLength_7 : decode cJ15_newLength 7 = .ok (.istore_n 3, 1) := dk_62 (dk_at dksJ15_newLength_0 7 rfl rfl)
theorem dJ15_newLength_8 : decode cJ15_newLength 8 = .ok (.iconst 0, 1) := dk_3 (dk_at dksJ15_newLength_0 8 rfl rfl)
theorem dJ15_newLength_9 : decode cJ15_newLength 9 = .ok (.iload_n 3, 1) := dk_29 (dk_at dksJ15_newLength_0 9 rfl rfl)
theorem dJ15_newLength_10 : decode cJ15_newLength 10 = .ok (.if_icmp .ge 11, 3) := dk_162 0 11 (dk_at dksJ15_newLength_0 10 rfl rfl)
theorem dJ15_newLength_13 : decode cJ15_newLength 13 = .ok (.iload_n 3, 1) := dk_29 (dk_at dksJ15_newLength_0 13 rfl rfl)
theorem dJ15_newLength_14 : decode cJ15_newLength 14 = .ok (.ldc 200, 2) := dk_18 200 (dk_at dksJ15_newLength_0 14 rfl rfl)
theorem dJ15_newLength_16 : decode cJ15_newLength 16 = .ok (.if_icmp .gt 5, 3) := dk_163 0 5 (dk_at dksJ15_newLength_0 16 rfl rfl)
theorem dJ15_newLength_19 : decode cJ15_newLength 19 = .ok (.iload_n 3, 1) := dk_29 (dk_at dksJ15_newLength_0 19 rfl rfl)
theorem dJ15_newLength_20 : decode cJ15_newLength 20 = .ok (.ireturn, 1) := dk_172 (dk_at dksJ15_newLength_0 20 rfl rfl)
theorem dJ15_newLength_21 : decode cJ15_newLength 21 = .ok (.iload_n 0, 1) := dk_26 (dk_at dksJ15_newLength_0 21 rfl rfl)
theorem dJ15_newLength_22 : decode cJ15_newLength 22 = .ok (.iload_n 1, 1) := dk_27 (dk_at dksJ15_newLength_0 22 rfl rfl)
theorem dJ15_newLength_23 : decode cJ15_newLength 23 = .ok (.invokestatic 201, 3) := dk_184 0 201 (dk_at dksJ15_newLength_1 0 rfl rfl)
theorem dJ15_newLength_26 : decode cJ15_newLength 26 = .ok (.ireturn, 1) := dk_172 (dk_at dksJ15_newLength_1 3 rfl rfl)
abbrev mJ15_newLength : xM := (yJ15_newLength, cJ15_newLength, 4, (some .int), [])
def c_J15_newLength (x0 : Int32) (x1 : Int32) (x2 : Int32) : Option Int32 :=
  (c_J7_max x1 x2).bind fun v3 =>
  if (x0 + v3) ≤ (0 : Int32) then
    none
  else
    if (2147483639 : Int32) < (x0 + v3) then
      none
    else
      some (x0 + v3)
theorem w_J15_newLength {G : xG}  {T : xF} {x0 : Int32} {x1 : Int32} {x2 : Int32} {q : Int32} (hf : c_J15_newLength x0 x1 x2 = some q) : Ct G mJ15_newLength (2) T [.int x0, .int x1, .int x2] (.inl (some (.int q))) T := by
  refine Ct.ofc (plainFor_of_name (by decide +kernel)) rfl (xvI (xvI (xvI xvN))) (Nat.le_of_ble_eq_true rfl) (show Xr G _ 0 [(0, .int x0), (1, .int x1), (2, .int x2)] [] _ from ?_)
  unfold c_J15_newLength at hf
  refine X.iload_n dJ15_newLength_0 rfl 0 rfl ?_
  refine X.iload_n dJ15_newLength_1 rfl 1 rfl ?_
  refine X.iload_n dJ15_newLength_2 rfl 2 rfl ?_
  obtain ⟨v3, h3, hf⟩ := ob hf
  refine X.keep fun l3 => C.Si (As := [.int x1, .int x2]) (rest := [.int x0]) dJ15_newLength_3 (w_J7_max h3) cJ15_194 rfl rfl (xcs (xvI xvN) (Nat.le_of_ble_eq_true rfl)) (xD (Nat.le_of_ble_eq_true rfl)) xle.rf l3 ?_
  refine X.iadd dJ15_newLength_6 ?_
  refine C.ist_n (L' := [(3, .int (x0 + v3)), (0, .int x0), (1, .int x1), (2, .int x2)]) dJ15_newLength_7 rfl (Nat.le_of_ble_eq_true rfl) (xcI (xcI (xcI xcN))) rfl ?_
  refine X.iconst (v := 0) dJ15_newLength_8 (by decide) ?_
  refine X.iload_n dJ15_newLength_9 rfl 0 rfl ?_
  refine X.icmp_ge (tgt := 21) dJ15_newLength_10 (by decide) (fun c10 => ?_) (fun c10 => ?_)
  · have hf := if_t c10 hf
    refine X.iload_n dJ15_newLength_21 rfl 1 rfl ?_
    refine X.iload_n dJ15_newLength_22 rfl 2 rfl ?_
    cases hf
  · have hf := if_f c10 hf
    refine X.iload_n dJ15_newLength_13 rfl 0 rfl ?_
    refine X.ldcI (v := 2147483639) dJ15_newLength_14 q383 ?_
    refine X.icmp_gt (tgt := 21) dJ15_newLength_16 (by decide) (fun c16 => ?_) (fun c16 => ?_)
    · have hf := if_t c16 hf
      refine X.iload_n dJ15_newLength_21 rfl 1 rfl ?_
      refine X.iload_n dJ15_newLength_22 rfl 2 rfl ?_
      cases hf
    · have hf := if_f c16 hf
      refine X.iload_n dJ15_newLength_19 rfl 0 rfl ?_
      obtain rfl := Option.some.inj hf
      exact X.iret dJ15_newLength_20 rfl rfl rfl
theorem cJ17_114 : xCS RJ17 114 mJ15_newLength 3 := ⟨lw_S q1171 q378 q143 q379, rfl, ⟨by decide +kernel, by decide +kernel, by decide +kernel⟩, Nat.le_of_ble_eq_true rfl⟩
theorem cJ2_73 : xCS RJ2 73 mJ15_newLength 3 := ⟨lw_S q377 q378 q143 q379, rfl, ⟨by decide +kernel, by decide +kernel, by decide +kernel⟩, Nat.le_of_ble_eq_true rfl⟩
/-! java/util/Arrays copyOf -/
abbrev cJ16_copyOf_2 : ByteArray := prog_39_method_120_code
def yJ16_copyOf_2 : MethodName := ⟨RJ16, "copyOf", "([Ljava/lang/Object;ILjava/lang/Class;)[Ljava/lang/Object;"⟩
def dkwJ16_copyOf_2_1 : List UInt8 := [78, 42, 3, 45, 3, 42, 190, 27, 184, 1, 48, 184, 0, 150, 45, 176]
abbrev dktJ16_copyOf_2_1 : List UInt8 := dkwJ16_copyOf_2_1 ++ []
def dkwJ16_copyOf_2_0 : List UInt8 := [44, 18, 110, 166, 0, 10, 27, 189, 0, 2, 167, 0, 14, 44, 182, 0, 90, 27, 184, 0, 95, 192, 0, 110]
abbrev dktJ16_copyOf_2_0 : List UInt8 := dkwJ16_copyOf_2_0 ++ dktJ16_copyOf_2_1
theorem dksJ16_copyOf_2_0 : cJ16_copyOf_2.data.toList.drop 0 = dktJ16_copyOf_2_0 := by decide +kernel
theorem dksJ16_copyOf_2_1 : cJ16_copyOf_2.data.toList.drop 24 = dktJ16_copyOf_2_1 := dk_seg dksJ16_copyOf_2_0 24 rfl rfl
theorem dJ16_copyOf_2_0 : decode cJ16_copyOf_2 0 = .ok (.aload_n 2, 1) := dk_44 (dk_at dksJ16_copyOf_2_0 0 rfl rfl)
theorem dJ16_copyOf_2_1 : decode cJ16_copyOf_2 1 = .ok (.ldc 110, 2) := dk_18 110 (dk_at dksJ16_copyOf_2_0 1 rfl rfl)
theorem dJ16_copyOf_2_3 : decode cJ16_copyOf_2 3 = .ok (.if_acmp .ne 10, 3) := dk_166 0 10 (dk_at dksJ16_copyOf_2_0 3 rfl rfl)
theorem dJ16_copyOf_2_6 : decode cJ16_copyOf_2 6 = .ok (.iload_n 1, 1) := dk_27 (dk_at dksJ16_copyOf_2_0 6 rfl rfl)
theorem dJ16_copyOf_2_7 : decode cJ16_copyOf_2 7 = .ok (.anewarray 2, 3) := dk_189 0 2 (dk_at dksJ16_copyOf_2_0 7 rfl rfl)
theorem dJ16_copyOf_2_10 : decode cJ16_copyOf_2 10 = .ok (.goto 14, 3) := dk_167 0 14 (dk_at dksJ16_copyOf_2_0 10 rfl rfl)
theorem dJ16_copyOf_2_13 : decode cJ16_copyOf_2 13 = .ok (.aload_n 2, 1) := dk_44 (dk_at dksJ16_copyOf_2_0 13 rfl rfl)
theorem dJ16_copyOf_2_14 : decode cJ16_copyOf_2 14 = .ok (.invokevirtual 90, 3) := dk_182 0 90 (dk_at dksJ16_copyOf_2_0 14 rfl rfl)
theorem dJ16_copyOf_2_17 : decode cJ16_copyOf_2 17 = .ok (.iload_n 1, 1) := dk_27 (dk_at dksJ16_copyOf_2_0 17 rfl rfl)
theorem dJ16_copyOf_2_18 : decode cJ16_copyOf_2 18 = .ok (.invokestatic 95, 3) := dk_184 0 95 (dk_at dksJ16_copyOf_2_0 18 rfl rfl)
theorem dJ16_copyOf_2_21 : decode cJ16_copyOf_2 21 = .ok (.checkcast 110, 3) := dk_192 0 110 (dk_at dksJ16_copyOf_2_0 21 rfl rfl)
theorem dJ16_copyOf_2_24 : decode cJ16_copyOf_2 24 = .ok (.astore_n 3, 1) := dk_78 (dk_at dksJ16_copyOf_2_1 0 rfl rfl)
theorem dJ16_copyOf_2_25 : decode cJ16_copyOf_2 25 = .ok (.aload_n 0, 1) := dk_42 (dk_at dksJ16_copyOf_2_1 1 rfl rfl)
theorem dJ16_copyOf_2_26 : decode cJ16_copyOf_2 26 = .ok (.iconst 0, 1) := dk_3 (dk_at dksJ16_copyOf_2_1 2 rfl rfl)
theorem dJ16_copyOf_2_27 : decode cJ16_copyOf_2 27 = .ok (.aload_n 3, 1) := dk_45 (dk_at dksJ16_copyOf_2_1 3 rfl rfl)
theorem dJ16_copyOf_2_28 : decode cJ16_copyOf_2 28 = .ok (.iconst 0, 1) := dk_3 (dk_at dksJ16_copyOf_2_1 4 rfl rfl)
theorem dJ16_copyOf_2_29 : decode cJ16_copyOf_2 29 = .ok (.aload_n 0, 1) := dk_42 (dk_at dksJ16_copyOf_2_1 5 rfl rfl)
theorem dJ16_copyOf_2_30 : decode cJ16_copyOf_2 30 = .ok (.arraylength, 1) := dk_190 (dk_at dksJ16_copyOf_2_1 6 rfl rfl)
theorem dJ16_copyOf_2_31 : decode cJ16_copyOf_2 31 = .ok (.iload_n 1, 1) := dk_27 (dk_at dksJ16_copyOf_2_1 7 rfl rfl)
theorem dJ16_copyOf_2_32 : decode cJ16_copyOf_2 32 = .ok (.invokestatic 304, 3) := dk_184 1 48 (dk_at dksJ16_copyOf_2_1 8 rfl rfl)
theorem dJ16_copyOf_2_35 : decode cJ16_copyOf_2 35 = .ok (.invokestatic 150, 3) := dk_184 0 150 (dk_at dksJ16_copyOf_2_1 11 rfl rfl)
theorem dJ16_copyOf_2_38 : decode cJ16_copyOf_2 38 = .ok (.aload_n 3, 1) := dk_45 (dk_at dksJ16_copyOf_2_1 14 rfl rfl)
theorem dJ16_copyOf_2_39 : decode cJ16_copyOf_2 39 = .ok (.areturn, 1) := dk_176 (dk_at dksJ16_copyOf_2_1 15 rfl rfl)
abbrev mJ16_copyOf_2 : xM := (yJ16_copyOf_2, cJ16_copyOf_2, 4, (some (.array (.object "java/lang/Object"))), [])
def c_J16_copyOf_2 (G : xG) (x0 : Option Nat) (x1 : Int32) (x2 : Option Nat) (T : xF) : Option (Option Nat × xF) :=
  if x2 = (some (gM G 1)) then
    if x1 < 0 ∨ 100000000 ≤ x1.toNatClampNeg then none else
    al (nR T "java/lang/Object" x1.toNatClampNeg) fun T7 =>
    (len T7 x0).bind fun v30 =>
    (c_J7_min v30 x1).bind fun v32 =>
    (cpR T7 x0 (0 : Int32) (some T.2.1) (0 : Int32) v32).bind fun T35 =>
    some ((some T.2.1), T35)
  else
    none
theorem w_J16_copyOf_2 {G : xG}  {T : xF} {x0 : Option Nat} {x1 : Int32} {x2 : Option Nat} {q : (Option Nat × xF)} (hf : c_J16_copyOf_2 G x0 x1 x2 T = some q) : Ct G mJ16_copyOf_2 (2) T [va_rf x0, .int x1, va_rf x2] (.inl (some (va_rf q.1))) q.2 := by
  refine Ct.ofc (plainFor_of_name (by decide +kernel)) rfl (xvQ (xvI (xvQ xvN))) (Nat.le_of_ble_eq_true rfl) (show Xr G _ 0 [(0, va_rf x0), (1, .int x1), (2, va_rf x2)] [] _ from ?_)
  unfold c_J16_copyOf_2 at hf
  refine C.aload_n dJ16_copyOf_2_0 rfl 2 rfl ?_
  refine C.ldcM dJ16_copyOf_2_1 (i := 1) rfl q412 ?_
  refine X.acmp_ne (tgt := 13) dJ16_copyOf_2_3 (by decide) (fun c3 => ?_) (fun c3 => ?_)
  · have hf := if_f c3 hf
    refine C.aload_n dJ16_copyOf_2_13 rfl 2 rfl ?_
    cases hf
  · have hf := if_t c3 hf
    refine X.iload_n dJ16_copyOf_2_6 rfl 1 rfl ?_
    obtain ⟨c7, hf⟩ := if_n hf
    obtain ⟨T7, e7, hf, l7⟩ := al_ok hf
    refine C.newRE e7 dJ16_copyOf_2_7 q414 q413 (by decide) c7 l7 ?_
    refine X.goto (tgt := 24) dJ16_copyOf_2_10 (by decide) ?_
    refine C.ast_n (L' := [(3, va_rf (some T.2.1)), (0, va_rf x0), (1, .int x1), (2, va_rf x2)]) dJ16_copyOf_2_24 rfl (Nat.le_of_ble_eq_true rfl) (xcQ (xcI (xcQ xcN))) rfl ?_
    refine C.aload_n dJ16_copyOf_2_25 rfl 1 rfl ?_
    refine X.iconst (v := 0) dJ16_copyOf_2_26 (by decide) ?_
    refine C.aload_n dJ16_copyOf_2_27 rfl 0 rfl ?_
    refine X.iconst (v := 0) dJ16_copyOf_2_28 (by decide) ?_
    refine C.aload_n dJ16_copyOf_2_29 rfl 1 rfl ?_
    obtain ⟨v30, h30, hf⟩ := ob hf
    refine C.alen dJ16_copyOf_2_30 h30 ?_
    refine X.iload_n dJ16_copyOf_2_31 rfl 2 rfl ?_
    obtain ⟨v32, h32, hf⟩ := ob hf
    refine X.keep fun l32 => C.Si (As := [.int v30, .int x1]) (rest := [.int (0 : Int32), va_rf (some T.2.1), .int (0 : Int32), va_rf x0]) dJ16_copyOf_2_32 (w_J7_min h32) cJ16_304 rfl rfl (xcs (xvI (xvQ (xvI (xvQ xvN)))) (Nat.le_of_ble_eq_true rfl)) (xD (Nat.le_of_ble_eq_true rfl)) xle.rf l32 ?_
    obtain ⟨T35, h35, hf⟩ := ob hf
    refine C.cpR dJ16_copyOf_2_35 q418 ac1 ac2 ac3 h35 (xcs xvN (Nat.le_of_ble_eq_true rfl)) (xD1 (Nat.le_of_ble_eq_true rfl)) ?_
    refine C.aload_n dJ16_copyOf_2_38 rfl 0 rfl ?_
    obtain rfl := Option.some.inj hf
    exact X.aret dJ16_copyOf_2_39 rfl (Or.inr ⟨_, rfl⟩) rfl
theorem cJ2_57 : xCS RJ2 57 mJ16_copyOf_2 3 := ⟨lw_S q723 q410 q144 q411, rfl, ⟨by decide +kernel, by decide +kernel, by decide +kernel⟩, Nat.le_of_ble_eq_true rfl⟩
theorem cJ16_300 : xCS RJ16 300 mJ16_copyOf_2 3 := ⟨lw_S q409 q410 q144 q411, rfl, ⟨by decide +kernel, by decide +kernel, by decide +kernel⟩, Nat.le_of_ble_eq_true rfl⟩
/-! java/util/Arrays copyOf -/
abbrev cJ16_copyOf : ByteArray := prog_39_method_119_code
def yJ16_copyOf : MethodName := ⟨RJ16, "copyOf", "([Ljava/lang/Object;I)[Ljava/lang/Object;"⟩
def dkwJ16_copyOf_0 : List UInt8 := [42, 27, 42, 182, 0, 86, 184, 1, 44, 176]
abbrev dktJ16_copyOf_0 : List UInt8 := dkwJ16_copyOf_0 ++ []
theorem dksJ16_copyOf_0 : cJ16_copyOf.data.toList.drop 0 = dktJ16_copyOf_0 := by decide +kernel
theorem dJ16_copyOf_0 : decode cJ16_copyOf 0 = .ok (.aload_n 0, 1) := dk_42 (dk_at dksJ16_copyOf_0 0 rfl rfl)
theorem dJ16_copyOf_1 : decode cJ16_copyOf 1 = .ok (.iload_n 1, 1) := dk_27 (dk_at dksJ16_copyOf_0 1 rfl rfl)
theorem dJ16_copyOf_2 : decode cJ16_copyOf 2 = .ok (.aload_n 0, 1) := dk_42 (dk_at dksJ16_copyOf_0 2 rfl rfl)
theorem dJ16_copyOf_3 : decode cJ16_copyOf 3 = .ok (.invokevirtual 86, 3) := dk_182 0 86 (dk_at dksJ16_copyOf_0 3 rfl rfl)
theorem dJ16_copyOf_6 : decode cJ16_copyOf 6 = .ok (.invokestatic 300, 3) := dk_184 1 44 (dk_at dksJ16_copyOf_0 6 rfl rfl)
theorem dJ16_copyOf_9 : decode cJ16_copyOf 9 = .ok (.areturn, 1) := dk_176 (dk_at dksJ16_copyOf_0 9 rfl rfl)
abbrev mJ16_copyOf : xM := (yJ16_copyOf, cJ16_copyOf, 2, (some (.array (.object "java/lang/Object"))), [])
def c_J16_copyOf (G : xG) (x0 : Option Nat) (x1 : Int32) (T : xF) : Option (Option Nat × xF) :=
  if ¬ isOA T x0 = true then none else
  cl (c_J16_copyOf_2 G x0 x1 (some (gM G 1)) T) T fun v6 T6 =>
  some (v6, T6)
theorem w_J16_copyOf {G : xG}  {T : xF} {x0 : Option Nat} {x1 : Int32} {q : (Option Nat × xF)} (hf : c_J16_copyOf G x0 x1 T = some q) : Ct G mJ16_copyOf (3) T [va_rf x0, .int x1] (.inl (some (va_rf q.1))) q.2 := by
  refine Ct.ofc (plainFor_of_name (by decide +kernel)) rfl (xvQ (xvI xvN)) (Nat.le_of_ble_eq_true rfl) (show Xr G _ 0 [(0, va_rf x0), (1, .int x1)] [] _ from ?_)
  unfold c_J16_copyOf at hf
  refine C.aload_n dJ16_copyOf_0 rfl 0 rfl ?_
  refine X.iload_n dJ16_copyOf_1 rfl 1 rfl ?_
  refine C.aload_n dJ16_copyOf_2 rfl 0 rfl ?_
  obtain ⟨c3, hf⟩ := if_n hf
  refine C.getCA dJ16_copyOf_3 q390 gc1 gc2 gc3 (Classical.not_not.mp c3) (xcs (xvI (xvQ xvN)) (Nat.le_of_ble_eq_true rfl)) (xD1 (Nat.le_of_ble_eq_true rfl)) ?_
  obtain ⟨v6, T6, h6, hf, l6, r6⟩ := cl_ok hf
  refine C.Sq (As := [va_rf x0, .int x1, va_rf (some (gM G 1))]) (rest := []) dJ16_copyOf_6 (w_J16_copyOf_2 h6) cJ16_300 rfl rfl (xcs xvN (Nat.le_of_ble_eq_true rfl)) (xD (Nat.le_of_ble_eq_true rfl)) l6 r6 ?_
  obtain rfl := Option.some.inj hf
  exact X.aret dJ16_copyOf_9 rfl (Or.inr ⟨_, rfl⟩) rfl
theorem cJ2_66 : xCS RJ2 66 mJ16_copyOf 2 := ⟨lw_S q387 q388 q144 q389, rfl, ⟨by decide +kernel, by decide +kernel, by decide +kernel⟩, Nat.le_of_ble_eq_true rfl⟩
/-! java/util/ArrayList grow -/
abbrev cJ2_grow_2 : ByteArray := prog_38_method_6_code
def yJ2_grow_2 : MethodName := ⟨RJ2, "grow", "(I)[Ljava/lang/Object;"⟩
def dkwJ2_grow_2_2 : List UInt8 := [27, 184, 0, 79, 189, 0, 7, 90, 181, 0, 9, 176]
abbrev dktJ2_grow_2_2 : List UInt8 := dkwJ2_grow_2_2 ++ []
def dkwJ2_grow_2_1 : List UInt8 := [28, 4, 122, 184, 0, 73, 62, 42, 42, 180, 0, 9, 29, 184, 0, 66, 90, 181, 0, 9, 176, 42, 16, 10]
abbrev dktJ2_grow_2_1 : List UInt8 := dkwJ2_grow_2_1 ++ dktJ2_grow_2_2
def dkwJ2_grow_2_0 : List UInt8 := [42, 180, 0, 9, 190, 61, 28, 157, 0, 13, 42, 180, 0, 9, 178, 0, 39, 165, 0, 28, 28, 27, 28, 100]
abbrev dktJ2_grow_2_0 : List UInt8 := dkwJ2_grow_2_0 ++ dktJ2_grow_2_1
theorem dksJ2_grow_2_0 : cJ2_grow_2.data.toList.drop 0 = dktJ2_grow_2_0 := by decide +kernel
theorem dksJ2_grow_2_1 : cJ2_grow_2.data.toList.drop 24 = dktJ2_grow_2_1 := dk_seg dksJ2_grow_2_0 24 rfl rfl
theorem dksJ2_grow_2_2 : cJ2_grow_2.data.toList.drop 48 = dktJ2_grow_2_2 := dk_seg dksJ2_grow_2_1 24 rfl rfl
theorem dJ2_grow_2_0 : decode cJ2_grow_2 0 = .ok (.aload_n 0, 1) := dk_42 (dk_at dksJ2_grow_2_0 0 rfl rfl)
theorem dJ2_grow_2_1 : decode cJ2_grow_2 1 = .ok (.getfield 9, 3) := dk_180 0 9 (dk_at dksJ2_grow_2_0 1 rfl rfl)
theorem dJ2_grow_2_4 : decode cJ2_grow_2 4 = .ok (.arraylength, 1) := dk_190 (dk_at dksJ2_grow_2_0 4 rfl rfl)
theorem dJ2_grow_2_5 : decode cJ2_grow_2 5 = .ok (.istore_n 2, 1) := dk_61 (dk_at dksJ2_grow_2_0 5 rfl rfl)
theorem dJ2_grow_2_6 : decode cJ2_grow_2 6 = .ok (.iload_n 2, 1) := dk_28 (dk_at dksJ2_grow_2_0 6 rfl rfl)
theorem dJ2_grow_2_7 : decode cJ2_grow_2 7 = .ok (.ifCond .gt 13, 3) := dk_157 0 13 (dk_at dksJ2_grow_2_0 7 rfl rfl)
theorem dJ2_grow_2_10 : decode cJ2_grow_2 10 = .ok (.aload_n 0, 1) := dk_42 (dk_at dksJ2_grow_2_0 10 rfl rfl)
theorem dJ2_grow_2_11 : decode cJ2_grow_2 11 = .ok (.getfield 9, 3) := dk_180 0 9 (dk_at dksJ2_grow_2_0 11 rfl rfl)
theorem dJ2_grow_2_14 : decode cJ2_grow_2 14 = .ok (.getstatic 39, 3) := dk_178 0 39 (dk_at dksJ2_grow_2_0 14 rfl rfl)
theorem dJ2_grow_2_17 : decode cJ2_grow_2 17 = .ok (.if_acmp .eq 28, 3) := dk_165 0 28 (dk_at dksJ2_grow_2_0 17 rfl rfl)
theorem dJ2_grow_2_20 : decode cJ2_grow_2 20 = .ok (.iload_n 2, 1) := dk_28 (dk_at dksJ2_grow_2_0 20 rfl rfl)
theorem dJ2_grow_2_21 : decode cJ2_grow_2 21 = .ok (.iload_n 1, 1) := dk_27 (dk_at dksJ2_grow_2_0 21 rfl rfl)
theorem dJ2_grow_2_22 : decode cJ2_grow_2 22 = .ok (.iload_n 2, 1) := dk_28 (dk_at dksJ2_grow_2_0 22 rfl rfl)
theorem dJ2_grow_2_23 : decode cJ2_grow_2 23 = .ok (.isub, 1) := dk_100 (dk_at dksJ2_grow_2_0 23 rfl rfl)
theorem dJ2_grow_2_24 : decode cJ2_grow_2 24 = .ok (.iload_n 2, 1) := dk_28 (dk_at dksJ2_grow_2_1 0 rfl rfl)
theorem dJ2_grow_2_25 : decode cJ2_grow_2 25 = .ok (.iconst 1, 1) := dk_4 (dk_at dksJ2_grow_2_1 1 rfl rfl)
theorem dJ2_grow_2_26 : decode cJ2_grow_2 26 = .ok (.ishr, 1) := dk_122 (dk_at dksJ2_grow_2_1 2 rfl rfl)
theorem dJ2_grow_2_27 : decode cJ2_grow_2 27 = .ok (.invokestatic 73, 3) := dk_184 0 73 (dk_at dksJ2_grow_2_1 3 rfl rfl)
theorem dJ2_grow_2_30 : decode cJ2_grow_2 30 = .ok (.istore_n 3, 1) := dk_62 (dk_at dksJ2_grow_2_1 6 rfl rfl)
theorem dJ2_grow_2_31 : decode cJ2_grow_2 31 = .ok (.aload_n 0, 1) := dk_42 (dk_at dksJ2_grow_2_1 7 rfl rfl)
theorem dJ2_grow_2_32 : decode cJ2_grow_2 32 = .ok (.aload_n 0, 1) := dk_42 (dk_at dksJ2_grow_2_1 8 rfl rfl)
theorem dJ2_grow_2_33 : decode cJ2_grow_2 33 = .ok (.getfield 9, 3) := dk_180 0 9 (dk_at dksJ2_grow_2_1 9 rfl rfl)
theorem dJ2_grow_2_36 : decode cJ2_grow_2 36 = .ok (.iload_n 3, 1) := dk_29 (dk_at dksJ2_grow_2_1 12 rfl rfl)
theorem dJ2_grow_2_37 : decode cJ2_grow_2 37 = .ok (.invokestatic 66, 3) := dk_184 0 66 (dk_at dksJ2_grow_2_1 13 rfl rfl)
theorem dJ2_grow_2_40 : decode cJ2_grow_2 40 = .ok (.dup_x1, 1) := dk_90 (dk_at dksJ2_grow_2_1 16 rfl rfl)
theorem dJ2_grow_2_41 : decode cJ2_grow_2 41 = .ok (.putfield 9, 3) := dk_181 0 9 (dk_at dksJ2_grow_2_1 17 rfl rfl)
theorem dJ2_grow_2_44 : decode cJ2_grow_2 44 = .ok (.areturn, 1) := dk_176 (dk_at dksJ2_grow_2_1 20 rfl rfl)
theorem dJ2_grow_2_45 : decode cJ2_grow_2 45 = .ok (.aload_n 0, 1) := dk_42 (dk_at dksJ2_grow_2_1 21 rfl rfl)
theorem dJ2_grow_2_46 : decode cJ2_grow_2 46 = .ok (.bipush 10, 2) := dk_16 10 (dk_at dksJ2_grow_2_1 22 rfl rfl)
theorem dJ2_grow_2_48 : decode cJ2_grow_2 48 = .ok (.iload_n 1, 1) := dk_27 (dk_at dksJ2_grow_2_2 0 rfl rfl)
theorem dJ2_grow_2_49 : decode cJ2_grow_2 49 = .ok (.invokestatic 79, 3) := dk_184 0 79 (dk_at dksJ2_grow_2_2 1 rfl rfl)
theorem dJ2_grow_2_52 : decode cJ2_grow_2 52 = .ok (.anewarray 7, 3) := dk_189 0 7 (dk_at dksJ2_grow_2_2 4 rfl rfl)
theorem dJ2_grow_2_55 : decode cJ2_grow_2 55 = .ok (.dup_x1, 1) := dk_90 (dk_at dksJ2_grow_2_2 7 rfl rfl)
theorem dJ2_grow_2_56 : decode cJ2_grow_2 56 = .ok (.putfield 9, 3) := dk_181 0 9 (dk_at dksJ2_grow_2_2 8 rfl rfl)
theorem dJ2_grow_2_59 : decode cJ2_grow_2 59 = .ok (.areturn, 1) := dk_176 (dk_at dksJ2_grow_2_2 11 rfl rfl)
abbrev mJ2_grow_2 : xM := (yJ2_grow_2, cJ2_grow_2, 4, (some (.array (.object "java/lang/Object"))), [])
def c_J2_grow_2_20 (G : xG) (x0 : Option Nat) (x1 : Int32) (x2 : Int32) (T : xF) : Option (Option Nat × xF) :=
  (c_J15_newLength x2 (x1 - x2) (x2 >>> ((1 : Int32) &&& 31))).bind fun v27 =>
  (oQ T x0 10 1).bind fun v33 =>
  cl (c_J16_copyOf G v33 v27 T) T fun v37 T37 =>
  (pV T37 x0 10 1 (va_rf v37)).bind fun T41 =>
  some (v37, T41)
theorem c_J2_grow_2_20_ok {G : xG}  {T0 : xF}   (x0 : Option Nat) (x1 : Int32) (x2 : Int32) (T : xF) (q : (Option Nat × xF)) (hf : c_J2_grow_2_20 G x0 x1 x2 T = some q) : Xr G (mJ2_grow_2, xrm (4) T0 q.2, T0, .inl (some (va_rf q.1)), q.2) 20 [(0, va_rf x0), (1, .int x1), (2, .int x2)] [] T := by
  unfold c_J2_grow_2_20 at hf
  refine X.iload_n dJ2_grow_2_20 rfl 2 rfl ?_
  refine X.iload_n dJ2_grow_2_21 rfl 1 rfl ?_
  refine X.iload_n dJ2_grow_2_22 rfl 2 rfl ?_
  refine X.isub dJ2_grow_2_23 ?_
  refine X.iload_n dJ2_grow_2_24 rfl 2 rfl ?_
  refine X.iconst (v := 1) dJ2_grow_2_25 (by decide) ?_
  refine X.ishr dJ2_grow_2_26 ?_
  obtain ⟨v27, h27, hf⟩ := ob hf
  refine X.keep fun l27 => C.Si (As := [.int x2, .int (x1 - x2), .int (x2 >>> ((1 : Int32) &&& 31))]) (rest := []) dJ2_grow_2_27 (w_J15_newLength h27) cJ2_73 rfl rfl (xcs xvN (Nat.le_of_ble_eq_true rfl)) (xD (Nat.le_of_ble_eq_true rfl)) xle.rf l27 ?_
  refine C.ist_n (L' := [(3, .int v27), (0, va_rf x0), (1, .int x1), (2, .int x2)]) dJ2_grow_2_30 rfl (Nat.le_of_ble_eq_true rfl) (xcQ (xcI (xcI xcN))) rfl ?_
  refine C.aload_n dJ2_grow_2_31 rfl 1 rfl ?_
  refine C.aload_n dJ2_grow_2_32 rfl 1 rfl ?_
  obtain ⟨v33, h33, hf⟩ := ob hf
  refine C.getQ dJ2_grow_2_33 rJ2_9 h33 ?_
  refine X.iload_n dJ2_grow_2_36 rfl 0 rfl ?_
  obtain ⟨v37, T37, h37, hf, l37, r37⟩ := cl_ok hf
  refine C.Sq (As := [va_rf v33, .int v27]) (rest := [va_rf x0]) dJ2_grow_2_37 (w_J16_copyOf h37) cJ2_66 rfl rfl (xcs (xvQ xvN) (Nat.le_of_ble_eq_true rfl)) (xD (Nat.le_of_ble_eq_true rfl)) l37 r37 ?_
  refine X.dup_x1 dJ2_grow_2_40 (cat1 _) (cat1 _) ?_
  obtain ⟨T41, h41, hf⟩ := ob hf
  refine C.putQ dJ2_grow_2_41 fJ2_9 (fun q => by cases q) rfl h41 ?_
  obtain rfl := Option.some.inj hf
  exact X.aret dJ2_grow_2_44 rfl (Or.inr ⟨_, rfl⟩) rfl
def c_J2_grow_2 (G : xG) (x0 : Option Nat) (x1 : Int32) (T : xF) : Option (Option Nat × xF) :=
  (oQ T x0 10 1).bind fun v1 =>
  (len T v1).bind fun v4 =>
  if 0 < v4 then
    c_J2_grow_2_20 G x0 x1 v4 T
  else
    (oQ T x0 10 1).bind fun v11 =>
    if v11 = (gS G 0) then
      (c_J7_max (10 : Int32) x1).bind fun v49 =>
      if v49 < 0 ∨ 100000000 ≤ v49.toNatClampNeg then none else
      al (nR T "java/lang/Object" v49.toNatClampNeg) fun T52 =>
      (pV T52 x0 10 1 (va_rf (some T.2.1))).bind fun T56 =>
      some ((some T.2.1), T56)
    else
      c_J2_grow_2_20 G x0 x1 v4 T
theorem w_J2_grow_2 {G : xG}  {T : xF} {x0 : Option Nat} {x1 : Int32} {q : (Option Nat × xF)} (hf : c_J2_grow_2 G x0 x1 T = some q) : Ct G mJ2_grow_2 (4) T [va_rf x0, .int x1] (.inl (some (va_rf q.1))) q.2 := by
  refine Ct.ofc (plainFor_of_name (by decide +kernel)) rfl (xvQ (xvI xvN)) (Nat.le_of_ble_eq_true rfl) (show Xr G _ 0 [(0, va_rf x0), (1, .int x1)] [] _ from ?_)
  unfold c_J2_grow_2 at hf
  refine C.aload_n dJ2_grow_2_0 rfl 0 rfl ?_
  obtain ⟨v1, h1, hf⟩ := ob hf
  refine C.getQ dJ2_grow_2_1 rJ2_9 h1 ?_
  obtain ⟨v4, h4, hf⟩ := ob hf
  refine C.alen dJ2_grow_2_4 h4 ?_
  refine C.ist_n (L' := [(2, .int v4), (0, va_rf x0), (1, .int x1)]) dJ2_grow_2_5 rfl (Nat.le_of_ble_eq_true rfl) (xcQ (xcI xcN)) rfl ?_
  refine X.iload_n dJ2_grow_2_6 rfl 0 rfl ?_
  refine X.if_gt (tgt := 20) dJ2_grow_2_7 (by decide) (fun c7 => ?_) (fun c7 => ?_)
  · have hf := if_t c7 hf
    refine X.sub [1, 2, 0] (L' := [(0, va_rf x0), (1, .int x1), (2, .int v4)]) rfl ?_
    exact c_J2_grow_2_20_ok _ _ _ _ _ hf
  · have hf := if_f c7 hf
    refine C.aload_n dJ2_grow_2_10 rfl 1 rfl ?_
    obtain ⟨v11, h11, hf⟩ := ob hf
    refine C.getQ dJ2_grow_2_11 rJ2_9 h11 ?_
    refine X.gets dJ2_grow_2_14 (i := 0) rfl q180 rfl ?_
    refine X.acmp_eq (tgt := 45) dJ2_grow_2_17 (by decide) (fun c17 => ?_) (fun c17 => ?_)
    · have hf := if_t c17 hf
      refine C.aload_n dJ2_grow_2_45 rfl 1 rfl ?_
      refine X.bipush (v := 10) dJ2_grow_2_46 (by decide) ?_
      refine X.iload_n dJ2_grow_2_48 rfl 2 rfl ?_
      obtain ⟨v49, h49, hf⟩ := ob hf
      refine X.keep fun l49 => C.Si (As := [.int (10 : Int32), .int x1]) (rest := [va_rf x0]) dJ2_grow_2_49 (w_J7_max h49) cJ2_79 rfl rfl (xcs (xvQ xvN) (Nat.le_of_ble_eq_true rfl)) (xD (Nat.le_of_ble_eq_true rfl)) xle.rf l49 ?_
      obtain ⟨c52, hf⟩ := if_n hf
      obtain ⟨T52, e52, hf, l52⟩ := al_ok hf
      refine C.newRE e52 dJ2_grow_2_52 q422 q413 (by decide) c52 l52 ?_
      refine X.dup_x1 dJ2_grow_2_55 (cat1 _) (cat1 _) ?_
      obtain ⟨T56, h56, hf⟩ := ob hf
      refine C.putQ dJ2_grow_2_56 fJ2_9 (fun q => by cases q) rfl h56 ?_
      obtain rfl := Option.some.inj hf
      exact X.aret dJ2_grow_2_59 rfl (Or.inr ⟨_, rfl⟩) rfl
    · have hf := if_f c17 hf
      refine X.sub [1, 2, 0] (L' := [(0, va_rf x0), (1, .int x1), (2, .int v4)]) rfl ?_
      exact c_J2_grow_2_20_ok _ _ _ _ _ hf
theorem cJ2_69 : xCV RJ2 69 mJ2_grow_2 1 := ⟨lw_V q373 q375 qs4 q125 q376, rfl, ⟨by decide +kernel, by decide +kernel, by decide +kernel⟩, Nat.le_of_ble_eq_true rfl⟩
/-! java/util/ArrayList grow -/
abbrev cJ2_grow : ByteArray := prog_38_method_7_code
def yJ2_grow : MethodName := ⟨RJ2, "grow", "()[Ljava/lang/Object;"⟩
def dkwJ2_grow_0 : List UInt8 := [42, 42, 180, 0, 48, 4, 96, 182, 0, 69, 176]
abbrev dktJ2_grow_0 : List UInt8 := dkwJ2_grow_0 ++ []
theorem dksJ2_grow_0 : cJ2_grow.data.toList.drop 0 = dktJ2_grow_0 := by decide +kernel
theorem dJ2_grow_0 : decode cJ2_grow 0 = .ok (.aload_n 0, 1) := dk_42 (dk_at dksJ2_grow_0 0 rfl rfl)
theorem dJ2_grow_1 : decode cJ2_grow 1 = .ok (.aload_n 0, 1) := dk_42 (dk_at dksJ2_grow_0 1 rfl rfl)
theorem dJ2_grow_2 : decode cJ2_grow 2 = .ok (.getfield 48, 3) := dk_180 0 48 (dk_at dksJ2_grow_0 2 rfl rfl)
theorem dJ2_grow_5 : decode cJ2_grow 5 = .ok (.iconst 1, 1) := dk_4 (dk_at dksJ2_grow_0 5 rfl rfl)
theorem dJ2_grow_6 : decode cJ2_grow 6 = .ok (.iadd, 1) := dk_96 (dk_at dksJ2_grow_0 6 rfl rfl)
theorem dJ2_grow_7 : decode cJ2_grow 7 = .ok (.invokevirtual 69, 3) := dk_182 0 69 (dk_at dksJ2_grow_0 7 rfl rfl)
theorem dJ2_grow_10 : decode cJ2_grow 10 = .ok (.areturn, 1) := dk_176 (dk_at dksJ2_grow_0 10 rfl rfl)
abbrev mJ2_grow : xM := (yJ2_grow, cJ2_grow, 1, (some (.array (.object "java/lang/Object"))), [])
def c_J2_grow (G : xG) (x0 : Option Nat) (T : xF) : Option (Option Nat × xF) :=
  (oI T x0 10 2).bind fun v2 =>
  if ¬ isO T x0 10 = true then none else
  cl (c_J2_grow_2 G x0 (v2 + (1 : Int32)) T) T fun v7 T7 =>
  some (v7, T7)
theorem w_J2_grow {G : xG}  {T : xF} {x0 : Option Nat} {q : (Option Nat × xF)} (hf : c_J2_grow G x0 T = some q) : Ct G mJ2_grow (5) T [va_rf x0] (.inl (some (va_rf q.1))) q.2 := by
  refine Ct.ofc (plainFor_of_name (by decide +kernel)) rfl (xvQ xvN) (Nat.le_of_ble_eq_true rfl) (show Xr G _ 0 [(0, va_rf x0)] [] _ from ?_)
  unfold c_J2_grow at hf
  refine C.aload_n dJ2_grow_0 rfl 0 rfl ?_
  refine C.aload_n dJ2_grow_1 rfl 0 rfl ?_
  obtain ⟨v2, h2, hf⟩ := ob hf
  refine C.getI dJ2_grow_2 rJ2_48 h2 ?_
  refine X.iconst (v := 1) dJ2_grow_5 (by decide) ?_
  refine X.iadd dJ2_grow_6 ?_
  obtain ⟨c7, hf⟩ := if_n hf
  obtain ⟨v7, T7, h7, hf, l7, r7⟩ := cl_ok hf
  refine C.Vq (As := [.int (v2 + (1 : Int32))]) (rest := []) dJ2_grow_7 (w_J2_grow_2 h7) cJ2_69 (Classical.not_not.mp c7) rfl rfl (xcs xvN (Nat.le_of_ble_eq_true rfl)) rfl rfl (xD (Nat.le_of_ble_eq_true rfl)) l7 r7 ?_
  obtain rfl := Option.some.inj hf
  exact X.aret dJ2_grow_10 rfl (Or.inr ⟨_, rfl⟩) rfl
theorem cJ2_129 : xCV RJ2 129 mJ2_grow 0 := ⟨lw_V q369 q371 qs3 q125 q372, rfl, ⟨by decide +kernel, by decide +kernel, by decide +kernel⟩, Nat.le_of_ble_eq_true rfl⟩
/-! java/util/ArrayList add -/
abbrev cJ2_add_2 : ByteArray := prog_38_method_24_code
def yJ2_add_2 : MethodName := ⟨RJ2, "add", "(Ljava/lang/Object;[Ljava/lang/Object;I)V"⟩
def dkwJ2_add_2_0 : List UInt8 := [29, 44, 190, 160, 0, 8, 42, 182, 0, 129, 77, 44, 29, 43, 83, 42, 29, 4, 96, 181, 0, 48, 177]
abbrev dktJ2_add_2_0 : List UInt8 := dkwJ2_add_2_0 ++ []
theorem dksJ2_add_2_0 : cJ2_add_2.data.toList.drop 0 = dktJ2_add_2_0 := by decide +kernel
theorem dJ2_add_2_0 : decode cJ2_add_2 0 = .ok (.iload_n 3, 1) := dk_29 (dk_at dksJ2_add_2_0 0 rfl rfl)
theorem dJ2_add_2_1 : decode cJ2_add_2 1 = .ok (.aload_n 2, 1) := dk_44 (dk_at dksJ2_add_2_0 1 rfl rfl)
theorem dJ2_add_2_2 : decode cJ2_add_2 2 = .ok (.arraylength, 1) := dk_190 (dk_at dksJ2_add_2_0 2 rfl rfl)
theorem dJ2_add_2_3 : decode cJ2_add_2 3 = .ok (.if_icmp .ne 8, 3) := dk_160 0 8 (dk_at dksJ2_add_2_0 3 rfl rfl)
theorem dJ2_add_2_6 : decode cJ2_add_2 6 = .ok (.aload_n 0, 1) := dk_42 (dk_at dksJ2_add_2_0 6 rfl rfl)
theorem dJ2_add_2_7 : decode cJ2_add_2 7 = .ok (.invokevirtual 129, 3) := dk_182 0 129 (dk_at dksJ2_add_2_0 7 rfl rfl)
theorem dJ2_add_2_10 : decode cJ2_add_2 10 = .ok (.astore_n 2, 1) := dk_77 (dk_at dksJ2_add_2_0 10 rfl rfl)
theorem dJ2_add_2_11 : decode cJ2_add_2 11 = .ok (.aload_n 2, 1) := dk_44 (dk_at dksJ2_add_2_0 11 rfl rfl)
theorem dJ2_add_2_12 : decode cJ2_add_2 12 = .ok (.iload_n 3, 1) := dk_29 (dk_at dksJ2_add_2_0 12 rfl rfl)
theorem dJ2_add_2_13 : decode cJ2_add_2 13 = .ok (.aload_n 1, 1) := dk_43 (dk_at dksJ2_add_2_0 13 rfl rfl)
theorem dJ2_add_2_14 : decode cJ2_add_2 14 = .ok (.aastore, 1) := dk_83 (dk_at dksJ2_add_2_0 14 rfl rfl)
theorem dJ2_add_2_15 : decode cJ2_add_2 15 = .ok (.aload_n 0, 1) := dk_42 (dk_at dksJ2_add_2_0 15 rfl rfl)
theorem dJ2_add_2_16 : decode cJ2_add_2 16 = .ok (.iload_n 3, 1) := dk_29 (dk_at dksJ2_add_2_0 16 rfl rfl)
theorem dJ2_add_2_17 : decode cJ2_add_2 17 = .ok (.iconst 1, 1) := dk_4 (dk_at dksJ2_add_2_0 17 rfl rfl)
theorem dJ2_add_2_18 : decode cJ2_add_2 18 = .ok (.iadd, 1) := dk_96 (dk_at dksJ2_add_2_0 18 rfl rfl)
theorem dJ2_add_2_19 : decode cJ2_add_2 19 = .ok (.putfield 48, 3) := dk_181 0 48 (dk_at dksJ2_add_2_0 19 rfl rfl)
theorem dJ2_add_2_22 : decode cJ2_add_2 22 = .ok (.return_, 1) := dk_177 (dk_at dksJ2_add_2_0 22 rfl rfl)
abbrev mJ2_add_2 : xM := (yJ2_add_2, cJ2_add_2, 4, none, [])
def c_J2_add_2_11 (G : xG) (x0 : Option Nat) (x1 : Option Nat) (x2 : Option Nat) (x3 : Int32) (T : xF) : Option (Unit × xF) :=
  (stR T x2 x3 x1).bind fun T14 =>
  (pV T14 x0 10 2 (.int (x3 + (1 : Int32)))).bind fun T19 =>
  some ((), T19)
theorem c_J2_add_2_11_ok {G : xG}  {T0 : xF}   (x0 : Option Nat) (x1 : Option Nat) (x2 : Option Nat) (x3 : Int32) (T : xF) (q : (Unit × xF)) (hf : c_J2_add_2_11 G x0 x1 x2 x3 T = some q) : Xr G (mJ2_add_2, xrm (6) T0 q.2, T0, .inl none, q.2) 11 [(0, va_rf x0), (1, va_rf x1), (2, va_rf x2), (3, .int x3)] [] T := by
  unfold c_J2_add_2_11 at hf
  refine C.aload_n dJ2_add_2_11 rfl 2 rfl ?_
  refine X.iload_n dJ2_add_2_12 rfl 3 rfl ?_
  refine C.aload_n dJ2_add_2_13 rfl 1 rfl ?_
  obtain ⟨T14, h14, hf⟩ := ob hf
  refine C.aast dJ2_add_2_14 h14 ?_
  refine C.aload_n dJ2_add_2_15 rfl 0 rfl ?_
  refine X.iload_n dJ2_add_2_16 rfl 3 rfl ?_
  refine X.iconst (v := 1) dJ2_add_2_17 (by decide) ?_
  refine X.iadd dJ2_add_2_18 ?_
  obtain ⟨T19, h19, hf⟩ := ob hf
  refine C.putI dJ2_add_2_19 fJ2_48 (fun q => by cases q) rfl rfl h19 ?_
  obtain rfl := Option.some.inj hf
  exact X.vret dJ2_add_2_22 rfl rfl
def c_J2_add_2 (G : xG) (x0 : Option Nat) (x1 : Option Nat) (x2 : Option Nat) (x3 : Int32) (T : xF) : Option (Unit × xF) :=
  (len T x2).bind fun v2 =>
  if x3 = v2 then
    if ¬ isO T x0 10 = true then none else
    cl (c_J2_grow G x0 T) T fun v7 T7 =>
    c_J2_add_2_11 G x0 x1 v7 x3 T7
  else
    c_J2_add_2_11 G x0 x1 x2 x3 T
theorem w_J2_add_2 {G : xG}  {T : xF} {x0 : Option Nat} {x1 : Option Nat} {x2 : Option Nat} {x3 : Int32} {q : (Unit × xF)} (hf : c_J2_add_2 G x0 x1 x2 x3 T = some q) : Ct G mJ2_add_2 (6) T [va_rf x0, va_rf x1, va_rf x2, .int x3] (.inl none) q.2 := by
  refine Ct.ofc (plainFor_of_name (by decide +kernel)) rfl (xvQ (xvQ (xvQ (xvI xvN)))) (Nat.le_of_ble_eq_true rfl) (show Xr G _ 0 [(0, va_rf x0), (1, va_rf x1), (2, va_rf x2), (3, .int x3)] [] _ from ?_)
  unfold c_J2_add_2 at hf
  refine X.iload_n dJ2_add_2_0 rfl 3 rfl ?_
  refine C.aload_n dJ2_add_2_1 rfl 2 rfl ?_
  obtain ⟨v2, h2, hf⟩ := ob hf
  refine C.alen dJ2_add_2_2 h2 ?_
  refine X.icmp_ne (tgt := 11) dJ2_add_2_3 (by decide) (fun c3 => ?_) (fun c3 => ?_)
  · have hf := if_f c3 hf
    refine X.sub [0, 1, 2, 3] (L' := [(0, va_rf x0), (1, va_rf x1), (2, va_rf x2), (3, .int x3)]) rfl ?_
    exact c_J2_add_2_11_ok _ _ _ _ _ _ hf
  · have hf := if_t c3 hf
    refine C.aload_n dJ2_add_2_6 rfl 0 rfl ?_
    obtain ⟨c7, hf⟩ := if_n hf
    obtain ⟨v7, T7, h7, hf, l7, r7⟩ := cl_ok hf
    refine C.Vq (As := []) (rest := []) dJ2_add_2_7 (w_J2_grow h7) cJ2_129 (Classical.not_not.mp c7) rfl rfl (xcs xvN (Nat.le_of_ble_eq_true rfl)) rfl rfl (xD (Nat.le_of_ble_eq_true rfl)) l7 r7 ?_
    refine C.ast_n (L' := [(2, va_rf v7), (0, va_rf x0), (1, va_rf x1), (3, .int x3)]) dJ2_add_2_10 rfl (Nat.le_of_ble_eq_true rfl) (xcQ (xcQ (xcQ (xcI xcN)))) rfl ?_
    refine X.sub [1, 2, 0, 3] (L' := [(0, va_rf x0), (1, va_rf x1), (2, va_rf v7), (3, .int x3)]) rfl ?_
    exact c_J2_add_2_11_ok _ _ _ _ _ _ hf
theorem cJ2_131 : xCV RJ2 131 mJ2_add_2 3 := ⟨lw_V q365 q367 qs2 q125 q368, rfl, ⟨by decide +kernel, by decide +kernel, by decide +kernel⟩, Nat.le_of_ble_eq_true rfl⟩
/-! java/util/ArrayList add -/
abbrev cJ2_add : ByteArray := prog_38_method_25_code
def yJ2_add : MethodName := ⟨RJ2, "add", "(Ljava/lang/Object;)Z"⟩
def dkwJ2_add_1 : List UInt8 := [172]
abbrev dktJ2_add_1 : List UInt8 := dkwJ2_add_1 ++ []
def dkwJ2_add_0 : List UInt8 := [42, 89, 180, 0, 63, 4, 96, 181, 0, 63, 42, 43, 42, 180, 0, 9, 42, 180, 0, 48, 182, 0, 131, 4]
abbrev dktJ2_add_0 : List UInt8 := dkwJ2_add_0 ++ dktJ2_add_1
theorem dksJ2_add_0 : cJ2_add.data.toList.drop 0 = dktJ2_add_0 := by decide +kernel
theorem dksJ2_add_1 : cJ2_add.data.toList.drop 24 = dktJ2_add_1 := dk_seg dksJ2_add_0 24 rfl rfl
theorem dJ2_add_0 : decode cJ2_add 0 = .ok (.aload_n 0, 1) := dk_42 (dk_at dksJ2_add_0 0 rfl rfl)
theorem dJ2_add_1 : decode cJ2_add 1 = .ok (.dup, 1) := dk_89 (dk_at dksJ2_add_0 1 rfl rfl)
theorem dJ2_add_2 : decode cJ2_add 2 = .ok (.getfield 63, 3) := dk_180 0 63 (dk_at dksJ2_add_0 2 rfl rfl)
theorem dJ2_add_5 : decode cJ2_add 5 = .ok (.iconst 1, 1) := dk_4 (dk_at dksJ2_add_0 5 rfl rfl)
theorem dJ2_add_6 : decode cJ2_add 6 = .ok (.iadd, 1) := dk_96 (dk_at dksJ2_add_0 6 rfl rfl)
theorem dJ2_add_7 : decode cJ2_add 7 = .ok (.putfield 63, 3) := dk_181 0 63 (dk_at dksJ2_add_0 7 rfl rfl)
theorem dJ2_add_10 : decode cJ2_add 10 = .ok (.aload_n 0, 1) := dk_42 (dk_at dksJ2_add_0 10 rfl rfl)
theorem dJ2_add_11 : decode cJ2_add 11 = .ok (.aload_n 1, 1) := dk_43 (dk_at dksJ2_add_0 11 rfl rfl)
theorem dJ2_add_12 : decode cJ2_add 12 = .ok (.aload_n 0, 1) := dk_42 (dk_at dksJ2_add_0 12 rfl rfl)
theorem dJ2_add_13 : decode cJ2_add 13 = .ok (.getfield 9, 3) := dk_180 0 9 (dk_at dksJ2_add_0 13 rfl rfl)
theorem dJ2_add_16 : decode cJ2_add 16 = .ok (.aload_n 0, 1) := dk_42 (dk_at dksJ2_add_0 16 rfl rfl)
theorem dJ2_add_17 : decode cJ2_add 17 = .ok (.getfield 48, 3) := dk_180 0 48 (dk_at dksJ2_add_0 17 rfl rfl)
theorem dJ2_add_20 : decode cJ2_add 20 = .ok (.invokevirtual 131, 3) := dk_182 0 131 (dk_at dksJ2_add_0 20 rfl rfl)
theorem dJ2_add_23 : decode cJ2_add 23 = .ok (.iconst 1, 1) := dk_4 (dk_at dksJ2_add_0 23 rfl rfl)
theorem dJ2_add_24 : decode cJ2_add 24 = .ok (.ireturn, 1) := dk_172 (dk_at dksJ2_add_1 0 rfl rfl)
abbrev mJ2_add : xM := (yJ2_add, cJ2_add, 2, (some .boolean), [])
def c_J2_add (G : xG) (x0 : Option Nat) (x1 : Option Nat) (T : xF) : Option (Int32 × xF) :=
  (oI T x0 10 0).bind fun v2 =>
  (pV T x0 10 0 (.int (v2 + (1 : Int32)))).bind fun T7 =>
  (oQ T7 x0 10 1).bind fun v13 =>
  (oI T7 x0 10 2).bind fun v17 =>
  if ¬ isO T7 x0 10 = true then none else
  cl (c_J2_add_2 G x0 x1 v13 v17 T7) T7 fun v20 T20 =>
  some ((1 : Int32), T20)
theorem w_J2_add {G : xG}  {T : xF} {x0 : Option Nat} {x1 : Option Nat} {q : (Int32 × xF)} (hf : c_J2_add G x0 x1 T = some q) : Ct G mJ2_add (7) T [va_rf x0, va_rf x1] (.inl (some (.int q.1))) q.2 := by
  refine Ct.ofc (plainFor_of_name (by decide +kernel)) rfl (xvQ (xvQ xvN)) (Nat.le_of_ble_eq_true rfl) (show Xr G _ 0 [(0, va_rf x0), (1, va_rf x1)] [] _ from ?_)
  unfold c_J2_add at hf
  refine C.aload_n dJ2_add_0 rfl 0 rfl ?_
  refine X.dup dJ2_add_1 (cat1 _) ?_
  obtain ⟨v2, h2, hf⟩ := ob hf
  refine C.getI dJ2_add_2 rJ2_63 h2 ?_
  refine X.iconst (v := 1) dJ2_add_5 (by decide) ?_
  refine X.iadd dJ2_add_6 ?_
  obtain ⟨T7, h7, hf⟩ := ob hf
  refine C.putI dJ2_add_7 fJ2_63 (fun q => by cases q) rfl rfl h7 ?_
  refine C.aload_n dJ2_add_10 rfl 0 rfl ?_
  refine C.aload_n dJ2_add_11 rfl 1 rfl ?_
  refine C.aload_n dJ2_add_12 rfl 0 rfl ?_
  obtain ⟨v13, h13, hf⟩ := ob hf
  refine C.getQ dJ2_add_13 rJ2_9 h13 ?_
  refine C.aload_n dJ2_add_16 rfl 0 rfl ?_
  obtain ⟨v17, h17, hf⟩ := ob hf
  refine C.getI dJ2_add_17 rJ2_48 h17 ?_
  obtain ⟨c20, hf⟩ := if_n hf
  obtain ⟨v20, T20, h20, hf, l20, r20⟩ := cl_ok hf
  refine C.Vv (As := [va_rf x1, va_rf v13, .int v17]) (rest := []) dJ2_add_20 (w_J2_add_2 h20) cJ2_131 (Classical.not_not.mp c20) rfl rfl (xcs xvN (Nat.le_of_ble_eq_true rfl)) rfl rfl (xD (Nat.le_of_ble_eq_true rfl)) l20 r20 ?_
  refine X.iconst (v := 1) dJ2_add_23 (by decide) ?_
  obtain rfl := Option.some.inj hf
  exact X.iret dJ2_add_24 rfl rfl rfl
theorem cX1_186 : xCF RX1 186 "java/util/ArrayList" ⟨"java/util/List", "add", "(Ljava/lang/Object;)Z"⟩ mJ2_add 1 := ⟨lw_F q356 q360 q362 q125 q364, rfl, ⟨by decide +kernel, by decide +kernel, by decide +kernel⟩, Nat.le_of_ble_eq_true rfl, by decide⟩
theorem cX7_23 : xCF RX7 23 "java/util/ArrayList" ⟨"java/util/List", "add", "(Ljava/lang/Object;)Z"⟩ mJ2_add 1 := ⟨lw_F q1140 q360 q362 q125 q364, rfl, ⟨by decide +kernel, by decide +kernel, by decide +kernel⟩, Nat.le_of_ble_eq_true rfl, by decide⟩
theorem cX5_249 : xCF RX5 249 "java/util/ArrayList" ⟨"java/util/List", "add", "(Ljava/lang/Object;)Z"⟩ mJ2_add 1 := ⟨lw_F q1053 q360 q362 q125 q364, rfl, ⟨by decide +kernel, by decide +kernel, by decide +kernel⟩, Nat.le_of_ble_eq_true rfl, by decide⟩
/-! MouldVotes sowings -/
abbrev cX1_sowings : ByteArray := prog_1_method_45_code
def yX1_sowings : MethodName := ⟨RX1, "sowings", "()Ljava/util/List;"⟩
def dkwX1_sowings_4 : List UInt8 := [43, 176]
abbrev dktX1_sowings_4 : List UInt8 := dkwX1_sowings_4 ++ []
def dkwX1_sowings_3 : List UInt8 := [104, 29, 96, 184, 0, 230, 185, 0, 186, 2, 0, 87, 132, 3, 1, 167, 255, 192, 132, 2, 1, 167, 255, 173]
abbrev dktX1_sowings_3 : List UInt8 := dkwX1_sowings_3 ++ dktX1_sowings_4
def dkwX1_sowings_2 : List UInt8 := [2, 159, 0, 6, 167, 0, 32, 42, 28, 29, 182, 1, 4, 42, 182, 1, 7, 153, 0, 19, 43, 16, 10, 28]
abbrev dktX1_sowings_2 : List UInt8 := dkwX1_sowings_2 ++ dktX1_sowings_3
def dkwX1_sowings_1 : List UInt8 := [42, 180, 0, 22, 180, 0, 101, 185, 0, 104, 1, 0, 162, 0, 54, 42, 180, 0, 38, 180, 0, 96, 28, 46]
abbrev dktX1_sowings_1 : List UInt8 := dkwX1_sowings_1 ++ dktX1_sowings_2
def dkwX1_sowings_0 : List UInt8 := [187, 0, 52, 89, 183, 0, 54, 76, 3, 61, 28, 42, 180, 0, 22, 182, 0, 92, 162, 0, 78, 3, 62, 29]
abbrev dktX1_sowings_0 : List UInt8 := dkwX1_sowings_0 ++ dktX1_sowings_1
theorem dksX1_sowings_0 : cX1_sowings.data.toList.drop 0 = dktX1_sowings_0 := by decide +kernel
theorem dksX1_sowings_1 : cX1_sowings.data.toList.drop 24 = dktX1_sowings_1 := dk_seg dksX1_sowings_0 24 rfl rfl
theorem dksX1_sowings_2 : cX1_sowings.data.toList.drop 48 = dktX1_sowings_2 := dk_seg dksX1_sowings_1 24 rfl rfl
theorem dksX1_sowings_3 : cX1_sowings.data.toList.drop 72 = dktX1_sowings_3 := dk_seg dksX1_sowings_2 24 rfl rfl
theorem dksX1_sowings_4 : cX1_sowings.data.toList.drop 96 = dktX1_sowings_4 := dk_seg dksX1_sowings_3 24 rfl rfl
theorem dX1_sowings_0 : decode cX1_sowings 0 = .ok (.new 52, 3) := dk_187 0 52 (dk_at dksX1_sowings_0 0 rfl rfl)
theorem dX1_sowings_3 : decode cX1_sowings 3 = .ok (.dup, 1) := dk_89 (dk_at dksX1_sowings_0 3 rfl rfl)
theorem dX1_sowings_4 : decode cX1_sowings 4 = .ok (.invokespecial 54, 3) := dk_183 0 54 (dk_at dksX1_sowings_0 4 rfl rfl)
theorem dX1_sowings_7 : decode cX1_sowings 7 = .ok (.astore_n 1, 1) := dk_76 (dk_at dksX1_sowings_0 7 rfl rfl)
theorem dX1_sowings_8 : decode cX1_sowings 8 = .ok (.iconst 0, 1) := dk_3 (dk_at dksX1_sowings_0 8 rfl rfl)
theorem dX1_sowings_9 : decode cX1_sowings 9 = .ok (.istore_n 2, 1) := dk_61 (dk_at dksX1_sowings_0 9 rfl rfl)
theorem dX1_sowings_10 : decode cX1_sowings 10 = .ok (.iload_n 2, 1) := dk_28 (dk_at dksX1_sowings_0 10 rfl rfl)
theorem dX1_sowings_11 : decode cX1_sowings 11 = .ok (.aload_n 0, 1) := dk_42 (dk_at dksX1_sowings_0 11 rfl rfl)
theorem dX1_sowings_12 : decode cX1_sowings 12 = .ok (.getfield 22, 3) := dk_180 0 22 (dk_at dksX1_sowings_0 12 rfl rfl)
theorem dX1_sowings_15 : decode cX1_sowings 15 = .ok (.invokevirtual 92, 3) := dk_182 0 92 (dk_at dksX1_sowings_0 15 rfl rfl)
theorem dX1_sowings_18 : decode cX1_sowings 18 = .ok (.if_icmp .ge 78, 3) := dk_162 0 78 (dk_at dksX1_sowings_0 18 rfl rfl)
theorem dX1_sowings_21 : decode cX1_sowings 21 = .ok (.iconst 0, 1) := dk_3 (dk_at dksX1_sowings_0 21 rfl rfl)
theorem dX1_sowings_22 : decode cX1_sowings 22 = .ok (.istore_n 3, 1) := dk_62 (dk_at dksX1_sowings_0 22 rfl rfl)
theorem dX1_sowings_23 : decode cX1_sowings 23 = .ok (.iload_n 3, 1) := dk_29 (dk_at dksX1_sowings_0 23 rfl rfl)
theorem dX1_sowings_24 : decode cX1_sowings 24 = .ok (.aload_n 0, 1) := dk_42 (dk_at dksX1_sowings_1 0 rfl rfl)
theorem dX1_sowings_25 : decode cX1_sowings 25 = .ok (.getfield 22, 3) := dk_180 0 22 (dk_at dksX1_sowings_1 1 rfl rfl)
theorem dX1_sowings_28 : decode cX1_sowings 28 = .ok (.getfield 101, 3) := dk_180 0 101 (dk_at dksX1_sowings_1 4 rfl rfl)
theorem dX1_sowings_31 : decode cX1_sowings 31 = .ok (.invokeinterface 104 1, 5) := by decide +kernel
theorem dX1_sowings_36 : decode cX1_sowings 36 = .ok (.if_icmp .ge 54, 3) := dk_162 0 54 (dk_at dksX1_sowings_1 12 rfl rfl)
theorem dX1_sowings_39 : decode cX1_sowings 39 = .ok (.aload_n 0, 1) := dk_42 (dk_at dksX1_sowings_1 15 rfl rfl)
theorem dX1_sowings_40 : decode cX1_sowings 40 = .ok (.getfield 38, 3) := dk_180 0 38 (dk_at dksX1_sowings_1 16 rfl rfl)
theorem dX1_sowings_43 : decode cX1_sowings 43 = .ok (.getfield 96, 3) := dk_180 0 96 (dk_at dksX1_sowings_1 19 rfl rfl)
theorem dX1_sowings_46 : decode cX1_sowings 46 = .ok (.iload_n 2, 1) := dk_28 (dk_at dksX1_sowings_1 22 rfl rfl)
theorem dX1_sowings_47 : decode cX1_sowings 47 = .ok (.iaload, 1) := dk_46 (dk_at dksX1_sowings_1 23 rfl rfl)
theorem dX1_sowings_48 : decode cX1_sowings 48 = .ok (.iconst (-1), 1) := dk_2 (dk_at dksX1_sowings_2 0 rfl rfl)
theorem dX1_sowings_49 : decode cX1_sowings 49 = .ok (.if_icmp .eq 6, 3) := dk_159 0 6 (dk_at dksX1_sowings_2 1 rfl rfl)
theorem dX1_sowings_52 : decode cX1_sowings 52 = .ok (.goto 32, 3) := dk_167 0 32 (dk_at dksX1_sowings_2 4 rfl rfl)
theorem dX1_sowings_55 : decode cX1_sowings 55 = .ok (.aload_n 0, 1) := dk_42 (dk_at dksX1_sowings_2 7 rfl rfl)
theorem dX1_sowings_56 : decode cX1_sowings 56 = .ok (.iload_n 2, 1) := dk_28 (dk_at dksX1_sowings_2 8 rfl rfl)
theorem dX1_sowings_57 : decode cX1_sowings 57 = .ok (.iload_n 3, 1) := dk_29 (dk_at dksX1_sowings_2 9 rfl rfl)
theorem dX1_sowings_58 : decode cX1_sowings 58 = .ok (.invokevirtual 260, 3) := dk_182 1 4 (dk_at dksX1_sowings_2 10 rfl rfl)
theorem dX1_sowings_61 : decode cX1_sowings 61 = .ok (.aload_n 0, 1) := dk_42 (dk_at dksX1_sowings_2 13 rfl rfl)
theorem dX1_sowings_62 : decode cX1_sowings 62 = .ok (.invokevirtual 263, 3) := dk_182 1 7 (dk_at dksX1_sowings_2 14 rfl rfl)
theorem dX1_sowings_65 : decode cX1_sowings 65 = .ok (.ifCond .eq 19, 3) := dk_153 0 19 (dk_at dksX1_sowings_2 17 rfl rfl)
theorem dX1_sowings_68 : decode cX1_sowings 68 = .ok (.aload_n 1, 1) := dk_43 (dk_at dksX1_sowings_2 20 rfl rfl)
theorem dX1_sowings_69 : decode cX1_sowings 69 = .ok (.bipush 10, 2) := dk_16 10 (dk_at dksX1_sowings_2 21 rfl rfl)
theorem dX1_sowings_71 : decode cX1_sowings 71 = .ok (.iload_n 2, 1) := dk_28 (dk_at dksX1_sowings_2 23 rfl rfl)
theorem dX1_sowings_72 : decode cX1_sowings 72 = .ok (.imul, 1) := dk_104 (dk_at dksX1_sowings_3 0 rfl rfl)
theorem dX1_sowings_73 : decode cX1_sowings 73 = .ok (.iload_n 3, 1) := dk_29 (dk_at dksX1_sowings_3 1 rfl rfl)
theorem dX1_sowings_74 : decode cX1_sowings 74 = .ok (.iadd, 1) := dk_96 (dk_at dksX1_sowings_3 2 rfl rfl)
theorem dX1_sowings_75 : decode cX1_sowings 75 = .ok (.invokestatic 230, 3) := dk_184 0 230 (dk_at dksX1_sowings_3 3 rfl rfl)
theorem dX1_sowings_78 : decode cX1_sowings 78 = .ok (.invokeinterface 186 2, 5) := by decide +kernel
theorem dX1_sowings_83 : decode cX1_sowings 83 = .ok (.pop, 1) := dk_87 (dk_at dksX1_sowings_3 11 rfl rfl)
theorem dX1_sowings_84 : decode cX1_sowings 84 = .ok (.iinc 3 1, 3) := dk_132 3 1 (dk_at dksX1_sowings_3 12 rfl rfl)
theorem dX1_sowings_87 : decode cX1_sowings 87 = .ok (.goto (-64), 3) := dk_167 255 192 (dk_at dksX1_sowings_3 15 rfl rfl)
theorem dX1_sowings_90 : decode cX1_sowings 90 = .ok (.iinc 2 1, 3) := dk_132 2 1 (dk_at dksX1_sowings_3 18 rfl rfl)
theorem dX1_sowings_93 : decode cX1_sowings 93 = .ok (.goto (-83), 3) := dk_167 255 173 (dk_at dksX1_sowings_3 21 rfl rfl)
theorem dX1_sowings_96 : decode cX1_sowings 96 = .ok (.aload_n 1, 1) := dk_43 (dk_at dksX1_sowings_4 0 rfl rfl)
theorem dX1_sowings_97 : decode cX1_sowings 97 = .ok (.areturn, 1) := dk_176 (dk_at dksX1_sowings_4 1 rfl rfl)
abbrev mX1_sowings : xM := (yX1_sowings, cX1_sowings, 4, (some (.object "java/util/List")), [])
def c_X1_sowings_84 (G : xG) (k10 : Option Nat → Option Nat → Int32 → xF → Option (Option Nat × xF)) (k23 : Option Nat → Option Nat → Int32 → Int32 → xF → Option (Option Nat × xF)) (x0 : Option Nat) (x1 : Option Nat) (x2 : Int32) (x3 : Int32) (T : xF) : Option (Option Nat × xF) :=
  k23 x0 x1 x2 (x3 + 1) T
theorem c_X1_sowings_84_ok {G : xG}  {T0 : xF} {k10 : Option Nat → Option Nat → Int32 → xF → Option (Option Nat × xF)} {k23 : Option Nat → Option Nat → Int32 → Int32 → xF → Option (Option Nat × xF)} (hk10 : ∀ (x0 : Option Nat) (x1 : Option Nat) (x2 : Int32) (T : xF) (q : (Option Nat × xF)), k10 x0 x1 x2 T = some q → Xr G (mX1_sowings, xrm (126) T0 q.2, T0, .inl (some (va_rf q.1)), q.2) 10 [(0, va_rf x0), (1, va_rf x1), (2, .int x2)] [] T) (hk23 : ∀ (x0 : Option Nat) (x1 : Option Nat) (x2 : Int32) (x3 : Int32) (T : xF) (q : (Option Nat × xF)), k23 x0 x1 x2 x3 T = some q → Xr G (mX1_sowings, xrm (126) T0 q.2, T0, .inl (some (va_rf q.1)), q.2) 23 [(0, va_rf x0), (1, va_rf x1), (2, .int x2), (3, .int x3)] [] T) (x0 : Option Nat) (x1 : Option Nat) (x2 : Int32) (x3 : Int32) (T : xF) (q : (Option Nat × xF)) (hf : c_X1_sowings_84 G k10 k23 x0 x1 x2 x3 T = some q) : Xr G (mX1_sowings, xrm (126) T0 q.2, T0, .inl (some (va_rf q.1)), q.2) 84 [(0, va_rf x0), (1, va_rf x1), (2, .int x2), (3, .int x3)] [] T := by
  unfold c_X1_sowings_84 at hf
  refine C.iinc (v := (x3 + 1)) (L' := [(3, .int (x3 + 1)), (0, va_rf x0), (1, va_rf x1), (2, .int x2)]) dX1_sowings_84 3 rfl rfl (Nat.le_of_ble_eq_true rfl) (xcQ (xcQ (xcI (xcI xcN)))) rfl ?_
  refine X.goto (tgt := 23) dX1_sowings_87 (by decide) ?_
  refine X.sub [1, 2, 3, 0] (L' := [(0, va_rf x0), (1, va_rf x1), (2, .int x2), (3, .int (x3 + 1))]) rfl ?_
  exact hk23 _ _ _ _ _ _ hf
def c_X1_sowings_23_b (G : xG) (k10 : Option Nat → Option Nat → Int32 → xF → Option (Option Nat × xF)) (k23 : Option Nat → Option Nat → Int32 → Int32 → xF → Option (Option Nat × xF)) (x0 : Option Nat) (x1 : Option Nat) (x2 : Int32) (x3 : Int32) (T : xF) : Option (Option Nat × xF) :=
  (oQ T x0 0 1).bind fun v25 =>
  (oQ T v25 1 0).bind fun v28 =>
  if ¬ isO T v28 10 = true then none else
  (c_J2_size T v28).bind fun v31 =>
  if v31 ≤ x3 then
    k10 x0 x1 (x2 + 1) T
  else
    (oQ T x0 0 4).bind fun v40 =>
    (oQ T v40 2 2).bind fun v43 =>
    (ldA T v43 .int x2).bind fun v47 =>
    if v47 = (-1 : Int32) then
      if ¬ isO T x0 0 = true then none else
      cl (c_X1_trySowing x0 x2 x3 T) T fun v58 T58 =>
      if ¬ isO T58 x0 0 = true then none else
      cl (c_X1_isSo G x0 T58) T58 fun v62 T62 =>
      if v62 = 0 then
        c_X1_sowings_84 G k10 k23 x0 x1 x2 x3 T62
      else
        cl (c_J14_valueOf G (((10 : Int32) * x2) + x3) T62) T62 fun v75 T75 =>
        if ¬ isO T75 x1 10 = true then none else
        cl (c_J2_add G x1 v75 T75) T75 fun v78 T78 =>
        c_X1_sowings_84 G k10 k23 x0 x1 x2 x3 T78
    else
      c_X1_sowings_84 G k10 k23 x0 x1 x2 x3 T
def c_X1_sowings_23 (G : xG) (k10 : Option Nat → Option Nat → Int32 → xF → Option (Option Nat × xF)) : Nat → Option Nat → Option Nat → Int32 → Int32 → xF → Option (Option Nat × xF)
  | 0 => fun _ _ _ _ _ => none
  | n + 1 => fun x0 x1 x2 x3 T => c_X1_sowings_23_b G k10 (c_X1_sowings_23 G k10 n) x0 x1 x2 x3 T
theorem c_X1_sowings_23_bok {G : xG}  {T0 : xF} {k10 : Option Nat → Option Nat → Int32 → xF → Option (Option Nat × xF)} {k23 : Option Nat → Option Nat → Int32 → Int32 → xF → Option (Option Nat × xF)} (hk10 : ∀ (x0 : Option Nat) (x1 : Option Nat) (x2 : Int32) (T : xF) (q : (Option Nat × xF)), k10 x0 x1 x2 T = some q → Xr G (mX1_sowings, xrm (126) T0 q.2, T0, .inl (some (va_rf q.1)), q.2) 10 [(0, va_rf x0), (1, va_rf x1), (2, .int x2)] [] T) (hk23 : ∀ (x0 : Option Nat) (x1 : Option Nat) (x2 : Int32) (x3 : Int32) (T : xF) (q : (Option Nat × xF)), k23 x0 x1 x2 x3 T = some q → Xr G (mX1_sowings, xrm (126) T0 q.2, T0, .inl (some (va_rf q.1)), q.2) 23 [(0, va_rf x0), (1, va_rf x1), (2, .int x2), (3, .int x3)] [] T) (x0 : Option Nat) (x1 : Option Nat) (x2 : Int32) (x3 : Int32) (T : xF) (q : (Option Nat × xF)) (hf : c_X1_sowings_23_b G k10 k23 x0 x1 x2 x3 T = some q) : Xr G (mX1_sowings, xrm (126) T0 q.2, T0, .inl (some (va_rf q.1)), q.2) 23 [(0, va_rf x0), (1, va_rf x1), (2, .int x2), (3, .int x3)] [] T := by
  unfold c_X1_sowings_23_b at hf
  refine X.iload_n dX1_sowings_23 rfl 3 rfl ?_
  refine C.aload_n dX1_sowings_24 rfl 0 rfl ?_
  obtain ⟨v25, h25, hf⟩ := ob hf
  refine C.getQ dX1_sowings_25 rX1_22 h25 ?_
  obtain ⟨v28, h28, hf⟩ := ob hf
  refine C.getQ dX1_sowings_28 rX1_101 h28 ?_
  obtain ⟨c31, hf⟩ := if_n hf
  obtain ⟨v31, h31, hf⟩ := ob hf
  refine X.keep fun l31 => C.Fi (As := []) (rest := [.int x3]) dX1_sowings_31 (w_J2_size h31) cX1_104 (Classical.not_not.mp c31) rfl rfl (xcs (xvI xvN) (Nat.le_of_ble_eq_true rfl)) rfl rfl (xD (Nat.le_of_ble_eq_true rfl)) xle.rf l31 ?_
  refine X.icmp_ge (tgt := 90) dX1_sowings_36 (by decide) (fun c36 => ?_) (fun c36 => ?_)
  · have hf := if_t c36 hf
    refine C.iinc (v := (x2 + 1)) (L' := [(2, .int (x2 + 1)), (0, va_rf x0), (1, va_rf x1), (3, .int x3)]) dX1_sowings_90 2 rfl rfl (Nat.le_of_ble_eq_true rfl) (xcQ (xcQ (xcI (xcI xcN)))) rfl ?_
    refine X.goto (tgt := 10) dX1_sowings_93 (by decide) ?_
    refine X.sub [1, 2, 0] (L' := [(0, va_rf x0), (1, va_rf x1), (2, .int (x2 + 1))]) rfl ?_
    exact hk10 _ _ _ _ _ hf
  · have hf := if_f c36 hf
    refine C.aload_n dX1_sowings_39 rfl 0 rfl ?_
    obtain ⟨v40, h40, hf⟩ := ob hf
    refine C.getQ dX1_sowings_40 rX1_38 h40 ?_
    obtain ⟨v43, h43, hf⟩ := ob hf
    refine C.getQ dX1_sowings_43 rX1_96 h43 ?_
    refine X.iload_n dX1_sowings_46 rfl 2 rfl ?_
    obtain ⟨v47, h47, hf⟩ := ob hf
    refine C.iald dX1_sowings_47 h47 ?_
    refine X.iconst (v := -1) dX1_sowings_48 (by decide) ?_
    refine X.icmp_eq (tgt := 55) dX1_sowings_49 (by decide) (fun c49 => ?_) (fun c49 => ?_)
    · have hf := if_t c49 hf
      refine C.aload_n dX1_sowings_55 rfl 0 rfl ?_
      refine X.iload_n dX1_sowings_56 rfl 2 rfl ?_
      refine X.iload_n dX1_sowings_57 rfl 3 rfl ?_
      obtain ⟨c58, hf⟩ := if_n hf
      obtain ⟨v58, T58, h58, hf, l58, r58⟩ := cl_ok hf
      refine C.Vv (As := [.int x2, .int x3]) (rest := []) dX1_sowings_58 (w_X1_trySowing h58) cX1_260 (Classical.not_not.mp c58) rfl rfl (xcs xvN (Nat.le_of_ble_eq_true rfl)) rfl rfl (xD (Nat.le_of_ble_eq_true rfl)) l58 r58 ?_
      refine C.aload_n dX1_sowings_61 rfl 0 rfl ?_
      obtain ⟨c62, hf⟩ := if_n hf
      obtain ⟨v62, T62, h62, hf, l62, r62⟩ := cl_ok hf
      refine C.Vi (As := []) (rest := []) dX1_sowings_62 (w_X1_isSo h62) cX1_263 (Classical.not_not.mp c62) rfl rfl (xcs xvN (Nat.le_of_ble_eq_true rfl)) rfl rfl (xD (Nat.le_of_ble_eq_true rfl)) l62 r62 ?_
      refine X.if_eq (tgt := 84) dX1_sowings_65 (by decide) (fun c65 => ?_) (fun c65 => ?_)
      · have hf := if_t c65 hf
        refine X.sub [0, 1, 2, 3] (L' := [(0, va_rf x0), (1, va_rf x1), (2, .int x2), (3, .int x3)]) rfl ?_
        exact c_X1_sowings_84_ok hk10 hk23 _ _ _ _ _ _ hf
      · have hf := if_f c65 hf
        refine C.aload_n dX1_sowings_68 rfl 1 rfl ?_
        refine X.bipush (v := 10) dX1_sowings_69 (by decide) ?_
        refine X.iload_n dX1_sowings_71 rfl 2 rfl ?_
        refine X.imul dX1_sowings_72 ?_
        refine X.iload_n dX1_sowings_73 rfl 3 rfl ?_
        refine X.iadd dX1_sowings_74 ?_
        obtain ⟨v75, T75, h75, hf, l75, r75⟩ := cl_ok hf
        refine C.Sq (As := [.int (((10 : Int32) * x2) + x3)]) (rest := [va_rf x1]) dX1_sowings_75 (w_J14_valueOf h75) cX1_230 rfl rfl (xcs (xvQ xvN) (Nat.le_of_ble_eq_true rfl)) (xD (Nat.le_of_ble_eq_true rfl)) l75 r75 ?_
        obtain ⟨c78, hf⟩ := if_n hf
        obtain ⟨v78, T78, h78, hf, l78, r78⟩ := cl_ok hf
        refine C.Fi (As := [va_rf v75]) (rest := []) dX1_sowings_78 (w_J2_add h78) cX1_186 (Classical.not_not.mp c78) rfl rfl (xcs xvN (Nat.le_of_ble_eq_true rfl)) rfl rfl (xD (Nat.le_of_ble_eq_true rfl)) l78 r78 ?_
        refine X.pop dX1_sowings_83 rfl ?_
        refine X.sub [0, 1, 2, 3] (L' := [(0, va_rf x0), (1, va_rf x1), (2, .int x2), (3, .int x3)]) rfl ?_
        exact c_X1_sowings_84_ok hk10 hk23 _ _ _ _ _ _ hf
    · have hf := if_f c49 hf
      refine X.goto (tgt := 84) dX1_sowings_52 (by decide) ?_
      refine X.sub [0, 1, 2, 3] (L' := [(0, va_rf x0), (1, va_rf x1), (2, .int x2), (3, .int x3)]) rfl ?_
      exact c_X1_sowings_84_ok hk10 hk23 _ _ _ _ _ _ hf
theorem c_X1_sowings_23_ok {G : xG}  {T0 : xF} {k10 : Option Nat → Option Nat → Int32 → xF → Option (Option Nat × xF)} (hk10 : ∀ (x0 : Option Nat) (x1 : Option Nat) (x2 : Int32) (T : xF) (q : (Option Nat × xF)), k10 x0 x1 x2 T = some q → Xr G (mX1_sowings, xrm (126) T0 q.2, T0, .inl (some (va_rf q.1)), q.2) 10 [(0, va_rf x0), (1, va_rf x1), (2, .int x2)] [] T) : ∀ (n : Nat) (x0 : Option Nat) (x1 : Option Nat) (x2 : Int32) (x3 : Int32) (T : xF) (q : (Option Nat × xF)), c_X1_sowings_23 G k10 n x0 x1 x2 x3 T = some q → Xr G (mX1_sowings, xrm (126) T0 q.2, T0, .inl (some (va_rf q.1)), q.2) 23 [(0, va_rf x0), (1, va_rf x1), (2, .int x2), (3, .int x3)] [] T
  | 0, _, _, _, _, _, _, hf => by cases hf
  | n + 1, x0, x1, x2, x3, T, q, hf => c_X1_sowings_23_bok hk10 (c_X1_sowings_23_ok hk10 n) x0 x1 x2 x3 T q hf
def c_X1_sowings_10_b (G : xG) (k10 : Option Nat → Option Nat → Int32 → xF → Option (Option Nat × xF)) (x0 : Option Nat) (x1 : Option Nat) (x2 : Int32) (T : xF) : Option (Option Nat × xF) :=
  (oQ T x0 0 1).bind fun v12 =>
  if ¬ isO T v12 1 = true then none else
  (c_X2_cells T v12).bind fun v15 =>
  if v15 ≤ x2 then
    some (x1, T)
  else
    c_X1_sowings_23 G k10 FU x0 x1 x2 (0 : Int32) T
def c_X1_sowings_10 (G : xG) : Nat → Option Nat → Option Nat → Int32 → xF → Option (Option Nat × xF)
  | 0 => fun _ _ _ _ => none
  | n + 1 => fun x0 x1 x2 T => c_X1_sowings_10_b G (c_X1_sowings_10 G n) x0 x1 x2 T
theorem c_X1_sowings_10_bok {G : xG}  {T0 : xF}  {k10 : Option Nat → Option Nat → Int32 → xF → Option (Option Nat × xF)}  (hk10 : ∀ (x0 : Option Nat) (x1 : Option Nat) (x2 : Int32) (T : xF) (q : (Option Nat × xF)), k10 x0 x1 x2 T = some q → Xr G (mX1_sowings, xrm (126) T0 q.2, T0, .inl (some (va_rf q.1)), q.2) 10 [(0, va_rf x0), (1, va_rf x1), (2, .int x2)] [] T) (x0 : Option Nat) (x1 : Option Nat) (x2 : Int32) (T : xF) (q : (Option Nat × xF)) (hf : c_X1_sowings_10_b G k10 x0 x1 x2 T = some q) : Xr G (mX1_sowings, xrm (126) T0 q.2, T0, .inl (some (va_rf q.1)), q.2) 10 [(0, va_rf x0), (1, va_rf x1), (2, .int x2)] [] T := by
  unfold c_X1_sowings_10_b at hf
  refine X.iload_n dX1_sowings_10 rfl 2 rfl ?_
  refine C.aload_n dX1_sowings_11 rfl 0 rfl ?_
  obtain ⟨v12, h12, hf⟩ := ob hf
  refine C.getQ dX1_sowings_12 rX1_22 h12 ?_
  obtain ⟨c15, hf⟩ := if_n hf
  obtain ⟨v15, h15, hf⟩ := ob hf
  refine X.keep fun l15 => C.Vi (As := []) (rest := [.int x2]) dX1_sowings_15 (w_X2_cells h15) cX1_92 (Classical.not_not.mp c15) rfl rfl (xcs (xvI xvN) (Nat.le_of_ble_eq_true rfl)) rfl rfl (xD (Nat.le_of_ble_eq_true rfl)) xle.rf l15 ?_
  refine X.icmp_ge (tgt := 96) dX1_sowings_18 (by decide) (fun c18 => ?_) (fun c18 => ?_)
  · have hf := if_t c18 hf
    refine C.aload_n dX1_sowings_96 rfl 1 rfl ?_
    obtain rfl := Option.some.inj hf
    exact X.aret dX1_sowings_97 rfl (Or.inl ⟨_, rfl⟩) rfl
  · have hf := if_f c18 hf
    refine X.iconst (v := 0) dX1_sowings_21 (by decide) ?_
    refine C.ist_n (L' := [(3, .int (0 : Int32)), (0, va_rf x0), (1, va_rf x1), (2, .int x2)]) dX1_sowings_22 rfl (Nat.le_of_ble_eq_true rfl) (xcQ (xcQ (xcI xcN))) rfl ?_
    refine X.sub [1, 2, 3, 0] (L' := [(0, va_rf x0), (1, va_rf x1), (2, .int x2), (3, .int (0 : Int32))]) rfl ?_
    exact c_X1_sowings_23_ok hk10 FU _ _ _ _ _ _ hf
theorem c_X1_sowings_10_ok {G : xG}  {T0 : xF}   : ∀ (n : Nat) (x0 : Option Nat) (x1 : Option Nat) (x2 : Int32) (T : xF) (q : (Option Nat × xF)), c_X1_sowings_10 G n x0 x1 x2 T = some q → Xr G (mX1_sowings, xrm (126) T0 q.2, T0, .inl (some (va_rf q.1)), q.2) 10 [(0, va_rf x0), (1, va_rf x1), (2, .int x2)] [] T
  | 0, _, _, _, _, _, hf => by cases hf
  | n + 1, x0, x1, x2, T, q, hf => c_X1_sowings_10_bok (c_X1_sowings_10_ok n) x0 x1 x2 T q hf
def c_X1_sowings (G : xG) (x0 : Option Nat) (T : xF) : Option (Option Nat × xF) :=
  al (nO T 10 3 [.int 0, .null, .int 0]) fun T0 =>
  cl (c_J2_init G (some T.2.1) T0) T0 fun v4 T4 =>
  c_X1_sowings_10 G FU x0 (some T.2.1) (0 : Int32) T4
theorem w_X1_sowings {G : xG}  {T : xF} {x0 : Option Nat} {q : (Option Nat × xF)} (hf : c_X1_sowings G x0 T = some q) : Ct G mX1_sowings (126) T [va_rf x0] (.inl (some (va_rf q.1))) q.2 := by
  refine Ct.ofc (plainFor_of_name (by decide +kernel)) rfl (xvQ xvN) (Nat.le_of_ble_eq_true rfl) (show Xr G _ 0 [(0, va_rf x0)] [] _ from ?_)
  unfold c_X1_sowings at hf
  obtain ⟨T0, e0, hf, l0⟩ := al_ok hf
  refine C.newE e0 dX1_sowings_0 clJ2 q269 q169 q125 rfl dfJ2 l0 ?_
  refine X.dup dX1_sowings_3 (cat1 _) ?_
  obtain ⟨v4, T4, h4, hf, l4, r4⟩ := cl_ok hf
  refine C.Iv (As := []) (rest := [va_rf (some T.2.1)]) dX1_sowings_4 (w_J2_init h4) cX1_54 rfl rfl rfl (xcs (xvQ xvN) (Nat.le_of_ble_eq_true rfl)) (xD (Nat.le_of_ble_eq_true rfl)) l4 r4 ?_
  refine C.ast_n (L' := [(1, va_rf (some T.2.1)), (0, va_rf x0)]) dX1_sowings_7 rfl (Nat.le_of_ble_eq_true rfl) (xcQ xcN) rfl ?_
  refine X.iconst (v := 0) dX1_sowings_8 (by decide) ?_
  refine C.ist_n (L' := [(2, .int (0 : Int32)), (1, va_rf (some T.2.1)), (0, va_rf x0)]) dX1_sowings_9 rfl (Nat.le_of_ble_eq_true rfl) (xcQ (xcQ xcN)) rfl ?_
  refine X.sub [2, 1, 0] (L' := [(0, va_rf x0), (1, va_rf (some T.2.1)), (2, .int (0 : Int32))]) rfl ?_
  exact c_X1_sowings_10_ok FU _ _ _ _ _ hf
theorem cX1_266 : xCV RX1 266 mX1_sowings 0 := ⟨lw_V q1440 q1442 qs45 q121 q1443, rfl, ⟨by decide +kernel, by decide +kernel, by decide +kernel⟩, Nat.le_of_ble_eq_true rfl⟩
/-! MouldVotes next -/
abbrev cX1_next : ByteArray := prog_1_method_47_code
def yX1_next : MethodName := ⟨RX1, "next", "(I)I"⟩
def dkwX1_next_10 : List UInt8 := [27, 154, 0, 8, 21, 4, 167, 0, 5, 21, 5, 172]
abbrev dktX1_next_10 : List UInt8 := dkwX1_next_10 ++ []
def dkwX1_next_9 : List UInt8 := [21, 7, 21, 5, 163, 0, 6, 167, 0, 11, 21, 6, 54, 4, 21, 7, 54, 5, 132, 6, 1, 167, 255, 148]
abbrev dktX1_next_9 : List UInt8 := dkwX1_next_9 ++ dktX1_next_10
def dkwX1_next_8 : List UInt8 := [3, 54, 9, 132, 10, 1, 167, 255, 217, 21, 9, 153, 0, 6, 132, 7, 1, 132, 8, 1, 167, 255, 190]
abbrev dktX1_next_8 : List UInt8 := dkwX1_next_8 ++ dktX1_next_9
def dkwX1_next_7 : List UInt8 := [153, 0, 33, 45, 21, 10, 50, 21, 6, 46, 45, 21, 8, 50, 21, 6, 46, 159, 0, 7, 4, 167, 0, 4]
abbrev dktX1_next_7 : List UInt8 := dkwX1_next_7 ++ dktX1_next_8
def dkwX1_next_6 : List UInt8 := [54, 8, 21, 8, 45, 190, 162, 0, 65, 4, 54, 9, 3, 54, 10, 21, 10, 21, 8, 162, 0, 38, 21, 9]
abbrev dktX1_next_6 : List UInt8 := dkwX1_next_6 ++ dktX1_next_7
def dkwX1_next_5 : List UInt8 := [54, 4, 3, 54, 5, 3, 54, 6, 21, 6, 42, 180, 0, 22, 182, 0, 92, 162, 0, 102, 3, 54, 7, 3]
abbrev dktX1_next_5 : List UInt8 := dkwX1_next_5 ++ dktX1_next_6
def dkwX1_next_4 : List UInt8 := [42, 180, 0, 35, 180, 0, 155, 21, 5, 46, 79, 132, 5, 1, 167, 255, 229, 132, 4, 1, 167, 255, 166, 2]
abbrev dktX1_next_4 : List UInt8 := dkwX1_next_4 ++ dktX1_next_5
def dkwX1_next_3 : List UInt8 := [180, 0, 35, 8, 182, 0, 199, 87, 3, 54, 5, 21, 5, 16, 30, 162, 0, 26, 45, 21, 4, 50, 21, 5]
abbrev dktX1_next_3 : List UInt8 := dkwX1_next_3 ++ dktX1_next_4
def dkwX1_next_2 : List UInt8 := [16, 10, 108, 44, 21, 4, 185, 0, 167, 2, 0, 192, 0, 171, 182, 0, 173, 16, 10, 112, 182, 1, 4, 42]
abbrev dktX1_next_2 : List UInt8 := dkwX1_next_2 ++ dktX1_next_3
def dkwX1_next_1 : List UInt8 := [54, 4, 21, 4, 45, 190, 162, 0, 89, 42, 44, 21, 4, 185, 0, 167, 2, 0, 192, 0, 171, 182, 0, 173]
abbrev dktX1_next_1 : List UInt8 := dkwX1_next_1 ++ dktX1_next_2
def dkwX1_next_0 : List UInt8 := [27, 4, 184, 0, 163, 42, 182, 1, 10, 77, 44, 185, 0, 104, 1, 0, 16, 30, 197, 0, 238, 2, 78, 3]
abbrev dktX1_next_0 : List UInt8 := dkwX1_next_0 ++ dktX1_next_1
theorem dksX1_next_0 : cX1_next.data.toList.drop 0 = dktX1_next_0 := by decide +kernel
theorem dksX1_next_1 : cX1_next.data.toList.drop 24 = dktX1_next_1 := dk_seg dksX1_next_0 24 rfl rfl
theorem dksX1_next_2 : cX1_next.data.toList.drop 48 = dktX1_next_2 := dk_seg dksX1_next_1 24 rfl rfl
theorem dksX1_next_3 : cX1_next.data.toList.drop 72 = dktX1_next_3 := dk_seg dksX1_next_2 24 rfl rfl
theorem dksX1_next_4 : cX1_next.data.toList.drop 96 = dktX1_next_4 := dk_seg dksX1_next_3 24 rfl rfl
theorem dksX1_next_5 : cX1_next.data.toList.drop 120 = dktX1_next_5 := dk_seg dksX1_next_4 24 rfl rfl
theorem dksX1_next_6 : cX1_next.data.toList.drop 144 = dktX1_next_6 := dk_seg dksX1_next_5 24 rfl rfl
theorem dksX1_next_7 : cX1_next.data.toList.drop 168 = dktX1_next_7 := dk_seg dksX1_next_6 24 rfl rfl
theorem dksX1_next_8 : cX1_next.data.toList.drop 192 = dktX1_next_8 := dk_seg dksX1_next_7 24 rfl rfl
theorem dksX1_next_9 : cX1_next.data.toList.drop 215 = dktX1_next_9 := dk_seg dksX1_next_8 23 rfl rfl
theorem dksX1_next_10 : cX1_next.data.toList.drop 239 = dktX1_next_10 := dk_seg dksX1_next_9 24 rfl rfl
theorem dX1_next_0 : decode cX1_next 0 = .ok (.iload_n 1, 1) := dk_27 (dk_at dksX1_next_0 0 rfl rfl)
theorem dX1_next_1 : decode cX1_next 1 = .ok (.iconst 1, 1) := dk_4 (dk_at dksX1_next_0 1 rfl rfl)
theorem dX1_next_2 : decode cX1_next 2 = .ok (.invokestatic 163, 3) := dk_184 0 163 (dk_at dksX1_next_0 2 rfl rfl)
theorem dX1_next_5 : decode cX1_next 5 = .ok (.aload_n 0, 1) := dk_42 (dk_at dksX1_next_0 5 rfl rfl)
theorem dX1_next_6 : decode cX1_next 6 = .ok (.invokevirtual 266, 3) := dk_182 1 10 (dk_at dksX1_next_0 6 rfl rfl)
theorem dX1_next_9 : decode cX1_next 9 = .ok (.astore_n 2, 1) := dk_77 (dk_at dksX1_next_0 9 rfl rfl)
theorem dX1_next_10 : decode cX1_next 10 = .ok (.aload_n 2, 1) := dk_44 (dk_at dksX1_next_0 10 rfl rfl)
theorem dX1_next_11 : decode cX1_next 11 = .ok (.invokeinterface 104 1, 5) := by decide +kernel
theorem dX1_next_16 : decode cX1_next 16 = .ok (.bipush 30, 2) := dk_16 30 (dk_at dksX1_next_0 16 rfl rfl)
theorem dX1_next_18 : decode cX1_next 18 = .ok (.multianewarray 238 2, 4) := by decide +kernel
theorem dX1_next_22 : decode cX1_next 22 = .ok (.astore_n 3, 1) := dk_78 (dk_at dksX1_next_0 22 rfl rfl)
theorem dX1_next_23 : decode cX1_next 23 = .ok (.iconst 0, 1) := dk_3 (dk_at dksX1_next_0 23 rfl rfl)
theorem dX1_next_24 : decode cX1_next 24 = .ok (.istore 4, 2) := dk_54 4 (dk_at dksX1_next_1 0 rfl rfl)
theorem dX1_next_26 : decode cX1_next 26 = .ok (.iload 4, 2) := dk_21 4 (dk_at dksX1_next_1 2 rfl rfl)
theorem dX1_next_28 : decode cX1_next 28 = .ok (.aload_n 3, 1) := dk_45 (dk_at dksX1_next_1 4 rfl rfl)
theorem dX1_next_29 : decode cX1_next 29 = .ok (.arraylength, 1) := dk_190 (dk_at dksX1_next_1 5 rfl rfl)
theorem dX1_next_30 : decode cX1_next 30 = .ok (.if_icmp .ge 89, 3) := dk_162 0 89 (dk_at dksX1_next_1 6 rfl rfl)
theorem dX1_next_33 : decode cX1_next 33 = .ok (.aload_n 0, 1) := dk_42 (dk_at dksX1_next_1 9 rfl rfl)
theorem dX1_next_34 : decode cX1_next 34 = .ok (.aload_n 2, 1) := dk_44 (dk_at dksX1_next_1 10 rfl rfl)
theorem dX1_next_35 : decode cX1_next 35 = .ok (.iload 4, 2) := dk_21 4 (dk_at dksX1_next_1 11 rfl rfl)
theorem dX1_next_37 : decode cX1_next 37 = .ok (.invokeinterface 167 2, 5) := by decide +kernel
theorem dX1_next_42 : decode cX1_next 42 = .ok (.checkcast 171, 3) := dk_192 0 171 (dk_at dksX1_next_1 18 rfl rfl)
theorem dX1_next_45 : decode cX1_next 45 = .ok (.invokevirtual 173, 3) := dk_182 0 173 (dk_at dksX1_next_1 21 rfl rfl)
theorem dX1_next_48 : decode cX1_next 48 = .ok (.bipush 10, 2) := dk_16 10 (dk_at dksX1_next_2 0 rfl rfl)
theorem dX1_next_50 : decode cX1_next 50 = .ok (.idiv, 1) := dk_108 (dk_at dksX1_next_2 2 rfl rfl)
theorem dX1_next_51 : decode cX1_next 51 = .ok (.aload_n 2, 1) := dk_44 (dk_at dksX1_next_2 3 rfl rfl)
theorem dX1_next_52 : decode cX1_next 52 = .ok (.iload 4, 2) := dk_21 4 (dk_at dksX1_next_2 4 rfl rfl)
theorem dX1_next_54 : decode cX1_next 54 = .ok (.invokeinterface 167 2, 5) := by decide +kernel
theorem dX1_next_59 : decode cX1_next 59 = .ok (.checkcast 171, 3) := dk_192 0 171 (dk_at dksX1_next_2 11 rfl rfl)
theorem dX1_next_62 : decode cX1_next 62 = .ok (.invokevirtual 173, 3) := dk_182 0 173 (dk_at dksX1_next_2 14 rfl rfl)
theorem dX1_next_65 : decode cX1_next 65 = .ok (.bipush 10, 2) := dk_16 10 (dk_at dksX1_next_2 17 rfl rfl)
theorem dX1_next_67 : decode cX1_next 67 = .ok (.irem, 1) := dk_112 (dk_at dksX1_next_2 19 rfl rfl)
theorem dX1_next_68 : decode cX1_next 68 = .ok (.invokevirtual 260, 3) := dk_182 1 4 (dk_at dksX1_next_2 20 rfl rfl)
theorem dX1_next_71 : decode cX1_next 71 = .ok (.aload_n 0, 1) := dk_42 (dk_at dksX1_next_2 23 rfl rfl)
theorem dX1_next_72 : decode cX1_next 72 = .ok (.getfield 35, 3) := dk_180 0 35 (dk_at dksX1_next_3 0 rfl rfl)
theorem dX1_next_75 : decode cX1_next 75 = .ok (.iconst 5, 1) := dk_8 (dk_at dksX1_next_3 3 rfl rfl)
theorem dX1_next_76 : decode cX1_next 76 = .ok (.invokevirtual 199, 3) := dk_182 0 199 (dk_at dksX1_next_3 4 rfl rfl)
theorem dX1_next_79 : decode cX1_next 79 = .ok (.pop, 1) := dk_87 (dk_at dksX1_next_3 7 rfl rfl)
theorem dX1_next_80 : decode cX1_next 80 = .ok (.iconst 0, 1) := dk_3 (dk_at dksX1_next_3 8 rfl rfl)
theorem dX1_next_81 : decode cX1_next 81 = .ok (.istore 5, 2) := dk_54 5 (dk_at dksX1_next_3 9 rfl rfl)
theorem dX1_next_83 : decode cX1_next 83 = .ok (.iload 5, 2) := dk_21 5 (dk_at dksX1_next_3 11 rfl rfl)
theorem dX1_next_85 : decode cX1_next 85 = .ok (.bipush 30, 2) := dk_16 30 (dk_at dksX1_next_3 13 rfl rfl)
theorem dX1_next_87 : decode cX1_next 87 = .ok (.if_icmp .ge 26, 3) := dk_162 0 26 (dk_at dksX1_next_3 15 rfl rfl)
theorem dX1_next_90 : decode cX1_next 90 = .ok (.aload_n 3, 1) := dk_45 (dk_at dksX1_next_3 18 rfl rfl)
theorem dX1_next_91 : decode cX1_next 91 = .ok (.iload 4, 2) := dk_21 4 (dk_at dksX1_next_3 19 rfl rfl)
theorem dX1_next_93 : decode cX1_next 93 = .ok (.aaload, 1) := dk_50 (dk_at dksX1_next_3 21 rfl rfl)
theorem dX1_next_94 : decode cX1_next 94 = .ok (.iload 5, 2) := dk_21 5 (dk_at dksX1_next_3 22 rfl rfl)
theorem dX1_next_96 : decode cX1_next 96 = .ok (.aload_n 0, 1) := dk_42 (dk_at dksX1_next_4 0 rfl rfl)
theorem dX1_next_97 : decode cX1_next 97 = .ok (.getfield 35, 3) := dk_180 0 35 (dk_at dksX1_next_4 1 rfl rfl)
theorem dX1_next_100 : decode cX1_next 100 = .ok (.getfield 155, 3) := dk_180 0 155 (dk_at dksX1_next_4 4 rfl rfl)
theorem dX1_next_103 : decode cX1_next 103 = .ok (.iload 5, 2) := dk_21 5 (dk_at dksX1_next_4 7 rfl rfl)
theorem dX1_next_105 : decode cX1_next 105 = .ok (.iaload, 1) := dk_46 (dk_at dksX1_next_4 9 rfl rfl)
theorem dX1_next_106 : decode cX1_next 106 = .ok (.iastore, 1) := dk_79 (dk_at dksX1_next_4 10 rfl rfl)
theorem dX1_next_107 : decode cX1_next 107 = .ok (.iinc 5 1, 3) := dk_132 5 1 (dk_at dksX1_next_4 11 rfl rfl)
theorem dX1_next_110 : decode cX1_next 110 = .ok (.goto (-27), 3) := dk_167 255 229 (dk_at dksX1_next_4 14 rfl rfl)
theorem dX1_next_113 : decode cX1_next 113 = .ok (.iinc 4 1, 3) := dk_132 4 1 (dk_at dksX1_next_4 17 rfl rfl)
theorem dX1_next_116 : decode cX1_next 116 = .ok (.goto (-90), 3) := dk_167 255 166 (dk_at dksX1_next_4 20 rfl rfl)
theorem dX1_next_119 : decode cX1_next 119 = .ok (.iconst (-1), 1) := dk_2 (dk_at dksX1_next_4 23 rfl rfl)
theorem dX1_next_120 : decode cX1_next 120 = .ok (.istore 4, 2) := dk_54 4 (dk_at dksX1_next_5 0 rfl rfl)
theorem dX1_next_122 : decode cX1_next 122 = .ok (.iconst 0, 1) := dk_3 (dk_at dksX1_next_5 2 rfl rfl)
theorem dX1_next_123 : decode cX1_next 123 = .ok (.istore 5, 2) := dk_54 5 (dk_at dksX1_next_5 3 rfl rfl)
theorem dX1_next_125 : decode cX1_next 125 = .ok (.iconst 0, 1) := dk_3 (dk_at dksX1_next_5 5 rfl rfl)
theorem dX1_next_126 : decode cX1_next 126 = .ok (.istore 6, 2) := dk_54 6 (dk_at dksX1_next_5 6 rfl rfl)
theorem dX1_next_128 : decode cX1_next 128 = .ok (.iload 6, 2) := dk_21 6 (dk_at dksX1_next_5 8 rfl rfl)
theorem dX1_next_130 : decode cX1_next 130 = .ok (.aload_n 0, 1) := dk_42 (dk_at dksX1_next_5 10 rfl rfl)
theorem dX1_next_131 : decode cX1_next 131 = .ok (.getfield 22, 3) := dk_180 0 22 (dk_at dksX1_next_5 11 rfl rfl)
theorem dX1_next_134 : decode cX1_next 134 = .ok (.invokevirtual 92, 3) := dk_182 0 92 (dk_at dksX1_next_5 14 rfl rfl)
theorem dX1_next_137 : decode cX1_next 137 = .ok (.if_icmp .ge 102, 3) := dk_162 0 102 (dk_at dksX1_next_5 17 rfl rfl)
theorem dX1_next_140 : decode cX1_next 140 = .ok (.iconst 0, 1) := dk_3 (dk_at dksX1_next_5 20 rfl rfl)
theorem dX1_next_141 : decode cX1_next 141 = .ok (.istore 7, 2) := dk_54 7 (dk_at dksX1_next_5 21 rfl rfl)
theorem dX1_next_143 : decode cX1_next 143 = .ok (.iconst 0, 1) := dk_3 (dk_at dksX1_next_5 23 rfl rfl)
theorem dX1_next_144 : decode cX1_next 144 = .ok (.istore 8, 2) := dk_54 8 (dk_at dksX1_next_6 0 rfl rfl)
theorem dX1_next_146 : decode cX1_next 146 = .ok (.iload 8, 2) := dk_21 8 (dk_at dksX1_next_6 2 rfl rfl)
theorem dX1_next_148 : decode cX1_next 148 = .ok (.aload_n 3, 1) := dk_45 (dk_at dksX1_next_6 4 rfl rfl)
theorem dX1_next_149 : decode cX1_next 149 = .ok (.arraylength, 1) := dk_190 (dk_at dksX1_next_6 5 rfl rfl)
theorem dX1_next_150 : decode cX1_next 150 = .ok (.if_icmp .ge 65, 3) := dk_162 0 65 (dk_at dksX1_next_6 6 rfl rfl)
theorem dX1_next_153 : decode cX1_next 153 = .ok (.iconst 1, 1) := dk_4 (dk_at dksX1_next_6 9 rfl rfl)
theorem dX1_next_154 : decode cX1_next 154 = .ok (.istore 9, 2) := dk_54 9 (dk_at dksX1_next_6 10 rfl rfl)
theorem dX1_next_156 : decode cX1_next 156 = .ok (.iconst 0, 1) := dk_3 (dk_at dksX1_next_6 12 rfl rfl)
theorem dX1_next_157 : decode cX1_next 157 = .ok (.istore 10, 2) := dk_54 10 (dk_at dksX1_next_6 13 rfl rfl)
theorem dX1_next_159 : decode cX1_next 159 = .ok (.iload 10, 2) := dk_21 10 (dk_at dksX1_next_6 15 rfl rfl)
theorem dX1_next_161 : decode cX1_next 161 = .ok (.iload 8, 2) := dk_21 8 (dk_at dksX1_next_6 17 rfl rfl)
theorem dX1_next_163 : decode cX1_next 163 = .ok (.if_icmp .ge 38, 3) := dk_162 0 38 (dk_at dksX1_next_6 19 rfl rfl)
theorem dX1_next_166 : decode cX1_next 166 = .ok (.iload 9, 2) := dk_21 9 (dk_at dksX1_next_6 22 rfl rfl)
theorem dX1_next_168 : decode cX1_next 168 = .ok (.ifCond .eq 33, 3) := dk_153 0 33 (dk_at dksX1_next_7 0 rfl rfl)
theorem dX1_next_171 : decode cX1_next 171 = .ok (.aload_n 3, 1) := dk_45 (dk_at dksX1_next_7 3 rfl rfl)
theorem dX1_next_172 : decode cX1_next 172 = .ok (.iload 10, 2) := dk_21 10 (dk_at dksX1_next_7 4 rfl rfl)
theorem dX1_next_174 : decode cX1_next 174 = .ok (.aaload, 1) := dk_50 (dk_at dksX1_next_7 6 rfl rfl)
theorem dX1_next_175 : decode cX1_next 175 = .ok (.iload 6, 2) := dk_21 6 (dk_at dksX1_next_7 7 rfl rfl)
theorem dX1_next_177 : decode cX1_next 177 = .ok (.iaload, 1) := dk_46 (dk_at dksX1_next_7 9 rfl rfl)
theorem dX1_next_178 : decode cX1_next 178 = .ok (.aload_n 3, 1) := dk_45 (dk_at dksX1_next_7 10 rfl rfl)
theorem dX1_next_179 : decode cX1_next 179 = .ok (.iload 8, 2) := dk_21 8 (dk_at dksX1_next_7 11 rfl rfl)
theorem dX1_next_181 : decode cX1_next 181 = .ok (.aaload, 1) := dk_50 (dk_at dksX1_next_7 13 rfl rfl)
theorem dX1_next_182 : decode cX1_next 182 = .ok (.iload 6, 2) := dk_21 6 (dk_at dksX1_next_7 14 rfl rfl)
theorem dX1_next_184 : decode cX1_next 184 = .ok (.iaload, 1) := dk_46 (dk_at dksX1_next_7 16 rfl rfl)
theorem dX1_next_185 : decode cX1_next 185 = .ok (.if_icmp .eq 7, 3) := dk_159 0 7 (dk_at dksX1_next_7 17 rfl rfl)
theorem dX1_next_188 : decode cX1_next 188 = .ok (.iconst 1, 1) := dk_4 (dk_at dksX1_next_7 20 rfl rfl)
theorem dX1_next_189 : decode cX1_next 189 = .ok (.goto 4, 3) := dk_167 0 4 (dk_at dksX1_next_7 21 rfl rfl)
theorem dX1_next_192 : decode cX1_next 192 = .ok (.iconst 0, 1) := dk_3 (dk_at dksX1_next_8 0 rfl rfl)
theorem dX1_next_193 : decode cX1_next 193 = .ok (.istore 9, 2) := dk_54 9 (dk_at dksX1_next_8 1 rfl rfl)
theorem dX1_next_195 : decode cX1_next 195 = .ok (.iinc 10 1, 3) := dk_132 10 1 (dk_at dksX1_next_8 3 rfl rfl)
theorem dX1_next_198 : decode cX1_next 198 = .ok (.goto (-39), 3) := dk_167 255 217 (dk_at dksX1_next_8 6 rfl rfl)
theorem dX1_next_201 : decode cX1_next 201 = .ok (.iload 9, 2) := dk_21 9 (dk_at dksX1_next_8 9 rfl rfl)
theorem dX1_next_203 : decode cX1_next 203 = .ok (.ifCond .eq 6, 3) := dk_153 0 6 (dk_at dksX1_next_8 11 rfl rfl)
theorem dX1_next_206 : decode cX1_next 206 = .ok (.iinc 7 1, 3) := dk_132 7 1 (dk_at dksX1_next_8 14 rfl rfl)
theorem dX1_next_209 : decode cX1_next 209 = .ok (.iinc 8 1, 3) := dk_132 8 1 (dk_at dksX1_next_8 17 rfl rfl)
theorem dX1_next_212 : decode cX1_next 212 = .ok (.goto (-66), 3) := dk_167 255 190 (dk_at dksX1_next_8 20 rfl rfl)
theorem dX1_next_215 : decode cX1_next 215 = .ok (.iload 7, 2) := dk_21 7 (dk_at dksX1_next_9 0 rfl rfl)
theorem dX1_next_217 : decode cX1_next 217 = .ok (.iload 5, 2) := dk_21 5 (dk_at dksX1_next_9 2 rfl rfl)
theorem dX1_next_219 : decode cX1_next 219 = .ok (.if_icmp .gt 6, 3) := dk_163 0 6 (dk_at dksX1_next_9 4 rfl rfl)
theorem dX1_next_222 : decode cX1_next 222 = .ok (.goto 11, 3) := dk_167 0 11 (dk_at dksX1_next_9 7 rfl rfl)
theorem dX1_next_225 : decode cX1_next 225 = .ok (.iload 6, 2) := dk_21 6 (dk_at dksX1_next_9 10 rfl rfl)
theorem dX1_next_227 : decode cX1_next 227 = .ok (.istore 4, 2) := dk_54 4 (dk_at dksX1_next_9 12 rfl rfl)
theorem dX1_next_229 : decode cX1_next 229 = .ok (.iload 7, 2) := dk_21 7 (dk_at dksX1_next_9 14 rfl rfl)
theorem dX1_next_231 : decode cX1_next 231 = .ok (.istore 5, 2) := dk_54 5 (dk_at dksX1_next_9 16 rfl rfl)
theorem dX1_next_233 : decode cX1_next 233 = .ok (.iinc 6 1, 3) := dk_132 6 1 (dk_at dksX1_next_9 18 rfl rfl)
theorem dX1_next_236 : decode cX1_next 236 = .ok (.goto (-108), 3) := dk_167 255 148 (dk_at dksX1_next_9 21 rfl rfl)
theorem dX1_next_239 : decode cX1_next 239 = .ok (.iload_n 1, 1) := dk_27 (dk_at dksX1_next_10 0 rfl rfl)
theorem dX1_next_240 : decode cX1_next 240 = .ok (.ifCond .ne 8, 3) := dk_154 0 8 (dk_at dksX1_next_10 1 rfl rfl)
theorem dX1_next_243 : decode cX1_next 243 = .ok (.iload 4, 2) := dk_21 4 (dk_at dksX1_next_10 4 rfl rfl)
theorem dX1_next_245 : decode cX1_next 245 = .ok (.goto 5, 3) := dk_167 0 5 (dk_at dksX1_next_10 6 rfl rfl)
theorem dX1_next_248 : decode cX1_next 248 = .ok (.iload 5, 2) := dk_21 5 (dk_at dksX1_next_10 9 rfl rfl)
theorem dX1_next_250 : decode cX1_next 250 = .ok (.ireturn, 1) := dk_172 (dk_at dksX1_next_10 11 rfl rfl)
abbrev mX1_next : xM := (yX1_next, cX1_next, 11, (some .int), [])
def c_X1_next_83_b (G : xG) (k26 : Option Nat → Int32 → Option Nat → Option Nat → Int32 → xF → Option ((Int32 ⊕ xE) × xF)) (k83 : Option Nat → Int32 → Option Nat → Option Nat → Int32 → Int32 → xF → Option ((Int32 ⊕ xE) × xF)) (x0 : Option Nat) (x1 : Int32) (x2 : Option Nat) (x3 : Option Nat) (x4 : Int32) (x5 : Int32) (T : xF) : Option ((Int32 ⊕ xE) × xF) :=
  if (30 : Int32) ≤ x5 then
    k26 x0 x1 x2 x3 (x4 + 1) T
  else
    (ldR T x3 x4).bind fun v93 =>
    (oQ T x0 0 3).bind fun v97 =>
    (oQ T v97 2 3).bind fun v100 =>
    (ldA T v100 .int x5).bind fun v105 =>
    (stA T v93 .int x5 v105).bind fun T106 =>
    k83 x0 x1 x2 x3 x4 (x5 + 1) T106
def c_X1_next_83 (G : xG) (k26 : Option Nat → Int32 → Option Nat → Option Nat → Int32 → xF → Option ((Int32 ⊕ xE) × xF)) : Nat → Option Nat → Int32 → Option Nat → Option Nat → Int32 → Int32 → xF → Option ((Int32 ⊕ xE) × xF)
  | 0 => fun _ _ _ _ _ _ _ => none
  | n + 1 => fun x0 x1 x2 x3 x4 x5 T => c_X1_next_83_b G k26 (c_X1_next_83 G k26 n) x0 x1 x2 x3 x4 x5 T
theorem c_X1_next_83_bok {G : xG}  {T0 : xF} {k26 : Option Nat → Int32 → Option Nat → Option Nat → Int32 → xF → Option ((Int32 ⊕ xE) × xF)} {k83 : Option Nat → Int32 → Option Nat → Option Nat → Int32 → Int32 → xF → Option ((Int32 ⊕ xE) × xF)} (hk26 : ∀ (x0 : Option Nat) (x1 : Int32) (x2 : Option Nat) (x3 : Option Nat) (x4 : Int32) (T : xF) (q : ((Int32 ⊕ xE) × xF)), k26 x0 x1 x2 x3 x4 T = some q → Xr G (mX1_next, xrm (127) T0 q.2, T0, xoI q.1, q.2) 26 [(0, va_rf x0), (1, .int x1), (2, va_rf x2), (3, va_rf x3), (4, .int x4)] [] T) (hk83 : ∀ (x0 : Option Nat) (x1 : Int32) (x2 : Option Nat) (x3 : Option Nat) (x4 : Int32) (x5 : Int32) (T : xF) (q : ((Int32 ⊕ xE) × xF)), k83 x0 x1 x2 x3 x4 x5 T = some q → Xr G (mX1_next, xrm (127) T0 q.2, T0, xoI q.1, q.2) 83 [(0, va_rf x0), (1, .int x1), (2, va_rf x2), (3, va_rf x3), (4, .int x4), (5, .int x5)] [] T) (x0 : Option Nat) (x1 : Int32) (x2 : Option Nat) (x3 : Option Nat) (x4 : Int32) (x5 : Int32) (T : xF) (q : ((Int32 ⊕ xE) × xF)) (hf : c_X1_next_83_b G k26 k83 x0 x1 x2 x3 x4 x5 T = some q) : Xr G (mX1_next, xrm (127) T0 q.2, T0, xoI q.1, q.2) 83 [(0, va_rf x0), (1, .int x1), (2, va_rf x2), (3, va_rf x3), (4, .int x4), (5, .int x5)] [] T := by
  unfold c_X1_next_83_b at hf
  refine X.iload dX1_next_83 5 rfl ?_
  refine X.bipush (v := 30) dX1_next_85 (by decide) ?_
  refine X.icmp_ge (tgt := 113) dX1_next_87 (by decide) (fun c87 => ?_) (fun c87 => ?_)
  · have hf := if_t c87 hf
    refine C.iinc (v := (x4 + 1)) (L' := [(4, .int (x4 + 1)), (0, va_rf x0), (1, .int x1), (2, va_rf x2), (3, va_rf x3), (5, .int x5)]) dX1_next_113 4 rfl rfl (Nat.le_of_ble_eq_true rfl) (xcQ (xcI (xcQ (xcQ (xcI (xcI xcN)))))) rfl ?_
    refine X.goto (tgt := 26) dX1_next_116 (by decide) ?_
    refine X.sub [1, 2, 3, 4, 0] (L' := [(0, va_rf x0), (1, .int x1), (2, va_rf x2), (3, va_rf x3), (4, .int (x4 + 1))]) rfl ?_
    exact hk26 _ _ _ _ _ _ _ hf
  · have hf := if_f c87 hf
    refine C.aload_n dX1_next_90 rfl 3 rfl ?_
    refine X.iload dX1_next_91 4 rfl ?_
    obtain ⟨v93, h93, hf⟩ := ob hf
    refine C.aald dX1_next_93 h93 ?_
    refine X.iload dX1_next_94 5 rfl ?_
    refine C.aload_n dX1_next_96 rfl 0 rfl ?_
    obtain ⟨v97, h97, hf⟩ := ob hf
    refine C.getQ dX1_next_97 rX1_35 h97 ?_
    obtain ⟨v100, h100, hf⟩ := ob hf
    refine C.getQ dX1_next_100 rX1_155 h100 ?_
    refine X.iload dX1_next_103 5 rfl ?_
    obtain ⟨v105, h105, hf⟩ := ob hf
    refine C.iald dX1_next_105 h105 ?_
    obtain ⟨T106, h106, hf⟩ := ob hf
    refine C.iast dX1_next_106 h106 ?_
    refine C.iinc (v := (x5 + 1)) (L' := [(5, .int (x5 + 1)), (0, va_rf x0), (1, .int x1), (2, va_rf x2), (3, va_rf x3), (4, .int x4)]) dX1_next_107 5 rfl rfl (Nat.le_of_ble_eq_true rfl) (xcQ (xcI (xcQ (xcQ (xcI (xcI xcN)))))) rfl ?_
    refine X.goto (tgt := 83) dX1_next_110 (by decide) ?_
    refine X.sub [1, 2, 3, 4, 5, 0] (L' := [(0, va_rf x0), (1, .int x1), (2, va_rf x2), (3, va_rf x3), (4, .int x4), (5, .int (x5 + 1))]) rfl ?_
    exact hk83 _ _ _ _ _ _ _ _ hf
theorem c_X1_next_83_ok {G : xG}  {T0 : xF} {k26 : Option Nat → Int32 → Option Nat → Option Nat → Int32 → xF → Option ((Int32 ⊕ xE) × xF)} (hk26 : ∀ (x0 : Option Nat) (x1 : Int32) (x2 : Option Nat) (x3 : Option Nat) (x4 : Int32) (T : xF) (q : ((Int32 ⊕ xE) × xF)), k26 x0 x1 x2 x3 x4 T = some q → Xr G (mX1_next, xrm (127) T0 q.2, T0, xoI q.1, q.2) 26 [(0, va_rf x0), (1, .int x1), (2, va_rf x2), (3, va_rf x3), (4, .int x4)] [] T) : ∀ (n : Nat) (x0 : Option Nat) (x1 : Int32) (x2 : Option Nat) (x3 : Option Nat) (x4 : Int32) (x5 : Int32) (T : xF) (q : ((Int32 ⊕ xE) × xF)), c_X1_next_83 G k26 n x0 x1 x2 x3 x4 x5 T = some q → Xr G (mX1_next, xrm (127) T0 q.2, T0, xoI q.1, q.2) 83 [(0, va_rf x0), (1, .int x1), (2, va_rf x2), (3, va_rf x3), (4, .int x4), (5, .int x5)] [] T
  | 0, _, _, _, _, _, _, _, _, hf => by cases hf
  | n + 1, x0, x1, x2, x3, x4, x5, T, q, hf => c_X1_next_83_bok hk26 (c_X1_next_83_ok hk26 n) x0 x1 x2 x3 x4 x5 T q hf
def c_X1_next_193 (G : xG) (k128 : Option Nat → Int32 → Option Nat → Int32 → Int32 → Int32 → xF → Option ((Int32 ⊕ xE) × xF)) (k146 : Option Nat → Int32 → Option Nat → Int32 → Int32 → Int32 → Int32 → Int32 → xF → Option ((Int32 ⊕ xE) × xF)) (k159 : Option Nat → Int32 → Option Nat → Int32 → Int32 → Int32 → Int32 → Int32 → Int32 → Int32 → xF → Option ((Int32 ⊕ xE) × xF)) (x0 : Option Nat) (x1 : Int32) (x3 : Option Nat) (x4 : Int32) (x5 : Int32) (x6 : Int32) (x7 : Int32) (x8 : Int32) (x10 : Int32) (y0 : Int32) (T : xF) : Option ((Int32 ⊕ xE) × xF) :=
  k159 x0 x1 x3 x4 x5 x6 x7 x8 y0 (x10 + 1) T
theorem c_X1_next_193_ok {G : xG}  {T0 : xF} {k128 : Option Nat → Int32 → Option Nat → Int32 → Int32 → Int32 → xF → Option ((Int32 ⊕ xE) × xF)} {k146 : Option Nat → Int32 → Option Nat → Int32 → Int32 → Int32 → Int32 → Int32 → xF → Option ((Int32 ⊕ xE) × xF)} {k159 : Option Nat → Int32 → Option Nat → Int32 → Int32 → Int32 → Int32 → Int32 → Int32 → Int32 → xF → Option ((Int32 ⊕ xE) × xF)} (hk128 : ∀ (x0 : Option Nat) (x1 : Int32) (x3 : Option Nat) (x4 : Int32) (x5 : Int32) (x6 : Int32) (T : xF) (q : ((Int32 ⊕ xE) × xF)), k128 x0 x1 x3 x4 x5 x6 T = some q → Xr G (mX1_next, xrm (127) T0 q.2, T0, xoI q.1, q.2) 128 [(0, va_rf x0), (1, .int x1), (3, va_rf x3), (4, .int x4), (5, .int x5), (6, .int x6)] [] T) (hk146 : ∀ (x0 : Option Nat) (x1 : Int32) (x3 : Option Nat) (x4 : Int32) (x5 : Int32) (x6 : Int32) (x7 : Int32) (x8 : Int32) (T : xF) (q : ((Int32 ⊕ xE) × xF)), k146 x0 x1 x3 x4 x5 x6 x7 x8 T = some q → Xr G (mX1_next, xrm (127) T0 q.2, T0, xoI q.1, q.2) 146 [(0, va_rf x0), (1, .int x1), (3, va_rf x3), (4, .int x4), (5, .int x5), (6, .int x6), (7, .int x7), (8, .int x8)] [] T) (hk159 : ∀ (x0 : Option Nat) (x1 : Int32) (x3 : Option Nat) (x4 : Int32) (x5 : Int32) (x6 : Int32) (x7 : Int32) (x8 : Int32) (x9 : Int32) (x10 : Int32) (T : xF) (q : ((Int32 ⊕ xE) × xF)), k159 x0 x1 x3 x4 x5 x6 x7 x8 x9 x10 T = some q → Xr G (mX1_next, xrm (127) T0 q.2, T0, xoI q.1, q.2) 159 [(0, va_rf x0), (1, .int x1), (3, va_rf x3), (4, .int x4), (5, .int x5), (6, .int x6), (7, .int x7), (8, .int x8), (9, .int x9), (10, .int x10)] [] T) (x0 : Option Nat) (x1 : Int32) (x3 : Option Nat) (x4 : Int32) (x5 : Int32) (x6 : Int32) (x7 : Int32) (x8 : Int32) (x10 : Int32) (y0 : Int32) (T : xF) (q : ((Int32 ⊕ xE) × xF)) (hf : c_X1_next_193 G k128 k146 k159 x0 x1 x3 x4 x5 x6 x7 x8 x10 y0 T = some q) : Xr G (mX1_next, xrm (127) T0 q.2, T0, xoI q.1, q.2) 193 [(0, va_rf x0), (1, .int x1), (3, va_rf x3), (4, .int x4), (5, .int x5), (6, .int x6), (7, .int x7), (8, .int x8), (10, .int x10)] [.int y0] T := by
  unfold c_X1_next_193 at hf
  refine C.ist (L' := [(9, .int y0), (0, va_rf x0), (1, .int x1), (3, va_rf x3), (4, .int x4), (5, .int x5), (6, .int x6), (7, .int x7), (8, .int x8), (10, .int x10)]) dX1_next_193 (Nat.le_of_ble_eq_true rfl) (xcQ (xcI (xcQ (xcI (xcI (xcI (xcI (xcI (xcI xcN))))))))) rfl ?_
  refine C.iinc (v := (x10 + 1)) (L' := [(10, .int (x10 + 1)), (9, .int y0), (0, va_rf x0), (1, .int x1), (3, va_rf x3), (4, .int x4), (5, .int x5), (6, .int x6), (7, .int x7), (8, .int x8)]) dX1_next_195 9 rfl rfl (Nat.le_of_ble_eq_true rfl) (xcI (xcQ (xcI (xcQ (xcI (xcI (xcI (xcI (xcI (xcI xcN)))))))))) rfl ?_
  refine X.goto (tgt := 159) dX1_next_198 (by decide) ?_
  refine X.sub [2, 3, 4, 5, 6, 7, 8, 9, 1, 0] (L' := [(0, va_rf x0), (1, .int x1), (3, va_rf x3), (4, .int x4), (5, .int x5), (6, .int x6), (7, .int x7), (8, .int x8), (9, .int y0), (10, .int (x10 + 1))]) rfl ?_
  exact hk159 _ _ _ _ _ _ _ _ _ _ _ _ hf
def c_X1_next_209 (G : xG) (k128 : Option Nat → Int32 → Option Nat → Int32 → Int32 → Int32 → xF → Option ((Int32 ⊕ xE) × xF)) (k146 : Option Nat → Int32 → Option Nat → Int32 → Int32 → Int32 → Int32 → Int32 → xF → Option ((Int32 ⊕ xE) × xF)) (x0 : Option Nat) (x1 : Int32) (x3 : Option Nat) (x4 : Int32) (x5 : Int32) (x6 : Int32) (x7 : Int32) (x8 : Int32) (T : xF) : Option ((Int32 ⊕ xE) × xF) :=
  k146 x0 x1 x3 x4 x5 x6 x7 (x8 + 1) T
theorem c_X1_next_209_ok {G : xG}  {T0 : xF} {k128 : Option Nat → Int32 → Option Nat → Int32 → Int32 → Int32 → xF → Option ((Int32 ⊕ xE) × xF)} {k146 : Option Nat → Int32 → Option Nat → Int32 → Int32 → Int32 → Int32 → Int32 → xF → Option ((Int32 ⊕ xE) × xF)} (hk128 : ∀ (x0 : Option Nat) (x1 : Int32) (x3 : Option Nat) (x4 : Int32) (x5 : Int32) (x6 : Int32) (T : xF) (q : ((Int32 ⊕ xE) × xF)), k128 x0 x1 x3 x4 x5 x6 T = some q → Xr G (mX1_next, xrm (127) T0 q.2, T0, xoI q.1, q.2) 128 [(0, va_rf x0), (1, .int x1), (3, va_rf x3), (4, .int x4), (5, .int x5), (6, .int x6)] [] T) (hk146 : ∀ (x0 : Option Nat) (x1 : Int32) (x3 : Option Nat) (x4 : Int32) (x5 : Int32) (x6 : Int32) (x7 : Int32) (x8 : Int32) (T : xF) (q : ((Int32 ⊕ xE) × xF)), k146 x0 x1 x3 x4 x5 x6 x7 x8 T = some q → Xr G (mX1_next, xrm (127) T0 q.2, T0, xoI q.1, q.2) 146 [(0, va_rf x0), (1, .int x1), (3, va_rf x3), (4, .int x4), (5, .int x5), (6, .int x6), (7, .int x7), (8, .int x8)] [] T) (x0 : Option Nat) (x1 : Int32) (x3 : Option Nat) (x4 : Int32) (x5 : Int32) (x6 : Int32) (x7 : Int32) (x8 : Int32) (T : xF) (q : ((Int32 ⊕ xE) × xF)) (hf : c_X1_next_209 G k128 k146 x0 x1 x3 x4 x5 x6 x7 x8 T = some q) : Xr G (mX1_next, xrm (127) T0 q.2, T0, xoI q.1, q.2) 209 [(0, va_rf x0), (1, .int x1), (3, va_rf x3), (4, .int x4), (5, .int x5), (6, .int x6), (7, .int x7), (8, .int x8)] [] T := by
  unfold c_X1_next_209 at hf
  refine C.iinc (v := (x8 + 1)) (L' := [(8, .int (x8 + 1)), (0, va_rf x0), (1, .int x1), (3, va_rf x3), (4, .int x4), (5, .int x5), (6, .int x6), (7, .int x7)]) dX1_next_209 7 rfl rfl (Nat.le_of_ble_eq_true rfl) (xcQ (xcI (xcQ (xcI (xcI (xcI (xcI (xcI xcN)))))))) rfl ?_
  refine X.goto (tgt := 146) dX1_next_212 (by decide) ?_
  refine X.sub [1, 2, 3, 4, 5, 6, 7, 0] (L' := [(0, va_rf x0), (1, .int x1), (3, va_rf x3), (4, .int x4), (5, .int x5), (6, .int x6), (7, .int x7), (8, .int (x8 + 1))]) rfl ?_
  exact hk146 _ _ _ _ _ _ _ _ _ _ hf
def c_X1_next_201 (G : xG) (k128 : Option Nat → Int32 → Option Nat → Int32 → Int32 → Int32 → xF → Option ((Int32 ⊕ xE) × xF)) (k146 : Option Nat → Int32 → Option Nat → Int32 → Int32 → Int32 → Int32 → Int32 → xF → Option ((Int32 ⊕ xE) × xF)) (x0 : Option Nat) (x1 : Int32) (x3 : Option Nat) (x4 : Int32) (x5 : Int32) (x6 : Int32) (x7 : Int32) (x8 : Int32) (x9 : Int32) (T : xF) : Option ((Int32 ⊕ xE) × xF) :=
  if x9 = 0 then
    c_X1_next_209 G k128 k146 x0 x1 x3 x4 x5 x6 x7 x8 T
  else
    c_X1_next_209 G k128 k146 x0 x1 x3 x4 x5 x6 (x7 + 1) x8 T
theorem c_X1_next_201_ok {G : xG}  {T0 : xF} {k128 : Option Nat → Int32 → Option Nat → Int32 → Int32 → Int32 → xF → Option ((Int32 ⊕ xE) × xF)} {k146 : Option Nat → Int32 → Option Nat → Int32 → Int32 → Int32 → Int32 → Int32 → xF → Option ((Int32 ⊕ xE) × xF)} (hk128 : ∀ (x0 : Option Nat) (x1 : Int32) (x3 : Option Nat) (x4 : Int32) (x5 : Int32) (x6 : Int32) (T : xF) (q : ((Int32 ⊕ xE) × xF)), k128 x0 x1 x3 x4 x5 x6 T = some q → Xr G (mX1_next, xrm (127) T0 q.2, T0, xoI q.1, q.2) 128 [(0, va_rf x0), (1, .int x1), (3, va_rf x3), (4, .int x4), (5, .int x5), (6, .int x6)] [] T) (hk146 : ∀ (x0 : Option Nat) (x1 : Int32) (x3 : Option Nat) (x4 : Int32) (x5 : Int32) (x6 : Int32) (x7 : Int32) (x8 : Int32) (T : xF) (q : ((Int32 ⊕ xE) × xF)), k146 x0 x1 x3 x4 x5 x6 x7 x8 T = some q → Xr G (mX1_next, xrm (127) T0 q.2, T0, xoI q.1, q.2) 146 [(0, va_rf x0), (1, .int x1), (3, va_rf x3), (4, .int x4), (5, .int x5), (6, .int x6), (7, .int x7), (8, .int x8)] [] T) (x0 : Option Nat) (x1 : Int32) (x3 : Option Nat) (x4 : Int32) (x5 : Int32) (x6 : Int32) (x7 : Int32) (x8 : Int32) (x9 : Int32) (T : xF) (q : ((Int32 ⊕ xE) × xF)) (hf : c_X1_next_201 G k128 k146 x0 x1 x3 x4 x5 x6 x7 x8 x9 T = some q) : Xr G (mX1_next, xrm (127) T0 q.2, T0, xoI q.1, q.2) 201 [(0, va_rf x0), (1, .int x1), (3, va_rf x3), (4, .int x4), (5, .int x5), (6, .int x6), (7, .int x7), (8, .int x8), (9, .int x9)] [] T := by
  unfold c_X1_next_201 at hf
  refine X.iload dX1_next_201 8 rfl ?_
  refine X.if_eq (tgt := 209) dX1_next_203 (by decide) (fun c203 => ?_) (fun c203 => ?_)
  · have hf := if_t c203 hf
    refine X.sub [0, 1, 2, 3, 4, 5, 6, 7] (L' := [(0, va_rf x0), (1, .int x1), (3, va_rf x3), (4, .int x4), (5, .int x5), (6, .int x6), (7, .int x7), (8, .int x8)]) rfl ?_
    exact c_X1_next_209_ok hk128 hk146 _ _ _ _ _ _ _ _ _ _ hf
  · have hf := if_f c203 hf
    refine C.iinc (v := (x7 + 1)) (L' := [(7, .int (x7 + 1)), (0, va_rf x0), (1, .int x1), (3, va_rf x3), (4, .int x4), (5, .int x5), (6, .int x6), (8, .int x8), (9, .int x9)]) dX1_next_206 6 rfl rfl (Nat.le_of_ble_eq_true rfl) (xcQ (xcI (xcQ (xcI (xcI (xcI (xcI (xcI (xcI xcN))))))))) rfl ?_
    refine X.sub [1, 2, 3, 4, 5, 6, 0, 7] (L' := [(0, va_rf x0), (1, .int x1), (3, va_rf x3), (4, .int x4), (5, .int x5), (6, .int x6), (7, .int (x7 + 1)), (8, .int x8)]) rfl ?_
    exact c_X1_next_209_ok hk128 hk146 _ _ _ _ _ _ _ _ _ _ hf
def c_X1_next_159_b (G : xG) (k128 : Option Nat → Int32 → Option Nat → Int32 → Int32 → Int32 → xF → Option ((Int32 ⊕ xE) × xF)) (k146 : Option Nat → Int32 → Option Nat → Int32 → Int32 → Int32 → Int32 → Int32 → xF → Option ((Int32 ⊕ xE) × xF)) (k159 : Option Nat → Int32 → Option Nat → Int32 → Int32 → Int32 → Int32 → Int32 → Int32 → Int32 → xF → Option ((Int32 ⊕ xE) × xF)) (x0 : Option Nat) (x1 : Int32) (x3 : Option Nat) (x4 : Int32) (x5 : Int32) (x6 : Int32) (x7 : Int32) (x8 : Int32) (x9 : Int32) (x10 : Int32) (T : xF) : Option ((Int32 ⊕ xE) × xF) :=
  if x8 ≤ x10 then
    c_X1_next_201 G k128 k146 x0 x1 x3 x4 x5 x6 x7 x8 x9 T
  else
    if x9 = 0 then
      c_X1_next_201 G k128 k146 x0 x1 x3 x4 x5 x6 x7 x8 x9 T
    else
      (ldR T x3 x10).bind fun v174 =>
      (ldA T v174 .int x6).bind fun v177 =>
      (ldR T x3 x8).bind fun v181 =>
      (ldA T v181 .int x6).bind fun v184 =>
      if v177 = v184 then
        c_X1_next_193 G k128 k146 k159 x0 x1 x3 x4 x5 x6 x7 x8 x10 (0 : Int32) T
      else
        c_X1_next_193 G k128 k146 k159 x0 x1 x3 x4 x5 x6 x7 x8 x10 (1 : Int32) T
def c_X1_next_159 (G : xG) (k128 : Option Nat → Int32 → Option Nat → Int32 → Int32 → Int32 → xF → Option ((Int32 ⊕ xE) × xF)) (k146 : Option Nat → Int32 → Option Nat → Int32 → Int32 → Int32 → Int32 → Int32 → xF → Option ((Int32 ⊕ xE) × xF)) : Nat → Option Nat → Int32 → Option Nat → Int32 → Int32 → Int32 → Int32 → Int32 → Int32 → Int32 → xF → Option ((Int32 ⊕ xE) × xF)
  | 0 => fun _ _ _ _ _ _ _ _ _ _ _ => none
  | n + 1 => fun x0 x1 x3 x4 x5 x6 x7 x8 x9 x10 T => c_X1_next_159_b G k128 k146 (c_X1_next_159 G k128 k146 n) x0 x1 x3 x4 x5 x6 x7 x8 x9 x10 T
theorem c_X1_next_159_bok {G : xG}  {T0 : xF} {k128 : Option Nat → Int32 → Option Nat → Int32 → Int32 → Int32 → xF → Option ((Int32 ⊕ xE) × xF)} {k146 : Option Nat → Int32 → Option Nat → Int32 → Int32 → Int32 → Int32 → Int32 → xF → Option ((Int32 ⊕ xE) × xF)} {k159 : Option Nat → Int32 → Option Nat → Int32 → Int32 → Int32 → Int32 → Int32 → Int32 → Int32 → xF → Option ((Int32 ⊕ xE) × xF)} (hk128 : ∀ (x0 : Option Nat) (x1 : Int32) (x3 : Option Nat) (x4 : Int32) (x5 : Int32) (x6 : Int32) (T : xF) (q : ((Int32 ⊕ xE) × xF)), k128 x0 x1 x3 x4 x5 x6 T = some q → Xr G (mX1_next, xrm (127) T0 q.2, T0, xoI q.1, q.2) 128 [(0, va_rf x0), (1, .int x1), (3, va_rf x3), (4, .int x4), (5, .int x5), (6, .int x6)] [] T) (hk146 : ∀ (x0 : Option Nat) (x1 : Int32) (x3 : Option Nat) (x4 : Int32) (x5 : Int32) (x6 : Int32) (x7 : Int32) (x8 : Int32) (T : xF) (q : ((Int32 ⊕ xE) × xF)), k146 x0 x1 x3 x4 x5 x6 x7 x8 T = some q → Xr G (mX1_next, xrm (127) T0 q.2, T0, xoI q.1, q.2) 146 [(0, va_rf x0), (1, .int x1), (3, va_rf x3), (4, .int x4), (5, .int x5), (6, .int x6), (7, .int x7), (8, .int x8)] [] T) (hk159 : ∀ (x0 : Option Nat) (x1 : Int32) (x3 : Option Nat) (x4 : Int32) (x5 : Int32) (x6 : Int32) (x7 : Int32) (x8 : Int32) (x9 : Int32) (x10 : Int32) (T : xF) (q : ((Int32 ⊕ xE) × xF)), k159 x0 x1 x3 x4 x5 x6 x7 x8 x9 x10 T = some q → Xr G (mX1_next, xrm (127) T0 q.2, T0, xoI q.1, q.2) 159 [(0, va_rf x0), (1, .int x1), (3, va_rf x3), (4, .int x4), (5, .int x5), (6, .int x6), (7, .int x7), (8, .int x8), (9, .int x9), (10, .int x10)] [] T) (x0 : Option Nat) (x1 : Int32) (x3 : Option Nat) (x4 : Int32) (x5 : Int32) (x6 : Int32) (x7 : Int32) (x8 : Int32) (x9 : Int32) (x10 : Int32) (T : xF) (q : ((Int32 ⊕ xE) × xF)) (hf : c_X1_next_159_b G k128 k146 k159 x0 x1 x3 x4 x5 x6 x7 x8 x9 x10 T = some q) : Xr G (mX1_next, xrm (127) T0 q.2, T0, xoI q.1, q.2) 159 [(0, va_rf x0), (1, .int x1), (3, va_rf x3), (4, .int x4), (5, .int x5), (6, .int x6), (7, .int x7), (8, .int x8), (9, .int x9), (10, .int x10)] [] T := by
  unfold c_X1_next_159_b at hf
  refine X.iload dX1_next_159 9 rfl ?_
  refine X.iload dX1_next_161 7 rfl ?_
  refine X.icmp_ge (tgt := 201) dX1_next_163 (by decide) (fun c163 => ?_) (fun c163 => ?_)
  · have hf := if_t c163 hf
    refine X.sub [0, 1, 2, 3, 4, 5, 6, 7, 8] (L' := [(0, va_rf x0), (1, .int x1), (3, va_rf x3), (4, .int x4), (5, .int x5), (6, .int x6), (7, .int x7), (8, .int x8), (9, .int x9)]) rfl ?_
    exact c_X1_next_201_ok hk128 hk146 _ _ _ _ _ _ _ _ _ _ _ hf
  · have hf := if_f c163 hf
    refine X.iload dX1_next_166 8 rfl ?_
    refine X.if_eq (tgt := 201) dX1_next_168 (by decide) (fun c168 => ?_) (fun c168 => ?_)
    · have hf := if_t c168 hf
      refine X.sub [0, 1, 2, 3, 4, 5, 6, 7, 8] (L' := [(0, va_rf x0), (1, .int x1), (3, va_rf x3), (4, .int x4), (5, .int x5), (6, .int x6), (7, .int x7), (8, .int x8), (9, .int x9)]) rfl ?_
      exact c_X1_next_201_ok hk128 hk146 _ _ _ _ _ _ _ _ _ _ _ hf
    · have hf := if_f c168 hf
      refine C.aload_n dX1_next_171 rfl 2 rfl ?_
      refine X.iload dX1_next_172 9 rfl ?_
      obtain ⟨v174, h174, hf⟩ := ob hf
      refine C.aald dX1_next_174 h174 ?_
      refine X.iload dX1_next_175 5 rfl ?_
      obtain ⟨v177, h177, hf⟩ := ob hf
      refine C.iald dX1_next_177 h177 ?_
      refine C.aload_n dX1_next_178 rfl 2 rfl ?_
      refine X.iload dX1_next_179 7 rfl ?_
      obtain ⟨v181, h181, hf⟩ := ob hf
      refine C.aald dX1_next_181 h181 ?_
      refine X.iload dX1_next_182 5 rfl ?_
      obtain ⟨v184, h184, hf⟩ := ob hf
      refine C.iald dX1_next_184 h184 ?_
      refine X.icmp_eq (tgt := 192) dX1_next_185 (by decide) (fun c185 => ?_) (fun c185 => ?_)
      · have hf := if_t c185 hf
        refine X.iconst (v := 0) dX1_next_192 (by decide) ?_
        refine X.sub [0, 1, 2, 3, 4, 5, 6, 7, 9] (L' := [(0, va_rf x0), (1, .int x1), (3, va_rf x3), (4, .int x4), (5, .int x5), (6, .int x6), (7, .int x7), (8, .int x8), (10, .int x10)]) rfl ?_
        exact c_X1_next_193_ok hk128 hk146 hk159 _ _ _ _ _ _ _ _ _ _ _ _ hf
      · have hf := if_f c185 hf
        refine X.iconst (v := 1) dX1_next_188 (by decide) ?_
        refine X.goto (tgt := 193) dX1_next_189 (by decide) ?_
        refine X.sub [0, 1, 2, 3, 4, 5, 6, 7, 9] (L' := [(0, va_rf x0), (1, .int x1), (3, va_rf x3), (4, .int x4), (5, .int x5), (6, .int x6), (7, .int x7), (8, .int x8), (10, .int x10)]) rfl ?_
        exact c_X1_next_193_ok hk128 hk146 hk159 _ _ _ _ _ _ _ _ _ _ _ _ hf
theorem c_X1_next_159_ok {G : xG}  {T0 : xF} {k128 : Option Nat → Int32 → Option Nat → Int32 → Int32 → Int32 → xF → Option ((Int32 ⊕ xE) × xF)} {k146 : Option Nat → Int32 → Option Nat → Int32 → Int32 → Int32 → Int32 → Int32 → xF → Option ((Int32 ⊕ xE) × xF)} (hk128 : ∀ (x0 : Option Nat) (x1 : Int32) (x3 : Option Nat) (x4 : Int32) (x5 : Int32) (x6 : Int32) (T : xF) (q : ((Int32 ⊕ xE) × xF)), k128 x0 x1 x3 x4 x5 x6 T = some q → Xr G (mX1_next, xrm (127) T0 q.2, T0, xoI q.1, q.2) 128 [(0, va_rf x0), (1, .int x1), (3, va_rf x3), (4, .int x4), (5, .int x5), (6, .int x6)] [] T) (hk146 : ∀ (x0 : Option Nat) (x1 : Int32) (x3 : Option Nat) (x4 : Int32) (x5 : Int32) (x6 : Int32) (x7 : Int32) (x8 : Int32) (T : xF) (q : ((Int32 ⊕ xE) × xF)), k146 x0 x1 x3 x4 x5 x6 x7 x8 T = some q → Xr G (mX1_next, xrm (127) T0 q.2, T0, xoI q.1, q.2) 146 [(0, va_rf x0), (1, .int x1), (3, va_rf x3), (4, .int x4), (5, .int x5), (6, .int x6), (7, .int x7), (8, .int x8)] [] T) : ∀ (n : Nat) (x0 : Option Nat) (x1 : Int32) (x3 : Option Nat) (x4 : Int32) (x5 : Int32) (x6 : Int32) (x7 : Int32) (x8 : Int32) (x9 : Int32) (x10 : Int32) (T : xF) (q : ((Int32 ⊕ xE) × xF)), c_X1_next_159 G k128 k146 n x0 x1 x3 x4 x5 x6 x7 x8 x9 x10 T = some q → Xr G (mX1_next, xrm (127) T0 q.2, T0, xoI q.1, q.2) 159 [(0, va_rf x0), (1, .int x1), (3, va_rf x3), (4, .int x4), (5, .int x5), (6, .int x6), (7, .int x7), (8, .int x8), (9, .int x9), (10, .int x10)] [] T
  | 0, _, _, _, _, _, _, _, _, _, _, _, _, hf => by cases hf
  | n + 1, x0, x1, x3, x4, x5, x6, x7, x8, x9, x10, T, q, hf => c_X1_next_159_bok hk128 hk146 (c_X1_next_159_ok hk128 hk146 n) x0 x1 x3 x4 x5 x6 x7 x8 x9 x10 T q hf
def c_X1_next_233 (G : xG) (k128 : Option Nat → Int32 → Option Nat → Int32 → Int32 → Int32 → xF → Option ((Int32 ⊕ xE) × xF)) (x0 : Option Nat) (x1 : Int32) (x3 : Option Nat) (x4 : Int32) (x5 : Int32) (x6 : Int32) (T : xF) : Option ((Int32 ⊕ xE) × xF) :=
  k128 x0 x1 x3 x4 x5 (x6 + 1) T
theorem c_X1_next_233_ok {G : xG}  {T0 : xF} {k128 : Option Nat → Int32 → Option Nat → Int32 → Int32 → Int32 → xF → Option ((Int32 ⊕ xE) × xF)} (hk128 : ∀ (x0 : Option Nat) (x1 : Int32) (x3 : Option Nat) (x4 : Int32) (x5 : Int32) (x6 : Int32) (T : xF) (q : ((Int32 ⊕ xE) × xF)), k128 x0 x1 x3 x4 x5 x6 T = some q → Xr G (mX1_next, xrm (127) T0 q.2, T0, xoI q.1, q.2) 128 [(0, va_rf x0), (1, .int x1), (3, va_rf x3), (4, .int x4), (5, .int x5), (6, .int x6)] [] T) (x0 : Option Nat) (x1 : Int32) (x3 : Option Nat) (x4 : Int32) (x5 : Int32) (x6 : Int32) (T : xF) (q : ((Int32 ⊕ xE) × xF)) (hf : c_X1_next_233 G k128 x0 x1 x3 x4 x5 x6 T = some q) : Xr G (mX1_next, xrm (127) T0 q.2, T0, xoI q.1, q.2) 233 [(0, va_rf x0), (1, .int x1), (3, va_rf x3), (4, .int x4), (5, .int x5), (6, .int x6)] [] T := by
  unfold c_X1_next_233 at hf
  refine C.iinc (v := (x6 + 1)) (L' := [(6, .int (x6 + 1)), (0, va_rf x0), (1, .int x1), (3, va_rf x3), (4, .int x4), (5, .int x5)]) dX1_next_233 5 rfl rfl (Nat.le_of_ble_eq_true rfl) (xcQ (xcI (xcQ (xcI (xcI (xcI xcN)))))) rfl ?_
  refine X.goto (tgt := 128) dX1_next_236 (by decide) ?_
  refine X.sub [1, 2, 3, 4, 5, 0] (L' := [(0, va_rf x0), (1, .int x1), (3, va_rf x3), (4, .int x4), (5, .int x5), (6, .int (x6 + 1))]) rfl ?_
  exact hk128 _ _ _ _ _ _ _ _ hf
def c_X1_next_146_b (G : xG) (k128 : Option Nat → Int32 → Option Nat → Int32 → Int32 → Int32 → xF → Option ((Int32 ⊕ xE) × xF)) (k146 : Option Nat → Int32 → Option Nat → Int32 → Int32 → Int32 → Int32 → Int32 → xF → Option ((Int32 ⊕ xE) × xF)) (x0 : Option Nat) (x1 : Int32) (x3 : Option Nat) (x4 : Int32) (x5 : Int32) (x6 : Int32) (x7 : Int32) (x8 : Int32) (T : xF) : Option ((Int32 ⊕ xE) × xF) :=
  (len T x3).bind fun v149 =>
  if v149 ≤ x8 then
    if x5 < x7 then
      c_X1_next_233 G k128 x0 x1 x3 x6 x7 x6 T
    else
      c_X1_next_233 G k128 x0 x1 x3 x4 x5 x6 T
  else
    c_X1_next_159 G k128 k146 FU x0 x1 x3 x4 x5 x6 x7 x8 (1 : Int32) (0 : Int32) T
def c_X1_next_146 (G : xG) (k128 : Option Nat → Int32 → Option Nat → Int32 → Int32 → Int32 → xF → Option ((Int32 ⊕ xE) × xF)) : Nat → Option Nat → Int32 → Option Nat → Int32 → Int32 → Int32 → Int32 → Int32 → xF → Option ((Int32 ⊕ xE) × xF)
  | 0 => fun _ _ _ _ _ _ _ _ _ => none
  | n + 1 => fun x0 x1 x3 x4 x5 x6 x7 x8 T => c_X1_next_146_b G k128 (c_X1_next_146 G k128 n) x0 x1 x3 x4 x5 x6 x7 x8 T
theorem c_X1_next_146_bok {G : xG}  {T0 : xF} {k128 : Option Nat → Int32 → Option Nat → Int32 → Int32 → Int32 → xF → Option ((Int32 ⊕ xE) × xF)} {k146 : Option Nat → Int32 → Option Nat → Int32 → Int32 → Int32 → Int32 → Int32 → xF → Option ((Int32 ⊕ xE) × xF)} (hk128 : ∀ (x0 : Option Nat) (x1 : Int32) (x3 : Option Nat) (x4 : Int32) (x5 : Int32) (x6 : Int32) (T : xF) (q : ((Int32 ⊕ xE) × xF)), k128 x0 x1 x3 x4 x5 x6 T = some q → Xr G (mX1_next, xrm (127) T0 q.2, T0, xoI q.1, q.2) 128 [(0, va_rf x0), (1, .int x1), (3, va_rf x3), (4, .int x4), (5, .int x5), (6, .int x6)] [] T) (hk146 : ∀ (x0 : Option Nat) (x1 : Int32) (x3 : Option Nat) (x4 : Int32) (x5 : Int32) (x6 : Int32) (x7 : Int32) (x8 : Int32) (T : xF) (q : ((Int32 ⊕ xE) × xF)), k146 x0 x1 x3 x4 x5 x6 x7 x8 T = some q → Xr G (mX1_next, xrm (127) T0 q.2, T0, xoI q.1, q.2) 146 [(0, va_rf x0), (1, .int x1), (3, va_rf x3), (4, .int x4), (5, .int x5), (6, .int x6), (7, .int x7), (8, .int x8)] [] T) (x0 : Option Nat) (x1 : Int32) (x3 : Option Nat) (x4 : Int32) (x5 : Int32) (x6 : Int32) (x7 : Int32) (x8 : Int32) (T : xF) (q : ((Int32 ⊕ xE) × xF)) (hf : c_X1_next_146_b G k128 k146 x0 x1 x3 x4 x5 x6 x7 x8 T = some q) : Xr G (mX1_next, xrm (127) T0 q.2, T0, xoI q.1, q.2) 146 [(0, va_rf x0), (1, .int x1), (3, va_rf x3), (4, .int x4), (5, .int x5), (6, .int x6), (7, .int x7), (8, .int x8)] [] T := by
  unfold c_X1_next_146_b at hf
  refine X.iload dX1_next_146 7 rfl ?_
  refine C.aload_n dX1_next_148 rfl 2 rfl ?_
  obtain ⟨v149, h149, hf⟩ := ob hf
  refine C.alen dX1_next_149 h149 ?_
  refine X.icmp_ge (tgt := 215) dX1_next_150 (by decide) (fun c150 => ?_) (fun c150 => ?_)
  · have hf := if_t c150 hf
    refine X.iload dX1_next_215 6 rfl ?_
    refine X.iload dX1_next_217 4 rfl ?_
    refine X.icmp_gt (tgt := 225) dX1_next_219 (by decide) (fun c219 => ?_) (fun c219 => ?_)
    · have hf := if_t c219 hf
      refine X.iload dX1_next_225 5 rfl ?_
      refine C.ist (L' := [(4, .int x6), (0, va_rf x0), (1, .int x1), (3, va_rf x3), (5, .int x5), (6, .int x6), (7, .int x7), (8, .int x8)]) dX1_next_227 (Nat.le_of_ble_eq_true rfl) (xcQ (xcI (xcQ (xcI (xcI (xcI (xcI (xcI xcN)))))))) rfl ?_
      refine X.iload dX1_next_229 6 rfl ?_
      refine C.ist (L' := [(5, .int x7), (4, .int x6), (0, va_rf x0), (1, .int x1), (3, va_rf x3), (6, .int x6), (7, .int x7), (8, .int x8)]) dX1_next_231 (Nat.le_of_ble_eq_true rfl) (xcI (xcQ (xcI (xcQ (xcI (xcI (xcI (xcI xcN)))))))) rfl ?_
      refine X.sub [2, 3, 4, 1, 0, 5] (L' := [(0, va_rf x0), (1, .int x1), (3, va_rf x3), (4, .int x6), (5, .int x7), (6, .int x6)]) rfl ?_
      exact c_X1_next_233_ok hk128 _ _ _ _ _ _ _ _ hf
    · have hf := if_f c219 hf
      refine X.goto (tgt := 233) dX1_next_222 (by decide) ?_
      refine X.sub [0, 1, 2, 3, 4, 5] (L' := [(0, va_rf x0), (1, .int x1), (3, va_rf x3), (4, .int x4), (5, .int x5), (6, .int x6)]) rfl ?_
      exact c_X1_next_233_ok hk128 _ _ _ _ _ _ _ _ hf
  · have hf := if_f c150 hf
    refine X.iconst (v := 1) dX1_next_153 (by decide) ?_
    refine C.ist (L' := [(9, .int (1 : Int32)), (0, va_rf x0), (1, .int x1), (3, va_rf x3), (4, .int x4), (5, .int x5), (6, .int x6), (7, .int x7), (8, .int x8)]) dX1_next_154 (Nat.le_of_ble_eq_true rfl) (xcQ (xcI (xcQ (xcI (xcI (xcI (xcI (xcI xcN)))))))) rfl ?_
    refine X.iconst (v := 0) dX1_next_156 (by decide) ?_
    refine C.ist (L' := [(10, .int (0 : Int32)), (9, .int (1 : Int32)), (0, va_rf x0), (1, .int x1), (3, va_rf x3), (4, .int x4), (5, .int x5), (6, .int x6), (7, .int x7), (8, .int x8)]) dX1_next_157 (Nat.le_of_ble_eq_true rfl) (xcI (xcQ (xcI (xcQ (xcI (xcI (xcI (xcI (xcI xcN))))))))) rfl ?_
    refine X.sub [2, 3, 4, 5, 6, 7, 8, 9, 1, 0] (L' := [(0, va_rf x0), (1, .int x1), (3, va_rf x3), (4, .int x4), (5, .int x5), (6, .int x6), (7, .int x7), (8, .int x8), (9, .int (1 : Int32)), (10, .int (0 : Int32))]) rfl ?_
    exact c_X1_next_159_ok hk128 hk146 FU _ _ _ _ _ _ _ _ _ _ _ _ hf
theorem c_X1_next_146_ok {G : xG}  {T0 : xF} {k128 : Option Nat → Int32 → Option Nat → Int32 → Int32 → Int32 → xF → Option ((Int32 ⊕ xE) × xF)} (hk128 : ∀ (x0 : Option Nat) (x1 : Int32) (x3 : Option Nat) (x4 : Int32) (x5 : Int32) (x6 : Int32) (T : xF) (q : ((Int32 ⊕ xE) × xF)), k128 x0 x1 x3 x4 x5 x6 T = some q → Xr G (mX1_next, xrm (127) T0 q.2, T0, xoI q.1, q.2) 128 [(0, va_rf x0), (1, .int x1), (3, va_rf x3), (4, .int x4), (5, .int x5), (6, .int x6)] [] T) : ∀ (n : Nat) (x0 : Option Nat) (x1 : Int32) (x3 : Option Nat) (x4 : Int32) (x5 : Int32) (x6 : Int32) (x7 : Int32) (x8 : Int32) (T : xF) (q : ((Int32 ⊕ xE) × xF)), c_X1_next_146 G k128 n x0 x1 x3 x4 x5 x6 x7 x8 T = some q → Xr G (mX1_next, xrm (127) T0 q.2, T0, xoI q.1, q.2) 146 [(0, va_rf x0), (1, .int x1), (3, va_rf x3), (4, .int x4), (5, .int x5), (6, .int x6), (7, .int x7), (8, .int x8)] [] T
  | 0, _, _, _, _, _, _, _, _, _, _, hf => by cases hf
  | n + 1, x0, x1, x3, x4, x5, x6, x7, x8, T, q, hf => c_X1_next_146_bok hk128 (c_X1_next_146_ok hk128 n) x0 x1 x3 x4 x5 x6 x7 x8 T q hf
def c_X1_next_128_b (G : xG) (k128 : Option Nat → Int32 → Option Nat → Int32 → Int32 → Int32 → xF → Option ((Int32 ⊕ xE) × xF)) (x0 : Option Nat) (x1 : Int32) (x3 : Option Nat) (x4 : Int32) (x5 : Int32) (x6 : Int32) (T : xF) : Option ((Int32 ⊕ xE) × xF) :=
  (oQ T x0 0 1).bind fun v131 =>
  if ¬ isO T v131 1 = true then none else
  (c_X2_cells T v131).bind fun v134 =>
  if v134 ≤ x6 then
    if x1 = 0 then
      some (.inl x4, T)
    else
      some (.inl x5, T)
  else
    c_X1_next_146 G k128 FU x0 x1 x3 x4 x5 x6 (0 : Int32) (0 : Int32) T
def c_X1_next_128 (G : xG) : Nat → Option Nat → Int32 → Option Nat → Int32 → Int32 → Int32 → xF → Option ((Int32 ⊕ xE) × xF)
  | 0 => fun _ _ _ _ _ _ _ => none
  | n + 1 => fun x0 x1 x3 x4 x5 x6 T => c_X1_next_128_b G (c_X1_next_128 G n) x0 x1 x3 x4 x5 x6 T
theorem c_X1_next_128_bok {G : xG}  {T0 : xF}  {k128 : Option Nat → Int32 → Option Nat → Int32 → Int32 → Int32 → xF → Option ((Int32 ⊕ xE) × xF)}  (hk128 : ∀ (x0 : Option Nat) (x1 : Int32) (x3 : Option Nat) (x4 : Int32) (x5 : Int32) (x6 : Int32) (T : xF) (q : ((Int32 ⊕ xE) × xF)), k128 x0 x1 x3 x4 x5 x6 T = some q → Xr G (mX1_next, xrm (127) T0 q.2, T0, xoI q.1, q.2) 128 [(0, va_rf x0), (1, .int x1), (3, va_rf x3), (4, .int x4), (5, .int x5), (6, .int x6)] [] T) (x0 : Option Nat) (x1 : Int32) (x3 : Option Nat) (x4 : Int32) (x5 : Int32) (x6 : Int32) (T : xF) (q : ((Int32 ⊕ xE) × xF)) (hf : c_X1_next_128_b G k128 x0 x1 x3 x4 x5 x6 T = some q) : Xr G (mX1_next, xrm (127) T0 q.2, T0, xoI q.1, q.2) 128 [(0, va_rf x0), (1, .int x1), (3, va_rf x3), (4, .int x4), (5, .int x5), (6, .int x6)] [] T := by
  unfold c_X1_next_128_b at hf
  refine X.iload dX1_next_128 5 rfl ?_
  refine C.aload_n dX1_next_130 rfl 0 rfl ?_
  obtain ⟨v131, h131, hf⟩ := ob hf
  refine C.getQ dX1_next_131 rX1_22 h131 ?_
  obtain ⟨c134, hf⟩ := if_n hf
  obtain ⟨v134, h134, hf⟩ := ob hf
  refine X.keep fun l134 => C.Vi (As := []) (rest := [.int x6]) dX1_next_134 (w_X2_cells h134) cX1_92 (Classical.not_not.mp c134) rfl rfl (xcs (xvI xvN) (Nat.le_of_ble_eq_true rfl)) rfl rfl (xD (Nat.le_of_ble_eq_true rfl)) xle.rf l134 ?_
  refine X.icmp_ge (tgt := 239) dX1_next_137 (by decide) (fun c137 => ?_) (fun c137 => ?_)
  · have hf := if_t c137 hf
    refine X.iload_n dX1_next_239 rfl 1 rfl ?_
    refine X.if_ne (tgt := 248) dX1_next_240 (by decide) (fun c240 => ?_) (fun c240 => ?_)
    · have hf := if_f c240 hf
      refine X.iload dX1_next_248 4 rfl ?_
      obtain rfl := Option.some.inj hf
      exact X.iret dX1_next_250 rfl rfl rfl
    · have hf := if_t c240 hf
      refine X.iload dX1_next_243 3 rfl ?_
      refine X.goto (tgt := 250) dX1_next_245 (by decide) ?_
      obtain rfl := Option.some.inj hf
      exact X.iret dX1_next_250 rfl rfl rfl
  · have hf := if_f c137 hf
    refine X.iconst (v := 0) dX1_next_140 (by decide) ?_
    refine C.ist (L' := [(7, .int (0 : Int32)), (0, va_rf x0), (1, .int x1), (3, va_rf x3), (4, .int x4), (5, .int x5), (6, .int x6)]) dX1_next_141 (Nat.le_of_ble_eq_true rfl) (xcQ (xcI (xcQ (xcI (xcI (xcI xcN)))))) rfl ?_
    refine X.iconst (v := 0) dX1_next_143 (by decide) ?_
    refine C.ist (L' := [(8, .int (0 : Int32)), (7, .int (0 : Int32)), (0, va_rf x0), (1, .int x1), (3, va_rf x3), (4, .int x4), (5, .int x5), (6, .int x6)]) dX1_next_144 (Nat.le_of_ble_eq_true rfl) (xcI (xcQ (xcI (xcQ (xcI (xcI (xcI xcN))))))) rfl ?_
    refine X.sub [2, 3, 4, 5, 6, 7, 1, 0] (L' := [(0, va_rf x0), (1, .int x1), (3, va_rf x3), (4, .int x4), (5, .int x5), (6, .int x6), (7, .int (0 : Int32)), (8, .int (0 : Int32))]) rfl ?_
    exact c_X1_next_146_ok hk128 FU _ _ _ _ _ _ _ _ _ _ hf
theorem c_X1_next_128_ok {G : xG}  {T0 : xF}   : ∀ (n : Nat) (x0 : Option Nat) (x1 : Int32) (x3 : Option Nat) (x4 : Int32) (x5 : Int32) (x6 : Int32) (T : xF) (q : ((Int32 ⊕ xE) × xF)), c_X1_next_128 G n x0 x1 x3 x4 x5 x6 T = some q → Xr G (mX1_next, xrm (127) T0 q.2, T0, xoI q.1, q.2) 128 [(0, va_rf x0), (1, .int x1), (3, va_rf x3), (4, .int x4), (5, .int x5), (6, .int x6)] [] T
  | 0, _, _, _, _, _, _, _, _, hf => by cases hf
  | n + 1, x0, x1, x3, x4, x5, x6, T, q, hf => c_X1_next_128_bok (c_X1_next_128_ok n) x0 x1 x3 x4 x5 x6 T q hf
def c_X1_next_26_b (G : xG) (k26 : Option Nat → Int32 → Option Nat → Option Nat → Int32 → xF → Option ((Int32 ⊕ xE) × xF)) (x0 : Option Nat) (x1 : Int32) (x2 : Option Nat) (x3 : Option Nat) (x4 : Int32) (T : xF) : Option ((Int32 ⊕ xE) × xF) :=
  (len T x3).bind fun v29 =>
  if v29 ≤ x4 then
    c_X1_next_128 G FU x0 x1 x3 (-1 : Int32) (0 : Int32) (0 : Int32) T
  else
    if ¬ isO T x2 10 = true then none else
    (c_J2_get T x2 x4).bind fun v37 =>
    if ¬ cst T v37 [11] = true then none else
    if ¬ isO T v37 11 = true then none else
    (c_J14_intValue T v37).bind fun v45 =>
    if (10 : Int32) = 0 then none else
    if ¬ isO T x2 10 = true then none else
    (c_J2_get T x2 x4).bind fun v54 =>
    if ¬ cst T v54 [11] = true then none else
    if ¬ isO T v54 11 = true then none else
    (c_J14_intValue T v54).bind fun v62 =>
    if (10 : Int32) = 0 then none else
    if ¬ isO T x0 0 = true then none else
    cl (c_X1_trySowing x0 (v45 / (10 : Int32)) (v62 - v62 / (10 : Int32) * (10 : Int32)) T) T fun v68 T68 =>
    (oQ T68 x0 0 3).bind fun v72 =>
    if ¬ isO T68 v72 2 = true then none else
    cl (c_X3_after G v72 (5 : Int32) T68) T68 fun v76 T76 =>
    c_X1_next_83 G k26 FU x0 x1 x2 x3 x4 (0 : Int32) T76
def c_X1_next_26 (G : xG) : Nat → Option Nat → Int32 → Option Nat → Option Nat → Int32 → xF → Option ((Int32 ⊕ xE) × xF)
  | 0 => fun _ _ _ _ _ _ => none
  | n + 1 => fun x0 x1 x2 x3 x4 T => c_X1_next_26_b G (c_X1_next_26 G n) x0 x1 x2 x3 x4 T
theorem c_X1_next_26_bok {G : xG}  {T0 : xF}  {k26 : Option Nat → Int32 → Option Nat → Option Nat → Int32 → xF → Option ((Int32 ⊕ xE) × xF)}  (hk26 : ∀ (x0 : Option Nat) (x1 : Int32) (x2 : Option Nat) (x3 : Option Nat) (x4 : Int32) (T : xF) (q : ((Int32 ⊕ xE) × xF)), k26 x0 x1 x2 x3 x4 T = some q → Xr G (mX1_next, xrm (127) T0 q.2, T0, xoI q.1, q.2) 26 [(0, va_rf x0), (1, .int x1), (2, va_rf x2), (3, va_rf x3), (4, .int x4)] [] T) (x0 : Option Nat) (x1 : Int32) (x2 : Option Nat) (x3 : Option Nat) (x4 : Int32) (T : xF) (q : ((Int32 ⊕ xE) × xF)) (hf : c_X1_next_26_b G k26 x0 x1 x2 x3 x4 T = some q) : Xr G (mX1_next, xrm (127) T0 q.2, T0, xoI q.1, q.2) 26 [(0, va_rf x0), (1, .int x1), (2, va_rf x2), (3, va_rf x3), (4, .int x4)] [] T := by
  unfold c_X1_next_26_b at hf
  refine X.iload dX1_next_26 4 rfl ?_
  refine C.aload_n dX1_next_28 rfl 3 rfl ?_
  obtain ⟨v29, h29, hf⟩ := ob hf
  refine C.alen dX1_next_29 h29 ?_
  refine X.icmp_ge (tgt := 119) dX1_next_30 (by decide) (fun c30 => ?_) (fun c30 => ?_)
  · have hf := if_t c30 hf
    refine X.iconst (v := -1) dX1_next_119 (by decide) ?_
    refine C.ist (L' := [(4, .int (-1 : Int32)), (0, va_rf x0), (1, .int x1), (2, va_rf x2), (3, va_rf x3)]) dX1_next_120 (Nat.le_of_ble_eq_true rfl) (xcQ (xcI (xcQ (xcQ (xcI xcN))))) rfl ?_
    refine X.iconst (v := 0) dX1_next_122 (by decide) ?_
    refine C.ist (L' := [(5, .int (0 : Int32)), (4, .int (-1 : Int32)), (0, va_rf x0), (1, .int x1), (2, va_rf x2), (3, va_rf x3)]) dX1_next_123 (Nat.le_of_ble_eq_true rfl) (xcI (xcQ (xcI (xcQ (xcQ xcN))))) rfl ?_
    refine X.iconst (v := 0) dX1_next_125 (by decide) ?_
    refine C.ist (L' := [(6, .int (0 : Int32)), (5, .int (0 : Int32)), (4, .int (-1 : Int32)), (0, va_rf x0), (1, .int x1), (2, va_rf x2), (3, va_rf x3)]) dX1_next_126 (Nat.le_of_ble_eq_true rfl) (xcI (xcI (xcQ (xcI (xcQ (xcQ xcN)))))) rfl ?_
    refine X.sub [3, 4, 6, 2, 1, 0] (L' := [(0, va_rf x0), (1, .int x1), (3, va_rf x3), (4, .int (-1 : Int32)), (5, .int (0 : Int32)), (6, .int (0 : Int32))]) rfl ?_
    exact c_X1_next_128_ok FU _ _ _ _ _ _ _ _ hf
  · have hf := if_f c30 hf
    refine C.aload_n dX1_next_33 rfl 0 rfl ?_
    refine C.aload_n dX1_next_34 rfl 2 rfl ?_
    refine X.iload dX1_next_35 4 rfl ?_
    obtain ⟨c37, hf⟩ := if_n hf
    obtain ⟨v37, h37, hf⟩ := ob hf
    refine X.keep fun l37 => C.Fq (As := [.int x4]) (rest := [va_rf x0]) dX1_next_37 (w_J2_get h37) cX1_167 (Classical.not_not.mp c37) rfl rfl (xcs (xvQ xvN) (Nat.le_of_ble_eq_true rfl)) rfl rfl (xD (Nat.le_of_ble_eq_true rfl)) xle.rf l37 ?_
    obtain ⟨c42, hf⟩ := if_n hf
    refine C.cast dX1_next_42 q659 ca_Integer (Classical.not_not.mp c42) ?_
    obtain ⟨c45, hf⟩ := if_n hf
    obtain ⟨v45, h45, hf⟩ := ob hf
    refine X.keep fun l45 => C.Vi (As := []) (rest := [va_rf x0]) dX1_next_45 (w_J14_intValue h45) cX1_173 (Classical.not_not.mp c45) rfl rfl (xcs (xvQ xvN) (Nat.le_of_ble_eq_true rfl)) rfl rfl (xD (Nat.le_of_ble_eq_true rfl)) xle.rf l45 ?_
    refine X.bipush (v := 10) dX1_next_48 (by decide) ?_
    obtain ⟨c50, hf⟩ := if_n hf
    refine X.idiv dX1_next_50 c50 ?_
    refine C.aload_n dX1_next_51 rfl 2 rfl ?_
    refine X.iload dX1_next_52 4 rfl ?_
    obtain ⟨c54, hf⟩ := if_n hf
    obtain ⟨v54, h54, hf⟩ := ob hf
    refine X.keep fun l54 => C.Fq (As := [.int x4]) (rest := [.int (v45 / (10 : Int32)), va_rf x0]) dX1_next_54 (w_J2_get h54) cX1_167 (Classical.not_not.mp c54) rfl rfl (xcs (xvI (xvQ xvN)) (Nat.le_of_ble_eq_true rfl)) rfl rfl (xD (Nat.le_of_ble_eq_true rfl)) xle.rf l54 ?_
    obtain ⟨c59, hf⟩ := if_n hf
    refine C.cast dX1_next_59 q659 ca_Integer (Classical.not_not.mp c59) ?_
    obtain ⟨c62, hf⟩ := if_n hf
    obtain ⟨v62, h62, hf⟩ := ob hf
    refine X.keep fun l62 => C.Vi (As := []) (rest := [.int (v45 / (10 : Int32)), va_rf x0]) dX1_next_62 (w_J14_intValue h62) cX1_173 (Classical.not_not.mp c62) rfl rfl (xcs (xvI (xvQ xvN)) (Nat.le_of_ble_eq_true rfl)) rfl rfl (xD (Nat.le_of_ble_eq_true rfl)) xle.rf l62 ?_
    refine X.bipush (v := 10) dX1_next_65 (by decide) ?_
    obtain ⟨c67, hf⟩ := if_n hf
    refine X.irem dX1_next_67 c67 ?_
    obtain ⟨c68, hf⟩ := if_n hf
    obtain ⟨v68, T68, h68, hf, l68, r68⟩ := cl_ok hf
    refine C.Vv (As := [.int (v45 / (10 : Int32)), .int (v62 - v62 / (10 : Int32) * (10 : Int32))]) (rest := []) dX1_next_68 (w_X1_trySowing h68) cX1_260 (Classical.not_not.mp c68) rfl rfl (xcs xvN (Nat.le_of_ble_eq_true rfl)) rfl rfl (xD (Nat.le_of_ble_eq_true rfl)) l68 r68 ?_
    refine C.aload_n dX1_next_71 rfl 0 rfl ?_
    obtain ⟨v72, h72, hf⟩ := ob hf
    refine C.getQ dX1_next_72 rX1_35 h72 ?_
    refine X.iconst (v := 5) dX1_next_75 (by decide) ?_
    obtain ⟨c76, hf⟩ := if_n hf
    obtain ⟨v76, T76, h76, hf, l76, r76⟩ := cl_ok hf
    refine C.Vq (As := [.int (5 : Int32)]) (rest := []) dX1_next_76 (w_X3_after h76) cX1_199 (Classical.not_not.mp c76) rfl rfl (xcs xvN (Nat.le_of_ble_eq_true rfl)) rfl rfl (xD (Nat.le_of_ble_eq_true rfl)) l76 r76 ?_
    refine X.pop dX1_next_79 (cat1 _) ?_
    refine X.iconst (v := 0) dX1_next_80 (by decide) ?_
    refine C.ist (L' := [(5, .int (0 : Int32)), (0, va_rf x0), (1, .int x1), (2, va_rf x2), (3, va_rf x3), (4, .int x4)]) dX1_next_81 (Nat.le_of_ble_eq_true rfl) (xcQ (xcI (xcQ (xcQ (xcI xcN))))) rfl ?_
    refine X.sub [1, 2, 3, 4, 5, 0] (L' := [(0, va_rf x0), (1, .int x1), (2, va_rf x2), (3, va_rf x3), (4, .int x4), (5, .int (0 : Int32))]) rfl ?_
    exact c_X1_next_83_ok hk26 FU _ _ _ _ _ _ _ _ hf
theorem c_X1_next_26_ok {G : xG}  {T0 : xF}   : ∀ (n : Nat) (x0 : Option Nat) (x1 : Int32) (x2 : Option Nat) (x3 : Option Nat) (x4 : Int32) (T : xF) (q : ((Int32 ⊕ xE) × xF)), c_X1_next_26 G n x0 x1 x2 x3 x4 T = some q → Xr G (mX1_next, xrm (127) T0 q.2, T0, xoI q.1, q.2) 26 [(0, va_rf x0), (1, .int x1), (2, va_rf x2), (3, va_rf x3), (4, .int x4)] [] T
  | 0, _, _, _, _, _, _, _, hf => by cases hf
  | n + 1, x0, x1, x2, x3, x4, T, q, hf => c_X1_next_26_bok (c_X1_next_26_ok n) x0 x1 x2 x3 x4 T q hf
def c_X1_next (G : xG) (x0 : Option Nat) (x1 : Int32) (T : xF) : Option ((Int32 ⊕ xE) × xF) :=
  clX (c_X1_oneOf x1 (1 : Int32) T) T fun v2 T2 =>
  if ¬ isO T2 x0 0 = true then none else
  cl (c_X1_sowings G x0 T2) T2 fun v6 T6 =>
  if ¬ isO T6 v6 10 = true then none else
  (c_J2_size T6 v6).bind fun v11 =>
  if v11 < 0 ∨ 100000000 ≤ v11.toNatClampNeg then none else
  if (30 : Int32) < 0 ∨ 100000000 ≤ (30 : Int32).toNatClampNeg then none else
  al (nII T6 v11.toNatClampNeg (30 : Int32).toNatClampNeg) fun T18 =>
  c_X1_next_26 G FU x0 x1 v6 (some T6.2.1) (0 : Int32) T18
theorem w_X1_next {G : xG}  {T : xF} {x0 : Option Nat} {x1 : Int32} {q : ((Int32 ⊕ xE) × xF)} (hf : c_X1_next G x0 x1 T = some q) : Ct G mX1_next (127) T [va_rf x0, .int x1] (xoI q.1) q.2 := by
  refine Ct.ofc (plainFor_of_name (by decide +kernel)) rfl (xvQ (xvI xvN)) (Nat.le_of_ble_eq_true rfl) (show Xr G _ 0 [(0, va_rf x0), (1, .int x1)] [] _ from ?_)
  unfold c_X1_next at hf
  refine X.iload_n dX1_next_0 rfl 1 rfl ?_
  refine X.iconst (v := 1) dX1_next_1 (by decide) ?_
  rcases clX_ok hf with ⟨v2, T2, h2, hf, l2, r2⟩ | ⟨e2, T2, h2, rfl, l2⟩
  rotate_left
  · exact C.Sx (As := [.int x1, .int (1 : Int32)]) (rest := []) dX1_next_2 (w_X1_oneOf h2) cX1_163 rfl rfl (xcs xvN (Nat.le_of_ble_eq_true rfl)) (xD (Nat.le_of_ble_eq_true rfl)) l2 xle.rf (xnoh rfl) rfl
  refine C.Sv (As := [.int x1, .int (1 : Int32)]) (rest := []) dX1_next_2 (w_X1_oneOf h2) cX1_163 rfl rfl (xcs xvN (Nat.le_of_ble_eq_true rfl)) (xD (Nat.le_of_ble_eq_true rfl)) l2 r2 ?_
  refine C.aload_n dX1_next_5 rfl 0 rfl ?_
  obtain ⟨c6, hf⟩ := if_n hf
  obtain ⟨v6, T6, h6, hf, l6, r6⟩ := cl_ok hf
  refine C.Vq (As := []) (rest := []) dX1_next_6 (w_X1_sowings h6) cX1_266 (Classical.not_not.mp c6) rfl rfl (xcs xvN (Nat.le_of_ble_eq_true rfl)) rfl rfl (xD (Nat.le_of_ble_eq_true rfl)) l6 r6 ?_
  refine C.ast_n (L' := [(2, va_rf v6), (0, va_rf x0), (1, .int x1)]) dX1_next_9 rfl (Nat.le_of_ble_eq_true rfl) (xcQ (xcI xcN)) rfl ?_
  refine C.aload_n dX1_next_10 rfl 0 rfl ?_
  obtain ⟨c11, hf⟩ := if_n hf
  obtain ⟨v11, h11, hf⟩ := ob hf
  refine X.keep fun l11 => C.Fi (As := []) (rest := []) dX1_next_11 (w_J2_size h11) cX1_104 (Classical.not_not.mp c11) rfl rfl (xcs xvN (Nat.le_of_ble_eq_true rfl)) rfl rfl (xD (Nat.le_of_ble_eq_true rfl)) xle.rf l11 ?_
  refine X.bipush (v := 30) dX1_next_16 (by decide) ?_
  obtain ⟨c18, hf⟩ := if_n hf
  obtain ⟨b18, hf⟩ := if_n hf
  obtain ⟨T18, e18, hf, l18⟩ := al_ok hf
  refine C.newIIE e18 dX1_next_18 q651 q652 q194 c18 b18 l18 ?_
  refine C.ast_n (L' := [(3, va_rf (some T6.2.1)), (2, va_rf v6), (0, va_rf x0), (1, .int x1)]) dX1_next_22 rfl (Nat.le_of_ble_eq_true rfl) (xcQ (xcQ (xcI xcN))) rfl ?_
  refine X.iconst (v := 0) dX1_next_23 (by decide) ?_
  refine C.ist (L' := [(4, .int (0 : Int32)), (3, va_rf (some T6.2.1)), (2, va_rf v6), (0, va_rf x0), (1, .int x1)]) dX1_next_24 (Nat.le_of_ble_eq_true rfl) (xcQ (xcQ (xcQ (xcI xcN)))) rfl ?_
  refine X.sub [3, 4, 2, 1, 0] (L' := [(0, va_rf x0), (1, .int x1), (2, va_rf v6), (3, va_rf (some T6.2.1)), (4, .int (0 : Int32))]) rfl ?_
  exact c_X1_next_26_ok FU _ _ _ _ _ _ _ hf
