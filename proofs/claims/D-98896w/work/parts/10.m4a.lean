set_option maxRecDepth 100000
/-! empties -/
abbrev cX4_empties : ByteArray := prog_12_method_2_code
def yX4_empties : MethodName := ⟨RX4, "empties", "([II)V"⟩
def dkwX4_empties_1 : List UInt8 := [28, 96, 3, 79, 177]
abbrev dktX4_empties_1 : List UInt8 := dkwX4_empties_1 ++ []
def dkwX4_empties_0 : List UInt8 := [43, 4, 28, 96, 6, 79, 43, 16, 31, 28, 96, 16, 20, 79, 43, 16, 61, 28, 96, 2, 79, 43, 16, 91]
abbrev dktX4_empties_0 : List UInt8 := dkwX4_empties_0 ++ dktX4_empties_1
theorem dksX4_empties_0 : cX4_empties.data.toList.drop 0 = dktX4_empties_0 := by decide +kernel
theorem dksX4_empties_1 : cX4_empties.data.toList.drop 24 = dktX4_empties_1 := dk_seg dksX4_empties_0 24 rfl rfl
theorem dX4_empties_0 : decode cX4_empties 0 = .ok (.aload_n 1, 1) := dk_43 (dk_at dksX4_empties_0 0 rfl rfl)
theorem dX4_empties_1 : decode cX4_empties 1 = .ok (.iconst 1, 1) := dk_4 (dk_at dksX4_empties_0 1 rfl rfl)
theorem dX4_empties_2 : decode cX4_empties 2 = .ok (.iload_n 2, 1) := dk_28 (dk_at dksX4_empties_0 2 rfl rfl)
theorem dX4_empties_3 : decode cX4_empties 3 = .ok (.iadd, 1) := dk_96 (dk_at dksX4_empties_0 3 rfl rfl)
theorem dX4_empties_4 : decode cX4_empties 4 = .ok (.iconst 3, 1) := dk_6 (dk_at dksX4_empties_0 4 rfl rfl)
theorem dX4_empties_5 : decode cX4_empties 5 = .ok (.iastore, 1) := dk_79 (dk_at dksX4_empties_0 5 rfl rfl)
theorem dX4_empties_6 : decode cX4_empties 6 = .ok (.aload_n 1, 1) := dk_43 (dk_at dksX4_empties_0 6 rfl rfl)
theorem dX4_empties_7 : decode cX4_empties 7 = .ok (.bipush 31, 2) := dk_16 31 (dk_at dksX4_empties_0 7 rfl rfl)
theorem dX4_empties_9 : decode cX4_empties 9 = .ok (.iload_n 2, 1) := dk_28 (dk_at dksX4_empties_0 9 rfl rfl)
theorem dX4_empties_10 : decode cX4_empties 10 = .ok (.iadd, 1) := dk_96 (dk_at dksX4_empties_0 10 rfl rfl)
theorem dX4_empties_11 : decode cX4_empties 11 = .ok (.bipush 20, 2) := dk_16 20 (dk_at dksX4_empties_0 11 rfl rfl)
theorem dX4_empties_13 : decode cX4_empties 13 = .ok (.iastore, 1) := dk_79 (dk_at dksX4_empties_0 13 rfl rfl)
theorem dX4_empties_14 : decode cX4_empties 14 = .ok (.aload_n 1, 1) := dk_43 (dk_at dksX4_empties_0 14 rfl rfl)
theorem dX4_empties_15 : decode cX4_empties 15 = .ok (.bipush 61, 2) := dk_16 61 (dk_at dksX4_empties_0 15 rfl rfl)
theorem dX4_empties_17 : decode cX4_empties 17 = .ok (.iload_n 2, 1) := dk_28 (dk_at dksX4_empties_0 17 rfl rfl)
theorem dX4_empties_18 : decode cX4_empties 18 = .ok (.iadd, 1) := dk_96 (dk_at dksX4_empties_0 18 rfl rfl)
theorem dX4_empties_19 : decode cX4_empties 19 = .ok (.iconst (-1), 1) := dk_2 (dk_at dksX4_empties_0 19 rfl rfl)
theorem dX4_empties_20 : decode cX4_empties 20 = .ok (.iastore, 1) := dk_79 (dk_at dksX4_empties_0 20 rfl rfl)
theorem dX4_empties_21 : decode cX4_empties 21 = .ok (.aload_n 1, 1) := dk_43 (dk_at dksX4_empties_0 21 rfl rfl)
theorem dX4_empties_22 : decode cX4_empties 22 = .ok (.bipush 91, 2) := dk_16 91 (dk_at dksX4_empties_0 22 rfl rfl)
theorem dX4_empties_24 : decode cX4_empties 24 = .ok (.iload_n 2, 1) := dk_28 (dk_at dksX4_empties_1 0 rfl rfl)
theorem dX4_empties_25 : decode cX4_empties 25 = .ok (.iadd, 1) := dk_96 (dk_at dksX4_empties_1 1 rfl rfl)
theorem dX4_empties_26 : decode cX4_empties 26 = .ok (.iconst 0, 1) := dk_3 (dk_at dksX4_empties_1 2 rfl rfl)
theorem dX4_empties_27 : decode cX4_empties 27 = .ok (.iastore, 1) := dk_79 (dk_at dksX4_empties_1 3 rfl rfl)
theorem dX4_empties_28 : decode cX4_empties 28 = .ok (.return_, 1) := dk_177 (dk_at dksX4_empties_1 4 rfl rfl)
abbrev mX4_empties : xM := (yX4_empties, cX4_empties, 3, none, [])
def m_empties (x1 : Nat) (x2 : Int32) (S : MS) : Option MS :=
  (wrV S x1 ((1 : Int32) + x2) (3 : Int32)).bind fun S5 =>
  (wrV S5 x1 ((31 : Int32) + x2) (20 : Int32)).bind fun S13 =>
  (wrV S13 x1 ((61 : Int32) + x2) (-1 : Int32)).bind fun S20 =>
  (wrV S20 x1 ((91 : Int32) + x2) (0 : Int32)).bind fun S27 =>
  some S27
theorem w_empties {G : xG} {m0 : Nat} {x1 : Nat} {x2 : Int32} {S : MS} {q : MS} (hf : m_empties x1 x2 S = some q) : CtM G m0 mX4_empties 1 S [.ref m0, .ref (m0 + x1), .int x2] none q := by
  intro h N Z
  refine Ct.of (by decide +kernel) rfl (Nat.le_of_ble_eq_true rfl) (show Xr G _ 0 [(0, .ref m0), (1, .ref (m0 + x1)), (2, .int x2)] [] _ from ?_)
  unfold m_empties at hf
  refine X.aload_n dX4_empties_0 rfl 1 rfl ?_
  refine X.iconst (v := 1) dX4_empties_1 (by decide) ?_
  refine X.iload_n dX4_empties_2 rfl 2 rfl ?_
  refine X.iadd dX4_empties_3 ?_
  refine X.iconst (v := 3) dX4_empties_4 (by decide) ?_
  obtain ⟨S5, h5, hf⟩ := ob hf
  refine M.iast dX4_empties_5 (wrV_ok h5).1 (wrV_ok h5).2 ?_
  refine X.aload_n dX4_empties_6 rfl 1 rfl ?_
  refine X.bipush (v := 31) dX4_empties_7 (by decide) ?_
  refine X.iload_n dX4_empties_9 rfl 2 rfl ?_
  refine X.iadd dX4_empties_10 ?_
  refine X.bipush (v := 20) dX4_empties_11 (by decide) ?_
  obtain ⟨S13, h13, hf⟩ := ob hf
  refine M.iast dX4_empties_13 (wrV_ok h13).1 (wrV_ok h13).2 ?_
  refine X.aload_n dX4_empties_14 rfl 1 rfl ?_
  refine X.bipush (v := 61) dX4_empties_15 (by decide) ?_
  refine X.iload_n dX4_empties_17 rfl 2 rfl ?_
  refine X.iadd dX4_empties_18 ?_
  refine X.iconst (v := -1) dX4_empties_19 (by decide) ?_
  obtain ⟨S20, h20, hf⟩ := ob hf
  refine M.iast dX4_empties_20 (wrV_ok h20).1 (wrV_ok h20).2 ?_
  refine X.aload_n dX4_empties_21 rfl 1 rfl ?_
  refine X.bipush (v := 91) dX4_empties_22 (by decide) ?_
  refine X.iload_n dX4_empties_24 rfl 2 rfl ?_
  refine X.iadd dX4_empties_25 ?_
  refine X.iconst (v := 0) dX4_empties_26 (by decide) ?_
  obtain ⟨S27, h27, hf⟩ := ob hf
  refine M.iast dX4_empties_27 (wrV_ok h27).1 (wrV_ok h27).2 ?_
  obtain rfl := Option.some.inj hf
  exact X.vret dX4_empties_28 rfl rfl
theorem cX4_111 : xCV RX4 111 mX4_empties 2 := ⟨lw_V q1559 q1561 qs52 q127 q1562, rfl, ⟨by decide +kernel, by decide +kernel, by decide +kernel⟩, Nat.le_of_ble_eq_true rfl⟩
/-! thrown -/
abbrev cX4_thrown : ByteArray := prog_12_method_3_code
def yX4_thrown : MethodName := ⟨RX4, "thrown", "()I"⟩
theorem dX4_thrown_0 : decode cX4_thrown 0 = .ok (.aload_n 0, 1) := by decide +kernel
theorem dX4_thrown_1 : decode cX4_thrown 1 = .ok (.getfield 115, 3) := by decide +kernel
theorem dX4_thrown_4 : decode cX4_thrown 4 = .ok (.ireturn, 1) := by decide +kernel
abbrev mX4_thrown : xM := (yX4_thrown, cX4_thrown, 1, (some .int), [])
def m_thrown  (S : MS) : Option Int32 :=
  some (S.1 0)
theorem w_thrown {G : xG} {m0 : Nat}  {S : MS} {q : Int32} (hf : m_thrown S = some q) : CtM G m0 mX4_thrown 1 S [.ref m0] (some (.int q)) S := by
  intro h N Z
  refine Ct.of (by decide +kernel) rfl (Nat.le_of_ble_eq_true rfl) (show Xr G _ 0 [(0, .ref m0)] [] _ from ?_)
  unfold m_thrown at hf
  refine X.aload_n dX4_thrown_0 rfl 0 rfl ?_
  refine M.get (v := .int (S.1 0)) dX4_thrown_1 fX4_115 (Nat.le_of_ble_eq_true rfl) rfl ?_
  obtain rfl := Option.some.inj hf
  exact X.iret dX4_thrown_4 rfl rfl rfl
/-! right -/
abbrev cX4_right : ByteArray := prog_12_method_4_code
def yX4_right : MethodName := ⟨RX4, "right", "(ZI)Z"⟩
def dkwX4_right_1 : List UInt8 := [167, 0, 4, 3, 172]
abbrev dktX4_right_1 : List UInt8 := dkwX4_right_1 ++ []
def dkwX4_right_0 : List UInt8 := [42, 180, 0, 115, 154, 0, 12, 27, 154, 0, 8, 42, 28, 181, 0, 115, 42, 180, 0, 115, 154, 0, 7, 4]
abbrev dktX4_right_0 : List UInt8 := dkwX4_right_0 ++ dktX4_right_1
theorem dksX4_right_0 : cX4_right.data.toList.drop 0 = dktX4_right_0 := by decide +kernel
theorem dksX4_right_1 : cX4_right.data.toList.drop 24 = dktX4_right_1 := dk_seg dksX4_right_0 24 rfl rfl
theorem dX4_right_0 : decode cX4_right 0 = .ok (.aload_n 0, 1) := dk_42 (dk_at dksX4_right_0 0 rfl rfl)
theorem dX4_right_1 : decode cX4_right 1 = .ok (.getfield 115, 3) := dk_180 0 115 (dk_at dksX4_right_0 1 rfl rfl)
theorem dX4_right_4 : decode cX4_right 4 = .ok (.ifCond .ne 12, 3) := dk_154 0 12 (dk_at dksX4_right_0 4 rfl rfl)
theorem dX4_right_7 : decode cX4_right 7 = .ok (.iload_n 1, 1) := dk_27 (dk_at dksX4_right_0 7 rfl rfl)
theorem dX4_right_8 : decode cX4_right 8 = .ok (.ifCond .ne 8, 3) := dk_154 0 8 (dk_at dksX4_right_0 8 rfl rfl)
theorem dX4_right_11 : decode cX4_right 11 = .ok (.aload_n 0, 1) := dk_42 (dk_at dksX4_right_0 11 rfl rfl)
theorem dX4_right_12 : decode cX4_right 12 = .ok (.iload_n 2, 1) := dk_28 (dk_at dksX4_right_0 12 rfl rfl)
theorem dX4_right_13 : decode cX4_right 13 = .ok (.putfield 115, 3) := dk_181 0 115 (dk_at dksX4_right_0 13 rfl rfl)
theorem dX4_right_16 : decode cX4_right 16 = .ok (.aload_n 0, 1) := dk_42 (dk_at dksX4_right_0 16 rfl rfl)
theorem dX4_right_17 : decode cX4_right 17 = .ok (.getfield 115, 3) := dk_180 0 115 (dk_at dksX4_right_0 17 rfl rfl)
theorem dX4_right_20 : decode cX4_right 20 = .ok (.ifCond .ne 7, 3) := dk_154 0 7 (dk_at dksX4_right_0 20 rfl rfl)
theorem dX4_right_23 : decode cX4_right 23 = .ok (.iconst 1, 1) := dk_4 (dk_at dksX4_right_0 23 rfl rfl)
theorem dX4_right_24 : decode cX4_right 24 = .ok (.goto 4, 3) := dk_167 0 4 (dk_at dksX4_right_1 0 rfl rfl)
theorem dX4_right_27 : decode cX4_right 27 = .ok (.iconst 0, 1) := dk_3 (dk_at dksX4_right_1 3 rfl rfl)
theorem dX4_right_28 : decode cX4_right 28 = .ok (.ireturn, 1) := dk_172 (dk_at dksX4_right_1 4 rfl rfl)
abbrev mX4_right : xM := (yX4_right, cX4_right, 3, (some .boolean), [])
def m_right_16  (S : MS) : Option (Int32 × MS) :=
  if (S.1 0) = 0 then
    some ((1 : Int32), S)
  else
    some ((0 : Int32), S)
theorem m_right_16_ok {G : xG} {m0 : Nat} {S0 : MS}   (S : MS) (q : (Int32 × MS)) (hf : m_right_16 S = some q) : XM G m0 mX4_right 1 S0 (some (.int q.1)) q.2 16 [(0, .ref m0)] [] S := by
  intro h N Z
  unfold m_right_16 at hf
  refine X.aload_n dX4_right_16 rfl 0 rfl ?_
  refine M.get (v := .int (S.1 0)) dX4_right_17 fX4_115 (Nat.le_of_ble_eq_true rfl) rfl ?_
  refine X.if_ne (tgt := 27) dX4_right_20 (by decide) (fun c20 => ?_) (fun c20 => ?_)
  · have hf := if_f c20 hf
    refine X.iconst (v := 0) dX4_right_27 (by decide) ?_
    obtain rfl := Option.some.inj hf
    exact X.iret dX4_right_28 rfl rfl rfl
  · have hf := if_t c20 hf
    refine X.iconst (v := 1) dX4_right_23 (by decide) ?_
    refine X.goto (tgt := 28) dX4_right_24 (by decide) ?_
    obtain rfl := Option.some.inj hf
    exact X.iret dX4_right_28 rfl rfl rfl
def m_right (x1 : Int32) (x2 : Int32) (S : MS) : Option (Int32 × MS) :=
  if (S.1 0) = 0 then
    if x1 = 0 then
      m_right_16 ((sF S 0 x2))
    else
      m_right_16 S
  else
    m_right_16 S
theorem w_right {G : xG} {m0 : Nat} {x1 : Int32} {x2 : Int32} {S : MS} {q : (Int32 × MS)} (hf : m_right x1 x2 S = some q) : CtM G m0 mX4_right 1 S [.ref m0, .int x1, .int x2] (some (.int q.1)) q.2 := by
  intro h N Z
  refine Ct.of (by decide +kernel) rfl (Nat.le_of_ble_eq_true rfl) (show Xr G _ 0 [(0, .ref m0), (1, .int x1), (2, .int x2)] [] _ from ?_)
  unfold m_right at hf
  refine X.aload_n dX4_right_0 rfl 0 rfl ?_
  refine M.get (v := .int (S.1 0)) dX4_right_1 fX4_115 (Nat.le_of_ble_eq_true rfl) rfl ?_
  refine X.if_ne (tgt := 16) dX4_right_4 (by decide) (fun c4 => ?_) (fun c4 => ?_)
  · have hf := if_f c4 hf
    refine X.sub [0] (L' := [(0, .ref m0)]) rfl ?_
    exact m_right_16_ok _ _ hf h N Z
  · have hf := if_t c4 hf
    refine X.iload_n dX4_right_7 rfl 1 rfl ?_
    refine X.if_ne (tgt := 16) dX4_right_8 (by decide) (fun c8 => ?_) (fun c8 => ?_)
    · have hf := if_f c8 hf
      refine X.sub [0] (L' := [(0, .ref m0)]) rfl ?_
      exact m_right_16_ok _ _ hf h N Z
    · have hf := if_t c8 hf
      refine X.aload_n dX4_right_11 rfl 0 rfl ?_
      refine X.iload_n dX4_right_12 rfl 2 rfl ?_
      refine M.putI dX4_right_13 fX4_115 (by decide) rfl rfl rfl ?_
      refine X.sub [0] (L' := [(0, .ref m0)]) rfl ?_
      exact m_right_16_ok _ _ hf h N Z
theorem cX4_290 : xCV RX4 290 mX4_right 2 := ⟨lw_V q1773 q1775 qs54 q127 q1776, rfl, ⟨by decide +kernel, by decide +kernel, by decide +kernel⟩, Nat.le_of_ble_eq_true rfl⟩
/-! within -/
abbrev cX4_within : ByteArray := prog_12_method_5_code
def yX4_within : MethodName := ⟨RX4, "within", "(III)Z"⟩
def dkwX4_within_0 : List UInt8 := [26, 27, 161, 0, 12, 26, 28, 163, 0, 7, 4, 167, 0, 4, 3, 172]
abbrev dktX4_within_0 : List UInt8 := dkwX4_within_0 ++ []
theorem dksX4_within_0 : cX4_within.data.toList.drop 0 = dktX4_within_0 := by decide +kernel
theorem dX4_within_0 : decode cX4_within 0 = .ok (.iload_n 0, 1) := dk_26 (dk_at dksX4_within_0 0 rfl rfl)
theorem dX4_within_1 : decode cX4_within 1 = .ok (.iload_n 1, 1) := dk_27 (dk_at dksX4_within_0 1 rfl rfl)
theorem dX4_within_2 : decode cX4_within 2 = .ok (.if_icmp .lt 12, 3) := dk_161 0 12 (dk_at dksX4_within_0 2 rfl rfl)
theorem dX4_within_5 : decode cX4_within 5 = .ok (.iload_n 0, 1) := dk_26 (dk_at dksX4_within_0 5 rfl rfl)
theorem dX4_within_6 : decode cX4_within 6 = .ok (.iload_n 2, 1) := dk_28 (dk_at dksX4_within_0 6 rfl rfl)
theorem dX4_within_7 : decode cX4_within 7 = .ok (.if_icmp .gt 7, 3) := dk_163 0 7 (dk_at dksX4_within_0 7 rfl rfl)
theorem dX4_within_10 : decode cX4_within 10 = .ok (.iconst 1, 1) := dk_4 (dk_at dksX4_within_0 10 rfl rfl)
theorem dX4_within_11 : decode cX4_within 11 = .ok (.goto 4, 3) := dk_167 0 4 (dk_at dksX4_within_0 11 rfl rfl)
theorem dX4_within_14 : decode cX4_within 14 = .ok (.iconst 0, 1) := dk_3 (dk_at dksX4_within_0 14 rfl rfl)
theorem dX4_within_15 : decode cX4_within 15 = .ok (.ireturn, 1) := dk_172 (dk_at dksX4_within_0 15 rfl rfl)
abbrev mX4_within : xM := (yX4_within, cX4_within, 3, (some .boolean), [])
def m_within (x0 : Int32) (x1 : Int32) (x2 : Int32) : Option Int32 :=
  if x0 < x1 then
    some (0 : Int32)
  else
    if x2 < x0 then
      some (0 : Int32)
    else
      some (1 : Int32)
theorem w_within {G : xG} {x0 : Int32} {x1 : Int32} {x2 : Int32} {q : Int32} (hf : m_within x0 x1 x2 = some q) : CtP G mX4_within 1 [.int x0, .int x1, .int x2] (some (.int q)) := by
  intro T
  refine Ct.of (by decide +kernel) rfl (Nat.le_of_ble_eq_true rfl) (show Xr G _ 0 [(0, .int x0), (1, .int x1), (2, .int x2)] [] _ from ?_)
  unfold m_within at hf
  refine X.iload_n dX4_within_0 rfl 0 rfl ?_
  refine X.iload_n dX4_within_1 rfl 1 rfl ?_
  refine X.icmp_lt (tgt := 14) dX4_within_2 (by decide) (fun c2 => ?_) (fun c2 => ?_)
  · have hf := if_t c2 hf
    refine X.iconst (v := 0) dX4_within_14 (by decide) ?_
    obtain rfl := Option.some.inj hf
    exact X.iret dX4_within_15 rfl rfl rfl
  · have hf := if_f c2 hf
    refine X.iload_n dX4_within_5 rfl 0 rfl ?_
    refine X.iload_n dX4_within_6 rfl 2 rfl ?_
    refine X.icmp_gt (tgt := 14) dX4_within_7 (by decide) (fun c7 => ?_) (fun c7 => ?_)
    · have hf := if_t c7 hf
      refine X.iconst (v := 0) dX4_within_14 (by decide) ?_
      obtain rfl := Option.some.inj hf
      exact X.iret dX4_within_15 rfl rfl rfl
    · have hf := if_f c7 hf
      refine X.iconst (v := 1) dX4_within_10 (by decide) ?_
      refine X.goto (tgt := 15) dX4_within_11 (by decide) ?_
      obtain rfl := Option.some.inj hf
      exact X.iret dX4_within_15 rfl rfl rfl
theorem cX4_373 : xCS RX4 373 mX4_within 3 := ⟨lw_S q1912 q1913 q127 q1914, rfl, ⟨by decide +kernel, by decide +kernel, by decide +kernel⟩, Nat.le_of_ble_eq_true rfl⟩
/-! kept -/
abbrev cX4_kept : ByteArray := prog_12_method_6_code
def yX4_kept : MethodName := ⟨RX4, "kept", "(III)I"⟩
def dkwX4_kept_0 : List UInt8 := [26, 27, 162, 0, 7, 27, 167, 0, 13, 26, 28, 164, 0, 7, 28, 167, 0, 4, 26, 172]
abbrev dktX4_kept_0 : List UInt8 := dkwX4_kept_0 ++ []
theorem dksX4_kept_0 : cX4_kept.data.toList.drop 0 = dktX4_kept_0 := by decide +kernel
theorem dX4_kept_0 : decode cX4_kept 0 = .ok (.iload_n 0, 1) := dk_26 (dk_at dksX4_kept_0 0 rfl rfl)
theorem dX4_kept_1 : decode cX4_kept 1 = .ok (.iload_n 1, 1) := dk_27 (dk_at dksX4_kept_0 1 rfl rfl)
theorem dX4_kept_2 : decode cX4_kept 2 = .ok (.if_icmp .ge 7, 3) := dk_162 0 7 (dk_at dksX4_kept_0 2 rfl rfl)
theorem dX4_kept_5 : decode cX4_kept 5 = .ok (.iload_n 1, 1) := dk_27 (dk_at dksX4_kept_0 5 rfl rfl)
theorem dX4_kept_6 : decode cX4_kept 6 = .ok (.goto 13, 3) := dk_167 0 13 (dk_at dksX4_kept_0 6 rfl rfl)
theorem dX4_kept_9 : decode cX4_kept 9 = .ok (.iload_n 0, 1) := dk_26 (dk_at dksX4_kept_0 9 rfl rfl)
theorem dX4_kept_10 : decode cX4_kept 10 = .ok (.iload_n 2, 1) := dk_28 (dk_at dksX4_kept_0 10 rfl rfl)
theorem dX4_kept_11 : decode cX4_kept 11 = .ok (.if_icmp .le 7, 3) := dk_164 0 7 (dk_at dksX4_kept_0 11 rfl rfl)
theorem dX4_kept_14 : decode cX4_kept 14 = .ok (.iload_n 2, 1) := dk_28 (dk_at dksX4_kept_0 14 rfl rfl)
theorem dX4_kept_15 : decode cX4_kept 15 = .ok (.goto 4, 3) := dk_167 0 4 (dk_at dksX4_kept_0 15 rfl rfl)
theorem dX4_kept_18 : decode cX4_kept 18 = .ok (.iload_n 0, 1) := dk_26 (dk_at dksX4_kept_0 18 rfl rfl)
theorem dX4_kept_19 : decode cX4_kept 19 = .ok (.ireturn, 1) := dk_172 (dk_at dksX4_kept_0 19 rfl rfl)
abbrev mX4_kept : xM := (yX4_kept, cX4_kept, 3, (some .int), [])
def m_kept (x0 : Int32) (x1 : Int32) (x2 : Int32) : Option Int32 :=
  if x1 ≤ x0 then
    if x0 ≤ x2 then
      some x0
    else
      some x2
  else
    some x1
theorem w_kept {G : xG} {x0 : Int32} {x1 : Int32} {x2 : Int32} {q : Int32} (hf : m_kept x0 x1 x2 = some q) : CtP G mX4_kept 1 [.int x0, .int x1, .int x2] (some (.int q)) := by
  intro T
  refine Ct.of (by decide +kernel) rfl (Nat.le_of_ble_eq_true rfl) (show Xr G _ 0 [(0, .int x0), (1, .int x1), (2, .int x2)] [] _ from ?_)
  unfold m_kept at hf
  refine X.iload_n dX4_kept_0 rfl 0 rfl ?_
  refine X.iload_n dX4_kept_1 rfl 1 rfl ?_
  refine X.icmp_ge (tgt := 9) dX4_kept_2 (by decide) (fun c2 => ?_) (fun c2 => ?_)
  · have hf := if_t c2 hf
    refine X.iload_n dX4_kept_9 rfl 0 rfl ?_
    refine X.iload_n dX4_kept_10 rfl 2 rfl ?_
    refine X.icmp_le (tgt := 18) dX4_kept_11 (by decide) (fun c11 => ?_) (fun c11 => ?_)
    · have hf := if_t c11 hf
      refine X.iload_n dX4_kept_18 rfl 0 rfl ?_
      obtain rfl := Option.some.inj hf
      exact X.iret dX4_kept_19 rfl rfl rfl
    · have hf := if_f c11 hf
      refine X.iload_n dX4_kept_14 rfl 2 rfl ?_
      refine X.goto (tgt := 19) dX4_kept_15 (by decide) ?_
      obtain rfl := Option.some.inj hf
      exact X.iret dX4_kept_19 rfl rfl rfl
  · have hf := if_f c2 hf
    refine X.iload_n dX4_kept_5 rfl 1 rfl ?_
    refine X.goto (tgt := 19) dX4_kept_6 (by decide) ?_
    obtain rfl := Option.some.inj hf
    exact X.iret dX4_kept_19 rfl rfl rfl
theorem cX4_337 : xCS RX4 337 mX4_kept 3 := ⟨lw_S q1974 q1975 q127 q1976, rfl, ⟨by decide +kernel, by decide +kernel, by decide +kernel⟩, Nat.le_of_ble_eq_true rfl⟩
/-! lesser -/
abbrev cX4_lesser : ByteArray := prog_12_method_7_code
def yX4_lesser : MethodName := ⟨RX4, "lesser", "(II)I"⟩
def dkwX4_lesser_0 : List UInt8 := [26, 27, 162, 0, 7, 26, 167, 0, 4, 27, 172]
abbrev dktX4_lesser_0 : List UInt8 := dkwX4_lesser_0 ++ []
theorem dksX4_lesser_0 : cX4_lesser.data.toList.drop 0 = dktX4_lesser_0 := by decide +kernel
theorem dX4_lesser_0 : decode cX4_lesser 0 = .ok (.iload_n 0, 1) := dk_26 (dk_at dksX4_lesser_0 0 rfl rfl)
theorem dX4_lesser_1 : decode cX4_lesser 1 = .ok (.iload_n 1, 1) := dk_27 (dk_at dksX4_lesser_0 1 rfl rfl)
theorem dX4_lesser_2 : decode cX4_lesser 2 = .ok (.if_icmp .ge 7, 3) := dk_162 0 7 (dk_at dksX4_lesser_0 2 rfl rfl)
theorem dX4_lesser_5 : decode cX4_lesser 5 = .ok (.iload_n 0, 1) := dk_26 (dk_at dksX4_lesser_0 5 rfl rfl)
theorem dX4_lesser_6 : decode cX4_lesser 6 = .ok (.goto 4, 3) := dk_167 0 4 (dk_at dksX4_lesser_0 6 rfl rfl)
theorem dX4_lesser_9 : decode cX4_lesser 9 = .ok (.iload_n 1, 1) := dk_27 (dk_at dksX4_lesser_0 9 rfl rfl)
theorem dX4_lesser_10 : decode cX4_lesser 10 = .ok (.ireturn, 1) := dk_172 (dk_at dksX4_lesser_0 10 rfl rfl)
abbrev mX4_lesser : xM := (yX4_lesser, cX4_lesser, 2, (some .int), [])
def m_lesser (x0 : Int32) (x1 : Int32) : Option Int32 :=
  if x1 ≤ x0 then
    some x1
  else
    some x0
theorem w_lesser {G : xG} {x0 : Int32} {x1 : Int32} {q : Int32} (hf : m_lesser x0 x1 = some q) : CtP G mX4_lesser 1 [.int x0, .int x1] (some (.int q)) := by
  intro T
  refine Ct.of (by decide +kernel) rfl (Nat.le_of_ble_eq_true rfl) (show Xr G _ 0 [(0, .int x0), (1, .int x1)] [] _ from ?_)
  unfold m_lesser at hf
  refine X.iload_n dX4_lesser_0 rfl 0 rfl ?_
  refine X.iload_n dX4_lesser_1 rfl 1 rfl ?_
  refine X.icmp_ge (tgt := 9) dX4_lesser_2 (by decide) (fun c2 => ?_) (fun c2 => ?_)
  · have hf := if_t c2 hf
    refine X.iload_n dX4_lesser_9 rfl 1 rfl ?_
    obtain rfl := Option.some.inj hf
    exact X.iret dX4_lesser_10 rfl rfl rfl
  · have hf := if_f c2 hf
    refine X.iload_n dX4_lesser_5 rfl 0 rfl ?_
    refine X.goto (tgt := 10) dX4_lesser_6 (by decide) ?_
    obtain rfl := Option.some.inj hf
    exact X.iret dX4_lesser_10 rfl rfl rfl
theorem cX4_340 : xCS RX4 340 mX4_lesser 2 := ⟨lw_S q1977 q1978 q127 q1979, rfl, ⟨by decide +kernel, by decide +kernel, by decide +kernel⟩, Nat.le_of_ble_eq_true rfl⟩
/-! copies -/
abbrev cX4_copies : ByteArray := prog_12_method_8_code
def yX4_copies : MethodName := ⟨RX4, "copies", "([I[I)V"⟩
def dkwX4_copies_0 : List UInt8 := [3, 62, 29, 43, 190, 162, 0, 15, 44, 29, 43, 29, 46, 79, 132, 3, 1, 167, 255, 241, 177]
abbrev dktX4_copies_0 : List UInt8 := dkwX4_copies_0 ++ []
theorem dksX4_copies_0 : cX4_copies.data.toList.drop 0 = dktX4_copies_0 := by decide +kernel
theorem dX4_copies_0 : decode cX4_copies 0 = .ok (.iconst 0, 1) := dk_3 (dk_at dksX4_copies_0 0 rfl rfl)
theorem dX4_copies_1 : decode cX4_copies 1 = .ok (.istore_n 3, 1) := dk_62 (dk_at dksX4_copies_0 1 rfl rfl)
theorem dX4_copies_2 : decode cX4_copies 2 = .ok (.iload_n 3, 1) := dk_29 (dk_at dksX4_copies_0 2 rfl rfl)
theorem dX4_copies_3 : decode cX4_copies 3 = .ok (.aload_n 1, 1) := dk_43 (dk_at dksX4_copies_0 3 rfl rfl)
theorem dX4_copies_4 : decode cX4_copies 4 = .ok (.arraylength, 1) := dk_190 (dk_at dksX4_copies_0 4 rfl rfl)
theorem dX4_copies_5 : decode cX4_copies 5 = .ok (.if_icmp .ge 15, 3) := dk_162 0 15 (dk_at dksX4_copies_0 5 rfl rfl)
theorem dX4_copies_8 : decode cX4_copies 8 = .ok (.aload_n 2, 1) := dk_44 (dk_at dksX4_copies_0 8 rfl rfl)
theorem dX4_copies_9 : decode cX4_copies 9 = .ok (.iload_n 3, 1) := dk_29 (dk_at dksX4_copies_0 9 rfl rfl)
theorem dX4_copies_10 : decode cX4_copies 10 = .ok (.aload_n 1, 1) := dk_43 (dk_at dksX4_copies_0 10 rfl rfl)
theorem dX4_copies_11 : decode cX4_copies 11 = .ok (.iload_n 3, 1) := dk_29 (dk_at dksX4_copies_0 11 rfl rfl)
theorem dX4_copies_12 : decode cX4_copies 12 = .ok (.iaload, 1) := dk_46 (dk_at dksX4_copies_0 12 rfl rfl)
theorem dX4_copies_13 : decode cX4_copies 13 = .ok (.iastore, 1) := dk_79 (dk_at dksX4_copies_0 13 rfl rfl)
theorem dX4_copies_14 : decode cX4_copies 14 = .ok (.iinc 3 1, 3) := dk_132 3 1 (dk_at dksX4_copies_0 14 rfl rfl)
theorem dX4_copies_17 : decode cX4_copies 17 = .ok (.goto (-15), 3) := dk_167 255 241 (dk_at dksX4_copies_0 17 rfl rfl)
theorem dX4_copies_20 : decode cX4_copies 20 = .ok (.return_, 1) := dk_177 (dk_at dksX4_copies_0 20 rfl rfl)
abbrev mX4_copies : xM := (yX4_copies, cX4_copies, 4, none, [])
def m_copies_2_b  (k2 : Nat → Nat → Int32 → MS → Option MS) (x1 : Nat) (x2 : Nat) (x3 : Int32) (S : MS) : Option MS :=
  if ¬ mI x1 = true then none else
  if (Int32.ofNat (mL x1)) ≤ x3 then
    some S
  else
    (rdV S x1 x3).bind fun v12 =>
    (wrV S x2 x3 v12).bind fun S13 =>
    k2 x1 x2 ((x3 + 1)) S13
def m_copies_2  : Nat → Nat → Nat → Int32 → MS → Option MS
  | 0 => fun _ _ _ _ => none
  | n + 1 => fun x1 x2 x3 S => m_copies_2_b (m_copies_2 n) x1 x2 x3 S
theorem m_copies_2_bok {G : xG} {m0 : Nat} {S0 : MS}  {k2 : Nat → Nat → Int32 → MS → Option MS}  (hk2 : ∀ (x1 : Nat) (x2 : Nat) (x3 : Int32) (S : MS) (q : MS), k2 x1 x2 x3 S = some q → XM G m0 mX4_copies 1 S0 none q 2 [(1, .ref (m0 + x1)), (2, .ref (m0 + x2)), (3, .int x3)] [] S) (x1 : Nat) (x2 : Nat) (x3 : Int32) (S : MS) (q : MS) (hf : m_copies_2_b k2 x1 x2 x3 S = some q) : XM G m0 mX4_copies 1 S0 none q 2 [(1, .ref (m0 + x1)), (2, .ref (m0 + x2)), (3, .int x3)] [] S := by
  intro h N Z
  unfold m_copies_2_b at hf
  refine X.iload_n dX4_copies_2 rfl 2 rfl ?_
  refine X.aload_n dX4_copies_3 rfl 0 rfl ?_
  obtain ⟨c4, hf⟩ := if_n hf
  refine M.alen (v := Int32.ofNat (mL x1)) dX4_copies_4 (Classical.not_not.mp c4) rfl ?_
  refine X.icmp_ge (tgt := 20) dX4_copies_5 (by decide) (fun c5 => ?_) (fun c5 => ?_)
  · have hf := if_t c5 hf
    obtain rfl := Option.some.inj hf
    exact X.vret dX4_copies_20 rfl rfl
  · have hf := if_f c5 hf
    refine X.aload_n dX4_copies_8 rfl 1 rfl ?_
    refine X.iload_n dX4_copies_9 rfl 2 rfl ?_
    refine X.aload_n dX4_copies_10 rfl 0 rfl ?_
    refine X.iload_n dX4_copies_11 rfl 2 rfl ?_
    obtain ⟨v12, h12, hf⟩ := ob hf
    refine M.iald dX4_copies_12 (rdV_ok h12).1 (rdV_ok h12).2 ?_
    obtain ⟨S13, h13, hf⟩ := ob hf
    refine M.iast dX4_copies_13 (wrV_ok h13).1 (wrV_ok h13).2 ?_
    refine X.iinc (v := (x3 + 1)) (L' := [(3, .int (x3 + 1)), (1, .ref (m0 + x1)), (2, .ref (m0 + x2))]) dX4_copies_14 2 rfl rfl (Nat.le_of_ble_eq_true rfl) rfl ?_
    refine X.goto (tgt := 2) dX4_copies_17 (by decide) ?_
    refine X.sub [1, 2, 0] (L' := [(1, .ref (m0 + x1)), (2, .ref (m0 + x2)), (3, .int (x3 + 1))]) rfl ?_
    exact hk2 _ _ _ _ _ hf h N Z
theorem m_copies_2_ok {G : xG} {m0 : Nat} {S0 : MS}   : ∀ (n : Nat) (x1 : Nat) (x2 : Nat) (x3 : Int32) (S : MS) (q : MS), m_copies_2 n x1 x2 x3 S = some q → XM G m0 mX4_copies 1 S0 none q 2 [(1, .ref (m0 + x1)), (2, .ref (m0 + x2)), (3, .int x3)] [] S
  | 0, _, _, _, _, _, hf => by cases hf
  | n + 1, x1, x2, x3, S, q, hf => m_copies_2_bok (m_copies_2_ok n) x1 x2 x3 S q hf
def m_copies (x1 : Nat) (x2 : Nat) (S : MS) : Option MS :=
  m_copies_2 FU x1 x2 ((0 : Int32)) S
theorem w_copies {G : xG} {m0 : Nat} {x1 : Nat} {x2 : Nat} {S : MS} {q : MS} (hf : m_copies x1 x2 S = some q) : CtM G m0 mX4_copies 1 S [.ref m0, .ref (m0 + x1), .ref (m0 + x2)] none q := by
  intro h N Z
  refine Ct.of (by decide +kernel) rfl (Nat.le_of_ble_eq_true rfl) (show Xr G _ 0 [(0, .ref m0), (1, .ref (m0 + x1)), (2, .ref (m0 + x2))] [] _ from ?_)
  unfold m_copies at hf
  refine X.iconst (v := 0) dX4_copies_0 (by decide) ?_
  refine X.istore_n (L' := [(3, .int (0 : Int32)), (0, .ref m0), (1, .ref (m0 + x1)), (2, .ref (m0 + x2))]) dX4_copies_1 rfl (Nat.le_of_ble_eq_true rfl) rfl ?_
  refine X.sub [2, 3, 0] (L' := [(1, .ref (m0 + x1)), (2, .ref (m0 + x2)), (3, .int (0 : Int32))]) rfl ?_
  exact m_copies_2_ok FU _ _ _ _ _ hf h N Z
theorem cX4_303 : xCV RX4 303 mX4_copies 2 := ⟨lw_V q1896 q1898 qs80 q127 q1899, rfl, ⟨by decide +kernel, by decide +kernel, by decide +kernel⟩, Nat.le_of_ble_eq_true rfl⟩
/-! bits -/
abbrev cX4_bits : ByteArray := prog_12_method_9_code
def yX4_bits : MethodName := ⟨RX4, "bits", "(I)I"⟩
def dkwX4_bits_1 : List UInt8 := [27, 172]
abbrev dktX4_bits_1 : List UInt8 := dkwX4_bits_1 ++ []
def dkwX4_bits_0 : List UInt8 := [3, 60, 3, 61, 28, 16, 9, 162, 0, 17, 27, 26, 28, 122, 4, 126, 96, 60, 132, 2, 1, 167, 255, 239]
abbrev dktX4_bits_0 : List UInt8 := dkwX4_bits_0 ++ dktX4_bits_1
theorem dksX4_bits_0 : cX4_bits.data.toList.drop 0 = dktX4_bits_0 := by decide +kernel
theorem dksX4_bits_1 : cX4_bits.data.toList.drop 24 = dktX4_bits_1 := dk_seg dksX4_bits_0 24 rfl rfl
theorem dX4_bits_0 : decode cX4_bits 0 = .ok (.iconst 0, 1) := dk_3 (dk_at dksX4_bits_0 0 rfl rfl)
theorem dX4_bits_1 : decode cX4_bits 1 = .ok (.istore_n 1, 1) := dk_60 (dk_at dksX4_bits_0 1 rfl rfl)
theorem dX4_bits_2 : decode cX4_bits 2 = .ok (.iconst 0, 1) := dk_3 (dk_at dksX4_bits_0 2 rfl rfl)
theorem dX4_bits_3 : decode cX4_bits 3 = .ok (.istore_n 2, 1) := dk_61 (dk_at dksX4_bits_0 3 rfl rfl)
theorem dX4_bits_4 : decode cX4_bits 4 = .ok (.iload_n 2, 1) := dk_28 (dk_at dksX4_bits_0 4 rfl rfl)
theorem dX4_bits_5 : decode cX4_bits 5 = .ok (.bipush 9, 2) := dk_16 9 (dk_at dksX4_bits_0 5 rfl rfl)
theorem dX4_bits_7 : decode cX4_bits 7 = .ok (.if_icmp .ge 17, 3) := dk_162 0 17 (dk_at dksX4_bits_0 7 rfl rfl)
theorem dX4_bits_10 : decode cX4_bits 10 = .ok (.iload_n 1, 1) := dk_27 (dk_at dksX4_bits_0 10 rfl rfl)
theorem dX4_bits_11 : decode cX4_bits 11 = .ok (.iload_n 0, 1) := dk_26 (dk_at dksX4_bits_0 11 rfl rfl)
theorem dX4_bits_12 : decode cX4_bits 12 = .ok (.iload_n 2, 1) := dk_28 (dk_at dksX4_bits_0 12 rfl rfl)
theorem dX4_bits_13 : decode cX4_bits 13 = .ok (.ishr, 1) := dk_122 (dk_at dksX4_bits_0 13 rfl rfl)
theorem dX4_bits_14 : decode cX4_bits 14 = .ok (.iconst 1, 1) := dk_4 (dk_at dksX4_bits_0 14 rfl rfl)
theorem dX4_bits_15 : decode cX4_bits 15 = .ok (.iand, 1) := dk_126 (dk_at dksX4_bits_0 15 rfl rfl)
theorem dX4_bits_16 : decode cX4_bits 16 = .ok (.iadd, 1) := dk_96 (dk_at dksX4_bits_0 16 rfl rfl)
theorem dX4_bits_17 : decode cX4_bits 17 = .ok (.istore_n 1, 1) := dk_60 (dk_at dksX4_bits_0 17 rfl rfl)
theorem dX4_bits_18 : decode cX4_bits 18 = .ok (.iinc 2 1, 3) := dk_132 2 1 (dk_at dksX4_bits_0 18 rfl rfl)
theorem dX4_bits_21 : decode cX4_bits 21 = .ok (.goto (-17), 3) := dk_167 255 239 (dk_at dksX4_bits_0 21 rfl rfl)
theorem dX4_bits_24 : decode cX4_bits 24 = .ok (.iload_n 1, 1) := dk_27 (dk_at dksX4_bits_1 0 rfl rfl)
theorem dX4_bits_25 : decode cX4_bits 25 = .ok (.ireturn, 1) := dk_172 (dk_at dksX4_bits_1 1 rfl rfl)
abbrev mX4_bits : xM := (yX4_bits, cX4_bits, 3, (some .int), [])
def m_bits_4_b  (k4 : Int32 → Int32 → Int32 → Option Int32) (x0 : Int32) (x1 : Int32) (x2 : Int32) : Option Int32 :=
  if (9 : Int32) ≤ x2 then
    some x1
  else
    k4 x0 ((x1 + ((x0 >>> (x2 &&& 31)) &&& (1 : Int32)))) ((x2 + 1))
def m_bits_4  : Nat → Int32 → Int32 → Int32 → Option Int32
  | 0 => fun _ _ _ => none
  | n + 1 => fun x0 x1 x2 => m_bits_4_b (m_bits_4 n) x0 x1 x2
theorem m_bits_4_bok {G : xG}  {k4 : Int32 → Int32 → Int32 → Option Int32}  (hk4 : ∀ (x0 : Int32) (x1 : Int32) (x2 : Int32) (q : Int32), k4 x0 x1 x2 = some q → XP G mX4_bits 1 (some (.int q)) 4 [(0, .int x0), (1, .int x1), (2, .int x2)] []) (x0 : Int32) (x1 : Int32) (x2 : Int32) (q : Int32) (hf : m_bits_4_b k4 x0 x1 x2 = some q) : XP G mX4_bits 1 (some (.int q)) 4 [(0, .int x0), (1, .int x1), (2, .int x2)] [] := by
  intro T
  unfold m_bits_4_b at hf
  refine X.iload_n dX4_bits_4 rfl 2 rfl ?_
  refine X.bipush (v := 9) dX4_bits_5 (by decide) ?_
  refine X.icmp_ge (tgt := 24) dX4_bits_7 (by decide) (fun c7 => ?_) (fun c7 => ?_)
  · have hf := if_t c7 hf
    refine X.iload_n dX4_bits_24 rfl 1 rfl ?_
    obtain rfl := Option.some.inj hf
    exact X.iret dX4_bits_25 rfl rfl rfl
  · have hf := if_f c7 hf
    refine X.iload_n dX4_bits_10 rfl 1 rfl ?_
    refine X.iload_n dX4_bits_11 rfl 0 rfl ?_
    refine X.iload_n dX4_bits_12 rfl 2 rfl ?_
    refine X.ishr dX4_bits_13 ?_
    refine X.iconst (v := 1) dX4_bits_14 (by decide) ?_
    refine X.iand dX4_bits_15 ?_
    refine X.iadd dX4_bits_16 ?_
    refine X.istore_n (L' := [(1, .int (x1 + ((x0 >>> (x2 &&& 31)) &&& (1 : Int32)))), (0, .int x0), (2, .int x2)]) dX4_bits_17 rfl (Nat.le_of_ble_eq_true rfl) rfl ?_
    refine X.iinc (v := (x2 + 1)) (L' := [(2, .int (x2 + 1)), (1, .int (x1 + ((x0 >>> (x2 &&& 31)) &&& (1 : Int32)))), (0, .int x0)]) dX4_bits_18 2 rfl rfl (Nat.le_of_ble_eq_true rfl) rfl ?_
    refine X.goto (tgt := 4) dX4_bits_21 (by decide) ?_
    refine X.sub [2, 1, 0] (L' := [(0, .int x0), (1, .int (x1 + ((x0 >>> (x2 &&& 31)) &&& (1 : Int32)))), (2, .int (x2 + 1))]) rfl ?_
    exact hk4 _ _ _ _ hf T
theorem m_bits_4_ok {G : xG}   : ∀ (n : Nat) (x0 : Int32) (x1 : Int32) (x2 : Int32) (q : Int32), m_bits_4 n x0 x1 x2 = some q → XP G mX4_bits 1 (some (.int q)) 4 [(0, .int x0), (1, .int x1), (2, .int x2)] []
  | 0, _, _, _, _, hf => by cases hf
  | n + 1, x0, x1, x2, q, hf => m_bits_4_bok (m_bits_4_ok n) x0 x1 x2 q hf
def m_bits (x0 : Int32) : Option Int32 :=
  m_bits_4 FU x0 ((0 : Int32)) ((0 : Int32))
theorem w_bits {G : xG} {x0 : Int32} {q : Int32} (hf : m_bits x0 = some q) : CtP G mX4_bits 1 [.int x0] (some (.int q)) := by
  intro T
  refine Ct.of (by decide +kernel) rfl (Nat.le_of_ble_eq_true rfl) (show Xr G _ 0 [(0, .int x0)] [] _ from ?_)
  unfold m_bits at hf
  refine X.iconst (v := 0) dX4_bits_0 (by decide) ?_
  refine X.istore_n (L' := [(1, .int (0 : Int32)), (0, .int x0)]) dX4_bits_1 rfl (Nat.le_of_ble_eq_true rfl) rfl ?_
  refine X.iconst (v := 0) dX4_bits_2 (by decide) ?_
  refine X.istore_n (L' := [(2, .int (0 : Int32)), (1, .int (0 : Int32)), (0, .int x0)]) dX4_bits_3 rfl (Nat.le_of_ble_eq_true rfl) rfl ?_
  refine X.sub [2, 1, 0] (L' := [(0, .int x0), (1, .int (0 : Int32)), (2, .int (0 : Int32))]) rfl ?_
  exact m_bits_4_ok FU _ _ _ _ hf T
theorem cX4_428 : xCS RX4 428 mX4_bits 1 := ⟨lw_S q2121 q2122 q127 q2123, rfl, ⟨by decide +kernel, by decide +kernel, by decide +kernel⟩, Nat.le_of_ble_eq_true rfl⟩
/-! lays -/
abbrev cX4_lays : ByteArray := prog_12_method_11_code
def yX4_lays : MethodName := ⟨RX4, "lays", "(I)V"⟩
def dkwX4_lays_1 : List UInt8 := [89, 180, 0, 118, 4, 96, 181, 0, 118, 132, 2, 248, 167, 255, 223, 177]
abbrev dktX4_lays_1 : List UInt8 := dkwX4_lays_1 ++ []
def dkwX4_lays_0 : List UInt8 := [16, 24, 61, 28, 155, 0, 35, 42, 180, 0, 38, 42, 180, 0, 118, 27, 28, 122, 17, 0, 255, 126, 79, 42]
abbrev dktX4_lays_0 : List UInt8 := dkwX4_lays_0 ++ dktX4_lays_1
theorem dksX4_lays_0 : cX4_lays.data.toList.drop 0 = dktX4_lays_0 := by decide +kernel
theorem dksX4_lays_1 : cX4_lays.data.toList.drop 24 = dktX4_lays_1 := dk_seg dksX4_lays_0 24 rfl rfl
theorem dX4_lays_0 : decode cX4_lays 0 = .ok (.bipush 24, 2) := dk_16 24 (dk_at dksX4_lays_0 0 rfl rfl)
theorem dX4_lays_2 : decode cX4_lays 2 = .ok (.istore_n 2, 1) := dk_61 (dk_at dksX4_lays_0 2 rfl rfl)
theorem dX4_lays_3 : decode cX4_lays 3 = .ok (.iload_n 2, 1) := dk_28 (dk_at dksX4_lays_0 3 rfl rfl)
theorem dX4_lays_4 : decode cX4_lays 4 = .ok (.ifCond .lt 35, 3) := dk_155 0 35 (dk_at dksX4_lays_0 4 rfl rfl)
theorem dX4_lays_7 : decode cX4_lays 7 = .ok (.aload_n 0, 1) := dk_42 (dk_at dksX4_lays_0 7 rfl rfl)
theorem dX4_lays_8 : decode cX4_lays 8 = .ok (.getfield 38, 3) := dk_180 0 38 (dk_at dksX4_lays_0 8 rfl rfl)
theorem dX4_lays_11 : decode cX4_lays 11 = .ok (.aload_n 0, 1) := dk_42 (dk_at dksX4_lays_0 11 rfl rfl)
theorem dX4_lays_12 : decode cX4_lays 12 = .ok (.getfield 118, 3) := dk_180 0 118 (dk_at dksX4_lays_0 12 rfl rfl)
theorem dX4_lays_15 : decode cX4_lays 15 = .ok (.iload_n 1, 1) := dk_27 (dk_at dksX4_lays_0 15 rfl rfl)
theorem dX4_lays_16 : decode cX4_lays 16 = .ok (.iload_n 2, 1) := dk_28 (dk_at dksX4_lays_0 16 rfl rfl)
theorem dX4_lays_17 : decode cX4_lays 17 = .ok (.ishr, 1) := dk_122 (dk_at dksX4_lays_0 17 rfl rfl)
theorem dX4_lays_18 : decode cX4_lays 18 = .ok (.sipush 255, 3) := dk_17 0 255 (dk_at dksX4_lays_0 18 rfl rfl)
theorem dX4_lays_21 : decode cX4_lays 21 = .ok (.iand, 1) := dk_126 (dk_at dksX4_lays_0 21 rfl rfl)
theorem dX4_lays_22 : decode cX4_lays 22 = .ok (.iastore, 1) := dk_79 (dk_at dksX4_lays_0 22 rfl rfl)
theorem dX4_lays_23 : decode cX4_lays 23 = .ok (.aload_n 0, 1) := dk_42 (dk_at dksX4_lays_0 23 rfl rfl)
theorem dX4_lays_24 : decode cX4_lays 24 = .ok (.dup, 1) := dk_89 (dk_at dksX4_lays_1 0 rfl rfl)
theorem dX4_lays_25 : decode cX4_lays 25 = .ok (.getfield 118, 3) := dk_180 0 118 (dk_at dksX4_lays_1 1 rfl rfl)
theorem dX4_lays_28 : decode cX4_lays 28 = .ok (.iconst 1, 1) := dk_4 (dk_at dksX4_lays_1 4 rfl rfl)
theorem dX4_lays_29 : decode cX4_lays 29 = .ok (.iadd, 1) := dk_96 (dk_at dksX4_lays_1 5 rfl rfl)
theorem dX4_lays_30 : decode cX4_lays 30 = .ok (.putfield 118, 3) := dk_181 0 118 (dk_at dksX4_lays_1 6 rfl rfl)
theorem dX4_lays_33 : decode cX4_lays 33 = .ok (.iinc 2 (-8), 3) := dk_132 2 248 (dk_at dksX4_lays_1 9 rfl rfl)
theorem dX4_lays_36 : decode cX4_lays 36 = .ok (.goto (-33), 3) := dk_167 255 223 (dk_at dksX4_lays_1 12 rfl rfl)
theorem dX4_lays_39 : decode cX4_lays 39 = .ok (.return_, 1) := dk_177 (dk_at dksX4_lays_1 15 rfl rfl)
abbrev mX4_lays : xM := (yX4_lays, cX4_lays, 3, none, [])
def m_lays_3_b  (k3 : Int32 → Int32 → MS → Option MS) (x1 : Int32) (x2 : Int32) (S : MS) : Option MS :=
  if x2 < 0 then
    some S
  else
    (wrA S 4 (S.1 13) ((x1 >>> (x2 &&& 31)) &&& (255 : Int32))).bind fun S22 =>
    k3 x1 ((x2 + (-8))) ((sF S22 13 ((S22.1 13) + (1 : Int32))))
def m_lays_3  : Nat → Int32 → Int32 → MS → Option MS
  | 0 => fun _ _ _ => none
  | n + 1 => fun x1 x2 S => m_lays_3_b (m_lays_3 n) x1 x2 S
theorem m_lays_3_bok {G : xG} {m0 : Nat} {S0 : MS}  {k3 : Int32 → Int32 → MS → Option MS}  (hk3 : ∀ (x1 : Int32) (x2 : Int32) (S : MS) (q : MS), k3 x1 x2 S = some q → XM G m0 mX4_lays 1 S0 none q 3 [(0, .ref m0), (1, .int x1), (2, .int x2)] [] S) (x1 : Int32) (x2 : Int32) (S : MS) (q : MS) (hf : m_lays_3_b k3 x1 x2 S = some q) : XM G m0 mX4_lays 1 S0 none q 3 [(0, .ref m0), (1, .int x1), (2, .int x2)] [] S := by
  intro h N Z
  unfold m_lays_3_b at hf
  refine X.iload_n dX4_lays_3 rfl 2 rfl ?_
  refine X.if_lt (tgt := 39) dX4_lays_4 (by decide) (fun c4 => ?_) (fun c4 => ?_)
  · have hf := if_t c4 hf
    obtain rfl := Option.some.inj hf
    exact X.vret dX4_lays_39 rfl rfl
  · have hf := if_f c4 hf
    refine X.aload_n dX4_lays_7 rfl 0 rfl ?_
    refine M.get (v := .ref (m0 + 4)) dX4_lays_8 fX4_38 (Nat.le_of_ble_eq_true rfl) rfl ?_
    refine X.aload_n dX4_lays_11 rfl 0 rfl ?_
    refine M.get (v := .int (S.1 13)) dX4_lays_12 fX4_118 (Nat.le_of_ble_eq_true rfl) rfl ?_
    refine X.iload_n dX4_lays_15 rfl 1 rfl ?_
    refine X.iload_n dX4_lays_16 rfl 2 rfl ?_
    refine X.ishr dX4_lays_17 ?_
    refine X.sipush (v := 255) dX4_lays_18 (by decide) ?_
    refine X.iand dX4_lays_21 ?_
    obtain ⟨S22, h22, hf⟩ := ob hf
    refine M.iast dX4_lays_22 rfl h22 ?_
    refine X.aload_n dX4_lays_23 rfl 0 rfl ?_
    refine X.dup dX4_lays_24 rfl ?_
    refine M.get (v := .int (S22.1 13)) dX4_lays_25 fX4_118 (Nat.le_of_ble_eq_true rfl) rfl ?_
    refine X.iconst (v := 1) dX4_lays_28 (by decide) ?_
    refine X.iadd dX4_lays_29 ?_
    refine M.putI dX4_lays_30 fX4_118 (by decide) rfl rfl rfl ?_
    refine X.iinc (v := (x2 + (-8))) (L' := [(2, .int (x2 + (-8))), (0, .ref m0), (1, .int x1)]) dX4_lays_33 2 rfl rfl (Nat.le_of_ble_eq_true rfl) rfl ?_
    refine X.goto (tgt := 3) dX4_lays_36 (by decide) ?_
    refine X.sub [1, 2, 0] (L' := [(0, .ref m0), (1, .int x1), (2, .int (x2 + (-8)))]) rfl ?_
    exact hk3 _ _ _ _ hf h N Z
theorem m_lays_3_ok {G : xG} {m0 : Nat} {S0 : MS}   : ∀ (n : Nat) (x1 : Int32) (x2 : Int32) (S : MS) (q : MS), m_lays_3 n x1 x2 S = some q → XM G m0 mX4_lays 1 S0 none q 3 [(0, .ref m0), (1, .int x1), (2, .int x2)] [] S
  | 0, _, _, _, _, hf => by cases hf
  | n + 1, x1, x2, S, q, hf => m_lays_3_bok (m_lays_3_ok n) x1 x2 S q hf
def m_lays (x1 : Int32) (S : MS) : Option MS :=
  m_lays_3 FU x1 ((24 : Int32)) S
theorem w_lays {G : xG} {m0 : Nat} {x1 : Int32} {S : MS} {q : MS} (hf : m_lays x1 S = some q) : CtM G m0 mX4_lays 1 S [.ref m0, .int x1] none q := by
  intro h N Z
  refine Ct.of (by decide +kernel) rfl (Nat.le_of_ble_eq_true rfl) (show Xr G _ 0 [(0, .ref m0), (1, .int x1)] [] _ from ?_)
  unfold m_lays at hf
  refine X.bipush (v := 24) dX4_lays_0 (by decide) ?_
  refine X.istore_n (L' := [(2, .int (24 : Int32)), (0, .ref m0), (1, .int x1)]) dX4_lays_2 rfl (Nat.le_of_ble_eq_true rfl) rfl ?_
  refine X.sub [1, 2, 0] (L' := [(0, .ref m0), (1, .int x1), (2, .int (24 : Int32))]) rfl ?_
  exact m_lays_3_ok FU _ _ _ _ hf h N Z
theorem cX4_121 : xCV RX4 121 mX4_lays 1 := ⟨lw_V q1765 q1767 qs53 q127 q1768, rfl, ⟨by decide +kernel, by decide +kernel, by decide +kernel⟩, Nat.le_of_ble_eq_true rfl⟩
/-! feed -/
abbrev cX4_feed : ByteArray := prog_12_method_10_code
def yX4_feed : MethodName := ⟨RX4, "feed", "(IIIII)I"⟩
def dkwX4_feed_2 : List UInt8 := [182, 0, 121, 42, 180, 0, 118, 172]
abbrev dktX4_feed_2 : List UInt8 := dkwX4_feed_2 ++ []
def dkwX4_feed_1 : List UInt8 := [182, 0, 121, 42, 28, 182, 0, 121, 42, 29, 182, 0, 121, 42, 21, 4, 182, 0, 121, 42, 21, 5]
abbrev dktX4_feed_1 : List UInt8 := dkwX4_feed_1 ++ dktX4_feed_2
def dkwX4_feed_0 : List UInt8 := [42, 3, 181, 0, 115, 42, 180, 0, 118, 16, 20, 96, 17, 2, 188, 164, 0, 5, 2, 172, 42, 27]
abbrev dktX4_feed_0 : List UInt8 := dkwX4_feed_0 ++ dktX4_feed_1
theorem dksX4_feed_0 : cX4_feed.data.toList.drop 0 = dktX4_feed_0 := by decide +kernel
theorem dksX4_feed_1 : cX4_feed.data.toList.drop 22 = dktX4_feed_1 := dk_seg dksX4_feed_0 22 rfl rfl
theorem dksX4_feed_2 : cX4_feed.data.toList.drop 44 = dktX4_feed_2 := dk_seg dksX4_feed_1 22 rfl rfl
theorem dX4_feed_0 : decode cX4_feed 0 = .ok (.aload_n 0, 1) := dk_42 (dk_at dksX4_feed_0 0 rfl rfl)
theorem dX4_feed_1 : decode cX4_feed 1 = .ok (.iconst 0, 1) := dk_3 (dk_at dksX4_feed_0 1 rfl rfl)
theorem dX4_feed_2 : decode cX4_feed 2 = .ok (.putfield 115, 3) := dk_181 0 115 (dk_at dksX4_feed_0 2 rfl rfl)
theorem dX4_feed_5 : decode cX4_feed 5 = .ok (.aload_n 0, 1) := dk_42 (dk_at dksX4_feed_0 5 rfl rfl)
theorem dX4_feed_6 : decode cX4_feed 6 = .ok (.getfield 118, 3) := dk_180 0 118 (dk_at dksX4_feed_0 6 rfl rfl)
theorem dX4_feed_9 : decode cX4_feed 9 = .ok (.bipush 20, 2) := dk_16 20 (dk_at dksX4_feed_0 9 rfl rfl)
theorem dX4_feed_11 : decode cX4_feed 11 = .ok (.iadd, 1) := dk_96 (dk_at dksX4_feed_0 11 rfl rfl)
theorem dX4_feed_12 : decode cX4_feed 12 = .ok (.sipush 700, 3) := dk_17 2 188 (dk_at dksX4_feed_0 12 rfl rfl)
theorem dX4_feed_15 : decode cX4_feed 15 = .ok (.if_icmp .le 5, 3) := dk_164 0 5 (dk_at dksX4_feed_0 15 rfl rfl)
theorem dX4_feed_18 : decode cX4_feed 18 = .ok (.iconst (-1), 1) := dk_2 (dk_at dksX4_feed_0 18 rfl rfl)
theorem dX4_feed_19 : decode cX4_feed 19 = .ok (.ireturn, 1) := dk_172 (dk_at dksX4_feed_0 19 rfl rfl)
theorem dX4_feed_20 : decode cX4_feed 20 = .ok (.aload_n 0, 1) := dk_42 (dk_at dksX4_feed_0 20 rfl rfl)
theorem dX4_feed_21 : decode cX4_feed 21 = .ok (.iload_n 1, 1) := dk_27 (dk_at dksX4_feed_0 21 rfl rfl)
theorem dX4_feed_22 : decode cX4_feed 22 = .ok (.invokevirtual 121, 3) := dk_182 0 121 (dk_at dksX4_feed_1 0 rfl rfl)
theorem dX4_feed_25 : decode cX4_feed 25 = .ok (.aload_n 0, 1) := dk_42 (dk_at dksX4_feed_1 3 rfl rfl)
theorem dX4_feed_26 : decode cX4_feed 26 = .ok (.iload_n 2, 1) := dk_28 (dk_at dksX4_feed_1 4 rfl rfl)
theorem dX4_feed_27 : decode cX4_feed 27 = .ok (.invokevirtual 121, 3) := dk_182 0 121 (dk_at dksX4_feed_1 5 rfl rfl)
theorem dX4_feed_30 : decode cX4_feed 30 = .ok (.aload_n 0, 1) := dk_42 (dk_at dksX4_feed_1 8 rfl rfl)
theorem dX4_feed_31 : decode cX4_feed 31 = .ok (.iload_n 3, 1) := dk_29 (dk_at dksX4_feed_1 9 rfl rfl)
theorem dX4_feed_32 : decode cX4_feed 32 = .ok (.invokevirtual 121, 3) := dk_182 0 121 (dk_at dksX4_feed_1 10 rfl rfl)
theorem dX4_feed_35 : decode cX4_feed 35 = .ok (.aload_n 0, 1) := dk_42 (dk_at dksX4_feed_1 13 rfl rfl)
theorem dX4_feed_36 : decode cX4_feed 36 = .ok (.iload 4, 2) := dk_21 4 (dk_at dksX4_feed_1 14 rfl rfl)
theorem dX4_feed_38 : decode cX4_feed 38 = .ok (.invokevirtual 121, 3) := dk_182 0 121 (dk_at dksX4_feed_1 16 rfl rfl)
theorem dX4_feed_41 : decode cX4_feed 41 = .ok (.aload_n 0, 1) := dk_42 (dk_at dksX4_feed_1 19 rfl rfl)
theorem dX4_feed_42 : decode cX4_feed 42 = .ok (.iload 5, 2) := dk_21 5 (dk_at dksX4_feed_1 20 rfl rfl)
theorem dX4_feed_44 : decode cX4_feed 44 = .ok (.invokevirtual 121, 3) := dk_182 0 121 (dk_at dksX4_feed_2 0 rfl rfl)
theorem dX4_feed_47 : decode cX4_feed 47 = .ok (.aload_n 0, 1) := dk_42 (dk_at dksX4_feed_2 3 rfl rfl)
theorem dX4_feed_48 : decode cX4_feed 48 = .ok (.getfield 118, 3) := dk_180 0 118 (dk_at dksX4_feed_2 4 rfl rfl)
theorem dX4_feed_51 : decode cX4_feed 51 = .ok (.ireturn, 1) := dk_172 (dk_at dksX4_feed_2 7 rfl rfl)
abbrev mX4_feed : xM := (yX4_feed, cX4_feed, 6, (some .int), [])
def m_feed (x1 : Int32) (x2 : Int32) (x3 : Int32) (x4 : Int32) (x5 : Int32) (S : MS) : Option (Int32 × MS) :=
  if ((((sF S 0 (0 : Int32))).1 13) + (20 : Int32)) ≤ (700 : Int32) then
    (m_lays x1 ((sF S 0 (0 : Int32)))).bind fun q22 =>
    (m_lays x2 q22).bind fun q27 =>
    (m_lays x3 q27).bind fun q32 =>
    (m_lays x4 q32).bind fun q38 =>
    (m_lays x5 q38).bind fun q44 =>
    some ((q44.1 13), q44)
  else
    some ((-1 : Int32), (sF S 0 (0 : Int32)))
theorem w_feed {G : xG} {m0 : Nat} {x1 : Int32} {x2 : Int32} {x3 : Int32} {x4 : Int32} {x5 : Int32} {S : MS} {q : (Int32 × MS)} (hf : m_feed x1 x2 x3 x4 x5 S = some q) : CtM G m0 mX4_feed 2 S [.ref m0, .int x1, .int x2, .int x3, .int x4, .int x5] (some (.int q.1)) q.2 := by
  intro h N Z
  refine Ct.of (by decide +kernel) rfl (Nat.le_of_ble_eq_true rfl) (show Xr G _ 0 [(0, .ref m0), (1, .int x1), (2, .int x2), (3, .int x3), (4, .int x4), (5, .int x5)] [] _ from ?_)
  unfold m_feed at hf
  refine X.aload_n dX4_feed_0 rfl 0 rfl ?_
  refine X.iconst (v := 0) dX4_feed_1 (by decide) ?_
  refine M.putI dX4_feed_2 fX4_115 (by decide) rfl rfl rfl ?_
  refine X.aload_n dX4_feed_5 rfl 0 rfl ?_
  refine M.get (v := .int (((sF S 0 (0 : Int32))).1 13)) dX4_feed_6 fX4_118 (Nat.le_of_ble_eq_true rfl) rfl ?_
  refine X.bipush (v := 20) dX4_feed_9 (by decide) ?_
  refine X.iadd dX4_feed_11 ?_
  refine X.sipush (v := 700) dX4_feed_12 (by decide) ?_
  refine X.icmp_le (tgt := 20) dX4_feed_15 (by decide) (fun c15 => ?_) (fun c15 => ?_)
  · have hf := if_t c15 hf
    refine X.aload_n dX4_feed_20 rfl 0 rfl ?_
    refine X.iload_n dX4_feed_21 rfl 1 rfl ?_
    obtain ⟨q22, h22, hf⟩ := ob hf
    refine X.callVv (As := [.int x1]) (rest := []) (T2 := (mh m0 h q22, N, Z)) dX4_feed_22 (w_lays h22 h N Z) cX4_121 rfl rfl (Nat.le_of_ble_eq_true rfl) mh_0 rfl rfl (xD (Nat.le_of_ble_eq_true rfl)) xleN xleN ?_
    refine X.aload_n dX4_feed_25 rfl 0 rfl ?_
    refine X.iload_n dX4_feed_26 rfl 2 rfl ?_
    obtain ⟨q27, h27, hf⟩ := ob hf
    refine X.callVv (As := [.int x2]) (rest := []) (T2 := (mh m0 h q27, N, Z)) dX4_feed_27 (w_lays h27 h N Z) cX4_121 rfl rfl (Nat.le_of_ble_eq_true rfl) mh_0 rfl rfl (xD (Nat.le_of_ble_eq_true rfl)) xleN xleN ?_
    refine X.aload_n dX4_feed_30 rfl 0 rfl ?_
    refine X.iload_n dX4_feed_31 rfl 3 rfl ?_
    obtain ⟨q32, h32, hf⟩ := ob hf
    refine X.callVv (As := [.int x3]) (rest := []) (T2 := (mh m0 h q32, N, Z)) dX4_feed_32 (w_lays h32 h N Z) cX4_121 rfl rfl (Nat.le_of_ble_eq_true rfl) mh_0 rfl rfl (xD (Nat.le_of_ble_eq_true rfl)) xleN xleN ?_
    refine X.aload_n dX4_feed_35 rfl 0 rfl ?_
    refine X.iload dX4_feed_36 4 rfl ?_
    obtain ⟨q38, h38, hf⟩ := ob hf
    refine X.callVv (As := [.int x4]) (rest := []) (T2 := (mh m0 h q38, N, Z)) dX4_feed_38 (w_lays h38 h N Z) cX4_121 rfl rfl (Nat.le_of_ble_eq_true rfl) mh_0 rfl rfl (xD (Nat.le_of_ble_eq_true rfl)) xleN xleN ?_
    refine X.aload_n dX4_feed_41 rfl 0 rfl ?_
    refine X.iload dX4_feed_42 5 rfl ?_
    obtain ⟨q44, h44, hf⟩ := ob hf
    refine X.callVv (As := [.int x5]) (rest := []) (T2 := (mh m0 h q44, N, Z)) dX4_feed_44 (w_lays h44 h N Z) cX4_121 rfl rfl (Nat.le_of_ble_eq_true rfl) mh_0 rfl rfl (xD (Nat.le_of_ble_eq_true rfl)) xleN xleN ?_
    refine X.aload_n dX4_feed_47 rfl 0 rfl ?_
    refine M.get (v := .int (q44.1 13)) dX4_feed_48 fX4_118 (Nat.le_of_ble_eq_true rfl) rfl ?_
    obtain rfl := Option.some.inj hf
    exact X.iret dX4_feed_51 rfl rfl rfl
  · have hf := if_f c15 hf
    refine X.iconst (v := -1) dX4_feed_18 (by decide) ?_
    obtain rfl := Option.some.inj hf
    exact X.iret dX4_feed_19 rfl rfl rfl
/-! byteAt -/
abbrev cX4_byteAt : ByteArray := prog_12_method_12_code
def yX4_byteAt : MethodName := ⟨RX4, "byteAt", "(I)I"⟩
def dkwX4_byteAt_0 : List UInt8 := [27, 42, 180, 0, 125, 162, 0, 12, 42, 180, 0, 38, 27, 46, 167, 0, 4, 3, 172]
abbrev dktX4_byteAt_0 : List UInt8 := dkwX4_byteAt_0 ++ []
theorem dksX4_byteAt_0 : cX4_byteAt.data.toList.drop 0 = dktX4_byteAt_0 := by decide +kernel
theorem dX4_byteAt_0 : decode cX4_byteAt 0 = .ok (.iload_n 1, 1) := dk_27 (dk_at dksX4_byteAt_0 0 rfl rfl)
theorem dX4_byteAt_1 : decode cX4_byteAt 1 = .ok (.aload_n 0, 1) := dk_42 (dk_at dksX4_byteAt_0 1 rfl rfl)
theorem dX4_byteAt_2 : decode cX4_byteAt 2 = .ok (.getfield 125, 3) := dk_180 0 125 (dk_at dksX4_byteAt_0 2 rfl rfl)
theorem dX4_byteAt_5 : decode cX4_byteAt 5 = .ok (.if_icmp .ge 12, 3) := dk_162 0 12 (dk_at dksX4_byteAt_0 5 rfl rfl)
theorem dX4_byteAt_8 : decode cX4_byteAt 8 = .ok (.aload_n 0, 1) := dk_42 (dk_at dksX4_byteAt_0 8 rfl rfl)
theorem dX4_byteAt_9 : decode cX4_byteAt 9 = .ok (.getfield 38, 3) := dk_180 0 38 (dk_at dksX4_byteAt_0 9 rfl rfl)
theorem dX4_byteAt_12 : decode cX4_byteAt 12 = .ok (.iload_n 1, 1) := dk_27 (dk_at dksX4_byteAt_0 12 rfl rfl)
theorem dX4_byteAt_13 : decode cX4_byteAt 13 = .ok (.iaload, 1) := dk_46 (dk_at dksX4_byteAt_0 13 rfl rfl)
theorem dX4_byteAt_14 : decode cX4_byteAt 14 = .ok (.goto 4, 3) := dk_167 0 4 (dk_at dksX4_byteAt_0 14 rfl rfl)
theorem dX4_byteAt_17 : decode cX4_byteAt 17 = .ok (.iconst 0, 1) := dk_3 (dk_at dksX4_byteAt_0 17 rfl rfl)
theorem dX4_byteAt_18 : decode cX4_byteAt 18 = .ok (.ireturn, 1) := dk_172 (dk_at dksX4_byteAt_0 18 rfl rfl)
abbrev mX4_byteAt : xM := (yX4_byteAt, cX4_byteAt, 2, (some .int), [])
def m_byteAt (x1 : Int32) (S : MS) : Option Int32 :=
  if (S.1 17) ≤ x1 then
    some (0 : Int32)
  else
    (rdA S 4 x1).bind fun v13 =>
    some v13
theorem w_byteAt {G : xG} {m0 : Nat} {x1 : Int32} {S : MS} {q : Int32} (hf : m_byteAt x1 S = some q) : CtM G m0 mX4_byteAt 1 S [.ref m0, .int x1] (some (.int q)) S := by
  intro h N Z
  refine Ct.of (by decide +kernel) rfl (Nat.le_of_ble_eq_true rfl) (show Xr G _ 0 [(0, .ref m0), (1, .int x1)] [] _ from ?_)
  unfold m_byteAt at hf
  refine X.iload_n dX4_byteAt_0 rfl 1 rfl ?_
  refine X.aload_n dX4_byteAt_1 rfl 0 rfl ?_
  refine M.get (v := .int (S.1 17)) dX4_byteAt_2 fX4_125 (Nat.le_of_ble_eq_true rfl) rfl ?_
  refine X.icmp_ge (tgt := 17) dX4_byteAt_5 (by decide) (fun c5 => ?_) (fun c5 => ?_)
  · have hf := if_t c5 hf
    refine X.iconst (v := 0) dX4_byteAt_17 (by decide) ?_
    obtain rfl := Option.some.inj hf
    exact X.iret dX4_byteAt_18 rfl rfl rfl
  · have hf := if_f c5 hf
    refine X.aload_n dX4_byteAt_8 rfl 0 rfl ?_
    refine M.get (v := .ref (m0 + 4)) dX4_byteAt_9 fX4_38 (Nat.le_of_ble_eq_true rfl) rfl ?_
    refine X.iload_n dX4_byteAt_12 rfl 1 rfl ?_
    obtain ⟨v13, h13, hf⟩ := ob hf
    refine M.iald dX4_byteAt_13 rfl h13 ?_
    refine X.goto (tgt := 18) dX4_byteAt_14 (by decide) ?_
    obtain rfl := Option.some.inj hf
    exact X.iret dX4_byteAt_18 rfl rfl rfl
theorem cX4_131 : xCV RX4 131 mX4_byteAt 1 := ⟨lw_V q1781 q1783 qs56 q127 q1784, rfl, ⟨by decide +kernel, by decide +kernel, by decide +kernel⟩, Nat.le_of_ble_eq_true rfl⟩
/-! isLetter -/
abbrev cX4_isLetter : ByteArray := prog_12_method_13_code
def yX4_isLetter : MethodName := ⟨RX4, "isLetter", "(I)Z"⟩
def dkwX4_isLetter_0 : List UInt8 := [26, 16, 97, 161, 0, 13, 26, 16, 122, 163, 0, 7, 4, 167, 0, 4, 3, 172]
abbrev dktX4_isLetter_0 : List UInt8 := dkwX4_isLetter_0 ++ []
theorem dksX4_isLetter_0 : cX4_isLetter.data.toList.drop 0 = dktX4_isLetter_0 := by decide +kernel
theorem dX4_isLetter_0 : decode cX4_isLetter 0 = .ok (.iload_n 0, 1) := dk_26 (dk_at dksX4_isLetter_0 0 rfl rfl)
theorem dX4_isLetter_1 : decode cX4_isLetter 1 = .ok (.bipush 97, 2) := dk_16 97 (dk_at dksX4_isLetter_0 1 rfl rfl)
theorem dX4_isLetter_3 : decode cX4_isLetter 3 = .ok (.if_icmp .lt 13, 3) := dk_161 0 13 (dk_at dksX4_isLetter_0 3 rfl rfl)
theorem dX4_isLetter_6 : decode cX4_isLetter 6 = .ok (.iload_n 0, 1) := dk_26 (dk_at dksX4_isLetter_0 6 rfl rfl)
theorem dX4_isLetter_7 : decode cX4_isLetter 7 = .ok (.bipush 122, 2) := dk_16 122 (dk_at dksX4_isLetter_0 7 rfl rfl)
theorem dX4_isLetter_9 : decode cX4_isLetter 9 = .ok (.if_icmp .gt 7, 3) := dk_163 0 7 (dk_at dksX4_isLetter_0 9 rfl rfl)
theorem dX4_isLetter_12 : decode cX4_isLetter 12 = .ok (.iconst 1, 1) := dk_4 (dk_at dksX4_isLetter_0 12 rfl rfl)
theorem dX4_isLetter_13 : decode cX4_isLetter 13 = .ok (.goto 4, 3) := dk_167 0 4 (dk_at dksX4_isLetter_0 13 rfl rfl)
theorem dX4_isLetter_16 : decode cX4_isLetter 16 = .ok (.iconst 0, 1) := dk_3 (dk_at dksX4_isLetter_0 16 rfl rfl)
theorem dX4_isLetter_17 : decode cX4_isLetter 17 = .ok (.ireturn, 1) := dk_172 (dk_at dksX4_isLetter_0 17 rfl rfl)
abbrev mX4_isLetter : xM := (yX4_isLetter, cX4_isLetter, 1, (some .boolean), [])
def m_isLetter (x0 : Int32) : Option Int32 :=
  if x0 < (97 : Int32) then
    some (0 : Int32)
  else
    if (122 : Int32) < x0 then
      some (0 : Int32)
    else
      some (1 : Int32)
theorem w_isLetter {G : xG} {x0 : Int32} {q : Int32} (hf : m_isLetter x0 = some q) : CtP G mX4_isLetter 1 [.int x0] (some (.int q)) := by
  intro T
  refine Ct.of (by decide +kernel) rfl (Nat.le_of_ble_eq_true rfl) (show Xr G _ 0 [(0, .int x0)] [] _ from ?_)
  unfold m_isLetter at hf
  refine X.iload_n dX4_isLetter_0 rfl 0 rfl ?_
  refine X.bipush (v := 97) dX4_isLetter_1 (by decide) ?_
  refine X.icmp_lt (tgt := 16) dX4_isLetter_3 (by decide) (fun c3 => ?_) (fun c3 => ?_)
  · have hf := if_t c3 hf
    refine X.iconst (v := 0) dX4_isLetter_16 (by decide) ?_
    obtain rfl := Option.some.inj hf
    exact X.iret dX4_isLetter_17 rfl rfl rfl
  · have hf := if_f c3 hf
    refine X.iload_n dX4_isLetter_6 rfl 0 rfl ?_
    refine X.bipush (v := 122) dX4_isLetter_7 (by decide) ?_
    refine X.icmp_gt (tgt := 16) dX4_isLetter_9 (by decide) (fun c9 => ?_) (fun c9 => ?_)
    · have hf := if_t c9 hf
      refine X.iconst (v := 0) dX4_isLetter_16 (by decide) ?_
      obtain rfl := Option.some.inj hf
      exact X.iret dX4_isLetter_17 rfl rfl rfl
    · have hf := if_f c9 hf
      refine X.iconst (v := 1) dX4_isLetter_12 (by decide) ?_
      refine X.goto (tgt := 17) dX4_isLetter_13 (by decide) ?_
      obtain rfl := Option.some.inj hf
      exact X.iret dX4_isLetter_17 rfl rfl rfl
theorem cX4_151 : xCS RX4 151 mX4_isLetter 1 := ⟨lw_S q1785 q1786 q127 q1787, rfl, ⟨by decide +kernel, by decide +kernel, by decide +kernel⟩, Nat.le_of_ble_eq_true rfl⟩
/-! isDigit -/
abbrev cX4_isDigit : ByteArray := prog_12_method_14_code
def yX4_isDigit : MethodName := ⟨RX4, "isDigit", "(I)Z"⟩
def dkwX4_isDigit_0 : List UInt8 := [26, 16, 48, 161, 0, 13, 26, 16, 57, 163, 0, 7, 4, 167, 0, 4, 3, 172]
abbrev dktX4_isDigit_0 : List UInt8 := dkwX4_isDigit_0 ++ []
theorem dksX4_isDigit_0 : cX4_isDigit.data.toList.drop 0 = dktX4_isDigit_0 := by decide +kernel
theorem dX4_isDigit_0 : decode cX4_isDigit 0 = .ok (.iload_n 0, 1) := dk_26 (dk_at dksX4_isDigit_0 0 rfl rfl)
theorem dX4_isDigit_1 : decode cX4_isDigit 1 = .ok (.bipush 48, 2) := dk_16 48 (dk_at dksX4_isDigit_0 1 rfl rfl)
theorem dX4_isDigit_3 : decode cX4_isDigit 3 = .ok (.if_icmp .lt 13, 3) := dk_161 0 13 (dk_at dksX4_isDigit_0 3 rfl rfl)
theorem dX4_isDigit_6 : decode cX4_isDigit 6 = .ok (.iload_n 0, 1) := dk_26 (dk_at dksX4_isDigit_0 6 rfl rfl)
theorem dX4_isDigit_7 : decode cX4_isDigit 7 = .ok (.bipush 57, 2) := dk_16 57 (dk_at dksX4_isDigit_0 7 rfl rfl)
theorem dX4_isDigit_9 : decode cX4_isDigit 9 = .ok (.if_icmp .gt 7, 3) := dk_163 0 7 (dk_at dksX4_isDigit_0 9 rfl rfl)
theorem dX4_isDigit_12 : decode cX4_isDigit 12 = .ok (.iconst 1, 1) := dk_4 (dk_at dksX4_isDigit_0 12 rfl rfl)
theorem dX4_isDigit_13 : decode cX4_isDigit 13 = .ok (.goto 4, 3) := dk_167 0 4 (dk_at dksX4_isDigit_0 13 rfl rfl)
theorem dX4_isDigit_16 : decode cX4_isDigit 16 = .ok (.iconst 0, 1) := dk_3 (dk_at dksX4_isDigit_0 16 rfl rfl)
theorem dX4_isDigit_17 : decode cX4_isDigit 17 = .ok (.ireturn, 1) := dk_172 (dk_at dksX4_isDigit_0 17 rfl rfl)
abbrev mX4_isDigit : xM := (yX4_isDigit, cX4_isDigit, 1, (some .boolean), [])
def m_isDigit (x0 : Int32) : Option Int32 :=
  if x0 < (48 : Int32) then
    some (0 : Int32)
  else
    if (57 : Int32) < x0 then
      some (0 : Int32)
    else
      some (1 : Int32)
theorem w_isDigit {G : xG} {x0 : Int32} {q : Int32} (hf : m_isDigit x0 = some q) : CtP G mX4_isDigit 1 [.int x0] (some (.int q)) := by
  intro T
  refine Ct.of (by decide +kernel) rfl (Nat.le_of_ble_eq_true rfl) (show Xr G _ 0 [(0, .int x0)] [] _ from ?_)
  unfold m_isDigit at hf
  refine X.iload_n dX4_isDigit_0 rfl 0 rfl ?_
  refine X.bipush (v := 48) dX4_isDigit_1 (by decide) ?_
  refine X.icmp_lt (tgt := 16) dX4_isDigit_3 (by decide) (fun c3 => ?_) (fun c3 => ?_)
  · have hf := if_t c3 hf
    refine X.iconst (v := 0) dX4_isDigit_16 (by decide) ?_
    obtain rfl := Option.some.inj hf
    exact X.iret dX4_isDigit_17 rfl rfl rfl
  · have hf := if_f c3 hf
    refine X.iload_n dX4_isDigit_6 rfl 0 rfl ?_
    refine X.bipush (v := 57) dX4_isDigit_7 (by decide) ?_
    refine X.icmp_gt (tgt := 16) dX4_isDigit_9 (by decide) (fun c9 => ?_) (fun c9 => ?_)
    · have hf := if_t c9 hf
      refine X.iconst (v := 0) dX4_isDigit_16 (by decide) ?_
      obtain rfl := Option.some.inj hf
      exact X.iret dX4_isDigit_17 rfl rfl rfl
    · have hf := if_f c9 hf
      refine X.iconst (v := 1) dX4_isDigit_12 (by decide) ?_
      refine X.goto (tgt := 17) dX4_isDigit_13 (by decide) ?_
      obtain rfl := Option.some.inj hf
      exact X.iret dX4_isDigit_17 rfl rfl rfl
theorem cX4_155 : xCS RX4 155 mX4_isDigit 1 := ⟨lw_S q1788 q1789 q127 q1790, rfl, ⟨by decide +kernel, by decide +kernel, by decide +kernel⟩, Nat.le_of_ble_eq_true rfl⟩
/-! goes -/
abbrev cX4_goes : ByteArray := prog_12_method_15_code
def yX4_goes : MethodName := ⟨RX4, "goes", "()V"⟩
def dkwX4_goes_14 : List UInt8 := [167, 0, 4, 7, 181, 0, 148, 42, 42, 180, 0, 128, 42, 180, 0, 135, 100, 181, 0, 158, 177]
abbrev dktX4_goes_14 : List UInt8 := dkwX4_goes_14 ++ []
def dkwX4_goes_13 : List UInt8 := [16, 42, 159, 0, 21, 27, 16, 47, 159, 0, 15, 27, 16, 60, 159, 0, 9, 27, 16, 61, 160, 0, 7, 6]
abbrev dktX4_goes_13 : List UInt8 := dkwX4_goes_13 ++ dktX4_goes_14
def dkwX4_goes_12 : List UInt8 := [16, 40, 159, 0, 45, 27, 16, 41, 159, 0, 39, 27, 16, 43, 159, 0, 33, 27, 16, 45, 159, 0, 27, 27]
abbrev dktX4_goes_12 : List UInt8 := dkwX4_goes_12 ++ dktX4_goes_13
def dkwX4_goes_11 : List UInt8 := [181, 0, 148, 167, 0, 76, 42, 89, 180, 0, 128, 4, 96, 181, 0, 128, 42, 27, 16, 59, 159, 0, 51, 27]
abbrev dktX4_goes_11 : List UInt8 := dkwX4_goes_11 ++ dktX4_goes_12
def dkwX4_goes_10 : List UInt8 := [96, 16, 48, 100, 181, 0, 142, 42, 89, 180, 0, 128, 4, 96, 181, 0, 128, 167, 255, 196, 42, 5]
abbrev dktX4_goes_10 : List UInt8 := dkwX4_goes_10 ++ dktX4_goes_11
def dkwX4_goes_9 : List UInt8 := [180, 0, 135, 100, 7, 162, 0, 26, 42, 16, 10, 42, 180, 0, 142, 104, 42, 42, 180, 0, 128, 182, 0, 131]
abbrev dktX4_goes_9 : List UInt8 := dkwX4_goes_9 ++ dktX4_goes_10
def dkwX4_goes_8 : List UInt8 := [153, 0, 74, 42, 42, 180, 0, 128, 182, 0, 131, 184, 0, 155, 153, 0, 52, 42, 180, 0, 128, 42]
abbrev dktX4_goes_8 : List UInt8 := dkwX4_goes_8 ++ dktX4_goes_9
def dkwX4_goes_7 : List UInt8 := [180, 0, 128, 4, 96, 181, 0, 128, 167, 255, 195, 42, 4, 181, 0, 148, 167, 0, 154, 27, 184, 0, 155]
abbrev dktX4_goes_7 : List UInt8 := dkwX4_goes_7 ++ dktX4_goes_8
def dkwX4_goes_6 : List UInt8 := [180, 0, 138, 8, 121, 42, 42, 180, 0, 128, 182, 0, 131, 16, 96, 100, 133, 129, 181, 0, 138, 42, 89]
abbrev dktX4_goes_6 : List UInt8 := dkwX4_goes_6 ++ dktX4_goes_7
def dkwX4_goes_5 : List UInt8 := [184, 0, 151, 153, 0, 53, 42, 180, 0, 128, 42, 180, 0, 135, 100, 16, 7, 162, 0, 26, 42, 42]
abbrev dktX4_goes_5 : List UInt8 := dkwX4_goes_5 ++ dktX4_goes_6
def dkwX4_goes_4 : List UInt8 := [3, 181, 0, 148, 167, 0, 233, 27, 184, 0, 151, 153, 0, 75, 42, 42, 180, 0, 128, 182, 0, 131]
abbrev dktX4_goes_4 : List UInt8 := dkwX4_goes_4 ++ dktX4_goes_5
def dkwX4_goes_3 : List UInt8 := [180, 0, 128, 182, 0, 131, 60, 42, 27, 181, 0, 145, 42, 180, 0, 128, 42, 180, 0, 125, 161, 0, 11, 42]
abbrev dktX4_goes_3 : List UInt8 := dkwX4_goes_3 ++ dktX4_goes_4
def dkwX4_goes_2 : List UInt8 := [167, 255, 209, 42, 42, 180, 0, 128, 181, 0, 135, 42, 9, 181, 0, 138, 42, 3, 181, 0, 142, 42, 42]
abbrev dktX4_goes_2 : List UInt8 := dkwX4_goes_2 ++ dktX4_goes_3
def dkwX4_goes_1 : List UInt8 := [42, 42, 180, 0, 128, 182, 0, 131, 16, 10, 160, 0, 16, 42, 89, 180, 0, 128, 4, 96, 181, 0, 128]
abbrev dktX4_goes_1 : List UInt8 := dkwX4_goes_1 ++ dktX4_goes_2
def dkwX4_goes_0 : List UInt8 := [42, 180, 0, 128, 42, 180, 0, 125, 162, 0, 42, 42, 42, 180, 0, 128, 182, 0, 131, 16, 32, 159, 0, 16]
abbrev dktX4_goes_0 : List UInt8 := dkwX4_goes_0 ++ dktX4_goes_1
theorem dksX4_goes_0 : cX4_goes.data.toList.drop 0 = dktX4_goes_0 := by decide +kernel
theorem dksX4_goes_1 : cX4_goes.data.toList.drop 24 = dktX4_goes_1 := dk_seg dksX4_goes_0 24 rfl rfl
theorem dksX4_goes_2 : cX4_goes.data.toList.drop 47 = dktX4_goes_2 := dk_seg dksX4_goes_1 23 rfl rfl
theorem dksX4_goes_3 : cX4_goes.data.toList.drop 70 = dktX4_goes_3 := dk_seg dksX4_goes_2 23 rfl rfl
theorem dksX4_goes_4 : cX4_goes.data.toList.drop 94 = dktX4_goes_4 := dk_seg dksX4_goes_3 24 rfl rfl
theorem dksX4_goes_5 : cX4_goes.data.toList.drop 116 = dktX4_goes_5 := dk_seg dksX4_goes_4 22 rfl rfl
theorem dksX4_goes_6 : cX4_goes.data.toList.drop 138 = dktX4_goes_6 := dk_seg dksX4_goes_5 22 rfl rfl
theorem dksX4_goes_7 : cX4_goes.data.toList.drop 161 = dktX4_goes_7 := dk_seg dksX4_goes_6 23 rfl rfl
theorem dksX4_goes_8 : cX4_goes.data.toList.drop 184 = dktX4_goes_8 := dk_seg dksX4_goes_7 23 rfl rfl
theorem dksX4_goes_9 : cX4_goes.data.toList.drop 206 = dktX4_goes_9 := dk_seg dksX4_goes_8 22 rfl rfl
theorem dksX4_goes_10 : cX4_goes.data.toList.drop 230 = dktX4_goes_10 := dk_seg dksX4_goes_9 24 rfl rfl
theorem dksX4_goes_11 : cX4_goes.data.toList.drop 252 = dktX4_goes_11 := dk_seg dksX4_goes_10 22 rfl rfl
theorem dksX4_goes_12 : cX4_goes.data.toList.drop 276 = dktX4_goes_12 := dk_seg dksX4_goes_11 24 rfl rfl
theorem dksX4_goes_13 : cX4_goes.data.toList.drop 300 = dktX4_goes_13 := dk_seg dksX4_goes_12 24 rfl rfl
theorem dksX4_goes_14 : cX4_goes.data.toList.drop 324 = dktX4_goes_14 := dk_seg dksX4_goes_13 24 rfl rfl
theorem dX4_goes_0 : decode cX4_goes 0 = .ok (.aload_n 0, 1) := dk_42 (dk_at dksX4_goes_0 0 rfl rfl)
theorem dX4_goes_1 : decode cX4_goes 1 = .ok (.getfield 128, 3) := dk_180 0 128 (dk_at dksX4_goes_0 1 rfl rfl)
theorem dX4_goes_4 : decode cX4_goes 4 = .ok (.aload_n 0, 1) := dk_42 (dk_at dksX4_goes_0 4 rfl rfl)
theorem dX4_goes_5 : decode cX4_goes 5 = .ok (.getfield 125, 3) := dk_180 0 125 (dk_at dksX4_goes_0 5 rfl rfl)
theorem dX4_goes_8 : decode cX4_goes 8 = .ok (.if_icmp .ge 42, 3) := dk_162 0 42 (dk_at dksX4_goes_0 8 rfl rfl)
theorem dX4_goes_11 : decode cX4_goes 11 = .ok (.aload_n 0, 1) := dk_42 (dk_at dksX4_goes_0 11 rfl rfl)
theorem dX4_goes_12 : decode cX4_goes 12 = .ok (.aload_n 0, 1) := dk_42 (dk_at dksX4_goes_0 12 rfl rfl)
theorem dX4_goes_13 : decode cX4_goes 13 = .ok (.getfield 128, 3) := dk_180 0 128 (dk_at dksX4_goes_0 13 rfl rfl)
theorem dX4_goes_16 : decode cX4_goes 16 = .ok (.invokevirtual 131, 3) := dk_182 0 131 (dk_at dksX4_goes_0 16 rfl rfl)
theorem dX4_goes_19 : decode cX4_goes 19 = .ok (.bipush 32, 2) := dk_16 32 (dk_at dksX4_goes_0 19 rfl rfl)
theorem dX4_goes_21 : decode cX4_goes 21 = .ok (.if_icmp .eq 16, 3) := dk_159 0 16 (dk_at dksX4_goes_0 21 rfl rfl)
theorem dX4_goes_24 : decode cX4_goes 24 = .ok (.aload_n 0, 1) := dk_42 (dk_at dksX4_goes_1 0 rfl rfl)
theorem dX4_goes_25 : decode cX4_goes 25 = .ok (.aload_n 0, 1) := dk_42 (dk_at dksX4_goes_1 1 rfl rfl)
theorem dX4_goes_26 : decode cX4_goes 26 = .ok (.getfield 128, 3) := dk_180 0 128 (dk_at dksX4_goes_1 2 rfl rfl)
theorem dX4_goes_29 : decode cX4_goes 29 = .ok (.invokevirtual 131, 3) := dk_182 0 131 (dk_at dksX4_goes_1 5 rfl rfl)
theorem dX4_goes_32 : decode cX4_goes 32 = .ok (.bipush 10, 2) := dk_16 10 (dk_at dksX4_goes_1 8 rfl rfl)
theorem dX4_goes_34 : decode cX4_goes 34 = .ok (.if_icmp .ne 16, 3) := dk_160 0 16 (dk_at dksX4_goes_1 10 rfl rfl)
theorem dX4_goes_37 : decode cX4_goes 37 = .ok (.aload_n 0, 1) := dk_42 (dk_at dksX4_goes_1 13 rfl rfl)
theorem dX4_goes_38 : decode cX4_goes 38 = .ok (.dup, 1) := dk_89 (dk_at dksX4_goes_1 14 rfl rfl)
theorem dX4_goes_39 : decode cX4_goes 39 = .ok (.getfield 128, 3) := dk_180 0 128 (dk_at dksX4_goes_1 15 rfl rfl)
theorem dX4_goes_42 : decode cX4_goes 42 = .ok (.iconst 1, 1) := dk_4 (dk_at dksX4_goes_1 18 rfl rfl)
theorem dX4_goes_43 : decode cX4_goes 43 = .ok (.iadd, 1) := dk_96 (dk_at dksX4_goes_1 19 rfl rfl)
theorem dX4_goes_44 : decode cX4_goes 44 = .ok (.putfield 128, 3) := dk_181 0 128 (dk_at dksX4_goes_1 20 rfl rfl)
theorem dX4_goes_47 : decode cX4_goes 47 = .ok (.goto (-47), 3) := dk_167 255 209 (dk_at dksX4_goes_2 0 rfl rfl)
theorem dX4_goes_50 : decode cX4_goes 50 = .ok (.aload_n 0, 1) := dk_42 (dk_at dksX4_goes_2 3 rfl rfl)
theorem dX4_goes_51 : decode cX4_goes 51 = .ok (.aload_n 0, 1) := dk_42 (dk_at dksX4_goes_2 4 rfl rfl)
theorem dX4_goes_52 : decode cX4_goes 52 = .ok (.getfield 128, 3) := dk_180 0 128 (dk_at dksX4_goes_2 5 rfl rfl)
theorem dX4_goes_55 : decode cX4_goes 55 = .ok (.putfield 135, 3) := dk_181 0 135 (dk_at dksX4_goes_2 8 rfl rfl)
theorem dX4_goes_58 : decode cX4_goes 58 = .ok (.aload_n 0, 1) := dk_42 (dk_at dksX4_goes_2 11 rfl rfl)
theorem dX4_goes_59 : decode cX4_goes 59 = .ok (.lconst 0, 1) := dk_9 (dk_at dksX4_goes_2 12 rfl rfl)
theorem dX4_goes_60 : decode cX4_goes 60 = .ok (.putfield 138, 3) := dk_181 0 138 (dk_at dksX4_goes_2 13 rfl rfl)
theorem dX4_goes_63 : decode cX4_goes 63 = .ok (.aload_n 0, 1) := dk_42 (dk_at dksX4_goes_2 16 rfl rfl)
theorem dX4_goes_64 : decode cX4_goes 64 = .ok (.iconst 0, 1) := dk_3 (dk_at dksX4_goes_2 17 rfl rfl)
theorem dX4_goes_65 : decode cX4_goes 65 = .ok (.putfield 142, 3) := dk_181 0 142 (dk_at dksX4_goes_2 18 rfl rfl)
theorem dX4_goes_68 : decode cX4_goes 68 = .ok (.aload_n 0, 1) := dk_42 (dk_at dksX4_goes_2 21 rfl rfl)
theorem dX4_goes_69 : decode cX4_goes 69 = .ok (.aload_n 0, 1) := dk_42 (dk_at dksX4_goes_2 22 rfl rfl)
theorem dX4_goes_70 : decode cX4_goes 70 = .ok (.getfield 128, 3) := dk_180 0 128 (dk_at dksX4_goes_3 0 rfl rfl)
theorem dX4_goes_73 : decode cX4_goes 73 = .ok (.invokevirtual 131, 3) := dk_182 0 131 (dk_at dksX4_goes_3 3 rfl rfl)
theorem dX4_goes_76 : decode cX4_goes 76 = .ok (.istore_n 1, 1) := dk_60 (dk_at dksX4_goes_3 6 rfl rfl)
theorem dX4_goes_77 : decode cX4_goes 77 = .ok (.aload_n 0, 1) := dk_42 (dk_at dksX4_goes_3 7 rfl rfl)
theorem dX4_goes_78 : decode cX4_goes 78 = .ok (.iload_n 1, 1) := dk_27 (dk_at dksX4_goes_3 8 rfl rfl)
theorem dX4_goes_79 : decode cX4_goes 79 = .ok (.putfield 145, 3) := dk_181 0 145 (dk_at dksX4_goes_3 9 rfl rfl)
theorem dX4_goes_82 : decode cX4_goes 82 = .ok (.aload_n 0, 1) := dk_42 (dk_at dksX4_goes_3 12 rfl rfl)
theorem dX4_goes_83 : decode cX4_goes 83 = .ok (.getfield 128, 3) := dk_180 0 128 (dk_at dksX4_goes_3 13 rfl rfl)
theorem dX4_goes_86 : decode cX4_goes 86 = .ok (.aload_n 0, 1) := dk_42 (dk_at dksX4_goes_3 16 rfl rfl)
theorem dX4_goes_87 : decode cX4_goes 87 = .ok (.getfield 125, 3) := dk_180 0 125 (dk_at dksX4_goes_3 17 rfl rfl)
theorem dX4_goes_90 : decode cX4_goes 90 = .ok (.if_icmp .lt 11, 3) := dk_161 0 11 (dk_at dksX4_goes_3 20 rfl rfl)
theorem dX4_goes_93 : decode cX4_goes 93 = .ok (.aload_n 0, 1) := dk_42 (dk_at dksX4_goes_3 23 rfl rfl)
theorem dX4_goes_94 : decode cX4_goes 94 = .ok (.iconst 0, 1) := dk_3 (dk_at dksX4_goes_4 0 rfl rfl)
theorem dX4_goes_95 : decode cX4_goes 95 = .ok (.putfield 148, 3) := dk_181 0 148 (dk_at dksX4_goes_4 1 rfl rfl)
theorem dX4_goes_98 : decode cX4_goes 98 = .ok (.goto 233, 3) := dk_167 0 233 (dk_at dksX4_goes_4 4 rfl rfl)
theorem dX4_goes_101 : decode cX4_goes 101 = .ok (.iload_n 1, 1) := dk_27 (dk_at dksX4_goes_4 7 rfl rfl)
theorem dX4_goes_102 : decode cX4_goes 102 = .ok (.invokestatic 151, 3) := dk_184 0 151 (dk_at dksX4_goes_4 8 rfl rfl)
theorem dX4_goes_105 : decode cX4_goes 105 = .ok (.ifCond .eq 75, 3) := dk_153 0 75 (dk_at dksX4_goes_4 11 rfl rfl)
theorem dX4_goes_108 : decode cX4_goes 108 = .ok (.aload_n 0, 1) := dk_42 (dk_at dksX4_goes_4 14 rfl rfl)
theorem dX4_goes_109 : decode cX4_goes 109 = .ok (.aload_n 0, 1) := dk_42 (dk_at dksX4_goes_4 15 rfl rfl)
theorem dX4_goes_110 : decode cX4_goes 110 = .ok (.getfield 128, 3) := dk_180 0 128 (dk_at dksX4_goes_4 16 rfl rfl)
theorem dX4_goes_113 : decode cX4_goes 113 = .ok (.invokevirtual 131, 3) := dk_182 0 131 (dk_at dksX4_goes_4 19 rfl rfl)
theorem dX4_goes_116 : decode cX4_goes 116 = .ok (.invokestatic 151, 3) := dk_184 0 151 (dk_at dksX4_goes_5 0 rfl rfl)
theorem dX4_goes_119 : decode cX4_goes 119 = .ok (.ifCond .eq 53, 3) := dk_153 0 53 (dk_at dksX4_goes_5 3 rfl rfl)
theorem dX4_goes_122 : decode cX4_goes 122 = .ok (.aload_n 0, 1) := dk_42 (dk_at dksX4_goes_5 6 rfl rfl)
theorem dX4_goes_123 : decode cX4_goes 123 = .ok (.getfield 128, 3) := dk_180 0 128 (dk_at dksX4_goes_5 7 rfl rfl)
theorem dX4_goes_126 : decode cX4_goes 126 = .ok (.aload_n 0, 1) := dk_42 (dk_at dksX4_goes_5 10 rfl rfl)
theorem dX4_goes_127 : decode cX4_goes 127 = .ok (.getfield 135, 3) := dk_180 0 135 (dk_at dksX4_goes_5 11 rfl rfl)
theorem dX4_goes_130 : decode cX4_goes 130 = .ok (.isub, 1) := dk_100 (dk_at dksX4_goes_5 14 rfl rfl)
theorem dX4_goes_131 : decode cX4_goes 131 = .ok (.bipush 7, 2) := dk_16 7 (dk_at dksX4_goes_5 15 rfl rfl)
theorem dX4_goes_133 : decode cX4_goes 133 = .ok (.if_icmp .ge 26, 3) := dk_162 0 26 (dk_at dksX4_goes_5 17 rfl rfl)
theorem dX4_goes_136 : decode cX4_goes 136 = .ok (.aload_n 0, 1) := dk_42 (dk_at dksX4_goes_5 20 rfl rfl)
theorem dX4_goes_137 : decode cX4_goes 137 = .ok (.aload_n 0, 1) := dk_42 (dk_at dksX4_goes_5 21 rfl rfl)
theorem dX4_goes_138 : decode cX4_goes 138 = .ok (.getfield 138, 3) := dk_180 0 138 (dk_at dksX4_goes_6 0 rfl rfl)
theorem dX4_goes_141 : decode cX4_goes 141 = .ok (.iconst 5, 1) := dk_8 (dk_at dksX4_goes_6 3 rfl rfl)
theorem dX4_goes_142 : decode cX4_goes 142 = .ok (.lshl, 1) := dk_121 (dk_at dksX4_goes_6 4 rfl rfl)
theorem dX4_goes_143 : decode cX4_goes 143 = .ok (.aload_n 0, 1) := dk_42 (dk_at dksX4_goes_6 5 rfl rfl)
theorem dX4_goes_144 : decode cX4_goes 144 = .ok (.aload_n 0, 1) := dk_42 (dk_at dksX4_goes_6 6 rfl rfl)
theorem dX4_goes_145 : decode cX4_goes 145 = .ok (.getfield 128, 3) := dk_180 0 128 (dk_at dksX4_goes_6 7 rfl rfl)
theorem dX4_goes_148 : decode cX4_goes 148 = .ok (.invokevirtual 131, 3) := dk_182 0 131 (dk_at dksX4_goes_6 10 rfl rfl)
theorem dX4_goes_151 : decode cX4_goes 151 = .ok (.bipush 96, 2) := dk_16 96 (dk_at dksX4_goes_6 13 rfl rfl)
theorem dX4_goes_153 : decode cX4_goes 153 = .ok (.isub, 1) := dk_100 (dk_at dksX4_goes_6 15 rfl rfl)
theorem dX4_goes_154 : decode cX4_goes 154 = .ok (.i2l, 1) := dk_133 (dk_at dksX4_goes_6 16 rfl rfl)
theorem dX4_goes_155 : decode cX4_goes 155 = .ok (.lor, 1) := dk_129 (dk_at dksX4_goes_6 17 rfl rfl)
theorem dX4_goes_156 : decode cX4_goes 156 = .ok (.putfield 138, 3) := dk_181 0 138 (dk_at dksX4_goes_6 18 rfl rfl)
theorem dX4_goes_159 : decode cX4_goes 159 = .ok (.aload_n 0, 1) := dk_42 (dk_at dksX4_goes_6 21 rfl rfl)
theorem dX4_goes_160 : decode cX4_goes 160 = .ok (.dup, 1) := dk_89 (dk_at dksX4_goes_6 22 rfl rfl)
theorem dX4_goes_161 : decode cX4_goes 161 = .ok (.getfield 128, 3) := dk_180 0 128 (dk_at dksX4_goes_7 0 rfl rfl)
theorem dX4_goes_164 : decode cX4_goes 164 = .ok (.iconst 1, 1) := dk_4 (dk_at dksX4_goes_7 3 rfl rfl)
theorem dX4_goes_165 : decode cX4_goes 165 = .ok (.iadd, 1) := dk_96 (dk_at dksX4_goes_7 4 rfl rfl)
theorem dX4_goes_166 : decode cX4_goes 166 = .ok (.putfield 128, 3) := dk_181 0 128 (dk_at dksX4_goes_7 5 rfl rfl)
theorem dX4_goes_169 : decode cX4_goes 169 = .ok (.goto (-61), 3) := dk_167 255 195 (dk_at dksX4_goes_7 8 rfl rfl)
theorem dX4_goes_172 : decode cX4_goes 172 = .ok (.aload_n 0, 1) := dk_42 (dk_at dksX4_goes_7 11 rfl rfl)
theorem dX4_goes_173 : decode cX4_goes 173 = .ok (.iconst 1, 1) := dk_4 (dk_at dksX4_goes_7 12 rfl rfl)
theorem dX4_goes_174 : decode cX4_goes 174 = .ok (.putfield 148, 3) := dk_181 0 148 (dk_at dksX4_goes_7 13 rfl rfl)
theorem dX4_goes_177 : decode cX4_goes 177 = .ok (.goto 154, 3) := dk_167 0 154 (dk_at dksX4_goes_7 16 rfl rfl)
theorem dX4_goes_180 : decode cX4_goes 180 = .ok (.iload_n 1, 1) := dk_27 (dk_at dksX4_goes_7 19 rfl rfl)
theorem dX4_goes_181 : decode cX4_goes 181 = .ok (.invokestatic 155, 3) := dk_184 0 155 (dk_at dksX4_goes_7 20 rfl rfl)
theorem dX4_goes_184 : decode cX4_goes 184 = .ok (.ifCond .eq 74, 3) := dk_153 0 74 (dk_at dksX4_goes_8 0 rfl rfl)
theorem dX4_goes_187 : decode cX4_goes 187 = .ok (.aload_n 0, 1) := dk_42 (dk_at dksX4_goes_8 3 rfl rfl)
theorem dX4_goes_188 : decode cX4_goes 188 = .ok (.aload_n 0, 1) := dk_42 (dk_at dksX4_goes_8 4 rfl rfl)
theorem dX4_goes_189 : decode cX4_goes 189 = .ok (.getfield 128, 3) := dk_180 0 128 (dk_at dksX4_goes_8 5 rfl rfl)
theorem dX4_goes_192 : decode cX4_goes 192 = .ok (.invokevirtual 131, 3) := dk_182 0 131 (dk_at dksX4_goes_8 8 rfl rfl)
theorem dX4_goes_195 : decode cX4_goes 195 = .ok (.invokestatic 155, 3) := dk_184 0 155 (dk_at dksX4_goes_8 11 rfl rfl)
theorem dX4_goes_198 : decode cX4_goes 198 = .ok (.ifCond .eq 52, 3) := dk_153 0 52 (dk_at dksX4_goes_8 14 rfl rfl)
theorem dX4_goes_201 : decode cX4_goes 201 = .ok (.aload_n 0, 1) := dk_42 (dk_at dksX4_goes_8 17 rfl rfl)
theorem dX4_goes_202 : decode cX4_goes 202 = .ok (.getfield 128, 3) := dk_180 0 128 (dk_at dksX4_goes_8 18 rfl rfl)
theorem dX4_goes_205 : decode cX4_goes 205 = .ok (.aload_n 0, 1) := dk_42 (dk_at dksX4_goes_8 21 rfl rfl)
theorem dX4_goes_206 : decode cX4_goes 206 = .ok (.getfield 135, 3) := dk_180 0 135 (dk_at dksX4_goes_9 0 rfl rfl)
theorem dX4_goes_209 : decode cX4_goes 209 = .ok (.isub, 1) := dk_100 (dk_at dksX4_goes_9 3 rfl rfl)
theorem dX4_goes_210 : decode cX4_goes 210 = .ok (.iconst 4, 1) := dk_7 (dk_at dksX4_goes_9 4 rfl rfl)
theorem dX4_goes_211 : decode cX4_goes 211 = .ok (.if_icmp .ge 26, 3) := dk_162 0 26 (dk_at dksX4_goes_9 5 rfl rfl)
theorem dX4_goes_214 : decode cX4_goes 214 = .ok (.aload_n 0, 1) := dk_42 (dk_at dksX4_goes_9 8 rfl rfl)
theorem dX4_goes_215 : decode cX4_goes 215 = .ok (.bipush 10, 2) := dk_16 10 (dk_at dksX4_goes_9 9 rfl rfl)
theorem dX4_goes_217 : decode cX4_goes 217 = .ok (.aload_n 0, 1) := dk_42 (dk_at dksX4_goes_9 11 rfl rfl)
theorem dX4_goes_218 : decode cX4_goes 218 = .ok (.getfield 142, 3) := dk_180 0 142 (dk_at dksX4_goes_9 12 rfl rfl)
theorem dX4_goes_221 : decode cX4_goes 221 = .ok (.imul, 1) := dk_104 (dk_at dksX4_goes_9 15 rfl rfl)
theorem dX4_goes_222 : decode cX4_goes 222 = .ok (.aload_n 0, 1) := dk_42 (dk_at dksX4_goes_9 16 rfl rfl)
theorem dX4_goes_223 : decode cX4_goes 223 = .ok (.aload_n 0, 1) := dk_42 (dk_at dksX4_goes_9 17 rfl rfl)
theorem dX4_goes_224 : decode cX4_goes 224 = .ok (.getfield 128, 3) := dk_180 0 128 (dk_at dksX4_goes_9 18 rfl rfl)
theorem dX4_goes_227 : decode cX4_goes 227 = .ok (.invokevirtual 131, 3) := dk_182 0 131 (dk_at dksX4_goes_9 21 rfl rfl)
theorem dX4_goes_230 : decode cX4_goes 230 = .ok (.iadd, 1) := dk_96 (dk_at dksX4_goes_10 0 rfl rfl)
theorem dX4_goes_231 : decode cX4_goes 231 = .ok (.bipush 48, 2) := dk_16 48 (dk_at dksX4_goes_10 1 rfl rfl)
theorem dX4_goes_233 : decode cX4_goes 233 = .ok (.isub, 1) := dk_100 (dk_at dksX4_goes_10 3 rfl rfl)
theorem dX4_goes_234 : decode cX4_goes 234 = .ok (.putfield 142, 3) := dk_181 0 142 (dk_at dksX4_goes_10 4 rfl rfl)
theorem dX4_goes_237 : decode cX4_goes 237 = .ok (.aload_n 0, 1) := dk_42 (dk_at dksX4_goes_10 7 rfl rfl)
theorem dX4_goes_238 : decode cX4_goes 238 = .ok (.dup, 1) := dk_89 (dk_at dksX4_goes_10 8 rfl rfl)
theorem dX4_goes_239 : decode cX4_goes 239 = .ok (.getfield 128, 3) := dk_180 0 128 (dk_at dksX4_goes_10 9 rfl rfl)
theorem dX4_goes_242 : decode cX4_goes 242 = .ok (.iconst 1, 1) := dk_4 (dk_at dksX4_goes_10 12 rfl rfl)
theorem dX4_goes_243 : decode cX4_goes 243 = .ok (.iadd, 1) := dk_96 (dk_at dksX4_goes_10 13 rfl rfl)
theorem dX4_goes_244 : decode cX4_goes 244 = .ok (.putfield 128, 3) := dk_181 0 128 (dk_at dksX4_goes_10 14 rfl rfl)
theorem dX4_goes_247 : decode cX4_goes 247 = .ok (.goto (-60), 3) := dk_167 255 196 (dk_at dksX4_goes_10 17 rfl rfl)
theorem dX4_goes_250 : decode cX4_goes 250 = .ok (.aload_n 0, 1) := dk_42 (dk_at dksX4_goes_10 20 rfl rfl)
theorem dX4_goes_251 : decode cX4_goes 251 = .ok (.iconst 2, 1) := dk_5 (dk_at dksX4_goes_10 21 rfl rfl)
theorem dX4_goes_252 : decode cX4_goes 252 = .ok (.putfield 148, 3) := dk_181 0 148 (dk_at dksX4_goes_11 0 rfl rfl)
theorem dX4_goes_255 : decode cX4_goes 255 = .ok (.goto 76, 3) := dk_167 0 76 (dk_at dksX4_goes_11 3 rfl rfl)
theorem dX4_goes_258 : decode cX4_goes 258 = .ok (.aload_n 0, 1) := dk_42 (dk_at dksX4_goes_11 6 rfl rfl)
theorem dX4_goes_259 : decode cX4_goes 259 = .ok (.dup, 1) := dk_89 (dk_at dksX4_goes_11 7 rfl rfl)
theorem dX4_goes_260 : decode cX4_goes 260 = .ok (.getfield 128, 3) := dk_180 0 128 (dk_at dksX4_goes_11 8 rfl rfl)
theorem dX4_goes_263 : decode cX4_goes 263 = .ok (.iconst 1, 1) := dk_4 (dk_at dksX4_goes_11 11 rfl rfl)
theorem dX4_goes_264 : decode cX4_goes 264 = .ok (.iadd, 1) := dk_96 (dk_at dksX4_goes_11 12 rfl rfl)
theorem dX4_goes_265 : decode cX4_goes 265 = .ok (.putfield 128, 3) := dk_181 0 128 (dk_at dksX4_goes_11 13 rfl rfl)
theorem dX4_goes_268 : decode cX4_goes 268 = .ok (.aload_n 0, 1) := dk_42 (dk_at dksX4_goes_11 16 rfl rfl)
theorem dX4_goes_269 : decode cX4_goes 269 = .ok (.iload_n 1, 1) := dk_27 (dk_at dksX4_goes_11 17 rfl rfl)
theorem dX4_goes_270 : decode cX4_goes 270 = .ok (.bipush 59, 2) := dk_16 59 (dk_at dksX4_goes_11 18 rfl rfl)
theorem dX4_goes_272 : decode cX4_goes 272 = .ok (.if_icmp .eq 51, 3) := dk_159 0 51 (dk_at dksX4_goes_11 20 rfl rfl)
theorem dX4_goes_275 : decode cX4_goes 275 = .ok (.iload_n 1, 1) := dk_27 (dk_at dksX4_goes_11 23 rfl rfl)
theorem dX4_goes_276 : decode cX4_goes 276 = .ok (.bipush 40, 2) := dk_16 40 (dk_at dksX4_goes_12 0 rfl rfl)
theorem dX4_goes_278 : decode cX4_goes 278 = .ok (.if_icmp .eq 45, 3) := dk_159 0 45 (dk_at dksX4_goes_12 2 rfl rfl)
theorem dX4_goes_281 : decode cX4_goes 281 = .ok (.iload_n 1, 1) := dk_27 (dk_at dksX4_goes_12 5 rfl rfl)
theorem dX4_goes_282 : decode cX4_goes 282 = .ok (.bipush 41, 2) := dk_16 41 (dk_at dksX4_goes_12 6 rfl rfl)
theorem dX4_goes_284 : decode cX4_goes 284 = .ok (.if_icmp .eq 39, 3) := dk_159 0 39 (dk_at dksX4_goes_12 8 rfl rfl)
theorem dX4_goes_287 : decode cX4_goes 287 = .ok (.iload_n 1, 1) := dk_27 (dk_at dksX4_goes_12 11 rfl rfl)
theorem dX4_goes_288 : decode cX4_goes 288 = .ok (.bipush 43, 2) := dk_16 43 (dk_at dksX4_goes_12 12 rfl rfl)
theorem dX4_goes_290 : decode cX4_goes 290 = .ok (.if_icmp .eq 33, 3) := dk_159 0 33 (dk_at dksX4_goes_12 14 rfl rfl)
theorem dX4_goes_293 : decode cX4_goes 293 = .ok (.iload_n 1, 1) := dk_27 (dk_at dksX4_goes_12 17 rfl rfl)
theorem dX4_goes_294 : decode cX4_goes 294 = .ok (.bipush 45, 2) := dk_16 45 (dk_at dksX4_goes_12 18 rfl rfl)
theorem dX4_goes_296 : decode cX4_goes 296 = .ok (.if_icmp .eq 27, 3) := dk_159 0 27 (dk_at dksX4_goes_12 20 rfl rfl)
theorem dX4_goes_299 : decode cX4_goes 299 = .ok (.iload_n 1, 1) := dk_27 (dk_at dksX4_goes_12 23 rfl rfl)
theorem dX4_goes_300 : decode cX4_goes 300 = .ok (.bipush 42, 2) := dk_16 42 (dk_at dksX4_goes_13 0 rfl rfl)
theorem dX4_goes_302 : decode cX4_goes 302 = .ok (.if_icmp .eq 21, 3) := dk_159 0 21 (dk_at dksX4_goes_13 2 rfl rfl)
theorem dX4_goes_305 : decode cX4_goes 305 = .ok (.iload_n 1, 1) := dk_27 (dk_at dksX4_goes_13 5 rfl rfl)
theorem dX4_goes_306 : decode cX4_goes 306 = .ok (.bipush 47, 2) := dk_16 47 (dk_at dksX4_goes_13 6 rfl rfl)
theorem dX4_goes_308 : decode cX4_goes 308 = .ok (.if_icmp .eq 15, 3) := dk_159 0 15 (dk_at dksX4_goes_13 8 rfl rfl)
theorem dX4_goes_311 : decode cX4_goes 311 = .ok (.iload_n 1, 1) := dk_27 (dk_at dksX4_goes_13 11 rfl rfl)
theorem dX4_goes_312 : decode cX4_goes 312 = .ok (.bipush 60, 2) := dk_16 60 (dk_at dksX4_goes_13 12 rfl rfl)
theorem dX4_goes_314 : decode cX4_goes 314 = .ok (.if_icmp .eq 9, 3) := dk_159 0 9 (dk_at dksX4_goes_13 14 rfl rfl)
theorem dX4_goes_317 : decode cX4_goes 317 = .ok (.iload_n 1, 1) := dk_27 (dk_at dksX4_goes_13 17 rfl rfl)
theorem dX4_goes_318 : decode cX4_goes 318 = .ok (.bipush 61, 2) := dk_16 61 (dk_at dksX4_goes_13 18 rfl rfl)
theorem dX4_goes_320 : decode cX4_goes 320 = .ok (.if_icmp .ne 7, 3) := dk_160 0 7 (dk_at dksX4_goes_13 20 rfl rfl)
theorem dX4_goes_323 : decode cX4_goes 323 = .ok (.iconst 3, 1) := dk_6 (dk_at dksX4_goes_13 23 rfl rfl)
theorem dX4_goes_324 : decode cX4_goes 324 = .ok (.goto 4, 3) := dk_167 0 4 (dk_at dksX4_goes_14 0 rfl rfl)
theorem dX4_goes_327 : decode cX4_goes 327 = .ok (.iconst 4, 1) := dk_7 (dk_at dksX4_goes_14 3 rfl rfl)
theorem dX4_goes_328 : decode cX4_goes 328 = .ok (.putfield 148, 3) := dk_181 0 148 (dk_at dksX4_goes_14 4 rfl rfl)
theorem dX4_goes_331 : decode cX4_goes 331 = .ok (.aload_n 0, 1) := dk_42 (dk_at dksX4_goes_14 7 rfl rfl)
theorem dX4_goes_332 : decode cX4_goes 332 = .ok (.aload_n 0, 1) := dk_42 (dk_at dksX4_goes_14 8 rfl rfl)
theorem dX4_goes_333 : decode cX4_goes 333 = .ok (.getfield 128, 3) := dk_180 0 128 (dk_at dksX4_goes_14 9 rfl rfl)
theorem dX4_goes_336 : decode cX4_goes 336 = .ok (.aload_n 0, 1) := dk_42 (dk_at dksX4_goes_14 12 rfl rfl)
theorem dX4_goes_337 : decode cX4_goes 337 = .ok (.getfield 135, 3) := dk_180 0 135 (dk_at dksX4_goes_14 13 rfl rfl)
theorem dX4_goes_340 : decode cX4_goes 340 = .ok (.isub, 1) := dk_100 (dk_at dksX4_goes_14 16 rfl rfl)
theorem dX4_goes_341 : decode cX4_goes 341 = .ok (.putfield 158, 3) := dk_181 0 158 (dk_at dksX4_goes_14 17 rfl rfl)
theorem dX4_goes_344 : decode cX4_goes 344 = .ok (.return_, 1) := dk_177 (dk_at dksX4_goes_14 20 rfl rfl)
abbrev mX4_goes : xM := (yX4_goes, cX4_goes, 2, none, [])
def m_goes_37 (k0 : MS → Option MS) (S : MS) : Option MS :=
  k0 ((sF S 18 ((S.1 18) + (1 : Int32))))
theorem m_goes_37_ok {G : xG} {m0 : Nat} {S0 : MS} {k0 : MS → Option MS} (hk0 : ∀ (S : MS) (q : MS), k0 S = some q → XM G m0 mX4_goes 2 S0 none q 0 [(0, .ref m0)] [] S) (S : MS) (q : MS) (hf : m_goes_37 k0 S = some q) : XM G m0 mX4_goes 2 S0 none q 37 [(0, .ref m0)] [] S := by
  intro h N Z
  unfold m_goes_37 at hf
  refine X.aload_n dX4_goes_37 rfl 0 rfl ?_
  refine X.dup dX4_goes_38 rfl ?_
  refine M.get (v := .int (S.1 18)) dX4_goes_39 fX4_128 (Nat.le_of_ble_eq_true rfl) rfl ?_
  refine X.iconst (v := 1) dX4_goes_42 (by decide) ?_
  refine X.iadd dX4_goes_43 ?_
  refine M.putI dX4_goes_44 fX4_128 (by decide) rfl rfl rfl ?_
  refine X.goto (tgt := 0) dX4_goes_47 (by decide) ?_
  refine X.sub [0] (L' := [(0, .ref m0)]) rfl ?_
  exact hk0 _ _ hf h N Z
def m_goes_159 (k108 : MS → Option MS) (S : MS) : Option MS :=
  k108 ((sF S 18 ((S.1 18) + (1 : Int32))))
theorem m_goes_159_ok {G : xG} {m0 : Nat} {S0 : MS} {k108 : MS → Option MS} (hk108 : ∀ (S : MS) (q : MS), k108 S = some q → XM G m0 mX4_goes 2 S0 none q 108 [(0, .ref m0)] [] S) (S : MS) (q : MS) (hf : m_goes_159 k108 S = some q) : XM G m0 mX4_goes 2 S0 none q 159 [(0, .ref m0)] [] S := by
  intro h N Z
  unfold m_goes_159 at hf
  refine X.aload_n dX4_goes_159 rfl 0 rfl ?_
  refine X.dup dX4_goes_160 rfl ?_
  refine M.get (v := .int (S.1 18)) dX4_goes_161 fX4_128 (Nat.le_of_ble_eq_true rfl) rfl ?_
  refine X.iconst (v := 1) dX4_goes_164 (by decide) ?_
  refine X.iadd dX4_goes_165 ?_
  refine M.putI dX4_goes_166 fX4_128 (by decide) rfl rfl rfl ?_
  refine X.goto (tgt := 108) dX4_goes_169 (by decide) ?_
  refine X.sub [0] (L' := [(0, .ref m0)]) rfl ?_
  exact hk108 _ _ hf h N Z
def m_goes_331  (S : MS) : Option MS :=
  some ((sF S 21 ((S.1 18) - (S.1 20))))
theorem m_goes_331_ok {G : xG} {m0 : Nat} {S0 : MS}   (S : MS) (q : MS) (hf : m_goes_331 S = some q) : XM G m0 mX4_goes 2 S0 none q 331 [(0, .ref m0)] [] S := by
  intro h N Z
  unfold m_goes_331 at hf
  refine X.aload_n dX4_goes_331 rfl 0 rfl ?_
  refine X.aload_n dX4_goes_332 rfl 0 rfl ?_
  refine M.get (v := .int (S.1 18)) dX4_goes_333 fX4_128 (Nat.le_of_ble_eq_true rfl) rfl ?_
  refine X.aload_n dX4_goes_336 rfl 0 rfl ?_
  refine M.get (v := .int (S.1 20)) dX4_goes_337 fX4_135 (Nat.le_of_ble_eq_true rfl) rfl ?_
  refine X.isub dX4_goes_340 ?_
  refine M.putI dX4_goes_341 fX4_158 (by decide) rfl rfl rfl ?_
  obtain rfl := Option.some.inj hf
  exact X.vret dX4_goes_344 rfl rfl
def m_goes_108_b  (k108 : MS → Option MS) (S : MS) : Option MS :=
  (m_byteAt ((S.1 18)) S).bind fun q113 =>
  (m_isLetter q113).bind fun q116 =>
  if q116 = 0 then
    m_goes_331 ((sF S 19 (1 : Int32)))
  else
    if (7 : Int32) ≤ ((S.1 18) - (S.1 20)) then
      m_goes_159 k108 S
    else
      (m_byteAt ((S.1 18)) S).bind fun q148 =>
      m_goes_159 k108 ((sW S ((S.2.1 <<< (((5 : Int32)).toInt64 &&& 63)) ||| ((q148 - (96 : Int32))).toInt64)))
def m_goes_108  : Nat → MS → Option MS
  | 0 => fun _ => none
  | n + 1 => fun S => m_goes_108_b (m_goes_108 n) S
theorem m_goes_108_bok {G : xG} {m0 : Nat} {S0 : MS}  {k108 : MS → Option MS}  (hk108 : ∀ (S : MS) (q : MS), k108 S = some q → XM G m0 mX4_goes 2 S0 none q 108 [(0, .ref m0)] [] S) (S : MS) (q : MS) (hf : m_goes_108_b k108 S = some q) : XM G m0 mX4_goes 2 S0 none q 108 [(0, .ref m0)] [] S := by
  intro h N Z
  unfold m_goes_108_b at hf
  refine X.aload_n dX4_goes_108 rfl 0 rfl ?_
  refine X.aload_n dX4_goes_109 rfl 0 rfl ?_
  refine M.get (v := .int (S.1 18)) dX4_goes_110 fX4_128 (Nat.le_of_ble_eq_true rfl) rfl ?_
  obtain ⟨q113, h113, hf⟩ := ob hf
  refine X.callVi (As := [.int (S.1 18)]) (rest := []) dX4_goes_113 (w_byteAt h113 h N Z) cX4_131 rfl rfl (Nat.le_of_ble_eq_true rfl) mh_0 rfl rfl (xD (Nat.le_of_ble_eq_true rfl)) xleN xleN ?_
  obtain ⟨q116, h116, hf⟩ := ob hf
  refine X.callSi (As := [.int q113]) (rest := []) dX4_goes_116 (w_isLetter h116 _) cX4_151 rfl rfl (Nat.le_of_ble_eq_true rfl) (xD (Nat.le_of_ble_eq_true rfl)) xle.rf xleN ?_
  refine X.if_eq (tgt := 172) dX4_goes_119 (by decide) (fun c119 => ?_) (fun c119 => ?_)
  · have hf := if_t c119 hf
    refine X.aload_n dX4_goes_172 rfl 0 rfl ?_
    refine X.iconst (v := 1) dX4_goes_173 (by decide) ?_
    refine M.putI dX4_goes_174 fX4_148 (by decide) rfl rfl rfl ?_
    refine X.goto (tgt := 331) dX4_goes_177 (by decide) ?_
    refine X.sub [0] (L' := [(0, .ref m0)]) rfl ?_
    exact m_goes_331_ok _ _ hf h N Z
  · have hf := if_f c119 hf
    refine X.aload_n dX4_goes_122 rfl 0 rfl ?_
    refine M.get (v := .int (S.1 18)) dX4_goes_123 fX4_128 (Nat.le_of_ble_eq_true rfl) rfl ?_
    refine X.aload_n dX4_goes_126 rfl 0 rfl ?_
    refine M.get (v := .int (S.1 20)) dX4_goes_127 fX4_135 (Nat.le_of_ble_eq_true rfl) rfl ?_
    refine X.isub dX4_goes_130 ?_
    refine X.bipush (v := 7) dX4_goes_131 (by decide) ?_
    refine X.icmp_ge (tgt := 159) dX4_goes_133 (by decide) (fun c133 => ?_) (fun c133 => ?_)
    · have hf := if_t c133 hf
      refine X.sub [0] (L' := [(0, .ref m0)]) rfl ?_
      exact m_goes_159_ok hk108 _ _ hf h N Z
    · have hf := if_f c133 hf
      refine X.aload_n dX4_goes_136 rfl 0 rfl ?_
      refine X.aload_n dX4_goes_137 rfl 0 rfl ?_
      refine M.get (v := .long S.2.1) dX4_goes_138 fX4_138 (Nat.le_of_ble_eq_true rfl) rfl ?_
      refine X.iconst (v := 5) dX4_goes_141 (by decide) ?_
      refine X.lshl dX4_goes_142 rfl ?_
      refine X.aload_n dX4_goes_143 rfl 0 rfl ?_
      refine X.aload_n dX4_goes_144 rfl 0 rfl ?_
      refine M.get (v := .int (S.1 18)) dX4_goes_145 fX4_128 (Nat.le_of_ble_eq_true rfl) rfl ?_
      obtain ⟨q148, h148, hf⟩ := ob hf
      refine X.callVi (As := [.int (S.1 18)]) (rest := [.long (S.2.1 <<< (((5 : Int32)).toInt64 &&& 63)), .ref m0]) dX4_goes_148 (w_byteAt h148 h N Z) cX4_131 rfl rfl (Nat.le_of_ble_eq_true rfl) mh_0 rfl rfl (xD (Nat.le_of_ble_eq_true rfl)) xleN xleN ?_
      refine X.bipush (v := 96) dX4_goes_151 (by decide) ?_
      refine X.isub dX4_goes_153 ?_
      refine X.i2l dX4_goes_154 rfl ?_
      refine X.lor dX4_goes_155 ?_
      refine M.putW dX4_goes_156 fX4_138 ?_
      refine X.sub [0] (L' := [(0, .ref m0)]) rfl ?_
      exact m_goes_159_ok hk108 _ _ hf h N Z
theorem m_goes_108_ok {G : xG} {m0 : Nat} {S0 : MS}   : ∀ (n : Nat) (S : MS) (q : MS), m_goes_108 n S = some q → XM G m0 mX4_goes 2 S0 none q 108 [(0, .ref m0)] [] S
  | 0, _, _, hf => by cases hf
  | n + 1, S, q, hf => m_goes_108_bok (m_goes_108_ok n) S q hf
def m_goes_237 (k187 : MS → Option MS) (S : MS) : Option MS :=
  k187 ((sF S 18 ((S.1 18) + (1 : Int32))))
theorem m_goes_237_ok {G : xG} {m0 : Nat} {S0 : MS} {k187 : MS → Option MS} (hk187 : ∀ (S : MS) (q : MS), k187 S = some q → XM G m0 mX4_goes 2 S0 none q 187 [(0, .ref m0)] [] S) (S : MS) (q : MS) (hf : m_goes_237 k187 S = some q) : XM G m0 mX4_goes 2 S0 none q 237 [(0, .ref m0)] [] S := by
  intro h N Z
  unfold m_goes_237 at hf
  refine X.aload_n dX4_goes_237 rfl 0 rfl ?_
  refine X.dup dX4_goes_238 rfl ?_
  refine M.get (v := .int (S.1 18)) dX4_goes_239 fX4_128 (Nat.le_of_ble_eq_true rfl) rfl ?_
  refine X.iconst (v := 1) dX4_goes_242 (by decide) ?_
  refine X.iadd dX4_goes_243 ?_
  refine M.putI dX4_goes_244 fX4_128 (by decide) rfl rfl rfl ?_
  refine X.goto (tgt := 187) dX4_goes_247 (by decide) ?_
  refine X.sub [0] (L' := [(0, .ref m0)]) rfl ?_
  exact hk187 _ _ hf h N Z
def m_goes_187_b  (k187 : MS → Option MS) (S : MS) : Option MS :=
  (m_byteAt ((S.1 18)) S).bind fun q192 =>
  (m_isDigit q192).bind fun q195 =>
  if q195 = 0 then
    m_goes_331 ((sF S 19 (2 : Int32)))
  else
    if (4 : Int32) ≤ ((S.1 18) - (S.1 20)) then
      m_goes_237 k187 S
    else
      (m_byteAt ((S.1 18)) S).bind fun q227 =>
      m_goes_237 k187 ((sF S 22 ((((10 : Int32) * (S.1 22)) + q227) - (48 : Int32))))
def m_goes_187  : Nat → MS → Option MS
  | 0 => fun _ => none
  | n + 1 => fun S => m_goes_187_b (m_goes_187 n) S
theorem m_goes_187_bok {G : xG} {m0 : Nat} {S0 : MS}  {k187 : MS → Option MS}  (hk187 : ∀ (S : MS) (q : MS), k187 S = some q → XM G m0 mX4_goes 2 S0 none q 187 [(0, .ref m0)] [] S) (S : MS) (q : MS) (hf : m_goes_187_b k187 S = some q) : XM G m0 mX4_goes 2 S0 none q 187 [(0, .ref m0)] [] S := by
  intro h N Z
  unfold m_goes_187_b at hf
  refine X.aload_n dX4_goes_187 rfl 0 rfl ?_
  refine X.aload_n dX4_goes_188 rfl 0 rfl ?_
  refine M.get (v := .int (S.1 18)) dX4_goes_189 fX4_128 (Nat.le_of_ble_eq_true rfl) rfl ?_
  obtain ⟨q192, h192, hf⟩ := ob hf
  refine X.callVi (As := [.int (S.1 18)]) (rest := []) dX4_goes_192 (w_byteAt h192 h N Z) cX4_131 rfl rfl (Nat.le_of_ble_eq_true rfl) mh_0 rfl rfl (xD (Nat.le_of_ble_eq_true rfl)) xleN xleN ?_
  obtain ⟨q195, h195, hf⟩ := ob hf
  refine X.callSi (As := [.int q192]) (rest := []) dX4_goes_195 (w_isDigit h195 _) cX4_155 rfl rfl (Nat.le_of_ble_eq_true rfl) (xD (Nat.le_of_ble_eq_true rfl)) xle.rf xleN ?_
  refine X.if_eq (tgt := 250) dX4_goes_198 (by decide) (fun c198 => ?_) (fun c198 => ?_)
  · have hf := if_t c198 hf
    refine X.aload_n dX4_goes_250 rfl 0 rfl ?_
    refine X.iconst (v := 2) dX4_goes_251 (by decide) ?_
    refine M.putI dX4_goes_252 fX4_148 (by decide) rfl rfl rfl ?_
    refine X.goto (tgt := 331) dX4_goes_255 (by decide) ?_
    refine X.sub [0] (L' := [(0, .ref m0)]) rfl ?_
    exact m_goes_331_ok _ _ hf h N Z
  · have hf := if_f c198 hf
    refine X.aload_n dX4_goes_201 rfl 0 rfl ?_
    refine M.get (v := .int (S.1 18)) dX4_goes_202 fX4_128 (Nat.le_of_ble_eq_true rfl) rfl ?_
    refine X.aload_n dX4_goes_205 rfl 0 rfl ?_
    refine M.get (v := .int (S.1 20)) dX4_goes_206 fX4_135 (Nat.le_of_ble_eq_true rfl) rfl ?_
    refine X.isub dX4_goes_209 ?_
    refine X.iconst (v := 4) dX4_goes_210 (by decide) ?_
    refine X.icmp_ge (tgt := 237) dX4_goes_211 (by decide) (fun c211 => ?_) (fun c211 => ?_)
    · have hf := if_t c211 hf
      refine X.sub [0] (L' := [(0, .ref m0)]) rfl ?_
      exact m_goes_237_ok hk187 _ _ hf h N Z
    · have hf := if_f c211 hf
      refine X.aload_n dX4_goes_214 rfl 0 rfl ?_
      refine X.bipush (v := 10) dX4_goes_215 (by decide) ?_
      refine X.aload_n dX4_goes_217 rfl 0 rfl ?_
      refine M.get (v := .int (S.1 22)) dX4_goes_218 fX4_142 (Nat.le_of_ble_eq_true rfl) rfl ?_
      refine X.imul dX4_goes_221 ?_
      refine X.aload_n dX4_goes_222 rfl 0 rfl ?_
      refine X.aload_n dX4_goes_223 rfl 0 rfl ?_
      refine M.get (v := .int (S.1 18)) dX4_goes_224 fX4_128 (Nat.le_of_ble_eq_true rfl) rfl ?_
      obtain ⟨q227, h227, hf⟩ := ob hf
      refine X.callVi (As := [.int (S.1 18)]) (rest := [.int ((10 : Int32) * (S.1 22)), .ref m0]) dX4_goes_227 (w_byteAt h227 h N Z) cX4_131 rfl rfl (Nat.le_of_ble_eq_true rfl) mh_0 rfl rfl (xD (Nat.le_of_ble_eq_true rfl)) xleN xleN ?_
      refine X.iadd dX4_goes_230 ?_
      refine X.bipush (v := 48) dX4_goes_231 (by decide) ?_
      refine X.isub dX4_goes_233 ?_
      refine M.putI dX4_goes_234 fX4_142 (by decide) rfl rfl rfl ?_
      refine X.sub [0] (L' := [(0, .ref m0)]) rfl ?_
      exact m_goes_237_ok hk187 _ _ hf h N Z
theorem m_goes_187_ok {G : xG} {m0 : Nat} {S0 : MS}   : ∀ (n : Nat) (S : MS) (q : MS), m_goes_187 n S = some q → XM G m0 mX4_goes 2 S0 none q 187 [(0, .ref m0)] [] S
  | 0, _, _, hf => by cases hf
  | n + 1, S, q, hf => m_goes_187_bok (m_goes_187_ok n) S q hf
def m_goes_328  (y0 : Int32) (S : MS) : Option MS :=
  m_goes_331 ((sF S 19 y0))
theorem m_goes_328_ok {G : xG} {m0 : Nat} {S0 : MS}   (y0 : Int32) (S : MS) (q : MS) (hf : m_goes_328 y0 S = some q) : XM G m0 mX4_goes 2 S0 none q 328 [(0, .ref m0)] [.int y0, .ref m0] S := by
  intro h N Z
  unfold m_goes_328 at hf
  refine M.putI dX4_goes_328 fX4_148 (by decide) rfl rfl rfl ?_
  refine X.sub [0] (L' := [(0, .ref m0)]) rfl ?_
  exact m_goes_331_ok _ _ hf h N Z
def m_goes_323  (S : MS) : Option MS :=
  m_goes_328 ((3 : Int32)) S
theorem m_goes_323_ok {G : xG} {m0 : Nat} {S0 : MS}   (S : MS) (q : MS) (hf : m_goes_323 S = some q) : XM G m0 mX4_goes 2 S0 none q 323 [(0, .ref m0)] [.ref m0] S := by
  intro h N Z
  unfold m_goes_323 at hf
  refine X.iconst (v := 3) dX4_goes_323 (by decide) ?_
  refine X.goto (tgt := 328) dX4_goes_324 (by decide) ?_
  refine X.sub [0] (L' := [(0, .ref m0)]) rfl ?_
  exact m_goes_328_ok _ _ _ hf h N Z
def m_goes_50  (S : MS) : Option MS :=
  (m_byteAt ((((sF ((sW ((sF S 20 (S.1 18))) (0 : Int64))) 22 (0 : Int32))).1 18)) ((sF ((sW ((sF S 20 (S.1 18))) (0 : Int64))) 22 (0 : Int32)))).bind fun q73 =>
  if (((sF ((sF ((sW ((sF S 20 (S.1 18))) (0 : Int64))) 22 (0 : Int32))) 23 q73)).1 18) < (((sF ((sF ((sW ((sF S 20 (S.1 18))) (0 : Int64))) 22 (0 : Int32))) 23 q73)).1 17) then
    (m_isLetter q73).bind fun q102 =>
    if q102 = 0 then
      (m_isDigit q73).bind fun q181 =>
      if q181 = 0 then
        if q73 = (59 : Int32) then
          m_goes_323 ((sF ((sF ((sF ((sW ((sF S 20 (S.1 18))) (0 : Int64))) 22 (0 : Int32))) 23 q73)) 18 ((((sF ((sF ((sW ((sF S 20 (S.1 18))) (0 : Int64))) 22 (0 : Int32))) 23 q73)).1 18) + (1 : Int32))))
        else
          if q73 = (40 : Int32) then
            m_goes_323 ((sF ((sF ((sF ((sW ((sF S 20 (S.1 18))) (0 : Int64))) 22 (0 : Int32))) 23 q73)) 18 ((((sF ((sF ((sW ((sF S 20 (S.1 18))) (0 : Int64))) 22 (0 : Int32))) 23 q73)).1 18) + (1 : Int32))))
          else
            if q73 = (41 : Int32) then
              m_goes_323 ((sF ((sF ((sF ((sW ((sF S 20 (S.1 18))) (0 : Int64))) 22 (0 : Int32))) 23 q73)) 18 ((((sF ((sF ((sW ((sF S 20 (S.1 18))) (0 : Int64))) 22 (0 : Int32))) 23 q73)).1 18) + (1 : Int32))))
            else
              if q73 = (43 : Int32) then
                m_goes_323 ((sF ((sF ((sF ((sW ((sF S 20 (S.1 18))) (0 : Int64))) 22 (0 : Int32))) 23 q73)) 18 ((((sF ((sF ((sW ((sF S 20 (S.1 18))) (0 : Int64))) 22 (0 : Int32))) 23 q73)).1 18) + (1 : Int32))))
              else
                if q73 = (45 : Int32) then
                  m_goes_323 ((sF ((sF ((sF ((sW ((sF S 20 (S.1 18))) (0 : Int64))) 22 (0 : Int32))) 23 q73)) 18 ((((sF ((sF ((sW ((sF S 20 (S.1 18))) (0 : Int64))) 22 (0 : Int32))) 23 q73)).1 18) + (1 : Int32))))
                else
                  if q73 = (42 : Int32) then
                    m_goes_323 ((sF ((sF ((sF ((sW ((sF S 20 (S.1 18))) (0 : Int64))) 22 (0 : Int32))) 23 q73)) 18 ((((sF ((sF ((sW ((sF S 20 (S.1 18))) (0 : Int64))) 22 (0 : Int32))) 23 q73)).1 18) + (1 : Int32))))
                  else
                    if q73 = (47 : Int32) then
                      m_goes_323 ((sF ((sF ((sF ((sW ((sF S 20 (S.1 18))) (0 : Int64))) 22 (0 : Int32))) 23 q73)) 18 ((((sF ((sF ((sW ((sF S 20 (S.1 18))) (0 : Int64))) 22 (0 : Int32))) 23 q73)).1 18) + (1 : Int32))))
                    else
                      if q73 = (60 : Int32) then
                        m_goes_323 ((sF ((sF ((sF ((sW ((sF S 20 (S.1 18))) (0 : Int64))) 22 (0 : Int32))) 23 q73)) 18 ((((sF ((sF ((sW ((sF S 20 (S.1 18))) (0 : Int64))) 22 (0 : Int32))) 23 q73)).1 18) + (1 : Int32))))
                      else
                        if q73 = (61 : Int32) then
                          m_goes_323 ((sF ((sF ((sF ((sW ((sF S 20 (S.1 18))) (0 : Int64))) 22 (0 : Int32))) 23 q73)) 18 ((((sF ((sF ((sW ((sF S 20 (S.1 18))) (0 : Int64))) 22 (0 : Int32))) 23 q73)).1 18) + (1 : Int32))))
                        else
                          m_goes_328 ((4 : Int32)) ((sF ((sF ((sF ((sW ((sF S 20 (S.1 18))) (0 : Int64))) 22 (0 : Int32))) 23 q73)) 18 ((((sF ((sF ((sW ((sF S 20 (S.1 18))) (0 : Int64))) 22 (0 : Int32))) 23 q73)).1 18) + (1 : Int32))))
      else
        m_goes_187 FU ((sF ((sF ((sW ((sF S 20 (S.1 18))) (0 : Int64))) 22 (0 : Int32))) 23 q73))
    else
      m_goes_108 FU ((sF ((sF ((sW ((sF S 20 (S.1 18))) (0 : Int64))) 22 (0 : Int32))) 23 q73))
  else
    m_goes_331 ((sF ((sF ((sF ((sW ((sF S 20 (S.1 18))) (0 : Int64))) 22 (0 : Int32))) 23 q73)) 19 (0 : Int32)))
theorem m_goes_50_ok {G : xG} {m0 : Nat} {S0 : MS}   (S : MS) (q : MS) (hf : m_goes_50 S = some q) : XM G m0 mX4_goes 2 S0 none q 50 [(0, .ref m0)] [] S := by
  intro h N Z
  unfold m_goes_50 at hf
  refine X.aload_n dX4_goes_50 rfl 0 rfl ?_
  refine X.aload_n dX4_goes_51 rfl 0 rfl ?_
  refine M.get (v := .int (S.1 18)) dX4_goes_52 fX4_128 (Nat.le_of_ble_eq_true rfl) rfl ?_
  refine M.putI dX4_goes_55 fX4_135 (by decide) rfl rfl rfl ?_
  refine X.aload_n dX4_goes_58 rfl 0 rfl ?_
  refine X.lconst (v := 0) dX4_goes_59 (by decide) ?_
  refine M.putW dX4_goes_60 fX4_138 ?_
  refine X.aload_n dX4_goes_63 rfl 0 rfl ?_
  refine X.iconst (v := 0) dX4_goes_64 (by decide) ?_
  refine M.putI dX4_goes_65 fX4_142 (by decide) rfl rfl rfl ?_
  refine X.aload_n dX4_goes_68 rfl 0 rfl ?_
  refine X.aload_n dX4_goes_69 rfl 0 rfl ?_
  refine M.get (v := .int (((sF ((sW ((sF S 20 (S.1 18))) (0 : Int64))) 22 (0 : Int32))).1 18)) dX4_goes_70 fX4_128 (Nat.le_of_ble_eq_true rfl) rfl ?_
  obtain ⟨q73, h73, hf⟩ := ob hf
  refine X.callVi (As := [.int (((sF ((sW ((sF S 20 (S.1 18))) (0 : Int64))) 22 (0 : Int32))).1 18)]) (rest := []) dX4_goes_73 (w_byteAt h73 h N Z) cX4_131 rfl rfl (Nat.le_of_ble_eq_true rfl) mh_0 rfl rfl (xD (Nat.le_of_ble_eq_true rfl)) xleN xleN ?_
  refine X.istore_n (L' := [(1, .int q73), (0, .ref m0)]) dX4_goes_76 rfl (Nat.le_of_ble_eq_true rfl) rfl ?_
  refine X.aload_n dX4_goes_77 rfl 1 rfl ?_
  refine X.iload_n dX4_goes_78 rfl 0 rfl ?_
  refine M.putI dX4_goes_79 fX4_145 (by decide) rfl rfl rfl ?_
  refine X.aload_n dX4_goes_82 rfl 1 rfl ?_
  refine M.get (v := .int (((sF ((sF ((sW ((sF S 20 (S.1 18))) (0 : Int64))) 22 (0 : Int32))) 23 q73)).1 18)) dX4_goes_83 fX4_128 (Nat.le_of_ble_eq_true rfl) rfl ?_
  refine X.aload_n dX4_goes_86 rfl 1 rfl ?_
  refine M.get (v := .int (((sF ((sF ((sW ((sF S 20 (S.1 18))) (0 : Int64))) 22 (0 : Int32))) 23 q73)).1 17)) dX4_goes_87 fX4_125 (Nat.le_of_ble_eq_true rfl) rfl ?_
  refine X.icmp_lt (tgt := 101) dX4_goes_90 (by decide) (fun c90 => ?_) (fun c90 => ?_)
  · have hf := if_t c90 hf
    refine X.iload_n dX4_goes_101 rfl 0 rfl ?_
    obtain ⟨q102, h102, hf⟩ := ob hf
    refine X.callSi (As := [.int q73]) (rest := []) dX4_goes_102 (w_isLetter h102 _) cX4_151 rfl rfl (Nat.le_of_ble_eq_true rfl) (xD (Nat.le_of_ble_eq_true rfl)) xle.rf xleN ?_
    refine X.if_eq (tgt := 180) dX4_goes_105 (by decide) (fun c105 => ?_) (fun c105 => ?_)
    · have hf := if_t c105 hf
      refine X.iload_n dX4_goes_180 rfl 0 rfl ?_
      obtain ⟨q181, h181, hf⟩ := ob hf
      refine X.callSi (As := [.int q73]) (rest := []) dX4_goes_181 (w_isDigit h181 _) cX4_155 rfl rfl (Nat.le_of_ble_eq_true rfl) (xD (Nat.le_of_ble_eq_true rfl)) xle.rf xleN ?_
      refine X.if_eq (tgt := 258) dX4_goes_184 (by decide) (fun c184 => ?_) (fun c184 => ?_)
      · have hf := if_t c184 hf
        refine X.aload_n dX4_goes_258 rfl 1 rfl ?_
        refine X.dup dX4_goes_259 rfl ?_
        refine M.get (v := .int (((sF ((sF ((sW ((sF S 20 (S.1 18))) (0 : Int64))) 22 (0 : Int32))) 23 q73)).1 18)) dX4_goes_260 fX4_128 (Nat.le_of_ble_eq_true rfl) rfl ?_
        refine X.iconst (v := 1) dX4_goes_263 (by decide) ?_
        refine X.iadd dX4_goes_264 ?_
        refine M.putI dX4_goes_265 fX4_128 (by decide) rfl rfl rfl ?_
        refine X.aload_n dX4_goes_268 rfl 1 rfl ?_
        refine X.iload_n dX4_goes_269 rfl 0 rfl ?_
        refine X.bipush (v := 59) dX4_goes_270 (by decide) ?_
        refine X.icmp_eq (tgt := 323) dX4_goes_272 (by decide) (fun c272 => ?_) (fun c272 => ?_)
        · have hf := if_t c272 hf
          refine X.sub [1] (L' := [(0, .ref m0)]) rfl ?_
          exact m_goes_323_ok _ _ hf h N Z
        · have hf := if_f c272 hf
          refine X.iload_n dX4_goes_275 rfl 0 rfl ?_
          refine X.bipush (v := 40) dX4_goes_276 (by decide) ?_
          refine X.icmp_eq (tgt := 323) dX4_goes_278 (by decide) (fun c278 => ?_) (fun c278 => ?_)
          · have hf := if_t c278 hf
            refine X.sub [1] (L' := [(0, .ref m0)]) rfl ?_
            exact m_goes_323_ok _ _ hf h N Z
          · have hf := if_f c278 hf
            refine X.iload_n dX4_goes_281 rfl 0 rfl ?_
            refine X.bipush (v := 41) dX4_goes_282 (by decide) ?_
            refine X.icmp_eq (tgt := 323) dX4_goes_284 (by decide) (fun c284 => ?_) (fun c284 => ?_)
            · have hf := if_t c284 hf
              refine X.sub [1] (L' := [(0, .ref m0)]) rfl ?_
              exact m_goes_323_ok _ _ hf h N Z
            · have hf := if_f c284 hf
              refine X.iload_n dX4_goes_287 rfl 0 rfl ?_
              refine X.bipush (v := 43) dX4_goes_288 (by decide) ?_
              refine X.icmp_eq (tgt := 323) dX4_goes_290 (by decide) (fun c290 => ?_) (fun c290 => ?_)
              · have hf := if_t c290 hf
                refine X.sub [1] (L' := [(0, .ref m0)]) rfl ?_
                exact m_goes_323_ok _ _ hf h N Z
              · have hf := if_f c290 hf
                refine X.iload_n dX4_goes_293 rfl 0 rfl ?_
                refine X.bipush (v := 45) dX4_goes_294 (by decide) ?_
                refine X.icmp_eq (tgt := 323) dX4_goes_296 (by decide) (fun c296 => ?_) (fun c296 => ?_)
                · have hf := if_t c296 hf
                  refine X.sub [1] (L' := [(0, .ref m0)]) rfl ?_
                  exact m_goes_323_ok _ _ hf h N Z
                · have hf := if_f c296 hf
                  refine X.iload_n dX4_goes_299 rfl 0 rfl ?_
                  refine X.bipush (v := 42) dX4_goes_300 (by decide) ?_
                  refine X.icmp_eq (tgt := 323) dX4_goes_302 (by decide) (fun c302 => ?_) (fun c302 => ?_)
                  · have hf := if_t c302 hf
                    refine X.sub [1] (L' := [(0, .ref m0)]) rfl ?_
                    exact m_goes_323_ok _ _ hf h N Z
                  · have hf := if_f c302 hf
                    refine X.iload_n dX4_goes_305 rfl 0 rfl ?_
                    refine X.bipush (v := 47) dX4_goes_306 (by decide) ?_
                    refine X.icmp_eq (tgt := 323) dX4_goes_308 (by decide) (fun c308 => ?_) (fun c308 => ?_)
                    · have hf := if_t c308 hf
                      refine X.sub [1] (L' := [(0, .ref m0)]) rfl ?_
                      exact m_goes_323_ok _ _ hf h N Z
                    · have hf := if_f c308 hf
                      refine X.iload_n dX4_goes_311 rfl 0 rfl ?_
                      refine X.bipush (v := 60) dX4_goes_312 (by decide) ?_
                      refine X.icmp_eq (tgt := 323) dX4_goes_314 (by decide) (fun c314 => ?_) (fun c314 => ?_)
                      · have hf := if_t c314 hf
                        refine X.sub [1] (L' := [(0, .ref m0)]) rfl ?_
                        exact m_goes_323_ok _ _ hf h N Z
                      · have hf := if_f c314 hf
                        refine X.iload_n dX4_goes_317 rfl 0 rfl ?_
                        refine X.bipush (v := 61) dX4_goes_318 (by decide) ?_
                        refine X.icmp_ne (tgt := 327) dX4_goes_320 (by decide) (fun c320 => ?_) (fun c320 => ?_)
                        · have hf := if_f c320 hf
                          refine X.iconst (v := 4) dX4_goes_327 (by decide) ?_
                          refine X.sub [1] (L' := [(0, .ref m0)]) rfl ?_
                          exact m_goes_328_ok _ _ _ hf h N Z
                        · have hf := if_t c320 hf
                          refine X.sub [1] (L' := [(0, .ref m0)]) rfl ?_
                          exact m_goes_323_ok _ _ hf h N Z
      · have hf := if_f c184 hf
        refine X.sub [1] (L' := [(0, .ref m0)]) rfl ?_
        exact m_goes_187_ok FU _ _ hf h N Z
    · have hf := if_f c105 hf
      refine X.sub [1] (L' := [(0, .ref m0)]) rfl ?_
      exact m_goes_108_ok FU _ _ hf h N Z
  · have hf := if_f c90 hf
    refine X.aload_n dX4_goes_93 rfl 1 rfl ?_
    refine X.iconst (v := 0) dX4_goes_94 (by decide) ?_
    refine M.putI dX4_goes_95 fX4_148 (by decide) rfl rfl rfl ?_
    refine X.goto (tgt := 331) dX4_goes_98 (by decide) ?_
    refine X.sub [1] (L' := [(0, .ref m0)]) rfl ?_
    exact m_goes_331_ok _ _ hf h N Z
def m_goes_0_b  (k0 : MS → Option MS) (S : MS) : Option MS :=
  if (S.1 17) ≤ (S.1 18) then
    m_goes_50 S
  else
    (m_byteAt ((S.1 18)) S).bind fun q16 =>
    if q16 = (32 : Int32) then
      m_goes_37 k0 S
    else
      (m_byteAt ((S.1 18)) S).bind fun q29 =>
      if q29 = (10 : Int32) then
        m_goes_37 k0 S
      else
        m_goes_50 S
def m_goes_0  : Nat → MS → Option MS
  | 0 => fun _ => none
  | n + 1 => fun S => m_goes_0_b (m_goes_0 n) S
theorem m_goes_0_bok {G : xG} {m0 : Nat} {S0 : MS}  {k0 : MS → Option MS}  (hk0 : ∀ (S : MS) (q : MS), k0 S = some q → XM G m0 mX4_goes 2 S0 none q 0 [(0, .ref m0)] [] S) (S : MS) (q : MS) (hf : m_goes_0_b k0 S = some q) : XM G m0 mX4_goes 2 S0 none q 0 [(0, .ref m0)] [] S := by
  intro h N Z
  unfold m_goes_0_b at hf
  refine X.aload_n dX4_goes_0 rfl 0 rfl ?_
  refine M.get (v := .int (S.1 18)) dX4_goes_1 fX4_128 (Nat.le_of_ble_eq_true rfl) rfl ?_
  refine X.aload_n dX4_goes_4 rfl 0 rfl ?_
  refine M.get (v := .int (S.1 17)) dX4_goes_5 fX4_125 (Nat.le_of_ble_eq_true rfl) rfl ?_
  refine X.icmp_ge (tgt := 50) dX4_goes_8 (by decide) (fun c8 => ?_) (fun c8 => ?_)
  · have hf := if_t c8 hf
    refine X.sub [0] (L' := [(0, .ref m0)]) rfl ?_
    exact m_goes_50_ok _ _ hf h N Z
  · have hf := if_f c8 hf
    refine X.aload_n dX4_goes_11 rfl 0 rfl ?_
    refine X.aload_n dX4_goes_12 rfl 0 rfl ?_
    refine M.get (v := .int (S.1 18)) dX4_goes_13 fX4_128 (Nat.le_of_ble_eq_true rfl) rfl ?_
    obtain ⟨q16, h16, hf⟩ := ob hf
    refine X.callVi (As := [.int (S.1 18)]) (rest := []) dX4_goes_16 (w_byteAt h16 h N Z) cX4_131 rfl rfl (Nat.le_of_ble_eq_true rfl) mh_0 rfl rfl (xD (Nat.le_of_ble_eq_true rfl)) xleN xleN ?_
    refine X.bipush (v := 32) dX4_goes_19 (by decide) ?_
    refine X.icmp_eq (tgt := 37) dX4_goes_21 (by decide) (fun c21 => ?_) (fun c21 => ?_)
    · have hf := if_t c21 hf
      refine X.sub [0] (L' := [(0, .ref m0)]) rfl ?_
      exact m_goes_37_ok hk0 _ _ hf h N Z
    · have hf := if_f c21 hf
      refine X.aload_n dX4_goes_24 rfl 0 rfl ?_
      refine X.aload_n dX4_goes_25 rfl 0 rfl ?_
      refine M.get (v := .int (S.1 18)) dX4_goes_26 fX4_128 (Nat.le_of_ble_eq_true rfl) rfl ?_
      obtain ⟨q29, h29, hf⟩ := ob hf
      refine X.callVi (As := [.int (S.1 18)]) (rest := []) dX4_goes_29 (w_byteAt h29 h N Z) cX4_131 rfl rfl (Nat.le_of_ble_eq_true rfl) mh_0 rfl rfl (xD (Nat.le_of_ble_eq_true rfl)) xleN xleN ?_
      refine X.bipush (v := 10) dX4_goes_32 (by decide) ?_
      refine X.icmp_ne (tgt := 50) dX4_goes_34 (by decide) (fun c34 => ?_) (fun c34 => ?_)
      · have hf := if_f c34 hf
        refine X.sub [0] (L' := [(0, .ref m0)]) rfl ?_
        exact m_goes_50_ok _ _ hf h N Z
      · have hf := if_t c34 hf
        refine X.sub [0] (L' := [(0, .ref m0)]) rfl ?_
        exact m_goes_37_ok hk0 _ _ hf h N Z
theorem m_goes_0_ok {G : xG} {m0 : Nat} {S0 : MS}   : ∀ (n : Nat) (S : MS) (q : MS), m_goes_0 n S = some q → XM G m0 mX4_goes 2 S0 none q 0 [(0, .ref m0)] [] S
  | 0, _, _, hf => by cases hf
  | n + 1, S, q, hf => m_goes_0_bok (m_goes_0_ok n) S q hf
def m_goes  (S : MS) : Option MS :=
  m_goes_0 FU S
theorem w_goes {G : xG} {m0 : Nat}  {S : MS} {q : MS} (hf : m_goes S = some q) : CtM G m0 mX4_goes 2 S [.ref m0] none q := by
  intro h N Z
  refine Ct.of (by decide +kernel) rfl (Nat.le_of_ble_eq_true rfl) (show Xr G _ 0 [(0, .ref m0)] [] _ from ?_)
  unfold m_goes at hf
  refine X.sub [0] (L' := [(0, .ref m0)]) rfl ?_
  exact m_goes_0_ok FU _ _ hf h N Z
theorem cX4_178 : xCV RX4 178 mX4_goes 0 := ⟨lw_V q1777 q1779 qs55 q127 q1780, rfl, ⟨by decide +kernel, by decide +kernel, by decide +kernel⟩, Nat.le_of_ble_eq_true rfl⟩
/-! spelled -/
abbrev cX4_spelled : ByteArray := prog_12_method_16_code
def yX4_spelled : MethodName := ⟨RX4, "spelled", "(IIIIIII)J"⟩
def dkwX4_spelled_4 : List UInt8 := [16, 96, 100, 133, 129, 55, 7, 22, 7, 173]
abbrev dktX4_spelled_4 : List UInt8 := dkwX4_spelled_4 ++ []
def dkwX4_spelled_3 : List UInt8 := [22, 7, 8, 121, 21, 5, 16, 96, 100, 133, 129, 55, 7, 21, 6, 153, 0, 16, 22, 7, 8, 121, 21, 6]
abbrev dktX4_spelled_3 : List UInt8 := dkwX4_spelled_3 ++ dktX4_spelled_4
def dkwX4_spelled_2 : List UInt8 := [21, 4, 153, 0, 16, 22, 7, 8, 121, 21, 4, 16, 96, 100, 133, 129, 55, 7, 21, 5, 153, 0, 16]
abbrev dktX4_spelled_2 : List UInt8 := dkwX4_spelled_2 ++ dktX4_spelled_3
def dkwX4_spelled_1 : List UInt8 := [28, 16, 96, 100, 133, 129, 55, 7, 29, 153, 0, 15, 22, 7, 8, 121, 29, 16, 96, 100, 133, 129, 55, 7]
abbrev dktX4_spelled_1 : List UInt8 := dkwX4_spelled_1 ++ dktX4_spelled_2
def dkwX4_spelled_0 : List UInt8 := [26, 133, 20, 0, 161, 101, 8, 121, 27, 16, 96, 100, 133, 129, 55, 7, 28, 153, 0, 15, 22, 7, 8, 121]
abbrev dktX4_spelled_0 : List UInt8 := dkwX4_spelled_0 ++ dktX4_spelled_1
theorem dksX4_spelled_0 : cX4_spelled.data.toList.drop 0 = dktX4_spelled_0 := by decide +kernel
theorem dksX4_spelled_1 : cX4_spelled.data.toList.drop 24 = dktX4_spelled_1 := dk_seg dksX4_spelled_0 24 rfl rfl
theorem dksX4_spelled_2 : cX4_spelled.data.toList.drop 48 = dktX4_spelled_2 := dk_seg dksX4_spelled_1 24 rfl rfl
theorem dksX4_spelled_3 : cX4_spelled.data.toList.drop 71 = dktX4_spelled_3 := dk_seg dksX4_spelled_2 23 rfl rfl
theorem dksX4_spelled_4 : cX4_spelled.data.toList.drop 95 = dktX4_spelled_4 := dk_seg dksX4_spelled_3 24 rfl rfl
theorem dX4_spelled_0 : decode cX4_spelled 0 = .ok (.iload_n 0, 1) := dk_26 (dk_at dksX4_spelled_0 0 rfl rfl)
theorem dX4_spelled_1 : decode cX4_spelled 1 = .ok (.i2l, 1) := dk_133 (dk_at dksX4_spelled_0 1 rfl rfl)
theorem dX4_spelled_2 : decode cX4_spelled 2 = .ok (.ldc2_w 161, 3) := dk_20 0 161 (dk_at dksX4_spelled_0 2 rfl rfl)
theorem dX4_spelled_5 : decode cX4_spelled 5 = .ok (.lsub, 1) := dk_101 (dk_at dksX4_spelled_0 5 rfl rfl)
theorem dX4_spelled_6 : decode cX4_spelled 6 = .ok (.iconst 5, 1) := dk_8 (dk_at dksX4_spelled_0 6 rfl rfl)
theorem dX4_spelled_7 : decode cX4_spelled 7 = .ok (.lshl, 1) := dk_121 (dk_at dksX4_spelled_0 7 rfl rfl)
theorem dX4_spelled_8 : decode cX4_spelled 8 = .ok (.iload_n 1, 1) := dk_27 (dk_at dksX4_spelled_0 8 rfl rfl)
theorem dX4_spelled_9 : decode cX4_spelled 9 = .ok (.bipush 96, 2) := dk_16 96 (dk_at dksX4_spelled_0 9 rfl rfl)
theorem dX4_spelled_11 : decode cX4_spelled 11 = .ok (.isub, 1) := dk_100 (dk_at dksX4_spelled_0 11 rfl rfl)
theorem dX4_spelled_12 : decode cX4_spelled 12 = .ok (.i2l, 1) := dk_133 (dk_at dksX4_spelled_0 12 rfl rfl)
theorem dX4_spelled_13 : decode cX4_spelled 13 = .ok (.lor, 1) := dk_129 (dk_at dksX4_spelled_0 13 rfl rfl)
theorem dX4_spelled_14 : decode cX4_spelled 14 = .ok (.lstore 7, 2) := dk_55 7 (dk_at dksX4_spelled_0 14 rfl rfl)
theorem dX4_spelled_16 : decode cX4_spelled 16 = .ok (.iload_n 2, 1) := dk_28 (dk_at dksX4_spelled_0 16 rfl rfl)
theorem dX4_spelled_17 : decode cX4_spelled 17 = .ok (.ifCond .eq 15, 3) := dk_153 0 15 (dk_at dksX4_spelled_0 17 rfl rfl)
theorem dX4_spelled_20 : decode cX4_spelled 20 = .ok (.lload 7, 2) := dk_22 7 (dk_at dksX4_spelled_0 20 rfl rfl)
theorem dX4_spelled_22 : decode cX4_spelled 22 = .ok (.iconst 5, 1) := dk_8 (dk_at dksX4_spelled_0 22 rfl rfl)
theorem dX4_spelled_23 : decode cX4_spelled 23 = .ok (.lshl, 1) := dk_121 (dk_at dksX4_spelled_0 23 rfl rfl)
theorem dX4_spelled_24 : decode cX4_spelled 24 = .ok (.iload_n 2, 1) := dk_28 (dk_at dksX4_spelled_1 0 rfl rfl)
theorem dX4_spelled_25 : decode cX4_spelled 25 = .ok (.bipush 96, 2) := dk_16 96 (dk_at dksX4_spelled_1 1 rfl rfl)
theorem dX4_spelled_27 : decode cX4_spelled 27 = .ok (.isub, 1) := dk_100 (dk_at dksX4_spelled_1 3 rfl rfl)
theorem dX4_spelled_28 : decode cX4_spelled 28 = .ok (.i2l, 1) := dk_133 (dk_at dksX4_spelled_1 4 rfl rfl)
theorem dX4_spelled_29 : decode cX4_spelled 29 = .ok (.lor, 1) := dk_129 (dk_at dksX4_spelled_1 5 rfl rfl)
theorem dX4_spelled_30 : decode cX4_spelled 30 = .ok (.lstore 7, 2) := dk_55 7 (dk_at dksX4_spelled_1 6 rfl rfl)
theorem dX4_spelled_32 : decode cX4_spelled 32 = .ok (.iload_n 3, 1) := dk_29 (dk_at dksX4_spelled_1 8 rfl rfl)
theorem dX4_spelled_33 : decode cX4_spelled 33 = .ok (.ifCond .eq 15, 3) := dk_153 0 15 (dk_at dksX4_spelled_1 9 rfl rfl)
theorem dX4_spelled_36 : decode cX4_spelled 36 = .ok (.lload 7, 2) := dk_22 7 (dk_at dksX4_spelled_1 12 rfl rfl)
theorem dX4_spelled_38 : decode cX4_spelled 38 = .ok (.iconst 5, 1) := dk_8 (dk_at dksX4_spelled_1 14 rfl rfl)
theorem dX4_spelled_39 : decode cX4_spelled 39 = .ok (.lshl, 1) := dk_121 (dk_at dksX4_spelled_1 15 rfl rfl)
theorem dX4_spelled_40 : decode cX4_spelled 40 = .ok (.iload_n 3, 1) := dk_29 (dk_at dksX4_spelled_1 16 rfl rfl)
theorem dX4_spelled_41 : decode cX4_spelled 41 = .ok (.bipush 96, 2) := dk_16 96 (dk_at dksX4_spelled_1 17 rfl rfl)
theorem dX4_spelled_43 : decode cX4_spelled 43 = .ok (.isub, 1) := dk_100 (dk_at dksX4_spelled_1 19 rfl rfl)
theorem dX4_spelled_44 : decode cX4_spelled 44 = .ok (.i2l, 1) := dk_133 (dk_at dksX4_spelled_1 20 rfl rfl)
theorem dX4_spelled_45 : decode cX4_spelled 45 = .ok (.lor, 1) := dk_129 (dk_at dksX4_spelled_1 21 rfl rfl)
theorem dX4_spelled_46 : decode cX4_spelled 46 = .ok (.lstore 7, 2) := dk_55 7 (dk_at dksX4_spelled_1 22 rfl rfl)
theorem dX4_spelled_48 : decode cX4_spelled 48 = .ok (.iload 4, 2) := dk_21 4 (dk_at dksX4_spelled_2 0 rfl rfl)
theorem dX4_spelled_50 : decode cX4_spelled 50 = .ok (.ifCond .eq 16, 3) := dk_153 0 16 (dk_at dksX4_spelled_2 2 rfl rfl)
theorem dX4_spelled_53 : decode cX4_spelled 53 = .ok (.lload 7, 2) := dk_22 7 (dk_at dksX4_spelled_2 5 rfl rfl)
theorem dX4_spelled_55 : decode cX4_spelled 55 = .ok (.iconst 5, 1) := dk_8 (dk_at dksX4_spelled_2 7 rfl rfl)
theorem dX4_spelled_56 : decode cX4_spelled 56 = .ok (.lshl, 1) := dk_121 (dk_at dksX4_spelled_2 8 rfl rfl)
theorem dX4_spelled_57 : decode cX4_spelled 57 = .ok (.iload 4, 2) := dk_21 4 (dk_at dksX4_spelled_2 9 rfl rfl)
theorem dX4_spelled_59 : decode cX4_spelled 59 = .ok (.bipush 96, 2) := dk_16 96 (dk_at dksX4_spelled_2 11 rfl rfl)
theorem dX4_spelled_61 : decode cX4_spelled 61 = .ok (.isub, 1) := dk_100 (dk_at dksX4_spelled_2 13 rfl rfl)
theorem dX4_spelled_62 : decode cX4_spelled 62 = .ok (.i2l, 1) := dk_133 (dk_at dksX4_spelled_2 14 rfl rfl)
theorem dX4_spelled_63 : decode cX4_spelled 63 = .ok (.lor, 1) := dk_129 (dk_at dksX4_spelled_2 15 rfl rfl)
theorem dX4_spelled_64 : decode cX4_spelled 64 = .ok (.lstore 7, 2) := dk_55 7 (dk_at dksX4_spelled_2 16 rfl rfl)
theorem dX4_spelled_66 : decode cX4_spelled 66 = .ok (.iload 5, 2) := dk_21 5 (dk_at dksX4_spelled_2 18 rfl rfl)
theorem dX4_spelled_68 : decode cX4_spelled 68 = .ok (.ifCond .eq 16, 3) := dk_153 0 16 (dk_at dksX4_spelled_2 20 rfl rfl)
theorem dX4_spelled_71 : decode cX4_spelled 71 = .ok (.lload 7, 2) := dk_22 7 (dk_at dksX4_spelled_3 0 rfl rfl)
theorem dX4_spelled_73 : decode cX4_spelled 73 = .ok (.iconst 5, 1) := dk_8 (dk_at dksX4_spelled_3 2 rfl rfl)
theorem dX4_spelled_74 : decode cX4_spelled 74 = .ok (.lshl, 1) := dk_121 (dk_at dksX4_spelled_3 3 rfl rfl)
theorem dX4_spelled_75 : decode cX4_spelled 75 = .ok (.iload 5, 2) := dk_21 5 (dk_at dksX4_spelled_3 4 rfl rfl)
theorem dX4_spelled_77 : decode cX4_spelled 77 = .ok (.bipush 96, 2) := dk_16 96 (dk_at dksX4_spelled_3 6 rfl rfl)
theorem dX4_spelled_79 : decode cX4_spelled 79 = .ok (.isub, 1) := dk_100 (dk_at dksX4_spelled_3 8 rfl rfl)
theorem dX4_spelled_80 : decode cX4_spelled 80 = .ok (.i2l, 1) := dk_133 (dk_at dksX4_spelled_3 9 rfl rfl)
theorem dX4_spelled_81 : decode cX4_spelled 81 = .ok (.lor, 1) := dk_129 (dk_at dksX4_spelled_3 10 rfl rfl)
theorem dX4_spelled_82 : decode cX4_spelled 82 = .ok (.lstore 7, 2) := dk_55 7 (dk_at dksX4_spelled_3 11 rfl rfl)
theorem dX4_spelled_84 : decode cX4_spelled 84 = .ok (.iload 6, 2) := dk_21 6 (dk_at dksX4_spelled_3 13 rfl rfl)
theorem dX4_spelled_86 : decode cX4_spelled 86 = .ok (.ifCond .eq 16, 3) := dk_153 0 16 (dk_at dksX4_spelled_3 15 rfl rfl)
theorem dX4_spelled_89 : decode cX4_spelled 89 = .ok (.lload 7, 2) := dk_22 7 (dk_at dksX4_spelled_3 18 rfl rfl)
theorem dX4_spelled_91 : decode cX4_spelled 91 = .ok (.iconst 5, 1) := dk_8 (dk_at dksX4_spelled_3 20 rfl rfl)
theorem dX4_spelled_92 : decode cX4_spelled 92 = .ok (.lshl, 1) := dk_121 (dk_at dksX4_spelled_3 21 rfl rfl)
theorem dX4_spelled_93 : decode cX4_spelled 93 = .ok (.iload 6, 2) := dk_21 6 (dk_at dksX4_spelled_3 22 rfl rfl)
theorem dX4_spelled_95 : decode cX4_spelled 95 = .ok (.bipush 96, 2) := dk_16 96 (dk_at dksX4_spelled_4 0 rfl rfl)
theorem dX4_spelled_97 : decode cX4_spelled 97 = .ok (.isub, 1) := dk_100 (dk_at dksX4_spelled_4 2 rfl rfl)
theorem dX4_spelled_98 : decode cX4_spelled 98 = .ok (.i2l, 1) := dk_133 (dk_at dksX4_spelled_4 3 rfl rfl)
theorem dX4_spelled_99 : decode cX4_spelled 99 = .ok (.lor, 1) := dk_129 (dk_at dksX4_spelled_4 4 rfl rfl)
theorem dX4_spelled_100 : decode cX4_spelled 100 = .ok (.lstore 7, 2) := dk_55 7 (dk_at dksX4_spelled_4 5 rfl rfl)
theorem dX4_spelled_102 : decode cX4_spelled 102 = .ok (.lload 7, 2) := dk_22 7 (dk_at dksX4_spelled_4 7 rfl rfl)
theorem dX4_spelled_104 : decode cX4_spelled 104 = .ok (.lreturn, 1) := dk_173 (dk_at dksX4_spelled_4 9 rfl rfl)
abbrev mX4_spelled : xM := (yX4_spelled, cX4_spelled, 9, (some .long), [])
def m_spelled_84  (x6 : Int32) (x7 : Int64) : Option Int64 :=
  if x6 = 0 then
    some x7
  else
    some ((x7 <<< (((5 : Int32)).toInt64 &&& 63)) ||| ((x6 - (96 : Int32))).toInt64)
theorem m_spelled_84_ok {G : xG}   (x6 : Int32) (x7 : Int64) (q : Int64) (hf : m_spelled_84 x6 x7 = some q) : XP G mX4_spelled 1 (some (.long q)) 84 [(6, .int x6), (7, .long x7)] [] := by
  intro T
  unfold m_spelled_84 at hf
  refine X.iload dX4_spelled_84 0 rfl ?_
  refine X.if_eq (tgt := 102) dX4_spelled_86 (by decide) (fun c86 => ?_) (fun c86 => ?_)
  · have hf := if_t c86 hf
    refine X.lload dX4_spelled_102 1 rfl ?_
    obtain rfl := Option.some.inj hf
    exact X.lret dX4_spelled_104 rfl rfl
  · have hf := if_f c86 hf
    refine X.lload dX4_spelled_89 1 rfl ?_
    refine X.iconst (v := 5) dX4_spelled_91 (by decide) ?_
    refine X.lshl dX4_spelled_92 rfl ?_
    refine X.iload dX4_spelled_93 0 rfl ?_
    refine X.bipush (v := 96) dX4_spelled_95 (by decide) ?_
    refine X.isub dX4_spelled_97 ?_
    refine X.i2l dX4_spelled_98 rfl ?_
    refine X.lor dX4_spelled_99 ?_
    refine X.lstore (L' := [(7, .long ((x7 <<< (((5 : Int32)).toInt64 &&& 63)) ||| ((x6 - (96 : Int32))).toInt64)), (6, .int x6)]) dX4_spelled_100 (Nat.le_of_ble_eq_true rfl) rfl ?_
    refine X.lload dX4_spelled_102 0 rfl ?_
    obtain rfl := Option.some.inj hf
    exact X.lret dX4_spelled_104 rfl rfl
def m_spelled_66  (x5 : Int32) (x6 : Int32) (x7 : Int64) : Option Int64 :=
  if x5 = 0 then
    m_spelled_84 x6 x7
  else
    m_spelled_84 x6 (((x7 <<< (((5 : Int32)).toInt64 &&& 63)) ||| ((x5 - (96 : Int32))).toInt64))
theorem m_spelled_66_ok {G : xG}   (x5 : Int32) (x6 : Int32) (x7 : Int64) (q : Int64) (hf : m_spelled_66 x5 x6 x7 = some q) : XP G mX4_spelled 1 (some (.long q)) 66 [(5, .int x5), (6, .int x6), (7, .long x7)] [] := by
  intro T
  unfold m_spelled_66 at hf
  refine X.iload dX4_spelled_66 0 rfl ?_
  refine X.if_eq (tgt := 84) dX4_spelled_68 (by decide) (fun c68 => ?_) (fun c68 => ?_)
  · have hf := if_t c68 hf
    refine X.sub [1, 2] (L' := [(6, .int x6), (7, .long x7)]) rfl ?_
    exact m_spelled_84_ok _ _ _ hf T
  · have hf := if_f c68 hf
    refine X.lload dX4_spelled_71 2 rfl ?_
    refine X.iconst (v := 5) dX4_spelled_73 (by decide) ?_
    refine X.lshl dX4_spelled_74 rfl ?_
    refine X.iload dX4_spelled_75 0 rfl ?_
    refine X.bipush (v := 96) dX4_spelled_77 (by decide) ?_
    refine X.isub dX4_spelled_79 ?_
    refine X.i2l dX4_spelled_80 rfl ?_
    refine X.lor dX4_spelled_81 ?_
    refine X.lstore (L' := [(7, .long ((x7 <<< (((5 : Int32)).toInt64 &&& 63)) ||| ((x5 - (96 : Int32))).toInt64)), (5, .int x5), (6, .int x6)]) dX4_spelled_82 (Nat.le_of_ble_eq_true rfl) rfl ?_
    refine X.sub [2, 0] (L' := [(6, .int x6), (7, .long ((x7 <<< (((5 : Int32)).toInt64 &&& 63)) ||| ((x5 - (96 : Int32))).toInt64))]) rfl ?_
    exact m_spelled_84_ok _ _ _ hf T
def m_spelled_48  (x4 : Int32) (x5 : Int32) (x6 : Int32) (x7 : Int64) : Option Int64 :=
  if x4 = 0 then
    m_spelled_66 x5 x6 x7
  else
    m_spelled_66 x5 x6 (((x7 <<< (((5 : Int32)).toInt64 &&& 63)) ||| ((x4 - (96 : Int32))).toInt64))
theorem m_spelled_48_ok {G : xG}   (x4 : Int32) (x5 : Int32) (x6 : Int32) (x7 : Int64) (q : Int64) (hf : m_spelled_48 x4 x5 x6 x7 = some q) : XP G mX4_spelled 1 (some (.long q)) 48 [(4, .int x4), (5, .int x5), (6, .int x6), (7, .long x7)] [] := by
  intro T
  unfold m_spelled_48 at hf
  refine X.iload dX4_spelled_48 0 rfl ?_
  refine X.if_eq (tgt := 66) dX4_spelled_50 (by decide) (fun c50 => ?_) (fun c50 => ?_)
  · have hf := if_t c50 hf
    refine X.sub [1, 2, 3] (L' := [(5, .int x5), (6, .int x6), (7, .long x7)]) rfl ?_
    exact m_spelled_66_ok _ _ _ _ hf T
  · have hf := if_f c50 hf
    refine X.lload dX4_spelled_53 3 rfl ?_
    refine X.iconst (v := 5) dX4_spelled_55 (by decide) ?_
    refine X.lshl dX4_spelled_56 rfl ?_
    refine X.iload dX4_spelled_57 0 rfl ?_
    refine X.bipush (v := 96) dX4_spelled_59 (by decide) ?_
    refine X.isub dX4_spelled_61 ?_
    refine X.i2l dX4_spelled_62 rfl ?_
    refine X.lor dX4_spelled_63 ?_
    refine X.lstore (L' := [(7, .long ((x7 <<< (((5 : Int32)).toInt64 &&& 63)) ||| ((x4 - (96 : Int32))).toInt64)), (4, .int x4), (5, .int x5), (6, .int x6)]) dX4_spelled_64 (Nat.le_of_ble_eq_true rfl) rfl ?_
    refine X.sub [2, 3, 0] (L' := [(5, .int x5), (6, .int x6), (7, .long ((x7 <<< (((5 : Int32)).toInt64 &&& 63)) ||| ((x4 - (96 : Int32))).toInt64))]) rfl ?_
    exact m_spelled_66_ok _ _ _ _ hf T
def m_spelled_32  (x3 : Int32) (x4 : Int32) (x5 : Int32) (x6 : Int32) (x7 : Int64) : Option Int64 :=
  if x3 = 0 then
    m_spelled_48 x4 x5 x6 x7
  else
    m_spelled_48 x4 x5 x6 (((x7 <<< (((5 : Int32)).toInt64 &&& 63)) ||| ((x3 - (96 : Int32))).toInt64))
theorem m_spelled_32_ok {G : xG}   (x3 : Int32) (x4 : Int32) (x5 : Int32) (x6 : Int32) (x7 : Int64) (q : Int64) (hf : m_spelled_32 x3 x4 x5 x6 x7 = some q) : XP G mX4_spelled 1 (some (.long q)) 32 [(3, .int x3), (4, .int x4), (5, .int x5), (6, .int x6), (7, .long x7)] [] := by
  intro T
  unfold m_spelled_32 at hf
  refine X.iload_n dX4_spelled_32 rfl 0 rfl ?_
  refine X.if_eq (tgt := 48) dX4_spelled_33 (by decide) (fun c33 => ?_) (fun c33 => ?_)
  · have hf := if_t c33 hf
    refine X.sub [1, 2, 3, 4] (L' := [(4, .int x4), (5, .int x5), (6, .int x6), (7, .long x7)]) rfl ?_
    exact m_spelled_48_ok _ _ _ _ _ hf T
  · have hf := if_f c33 hf
    refine X.lload dX4_spelled_36 4 rfl ?_
    refine X.iconst (v := 5) dX4_spelled_38 (by decide) ?_
    refine X.lshl dX4_spelled_39 rfl ?_
    refine X.iload_n dX4_spelled_40 rfl 0 rfl ?_
    refine X.bipush (v := 96) dX4_spelled_41 (by decide) ?_
    refine X.isub dX4_spelled_43 ?_
    refine X.i2l dX4_spelled_44 rfl ?_
    refine X.lor dX4_spelled_45 ?_
    refine X.lstore (L' := [(7, .long ((x7 <<< (((5 : Int32)).toInt64 &&& 63)) ||| ((x3 - (96 : Int32))).toInt64)), (3, .int x3), (4, .int x4), (5, .int x5), (6, .int x6)]) dX4_spelled_46 (Nat.le_of_ble_eq_true rfl) rfl ?_
    refine X.sub [2, 3, 4, 0] (L' := [(4, .int x4), (5, .int x5), (6, .int x6), (7, .long ((x7 <<< (((5 : Int32)).toInt64 &&& 63)) ||| ((x3 - (96 : Int32))).toInt64))]) rfl ?_
    exact m_spelled_48_ok _ _ _ _ _ hf T
def m_spelled (x0 : Int32) (x1 : Int32) (x2 : Int32) (x3 : Int32) (x4 : Int32) (x5 : Int32) (x6 : Int32) : Option Int64 :=
  if x2 = 0 then
    m_spelled_32 x3 x4 x5 x6 (((((x0).toInt64 - (96 : Int64)) <<< (((5 : Int32)).toInt64 &&& 63)) ||| ((x1 - (96 : Int32))).toInt64))
  else
    m_spelled_32 x3 x4 x5 x6 (((((((x0).toInt64 - (96 : Int64)) <<< (((5 : Int32)).toInt64 &&& 63)) ||| ((x1 - (96 : Int32))).toInt64) <<< (((5 : Int32)).toInt64 &&& 63)) ||| ((x2 - (96 : Int32))).toInt64))
theorem w_spelled {G : xG} {x0 : Int32} {x1 : Int32} {x2 : Int32} {x3 : Int32} {x4 : Int32} {x5 : Int32} {x6 : Int32} {q : Int64} (hf : m_spelled x0 x1 x2 x3 x4 x5 x6 = some q) : CtP G mX4_spelled 1 [.int x0, .int x1, .int x2, .int x3, .int x4, .int x5, .int x6] (some (.long q)) := by
  intro T
  refine Ct.of (by decide +kernel) rfl (Nat.le_of_ble_eq_true rfl) (show Xr G _ 0 [(0, .int x0), (1, .int x1), (2, .int x2), (3, .int x3), (4, .int x4), (5, .int x5), (6, .int x6)] [] _ from ?_)
  unfold m_spelled at hf
  refine X.iload_n dX4_spelled_0 rfl 0 rfl ?_
  refine X.i2l dX4_spelled_1 rfl ?_
  refine X.ldc2 (v := 96) dX4_spelled_2 q1809 ?_
  refine X.lsub dX4_spelled_5 ?_
  refine X.iconst (v := 5) dX4_spelled_6 (by decide) ?_
  refine X.lshl dX4_spelled_7 rfl ?_
  refine X.iload_n dX4_spelled_8 rfl 1 rfl ?_
  refine X.bipush (v := 96) dX4_spelled_9 (by decide) ?_
  refine X.isub dX4_spelled_11 ?_
  refine X.i2l dX4_spelled_12 rfl ?_
  refine X.lor dX4_spelled_13 ?_
  refine X.lstore (L' := [(7, .long ((((x0).toInt64 - (96 : Int64)) <<< (((5 : Int32)).toInt64 &&& 63)) ||| ((x1 - (96 : Int32))).toInt64)), (0, .int x0), (1, .int x1), (2, .int x2), (3, .int x3), (4, .int x4), (5, .int x5), (6, .int x6)]) dX4_spelled_14 (Nat.le_of_ble_eq_true rfl) rfl ?_
  refine X.iload_n dX4_spelled_16 rfl 3 rfl ?_
  refine X.if_eq (tgt := 32) dX4_spelled_17 (by decide) (fun c17 => ?_) (fun c17 => ?_)
  · have hf := if_t c17 hf
    refine X.sub [4, 5, 6, 7, 0] (L' := [(3, .int x3), (4, .int x4), (5, .int x5), (6, .int x6), (7, .long ((((x0).toInt64 - (96 : Int64)) <<< (((5 : Int32)).toInt64 &&& 63)) ||| ((x1 - (96 : Int32))).toInt64))]) rfl ?_
    exact m_spelled_32_ok _ _ _ _ _ _ hf T
  · have hf := if_f c17 hf
    refine X.lload dX4_spelled_20 0 rfl ?_
    refine X.iconst (v := 5) dX4_spelled_22 (by decide) ?_
    refine X.lshl dX4_spelled_23 rfl ?_
    refine X.iload_n dX4_spelled_24 rfl 3 rfl ?_
    refine X.bipush (v := 96) dX4_spelled_25 (by decide) ?_
    refine X.isub dX4_spelled_27 ?_
    refine X.i2l dX4_spelled_28 rfl ?_
    refine X.lor dX4_spelled_29 ?_
    refine X.lstore (L' := [(7, .long ((((((x0).toInt64 - (96 : Int64)) <<< (((5 : Int32)).toInt64 &&& 63)) ||| ((x1 - (96 : Int32))).toInt64) <<< (((5 : Int32)).toInt64 &&& 63)) ||| ((x2 - (96 : Int32))).toInt64)), (0, .int x0), (1, .int x1), (2, .int x2), (3, .int x3), (4, .int x4), (5, .int x5), (6, .int x6)]) dX4_spelled_30 (Nat.le_of_ble_eq_true rfl) rfl ?_
    refine X.sub [4, 5, 6, 7, 0] (L' := [(3, .int x3), (4, .int x4), (5, .int x5), (6, .int x6), (7, .long ((((((x0).toInt64 - (96 : Int64)) <<< (((5 : Int32)).toInt64 &&& 63)) ||| ((x1 - (96 : Int32))).toInt64) <<< (((5 : Int32)).toInt64 &&& 63)) ||| ((x2 - (96 : Int32))).toInt64))]) rfl ?_
    exact m_spelled_32_ok _ _ _ _ _ _ hf T
theorem cX4_163 : xCS RX4 163 mX4_spelled 7 := ⟨lw_S q1806 q1807 q127 q1808, rfl, ⟨by decide +kernel, by decide +kernel, by decide +kernel⟩, Nat.le_of_ble_eq_true rfl⟩
/-! letters -/
abbrev cX4_letters : ByteArray := prog_12_method_17_code
def yX4_letters : MethodName := ⟨RX4, "letters", "(I)J"⟩
def dkwX4_letters_13 : List UInt8 := [184, 0, 163, 173, 16, 110, 16, 111, 16, 116, 3, 3, 3, 3, 184, 0, 163, 173]
abbrev dktX4_letters_13 : List UInt8 := dkwX4_letters_13 ++ []
def dkwX4_letters_12 : List UInt8 := [16, 97, 16, 110, 16, 100, 3, 3, 3, 3, 184, 0, 163, 173, 16, 111, 16, 114, 3, 3, 3, 3, 3]
abbrev dktX4_letters_12 : List UInt8 := dkwX4_letters_12 ++ dktX4_letters_13
def dkwX4_letters_11 : List UInt8 := [16, 115, 3, 3, 184, 0, 163, 173, 16, 98, 16, 101, 16, 97, 16, 116, 16, 115, 3, 3, 184, 0, 163, 173]
abbrev dktX4_letters_11 : List UInt8 := dkwX4_letters_11 ++ dktX4_letters_12
def dkwX4_letters_10 : List UInt8 := [16, 112, 16, 111, 16, 114, 16, 101, 16, 115, 3, 184, 0, 163, 173, 16, 103, 16, 114, 16, 111, 16, 119]
abbrev dktX4_letters_10 : List UInt8 := dkwX4_letters_10 ++ dktX4_letters_11
def dkwX4_letters_9 : List UInt8 := [16, 100, 3, 3, 184, 0, 163, 173, 16, 97, 16, 103, 16, 101, 3, 3, 3, 3, 184, 0, 163, 173, 16, 115]
abbrev dktX4_letters_9 : List UInt8 := dkwX4_letters_9 ++ dktX4_letters_10
def dkwX4_letters_8 : List UInt8 := [173, 16, 99, 16, 101, 16, 108, 16, 108, 3, 3, 3, 184, 0, 163, 173, 16, 109, 16, 111, 16, 117, 16, 108]
abbrev dktX4_letters_8 : List UInt8 := dkwX4_letters_8 ++ dktX4_letters_9
def dkwX4_letters_7 : List UInt8 := [16, 114, 3, 3, 184, 0, 163, 173, 16, 99, 16, 101, 16, 108, 16, 108, 16, 97, 16, 114, 3, 184, 0, 163]
abbrev dktX4_letters_7 : List UInt8 := dkwX4_letters_7 ++ dktX4_letters_8
def dkwX4_letters_6 : List UInt8 := [173, 16, 107, 16, 105, 16, 110, 16, 100, 3, 3, 3, 184, 0, 163, 173, 16, 111, 16, 116, 16, 104, 16, 101]
abbrev dktX4_letters_6 : List UInt8 := dkwX4_letters_6 ++ dktX4_letters_7
def dkwX4_letters_5 : List UInt8 := [16, 110, 16, 100, 16, 115, 184, 0, 163, 173, 16, 102, 16, 111, 16, 101, 16, 115, 3, 3, 3, 184, 0, 163]
abbrev dktX4_letters_5 : List UInt8 := dkwX4_letters_5 ++ dktX4_letters_6
def dkwX4_letters_4 : List UInt8 := [16, 97, 16, 114, 16, 109, 16, 116, 16, 104, 3, 184, 0, 163, 173, 16, 102, 16, 114, 16, 105, 16, 101]
abbrev dktX4_letters_4 : List UInt8 := dkwX4_letters_4 ++ dktX4_letters_5
def dkwX4_letters_3 : List UInt8 := [3, 3, 184, 0, 163, 173, 16, 102, 16, 111, 16, 111, 16, 100, 3, 3, 3, 184, 0, 163, 173, 16, 119]
abbrev dktX4_letters_3 : List UInt8 := dkwX4_letters_3 ++ dktX4_letters_4
def dkwX4_letters_2 : List UInt8 := [16, 115, 16, 105, 16, 122, 16, 101, 3, 3, 3, 184, 0, 163, 173, 16, 100, 16, 97, 16, 109, 16, 112, 3]
abbrev dktX4_letters_2 : List UInt8 := dkwX4_letters_2 ++ dktX4_letters_3
def dkwX4_letters_1 : List UInt8 := [170, 0, 0, 0, 0, 1, 91, 0, 0, 0, 0, 0, 0, 0, 16, 0, 0, 0, 83, 0, 0, 0, 98, 0, 0, 0, 113, 0, 0, 0, 128, 0, 0, 0, 145, 0, 0, 0, 163, 0, 0, 0, 178, 0, 0, 0, 193, 0, 0, 0, 209, 0, 0, 0, 226, 0, 0, 0, 241, 0, 0, 1, 1, 0, 0, 1, 15, 0, 0, 1, 32, 0, 0, 1, 48, 0, 0, 1, 64, 0, 0, 1, 78]
abbrev dktX4_letters_1 : List UInt8 := dkwX4_letters_1 ++ dktX4_letters_2
def dkwX4_letters_0 : List UInt8 := [26]
abbrev dktX4_letters_0 : List UInt8 := dkwX4_letters_0 ++ dktX4_letters_1
theorem dksX4_letters_0 : cX4_letters.data.toList.drop 0 = dktX4_letters_0 := by decide +kernel
theorem dksX4_letters_1 : cX4_letters.data.toList.drop 1 = dktX4_letters_1 := dk_seg dksX4_letters_0 1 rfl rfl
theorem dksX4_letters_2 : cX4_letters.data.toList.drop 84 = dktX4_letters_2 := dk_seg dksX4_letters_1 83 rfl rfl
theorem dksX4_letters_3 : cX4_letters.data.toList.drop 108 = dktX4_letters_3 := dk_seg dksX4_letters_2 24 rfl rfl
theorem dksX4_letters_4 : cX4_letters.data.toList.drop 131 = dktX4_letters_4 := dk_seg dksX4_letters_3 23 rfl rfl
theorem dksX4_letters_5 : cX4_letters.data.toList.drop 154 = dktX4_letters_5 := dk_seg dksX4_letters_4 23 rfl rfl
theorem dksX4_letters_6 : cX4_letters.data.toList.drop 178 = dktX4_letters_6 := dk_seg dksX4_letters_5 24 rfl rfl
theorem dksX4_letters_7 : cX4_letters.data.toList.drop 202 = dktX4_letters_7 := dk_seg dksX4_letters_6 24 rfl rfl
theorem dksX4_letters_8 : cX4_letters.data.toList.drop 226 = dktX4_letters_8 := dk_seg dksX4_letters_7 24 rfl rfl
theorem dksX4_letters_9 : cX4_letters.data.toList.drop 250 = dktX4_letters_9 := dk_seg dksX4_letters_8 24 rfl rfl
theorem dksX4_letters_10 : cX4_letters.data.toList.drop 274 = dktX4_letters_10 := dk_seg dksX4_letters_9 24 rfl rfl
theorem dksX4_letters_11 : cX4_letters.data.toList.drop 297 = dktX4_letters_11 := dk_seg dksX4_letters_10 23 rfl rfl
theorem dksX4_letters_12 : cX4_letters.data.toList.drop 321 = dktX4_letters_12 := dk_seg dksX4_letters_11 24 rfl rfl
theorem dksX4_letters_13 : cX4_letters.data.toList.drop 344 = dktX4_letters_13 := dk_seg dksX4_letters_12 23 rfl rfl
theorem dX4_letters_0 : decode cX4_letters 0 = .ok (.iload_n 0, 1) := dk_26 (dk_at dksX4_letters_0 0 rfl rfl)
theorem dX4_letters_1 : decode cX4_letters 1 = .ok (.tableswitch 347 0 16 #[83, 98, 113, 128, 145, 163, 178, 193, 209, 226, 241, 257, 271, 288, 304, 320, 334], 83) := by decide +kernel
theorem dX4_letters_84 : decode cX4_letters 84 = .ok (.bipush 115, 2) := dk_16 115 (dk_at dksX4_letters_2 0 rfl rfl)
theorem dX4_letters_86 : decode cX4_letters 86 = .ok (.bipush 105, 2) := dk_16 105 (dk_at dksX4_letters_2 2 rfl rfl)
theorem dX4_letters_88 : decode cX4_letters 88 = .ok (.bipush 122, 2) := dk_16 122 (dk_at dksX4_letters_2 4 rfl rfl)
theorem dX4_letters_90 : decode cX4_letters 90 = .ok (.bipush 101, 2) := dk_16 101 (dk_at dksX4_letters_2 6 rfl rfl)
theorem dX4_letters_92 : decode cX4_letters 92 = .ok (.iconst 0, 1) := dk_3 (dk_at dksX4_letters_2 8 rfl rfl)
theorem dX4_letters_93 : decode cX4_letters 93 = .ok (.iconst 0, 1) := dk_3 (dk_at dksX4_letters_2 9 rfl rfl)
theorem dX4_letters_94 : decode cX4_letters 94 = .ok (.iconst 0, 1) := dk_3 (dk_at dksX4_letters_2 10 rfl rfl)
theorem dX4_letters_95 : decode cX4_letters 95 = .ok (.invokestatic 163, 3) := dk_184 0 163 (dk_at dksX4_letters_2 11 rfl rfl)
theorem dX4_letters_98 : decode cX4_letters 98 = .ok (.lreturn, 1) := dk_173 (dk_at dksX4_letters_2 14 rfl rfl)
theorem dX4_letters_99 : decode cX4_letters 99 = .ok (.bipush 100, 2) := dk_16 100 (dk_at dksX4_letters_2 15 rfl rfl)
theorem dX4_letters_101 : decode cX4_letters 101 = .ok (.bipush 97, 2) := dk_16 97 (dk_at dksX4_letters_2 17 rfl rfl)
theorem dX4_letters_103 : decode cX4_letters 103 = .ok (.bipush 109, 2) := dk_16 109 (dk_at dksX4_letters_2 19 rfl rfl)
theorem dX4_letters_105 : decode cX4_letters 105 = .ok (.bipush 112, 2) := dk_16 112 (dk_at dksX4_letters_2 21 rfl rfl)
theorem dX4_letters_107 : decode cX4_letters 107 = .ok (.iconst 0, 1) := dk_3 (dk_at dksX4_letters_2 23 rfl rfl)
theorem dX4_letters_108 : decode cX4_letters 108 = .ok (.iconst 0, 1) := dk_3 (dk_at dksX4_letters_3 0 rfl rfl)
theorem dX4_letters_109 : decode cX4_letters 109 = .ok (.iconst 0, 1) := dk_3 (dk_at dksX4_letters_3 1 rfl rfl)
theorem dX4_letters_110 : decode cX4_letters 110 = .ok (.invokestatic 163, 3) := dk_184 0 163 (dk_at dksX4_letters_3 2 rfl rfl)
theorem dX4_letters_113 : decode cX4_letters 113 = .ok (.lreturn, 1) := dk_173 (dk_at dksX4_letters_3 5 rfl rfl)
theorem dX4_letters_114 : decode cX4_letters 114 = .ok (.bipush 102, 2) := dk_16 102 (dk_at dksX4_letters_3 6 rfl rfl)
theorem dX4_letters_116 : decode cX4_letters 116 = .ok (.bipush 111, 2) := dk_16 111 (dk_at dksX4_letters_3 8 rfl rfl)
theorem dX4_letters_118 : decode cX4_letters 118 = .ok (.bipush 111, 2) := dk_16 111 (dk_at dksX4_letters_3 10 rfl rfl)
theorem dX4_letters_120 : decode cX4_letters 120 = .ok (.bipush 100, 2) := dk_16 100 (dk_at dksX4_letters_3 12 rfl rfl)
theorem dX4_letters_122 : decode cX4_letters 122 = .ok (.iconst 0, 1) := dk_3 (dk_at dksX4_letters_3 14 rfl rfl)
theorem dX4_letters_123 : decode cX4_letters 123 = .ok (.iconst 0, 1) := dk_3 (dk_at dksX4_letters_3 15 rfl rfl)
theorem dX4_letters_124 : decode cX4_letters 124 = .ok (.iconst 0, 1) := dk_3 (dk_at dksX4_letters_3 16 rfl rfl)
theorem dX4_letters_125 : decode cX4_letters 125 = .ok (.invokestatic 163, 3) := dk_184 0 163 (dk_at dksX4_letters_3 17 rfl rfl)
theorem dX4_letters_128 : decode cX4_letters 128 = .ok (.lreturn, 1) := dk_173 (dk_at dksX4_letters_3 20 rfl rfl)
theorem dX4_letters_129 : decode cX4_letters 129 = .ok (.bipush 119, 2) := dk_16 119 (dk_at dksX4_letters_3 21 rfl rfl)
theorem dX4_letters_131 : decode cX4_letters 131 = .ok (.bipush 97, 2) := dk_16 97 (dk_at dksX4_letters_4 0 rfl rfl)
theorem dX4_letters_133 : decode cX4_letters 133 = .ok (.bipush 114, 2) := dk_16 114 (dk_at dksX4_letters_4 2 rfl rfl)
theorem dX4_letters_135 : decode cX4_letters 135 = .ok (.bipush 109, 2) := dk_16 109 (dk_at dksX4_letters_4 4 rfl rfl)
theorem dX4_letters_137 : decode cX4_letters 137 = .ok (.bipush 116, 2) := dk_16 116 (dk_at dksX4_letters_4 6 rfl rfl)
theorem dX4_letters_139 : decode cX4_letters 139 = .ok (.bipush 104, 2) := dk_16 104 (dk_at dksX4_letters_4 8 rfl rfl)
theorem dX4_letters_141 : decode cX4_letters 141 = .ok (.iconst 0, 1) := dk_3 (dk_at dksX4_letters_4 10 rfl rfl)
theorem dX4_letters_142 : decode cX4_letters 142 = .ok (.invokestatic 163, 3) := dk_184 0 163 (dk_at dksX4_letters_4 11 rfl rfl)
theorem dX4_letters_145 : decode cX4_letters 145 = .ok (.lreturn, 1) := dk_173 (dk_at dksX4_letters_4 14 rfl rfl)
theorem dX4_letters_146 : decode cX4_letters 146 = .ok (.bipush 102, 2) := dk_16 102 (dk_at dksX4_letters_4 15 rfl rfl)
theorem dX4_letters_148 : decode cX4_letters 148 = .ok (.bipush 114, 2) := dk_16 114 (dk_at dksX4_letters_4 17 rfl rfl)
theorem dX4_letters_150 : decode cX4_letters 150 = .ok (.bipush 105, 2) := dk_16 105 (dk_at dksX4_letters_4 19 rfl rfl)
theorem dX4_letters_152 : decode cX4_letters 152 = .ok (.bipush 101, 2) := dk_16 101 (dk_at dksX4_letters_4 21 rfl rfl)
theorem dX4_letters_154 : decode cX4_letters 154 = .ok (.bipush 110, 2) := dk_16 110 (dk_at dksX4_letters_5 0 rfl rfl)
theorem dX4_letters_156 : decode cX4_letters 156 = .ok (.bipush 100, 2) := dk_16 100 (dk_at dksX4_letters_5 2 rfl rfl)
theorem dX4_letters_158 : decode cX4_letters 158 = .ok (.bipush 115, 2) := dk_16 115 (dk_at dksX4_letters_5 4 rfl rfl)
theorem dX4_letters_160 : decode cX4_letters 160 = .ok (.invokestatic 163, 3) := dk_184 0 163 (dk_at dksX4_letters_5 6 rfl rfl)
theorem dX4_letters_163 : decode cX4_letters 163 = .ok (.lreturn, 1) := dk_173 (dk_at dksX4_letters_5 9 rfl rfl)
theorem dX4_letters_164 : decode cX4_letters 164 = .ok (.bipush 102, 2) := dk_16 102 (dk_at dksX4_letters_5 10 rfl rfl)
theorem dX4_letters_166 : decode cX4_letters 166 = .ok (.bipush 111, 2) := dk_16 111 (dk_at dksX4_letters_5 12 rfl rfl)
theorem dX4_letters_168 : decode cX4_letters 168 = .ok (.bipush 101, 2) := dk_16 101 (dk_at dksX4_letters_5 14 rfl rfl)
theorem dX4_letters_170 : decode cX4_letters 170 = .ok (.bipush 115, 2) := dk_16 115 (dk_at dksX4_letters_5 16 rfl rfl)
theorem dX4_letters_172 : decode cX4_letters 172 = .ok (.iconst 0, 1) := dk_3 (dk_at dksX4_letters_5 18 rfl rfl)
theorem dX4_letters_173 : decode cX4_letters 173 = .ok (.iconst 0, 1) := dk_3 (dk_at dksX4_letters_5 19 rfl rfl)
theorem dX4_letters_174 : decode cX4_letters 174 = .ok (.iconst 0, 1) := dk_3 (dk_at dksX4_letters_5 20 rfl rfl)
theorem dX4_letters_175 : decode cX4_letters 175 = .ok (.invokestatic 163, 3) := dk_184 0 163 (dk_at dksX4_letters_5 21 rfl rfl)
theorem dX4_letters_178 : decode cX4_letters 178 = .ok (.lreturn, 1) := dk_173 (dk_at dksX4_letters_6 0 rfl rfl)
theorem dX4_letters_179 : decode cX4_letters 179 = .ok (.bipush 107, 2) := dk_16 107 (dk_at dksX4_letters_6 1 rfl rfl)
theorem dX4_letters_181 : decode cX4_letters 181 = .ok (.bipush 105, 2) := dk_16 105 (dk_at dksX4_letters_6 3 rfl rfl)
theorem dX4_letters_183 : decode cX4_letters 183 = .ok (.bipush 110, 2) := dk_16 110 (dk_at dksX4_letters_6 5 rfl rfl)
theorem dX4_letters_185 : decode cX4_letters 185 = .ok (.bipush 100, 2) := dk_16 100 (dk_at dksX4_letters_6 7 rfl rfl)
theorem dX4_letters_187 : decode cX4_letters 187 = .ok (.iconst 0, 1) := dk_3 (dk_at dksX4_letters_6 9 rfl rfl)
theorem dX4_letters_188 : decode cX4_letters 188 = .ok (.iconst 0, 1) := dk_3 (dk_at dksX4_letters_6 10 rfl rfl)
theorem dX4_letters_189 : decode cX4_letters 189 = .ok (.iconst 0, 1) := dk_3 (dk_at dksX4_letters_6 11 rfl rfl)
theorem dX4_letters_190 : decode cX4_letters 190 = .ok (.invokestatic 163, 3) := dk_184 0 163 (dk_at dksX4_letters_6 12 rfl rfl)
theorem dX4_letters_193 : decode cX4_letters 193 = .ok (.lreturn, 1) := dk_173 (dk_at dksX4_letters_6 15 rfl rfl)
theorem dX4_letters_194 : decode cX4_letters 194 = .ok (.bipush 111, 2) := dk_16 111 (dk_at dksX4_letters_6 16 rfl rfl)
theorem dX4_letters_196 : decode cX4_letters 196 = .ok (.bipush 116, 2) := dk_16 116 (dk_at dksX4_letters_6 18 rfl rfl)
theorem dX4_letters_198 : decode cX4_letters 198 = .ok (.bipush 104, 2) := dk_16 104 (dk_at dksX4_letters_6 20 rfl rfl)
theorem dX4_letters_200 : decode cX4_letters 200 = .ok (.bipush 101, 2) := dk_16 101 (dk_at dksX4_letters_6 22 rfl rfl)
theorem dX4_letters_202 : decode cX4_letters 202 = .ok (.bipush 114, 2) := dk_16 114 (dk_at dksX4_letters_7 0 rfl rfl)
theorem dX4_letters_204 : decode cX4_letters 204 = .ok (.iconst 0, 1) := dk_3 (dk_at dksX4_letters_7 2 rfl rfl)
theorem dX4_letters_205 : decode cX4_letters 205 = .ok (.iconst 0, 1) := dk_3 (dk_at dksX4_letters_7 3 rfl rfl)
theorem dX4_letters_206 : decode cX4_letters 206 = .ok (.invokestatic 163, 3) := dk_184 0 163 (dk_at dksX4_letters_7 4 rfl rfl)
theorem dX4_letters_209 : decode cX4_letters 209 = .ok (.lreturn, 1) := dk_173 (dk_at dksX4_letters_7 7 rfl rfl)
theorem dX4_letters_210 : decode cX4_letters 210 = .ok (.bipush 99, 2) := dk_16 99 (dk_at dksX4_letters_7 8 rfl rfl)
theorem dX4_letters_212 : decode cX4_letters 212 = .ok (.bipush 101, 2) := dk_16 101 (dk_at dksX4_letters_7 10 rfl rfl)
theorem dX4_letters_214 : decode cX4_letters 214 = .ok (.bipush 108, 2) := dk_16 108 (dk_at dksX4_letters_7 12 rfl rfl)
theorem dX4_letters_216 : decode cX4_letters 216 = .ok (.bipush 108, 2) := dk_16 108 (dk_at dksX4_letters_7 14 rfl rfl)
theorem dX4_letters_218 : decode cX4_letters 218 = .ok (.bipush 97, 2) := dk_16 97 (dk_at dksX4_letters_7 16 rfl rfl)
theorem dX4_letters_220 : decode cX4_letters 220 = .ok (.bipush 114, 2) := dk_16 114 (dk_at dksX4_letters_7 18 rfl rfl)
theorem dX4_letters_222 : decode cX4_letters 222 = .ok (.iconst 0, 1) := dk_3 (dk_at dksX4_letters_7 20 rfl rfl)
theorem dX4_letters_223 : decode cX4_letters 223 = .ok (.invokestatic 163, 3) := dk_184 0 163 (dk_at dksX4_letters_7 21 rfl rfl)
theorem dX4_letters_226 : decode cX4_letters 226 = .ok (.lreturn, 1) := dk_173 (dk_at dksX4_letters_8 0 rfl rfl)
theorem dX4_letters_227 : decode cX4_letters 227 = .ok (.bipush 99, 2) := dk_16 99 (dk_at dksX4_letters_8 1 rfl rfl)
theorem dX4_letters_229 : decode cX4_letters 229 = .ok (.bipush 101, 2) := dk_16 101 (dk_at dksX4_letters_8 3 rfl rfl)
theorem dX4_letters_231 : decode cX4_letters 231 = .ok (.bipush 108, 2) := dk_16 108 (dk_at dksX4_letters_8 5 rfl rfl)
theorem dX4_letters_233 : decode cX4_letters 233 = .ok (.bipush 108, 2) := dk_16 108 (dk_at dksX4_letters_8 7 rfl rfl)
theorem dX4_letters_235 : decode cX4_letters 235 = .ok (.iconst 0, 1) := dk_3 (dk_at dksX4_letters_8 9 rfl rfl)
theorem dX4_letters_236 : decode cX4_letters 236 = .ok (.iconst 0, 1) := dk_3 (dk_at dksX4_letters_8 10 rfl rfl)
theorem dX4_letters_237 : decode cX4_letters 237 = .ok (.iconst 0, 1) := dk_3 (dk_at dksX4_letters_8 11 rfl rfl)
theorem dX4_letters_238 : decode cX4_letters 238 = .ok (.invokestatic 163, 3) := dk_184 0 163 (dk_at dksX4_letters_8 12 rfl rfl)
theorem dX4_letters_241 : decode cX4_letters 241 = .ok (.lreturn, 1) := dk_173 (dk_at dksX4_letters_8 15 rfl rfl)
theorem dX4_letters_242 : decode cX4_letters 242 = .ok (.bipush 109, 2) := dk_16 109 (dk_at dksX4_letters_8 16 rfl rfl)
theorem dX4_letters_244 : decode cX4_letters 244 = .ok (.bipush 111, 2) := dk_16 111 (dk_at dksX4_letters_8 18 rfl rfl)
theorem dX4_letters_246 : decode cX4_letters 246 = .ok (.bipush 117, 2) := dk_16 117 (dk_at dksX4_letters_8 20 rfl rfl)
theorem dX4_letters_248 : decode cX4_letters 248 = .ok (.bipush 108, 2) := dk_16 108 (dk_at dksX4_letters_8 22 rfl rfl)
theorem dX4_letters_250 : decode cX4_letters 250 = .ok (.bipush 100, 2) := dk_16 100 (dk_at dksX4_letters_9 0 rfl rfl)
theorem dX4_letters_252 : decode cX4_letters 252 = .ok (.iconst 0, 1) := dk_3 (dk_at dksX4_letters_9 2 rfl rfl)
theorem dX4_letters_253 : decode cX4_letters 253 = .ok (.iconst 0, 1) := dk_3 (dk_at dksX4_letters_9 3 rfl rfl)
theorem dX4_letters_254 : decode cX4_letters 254 = .ok (.invokestatic 163, 3) := dk_184 0 163 (dk_at dksX4_letters_9 4 rfl rfl)
theorem dX4_letters_257 : decode cX4_letters 257 = .ok (.lreturn, 1) := dk_173 (dk_at dksX4_letters_9 7 rfl rfl)
theorem dX4_letters_258 : decode cX4_letters 258 = .ok (.bipush 97, 2) := dk_16 97 (dk_at dksX4_letters_9 8 rfl rfl)
theorem dX4_letters_260 : decode cX4_letters 260 = .ok (.bipush 103, 2) := dk_16 103 (dk_at dksX4_letters_9 10 rfl rfl)
theorem dX4_letters_262 : decode cX4_letters 262 = .ok (.bipush 101, 2) := dk_16 101 (dk_at dksX4_letters_9 12 rfl rfl)
theorem dX4_letters_264 : decode cX4_letters 264 = .ok (.iconst 0, 1) := dk_3 (dk_at dksX4_letters_9 14 rfl rfl)
theorem dX4_letters_265 : decode cX4_letters 265 = .ok (.iconst 0, 1) := dk_3 (dk_at dksX4_letters_9 15 rfl rfl)
theorem dX4_letters_266 : decode cX4_letters 266 = .ok (.iconst 0, 1) := dk_3 (dk_at dksX4_letters_9 16 rfl rfl)
theorem dX4_letters_267 : decode cX4_letters 267 = .ok (.iconst 0, 1) := dk_3 (dk_at dksX4_letters_9 17 rfl rfl)
theorem dX4_letters_268 : decode cX4_letters 268 = .ok (.invokestatic 163, 3) := dk_184 0 163 (dk_at dksX4_letters_9 18 rfl rfl)
theorem dX4_letters_271 : decode cX4_letters 271 = .ok (.lreturn, 1) := dk_173 (dk_at dksX4_letters_9 21 rfl rfl)
theorem dX4_letters_272 : decode cX4_letters 272 = .ok (.bipush 115, 2) := dk_16 115 (dk_at dksX4_letters_9 22 rfl rfl)
theorem dX4_letters_274 : decode cX4_letters 274 = .ok (.bipush 112, 2) := dk_16 112 (dk_at dksX4_letters_10 0 rfl rfl)
theorem dX4_letters_276 : decode cX4_letters 276 = .ok (.bipush 111, 2) := dk_16 111 (dk_at dksX4_letters_10 2 rfl rfl)
theorem dX4_letters_278 : decode cX4_letters 278 = .ok (.bipush 114, 2) := dk_16 114 (dk_at dksX4_letters_10 4 rfl rfl)
theorem dX4_letters_280 : decode cX4_letters 280 = .ok (.bipush 101, 2) := dk_16 101 (dk_at dksX4_letters_10 6 rfl rfl)
theorem dX4_letters_282 : decode cX4_letters 282 = .ok (.bipush 115, 2) := dk_16 115 (dk_at dksX4_letters_10 8 rfl rfl)
theorem dX4_letters_284 : decode cX4_letters 284 = .ok (.iconst 0, 1) := dk_3 (dk_at dksX4_letters_10 10 rfl rfl)
theorem dX4_letters_285 : decode cX4_letters 285 = .ok (.invokestatic 163, 3) := dk_184 0 163 (dk_at dksX4_letters_10 11 rfl rfl)
theorem dX4_letters_288 : decode cX4_letters 288 = .ok (.lreturn, 1) := dk_173 (dk_at dksX4_letters_10 14 rfl rfl)
theorem dX4_letters_289 : decode cX4_letters 289 = .ok (.bipush 103, 2) := dk_16 103 (dk_at dksX4_letters_10 15 rfl rfl)
theorem dX4_letters_291 : decode cX4_letters 291 = .ok (.bipush 114, 2) := dk_16 114 (dk_at dksX4_letters_10 17 rfl rfl)
theorem dX4_letters_293 : decode cX4_letters 293 = .ok (.bipush 111, 2) := dk_16 111 (dk_at dksX4_letters_10 19 rfl rfl)
theorem dX4_letters_295 : decode cX4_letters 295 = .ok (.bipush 119, 2) := dk_16 119 (dk_at dksX4_letters_10 21 rfl rfl)
theorem dX4_letters_297 : decode cX4_letters 297 = .ok (.bipush 115, 2) := dk_16 115 (dk_at dksX4_letters_11 0 rfl rfl)
theorem dX4_letters_299 : decode cX4_letters 299 = .ok (.iconst 0, 1) := dk_3 (dk_at dksX4_letters_11 2 rfl rfl)
theorem dX4_letters_300 : decode cX4_letters 300 = .ok (.iconst 0, 1) := dk_3 (dk_at dksX4_letters_11 3 rfl rfl)
theorem dX4_letters_301 : decode cX4_letters 301 = .ok (.invokestatic 163, 3) := dk_184 0 163 (dk_at dksX4_letters_11 4 rfl rfl)
theorem dX4_letters_304 : decode cX4_letters 304 = .ok (.lreturn, 1) := dk_173 (dk_at dksX4_letters_11 7 rfl rfl)
theorem dX4_letters_305 : decode cX4_letters 305 = .ok (.bipush 98, 2) := dk_16 98 (dk_at dksX4_letters_11 8 rfl rfl)
theorem dX4_letters_307 : decode cX4_letters 307 = .ok (.bipush 101, 2) := dk_16 101 (dk_at dksX4_letters_11 10 rfl rfl)
theorem dX4_letters_309 : decode cX4_letters 309 = .ok (.bipush 97, 2) := dk_16 97 (dk_at dksX4_letters_11 12 rfl rfl)
theorem dX4_letters_311 : decode cX4_letters 311 = .ok (.bipush 116, 2) := dk_16 116 (dk_at dksX4_letters_11 14 rfl rfl)
theorem dX4_letters_313 : decode cX4_letters 313 = .ok (.bipush 115, 2) := dk_16 115 (dk_at dksX4_letters_11 16 rfl rfl)
theorem dX4_letters_315 : decode cX4_letters 315 = .ok (.iconst 0, 1) := dk_3 (dk_at dksX4_letters_11 18 rfl rfl)
theorem dX4_letters_316 : decode cX4_letters 316 = .ok (.iconst 0, 1) := dk_3 (dk_at dksX4_letters_11 19 rfl rfl)
theorem dX4_letters_317 : decode cX4_letters 317 = .ok (.invokestatic 163, 3) := dk_184 0 163 (dk_at dksX4_letters_11 20 rfl rfl)
theorem dX4_letters_320 : decode cX4_letters 320 = .ok (.lreturn, 1) := dk_173 (dk_at dksX4_letters_11 23 rfl rfl)
theorem dX4_letters_321 : decode cX4_letters 321 = .ok (.bipush 97, 2) := dk_16 97 (dk_at dksX4_letters_12 0 rfl rfl)
theorem dX4_letters_323 : decode cX4_letters 323 = .ok (.bipush 110, 2) := dk_16 110 (dk_at dksX4_letters_12 2 rfl rfl)
theorem dX4_letters_325 : decode cX4_letters 325 = .ok (.bipush 100, 2) := dk_16 100 (dk_at dksX4_letters_12 4 rfl rfl)
theorem dX4_letters_327 : decode cX4_letters 327 = .ok (.iconst 0, 1) := dk_3 (dk_at dksX4_letters_12 6 rfl rfl)
theorem dX4_letters_328 : decode cX4_letters 328 = .ok (.iconst 0, 1) := dk_3 (dk_at dksX4_letters_12 7 rfl rfl)
theorem dX4_letters_329 : decode cX4_letters 329 = .ok (.iconst 0, 1) := dk_3 (dk_at dksX4_letters_12 8 rfl rfl)
theorem dX4_letters_330 : decode cX4_letters 330 = .ok (.iconst 0, 1) := dk_3 (dk_at dksX4_letters_12 9 rfl rfl)
theorem dX4_letters_331 : decode cX4_letters 331 = .ok (.invokestatic 163, 3) := dk_184 0 163 (dk_at dksX4_letters_12 10 rfl rfl)
theorem dX4_letters_334 : decode cX4_letters 334 = .ok (.lreturn, 1) := dk_173 (dk_at dksX4_letters_12 13 rfl rfl)
theorem dX4_letters_335 : decode cX4_letters 335 = .ok (.bipush 111, 2) := dk_16 111 (dk_at dksX4_letters_12 14 rfl rfl)
theorem dX4_letters_337 : decode cX4_letters 337 = .ok (.bipush 114, 2) := dk_16 114 (dk_at dksX4_letters_12 16 rfl rfl)
theorem dX4_letters_339 : decode cX4_letters 339 = .ok (.iconst 0, 1) := dk_3 (dk_at dksX4_letters_12 18 rfl rfl)
theorem dX4_letters_340 : decode cX4_letters 340 = .ok (.iconst 0, 1) := dk_3 (dk_at dksX4_letters_12 19 rfl rfl)
theorem dX4_letters_341 : decode cX4_letters 341 = .ok (.iconst 0, 1) := dk_3 (dk_at dksX4_letters_12 20 rfl rfl)
theorem dX4_letters_342 : decode cX4_letters 342 = .ok (.iconst 0, 1) := dk_3 (dk_at dksX4_letters_12 21 rfl rfl)
theorem dX4_letters_343 : decode cX4_letters 343 = .ok (.iconst 0, 1) := dk_3 (dk_at dksX4_letters_12 22 rfl rfl)
theorem dX4_letters_344 : decode cX4_letters 344 = .ok (.invokestatic 163, 3) := dk_184 0 163 (dk_at dksX4_letters_13 0 rfl rfl)
theorem dX4_letters_347 : decode cX4_letters 347 = .ok (.lreturn, 1) := dk_173 (dk_at dksX4_letters_13 3 rfl rfl)
theorem dX4_letters_348 : decode cX4_letters 348 = .ok (.bipush 110, 2) := dk_16 110 (dk_at dksX4_letters_13 4 rfl rfl)
theorem dX4_letters_350 : decode cX4_letters 350 = .ok (.bipush 111, 2) := dk_16 111 (dk_at dksX4_letters_13 6 rfl rfl)
theorem dX4_letters_352 : decode cX4_letters 352 = .ok (.bipush 116, 2) := dk_16 116 (dk_at dksX4_letters_13 8 rfl rfl)
theorem dX4_letters_354 : decode cX4_letters 354 = .ok (.iconst 0, 1) := dk_3 (dk_at dksX4_letters_13 10 rfl rfl)
theorem dX4_letters_355 : decode cX4_letters 355 = .ok (.iconst 0, 1) := dk_3 (dk_at dksX4_letters_13 11 rfl rfl)
theorem dX4_letters_356 : decode cX4_letters 356 = .ok (.iconst 0, 1) := dk_3 (dk_at dksX4_letters_13 12 rfl rfl)
theorem dX4_letters_357 : decode cX4_letters 357 = .ok (.iconst 0, 1) := dk_3 (dk_at dksX4_letters_13 13 rfl rfl)
theorem dX4_letters_358 : decode cX4_letters 358 = .ok (.invokestatic 163, 3) := dk_184 0 163 (dk_at dksX4_letters_13 14 rfl rfl)
theorem dX4_letters_361 : decode cX4_letters 361 = .ok (.lreturn, 1) := dk_173 (dk_at dksX4_letters_13 17 rfl rfl)
abbrev mX4_letters : xM := (yX4_letters, cX4_letters, 1, (some .long), [])
def m_letters (x0 : Int32) : Option Int64 :=
  if x0 = (0 : Int32) then
    (m_spelled ((115 : Int32)) ((105 : Int32)) ((122 : Int32)) ((101 : Int32)) ((0 : Int32)) ((0 : Int32)) ((0 : Int32))).bind fun q95 =>
    some q95
  else
  if x0 = (1 : Int32) then
    (m_spelled ((100 : Int32)) ((97 : Int32)) ((109 : Int32)) ((112 : Int32)) ((0 : Int32)) ((0 : Int32)) ((0 : Int32))).bind fun q110 =>
    some q110
  else
  if x0 = (2 : Int32) then
    (m_spelled ((102 : Int32)) ((111 : Int32)) ((111 : Int32)) ((100 : Int32)) ((0 : Int32)) ((0 : Int32)) ((0 : Int32))).bind fun q125 =>
    some q125
  else
  if x0 = (3 : Int32) then
    (m_spelled ((119 : Int32)) ((97 : Int32)) ((114 : Int32)) ((109 : Int32)) ((116 : Int32)) ((104 : Int32)) ((0 : Int32))).bind fun q142 =>
    some q142
  else
  if x0 = (4 : Int32) then
    (m_spelled ((102 : Int32)) ((114 : Int32)) ((105 : Int32)) ((101 : Int32)) ((110 : Int32)) ((100 : Int32)) ((115 : Int32))).bind fun q160 =>
    some q160
  else
  if x0 = (5 : Int32) then
    (m_spelled ((102 : Int32)) ((111 : Int32)) ((101 : Int32)) ((115 : Int32)) ((0 : Int32)) ((0 : Int32)) ((0 : Int32))).bind fun q175 =>
    some q175
  else
  if x0 = (6 : Int32) then
    (m_spelled ((107 : Int32)) ((105 : Int32)) ((110 : Int32)) ((100 : Int32)) ((0 : Int32)) ((0 : Int32)) ((0 : Int32))).bind fun q190 =>
    some q190
  else
  if x0 = (7 : Int32) then
    (m_spelled ((111 : Int32)) ((116 : Int32)) ((104 : Int32)) ((101 : Int32)) ((114 : Int32)) ((0 : Int32)) ((0 : Int32))).bind fun q206 =>
    some q206
  else
  if x0 = (8 : Int32) then
    (m_spelled ((99 : Int32)) ((101 : Int32)) ((108 : Int32)) ((108 : Int32)) ((97 : Int32)) ((114 : Int32)) ((0 : Int32))).bind fun q223 =>
    some q223
  else
  if x0 = (9 : Int32) then
    (m_spelled ((99 : Int32)) ((101 : Int32)) ((108 : Int32)) ((108 : Int32)) ((0 : Int32)) ((0 : Int32)) ((0 : Int32))).bind fun q238 =>
    some q238
  else
  if x0 = (10 : Int32) then
    (m_spelled ((109 : Int32)) ((111 : Int32)) ((117 : Int32)) ((108 : Int32)) ((100 : Int32)) ((0 : Int32)) ((0 : Int32))).bind fun q254 =>
    some q254
  else
  if x0 = (11 : Int32) then
    (m_spelled ((97 : Int32)) ((103 : Int32)) ((101 : Int32)) ((0 : Int32)) ((0 : Int32)) ((0 : Int32)) ((0 : Int32))).bind fun q268 =>
    some q268
  else
  if x0 = (12 : Int32) then
    (m_spelled ((115 : Int32)) ((112 : Int32)) ((111 : Int32)) ((114 : Int32)) ((101 : Int32)) ((115 : Int32)) ((0 : Int32))).bind fun q285 =>
    some q285
  else
  if x0 = (13 : Int32) then
    (m_spelled ((103 : Int32)) ((114 : Int32)) ((111 : Int32)) ((119 : Int32)) ((115 : Int32)) ((0 : Int32)) ((0 : Int32))).bind fun q301 =>
    some q301
  else
  if x0 = (14 : Int32) then
    (m_spelled ((98 : Int32)) ((101 : Int32)) ((97 : Int32)) ((116 : Int32)) ((115 : Int32)) ((0 : Int32)) ((0 : Int32))).bind fun q317 =>
    some q317
  else
  if x0 = (15 : Int32) then
    (m_spelled ((97 : Int32)) ((110 : Int32)) ((100 : Int32)) ((0 : Int32)) ((0 : Int32)) ((0 : Int32)) ((0 : Int32))).bind fun q331 =>
    some q331
  else
  if x0 = (16 : Int32) then
    (m_spelled ((111 : Int32)) ((114 : Int32)) ((0 : Int32)) ((0 : Int32)) ((0 : Int32)) ((0 : Int32)) ((0 : Int32))).bind fun q344 =>
    some q344
  else
    (m_spelled ((110 : Int32)) ((111 : Int32)) ((116 : Int32)) ((0 : Int32)) ((0 : Int32)) ((0 : Int32)) ((0 : Int32))).bind fun q358 =>
    some q358
theorem w_letters {G : xG} {x0 : Int32} {q : Int64} (hf : m_letters x0 = some q) : CtP G mX4_letters 2 [.int x0] (some (.long q)) := by
  intro T
  refine Ct.of (by decide +kernel) rfl (Nat.le_of_ble_eq_true rfl) (show Xr G _ 0 [(0, .int x0)] [] _ from ?_)
  unfold m_letters at hf
  refine X.iload_n dX4_letters_0 rfl 0 rfl ?_
  by_cases c1_0 : x0 = (0 : Int32)
  · have hf := if_t c1_0 hf
    refine X.tableC (tgt := 84) c1_0 dX4_letters_1 (by decide) (by decide) rfl (by decide) ?_
    refine X.bipush (v := 115) dX4_letters_84 (by decide) ?_
    refine X.bipush (v := 105) dX4_letters_86 (by decide) ?_
    refine X.bipush (v := 122) dX4_letters_88 (by decide) ?_
    refine X.bipush (v := 101) dX4_letters_90 (by decide) ?_
    refine X.iconst (v := 0) dX4_letters_92 (by decide) ?_
    refine X.iconst (v := 0) dX4_letters_93 (by decide) ?_
    refine X.iconst (v := 0) dX4_letters_94 (by decide) ?_
    obtain ⟨q95, h95, hf⟩ := ob hf
    refine X.callSl (As := [.int (115 : Int32), .int (105 : Int32), .int (122 : Int32), .int (101 : Int32), .int (0 : Int32), .int (0 : Int32), .int (0 : Int32)]) (rest := []) dX4_letters_95 (w_spelled h95 _) cX4_163 rfl rfl (Nat.le_of_ble_eq_true rfl) (xD (Nat.le_of_ble_eq_true rfl)) xle.rf xle.rf ?_
    obtain rfl := Option.some.inj hf
    exact X.lret dX4_letters_98 rfl rfl
  have hf := if_f c1_0 hf
  by_cases c1_1 : x0 = (1 : Int32)
  · have hf := if_t c1_1 hf
    refine X.tableC (tgt := 99) c1_1 dX4_letters_1 (by decide) (by decide) rfl (by decide) ?_
    refine X.bipush (v := 100) dX4_letters_99 (by decide) ?_
    refine X.bipush (v := 97) dX4_letters_101 (by decide) ?_
    refine X.bipush (v := 109) dX4_letters_103 (by decide) ?_
    refine X.bipush (v := 112) dX4_letters_105 (by decide) ?_
    refine X.iconst (v := 0) dX4_letters_107 (by decide) ?_
    refine X.iconst (v := 0) dX4_letters_108 (by decide) ?_
    refine X.iconst (v := 0) dX4_letters_109 (by decide) ?_
    obtain ⟨q110, h110, hf⟩ := ob hf
    refine X.callSl (As := [.int (100 : Int32), .int (97 : Int32), .int (109 : Int32), .int (112 : Int32), .int (0 : Int32), .int (0 : Int32), .int (0 : Int32)]) (rest := []) dX4_letters_110 (w_spelled h110 _) cX4_163 rfl rfl (Nat.le_of_ble_eq_true rfl) (xD (Nat.le_of_ble_eq_true rfl)) xle.rf xle.rf ?_
    obtain rfl := Option.some.inj hf
    exact X.lret dX4_letters_113 rfl rfl
  have hf := if_f c1_1 hf
  by_cases c1_2 : x0 = (2 : Int32)
  · have hf := if_t c1_2 hf
    refine X.tableC (tgt := 114) c1_2 dX4_letters_1 (by decide) (by decide) rfl (by decide) ?_
    refine X.bipush (v := 102) dX4_letters_114 (by decide) ?_
    refine X.bipush (v := 111) dX4_letters_116 (by decide) ?_
    refine X.bipush (v := 111) dX4_letters_118 (by decide) ?_
    refine X.bipush (v := 100) dX4_letters_120 (by decide) ?_
    refine X.iconst (v := 0) dX4_letters_122 (by decide) ?_
    refine X.iconst (v := 0) dX4_letters_123 (by decide) ?_
    refine X.iconst (v := 0) dX4_letters_124 (by decide) ?_
    obtain ⟨q125, h125, hf⟩ := ob hf
    refine X.callSl (As := [.int (102 : Int32), .int (111 : Int32), .int (111 : Int32), .int (100 : Int32), .int (0 : Int32), .int (0 : Int32), .int (0 : Int32)]) (rest := []) dX4_letters_125 (w_spelled h125 _) cX4_163 rfl rfl (Nat.le_of_ble_eq_true rfl) (xD (Nat.le_of_ble_eq_true rfl)) xle.rf xle.rf ?_
    obtain rfl := Option.some.inj hf
    exact X.lret dX4_letters_128 rfl rfl
  have hf := if_f c1_2 hf
  by_cases c1_3 : x0 = (3 : Int32)
  · have hf := if_t c1_3 hf
    refine X.tableC (tgt := 129) c1_3 dX4_letters_1 (by decide) (by decide) rfl (by decide) ?_
    refine X.bipush (v := 119) dX4_letters_129 (by decide) ?_
    refine X.bipush (v := 97) dX4_letters_131 (by decide) ?_
    refine X.bipush (v := 114) dX4_letters_133 (by decide) ?_
    refine X.bipush (v := 109) dX4_letters_135 (by decide) ?_
    refine X.bipush (v := 116) dX4_letters_137 (by decide) ?_
    refine X.bipush (v := 104) dX4_letters_139 (by decide) ?_
    refine X.iconst (v := 0) dX4_letters_141 (by decide) ?_
    obtain ⟨q142, h142, hf⟩ := ob hf
    refine X.callSl (As := [.int (119 : Int32), .int (97 : Int32), .int (114 : Int32), .int (109 : Int32), .int (116 : Int32), .int (104 : Int32), .int (0 : Int32)]) (rest := []) dX4_letters_142 (w_spelled h142 _) cX4_163 rfl rfl (Nat.le_of_ble_eq_true rfl) (xD (Nat.le_of_ble_eq_true rfl)) xle.rf xle.rf ?_
    obtain rfl := Option.some.inj hf
    exact X.lret dX4_letters_145 rfl rfl
  have hf := if_f c1_3 hf
  by_cases c1_4 : x0 = (4 : Int32)
  · have hf := if_t c1_4 hf
    refine X.tableC (tgt := 146) c1_4 dX4_letters_1 (by decide) (by decide) rfl (by decide) ?_
    refine X.bipush (v := 102) dX4_letters_146 (by decide) ?_
    refine X.bipush (v := 114) dX4_letters_148 (by decide) ?_
    refine X.bipush (v := 105) dX4_letters_150 (by decide) ?_
    refine X.bipush (v := 101) dX4_letters_152 (by decide) ?_
    refine X.bipush (v := 110) dX4_letters_154 (by decide) ?_
    refine X.bipush (v := 100) dX4_letters_156 (by decide) ?_
    refine X.bipush (v := 115) dX4_letters_158 (by decide) ?_
    obtain ⟨q160, h160, hf⟩ := ob hf
    refine X.callSl (As := [.int (102 : Int32), .int (114 : Int32), .int (105 : Int32), .int (101 : Int32), .int (110 : Int32), .int (100 : Int32), .int (115 : Int32)]) (rest := []) dX4_letters_160 (w_spelled h160 _) cX4_163 rfl rfl (Nat.le_of_ble_eq_true rfl) (xD (Nat.le_of_ble_eq_true rfl)) xle.rf xle.rf ?_
    obtain rfl := Option.some.inj hf
    exact X.lret dX4_letters_163 rfl rfl
  have hf := if_f c1_4 hf
  by_cases c1_5 : x0 = (5 : Int32)
  · have hf := if_t c1_5 hf
    refine X.tableC (tgt := 164) c1_5 dX4_letters_1 (by decide) (by decide) rfl (by decide) ?_
    refine X.bipush (v := 102) dX4_letters_164 (by decide) ?_
    refine X.bipush (v := 111) dX4_letters_166 (by decide) ?_
    refine X.bipush (v := 101) dX4_letters_168 (by decide) ?_
    refine X.bipush (v := 115) dX4_letters_170 (by decide) ?_
    refine X.iconst (v := 0) dX4_letters_172 (by decide) ?_
    refine X.iconst (v := 0) dX4_letters_173 (by decide) ?_
    refine X.iconst (v := 0) dX4_letters_174 (by decide) ?_
    obtain ⟨q175, h175, hf⟩ := ob hf
    refine X.callSl (As := [.int (102 : Int32), .int (111 : Int32), .int (101 : Int32), .int (115 : Int32), .int (0 : Int32), .int (0 : Int32), .int (0 : Int32)]) (rest := []) dX4_letters_175 (w_spelled h175 _) cX4_163 rfl rfl (Nat.le_of_ble_eq_true rfl) (xD (Nat.le_of_ble_eq_true rfl)) xle.rf xle.rf ?_
    obtain rfl := Option.some.inj hf
    exact X.lret dX4_letters_178 rfl rfl
  have hf := if_f c1_5 hf
  by_cases c1_6 : x0 = (6 : Int32)
  · have hf := if_t c1_6 hf
    refine X.tableC (tgt := 179) c1_6 dX4_letters_1 (by decide) (by decide) rfl (by decide) ?_
    refine X.bipush (v := 107) dX4_letters_179 (by decide) ?_
    refine X.bipush (v := 105) dX4_letters_181 (by decide) ?_
    refine X.bipush (v := 110) dX4_letters_183 (by decide) ?_
    refine X.bipush (v := 100) dX4_letters_185 (by decide) ?_
    refine X.iconst (v := 0) dX4_letters_187 (by decide) ?_
    refine X.iconst (v := 0) dX4_letters_188 (by decide) ?_
    refine X.iconst (v := 0) dX4_letters_189 (by decide) ?_
    obtain ⟨q190, h190, hf⟩ := ob hf
    refine X.callSl (As := [.int (107 : Int32), .int (105 : Int32), .int (110 : Int32), .int (100 : Int32), .int (0 : Int32), .int (0 : Int32), .int (0 : Int32)]) (rest := []) dX4_letters_190 (w_spelled h190 _) cX4_163 rfl rfl (Nat.le_of_ble_eq_true rfl) (xD (Nat.le_of_ble_eq_true rfl)) xle.rf xle.rf ?_
    obtain rfl := Option.some.inj hf
    exact X.lret dX4_letters_193 rfl rfl
  have hf := if_f c1_6 hf
  by_cases c1_7 : x0 = (7 : Int32)
  · have hf := if_t c1_7 hf
    refine X.tableC (tgt := 194) c1_7 dX4_letters_1 (by decide) (by decide) rfl (by decide) ?_
    refine X.bipush (v := 111) dX4_letters_194 (by decide) ?_
    refine X.bipush (v := 116) dX4_letters_196 (by decide) ?_
    refine X.bipush (v := 104) dX4_letters_198 (by decide) ?_
    refine X.bipush (v := 101) dX4_letters_200 (by decide) ?_
    refine X.bipush (v := 114) dX4_letters_202 (by decide) ?_
    refine X.iconst (v := 0) dX4_letters_204 (by decide) ?_
    refine X.iconst (v := 0) dX4_letters_205 (by decide) ?_
    obtain ⟨q206, h206, hf⟩ := ob hf
    refine X.callSl (As := [.int (111 : Int32), .int (116 : Int32), .int (104 : Int32), .int (101 : Int32), .int (114 : Int32), .int (0 : Int32), .int (0 : Int32)]) (rest := []) dX4_letters_206 (w_spelled h206 _) cX4_163 rfl rfl (Nat.le_of_ble_eq_true rfl) (xD (Nat.le_of_ble_eq_true rfl)) xle.rf xle.rf ?_
    obtain rfl := Option.some.inj hf
    exact X.lret dX4_letters_209 rfl rfl
  have hf := if_f c1_7 hf
  by_cases c1_8 : x0 = (8 : Int32)
  · have hf := if_t c1_8 hf
    refine X.tableC (tgt := 210) c1_8 dX4_letters_1 (by decide) (by decide) rfl (by decide) ?_
    refine X.bipush (v := 99) dX4_letters_210 (by decide) ?_
    refine X.bipush (v := 101) dX4_letters_212 (by decide) ?_
    refine X.bipush (v := 108) dX4_letters_214 (by decide) ?_
    refine X.bipush (v := 108) dX4_letters_216 (by decide) ?_
    refine X.bipush (v := 97) dX4_letters_218 (by decide) ?_
    refine X.bipush (v := 114) dX4_letters_220 (by decide) ?_
    refine X.iconst (v := 0) dX4_letters_222 (by decide) ?_
    obtain ⟨q223, h223, hf⟩ := ob hf
    refine X.callSl (As := [.int (99 : Int32), .int (101 : Int32), .int (108 : Int32), .int (108 : Int32), .int (97 : Int32), .int (114 : Int32), .int (0 : Int32)]) (rest := []) dX4_letters_223 (w_spelled h223 _) cX4_163 rfl rfl (Nat.le_of_ble_eq_true rfl) (xD (Nat.le_of_ble_eq_true rfl)) xle.rf xle.rf ?_
    obtain rfl := Option.some.inj hf
    exact X.lret dX4_letters_226 rfl rfl
  have hf := if_f c1_8 hf
  by_cases c1_9 : x0 = (9 : Int32)
  · have hf := if_t c1_9 hf
    refine X.tableC (tgt := 227) c1_9 dX4_letters_1 (by decide) (by decide) rfl (by decide) ?_
    refine X.bipush (v := 99) dX4_letters_227 (by decide) ?_
    refine X.bipush (v := 101) dX4_letters_229 (by decide) ?_
    refine X.bipush (v := 108) dX4_letters_231 (by decide) ?_
    refine X.bipush (v := 108) dX4_letters_233 (by decide) ?_
    refine X.iconst (v := 0) dX4_letters_235 (by decide) ?_
    refine X.iconst (v := 0) dX4_letters_236 (by decide) ?_
    refine X.iconst (v := 0) dX4_letters_237 (by decide) ?_
    obtain ⟨q238, h238, hf⟩ := ob hf
    refine X.callSl (As := [.int (99 : Int32), .int (101 : Int32), .int (108 : Int32), .int (108 : Int32), .int (0 : Int32), .int (0 : Int32), .int (0 : Int32)]) (rest := []) dX4_letters_238 (w_spelled h238 _) cX4_163 rfl rfl (Nat.le_of_ble_eq_true rfl) (xD (Nat.le_of_ble_eq_true rfl)) xle.rf xle.rf ?_
    obtain rfl := Option.some.inj hf
    exact X.lret dX4_letters_241 rfl rfl
  have hf := if_f c1_9 hf
  by_cases c1_10 : x0 = (10 : Int32)
  · have hf := if_t c1_10 hf
    refine X.tableC (tgt := 242) c1_10 dX4_letters_1 (by decide) (by decide) rfl (by decide) ?_
    refine X.bipush (v := 109) dX4_letters_242 (by decide) ?_
    refine X.bipush (v := 111) dX4_letters_244 (by decide) ?_
    refine X.bipush (v := 117) dX4_letters_246 (by decide) ?_
    refine X.bipush (v := 108) dX4_letters_248 (by decide) ?_
    refine X.bipush (v := 100) dX4_letters_250 (by decide) ?_
    refine X.iconst (v := 0) dX4_letters_252 (by decide) ?_
    refine X.iconst (v := 0) dX4_letters_253 (by decide) ?_
    obtain ⟨q254, h254, hf⟩ := ob hf
    refine X.callSl (As := [.int (109 : Int32), .int (111 : Int32), .int (117 : Int32), .int (108 : Int32), .int (100 : Int32), .int (0 : Int32), .int (0 : Int32)]) (rest := []) dX4_letters_254 (w_spelled h254 _) cX4_163 rfl rfl (Nat.le_of_ble_eq_true rfl) (xD (Nat.le_of_ble_eq_true rfl)) xle.rf xle.rf ?_
    obtain rfl := Option.some.inj hf
    exact X.lret dX4_letters_257 rfl rfl
  have hf := if_f c1_10 hf
  by_cases c1_11 : x0 = (11 : Int32)
  · have hf := if_t c1_11 hf
    refine X.tableC (tgt := 258) c1_11 dX4_letters_1 (by decide) (by decide) rfl (by decide) ?_
    refine X.bipush (v := 97) dX4_letters_258 (by decide) ?_
    refine X.bipush (v := 103) dX4_letters_260 (by decide) ?_
    refine X.bipush (v := 101) dX4_letters_262 (by decide) ?_
    refine X.iconst (v := 0) dX4_letters_264 (by decide) ?_
    refine X.iconst (v := 0) dX4_letters_265 (by decide) ?_
    refine X.iconst (v := 0) dX4_letters_266 (by decide) ?_
    refine X.iconst (v := 0) dX4_letters_267 (by decide) ?_
    obtain ⟨q268, h268, hf⟩ := ob hf
    refine X.callSl (As := [.int (97 : Int32), .int (103 : Int32), .int (101 : Int32), .int (0 : Int32), .int (0 : Int32), .int (0 : Int32), .int (0 : Int32)]) (rest := []) dX4_letters_268 (w_spelled h268 _) cX4_163 rfl rfl (Nat.le_of_ble_eq_true rfl) (xD (Nat.le_of_ble_eq_true rfl)) xle.rf xle.rf ?_
    obtain rfl := Option.some.inj hf
    exact X.lret dX4_letters_271 rfl rfl
  have hf := if_f c1_11 hf
  by_cases c1_12 : x0 = (12 : Int32)
  · have hf := if_t c1_12 hf
    refine X.tableC (tgt := 272) c1_12 dX4_letters_1 (by decide) (by decide) rfl (by decide) ?_
    refine X.bipush (v := 115) dX4_letters_272 (by decide) ?_
    refine X.bipush (v := 112) dX4_letters_274 (by decide) ?_
    refine X.bipush (v := 111) dX4_letters_276 (by decide) ?_
    refine X.bipush (v := 114) dX4_letters_278 (by decide) ?_
    refine X.bipush (v := 101) dX4_letters_280 (by decide) ?_
    refine X.bipush (v := 115) dX4_letters_282 (by decide) ?_
    refine X.iconst (v := 0) dX4_letters_284 (by decide) ?_
    obtain ⟨q285, h285, hf⟩ := ob hf
    refine X.callSl (As := [.int (115 : Int32), .int (112 : Int32), .int (111 : Int32), .int (114 : Int32), .int (101 : Int32), .int (115 : Int32), .int (0 : Int32)]) (rest := []) dX4_letters_285 (w_spelled h285 _) cX4_163 rfl rfl (Nat.le_of_ble_eq_true rfl) (xD (Nat.le_of_ble_eq_true rfl)) xle.rf xle.rf ?_
    obtain rfl := Option.some.inj hf
    exact X.lret dX4_letters_288 rfl rfl
  have hf := if_f c1_12 hf
  by_cases c1_13 : x0 = (13 : Int32)
  · have hf := if_t c1_13 hf
    refine X.tableC (tgt := 289) c1_13 dX4_letters_1 (by decide) (by decide) rfl (by decide) ?_
    refine X.bipush (v := 103) dX4_letters_289 (by decide) ?_
    refine X.bipush (v := 114) dX4_letters_291 (by decide) ?_
    refine X.bipush (v := 111) dX4_letters_293 (by decide) ?_
    refine X.bipush (v := 119) dX4_letters_295 (by decide) ?_
    refine X.bipush (v := 115) dX4_letters_297 (by decide) ?_
    refine X.iconst (v := 0) dX4_letters_299 (by decide) ?_
    refine X.iconst (v := 0) dX4_letters_300 (by decide) ?_
    obtain ⟨q301, h301, hf⟩ := ob hf
    refine X.callSl (As := [.int (103 : Int32), .int (114 : Int32), .int (111 : Int32), .int (119 : Int32), .int (115 : Int32), .int (0 : Int32), .int (0 : Int32)]) (rest := []) dX4_letters_301 (w_spelled h301 _) cX4_163 rfl rfl (Nat.le_of_ble_eq_true rfl) (xD (Nat.le_of_ble_eq_true rfl)) xle.rf xle.rf ?_
    obtain rfl := Option.some.inj hf
    exact X.lret dX4_letters_304 rfl rfl
  have hf := if_f c1_13 hf
  by_cases c1_14 : x0 = (14 : Int32)
  · have hf := if_t c1_14 hf
    refine X.tableC (tgt := 305) c1_14 dX4_letters_1 (by decide) (by decide) rfl (by decide) ?_
    refine X.bipush (v := 98) dX4_letters_305 (by decide) ?_
    refine X.bipush (v := 101) dX4_letters_307 (by decide) ?_
    refine X.bipush (v := 97) dX4_letters_309 (by decide) ?_
    refine X.bipush (v := 116) dX4_letters_311 (by decide) ?_
    refine X.bipush (v := 115) dX4_letters_313 (by decide) ?_
    refine X.iconst (v := 0) dX4_letters_315 (by decide) ?_
    refine X.iconst (v := 0) dX4_letters_316 (by decide) ?_
    obtain ⟨q317, h317, hf⟩ := ob hf
    refine X.callSl (As := [.int (98 : Int32), .int (101 : Int32), .int (97 : Int32), .int (116 : Int32), .int (115 : Int32), .int (0 : Int32), .int (0 : Int32)]) (rest := []) dX4_letters_317 (w_spelled h317 _) cX4_163 rfl rfl (Nat.le_of_ble_eq_true rfl) (xD (Nat.le_of_ble_eq_true rfl)) xle.rf xle.rf ?_
    obtain rfl := Option.some.inj hf
    exact X.lret dX4_letters_320 rfl rfl
  have hf := if_f c1_14 hf
  by_cases c1_15 : x0 = (15 : Int32)
  · have hf := if_t c1_15 hf
    refine X.tableC (tgt := 321) c1_15 dX4_letters_1 (by decide) (by decide) rfl (by decide) ?_
    refine X.bipush (v := 97) dX4_letters_321 (by decide) ?_
    refine X.bipush (v := 110) dX4_letters_323 (by decide) ?_
    refine X.bipush (v := 100) dX4_letters_325 (by decide) ?_
    refine X.iconst (v := 0) dX4_letters_327 (by decide) ?_
    refine X.iconst (v := 0) dX4_letters_328 (by decide) ?_
    refine X.iconst (v := 0) dX4_letters_329 (by decide) ?_
    refine X.iconst (v := 0) dX4_letters_330 (by decide) ?_
    obtain ⟨q331, h331, hf⟩ := ob hf
    refine X.callSl (As := [.int (97 : Int32), .int (110 : Int32), .int (100 : Int32), .int (0 : Int32), .int (0 : Int32), .int (0 : Int32), .int (0 : Int32)]) (rest := []) dX4_letters_331 (w_spelled h331 _) cX4_163 rfl rfl (Nat.le_of_ble_eq_true rfl) (xD (Nat.le_of_ble_eq_true rfl)) xle.rf xle.rf ?_
    obtain rfl := Option.some.inj hf
    exact X.lret dX4_letters_334 rfl rfl
  have hf := if_f c1_15 hf
  by_cases c1_16 : x0 = (16 : Int32)
  · have hf := if_t c1_16 hf
    refine X.tableC (tgt := 335) c1_16 dX4_letters_1 (by decide) (by decide) rfl (by decide) ?_
    refine X.bipush (v := 111) dX4_letters_335 (by decide) ?_
    refine X.bipush (v := 114) dX4_letters_337 (by decide) ?_
    refine X.iconst (v := 0) dX4_letters_339 (by decide) ?_
    refine X.iconst (v := 0) dX4_letters_340 (by decide) ?_
    refine X.iconst (v := 0) dX4_letters_341 (by decide) ?_
    refine X.iconst (v := 0) dX4_letters_342 (by decide) ?_
    refine X.iconst (v := 0) dX4_letters_343 (by decide) ?_
    obtain ⟨q344, h344, hf⟩ := ob hf
    refine X.callSl (As := [.int (111 : Int32), .int (114 : Int32), .int (0 : Int32), .int (0 : Int32), .int (0 : Int32), .int (0 : Int32), .int (0 : Int32)]) (rest := []) dX4_letters_344 (w_spelled h344 _) cX4_163 rfl rfl (Nat.le_of_ble_eq_true rfl) (xD (Nat.le_of_ble_eq_true rfl)) xle.rf xle.rf ?_
    obtain rfl := Option.some.inj hf
    exact X.lret dX4_letters_347 rfl rfl
  have hf := if_f c1_16 hf
  have t_c1_0 := lv_neT (a := 0) c1_0 rfl
  have t_c1_1 := lv_neT (a := 1) c1_1 rfl
  have t_c1_2 := lv_neT (a := 2) c1_2 rfl
  have t_c1_3 := lv_neT (a := 3) c1_3 rfl
  have t_c1_4 := lv_neT (a := 4) c1_4 rfl
  have t_c1_5 := lv_neT (a := 5) c1_5 rfl
  have t_c1_6 := lv_neT (a := 6) c1_6 rfl
  have t_c1_7 := lv_neT (a := 7) c1_7 rfl
  have t_c1_8 := lv_neT (a := 8) c1_8 rfl
  have t_c1_9 := lv_neT (a := 9) c1_9 rfl
  have t_c1_10 := lv_neT (a := 10) c1_10 rfl
  have t_c1_11 := lv_neT (a := 11) c1_11 rfl
  have t_c1_12 := lv_neT (a := 12) c1_12 rfl
  have t_c1_13 := lv_neT (a := 13) c1_13 rfl
  have t_c1_14 := lv_neT (a := 14) c1_14 rfl
  have t_c1_15 := lv_neT (a := 15) c1_15 rfl
  have t_c1_16 := lv_neT (a := 16) c1_16 rfl
  refine X.tableOut (tgt := 348) dX4_letters_1 (by omega) (by decide) ?_
  refine X.bipush (v := 110) dX4_letters_348 (by decide) ?_
  refine X.bipush (v := 111) dX4_letters_350 (by decide) ?_
  refine X.bipush (v := 116) dX4_letters_352 (by decide) ?_
  refine X.iconst (v := 0) dX4_letters_354 (by decide) ?_
  refine X.iconst (v := 0) dX4_letters_355 (by decide) ?_
  refine X.iconst (v := 0) dX4_letters_356 (by decide) ?_
  refine X.iconst (v := 0) dX4_letters_357 (by decide) ?_
  obtain ⟨q358, h358, hf⟩ := ob hf
  refine X.callSl (As := [.int (110 : Int32), .int (111 : Int32), .int (116 : Int32), .int (0 : Int32), .int (0 : Int32), .int (0 : Int32), .int (0 : Int32)]) (rest := []) dX4_letters_358 (w_spelled h358 _) cX4_163 rfl rfl (Nat.le_of_ble_eq_true rfl) (xD (Nat.le_of_ble_eq_true rfl)) xle.rf xle.rf ?_
  obtain rfl := Option.some.inj hf
  exact X.lret dX4_letters_361 rfl rfl
theorem cX4_167 : xCS RX4 167 mX4_letters 1 := ⟨lw_S q1803 q1804 q127 q1805, rfl, ⟨by decide +kernel, by decide +kernel, by decide +kernel⟩, Nat.le_of_ble_eq_true rfl⟩
/-! knownWord -/
abbrev cX4_knownWord : ByteArray := prog_12_method_18_code
def yX4_knownWord : MethodName := ⟨RX4, "knownWord", "()I"⟩
def dkwX4_knownWord_2 : List UInt8 := [172]
abbrev dktX4_knownWord_2 : List UInt8 := dkwX4_knownWord_2 ++ []
def dkwX4_knownWord_1 : List UInt8 := [162, 0, 23, 27, 184, 0, 167, 42, 180, 0, 138, 148, 154, 0, 5, 27, 172, 132, 1, 1, 167, 255, 233, 2]
abbrev dktX4_knownWord_1 : List UInt8 := dkwX4_knownWord_1 ++ dktX4_knownWord_2
def dkwX4_knownWord_0 : List UInt8 := [42, 180, 0, 148, 4, 160, 0, 12, 42, 180, 0, 158, 16, 7, 164, 0, 5, 2, 172, 3, 60, 27, 16, 18]
abbrev dktX4_knownWord_0 : List UInt8 := dkwX4_knownWord_0 ++ dktX4_knownWord_1
theorem dksX4_knownWord_0 : cX4_knownWord.data.toList.drop 0 = dktX4_knownWord_0 := by decide +kernel
theorem dksX4_knownWord_1 : cX4_knownWord.data.toList.drop 24 = dktX4_knownWord_1 := dk_seg dksX4_knownWord_0 24 rfl rfl
theorem dksX4_knownWord_2 : cX4_knownWord.data.toList.drop 48 = dktX4_knownWord_2 := dk_seg dksX4_knownWord_1 24 rfl rfl
theorem dX4_knownWord_0 : decode cX4_knownWord 0 = .ok (.aload_n 0, 1) := dk_42 (dk_at dksX4_knownWord_0 0 rfl rfl)
theorem dX4_knownWord_1 : decode cX4_knownWord 1 = .ok (.getfield 148, 3) := dk_180 0 148 (dk_at dksX4_knownWord_0 1 rfl rfl)
theorem dX4_knownWord_4 : decode cX4_knownWord 4 = .ok (.iconst 1, 1) := dk_4 (dk_at dksX4_knownWord_0 4 rfl rfl)
theorem dX4_knownWord_5 : decode cX4_knownWord 5 = .ok (.if_icmp .ne 12, 3) := dk_160 0 12 (dk_at dksX4_knownWord_0 5 rfl rfl)
theorem dX4_knownWord_8 : decode cX4_knownWord 8 = .ok (.aload_n 0, 1) := dk_42 (dk_at dksX4_knownWord_0 8 rfl rfl)
theorem dX4_knownWord_9 : decode cX4_knownWord 9 = .ok (.getfield 158, 3) := dk_180 0 158 (dk_at dksX4_knownWord_0 9 rfl rfl)
theorem dX4_knownWord_12 : decode cX4_knownWord 12 = .ok (.bipush 7, 2) := dk_16 7 (dk_at dksX4_knownWord_0 12 rfl rfl)
theorem dX4_knownWord_14 : decode cX4_knownWord 14 = .ok (.if_icmp .le 5, 3) := dk_164 0 5 (dk_at dksX4_knownWord_0 14 rfl rfl)
theorem dX4_knownWord_17 : decode cX4_knownWord 17 = .ok (.iconst (-1), 1) := dk_2 (dk_at dksX4_knownWord_0 17 rfl rfl)
theorem dX4_knownWord_18 : decode cX4_knownWord 18 = .ok (.ireturn, 1) := dk_172 (dk_at dksX4_knownWord_0 18 rfl rfl)
theorem dX4_knownWord_19 : decode cX4_knownWord 19 = .ok (.iconst 0, 1) := dk_3 (dk_at dksX4_knownWord_0 19 rfl rfl)
theorem dX4_knownWord_20 : decode cX4_knownWord 20 = .ok (.istore_n 1, 1) := dk_60 (dk_at dksX4_knownWord_0 20 rfl rfl)
theorem dX4_knownWord_21 : decode cX4_knownWord 21 = .ok (.iload_n 1, 1) := dk_27 (dk_at dksX4_knownWord_0 21 rfl rfl)
theorem dX4_knownWord_22 : decode cX4_knownWord 22 = .ok (.bipush 18, 2) := dk_16 18 (dk_at dksX4_knownWord_0 22 rfl rfl)
theorem dX4_knownWord_24 : decode cX4_knownWord 24 = .ok (.if_icmp .ge 23, 3) := dk_162 0 23 (dk_at dksX4_knownWord_1 0 rfl rfl)
theorem dX4_knownWord_27 : decode cX4_knownWord 27 = .ok (.iload_n 1, 1) := dk_27 (dk_at dksX4_knownWord_1 3 rfl rfl)
theorem dX4_knownWord_28 : decode cX4_knownWord 28 = .ok (.invokestatic 167, 3) := dk_184 0 167 (dk_at dksX4_knownWord_1 4 rfl rfl)
theorem dX4_knownWord_31 : decode cX4_knownWord 31 = .ok (.aload_n 0, 1) := dk_42 (dk_at dksX4_knownWord_1 7 rfl rfl)
theorem dX4_knownWord_32 : decode cX4_knownWord 32 = .ok (.getfield 138, 3) := dk_180 0 138 (dk_at dksX4_knownWord_1 8 rfl rfl)
theorem dX4_knownWord_35 : decode cX4_knownWord 35 = .ok (.lcmp, 1) := dk_148 (dk_at dksX4_knownWord_1 11 rfl rfl)
theorem dX4_knownWord_36 : decode cX4_knownWord 36 = .ok (.ifCond .ne 5, 3) := dk_154 0 5 (dk_at dksX4_knownWord_1 12 rfl rfl)
theorem dX4_knownWord_39 : decode cX4_knownWord 39 = .ok (.iload_n 1, 1) := dk_27 (dk_at dksX4_knownWord_1 15 rfl rfl)
theorem dX4_knownWord_40 : decode cX4_knownWord 40 = .ok (.ireturn, 1) := dk_172 (dk_at dksX4_knownWord_1 16 rfl rfl)
theorem dX4_knownWord_41 : decode cX4_knownWord 41 = .ok (.iinc 1 1, 3) := dk_132 1 1 (dk_at dksX4_knownWord_1 17 rfl rfl)
theorem dX4_knownWord_44 : decode cX4_knownWord 44 = .ok (.goto (-23), 3) := dk_167 255 233 (dk_at dksX4_knownWord_1 20 rfl rfl)
theorem dX4_knownWord_47 : decode cX4_knownWord 47 = .ok (.iconst (-1), 1) := dk_2 (dk_at dksX4_knownWord_1 23 rfl rfl)
theorem dX4_knownWord_48 : decode cX4_knownWord 48 = .ok (.ireturn, 1) := dk_172 (dk_at dksX4_knownWord_2 0 rfl rfl)
abbrev mX4_knownWord : xM := (yX4_knownWord, cX4_knownWord, 2, (some .int), [])
def m_knownWord_21_b  (k21 : Int32 → MS → Option Int32) (x1 : Int32) (S : MS) : Option Int32 :=
  if (18 : Int32) ≤ x1 then
    some (-1 : Int32)
  else
    (m_letters x1).bind fun q28 =>
    if (lg_cmp q28 S.2.1) = 0 then
      some x1
    else
      k21 ((x1 + 1)) S
def m_knownWord_21  : Nat → Int32 → MS → Option Int32
  | 0 => fun _ _ => none
  | n + 1 => fun x1 S => m_knownWord_21_b (m_knownWord_21 n) x1 S
theorem m_knownWord_21_bok {G : xG} {m0 : Nat}  {k21 : Int32 → MS → Option Int32}  (hk21 : ∀ (x1 : Int32) (S : MS) (q : Int32), k21 x1 S = some q → XM G m0 mX4_knownWord 3 S (some (.int q)) S 21 [(0, .ref m0), (1, .int x1)] [] S) (x1 : Int32) (S : MS) (q : Int32) (hf : m_knownWord_21_b k21 x1 S = some q) : XM G m0 mX4_knownWord 3 S (some (.int q)) S 21 [(0, .ref m0), (1, .int x1)] [] S := by
  intro h N Z
  unfold m_knownWord_21_b at hf
  refine X.iload_n dX4_knownWord_21 rfl 1 rfl ?_
  refine X.bipush (v := 18) dX4_knownWord_22 (by decide) ?_
  refine X.icmp_ge (tgt := 47) dX4_knownWord_24 (by decide) (fun c24 => ?_) (fun c24 => ?_)
  · have hf := if_t c24 hf
    refine X.iconst (v := -1) dX4_knownWord_47 (by decide) ?_
    obtain rfl := Option.some.inj hf
    exact X.iret dX4_knownWord_48 rfl rfl rfl
  · have hf := if_f c24 hf
    refine X.iload_n dX4_knownWord_27 rfl 1 rfl ?_
    obtain ⟨q28, h28, hf⟩ := ob hf
    refine X.callSl (As := [.int x1]) (rest := []) dX4_knownWord_28 (w_letters h28 _) cX4_167 rfl rfl (Nat.le_of_ble_eq_true rfl) (xD (Nat.le_of_ble_eq_true rfl)) xle.rf xleN ?_
    refine X.aload_n dX4_knownWord_31 rfl 0 rfl ?_
    refine M.get (v := .long S.2.1) dX4_knownWord_32 fX4_138 (Nat.le_of_ble_eq_true rfl) rfl ?_
    refine X.lcmp dX4_knownWord_35 ?_
    refine X.if_ne (tgt := 41) dX4_knownWord_36 (by decide) (fun c36 => ?_) (fun c36 => ?_)
    · have hf := if_f c36 hf
      refine X.iinc (v := (x1 + 1)) (L' := [(1, .int (x1 + 1)), (0, .ref m0)]) dX4_knownWord_41 1 rfl rfl (Nat.le_of_ble_eq_true rfl) rfl ?_
      refine X.goto (tgt := 21) dX4_knownWord_44 (by decide) ?_
      refine X.sub [1, 0] (L' := [(0, .ref m0), (1, .int (x1 + 1))]) rfl ?_
      exact hk21 _ _ _ hf h N Z
    · have hf := if_t c36 hf
      refine X.iload_n dX4_knownWord_39 rfl 1 rfl ?_
      obtain rfl := Option.some.inj hf
      exact X.iret dX4_knownWord_40 rfl rfl rfl
theorem m_knownWord_21_ok {G : xG} {m0 : Nat}   : ∀ (n : Nat) (x1 : Int32) (S : MS) (q : Int32), m_knownWord_21 n x1 S = some q → XM G m0 mX4_knownWord 3 S (some (.int q)) S 21 [(0, .ref m0), (1, .int x1)] [] S
  | 0, _, _, _, hf => by cases hf
  | n + 1, x1, S, q, hf => m_knownWord_21_bok (m_knownWord_21_ok n) x1 S q hf
def m_knownWord  (S : MS) : Option Int32 :=
  if (S.1 19) = (1 : Int32) then
    if (S.1 21) ≤ (7 : Int32) then
      m_knownWord_21 FU ((0 : Int32)) S
    else
      some (-1 : Int32)
  else
    some (-1 : Int32)
theorem w_knownWord {G : xG} {m0 : Nat}  {S : MS} {q : Int32} (hf : m_knownWord S = some q) : CtM G m0 mX4_knownWord 3 S [.ref m0] (some (.int q)) S := by
  intro h N Z
  refine Ct.of (by decide +kernel) rfl (Nat.le_of_ble_eq_true rfl) (show Xr G _ 0 [(0, .ref m0)] [] _ from ?_)
  unfold m_knownWord at hf
  refine X.aload_n dX4_knownWord_0 rfl 0 rfl ?_
  refine M.get (v := .int (S.1 19)) dX4_knownWord_1 fX4_148 (Nat.le_of_ble_eq_true rfl) rfl ?_
  refine X.iconst (v := 1) dX4_knownWord_4 (by decide) ?_
  refine X.icmp_ne (tgt := 17) dX4_knownWord_5 (by decide) (fun c5 => ?_) (fun c5 => ?_)
  · have hf := if_f c5 hf
    refine X.iconst (v := -1) dX4_knownWord_17 (by decide) ?_
    obtain rfl := Option.some.inj hf
    exact X.iret dX4_knownWord_18 rfl rfl rfl
  · have hf := if_t c5 hf
    refine X.aload_n dX4_knownWord_8 rfl 0 rfl ?_
    refine M.get (v := .int (S.1 21)) dX4_knownWord_9 fX4_158 (Nat.le_of_ble_eq_true rfl) rfl ?_
    refine X.bipush (v := 7) dX4_knownWord_12 (by decide) ?_
    refine X.icmp_le (tgt := 19) dX4_knownWord_14 (by decide) (fun c14 => ?_) (fun c14 => ?_)
    · have hf := if_t c14 hf
      refine X.iconst (v := 0) dX4_knownWord_19 (by decide) ?_
      refine X.istore_n (L' := [(1, .int (0 : Int32)), (0, .ref m0)]) dX4_knownWord_20 rfl (Nat.le_of_ble_eq_true rfl) rfl ?_
      refine X.sub [1, 0] (L' := [(0, .ref m0), (1, .int (0 : Int32))]) rfl ?_
      exact m_knownWord_21_ok FU _ _ _ hf h N Z
    · have hf := if_f c14 hf
      refine X.iconst (v := -1) dX4_knownWord_17 (by decide) ?_
      obtain rfl := Option.some.inj hf
      exact X.iret dX4_knownWord_18 rfl rfl rfl
theorem cX4_199 : xCV RX4 199 mX4_knownWord 0 := ⟨lw_V q1799 q1801 qs59 q127 q1802, rfl, ⟨by decide +kernel, by decide +kernel, by decide +kernel⟩, Nat.le_of_ble_eq_true rfl⟩
/-! wrong -/
abbrev cX4_wrong : ByteArray := prog_12_method_19_code
def yX4_wrong : MethodName := ⟨RX4, "wrong", "(I)V"⟩
def dkwX4_wrong_0 : List UInt8 := [42, 180, 0, 171, 153, 0, 4, 177, 42, 27, 181, 0, 171, 42, 42, 180, 0, 135, 181, 0, 41, 177]
abbrev dktX4_wrong_0 : List UInt8 := dkwX4_wrong_0 ++ []
theorem dksX4_wrong_0 : cX4_wrong.data.toList.drop 0 = dktX4_wrong_0 := by decide +kernel
theorem dX4_wrong_0 : decode cX4_wrong 0 = .ok (.aload_n 0, 1) := dk_42 (dk_at dksX4_wrong_0 0 rfl rfl)
theorem dX4_wrong_1 : decode cX4_wrong 1 = .ok (.getfield 171, 3) := dk_180 0 171 (dk_at dksX4_wrong_0 1 rfl rfl)
theorem dX4_wrong_4 : decode cX4_wrong 4 = .ok (.ifCond .eq 4, 3) := dk_153 0 4 (dk_at dksX4_wrong_0 4 rfl rfl)
theorem dX4_wrong_7 : decode cX4_wrong 7 = .ok (.return_, 1) := dk_177 (dk_at dksX4_wrong_0 7 rfl rfl)
theorem dX4_wrong_8 : decode cX4_wrong 8 = .ok (.aload_n 0, 1) := dk_42 (dk_at dksX4_wrong_0 8 rfl rfl)
theorem dX4_wrong_9 : decode cX4_wrong 9 = .ok (.iload_n 1, 1) := dk_27 (dk_at dksX4_wrong_0 9 rfl rfl)
theorem dX4_wrong_10 : decode cX4_wrong 10 = .ok (.putfield 171, 3) := dk_181 0 171 (dk_at dksX4_wrong_0 10 rfl rfl)
theorem dX4_wrong_13 : decode cX4_wrong 13 = .ok (.aload_n 0, 1) := dk_42 (dk_at dksX4_wrong_0 13 rfl rfl)
theorem dX4_wrong_14 : decode cX4_wrong 14 = .ok (.aload_n 0, 1) := dk_42 (dk_at dksX4_wrong_0 14 rfl rfl)
theorem dX4_wrong_15 : decode cX4_wrong 15 = .ok (.getfield 135, 3) := dk_180 0 135 (dk_at dksX4_wrong_0 15 rfl rfl)
theorem dX4_wrong_18 : decode cX4_wrong 18 = .ok (.putfield 41, 3) := dk_181 0 41 (dk_at dksX4_wrong_0 18 rfl rfl)
theorem dX4_wrong_21 : decode cX4_wrong 21 = .ok (.return_, 1) := dk_177 (dk_at dksX4_wrong_0 21 rfl rfl)
abbrev mX4_wrong : xM := (yX4_wrong, cX4_wrong, 2, none, [])
def m_wrong (x1 : Int32) (S : MS) : Option MS :=
  if (S.1 14) = 0 then
    some ((sF ((sF S 14 x1)) 15 (((sF S 14 x1)).1 20)))
  else
    some S
theorem w_wrong {G : xG} {m0 : Nat} {x1 : Int32} {S : MS} {q : MS} (hf : m_wrong x1 S = some q) : CtM G m0 mX4_wrong 1 S [.ref m0, .int x1] none q := by
  intro h N Z
  refine Ct.of (by decide +kernel) rfl (Nat.le_of_ble_eq_true rfl) (show Xr G _ 0 [(0, .ref m0), (1, .int x1)] [] _ from ?_)
  unfold m_wrong at hf
  refine X.aload_n dX4_wrong_0 rfl 0 rfl ?_
  refine M.get (v := .int (S.1 14)) dX4_wrong_1 fX4_171 (Nat.le_of_ble_eq_true rfl) rfl ?_
  refine X.if_eq (tgt := 8) dX4_wrong_4 (by decide) (fun c4 => ?_) (fun c4 => ?_)
  · have hf := if_t c4 hf
    refine X.aload_n dX4_wrong_8 rfl 0 rfl ?_
    refine X.iload_n dX4_wrong_9 rfl 1 rfl ?_
    refine M.putI dX4_wrong_10 fX4_171 (by decide) rfl rfl rfl ?_
    refine X.aload_n dX4_wrong_13 rfl 0 rfl ?_
    refine X.aload_n dX4_wrong_14 rfl 0 rfl ?_
    refine M.get (v := .int (((sF S 14 x1)).1 20)) dX4_wrong_15 fX4_135 (Nat.le_of_ble_eq_true rfl) rfl ?_
    refine M.putI dX4_wrong_18 fX4_41 (by decide) rfl rfl rfl ?_
    obtain rfl := Option.some.inj hf
    exact X.vret dX4_wrong_21 rfl rfl
  · have hf := if_f c4 hf
    obtain rfl := Option.some.inj hf
    exact X.vret dX4_wrong_7 rfl rfl
theorem cX4_181 : xCV RX4 181 mX4_wrong 1 := ⟨lw_V q1818 q1820 qs62 q127 q1821, rfl, ⟨by decide +kernel, by decide +kernel, by decide +kernel⟩, Nat.le_of_ble_eq_true rfl⟩
/-! isGood -/
abbrev cX4_isGood : ByteArray := prog_12_method_20_code
def yX4_isGood : MethodName := ⟨RX4, "isGood", "()Z"⟩
def dkwX4_isGood_0 : List UInt8 := [42, 180, 0, 171, 154, 0, 7, 4, 167, 0, 4, 3, 172]
abbrev dktX4_isGood_0 : List UInt8 := dkwX4_isGood_0 ++ []
theorem dksX4_isGood_0 : cX4_isGood.data.toList.drop 0 = dktX4_isGood_0 := by decide +kernel
theorem dX4_isGood_0 : decode cX4_isGood 0 = .ok (.aload_n 0, 1) := dk_42 (dk_at dksX4_isGood_0 0 rfl rfl)
theorem dX4_isGood_1 : decode cX4_isGood 1 = .ok (.getfield 171, 3) := dk_180 0 171 (dk_at dksX4_isGood_0 1 rfl rfl)
theorem dX4_isGood_4 : decode cX4_isGood 4 = .ok (.ifCond .ne 7, 3) := dk_154 0 7 (dk_at dksX4_isGood_0 4 rfl rfl)
theorem dX4_isGood_7 : decode cX4_isGood 7 = .ok (.iconst 1, 1) := dk_4 (dk_at dksX4_isGood_0 7 rfl rfl)
theorem dX4_isGood_8 : decode cX4_isGood 8 = .ok (.goto 4, 3) := dk_167 0 4 (dk_at dksX4_isGood_0 8 rfl rfl)
theorem dX4_isGood_11 : decode cX4_isGood 11 = .ok (.iconst 0, 1) := dk_3 (dk_at dksX4_isGood_0 11 rfl rfl)
theorem dX4_isGood_12 : decode cX4_isGood 12 = .ok (.ireturn, 1) := dk_172 (dk_at dksX4_isGood_0 12 rfl rfl)
abbrev mX4_isGood : xM := (yX4_isGood, cX4_isGood, 1, (some .boolean), [])
def m_isGood  (S : MS) : Option Int32 :=
  if (S.1 14) = 0 then
    some (1 : Int32)
  else
    some (0 : Int32)
theorem w_isGood {G : xG} {m0 : Nat}  {S : MS} {q : Int32} (hf : m_isGood S = some q) : CtM G m0 mX4_isGood 1 S [.ref m0] (some (.int q)) S := by
  intro h N Z
  refine Ct.of (by decide +kernel) rfl (Nat.le_of_ble_eq_true rfl) (show Xr G _ 0 [(0, .ref m0)] [] _ from ?_)
  unfold m_isGood at hf
  refine X.aload_n dX4_isGood_0 rfl 0 rfl ?_
  refine M.get (v := .int (S.1 14)) dX4_isGood_1 fX4_171 (Nat.le_of_ble_eq_true rfl) rfl ?_
  refine X.if_ne (tgt := 11) dX4_isGood_4 (by decide) (fun c4 => ?_) (fun c4 => ?_)
  · have hf := if_f c4 hf
    refine X.iconst (v := 0) dX4_isGood_11 (by decide) ?_
    obtain rfl := Option.some.inj hf
    exact X.iret dX4_isGood_12 rfl rfl rfl
  · have hf := if_t c4 hf
    refine X.iconst (v := 1) dX4_isGood_7 (by decide) ?_
    refine X.goto (tgt := 12) dX4_isGood_8 (by decide) ?_
    obtain rfl := Option.some.inj hf
    exact X.iret dX4_isGood_12 rfl rfl rfl
theorem cX4_174 : xCV RX4 174 mX4_isGood 0 := ⟨lw_V q1791 q1793 qs57 q127 q1794, rfl, ⟨by decide +kernel, by decide +kernel, by decide +kernel⟩, Nat.le_of_ble_eq_true rfl⟩
/-! isSign -/
abbrev cX4_isSign : ByteArray := prog_12_method_21_code
def yX4_isSign : MethodName := ⟨RX4, "isSign", "(I)Z"⟩
def dkwX4_isSign_0 : List UInt8 := [42, 180, 0, 148, 6, 160, 0, 15, 42, 180, 0, 145, 27, 160, 0, 7, 4, 167, 0, 4, 3, 172]
abbrev dktX4_isSign_0 : List UInt8 := dkwX4_isSign_0 ++ []
theorem dksX4_isSign_0 : cX4_isSign.data.toList.drop 0 = dktX4_isSign_0 := by decide +kernel
theorem dX4_isSign_0 : decode cX4_isSign 0 = .ok (.aload_n 0, 1) := dk_42 (dk_at dksX4_isSign_0 0 rfl rfl)
theorem dX4_isSign_1 : decode cX4_isSign 1 = .ok (.getfield 148, 3) := dk_180 0 148 (dk_at dksX4_isSign_0 1 rfl rfl)
theorem dX4_isSign_4 : decode cX4_isSign 4 = .ok (.iconst 3, 1) := dk_6 (dk_at dksX4_isSign_0 4 rfl rfl)
theorem dX4_isSign_5 : decode cX4_isSign 5 = .ok (.if_icmp .ne 15, 3) := dk_160 0 15 (dk_at dksX4_isSign_0 5 rfl rfl)
theorem dX4_isSign_8 : decode cX4_isSign 8 = .ok (.aload_n 0, 1) := dk_42 (dk_at dksX4_isSign_0 8 rfl rfl)
theorem dX4_isSign_9 : decode cX4_isSign 9 = .ok (.getfield 145, 3) := dk_180 0 145 (dk_at dksX4_isSign_0 9 rfl rfl)
theorem dX4_isSign_12 : decode cX4_isSign 12 = .ok (.iload_n 1, 1) := dk_27 (dk_at dksX4_isSign_0 12 rfl rfl)
theorem dX4_isSign_13 : decode cX4_isSign 13 = .ok (.if_icmp .ne 7, 3) := dk_160 0 7 (dk_at dksX4_isSign_0 13 rfl rfl)
theorem dX4_isSign_16 : decode cX4_isSign 16 = .ok (.iconst 1, 1) := dk_4 (dk_at dksX4_isSign_0 16 rfl rfl)
theorem dX4_isSign_17 : decode cX4_isSign 17 = .ok (.goto 4, 3) := dk_167 0 4 (dk_at dksX4_isSign_0 17 rfl rfl)
theorem dX4_isSign_20 : decode cX4_isSign 20 = .ok (.iconst 0, 1) := dk_3 (dk_at dksX4_isSign_0 20 rfl rfl)
theorem dX4_isSign_21 : decode cX4_isSign 21 = .ok (.ireturn, 1) := dk_172 (dk_at dksX4_isSign_0 21 rfl rfl)
abbrev mX4_isSign : xM := (yX4_isSign, cX4_isSign, 2, (some .boolean), [])
def m_isSign (x1 : Int32) (S : MS) : Option Int32 :=
  if (S.1 19) = (3 : Int32) then
    if (S.1 23) = x1 then
      some (1 : Int32)
    else
      some (0 : Int32)
  else
    some (0 : Int32)
theorem w_isSign {G : xG} {m0 : Nat} {x1 : Int32} {S : MS} {q : Int32} (hf : m_isSign x1 S = some q) : CtM G m0 mX4_isSign 1 S [.ref m0, .int x1] (some (.int q)) S := by
  intro h N Z
  refine Ct.of (by decide +kernel) rfl (Nat.le_of_ble_eq_true rfl) (show Xr G _ 0 [(0, .ref m0), (1, .int x1)] [] _ from ?_)
  unfold m_isSign at hf
  refine X.aload_n dX4_isSign_0 rfl 0 rfl ?_
  refine M.get (v := .int (S.1 19)) dX4_isSign_1 fX4_148 (Nat.le_of_ble_eq_true rfl) rfl ?_
  refine X.iconst (v := 3) dX4_isSign_4 (by decide) ?_
  refine X.icmp_ne (tgt := 20) dX4_isSign_5 (by decide) (fun c5 => ?_) (fun c5 => ?_)
  · have hf := if_f c5 hf
    refine X.iconst (v := 0) dX4_isSign_20 (by decide) ?_
    obtain rfl := Option.some.inj hf
    exact X.iret dX4_isSign_21 rfl rfl rfl
  · have hf := if_t c5 hf
    refine X.aload_n dX4_isSign_8 rfl 0 rfl ?_
    refine M.get (v := .int (S.1 23)) dX4_isSign_9 fX4_145 (Nat.le_of_ble_eq_true rfl) rfl ?_
    refine X.iload_n dX4_isSign_12 rfl 1 rfl ?_
    refine X.icmp_ne (tgt := 20) dX4_isSign_13 (by decide) (fun c13 => ?_) (fun c13 => ?_)
    · have hf := if_f c13 hf
      refine X.iconst (v := 0) dX4_isSign_20 (by decide) ?_
      obtain rfl := Option.some.inj hf
      exact X.iret dX4_isSign_21 rfl rfl rfl
    · have hf := if_t c13 hf
      refine X.iconst (v := 1) dX4_isSign_16 (by decide) ?_
      refine X.goto (tgt := 21) dX4_isSign_17 (by decide) ?_
      obtain rfl := Option.some.inj hf
      exact X.iret dX4_isSign_21 rfl rfl rfl
theorem cX4_209 : xCV RX4 209 mX4_isSign 1 := ⟨lw_V q1854 q1856 qs71 q127 q1857, rfl, ⟨by decide +kernel, by decide +kernel, by decide +kernel⟩, Nat.le_of_ble_eq_true rfl⟩
/-! need -/
abbrev cX4_need : ByteArray := prog_12_method_22_code
def yX4_need : MethodName := ⟨RX4, "need", "(Z)V"⟩
def dkwX4_need_1 : List UInt8 := [177]
abbrev dktX4_need_1 : List UInt8 := dkwX4_need_1 ++ []
def dkwX4_need_0 : List UInt8 := [42, 182, 0, 174, 154, 0, 4, 177, 27, 153, 0, 10, 42, 182, 0, 178, 167, 0, 8, 42, 4, 182, 0, 181]
abbrev dktX4_need_0 : List UInt8 := dkwX4_need_0 ++ dktX4_need_1
theorem dksX4_need_0 : cX4_need.data.toList.drop 0 = dktX4_need_0 := by decide +kernel
theorem dksX4_need_1 : cX4_need.data.toList.drop 24 = dktX4_need_1 := dk_seg dksX4_need_0 24 rfl rfl
theorem dX4_need_0 : decode cX4_need 0 = .ok (.aload_n 0, 1) := dk_42 (dk_at dksX4_need_0 0 rfl rfl)
theorem dX4_need_1 : decode cX4_need 1 = .ok (.invokevirtual 174, 3) := dk_182 0 174 (dk_at dksX4_need_0 1 rfl rfl)
theorem dX4_need_4 : decode cX4_need 4 = .ok (.ifCond .ne 4, 3) := dk_154 0 4 (dk_at dksX4_need_0 4 rfl rfl)
theorem dX4_need_7 : decode cX4_need 7 = .ok (.return_, 1) := dk_177 (dk_at dksX4_need_0 7 rfl rfl)
theorem dX4_need_8 : decode cX4_need 8 = .ok (.iload_n 1, 1) := dk_27 (dk_at dksX4_need_0 8 rfl rfl)
theorem dX4_need_9 : decode cX4_need 9 = .ok (.ifCond .eq 10, 3) := dk_153 0 10 (dk_at dksX4_need_0 9 rfl rfl)
theorem dX4_need_12 : decode cX4_need 12 = .ok (.aload_n 0, 1) := dk_42 (dk_at dksX4_need_0 12 rfl rfl)
theorem dX4_need_13 : decode cX4_need 13 = .ok (.invokevirtual 178, 3) := dk_182 0 178 (dk_at dksX4_need_0 13 rfl rfl)
theorem dX4_need_16 : decode cX4_need 16 = .ok (.goto 8, 3) := dk_167 0 8 (dk_at dksX4_need_0 16 rfl rfl)
theorem dX4_need_19 : decode cX4_need 19 = .ok (.aload_n 0, 1) := dk_42 (dk_at dksX4_need_0 19 rfl rfl)
theorem dX4_need_20 : decode cX4_need 20 = .ok (.iconst 1, 1) := dk_4 (dk_at dksX4_need_0 20 rfl rfl)
theorem dX4_need_21 : decode cX4_need 21 = .ok (.invokevirtual 181, 3) := dk_182 0 181 (dk_at dksX4_need_0 21 rfl rfl)
theorem dX4_need_24 : decode cX4_need 24 = .ok (.return_, 1) := dk_177 (dk_at dksX4_need_1 0 rfl rfl)
abbrev mX4_need : xM := (yX4_need, cX4_need, 2, none, [])
def m_need (x1 : Int32) (S : MS) : Option MS :=
  (m_isGood S).bind fun q1 =>
  if q1 = 0 then
    some S
  else
    if x1 = 0 then
      (m_wrong ((1 : Int32)) S).bind fun q21 =>
      some q21
    else
      (m_goes S).bind fun q13 =>
      some q13
theorem w_need {G : xG} {m0 : Nat} {x1 : Int32} {S : MS} {q : MS} (hf : m_need x1 S = some q) : CtM G m0 mX4_need 3 S [.ref m0, .int x1] none q := by
  intro h N Z
  refine Ct.of (by decide +kernel) rfl (Nat.le_of_ble_eq_true rfl) (show Xr G _ 0 [(0, .ref m0), (1, .int x1)] [] _ from ?_)
  unfold m_need at hf
  refine X.aload_n dX4_need_0 rfl 0 rfl ?_
  obtain ⟨q1, h1, hf⟩ := ob hf
  refine X.callVi (As := []) (rest := []) dX4_need_1 (w_isGood h1 h N Z) cX4_174 rfl rfl (Nat.le_of_ble_eq_true rfl) mh_0 rfl rfl (xD (Nat.le_of_ble_eq_true rfl)) xleN xleN ?_
  refine X.if_ne (tgt := 8) dX4_need_4 (by decide) (fun c4 => ?_) (fun c4 => ?_)
  · have hf := if_f c4 hf
    refine X.iload_n dX4_need_8 rfl 1 rfl ?_
    refine X.if_eq (tgt := 19) dX4_need_9 (by decide) (fun c9 => ?_) (fun c9 => ?_)
    · have hf := if_t c9 hf
      refine X.aload_n dX4_need_19 rfl 0 rfl ?_
      refine X.iconst (v := 1) dX4_need_20 (by decide) ?_
      obtain ⟨q21, h21, hf⟩ := ob hf
      refine X.callVv (As := [.int (1 : Int32)]) (rest := []) (T2 := (mh m0 h q21, N, Z)) dX4_need_21 (w_wrong h21 h N Z) cX4_181 rfl rfl (Nat.le_of_ble_eq_true rfl) mh_0 rfl rfl (xD (Nat.le_of_ble_eq_true rfl)) xleN xleN ?_
      obtain rfl := Option.some.inj hf
      exact X.vret dX4_need_24 rfl rfl
    · have hf := if_f c9 hf
      refine X.aload_n dX4_need_12 rfl 0 rfl ?_
      obtain ⟨q13, h13, hf⟩ := ob hf
      refine X.callVv (As := []) (rest := []) (T2 := (mh m0 h q13, N, Z)) dX4_need_13 (w_goes h13 h N Z) cX4_178 rfl rfl (Nat.le_of_ble_eq_true rfl) mh_0 rfl rfl (xD (Nat.le_of_ble_eq_true rfl)) xleN xleN ?_
      refine X.goto (tgt := 24) dX4_need_16 (by decide) ?_
      obtain rfl := Option.some.inj hf
      exact X.vret dX4_need_24 rfl rfl
  · have hf := if_t c4 hf
    obtain rfl := Option.some.inj hf
    exact X.vret dX4_need_7 rfl rfl
theorem cX4_287 : xCV RX4 287 mX4_need 1 := ⟨lw_V q1892 q1894 qs79 q127 q1895, rfl, ⟨by decide +kernel, by decide +kernel, by decide +kernel⟩, Nat.le_of_ble_eq_true rfl⟩
/-! number -/
abbrev cX4_number : ByteArray := prog_12_method_23_code
def yX4_number : MethodName := ⟨RX4, "number", "(II)I"⟩
def dkwX4_number_3 : List UInt8 := [29, 172]
abbrev dktX4_number_3 : List UInt8 := dkwX4_number_3 ++ []
def dkwX4_number_2 : List UInt8 := [164, 0, 8, 42, 5, 182, 0, 181, 42, 180, 0, 142, 62, 42, 182, 0, 174, 153, 0, 7, 42, 182, 0, 178]
abbrev dktX4_number_2 : List UInt8 := dkwX4_number_2 ++ dktX4_number_3
def dkwX4_number_1 : List UInt8 := [167, 0, 32, 42, 180, 0, 158, 7, 163, 0, 19, 42, 180, 0, 142, 27, 161, 0, 11, 42, 180, 0, 142, 28]
abbrev dktX4_number_1 : List UInt8 := dkwX4_number_1 ++ dktX4_number_2
def dkwX4_number_0 : List UInt8 := [42, 182, 0, 174, 154, 0, 5, 3, 172, 42, 180, 0, 148, 5, 159, 0, 11, 42, 4, 182, 0, 181]
abbrev dktX4_number_0 : List UInt8 := dkwX4_number_0 ++ dktX4_number_1
theorem dksX4_number_0 : cX4_number.data.toList.drop 0 = dktX4_number_0 := by decide +kernel
theorem dksX4_number_1 : cX4_number.data.toList.drop 22 = dktX4_number_1 := dk_seg dksX4_number_0 22 rfl rfl
theorem dksX4_number_2 : cX4_number.data.toList.drop 46 = dktX4_number_2 := dk_seg dksX4_number_1 24 rfl rfl
theorem dksX4_number_3 : cX4_number.data.toList.drop 70 = dktX4_number_3 := dk_seg dksX4_number_2 24 rfl rfl
theorem dX4_number_0 : decode cX4_number 0 = .ok (.aload_n 0, 1) := dk_42 (dk_at dksX4_number_0 0 rfl rfl)
theorem dX4_number_1 : decode cX4_number 1 = .ok (.invokevirtual 174, 3) := dk_182 0 174 (dk_at dksX4_number_0 1 rfl rfl)
theorem dX4_number_4 : decode cX4_number 4 = .ok (.ifCond .ne 5, 3) := dk_154 0 5 (dk_at dksX4_number_0 4 rfl rfl)
theorem dX4_number_7 : decode cX4_number 7 = .ok (.iconst 0, 1) := dk_3 (dk_at dksX4_number_0 7 rfl rfl)
theorem dX4_number_8 : decode cX4_number 8 = .ok (.ireturn, 1) := dk_172 (dk_at dksX4_number_0 8 rfl rfl)
theorem dX4_number_9 : decode cX4_number 9 = .ok (.aload_n 0, 1) := dk_42 (dk_at dksX4_number_0 9 rfl rfl)
theorem dX4_number_10 : decode cX4_number 10 = .ok (.getfield 148, 3) := dk_180 0 148 (dk_at dksX4_number_0 10 rfl rfl)
theorem dX4_number_13 : decode cX4_number 13 = .ok (.iconst 2, 1) := dk_5 (dk_at dksX4_number_0 13 rfl rfl)
theorem dX4_number_14 : decode cX4_number 14 = .ok (.if_icmp .eq 11, 3) := dk_159 0 11 (dk_at dksX4_number_0 14 rfl rfl)
theorem dX4_number_17 : decode cX4_number 17 = .ok (.aload_n 0, 1) := dk_42 (dk_at dksX4_number_0 17 rfl rfl)
theorem dX4_number_18 : decode cX4_number 18 = .ok (.iconst 1, 1) := dk_4 (dk_at dksX4_number_0 18 rfl rfl)
theorem dX4_number_19 : decode cX4_number 19 = .ok (.invokevirtual 181, 3) := dk_182 0 181 (dk_at dksX4_number_0 19 rfl rfl)
theorem dX4_number_22 : decode cX4_number 22 = .ok (.goto 32, 3) := dk_167 0 32 (dk_at dksX4_number_1 0 rfl rfl)
theorem dX4_number_25 : decode cX4_number 25 = .ok (.aload_n 0, 1) := dk_42 (dk_at dksX4_number_1 3 rfl rfl)
theorem dX4_number_26 : decode cX4_number 26 = .ok (.getfield 158, 3) := dk_180 0 158 (dk_at dksX4_number_1 4 rfl rfl)
theorem dX4_number_29 : decode cX4_number 29 = .ok (.iconst 4, 1) := dk_7 (dk_at dksX4_number_1 7 rfl rfl)
theorem dX4_number_30 : decode cX4_number 30 = .ok (.if_icmp .gt 19, 3) := dk_163 0 19 (dk_at dksX4_number_1 8 rfl rfl)
theorem dX4_number_33 : decode cX4_number 33 = .ok (.aload_n 0, 1) := dk_42 (dk_at dksX4_number_1 11 rfl rfl)
theorem dX4_number_34 : decode cX4_number 34 = .ok (.getfield 142, 3) := dk_180 0 142 (dk_at dksX4_number_1 12 rfl rfl)
theorem dX4_number_37 : decode cX4_number 37 = .ok (.iload_n 1, 1) := dk_27 (dk_at dksX4_number_1 15 rfl rfl)
theorem dX4_number_38 : decode cX4_number 38 = .ok (.if_icmp .lt 11, 3) := dk_161 0 11 (dk_at dksX4_number_1 16 rfl rfl)
theorem dX4_number_41 : decode cX4_number 41 = .ok (.aload_n 0, 1) := dk_42 (dk_at dksX4_number_1 19 rfl rfl)
theorem dX4_number_42 : decode cX4_number 42 = .ok (.getfield 142, 3) := dk_180 0 142 (dk_at dksX4_number_1 20 rfl rfl)
theorem dX4_number_45 : decode cX4_number 45 = .ok (.iload_n 2, 1) := dk_28 (dk_at dksX4_number_1 23 rfl rfl)
theorem dX4_number_46 : decode cX4_number 46 = .ok (.if_icmp .le 8, 3) := dk_164 0 8 (dk_at dksX4_number_2 0 rfl rfl)
theorem dX4_number_49 : decode cX4_number 49 = .ok (.aload_n 0, 1) := dk_42 (dk_at dksX4_number_2 3 rfl rfl)
theorem dX4_number_50 : decode cX4_number 50 = .ok (.iconst 2, 1) := dk_5 (dk_at dksX4_number_2 4 rfl rfl)
theorem dX4_number_51 : decode cX4_number 51 = .ok (.invokevirtual 181, 3) := dk_182 0 181 (dk_at dksX4_number_2 5 rfl rfl)
theorem dX4_number_54 : decode cX4_number 54 = .ok (.aload_n 0, 1) := dk_42 (dk_at dksX4_number_2 8 rfl rfl)
theorem dX4_number_55 : decode cX4_number 55 = .ok (.getfield 142, 3) := dk_180 0 142 (dk_at dksX4_number_2 9 rfl rfl)
theorem dX4_number_58 : decode cX4_number 58 = .ok (.istore_n 3, 1) := dk_62 (dk_at dksX4_number_2 12 rfl rfl)
theorem dX4_number_59 : decode cX4_number 59 = .ok (.aload_n 0, 1) := dk_42 (dk_at dksX4_number_2 13 rfl rfl)
theorem dX4_number_60 : decode cX4_number 60 = .ok (.invokevirtual 174, 3) := dk_182 0 174 (dk_at dksX4_number_2 14 rfl rfl)
theorem dX4_number_63 : decode cX4_number 63 = .ok (.ifCond .eq 7, 3) := dk_153 0 7 (dk_at dksX4_number_2 17 rfl rfl)
theorem dX4_number_66 : decode cX4_number 66 = .ok (.aload_n 0, 1) := dk_42 (dk_at dksX4_number_2 20 rfl rfl)
theorem dX4_number_67 : decode cX4_number 67 = .ok (.invokevirtual 178, 3) := dk_182 0 178 (dk_at dksX4_number_2 21 rfl rfl)
theorem dX4_number_70 : decode cX4_number 70 = .ok (.iload_n 3, 1) := dk_29 (dk_at dksX4_number_3 0 rfl rfl)
theorem dX4_number_71 : decode cX4_number 71 = .ok (.ireturn, 1) := dk_172 (dk_at dksX4_number_3 1 rfl rfl)
abbrev mX4_number : xM := (yX4_number, cX4_number, 4, (some .int), [])
def m_number_54  (S : MS) : Option (Int32 × MS) :=
  (m_isGood S).bind fun q60 =>
  if q60 = 0 then
    some ((S.1 22), S)
  else
    (m_goes S).bind fun q67 =>
    some ((S.1 22), q67)
theorem m_number_54_ok {G : xG} {m0 : Nat} {S0 : MS}   (S : MS) (q : (Int32 × MS)) (hf : m_number_54 S = some q) : XM G m0 mX4_number 3 S0 (some (.int q.1)) q.2 54 [(0, .ref m0)] [] S := by
  intro h N Z
  unfold m_number_54 at hf
  refine X.aload_n dX4_number_54 rfl 0 rfl ?_
  refine M.get (v := .int (S.1 22)) dX4_number_55 fX4_142 (Nat.le_of_ble_eq_true rfl) rfl ?_
  refine X.istore_n (L' := [(3, .int (S.1 22)), (0, .ref m0)]) dX4_number_58 rfl (Nat.le_of_ble_eq_true rfl) rfl ?_
  refine X.aload_n dX4_number_59 rfl 1 rfl ?_
  obtain ⟨q60, h60, hf⟩ := ob hf
  refine X.callVi (As := []) (rest := []) dX4_number_60 (w_isGood h60 h N Z) cX4_174 rfl rfl (Nat.le_of_ble_eq_true rfl) mh_0 rfl rfl (xD (Nat.le_of_ble_eq_true rfl)) xleN xleN ?_
  refine X.if_eq (tgt := 70) dX4_number_63 (by decide) (fun c63 => ?_) (fun c63 => ?_)
  · have hf := if_t c63 hf
    refine X.iload_n dX4_number_70 rfl 0 rfl ?_
    obtain rfl := Option.some.inj hf
    exact X.iret dX4_number_71 rfl rfl rfl
  · have hf := if_f c63 hf
    refine X.aload_n dX4_number_66 rfl 1 rfl ?_
    obtain ⟨q67, h67, hf⟩ := ob hf
    refine X.callVv (As := []) (rest := []) (T2 := (mh m0 h q67, N, Z)) dX4_number_67 (w_goes h67 h N Z) cX4_178 rfl rfl (Nat.le_of_ble_eq_true rfl) mh_0 rfl rfl (xD (Nat.le_of_ble_eq_true rfl)) xleN xleN ?_
    refine X.iload_n dX4_number_70 rfl 0 rfl ?_
    obtain rfl := Option.some.inj hf
    exact X.iret dX4_number_71 rfl rfl rfl
def m_number_49  (S : MS) : Option (Int32 × MS) :=
  (m_wrong ((2 : Int32)) S).bind fun q51 =>
  m_number_54 q51
theorem m_number_49_ok {G : xG} {m0 : Nat} {S0 : MS}   (S : MS) (q : (Int32 × MS)) (hf : m_number_49 S = some q) : XM G m0 mX4_number 3 S0 (some (.int q.1)) q.2 49 [(0, .ref m0)] [] S := by
  intro h N Z
  unfold m_number_49 at hf
  refine X.aload_n dX4_number_49 rfl 0 rfl ?_
  refine X.iconst (v := 2) dX4_number_50 (by decide) ?_
  obtain ⟨q51, h51, hf⟩ := ob hf
  refine X.callVv (As := [.int (2 : Int32)]) (rest := []) (T2 := (mh m0 h q51, N, Z)) dX4_number_51 (w_wrong h51 h N Z) cX4_181 rfl rfl (Nat.le_of_ble_eq_true rfl) mh_0 rfl rfl (xD (Nat.le_of_ble_eq_true rfl)) xleN xleN ?_
  refine X.sub [0] (L' := [(0, .ref m0)]) rfl ?_
  exact m_number_54_ok _ _ hf h N Z
def m_number (x1 : Int32) (x2 : Int32) (S : MS) : Option (Int32 × MS) :=
  (m_isGood S).bind fun q1 =>
  if q1 = 0 then
    some ((0 : Int32), S)
  else
    if (S.1 19) = (2 : Int32) then
      if (4 : Int32) < (S.1 21) then
        m_number_49 S
      else
        if (S.1 22) < x1 then
          m_number_49 S
        else
          if (S.1 22) ≤ x2 then
            m_number_54 S
          else
            m_number_49 S
    else
      (m_wrong ((1 : Int32)) S).bind fun q19 =>
      m_number_54 q19
theorem w_number {G : xG} {m0 : Nat} {x1 : Int32} {x2 : Int32} {S : MS} {q : (Int32 × MS)} (hf : m_number x1 x2 S = some q) : CtM G m0 mX4_number 3 S [.ref m0, .int x1, .int x2] (some (.int q.1)) q.2 := by
  intro h N Z
  refine Ct.of (by decide +kernel) rfl (Nat.le_of_ble_eq_true rfl) (show Xr G _ 0 [(0, .ref m0), (1, .int x1), (2, .int x2)] [] _ from ?_)
  unfold m_number at hf
  refine X.aload_n dX4_number_0 rfl 0 rfl ?_
  obtain ⟨q1, h1, hf⟩ := ob hf
  refine X.callVi (As := []) (rest := []) dX4_number_1 (w_isGood h1 h N Z) cX4_174 rfl rfl (Nat.le_of_ble_eq_true rfl) mh_0 rfl rfl (xD (Nat.le_of_ble_eq_true rfl)) xleN xleN ?_
  refine X.if_ne (tgt := 9) dX4_number_4 (by decide) (fun c4 => ?_) (fun c4 => ?_)
  · have hf := if_f c4 hf
    refine X.aload_n dX4_number_9 rfl 0 rfl ?_
    refine M.get (v := .int (S.1 19)) dX4_number_10 fX4_148 (Nat.le_of_ble_eq_true rfl) rfl ?_
    refine X.iconst (v := 2) dX4_number_13 (by decide) ?_
    refine X.icmp_eq (tgt := 25) dX4_number_14 (by decide) (fun c14 => ?_) (fun c14 => ?_)
    · have hf := if_t c14 hf
      refine X.aload_n dX4_number_25 rfl 0 rfl ?_
      refine M.get (v := .int (S.1 21)) dX4_number_26 fX4_158 (Nat.le_of_ble_eq_true rfl) rfl ?_
      refine X.iconst (v := 4) dX4_number_29 (by decide) ?_
      refine X.icmp_gt (tgt := 49) dX4_number_30 (by decide) (fun c30 => ?_) (fun c30 => ?_)
      · have hf := if_t c30 hf
        refine X.sub [0] (L' := [(0, .ref m0)]) rfl ?_
        exact m_number_49_ok _ _ hf h N Z
      · have hf := if_f c30 hf
        refine X.aload_n dX4_number_33 rfl 0 rfl ?_
        refine M.get (v := .int (S.1 22)) dX4_number_34 fX4_142 (Nat.le_of_ble_eq_true rfl) rfl ?_
        refine X.iload_n dX4_number_37 rfl 1 rfl ?_
        refine X.icmp_lt (tgt := 49) dX4_number_38 (by decide) (fun c38 => ?_) (fun c38 => ?_)
        · have hf := if_t c38 hf
          refine X.sub [0] (L' := [(0, .ref m0)]) rfl ?_
          exact m_number_49_ok _ _ hf h N Z
        · have hf := if_f c38 hf
          refine X.aload_n dX4_number_41 rfl 0 rfl ?_
          refine M.get (v := .int (S.1 22)) dX4_number_42 fX4_142 (Nat.le_of_ble_eq_true rfl) rfl ?_
          refine X.iload_n dX4_number_45 rfl 2 rfl ?_
          refine X.icmp_le (tgt := 54) dX4_number_46 (by decide) (fun c46 => ?_) (fun c46 => ?_)
          · have hf := if_t c46 hf
            refine X.sub [0] (L' := [(0, .ref m0)]) rfl ?_
            exact m_number_54_ok _ _ hf h N Z
          · have hf := if_f c46 hf
            refine X.sub [0] (L' := [(0, .ref m0)]) rfl ?_
            exact m_number_49_ok _ _ hf h N Z
    · have hf := if_f c14 hf
      refine X.aload_n dX4_number_17 rfl 0 rfl ?_
      refine X.iconst (v := 1) dX4_number_18 (by decide) ?_
      obtain ⟨q19, h19, hf⟩ := ob hf
      refine X.callVv (As := [.int (1 : Int32)]) (rest := []) (T2 := (mh m0 h q19, N, Z)) dX4_number_19 (w_wrong h19 h N Z) cX4_181 rfl rfl (Nat.le_of_ble_eq_true rfl) mh_0 rfl rfl (xD (Nat.le_of_ble_eq_true rfl)) xleN xleN ?_
      refine X.goto (tgt := 54) dX4_number_22 (by decide) ?_
      refine X.sub [0] (L' := [(0, .ref m0)]) rfl ?_
      exact m_number_54_ok _ _ hf h N Z
  · have hf := if_t c4 hf
    refine X.iconst (v := 0) dX4_number_7 (by decide) ?_
    obtain rfl := Option.some.inj hf
    exact X.iret dX4_number_8 rfl rfl rfl
theorem cX4_246 : xCV RX4 246 mX4_number 2 := ⟨lw_V q1822 q1824 qs63 q127 q1825, rfl, ⟨by decide +kernel, by decide +kernel, by decide +kernel⟩, Nat.le_of_ble_eq_true rfl⟩
