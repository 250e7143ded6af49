set_option maxRecDepth 100000
/-! java/lang/StringLatin1 charAt -/
abbrev cJ9_charAt : ByteArray := prog_30_method_2_code
def yJ9_charAt : MethodName := ⟨RJ9, "charAt", "([BI)C"⟩
def dkwJ9_charAt_0 : List UInt8 := [27, 42, 190, 184, 0, 9, 42, 27, 51, 17, 0, 255, 126, 146, 172]
abbrev dktJ9_charAt_0 : List UInt8 := dkwJ9_charAt_0 ++ []
theorem dksJ9_charAt_0 : cJ9_charAt.data.toList.drop 0 = dktJ9_charAt_0 := by decide +kernel
theorem dJ9_charAt_0 : decode cJ9_charAt 0 = .ok (.iload_n 1, 1) := dk_27 (dk_at dksJ9_charAt_0 0 rfl rfl)
theorem dJ9_charAt_1 : decode cJ9_charAt 1 = .ok (.aload_n 0, 1) := dk_42 (dk_at dksJ9_charAt_0 1 rfl rfl)
theorem dJ9_charAt_2 : decode cJ9_charAt 2 = .ok (.arraylength, 1) := dk_190 (dk_at dksJ9_charAt_0 2 rfl rfl)
theorem dJ9_charAt_3 : decode cJ9_charAt 3 = .ok (.invokestatic 9, 3) := dk_184 0 9 (dk_at dksJ9_charAt_0 3 rfl rfl)
theorem dJ9_charAt_6 : decode cJ9_charAt 6 = .ok (.aload_n 0, 1) := dk_42 (dk_at dksJ9_charAt_0 6 rfl rfl)
theorem dJ9_charAt_7 : decode cJ9_charAt 7 = .ok (.iload_n 1, 1) := dk_27 (dk_at dksJ9_charAt_0 7 rfl rfl)
theorem dJ9_charAt_8 : decode cJ9_charAt 8 = .ok (.baload, 1) := dk_51 (dk_at dksJ9_charAt_0 8 rfl rfl)
theorem dJ9_charAt_9 : decode cJ9_charAt 9 = .ok (.sipush 255, 3) := dk_17 0 255 (dk_at dksJ9_charAt_0 9 rfl rfl)
theorem dJ9_charAt_12 : decode cJ9_charAt 12 = .ok (.iand, 1) := dk_126 (dk_at dksJ9_charAt_0 12 rfl rfl)
theorem dJ9_charAt_13 : decode cJ9_charAt 13 = .ok (.i2c, 1) := dk_146 (dk_at dksJ9_charAt_0 13 rfl rfl)
theorem dJ9_charAt_14 : decode cJ9_charAt 14 = .ok (.ireturn, 1) := dk_172 (dk_at dksJ9_charAt_0 14 rfl rfl)
abbrev mJ9_charAt : xM := (yJ9_charAt, cJ9_charAt, 2, (some .char), [])
def c_J9_charAt (G : xG) (T : xF) (x0 : Option Nat) (x1 : Int32) : Option Int32 :=
  (len T x0).bind fun v2 =>
  (c_J8_checkIndex G x1 v2).bind fun v3 =>
  (ldA T x0 .byte x1).bind fun v8 =>
  if ¬ vp_nar .char (((v8 &&& (255 : Int32)).toUInt32 % 65536).toInt32) = (((v8 &&& (255 : Int32)).toUInt32 % 65536).toInt32) then none else some (((v8 &&& (255 : Int32)).toUInt32 % 65536).toInt32)
theorem w_J9_charAt {G : xG}  {T : xF} {x0 : Option Nat} {x1 : Int32} {q : Int32} (hf : c_J9_charAt G T x0 x1 = some q) : Ct G mJ9_charAt (3) T [va_rf x0, .int x1] (.inl (some (.int q))) T := by
  refine Ct.ofc (plainFor_of_name (by decide +kernel)) rfl (xvQ (xvI xvN)) (Nat.le_of_ble_eq_true rfl) (show Xr G _ 0 [(0, va_rf x0), (1, .int x1)] [] _ from ?_)
  unfold c_J9_charAt at hf
  refine X.iload_n dJ9_charAt_0 rfl 1 rfl ?_
  refine C.aload_n dJ9_charAt_1 rfl 0 rfl ?_
  obtain ⟨v2, h2, hf⟩ := ob hf
  refine C.alen dJ9_charAt_2 h2 ?_
  obtain ⟨v3, h3, hf⟩ := ob hf
  refine X.keep fun l3 => C.Sv (As := [.int x1, .int v2]) (rest := []) dJ9_charAt_3 (w_J8_checkIndex h3) cJ9_9 rfl rfl (xcs xvN (Nat.le_of_ble_eq_true rfl)) (xD (Nat.le_of_ble_eq_true rfl)) xle.rf l3 ?_
  refine C.aload_n dJ9_charAt_6 rfl 0 rfl ?_
  refine X.iload_n dJ9_charAt_7 rfl 1 rfl ?_
  obtain ⟨v8, h8, hf⟩ := ob hf
  refine C.bald dJ9_charAt_8 h8 ?_
  refine X.sipush (v := 255) dJ9_charAt_9 (by decide) ?_
  refine X.iand dJ9_charAt_12 ?_
  refine X.i2c dJ9_charAt_13 rfl ?_
  obtain ⟨cz, hf⟩ := if_n hf
  obtain rfl := Option.some.inj hf
  exact X.iret dJ9_charAt_14 rfl (nar_char (Classical.not_not.mp cz)) rfl
theorem cJ8_495 : xCS RJ8 495 mJ9_charAt 2 := ⟨lw_S q989 q990 q135 q991, rfl, ⟨by decide +kernel, by decide +kernel, by decide +kernel⟩, Nat.le_of_ble_eq_true rfl⟩
/-! java/lang/String charAt -/
abbrev cJ8_charAt : ByteArray := prog_28_method_56_code
def yJ8_charAt : MethodName := ⟨RJ8, "charAt", "(I)C"⟩
def dkwJ8_charAt_1 : List UInt8 := [172]
abbrev dktJ8_charAt_1 : List UInt8 := dkwJ8_charAt_1 ++ []
def dkwJ8_charAt_0 : List UInt8 := [42, 182, 1, 236, 153, 0, 12, 42, 180, 0, 9, 27, 184, 1, 239, 172, 42, 180, 0, 9, 27, 184, 1, 242]
abbrev dktJ8_charAt_0 : List UInt8 := dkwJ8_charAt_0 ++ dktJ8_charAt_1
theorem dksJ8_charAt_0 : cJ8_charAt.data.toList.drop 0 = dktJ8_charAt_0 := by decide +kernel
theorem dksJ8_charAt_1 : cJ8_charAt.data.toList.drop 24 = dktJ8_charAt_1 := dk_seg dksJ8_charAt_0 24 rfl rfl
theorem dJ8_charAt_0 : decode cJ8_charAt 0 = .ok (.aload_n 0, 1) := dk_42 (dk_at dksJ8_charAt_0 0 rfl rfl)
theorem dJ8_charAt_1 : decode cJ8_charAt 1 = .ok (.invokevirtual 492, 3) := dk_182 1 236 (dk_at dksJ8_charAt_0 1 rfl rfl)
theorem dJ8_charAt_4 : decode cJ8_charAt 4 = .ok (.ifCond .eq 12, 3) := dk_153 0 12 (dk_at dksJ8_charAt_0 4 rfl rfl)
theorem dJ8_charAt_7 : decode cJ8_charAt 7 = .ok (.aload_n 0, 1) := dk_42 (dk_at dksJ8_charAt_0 7 rfl rfl)
theorem dJ8_charAt_8 : decode cJ8_charAt 8 = .ok (.getfield 9, 3) := dk_180 0 9 (dk_at dksJ8_charAt_0 8 rfl rfl)
theorem dJ8_charAt_11 : decode cJ8_charAt 11 = .ok (.iload_n 1, 1) := dk_27 (dk_at dksJ8_charAt_0 11 rfl rfl)
theorem dJ8_charAt_12 : decode cJ8_charAt 12 = .ok (.invokestatic 495, 3) := dk_184 1 239 (dk_at dksJ8_charAt_0 12 rfl rfl)
theorem dJ8_charAt_15 : decode cJ8_charAt 15 = .ok (.ireturn, 1) := dk_172 (dk_at dksJ8_charAt_0 15 rfl rfl)
theorem dJ8_charAt_16 : decode cJ8_charAt 16 = .ok (.aload_n 0, 1) := dk_42 (dk_at dksJ8_charAt_0 16 rfl rfl)
theorem dJ8_charAt_17 : decode cJ8_charAt 17 = .ok (.getfield 9, 3) := dk_180 0 9 (dk_at dksJ8_charAt_0 17 rfl rfl)
theorem dJ8_charAt_20 : decode cJ8_charAt 20 = .ok (.iload_n 1, 1) := dk_27 (dk_at dksJ8_charAt_0 20 rfl rfl)
theorem dJ8_charAt_21 : decode cJ8_charAt 21 = .ok (.invokestatic 498, 3) := dk_184 1 242 (dk_at dksJ8_charAt_0 21 rfl rfl)
theorem dJ8_charAt_24 : decode cJ8_charAt 24 = .ok (.ireturn, 1) := dk_172 (dk_at dksJ8_charAt_1 0 rfl rfl)
abbrev mJ8_charAt : xM := (yJ8_charAt, cJ8_charAt, 2, (some .char), [])
def c_J8_charAt (G : xG) (T : xF) (x0 : Option Nat) (x1 : Int32) : Option Int32 :=
  if ¬ isO T x0 15 = true then none else
  (c_J8_isLatin1 T x0).bind fun v1 =>
  if v1 = 0 then
    (oQ T x0 15 0).bind fun v17 =>
    none
  else
    (oQ T x0 15 0).bind fun v8 =>
    (c_J9_charAt G T v8 x1).bind fun v12 =>
    if ¬ vp_nar .char v12 = v12 then none else some v12
theorem w_J8_charAt {G : xG}  {T : xF} {x0 : Option Nat} {x1 : Int32} {q : Int32} (hf : c_J8_charAt G T x0 x1 = some q) : Ct G mJ8_charAt (4) T [va_rf x0, .int x1] (.inl (some (.int q))) T := by
  refine Ct.ofc (plainFor_of_name (by decide +kernel)) rfl (xvQ (xvI xvN)) (Nat.le_of_ble_eq_true rfl) (show Xr G _ 0 [(0, va_rf x0), (1, .int x1)] [] _ from ?_)
  unfold c_J8_charAt at hf
  refine C.aload_n dJ8_charAt_0 rfl 0 rfl ?_
  obtain ⟨c1, hf⟩ := if_n hf
  obtain ⟨v1, h1, hf⟩ := ob hf
  refine X.keep fun l1 => C.Vi (As := []) (rest := []) dJ8_charAt_1 (w_J8_isLatin1 h1) cJ8_492 (Classical.not_not.mp c1) rfl rfl (xcs xvN (Nat.le_of_ble_eq_true rfl)) rfl rfl (xD (Nat.le_of_ble_eq_true rfl)) xle.rf l1 ?_
  refine X.if_eq (tgt := 16) dJ8_charAt_4 (by decide) (fun c4 => ?_) (fun c4 => ?_)
  · have hf := if_t c4 hf
    refine C.aload_n dJ8_charAt_16 rfl 0 rfl ?_
    obtain ⟨v17, h17, hf⟩ := ob hf
    refine C.strQ (k := 0) dJ8_charAt_17 q2264 (by decide) h17 ?_
    refine X.iload_n dJ8_charAt_20 rfl 1 rfl ?_
    cases hf
  · have hf := if_f c4 hf
    refine C.aload_n dJ8_charAt_7 rfl 0 rfl ?_
    obtain ⟨v8, h8, hf⟩ := ob hf
    refine C.strQ (k := 0) dJ8_charAt_8 q2264 (by decide) h8 ?_
    refine X.iload_n dJ8_charAt_11 rfl 1 rfl ?_
    obtain ⟨v12, h12, hf⟩ := ob hf
    refine X.keep fun l12 => C.Si (As := [va_rf v8, .int x1]) (rest := []) dJ8_charAt_12 (w_J9_charAt h12) cJ8_495 rfl rfl (xcs xvN (Nat.le_of_ble_eq_true rfl)) (xD (Nat.le_of_ble_eq_true rfl)) xle.rf l12 ?_
    obtain ⟨cz, hf⟩ := if_n hf
    obtain rfl := Option.some.inj hf
    exact X.iret dJ8_charAt_15 rfl (nar_char (Classical.not_not.mp cz)) rfl
theorem cX5_125 : xCV RX5 125 mJ8_charAt 1 := ⟨lw_V q985 q986 q987 q134 q988, rfl, ⟨by decide +kernel, by decide +kernel, by decide +kernel⟩, Nat.le_of_ble_eq_true rfl⟩
/-! MouldVotes$Reader is -/
abbrev cX5_is : ByteArray := prog_7_method_6_code
def yX5_is : MethodName := ⟨RX5, "is", "(Ljava/lang/String;)Z"⟩
def dkwX5_is_2 : List UInt8 := [42, 180, 0, 90, 28, 96, 51, 17, 0, 255, 126, 159, 0, 5, 3, 172, 132, 2, 1, 167, 255, 217, 4, 172]
abbrev dktX5_is_2 : List UInt8 := dkwX5_is_2 ++ []
def dkwX5_is_1 : List UInt8 := [3, 172, 3, 61, 28, 43, 182, 0, 122, 162, 0, 37, 43, 28, 182, 0, 125, 42, 180, 0, 3, 180, 0, 78]
abbrev dktX5_is_1 : List UInt8 := dkwX5_is_1 ++ dktX5_is_2
def dkwX5_is_0 : List UInt8 := [42, 180, 0, 93, 4, 160, 0, 19, 43, 182, 0, 122, 42, 180, 0, 119, 42, 180, 0, 90, 100, 159, 0, 5]
abbrev dktX5_is_0 : List UInt8 := dkwX5_is_0 ++ dktX5_is_1
theorem dksX5_is_0 : cX5_is.data.toList.drop 0 = dktX5_is_0 := by decide +kernel
theorem dksX5_is_1 : cX5_is.data.toList.drop 24 = dktX5_is_1 := dk_seg dksX5_is_0 24 rfl rfl
theorem dksX5_is_2 : cX5_is.data.toList.drop 48 = dktX5_is_2 := dk_seg dksX5_is_1 24 rfl rfl
theorem dX5_is_0 : decode cX5_is 0 = .ok (.aload_n 0, 1) := dk_42 (dk_at dksX5_is_0 0 rfl rfl)
theorem dX5_is_1 : decode cX5_is 1 = .ok (.getfield 93, 3) := dk_180 0 93 (dk_at dksX5_is_0 1 rfl rfl)
theorem dX5_is_4 : decode cX5_is 4 = .ok (.iconst 1, 1) := dk_4 (dk_at dksX5_is_0 4 rfl rfl)
theorem dX5_is_5 : decode cX5_is 5 = .ok (.if_icmp .ne 19, 3) := dk_160 0 19 (dk_at dksX5_is_0 5 rfl rfl)
theorem dX5_is_8 : decode cX5_is 8 = .ok (.aload_n 1, 1) := dk_43 (dk_at dksX5_is_0 8 rfl rfl)
theorem dX5_is_9 : decode cX5_is 9 = .ok (.invokevirtual 122, 3) := dk_182 0 122 (dk_at dksX5_is_0 9 rfl rfl)
theorem dX5_is_12 : decode cX5_is 12 = .ok (.aload_n 0, 1) := dk_42 (dk_at dksX5_is_0 12 rfl rfl)
theorem dX5_is_13 : decode cX5_is 13 = .ok (.getfield 119, 3) := dk_180 0 119 (dk_at dksX5_is_0 13 rfl rfl)
theorem dX5_is_16 : decode cX5_is 16 = .ok (.aload_n 0, 1) := dk_42 (dk_at dksX5_is_0 16 rfl rfl)
theorem dX5_is_17 : decode cX5_is 17 = .ok (.getfield 90, 3) := dk_180 0 90 (dk_at dksX5_is_0 17 rfl rfl)
theorem dX5_is_20 : decode cX5_is 20 = .ok (.isub, 1) := dk_100 (dk_at dksX5_is_0 20 rfl rfl)
theorem dX5_is_21 : decode cX5_is 21 = .ok (.if_icmp .eq 5, 3) := dk_159 0 5 (dk_at dksX5_is_0 21 rfl rfl)
theorem dX5_is_24 : decode cX5_is 24 = .ok (.iconst 0, 1) := dk_3 (dk_at dksX5_is_1 0 rfl rfl)
theorem dX5_is_25 : decode cX5_is 25 = .ok (.ireturn, 1) := dk_172 (dk_at dksX5_is_1 1 rfl rfl)
theorem dX5_is_26 : decode cX5_is 26 = .ok (.iconst 0, 1) := dk_3 (dk_at dksX5_is_1 2 rfl rfl)
theorem dX5_is_27 : decode cX5_is 27 = .ok (.istore_n 2, 1) := dk_61 (dk_at dksX5_is_1 3 rfl rfl)
theorem dX5_is_28 : decode cX5_is 28 = .ok (.iload_n 2, 1) := dk_28 (dk_at dksX5_is_1 4 rfl rfl)
theorem dX5_is_29 : decode cX5_is 29 = .ok (.aload_n 1, 1) := dk_43 (dk_at dksX5_is_1 5 rfl rfl)
theorem dX5_is_30 : decode cX5_is 30 = .ok (.invokevirtual 122, 3) := dk_182 0 122 (dk_at dksX5_is_1 6 rfl rfl)
theorem dX5_is_33 : decode cX5_is 33 = .ok (.if_icmp .ge 37, 3) := dk_162 0 37 (dk_at dksX5_is_1 9 rfl rfl)
theorem dX5_is_36 : decode cX5_is 36 = .ok (.aload_n 1, 1) := dk_43 (dk_at dksX5_is_1 12 rfl rfl)
theorem dX5_is_37 : decode cX5_is 37 = .ok (.iload_n 2, 1) := dk_28 (dk_at dksX5_is_1 13 rfl rfl)
theorem dX5_is_38 : decode cX5_is 38 = .ok (.invokevirtual 125, 3) := dk_182 0 125 (dk_at dksX5_is_1 14 rfl rfl)
theorem dX5_is_41 : decode cX5_is 41 = .ok (.aload_n 0, 1) := dk_42 (dk_at dksX5_is_1 17 rfl rfl)
theorem dX5_is_42 : decode cX5_is 42 = .ok (.getfield 3, 3) := dk_180 0 3 (dk_at dksX5_is_1 18 rfl rfl)
theorem dX5_is_45 : decode cX5_is 45 = .ok (.getfield 78, 3) := dk_180 0 78 (dk_at dksX5_is_1 21 rfl rfl)
theorem dX5_is_48 : decode cX5_is 48 = .ok (.aload_n 0, 1) := dk_42 (dk_at dksX5_is_2 0 rfl rfl)
theorem dX5_is_49 : decode cX5_is 49 = .ok (.getfield 90, 3) := dk_180 0 90 (dk_at dksX5_is_2 1 rfl rfl)
theorem dX5_is_52 : decode cX5_is 52 = .ok (.iload_n 2, 1) := dk_28 (dk_at dksX5_is_2 4 rfl rfl)
theorem dX5_is_53 : decode cX5_is 53 = .ok (.iadd, 1) := dk_96 (dk_at dksX5_is_2 5 rfl rfl)
theorem dX5_is_54 : decode cX5_is 54 = .ok (.baload, 1) := dk_51 (dk_at dksX5_is_2 6 rfl rfl)
theorem dX5_is_55 : decode cX5_is 55 = .ok (.sipush 255, 3) := dk_17 0 255 (dk_at dksX5_is_2 7 rfl rfl)
theorem dX5_is_58 : decode cX5_is 58 = .ok (.iand, 1) := dk_126 (dk_at dksX5_is_2 10 rfl rfl)
theorem dX5_is_59 : decode cX5_is 59 = .ok (.if_icmp .eq 5, 3) := dk_159 0 5 (dk_at dksX5_is_2 11 rfl rfl)
theorem dX5_is_62 : decode cX5_is 62 = .ok (.iconst 0, 1) := dk_3 (dk_at dksX5_is_2 14 rfl rfl)
theorem dX5_is_63 : decode cX5_is 63 = .ok (.ireturn, 1) := dk_172 (dk_at dksX5_is_2 15 rfl rfl)
theorem dX5_is_64 : decode cX5_is 64 = .ok (.iinc 2 1, 3) := dk_132 2 1 (dk_at dksX5_is_2 16 rfl rfl)
theorem dX5_is_67 : decode cX5_is 67 = .ok (.goto (-39), 3) := dk_167 255 217 (dk_at dksX5_is_2 19 rfl rfl)
theorem dX5_is_70 : decode cX5_is 70 = .ok (.iconst 1, 1) := dk_4 (dk_at dksX5_is_2 22 rfl rfl)
theorem dX5_is_71 : decode cX5_is 71 = .ok (.ireturn, 1) := dk_172 (dk_at dksX5_is_2 23 rfl rfl)
abbrev mX5_is : xM := (yX5_is, cX5_is, 3, (some .boolean), [])
def c_X5_is_28_b (G : xG) (T : xF) (k28 : Option Nat → Option Nat → Int32 → Option Int32) (x0 : Option Nat) (x1 : Option Nat) (x2 : Int32) : Option Int32 :=
  if ¬ isO T x1 15 = true then none else
  (c_J8_length T x1).bind fun v30 =>
  if v30 ≤ x2 then
    some (1 : Int32)
  else
    if ¬ isO T x1 15 = true then none else
    (c_J8_charAt G T x1 x2).bind fun v38 =>
    (oQ T x0 4 14).bind fun v42 =>
    (oQ T v42 0 5).bind fun v45 =>
    (oI T x0 4 9).bind fun v49 =>
    (ldA T v45 .byte (v49 + x2)).bind fun v54 =>
    if v38 = (v54 &&& (255 : Int32)) then
      k28 x0 x1 (x2 + 1)
    else
      some (0 : Int32)
def c_X5_is_28 (G : xG) (T : xF) : Nat → Option Nat → Option Nat → Int32 → Option Int32
  | 0 => fun _ _ _ => none
  | n + 1 => fun x0 x1 x2 => c_X5_is_28_b G T (c_X5_is_28 G T n) x0 x1 x2
theorem c_X5_is_28_bok {G : xG}  {T : xF}  {k28 : Option Nat → Option Nat → Int32 → Option Int32}  (hk28 : ∀ (x0 : Option Nat) (x1 : Option Nat) (x2 : Int32) (q : Int32), k28 x0 x1 x2 = some q → Xr G (mX5_is, xrm (5) T T, T, .inl (some (.int q)), T) 28 [(0, va_rf x0), (1, va_rf x1), (2, .int x2)] [] T) (x0 : Option Nat) (x1 : Option Nat) (x2 : Int32) (q : Int32) (hf : c_X5_is_28_b G T k28 x0 x1 x2 = some q) : Xr G (mX5_is, xrm (5) T T, T, .inl (some (.int q)), T) 28 [(0, va_rf x0), (1, va_rf x1), (2, .int x2)] [] T := by
  unfold c_X5_is_28_b at hf
  refine X.iload_n dX5_is_28 rfl 2 rfl ?_
  refine C.aload_n dX5_is_29 rfl 1 rfl ?_
  obtain ⟨c30, hf⟩ := if_n hf
  obtain ⟨v30, h30, hf⟩ := ob hf
  refine X.keep fun l30 => C.Vi (As := []) (rest := [.int x2]) dX5_is_30 (w_J8_length h30) cX5_122 (Classical.not_not.mp c30) rfl rfl (xcs (xvI xvN) (Nat.le_of_ble_eq_true rfl)) rfl rfl (xD (Nat.le_of_ble_eq_true rfl)) xle.rf l30 ?_
  refine X.icmp_ge (tgt := 70) dX5_is_33 (by decide) (fun c33 => ?_) (fun c33 => ?_)
  · have hf := if_t c33 hf
    refine X.iconst (v := 1) dX5_is_70 (by decide) ?_
    obtain rfl := Option.some.inj hf
    exact X.iret dX5_is_71 rfl rfl rfl
  · have hf := if_f c33 hf
    refine C.aload_n dX5_is_36 rfl 1 rfl ?_
    refine X.iload_n dX5_is_37 rfl 2 rfl ?_
    obtain ⟨c38, hf⟩ := if_n hf
    obtain ⟨v38, h38, hf⟩ := ob hf
    refine X.keep fun l38 => C.Vi (As := [.int x2]) (rest := []) dX5_is_38 (w_J8_charAt h38) cX5_125 (Classical.not_not.mp c38) rfl rfl (xcs xvN (Nat.le_of_ble_eq_true rfl)) rfl rfl (xD (Nat.le_of_ble_eq_true rfl)) xle.rf l38 ?_
    refine C.aload_n dX5_is_41 rfl 0 rfl ?_
    obtain ⟨v42, h42, hf⟩ := ob hf
    refine C.getQ dX5_is_42 rX5_3 h42 ?_
    obtain ⟨v45, h45, hf⟩ := ob hf
    refine C.getQ dX5_is_45 rX5_78 h45 ?_
    refine C.aload_n dX5_is_48 rfl 0 rfl ?_
    obtain ⟨v49, h49, hf⟩ := ob hf
    refine C.getI dX5_is_49 rX5_90 h49 ?_
    refine X.iload_n dX5_is_52 rfl 2 rfl ?_
    refine X.iadd dX5_is_53 ?_
    obtain ⟨v54, h54, hf⟩ := ob hf
    refine C.bald dX5_is_54 h54 ?_
    refine X.sipush (v := 255) dX5_is_55 (by decide) ?_
    refine X.iand dX5_is_58 ?_
    refine X.icmp_eq (tgt := 64) dX5_is_59 (by decide) (fun c59 => ?_) (fun c59 => ?_)
    · have hf := if_t c59 hf
      refine C.iinc (v := (x2 + 1)) (L' := [(2, .int (x2 + 1)), (0, va_rf x0), (1, va_rf x1)]) dX5_is_64 2 rfl rfl (Nat.le_of_ble_eq_true rfl) (xcQ (xcQ (xcI xcN))) rfl ?_
      refine X.goto (tgt := 28) dX5_is_67 (by decide) ?_
      refine X.sub [1, 2, 0] (L' := [(0, va_rf x0), (1, va_rf x1), (2, .int (x2 + 1))]) rfl ?_
      exact hk28 _ _ _ _ hf
    · have hf := if_f c59 hf
      refine X.iconst (v := 0) dX5_is_62 (by decide) ?_
      obtain rfl := Option.some.inj hf
      exact X.iret dX5_is_63 rfl rfl rfl
theorem c_X5_is_28_ok {G : xG}  {T : xF}   : ∀ (n : Nat) (x0 : Option Nat) (x1 : Option Nat) (x2 : Int32) (q : Int32), c_X5_is_28 G T n x0 x1 x2 = some q → Xr G (mX5_is, xrm (5) T T, T, .inl (some (.int q)), T) 28 [(0, va_rf x0), (1, va_rf x1), (2, .int x2)] [] T
  | 0, _, _, _, _, hf => by cases hf
  | n + 1, x0, x1, x2, q, hf => c_X5_is_28_bok (c_X5_is_28_ok n) x0 x1 x2 q hf
def c_X5_is (G : xG) (T : xF) (x0 : Option Nat) (x1 : Option Nat) : Option Int32 :=
  (oI T x0 4 8).bind fun v1 =>
  if v1 = (1 : Int32) then
    if ¬ isO T x1 15 = true then none else
    (c_J8_length T x1).bind fun v9 =>
    (oI T x0 4 10).bind fun v13 =>
    (oI T x0 4 9).bind fun v17 =>
    if v9 = (v13 - v17) then
      c_X5_is_28 G T FU x0 x1 (0 : Int32)
    else
      some (0 : Int32)
  else
    some (0 : Int32)
theorem w_X5_is {G : xG}  {T : xF} {x0 : Option Nat} {x1 : Option Nat} {q : Int32} (hf : c_X5_is G T x0 x1 = some q) : Ct G mX5_is (5) T [va_rf x0, va_rf x1] (.inl (some (.int q))) T := by
  refine Ct.ofc (plainFor_of_name (by decide +kernel)) rfl (xvQ (xvQ xvN)) (Nat.le_of_ble_eq_true rfl) (show Xr G _ 0 [(0, va_rf x0), (1, va_rf x1)] [] _ from ?_)
  unfold c_X5_is at hf
  refine C.aload_n dX5_is_0 rfl 0 rfl ?_
  obtain ⟨v1, h1, hf⟩ := ob hf
  refine C.getI dX5_is_1 rX5_93 h1 ?_
  refine X.iconst (v := 1) dX5_is_4 (by decide) ?_
  refine X.icmp_ne (tgt := 24) dX5_is_5 (by decide) (fun c5 => ?_) (fun c5 => ?_)
  · have hf := if_f c5 hf
    refine X.iconst (v := 0) dX5_is_24 (by decide) ?_
    obtain rfl := Option.some.inj hf
    exact X.iret dX5_is_25 rfl rfl rfl
  · have hf := if_t c5 hf
    refine C.aload_n dX5_is_8 rfl 1 rfl ?_
    obtain ⟨c9, hf⟩ := if_n hf
    obtain ⟨v9, h9, hf⟩ := ob hf
    refine X.keep fun l9 => C.Vi (As := []) (rest := []) dX5_is_9 (w_J8_length h9) cX5_122 (Classical.not_not.mp c9) rfl rfl (xcs xvN (Nat.le_of_ble_eq_true rfl)) rfl rfl (xD (Nat.le_of_ble_eq_true rfl)) xle.rf l9 ?_
    refine C.aload_n dX5_is_12 rfl 0 rfl ?_
    obtain ⟨v13, h13, hf⟩ := ob hf
    refine C.getI dX5_is_13 rX5_119 h13 ?_
    refine C.aload_n dX5_is_16 rfl 0 rfl ?_
    obtain ⟨v17, h17, hf⟩ := ob hf
    refine C.getI dX5_is_17 rX5_90 h17 ?_
    refine X.isub dX5_is_20 ?_
    refine X.icmp_eq (tgt := 26) dX5_is_21 (by decide) (fun c21 => ?_) (fun c21 => ?_)
    · have hf := if_t c21 hf
      refine X.iconst (v := 0) dX5_is_26 (by decide) ?_
      refine C.ist_n (L' := [(2, .int (0 : Int32)), (0, va_rf x0), (1, va_rf x1)]) dX5_is_27 rfl (Nat.le_of_ble_eq_true rfl) (xcQ (xcQ xcN)) rfl ?_
      refine X.sub [1, 2, 0] (L' := [(0, va_rf x0), (1, va_rf x1), (2, .int (0 : Int32))]) rfl ?_
      exact c_X5_is_28_ok FU _ _ _ _ hf
    · have hf := if_f c21 hf
      refine X.iconst (v := 0) dX5_is_24 (by decide) ?_
      obtain rfl := Option.some.inj hf
      exact X.iret dX5_is_25 rfl rfl rfl
theorem cX5_129 : xCV RX5 129 mX5_is 1 := ⟨lw_V q980 q982 qs21 q132 q983, rfl, ⟨by decide +kernel, by decide +kernel, by decide +kernel⟩, Nat.le_of_ble_eq_true rfl⟩
/-! MouldVotes$Reader which -/
abbrev cX5_which : ByteArray := prog_7_method_7_code
def yX5_which : MethodName := ⟨RX5, "which", "([Ljava/lang/String;)I"⟩
def dkwX5_which_1 : List UInt8 := [167, 255, 235, 2, 172]
abbrev dktX5_which_1 : List UInt8 := dkwX5_which_1 ++ []
def dkwX5_which_0 : List UInt8 := [3, 61, 28, 43, 190, 162, 0, 21, 42, 43, 28, 50, 182, 0, 129, 153, 0, 5, 28, 172, 132, 2, 1]
abbrev dktX5_which_0 : List UInt8 := dkwX5_which_0 ++ dktX5_which_1
theorem dksX5_which_0 : cX5_which.data.toList.drop 0 = dktX5_which_0 := by decide +kernel
theorem dksX5_which_1 : cX5_which.data.toList.drop 23 = dktX5_which_1 := dk_seg dksX5_which_0 23 rfl rfl
theorem dX5_which_0 : decode cX5_which 0 = .ok (.iconst 0, 1) := dk_3 (dk_at dksX5_which_0 0 rfl rfl)
theorem dX5_which_1 : decode cX5_which 1 = .ok (.istore_n 2, 1) := dk_61 (dk_at dksX5_which_0 1 rfl rfl)
theorem dX5_which_2 : decode cX5_which 2 = .ok (.iload_n 2, 1) := dk_28 (dk_at dksX5_which_0 2 rfl rfl)
theorem dX5_which_3 : decode cX5_which 3 = .ok (.aload_n 1, 1) := dk_43 (dk_at dksX5_which_0 3 rfl rfl)
theorem dX5_which_4 : decode cX5_which 4 = .ok (.arraylength, 1) := dk_190 (dk_at dksX5_which_0 4 rfl rfl)
theorem dX5_which_5 : decode cX5_which 5 = .ok (.if_icmp .ge 21, 3) := dk_162 0 21 (dk_at dksX5_which_0 5 rfl rfl)
theorem dX5_which_8 : decode cX5_which 8 = .ok (.aload_n 0, 1) := dk_42 (dk_at dksX5_which_0 8 rfl rfl)
theorem dX5_which_9 : decode cX5_which 9 = .ok (.aload_n 1, 1) := dk_43 (dk_at dksX5_which_0 9 rfl rfl)
theorem dX5_which_10 : decode cX5_which 10 = .ok (.iload_n 2, 1) := dk_28 (dk_at dksX5_which_0 10 rfl rfl)
theorem dX5_which_11 : decode cX5_which 11 = .ok (.aaload, 1) := dk_50 (dk_at dksX5_which_0 11 rfl rfl)
theorem dX5_which_12 : decode cX5_which 12 = .ok (.invokevirtual 129, 3) := dk_182 0 129 (dk_at dksX5_which_0 12 rfl rfl)
theorem dX5_which_15 : decode cX5_which 15 = .ok (.ifCond .eq 5, 3) := dk_153 0 5 (dk_at dksX5_which_0 15 rfl rfl)
theorem dX5_which_18 : decode cX5_which 18 = .ok (.iload_n 2, 1) := dk_28 (dk_at dksX5_which_0 18 rfl rfl)
theorem dX5_which_19 : decode cX5_which 19 = .ok (.ireturn, 1) := dk_172 (dk_at dksX5_which_0 19 rfl rfl)
theorem dX5_which_20 : decode cX5_which 20 = .ok (.iinc 2 1, 3) := dk_132 2 1 (dk_at dksX5_which_0 20 rfl rfl)
theorem dX5_which_23 : decode cX5_which 23 = .ok (.goto (-21), 3) := dk_167 255 235 (dk_at dksX5_which_1 0 rfl rfl)
theorem dX5_which_26 : decode cX5_which 26 = .ok (.iconst (-1), 1) := dk_2 (dk_at dksX5_which_1 3 rfl rfl)
theorem dX5_which_27 : decode cX5_which 27 = .ok (.ireturn, 1) := dk_172 (dk_at dksX5_which_1 4 rfl rfl)
abbrev mX5_which : xM := (yX5_which, cX5_which, 3, (some .int), [])
def c_X5_which_2_b (G : xG) (T : xF) (k2 : Option Nat → Option Nat → Int32 → Option Int32) (x0 : Option Nat) (x1 : Option Nat) (x2 : Int32) : Option Int32 :=
  (len T x1).bind fun v4 =>
  if v4 ≤ x2 then
    some (-1 : Int32)
  else
    (ldR T x1 x2).bind fun v11 =>
    if ¬ isO T x0 4 = true then none else
    (c_X5_is G T x0 v11).bind fun v12 =>
    if v12 = 0 then
      k2 x0 x1 (x2 + 1)
    else
      some x2
def c_X5_which_2 (G : xG) (T : xF) : Nat → Option Nat → Option Nat → Int32 → Option Int32
  | 0 => fun _ _ _ => none
  | n + 1 => fun x0 x1 x2 => c_X5_which_2_b G T (c_X5_which_2 G T n) x0 x1 x2
theorem c_X5_which_2_bok {G : xG}  {T : xF}  {k2 : Option Nat → Option Nat → Int32 → Option Int32}  (hk2 : ∀ (x0 : Option Nat) (x1 : Option Nat) (x2 : Int32) (q : Int32), k2 x0 x1 x2 = some q → Xr G (mX5_which, xrm (6) T T, T, .inl (some (.int q)), T) 2 [(0, va_rf x0), (1, va_rf x1), (2, .int x2)] [] T) (x0 : Option Nat) (x1 : Option Nat) (x2 : Int32) (q : Int32) (hf : c_X5_which_2_b G T k2 x0 x1 x2 = some q) : Xr G (mX5_which, xrm (6) T T, T, .inl (some (.int q)), T) 2 [(0, va_rf x0), (1, va_rf x1), (2, .int x2)] [] T := by
  unfold c_X5_which_2_b at hf
  refine X.iload_n dX5_which_2 rfl 2 rfl ?_
  refine C.aload_n dX5_which_3 rfl 1 rfl ?_
  obtain ⟨v4, h4, hf⟩ := ob hf
  refine C.alen dX5_which_4 h4 ?_
  refine X.icmp_ge (tgt := 26) dX5_which_5 (by decide) (fun c5 => ?_) (fun c5 => ?_)
  · have hf := if_t c5 hf
    refine X.iconst (v := -1) dX5_which_26 (by decide) ?_
    obtain rfl := Option.some.inj hf
    exact X.iret dX5_which_27 rfl rfl rfl
  · have hf := if_f c5 hf
    refine C.aload_n dX5_which_8 rfl 0 rfl ?_
    refine C.aload_n dX5_which_9 rfl 1 rfl ?_
    refine X.iload_n dX5_which_10 rfl 2 rfl ?_
    obtain ⟨v11, h11, hf⟩ := ob hf
    refine C.aald dX5_which_11 h11 ?_
    obtain ⟨c12, hf⟩ := if_n hf
    obtain ⟨v12, h12, hf⟩ := ob hf
    refine X.keep fun l12 => C.Vi (As := [va_rf v11]) (rest := []) dX5_which_12 (w_X5_is h12) cX5_129 (Classical.not_not.mp c12) rfl rfl (xcs xvN (Nat.le_of_ble_eq_true rfl)) rfl rfl (xD (Nat.le_of_ble_eq_true rfl)) xle.rf l12 ?_
    refine X.if_eq (tgt := 20) dX5_which_15 (by decide) (fun c15 => ?_) (fun c15 => ?_)
    · have hf := if_t c15 hf
      refine C.iinc (v := (x2 + 1)) (L' := [(2, .int (x2 + 1)), (0, va_rf x0), (1, va_rf x1)]) dX5_which_20 2 rfl rfl (Nat.le_of_ble_eq_true rfl) (xcQ (xcQ (xcI xcN))) rfl ?_
      refine X.goto (tgt := 2) dX5_which_23 (by decide) ?_
      refine X.sub [1, 2, 0] (L' := [(0, va_rf x0), (1, va_rf x1), (2, .int (x2 + 1))]) rfl ?_
      exact hk2 _ _ _ _ hf
    · have hf := if_f c15 hf
      refine X.iload_n dX5_which_18 rfl 2 rfl ?_
      obtain rfl := Option.some.inj hf
      exact X.iret dX5_which_19 rfl rfl rfl
theorem c_X5_which_2_ok {G : xG}  {T : xF}   : ∀ (n : Nat) (x0 : Option Nat) (x1 : Option Nat) (x2 : Int32) (q : Int32), c_X5_which_2 G T n x0 x1 x2 = some q → Xr G (mX5_which, xrm (6) T T, T, .inl (some (.int q)), T) 2 [(0, va_rf x0), (1, va_rf x1), (2, .int x2)] [] T
  | 0, _, _, _, _, hf => by cases hf
  | n + 1, x0, x1, x2, q, hf => c_X5_which_2_bok (c_X5_which_2_ok n) x0 x1 x2 q hf
def c_X5_which (G : xG) (T : xF) (x0 : Option Nat) (x1 : Option Nat) : Option Int32 :=
  c_X5_which_2 G T FU x0 x1 (0 : Int32)
theorem w_X5_which {G : xG}  {T : xF} {x0 : Option Nat} {x1 : Option Nat} {q : Int32} (hf : c_X5_which G T x0 x1 = some q) : Ct G mX5_which (6) T [va_rf x0, va_rf x1] (.inl (some (.int q))) T := by
  refine Ct.ofc (plainFor_of_name (by decide +kernel)) rfl (xvQ (xvQ xvN)) (Nat.le_of_ble_eq_true rfl) (show Xr G _ 0 [(0, va_rf x0), (1, va_rf x1)] [] _ from ?_)
  unfold c_X5_which at hf
  refine X.iconst (v := 0) dX5_which_0 (by decide) ?_
  refine C.ist_n (L' := [(2, .int (0 : Int32)), (0, va_rf x0), (1, va_rf x1)]) dX5_which_1 rfl (Nat.le_of_ble_eq_true rfl) (xcQ (xcQ xcN)) rfl ?_
  refine X.sub [1, 2, 0] (L' := [(0, va_rf x0), (1, va_rf x1), (2, .int (0 : Int32))]) rfl ?_
  exact c_X5_which_2_ok FU _ _ _ _ hf
theorem cX5_161 : xCV RX5 161 mX5_which 1 := ⟨lw_V q976 q978 qs20 q132 q979, rfl, ⟨by decide +kernel, by decide +kernel, by decide +kernel⟩, Nat.le_of_ble_eq_true rfl⟩
/-! MouldVotes$Reader isBegun -/
abbrev cX5_isBegun : ByteArray := prog_7_method_23_code
def yX5_isBegun : MethodName := ⟨RX5, "isBegun", "()Z"⟩
def dkwX5_isBegun_2 : List UInt8 := [167, 255, 226, 27, 172]
abbrev dktX5_isBegun_2 : List UInt8 := dkwX5_isBegun_2 ++ []
def dkwX5_isBegun_1 : List UInt8 := [180, 0, 27, 180, 0, 228, 28, 46, 2, 159, 0, 7, 4, 167, 0, 4, 3, 128, 60, 132, 2, 1]
abbrev dktX5_isBegun_1 : List UInt8 := dkwX5_isBegun_1 ++ dktX5_isBegun_2
def dkwX5_isBegun_0 : List UInt8 := [42, 180, 0, 216, 153, 0, 7, 4, 167, 0, 4, 3, 60, 3, 61, 28, 16, 30, 162, 0, 30, 27, 42]
abbrev dktX5_isBegun_0 : List UInt8 := dkwX5_isBegun_0 ++ dktX5_isBegun_1
theorem dksX5_isBegun_0 : cX5_isBegun.data.toList.drop 0 = dktX5_isBegun_0 := by decide +kernel
theorem dksX5_isBegun_1 : cX5_isBegun.data.toList.drop 23 = dktX5_isBegun_1 := dk_seg dksX5_isBegun_0 23 rfl rfl
theorem dksX5_isBegun_2 : cX5_isBegun.data.toList.drop 45 = dktX5_isBegun_2 := dk_seg dksX5_isBegun_1 22 rfl rfl
theorem dX5_isBegun_0 : decode cX5_isBegun 0 = .ok (.aload_n 0, 1) := dk_42 (dk_at dksX5_isBegun_0 0 rfl rfl)
theorem dX5_isBegun_1 : decode cX5_isBegun 1 = .ok (.getfield 216, 3) := dk_180 0 216 (dk_at dksX5_isBegun_0 1 rfl rfl)
theorem dX5_isBegun_4 : decode cX5_isBegun 4 = .ok (.ifCond .eq 7, 3) := dk_153 0 7 (dk_at dksX5_isBegun_0 4 rfl rfl)
theorem dX5_isBegun_7 : decode cX5_isBegun 7 = .ok (.iconst 1, 1) := dk_4 (dk_at dksX5_isBegun_0 7 rfl rfl)
theorem dX5_isBegun_8 : decode cX5_isBegun 8 = .ok (.goto 4, 3) := dk_167 0 4 (dk_at dksX5_isBegun_0 8 rfl rfl)
theorem dX5_isBegun_11 : decode cX5_isBegun 11 = .ok (.iconst 0, 1) := dk_3 (dk_at dksX5_isBegun_0 11 rfl rfl)
theorem dX5_isBegun_12 : decode cX5_isBegun 12 = .ok (.istore_n 1, 1) := dk_60 (dk_at dksX5_isBegun_0 12 rfl rfl)
theorem dX5_isBegun_13 : decode cX5_isBegun 13 = .ok (.iconst 0, 1) := dk_3 (dk_at dksX5_isBegun_0 13 rfl rfl)
theorem dX5_isBegun_14 : decode cX5_isBegun 14 = .ok (.istore_n 2, 1) := dk_61 (dk_at dksX5_isBegun_0 14 rfl rfl)
theorem dX5_isBegun_15 : decode cX5_isBegun 15 = .ok (.iload_n 2, 1) := dk_28 (dk_at dksX5_isBegun_0 15 rfl rfl)
theorem dX5_isBegun_16 : decode cX5_isBegun 16 = .ok (.bipush 30, 2) := dk_16 30 (dk_at dksX5_isBegun_0 16 rfl rfl)
theorem dX5_isBegun_18 : decode cX5_isBegun 18 = .ok (.if_icmp .ge 30, 3) := dk_162 0 30 (dk_at dksX5_isBegun_0 18 rfl rfl)
theorem dX5_isBegun_21 : decode cX5_isBegun 21 = .ok (.iload_n 1, 1) := dk_27 (dk_at dksX5_isBegun_0 21 rfl rfl)
theorem dX5_isBegun_22 : decode cX5_isBegun 22 = .ok (.aload_n 0, 1) := dk_42 (dk_at dksX5_isBegun_0 22 rfl rfl)
theorem dX5_isBegun_23 : decode cX5_isBegun 23 = .ok (.getfield 27, 3) := dk_180 0 27 (dk_at dksX5_isBegun_1 0 rfl rfl)
theorem dX5_isBegun_26 : decode cX5_isBegun 26 = .ok (.getfield 228, 3) := dk_180 0 228 (dk_at dksX5_isBegun_1 3 rfl rfl)
theorem dX5_isBegun_29 : decode cX5_isBegun 29 = .ok (.iload_n 2, 1) := dk_28 (dk_at dksX5_isBegun_1 6 rfl rfl)
theorem dX5_isBegun_30 : decode cX5_isBegun 30 = .ok (.iaload, 1) := dk_46 (dk_at dksX5_isBegun_1 7 rfl rfl)
theorem dX5_isBegun_31 : decode cX5_isBegun 31 = .ok (.iconst (-1), 1) := dk_2 (dk_at dksX5_isBegun_1 8 rfl rfl)
theorem dX5_isBegun_32 : decode cX5_isBegun 32 = .ok (.if_icmp .eq 7, 3) := dk_159 0 7 (dk_at dksX5_isBegun_1 9 rfl rfl)
theorem dX5_isBegun_35 : decode cX5_isBegun 35 = .ok (.iconst 1, 1) := dk_4 (dk_at dksX5_isBegun_1 12 rfl rfl)
theorem dX5_isBegun_36 : decode cX5_isBegun 36 = .ok (.goto 4, 3) := dk_167 0 4 (dk_at dksX5_isBegun_1 13 rfl rfl)
theorem dX5_isBegun_39 : decode cX5_isBegun 39 = .ok (.iconst 0, 1) := dk_3 (dk_at dksX5_isBegun_1 16 rfl rfl)
theorem dX5_isBegun_40 : decode cX5_isBegun 40 = .ok (.ior, 1) := dk_128 (dk_at dksX5_isBegun_1 17 rfl rfl)
theorem dX5_isBegun_41 : decode cX5_isBegun 41 = .ok (.istore_n 1, 1) := dk_60 (dk_at dksX5_isBegun_1 18 rfl rfl)
theorem dX5_isBegun_42 : decode cX5_isBegun 42 = .ok (.iinc 2 1, 3) := dk_132 2 1 (dk_at dksX5_isBegun_1 19 rfl rfl)
theorem dX5_isBegun_45 : decode cX5_isBegun 45 = .ok (.goto (-30), 3) := dk_167 255 226 (dk_at dksX5_isBegun_2 0 rfl rfl)
theorem dX5_isBegun_48 : decode cX5_isBegun 48 = .ok (.iload_n 1, 1) := dk_27 (dk_at dksX5_isBegun_2 3 rfl rfl)
theorem dX5_isBegun_49 : decode cX5_isBegun 49 = .ok (.ireturn, 1) := dk_172 (dk_at dksX5_isBegun_2 4 rfl rfl)
abbrev mX5_isBegun : xM := (yX5_isBegun, cX5_isBegun, 3, (some .boolean), [])
def c_X5_isBegun_40 (T : xF) (k15 : Option Nat → Int32 → Int32 → Option Int32) (x0 : Option Nat) (x2 : Int32) (y0 : Int32) (y1 : Int32) : Option Int32 :=
  k15 x0 (y1 ||| y0) (x2 + 1)
theorem c_X5_isBegun_40_ok {G : xG}  {T : xF} {k15 : Option Nat → Int32 → Int32 → Option Int32} (hk15 : ∀ (x0 : Option Nat) (x1 : Int32) (x2 : Int32) (q : Int32), k15 x0 x1 x2 = some q → Xr G (mX5_isBegun, xrm (1) T T, T, .inl (some (.int q)), T) 15 [(0, va_rf x0), (1, .int x1), (2, .int x2)] [] T) (x0 : Option Nat) (x2 : Int32) (y0 : Int32) (y1 : Int32) (q : Int32) (hf : c_X5_isBegun_40 T k15 x0 x2 y0 y1 = some q) : Xr G (mX5_isBegun, xrm (1) T T, T, .inl (some (.int q)), T) 40 [(0, va_rf x0), (2, .int x2)] [.int y0, .int y1] T := by
  unfold c_X5_isBegun_40 at hf
  refine X.ior dX5_isBegun_40 ?_
  refine C.ist_n (L' := [(1, .int (y1 ||| y0)), (0, va_rf x0), (2, .int x2)]) dX5_isBegun_41 rfl (Nat.le_of_ble_eq_true rfl) (xcQ (xcI xcN)) rfl ?_
  refine C.iinc (v := (x2 + 1)) (L' := [(2, .int (x2 + 1)), (1, .int (y1 ||| y0)), (0, va_rf x0)]) dX5_isBegun_42 2 rfl rfl (Nat.le_of_ble_eq_true rfl) (xcI (xcQ (xcI xcN))) rfl ?_
  refine X.goto (tgt := 15) dX5_isBegun_45 (by decide) ?_
  refine X.sub [2, 1, 0] (L' := [(0, va_rf x0), (1, .int (y1 ||| y0)), (2, .int (x2 + 1))]) rfl ?_
  exact hk15 _ _ _ _ hf
def c_X5_isBegun_15_b (T : xF) (k15 : Option Nat → Int32 → Int32 → Option Int32) (x0 : Option Nat) (x1 : Int32) (x2 : Int32) : Option Int32 :=
  if (30 : Int32) ≤ x2 then
    if ¬ zok x1 = true then none else some x1
  else
    (oQ T x0 4 2).bind fun v23 =>
    (oQ T v23 2 2).bind fun v26 =>
    (ldA T v26 .int x2).bind fun v30 =>
    if v30 = (-1 : Int32) then
      c_X5_isBegun_40 T k15 x0 x2 (0 : Int32) x1
    else
      c_X5_isBegun_40 T k15 x0 x2 (1 : Int32) x1
def c_X5_isBegun_15 (T : xF) : Nat → Option Nat → Int32 → Int32 → Option Int32
  | 0 => fun _ _ _ => none
  | n + 1 => fun x0 x1 x2 => c_X5_isBegun_15_b T (c_X5_isBegun_15 T n) x0 x1 x2
theorem c_X5_isBegun_15_bok {G : xG}  {T : xF}  {k15 : Option Nat → Int32 → Int32 → Option Int32}  (hk15 : ∀ (x0 : Option Nat) (x1 : Int32) (x2 : Int32) (q : Int32), k15 x0 x1 x2 = some q → Xr G (mX5_isBegun, xrm (1) T T, T, .inl (some (.int q)), T) 15 [(0, va_rf x0), (1, .int x1), (2, .int x2)] [] T) (x0 : Option Nat) (x1 : Int32) (x2 : Int32) (q : Int32) (hf : c_X5_isBegun_15_b T k15 x0 x1 x2 = some q) : Xr G (mX5_isBegun, xrm (1) T T, T, .inl (some (.int q)), T) 15 [(0, va_rf x0), (1, .int x1), (2, .int x2)] [] T := by
  unfold c_X5_isBegun_15_b at hf
  refine X.iload_n dX5_isBegun_15 rfl 2 rfl ?_
  refine X.bipush (v := 30) dX5_isBegun_16 (by decide) ?_
  refine X.icmp_ge (tgt := 48) dX5_isBegun_18 (by decide) (fun c18 => ?_) (fun c18 => ?_)
  · have hf := if_t c18 hf
    refine X.iload_n dX5_isBegun_48 rfl 1 rfl ?_
    obtain ⟨cz, hf⟩ := if_n hf
    obtain rfl := Option.some.inj hf
    exact X.iret dX5_isBegun_49 rfl (zok_ok (Classical.not_not.mp cz)) rfl
  · have hf := if_f c18 hf
    refine X.iload_n dX5_isBegun_21 rfl 1 rfl ?_
    refine C.aload_n dX5_isBegun_22 rfl 0 rfl ?_
    obtain ⟨v23, h23, hf⟩ := ob hf
    refine C.getQ dX5_isBegun_23 rX5_27 h23 ?_
    obtain ⟨v26, h26, hf⟩ := ob hf
    refine C.getQ dX5_isBegun_26 rX5_228 h26 ?_
    refine X.iload_n dX5_isBegun_29 rfl 2 rfl ?_
    obtain ⟨v30, h30, hf⟩ := ob hf
    refine C.iald dX5_isBegun_30 h30 ?_
    refine X.iconst (v := -1) dX5_isBegun_31 (by decide) ?_
    refine X.icmp_eq (tgt := 39) dX5_isBegun_32 (by decide) (fun c32 => ?_) (fun c32 => ?_)
    · have hf := if_t c32 hf
      refine X.iconst (v := 0) dX5_isBegun_39 (by decide) ?_
      refine X.sub [0, 2] (L' := [(0, va_rf x0), (2, .int x2)]) rfl ?_
      exact c_X5_isBegun_40_ok hk15 _ _ _ _ _ hf
    · have hf := if_f c32 hf
      refine X.iconst (v := 1) dX5_isBegun_35 (by decide) ?_
      refine X.goto (tgt := 40) dX5_isBegun_36 (by decide) ?_
      refine X.sub [0, 2] (L' := [(0, va_rf x0), (2, .int x2)]) rfl ?_
      exact c_X5_isBegun_40_ok hk15 _ _ _ _ _ hf
theorem c_X5_isBegun_15_ok {G : xG}  {T : xF}   : ∀ (n : Nat) (x0 : Option Nat) (x1 : Int32) (x2 : Int32) (q : Int32), c_X5_isBegun_15 T n x0 x1 x2 = some q → Xr G (mX5_isBegun, xrm (1) T T, T, .inl (some (.int q)), T) 15 [(0, va_rf x0), (1, .int x1), (2, .int x2)] [] T
  | 0, _, _, _, _, hf => by cases hf
  | n + 1, x0, x1, x2, q, hf => c_X5_isBegun_15_bok (c_X5_isBegun_15_ok n) x0 x1 x2 q hf
def c_X5_isBegun_12 (T : xF) (x0 : Option Nat) (y0 : Int32) : Option Int32 :=
  c_X5_isBegun_15 T FU x0 y0 (0 : Int32)
theorem c_X5_isBegun_12_ok {G : xG}  {T : xF}   (x0 : Option Nat) (y0 : Int32) (q : Int32) (hf : c_X5_isBegun_12 T x0 y0 = some q) : Xr G (mX5_isBegun, xrm (1) T T, T, .inl (some (.int q)), T) 12 [(0, va_rf x0)] [.int y0] T := by
  unfold c_X5_isBegun_12 at hf
  refine C.ist_n (L' := [(1, .int y0), (0, va_rf x0)]) dX5_isBegun_12 rfl (Nat.le_of_ble_eq_true rfl) (xcQ xcN) rfl ?_
  refine X.iconst (v := 0) dX5_isBegun_13 (by decide) ?_
  refine C.ist_n (L' := [(2, .int (0 : Int32)), (1, .int y0), (0, va_rf x0)]) dX5_isBegun_14 rfl (Nat.le_of_ble_eq_true rfl) (xcI (xcQ xcN)) rfl ?_
  refine X.sub [2, 1, 0] (L' := [(0, va_rf x0), (1, .int y0), (2, .int (0 : Int32))]) rfl ?_
  exact c_X5_isBegun_15_ok FU _ _ _ _ hf
def c_X5_isBegun (T : xF) (x0 : Option Nat) : Option Int32 :=
  (oI T x0 4 13).bind fun v1 =>
  if v1 = 0 then
    c_X5_isBegun_12 T x0 (0 : Int32)
  else
    c_X5_isBegun_12 T x0 (1 : Int32)
theorem w_X5_isBegun {G : xG}  {T : xF} {x0 : Option Nat} {q : Int32} (hf : c_X5_isBegun T x0 = some q) : Ct G mX5_isBegun (1) T [va_rf x0] (.inl (some (.int q))) T := by
  refine Ct.ofc (plainFor_of_name (by decide +kernel)) rfl (xvQ xvN) (Nat.le_of_ble_eq_true rfl) (show Xr G _ 0 [(0, va_rf x0)] [] _ from ?_)
  unfold c_X5_isBegun at hf
  refine C.aload_n dX5_isBegun_0 rfl 0 rfl ?_
  obtain ⟨v1, h1, hf⟩ := ob hf
  refine C.getI dX5_isBegun_1 rX5_216 h1 ?_
  refine X.if_eq (tgt := 11) dX5_isBegun_4 (by decide) (fun c4 => ?_) (fun c4 => ?_)
  · have hf := if_t c4 hf
    refine X.iconst (v := 0) dX5_isBegun_11 (by decide) ?_
    refine X.sub [0] (L' := [(0, va_rf x0)]) rfl ?_
    exact c_X5_isBegun_12_ok _ _ _ hf
  · have hf := if_f c4 hf
    refine X.iconst (v := 1) dX5_isBegun_7 (by decide) ?_
    refine X.goto (tgt := 12) dX5_isBegun_8 (by decide) ?_
    refine X.sub [0] (L' := [(0, va_rf x0)]) rfl ?_
    exact c_X5_isBegun_12_ok _ _ _ hf
theorem cX5_252 : xCV RX5 252 mX5_isBegun 0 := ⟨lw_V q1004 q1006 qs23 q132 q1007, rfl, ⟨by decide +kernel, by decide +kernel, by decide +kernel⟩, Nat.le_of_ble_eq_true rfl⟩
/-! java/lang/Throwable <init> -/
abbrev cJ3_init_2 : ByteArray := prog_33_method_5_code
def yJ3_init_2 : MethodName := ⟨RJ3, "<init>", "(Ljava/lang/String;Ljava/lang/Throwable;ZZ)V"⟩
def dkwJ3_init_2_2 : List UInt8 := [44, 181, 0, 7, 29, 154, 0, 8, 42, 1, 181, 0, 24, 177]
abbrev dktJ3_init_2_2 : List UInt8 := dkwJ3_init_2_2 ++ []
def dkwJ3_init_2_1 : List UInt8 := [21, 4, 153, 0, 11, 42, 182, 0, 27, 87, 167, 0, 8, 42, 1, 181, 0, 17, 42, 43, 181, 0, 31, 42]
abbrev dktJ3_init_2_1 : List UInt8 := dkwJ3_init_2_1 ++ dktJ3_init_2_2
def dkwJ3_init_2_0 : List UInt8 := [42, 183, 0, 1, 42, 42, 181, 0, 7, 42, 178, 0, 13, 181, 0, 17, 42, 178, 0, 20, 181, 0, 24]
abbrev dktJ3_init_2_0 : List UInt8 := dkwJ3_init_2_0 ++ dktJ3_init_2_1
theorem dksJ3_init_2_0 : cJ3_init_2.data.toList.drop 0 = dktJ3_init_2_0 := by decide +kernel
theorem dksJ3_init_2_1 : cJ3_init_2.data.toList.drop 23 = dktJ3_init_2_1 := dk_seg dksJ3_init_2_0 23 rfl rfl
theorem dksJ3_init_2_2 : cJ3_init_2.data.toList.drop 47 = dktJ3_init_2_2 := dk_seg dksJ3_init_2_1 24 rfl rfl
theorem dJ3_init_2_0 : decode cJ3_init_2 0 = .ok (.aload_n 0, 1) := dk_42 (dk_at dksJ3_init_2_0 0 rfl rfl)
theorem dJ3_init_2_1 : decode cJ3_init_2 1 = .ok (.invokespecial 1, 3) := dk_183 0 1 (dk_at dksJ3_init_2_0 1 rfl rfl)
theorem dJ3_init_2_4 : decode cJ3_init_2 4 = .ok (.aload_n 0, 1) := dk_42 (dk_at dksJ3_init_2_0 4 rfl rfl)
theorem dJ3_init_2_5 : decode cJ3_init_2 5 = .ok (.aload_n 0, 1) := dk_42 (dk_at dksJ3_init_2_0 5 rfl rfl)
theorem dJ3_init_2_6 : decode cJ3_init_2 6 = .ok (.putfield 7, 3) := dk_181 0 7 (dk_at dksJ3_init_2_0 6 rfl rfl)
theorem dJ3_init_2_9 : decode cJ3_init_2 9 = .ok (.aload_n 0, 1) := dk_42 (dk_at dksJ3_init_2_0 9 rfl rfl)
theorem dJ3_init_2_10 : decode cJ3_init_2 10 = .ok (.getstatic 13, 3) := dk_178 0 13 (dk_at dksJ3_init_2_0 10 rfl rfl)
theorem dJ3_init_2_13 : decode cJ3_init_2 13 = .ok (.putfield 17, 3) := dk_181 0 17 (dk_at dksJ3_init_2_0 13 rfl rfl)
theorem dJ3_init_2_16 : decode cJ3_init_2 16 = .ok (.aload_n 0, 1) := dk_42 (dk_at dksJ3_init_2_0 16 rfl rfl)
theorem dJ3_init_2_17 : decode cJ3_init_2 17 = .ok (.getstatic 20, 3) := dk_178 0 20 (dk_at dksJ3_init_2_0 17 rfl rfl)
theorem dJ3_init_2_20 : decode cJ3_init_2 20 = .ok (.putfield 24, 3) := dk_181 0 24 (dk_at dksJ3_init_2_0 20 rfl rfl)
theorem dJ3_init_2_23 : decode cJ3_init_2 23 = .ok (.iload 4, 2) := dk_21 4 (dk_at dksJ3_init_2_1 0 rfl rfl)
theorem dJ3_init_2_25 : decode cJ3_init_2 25 = .ok (.ifCond .eq 11, 3) := dk_153 0 11 (dk_at dksJ3_init_2_1 2 rfl rfl)
theorem dJ3_init_2_28 : decode cJ3_init_2 28 = .ok (.aload_n 0, 1) := dk_42 (dk_at dksJ3_init_2_1 5 rfl rfl)
theorem dJ3_init_2_29 : decode cJ3_init_2 29 = .ok (.invokevirtual 27, 3) := dk_182 0 27 (dk_at dksJ3_init_2_1 6 rfl rfl)
theorem dJ3_init_2_32 : decode cJ3_init_2 32 = .ok (.pop, 1) := dk_87 (dk_at dksJ3_init_2_1 9 rfl rfl)
theorem dJ3_init_2_33 : decode cJ3_init_2 33 = .ok (.goto 8, 3) := dk_167 0 8 (dk_at dksJ3_init_2_1 10 rfl rfl)
theorem dJ3_init_2_36 : decode cJ3_init_2 36 = .ok (.aload_n 0, 1) := dk_42 (dk_at dksJ3_init_2_1 13 rfl rfl)
theorem dJ3_init_2_37 : decode cJ3_init_2 37 = .ok (.aconst_null, 1) := dk_1 (dk_at dksJ3_init_2_1 14 rfl rfl)
theorem dJ3_init_2_38 : decode cJ3_init_2 38 = .ok (.putfield 17, 3) := dk_181 0 17 (dk_at dksJ3_init_2_1 15 rfl rfl)
theorem dJ3_init_2_41 : decode cJ3_init_2 41 = .ok (.aload_n 0, 1) := dk_42 (dk_at dksJ3_init_2_1 18 rfl rfl)
theorem dJ3_init_2_42 : decode cJ3_init_2 42 = .ok (.aload_n 1, 1) := dk_43 (dk_at dksJ3_init_2_1 19 rfl rfl)
theorem dJ3_init_2_43 : decode cJ3_init_2 43 = .ok (.putfield 31, 3) := dk_181 0 31 (dk_at dksJ3_init_2_1 20 rfl rfl)
theorem dJ3_init_2_46 : decode cJ3_init_2 46 = .ok (.aload_n 0, 1) := dk_42 (dk_at dksJ3_init_2_1 23 rfl rfl)
theorem dJ3_init_2_47 : decode cJ3_init_2 47 = .ok (.aload_n 2, 1) := dk_44 (dk_at dksJ3_init_2_2 0 rfl rfl)
theorem dJ3_init_2_48 : decode cJ3_init_2 48 = .ok (.putfield 7, 3) := dk_181 0 7 (dk_at dksJ3_init_2_2 1 rfl rfl)
theorem dJ3_init_2_51 : decode cJ3_init_2 51 = .ok (.iload_n 3, 1) := dk_29 (dk_at dksJ3_init_2_2 4 rfl rfl)
theorem dJ3_init_2_52 : decode cJ3_init_2 52 = .ok (.ifCond .ne 8, 3) := dk_154 0 8 (dk_at dksJ3_init_2_2 5 rfl rfl)
theorem dJ3_init_2_55 : decode cJ3_init_2 55 = .ok (.aload_n 0, 1) := dk_42 (dk_at dksJ3_init_2_2 8 rfl rfl)
theorem dJ3_init_2_56 : decode cJ3_init_2 56 = .ok (.aconst_null, 1) := dk_1 (dk_at dksJ3_init_2_2 9 rfl rfl)
theorem dJ3_init_2_57 : decode cJ3_init_2 57 = .ok (.putfield 24, 3) := dk_181 0 24 (dk_at dksJ3_init_2_2 10 rfl rfl)
theorem dJ3_init_2_60 : decode cJ3_init_2 60 = .ok (.return_, 1) := dk_177 (dk_at dksJ3_init_2_2 13 rfl rfl)
abbrev mJ3_init_2 : xM := (yJ3_init_2, cJ3_init_2, 5, none, [])
def c_J3_init_2 (G : xG) (x0 : Option Nat) (x1 : Option Nat) (x2 : Option Nat) (x3 : Int32) (x4 : Int32) (T : xF) : Option (Unit × xF) :=
  if ¬ x0.isSome = true then none else
  (pV T x0 5 0 (va_rf x0)).bind fun T6 =>
  (pV T6 x0 5 1 (va_rf (gS G 6))).bind fun T13 =>
  (pV T13 x0 5 2 (va_rf (gS G 7))).bind fun T20 =>
  if x4 = 0 then
    (pV T20 x0 5 1 (va_rf none)).bind fun T38 =>
    (pV T38 x0 5 3 (va_rf x1)).bind fun T43 =>
    (pV T43 x0 5 0 (va_rf x2)).bind fun T48 =>
    if x3 = 0 then
      (pV T48 x0 5 2 (va_rf none)).bind fun T57 =>
      some ((), T57)
    else
      some ((), T48)
  else
    none
theorem w_J3_init_2 {G : xG}  {T : xF} {x0 : Option Nat} {x1 : Option Nat} {x2 : Option Nat} {x3 : Int32} {x4 : Int32} {q : (Unit × xF)} (hf : c_J3_init_2 G x0 x1 x2 x3 x4 T = some q) : Ct G mJ3_init_2 (1) T [va_rf x0, va_rf x1, va_rf x2, .int x3, .int x4] (.inl none) q.2 := by
  refine Ct.ofc (plainFor_of_name (by decide +kernel)) rfl (xvQ (xvQ (xvQ (xvI (xvI xvN))))) (Nat.le_of_ble_eq_true rfl) (show Xr G _ 0 [(0, va_rf x0), (1, va_rf x1), (2, va_rf x2), (3, .int x3), (4, .int x4)] [] _ from ?_)
  unfold c_J3_init_2 at hf
  refine C.aload_n dJ3_init_2_0 rfl 0 rfl ?_
  obtain ⟨c1, hf⟩ := if_n hf
  refine C.objI (Classical.not_not.mp c1) dJ3_init_2_1 q767 obj1 obj2 (xcs xvN (Nat.le_of_ble_eq_true rfl)) (xD1 (Nat.le_of_ble_eq_true rfl)) ?_
  refine C.aload_n dJ3_init_2_4 rfl 0 rfl ?_
  refine C.aload_n dJ3_init_2_5 rfl 0 rfl ?_
  obtain ⟨T6, h6, hf⟩ := ob hf
  refine C.putQ dJ3_init_2_6 fJ3_7 (fun q => by cases q) rfl h6 ?_
  refine C.aload_n dJ3_init_2_9 rfl 0 rfl ?_
  refine X.gets dJ3_init_2_10 (i := 6) rfl q768 rfl ?_
  obtain ⟨T13, h13, hf⟩ := ob hf
  refine C.putQ dJ3_init_2_13 fJ3_17 (fun q => by cases q) rfl h13 ?_
  refine C.aload_n dJ3_init_2_16 rfl 0 rfl ?_
  refine X.gets dJ3_init_2_17 (i := 7) rfl q770 rfl ?_
  obtain ⟨T20, h20, hf⟩ := ob hf
  refine C.putQ dJ3_init_2_20 fJ3_24 (fun q => by cases q) rfl h20 ?_
  refine X.iload dJ3_init_2_23 4 rfl ?_
  refine X.if_eq (tgt := 36) dJ3_init_2_25 (by decide) (fun c25 => ?_) (fun c25 => ?_)
  · have hf := if_t c25 hf
    refine C.aload_n dJ3_init_2_36 rfl 0 rfl ?_
    refine C.null dJ3_init_2_37 ?_
    obtain ⟨T38, h38, hf⟩ := ob hf
    refine C.putQ dJ3_init_2_38 fJ3_17 (fun q => by cases q) rfl h38 ?_
    refine C.aload_n dJ3_init_2_41 rfl 0 rfl ?_
    refine C.aload_n dJ3_init_2_42 rfl 1 rfl ?_
    obtain ⟨T43, h43, hf⟩ := ob hf
    refine C.putQ dJ3_init_2_43 fJ3_31 (fun q => by cases q) rfl h43 ?_
    refine C.aload_n dJ3_init_2_46 rfl 0 rfl ?_
    refine C.aload_n dJ3_init_2_47 rfl 2 rfl ?_
    obtain ⟨T48, h48, hf⟩ := ob hf
    refine C.putQ dJ3_init_2_48 fJ3_7 (fun q => by cases q) rfl h48 ?_
    refine X.iload_n dJ3_init_2_51 rfl 3 rfl ?_
    refine X.if_ne (tgt := 60) dJ3_init_2_52 (by decide) (fun c52 => ?_) (fun c52 => ?_)
    · have hf := if_f c52 hf
      obtain rfl := Option.some.inj hf
      exact X.vret dJ3_init_2_60 rfl rfl
    · have hf := if_t c52 hf
      refine C.aload_n dJ3_init_2_55 rfl 0 rfl ?_
      refine C.null dJ3_init_2_56 ?_
      obtain ⟨T57, h57, hf⟩ := ob hf
      refine C.putQ dJ3_init_2_57 fJ3_24 (fun q => by cases q) rfl h57 ?_
      obtain rfl := Option.some.inj hf
      exact X.vret dJ3_init_2_60 rfl rfl
  · have hf := if_f c25 hf
    refine C.aload_n dJ3_init_2_28 rfl 0 rfl ?_
    cases hf
theorem cJ4_16 : xCI RJ4 16 mJ3_init_2 4 := ⟨⟨lw_meth q1029, rfl, q128, q1027, q1028, rfl⟩, rfl, ⟨by decide +kernel, by decide +kernel, by decide +kernel⟩, Nat.le_of_ble_eq_true rfl⟩
/-! java/lang/Exception <init> -/
abbrev cJ4_init_2 : ByteArray := prog_20_method_5_code
def yJ4_init_2 : MethodName := ⟨RJ4, "<init>", "(Ljava/lang/String;Ljava/lang/Throwable;ZZ)V"⟩
def dkwJ4_init_2_0 : List UInt8 := [42, 43, 44, 29, 21, 4, 183, 0, 16, 177]
abbrev dktJ4_init_2_0 : List UInt8 := dkwJ4_init_2_0 ++ []
theorem dksJ4_init_2_0 : cJ4_init_2.data.toList.drop 0 = dktJ4_init_2_0 := by decide +kernel
theorem dJ4_init_2_0 : decode cJ4_init_2 0 = .ok (.aload_n 0, 1) := dk_42 (dk_at dksJ4_init_2_0 0 rfl rfl)
theorem dJ4_init_2_1 : decode cJ4_init_2 1 = .ok (.aload_n 1, 1) := dk_43 (dk_at dksJ4_init_2_0 1 rfl rfl)
theorem dJ4_init_2_2 : decode cJ4_init_2 2 = .ok (.aload_n 2, 1) := dk_44 (dk_at dksJ4_init_2_0 2 rfl rfl)
theorem dJ4_init_2_3 : decode cJ4_init_2 3 = .ok (.iload_n 3, 1) := dk_29 (dk_at dksJ4_init_2_0 3 rfl rfl)
theorem dJ4_init_2_4 : decode cJ4_init_2 4 = .ok (.iload 4, 2) := dk_21 4 (dk_at dksJ4_init_2_0 4 rfl rfl)
theorem dJ4_init_2_6 : decode cJ4_init_2 6 = .ok (.invokespecial 16, 3) := dk_183 0 16 (dk_at dksJ4_init_2_0 6 rfl rfl)
theorem dJ4_init_2_9 : decode cJ4_init_2 9 = .ok (.return_, 1) := dk_177 (dk_at dksJ4_init_2_0 9 rfl rfl)
abbrev mJ4_init_2 : xM := (yJ4_init_2, cJ4_init_2, 5, none, [])
def c_J4_init_2 (G : xG) (x0 : Option Nat) (x1 : Option Nat) (x2 : Option Nat) (x3 : Int32) (x4 : Int32) (T : xF) : Option (Unit × xF) :=
  if ¬ x0.isSome = true then none else
  cl (c_J3_init_2 G x0 x1 x2 x3 x4 T) T fun v6 T6 =>
  some ((), T6)
theorem w_J4_init_2 {G : xG}  {T : xF} {x0 : Option Nat} {x1 : Option Nat} {x2 : Option Nat} {x3 : Int32} {x4 : Int32} {q : (Unit × xF)} (hf : c_J4_init_2 G x0 x1 x2 x3 x4 T = some q) : Ct G mJ4_init_2 (2) T [va_rf x0, va_rf x1, va_rf x2, .int x3, .int x4] (.inl none) q.2 := by
  refine Ct.ofc (plainFor_of_name (by decide +kernel)) rfl (xvQ (xvQ (xvQ (xvI (xvI xvN))))) (Nat.le_of_ble_eq_true rfl) (show Xr G _ 0 [(0, va_rf x0), (1, va_rf x1), (2, va_rf x2), (3, .int x3), (4, .int x4)] [] _ from ?_)
  unfold c_J4_init_2 at hf
  refine C.aload_n dJ4_init_2_0 rfl 0 rfl ?_
  refine C.aload_n dJ4_init_2_1 rfl 1 rfl ?_
  refine C.aload_n dJ4_init_2_2 rfl 2 rfl ?_
  refine X.iload_n dJ4_init_2_3 rfl 3 rfl ?_
  refine X.iload dJ4_init_2_4 4 rfl ?_
  obtain ⟨c6, hf⟩ := if_n hf
  obtain ⟨v6, T6, h6, hf, l6, r6⟩ := cl_ok hf
  refine C.Iv (As := [va_rf x1, va_rf x2, .int x3, .int x4]) (rest := []) dJ4_init_2_6 (w_J3_init_2 h6) cJ4_16 (Classical.not_not.mp c6) rfl rfl (xcs xvN (Nat.le_of_ble_eq_true rfl)) (xD (Nat.le_of_ble_eq_true rfl)) l6 r6 ?_
  obtain rfl := Option.some.inj hf
  exact X.vret dJ4_init_2_9 rfl rfl
theorem cX6_1 : xCI RX6 1 mJ4_init_2 4 := ⟨⟨lw_meth q1026, rfl, q129, q1024, q1025, rfl⟩, rfl, ⟨by decide +kernel, by decide +kernel, by decide +kernel⟩, Nat.le_of_ble_eq_true rfl⟩
/-! MouldVotes$Wrong <init> -/
abbrev cX6_init : ByteArray := prog_10_method_1_code
def yX6_init : MethodName := ⟨RX6, "<init>", "(I)V"⟩
def dkwX6_init_0 : List UInt8 := [42, 1, 1, 3, 3, 183, 0, 1, 42, 27, 181, 0, 7, 177]
abbrev dktX6_init_0 : List UInt8 := dkwX6_init_0 ++ []
theorem dksX6_init_0 : cX6_init.data.toList.drop 0 = dktX6_init_0 := by decide +kernel
theorem dX6_init_0 : decode cX6_init 0 = .ok (.aload_n 0, 1) := dk_42 (dk_at dksX6_init_0 0 rfl rfl)
theorem dX6_init_1 : decode cX6_init 1 = .ok (.aconst_null, 1) := dk_1 (dk_at dksX6_init_0 1 rfl rfl)
theorem dX6_init_2 : decode cX6_init 2 = .ok (.aconst_null, 1) := dk_1 (dk_at dksX6_init_0 2 rfl rfl)
theorem dX6_init_3 : decode cX6_init 3 = .ok (.iconst 0, 1) := dk_3 (dk_at dksX6_init_0 3 rfl rfl)
theorem dX6_init_4 : decode cX6_init 4 = .ok (.iconst 0, 1) := dk_3 (dk_at dksX6_init_0 4 rfl rfl)
theorem dX6_init_5 : decode cX6_init 5 = .ok (.invokespecial 1, 3) := dk_183 0 1 (dk_at dksX6_init_0 5 rfl rfl)
theorem dX6_init_8 : decode cX6_init 8 = .ok (.aload_n 0, 1) := dk_42 (dk_at dksX6_init_0 8 rfl rfl)
theorem dX6_init_9 : decode cX6_init 9 = .ok (.iload_n 1, 1) := dk_27 (dk_at dksX6_init_0 9 rfl rfl)
theorem dX6_init_10 : decode cX6_init 10 = .ok (.putfield 7, 3) := dk_181 0 7 (dk_at dksX6_init_0 10 rfl rfl)
theorem dX6_init_13 : decode cX6_init 13 = .ok (.return_, 1) := dk_177 (dk_at dksX6_init_0 13 rfl rfl)
abbrev mX6_init : xM := (yX6_init, cX6_init, 2, none, [])
def c_X6_init (G : xG) (x0 : Option Nat) (x1 : Int32) (T : xF) : Option (Unit × xF) :=
  if ¬ x0.isSome = true then none else
  cl (c_J4_init_2 G x0 none none (0 : Int32) (0 : Int32) T) T fun v5 T5 =>
  (pV T5 x0 5 6 (.int x1)).bind fun T10 =>
  some ((), T10)
theorem w_X6_init {G : xG}  {T : xF} {x0 : Option Nat} {x1 : Int32} {q : (Unit × xF)} (hf : c_X6_init G x0 x1 T = some q) : Ct G mX6_init (3) T [va_rf x0, .int x1] (.inl none) q.2 := by
  refine Ct.ofc (plainFor_of_name (by decide +kernel)) rfl (xvQ (xvI xvN)) (Nat.le_of_ble_eq_true rfl) (show Xr G _ 0 [(0, va_rf x0), (1, .int x1)] [] _ from ?_)
  unfold c_X6_init at hf
  refine C.aload_n dX6_init_0 rfl 0 rfl ?_
  refine C.null dX6_init_1 ?_
  refine C.null dX6_init_2 ?_
  refine X.iconst (v := 0) dX6_init_3 (by decide) ?_
  refine X.iconst (v := 0) dX6_init_4 (by decide) ?_
  obtain ⟨c5, hf⟩ := if_n hf
  obtain ⟨v5, T5, h5, hf, l5, r5⟩ := cl_ok hf
  refine C.Iv (As := [va_rf none, va_rf none, .int (0 : Int32), .int (0 : Int32)]) (rest := []) dX6_init_5 (w_J4_init_2 h5) cX6_1 (Classical.not_not.mp c5) rfl rfl (xcs xvN (Nat.le_of_ble_eq_true rfl)) (xD (Nat.le_of_ble_eq_true rfl)) l5 r5 ?_
  refine C.aload_n dX6_init_8 rfl 0 rfl ?_
  refine X.iload_n dX6_init_9 rfl 1 rfl ?_
  obtain ⟨T10, h10, hf⟩ := ob hf
  refine C.putI dX6_init_10 fX6_7 (fun _ => rfl) rfl rfl h10 ?_
  obtain rfl := Option.some.inj hf
  exact X.vret dX6_init_13 rfl rfl
theorem cX5_138 : xCI RX5 138 mX6_init 1 := ⟨⟨lw_meth q1023, rfl, q139, q1021, q1022, rfl⟩, rfl, ⟨by decide +kernel, by decide +kernel, by decide +kernel⟩, Nat.le_of_ble_eq_true rfl⟩
/-! MouldVotes$Reader want -/
abbrev cX5_want : ByteArray := prog_7_method_10_code
def yX5_want : MethodName := ⟨RX5, "want", "(ZI)V"⟩
def dkwX5_want_0 : List UInt8 := [27, 154, 0, 12, 187, 0, 136, 89, 28, 183, 0, 138, 191, 177]
abbrev dktX5_want_0 : List UInt8 := dkwX5_want_0 ++ []
theorem dksX5_want_0 : cX5_want.data.toList.drop 0 = dktX5_want_0 := by decide +kernel
theorem dX5_want_0 : decode cX5_want 0 = .ok (.iload_n 1, 1) := dk_27 (dk_at dksX5_want_0 0 rfl rfl)
theorem dX5_want_1 : decode cX5_want 1 = .ok (.ifCond .ne 12, 3) := dk_154 0 12 (dk_at dksX5_want_0 1 rfl rfl)
theorem dX5_want_4 : decode cX5_want 4 = .ok (.new 136, 3) := dk_187 0 136 (dk_at dksX5_want_0 4 rfl rfl)
theorem dX5_want_7 : decode cX5_want 7 = .ok (.dup, 1) := dk_89 (dk_at dksX5_want_0 7 rfl rfl)
theorem dX5_want_8 : decode cX5_want 8 = .ok (.iload_n 2, 1) := dk_28 (dk_at dksX5_want_0 8 rfl rfl)
theorem dX5_want_9 : decode cX5_want 9 = .ok (.invokespecial 138, 3) := dk_183 0 138 (dk_at dksX5_want_0 9 rfl rfl)
theorem dX5_want_12 : decode cX5_want 12 = .ok (.athrow, 1) := dk_191 (dk_at dksX5_want_0 12 rfl rfl)
theorem dX5_want_13 : decode cX5_want 13 = .ok (.return_, 1) := dk_177 (dk_at dksX5_want_0 13 rfl rfl)
abbrev mX5_want : xM := (yX5_want, cX5_want, 3, none, [])
def c_X5_want (G : xG) (x0 : Option Nat) (x1 : Int32) (x2 : Int32) (T : xF) : Option ((Unit ⊕ xE) × xF) :=
  if x1 = 0 then
    al (nO T 5 7 [.null, .null, .null, .null, .null, .int 0, .int 0]) fun T4 =>
    cl (c_X6_init G (some T.2.1) x2 T4) T4 fun v9 T9 =>
    if ¬ isW T9 (some T.2.1) 5 = true then none else some (.inr ("MouldVotes$Wrong", (some T.2.1).getD 0), T9)
  else
    some (.inl (), T)
theorem w_X5_want {G : xG}  {T : xF} {x0 : Option Nat} {x1 : Int32} {x2 : Int32} {q : ((Unit ⊕ xE) × xF)} (hf : c_X5_want G x0 x1 x2 T = some q) : Ct G mX5_want (4) T [va_rf x0, .int x1, .int x2] (xoV q.1) q.2 := by
  refine Ct.ofc (plainFor_of_name (by decide +kernel)) rfl (xvQ (xvI (xvI xvN))) (Nat.le_of_ble_eq_true rfl) (show Xr G _ 0 [(0, va_rf x0), (1, .int x1), (2, .int x2)] [] _ from ?_)
  unfold c_X5_want at hf
  refine X.iload_n dX5_want_0 rfl 1 rfl ?_
  refine X.if_ne (tgt := 13) dX5_want_1 (by decide) (fun c1 => ?_) (fun c1 => ?_)
  · have hf := if_f c1 hf
    obtain rfl := Option.some.inj hf
    exact X.vret dX5_want_13 rfl rfl
  · have hf := if_t c1 hf
    obtain ⟨T4, e4, hf, l4⟩ := al_ok hf
    refine C.newE e4 dX5_want_4 clX6 q1012 q1013 q139 rfl dfX6 l4 ?_
    refine X.dup dX5_want_7 (cat1 _) ?_
    refine X.iload_n dX5_want_8 rfl 2 rfl ?_
    obtain ⟨v9, T9, h9, hf, l9, r9⟩ := cl_ok hf
    refine C.Iv (As := [.int x2]) (rest := [va_rf (some T.2.1)]) dX5_want_9 (w_X6_init h9) cX5_138 rfl rfl rfl (xcs (xvQ xvN) (Nat.le_of_ble_eq_true rfl)) (xD (Nat.le_of_ble_eq_true rfl)) l9 r9 ?_
    obtain ⟨cz, hf⟩ := if_n hf
    obtain rfl := Option.some.inj hf
    exact C.athrow dX5_want_12 (Classical.not_not.mp cz) rfl rfl rfl (xnoh rfl) rfl
theorem cX5_141 : xCV RX5 141 mX5_want 2 := ⟨lw_V q1008 q1010 qs24 q132 q1011, rfl, ⟨by decide +kernel, by decide +kernel, by decide +kernel⟩, Nat.le_of_ble_eq_true rfl⟩
/-! MouldVotes$Reader numberNow -/
abbrev cX5_numberNow : ByteArray := prog_7_method_11_code
def yX5_numberNow : MethodName := ⟨RX5, "numberNow", "(II)I"⟩
def dkwX5_numberNow_2 : List UInt8 := [4, 167, 0, 4, 3, 5, 182, 0, 141, 42, 180, 0, 103, 172]
abbrev dktX5_numberNow_2 : List UInt8 := dkwX5_numberNow_2 ++ []
def dkwX5_numberNow_1 : List UInt8 := [180, 0, 90, 100, 7, 163, 0, 23, 42, 180, 0, 103, 27, 161, 0, 15, 42, 180, 0, 103, 28, 163, 0, 7]
abbrev dktX5_numberNow_1 : List UInt8 := dkwX5_numberNow_1 ++ dktX5_numberNow_2
def dkwX5_numberNow_0 : List UInt8 := [42, 42, 180, 0, 93, 5, 160, 0, 7, 4, 167, 0, 4, 3, 4, 182, 0, 141, 42, 42, 180, 0, 119, 42]
abbrev dktX5_numberNow_0 : List UInt8 := dkwX5_numberNow_0 ++ dktX5_numberNow_1
theorem dksX5_numberNow_0 : cX5_numberNow.data.toList.drop 0 = dktX5_numberNow_0 := by decide +kernel
theorem dksX5_numberNow_1 : cX5_numberNow.data.toList.drop 24 = dktX5_numberNow_1 := dk_seg dksX5_numberNow_0 24 rfl rfl
theorem dksX5_numberNow_2 : cX5_numberNow.data.toList.drop 48 = dktX5_numberNow_2 := dk_seg dksX5_numberNow_1 24 rfl rfl
theorem dX5_numberNow_0 : decode cX5_numberNow 0 = .ok (.aload_n 0, 1) := dk_42 (dk_at dksX5_numberNow_0 0 rfl rfl)
theorem dX5_numberNow_1 : decode cX5_numberNow 1 = .ok (.aload_n 0, 1) := dk_42 (dk_at dksX5_numberNow_0 1 rfl rfl)
theorem dX5_numberNow_2 : decode cX5_numberNow 2 = .ok (.getfield 93, 3) := dk_180 0 93 (dk_at dksX5_numberNow_0 2 rfl rfl)
theorem dX5_numberNow_5 : decode cX5_numberNow 5 = .ok (.iconst 2, 1) := dk_5 (dk_at dksX5_numberNow_0 5 rfl rfl)
theorem dX5_numberNow_6 : decode cX5_numberNow 6 = .ok (.if_icmp .ne 7, 3) := dk_160 0 7 (dk_at dksX5_numberNow_0 6 rfl rfl)
theorem dX5_numberNow_9 : decode cX5_numberNow 9 = .ok (.iconst 1, 1) := dk_4 (dk_at dksX5_numberNow_0 9 rfl rfl)
theorem dX5_numberNow_10 : decode cX5_numberNow 10 = .ok (.goto 4, 3) := dk_167 0 4 (dk_at dksX5_numberNow_0 10 rfl rfl)
theorem dX5_numberNow_13 : decode cX5_numberNow 13 = .ok (.iconst 0, 1) := dk_3 (dk_at dksX5_numberNow_0 13 rfl rfl)
theorem dX5_numberNow_14 : decode cX5_numberNow 14 = .ok (.iconst 1, 1) := dk_4 (dk_at dksX5_numberNow_0 14 rfl rfl)
theorem dX5_numberNow_15 : decode cX5_numberNow 15 = .ok (.invokevirtual 141, 3) := dk_182 0 141 (dk_at dksX5_numberNow_0 15 rfl rfl)
theorem dX5_numberNow_18 : decode cX5_numberNow 18 = .ok (.aload_n 0, 1) := dk_42 (dk_at dksX5_numberNow_0 18 rfl rfl)
theorem dX5_numberNow_19 : decode cX5_numberNow 19 = .ok (.aload_n 0, 1) := dk_42 (dk_at dksX5_numberNow_0 19 rfl rfl)
theorem dX5_numberNow_20 : decode cX5_numberNow 20 = .ok (.getfield 119, 3) := dk_180 0 119 (dk_at dksX5_numberNow_0 20 rfl rfl)
theorem dX5_numberNow_23 : decode cX5_numberNow 23 = .ok (.aload_n 0, 1) := dk_42 (dk_at dksX5_numberNow_0 23 rfl rfl)
theorem dX5_numberNow_24 : decode cX5_numberNow 24 = .ok (.getfield 90, 3) := dk_180 0 90 (dk_at dksX5_numberNow_1 0 rfl rfl)
theorem dX5_numberNow_27 : decode cX5_numberNow 27 = .ok (.isub, 1) := dk_100 (dk_at dksX5_numberNow_1 3 rfl rfl)
theorem dX5_numberNow_28 : decode cX5_numberNow 28 = .ok (.iconst 4, 1) := dk_7 (dk_at dksX5_numberNow_1 4 rfl rfl)
theorem dX5_numberNow_29 : decode cX5_numberNow 29 = .ok (.if_icmp .gt 23, 3) := dk_163 0 23 (dk_at dksX5_numberNow_1 5 rfl rfl)
theorem dX5_numberNow_32 : decode cX5_numberNow 32 = .ok (.aload_n 0, 1) := dk_42 (dk_at dksX5_numberNow_1 8 rfl rfl)
theorem dX5_numberNow_33 : decode cX5_numberNow 33 = .ok (.getfield 103, 3) := dk_180 0 103 (dk_at dksX5_numberNow_1 9 rfl rfl)
theorem dX5_numberNow_36 : decode cX5_numberNow 36 = .ok (.iload_n 1, 1) := dk_27 (dk_at dksX5_numberNow_1 12 rfl rfl)
theorem dX5_numberNow_37 : decode cX5_numberNow 37 = .ok (.if_icmp .lt 15, 3) := dk_161 0 15 (dk_at dksX5_numberNow_1 13 rfl rfl)
theorem dX5_numberNow_40 : decode cX5_numberNow 40 = .ok (.aload_n 0, 1) := dk_42 (dk_at dksX5_numberNow_1 16 rfl rfl)
theorem dX5_numberNow_41 : decode cX5_numberNow 41 = .ok (.getfield 103, 3) := dk_180 0 103 (dk_at dksX5_numberNow_1 17 rfl rfl)
theorem dX5_numberNow_44 : decode cX5_numberNow 44 = .ok (.iload_n 2, 1) := dk_28 (dk_at dksX5_numberNow_1 20 rfl rfl)
theorem dX5_numberNow_45 : decode cX5_numberNow 45 = .ok (.if_icmp .gt 7, 3) := dk_163 0 7 (dk_at dksX5_numberNow_1 21 rfl rfl)
theorem dX5_numberNow_48 : decode cX5_numberNow 48 = .ok (.iconst 1, 1) := dk_4 (dk_at dksX5_numberNow_2 0 rfl rfl)
theorem dX5_numberNow_49 : decode cX5_numberNow 49 = .ok (.goto 4, 3) := dk_167 0 4 (dk_at dksX5_numberNow_2 1 rfl rfl)
theorem dX5_numberNow_52 : decode cX5_numberNow 52 = .ok (.iconst 0, 1) := dk_3 (dk_at dksX5_numberNow_2 4 rfl rfl)
theorem dX5_numberNow_53 : decode cX5_numberNow 53 = .ok (.iconst 2, 1) := dk_5 (dk_at dksX5_numberNow_2 5 rfl rfl)
theorem dX5_numberNow_54 : decode cX5_numberNow 54 = .ok (.invokevirtual 141, 3) := dk_182 0 141 (dk_at dksX5_numberNow_2 6 rfl rfl)
theorem dX5_numberNow_57 : decode cX5_numberNow 57 = .ok (.aload_n 0, 1) := dk_42 (dk_at dksX5_numberNow_2 9 rfl rfl)
theorem dX5_numberNow_58 : decode cX5_numberNow 58 = .ok (.getfield 103, 3) := dk_180 0 103 (dk_at dksX5_numberNow_2 10 rfl rfl)
theorem dX5_numberNow_61 : decode cX5_numberNow 61 = .ok (.ireturn, 1) := dk_172 (dk_at dksX5_numberNow_2 13 rfl rfl)
abbrev mX5_numberNow : xM := (yX5_numberNow, cX5_numberNow, 3, (some .int), [])
def c_X5_numberNow_53 (G : xG) (x0 : Option Nat) (y0 : Int32) (y1 : Option Nat) (T : xF) : Option ((Int32 ⊕ xE) × xF) :=
  if ¬ isO T y1 4 = true then none else
  clX (c_X5_want G y1 y0 (2 : Int32) T) T fun v54 T54 =>
  (oI T54 x0 4 11).bind fun v58 =>
  some (.inl v58, T54)
theorem c_X5_numberNow_53_ok {G : xG}  {T0 : xF}   (x0 : Option Nat) (y0 : Int32) (y1 : Option Nat) (T : xF) (q : ((Int32 ⊕ xE) × xF)) (hf : c_X5_numberNow_53 G x0 y0 y1 T = some q) : Xr G (mX5_numberNow, xrm (5) T0 q.2, T0, xoI q.1, q.2) 53 [(0, va_rf x0)] [.int y0, va_rf y1] T := by
  unfold c_X5_numberNow_53 at hf
  refine X.iconst (v := 2) dX5_numberNow_53 (by decide) ?_
  obtain ⟨c54, hf⟩ := if_n hf
  rcases clX_ok hf with ⟨v54, T54, h54, hf, l54, r54⟩ | ⟨e54, T54, h54, rfl, l54⟩
  rotate_left
  · exact C.Vx (As := [.int y0, .int (2 : Int32)]) (rest := []) dX5_numberNow_54 (w_X5_want h54) cX5_141 (Classical.not_not.mp c54) rfl rfl (xcs xvN (Nat.le_of_ble_eq_true rfl)) rfl rfl (xD (Nat.le_of_ble_eq_true rfl)) l54 xle.rf (xnoh rfl) rfl
  refine C.Vv (As := [.int y0, .int (2 : Int32)]) (rest := []) dX5_numberNow_54 (w_X5_want h54) cX5_141 (Classical.not_not.mp c54) rfl rfl (xcs xvN (Nat.le_of_ble_eq_true rfl)) rfl rfl (xD (Nat.le_of_ble_eq_true rfl)) l54 r54 ?_
  refine C.aload_n dX5_numberNow_57 rfl 0 rfl ?_
  obtain ⟨v58, h58, hf⟩ := ob hf
  refine C.getI dX5_numberNow_58 rX5_103 h58 ?_
  obtain rfl := Option.some.inj hf
  exact X.iret dX5_numberNow_61 rfl rfl rfl
def c_X5_numberNow_52 (G : xG) (x0 : Option Nat) (y0 : Option Nat) (T : xF) : Option ((Int32 ⊕ xE) × xF) :=
  c_X5_numberNow_53 G x0 (0 : Int32) y0 T
theorem c_X5_numberNow_52_ok {G : xG}  {T0 : xF}   (x0 : Option Nat) (y0 : Option Nat) (T : xF) (q : ((Int32 ⊕ xE) × xF)) (hf : c_X5_numberNow_52 G x0 y0 T = some q) : Xr G (mX5_numberNow, xrm (5) T0 q.2, T0, xoI q.1, q.2) 52 [(0, va_rf x0)] [va_rf y0] T := by
  unfold c_X5_numberNow_52 at hf
  refine X.iconst (v := 0) dX5_numberNow_52 (by decide) ?_
  refine X.sub [0] (L' := [(0, va_rf x0)]) rfl ?_
  exact c_X5_numberNow_53_ok _ _ _ _ _ hf
def c_X5_numberNow_14 (G : xG) (x0 : Option Nat) (x1 : Int32) (x2 : Int32) (y0 : Int32) (y1 : Option Nat) (T : xF) : Option ((Int32 ⊕ xE) × xF) :=
  if ¬ isO T y1 4 = true then none else
  clX (c_X5_want G y1 y0 (1 : Int32) T) T fun v15 T15 =>
  (oI T15 x0 4 10).bind fun v20 =>
  (oI T15 x0 4 9).bind fun v24 =>
  if (4 : Int32) < (v20 - v24) then
    c_X5_numberNow_52 G x0 x0 T15
  else
    (oI T15 x0 4 11).bind fun v33 =>
    if v33 < x1 then
      c_X5_numberNow_52 G x0 x0 T15
    else
      (oI T15 x0 4 11).bind fun v41 =>
      if x2 < v41 then
        c_X5_numberNow_52 G x0 x0 T15
      else
        c_X5_numberNow_53 G x0 (1 : Int32) x0 T15
theorem c_X5_numberNow_14_ok {G : xG}  {T0 : xF}   (x0 : Option Nat) (x1 : Int32) (x2 : Int32) (y0 : Int32) (y1 : Option Nat) (T : xF) (q : ((Int32 ⊕ xE) × xF)) (hf : c_X5_numberNow_14 G x0 x1 x2 y0 y1 T = some q) : Xr G (mX5_numberNow, xrm (5) T0 q.2, T0, xoI q.1, q.2) 14 [(0, va_rf x0), (1, .int x1), (2, .int x2)] [.int y0, va_rf y1] T := by
  unfold c_X5_numberNow_14 at hf
  refine X.iconst (v := 1) dX5_numberNow_14 (by decide) ?_
  obtain ⟨c15, hf⟩ := if_n hf
  rcases clX_ok hf with ⟨v15, T15, h15, hf, l15, r15⟩ | ⟨e15, T15, h15, rfl, l15⟩
  rotate_left
  · exact C.Vx (As := [.int y0, .int (1 : Int32)]) (rest := []) dX5_numberNow_15 (w_X5_want h15) cX5_141 (Classical.not_not.mp c15) rfl rfl (xcs xvN (Nat.le_of_ble_eq_true rfl)) rfl rfl (xD (Nat.le_of_ble_eq_true rfl)) l15 xle.rf (xnoh rfl) rfl
  refine C.Vv (As := [.int y0, .int (1 : Int32)]) (rest := []) dX5_numberNow_15 (w_X5_want h15) cX5_141 (Classical.not_not.mp c15) rfl rfl (xcs xvN (Nat.le_of_ble_eq_true rfl)) rfl rfl (xD (Nat.le_of_ble_eq_true rfl)) l15 r15 ?_
  refine C.aload_n dX5_numberNow_18 rfl 0 rfl ?_
  refine C.aload_n dX5_numberNow_19 rfl 0 rfl ?_
  obtain ⟨v20, h20, hf⟩ := ob hf
  refine C.getI dX5_numberNow_20 rX5_119 h20 ?_
  refine C.aload_n dX5_numberNow_23 rfl 0 rfl ?_
  obtain ⟨v24, h24, hf⟩ := ob hf
  refine C.getI dX5_numberNow_24 rX5_90 h24 ?_
  refine X.isub dX5_numberNow_27 ?_
  refine X.iconst (v := 4) dX5_numberNow_28 (by decide) ?_
  refine X.icmp_gt (tgt := 52) dX5_numberNow_29 (by decide) (fun c29 => ?_) (fun c29 => ?_)
  · have hf := if_t c29 hf
    refine X.sub [0] (L' := [(0, va_rf x0)]) rfl ?_
    exact c_X5_numberNow_52_ok _ _ _ _ hf
  · have hf := if_f c29 hf
    refine C.aload_n dX5_numberNow_32 rfl 0 rfl ?_
    obtain ⟨v33, h33, hf⟩ := ob hf
    refine C.getI dX5_numberNow_33 rX5_103 h33 ?_
    refine X.iload_n dX5_numberNow_36 rfl 1 rfl ?_
    refine X.icmp_lt (tgt := 52) dX5_numberNow_37 (by decide) (fun c37 => ?_) (fun c37 => ?_)
    · have hf := if_t c37 hf
      refine X.sub [0] (L' := [(0, va_rf x0)]) rfl ?_
      exact c_X5_numberNow_52_ok _ _ _ _ hf
    · have hf := if_f c37 hf
      refine C.aload_n dX5_numberNow_40 rfl 0 rfl ?_
      obtain ⟨v41, h41, hf⟩ := ob hf
      refine C.getI dX5_numberNow_41 rX5_103 h41 ?_
      refine X.iload_n dX5_numberNow_44 rfl 2 rfl ?_
      refine X.icmp_gt (tgt := 52) dX5_numberNow_45 (by decide) (fun c45 => ?_) (fun c45 => ?_)
      · have hf := if_t c45 hf
        refine X.sub [0] (L' := [(0, va_rf x0)]) rfl ?_
        exact c_X5_numberNow_52_ok _ _ _ _ hf
      · have hf := if_f c45 hf
        refine X.iconst (v := 1) dX5_numberNow_48 (by decide) ?_
        refine X.goto (tgt := 53) dX5_numberNow_49 (by decide) ?_
        refine X.sub [0] (L' := [(0, va_rf x0)]) rfl ?_
        exact c_X5_numberNow_53_ok _ _ _ _ _ hf
def c_X5_numberNow (G : xG) (x0 : Option Nat) (x1 : Int32) (x2 : Int32) (T : xF) : Option ((Int32 ⊕ xE) × xF) :=
  (oI T x0 4 8).bind fun v2 =>
  if v2 = (2 : Int32) then
    c_X5_numberNow_14 G x0 x1 x2 (1 : Int32) x0 T
  else
    c_X5_numberNow_14 G x0 x1 x2 (0 : Int32) x0 T
theorem w_X5_numberNow {G : xG}  {T : xF} {x0 : Option Nat} {x1 : Int32} {x2 : Int32} {q : ((Int32 ⊕ xE) × xF)} (hf : c_X5_numberNow G x0 x1 x2 T = some q) : Ct G mX5_numberNow (5) T [va_rf x0, .int x1, .int x2] (xoI q.1) q.2 := by
  refine Ct.ofc (plainFor_of_name (by decide +kernel)) rfl (xvQ (xvI (xvI xvN))) (Nat.le_of_ble_eq_true rfl) (show Xr G _ 0 [(0, va_rf x0), (1, .int x1), (2, .int x2)] [] _ from ?_)
  unfold c_X5_numberNow at hf
  refine C.aload_n dX5_numberNow_0 rfl 0 rfl ?_
  refine C.aload_n dX5_numberNow_1 rfl 0 rfl ?_
  obtain ⟨v2, h2, hf⟩ := ob hf
  refine C.getI dX5_numberNow_2 rX5_93 h2 ?_
  refine X.iconst (v := 2) dX5_numberNow_5 (by decide) ?_
  refine X.icmp_ne (tgt := 13) dX5_numberNow_6 (by decide) (fun c6 => ?_) (fun c6 => ?_)
  · have hf := if_f c6 hf
    refine X.iconst (v := 0) dX5_numberNow_13 (by decide) ?_
    refine X.sub [0, 1, 2] (L' := [(0, va_rf x0), (1, .int x1), (2, .int x2)]) rfl ?_
    exact c_X5_numberNow_14_ok _ _ _ _ _ _ _ hf
  · have hf := if_t c6 hf
    refine X.iconst (v := 1) dX5_numberNow_9 (by decide) ?_
    refine X.goto (tgt := 14) dX5_numberNow_10 (by decide) ?_
    refine X.sub [0, 1, 2] (L' := [(0, va_rf x0), (1, .int x1), (2, .int x2)]) rfl ?_
    exact c_X5_numberNow_14_ok _ _ _ _ _ _ _ hf
theorem cX5_145 : xCV RX5 145 mX5_numberNow 2 := ⟨lw_V q1041 q1043 qs26 q132 q1044, rfl, ⟨by decide +kernel, by decide +kernel, by decide +kernel⟩, Nat.le_of_ble_eq_true rfl⟩
/-! MouldVotes$Reader number -/
abbrev cX5_number : ByteArray := prog_7_method_12_code
def yX5_number : MethodName := ⟨RX5, "number", "(II)I"⟩
def dkwX5_number_0 : List UInt8 := [42, 27, 28, 182, 0, 145, 62, 42, 182, 0, 133, 29, 172]
abbrev dktX5_number_0 : List UInt8 := dkwX5_number_0 ++ []
theorem dksX5_number_0 : cX5_number.data.toList.drop 0 = dktX5_number_0 := by decide +kernel
theorem dX5_number_0 : decode cX5_number 0 = .ok (.aload_n 0, 1) := dk_42 (dk_at dksX5_number_0 0 rfl rfl)
theorem dX5_number_1 : decode cX5_number 1 = .ok (.iload_n 1, 1) := dk_27 (dk_at dksX5_number_0 1 rfl rfl)
theorem dX5_number_2 : decode cX5_number 2 = .ok (.iload_n 2, 1) := dk_28 (dk_at dksX5_number_0 2 rfl rfl)
theorem dX5_number_3 : decode cX5_number 3 = .ok (.invokevirtual 145, 3) := dk_182 0 145 (dk_at dksX5_number_0 3 rfl rfl)
theorem dX5_number_6 : decode cX5_number 6 = .ok (.istore_n 3, 1) := dk_62 (dk_at dksX5_number_0 6 rfl rfl)
theorem dX5_number_7 : decode cX5_number 7 = .ok (.aload_n 0, 1) := dk_42 (dk_at dksX5_number_0 7 rfl rfl)
theorem dX5_number_8 : decode cX5_number 8 = .ok (.invokevirtual 133, 3) := dk_182 0 133 (dk_at dksX5_number_0 8 rfl rfl)
theorem dX5_number_11 : decode cX5_number 11 = .ok (.iload_n 3, 1) := dk_29 (dk_at dksX5_number_0 11 rfl rfl)
theorem dX5_number_12 : decode cX5_number 12 = .ok (.ireturn, 1) := dk_172 (dk_at dksX5_number_0 12 rfl rfl)
abbrev mX5_number : xM := (yX5_number, cX5_number, 4, (some .int), [])
def c_X5_number (G : xG) (x0 : Option Nat) (x1 : Int32) (x2 : Int32) (T : xF) : Option ((Int32 ⊕ xE) × xF) :=
  if ¬ isO T x0 4 = true then none else
  clX (c_X5_numberNow G x0 x1 x2 T) T fun v3 T3 =>
  if ¬ isO T3 x0 4 = true then none else
  cl (c_X5_next G x0 T3) T3 fun v8 T8 =>
  some (.inl v3, T8)
theorem w_X5_number {G : xG}  {T : xF} {x0 : Option Nat} {x1 : Int32} {x2 : Int32} {q : ((Int32 ⊕ xE) × xF)} (hf : c_X5_number G x0 x1 x2 T = some q) : Ct G mX5_number (6) T [va_rf x0, .int x1, .int x2] (xoI q.1) q.2 := by
  refine Ct.ofc (plainFor_of_name (by decide +kernel)) rfl (xvQ (xvI (xvI xvN))) (Nat.le_of_ble_eq_true rfl) (show Xr G _ 0 [(0, va_rf x0), (1, .int x1), (2, .int x2)] [] _ from ?_)
  unfold c_X5_number at hf
  refine C.aload_n dX5_number_0 rfl 0 rfl ?_
  refine X.iload_n dX5_number_1 rfl 1 rfl ?_
  refine X.iload_n dX5_number_2 rfl 2 rfl ?_
  obtain ⟨c3, hf⟩ := if_n hf
  rcases clX_ok hf with ⟨v3, T3, h3, hf, l3, r3⟩ | ⟨e3, T3, h3, rfl, l3⟩
  rotate_left
  · exact C.Vx (As := [.int x1, .int x2]) (rest := []) dX5_number_3 (w_X5_numberNow h3) cX5_145 (Classical.not_not.mp c3) rfl rfl (xcs xvN (Nat.le_of_ble_eq_true rfl)) rfl rfl (xD (Nat.le_of_ble_eq_true rfl)) l3 xle.rf (xnoh rfl) rfl
  refine C.Vi (As := [.int x1, .int x2]) (rest := []) dX5_number_3 (w_X5_numberNow h3) cX5_145 (Classical.not_not.mp c3) rfl rfl (xcs xvN (Nat.le_of_ble_eq_true rfl)) rfl rfl (xD (Nat.le_of_ble_eq_true rfl)) l3 r3 ?_
  refine C.ist_n (L' := [(3, .int v3), (0, va_rf x0), (1, .int x1), (2, .int x2)]) dX5_number_6 rfl (Nat.le_of_ble_eq_true rfl) (xcQ (xcI (xcI xcN))) rfl ?_
  refine C.aload_n dX5_number_7 rfl 1 rfl ?_
  obtain ⟨c8, hf⟩ := if_n hf
  obtain ⟨v8, T8, h8, hf, l8, r8⟩ := cl_ok hf
  refine C.Vv (As := []) (rest := []) dX5_number_8 (w_X5_next h8) cX5_133 (Classical.not_not.mp c8) rfl rfl (xcs xvN (Nat.le_of_ble_eq_true rfl)) rfl rfl (xD (Nat.le_of_ble_eq_true rfl)) l8 r8 ?_
  refine X.iload_n dX5_number_11 rfl 0 rfl ?_
  obtain rfl := Option.some.inj hf
  exact X.iret dX5_number_12 rfl rfl rfl
theorem cX5_150 : xCV RX5 150 mX5_number 2 := ⟨lw_V q1037 q1039 qs25 q132 q1040, rfl, ⟨by decide +kernel, by decide +kernel, by decide +kernel⟩, Nat.le_of_ble_eq_true rfl⟩
/-! MouldVotes$Reader warmths -/
abbrev cX5_warmths : ByteArray := prog_7_method_24_code
def yX5_warmths : MethodName := ⟨RX5, "warmths", "()V"⟩
def dkwX5_warmths_3 : List UInt8 := [184, 0, 243, 185, 0, 249, 2, 0, 87, 167, 255, 198, 177]
abbrev dktX5_warmths_3 : List UInt8 := dkwX5_warmths_3 ++ []
def dkwX5_warmths_2 : List UInt8 := [167, 0, 4, 3, 5, 182, 0, 141, 42, 180, 0, 18, 180, 0, 240, 42, 3, 16, 9, 182, 0, 150]
abbrev dktX5_warmths_2 : List UInt8 := dkwX5_warmths_2 ++ dktX5_warmths_3
def dkwX5_warmths_1 : List UInt8 := [160, 0, 56, 42, 42, 180, 0, 18, 180, 0, 240, 185, 0, 234, 1, 0, 16, 8, 162, 0, 7, 4]
abbrev dktX5_warmths_1 : List UInt8 := dkwX5_warmths_1 ++ dktX5_warmths_2
def dkwX5_warmths_0 : List UInt8 := [42, 42, 180, 0, 93, 5, 160, 0, 7, 4, 167, 0, 4, 3, 4, 182, 0, 141, 42, 180, 0, 93, 5]
abbrev dktX5_warmths_0 : List UInt8 := dkwX5_warmths_0 ++ dktX5_warmths_1
theorem dksX5_warmths_0 : cX5_warmths.data.toList.drop 0 = dktX5_warmths_0 := by decide +kernel
theorem dksX5_warmths_1 : cX5_warmths.data.toList.drop 23 = dktX5_warmths_1 := dk_seg dksX5_warmths_0 23 rfl rfl
theorem dksX5_warmths_2 : cX5_warmths.data.toList.drop 45 = dktX5_warmths_2 := dk_seg dksX5_warmths_1 22 rfl rfl
theorem dksX5_warmths_3 : cX5_warmths.data.toList.drop 67 = dktX5_warmths_3 := dk_seg dksX5_warmths_2 22 rfl rfl
theorem dX5_warmths_0 : decode cX5_warmths 0 = .ok (.aload_n 0, 1) := dk_42 (dk_at dksX5_warmths_0 0 rfl rfl)
theorem dX5_warmths_1 : decode cX5_warmths 1 = .ok (.aload_n 0, 1) := dk_42 (dk_at dksX5_warmths_0 1 rfl rfl)
theorem dX5_warmths_2 : decode cX5_warmths 2 = .ok (.getfield 93, 3) := dk_180 0 93 (dk_at dksX5_warmths_0 2 rfl rfl)
theorem dX5_warmths_5 : decode cX5_warmths 5 = .ok (.iconst 2, 1) := dk_5 (dk_at dksX5_warmths_0 5 rfl rfl)
theorem dX5_warmths_6 : decode cX5_warmths 6 = .ok (.if_icmp .ne 7, 3) := dk_160 0 7 (dk_at dksX5_warmths_0 6 rfl rfl)
theorem dX5_warmths_9 : decode cX5_warmths 9 = .ok (.iconst 1, 1) := dk_4 (dk_at dksX5_warmths_0 9 rfl rfl)
theorem dX5_warmths_10 : decode cX5_warmths 10 = .ok (.goto 4, 3) := dk_167 0 4 (dk_at dksX5_warmths_0 10 rfl rfl)
theorem dX5_warmths_13 : decode cX5_warmths 13 = .ok (.iconst 0, 1) := dk_3 (dk_at dksX5_warmths_0 13 rfl rfl)
theorem dX5_warmths_14 : decode cX5_warmths 14 = .ok (.iconst 1, 1) := dk_4 (dk_at dksX5_warmths_0 14 rfl rfl)
theorem dX5_warmths_15 : decode cX5_warmths 15 = .ok (.invokevirtual 141, 3) := dk_182 0 141 (dk_at dksX5_warmths_0 15 rfl rfl)
theorem dX5_warmths_18 : decode cX5_warmths 18 = .ok (.aload_n 0, 1) := dk_42 (dk_at dksX5_warmths_0 18 rfl rfl)
theorem dX5_warmths_19 : decode cX5_warmths 19 = .ok (.getfield 93, 3) := dk_180 0 93 (dk_at dksX5_warmths_0 19 rfl rfl)
theorem dX5_warmths_22 : decode cX5_warmths 22 = .ok (.iconst 2, 1) := dk_5 (dk_at dksX5_warmths_0 22 rfl rfl)
theorem dX5_warmths_23 : decode cX5_warmths 23 = .ok (.if_icmp .ne 56, 3) := dk_160 0 56 (dk_at dksX5_warmths_1 0 rfl rfl)
theorem dX5_warmths_26 : decode cX5_warmths 26 = .ok (.aload_n 0, 1) := dk_42 (dk_at dksX5_warmths_1 3 rfl rfl)
theorem dX5_warmths_27 : decode cX5_warmths 27 = .ok (.aload_n 0, 1) := dk_42 (dk_at dksX5_warmths_1 4 rfl rfl)
theorem dX5_warmths_28 : decode cX5_warmths 28 = .ok (.getfield 18, 3) := dk_180 0 18 (dk_at dksX5_warmths_1 5 rfl rfl)
theorem dX5_warmths_31 : decode cX5_warmths 31 = .ok (.getfield 240, 3) := dk_180 0 240 (dk_at dksX5_warmths_1 8 rfl rfl)
theorem dX5_warmths_34 : decode cX5_warmths 34 = .ok (.invokeinterface 234 1, 5) := by decide +kernel
theorem dX5_warmths_39 : decode cX5_warmths 39 = .ok (.bipush 8, 2) := dk_16 8 (dk_at dksX5_warmths_1 16 rfl rfl)
theorem dX5_warmths_41 : decode cX5_warmths 41 = .ok (.if_icmp .ge 7, 3) := dk_162 0 7 (dk_at dksX5_warmths_1 18 rfl rfl)
theorem dX5_warmths_44 : decode cX5_warmths 44 = .ok (.iconst 1, 1) := dk_4 (dk_at dksX5_warmths_1 21 rfl rfl)
theorem dX5_warmths_45 : decode cX5_warmths 45 = .ok (.goto 4, 3) := dk_167 0 4 (dk_at dksX5_warmths_2 0 rfl rfl)
theorem dX5_warmths_48 : decode cX5_warmths 48 = .ok (.iconst 0, 1) := dk_3 (dk_at dksX5_warmths_2 3 rfl rfl)
theorem dX5_warmths_49 : decode cX5_warmths 49 = .ok (.iconst 2, 1) := dk_5 (dk_at dksX5_warmths_2 4 rfl rfl)
theorem dX5_warmths_50 : decode cX5_warmths 50 = .ok (.invokevirtual 141, 3) := dk_182 0 141 (dk_at dksX5_warmths_2 5 rfl rfl)
theorem dX5_warmths_53 : decode cX5_warmths 53 = .ok (.aload_n 0, 1) := dk_42 (dk_at dksX5_warmths_2 8 rfl rfl)
theorem dX5_warmths_54 : decode cX5_warmths 54 = .ok (.getfield 18, 3) := dk_180 0 18 (dk_at dksX5_warmths_2 9 rfl rfl)
theorem dX5_warmths_57 : decode cX5_warmths 57 = .ok (.getfield 240, 3) := dk_180 0 240 (dk_at dksX5_warmths_2 12 rfl rfl)
theorem dX5_warmths_60 : decode cX5_warmths 60 = .ok (.aload_n 0, 1) := dk_42 (dk_at dksX5_warmths_2 15 rfl rfl)
theorem dX5_warmths_61 : decode cX5_warmths 61 = .ok (.iconst 0, 1) := dk_3 (dk_at dksX5_warmths_2 16 rfl rfl)
theorem dX5_warmths_62 : decode cX5_warmths 62 = .ok (.bipush 9, 2) := dk_16 9 (dk_at dksX5_warmths_2 17 rfl rfl)
theorem dX5_warmths_64 : decode cX5_warmths 64 = .ok (.invokevirtual 150, 3) := dk_182 0 150 (dk_at dksX5_warmths_2 19 rfl rfl)
theorem dX5_warmths_67 : decode cX5_warmths 67 = .ok (.invokestatic 243, 3) := dk_184 0 243 (dk_at dksX5_warmths_3 0 rfl rfl)
theorem dX5_warmths_70 : decode cX5_warmths 70 = .ok (.invokeinterface 249 2, 5) := by decide +kernel
theorem dX5_warmths_75 : decode cX5_warmths 75 = .ok (.pop, 1) := dk_87 (dk_at dksX5_warmths_3 8 rfl rfl)
theorem dX5_warmths_76 : decode cX5_warmths 76 = .ok (.goto (-58), 3) := dk_167 255 198 (dk_at dksX5_warmths_3 9 rfl rfl)
theorem dX5_warmths_79 : decode cX5_warmths 79 = .ok (.return_, 1) := dk_177 (dk_at dksX5_warmths_3 12 rfl rfl)
abbrev mX5_warmths : xM := (yX5_warmths, cX5_warmths, 1, none, [])
def c_X5_warmths_49 (G : xG) (k18 : Option Nat → xF → Option ((Unit ⊕ xE) × xF)) (x0 : Option Nat) (y0 : Int32) (y1 : Option Nat) (T : xF) : Option ((Unit ⊕ xE) × xF) :=
  if ¬ isO T y1 4 = true then none else
  clX (c_X5_want G y1 y0 (2 : Int32) T) T fun v50 T50 =>
  (oQ T50 x0 4 1).bind fun v54 =>
  (oQ T50 v54 1 1).bind fun v57 =>
  if ¬ isO T50 x0 4 = true then none else
  clX (c_X5_number G x0 (0 : Int32) (9 : Int32) T50) T50 fun v64 T64 =>
  cl (c_J14_valueOf G v64 T64) T64 fun v67 T67 =>
  if ¬ isO T67 v57 10 = true then none else
  cl (c_J2_add G v57 v67 T67) T67 fun v70 T70 =>
  k18 x0 T70
theorem c_X5_warmths_49_ok {G : xG}  {T0 : xF} {k18 : Option Nat → xF → Option ((Unit ⊕ xE) × xF)} (hk18 : ∀ (x0 : Option Nat) (T : xF) (q : ((Unit ⊕ xE) × xF)), k18 x0 T = some q → Xr G (mX5_warmths, xrm (8) T0 q.2, T0, xoV q.1, q.2) 18 [(0, va_rf x0)] [] T) (x0 : Option Nat) (y0 : Int32) (y1 : Option Nat) (T : xF) (q : ((Unit ⊕ xE) × xF)) (hf : c_X5_warmths_49 G k18 x0 y0 y1 T = some q) : Xr G (mX5_warmths, xrm (8) T0 q.2, T0, xoV q.1, q.2) 49 [(0, va_rf x0)] [.int y0, va_rf y1] T := by
  unfold c_X5_warmths_49 at hf
  refine X.iconst (v := 2) dX5_warmths_49 (by decide) ?_
  obtain ⟨c50, hf⟩ := if_n hf
  rcases clX_ok hf with ⟨v50, T50, h50, hf, l50, r50⟩ | ⟨e50, T50, h50, rfl, l50⟩
  rotate_left
  · exact C.Vx (As := [.int y0, .int (2 : Int32)]) (rest := []) dX5_warmths_50 (w_X5_want h50) cX5_141 (Classical.not_not.mp c50) rfl rfl (xcs xvN (Nat.le_of_ble_eq_true rfl)) rfl rfl (xD (Nat.le_of_ble_eq_true rfl)) l50 xle.rf (xnoh rfl) rfl
  refine C.Vv (As := [.int y0, .int (2 : Int32)]) (rest := []) dX5_warmths_50 (w_X5_want h50) cX5_141 (Classical.not_not.mp c50) rfl rfl (xcs xvN (Nat.le_of_ble_eq_true rfl)) rfl rfl (xD (Nat.le_of_ble_eq_true rfl)) l50 r50 ?_
  refine C.aload_n dX5_warmths_53 rfl 0 rfl ?_
  obtain ⟨v54, h54, hf⟩ := ob hf
  refine C.getQ dX5_warmths_54 rX5_18 h54 ?_
  obtain ⟨v57, h57, hf⟩ := ob hf
  refine C.getQ dX5_warmths_57 rX5_240 h57 ?_
  refine C.aload_n dX5_warmths_60 rfl 0 rfl ?_
  refine X.iconst (v := 0) dX5_warmths_61 (by decide) ?_
  refine X.bipush (v := 9) dX5_warmths_62 (by decide) ?_
  obtain ⟨c64, hf⟩ := if_n hf
  rcases clX_ok hf with ⟨v64, T64, h64, hf, l64, r64⟩ | ⟨e64, T64, h64, rfl, l64⟩
  rotate_left
  · exact C.Vx (As := [.int (0 : Int32), .int (9 : Int32)]) (rest := [va_rf v57]) dX5_warmths_64 (w_X5_number h64) cX5_150 (Classical.not_not.mp c64) rfl rfl (xcs (xvQ xvN) (Nat.le_of_ble_eq_true rfl)) rfl rfl (xD (Nat.le_of_ble_eq_true rfl)) l64 xle.rf (xnoh rfl) rfl
  refine C.Vi (As := [.int (0 : Int32), .int (9 : Int32)]) (rest := [va_rf v57]) dX5_warmths_64 (w_X5_number h64) cX5_150 (Classical.not_not.mp c64) rfl rfl (xcs (xvQ xvN) (Nat.le_of_ble_eq_true rfl)) rfl rfl (xD (Nat.le_of_ble_eq_true rfl)) l64 r64 ?_
  obtain ⟨v67, T67, h67, hf, l67, r67⟩ := cl_ok hf
  refine C.Sq (As := [.int v64]) (rest := [va_rf v57]) dX5_warmths_67 (w_J14_valueOf h67) cX5_243 rfl rfl (xcs (xvQ xvN) (Nat.le_of_ble_eq_true rfl)) (xD (Nat.le_of_ble_eq_true rfl)) l67 r67 ?_
  obtain ⟨c70, hf⟩ := if_n hf
  obtain ⟨v70, T70, h70, hf, l70, r70⟩ := cl_ok hf
  refine C.Fi (As := [va_rf v67]) (rest := []) dX5_warmths_70 (w_J2_add h70) cX5_249 (Classical.not_not.mp c70) rfl rfl (xcs xvN (Nat.le_of_ble_eq_true rfl)) rfl rfl (xD (Nat.le_of_ble_eq_true rfl)) l70 r70 ?_
  refine X.pop dX5_warmths_75 rfl ?_
  refine X.goto (tgt := 18) dX5_warmths_76 (by decide) ?_
  refine X.sub [0] (L' := [(0, va_rf x0)]) rfl ?_
  exact hk18 _ _ _ hf
def c_X5_warmths_18_b (G : xG) (k18 : Option Nat → xF → Option ((Unit ⊕ xE) × xF)) (x0 : Option Nat) (T : xF) : Option ((Unit ⊕ xE) × xF) :=
  (oI T x0 4 8).bind fun v19 =>
  if v19 = (2 : Int32) then
    (oQ T x0 4 1).bind fun v28 =>
    (oQ T v28 1 1).bind fun v31 =>
    if ¬ isO T v31 10 = true then none else
    (c_J2_size T v31).bind fun v34 =>
    if (8 : Int32) ≤ v34 then
      c_X5_warmths_49 G k18 x0 (0 : Int32) x0 T
    else
      c_X5_warmths_49 G k18 x0 (1 : Int32) x0 T
  else
    some (.inl (), T)
def c_X5_warmths_18 (G : xG) : Nat → Option Nat → xF → Option ((Unit ⊕ xE) × xF)
  | 0 => fun _ _ => none
  | n + 1 => fun x0 T => c_X5_warmths_18_b G (c_X5_warmths_18 G n) x0 T
theorem c_X5_warmths_18_bok {G : xG}  {T0 : xF}  {k18 : Option Nat → xF → Option ((Unit ⊕ xE) × xF)}  (hk18 : ∀ (x0 : Option Nat) (T : xF) (q : ((Unit ⊕ xE) × xF)), k18 x0 T = some q → Xr G (mX5_warmths, xrm (8) T0 q.2, T0, xoV q.1, q.2) 18 [(0, va_rf x0)] [] T) (x0 : Option Nat) (T : xF) (q : ((Unit ⊕ xE) × xF)) (hf : c_X5_warmths_18_b G k18 x0 T = some q) : Xr G (mX5_warmths, xrm (8) T0 q.2, T0, xoV q.1, q.2) 18 [(0, va_rf x0)] [] T := by
  unfold c_X5_warmths_18_b at hf
  refine C.aload_n dX5_warmths_18 rfl 0 rfl ?_
  obtain ⟨v19, h19, hf⟩ := ob hf
  refine C.getI dX5_warmths_19 rX5_93 h19 ?_
  refine X.iconst (v := 2) dX5_warmths_22 (by decide) ?_
  refine X.icmp_ne (tgt := 79) dX5_warmths_23 (by decide) (fun c23 => ?_) (fun c23 => ?_)
  · have hf := if_f c23 hf
    obtain rfl := Option.some.inj hf
    exact X.vret dX5_warmths_79 rfl rfl
  · have hf := if_t c23 hf
    refine C.aload_n dX5_warmths_26 rfl 0 rfl ?_
    refine C.aload_n dX5_warmths_27 rfl 0 rfl ?_
    obtain ⟨v28, h28, hf⟩ := ob hf
    refine C.getQ dX5_warmths_28 rX5_18 h28 ?_
    obtain ⟨v31, h31, hf⟩ := ob hf
    refine C.getQ dX5_warmths_31 rX5_240 h31 ?_
    obtain ⟨c34, hf⟩ := if_n hf
    obtain ⟨v34, h34, hf⟩ := ob hf
    refine X.keep fun l34 => C.Fi (As := []) (rest := [va_rf x0]) dX5_warmths_34 (w_J2_size h34) cX5_234 (Classical.not_not.mp c34) rfl rfl (xcs (xvQ xvN) (Nat.le_of_ble_eq_true rfl)) rfl rfl (xD (Nat.le_of_ble_eq_true rfl)) xle.rf l34 ?_
    refine X.bipush (v := 8) dX5_warmths_39 (by decide) ?_
    refine X.icmp_ge (tgt := 48) dX5_warmths_41 (by decide) (fun c41 => ?_) (fun c41 => ?_)
    · have hf := if_t c41 hf
      refine X.iconst (v := 0) dX5_warmths_48 (by decide) ?_
      refine X.sub [0] (L' := [(0, va_rf x0)]) rfl ?_
      exact c_X5_warmths_49_ok hk18 _ _ _ _ _ hf
    · have hf := if_f c41 hf
      refine X.iconst (v := 1) dX5_warmths_44 (by decide) ?_
      refine X.goto (tgt := 49) dX5_warmths_45 (by decide) ?_
      refine X.sub [0] (L' := [(0, va_rf x0)]) rfl ?_
      exact c_X5_warmths_49_ok hk18 _ _ _ _ _ hf
theorem c_X5_warmths_18_ok {G : xG}  {T0 : xF}   : ∀ (n : Nat) (x0 : Option Nat) (T : xF) (q : ((Unit ⊕ xE) × xF)), c_X5_warmths_18 G n x0 T = some q → Xr G (mX5_warmths, xrm (8) T0 q.2, T0, xoV q.1, q.2) 18 [(0, va_rf x0)] [] T
  | 0, _, _, _, hf => by cases hf
  | n + 1, x0, T, q, hf => c_X5_warmths_18_bok (c_X5_warmths_18_ok n) x0 T q hf
def c_X5_warmths_14 (G : xG) (x0 : Option Nat) (y0 : Int32) (y1 : Option Nat) (T : xF) : Option ((Unit ⊕ xE) × xF) :=
  if ¬ isO T y1 4 = true then none else
  clX (c_X5_want G y1 y0 (1 : Int32) T) T fun v15 T15 =>
  c_X5_warmths_18 G FU x0 T15
theorem c_X5_warmths_14_ok {G : xG}  {T0 : xF}   (x0 : Option Nat) (y0 : Int32) (y1 : Option Nat) (T : xF) (q : ((Unit ⊕ xE) × xF)) (hf : c_X5_warmths_14 G x0 y0 y1 T = some q) : Xr G (mX5_warmths, xrm (8) T0 q.2, T0, xoV q.1, q.2) 14 [(0, va_rf x0)] [.int y0, va_rf y1] T := by
  unfold c_X5_warmths_14 at hf
  refine X.iconst (v := 1) dX5_warmths_14 (by decide) ?_
  obtain ⟨c15, hf⟩ := if_n hf
  rcases clX_ok hf with ⟨v15, T15, h15, hf, l15, r15⟩ | ⟨e15, T15, h15, rfl, l15⟩
  rotate_left
  · exact C.Vx (As := [.int y0, .int (1 : Int32)]) (rest := []) dX5_warmths_15 (w_X5_want h15) cX5_141 (Classical.not_not.mp c15) rfl rfl (xcs xvN (Nat.le_of_ble_eq_true rfl)) rfl rfl (xD (Nat.le_of_ble_eq_true rfl)) l15 xle.rf (xnoh rfl) rfl
  refine C.Vv (As := [.int y0, .int (1 : Int32)]) (rest := []) dX5_warmths_15 (w_X5_want h15) cX5_141 (Classical.not_not.mp c15) rfl rfl (xcs xvN (Nat.le_of_ble_eq_true rfl)) rfl rfl (xD (Nat.le_of_ble_eq_true rfl)) l15 r15 ?_
  refine X.sub [0] (L' := [(0, va_rf x0)]) rfl ?_
  exact c_X5_warmths_18_ok FU _ _ _ hf
def c_X5_warmths (G : xG) (x0 : Option Nat) (T : xF) : Option ((Unit ⊕ xE) × xF) :=
  (oI T x0 4 8).bind fun v2 =>
  if v2 = (2 : Int32) then
    c_X5_warmths_14 G x0 (1 : Int32) x0 T
  else
    c_X5_warmths_14 G x0 (0 : Int32) x0 T
theorem w_X5_warmths {G : xG}  {T : xF} {x0 : Option Nat} {q : ((Unit ⊕ xE) × xF)} (hf : c_X5_warmths G x0 T = some q) : Ct G mX5_warmths (8) T [va_rf x0] (xoV q.1) q.2 := by
  refine Ct.ofc (plainFor_of_name (by decide +kernel)) rfl (xvQ xvN) (Nat.le_of_ble_eq_true rfl) (show Xr G _ 0 [(0, va_rf x0)] [] _ from ?_)
  unfold c_X5_warmths at hf
  refine C.aload_n dX5_warmths_0 rfl 0 rfl ?_
  refine C.aload_n dX5_warmths_1 rfl 0 rfl ?_
  obtain ⟨v2, h2, hf⟩ := ob hf
  refine C.getI dX5_warmths_2 rX5_93 h2 ?_
  refine X.iconst (v := 2) dX5_warmths_5 (by decide) ?_
  refine X.icmp_ne (tgt := 13) dX5_warmths_6 (by decide) (fun c6 => ?_) (fun c6 => ?_)
  · have hf := if_f c6 hf
    refine X.iconst (v := 0) dX5_warmths_13 (by decide) ?_
    refine X.sub [0] (L' := [(0, va_rf x0)]) rfl ?_
    exact c_X5_warmths_14_ok _ _ _ _ _ hf
  · have hf := if_t c6 hf
    refine X.iconst (v := 1) dX5_warmths_9 (by decide) ?_
    refine X.goto (tgt := 14) dX5_warmths_10 (by decide) ?_
    refine X.sub [0] (L' := [(0, va_rf x0)]) rfl ?_
    exact c_X5_warmths_14_ok _ _ _ _ _ hf
theorem cX5_264 : xCV RX5 264 mX5_warmths 0 := ⟨lw_V q1045 q1047 qs27 q132 q1048, rfl, ⟨by decide +kernel, by decide +kernel, by decide +kernel⟩, Nat.le_of_ble_eq_true rfl⟩
/-! MouldVotes$Reader isSign -/
abbrev cX5_isSign : ByteArray := prog_7_method_8_code
def yX5_isSign : MethodName := ⟨RX5, "isSign", "(C)Z"⟩
def dkwX5_isSign_1 : List UInt8 := [4, 167, 0, 4, 3, 172]
abbrev dktX5_isSign_1 : List UInt8 := dkwX5_isSign_1 ++ []
def dkwX5_isSign_0 : List UInt8 := [42, 180, 0, 93, 6, 160, 0, 23, 42, 180, 0, 3, 180, 0, 78, 42, 180, 0, 90, 51, 27, 160, 0, 7]
abbrev dktX5_isSign_0 : List UInt8 := dkwX5_isSign_0 ++ dktX5_isSign_1
theorem dksX5_isSign_0 : cX5_isSign.data.toList.drop 0 = dktX5_isSign_0 := by decide +kernel
theorem dksX5_isSign_1 : cX5_isSign.data.toList.drop 24 = dktX5_isSign_1 := dk_seg dksX5_isSign_0 24 rfl rfl
theorem dX5_isSign_0 : decode cX5_isSign 0 = .ok (.aload_n 0, 1) := dk_42 (dk_at dksX5_isSign_0 0 rfl rfl)
theorem dX5_isSign_1 : decode cX5_isSign 1 = .ok (.getfield 93, 3) := dk_180 0 93 (dk_at dksX5_isSign_0 1 rfl rfl)
theorem dX5_isSign_4 : decode cX5_isSign 4 = .ok (.iconst 3, 1) := dk_6 (dk_at dksX5_isSign_0 4 rfl rfl)
theorem dX5_isSign_5 : decode cX5_isSign 5 = .ok (.if_icmp .ne 23, 3) := dk_160 0 23 (dk_at dksX5_isSign_0 5 rfl rfl)
theorem dX5_isSign_8 : decode cX5_isSign 8 = .ok (.aload_n 0, 1) := dk_42 (dk_at dksX5_isSign_0 8 rfl rfl)
theorem dX5_isSign_9 : decode cX5_isSign 9 = .ok (.getfield 3, 3) := dk_180 0 3 (dk_at dksX5_isSign_0 9 rfl rfl)
theorem dX5_isSign_12 : decode cX5_isSign 12 = .ok (.getfield 78, 3) := dk_180 0 78 (dk_at dksX5_isSign_0 12 rfl rfl)
theorem dX5_isSign_15 : decode cX5_isSign 15 = .ok (.aload_n 0, 1) := dk_42 (dk_at dksX5_isSign_0 15 rfl rfl)
theorem dX5_isSign_16 : decode cX5_isSign 16 = .ok (.getfield 90, 3) := dk_180 0 90 (dk_at dksX5_isSign_0 16 rfl rfl)
theorem dX5_isSign_19 : decode cX5_isSign 19 = .ok (.baload, 1) := dk_51 (dk_at dksX5_isSign_0 19 rfl rfl)
theorem dX5_isSign_20 : decode cX5_isSign 20 = .ok (.iload_n 1, 1) := dk_27 (dk_at dksX5_isSign_0 20 rfl rfl)
theorem dX5_isSign_21 : decode cX5_isSign 21 = .ok (.if_icmp .ne 7, 3) := dk_160 0 7 (dk_at dksX5_isSign_0 21 rfl rfl)
theorem dX5_isSign_24 : decode cX5_isSign 24 = .ok (.iconst 1, 1) := dk_4 (dk_at dksX5_isSign_1 0 rfl rfl)
theorem dX5_isSign_25 : decode cX5_isSign 25 = .ok (.goto 4, 3) := dk_167 0 4 (dk_at dksX5_isSign_1 1 rfl rfl)
theorem dX5_isSign_28 : decode cX5_isSign 28 = .ok (.iconst 0, 1) := dk_3 (dk_at dksX5_isSign_1 4 rfl rfl)
theorem dX5_isSign_29 : decode cX5_isSign 29 = .ok (.ireturn, 1) := dk_172 (dk_at dksX5_isSign_1 5 rfl rfl)
abbrev mX5_isSign : xM := (yX5_isSign, cX5_isSign, 2, (some .boolean), [])
def c_X5_isSign (T : xF) (x0 : Option Nat) (x1 : Int32) : Option Int32 :=
  (oI T x0 4 8).bind fun v1 =>
  if v1 = (3 : Int32) then
    (oQ T x0 4 14).bind fun v9 =>
    (oQ T v9 0 5).bind fun v12 =>
    (oI T x0 4 9).bind fun v16 =>
    (ldA T v12 .byte v16).bind fun v19 =>
    if v19 = x1 then
      some (1 : Int32)
    else
      some (0 : Int32)
  else
    some (0 : Int32)
theorem w_X5_isSign {G : xG}  {T : xF} {x0 : Option Nat} {x1 : Int32} {q : Int32} (hf : c_X5_isSign T x0 x1 = some q) : Ct G mX5_isSign (1) T [va_rf x0, .int x1] (.inl (some (.int q))) T := by
  refine Ct.ofc (plainFor_of_name (by decide +kernel)) rfl (xvQ (xvI xvN)) (Nat.le_of_ble_eq_true rfl) (show Xr G _ 0 [(0, va_rf x0), (1, .int x1)] [] _ from ?_)
  unfold c_X5_isSign at hf
  refine C.aload_n dX5_isSign_0 rfl 0 rfl ?_
  obtain ⟨v1, h1, hf⟩ := ob hf
  refine C.getI dX5_isSign_1 rX5_93 h1 ?_
  refine X.iconst (v := 3) dX5_isSign_4 (by decide) ?_
  refine X.icmp_ne (tgt := 28) dX5_isSign_5 (by decide) (fun c5 => ?_) (fun c5 => ?_)
  · have hf := if_f c5 hf
    refine X.iconst (v := 0) dX5_isSign_28 (by decide) ?_
    obtain rfl := Option.some.inj hf
    exact X.iret dX5_isSign_29 rfl rfl rfl
  · have hf := if_t c5 hf
    refine C.aload_n dX5_isSign_8 rfl 0 rfl ?_
    obtain ⟨v9, h9, hf⟩ := ob hf
    refine C.getQ dX5_isSign_9 rX5_3 h9 ?_
    obtain ⟨v12, h12, hf⟩ := ob hf
    refine C.getQ dX5_isSign_12 rX5_78 h12 ?_
    refine C.aload_n dX5_isSign_15 rfl 0 rfl ?_
    obtain ⟨v16, h16, hf⟩ := ob hf
    refine C.getI dX5_isSign_16 rX5_90 h16 ?_
    obtain ⟨v19, h19, hf⟩ := ob hf
    refine C.bald dX5_isSign_19 h19 ?_
    refine X.iload_n dX5_isSign_20 rfl 1 rfl ?_
    refine X.icmp_ne (tgt := 28) dX5_isSign_21 (by decide) (fun c21 => ?_) (fun c21 => ?_)
    · have hf := if_f c21 hf
      refine X.iconst (v := 0) dX5_isSign_28 (by decide) ?_
      obtain rfl := Option.some.inj hf
      exact X.iret dX5_isSign_29 rfl rfl rfl
    · have hf := if_t c21 hf
      refine X.iconst (v := 1) dX5_isSign_24 (by decide) ?_
      refine X.goto (tgt := 29) dX5_isSign_25 (by decide) ?_
      obtain rfl := Option.some.inj hf
      exact X.iret dX5_isSign_29 rfl rfl rfl
theorem cX5_153 : xCV RX5 153 mX5_isSign 1 := ⟨lw_V q1058 q1060 qs29 q132 q1061, rfl, ⟨by decide +kernel, by decide +kernel, by decide +kernel⟩, Nat.le_of_ble_eq_true rfl⟩
/-! MouldVotes$Number <init> -/
abbrev cX8_init : ByteArray := prog_6_method_1_code
def yX8_init : MethodName := ⟨RX8, "<init>", "(I)V"⟩
def dkwX8_init_0 : List UInt8 := [42, 183, 0, 1, 42, 27, 181, 0, 7, 177]
abbrev dktX8_init_0 : List UInt8 := dkwX8_init_0 ++ []
theorem dksX8_init_0 : cX8_init.data.toList.drop 0 = dktX8_init_0 := by decide +kernel
theorem dX8_init_0 : decode cX8_init 0 = .ok (.aload_n 0, 1) := dk_42 (dk_at dksX8_init_0 0 rfl rfl)
theorem dX8_init_1 : decode cX8_init 1 = .ok (.invokespecial 1, 3) := dk_183 0 1 (dk_at dksX8_init_0 1 rfl rfl)
theorem dX8_init_4 : decode cX8_init 4 = .ok (.aload_n 0, 1) := dk_42 (dk_at dksX8_init_0 4 rfl rfl)
theorem dX8_init_5 : decode cX8_init 5 = .ok (.iload_n 1, 1) := dk_27 (dk_at dksX8_init_0 5 rfl rfl)
theorem dX8_init_6 : decode cX8_init 6 = .ok (.putfield 7, 3) := dk_181 0 7 (dk_at dksX8_init_0 6 rfl rfl)
theorem dX8_init_9 : decode cX8_init 9 = .ok (.return_, 1) := dk_177 (dk_at dksX8_init_0 9 rfl rfl)
abbrev mX8_init : xM := (yX8_init, cX8_init, 2, none, [])
def c_X8_init (x0 : Option Nat) (x1 : Int32) (T : xF) : Option (Unit × xF) :=
  if ¬ x0.isSome = true then none else
  (pV T x0 7 0 (.int x1)).bind fun T6 =>
  some ((), T6)
theorem w_X8_init {G : xG}  {T : xF} {x0 : Option Nat} {x1 : Int32} {q : (Unit × xF)} (hf : c_X8_init x0 x1 T = some q) : Ct G mX8_init (1) T [va_rf x0, .int x1] (.inl none) q.2 := by
  refine Ct.ofc (plainFor_of_name (by decide +kernel)) rfl (xvQ (xvI xvN)) (Nat.le_of_ble_eq_true rfl) (show Xr G _ 0 [(0, va_rf x0), (1, .int x1)] [] _ from ?_)
  unfold c_X8_init at hf
  refine C.aload_n dX8_init_0 rfl 0 rfl ?_
  obtain ⟨c1, hf⟩ := if_n hf
  refine C.objI (Classical.not_not.mp c1) dX8_init_1 q1090 obj1 obj2 (xcs xvN (Nat.le_of_ble_eq_true rfl)) (xD1 (Nat.le_of_ble_eq_true rfl)) ?_
  refine C.aload_n dX8_init_4 rfl 0 rfl ?_
  refine X.iload_n dX8_init_5 rfl 1 rfl ?_
  obtain ⟨T6, h6, hf⟩ := ob hf
  refine C.putI dX8_init_6 fX8_7 (fun _ => rfl) rfl rfl h6 ?_
  obtain rfl := Option.some.inj hf
  exact X.vret dX8_init_9 rfl rfl
theorem cX5_152 : xCI RX5 152 mX8_init 1 := ⟨⟨lw_meth q1089, rfl, q147, q1087, q1088, rfl⟩, rfl, ⟨by decide +kernel, by decide +kernel, by decide +kernel⟩, Nat.le_of_ble_eq_true rfl⟩
/-! MouldVotes$Value <init> -/
abbrev cX9_init : ByteArray := prog_9_method_1_code
def yX9_init : MethodName := ⟨RX9, "<init>", "(I)V"⟩
def dkwX9_init_0 : List UInt8 := [42, 183, 0, 1, 42, 27, 181, 0, 7, 177]
abbrev dktX9_init_0 : List UInt8 := dkwX9_init_0 ++ []
theorem dksX9_init_0 : cX9_init.data.toList.drop 0 = dktX9_init_0 := by decide +kernel
theorem dX9_init_0 : decode cX9_init 0 = .ok (.aload_n 0, 1) := dk_42 (dk_at dksX9_init_0 0 rfl rfl)
theorem dX9_init_1 : decode cX9_init 1 = .ok (.invokespecial 1, 3) := dk_183 0 1 (dk_at dksX9_init_0 1 rfl rfl)
theorem dX9_init_4 : decode cX9_init 4 = .ok (.aload_n 0, 1) := dk_42 (dk_at dksX9_init_0 4 rfl rfl)
theorem dX9_init_5 : decode cX9_init 5 = .ok (.iload_n 1, 1) := dk_27 (dk_at dksX9_init_0 5 rfl rfl)
theorem dX9_init_6 : decode cX9_init 6 = .ok (.putfield 7, 3) := dk_181 0 7 (dk_at dksX9_init_0 6 rfl rfl)
theorem dX9_init_9 : decode cX9_init 9 = .ok (.return_, 1) := dk_177 (dk_at dksX9_init_0 9 rfl rfl)
abbrev mX9_init : xM := (yX9_init, cX9_init, 2, none, [])
def c_X9_init (x0 : Option Nat) (x1 : Int32) (T : xF) : Option (Unit × xF) :=
  if ¬ x0.isSome = true then none else
  (pV T x0 8 0 (.int x1)).bind fun T6 =>
  some ((), T6)
theorem w_X9_init {G : xG}  {T : xF} {x0 : Option Nat} {x1 : Int32} {q : (Unit × xF)} (hf : c_X9_init x0 x1 T = some q) : Ct G mX9_init (1) T [va_rf x0, .int x1] (.inl none) q.2 := by
  refine Ct.ofc (plainFor_of_name (by decide +kernel)) rfl (xvQ (xvI xvN)) (Nat.le_of_ble_eq_true rfl) (show Xr G _ 0 [(0, va_rf x0), (1, .int x1)] [] _ from ?_)
  unfold c_X9_init at hf
  refine C.aload_n dX9_init_0 rfl 0 rfl ?_
  obtain ⟨c1, hf⟩ := if_n hf
  refine C.objI (Classical.not_not.mp c1) dX9_init_1 q1100 obj1 obj2 (xcs xvN (Nat.le_of_ble_eq_true rfl)) (xD1 (Nat.le_of_ble_eq_true rfl)) ?_
  refine C.aload_n dX9_init_4 rfl 0 rfl ?_
  refine X.iload_n dX9_init_5 rfl 1 rfl ?_
  obtain ⟨T6, h6, hf⟩ := ob hf
  refine C.putI dX9_init_6 fX9_7 (fun _ => rfl) rfl rfl h6 ?_
  obtain rfl := Option.some.inj hf
  exact X.vret dX9_init_9 rfl rfl
theorem cX5_167 : xCI RX5 167 mX9_init 1 := ⟨⟨lw_meth q1099, rfl, q148, q1097, q1098, rfl⟩, rfl, ⟨by decide +kernel, by decide +kernel, by decide +kernel⟩, Nat.le_of_ble_eq_true rfl⟩
/-! MouldVotes$Reader part -/
abbrev cX5_part : ByteArray := prog_7_method_13_code
def yX5_part : MethodName := ⟨RX5, "part", "(I)LMouldVotes$Form;"⟩
def dkwX5_part_4 : List UInt8 := [4, 167, 0, 4, 3, 6, 182, 0, 141, 42, 182, 0, 133, 187, 0, 165, 89, 28, 183, 0, 167, 176]
abbrev dktX5_part_4 : List UInt8 := dkwX5_part_4 ++ []
def dkwX5_part_3 : List UInt8 := [4, 167, 0, 4, 3, 4, 182, 0, 141, 42, 42, 180, 0, 69, 182, 0, 161, 61, 42, 28, 2, 159, 0, 7]
abbrev dktX5_part_3 : List UInt8 := dkwX5_part_3 ++ dktX5_part_4
def dkwX5_part_2 : List UInt8 := [16, 41, 182, 0, 153, 4, 182, 0, 141, 42, 182, 0, 133, 44, 176, 42, 42, 180, 0, 93, 4, 160, 0, 7]
abbrev dktX5_part_2 : List UInt8 := dkwX5_part_2 ++ dktX5_part_3
def dkwX5_part_1 : List UInt8 := [42, 16, 40, 182, 0, 153, 153, 0, 32, 42, 182, 0, 133, 42, 27, 4, 96, 182, 0, 157, 77, 42, 42]
abbrev dktX5_part_1 : List UInt8 := dkwX5_part_1 ++ dktX5_part_2
def dkwX5_part_0 : List UInt8 := [42, 180, 0, 93, 5, 160, 0, 19, 187, 0, 148, 89, 42, 3, 17, 39, 15, 182, 0, 150, 183, 0, 152, 176]
abbrev dktX5_part_0 : List UInt8 := dkwX5_part_0 ++ dktX5_part_1
theorem dksX5_part_0 : cX5_part.data.toList.drop 0 = dktX5_part_0 := by decide +kernel
theorem dksX5_part_1 : cX5_part.data.toList.drop 24 = dktX5_part_1 := dk_seg dksX5_part_0 24 rfl rfl
theorem dksX5_part_2 : cX5_part.data.toList.drop 47 = dktX5_part_2 := dk_seg dksX5_part_1 23 rfl rfl
theorem dksX5_part_3 : cX5_part.data.toList.drop 71 = dktX5_part_3 := dk_seg dksX5_part_2 24 rfl rfl
theorem dksX5_part_4 : cX5_part.data.toList.drop 95 = dktX5_part_4 := dk_seg dksX5_part_3 24 rfl rfl
theorem dX5_part_0 : decode cX5_part 0 = .ok (.aload_n 0, 1) := dk_42 (dk_at dksX5_part_0 0 rfl rfl)
theorem dX5_part_1 : decode cX5_part 1 = .ok (.getfield 93, 3) := dk_180 0 93 (dk_at dksX5_part_0 1 rfl rfl)
theorem dX5_part_4 : decode cX5_part 4 = .ok (.iconst 2, 1) := dk_5 (dk_at dksX5_part_0 4 rfl rfl)
theorem dX5_part_5 : decode cX5_part 5 = .ok (.if_icmp .ne 19, 3) := dk_160 0 19 (dk_at dksX5_part_0 5 rfl rfl)
theorem dX5_part_8 : decode cX5_part 8 = .ok (.new 148, 3) := dk_187 0 148 (dk_at dksX5_part_0 8 rfl rfl)
theorem dX5_part_11 : decode cX5_part 11 = .ok (.dup, 1) := dk_89 (dk_at dksX5_part_0 11 rfl rfl)
theorem dX5_part_12 : decode cX5_part 12 = .ok (.aload_n 0, 1) := dk_42 (dk_at dksX5_part_0 12 rfl rfl)
theorem dX5_part_13 : decode cX5_part 13 = .ok (.iconst 0, 1) := dk_3 (dk_at dksX5_part_0 13 rfl rfl)
theorem dX5_part_14 : decode cX5_part 14 = .ok (.sipush 9999, 3) := dk_17 39 15 (dk_at dksX5_part_0 14 rfl rfl)
theorem dX5_part_17 : decode cX5_part 17 = .ok (.invokevirtual 150, 3) := dk_182 0 150 (dk_at dksX5_part_0 17 rfl rfl)
theorem dX5_part_20 : decode cX5_part 20 = .ok (.invokespecial 152, 3) := dk_183 0 152 (dk_at dksX5_part_0 20 rfl rfl)
theorem dX5_part_23 : decode cX5_part 23 = .ok (.areturn, 1) := dk_176 (dk_at dksX5_part_0 23 rfl rfl)
theorem dX5_part_24 : decode cX5_part 24 = .ok (.aload_n 0, 1) := dk_42 (dk_at dksX5_part_1 0 rfl rfl)
theorem dX5_part_25 : decode cX5_part 25 = .ok (.bipush 40, 2) := dk_16 40 (dk_at dksX5_part_1 1 rfl rfl)
theorem dX5_part_27 : decode cX5_part 27 = .ok (.invokevirtual 153, 3) := dk_182 0 153 (dk_at dksX5_part_1 3 rfl rfl)
theorem dX5_part_30 : decode cX5_part 30 = .ok (.ifCond .eq 32, 3) := dk_153 0 32 (dk_at dksX5_part_1 6 rfl rfl)
theorem dX5_part_33 : decode cX5_part 33 = .ok (.aload_n 0, 1) := dk_42 (dk_at dksX5_part_1 9 rfl rfl)
theorem dX5_part_34 : decode cX5_part 34 = .ok (.invokevirtual 133, 3) := dk_182 0 133 (dk_at dksX5_part_1 10 rfl rfl)
theorem dX5_part_37 : decode cX5_part 37 = .ok (.aload_n 0, 1) := dk_42 (dk_at dksX5_part_1 13 rfl rfl)
theorem dX5_part_38 : decode cX5_part 38 = .ok (.iload_n 1, 1) := dk_27 (dk_at dksX5_part_1 14 rfl rfl)
theorem dX5_part_39 : decode cX5_part 39 = .ok (.iconst 1, 1) := dk_4 (dk_at dksX5_part_1 15 rfl rfl)
theorem dX5_part_40 : decode cX5_part 40 = .ok (.iadd, 1) := dk_96 (dk_at dksX5_part_1 16 rfl rfl)
theorem dX5_part_41 : decode cX5_part 41 = .ok (.invokevirtual 157, 3) := dk_182 0 157 (dk_at dksX5_part_1 17 rfl rfl)
theorem dX5_part_44 : decode cX5_part 44 = .ok (.astore_n 2, 1) := dk_77 (dk_at dksX5_part_1 20 rfl rfl)
theorem dX5_part_45 : decode cX5_part 45 = .ok (.aload_n 0, 1) := dk_42 (dk_at dksX5_part_1 21 rfl rfl)
theorem dX5_part_46 : decode cX5_part 46 = .ok (.aload_n 0, 1) := dk_42 (dk_at dksX5_part_1 22 rfl rfl)
theorem dX5_part_47 : decode cX5_part 47 = .ok (.bipush 41, 2) := dk_16 41 (dk_at dksX5_part_2 0 rfl rfl)
theorem dX5_part_49 : decode cX5_part 49 = .ok (.invokevirtual 153, 3) := dk_182 0 153 (dk_at dksX5_part_2 2 rfl rfl)
theorem dX5_part_52 : decode cX5_part 52 = .ok (.iconst 1, 1) := dk_4 (dk_at dksX5_part_2 5 rfl rfl)
theorem dX5_part_53 : decode cX5_part 53 = .ok (.invokevirtual 141, 3) := dk_182 0 141 (dk_at dksX5_part_2 6 rfl rfl)
theorem dX5_part_56 : decode cX5_part 56 = .ok (.aload_n 0, 1) := dk_42 (dk_at dksX5_part_2 9 rfl rfl)
theorem dX5_part_57 : decode cX5_part 57 = .ok (.invokevirtual 133, 3) := dk_182 0 133 (dk_at dksX5_part_2 10 rfl rfl)
theorem dX5_part_60 : decode cX5_part 60 = .ok (.aload_n 2, 1) := dk_44 (dk_at dksX5_part_2 13 rfl rfl)
theorem dX5_part_61 : decode cX5_part 61 = .ok (.areturn, 1) := dk_176 (dk_at dksX5_part_2 14 rfl rfl)
theorem dX5_part_62 : decode cX5_part 62 = .ok (.aload_n 0, 1) := dk_42 (dk_at dksX5_part_2 15 rfl rfl)
theorem dX5_part_63 : decode cX5_part 63 = .ok (.aload_n 0, 1) := dk_42 (dk_at dksX5_part_2 16 rfl rfl)
theorem dX5_part_64 : decode cX5_part 64 = .ok (.getfield 93, 3) := dk_180 0 93 (dk_at dksX5_part_2 17 rfl rfl)
theorem dX5_part_67 : decode cX5_part 67 = .ok (.iconst 1, 1) := dk_4 (dk_at dksX5_part_2 20 rfl rfl)
theorem dX5_part_68 : decode cX5_part 68 = .ok (.if_icmp .ne 7, 3) := dk_160 0 7 (dk_at dksX5_part_2 21 rfl rfl)
theorem dX5_part_71 : decode cX5_part 71 = .ok (.iconst 1, 1) := dk_4 (dk_at dksX5_part_3 0 rfl rfl)
theorem dX5_part_72 : decode cX5_part 72 = .ok (.goto 4, 3) := dk_167 0 4 (dk_at dksX5_part_3 1 rfl rfl)
theorem dX5_part_75 : decode cX5_part 75 = .ok (.iconst 0, 1) := dk_3 (dk_at dksX5_part_3 4 rfl rfl)
theorem dX5_part_76 : decode cX5_part 76 = .ok (.iconst 1, 1) := dk_4 (dk_at dksX5_part_3 5 rfl rfl)
theorem dX5_part_77 : decode cX5_part 77 = .ok (.invokevirtual 141, 3) := dk_182 0 141 (dk_at dksX5_part_3 6 rfl rfl)
theorem dX5_part_80 : decode cX5_part 80 = .ok (.aload_n 0, 1) := dk_42 (dk_at dksX5_part_3 9 rfl rfl)
theorem dX5_part_81 : decode cX5_part 81 = .ok (.aload_n 0, 1) := dk_42 (dk_at dksX5_part_3 10 rfl rfl)
theorem dX5_part_82 : decode cX5_part 82 = .ok (.getfield 69, 3) := dk_180 0 69 (dk_at dksX5_part_3 11 rfl rfl)
theorem dX5_part_85 : decode cX5_part 85 = .ok (.invokevirtual 161, 3) := dk_182 0 161 (dk_at dksX5_part_3 14 rfl rfl)
theorem dX5_part_88 : decode cX5_part 88 = .ok (.istore_n 2, 1) := dk_61 (dk_at dksX5_part_3 17 rfl rfl)
theorem dX5_part_89 : decode cX5_part 89 = .ok (.aload_n 0, 1) := dk_42 (dk_at dksX5_part_3 18 rfl rfl)
theorem dX5_part_90 : decode cX5_part 90 = .ok (.iload_n 2, 1) := dk_28 (dk_at dksX5_part_3 19 rfl rfl)
theorem dX5_part_91 : decode cX5_part 91 = .ok (.iconst (-1), 1) := dk_2 (dk_at dksX5_part_3 20 rfl rfl)
theorem dX5_part_92 : decode cX5_part 92 = .ok (.if_icmp .eq 7, 3) := dk_159 0 7 (dk_at dksX5_part_3 21 rfl rfl)
theorem dX5_part_95 : decode cX5_part 95 = .ok (.iconst 1, 1) := dk_4 (dk_at dksX5_part_4 0 rfl rfl)
theorem dX5_part_96 : decode cX5_part 96 = .ok (.goto 4, 3) := dk_167 0 4 (dk_at dksX5_part_4 1 rfl rfl)
theorem dX5_part_99 : decode cX5_part 99 = .ok (.iconst 0, 1) := dk_3 (dk_at dksX5_part_4 4 rfl rfl)
theorem dX5_part_100 : decode cX5_part 100 = .ok (.iconst 3, 1) := dk_6 (dk_at dksX5_part_4 5 rfl rfl)
theorem dX5_part_101 : decode cX5_part 101 = .ok (.invokevirtual 141, 3) := dk_182 0 141 (dk_at dksX5_part_4 6 rfl rfl)
theorem dX5_part_104 : decode cX5_part 104 = .ok (.aload_n 0, 1) := dk_42 (dk_at dksX5_part_4 9 rfl rfl)
theorem dX5_part_105 : decode cX5_part 105 = .ok (.invokevirtual 133, 3) := dk_182 0 133 (dk_at dksX5_part_4 10 rfl rfl)
theorem dX5_part_108 : decode cX5_part 108 = .ok (.new 165, 3) := dk_187 0 165 (dk_at dksX5_part_4 13 rfl rfl)
theorem dX5_part_111 : decode cX5_part 111 = .ok (.dup, 1) := dk_89 (dk_at dksX5_part_4 16 rfl rfl)
theorem dX5_part_112 : decode cX5_part 112 = .ok (.iload_n 2, 1) := dk_28 (dk_at dksX5_part_4 17 rfl rfl)
theorem dX5_part_113 : decode cX5_part 113 = .ok (.invokespecial 167, 3) := dk_183 0 167 (dk_at dksX5_part_4 18 rfl rfl)
theorem dX5_part_116 : decode cX5_part 116 = .ok (.areturn, 1) := dk_176 (dk_at dksX5_part_4 21 rfl rfl)
abbrev cX5_expression : ByteArray := prog_7_method_19_code
def yX5_expression : MethodName := ⟨RX5, "expression", "(I)LMouldVotes$Form;"⟩
def dkwX5_expression_3 : List UInt8 := [153, 0, 17, 44, 16, 124, 42, 27, 182, 0, 206, 182, 0, 180, 167, 255, 236, 44, 182, 0, 184, 176]
abbrev dktX5_expression_3 : List UInt8 := dkwX5_expression_3 ++ []
def dkwX5_expression_2 : List UInt8 := [5, 182, 0, 141, 187, 0, 168, 89, 42, 27, 182, 0, 206, 183, 0, 173, 77, 42, 18, 208, 182, 0, 203]
abbrev dktX5_expression_2 : List UInt8 := dkwX5_expression_2 ++ dktX5_expression_3
def dkwX5_expression_1 : List UInt8 := [153, 0, 7, 4, 167, 0, 4, 3, 4, 182, 0, 141, 42, 27, 16, 6, 162, 0, 7, 4, 167, 0, 4, 3]
abbrev dktX5_expression_1 : List UInt8 := dkwX5_expression_1 ++ dktX5_expression_2
def dkwX5_expression_0 : List UInt8 := [42, 42, 180, 0, 93, 5, 159, 0, 20, 42, 180, 0, 93, 4, 159, 0, 12, 42, 16, 40, 182, 0, 153]
abbrev dktX5_expression_0 : List UInt8 := dkwX5_expression_0 ++ dktX5_expression_1
theorem dksX5_expression_0 : cX5_expression.data.toList.drop 0 = dktX5_expression_0 := by decide +kernel
theorem dksX5_expression_1 : cX5_expression.data.toList.drop 23 = dktX5_expression_1 := dk_seg dksX5_expression_0 23 rfl rfl
theorem dksX5_expression_2 : cX5_expression.data.toList.drop 47 = dktX5_expression_2 := dk_seg dksX5_expression_1 24 rfl rfl
theorem dksX5_expression_3 : cX5_expression.data.toList.drop 70 = dktX5_expression_3 := dk_seg dksX5_expression_2 23 rfl rfl
theorem dX5_expression_0 : decode cX5_expression 0 = .ok (.aload_n 0, 1) := dk_42 (dk_at dksX5_expression_0 0 rfl rfl)
theorem dX5_expression_1 : decode cX5_expression 1 = .ok (.aload_n 0, 1) := dk_42 (dk_at dksX5_expression_0 1 rfl rfl)
theorem dX5_expression_2 : decode cX5_expression 2 = .ok (.getfield 93, 3) := dk_180 0 93 (dk_at dksX5_expression_0 2 rfl rfl)
theorem dX5_expression_5 : decode cX5_expression 5 = .ok (.iconst 2, 1) := dk_5 (dk_at dksX5_expression_0 5 rfl rfl)
theorem dX5_expression_6 : decode cX5_expression 6 = .ok (.if_icmp .eq 20, 3) := dk_159 0 20 (dk_at dksX5_expression_0 6 rfl rfl)
theorem dX5_expression_9 : decode cX5_expression 9 = .ok (.aload_n 0, 1) := dk_42 (dk_at dksX5_expression_0 9 rfl rfl)
theorem dX5_expression_10 : decode cX5_expression 10 = .ok (.getfield 93, 3) := dk_180 0 93 (dk_at dksX5_expression_0 10 rfl rfl)
theorem dX5_expression_13 : decode cX5_expression 13 = .ok (.iconst 1, 1) := dk_4 (dk_at dksX5_expression_0 13 rfl rfl)
theorem dX5_expression_14 : decode cX5_expression 14 = .ok (.if_icmp .eq 12, 3) := dk_159 0 12 (dk_at dksX5_expression_0 14 rfl rfl)
theorem dX5_expression_17 : decode cX5_expression 17 = .ok (.aload_n 0, 1) := dk_42 (dk_at dksX5_expression_0 17 rfl rfl)
theorem dX5_expression_18 : decode cX5_expression 18 = .ok (.bipush 40, 2) := dk_16 40 (dk_at dksX5_expression_0 18 rfl rfl)
theorem dX5_expression_20 : decode cX5_expression 20 = .ok (.invokevirtual 153, 3) := dk_182 0 153 (dk_at dksX5_expression_0 20 rfl rfl)
theorem dX5_expression_23 : decode cX5_expression 23 = .ok (.ifCond .eq 7, 3) := dk_153 0 7 (dk_at dksX5_expression_1 0 rfl rfl)
theorem dX5_expression_26 : decode cX5_expression 26 = .ok (.iconst 1, 1) := dk_4 (dk_at dksX5_expression_1 3 rfl rfl)
theorem dX5_expression_27 : decode cX5_expression 27 = .ok (.goto 4, 3) := dk_167 0 4 (dk_at dksX5_expression_1 4 rfl rfl)
theorem dX5_expression_30 : decode cX5_expression 30 = .ok (.iconst 0, 1) := dk_3 (dk_at dksX5_expression_1 7 rfl rfl)
theorem dX5_expression_31 : decode cX5_expression 31 = .ok (.iconst 1, 1) := dk_4 (dk_at dksX5_expression_1 8 rfl rfl)
theorem dX5_expression_32 : decode cX5_expression 32 = .ok (.invokevirtual 141, 3) := dk_182 0 141 (dk_at dksX5_expression_1 9 rfl rfl)
theorem dX5_expression_35 : decode cX5_expression 35 = .ok (.aload_n 0, 1) := dk_42 (dk_at dksX5_expression_1 12 rfl rfl)
theorem dX5_expression_36 : decode cX5_expression 36 = .ok (.iload_n 1, 1) := dk_27 (dk_at dksX5_expression_1 13 rfl rfl)
theorem dX5_expression_37 : decode cX5_expression 37 = .ok (.bipush 6, 2) := dk_16 6 (dk_at dksX5_expression_1 14 rfl rfl)
theorem dX5_expression_39 : decode cX5_expression 39 = .ok (.if_icmp .ge 7, 3) := dk_162 0 7 (dk_at dksX5_expression_1 16 rfl rfl)
theorem dX5_expression_42 : decode cX5_expression 42 = .ok (.iconst 1, 1) := dk_4 (dk_at dksX5_expression_1 19 rfl rfl)
theorem dX5_expression_43 : decode cX5_expression 43 = .ok (.goto 4, 3) := dk_167 0 4 (dk_at dksX5_expression_1 20 rfl rfl)
theorem dX5_expression_46 : decode cX5_expression 46 = .ok (.iconst 0, 1) := dk_3 (dk_at dksX5_expression_1 23 rfl rfl)
theorem dX5_expression_47 : decode cX5_expression 47 = .ok (.iconst 2, 1) := dk_5 (dk_at dksX5_expression_2 0 rfl rfl)
theorem dX5_expression_48 : decode cX5_expression 48 = .ok (.invokevirtual 141, 3) := dk_182 0 141 (dk_at dksX5_expression_2 1 rfl rfl)
theorem dX5_expression_51 : decode cX5_expression 51 = .ok (.new 168, 3) := dk_187 0 168 (dk_at dksX5_expression_2 4 rfl rfl)
theorem dX5_expression_54 : decode cX5_expression 54 = .ok (.dup, 1) := dk_89 (dk_at dksX5_expression_2 7 rfl rfl)
theorem dX5_expression_55 : decode cX5_expression 55 = .ok (.aload_n 0, 1) := dk_42 (dk_at dksX5_expression_2 8 rfl rfl)
theorem dX5_expression_56 : decode cX5_expression 56 = .ok (.iload_n 1, 1) := dk_27 (dk_at dksX5_expression_2 9 rfl rfl)
theorem dX5_expression_57 : decode cX5_expression 57 = .ok (.invokevirtual 206, 3) := dk_182 0 206 (dk_at dksX5_expression_2 10 rfl rfl)
theorem dX5_expression_60 : decode cX5_expression 60 = .ok (.invokespecial 173, 3) := dk_183 0 173 (dk_at dksX5_expression_2 13 rfl rfl)
theorem dX5_expression_63 : decode cX5_expression 63 = .ok (.astore_n 2, 1) := dk_77 (dk_at dksX5_expression_2 16 rfl rfl)
theorem dX5_expression_64 : decode cX5_expression 64 = .ok (.aload_n 0, 1) := dk_42 (dk_at dksX5_expression_2 17 rfl rfl)
theorem dX5_expression_65 : decode cX5_expression 65 = .ok (.ldc 208, 2) := dk_18 208 (dk_at dksX5_expression_2 18 rfl rfl)
theorem dX5_expression_67 : decode cX5_expression 67 = .ok (.invokevirtual 203, 3) := dk_182 0 203 (dk_at dksX5_expression_2 20 rfl rfl)
theorem dX5_expression_70 : decode cX5_expression 70 = .ok (.ifCond .eq 17, 3) := dk_153 0 17 (dk_at dksX5_expression_3 0 rfl rfl)
theorem dX5_expression_73 : decode cX5_expression 73 = .ok (.aload_n 2, 1) := dk_44 (dk_at dksX5_expression_3 3 rfl rfl)
theorem dX5_expression_74 : decode cX5_expression 74 = .ok (.bipush 124, 2) := dk_16 124 (dk_at dksX5_expression_3 4 rfl rfl)
theorem dX5_expression_76 : decode cX5_expression 76 = .ok (.aload_n 0, 1) := dk_42 (dk_at dksX5_expression_3 6 rfl rfl)
theorem dX5_expression_77 : decode cX5_expression 77 = .ok (.iload_n 1, 1) := dk_27 (dk_at dksX5_expression_3 7 rfl rfl)
theorem dX5_expression_78 : decode cX5_expression 78 = .ok (.invokevirtual 206, 3) := dk_182 0 206 (dk_at dksX5_expression_3 8 rfl rfl)
theorem dX5_expression_81 : decode cX5_expression 81 = .ok (.invokevirtual 180, 3) := dk_182 0 180 (dk_at dksX5_expression_3 11 rfl rfl)
theorem dX5_expression_84 : decode cX5_expression 84 = .ok (.goto (-20), 3) := dk_167 255 236 (dk_at dksX5_expression_3 14 rfl rfl)
theorem dX5_expression_87 : decode cX5_expression 87 = .ok (.aload_n 2, 1) := dk_44 (dk_at dksX5_expression_3 17 rfl rfl)
theorem dX5_expression_88 : decode cX5_expression 88 = .ok (.invokevirtual 184, 3) := dk_182 0 184 (dk_at dksX5_expression_3 18 rfl rfl)
theorem dX5_expression_91 : decode cX5_expression 91 = .ok (.areturn, 1) := dk_176 (dk_at dksX5_expression_3 21 rfl rfl)
abbrev mX5_expression : xM := (yX5_expression, cX5_expression, 3, (some (.object "MouldVotes$Form")), [])
theorem cX5_157 : xCV RX5 157 mX5_expression 1 := ⟨lw_V q1054 q1056 qs28 q132 q1057, rfl, ⟨by decide +kernel, by decide +kernel, by decide +kernel⟩, Nat.le_of_ble_eq_true rfl⟩
abbrev mX5_part : xM := (yX5_part, cX5_part, 3, (some (.object "MouldVotes$Form")), [])
def c_X5_part_100 (G : xG) (kE : Option Nat → Int32 → xF → Option ((Option Nat ⊕ xE) × xF)) (x0 : Option Nat) (x2 : Int32) (y0 : Int32) (y1 : Option Nat) (T : xF) : Option ((Option Nat ⊕ xE) × xF) :=
  if ¬ isO T y1 4 = true then none else
  clX (c_X5_want G y1 y0 (3 : Int32) T) T fun v101 T101 =>
  if ¬ isO T101 x0 4 = true then none else
  cl (c_X5_next G x0 T101) T101 fun v105 T105 =>
  al (nO T105 8 1 [.int 0]) fun T108 =>
  cl (c_X9_init (some T105.2.1) x2 T108) T108 fun v113 T113 =>
  some (.inl (some T105.2.1), T113)
theorem c_X5_part_100_ok {G : xG} {De : Nat} {kE : Option Nat → Int32 → xF → Option ((Option Nat ⊕ xE) × xF)} {T0 : xF} (hDE : 20 ≤ De) (hkE : ∀ (r : Option Nat) (x : Int32) (T : xF) (q : ((Option Nat ⊕ xE) × xF)), kE r x T = some q → Ct G mX5_expression De T [va_rf r, .int x] (xoQ q.1) q.2)   (x0 : Option Nat) (x2 : Int32) (y0 : Int32) (y1 : Option Nat) (T : xF) (q : ((Option Nat ⊕ xE) × xF)) (hf : c_X5_part_100 G kE x0 x2 y0 y1 T = some q) : Xr G (mX5_part, xrm (De + 1) T0 q.2, T0, xoQ q.1, q.2) 100 [(0, va_rf x0), (2, .int x2)] [.int y0, va_rf y1] T := by
  unfold c_X5_part_100 at hf
  refine X.iconst (v := 3) dX5_part_100 (by decide) ?_
  obtain ⟨c101, hf⟩ := if_n hf
  rcases clX_ok hf with ⟨v101, T101, h101, hf, l101, r101⟩ | ⟨e101, T101, h101, rfl, l101⟩
  rotate_left
  · exact C.Vx (As := [.int y0, .int (3 : Int32)]) (rest := []) dX5_part_101 (w_X5_want h101) cX5_141 (Classical.not_not.mp c101) rfl rfl (xcs xvN (Nat.le_of_ble_eq_true rfl)) rfl rfl (xD (by omega)) l101 xle.rf (xnoh rfl) rfl
  refine C.Vv (As := [.int y0, .int (3 : Int32)]) (rest := []) dX5_part_101 (w_X5_want h101) cX5_141 (Classical.not_not.mp c101) rfl rfl (xcs xvN (Nat.le_of_ble_eq_true rfl)) rfl rfl (xD (by omega)) l101 r101 ?_
  refine C.aload_n dX5_part_104 rfl 0 rfl ?_
  obtain ⟨c105, hf⟩ := if_n hf
  obtain ⟨v105, T105, h105, hf, l105, r105⟩ := cl_ok hf
  refine C.Vv (As := []) (rest := []) dX5_part_105 (w_X5_next h105) cX5_133 (Classical.not_not.mp c105) rfl rfl (xcs xvN (Nat.le_of_ble_eq_true rfl)) rfl rfl (xD (by omega)) l105 r105 ?_
  obtain ⟨T108, e108, hf, l108⟩ := al_ok hf
  refine C.newE e108 dX5_part_108 clX9 q1095 q1096 q148 rfl dfX9 l108 ?_
  refine X.dup dX5_part_111 (cat1 _) ?_
  refine X.iload_n dX5_part_112 rfl 1 rfl ?_
  obtain ⟨v113, T113, h113, hf, l113, r113⟩ := cl_ok hf
  refine C.Iv (As := [.int x2]) (rest := [va_rf (some T105.2.1)]) dX5_part_113 (w_X9_init h113) cX5_167 rfl rfl rfl (xcs (xvQ xvN) (Nat.le_of_ble_eq_true rfl)) (xD (by omega)) l113 r113 ?_
  obtain rfl := Option.some.inj hf
  exact X.aret dX5_part_116 rfl (Or.inl ⟨_, rfl⟩) rfl
def c_X5_part_76 (G : xG) (kE : Option Nat → Int32 → xF → Option ((Option Nat ⊕ xE) × xF)) (x0 : Option Nat) (y0 : Int32) (y1 : Option Nat) (T : xF) : Option ((Option Nat ⊕ xE) × xF) :=
  if ¬ isO T y1 4 = true then none else
  clX (c_X5_want G y1 y0 (1 : Int32) T) T fun v77 T77 =>
  (oQ T77 x0 4 6).bind fun v82 =>
  if ¬ isO T77 x0 4 = true then none else
  (c_X5_which G T77 x0 v82).bind fun v85 =>
  if v85 = (-1 : Int32) then
    c_X5_part_100 G kE x0 v85 (0 : Int32) x0 T77
  else
    c_X5_part_100 G kE x0 v85 (1 : Int32) x0 T77
theorem c_X5_part_76_ok {G : xG} {De : Nat} {kE : Option Nat → Int32 → xF → Option ((Option Nat ⊕ xE) × xF)} {T0 : xF} (hDE : 20 ≤ De) (hkE : ∀ (r : Option Nat) (x : Int32) (T : xF) (q : ((Option Nat ⊕ xE) × xF)), kE r x T = some q → Ct G mX5_expression De T [va_rf r, .int x] (xoQ q.1) q.2)   (x0 : Option Nat) (y0 : Int32) (y1 : Option Nat) (T : xF) (q : ((Option Nat ⊕ xE) × xF)) (hf : c_X5_part_76 G kE x0 y0 y1 T = some q) : Xr G (mX5_part, xrm (De + 1) T0 q.2, T0, xoQ q.1, q.2) 76 [(0, va_rf x0)] [.int y0, va_rf y1] T := by
  unfold c_X5_part_76 at hf
  refine X.iconst (v := 1) dX5_part_76 (by decide) ?_
  obtain ⟨c77, hf⟩ := if_n hf
  rcases clX_ok hf with ⟨v77, T77, h77, hf, l77, r77⟩ | ⟨e77, T77, h77, rfl, l77⟩
  rotate_left
  · exact C.Vx (As := [.int y0, .int (1 : Int32)]) (rest := []) dX5_part_77 (w_X5_want h77) cX5_141 (Classical.not_not.mp c77) rfl rfl (xcs xvN (Nat.le_of_ble_eq_true rfl)) rfl rfl (xD (by omega)) l77 xle.rf (xnoh rfl) rfl
  refine C.Vv (As := [.int y0, .int (1 : Int32)]) (rest := []) dX5_part_77 (w_X5_want h77) cX5_141 (Classical.not_not.mp c77) rfl rfl (xcs xvN (Nat.le_of_ble_eq_true rfl)) rfl rfl (xD (by omega)) l77 r77 ?_
  refine C.aload_n dX5_part_80 rfl 0 rfl ?_
  refine C.aload_n dX5_part_81 rfl 0 rfl ?_
  obtain ⟨v82, h82, hf⟩ := ob hf
  refine C.getQ dX5_part_82 rX5_69 h82 ?_
  obtain ⟨c85, hf⟩ := if_n hf
  obtain ⟨v85, h85, hf⟩ := ob hf
  refine X.keep fun l85 => C.Vi (As := [va_rf v82]) (rest := []) dX5_part_85 (w_X5_which h85) cX5_161 (Classical.not_not.mp c85) rfl rfl (xcs xvN (Nat.le_of_ble_eq_true rfl)) rfl rfl (xD (by omega)) xle.rf l85 ?_
  refine C.ist_n (L' := [(2, .int v85), (0, va_rf x0)]) dX5_part_88 rfl (Nat.le_of_ble_eq_true rfl) (xcQ xcN) rfl ?_
  refine C.aload_n dX5_part_89 rfl 1 rfl ?_
  refine X.iload_n dX5_part_90 rfl 0 rfl ?_
  refine X.iconst (v := -1) dX5_part_91 (by decide) ?_
  refine X.icmp_eq (tgt := 99) dX5_part_92 (by decide) (fun c92 => ?_) (fun c92 => ?_)
  · have hf := if_t c92 hf
    refine X.iconst (v := 0) dX5_part_99 (by decide) ?_
    refine X.sub [1, 0] (L' := [(0, va_rf x0), (2, .int v85)]) rfl ?_
    exact c_X5_part_100_ok hDE hkE _ _ _ _ _ _ hf
  · have hf := if_f c92 hf
    refine X.iconst (v := 1) dX5_part_95 (by decide) ?_
    refine X.goto (tgt := 100) dX5_part_96 (by decide) ?_
    refine X.sub [1, 0] (L' := [(0, va_rf x0), (2, .int v85)]) rfl ?_
    exact c_X5_part_100_ok hDE hkE _ _ _ _ _ _ hf
def c_X5_part (G : xG) (kE : Option Nat → Int32 → xF → Option ((Option Nat ⊕ xE) × xF)) (x0 : Option Nat) (x1 : Int32) (T : xF) : Option ((Option Nat ⊕ xE) × xF) :=
  (oI T x0 4 8).bind fun v1 =>
  if v1 = (2 : Int32) then
    al (nO T 7 1 [.int 0]) fun T8 =>
    if ¬ isO T8 x0 4 = true then none else
    clX (c_X5_number G x0 (0 : Int32) (9999 : Int32) T8) T8 fun v17 T17 =>
    cl (c_X8_init (some T.2.1) v17 T17) T17 fun v20 T20 =>
    some (.inl (some T.2.1), T20)
  else
    if ¬ isO T x0 4 = true then none else
    (c_X5_isSign T x0 (40 : Int32)).bind fun v27 =>
    if v27 = 0 then
      (oI T x0 4 8).bind fun v64 =>
      if v64 = (1 : Int32) then
        c_X5_part_76 G kE x0 (1 : Int32) x0 T
      else
        c_X5_part_76 G kE x0 (0 : Int32) x0 T
    else
      if ¬ isO T x0 4 = true then none else
      cl (c_X5_next G x0 T) T fun v34 T34 =>
      if ¬ isO T34 x0 4 = true then none else
      clX (kE x0 (x1 + (1 : Int32)) T34) T34 fun v41 T41 =>
      if ¬ isO T41 x0 4 = true then none else
      (c_X5_isSign T41 x0 (41 : Int32)).bind fun v49 =>
      if ¬ isO T41 x0 4 = true then none else
      clX (c_X5_want G x0 v49 (1 : Int32) T41) T41 fun v53 T53 =>
      if ¬ isO T53 x0 4 = true then none else
      cl (c_X5_next G x0 T53) T53 fun v57 T57 =>
      some (.inl v41, T57)
theorem w_X5_part {G : xG} {De : Nat} {kE : Option Nat → Int32 → xF → Option ((Option Nat ⊕ xE) × xF)} {T : xF} (hDE : 20 ≤ De) (hkE : ∀ (r : Option Nat) (x : Int32) (T : xF) (q : ((Option Nat ⊕ xE) × xF)), kE r x T = some q → Ct G mX5_expression De T [va_rf r, .int x] (xoQ q.1) q.2) {x0 : Option Nat} {x1 : Int32} {q : ((Option Nat ⊕ xE) × xF)} (hf : c_X5_part G kE x0 x1 T = some q) : Ct G mX5_part (De + 1) T [va_rf x0, .int x1] (xoQ q.1) q.2 := by
  refine Ct.ofc (plainFor_of_name (by decide +kernel)) rfl (xvQ (xvI xvN)) (Nat.le_of_ble_eq_true rfl) (show Xr G _ 0 [(0, va_rf x0), (1, .int x1)] [] _ from ?_)
  unfold c_X5_part at hf
  refine C.aload_n dX5_part_0 rfl 0 rfl ?_
  obtain ⟨v1, h1, hf⟩ := ob hf
  refine C.getI dX5_part_1 rX5_93 h1 ?_
  refine X.iconst (v := 2) dX5_part_4 (by decide) ?_
  refine X.icmp_ne (tgt := 24) dX5_part_5 (by decide) (fun c5 => ?_) (fun c5 => ?_)
  · have hf := if_f c5 hf
    refine C.aload_n dX5_part_24 rfl 0 rfl ?_
    refine X.bipush (v := 40) dX5_part_25 (by decide) ?_
    obtain ⟨c27, hf⟩ := if_n hf
    obtain ⟨v27, h27, hf⟩ := ob hf
    refine X.keep fun l27 => C.Vi (As := [.int (40 : Int32)]) (rest := []) dX5_part_27 (w_X5_isSign h27) cX5_153 (Classical.not_not.mp c27) rfl rfl (xcs xvN (Nat.le_of_ble_eq_true rfl)) rfl rfl (xD (by omega)) xle.rf l27 ?_
    refine X.if_eq (tgt := 62) dX5_part_30 (by decide) (fun c30 => ?_) (fun c30 => ?_)
    · have hf := if_t c30 hf
      refine C.aload_n dX5_part_62 rfl 0 rfl ?_
      refine C.aload_n dX5_part_63 rfl 0 rfl ?_
      obtain ⟨v64, h64, hf⟩ := ob hf
      refine C.getI dX5_part_64 rX5_93 h64 ?_
      refine X.iconst (v := 1) dX5_part_67 (by decide) ?_
      refine X.icmp_ne (tgt := 75) dX5_part_68 (by decide) (fun c68 => ?_) (fun c68 => ?_)
      · have hf := if_f c68 hf
        refine X.iconst (v := 0) dX5_part_75 (by decide) ?_
        refine X.sub [0] (L' := [(0, va_rf x0)]) rfl ?_
        exact c_X5_part_76_ok hDE hkE _ _ _ _ _ hf
      · have hf := if_t c68 hf
        refine X.iconst (v := 1) dX5_part_71 (by decide) ?_
        refine X.goto (tgt := 76) dX5_part_72 (by decide) ?_
        refine X.sub [0] (L' := [(0, va_rf x0)]) rfl ?_
        exact c_X5_part_76_ok hDE hkE _ _ _ _ _ hf
    · have hf := if_f c30 hf
      refine C.aload_n dX5_part_33 rfl 0 rfl ?_
      obtain ⟨c34, hf⟩ := if_n hf
      obtain ⟨v34, T34, h34, hf, l34, r34⟩ := cl_ok hf
      refine C.Vv (As := []) (rest := []) dX5_part_34 (w_X5_next h34) cX5_133 (Classical.not_not.mp c34) rfl rfl (xcs xvN (Nat.le_of_ble_eq_true rfl)) rfl rfl (xD (by omega)) l34 r34 ?_
      refine C.aload_n dX5_part_37 rfl 0 rfl ?_
      refine X.iload_n dX5_part_38 rfl 1 rfl ?_
      refine X.iconst (v := 1) dX5_part_39 (by decide) ?_
      refine X.iadd dX5_part_40 ?_
      obtain ⟨c41, hf⟩ := if_n hf
      rcases clX_ok hf with ⟨v41, T41, h41, hf, l41, r41⟩ | ⟨e41, T41, h41, rfl, l41⟩
      rotate_left
      · exact C.Vx (As := [.int (x1 + (1 : Int32))]) (rest := []) dX5_part_41 (hkE _ _ _ _ h41) cX5_157 (Classical.not_not.mp c41) rfl rfl (xcs xvN (Nat.le_of_ble_eq_true rfl)) rfl rfl (xD (by omega)) l41 xle.rf (xnoh rfl) rfl
      refine C.Vq (As := [.int (x1 + (1 : Int32))]) (rest := []) dX5_part_41 (hkE _ _ _ _ h41) cX5_157 (Classical.not_not.mp c41) rfl rfl (xcs xvN (Nat.le_of_ble_eq_true rfl)) rfl rfl (xD (by omega)) l41 r41 ?_
      refine C.ast_n (L' := [(2, va_rf v41), (0, va_rf x0), (1, .int x1)]) dX5_part_44 rfl (Nat.le_of_ble_eq_true rfl) (xcQ (xcI xcN)) rfl ?_
      refine C.aload_n dX5_part_45 rfl 1 rfl ?_
      refine C.aload_n dX5_part_46 rfl 1 rfl ?_
      refine X.bipush (v := 41) dX5_part_47 (by decide) ?_
      obtain ⟨c49, hf⟩ := if_n hf
      obtain ⟨v49, h49, hf⟩ := ob hf
      refine X.keep fun l49 => C.Vi (As := [.int (41 : Int32)]) (rest := [va_rf x0]) dX5_part_49 (w_X5_isSign h49) cX5_153 (Classical.not_not.mp c49) rfl rfl (xcs (xvQ xvN) (Nat.le_of_ble_eq_true rfl)) rfl rfl (xD (by omega)) xle.rf l49 ?_
      refine X.iconst (v := 1) dX5_part_52 (by decide) ?_
      obtain ⟨c53, hf⟩ := if_n hf
      rcases clX_ok hf with ⟨v53, T53, h53, hf, l53, r53⟩ | ⟨e53, T53, h53, rfl, l53⟩
      rotate_left
      · exact C.Vx (As := [.int v49, .int (1 : Int32)]) (rest := []) dX5_part_53 (w_X5_want h53) cX5_141 (Classical.not_not.mp c53) rfl rfl (xcs xvN (Nat.le_of_ble_eq_true rfl)) rfl rfl (xD (by omega)) l53 xle.rf (xnoh rfl) rfl
      refine C.Vv (As := [.int v49, .int (1 : Int32)]) (rest := []) dX5_part_53 (w_X5_want h53) cX5_141 (Classical.not_not.mp c53) rfl rfl (xcs xvN (Nat.le_of_ble_eq_true rfl)) rfl rfl (xD (by omega)) l53 r53 ?_
      refine C.aload_n dX5_part_56 rfl 1 rfl ?_
      obtain ⟨c57, hf⟩ := if_n hf
      obtain ⟨v57, T57, h57, hf, l57, r57⟩ := cl_ok hf
      refine C.Vv (As := []) (rest := []) dX5_part_57 (w_X5_next h57) cX5_133 (Classical.not_not.mp c57) rfl rfl (xcs xvN (Nat.le_of_ble_eq_true rfl)) rfl rfl (xD (by omega)) l57 r57 ?_
      refine C.aload_n dX5_part_60 rfl 0 rfl ?_
      obtain rfl := Option.some.inj hf
      exact X.aret dX5_part_61 rfl (Or.inl ⟨_, rfl⟩) rfl
  · have hf := if_t c5 hf
    obtain ⟨T8, e8, hf, l8⟩ := al_ok hf
    refine C.newE e8 dX5_part_8 clX8 q1085 q1086 q147 rfl dfX8 l8 ?_
    refine X.dup dX5_part_11 (cat1 _) ?_
    refine C.aload_n dX5_part_12 rfl 0 rfl ?_
    refine X.iconst (v := 0) dX5_part_13 (by decide) ?_
    refine X.sipush (v := 9999) dX5_part_14 (by decide) ?_
    obtain ⟨c17, hf⟩ := if_n hf
    rcases clX_ok hf with ⟨v17, T17, h17, hf, l17, r17⟩ | ⟨e17, T17, h17, rfl, l17⟩
    rotate_left
    · exact C.Vx (As := [.int (0 : Int32), .int (9999 : Int32)]) (rest := [va_rf (some T.2.1), va_rf (some T.2.1)]) dX5_part_17 (w_X5_number h17) cX5_150 (Classical.not_not.mp c17) rfl rfl (xcs (xvQ (xvQ xvN)) (Nat.le_of_ble_eq_true rfl)) rfl rfl (xD (by omega)) l17 xle.rf (xnoh rfl) rfl
    refine C.Vi (As := [.int (0 : Int32), .int (9999 : Int32)]) (rest := [va_rf (some T.2.1), va_rf (some T.2.1)]) dX5_part_17 (w_X5_number h17) cX5_150 (Classical.not_not.mp c17) rfl rfl (xcs (xvQ (xvQ xvN)) (Nat.le_of_ble_eq_true rfl)) rfl rfl (xD (by omega)) l17 r17 ?_
    obtain ⟨v20, T20, h20, hf, l20, r20⟩ := cl_ok hf
    refine C.Iv (As := [.int v17]) (rest := [va_rf (some T.2.1)]) dX5_part_20 (w_X8_init h20) cX5_152 rfl rfl rfl (xcs (xvQ xvN) (Nat.le_of_ble_eq_true rfl)) (xD (by omega)) l20 r20 ?_
    obtain rfl := Option.some.inj hf
    exact X.aret dX5_part_23 rfl (Or.inl ⟨_, rfl⟩) rfl
theorem cX5_170 : xCV RX5 170 mX5_part 1 := ⟨lw_V q1081 q1083 qs34 q132 q1084, rfl, ⟨by decide +kernel, by decide +kernel, by decide +kernel⟩, Nat.le_of_ble_eq_true rfl⟩
/-! java/lang/AbstractStringBuilder <init> -/
abbrev cJ17_init : ByteArray := prog_14_method_2_code
def yJ17_init : MethodName := ⟨RJ17, "<init>", "(I)V"⟩
def dkwJ17_init_1 : List UInt8 := [167, 0, 16, 42, 27, 184, 0, 26, 181, 0, 15, 42, 4, 181, 0, 22, 177]
abbrev dktJ17_init_1 : List UInt8 := dkwJ17_init_1 ++ []
def dkwJ17_init_0 : List UInt8 := [42, 183, 0, 3, 178, 0, 18, 153, 0, 18, 42, 27, 188, 8, 181, 0, 15, 42, 3, 181, 0, 22]
abbrev dktJ17_init_0 : List UInt8 := dkwJ17_init_0 ++ dktJ17_init_1
theorem dksJ17_init_0 : cJ17_init.data.toList.drop 0 = dktJ17_init_0 := by decide +kernel
theorem dksJ17_init_1 : cJ17_init.data.toList.drop 22 = dktJ17_init_1 := dk_seg dksJ17_init_0 22 rfl rfl
theorem dJ17_init_0 : decode cJ17_init 0 = .ok (.aload_n 0, 1) := dk_42 (dk_at dksJ17_init_0 0 rfl rfl)
theorem dJ17_init_1 : decode cJ17_init 1 = .ok (.invokespecial 3, 3) := dk_183 0 3 (dk_at dksJ17_init_0 1 rfl rfl)
theorem dJ17_init_4 : decode cJ17_init 4 = .ok (.getstatic 18, 3) := dk_178 0 18 (dk_at dksJ17_init_0 4 rfl rfl)
theorem dJ17_init_7 : decode cJ17_init 7 = .ok (.ifCond .eq 18, 3) := dk_153 0 18 (dk_at dksJ17_init_0 7 rfl rfl)
theorem dJ17_init_10 : decode cJ17_init 10 = .ok (.aload_n 0, 1) := dk_42 (dk_at dksJ17_init_0 10 rfl rfl)
theorem dJ17_init_11 : decode cJ17_init 11 = .ok (.iload_n 1, 1) := dk_27 (dk_at dksJ17_init_0 11 rfl rfl)
theorem dJ17_init_12 : decode cJ17_init 12 = .ok (.newarray .byte, 2) := dk_188_8 (dk_at dksJ17_init_0 12 rfl rfl)
theorem dJ17_init_14 : decode cJ17_init 14 = .ok (.putfield 15, 3) := dk_181 0 15 (dk_at dksJ17_init_0 14 rfl rfl)
theorem dJ17_init_17 : decode cJ17_init 17 = .ok (.aload_n 0, 1) := dk_42 (dk_at dksJ17_init_0 17 rfl rfl)
theorem dJ17_init_18 : decode cJ17_init 18 = .ok (.iconst 0, 1) := dk_3 (dk_at dksJ17_init_0 18 rfl rfl)
theorem dJ17_init_19 : decode cJ17_init 19 = .ok (.putfield 22, 3) := dk_181 0 22 (dk_at dksJ17_init_0 19 rfl rfl)
theorem dJ17_init_22 : decode cJ17_init 22 = .ok (.goto 16, 3) := dk_167 0 16 (dk_at dksJ17_init_1 0 rfl rfl)
theorem dJ17_init_25 : decode cJ17_init 25 = .ok (.aload_n 0, 1) := dk_42 (dk_at dksJ17_init_1 3 rfl rfl)
theorem dJ17_init_26 : decode cJ17_init 26 = .ok (.iload_n 1, 1) := dk_27 (dk_at dksJ17_init_1 4 rfl rfl)
theorem dJ17_init_27 : decode cJ17_init 27 = .ok (.invokestatic 26, 3) := dk_184 0 26 (dk_at dksJ17_init_1 5 rfl rfl)
theorem dJ17_init_30 : decode cJ17_init 30 = .ok (.putfield 15, 3) := dk_181 0 15 (dk_at dksJ17_init_1 8 rfl rfl)
theorem dJ17_init_33 : decode cJ17_init 33 = .ok (.aload_n 0, 1) := dk_42 (dk_at dksJ17_init_1 11 rfl rfl)
theorem dJ17_init_34 : decode cJ17_init 34 = .ok (.iconst 1, 1) := dk_4 (dk_at dksJ17_init_1 12 rfl rfl)
theorem dJ17_init_35 : decode cJ17_init 35 = .ok (.putfield 22, 3) := dk_181 0 22 (dk_at dksJ17_init_1 13 rfl rfl)
theorem dJ17_init_38 : decode cJ17_init 38 = .ok (.return_, 1) := dk_177 (dk_at dksJ17_init_1 16 rfl rfl)
abbrev mJ17_init : xM := (yJ17_init, cJ17_init, 2, none, [])
def c_J17_init (x0 : Option Nat) (x1 : Int32) (T : xF) : Option (Unit × xF) :=
  if ¬ x0.isSome = true then none else
  if (1 : Int32) = 0 then
    none
  else
    if x1 < 0 ∨ 100000000 ≤ x1.toNatClampNeg then none else
    al (nA T .byte x1.toNatClampNeg) fun T12 =>
    (pV T12 x0 12 0 (va_rf (some T.2.1))).bind fun T14 =>
    (pV T14 x0 12 1 (.int (0 : Int32))).bind fun T19 =>
    some ((), T19)
theorem w_J17_init {G : xG}  {T : xF} {x0 : Option Nat} {x1 : Int32} {q : (Unit × xF)} (hf : c_J17_init x0 x1 T = some q) : Ct G mJ17_init (1) T [va_rf x0, .int x1] (.inl none) q.2 := by
  refine Ct.ofc (plainFor_of_name (by decide +kernel)) rfl (xvQ (xvI xvN)) (Nat.le_of_ble_eq_true rfl) (show Xr G _ 0 [(0, va_rf x0), (1, .int x1)] [] _ from ?_)
  unfold c_J17_init at hf
  refine C.aload_n dJ17_init_0 rfl 0 rfl ?_
  obtain ⟨c1, hf⟩ := if_n hf
  refine C.objI (Classical.not_not.mp c1) dJ17_init_1 q1119 obj1 obj2 (xcs xvN (Nat.le_of_ble_eq_true rfl)) (xD1 (Nat.le_of_ble_eq_true rfl)) ?_
  refine X.gets dJ17_init_4 (i := 4) rfl q1120 rfl ?_
  refine X.if_eq (tgt := 25) dJ17_init_7 (by decide) (fun c7 => ?_) (fun c7 => ?_)
  · have hf := if_t c7 hf
    refine C.aload_n dJ17_init_25 rfl 0 rfl ?_
    refine X.iload_n dJ17_init_26 rfl 1 rfl ?_
    cases hf
  · have hf := if_f c7 hf
    refine C.aload_n dJ17_init_10 rfl 0 rfl ?_
    refine X.iload_n dJ17_init_11 rfl 1 rfl ?_
    obtain ⟨c12, hf⟩ := if_n hf
    obtain ⟨T12, e12, hf, l12⟩ := al_ok hf
    refine C.newaE e12 dJ17_init_12 rfl (by decide) rfl q321 rfl (by decide) c12 l12 ?_
    obtain ⟨T14, h14, hf⟩ := ob hf
    refine C.putQ dJ17_init_14 fJ17_15 (fun q => by cases q) rfl h14 ?_
    refine C.aload_n dJ17_init_17 rfl 0 rfl ?_
    refine X.iconst (v := 0) dJ17_init_18 (by decide) ?_
    obtain ⟨T19, h19, hf⟩ := ob hf
    refine C.putI dJ17_init_19 fJ17_22 (fun q => by cases q) rfl rfl h19 ?_
    refine X.goto (tgt := 38) dJ17_init_22 (by decide) ?_
    obtain rfl := Option.some.inj hf
    exact X.vret dJ17_init_38 rfl rfl
theorem cJ18_1 : xCI RJ18 1 mJ17_init 1 := ⟨⟨lw_meth q1118, rfl, q149, q1116, q1117, rfl⟩, rfl, ⟨by decide +kernel, by decide +kernel, by decide +kernel⟩, Nat.le_of_ble_eq_true rfl⟩
/-! java/lang/StringBuilder <init> -/
abbrev cJ18_init : ByteArray := prog_29_method_1_code
def yJ18_init : MethodName := ⟨RJ18, "<init>", "()V"⟩
def dkwJ18_init_0 : List UInt8 := [42, 16, 16, 183, 0, 1, 177]
abbrev dktJ18_init_0 : List UInt8 := dkwJ18_init_0 ++ []
theorem dksJ18_init_0 : cJ18_init.data.toList.drop 0 = dktJ18_init_0 := by decide +kernel
theorem dJ18_init_0 : decode cJ18_init 0 = .ok (.aload_n 0, 1) := dk_42 (dk_at dksJ18_init_0 0 rfl rfl)
theorem dJ18_init_1 : decode cJ18_init 1 = .ok (.bipush 16, 2) := dk_16 16 (dk_at dksJ18_init_0 1 rfl rfl)
theorem dJ18_init_3 : decode cJ18_init 3 = .ok (.invokespecial 1, 3) := dk_183 0 1 (dk_at dksJ18_init_0 3 rfl rfl)
theorem dJ18_init_6 : decode cJ18_init 6 = .ok (.return_, 1) := dk_177 (dk_at dksJ18_init_0 6 rfl rfl)
abbrev mJ18_init : xM := (yJ18_init, cJ18_init, 1, none, [])
def c_J18_init (x0 : Option Nat) (T : xF) : Option (Unit × xF) :=
  if ¬ x0.isSome = true then none else
  cl (c_J17_init x0 (16 : Int32) T) T fun v3 T3 =>
  some ((), T3)
theorem w_J18_init {G : xG}  {T : xF} {x0 : Option Nat} {q : (Unit × xF)} (hf : c_J18_init x0 T = some q) : Ct G mJ18_init (2) T [va_rf x0] (.inl none) q.2 := by
  refine Ct.ofc (plainFor_of_name (by decide +kernel)) rfl (xvQ xvN) (Nat.le_of_ble_eq_true rfl) (show Xr G _ 0 [(0, va_rf x0)] [] _ from ?_)
  unfold c_J18_init at hf
  refine C.aload_n dJ18_init_0 rfl 0 rfl ?_
  refine X.bipush (v := 16) dJ18_init_1 (by decide) ?_
  obtain ⟨c3, hf⟩ := if_n hf
  obtain ⟨v3, T3, h3, hf, l3, r3⟩ := cl_ok hf
  refine C.Iv (As := [.int (16 : Int32)]) (rest := []) dJ18_init_3 (w_J17_init h3) cJ18_1 (Classical.not_not.mp c3) rfl rfl (xcs xvN (Nat.le_of_ble_eq_true rfl)) (xD (Nat.le_of_ble_eq_true rfl)) l3 r3 ?_
  obtain rfl := Option.some.inj hf
  exact X.vret dJ18_init_6 rfl rfl
theorem cX7_18 : xCI RX7 18 mJ18_init 0 := ⟨⟨lw_meth q1115, rfl, q150, q1113, q1114, rfl⟩, rfl, ⟨by decide +kernel, by decide +kernel, by decide +kernel⟩, Nat.le_of_ble_eq_true rfl⟩
/-! MouldVotes$Chain <init> -/
abbrev cX7_init : ByteArray := prog_2_method_1_code
def yX7_init : MethodName := ⟨RX7, "<init>", "(LMouldVotes$Form;)V"⟩
def dkwX7_init_1 : List UInt8 := [181, 0, 19, 42, 180, 0, 10, 43, 185, 0, 23, 2, 0, 87, 177]
abbrev dktX7_init_1 : List UInt8 := dkwX7_init_1 ++ []
def dkwX7_init_0 : List UInt8 := [42, 183, 0, 1, 42, 187, 0, 7, 89, 183, 0, 9, 181, 0, 10, 42, 187, 0, 16, 89, 183, 0, 18]
abbrev dktX7_init_0 : List UInt8 := dkwX7_init_0 ++ dktX7_init_1
theorem dksX7_init_0 : cX7_init.data.toList.drop 0 = dktX7_init_0 := by decide +kernel
theorem dksX7_init_1 : cX7_init.data.toList.drop 23 = dktX7_init_1 := dk_seg dksX7_init_0 23 rfl rfl
theorem dX7_init_0 : decode cX7_init 0 = .ok (.aload_n 0, 1) := dk_42 (dk_at dksX7_init_0 0 rfl rfl)
theorem dX7_init_1 : decode cX7_init 1 = .ok (.invokespecial 1, 3) := dk_183 0 1 (dk_at dksX7_init_0 1 rfl rfl)
theorem dX7_init_4 : decode cX7_init 4 = .ok (.aload_n 0, 1) := dk_42 (dk_at dksX7_init_0 4 rfl rfl)
theorem dX7_init_5 : decode cX7_init 5 = .ok (.new 7, 3) := dk_187 0 7 (dk_at dksX7_init_0 5 rfl rfl)
theorem dX7_init_8 : decode cX7_init 8 = .ok (.dup, 1) := dk_89 (dk_at dksX7_init_0 8 rfl rfl)
theorem dX7_init_9 : decode cX7_init 9 = .ok (.invokespecial 9, 3) := dk_183 0 9 (dk_at dksX7_init_0 9 rfl rfl)
theorem dX7_init_12 : decode cX7_init 12 = .ok (.putfield 10, 3) := dk_181 0 10 (dk_at dksX7_init_0 12 rfl rfl)
theorem dX7_init_15 : decode cX7_init 15 = .ok (.aload_n 0, 1) := dk_42 (dk_at dksX7_init_0 15 rfl rfl)
theorem dX7_init_16 : decode cX7_init 16 = .ok (.new 16, 3) := dk_187 0 16 (dk_at dksX7_init_0 16 rfl rfl)
theorem dX7_init_19 : decode cX7_init 19 = .ok (.dup, 1) := dk_89 (dk_at dksX7_init_0 19 rfl rfl)
theorem dX7_init_20 : decode cX7_init 20 = .ok (.invokespecial 18, 3) := dk_183 0 18 (dk_at dksX7_init_0 20 rfl rfl)
theorem dX7_init_23 : decode cX7_init 23 = .ok (.putfield 19, 3) := dk_181 0 19 (dk_at dksX7_init_1 0 rfl rfl)
theorem dX7_init_26 : decode cX7_init 26 = .ok (.aload_n 0, 1) := dk_42 (dk_at dksX7_init_1 3 rfl rfl)
theorem dX7_init_27 : decode cX7_init 27 = .ok (.getfield 10, 3) := dk_180 0 10 (dk_at dksX7_init_1 4 rfl rfl)
theorem dX7_init_30 : decode cX7_init 30 = .ok (.aload_n 1, 1) := dk_43 (dk_at dksX7_init_1 7 rfl rfl)
theorem dX7_init_31 : decode cX7_init 31 = .ok (.invokeinterface 23 2, 5) := by decide +kernel
theorem dX7_init_36 : decode cX7_init 36 = .ok (.pop, 1) := dk_87 (dk_at dksX7_init_1 13 rfl rfl)
theorem dX7_init_37 : decode cX7_init 37 = .ok (.return_, 1) := dk_177 (dk_at dksX7_init_1 14 rfl rfl)
abbrev mX7_init : xM := (yX7_init, cX7_init, 2, none, [])
def c_X7_init (G : xG) (x0 : Option Nat) (x1 : Option Nat) (T : xF) : Option (Unit × xF) :=
  if ¬ x0.isSome = true then none else
  al (nO T 10 3 [.int 0, .null, .int 0]) fun T5 =>
  cl (c_J2_init G (some T.2.1) T5) T5 fun v9 T9 =>
  (pV T9 x0 6 0 (va_rf (some T.2.1))).bind fun T12 =>
  al (nO T12 12 4 [.null, .int 0, .int 0, .int 0]) fun T16 =>
  cl (c_J18_init (some T12.2.1) T16) T16 fun v20 T20 =>
  (pV T20 x0 6 1 (va_rf (some T12.2.1))).bind fun T23 =>
  (oQ T23 x0 6 0).bind fun v27 =>
  if ¬ isO T23 v27 10 = true then none else
  cl (c_J2_add G v27 x1 T23) T23 fun v31 T31 =>
  some ((), T31)
theorem w_X7_init {G : xG}  {T : xF} {x0 : Option Nat} {x1 : Option Nat} {q : (Unit × xF)} (hf : c_X7_init G x0 x1 T = some q) : Ct G mX7_init (8) T [va_rf x0, va_rf x1] (.inl none) q.2 := by
  refine Ct.ofc (plainFor_of_name (by decide +kernel)) rfl (xvQ (xvQ xvN)) (Nat.le_of_ble_eq_true rfl) (show Xr G _ 0 [(0, va_rf x0), (1, va_rf x1)] [] _ from ?_)
  unfold c_X7_init at hf
  refine C.aload_n dX7_init_0 rfl 0 rfl ?_
  obtain ⟨c1, hf⟩ := if_n hf
  refine C.objI (Classical.not_not.mp c1) dX7_init_1 q1108 obj1 obj2 (xcs xvN (Nat.le_of_ble_eq_true rfl)) (xD1 (Nat.le_of_ble_eq_true rfl)) ?_
  refine C.aload_n dX7_init_4 rfl 0 rfl ?_
  obtain ⟨T5, e5, hf, l5⟩ := al_ok hf
  refine C.newE e5 dX7_init_5 clJ2 q1109 q169 q125 rfl dfJ2 l5 ?_
  refine X.dup dX7_init_8 (cat1 _) ?_
  obtain ⟨v9, T9, h9, hf, l9, r9⟩ := cl_ok hf
  refine C.Iv (As := []) (rest := [va_rf (some T.2.1), va_rf x0]) dX7_init_9 (w_J2_init h9) cX7_9 rfl rfl rfl (xcs (xvQ (xvQ xvN)) (Nat.le_of_ble_eq_true rfl)) (xD (Nat.le_of_ble_eq_true rfl)) l9 r9 ?_
  obtain ⟨T12, h12, hf⟩ := ob hf
  refine C.putQ dX7_init_12 fX7_10 (fun _ => rfl) rfl h12 ?_
  refine C.aload_n dX7_init_15 rfl 0 rfl ?_
  obtain ⟨T16, e16, hf, l16⟩ := al_ok hf
  refine C.newE e16 dX7_init_16 clJ18 q1111 q1112 q150 rfl dfJ18 l16 ?_
  refine X.dup dX7_init_19 (cat1 _) ?_
  obtain ⟨v20, T20, h20, hf, l20, r20⟩ := cl_ok hf
  refine C.Iv (As := []) (rest := [va_rf (some T12.2.1), va_rf x0]) dX7_init_20 (w_J18_init h20) cX7_18 rfl rfl rfl (xcs (xvQ (xvQ xvN)) (Nat.le_of_ble_eq_true rfl)) (xD (Nat.le_of_ble_eq_true rfl)) l20 r20 ?_
  obtain ⟨T23, h23, hf⟩ := ob hf
  refine C.putQ dX7_init_23 fX7_19 (fun _ => rfl) rfl h23 ?_
  refine C.aload_n dX7_init_26 rfl 0 rfl ?_
  obtain ⟨v27, h27, hf⟩ := ob hf
  refine C.getQ dX7_init_27 rX7_10 h27 ?_
  refine C.aload_n dX7_init_30 rfl 1 rfl ?_
  obtain ⟨c31, hf⟩ := if_n hf
  obtain ⟨v31, T31, h31, hf, l31, r31⟩ := cl_ok hf
  refine C.Fi (As := [va_rf x1]) (rest := []) dX7_init_31 (w_J2_add h31) cX7_23 (Classical.not_not.mp c31) rfl rfl (xcs xvN (Nat.le_of_ble_eq_true rfl)) rfl rfl (xD (Nat.le_of_ble_eq_true rfl)) l31 r31 ?_
  refine X.pop dX7_init_36 rfl ?_
  obtain rfl := Option.some.inj hf
  exact X.vret dX7_init_37 rfl rfl
theorem cX5_173 : xCI RX5 173 mX7_init 1 := ⟨⟨lw_meth q1107, rfl, q146, q1105, q1106, rfl⟩, rfl, ⟨by decide +kernel, by decide +kernel, by decide +kernel⟩, Nat.le_of_ble_eq_true rfl⟩
/-! MouldVotes$Reader sign -/
abbrev cX5_sign : ByteArray := prog_7_method_14_code
def yX5_sign : MethodName := ⟨RX5, "sign", "()C"⟩
def dkwX5_sign_0 : List UInt8 := [42, 180, 0, 3, 180, 0, 78, 42, 180, 0, 90, 51, 146, 60, 42, 182, 0, 133, 27, 172]
abbrev dktX5_sign_0 : List UInt8 := dkwX5_sign_0 ++ []
theorem dksX5_sign_0 : cX5_sign.data.toList.drop 0 = dktX5_sign_0 := by decide +kernel
theorem dX5_sign_0 : decode cX5_sign 0 = .ok (.aload_n 0, 1) := dk_42 (dk_at dksX5_sign_0 0 rfl rfl)
theorem dX5_sign_1 : decode cX5_sign 1 = .ok (.getfield 3, 3) := dk_180 0 3 (dk_at dksX5_sign_0 1 rfl rfl)
theorem dX5_sign_4 : decode cX5_sign 4 = .ok (.getfield 78, 3) := dk_180 0 78 (dk_at dksX5_sign_0 4 rfl rfl)
theorem dX5_sign_7 : decode cX5_sign 7 = .ok (.aload_n 0, 1) := dk_42 (dk_at dksX5_sign_0 7 rfl rfl)
theorem dX5_sign_8 : decode cX5_sign 8 = .ok (.getfield 90, 3) := dk_180 0 90 (dk_at dksX5_sign_0 8 rfl rfl)
theorem dX5_sign_11 : decode cX5_sign 11 = .ok (.baload, 1) := dk_51 (dk_at dksX5_sign_0 11 rfl rfl)
theorem dX5_sign_12 : decode cX5_sign 12 = .ok (.i2c, 1) := dk_146 (dk_at dksX5_sign_0 12 rfl rfl)
theorem dX5_sign_13 : decode cX5_sign 13 = .ok (.istore_n 1, 1) := dk_60 (dk_at dksX5_sign_0 13 rfl rfl)
theorem dX5_sign_14 : decode cX5_sign 14 = .ok (.aload_n 0, 1) := dk_42 (dk_at dksX5_sign_0 14 rfl rfl)
theorem dX5_sign_15 : decode cX5_sign 15 = .ok (.invokevirtual 133, 3) := dk_182 0 133 (dk_at dksX5_sign_0 15 rfl rfl)
theorem dX5_sign_18 : decode cX5_sign 18 = .ok (.iload_n 1, 1) := dk_27 (dk_at dksX5_sign_0 18 rfl rfl)
theorem dX5_sign_19 : decode cX5_sign 19 = .ok (.ireturn, 1) := dk_172 (dk_at dksX5_sign_0 19 rfl rfl)
abbrev mX5_sign : xM := (yX5_sign, cX5_sign, 2, (some .char), [])
def c_X5_sign (G : xG) (x0 : Option Nat) (T : xF) : Option (Int32 × xF) :=
  (oQ T x0 4 14).bind fun v1 =>
  (oQ T v1 0 5).bind fun v4 =>
  (oI T x0 4 9).bind fun v8 =>
  (ldA T v4 .byte v8).bind fun v11 =>
  if ¬ isO T x0 4 = true then none else
  cl (c_X5_next G x0 T) T fun v15 T15 =>
  if ¬ vp_nar .char ((v11.toUInt32 % 65536).toInt32) = ((v11.toUInt32 % 65536).toInt32) then none else some (((v11.toUInt32 % 65536).toInt32), T15)
theorem w_X5_sign {G : xG}  {T : xF} {x0 : Option Nat} {q : (Int32 × xF)} (hf : c_X5_sign G x0 T = some q) : Ct G mX5_sign (6) T [va_rf x0] (.inl (some (.int q.1))) q.2 := by
  refine Ct.ofc (plainFor_of_name (by decide +kernel)) rfl (xvQ xvN) (Nat.le_of_ble_eq_true rfl) (show Xr G _ 0 [(0, va_rf x0)] [] _ from ?_)
  unfold c_X5_sign at hf
  refine C.aload_n dX5_sign_0 rfl 0 rfl ?_
  obtain ⟨v1, h1, hf⟩ := ob hf
  refine C.getQ dX5_sign_1 rX5_3 h1 ?_
  obtain ⟨v4, h4, hf⟩ := ob hf
  refine C.getQ dX5_sign_4 rX5_78 h4 ?_
  refine C.aload_n dX5_sign_7 rfl 0 rfl ?_
  obtain ⟨v8, h8, hf⟩ := ob hf
  refine C.getI dX5_sign_8 rX5_90 h8 ?_
  obtain ⟨v11, h11, hf⟩ := ob hf
  refine C.bald dX5_sign_11 h11 ?_
  refine X.i2c dX5_sign_12 rfl ?_
  refine C.ist_n (L' := [(1, .int ((v11.toUInt32 % 65536).toInt32)), (0, va_rf x0)]) dX5_sign_13 rfl (Nat.le_of_ble_eq_true rfl) (xcQ xcN) rfl ?_
  refine C.aload_n dX5_sign_14 rfl 1 rfl ?_
  obtain ⟨c15, hf⟩ := if_n hf
  obtain ⟨v15, T15, h15, hf, l15, r15⟩ := cl_ok hf
  refine C.Vv (As := []) (rest := []) dX5_sign_15 (w_X5_next h15) cX5_133 (Classical.not_not.mp c15) rfl rfl (xcs xvN (Nat.le_of_ble_eq_true rfl)) rfl rfl (xD (Nat.le_of_ble_eq_true rfl)) l15 r15 ?_
  refine X.iload_n dX5_sign_18 rfl 0 rfl ?_
  obtain ⟨cz, hf⟩ := if_n hf
  obtain rfl := Option.some.inj hf
  exact X.iret dX5_sign_19 rfl (nar_char (Classical.not_not.mp cz)) rfl
theorem cX5_176 : xCV RX5 176 mX5_sign 0 := ⟨lw_V q1148 q1150 qs35 q132 q1151, rfl, ⟨by decide +kernel, by decide +kernel, by decide +kernel⟩, Nat.le_of_ble_eq_true rfl⟩
/-! java/lang/AbstractStringBuilder newCapacity -/
abbrev cJ17_newCapacity : ByteArray := prog_14_method_10_code
def yJ17_newCapacity : MethodName := ⟨RJ17, "newCapacity", "(I)I"⟩
def dkwJ17_newCapacity_2 : List UInt8 := [183, 0, 124, 191, 21, 5, 42, 180, 0, 22, 122, 172]
abbrev dktJ17_newCapacity_2 : List UInt8 := dkwJ17_newCapacity_2 ++ []
def dkwJ17_newCapacity_1 : List UInt8 := [180, 0, 22, 120, 96, 184, 0, 114, 54, 5, 21, 5, 18, 39, 160, 0, 13, 187, 0, 120, 89, 18, 122]
abbrev dktJ17_newCapacity_1 : List UInt8 := dkwJ17_newCapacity_1 ++ dktJ17_newCapacity_2
def dkwJ17_newCapacity_0 : List UInt8 := [42, 180, 0, 15, 190, 61, 27, 42, 180, 0, 22, 120, 62, 29, 28, 100, 54, 4, 28, 21, 4, 28, 5, 42]
abbrev dktJ17_newCapacity_0 : List UInt8 := dkwJ17_newCapacity_0 ++ dktJ17_newCapacity_1
theorem dksJ17_newCapacity_0 : cJ17_newCapacity.data.toList.drop 0 = dktJ17_newCapacity_0 := by decide +kernel
theorem dksJ17_newCapacity_1 : cJ17_newCapacity.data.toList.drop 24 = dktJ17_newCapacity_1 := dk_seg dksJ17_newCapacity_0 24 rfl rfl
theorem dksJ17_newCapacity_2 : cJ17_newCapacity.data.toList.drop 47 = dktJ17_newCapacity_2 := dk_seg dksJ17_newCapacity_1 23 rfl rfl
theorem dJ17_newCapacity_0 : decode cJ17_newCapacity 0 = .ok (.aload_n 0, 1) := dk_42 (dk_at dksJ17_newCapacity_0 0 rfl rfl)
theorem dJ17_newCapacity_1 : decode cJ17_newCapacity 1 = .ok (.getfield 15, 3) := dk_180 0 15 (dk_at dksJ17_newCapacity_0 1 rfl rfl)
theorem dJ17_newCapacity_4 : decode cJ17_newCapacity 4 = .ok (.arraylength, 1) := dk_190 (dk_at dksJ17_newCapacity_0 4 rfl rfl)
theorem dJ17_newCapacity_5 : decode cJ17_newCapacity 5 = .ok (.istore_n 2, 1) := dk_61 (dk_at dksJ17_newCapacity_0 5 rfl rfl)
theorem dJ17_newCapacity_6 : decode cJ17_newCapacity 6 = .ok (.iload_n 1, 1) := dk_27 (dk_at dksJ17_newCapacity_0 6 rfl rfl)
theorem dJ17_newCapacity_7 : decode cJ17_newCapacity 7 = .ok (.aload_n 0, 1) := dk_42 (dk_at dksJ17_newCapacity_0 7 rfl rfl)
theorem dJ17_newCapacity_8 : decode cJ17_newCapacity 8 = .ok (.getfield 22, 3) := dk_180 0 22 (dk_at dksJ17_newCapacity_0 8 rfl rfl)
theorem dJ17_newCapacity_11 : decode cJ17_newCapacity 11 = .ok (.ishl, 1) := dk_120 (dk_at dksJ17_newCapacity_0 11 rfl rfl)
theorem dJ17_newCapacity_12 : decode cJ17_newCapacity 12 = .ok (.istore_n 3, 1) := dk_62 (dk_at dksJ17_newCapacity_0 12 rfl rfl)
theorem dJ17_newCapacity_13 : decode cJ17_newCapacity 13 = .ok (.iload_n 3, 1) := dk_29 (dk_at dksJ17_newCapacity_0 13 rfl rfl)
theorem dJ17_newCapacity_14 : decode cJ17_newCapacity 14 = .ok (.iload_n 2, 1) := dk_28 (dk_at dksJ17_newCapacity_0 14 rfl rfl)
theorem dJ17_newCapacity_15 : decode cJ17_newCapacity 15 = .ok (.isub, 1) := dk_100 (dk_at dksJ17_newCapacity_0 15 rfl rfl)
theorem dJ17_newCapacity_16 : decode cJ17_newCapacity 16 = .ok (.istore 4, 2) := dk_54 4 (dk_at dksJ17_newCapacity_0 16 rfl rfl)
theorem dJ17_newCapacity_18 : decode cJ17_newCapacity 18 = .ok (.iload_n 2, 1) := dk_28 (dk_at dksJ17_newCapacity_0 18 rfl rfl)
theorem dJ17_newCapacity_19 : decode cJ17_newCapacity 19 = .ok (.iload 4, 2) := dk_21 4 (dk_at dksJ17_newCapacity_0 19 rfl rfl)
theorem dJ17_newCapacity_21 : decode cJ17_newCapacity 21 = .ok (.iload_n 2, 1) := dk_28 (dk_at dksJ17_newCapacity_0 21 rfl rfl)
theorem dJ17_newCapacity_22 : decode cJ17_newCapacity 22 = .ok (.iconst 2, 1) := dk_5 (dk_at dksJ17_newCapacity_0 22 rfl rfl)
theorem dJ17_newCapacity_23 : decode cJ17_newCapacity 23 = .ok (.aload_n 0, 1) := dk_42 (dk_at dksJ17_newCapacity_0 23 rfl rfl)
theorem dJ17_newCapacity_24 : decode cJ17_newCapacity 24 = .ok (.getfield 22, 3) := dk_180 0 22 (dk_at dksJ17_newCapacity_1 0 rfl rfl)
theorem dJ17_newCapacity_27 : decode cJ17_newCapacity 27 = .ok (.ishl, 1) := dk_120 (dk_at dksJ17_newCapacity_1 3 rfl rfl)
theorem dJ17_newCapacity_28 : decode cJ17_newCapacity 28 = .ok (.iadd, 1) := dk_96 (dk_at dksJ17_newCapacity_1 4 rfl rfl)
theorem dJ17_newCapacity_29 : decode cJ17_newCapacity 29 = .ok (.invokestatic 114, 3) := dk_184 0 114 (dk_at dksJ17_newCapacity_1 5 rfl rfl)
theorem dJ17_newCapacity_32 : decode cJ17_newCapacity 32 = .ok (.istore 5, 2) := dk_54 5 (dk_at dksJ17_newCapacity_1 8 rfl rfl)
theorem dJ17_newCapacity_34 : decode cJ17_newCapacity 34 = .ok (.iload 5, 2) := dk_21 5 (dk_at dksJ17_newCapacity_1 10 rfl rfl)
theorem dJ17_newCapacity_36 : decode cJ17_newCapacity 36 = .ok (.ldc 39, 2) := dk_18 39 (dk_at dksJ17_newCapacity_1 12 rfl rfl)
theorem dJ17_newCapacity_38 : decode cJ17_newCapacity 38 = .ok (.if_icmp .ne 13, 3) := dk_160 0 13 (dk_at dksJ17_newCapacity_1 14 rfl rfl)
theorem dJ17_newCapacity_41 : decode cJ17_newCapacity 41 = .ok (.new 120, 3) := dk_187 0 120 (dk_at dksJ17_newCapacity_1 17 rfl rfl)
theorem dJ17_newCapacity_44 : decode cJ17_newCapacity 44 = .ok (.dup, 1) := dk_89 (dk_at dksJ17_newCapacity_1 20 rfl rfl)
theorem dJ17_newCapacity_45 : decode cJ17_newCapacity 45 = .ok (.ldc 122, 2) := dk_18 122 (dk_at dksJ17_newCapacity_1 21 rfl rfl)
theorem dJ17_newCapacity_47 : decode cJ17_newCapacity 47 = .ok (.invokespecial 124, 3) := dk_183 0 124 (dk_at dksJ17_newCapacity_2 0 rfl rfl)
theorem dJ17_newCapacity_50 : decode cJ17_newCapacity 50 = .ok (.athrow, 1) := dk_191 (dk_at dksJ17_newCapacity_2 3 rfl rfl)
theorem dJ17_newCapacity_51 : decode cJ17_newCapacity 51 = .ok (.iload 5, 2) := dk_21 5 (dk_at dksJ17_newCapacity_2 4 rfl rfl)
theorem dJ17_newCapacity_53 : decode cJ17_newCapacity 53 = .ok (.aload_n 0, 1) := dk_42 (dk_at dksJ17_newCapacity_2 6 rfl rfl)
theorem dJ17_newCapacity_54 : decode cJ17_newCapacity 54 = .ok (.getfield 22, 3) := dk_180 0 22 (dk_at dksJ17_newCapacity_2 7 rfl rfl)
theorem dJ17_newCapacity_57 : decode cJ17_newCapacity 57 = .ok (.ishr, 1) := dk_122 (dk_at dksJ17_newCapacity_2 10 rfl rfl)
theorem dJ17_newCapacity_58 : decode cJ17_newCapacity 58 = .ok (.ireturn, 1) := dk_172 (dk_at dksJ17_newCapacity_2 11 rfl rfl)
abbrev mJ17_newCapacity : xM := (yJ17_newCapacity, cJ17_newCapacity, 6, (some .int), [])
def c_J17_newCapacity (T : xF) (x0 : Option Nat) (x1 : Int32) : Option Int32 :=
  (oQ T x0 12 0).bind fun v1 =>
  (len T v1).bind fun v4 =>
  (oI T x0 12 1).bind fun v8 =>
  (oI T x0 12 1).bind fun v24 =>
  (c_J15_newLength v4 ((x1 <<< (v8 &&& 31)) - v4) (v4 + ((2 : Int32) <<< (v24 &&& 31)))).bind fun v29 =>
  if v29 = (2147483647 : Int32) then
    none
  else
    (oI T x0 12 1).bind fun v54 =>
    some (v29 >>> (v54 &&& 31))
theorem w_J17_newCapacity {G : xG}  {T : xF} {x0 : Option Nat} {x1 : Int32} {q : Int32} (hf : c_J17_newCapacity T x0 x1 = some q) : Ct G mJ17_newCapacity (3) T [va_rf x0, .int x1] (.inl (some (.int q))) T := by
  refine Ct.ofc (plainFor_of_name (by decide +kernel)) rfl (xvQ (xvI xvN)) (Nat.le_of_ble_eq_true rfl) (show Xr G _ 0 [(0, va_rf x0), (1, .int x1)] [] _ from ?_)
  unfold c_J17_newCapacity at hf
  refine C.aload_n dJ17_newCapacity_0 rfl 0 rfl ?_
  obtain ⟨v1, h1, hf⟩ := ob hf
  refine C.getQ dJ17_newCapacity_1 rJ17_15 h1 ?_
  obtain ⟨v4, h4, hf⟩ := ob hf
  refine C.alen dJ17_newCapacity_4 h4 ?_
  refine C.ist_n (L' := [(2, .int v4), (0, va_rf x0), (1, .int x1)]) dJ17_newCapacity_5 rfl (Nat.le_of_ble_eq_true rfl) (xcQ (xcI xcN)) rfl ?_
  refine X.iload_n dJ17_newCapacity_6 rfl 2 rfl ?_
  refine C.aload_n dJ17_newCapacity_7 rfl 1 rfl ?_
  obtain ⟨v8, h8, hf⟩ := ob hf
  refine C.getI dJ17_newCapacity_8 rJ17_22 h8 ?_
  refine X.ishl dJ17_newCapacity_11 ?_
  refine C.ist_n (L' := [(3, .int (x1 <<< (v8 &&& 31))), (2, .int v4), (0, va_rf x0), (1, .int x1)]) dJ17_newCapacity_12 rfl (Nat.le_of_ble_eq_true rfl) (xcI (xcQ (xcI xcN))) rfl ?_
  refine X.iload_n dJ17_newCapacity_13 rfl 0 rfl ?_
  refine X.iload_n dJ17_newCapacity_14 rfl 1 rfl ?_
  refine X.isub dJ17_newCapacity_15 ?_
  refine C.ist (L' := [(4, .int ((x1 <<< (v8 &&& 31)) - v4)), (3, .int (x1 <<< (v8 &&& 31))), (2, .int v4), (0, va_rf x0), (1, .int x1)]) dJ17_newCapacity_16 (Nat.le_of_ble_eq_true rfl) (xcI (xcI (xcQ (xcI xcN)))) rfl ?_
  refine X.iload_n dJ17_newCapacity_18 rfl 2 rfl ?_
  refine X.iload dJ17_newCapacity_19 0 rfl ?_
  refine X.iload_n dJ17_newCapacity_21 rfl 2 rfl ?_
  refine X.iconst (v := 2) dJ17_newCapacity_22 (by decide) ?_
  refine C.aload_n dJ17_newCapacity_23 rfl 3 rfl ?_
  obtain ⟨v24, h24, hf⟩ := ob hf
  refine C.getI dJ17_newCapacity_24 rJ17_22 h24 ?_
  refine X.ishl dJ17_newCapacity_27 ?_
  refine X.iadd dJ17_newCapacity_28 ?_
  obtain ⟨v29, h29, hf⟩ := ob hf
  refine X.keep fun l29 => C.Si (As := [.int v4, .int ((x1 <<< (v8 &&& 31)) - v4), .int (v4 + ((2 : Int32) <<< (v24 &&& 31)))]) (rest := []) dJ17_newCapacity_29 (w_J15_newLength h29) cJ17_114 rfl rfl (xcs xvN (Nat.le_of_ble_eq_true rfl)) (xD (Nat.le_of_ble_eq_true rfl)) xle.rf l29 ?_
  refine C.ist (L' := [(5, .int v29), (4, .int ((x1 <<< (v8 &&& 31)) - v4)), (3, .int (x1 <<< (v8 &&& 31))), (2, .int v4), (0, va_rf x0), (1, .int x1)]) dJ17_newCapacity_32 (Nat.le_of_ble_eq_true rfl) (xcI (xcI (xcI (xcQ (xcI xcN))))) rfl ?_
  refine X.iload dJ17_newCapacity_34 0 rfl ?_
  refine X.ldcI (v := 2147483647) dJ17_newCapacity_36 q1172 ?_
  refine X.icmp_ne (tgt := 51) dJ17_newCapacity_38 (by decide) (fun c38 => ?_) (fun c38 => ?_)
  · have hf := if_f c38 hf
    refine X.iload dJ17_newCapacity_51 0 rfl ?_
    refine C.aload_n dJ17_newCapacity_53 rfl 4 rfl ?_
    obtain ⟨v54, h54, hf⟩ := ob hf
    refine C.getI dJ17_newCapacity_54 rJ17_22 h54 ?_
    refine X.ishr dJ17_newCapacity_57 ?_
    obtain rfl := Option.some.inj hf
    exact X.iret dJ17_newCapacity_58 rfl rfl rfl
  · have hf := if_t c38 hf
    cases hf
theorem cJ17_104 : xCP RJ17 104 "java/lang/StringBuilder" mJ17_newCapacity 1 := ⟨lw_P q1167 q2234 q1169 q149 q1170, rfl, ⟨by decide +kernel, by decide +kernel, by decide +kernel⟩, Nat.le_of_ble_eq_true rfl, q1168, ⟨"java/lang/AbstractStringBuilder", "isLatin1", "()Z"⟩, rfl, q1186⟩
/-! java/util/Arrays copyOf -/
abbrev cJ16_copyOf_3 : ByteArray := prog_39_method_121_code
def yJ16_copyOf_3 : MethodName := ⟨RJ16, "copyOf", "([BI)[B"⟩
def dkwJ16_copyOf_3_1 : List UInt8 := [27, 184, 1, 48, 184, 0, 150, 44, 176]
abbrev dktJ16_copyOf_3_1 : List UInt8 := dkwJ16_copyOf_3_1 ++ []
def dkwJ16_copyOf_3_0 : List UInt8 := [27, 42, 190, 160, 0, 11, 42, 182, 1, 54, 192, 1, 55, 176, 27, 188, 8, 77, 42, 3, 44, 3, 42, 190]
abbrev dktJ16_copyOf_3_0 : List UInt8 := dkwJ16_copyOf_3_0 ++ dktJ16_copyOf_3_1
theorem dksJ16_copyOf_3_0 : cJ16_copyOf_3.data.toList.drop 0 = dktJ16_copyOf_3_0 := by decide +kernel
theorem dksJ16_copyOf_3_1 : cJ16_copyOf_3.data.toList.drop 24 = dktJ16_copyOf_3_1 := dk_seg dksJ16_copyOf_3_0 24 rfl rfl
theorem dJ16_copyOf_3_0 : decode cJ16_copyOf_3 0 = .ok (.iload_n 1, 1) := dk_27 (dk_at dksJ16_copyOf_3_0 0 rfl rfl)
theorem dJ16_copyOf_3_1 : decode cJ16_copyOf_3 1 = .ok (.aload_n 0, 1) := dk_42 (dk_at dksJ16_copyOf_3_0 1 rfl rfl)
theorem dJ16_copyOf_3_2 : decode cJ16_copyOf_3 2 = .ok (.arraylength, 1) := dk_190 (dk_at dksJ16_copyOf_3_0 2 rfl rfl)
theorem dJ16_copyOf_3_3 : decode cJ16_copyOf_3 3 = .ok (.if_icmp .ne 11, 3) := dk_160 0 11 (dk_at dksJ16_copyOf_3_0 3 rfl rfl)
theorem dJ16_copyOf_3_6 : decode cJ16_copyOf_3 6 = .ok (.aload_n 0, 1) := dk_42 (dk_at dksJ16_copyOf_3_0 6 rfl rfl)
theorem dJ16_copyOf_3_7 : decode cJ16_copyOf_3 7 = .ok (.invokevirtual 310, 3) := dk_182 1 54 (dk_at dksJ16_copyOf_3_0 7 rfl rfl)
theorem dJ16_copyOf_3_10 : decode cJ16_copyOf_3 10 = .ok (.checkcast 311, 3) := dk_192 1 55 (dk_at dksJ16_copyOf_3_0 10 rfl rfl)
theorem dJ16_copyOf_3_13 : decode cJ16_copyOf_3 13 = .ok (.areturn, 1) := dk_176 (dk_at dksJ16_copyOf_3_0 13 rfl rfl)
theorem dJ16_copyOf_3_14 : decode cJ16_copyOf_3 14 = .ok (.iload_n 1, 1) := dk_27 (dk_at dksJ16_copyOf_3_0 14 rfl rfl)
theorem dJ16_copyOf_3_15 : decode cJ16_copyOf_3 15 = .ok (.newarray .byte, 2) := dk_188_8 (dk_at dksJ16_copyOf_3_0 15 rfl rfl)
theorem dJ16_copyOf_3_17 : decode cJ16_copyOf_3 17 = .ok (.astore_n 2, 1) := dk_77 (dk_at dksJ16_copyOf_3_0 17 rfl rfl)
theorem dJ16_copyOf_3_18 : decode cJ16_copyOf_3 18 = .ok (.aload_n 0, 1) := dk_42 (dk_at dksJ16_copyOf_3_0 18 rfl rfl)
theorem dJ16_copyOf_3_19 : decode cJ16_copyOf_3 19 = .ok (.iconst 0, 1) := dk_3 (dk_at dksJ16_copyOf_3_0 19 rfl rfl)
theorem dJ16_copyOf_3_20 : decode cJ16_copyOf_3 20 = .ok (.aload_n 2, 1) := dk_44 (dk_at dksJ16_copyOf_3_0 20 rfl rfl)
theorem dJ16_copyOf_3_21 : decode cJ16_copyOf_3 21 = .ok (.iconst 0, 1) := dk_3 (dk_at dksJ16_copyOf_3_0 21 rfl rfl)
theorem dJ16_copyOf_3_22 : decode cJ16_copyOf_3 22 = .ok (.aload_n 0, 1) := dk_42 (dk_at dksJ16_copyOf_3_0 22 rfl rfl)
theorem dJ16_copyOf_3_23 : decode cJ16_copyOf_3 23 = .ok (.arraylength, 1) := dk_190 (dk_at dksJ16_copyOf_3_0 23 rfl rfl)
theorem dJ16_copyOf_3_24 : decode cJ16_copyOf_3 24 = .ok (.iload_n 1, 1) := dk_27 (dk_at dksJ16_copyOf_3_1 0 rfl rfl)
theorem dJ16_copyOf_3_25 : decode cJ16_copyOf_3 25 = .ok (.invokestatic 304, 3) := dk_184 1 48 (dk_at dksJ16_copyOf_3_1 1 rfl rfl)
theorem dJ16_copyOf_3_28 : decode cJ16_copyOf_3 28 = .ok (.invokestatic 150, 3) := dk_184 0 150 (dk_at dksJ16_copyOf_3_1 4 rfl rfl)
theorem dJ16_copyOf_3_31 : decode cJ16_copyOf_3 31 = .ok (.aload_n 2, 1) := dk_44 (dk_at dksJ16_copyOf_3_1 7 rfl rfl)
theorem dJ16_copyOf_3_32 : decode cJ16_copyOf_3 32 = .ok (.areturn, 1) := dk_176 (dk_at dksJ16_copyOf_3_1 8 rfl rfl)
abbrev mJ16_copyOf_3 : xM := (yJ16_copyOf_3, cJ16_copyOf_3, 3, (some (.array .byte)), [])
def c_J16_copyOf_3 (x0 : Option Nat) (x1 : Int32) (T : xF) : Option (Option Nat × xF) :=
  (len T x0).bind fun v2 =>
  if x1 = v2 then
    none
  else
    if x1 < 0 ∨ 100000000 ≤ x1.toNatClampNeg then none else
    al (nA T .byte x1.toNatClampNeg) fun T15 =>
    (len T15 x0).bind fun v23 =>
    (c_J7_min v23 x1).bind fun v25 =>
    (cpB T15 x0 (0 : Int32) (some T.2.1) (0 : Int32) v25).bind fun T28 =>
    some ((some T.2.1), T28)
theorem w_J16_copyOf_3 {G : xG}  {T : xF} {x0 : Option Nat} {x1 : Int32} {q : (Option Nat × xF)} (hf : c_J16_copyOf_3 x0 x1 T = some q) : Ct G mJ16_copyOf_3 (2) T [va_rf x0, .int x1] (.inl (some (va_rf q.1))) q.2 := by
  refine Ct.ofc (plainFor_of_name (by decide +kernel)) rfl (xvQ (xvI xvN)) (Nat.le_of_ble_eq_true rfl) (show Xr G _ 0 [(0, va_rf x0), (1, .int x1)] [] _ from ?_)
  unfold c_J16_copyOf_3 at hf
  refine X.iload_n dJ16_copyOf_3_0 rfl 1 rfl ?_
  refine C.aload_n dJ16_copyOf_3_1 rfl 0 rfl ?_
  obtain ⟨v2, h2, hf⟩ := ob hf
  refine C.alen dJ16_copyOf_3_2 h2 ?_
  refine X.icmp_ne (tgt := 14) dJ16_copyOf_3_3 (by decide) (fun c3 => ?_) (fun c3 => ?_)
  · have hf := if_f c3 hf
    refine X.iload_n dJ16_copyOf_3_14 rfl 1 rfl ?_
    obtain ⟨c15, hf⟩ := if_n hf
    obtain ⟨T15, e15, hf, l15⟩ := al_ok hf
    refine C.newaE e15 dJ16_copyOf_3_15 rfl (by decide) rfl q321 rfl (by decide) c15 l15 ?_
    refine C.ast_n (L' := [(2, va_rf (some T.2.1)), (0, va_rf x0), (1, .int x1)]) dJ16_copyOf_3_17 rfl (Nat.le_of_ble_eq_true rfl) (xcQ (xcI xcN)) rfl ?_
    refine C.aload_n dJ16_copyOf_3_18 rfl 1 rfl ?_
    refine X.iconst (v := 0) dJ16_copyOf_3_19 (by decide) ?_
    refine C.aload_n dJ16_copyOf_3_20 rfl 0 rfl ?_
    refine X.iconst (v := 0) dJ16_copyOf_3_21 (by decide) ?_
    refine C.aload_n dJ16_copyOf_3_22 rfl 1 rfl ?_
    obtain ⟨v23, h23, hf⟩ := ob hf
    refine C.alen dJ16_copyOf_3_23 h23 ?_
    refine X.iload_n dJ16_copyOf_3_24 rfl 2 rfl ?_
    obtain ⟨v25, h25, hf⟩ := ob hf
    refine X.keep fun l25 => C.Si (As := [.int v23, .int x1]) (rest := [.int (0 : Int32), va_rf (some T.2.1), .int (0 : Int32), va_rf x0]) dJ16_copyOf_3_25 (w_J7_min h25) cJ16_304 rfl rfl (xcs (xvI (xvQ (xvI (xvQ xvN)))) (Nat.le_of_ble_eq_true rfl)) (xD (Nat.le_of_ble_eq_true rfl)) xle.rf l25 ?_
    obtain ⟨T28, h28, hf⟩ := ob hf
    refine C.cpB dJ16_copyOf_3_28 q418 ac1 ac2 ac3 h28 (xcs xvN (Nat.le_of_ble_eq_true rfl)) (xD1 (Nat.le_of_ble_eq_true rfl)) ?_
    refine C.aload_n dJ16_copyOf_3_31 rfl 0 rfl ?_
    obtain rfl := Option.some.inj hf
    exact X.aret dJ16_copyOf_3_32 rfl (Or.inr ⟨_, rfl⟩) rfl
  · have hf := if_t c3 hf
    refine C.aload_n dJ16_copyOf_3_6 rfl 0 rfl ?_
    cases hf
theorem cJ17_108 : xCS RJ17 108 mJ16_copyOf_3 2 := ⟨lw_S q1173 q1174 q144 q1175, rfl, ⟨by decide +kernel, by decide +kernel, by decide +kernel⟩, Nat.le_of_ble_eq_true rfl⟩
/-! java/lang/AbstractStringBuilder ensureCapacityInternal -/
abbrev cJ17_ensureCapacityInternal : ByteArray := prog_14_method_9_code
def yJ17_ensureCapacityInternal : MethodName := ⟨RJ17, "ensureCapacityInternal", "(I)V"⟩
def dkwJ17_ensureCapacityInternal_1 : List UInt8 := [182, 0, 104, 42, 180, 0, 22, 120, 184, 0, 108, 181, 0, 15, 177]
abbrev dktJ17_ensureCapacityInternal_1 : List UInt8 := dkwJ17_ensureCapacityInternal_1 ++ []
def dkwJ17_ensureCapacityInternal_0 : List UInt8 := [42, 180, 0, 15, 190, 42, 180, 0, 22, 122, 61, 27, 28, 100, 158, 0, 24, 42, 42, 180, 0, 15, 42, 27]
abbrev dktJ17_ensureCapacityInternal_0 : List UInt8 := dkwJ17_ensureCapacityInternal_0 ++ dktJ17_ensureCapacityInternal_1
theorem dksJ17_ensureCapacityInternal_0 : cJ17_ensureCapacityInternal.data.toList.drop 0 = dktJ17_ensureCapacityInternal_0 := by decide +kernel
theorem dksJ17_ensureCapacityInternal_1 : cJ17_ensureCapacityInternal.data.toList.drop 24 = dktJ17_ensureCapacityInternal_1 := dk_seg dksJ17_ensureCapacityInternal_0 24 rfl rfl
theorem dJ17_ensureCapacityInternal_0 : decode cJ17_ensureCapacityInternal 0 = .ok (.aload_n 0, 1) := dk_42 (dk_at dksJ17_ensureCapacityInternal_0 0 rfl rfl)
theorem dJ17_ensureCapacityInternal_1 : decode cJ17_ensureCapacityInternal 1 = .ok (.getfield 15, 3) := dk_180 0 15 (dk_at dksJ17_ensureCapacityInternal_0 1 rfl rfl)
theorem dJ17_ensureCapacityInternal_4 : decode cJ17_ensureCapacityInternal 4 = .ok (.arraylength, 1) := dk_190 (dk_at dksJ17_ensureCapacityInternal_0 4 rfl rfl)
theorem dJ17_ensureCapacityInternal_5 : decode cJ17_ensureCapacityInternal 5 = .ok (.aload_n 0, 1) := dk_42 (dk_at dksJ17_ensureCapacityInternal_0 5 rfl rfl)
theorem dJ17_ensureCapacityInternal_6 : decode cJ17_ensureCapacityInternal 6 = .ok (.getfield 22, 3) := dk_180 0 22 (dk_at dksJ17_ensureCapacityInternal_0 6 rfl rfl)
theorem dJ17_ensureCapacityInternal_9 : decode cJ17_ensureCapacityInternal 9 = .ok (.ishr, 1) := dk_122 (dk_at dksJ17_ensureCapacityInternal_0 9 rfl rfl)
theorem dJ17_ensureCapacityInternal_10 : decode cJ17_ensureCapacityInternal 10 = .ok (.istore_n 2, 1) := dk_61 (dk_at dksJ17_ensureCapacityInternal_0 10 rfl rfl)
theorem dJ17_ensureCapacityInternal_11 : decode cJ17_ensureCapacityInternal 11 = .ok (.iload_n 1, 1) := dk_27 (dk_at dksJ17_ensureCapacityInternal_0 11 rfl rfl)
theorem dJ17_ensureCapacityInternal_12 : decode cJ17_ensureCapacityInternal 12 = .ok (.iload_n 2, 1) := dk_28 (dk_at dksJ17_ensureCapacityInternal_0 12 rfl rfl)
theorem dJ17_ensureCapacityInternal_13 : decode cJ17_ensureCapacityInternal 13 = .ok (.isub, 1) := dk_100 (dk_at dksJ17_ensureCapacityInternal_0 13 rfl rfl)
theorem dJ17_ensureCapacityInternal_14 : decode cJ17_ensureCapacityInternal 14 = .ok (.ifCond .le 24, 3) := dk_158 0 24 (dk_at dksJ17_ensureCapacityInternal_0 14 rfl rfl)
theorem dJ17_ensureCapacityInternal_17 : decode cJ17_ensureCapacityInternal 17 = .ok (.aload_n 0, 1) := dk_42 (dk_at dksJ17_ensureCapacityInternal_0 17 rfl rfl)
theorem dJ17_ensureCapacityInternal_18 : decode cJ17_ensureCapacityInternal 18 = .ok (.aload_n 0, 1) := dk_42 (dk_at dksJ17_ensureCapacityInternal_0 18 rfl rfl)
theorem dJ17_ensureCapacityInternal_19 : decode cJ17_ensureCapacityInternal 19 = .ok (.getfield 15, 3) := dk_180 0 15 (dk_at dksJ17_ensureCapacityInternal_0 19 rfl rfl)
theorem dJ17_ensureCapacityInternal_22 : decode cJ17_ensureCapacityInternal 22 = .ok (.aload_n 0, 1) := dk_42 (dk_at dksJ17_ensureCapacityInternal_0 22 rfl rfl)
theorem dJ17_ensureCapacityInternal_23 : decode cJ17_ensureCapacityInternal 23 = .ok (.iload_n 1, 1) := dk_27 (dk_at dksJ17_ensureCapacityInternal_0 23 rfl rfl)
theorem dJ17_ensureCapacityInternal_24 : decode cJ17_ensureCapacityInternal 24 = .ok (.invokevirtual 104, 3) := dk_182 0 104 (dk_at dksJ17_ensureCapacityInternal_1 0 rfl rfl)
theorem dJ17_ensureCapacityInternal_27 : decode cJ17_ensureCapacityInternal 27 = .ok (.aload_n 0, 1) := dk_42 (dk_at dksJ17_ensureCapacityInternal_1 3 rfl rfl)
theorem dJ17_ensureCapacityInternal_28 : decode cJ17_ensureCapacityInternal 28 = .ok (.getfield 22, 3) := dk_180 0 22 (dk_at dksJ17_ensureCapacityInternal_1 4 rfl rfl)
theorem dJ17_ensureCapacityInternal_31 : decode cJ17_ensureCapacityInternal 31 = .ok (.ishl, 1) := dk_120 (dk_at dksJ17_ensureCapacityInternal_1 7 rfl rfl)
theorem dJ17_ensureCapacityInternal_32 : decode cJ17_ensureCapacityInternal 32 = .ok (.invokestatic 108, 3) := dk_184 0 108 (dk_at dksJ17_ensureCapacityInternal_1 8 rfl rfl)
theorem dJ17_ensureCapacityInternal_35 : decode cJ17_ensureCapacityInternal 35 = .ok (.putfield 15, 3) := dk_181 0 15 (dk_at dksJ17_ensureCapacityInternal_1 11 rfl rfl)
theorem dJ17_ensureCapacityInternal_38 : decode cJ17_ensureCapacityInternal 38 = .ok (.return_, 1) := dk_177 (dk_at dksJ17_ensureCapacityInternal_1 14 rfl rfl)
abbrev mJ17_ensureCapacityInternal : xM := (yJ17_ensureCapacityInternal, cJ17_ensureCapacityInternal, 3, none, [])
def c_J17_ensureCapacityInternal (x0 : Option Nat) (x1 : Int32) (T : xF) : Option (Unit × xF) :=
  (oQ T x0 12 0).bind fun v1 =>
  (len T v1).bind fun v4 =>
  (oI T x0 12 1).bind fun v6 =>
  if (x1 - (v4 >>> (v6 &&& 31))) ≤ 0 then
    some ((), T)
  else
    (oQ T x0 12 0).bind fun v19 =>
    if ¬ isO T x0 12 = true then none else
    (c_J17_newCapacity T x0 x1).bind fun v24 =>
    (oI T x0 12 1).bind fun v28 =>
    cl (c_J16_copyOf_3 v19 (v24 <<< (v28 &&& 31)) T) T fun v32 T32 =>
    (pV T32 x0 12 0 (va_rf v32)).bind fun T35 =>
    some ((), T35)
theorem w_J17_ensureCapacityInternal {G : xG}  {T : xF} {x0 : Option Nat} {x1 : Int32} {q : (Unit × xF)} (hf : c_J17_ensureCapacityInternal x0 x1 T = some q) : Ct G mJ17_ensureCapacityInternal (4) T [va_rf x0, .int x1] (.inl none) q.2 := by
  refine Ct.ofc (plainFor_of_name (by decide +kernel)) rfl (xvQ (xvI xvN)) (Nat.le_of_ble_eq_true rfl) (show Xr G _ 0 [(0, va_rf x0), (1, .int x1)] [] _ from ?_)
  unfold c_J17_ensureCapacityInternal at hf
  refine C.aload_n dJ17_ensureCapacityInternal_0 rfl 0 rfl ?_
  obtain ⟨v1, h1, hf⟩ := ob hf
  refine C.getQ dJ17_ensureCapacityInternal_1 rJ17_15 h1 ?_
  obtain ⟨v4, h4, hf⟩ := ob hf
  refine C.alen dJ17_ensureCapacityInternal_4 h4 ?_
  refine C.aload_n dJ17_ensureCapacityInternal_5 rfl 0 rfl ?_
  obtain ⟨v6, h6, hf⟩ := ob hf
  refine C.getI dJ17_ensureCapacityInternal_6 rJ17_22 h6 ?_
  refine X.ishr dJ17_ensureCapacityInternal_9 ?_
  refine C.ist_n (L' := [(2, .int (v4 >>> (v6 &&& 31))), (0, va_rf x0), (1, .int x1)]) dJ17_ensureCapacityInternal_10 rfl (Nat.le_of_ble_eq_true rfl) (xcQ (xcI xcN)) rfl ?_
  refine X.iload_n dJ17_ensureCapacityInternal_11 rfl 2 rfl ?_
  refine X.iload_n dJ17_ensureCapacityInternal_12 rfl 0 rfl ?_
  refine X.isub dJ17_ensureCapacityInternal_13 ?_
  refine X.if_le (tgt := 38) dJ17_ensureCapacityInternal_14 (by decide) (fun c14 => ?_) (fun c14 => ?_)
  · have hf := if_t c14 hf
    obtain rfl := Option.some.inj hf
    exact X.vret dJ17_ensureCapacityInternal_38 rfl rfl
  · have hf := if_f c14 hf
    refine C.aload_n dJ17_ensureCapacityInternal_17 rfl 1 rfl ?_
    refine C.aload_n dJ17_ensureCapacityInternal_18 rfl 1 rfl ?_
    obtain ⟨v19, h19, hf⟩ := ob hf
    refine C.getQ dJ17_ensureCapacityInternal_19 rJ17_15 h19 ?_
    refine C.aload_n dJ17_ensureCapacityInternal_22 rfl 1 rfl ?_
    refine X.iload_n dJ17_ensureCapacityInternal_23 rfl 2 rfl ?_
    obtain ⟨c24, hf⟩ := if_n hf
    obtain ⟨v24, h24, hf⟩ := ob hf
    refine X.keep fun l24 => C.Pi (As := [.int x1]) (rest := [va_rf v19, va_rf x0]) dJ17_ensureCapacityInternal_24 (w_J17_newCapacity h24) cJ17_104 (Classical.not_not.mp c24) rfl rfl (xcs (xvQ (xvQ xvN)) (Nat.le_of_ble_eq_true rfl)) rfl rfl (xD (Nat.le_of_ble_eq_true rfl)) xle.rf l24 ?_
    refine C.aload_n dJ17_ensureCapacityInternal_27 rfl 1 rfl ?_
    obtain ⟨v28, h28, hf⟩ := ob hf
    refine C.getI dJ17_ensureCapacityInternal_28 rJ17_22 h28 ?_
    refine X.ishl dJ17_ensureCapacityInternal_31 ?_
    obtain ⟨v32, T32, h32, hf, l32, r32⟩ := cl_ok hf
    refine C.Sq (As := [va_rf v19, .int (v24 <<< (v28 &&& 31))]) (rest := [va_rf x0]) dJ17_ensureCapacityInternal_32 (w_J16_copyOf_3 h32) cJ17_108 rfl rfl (xcs (xvQ xvN) (Nat.le_of_ble_eq_true rfl)) (xD (Nat.le_of_ble_eq_true rfl)) l32 r32 ?_
    obtain ⟨T35, h35, hf⟩ := ob hf
    refine C.putQ dJ17_ensureCapacityInternal_35 fJ17_15 (fun q => by cases q) rfl h35 ?_
    obtain rfl := Option.some.inj hf
    exact X.vret dJ17_ensureCapacityInternal_38 rfl rfl
theorem cJ17_100 : xCP RJ17 100 "java/lang/StringBuilder" mJ17_ensureCapacityInternal 1 := ⟨lw_P q1163 q2233 q1165 q149 q1166, rfl, ⟨by decide +kernel, by decide +kernel, by decide +kernel⟩, Nat.le_of_ble_eq_true rfl, q1164, ⟨"java/lang/AbstractStringBuilder", "isLatin1", "()Z"⟩, rfl, q1186⟩
/-! java/lang/AbstractStringBuilder isLatin1 -/
abbrev cJ17_isLatin1 : ByteArray := prog_14_method_68_code
def yJ17_isLatin1 : MethodName := ⟨RJ17, "isLatin1", "()Z"⟩
def dkwJ17_isLatin1_0 : List UInt8 := [178, 0, 18, 153, 0, 14, 42, 180, 0, 22, 154, 0, 7, 4, 167, 0, 4, 3, 172]
abbrev dktJ17_isLatin1_0 : List UInt8 := dkwJ17_isLatin1_0 ++ []
theorem dksJ17_isLatin1_0 : cJ17_isLatin1.data.toList.drop 0 = dktJ17_isLatin1_0 := by decide +kernel
theorem dJ17_isLatin1_0 : decode cJ17_isLatin1 0 = .ok (.getstatic 18, 3) := dk_178 0 18 (dk_at dksJ17_isLatin1_0 0 rfl rfl)
theorem dJ17_isLatin1_3 : decode cJ17_isLatin1 3 = .ok (.ifCond .eq 14, 3) := dk_153 0 14 (dk_at dksJ17_isLatin1_0 3 rfl rfl)
theorem dJ17_isLatin1_6 : decode cJ17_isLatin1 6 = .ok (.aload_n 0, 1) := dk_42 (dk_at dksJ17_isLatin1_0 6 rfl rfl)
theorem dJ17_isLatin1_7 : decode cJ17_isLatin1 7 = .ok (.getfield 22, 3) := dk_180 0 22 (dk_at dksJ17_isLatin1_0 7 rfl rfl)
theorem dJ17_isLatin1_10 : decode cJ17_isLatin1 10 = .ok (.ifCond .ne 7, 3) := dk_154 0 7 (dk_at dksJ17_isLatin1_0 10 rfl rfl)
theorem dJ17_isLatin1_13 : decode cJ17_isLatin1 13 = .ok (.iconst 1, 1) := dk_4 (dk_at dksJ17_isLatin1_0 13 rfl rfl)
theorem dJ17_isLatin1_14 : decode cJ17_isLatin1 14 = .ok (.goto 4, 3) := dk_167 0 4 (dk_at dksJ17_isLatin1_0 14 rfl rfl)
theorem dJ17_isLatin1_17 : decode cJ17_isLatin1 17 = .ok (.iconst 0, 1) := dk_3 (dk_at dksJ17_isLatin1_0 17 rfl rfl)
theorem dJ17_isLatin1_18 : decode cJ17_isLatin1 18 = .ok (.ireturn, 1) := dk_172 (dk_at dksJ17_isLatin1_0 18 rfl rfl)
abbrev mJ17_isLatin1 : xM := (yJ17_isLatin1, cJ17_isLatin1, 1, (some .boolean), [])
def c_J17_isLatin1 (T : xF) (x0 : Option Nat) : Option Int32 :=
  if (1 : Int32) = 0 then
    some (0 : Int32)
  else
    (oI T x0 12 1).bind fun v7 =>
    if v7 = 0 then
      some (1 : Int32)
    else
      some (0 : Int32)
theorem w_J17_isLatin1 {G : xG}  {T : xF} {x0 : Option Nat} {q : Int32} (hf : c_J17_isLatin1 T x0 = some q) : Ct G mJ17_isLatin1 (1) T [va_rf x0] (.inl (some (.int q))) T := by
  refine Ct.ofc (plainFor_of_name (by decide +kernel)) rfl (xvQ xvN) (Nat.le_of_ble_eq_true rfl) (show Xr G _ 0 [(0, va_rf x0)] [] _ from ?_)
  unfold c_J17_isLatin1 at hf
  refine X.gets dJ17_isLatin1_0 (i := 4) rfl q1120 rfl ?_
  refine X.if_eq (tgt := 17) dJ17_isLatin1_3 (by decide) (fun c3 => ?_) (fun c3 => ?_)
  · have hf := if_t c3 hf
    refine X.iconst (v := 0) dJ17_isLatin1_17 (by decide) ?_
    obtain rfl := Option.some.inj hf
    exact X.iret dJ17_isLatin1_18 rfl rfl rfl
  · have hf := if_f c3 hf
    refine C.aload_n dJ17_isLatin1_6 rfl 0 rfl ?_
    obtain ⟨v7, h7, hf⟩ := ob hf
    refine C.getI dJ17_isLatin1_7 rJ17_22 h7 ?_
    refine X.if_ne (tgt := 17) dJ17_isLatin1_10 (by decide) (fun c10 => ?_) (fun c10 => ?_)
    · have hf := if_f c10 hf
      refine X.iconst (v := 0) dJ17_isLatin1_17 (by decide) ?_
      obtain rfl := Option.some.inj hf
      exact X.iret dJ17_isLatin1_18 rfl rfl rfl
    · have hf := if_t c10 hf
      refine X.iconst (v := 1) dJ17_isLatin1_13 (by decide) ?_
      refine X.goto (tgt := 18) dJ17_isLatin1_14 (by decide) ?_
      obtain rfl := Option.some.inj hf
      exact X.iret dJ17_isLatin1_18 rfl rfl rfl
theorem cJ17_83 : xCU RJ17 83 "java/lang/StringBuilder" mJ17_isLatin1 0 := ⟨lw_U q1183 q1185 q1186 q1184 q149 q1187, rfl, ⟨by decide +kernel, by decide +kernel, by decide +kernel⟩, Nat.le_of_ble_eq_true rfl⟩
/-! java/lang/StringLatin1 canEncode -/
abbrev cJ9_canEncode_2 : ByteArray := prog_30_method_3_code
def yJ9_canEncode_2 : MethodName := ⟨RJ9, "canEncode", "(C)Z"⟩
def dkwJ9_canEncode_2_0 : List UInt8 := [26, 17, 0, 255, 163, 0, 7, 4, 167, 0, 4, 3, 172]
abbrev dktJ9_canEncode_2_0 : List UInt8 := dkwJ9_canEncode_2_0 ++ []
theorem dksJ9_canEncode_2_0 : cJ9_canEncode_2.data.toList.drop 0 = dktJ9_canEncode_2_0 := by decide +kernel
theorem dJ9_canEncode_2_0 : decode cJ9_canEncode_2 0 = .ok (.iload_n 0, 1) := dk_26 (dk_at dksJ9_canEncode_2_0 0 rfl rfl)
theorem dJ9_canEncode_2_1 : decode cJ9_canEncode_2 1 = .ok (.sipush 255, 3) := dk_17 0 255 (dk_at dksJ9_canEncode_2_0 1 rfl rfl)
theorem dJ9_canEncode_2_4 : decode cJ9_canEncode_2 4 = .ok (.if_icmp .gt 7, 3) := dk_163 0 7 (dk_at dksJ9_canEncode_2_0 4 rfl rfl)
theorem dJ9_canEncode_2_7 : decode cJ9_canEncode_2 7 = .ok (.iconst 1, 1) := dk_4 (dk_at dksJ9_canEncode_2_0 7 rfl rfl)
theorem dJ9_canEncode_2_8 : decode cJ9_canEncode_2 8 = .ok (.goto 4, 3) := dk_167 0 4 (dk_at dksJ9_canEncode_2_0 8 rfl rfl)
theorem dJ9_canEncode_2_11 : decode cJ9_canEncode_2 11 = .ok (.iconst 0, 1) := dk_3 (dk_at dksJ9_canEncode_2_0 11 rfl rfl)
theorem dJ9_canEncode_2_12 : decode cJ9_canEncode_2 12 = .ok (.ireturn, 1) := dk_172 (dk_at dksJ9_canEncode_2_0 12 rfl rfl)
abbrev mJ9_canEncode_2 : xM := (yJ9_canEncode_2, cJ9_canEncode_2, 1, (some .boolean), [])
def c_J9_canEncode_2 (x0 : Int32) : Option Int32 :=
  if (255 : Int32) < x0 then
    some (0 : Int32)
  else
    some (1 : Int32)
theorem w_J9_canEncode_2 {G : xG}  {T : xF} {x0 : Int32} {q : Int32} (hf : c_J9_canEncode_2 x0 = some q) : Ct G mJ9_canEncode_2 (1) T [.int x0] (.inl (some (.int q))) T := by
  refine Ct.ofc (plainFor_of_name (by decide +kernel)) rfl (xvI xvN) (Nat.le_of_ble_eq_true rfl) (show Xr G _ 0 [(0, .int x0)] [] _ from ?_)
  unfold c_J9_canEncode_2 at hf
  refine X.iload_n dJ9_canEncode_2_0 rfl 0 rfl ?_
  refine X.sipush (v := 255) dJ9_canEncode_2_1 (by decide) ?_
  refine X.icmp_gt (tgt := 11) dJ9_canEncode_2_4 (by decide) (fun c4 => ?_) (fun c4 => ?_)
  · have hf := if_t c4 hf
    refine X.iconst (v := 0) dJ9_canEncode_2_11 (by decide) ?_
    obtain rfl := Option.some.inj hf
    exact X.iret dJ9_canEncode_2_12 rfl rfl rfl
  · have hf := if_f c4 hf
    refine X.iconst (v := 1) dJ9_canEncode_2_7 (by decide) ?_
    refine X.goto (tgt := 12) dJ9_canEncode_2_8 (by decide) ?_
    obtain rfl := Option.some.inj hf
    exact X.iret dJ9_canEncode_2_12 rfl rfl rfl
theorem cJ17_191 : xCS RJ17 191 mJ9_canEncode_2 1 := ⟨lw_S q1188 q1189 q135 q1190, rfl, ⟨by decide +kernel, by decide +kernel, by decide +kernel⟩, Nat.le_of_ble_eq_true rfl⟩
/-! java/lang/AbstractStringBuilder append -/
abbrev cJ17_append : ByteArray := prog_14_method_31_code
def yJ17_append : MethodName := ⟨RJ17, "append", "(C)Ljava/lang/AbstractStringBuilder;"⟩
def dkwJ17_append_3 : List UInt8 := [181, 0, 79, 27, 184, 0, 197, 42, 176]
abbrev dktJ17_append_3 : List UInt8 := dkwJ17_append_3 ++ []
def dkwJ17_append_2 : List UInt8 := [182, 0, 83, 153, 0, 7, 42, 182, 0, 195, 42, 180, 0, 15, 42, 89, 180, 0, 79, 90, 4, 96]
abbrev dktJ17_append_2 : List UInt8 := dkwJ17_append_2 ++ dktJ17_append_3
def dkwJ17_append_1 : List UInt8 := [42, 180, 0, 15, 42, 89, 180, 0, 79, 90, 4, 96, 181, 0, 79, 27, 145, 84, 167, 0, 33, 42]
abbrev dktJ17_append_1 : List UInt8 := dkwJ17_append_1 ++ dktJ17_append_2
def dkwJ17_append_0 : List UInt8 := [42, 42, 180, 0, 79, 4, 96, 182, 0, 100, 42, 182, 0, 83, 153, 0, 31, 27, 184, 0, 191, 153, 0, 24]
abbrev dktJ17_append_0 : List UInt8 := dkwJ17_append_0 ++ dktJ17_append_1
theorem dksJ17_append_0 : cJ17_append.data.toList.drop 0 = dktJ17_append_0 := by decide +kernel
theorem dksJ17_append_1 : cJ17_append.data.toList.drop 24 = dktJ17_append_1 := dk_seg dksJ17_append_0 24 rfl rfl
theorem dksJ17_append_2 : cJ17_append.data.toList.drop 46 = dktJ17_append_2 := dk_seg dksJ17_append_1 22 rfl rfl
theorem dksJ17_append_3 : cJ17_append.data.toList.drop 68 = dktJ17_append_3 := dk_seg dksJ17_append_2 22 rfl rfl
theorem dJ17_append_0 : decode cJ17_append 0 = .ok (.aload_n 0, 1) := dk_42 (dk_at dksJ17_append_0 0 rfl rfl)
theorem dJ17_append_1 : decode cJ17_append 1 = .ok (.aload_n 0, 1) := dk_42 (dk_at dksJ17_append_0 1 rfl rfl)
theorem dJ17_append_2 : decode cJ17_append 2 = .ok (.getfield 79, 3) := dk_180 0 79 (dk_at dksJ17_append_0 2 rfl rfl)
theorem dJ17_append_5 : decode cJ17_append 5 = .ok (.iconst 1, 1) := dk_4 (dk_at dksJ17_append_0 5 rfl rfl)
theorem dJ17_append_6 : decode cJ17_append 6 = .ok (.iadd, 1) := dk_96 (dk_at dksJ17_append_0 6 rfl rfl)
theorem dJ17_append_7 : decode cJ17_append 7 = .ok (.invokevirtual 100, 3) := dk_182 0 100 (dk_at dksJ17_append_0 7 rfl rfl)
theorem dJ17_append_10 : decode cJ17_append 10 = .ok (.aload_n 0, 1) := dk_42 (dk_at dksJ17_append_0 10 rfl rfl)
theorem dJ17_append_11 : decode cJ17_append 11 = .ok (.invokevirtual 83, 3) := dk_182 0 83 (dk_at dksJ17_append_0 11 rfl rfl)
theorem dJ17_append_14 : decode cJ17_append 14 = .ok (.ifCond .eq 31, 3) := dk_153 0 31 (dk_at dksJ17_append_0 14 rfl rfl)
theorem dJ17_append_17 : decode cJ17_append 17 = .ok (.iload_n 1, 1) := dk_27 (dk_at dksJ17_append_0 17 rfl rfl)
theorem dJ17_append_18 : decode cJ17_append 18 = .ok (.invokestatic 191, 3) := dk_184 0 191 (dk_at dksJ17_append_0 18 rfl rfl)
theorem dJ17_append_21 : decode cJ17_append 21 = .ok (.ifCond .eq 24, 3) := dk_153 0 24 (dk_at dksJ17_append_0 21 rfl rfl)
theorem dJ17_append_24 : decode cJ17_append 24 = .ok (.aload_n 0, 1) := dk_42 (dk_at dksJ17_append_1 0 rfl rfl)
theorem dJ17_append_25 : decode cJ17_append 25 = .ok (.getfield 15, 3) := dk_180 0 15 (dk_at dksJ17_append_1 1 rfl rfl)
theorem dJ17_append_28 : decode cJ17_append 28 = .ok (.aload_n 0, 1) := dk_42 (dk_at dksJ17_append_1 4 rfl rfl)
theorem dJ17_append_29 : decode cJ17_append 29 = .ok (.dup, 1) := dk_89 (dk_at dksJ17_append_1 5 rfl rfl)
theorem dJ17_append_30 : decode cJ17_append 30 = .ok (.getfield 79, 3) := dk_180 0 79 (dk_at dksJ17_append_1 6 rfl rfl)
theorem dJ17_append_33 : decode cJ17_append 33 = .ok (.dup_x1, 1) := dk_90 (dk_at dksJ17_append_1 9 rfl rfl)
theorem dJ17_append_34 : decode cJ17_append 34 = .ok (.iconst 1, 1) := dk_4 (dk_at dksJ17_append_1 10 rfl rfl)
theorem dJ17_append_35 : decode cJ17_append 35 = .ok (.iadd, 1) := dk_96 (dk_at dksJ17_append_1 11 rfl rfl)
theorem dJ17_append_36 : decode cJ17_append 36 = .ok (.putfield 79, 3) := dk_181 0 79 (dk_at dksJ17_append_1 12 rfl rfl)
theorem dJ17_append_39 : decode cJ17_append 39 = .ok (.iload_n 1, 1) := dk_27 (dk_at dksJ17_append_1 15 rfl rfl)
theorem dJ17_append_40 : decode cJ17_append 40 = .ok (.i2b, 1) := dk_145 (dk_at dksJ17_append_1 16 rfl rfl)
theorem dJ17_append_41 : decode cJ17_append 41 = .ok (.bastore, 1) := dk_84 (dk_at dksJ17_append_1 17 rfl rfl)
theorem dJ17_append_42 : decode cJ17_append 42 = .ok (.goto 33, 3) := dk_167 0 33 (dk_at dksJ17_append_1 18 rfl rfl)
theorem dJ17_append_45 : decode cJ17_append 45 = .ok (.aload_n 0, 1) := dk_42 (dk_at dksJ17_append_1 21 rfl rfl)
theorem dJ17_append_46 : decode cJ17_append 46 = .ok (.invokevirtual 83, 3) := dk_182 0 83 (dk_at dksJ17_append_2 0 rfl rfl)
theorem dJ17_append_49 : decode cJ17_append 49 = .ok (.ifCond .eq 7, 3) := dk_153 0 7 (dk_at dksJ17_append_2 3 rfl rfl)
theorem dJ17_append_52 : decode cJ17_append 52 = .ok (.aload_n 0, 1) := dk_42 (dk_at dksJ17_append_2 6 rfl rfl)
theorem dJ17_append_53 : decode cJ17_append 53 = .ok (.invokevirtual 195, 3) := dk_182 0 195 (dk_at dksJ17_append_2 7 rfl rfl)
theorem dJ17_append_56 : decode cJ17_append 56 = .ok (.aload_n 0, 1) := dk_42 (dk_at dksJ17_append_2 10 rfl rfl)
theorem dJ17_append_57 : decode cJ17_append 57 = .ok (.getfield 15, 3) := dk_180 0 15 (dk_at dksJ17_append_2 11 rfl rfl)
theorem dJ17_append_60 : decode cJ17_append 60 = .ok (.aload_n 0, 1) := dk_42 (dk_at dksJ17_append_2 14 rfl rfl)
theorem dJ17_append_61 : decode cJ17_append 61 = .ok (.dup, 1) := dk_89 (dk_at dksJ17_append_2 15 rfl rfl)
theorem dJ17_append_62 : decode cJ17_append 62 = .ok (.getfield 79, 3) := dk_180 0 79 (dk_at dksJ17_append_2 16 rfl rfl)
theorem dJ17_append_65 : decode cJ17_append 65 = .ok (.dup_x1, 1) := dk_90 (dk_at dksJ17_append_2 19 rfl rfl)
theorem dJ17_append_66 : decode cJ17_append 66 = .ok (.iconst 1, 1) := dk_4 (dk_at dksJ17_append_2 20 rfl rfl)
theorem dJ17_append_67 : decode cJ17_append 67 = .ok (.iadd, 1) := dk_96 (dk_at dksJ17_append_2 21 rfl rfl)
theorem dJ17_append_68 : decode cJ17_append 68 = .ok (.putfield 79, 3) := dk_181 0 79 (dk_at dksJ17_append_3 0 rfl rfl)
theorem dJ17_append_71 : decode cJ17_append 71 = .ok (.iload_n 1, 1) := dk_27 (dk_at dksJ17_append_3 3 rfl rfl)
theorem dJ17_append_72 : decode cJ17_append 72 = .ok (.invokestatic 197, 3) := dk_184 0 197 (dk_at dksJ17_append_3 4 rfl rfl)
theorem dJ17_append_75 : decode cJ17_append 75 = .ok (.aload_n 0, 1) := dk_42 (dk_at dksJ17_append_3 7 rfl rfl)
theorem dJ17_append_76 : decode cJ17_append 76 = .ok (.areturn, 1) := dk_176 (dk_at dksJ17_append_3 8 rfl rfl)
abbrev mJ17_append : xM := (yJ17_append, cJ17_append, 2, (some (.object "java/lang/AbstractStringBuilder")), [])
def c_J17_append_45 (x0 : Option Nat) (x1 : Int32) (T : xF) : Option (Option Nat × xF) :=
  if ¬ isO T x0 12 = true then none else
  (c_J17_isLatin1 T x0).bind fun v46 =>
  if v46 = 0 then
    (oQ T x0 12 0).bind fun v57 =>
    (oI T x0 12 3).bind fun v62 =>
    (pV T x0 12 3 (.int (v62 + (1 : Int32)))).bind fun T68 =>
    none
  else
    none
theorem c_J17_append_45_ok {G : xG}  {T0 : xF}   (x0 : Option Nat) (x1 : Int32) (T : xF) (q : (Option Nat × xF)) (hf : c_J17_append_45 x0 x1 T = some q) : Xr G (mJ17_append, xrm (5) T0 q.2, T0, .inl (some (va_rf q.1)), q.2) 45 [(0, va_rf x0), (1, .int x1)] [] T := by
  unfold c_J17_append_45 at hf
  refine C.aload_n dJ17_append_45 rfl 0 rfl ?_
  obtain ⟨c46, hf⟩ := if_n hf
  obtain ⟨v46, h46, hf⟩ := ob hf
  refine X.keep fun l46 => C.Ui (As := []) (rest := []) dJ17_append_46 (w_J17_isLatin1 h46) cJ17_83 (Classical.not_not.mp c46) rfl rfl (xcs xvN (Nat.le_of_ble_eq_true rfl)) rfl rfl (xD (Nat.le_of_ble_eq_true rfl)) xle.rf l46 ?_
  refine X.if_eq (tgt := 56) dJ17_append_49 (by decide) (fun c49 => ?_) (fun c49 => ?_)
  · have hf := if_t c49 hf
    refine C.aload_n dJ17_append_56 rfl 0 rfl ?_
    obtain ⟨v57, h57, hf⟩ := ob hf
    refine C.getQ dJ17_append_57 rJ17_15 h57 ?_
    refine C.aload_n dJ17_append_60 rfl 0 rfl ?_
    refine X.dup dJ17_append_61 (cat1 _) ?_
    obtain ⟨v62, h62, hf⟩ := ob hf
    refine C.getI dJ17_append_62 rJ17_79 h62 ?_
    refine X.dup_x1 dJ17_append_65 rfl (cat1 _) ?_
    refine X.iconst (v := 1) dJ17_append_66 (by decide) ?_
    refine X.iadd dJ17_append_67 ?_
    obtain ⟨T68, h68, hf⟩ := ob hf
    refine C.putI dJ17_append_68 fJ17_79 (fun q => by cases q) rfl rfl h68 ?_
    refine X.iload_n dJ17_append_71 rfl 1 rfl ?_
    cases hf
  · have hf := if_f c49 hf
    refine C.aload_n dJ17_append_52 rfl 0 rfl ?_
    cases hf
def c_J17_append (x0 : Option Nat) (x1 : Int32) (T : xF) : Option (Option Nat × xF) :=
  (oI T x0 12 3).bind fun v2 =>
  if ¬ isO T x0 12 = true then none else
  cl (c_J17_ensureCapacityInternal x0 (v2 + (1 : Int32)) T) T fun v7 T7 =>
  if ¬ isO T7 x0 12 = true then none else
  (c_J17_isLatin1 T7 x0).bind fun v11 =>
  if v11 = 0 then
    c_J17_append_45 x0 x1 T7
  else
    (c_J9_canEncode_2 x1).bind fun v18 =>
    if v18 = 0 then
      c_J17_append_45 x0 x1 T7
    else
      (oQ T7 x0 12 0).bind fun v25 =>
      (oI T7 x0 12 3).bind fun v30 =>
      (pV T7 x0 12 3 (.int (v30 + (1 : Int32)))).bind fun T36 =>
      (stA T36 v25 .byte v30 (vp_nar .byte (x1.toInt8.toInt32))).bind fun T41 =>
      some (x0, T41)
theorem w_J17_append {G : xG}  {T : xF} {x0 : Option Nat} {x1 : Int32} {q : (Option Nat × xF)} (hf : c_J17_append x0 x1 T = some q) : Ct G mJ17_append (5) T [va_rf x0, .int x1] (.inl (some (va_rf q.1))) q.2 := by
  refine Ct.ofc (plainFor_of_name (by decide +kernel)) rfl (xvQ (xvI xvN)) (Nat.le_of_ble_eq_true rfl) (show Xr G _ 0 [(0, va_rf x0), (1, .int x1)] [] _ from ?_)
  unfold c_J17_append at hf
  refine C.aload_n dJ17_append_0 rfl 0 rfl ?_
  refine C.aload_n dJ17_append_1 rfl 0 rfl ?_
  obtain ⟨v2, h2, hf⟩ := ob hf
  refine C.getI dJ17_append_2 rJ17_79 h2 ?_
  refine X.iconst (v := 1) dJ17_append_5 (by decide) ?_
  refine X.iadd dJ17_append_6 ?_
  obtain ⟨c7, hf⟩ := if_n hf
  obtain ⟨v7, T7, h7, hf, l7, r7⟩ := cl_ok hf
  refine C.Pv (As := [.int (v2 + (1 : Int32))]) (rest := []) dJ17_append_7 (w_J17_ensureCapacityInternal h7) cJ17_100 (Classical.not_not.mp c7) rfl rfl (xcs xvN (Nat.le_of_ble_eq_true rfl)) rfl rfl (xD (Nat.le_of_ble_eq_true rfl)) l7 r7 ?_
  refine C.aload_n dJ17_append_10 rfl 0 rfl ?_
  obtain ⟨c11, hf⟩ := if_n hf
  obtain ⟨v11, h11, hf⟩ := ob hf
  refine X.keep fun l11 => C.Ui (As := []) (rest := []) dJ17_append_11 (w_J17_isLatin1 h11) cJ17_83 (Classical.not_not.mp c11) rfl rfl (xcs xvN (Nat.le_of_ble_eq_true rfl)) rfl rfl (xD (Nat.le_of_ble_eq_true rfl)) xle.rf l11 ?_
  refine X.if_eq (tgt := 45) dJ17_append_14 (by decide) (fun c14 => ?_) (fun c14 => ?_)
  · have hf := if_t c14 hf
    refine X.sub [0, 1] (L' := [(0, va_rf x0), (1, .int x1)]) rfl ?_
    exact c_J17_append_45_ok _ _ _ _ hf
  · have hf := if_f c14 hf
    refine X.iload_n dJ17_append_17 rfl 1 rfl ?_
    obtain ⟨v18, h18, hf⟩ := ob hf
    refine X.keep fun l18 => C.Si (As := [.int x1]) (rest := []) dJ17_append_18 (w_J9_canEncode_2 h18) cJ17_191 rfl rfl (xcs xvN (Nat.le_of_ble_eq_true rfl)) (xD (Nat.le_of_ble_eq_true rfl)) xle.rf l18 ?_
    refine X.if_eq (tgt := 45) dJ17_append_21 (by decide) (fun c21 => ?_) (fun c21 => ?_)
    · have hf := if_t c21 hf
      refine X.sub [0, 1] (L' := [(0, va_rf x0), (1, .int x1)]) rfl ?_
      exact c_J17_append_45_ok _ _ _ _ hf
    · have hf := if_f c21 hf
      refine C.aload_n dJ17_append_24 rfl 0 rfl ?_
      obtain ⟨v25, h25, hf⟩ := ob hf
      refine C.getQ dJ17_append_25 rJ17_15 h25 ?_
      refine C.aload_n dJ17_append_28 rfl 0 rfl ?_
      refine X.dup dJ17_append_29 (cat1 _) ?_
      obtain ⟨v30, h30, hf⟩ := ob hf
      refine C.getI dJ17_append_30 rJ17_79 h30 ?_
      refine X.dup_x1 dJ17_append_33 rfl (cat1 _) ?_
      refine X.iconst (v := 1) dJ17_append_34 (by decide) ?_
      refine X.iadd dJ17_append_35 ?_
      obtain ⟨T36, h36, hf⟩ := ob hf
      refine C.putI dJ17_append_36 fJ17_79 (fun q => by cases q) rfl rfl h36 ?_
      refine X.iload_n dJ17_append_39 rfl 1 rfl ?_
      refine X.i2b dJ17_append_40 rfl ?_
      obtain ⟨T41, h41, hf⟩ := ob hf
      refine C.bast dJ17_append_41 h41 ?_
      refine X.goto (tgt := 75) dJ17_append_42 (by decide) ?_
      refine C.aload_n dJ17_append_75 rfl 0 rfl ?_
      obtain rfl := Option.some.inj hf
      exact X.aret dJ17_append_76 rfl (Or.inl ⟨_, rfl⟩) rfl
theorem cJ18_50 : xCSU RJ18 50 mJ17_append 1 := ⟨lw_SU q1160 q2232 q559 q1161 q149 q1162, rfl, ⟨by decide +kernel, by decide +kernel⟩, Nat.le_of_ble_eq_true rfl⟩
