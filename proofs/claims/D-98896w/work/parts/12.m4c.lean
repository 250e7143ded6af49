set_option maxRecDepth 100000
/-! readsWarmth -/
abbrev cX4_readsWarmth : ByteArray := prog_12_method_41_code
def yX4_readsWarmth : MethodName := ⟨RX4, "readsWarmth", "()V"⟩
def dkwX4_readsWarmth_3 : List UInt8 := [42, 180, 0, 148, 5, 160, 0, 7, 4, 167, 0, 4, 3, 60, 167, 255, 173, 177]
abbrev dktX4_readsWarmth_3 : List UInt8 := dkwX4_readsWarmth_3 ++ []
def dkwX4_readsWarmth_2 : List UInt8 := [154, 0, 4, 177, 42, 180, 0, 50, 42, 180, 0, 253, 28, 79, 42, 89, 180, 0, 253, 4, 96, 181, 0, 253]
abbrev dktX4_readsWarmth_2 : List UInt8 := dkwX4_readsWarmth_2 ++ dktX4_readsWarmth_3
def dkwX4_readsWarmth_1 : List UInt8 := [180, 0, 148, 5, 160, 0, 8, 42, 5, 182, 0, 181, 42, 3, 16, 9, 182, 0, 246, 61, 42, 182, 0, 174]
abbrev dktX4_readsWarmth_1 : List UInt8 := dkwX4_readsWarmth_1 ++ dktX4_readsWarmth_2
def dkwX4_readsWarmth_0 : List UInt8 := [4, 60, 27, 153, 0, 85, 42, 182, 0, 174, 153, 0, 78, 42, 180, 0, 253, 16, 8, 160, 0, 16, 42]
abbrev dktX4_readsWarmth_0 : List UInt8 := dkwX4_readsWarmth_0 ++ dktX4_readsWarmth_1
theorem dksX4_readsWarmth_0 : cX4_readsWarmth.data.toList.drop 0 = dktX4_readsWarmth_0 := by decide +kernel
theorem dksX4_readsWarmth_1 : cX4_readsWarmth.data.toList.drop 23 = dktX4_readsWarmth_1 := dk_seg dksX4_readsWarmth_0 23 rfl rfl
theorem dksX4_readsWarmth_2 : cX4_readsWarmth.data.toList.drop 47 = dktX4_readsWarmth_2 := dk_seg dksX4_readsWarmth_1 24 rfl rfl
theorem dksX4_readsWarmth_3 : cX4_readsWarmth.data.toList.drop 71 = dktX4_readsWarmth_3 := dk_seg dksX4_readsWarmth_2 24 rfl rfl
theorem dX4_readsWarmth_0 : decode cX4_readsWarmth 0 = .ok (.iconst 1, 1) := dk_4 (dk_at dksX4_readsWarmth_0 0 rfl rfl)
theorem dX4_readsWarmth_1 : decode cX4_readsWarmth 1 = .ok (.istore_n 1, 1) := dk_60 (dk_at dksX4_readsWarmth_0 1 rfl rfl)
theorem dX4_readsWarmth_2 : decode cX4_readsWarmth 2 = .ok (.iload_n 1, 1) := dk_27 (dk_at dksX4_readsWarmth_0 2 rfl rfl)
theorem dX4_readsWarmth_3 : decode cX4_readsWarmth 3 = .ok (.ifCond .eq 85, 3) := dk_153 0 85 (dk_at dksX4_readsWarmth_0 3 rfl rfl)
theorem dX4_readsWarmth_6 : decode cX4_readsWarmth 6 = .ok (.aload_n 0, 1) := dk_42 (dk_at dksX4_readsWarmth_0 6 rfl rfl)
theorem dX4_readsWarmth_7 : decode cX4_readsWarmth 7 = .ok (.invokevirtual 174, 3) := dk_182 0 174 (dk_at dksX4_readsWarmth_0 7 rfl rfl)
theorem dX4_readsWarmth_10 : decode cX4_readsWarmth 10 = .ok (.ifCond .eq 78, 3) := dk_153 0 78 (dk_at dksX4_readsWarmth_0 10 rfl rfl)
theorem dX4_readsWarmth_13 : decode cX4_readsWarmth 13 = .ok (.aload_n 0, 1) := dk_42 (dk_at dksX4_readsWarmth_0 13 rfl rfl)
theorem dX4_readsWarmth_14 : decode cX4_readsWarmth 14 = .ok (.getfield 253, 3) := dk_180 0 253 (dk_at dksX4_readsWarmth_0 14 rfl rfl)
theorem dX4_readsWarmth_17 : decode cX4_readsWarmth 17 = .ok (.bipush 8, 2) := dk_16 8 (dk_at dksX4_readsWarmth_0 17 rfl rfl)
theorem dX4_readsWarmth_19 : decode cX4_readsWarmth 19 = .ok (.if_icmp .ne 16, 3) := dk_160 0 16 (dk_at dksX4_readsWarmth_0 19 rfl rfl)
theorem dX4_readsWarmth_22 : decode cX4_readsWarmth 22 = .ok (.aload_n 0, 1) := dk_42 (dk_at dksX4_readsWarmth_0 22 rfl rfl)
theorem dX4_readsWarmth_23 : decode cX4_readsWarmth 23 = .ok (.getfield 148, 3) := dk_180 0 148 (dk_at dksX4_readsWarmth_1 0 rfl rfl)
theorem dX4_readsWarmth_26 : decode cX4_readsWarmth 26 = .ok (.iconst 2, 1) := dk_5 (dk_at dksX4_readsWarmth_1 3 rfl rfl)
theorem dX4_readsWarmth_27 : decode cX4_readsWarmth 27 = .ok (.if_icmp .ne 8, 3) := dk_160 0 8 (dk_at dksX4_readsWarmth_1 4 rfl rfl)
theorem dX4_readsWarmth_30 : decode cX4_readsWarmth 30 = .ok (.aload_n 0, 1) := dk_42 (dk_at dksX4_readsWarmth_1 7 rfl rfl)
theorem dX4_readsWarmth_31 : decode cX4_readsWarmth 31 = .ok (.iconst 2, 1) := dk_5 (dk_at dksX4_readsWarmth_1 8 rfl rfl)
theorem dX4_readsWarmth_32 : decode cX4_readsWarmth 32 = .ok (.invokevirtual 181, 3) := dk_182 0 181 (dk_at dksX4_readsWarmth_1 9 rfl rfl)
theorem dX4_readsWarmth_35 : decode cX4_readsWarmth 35 = .ok (.aload_n 0, 1) := dk_42 (dk_at dksX4_readsWarmth_1 12 rfl rfl)
theorem dX4_readsWarmth_36 : decode cX4_readsWarmth 36 = .ok (.iconst 0, 1) := dk_3 (dk_at dksX4_readsWarmth_1 13 rfl rfl)
theorem dX4_readsWarmth_37 : decode cX4_readsWarmth 37 = .ok (.bipush 9, 2) := dk_16 9 (dk_at dksX4_readsWarmth_1 14 rfl rfl)
theorem dX4_readsWarmth_39 : decode cX4_readsWarmth 39 = .ok (.invokevirtual 246, 3) := dk_182 0 246 (dk_at dksX4_readsWarmth_1 16 rfl rfl)
theorem dX4_readsWarmth_42 : decode cX4_readsWarmth 42 = .ok (.istore_n 2, 1) := dk_61 (dk_at dksX4_readsWarmth_1 19 rfl rfl)
theorem dX4_readsWarmth_43 : decode cX4_readsWarmth 43 = .ok (.aload_n 0, 1) := dk_42 (dk_at dksX4_readsWarmth_1 20 rfl rfl)
theorem dX4_readsWarmth_44 : decode cX4_readsWarmth 44 = .ok (.invokevirtual 174, 3) := dk_182 0 174 (dk_at dksX4_readsWarmth_1 21 rfl rfl)
theorem dX4_readsWarmth_47 : decode cX4_readsWarmth 47 = .ok (.ifCond .ne 4, 3) := dk_154 0 4 (dk_at dksX4_readsWarmth_2 0 rfl rfl)
theorem dX4_readsWarmth_50 : decode cX4_readsWarmth 50 = .ok (.return_, 1) := dk_177 (dk_at dksX4_readsWarmth_2 3 rfl rfl)
theorem dX4_readsWarmth_51 : decode cX4_readsWarmth 51 = .ok (.aload_n 0, 1) := dk_42 (dk_at dksX4_readsWarmth_2 4 rfl rfl)
theorem dX4_readsWarmth_52 : decode cX4_readsWarmth 52 = .ok (.getfield 50, 3) := dk_180 0 50 (dk_at dksX4_readsWarmth_2 5 rfl rfl)
theorem dX4_readsWarmth_55 : decode cX4_readsWarmth 55 = .ok (.aload_n 0, 1) := dk_42 (dk_at dksX4_readsWarmth_2 8 rfl rfl)
theorem dX4_readsWarmth_56 : decode cX4_readsWarmth 56 = .ok (.getfield 253, 3) := dk_180 0 253 (dk_at dksX4_readsWarmth_2 9 rfl rfl)
theorem dX4_readsWarmth_59 : decode cX4_readsWarmth 59 = .ok (.iload_n 2, 1) := dk_28 (dk_at dksX4_readsWarmth_2 12 rfl rfl)
theorem dX4_readsWarmth_60 : decode cX4_readsWarmth 60 = .ok (.iastore, 1) := dk_79 (dk_at dksX4_readsWarmth_2 13 rfl rfl)
theorem dX4_readsWarmth_61 : decode cX4_readsWarmth 61 = .ok (.aload_n 0, 1) := dk_42 (dk_at dksX4_readsWarmth_2 14 rfl rfl)
theorem dX4_readsWarmth_62 : decode cX4_readsWarmth 62 = .ok (.dup, 1) := dk_89 (dk_at dksX4_readsWarmth_2 15 rfl rfl)
theorem dX4_readsWarmth_63 : decode cX4_readsWarmth 63 = .ok (.getfield 253, 3) := dk_180 0 253 (dk_at dksX4_readsWarmth_2 16 rfl rfl)
theorem dX4_readsWarmth_66 : decode cX4_readsWarmth 66 = .ok (.iconst 1, 1) := dk_4 (dk_at dksX4_readsWarmth_2 19 rfl rfl)
theorem dX4_readsWarmth_67 : decode cX4_readsWarmth 67 = .ok (.iadd, 1) := dk_96 (dk_at dksX4_readsWarmth_2 20 rfl rfl)
theorem dX4_readsWarmth_68 : decode cX4_readsWarmth 68 = .ok (.putfield 253, 3) := dk_181 0 253 (dk_at dksX4_readsWarmth_2 21 rfl rfl)
theorem dX4_readsWarmth_71 : decode cX4_readsWarmth 71 = .ok (.aload_n 0, 1) := dk_42 (dk_at dksX4_readsWarmth_3 0 rfl rfl)
theorem dX4_readsWarmth_72 : decode cX4_readsWarmth 72 = .ok (.getfield 148, 3) := dk_180 0 148 (dk_at dksX4_readsWarmth_3 1 rfl rfl)
theorem dX4_readsWarmth_75 : decode cX4_readsWarmth 75 = .ok (.iconst 2, 1) := dk_5 (dk_at dksX4_readsWarmth_3 4 rfl rfl)
theorem dX4_readsWarmth_76 : decode cX4_readsWarmth 76 = .ok (.if_icmp .ne 7, 3) := dk_160 0 7 (dk_at dksX4_readsWarmth_3 5 rfl rfl)
theorem dX4_readsWarmth_79 : decode cX4_readsWarmth 79 = .ok (.iconst 1, 1) := dk_4 (dk_at dksX4_readsWarmth_3 8 rfl rfl)
theorem dX4_readsWarmth_80 : decode cX4_readsWarmth 80 = .ok (.goto 4, 3) := dk_167 0 4 (dk_at dksX4_readsWarmth_3 9 rfl rfl)
theorem dX4_readsWarmth_83 : decode cX4_readsWarmth 83 = .ok (.iconst 0, 1) := dk_3 (dk_at dksX4_readsWarmth_3 12 rfl rfl)
theorem dX4_readsWarmth_84 : decode cX4_readsWarmth 84 = .ok (.istore_n 1, 1) := dk_60 (dk_at dksX4_readsWarmth_3 13 rfl rfl)
theorem dX4_readsWarmth_85 : decode cX4_readsWarmth 85 = .ok (.goto (-83), 3) := dk_167 255 173 (dk_at dksX4_readsWarmth_3 14 rfl rfl)
theorem dX4_readsWarmth_88 : decode cX4_readsWarmth 88 = .ok (.return_, 1) := dk_177 (dk_at dksX4_readsWarmth_3 17 rfl rfl)
abbrev mX4_readsWarmth : xM := (yX4_readsWarmth, cX4_readsWarmth, 3, none, [])
def m_readsWarmth_84 (k2 : Int32 → MS → Option MS) (y0 : Int32) (S : MS) : Option MS :=
  k2 y0 S
theorem m_readsWarmth_84_ok {G : xG} {m0 : Nat} {S0 : MS} {k2 : Int32 → MS → Option MS} (hk2 : ∀ (x1 : Int32) (S : MS) (q : MS), k2 x1 S = some q → XM G m0 mX4_readsWarmth 4 S0 none q 2 [(0, .ref m0), (1, .int x1)] [] S) (y0 : Int32) (S : MS) (q : MS) (hf : m_readsWarmth_84 k2 y0 S = some q) : XM G m0 mX4_readsWarmth 4 S0 none q 84 [(0, .ref m0)] [.int y0] S := by
  intro h N Z
  unfold m_readsWarmth_84 at hf
  refine X.istore_n (L' := [(1, .int y0), (0, .ref m0)]) dX4_readsWarmth_84 rfl (Nat.le_of_ble_eq_true rfl) rfl ?_
  refine X.goto (tgt := 2) dX4_readsWarmth_85 (by decide) ?_
  refine X.sub [1, 0] (L' := [(0, .ref m0), (1, .int y0)]) rfl ?_
  exact hk2 _ _ _ hf h N Z
def m_readsWarmth_35 (k2 : Int32 → MS → Option MS) (S : MS) : Option MS :=
  (m_number ((0 : Int32)) ((9 : Int32)) S).bind fun q39 =>
  (m_isGood q39.2).bind fun q44 =>
  if q44 = 0 then
    some q39.2
  else
    (wrA q39.2 7 (q39.2.1 28) q39.1).bind fun S60 =>
    if (((sF S60 28 ((S60.1 28) + (1 : Int32)))).1 19) = (2 : Int32) then
      m_readsWarmth_84 k2 ((1 : Int32)) ((sF S60 28 ((S60.1 28) + (1 : Int32))))
    else
      m_readsWarmth_84 k2 ((0 : Int32)) ((sF S60 28 ((S60.1 28) + (1 : Int32))))
theorem m_readsWarmth_35_ok {G : xG} {m0 : Nat} {S0 : MS} {k2 : Int32 → MS → Option MS} (hk2 : ∀ (x1 : Int32) (S : MS) (q : MS), k2 x1 S = some q → XM G m0 mX4_readsWarmth 4 S0 none q 2 [(0, .ref m0), (1, .int x1)] [] S) (S : MS) (q : MS) (hf : m_readsWarmth_35 k2 S = some q) : XM G m0 mX4_readsWarmth 4 S0 none q 35 [(0, .ref m0)] [] S := by
  intro h N Z
  unfold m_readsWarmth_35 at hf
  refine X.aload_n dX4_readsWarmth_35 rfl 0 rfl ?_
  refine X.iconst (v := 0) dX4_readsWarmth_36 (by decide) ?_
  refine X.bipush (v := 9) dX4_readsWarmth_37 (by decide) ?_
  obtain ⟨q39, h39, hf⟩ := ob hf
  refine X.callVi (As := [.int (0 : Int32), .int (9 : Int32)]) (rest := []) (T2 := (mh m0 h q39.2, N, Z)) dX4_readsWarmth_39 (w_number h39 h N Z) cX4_246 rfl rfl (Nat.le_of_ble_eq_true rfl) mh_0 rfl rfl (xD (Nat.le_of_ble_eq_true rfl)) xleN xleN ?_
  refine X.istore_n (L' := [(2, .int q39.1), (0, .ref m0)]) dX4_readsWarmth_42 rfl (Nat.le_of_ble_eq_true rfl) rfl ?_
  refine X.aload_n dX4_readsWarmth_43 rfl 1 rfl ?_
  obtain ⟨q44, h44, hf⟩ := ob hf
  refine X.callVi (As := []) (rest := []) dX4_readsWarmth_44 (w_isGood h44 h N Z) cX4_174 rfl rfl (Nat.le_of_ble_eq_true rfl) mh_0 rfl rfl (xD (Nat.le_of_ble_eq_true rfl)) xleN xleN ?_
  refine X.if_ne (tgt := 51) dX4_readsWarmth_47 (by decide) (fun c47 => ?_) (fun c47 => ?_)
  · have hf := if_f c47 hf
    refine X.aload_n dX4_readsWarmth_51 rfl 1 rfl ?_
    refine M.get (v := .ref (m0 + 7)) dX4_readsWarmth_52 fX4_50 (Nat.le_of_ble_eq_true rfl) rfl ?_
    refine X.aload_n dX4_readsWarmth_55 rfl 1 rfl ?_
    refine M.get (v := .int (q39.2.1 28)) dX4_readsWarmth_56 fX4_253 (Nat.le_of_ble_eq_true rfl) rfl ?_
    refine X.iload_n dX4_readsWarmth_59 rfl 0 rfl ?_
    obtain ⟨S60, h60, hf⟩ := ob hf
    refine M.iast dX4_readsWarmth_60 rfl h60 ?_
    refine X.aload_n dX4_readsWarmth_61 rfl 1 rfl ?_
    refine X.dup dX4_readsWarmth_62 rfl ?_
    refine M.get (v := .int (S60.1 28)) dX4_readsWarmth_63 fX4_253 (Nat.le_of_ble_eq_true rfl) rfl ?_
    refine X.iconst (v := 1) dX4_readsWarmth_66 (by decide) ?_
    refine X.iadd dX4_readsWarmth_67 ?_
    refine M.putI dX4_readsWarmth_68 fX4_253 (by decide) rfl rfl rfl ?_
    refine X.aload_n dX4_readsWarmth_71 rfl 1 rfl ?_
    refine M.get (v := .int (((sF S60 28 ((S60.1 28) + (1 : Int32)))).1 19)) dX4_readsWarmth_72 fX4_148 (Nat.le_of_ble_eq_true rfl) rfl ?_
    refine X.iconst (v := 2) dX4_readsWarmth_75 (by decide) ?_
    refine X.icmp_ne (tgt := 83) dX4_readsWarmth_76 (by decide) (fun c76 => ?_) (fun c76 => ?_)
    · have hf := if_f c76 hf
      refine X.iconst (v := 0) dX4_readsWarmth_83 (by decide) ?_
      refine X.sub [1] (L' := [(0, .ref m0)]) rfl ?_
      exact m_readsWarmth_84_ok hk2 _ _ _ hf h N Z
    · have hf := if_t c76 hf
      refine X.iconst (v := 1) dX4_readsWarmth_79 (by decide) ?_
      refine X.goto (tgt := 84) dX4_readsWarmth_80 (by decide) ?_
      refine X.sub [1] (L' := [(0, .ref m0)]) rfl ?_
      exact m_readsWarmth_84_ok hk2 _ _ _ hf h N Z
  · have hf := if_t c47 hf
    obtain rfl := Option.some.inj hf
    exact X.vret dX4_readsWarmth_50 rfl rfl
def m_readsWarmth_2_b  (k2 : Int32 → MS → Option MS) (x1 : Int32) (S : MS) : Option MS :=
  if x1 = 0 then
    some S
  else
    (m_isGood S).bind fun q7 =>
    if q7 = 0 then
      some S
    else
      if (S.1 28) = (8 : Int32) then
        if (S.1 19) = (2 : Int32) then
          (m_wrong ((2 : Int32)) S).bind fun q32 =>
          m_readsWarmth_35 k2 q32
        else
          m_readsWarmth_35 k2 S
      else
        m_readsWarmth_35 k2 S
def m_readsWarmth_2  : Nat → Int32 → MS → Option MS
  | 0 => fun _ _ => none
  | n + 1 => fun x1 S => m_readsWarmth_2_b (m_readsWarmth_2 n) x1 S
theorem m_readsWarmth_2_bok {G : xG} {m0 : Nat} {S0 : MS}  {k2 : Int32 → MS → Option MS}  (hk2 : ∀ (x1 : Int32) (S : MS) (q : MS), k2 x1 S = some q → XM G m0 mX4_readsWarmth 4 S0 none q 2 [(0, .ref m0), (1, .int x1)] [] S) (x1 : Int32) (S : MS) (q : MS) (hf : m_readsWarmth_2_b k2 x1 S = some q) : XM G m0 mX4_readsWarmth 4 S0 none q 2 [(0, .ref m0), (1, .int x1)] [] S := by
  intro h N Z
  unfold m_readsWarmth_2_b at hf
  refine X.iload_n dX4_readsWarmth_2 rfl 1 rfl ?_
  refine X.if_eq (tgt := 88) dX4_readsWarmth_3 (by decide) (fun c3 => ?_) (fun c3 => ?_)
  · have hf := if_t c3 hf
    obtain rfl := Option.some.inj hf
    exact X.vret dX4_readsWarmth_88 rfl rfl
  · have hf := if_f c3 hf
    refine X.aload_n dX4_readsWarmth_6 rfl 0 rfl ?_
    obtain ⟨q7, h7, hf⟩ := ob hf
    refine X.callVi (As := []) (rest := []) dX4_readsWarmth_7 (w_isGood h7 h N Z) cX4_174 rfl rfl (Nat.le_of_ble_eq_true rfl) mh_0 rfl rfl (xD (Nat.le_of_ble_eq_true rfl)) xleN xleN ?_
    refine X.if_eq (tgt := 88) dX4_readsWarmth_10 (by decide) (fun c10 => ?_) (fun c10 => ?_)
    · have hf := if_t c10 hf
      obtain rfl := Option.some.inj hf
      exact X.vret dX4_readsWarmth_88 rfl rfl
    · have hf := if_f c10 hf
      refine X.aload_n dX4_readsWarmth_13 rfl 0 rfl ?_
      refine M.get (v := .int (S.1 28)) dX4_readsWarmth_14 fX4_253 (Nat.le_of_ble_eq_true rfl) rfl ?_
      refine X.bipush (v := 8) dX4_readsWarmth_17 (by decide) ?_
      refine X.icmp_ne (tgt := 35) dX4_readsWarmth_19 (by decide) (fun c19 => ?_) (fun c19 => ?_)
      · have hf := if_f c19 hf
        refine X.sub [0] (L' := [(0, .ref m0)]) rfl ?_
        exact m_readsWarmth_35_ok hk2 _ _ hf h N Z
      · have hf := if_t c19 hf
        refine X.aload_n dX4_readsWarmth_22 rfl 0 rfl ?_
        refine M.get (v := .int (S.1 19)) dX4_readsWarmth_23 fX4_148 (Nat.le_of_ble_eq_true rfl) rfl ?_
        refine X.iconst (v := 2) dX4_readsWarmth_26 (by decide) ?_
        refine X.icmp_ne (tgt := 35) dX4_readsWarmth_27 (by decide) (fun c27 => ?_) (fun c27 => ?_)
        · have hf := if_f c27 hf
          refine X.sub [0] (L' := [(0, .ref m0)]) rfl ?_
          exact m_readsWarmth_35_ok hk2 _ _ hf h N Z
        · have hf := if_t c27 hf
          refine X.aload_n dX4_readsWarmth_30 rfl 0 rfl ?_
          refine X.iconst (v := 2) dX4_readsWarmth_31 (by decide) ?_
          obtain ⟨q32, h32, hf⟩ := ob hf
          refine X.callVv (As := [.int (2 : Int32)]) (rest := []) (T2 := (mh m0 h q32, N, Z)) dX4_readsWarmth_32 (w_wrong h32 h N Z) cX4_181 rfl rfl (Nat.le_of_ble_eq_true rfl) mh_0 rfl rfl (xD (Nat.le_of_ble_eq_true rfl)) xleN xleN ?_
          refine X.sub [0] (L' := [(0, .ref m0)]) rfl ?_
          exact m_readsWarmth_35_ok hk2 _ _ hf h N Z
theorem m_readsWarmth_2_ok {G : xG} {m0 : Nat} {S0 : MS}   : ∀ (n : Nat) (x1 : Int32) (S : MS) (q : MS), m_readsWarmth_2 n x1 S = some q → XM G m0 mX4_readsWarmth 4 S0 none q 2 [(0, .ref m0), (1, .int x1)] [] S
  | 0, _, _, _, hf => by cases hf
  | n + 1, x1, S, q, hf => m_readsWarmth_2_bok (m_readsWarmth_2_ok n) x1 S q hf
def m_readsWarmth  (S : MS) : Option MS :=
  m_readsWarmth_2 FU ((1 : Int32)) S
theorem w_readsWarmth {G : xG} {m0 : Nat}  {S : MS} {q : MS} (hf : m_readsWarmth S = some q) : CtM G m0 mX4_readsWarmth 4 S [.ref m0] none q := by
  intro h N Z
  refine Ct.of (by decide +kernel) rfl (Nat.le_of_ble_eq_true rfl) (show Xr G _ 0 [(0, .ref m0)] [] _ from ?_)
  unfold m_readsWarmth at hf
  refine X.iconst (v := 1) dX4_readsWarmth_0 (by decide) ?_
  refine X.istore_n (L' := [(1, .int (1 : Int32)), (0, .ref m0)]) dX4_readsWarmth_1 rfl (Nat.le_of_ble_eq_true rfl) rfl ?_
  refine X.sub [1, 0] (L' := [(0, .ref m0), (1, .int (1 : Int32))]) rfl ?_
  exact m_readsWarmth_2_ok FU _ _ _ hf h N Z
theorem cX4_269 : xCV RX4 269 mX4_readsWarmth 0 := ⟨lw_V q1842 q1844 qs68 q127 q1845, rfl, ⟨by decide +kernel, by decide +kernel, by decide +kernel⟩, Nat.le_of_ble_eq_true rfl⟩
/-! line -/
abbrev cX4_line : ByteArray := prog_12_method_42_code
def yX4_line : MethodName := ⟨RX4, "line", "()V"⟩
def dkwX4_line_16 : List UInt8 := [167, 0, 8, 42, 4, 182, 0, 181, 42, 42, 16, 59, 182, 0, 209, 182, 1, 31, 177]
abbrev dktX4_line_16 : List UInt8 := dkwX4_line_16 ++ []
def dkwX4_line_15 : List UInt8 := [3, 182, 1, 3, 153, 0, 26, 42, 42, 180, 0, 184, 181, 1, 28, 42, 17, 0, 179, 182, 1, 25]
abbrev dktX4_line_15 : List UInt8 := dkwX4_line_15 ++ dktX4_line_16
def dkwX4_line_14 : List UInt8 := [167, 0, 54, 27, 16, 14, 160, 0, 43, 42, 3, 3, 42, 180, 1, 28, 2, 159, 0, 7, 4, 167, 0, 4]
abbrev dktX4_line_14 : List UInt8 := dkwX4_line_14 ++ dktX4_line_15
def dkwX4_line_13 : List UInt8 := [167, 0, 4, 3, 182, 1, 3, 153, 0, 71, 42, 42, 180, 0, 184, 181, 1, 22, 42, 16, 127, 182, 1, 25]
abbrev dktX4_line_13 : List UInt8 := dkwX4_line_13 ++ dktX4_line_14
def dkwX4_line_12 : List UInt8 := [181, 1, 19, 167, 0, 99, 27, 16, 13, 160, 0, 42, 42, 3, 3, 42, 180, 1, 22, 2, 159, 0, 7, 4]
abbrev dktX4_line_12 : List UInt8 := dkwX4_line_12 ++ dktX4_line_13
def dkwX4_line_11 : List UInt8 := [2, 159, 0, 7, 4, 167, 0, 4, 3, 182, 1, 3, 153, 0, 113, 42, 42, 4, 16, 99, 182, 0, 246]
abbrev dktX4_line_11 : List UInt8 := dkwX4_line_11 ++ dktX4_line_12
def dkwX4_line_10 : List UInt8 := [16, 99, 182, 0, 246, 181, 1, 16, 167, 0, 141, 27, 16, 12, 160, 0, 39, 42, 3, 3, 42, 180, 1, 19]
abbrev dktX4_line_10 : List UInt8 := dkwX4_line_10 ++ dktX4_line_11
def dkwX4_line_9 : List UInt8 := [3, 3, 42, 180, 1, 16, 2, 159, 0, 7, 4, 167, 0, 4, 3, 182, 1, 3, 153, 0, 155, 42, 42, 4]
abbrev dktX4_line_9 : List UInt8 := dkwX4_line_9 ++ dktX4_line_10
def dkwX4_line_8 : List UInt8 := [167, 0, 4, 3, 182, 1, 3, 153, 0, 190, 42, 182, 1, 13, 167, 0, 183, 27, 16, 11, 160, 0, 39, 42]
abbrev dktX4_line_8 : List UInt8 := dkwX4_line_8 ++ dktX4_line_9
def dkwX4_line_7 : List UInt8 := [182, 1, 10, 167, 0, 216, 27, 6, 160, 0, 31, 42, 3, 3, 42, 180, 0, 253, 158, 0, 7, 4]
abbrev dktX4_line_7 : List UInt8 := dkwX4_line_7 ++ dktX4_line_8
def dkwX4_line_6 : List UInt8 := [182, 1, 7, 167, 0, 239, 27, 16, 10, 160, 0, 20, 42, 3, 3, 3, 182, 1, 3, 153, 0, 223, 42]
abbrev dktX4_line_6 : List UInt8 := dkwX4_line_6 ++ dktX4_line_7
def dkwX4_line_5 : List UInt8 := [96, 181, 0, 250, 167, 1, 6, 27, 16, 9, 160, 0, 20, 42, 3, 3, 3, 182, 1, 3, 153, 0, 246, 42]
abbrev dktX4_line_5 : List UInt8 := dkwX4_line_5 ++ dktX4_line_6
def dkwX4_line_4 : List UInt8 := [42, 180, 0, 250, 42, 3, 6, 182, 0, 246, 79, 42, 182, 0, 174, 153, 1, 19, 42, 89, 180, 0, 250, 4]
abbrev dktX4_line_4 : List UInt8 := dkwX4_line_4 ++ dktX4_line_5
def dkwX4_line_3 : List UInt8 := [180, 0, 250, 7, 160, 0, 7, 4, 167, 0, 4, 3, 3, 3, 182, 1, 3, 153, 1, 41, 42, 180, 0, 47]
abbrev dktX4_line_3 : List UInt8 := dkwX4_line_3 ++ dktX4_line_4
def dkwX4_line_2 : List UInt8 := [4, 8, 182, 0, 246, 181, 0, 237, 42, 28, 181, 0, 234, 167, 1, 69, 27, 16, 6, 160, 0, 60, 42, 42]
abbrev dktX4_line_2 : List UInt8 := dkwX4_line_2 ++ dktX4_line_3
def dkwX4_line_1 : List UInt8 := [159, 0, 7, 4, 167, 0, 4, 3, 182, 1, 3, 153, 1, 95, 42, 4, 16, 6, 182, 0, 246, 61, 42, 42]
abbrev dktX4_line_1 : List UInt8 := dkwX4_line_1 ++ dktX4_line_2
def dkwX4_line_0 : List UInt8 := [42, 182, 0, 199, 60, 27, 16, 8, 160, 0, 54, 42, 3, 42, 182, 1, 0, 42, 180, 0, 234, 2]
abbrev dktX4_line_0 : List UInt8 := dkwX4_line_0 ++ dktX4_line_1
theorem dksX4_line_0 : cX4_line.data.toList.drop 0 = dktX4_line_0 := by decide +kernel
theorem dksX4_line_1 : cX4_line.data.toList.drop 22 = dktX4_line_1 := dk_seg dksX4_line_0 22 rfl rfl
theorem dksX4_line_2 : cX4_line.data.toList.drop 46 = dktX4_line_2 := dk_seg dksX4_line_1 24 rfl rfl
theorem dksX4_line_3 : cX4_line.data.toList.drop 70 = dktX4_line_3 := dk_seg dksX4_line_2 24 rfl rfl
theorem dksX4_line_4 : cX4_line.data.toList.drop 94 = dktX4_line_4 := dk_seg dksX4_line_3 24 rfl rfl
theorem dksX4_line_5 : cX4_line.data.toList.drop 118 = dktX4_line_5 := dk_seg dksX4_line_4 24 rfl rfl
theorem dksX4_line_6 : cX4_line.data.toList.drop 142 = dktX4_line_6 := dk_seg dksX4_line_5 24 rfl rfl
theorem dksX4_line_7 : cX4_line.data.toList.drop 165 = dktX4_line_7 := dk_seg dksX4_line_6 23 rfl rfl
theorem dksX4_line_8 : cX4_line.data.toList.drop 187 = dktX4_line_8 := dk_seg dksX4_line_7 22 rfl rfl
theorem dksX4_line_9 : cX4_line.data.toList.drop 211 = dktX4_line_9 := dk_seg dksX4_line_8 24 rfl rfl
theorem dksX4_line_10 : cX4_line.data.toList.drop 235 = dktX4_line_10 := dk_seg dksX4_line_9 24 rfl rfl
theorem dksX4_line_11 : cX4_line.data.toList.drop 259 = dktX4_line_11 := dk_seg dksX4_line_10 24 rfl rfl
theorem dksX4_line_12 : cX4_line.data.toList.drop 282 = dktX4_line_12 := dk_seg dksX4_line_11 23 rfl rfl
theorem dksX4_line_13 : cX4_line.data.toList.drop 306 = dktX4_line_13 := dk_seg dksX4_line_12 24 rfl rfl
theorem dksX4_line_14 : cX4_line.data.toList.drop 330 = dktX4_line_14 := dk_seg dksX4_line_13 24 rfl rfl
theorem dksX4_line_15 : cX4_line.data.toList.drop 354 = dktX4_line_15 := dk_seg dksX4_line_14 24 rfl rfl
theorem dksX4_line_16 : cX4_line.data.toList.drop 376 = dktX4_line_16 := dk_seg dksX4_line_15 22 rfl rfl
theorem dX4_line_0 : decode cX4_line 0 = .ok (.aload_n 0, 1) := dk_42 (dk_at dksX4_line_0 0 rfl rfl)
theorem dX4_line_1 : decode cX4_line 1 = .ok (.invokevirtual 199, 3) := dk_182 0 199 (dk_at dksX4_line_0 1 rfl rfl)
theorem dX4_line_4 : decode cX4_line 4 = .ok (.istore_n 1, 1) := dk_60 (dk_at dksX4_line_0 4 rfl rfl)
theorem dX4_line_5 : decode cX4_line 5 = .ok (.iload_n 1, 1) := dk_27 (dk_at dksX4_line_0 5 rfl rfl)
theorem dX4_line_6 : decode cX4_line 6 = .ok (.bipush 8, 2) := dk_16 8 (dk_at dksX4_line_0 6 rfl rfl)
theorem dX4_line_8 : decode cX4_line 8 = .ok (.if_icmp .ne 54, 3) := dk_160 0 54 (dk_at dksX4_line_0 8 rfl rfl)
theorem dX4_line_11 : decode cX4_line 11 = .ok (.aload_n 0, 1) := dk_42 (dk_at dksX4_line_0 11 rfl rfl)
theorem dX4_line_12 : decode cX4_line 12 = .ok (.iconst 0, 1) := dk_3 (dk_at dksX4_line_0 12 rfl rfl)
theorem dX4_line_13 : decode cX4_line 13 = .ok (.aload_n 0, 1) := dk_42 (dk_at dksX4_line_0 13 rfl rfl)
theorem dX4_line_14 : decode cX4_line 14 = .ok (.invokevirtual 256, 3) := dk_182 1 0 (dk_at dksX4_line_0 14 rfl rfl)
theorem dX4_line_17 : decode cX4_line 17 = .ok (.aload_n 0, 1) := dk_42 (dk_at dksX4_line_0 17 rfl rfl)
theorem dX4_line_18 : decode cX4_line 18 = .ok (.getfield 234, 3) := dk_180 0 234 (dk_at dksX4_line_0 18 rfl rfl)
theorem dX4_line_21 : decode cX4_line 21 = .ok (.iconst (-1), 1) := dk_2 (dk_at dksX4_line_0 21 rfl rfl)
theorem dX4_line_22 : decode cX4_line 22 = .ok (.if_icmp .eq 7, 3) := dk_159 0 7 (dk_at dksX4_line_1 0 rfl rfl)
theorem dX4_line_25 : decode cX4_line 25 = .ok (.iconst 1, 1) := dk_4 (dk_at dksX4_line_1 3 rfl rfl)
theorem dX4_line_26 : decode cX4_line 26 = .ok (.goto 4, 3) := dk_167 0 4 (dk_at dksX4_line_1 4 rfl rfl)
theorem dX4_line_29 : decode cX4_line 29 = .ok (.iconst 0, 1) := dk_3 (dk_at dksX4_line_1 7 rfl rfl)
theorem dX4_line_30 : decode cX4_line 30 = .ok (.invokevirtual 259, 3) := dk_182 1 3 (dk_at dksX4_line_1 8 rfl rfl)
theorem dX4_line_33 : decode cX4_line 33 = .ok (.ifCond .eq 351, 3) := dk_153 1 95 (dk_at dksX4_line_1 11 rfl rfl)
theorem dX4_line_36 : decode cX4_line 36 = .ok (.aload_n 0, 1) := dk_42 (dk_at dksX4_line_1 14 rfl rfl)
theorem dX4_line_37 : decode cX4_line 37 = .ok (.iconst 1, 1) := dk_4 (dk_at dksX4_line_1 15 rfl rfl)
theorem dX4_line_38 : decode cX4_line 38 = .ok (.bipush 6, 2) := dk_16 6 (dk_at dksX4_line_1 16 rfl rfl)
theorem dX4_line_40 : decode cX4_line 40 = .ok (.invokevirtual 246, 3) := dk_182 0 246 (dk_at dksX4_line_1 18 rfl rfl)
theorem dX4_line_43 : decode cX4_line 43 = .ok (.istore_n 2, 1) := dk_61 (dk_at dksX4_line_1 21 rfl rfl)
theorem dX4_line_44 : decode cX4_line 44 = .ok (.aload_n 0, 1) := dk_42 (dk_at dksX4_line_1 22 rfl rfl)
theorem dX4_line_45 : decode cX4_line 45 = .ok (.aload_n 0, 1) := dk_42 (dk_at dksX4_line_1 23 rfl rfl)
theorem dX4_line_46 : decode cX4_line 46 = .ok (.iconst 1, 1) := dk_4 (dk_at dksX4_line_2 0 rfl rfl)
theorem dX4_line_47 : decode cX4_line 47 = .ok (.iconst 5, 1) := dk_8 (dk_at dksX4_line_2 1 rfl rfl)
theorem dX4_line_48 : decode cX4_line 48 = .ok (.invokevirtual 246, 3) := dk_182 0 246 (dk_at dksX4_line_2 2 rfl rfl)
theorem dX4_line_51 : decode cX4_line 51 = .ok (.putfield 237, 3) := dk_181 0 237 (dk_at dksX4_line_2 5 rfl rfl)
theorem dX4_line_54 : decode cX4_line 54 = .ok (.aload_n 0, 1) := dk_42 (dk_at dksX4_line_2 8 rfl rfl)
theorem dX4_line_55 : decode cX4_line 55 = .ok (.iload_n 2, 1) := dk_28 (dk_at dksX4_line_2 9 rfl rfl)
theorem dX4_line_56 : decode cX4_line 56 = .ok (.putfield 234, 3) := dk_181 0 234 (dk_at dksX4_line_2 10 rfl rfl)
theorem dX4_line_59 : decode cX4_line 59 = .ok (.goto 325, 3) := dk_167 1 69 (dk_at dksX4_line_2 13 rfl rfl)
theorem dX4_line_62 : decode cX4_line 62 = .ok (.iload_n 1, 1) := dk_27 (dk_at dksX4_line_2 16 rfl rfl)
theorem dX4_line_63 : decode cX4_line 63 = .ok (.bipush 6, 2) := dk_16 6 (dk_at dksX4_line_2 17 rfl rfl)
theorem dX4_line_65 : decode cX4_line 65 = .ok (.if_icmp .ne 60, 3) := dk_160 0 60 (dk_at dksX4_line_2 19 rfl rfl)
theorem dX4_line_68 : decode cX4_line 68 = .ok (.aload_n 0, 1) := dk_42 (dk_at dksX4_line_2 22 rfl rfl)
theorem dX4_line_69 : decode cX4_line 69 = .ok (.aload_n 0, 1) := dk_42 (dk_at dksX4_line_2 23 rfl rfl)
theorem dX4_line_70 : decode cX4_line 70 = .ok (.getfield 250, 3) := dk_180 0 250 (dk_at dksX4_line_3 0 rfl rfl)
theorem dX4_line_73 : decode cX4_line 73 = .ok (.iconst 4, 1) := dk_7 (dk_at dksX4_line_3 3 rfl rfl)
theorem dX4_line_74 : decode cX4_line 74 = .ok (.if_icmp .ne 7, 3) := dk_160 0 7 (dk_at dksX4_line_3 4 rfl rfl)
theorem dX4_line_77 : decode cX4_line 77 = .ok (.iconst 1, 1) := dk_4 (dk_at dksX4_line_3 7 rfl rfl)
theorem dX4_line_78 : decode cX4_line 78 = .ok (.goto 4, 3) := dk_167 0 4 (dk_at dksX4_line_3 8 rfl rfl)
theorem dX4_line_81 : decode cX4_line 81 = .ok (.iconst 0, 1) := dk_3 (dk_at dksX4_line_3 11 rfl rfl)
theorem dX4_line_82 : decode cX4_line 82 = .ok (.iconst 0, 1) := dk_3 (dk_at dksX4_line_3 12 rfl rfl)
theorem dX4_line_83 : decode cX4_line 83 = .ok (.iconst 0, 1) := dk_3 (dk_at dksX4_line_3 13 rfl rfl)
theorem dX4_line_84 : decode cX4_line 84 = .ok (.invokevirtual 259, 3) := dk_182 1 3 (dk_at dksX4_line_3 14 rfl rfl)
theorem dX4_line_87 : decode cX4_line 87 = .ok (.ifCond .eq 297, 3) := dk_153 1 41 (dk_at dksX4_line_3 17 rfl rfl)
theorem dX4_line_90 : decode cX4_line 90 = .ok (.aload_n 0, 1) := dk_42 (dk_at dksX4_line_3 20 rfl rfl)
theorem dX4_line_91 : decode cX4_line 91 = .ok (.getfield 47, 3) := dk_180 0 47 (dk_at dksX4_line_3 21 rfl rfl)
theorem dX4_line_94 : decode cX4_line 94 = .ok (.aload_n 0, 1) := dk_42 (dk_at dksX4_line_4 0 rfl rfl)
theorem dX4_line_95 : decode cX4_line 95 = .ok (.getfield 250, 3) := dk_180 0 250 (dk_at dksX4_line_4 1 rfl rfl)
theorem dX4_line_98 : decode cX4_line 98 = .ok (.aload_n 0, 1) := dk_42 (dk_at dksX4_line_4 4 rfl rfl)
theorem dX4_line_99 : decode cX4_line 99 = .ok (.iconst 0, 1) := dk_3 (dk_at dksX4_line_4 5 rfl rfl)
theorem dX4_line_100 : decode cX4_line 100 = .ok (.iconst 3, 1) := dk_6 (dk_at dksX4_line_4 6 rfl rfl)
theorem dX4_line_101 : decode cX4_line 101 = .ok (.invokevirtual 246, 3) := dk_182 0 246 (dk_at dksX4_line_4 7 rfl rfl)
theorem dX4_line_104 : decode cX4_line 104 = .ok (.iastore, 1) := dk_79 (dk_at dksX4_line_4 10 rfl rfl)
theorem dX4_line_105 : decode cX4_line 105 = .ok (.aload_n 0, 1) := dk_42 (dk_at dksX4_line_4 11 rfl rfl)
theorem dX4_line_106 : decode cX4_line 106 = .ok (.invokevirtual 174, 3) := dk_182 0 174 (dk_at dksX4_line_4 12 rfl rfl)
theorem dX4_line_109 : decode cX4_line 109 = .ok (.ifCond .eq 275, 3) := dk_153 1 19 (dk_at dksX4_line_4 15 rfl rfl)
theorem dX4_line_112 : decode cX4_line 112 = .ok (.aload_n 0, 1) := dk_42 (dk_at dksX4_line_4 18 rfl rfl)
theorem dX4_line_113 : decode cX4_line 113 = .ok (.dup, 1) := dk_89 (dk_at dksX4_line_4 19 rfl rfl)
theorem dX4_line_114 : decode cX4_line 114 = .ok (.getfield 250, 3) := dk_180 0 250 (dk_at dksX4_line_4 20 rfl rfl)
theorem dX4_line_117 : decode cX4_line 117 = .ok (.iconst 1, 1) := dk_4 (dk_at dksX4_line_4 23 rfl rfl)
theorem dX4_line_118 : decode cX4_line 118 = .ok (.iadd, 1) := dk_96 (dk_at dksX4_line_5 0 rfl rfl)
theorem dX4_line_119 : decode cX4_line 119 = .ok (.putfield 250, 3) := dk_181 0 250 (dk_at dksX4_line_5 1 rfl rfl)
theorem dX4_line_122 : decode cX4_line 122 = .ok (.goto 262, 3) := dk_167 1 6 (dk_at dksX4_line_5 4 rfl rfl)
theorem dX4_line_125 : decode cX4_line 125 = .ok (.iload_n 1, 1) := dk_27 (dk_at dksX4_line_5 7 rfl rfl)
theorem dX4_line_126 : decode cX4_line 126 = .ok (.bipush 9, 2) := dk_16 9 (dk_at dksX4_line_5 8 rfl rfl)
theorem dX4_line_128 : decode cX4_line 128 = .ok (.if_icmp .ne 20, 3) := dk_160 0 20 (dk_at dksX4_line_5 10 rfl rfl)
theorem dX4_line_131 : decode cX4_line 131 = .ok (.aload_n 0, 1) := dk_42 (dk_at dksX4_line_5 13 rfl rfl)
theorem dX4_line_132 : decode cX4_line 132 = .ok (.iconst 0, 1) := dk_3 (dk_at dksX4_line_5 14 rfl rfl)
theorem dX4_line_133 : decode cX4_line 133 = .ok (.iconst 0, 1) := dk_3 (dk_at dksX4_line_5 15 rfl rfl)
theorem dX4_line_134 : decode cX4_line 134 = .ok (.iconst 0, 1) := dk_3 (dk_at dksX4_line_5 16 rfl rfl)
theorem dX4_line_135 : decode cX4_line 135 = .ok (.invokevirtual 259, 3) := dk_182 1 3 (dk_at dksX4_line_5 17 rfl rfl)
theorem dX4_line_138 : decode cX4_line 138 = .ok (.ifCond .eq 246, 3) := dk_153 0 246 (dk_at dksX4_line_5 20 rfl rfl)
theorem dX4_line_141 : decode cX4_line 141 = .ok (.aload_n 0, 1) := dk_42 (dk_at dksX4_line_5 23 rfl rfl)
theorem dX4_line_142 : decode cX4_line 142 = .ok (.invokevirtual 263, 3) := dk_182 1 7 (dk_at dksX4_line_6 0 rfl rfl)
theorem dX4_line_145 : decode cX4_line 145 = .ok (.goto 239, 3) := dk_167 0 239 (dk_at dksX4_line_6 3 rfl rfl)
theorem dX4_line_148 : decode cX4_line 148 = .ok (.iload_n 1, 1) := dk_27 (dk_at dksX4_line_6 6 rfl rfl)
theorem dX4_line_149 : decode cX4_line 149 = .ok (.bipush 10, 2) := dk_16 10 (dk_at dksX4_line_6 7 rfl rfl)
theorem dX4_line_151 : decode cX4_line 151 = .ok (.if_icmp .ne 20, 3) := dk_160 0 20 (dk_at dksX4_line_6 9 rfl rfl)
theorem dX4_line_154 : decode cX4_line 154 = .ok (.aload_n 0, 1) := dk_42 (dk_at dksX4_line_6 12 rfl rfl)
theorem dX4_line_155 : decode cX4_line 155 = .ok (.iconst 0, 1) := dk_3 (dk_at dksX4_line_6 13 rfl rfl)
theorem dX4_line_156 : decode cX4_line 156 = .ok (.iconst 0, 1) := dk_3 (dk_at dksX4_line_6 14 rfl rfl)
theorem dX4_line_157 : decode cX4_line 157 = .ok (.iconst 0, 1) := dk_3 (dk_at dksX4_line_6 15 rfl rfl)
theorem dX4_line_158 : decode cX4_line 158 = .ok (.invokevirtual 259, 3) := dk_182 1 3 (dk_at dksX4_line_6 16 rfl rfl)
theorem dX4_line_161 : decode cX4_line 161 = .ok (.ifCond .eq 223, 3) := dk_153 0 223 (dk_at dksX4_line_6 19 rfl rfl)
theorem dX4_line_164 : decode cX4_line 164 = .ok (.aload_n 0, 1) := dk_42 (dk_at dksX4_line_6 22 rfl rfl)
theorem dX4_line_165 : decode cX4_line 165 = .ok (.invokevirtual 266, 3) := dk_182 1 10 (dk_at dksX4_line_7 0 rfl rfl)
theorem dX4_line_168 : decode cX4_line 168 = .ok (.goto 216, 3) := dk_167 0 216 (dk_at dksX4_line_7 3 rfl rfl)
theorem dX4_line_171 : decode cX4_line 171 = .ok (.iload_n 1, 1) := dk_27 (dk_at dksX4_line_7 6 rfl rfl)
theorem dX4_line_172 : decode cX4_line 172 = .ok (.iconst 3, 1) := dk_6 (dk_at dksX4_line_7 7 rfl rfl)
theorem dX4_line_173 : decode cX4_line 173 = .ok (.if_icmp .ne 31, 3) := dk_160 0 31 (dk_at dksX4_line_7 8 rfl rfl)
theorem dX4_line_176 : decode cX4_line 176 = .ok (.aload_n 0, 1) := dk_42 (dk_at dksX4_line_7 11 rfl rfl)
theorem dX4_line_177 : decode cX4_line 177 = .ok (.iconst 0, 1) := dk_3 (dk_at dksX4_line_7 12 rfl rfl)
theorem dX4_line_178 : decode cX4_line 178 = .ok (.iconst 0, 1) := dk_3 (dk_at dksX4_line_7 13 rfl rfl)
theorem dX4_line_179 : decode cX4_line 179 = .ok (.aload_n 0, 1) := dk_42 (dk_at dksX4_line_7 14 rfl rfl)
theorem dX4_line_180 : decode cX4_line 180 = .ok (.getfield 253, 3) := dk_180 0 253 (dk_at dksX4_line_7 15 rfl rfl)
theorem dX4_line_183 : decode cX4_line 183 = .ok (.ifCond .le 7, 3) := dk_158 0 7 (dk_at dksX4_line_7 18 rfl rfl)
theorem dX4_line_186 : decode cX4_line 186 = .ok (.iconst 1, 1) := dk_4 (dk_at dksX4_line_7 21 rfl rfl)
theorem dX4_line_187 : decode cX4_line 187 = .ok (.goto 4, 3) := dk_167 0 4 (dk_at dksX4_line_8 0 rfl rfl)
theorem dX4_line_190 : decode cX4_line 190 = .ok (.iconst 0, 1) := dk_3 (dk_at dksX4_line_8 3 rfl rfl)
theorem dX4_line_191 : decode cX4_line 191 = .ok (.invokevirtual 259, 3) := dk_182 1 3 (dk_at dksX4_line_8 4 rfl rfl)
theorem dX4_line_194 : decode cX4_line 194 = .ok (.ifCond .eq 190, 3) := dk_153 0 190 (dk_at dksX4_line_8 7 rfl rfl)
theorem dX4_line_197 : decode cX4_line 197 = .ok (.aload_n 0, 1) := dk_42 (dk_at dksX4_line_8 10 rfl rfl)
theorem dX4_line_198 : decode cX4_line 198 = .ok (.invokevirtual 269, 3) := dk_182 1 13 (dk_at dksX4_line_8 11 rfl rfl)
theorem dX4_line_201 : decode cX4_line 201 = .ok (.goto 183, 3) := dk_167 0 183 (dk_at dksX4_line_8 14 rfl rfl)
theorem dX4_line_204 : decode cX4_line 204 = .ok (.iload_n 1, 1) := dk_27 (dk_at dksX4_line_8 17 rfl rfl)
theorem dX4_line_205 : decode cX4_line 205 = .ok (.bipush 11, 2) := dk_16 11 (dk_at dksX4_line_8 18 rfl rfl)
theorem dX4_line_207 : decode cX4_line 207 = .ok (.if_icmp .ne 39, 3) := dk_160 0 39 (dk_at dksX4_line_8 20 rfl rfl)
theorem dX4_line_210 : decode cX4_line 210 = .ok (.aload_n 0, 1) := dk_42 (dk_at dksX4_line_8 23 rfl rfl)
theorem dX4_line_211 : decode cX4_line 211 = .ok (.iconst 0, 1) := dk_3 (dk_at dksX4_line_9 0 rfl rfl)
theorem dX4_line_212 : decode cX4_line 212 = .ok (.iconst 0, 1) := dk_3 (dk_at dksX4_line_9 1 rfl rfl)
theorem dX4_line_213 : decode cX4_line 213 = .ok (.aload_n 0, 1) := dk_42 (dk_at dksX4_line_9 2 rfl rfl)
theorem dX4_line_214 : decode cX4_line 214 = .ok (.getfield 272, 3) := dk_180 1 16 (dk_at dksX4_line_9 3 rfl rfl)
theorem dX4_line_217 : decode cX4_line 217 = .ok (.iconst (-1), 1) := dk_2 (dk_at dksX4_line_9 6 rfl rfl)
theorem dX4_line_218 : decode cX4_line 218 = .ok (.if_icmp .eq 7, 3) := dk_159 0 7 (dk_at dksX4_line_9 7 rfl rfl)
theorem dX4_line_221 : decode cX4_line 221 = .ok (.iconst 1, 1) := dk_4 (dk_at dksX4_line_9 10 rfl rfl)
theorem dX4_line_222 : decode cX4_line 222 = .ok (.goto 4, 3) := dk_167 0 4 (dk_at dksX4_line_9 11 rfl rfl)
theorem dX4_line_225 : decode cX4_line 225 = .ok (.iconst 0, 1) := dk_3 (dk_at dksX4_line_9 14 rfl rfl)
theorem dX4_line_226 : decode cX4_line 226 = .ok (.invokevirtual 259, 3) := dk_182 1 3 (dk_at dksX4_line_9 15 rfl rfl)
theorem dX4_line_229 : decode cX4_line 229 = .ok (.ifCond .eq 155, 3) := dk_153 0 155 (dk_at dksX4_line_9 18 rfl rfl)
theorem dX4_line_232 : decode cX4_line 232 = .ok (.aload_n 0, 1) := dk_42 (dk_at dksX4_line_9 21 rfl rfl)
theorem dX4_line_233 : decode cX4_line 233 = .ok (.aload_n 0, 1) := dk_42 (dk_at dksX4_line_9 22 rfl rfl)
theorem dX4_line_234 : decode cX4_line 234 = .ok (.iconst 1, 1) := dk_4 (dk_at dksX4_line_9 23 rfl rfl)
theorem dX4_line_235 : decode cX4_line 235 = .ok (.bipush 99, 2) := dk_16 99 (dk_at dksX4_line_10 0 rfl rfl)
theorem dX4_line_237 : decode cX4_line 237 = .ok (.invokevirtual 246, 3) := dk_182 0 246 (dk_at dksX4_line_10 2 rfl rfl)
theorem dX4_line_240 : decode cX4_line 240 = .ok (.putfield 272, 3) := dk_181 1 16 (dk_at dksX4_line_10 5 rfl rfl)
theorem dX4_line_243 : decode cX4_line 243 = .ok (.goto 141, 3) := dk_167 0 141 (dk_at dksX4_line_10 8 rfl rfl)
theorem dX4_line_246 : decode cX4_line 246 = .ok (.iload_n 1, 1) := dk_27 (dk_at dksX4_line_10 11 rfl rfl)
theorem dX4_line_247 : decode cX4_line 247 = .ok (.bipush 12, 2) := dk_16 12 (dk_at dksX4_line_10 12 rfl rfl)
theorem dX4_line_249 : decode cX4_line 249 = .ok (.if_icmp .ne 39, 3) := dk_160 0 39 (dk_at dksX4_line_10 14 rfl rfl)
theorem dX4_line_252 : decode cX4_line 252 = .ok (.aload_n 0, 1) := dk_42 (dk_at dksX4_line_10 17 rfl rfl)
theorem dX4_line_253 : decode cX4_line 253 = .ok (.iconst 0, 1) := dk_3 (dk_at dksX4_line_10 18 rfl rfl)
theorem dX4_line_254 : decode cX4_line 254 = .ok (.iconst 0, 1) := dk_3 (dk_at dksX4_line_10 19 rfl rfl)
theorem dX4_line_255 : decode cX4_line 255 = .ok (.aload_n 0, 1) := dk_42 (dk_at dksX4_line_10 20 rfl rfl)
theorem dX4_line_256 : decode cX4_line 256 = .ok (.getfield 275, 3) := dk_180 1 19 (dk_at dksX4_line_10 21 rfl rfl)
theorem dX4_line_259 : decode cX4_line 259 = .ok (.iconst (-1), 1) := dk_2 (dk_at dksX4_line_11 0 rfl rfl)
theorem dX4_line_260 : decode cX4_line 260 = .ok (.if_icmp .eq 7, 3) := dk_159 0 7 (dk_at dksX4_line_11 1 rfl rfl)
theorem dX4_line_263 : decode cX4_line 263 = .ok (.iconst 1, 1) := dk_4 (dk_at dksX4_line_11 4 rfl rfl)
theorem dX4_line_264 : decode cX4_line 264 = .ok (.goto 4, 3) := dk_167 0 4 (dk_at dksX4_line_11 5 rfl rfl)
theorem dX4_line_267 : decode cX4_line 267 = .ok (.iconst 0, 1) := dk_3 (dk_at dksX4_line_11 8 rfl rfl)
theorem dX4_line_268 : decode cX4_line 268 = .ok (.invokevirtual 259, 3) := dk_182 1 3 (dk_at dksX4_line_11 9 rfl rfl)
theorem dX4_line_271 : decode cX4_line 271 = .ok (.ifCond .eq 113, 3) := dk_153 0 113 (dk_at dksX4_line_11 12 rfl rfl)
theorem dX4_line_274 : decode cX4_line 274 = .ok (.aload_n 0, 1) := dk_42 (dk_at dksX4_line_11 15 rfl rfl)
theorem dX4_line_275 : decode cX4_line 275 = .ok (.aload_n 0, 1) := dk_42 (dk_at dksX4_line_11 16 rfl rfl)
theorem dX4_line_276 : decode cX4_line 276 = .ok (.iconst 1, 1) := dk_4 (dk_at dksX4_line_11 17 rfl rfl)
theorem dX4_line_277 : decode cX4_line 277 = .ok (.bipush 99, 2) := dk_16 99 (dk_at dksX4_line_11 18 rfl rfl)
theorem dX4_line_279 : decode cX4_line 279 = .ok (.invokevirtual 246, 3) := dk_182 0 246 (dk_at dksX4_line_11 20 rfl rfl)
theorem dX4_line_282 : decode cX4_line 282 = .ok (.putfield 275, 3) := dk_181 1 19 (dk_at dksX4_line_12 0 rfl rfl)
theorem dX4_line_285 : decode cX4_line 285 = .ok (.goto 99, 3) := dk_167 0 99 (dk_at dksX4_line_12 3 rfl rfl)
theorem dX4_line_288 : decode cX4_line 288 = .ok (.iload_n 1, 1) := dk_27 (dk_at dksX4_line_12 6 rfl rfl)
theorem dX4_line_289 : decode cX4_line 289 = .ok (.bipush 13, 2) := dk_16 13 (dk_at dksX4_line_12 7 rfl rfl)
theorem dX4_line_291 : decode cX4_line 291 = .ok (.if_icmp .ne 42, 3) := dk_160 0 42 (dk_at dksX4_line_12 9 rfl rfl)
theorem dX4_line_294 : decode cX4_line 294 = .ok (.aload_n 0, 1) := dk_42 (dk_at dksX4_line_12 12 rfl rfl)
theorem dX4_line_295 : decode cX4_line 295 = .ok (.iconst 0, 1) := dk_3 (dk_at dksX4_line_12 13 rfl rfl)
theorem dX4_line_296 : decode cX4_line 296 = .ok (.iconst 0, 1) := dk_3 (dk_at dksX4_line_12 14 rfl rfl)
theorem dX4_line_297 : decode cX4_line 297 = .ok (.aload_n 0, 1) := dk_42 (dk_at dksX4_line_12 15 rfl rfl)
theorem dX4_line_298 : decode cX4_line 298 = .ok (.getfield 278, 3) := dk_180 1 22 (dk_at dksX4_line_12 16 rfl rfl)
theorem dX4_line_301 : decode cX4_line 301 = .ok (.iconst (-1), 1) := dk_2 (dk_at dksX4_line_12 19 rfl rfl)
theorem dX4_line_302 : decode cX4_line 302 = .ok (.if_icmp .eq 7, 3) := dk_159 0 7 (dk_at dksX4_line_12 20 rfl rfl)
theorem dX4_line_305 : decode cX4_line 305 = .ok (.iconst 1, 1) := dk_4 (dk_at dksX4_line_12 23 rfl rfl)
theorem dX4_line_306 : decode cX4_line 306 = .ok (.goto 4, 3) := dk_167 0 4 (dk_at dksX4_line_13 0 rfl rfl)
theorem dX4_line_309 : decode cX4_line 309 = .ok (.iconst 0, 1) := dk_3 (dk_at dksX4_line_13 3 rfl rfl)
theorem dX4_line_310 : decode cX4_line 310 = .ok (.invokevirtual 259, 3) := dk_182 1 3 (dk_at dksX4_line_13 4 rfl rfl)
theorem dX4_line_313 : decode cX4_line 313 = .ok (.ifCond .eq 71, 3) := dk_153 0 71 (dk_at dksX4_line_13 7 rfl rfl)
theorem dX4_line_316 : decode cX4_line 316 = .ok (.aload_n 0, 1) := dk_42 (dk_at dksX4_line_13 10 rfl rfl)
theorem dX4_line_317 : decode cX4_line 317 = .ok (.aload_n 0, 1) := dk_42 (dk_at dksX4_line_13 11 rfl rfl)
theorem dX4_line_318 : decode cX4_line 318 = .ok (.getfield 184, 3) := dk_180 0 184 (dk_at dksX4_line_13 12 rfl rfl)
theorem dX4_line_321 : decode cX4_line 321 = .ok (.putfield 278, 3) := dk_181 1 22 (dk_at dksX4_line_13 15 rfl rfl)
theorem dX4_line_324 : decode cX4_line 324 = .ok (.aload_n 0, 1) := dk_42 (dk_at dksX4_line_13 18 rfl rfl)
theorem dX4_line_325 : decode cX4_line 325 = .ok (.bipush 127, 2) := dk_16 127 (dk_at dksX4_line_13 19 rfl rfl)
theorem dX4_line_327 : decode cX4_line 327 = .ok (.invokevirtual 281, 3) := dk_182 1 25 (dk_at dksX4_line_13 21 rfl rfl)
theorem dX4_line_330 : decode cX4_line 330 = .ok (.goto 54, 3) := dk_167 0 54 (dk_at dksX4_line_14 0 rfl rfl)
theorem dX4_line_333 : decode cX4_line 333 = .ok (.iload_n 1, 1) := dk_27 (dk_at dksX4_line_14 3 rfl rfl)
theorem dX4_line_334 : decode cX4_line 334 = .ok (.bipush 14, 2) := dk_16 14 (dk_at dksX4_line_14 4 rfl rfl)
theorem dX4_line_336 : decode cX4_line 336 = .ok (.if_icmp .ne 43, 3) := dk_160 0 43 (dk_at dksX4_line_14 6 rfl rfl)
theorem dX4_line_339 : decode cX4_line 339 = .ok (.aload_n 0, 1) := dk_42 (dk_at dksX4_line_14 9 rfl rfl)
theorem dX4_line_340 : decode cX4_line 340 = .ok (.iconst 0, 1) := dk_3 (dk_at dksX4_line_14 10 rfl rfl)
theorem dX4_line_341 : decode cX4_line 341 = .ok (.iconst 0, 1) := dk_3 (dk_at dksX4_line_14 11 rfl rfl)
theorem dX4_line_342 : decode cX4_line 342 = .ok (.aload_n 0, 1) := dk_42 (dk_at dksX4_line_14 12 rfl rfl)
theorem dX4_line_343 : decode cX4_line 343 = .ok (.getfield 284, 3) := dk_180 1 28 (dk_at dksX4_line_14 13 rfl rfl)
theorem dX4_line_346 : decode cX4_line 346 = .ok (.iconst (-1), 1) := dk_2 (dk_at dksX4_line_14 16 rfl rfl)
theorem dX4_line_347 : decode cX4_line 347 = .ok (.if_icmp .eq 7, 3) := dk_159 0 7 (dk_at dksX4_line_14 17 rfl rfl)
theorem dX4_line_350 : decode cX4_line 350 = .ok (.iconst 1, 1) := dk_4 (dk_at dksX4_line_14 20 rfl rfl)
theorem dX4_line_351 : decode cX4_line 351 = .ok (.goto 4, 3) := dk_167 0 4 (dk_at dksX4_line_14 21 rfl rfl)
theorem dX4_line_354 : decode cX4_line 354 = .ok (.iconst 0, 1) := dk_3 (dk_at dksX4_line_15 0 rfl rfl)
theorem dX4_line_355 : decode cX4_line 355 = .ok (.invokevirtual 259, 3) := dk_182 1 3 (dk_at dksX4_line_15 1 rfl rfl)
theorem dX4_line_358 : decode cX4_line 358 = .ok (.ifCond .eq 26, 3) := dk_153 0 26 (dk_at dksX4_line_15 4 rfl rfl)
theorem dX4_line_361 : decode cX4_line 361 = .ok (.aload_n 0, 1) := dk_42 (dk_at dksX4_line_15 7 rfl rfl)
theorem dX4_line_362 : decode cX4_line 362 = .ok (.aload_n 0, 1) := dk_42 (dk_at dksX4_line_15 8 rfl rfl)
theorem dX4_line_363 : decode cX4_line 363 = .ok (.getfield 184, 3) := dk_180 0 184 (dk_at dksX4_line_15 9 rfl rfl)
theorem dX4_line_366 : decode cX4_line 366 = .ok (.putfield 284, 3) := dk_181 1 28 (dk_at dksX4_line_15 12 rfl rfl)
theorem dX4_line_369 : decode cX4_line 369 = .ok (.aload_n 0, 1) := dk_42 (dk_at dksX4_line_15 15 rfl rfl)
theorem dX4_line_370 : decode cX4_line 370 = .ok (.sipush 179, 3) := dk_17 0 179 (dk_at dksX4_line_15 16 rfl rfl)
theorem dX4_line_373 : decode cX4_line 373 = .ok (.invokevirtual 281, 3) := dk_182 1 25 (dk_at dksX4_line_15 19 rfl rfl)
theorem dX4_line_376 : decode cX4_line 376 = .ok (.goto 8, 3) := dk_167 0 8 (dk_at dksX4_line_16 0 rfl rfl)
theorem dX4_line_379 : decode cX4_line 379 = .ok (.aload_n 0, 1) := dk_42 (dk_at dksX4_line_16 3 rfl rfl)
theorem dX4_line_380 : decode cX4_line 380 = .ok (.iconst 1, 1) := dk_4 (dk_at dksX4_line_16 4 rfl rfl)
theorem dX4_line_381 : decode cX4_line 381 = .ok (.invokevirtual 181, 3) := dk_182 0 181 (dk_at dksX4_line_16 5 rfl rfl)
theorem dX4_line_384 : decode cX4_line 384 = .ok (.aload_n 0, 1) := dk_42 (dk_at dksX4_line_16 8 rfl rfl)
theorem dX4_line_385 : decode cX4_line 385 = .ok (.aload_n 0, 1) := dk_42 (dk_at dksX4_line_16 9 rfl rfl)
theorem dX4_line_386 : decode cX4_line 386 = .ok (.bipush 59, 2) := dk_16 59 (dk_at dksX4_line_16 10 rfl rfl)
theorem dX4_line_388 : decode cX4_line 388 = .ok (.invokevirtual 209, 3) := dk_182 0 209 (dk_at dksX4_line_16 12 rfl rfl)
theorem dX4_line_391 : decode cX4_line 391 = .ok (.invokevirtual 287, 3) := dk_182 1 31 (dk_at dksX4_line_16 15 rfl rfl)
theorem dX4_line_394 : decode cX4_line 394 = .ok (.return_, 1) := dk_177 (dk_at dksX4_line_16 18 rfl rfl)
abbrev mX4_line : xM := (yX4_line, cX4_line, 3, none, [])
def m_line_384  (S : MS) : Option MS :=
  (m_isSign ((59 : Int32)) S).bind fun q388 =>
  (m_need q388 S).bind fun q391 =>
  some q391
theorem m_line_384_ok {G : xG} {m0 : Nat} {S0 : MS}   (S : MS) (q : MS) (hf : m_line_384 S = some q) : XM G m0 mX4_line 7 S0 none q 384 [(0, .ref m0)] [] S := by
  intro h N Z
  unfold m_line_384 at hf
  refine X.aload_n dX4_line_384 rfl 0 rfl ?_
  refine X.aload_n dX4_line_385 rfl 0 rfl ?_
  refine X.bipush (v := 59) dX4_line_386 (by decide) ?_
  obtain ⟨q388, h388, hf⟩ := ob hf
  refine X.callVi (As := [.int (59 : Int32)]) (rest := [.ref m0]) dX4_line_388 (w_isSign h388 h N Z) cX4_209 rfl rfl (Nat.le_of_ble_eq_true rfl) mh_0 rfl rfl (xD (Nat.le_of_ble_eq_true rfl)) xleN xleN ?_
  obtain ⟨q391, h391, hf⟩ := ob hf
  refine X.callVv (As := [.int q388]) (rest := []) (T2 := (mh m0 h q391, N, Z)) dX4_line_391 (w_need h391 h N Z) cX4_287 rfl rfl (Nat.le_of_ble_eq_true rfl) mh_0 rfl rfl (xD (Nat.le_of_ble_eq_true rfl)) xleN xleN ?_
  obtain rfl := Option.some.inj hf
  exact X.vret dX4_line_394 rfl rfl
def m_line_30  (y0 : Int32) (y1 : Int32) (y2 : Int32) (S : MS) : Option MS :=
  (m_begins y2 y1 y0 S).bind fun q30 =>
  if q30.1 = 0 then
    m_line_384 q30.2
  else
    (m_number ((1 : Int32)) ((6 : Int32)) q30.2).bind fun q40 =>
    (m_number ((1 : Int32)) ((5 : Int32)) q40.2).bind fun q48 =>
    m_line_384 ((sF ((sF q48.2 26 q48.1)) 25 q40.1))
theorem m_line_30_ok {G : xG} {m0 : Nat} {S0 : MS}   (y0 : Int32) (y1 : Int32) (y2 : Int32) (S : MS) (q : MS) (hf : m_line_30 y0 y1 y2 S = some q) : XM G m0 mX4_line 7 S0 none q 30 [(0, .ref m0)] [.int y0, .int y1, .int y2, .ref m0] S := by
  intro h N Z
  unfold m_line_30 at hf
  obtain ⟨q30, h30, hf⟩ := ob hf
  refine X.callVi (As := [.int y2, .int y1, .int y0]) (rest := []) (T2 := (mh m0 h q30.2, N, Z)) dX4_line_30 (w_begins h30 h N Z) cX4_259 rfl rfl (Nat.le_of_ble_eq_true rfl) mh_0 rfl rfl (xD (Nat.le_of_ble_eq_true rfl)) xleN xleN ?_
  refine X.if_eq (tgt := 384) dX4_line_33 (by decide) (fun c33 => ?_) (fun c33 => ?_)
  · have hf := if_t c33 hf
    refine X.sub [0] (L' := [(0, .ref m0)]) rfl ?_
    exact m_line_384_ok _ _ hf h N Z
  · have hf := if_f c33 hf
    refine X.aload_n dX4_line_36 rfl 0 rfl ?_
    refine X.iconst (v := 1) dX4_line_37 (by decide) ?_
    refine X.bipush (v := 6) dX4_line_38 (by decide) ?_
    obtain ⟨q40, h40, hf⟩ := ob hf
    refine X.callVi (As := [.int (1 : Int32), .int (6 : Int32)]) (rest := []) (T2 := (mh m0 h q40.2, N, Z)) dX4_line_40 (w_number h40 h N Z) cX4_246 rfl rfl (Nat.le_of_ble_eq_true rfl) mh_0 rfl rfl (xD (Nat.le_of_ble_eq_true rfl)) xleN xleN ?_
    refine X.istore_n (L' := [(2, .int q40.1), (0, .ref m0)]) dX4_line_43 rfl (Nat.le_of_ble_eq_true rfl) rfl ?_
    refine X.aload_n dX4_line_44 rfl 1 rfl ?_
    refine X.aload_n dX4_line_45 rfl 1 rfl ?_
    refine X.iconst (v := 1) dX4_line_46 (by decide) ?_
    refine X.iconst (v := 5) dX4_line_47 (by decide) ?_
    obtain ⟨q48, h48, hf⟩ := ob hf
    refine X.callVi (As := [.int (1 : Int32), .int (5 : Int32)]) (rest := [.ref m0]) (T2 := (mh m0 h q48.2, N, Z)) dX4_line_48 (w_number h48 h N Z) cX4_246 rfl rfl (Nat.le_of_ble_eq_true rfl) mh_0 rfl rfl (xD (Nat.le_of_ble_eq_true rfl)) xleN xleN ?_
    refine M.putI dX4_line_51 fX4_237 (by decide) rfl rfl rfl ?_
    refine X.aload_n dX4_line_54 rfl 1 rfl ?_
    refine X.iload_n dX4_line_55 rfl 0 rfl ?_
    refine M.putI dX4_line_56 fX4_234 (by decide) rfl rfl rfl ?_
    refine X.goto (tgt := 384) dX4_line_59 (by decide) ?_
    refine X.sub [1] (L' := [(0, .ref m0)]) rfl ?_
    exact m_line_384_ok _ _ hf h N Z
def m_line_82  (y0 : Int32) (S : MS) : Option MS :=
  (m_begins y0 ((0 : Int32)) ((0 : Int32)) S).bind fun q84 =>
  if q84.1 = 0 then
    m_line_384 q84.2
  else
    (m_number ((0 : Int32)) ((3 : Int32)) q84.2).bind fun q101 =>
    (wrA q101.2 6 (q84.2.1 27) q101.1).bind fun S104 =>
    (m_isGood S104).bind fun q106 =>
    if q106 = 0 then
      m_line_384 S104
    else
      m_line_384 ((sF S104 27 ((S104.1 27) + (1 : Int32))))
theorem m_line_82_ok {G : xG} {m0 : Nat} {S0 : MS}   (y0 : Int32) (S : MS) (q : MS) (hf : m_line_82 y0 S = some q) : XM G m0 mX4_line 7 S0 none q 82 [(0, .ref m0)] [.int y0, .ref m0] S := by
  intro h N Z
  unfold m_line_82 at hf
  refine X.iconst (v := 0) dX4_line_82 (by decide) ?_
  refine X.iconst (v := 0) dX4_line_83 (by decide) ?_
  obtain ⟨q84, h84, hf⟩ := ob hf
  refine X.callVi (As := [.int y0, .int (0 : Int32), .int (0 : Int32)]) (rest := []) (T2 := (mh m0 h q84.2, N, Z)) dX4_line_84 (w_begins h84 h N Z) cX4_259 rfl rfl (Nat.le_of_ble_eq_true rfl) mh_0 rfl rfl (xD (Nat.le_of_ble_eq_true rfl)) xleN xleN ?_
  refine X.if_eq (tgt := 384) dX4_line_87 (by decide) (fun c87 => ?_) (fun c87 => ?_)
  · have hf := if_t c87 hf
    refine X.sub [0] (L' := [(0, .ref m0)]) rfl ?_
    exact m_line_384_ok _ _ hf h N Z
  · have hf := if_f c87 hf
    refine X.aload_n dX4_line_90 rfl 0 rfl ?_
    refine M.get (v := .ref (m0 + 6)) dX4_line_91 fX4_47 (Nat.le_of_ble_eq_true rfl) rfl ?_
    refine X.aload_n dX4_line_94 rfl 0 rfl ?_
    refine M.get (v := .int (q84.2.1 27)) dX4_line_95 fX4_250 (Nat.le_of_ble_eq_true rfl) rfl ?_
    refine X.aload_n dX4_line_98 rfl 0 rfl ?_
    refine X.iconst (v := 0) dX4_line_99 (by decide) ?_
    refine X.iconst (v := 3) dX4_line_100 (by decide) ?_
    obtain ⟨q101, h101, hf⟩ := ob hf
    refine X.callVi (As := [.int (0 : Int32), .int (3 : Int32)]) (rest := [.int (q84.2.1 27), .ref (m0 + 6)]) (T2 := (mh m0 h q101.2, N, Z)) dX4_line_101 (w_number h101 h N Z) cX4_246 rfl rfl (Nat.le_of_ble_eq_true rfl) mh_0 rfl rfl (xD (Nat.le_of_ble_eq_true rfl)) xleN xleN ?_
    obtain ⟨S104, h104, hf⟩ := ob hf
    refine M.iast dX4_line_104 rfl h104 ?_
    refine X.aload_n dX4_line_105 rfl 0 rfl ?_
    obtain ⟨q106, h106, hf⟩ := ob hf
    refine X.callVi (As := []) (rest := []) dX4_line_106 (w_isGood h106 h N Z) cX4_174 rfl rfl (Nat.le_of_ble_eq_true rfl) mh_0 rfl rfl (xD (Nat.le_of_ble_eq_true rfl)) xleN xleN ?_
    refine X.if_eq (tgt := 384) dX4_line_109 (by decide) (fun c109 => ?_) (fun c109 => ?_)
    · have hf := if_t c109 hf
      refine X.sub [0] (L' := [(0, .ref m0)]) rfl ?_
      exact m_line_384_ok _ _ hf h N Z
    · have hf := if_f c109 hf
      refine X.aload_n dX4_line_112 rfl 0 rfl ?_
      refine X.dup dX4_line_113 rfl ?_
      refine M.get (v := .int (S104.1 27)) dX4_line_114 fX4_250 (Nat.le_of_ble_eq_true rfl) rfl ?_
      refine X.iconst (v := 1) dX4_line_117 (by decide) ?_
      refine X.iadd dX4_line_118 ?_
      refine M.putI dX4_line_119 fX4_250 (by decide) rfl rfl rfl ?_
      refine X.goto (tgt := 384) dX4_line_122 (by decide) ?_
      refine X.sub [0] (L' := [(0, .ref m0)]) rfl ?_
      exact m_line_384_ok _ _ hf h N Z
def m_line_191  (y0 : Int32) (y1 : Int32) (y2 : Int32) (S : MS) : Option MS :=
  (m_begins y2 y1 y0 S).bind fun q191 =>
  if q191.1 = 0 then
    m_line_384 q191.2
  else
    (m_readsWarmth q191.2).bind fun q198 =>
    m_line_384 q198
theorem m_line_191_ok {G : xG} {m0 : Nat} {S0 : MS}   (y0 : Int32) (y1 : Int32) (y2 : Int32) (S : MS) (q : MS) (hf : m_line_191 y0 y1 y2 S = some q) : XM G m0 mX4_line 7 S0 none q 191 [(0, .ref m0)] [.int y0, .int y1, .int y2, .ref m0] S := by
  intro h N Z
  unfold m_line_191 at hf
  obtain ⟨q191, h191, hf⟩ := ob hf
  refine X.callVi (As := [.int y2, .int y1, .int y0]) (rest := []) (T2 := (mh m0 h q191.2, N, Z)) dX4_line_191 (w_begins h191 h N Z) cX4_259 rfl rfl (Nat.le_of_ble_eq_true rfl) mh_0 rfl rfl (xD (Nat.le_of_ble_eq_true rfl)) xleN xleN ?_
  refine X.if_eq (tgt := 384) dX4_line_194 (by decide) (fun c194 => ?_) (fun c194 => ?_)
  · have hf := if_t c194 hf
    refine X.sub [0] (L' := [(0, .ref m0)]) rfl ?_
    exact m_line_384_ok _ _ hf h N Z
  · have hf := if_f c194 hf
    refine X.aload_n dX4_line_197 rfl 0 rfl ?_
    obtain ⟨q198, h198, hf⟩ := ob hf
    refine X.callVv (As := []) (rest := []) (T2 := (mh m0 h q198, N, Z)) dX4_line_198 (w_readsWarmth h198 h N Z) cX4_269 rfl rfl (Nat.le_of_ble_eq_true rfl) mh_0 rfl rfl (xD (Nat.le_of_ble_eq_true rfl)) xleN xleN ?_
    refine X.goto (tgt := 384) dX4_line_201 (by decide) ?_
    refine X.sub [0] (L' := [(0, .ref m0)]) rfl ?_
    exact m_line_384_ok _ _ hf h N Z
def m_line_226  (y0 : Int32) (y1 : Int32) (y2 : Int32) (S : MS) : Option MS :=
  (m_begins y2 y1 y0 S).bind fun q226 =>
  if q226.1 = 0 then
    m_line_384 q226.2
  else
    (m_number ((1 : Int32)) ((99 : Int32)) q226.2).bind fun q237 =>
    m_line_384 ((sF q237.2 29 q237.1))
theorem m_line_226_ok {G : xG} {m0 : Nat} {S0 : MS}   (y0 : Int32) (y1 : Int32) (y2 : Int32) (S : MS) (q : MS) (hf : m_line_226 y0 y1 y2 S = some q) : XM G m0 mX4_line 7 S0 none q 226 [(0, .ref m0)] [.int y0, .int y1, .int y2, .ref m0] S := by
  intro h N Z
  unfold m_line_226 at hf
  obtain ⟨q226, h226, hf⟩ := ob hf
  refine X.callVi (As := [.int y2, .int y1, .int y0]) (rest := []) (T2 := (mh m0 h q226.2, N, Z)) dX4_line_226 (w_begins h226 h N Z) cX4_259 rfl rfl (Nat.le_of_ble_eq_true rfl) mh_0 rfl rfl (xD (Nat.le_of_ble_eq_true rfl)) xleN xleN ?_
  refine X.if_eq (tgt := 384) dX4_line_229 (by decide) (fun c229 => ?_) (fun c229 => ?_)
  · have hf := if_t c229 hf
    refine X.sub [0] (L' := [(0, .ref m0)]) rfl ?_
    exact m_line_384_ok _ _ hf h N Z
  · have hf := if_f c229 hf
    refine X.aload_n dX4_line_232 rfl 0 rfl ?_
    refine X.aload_n dX4_line_233 rfl 0 rfl ?_
    refine X.iconst (v := 1) dX4_line_234 (by decide) ?_
    refine X.bipush (v := 99) dX4_line_235 (by decide) ?_
    obtain ⟨q237, h237, hf⟩ := ob hf
    refine X.callVi (As := [.int (1 : Int32), .int (99 : Int32)]) (rest := [.ref m0]) (T2 := (mh m0 h q237.2, N, Z)) dX4_line_237 (w_number h237 h N Z) cX4_246 rfl rfl (Nat.le_of_ble_eq_true rfl) mh_0 rfl rfl (xD (Nat.le_of_ble_eq_true rfl)) xleN xleN ?_
    refine M.putI dX4_line_240 fX4_272 (by decide) rfl rfl rfl ?_
    refine X.goto (tgt := 384) dX4_line_243 (by decide) ?_
    refine X.sub [0] (L' := [(0, .ref m0)]) rfl ?_
    exact m_line_384_ok _ _ hf h N Z
def m_line_268  (y0 : Int32) (y1 : Int32) (y2 : Int32) (S : MS) : Option MS :=
  (m_begins y2 y1 y0 S).bind fun q268 =>
  if q268.1 = 0 then
    m_line_384 q268.2
  else
    (m_number ((1 : Int32)) ((99 : Int32)) q268.2).bind fun q279 =>
    m_line_384 ((sF q279.2 30 q279.1))
theorem m_line_268_ok {G : xG} {m0 : Nat} {S0 : MS}   (y0 : Int32) (y1 : Int32) (y2 : Int32) (S : MS) (q : MS) (hf : m_line_268 y0 y1 y2 S = some q) : XM G m0 mX4_line 7 S0 none q 268 [(0, .ref m0)] [.int y0, .int y1, .int y2, .ref m0] S := by
  intro h N Z
  unfold m_line_268 at hf
  obtain ⟨q268, h268, hf⟩ := ob hf
  refine X.callVi (As := [.int y2, .int y1, .int y0]) (rest := []) (T2 := (mh m0 h q268.2, N, Z)) dX4_line_268 (w_begins h268 h N Z) cX4_259 rfl rfl (Nat.le_of_ble_eq_true rfl) mh_0 rfl rfl (xD (Nat.le_of_ble_eq_true rfl)) xleN xleN ?_
  refine X.if_eq (tgt := 384) dX4_line_271 (by decide) (fun c271 => ?_) (fun c271 => ?_)
  · have hf := if_t c271 hf
    refine X.sub [0] (L' := [(0, .ref m0)]) rfl ?_
    exact m_line_384_ok _ _ hf h N Z
  · have hf := if_f c271 hf
    refine X.aload_n dX4_line_274 rfl 0 rfl ?_
    refine X.aload_n dX4_line_275 rfl 0 rfl ?_
    refine X.iconst (v := 1) dX4_line_276 (by decide) ?_
    refine X.bipush (v := 99) dX4_line_277 (by decide) ?_
    obtain ⟨q279, h279, hf⟩ := ob hf
    refine X.callVi (As := [.int (1 : Int32), .int (99 : Int32)]) (rest := [.ref m0]) (T2 := (mh m0 h q279.2, N, Z)) dX4_line_279 (w_number h279 h N Z) cX4_246 rfl rfl (Nat.le_of_ble_eq_true rfl) mh_0 rfl rfl (xD (Nat.le_of_ble_eq_true rfl)) xleN xleN ?_
    refine M.putI dX4_line_282 fX4_275 (by decide) rfl rfl rfl ?_
    refine X.goto (tgt := 384) dX4_line_285 (by decide) ?_
    refine X.sub [0] (L' := [(0, .ref m0)]) rfl ?_
    exact m_line_384_ok _ _ hf h N Z
def m_line_310  (y0 : Int32) (y1 : Int32) (y2 : Int32) (S : MS) : Option MS :=
  (m_begins y2 y1 y0 S).bind fun q310 =>
  if q310.1 = 0 then
    m_line_384 q310.2
  else
    (m_expression ((127 : Int32)) ((sF q310.2 31 (q310.2.1 33)))).bind fun q327 =>
    m_line_384 q327
theorem m_line_310_ok {G : xG} {m0 : Nat} {S0 : MS}   (y0 : Int32) (y1 : Int32) (y2 : Int32) (S : MS) (q : MS) (hf : m_line_310 y0 y1 y2 S = some q) : XM G m0 mX4_line 7 S0 none q 310 [(0, .ref m0)] [.int y0, .int y1, .int y2, .ref m0] S := by
  intro h N Z
  unfold m_line_310 at hf
  obtain ⟨q310, h310, hf⟩ := ob hf
  refine X.callVi (As := [.int y2, .int y1, .int y0]) (rest := []) (T2 := (mh m0 h q310.2, N, Z)) dX4_line_310 (w_begins h310 h N Z) cX4_259 rfl rfl (Nat.le_of_ble_eq_true rfl) mh_0 rfl rfl (xD (Nat.le_of_ble_eq_true rfl)) xleN xleN ?_
  refine X.if_eq (tgt := 384) dX4_line_313 (by decide) (fun c313 => ?_) (fun c313 => ?_)
  · have hf := if_t c313 hf
    refine X.sub [0] (L' := [(0, .ref m0)]) rfl ?_
    exact m_line_384_ok _ _ hf h N Z
  · have hf := if_f c313 hf
    refine X.aload_n dX4_line_316 rfl 0 rfl ?_
    refine X.aload_n dX4_line_317 rfl 0 rfl ?_
    refine M.get (v := .int (q310.2.1 33)) dX4_line_318 fX4_184 (Nat.le_of_ble_eq_true rfl) rfl ?_
    refine M.putI dX4_line_321 fX4_278 (by decide) rfl rfl rfl ?_
    refine X.aload_n dX4_line_324 rfl 0 rfl ?_
    refine X.bipush (v := 127) dX4_line_325 (by decide) ?_
    obtain ⟨q327, h327, hf⟩ := ob hf
    refine X.callVv (As := [.int (127 : Int32)]) (rest := []) (T2 := (mh m0 h q327, N, Z)) dX4_line_327 (w_expression h327 h N Z) cX4_281 rfl rfl (Nat.le_of_ble_eq_true rfl) mh_0 rfl rfl (xD (Nat.le_of_ble_eq_true rfl)) xleN xleN ?_
    refine X.goto (tgt := 384) dX4_line_330 (by decide) ?_
    refine X.sub [0] (L' := [(0, .ref m0)]) rfl ?_
    exact m_line_384_ok _ _ hf h N Z
def m_line_355  (y0 : Int32) (y1 : Int32) (y2 : Int32) (S : MS) : Option MS :=
  (m_begins y2 y1 y0 S).bind fun q355 =>
  if q355.1 = 0 then
    m_line_384 q355.2
  else
    (m_expression ((179 : Int32)) ((sF q355.2 32 (q355.2.1 33)))).bind fun q373 =>
    m_line_384 q373
theorem m_line_355_ok {G : xG} {m0 : Nat} {S0 : MS}   (y0 : Int32) (y1 : Int32) (y2 : Int32) (S : MS) (q : MS) (hf : m_line_355 y0 y1 y2 S = some q) : XM G m0 mX4_line 7 S0 none q 355 [(0, .ref m0)] [.int y0, .int y1, .int y2, .ref m0] S := by
  intro h N Z
  unfold m_line_355 at hf
  obtain ⟨q355, h355, hf⟩ := ob hf
  refine X.callVi (As := [.int y2, .int y1, .int y0]) (rest := []) (T2 := (mh m0 h q355.2, N, Z)) dX4_line_355 (w_begins h355 h N Z) cX4_259 rfl rfl (Nat.le_of_ble_eq_true rfl) mh_0 rfl rfl (xD (Nat.le_of_ble_eq_true rfl)) xleN xleN ?_
  refine X.if_eq (tgt := 384) dX4_line_358 (by decide) (fun c358 => ?_) (fun c358 => ?_)
  · have hf := if_t c358 hf
    refine X.sub [0] (L' := [(0, .ref m0)]) rfl ?_
    exact m_line_384_ok _ _ hf h N Z
  · have hf := if_f c358 hf
    refine X.aload_n dX4_line_361 rfl 0 rfl ?_
    refine X.aload_n dX4_line_362 rfl 0 rfl ?_
    refine M.get (v := .int (q355.2.1 33)) dX4_line_363 fX4_184 (Nat.le_of_ble_eq_true rfl) rfl ?_
    refine M.putI dX4_line_366 fX4_284 (by decide) rfl rfl rfl ?_
    refine X.aload_n dX4_line_369 rfl 0 rfl ?_
    refine X.sipush (v := 179) dX4_line_370 (by decide) ?_
    obtain ⟨q373, h373, hf⟩ := ob hf
    refine X.callVv (As := [.int (179 : Int32)]) (rest := []) (T2 := (mh m0 h q373, N, Z)) dX4_line_373 (w_expression h373 h N Z) cX4_281 rfl rfl (Nat.le_of_ble_eq_true rfl) mh_0 rfl rfl (xD (Nat.le_of_ble_eq_true rfl)) xleN xleN ?_
    refine X.goto (tgt := 384) dX4_line_376 (by decide) ?_
    refine X.sub [0] (L' := [(0, .ref m0)]) rfl ?_
    exact m_line_384_ok _ _ hf h N Z
def m_line  (S : MS) : Option MS :=
  (m_knownWord S).bind fun q1 =>
  if q1 = (8 : Int32) then
    (m_hasAny S).bind fun q14 =>
    if (S.1 25) = (-1 : Int32) then
      m_line_30 ((0 : Int32)) q14 ((0 : Int32)) S
    else
      m_line_30 ((1 : Int32)) q14 ((0 : Int32)) S
  else
    if q1 = (6 : Int32) then
      if (S.1 27) = (4 : Int32) then
        m_line_82 ((1 : Int32)) S
      else
        m_line_82 ((0 : Int32)) S
    else
      if q1 = (9 : Int32) then
        (m_begins ((0 : Int32)) ((0 : Int32)) ((0 : Int32)) S).bind fun q135 =>
        if q135.1 = 0 then
          m_line_384 q135.2
        else
          (m_readsCell q135.2).bind fun q142 =>
          m_line_384 q142
      else
        if q1 = (10 : Int32) then
          (m_begins ((0 : Int32)) ((0 : Int32)) ((0 : Int32)) S).bind fun q158 =>
          if q158.1 = 0 then
            m_line_384 q158.2
          else
            (m_readsMould q158.2).bind fun q165 =>
            m_line_384 q165
        else
          if q1 = (3 : Int32) then
            if (S.1 28) ≤ 0 then
              m_line_191 ((0 : Int32)) ((0 : Int32)) ((0 : Int32)) S
            else
              m_line_191 ((1 : Int32)) ((0 : Int32)) ((0 : Int32)) S
          else
            if q1 = (11 : Int32) then
              if (S.1 29) = (-1 : Int32) then
                m_line_226 ((0 : Int32)) ((0 : Int32)) ((0 : Int32)) S
              else
                m_line_226 ((1 : Int32)) ((0 : Int32)) ((0 : Int32)) S
            else
              if q1 = (12 : Int32) then
                if (S.1 30) = (-1 : Int32) then
                  m_line_268 ((0 : Int32)) ((0 : Int32)) ((0 : Int32)) S
                else
                  m_line_268 ((1 : Int32)) ((0 : Int32)) ((0 : Int32)) S
              else
                if q1 = (13 : Int32) then
                  if (S.1 31) = (-1 : Int32) then
                    m_line_310 ((0 : Int32)) ((0 : Int32)) ((0 : Int32)) S
                  else
                    m_line_310 ((1 : Int32)) ((0 : Int32)) ((0 : Int32)) S
                else
                  if q1 = (14 : Int32) then
                    if (S.1 32) = (-1 : Int32) then
                      m_line_355 ((0 : Int32)) ((0 : Int32)) ((0 : Int32)) S
                    else
                      m_line_355 ((1 : Int32)) ((0 : Int32)) ((0 : Int32)) S
                  else
                    (m_wrong ((1 : Int32)) S).bind fun q381 =>
                    m_line_384 q381
theorem w_line {G : xG} {m0 : Nat}  {S : MS} {q : MS} (hf : m_line S = some q) : CtM G m0 mX4_line 7 S [.ref m0] none q := by
  intro h N Z
  refine Ct.of (by decide +kernel) rfl (Nat.le_of_ble_eq_true rfl) (show Xr G _ 0 [(0, .ref m0)] [] _ from ?_)
  unfold m_line at hf
  refine X.aload_n dX4_line_0 rfl 0 rfl ?_
  obtain ⟨q1, h1, hf⟩ := ob hf
  refine X.callVi (As := []) (rest := []) dX4_line_1 (w_knownWord h1 h N Z) cX4_199 rfl rfl (Nat.le_of_ble_eq_true rfl) mh_0 rfl rfl (xD (Nat.le_of_ble_eq_true rfl)) xleN xleN ?_
  refine X.istore_n (L' := [(1, .int q1), (0, .ref m0)]) dX4_line_4 rfl (Nat.le_of_ble_eq_true rfl) rfl ?_
  refine X.iload_n dX4_line_5 rfl 0 rfl ?_
  refine X.bipush (v := 8) dX4_line_6 (by decide) ?_
  refine X.icmp_ne (tgt := 62) dX4_line_8 (by decide) (fun c8 => ?_) (fun c8 => ?_)
  · have hf := if_f c8 hf
    refine X.iload_n dX4_line_62 rfl 0 rfl ?_
    refine X.bipush (v := 6) dX4_line_63 (by decide) ?_
    refine X.icmp_ne (tgt := 125) dX4_line_65 (by decide) (fun c65 => ?_) (fun c65 => ?_)
    · have hf := if_f c65 hf
      refine X.iload_n dX4_line_125 rfl 0 rfl ?_
      refine X.bipush (v := 9) dX4_line_126 (by decide) ?_
      refine X.icmp_ne (tgt := 148) dX4_line_128 (by decide) (fun c128 => ?_) (fun c128 => ?_)
      · have hf := if_f c128 hf
        refine X.iload_n dX4_line_148 rfl 0 rfl ?_
        refine X.bipush (v := 10) dX4_line_149 (by decide) ?_
        refine X.icmp_ne (tgt := 171) dX4_line_151 (by decide) (fun c151 => ?_) (fun c151 => ?_)
        · have hf := if_f c151 hf
          refine X.iload_n dX4_line_171 rfl 0 rfl ?_
          refine X.iconst (v := 3) dX4_line_172 (by decide) ?_
          refine X.icmp_ne (tgt := 204) dX4_line_173 (by decide) (fun c173 => ?_) (fun c173 => ?_)
          · have hf := if_f c173 hf
            refine X.iload_n dX4_line_204 rfl 0 rfl ?_
            refine X.bipush (v := 11) dX4_line_205 (by decide) ?_
            refine X.icmp_ne (tgt := 246) dX4_line_207 (by decide) (fun c207 => ?_) (fun c207 => ?_)
            · have hf := if_f c207 hf
              refine X.iload_n dX4_line_246 rfl 0 rfl ?_
              refine X.bipush (v := 12) dX4_line_247 (by decide) ?_
              refine X.icmp_ne (tgt := 288) dX4_line_249 (by decide) (fun c249 => ?_) (fun c249 => ?_)
              · have hf := if_f c249 hf
                refine X.iload_n dX4_line_288 rfl 0 rfl ?_
                refine X.bipush (v := 13) dX4_line_289 (by decide) ?_
                refine X.icmp_ne (tgt := 333) dX4_line_291 (by decide) (fun c291 => ?_) (fun c291 => ?_)
                · have hf := if_f c291 hf
                  refine X.iload_n dX4_line_333 rfl 0 rfl ?_
                  refine X.bipush (v := 14) dX4_line_334 (by decide) ?_
                  refine X.icmp_ne (tgt := 379) dX4_line_336 (by decide) (fun c336 => ?_) (fun c336 => ?_)
                  · have hf := if_f c336 hf
                    refine X.aload_n dX4_line_379 rfl 1 rfl ?_
                    refine X.iconst (v := 1) dX4_line_380 (by decide) ?_
                    obtain ⟨q381, h381, hf⟩ := ob hf
                    refine X.callVv (As := [.int (1 : Int32)]) (rest := []) (T2 := (mh m0 h q381, N, Z)) dX4_line_381 (w_wrong h381 h N Z) cX4_181 rfl rfl (Nat.le_of_ble_eq_true rfl) mh_0 rfl rfl (xD (Nat.le_of_ble_eq_true rfl)) xleN xleN ?_
                    refine X.sub [1] (L' := [(0, .ref m0)]) rfl ?_
                    exact m_line_384_ok _ _ hf h N Z
                  · have hf := if_t c336 hf
                    refine X.aload_n dX4_line_339 rfl 1 rfl ?_
                    refine X.iconst (v := 0) dX4_line_340 (by decide) ?_
                    refine X.iconst (v := 0) dX4_line_341 (by decide) ?_
                    refine X.aload_n dX4_line_342 rfl 1 rfl ?_
                    refine M.get (v := .int (S.1 32)) dX4_line_343 fX4_284 (Nat.le_of_ble_eq_true rfl) rfl ?_
                    refine X.iconst (v := -1) dX4_line_346 (by decide) ?_
                    refine X.icmp_eq (tgt := 354) dX4_line_347 (by decide) (fun c347 => ?_) (fun c347 => ?_)
                    · have hf := if_t c347 hf
                      refine X.iconst (v := 0) dX4_line_354 (by decide) ?_
                      refine X.sub [1] (L' := [(0, .ref m0)]) rfl ?_
                      exact m_line_355_ok _ _ _ _ _ hf h N Z
                    · have hf := if_f c347 hf
                      refine X.iconst (v := 1) dX4_line_350 (by decide) ?_
                      refine X.goto (tgt := 355) dX4_line_351 (by decide) ?_
                      refine X.sub [1] (L' := [(0, .ref m0)]) rfl ?_
                      exact m_line_355_ok _ _ _ _ _ hf h N Z
                · have hf := if_t c291 hf
                  refine X.aload_n dX4_line_294 rfl 1 rfl ?_
                  refine X.iconst (v := 0) dX4_line_295 (by decide) ?_
                  refine X.iconst (v := 0) dX4_line_296 (by decide) ?_
                  refine X.aload_n dX4_line_297 rfl 1 rfl ?_
                  refine M.get (v := .int (S.1 31)) dX4_line_298 fX4_278 (Nat.le_of_ble_eq_true rfl) rfl ?_
                  refine X.iconst (v := -1) dX4_line_301 (by decide) ?_
                  refine X.icmp_eq (tgt := 309) dX4_line_302 (by decide) (fun c302 => ?_) (fun c302 => ?_)
                  · have hf := if_t c302 hf
                    refine X.iconst (v := 0) dX4_line_309 (by decide) ?_
                    refine X.sub [1] (L' := [(0, .ref m0)]) rfl ?_
                    exact m_line_310_ok _ _ _ _ _ hf h N Z
                  · have hf := if_f c302 hf
                    refine X.iconst (v := 1) dX4_line_305 (by decide) ?_
                    refine X.goto (tgt := 310) dX4_line_306 (by decide) ?_
                    refine X.sub [1] (L' := [(0, .ref m0)]) rfl ?_
                    exact m_line_310_ok _ _ _ _ _ hf h N Z
              · have hf := if_t c249 hf
                refine X.aload_n dX4_line_252 rfl 1 rfl ?_
                refine X.iconst (v := 0) dX4_line_253 (by decide) ?_
                refine X.iconst (v := 0) dX4_line_254 (by decide) ?_
                refine X.aload_n dX4_line_255 rfl 1 rfl ?_
                refine M.get (v := .int (S.1 30)) dX4_line_256 fX4_275 (Nat.le_of_ble_eq_true rfl) rfl ?_
                refine X.iconst (v := -1) dX4_line_259 (by decide) ?_
                refine X.icmp_eq (tgt := 267) dX4_line_260 (by decide) (fun c260 => ?_) (fun c260 => ?_)
                · have hf := if_t c260 hf
                  refine X.iconst (v := 0) dX4_line_267 (by decide) ?_
                  refine X.sub [1] (L' := [(0, .ref m0)]) rfl ?_
                  exact m_line_268_ok _ _ _ _ _ hf h N Z
                · have hf := if_f c260 hf
                  refine X.iconst (v := 1) dX4_line_263 (by decide) ?_
                  refine X.goto (tgt := 268) dX4_line_264 (by decide) ?_
                  refine X.sub [1] (L' := [(0, .ref m0)]) rfl ?_
                  exact m_line_268_ok _ _ _ _ _ hf h N Z
            · have hf := if_t c207 hf
              refine X.aload_n dX4_line_210 rfl 1 rfl ?_
              refine X.iconst (v := 0) dX4_line_211 (by decide) ?_
              refine X.iconst (v := 0) dX4_line_212 (by decide) ?_
              refine X.aload_n dX4_line_213 rfl 1 rfl ?_
              refine M.get (v := .int (S.1 29)) dX4_line_214 fX4_272 (Nat.le_of_ble_eq_true rfl) rfl ?_
              refine X.iconst (v := -1) dX4_line_217 (by decide) ?_
              refine X.icmp_eq (tgt := 225) dX4_line_218 (by decide) (fun c218 => ?_) (fun c218 => ?_)
              · have hf := if_t c218 hf
                refine X.iconst (v := 0) dX4_line_225 (by decide) ?_
                refine X.sub [1] (L' := [(0, .ref m0)]) rfl ?_
                exact m_line_226_ok _ _ _ _ _ hf h N Z
              · have hf := if_f c218 hf
                refine X.iconst (v := 1) dX4_line_221 (by decide) ?_
                refine X.goto (tgt := 226) dX4_line_222 (by decide) ?_
                refine X.sub [1] (L' := [(0, .ref m0)]) rfl ?_
                exact m_line_226_ok _ _ _ _ _ hf h N Z
          · have hf := if_t c173 hf
            refine X.aload_n dX4_line_176 rfl 1 rfl ?_
            refine X.iconst (v := 0) dX4_line_177 (by decide) ?_
            refine X.iconst (v := 0) dX4_line_178 (by decide) ?_
            refine X.aload_n dX4_line_179 rfl 1 rfl ?_
            refine M.get (v := .int (S.1 28)) dX4_line_180 fX4_253 (Nat.le_of_ble_eq_true rfl) rfl ?_
            refine X.if_le (tgt := 190) dX4_line_183 (by decide) (fun c183 => ?_) (fun c183 => ?_)
            · have hf := if_t c183 hf
              refine X.iconst (v := 0) dX4_line_190 (by decide) ?_
              refine X.sub [1] (L' := [(0, .ref m0)]) rfl ?_
              exact m_line_191_ok _ _ _ _ _ hf h N Z
            · have hf := if_f c183 hf
              refine X.iconst (v := 1) dX4_line_186 (by decide) ?_
              refine X.goto (tgt := 191) dX4_line_187 (by decide) ?_
              refine X.sub [1] (L' := [(0, .ref m0)]) rfl ?_
              exact m_line_191_ok _ _ _ _ _ hf h N Z
        · have hf := if_t c151 hf
          refine X.aload_n dX4_line_154 rfl 1 rfl ?_
          refine X.iconst (v := 0) dX4_line_155 (by decide) ?_
          refine X.iconst (v := 0) dX4_line_156 (by decide) ?_
          refine X.iconst (v := 0) dX4_line_157 (by decide) ?_
          obtain ⟨q158, h158, hf⟩ := ob hf
          refine X.callVi (As := [.int (0 : Int32), .int (0 : Int32), .int (0 : Int32)]) (rest := []) (T2 := (mh m0 h q158.2, N, Z)) dX4_line_158 (w_begins h158 h N Z) cX4_259 rfl rfl (Nat.le_of_ble_eq_true rfl) mh_0 rfl rfl (xD (Nat.le_of_ble_eq_true rfl)) xleN xleN ?_
          refine X.if_eq (tgt := 384) dX4_line_161 (by decide) (fun c161 => ?_) (fun c161 => ?_)
          · have hf := if_t c161 hf
            refine X.sub [1] (L' := [(0, .ref m0)]) rfl ?_
            exact m_line_384_ok _ _ hf h N Z
          · have hf := if_f c161 hf
            refine X.aload_n dX4_line_164 rfl 1 rfl ?_
            obtain ⟨q165, h165, hf⟩ := ob hf
            refine X.callVv (As := []) (rest := []) (T2 := (mh m0 h q165, N, Z)) dX4_line_165 (w_readsMould h165 h N Z) cX4_266 rfl rfl (Nat.le_of_ble_eq_true rfl) mh_0 rfl rfl (xD (Nat.le_of_ble_eq_true rfl)) xleN xleN ?_
            refine X.goto (tgt := 384) dX4_line_168 (by decide) ?_
            refine X.sub [1] (L' := [(0, .ref m0)]) rfl ?_
            exact m_line_384_ok _ _ hf h N Z
      · have hf := if_t c128 hf
        refine X.aload_n dX4_line_131 rfl 1 rfl ?_
        refine X.iconst (v := 0) dX4_line_132 (by decide) ?_
        refine X.iconst (v := 0) dX4_line_133 (by decide) ?_
        refine X.iconst (v := 0) dX4_line_134 (by decide) ?_
        obtain ⟨q135, h135, hf⟩ := ob hf
        refine X.callVi (As := [.int (0 : Int32), .int (0 : Int32), .int (0 : Int32)]) (rest := []) (T2 := (mh m0 h q135.2, N, Z)) dX4_line_135 (w_begins h135 h N Z) cX4_259 rfl rfl (Nat.le_of_ble_eq_true rfl) mh_0 rfl rfl (xD (Nat.le_of_ble_eq_true rfl)) xleN xleN ?_
        refine X.if_eq (tgt := 384) dX4_line_138 (by decide) (fun c138 => ?_) (fun c138 => ?_)
        · have hf := if_t c138 hf
          refine X.sub [1] (L' := [(0, .ref m0)]) rfl ?_
          exact m_line_384_ok _ _ hf h N Z
        · have hf := if_f c138 hf
          refine X.aload_n dX4_line_141 rfl 1 rfl ?_
          obtain ⟨q142, h142, hf⟩ := ob hf
          refine X.callVv (As := []) (rest := []) (T2 := (mh m0 h q142, N, Z)) dX4_line_142 (w_readsCell h142 h N Z) cX4_263 rfl rfl (Nat.le_of_ble_eq_true rfl) mh_0 rfl rfl (xD (Nat.le_of_ble_eq_true rfl)) xleN xleN ?_
          refine X.goto (tgt := 384) dX4_line_145 (by decide) ?_
          refine X.sub [1] (L' := [(0, .ref m0)]) rfl ?_
          exact m_line_384_ok _ _ hf h N Z
    · have hf := if_t c65 hf
      refine X.aload_n dX4_line_68 rfl 1 rfl ?_
      refine X.aload_n dX4_line_69 rfl 1 rfl ?_
      refine M.get (v := .int (S.1 27)) dX4_line_70 fX4_250 (Nat.le_of_ble_eq_true rfl) rfl ?_
      refine X.iconst (v := 4) dX4_line_73 (by decide) ?_
      refine X.icmp_ne (tgt := 81) dX4_line_74 (by decide) (fun c74 => ?_) (fun c74 => ?_)
      · have hf := if_f c74 hf
        refine X.iconst (v := 0) dX4_line_81 (by decide) ?_
        refine X.sub [1] (L' := [(0, .ref m0)]) rfl ?_
        exact m_line_82_ok _ _ _ hf h N Z
      · have hf := if_t c74 hf
        refine X.iconst (v := 1) dX4_line_77 (by decide) ?_
        refine X.goto (tgt := 82) dX4_line_78 (by decide) ?_
        refine X.sub [1] (L' := [(0, .ref m0)]) rfl ?_
        exact m_line_82_ok _ _ _ hf h N Z
  · have hf := if_t c8 hf
    refine X.aload_n dX4_line_11 rfl 1 rfl ?_
    refine X.iconst (v := 0) dX4_line_12 (by decide) ?_
    refine X.aload_n dX4_line_13 rfl 1 rfl ?_
    obtain ⟨q14, h14, hf⟩ := ob hf
    refine X.callVi (As := []) (rest := [.int (0 : Int32), .ref m0]) dX4_line_14 (w_hasAny h14 h N Z) cX4_256 rfl rfl (Nat.le_of_ble_eq_true rfl) mh_0 rfl rfl (xD (Nat.le_of_ble_eq_true rfl)) xleN xleN ?_
    refine X.aload_n dX4_line_17 rfl 1 rfl ?_
    refine M.get (v := .int (S.1 25)) dX4_line_18 fX4_234 (Nat.le_of_ble_eq_true rfl) rfl ?_
    refine X.iconst (v := -1) dX4_line_21 (by decide) ?_
    refine X.icmp_eq (tgt := 29) dX4_line_22 (by decide) (fun c22 => ?_) (fun c22 => ?_)
    · have hf := if_t c22 hf
      refine X.iconst (v := 0) dX4_line_29 (by decide) ?_
      refine X.sub [1] (L' := [(0, .ref m0)]) rfl ?_
      exact m_line_30_ok _ _ _ _ _ hf h N Z
    · have hf := if_f c22 hf
      refine X.iconst (v := 1) dX4_line_25 (by decide) ?_
      refine X.goto (tgt := 30) dX4_line_26 (by decide) ?_
      refine X.sub [1] (L' := [(0, .ref m0)]) rfl ?_
      exact m_line_30_ok _ _ _ _ _ hf h N Z
theorem cX4_294 : xCV RX4 294 mX4_line 0 := ⟨lw_V q1795 q1797 qs58 q127 q1798, rfl, ⟨by decide +kernel, by decide +kernel, by decide +kernel⟩, Nat.le_of_ble_eq_true rfl⟩
/-! roll -/
abbrev cX4_roll : ByteArray := prog_12_method_43_code
def yX4_roll : MethodName := ⟨RX4, "roll", "(I)I"⟩
def dkwX4_roll_16 : List UInt8 := [172]
abbrev dktX4_roll_16 : List UInt8 := dkwX4_roll_16 ++ []
def dkwX4_roll_15 : List UInt8 := [46, 79, 132, 2, 1, 167, 255, 235, 42, 3, 181, 1, 51, 42, 3, 181, 1, 54, 42, 3, 181, 1, 57, 3]
abbrev dktX4_roll_15 : List UInt8 := dkwX4_roll_15 ++ dktX4_roll_16
def dkwX4_roll_14 : List UInt8 := [180, 0, 35, 182, 1, 47, 3, 61, 28, 16, 121, 162, 0, 21, 42, 180, 0, 69, 28, 42, 180, 0, 53, 28]
abbrev dktX4_roll_14 : List UInt8 := dkwX4_roll_14 ++ dktX4_roll_15
def dkwX4_roll_13 : List UInt8 := [180, 0, 28, 182, 1, 47, 42, 42, 180, 0, 50, 42, 180, 0, 32, 182, 1, 47, 42, 42, 180, 0, 56, 42]
abbrev dktX4_roll_13 : List UInt8 := dkwX4_roll_13 ++ dktX4_roll_14
def dkwX4_roll_12 : List UInt8 := [42, 42, 180, 1, 22, 181, 0, 22, 42, 42, 180, 1, 28, 181, 0, 25, 42, 42, 180, 0, 47, 42]
abbrev dktX4_roll_12 : List UInt8 := dkwX4_roll_12 ++ dktX4_roll_13
def dkwX4_roll_11 : List UInt8 := [181, 0, 16, 42, 42, 180, 1, 19, 2, 160, 0, 8, 16, 6, 167, 0, 7, 42, 180, 1, 19, 181, 0, 19]
abbrev dktX4_roll_11 : List UInt8 := dkwX4_roll_11 ++ dktX4_roll_12
def dkwX4_roll_10 : List UInt8 := [180, 0, 253, 181, 1, 44, 42, 42, 180, 1, 16, 2, 160, 0, 8, 16, 9, 167, 0, 7, 42, 180, 1, 16]
abbrev dktX4_roll_10 : List UInt8 := dkwX4_roll_10 ++ dktX4_roll_11
def dkwX4_roll_9 : List UInt8 := [160, 0, 7, 6, 167, 0, 7, 42, 180, 0, 237, 181, 0, 13, 42, 42, 180, 0, 250, 181, 1, 41, 42, 42]
abbrev dktX4_roll_9 : List UInt8 := dkwX4_roll_9 ++ dktX4_roll_10
def dkwX4_roll_8 : List UInt8 := [180, 0, 234, 2, 160, 0, 7, 6, 167, 0, 7, 42, 180, 0, 234, 181, 0, 7, 42, 42, 180, 0, 234, 2]
abbrev dktX4_roll_8 : List UInt8 := dkwX4_roll_8 ++ dktX4_roll_9
def dkwX4_roll_7 : List UInt8 := [42, 182, 0, 174, 154, 0, 18, 42, 180, 0, 44, 3, 92, 46, 4, 96, 79, 42, 180, 0, 171, 172, 42, 42]
abbrev dktX4_roll_7 : List UInt8 := dkwX4_roll_7 ++ dktX4_roll_8
def dkwX4_roll_6 : List UInt8 := [182, 0, 178, 42, 182, 0, 174, 153, 0, 17, 42, 180, 0, 148, 153, 0, 10, 42, 182, 1, 38, 167, 255, 238]
abbrev dktX4_roll_6 : List UInt8 := dkwX4_roll_6 ++ dktX4_roll_7
def dkwX4_roll_5 : List UInt8 := [84, 42, 42, 180, 0, 53, 28, 182, 0, 111, 132, 2, 1, 167, 255, 231, 42, 3, 181, 0, 184, 42]
abbrev dktX4_roll_5 : List UInt8 := dkwX4_roll_5 ++ dktX4_roll_6
def dkwX4_roll_4 : List UInt8 := [181, 1, 28, 42, 180, 0, 53, 3, 3, 79, 3, 61, 28, 16, 30, 162, 0, 25, 42, 180, 0, 66, 28, 3]
abbrev dktX4_roll_4 : List UInt8 := dkwX4_roll_4 ++ dktX4_roll_5
def dkwX4_roll_3 : List UInt8 := [42, 3, 181, 0, 253, 42, 2, 181, 1, 16, 42, 2, 181, 1, 19, 42, 2, 181, 1, 22, 42, 2]
abbrev dktX4_roll_3 : List UInt8 := dkwX4_roll_3 ++ dktX4_roll_4
def dkwX4_roll_2 : List UInt8 := [27, 181, 0, 125, 42, 3, 181, 0, 128, 42, 2, 181, 0, 234, 42, 2, 181, 0, 237, 42, 3, 181, 0, 250]
abbrev dktX4_roll_2 : List UInt8 := dkwX4_roll_2 ++ dktX4_roll_3
def dkwX4_roll_1 : List UInt8 := [182, 1, 34, 154, 0, 5, 3, 172, 42, 3, 181, 0, 118, 42, 2, 181, 0, 41, 42, 3, 181, 0, 171, 42]
abbrev dktX4_roll_1 : List UInt8 := dkwX4_roll_1 ++ dktX4_roll_2
def dkwX4_roll_0 : List UInt8 := [42, 3, 181, 0, 115, 42, 27, 155, 0, 15, 27, 42, 180, 0, 118, 163, 0, 7, 4, 167, 0, 4, 3, 4]
abbrev dktX4_roll_0 : List UInt8 := dkwX4_roll_0 ++ dktX4_roll_1
theorem dksX4_roll_0 : cX4_roll.data.toList.drop 0 = dktX4_roll_0 := by decide +kernel
theorem dksX4_roll_1 : cX4_roll.data.toList.drop 24 = dktX4_roll_1 := dk_seg dksX4_roll_0 24 rfl rfl
theorem dksX4_roll_2 : cX4_roll.data.toList.drop 48 = dktX4_roll_2 := dk_seg dksX4_roll_1 24 rfl rfl
theorem dksX4_roll_3 : cX4_roll.data.toList.drop 72 = dktX4_roll_3 := dk_seg dksX4_roll_2 24 rfl rfl
theorem dksX4_roll_4 : cX4_roll.data.toList.drop 94 = dktX4_roll_4 := dk_seg dksX4_roll_3 22 rfl rfl
theorem dksX4_roll_5 : cX4_roll.data.toList.drop 118 = dktX4_roll_5 := dk_seg dksX4_roll_4 24 rfl rfl
theorem dksX4_roll_6 : cX4_roll.data.toList.drop 140 = dktX4_roll_6 := dk_seg dksX4_roll_5 22 rfl rfl
theorem dksX4_roll_7 : cX4_roll.data.toList.drop 164 = dktX4_roll_7 := dk_seg dksX4_roll_6 24 rfl rfl
theorem dksX4_roll_8 : cX4_roll.data.toList.drop 188 = dktX4_roll_8 := dk_seg dksX4_roll_7 24 rfl rfl
theorem dksX4_roll_9 : cX4_roll.data.toList.drop 212 = dktX4_roll_9 := dk_seg dksX4_roll_8 24 rfl rfl
theorem dksX4_roll_10 : cX4_roll.data.toList.drop 236 = dktX4_roll_10 := dk_seg dksX4_roll_9 24 rfl rfl
theorem dksX4_roll_11 : cX4_roll.data.toList.drop 260 = dktX4_roll_11 := dk_seg dksX4_roll_10 24 rfl rfl
theorem dksX4_roll_12 : cX4_roll.data.toList.drop 284 = dktX4_roll_12 := dk_seg dksX4_roll_11 24 rfl rfl
theorem dksX4_roll_13 : cX4_roll.data.toList.drop 306 = dktX4_roll_13 := dk_seg dksX4_roll_12 22 rfl rfl
theorem dksX4_roll_14 : cX4_roll.data.toList.drop 330 = dktX4_roll_14 := dk_seg dksX4_roll_13 24 rfl rfl
theorem dksX4_roll_15 : cX4_roll.data.toList.drop 354 = dktX4_roll_15 := dk_seg dksX4_roll_14 24 rfl rfl
theorem dksX4_roll_16 : cX4_roll.data.toList.drop 378 = dktX4_roll_16 := dk_seg dksX4_roll_15 24 rfl rfl
theorem dX4_roll_0 : decode cX4_roll 0 = .ok (.aload_n 0, 1) := dk_42 (dk_at dksX4_roll_0 0 rfl rfl)
theorem dX4_roll_1 : decode cX4_roll 1 = .ok (.iconst 0, 1) := dk_3 (dk_at dksX4_roll_0 1 rfl rfl)
theorem dX4_roll_2 : decode cX4_roll 2 = .ok (.putfield 115, 3) := dk_181 0 115 (dk_at dksX4_roll_0 2 rfl rfl)
theorem dX4_roll_5 : decode cX4_roll 5 = .ok (.aload_n 0, 1) := dk_42 (dk_at dksX4_roll_0 5 rfl rfl)
theorem dX4_roll_6 : decode cX4_roll 6 = .ok (.iload_n 1, 1) := dk_27 (dk_at dksX4_roll_0 6 rfl rfl)
theorem dX4_roll_7 : decode cX4_roll 7 = .ok (.ifCond .lt 15, 3) := dk_155 0 15 (dk_at dksX4_roll_0 7 rfl rfl)
theorem dX4_roll_10 : decode cX4_roll 10 = .ok (.iload_n 1, 1) := dk_27 (dk_at dksX4_roll_0 10 rfl rfl)
theorem dX4_roll_11 : decode cX4_roll 11 = .ok (.aload_n 0, 1) := dk_42 (dk_at dksX4_roll_0 11 rfl rfl)
theorem dX4_roll_12 : decode cX4_roll 12 = .ok (.getfield 118, 3) := dk_180 0 118 (dk_at dksX4_roll_0 12 rfl rfl)
theorem dX4_roll_15 : decode cX4_roll 15 = .ok (.if_icmp .gt 7, 3) := dk_163 0 7 (dk_at dksX4_roll_0 15 rfl rfl)
theorem dX4_roll_18 : decode cX4_roll 18 = .ok (.iconst 1, 1) := dk_4 (dk_at dksX4_roll_0 18 rfl rfl)
theorem dX4_roll_19 : decode cX4_roll 19 = .ok (.goto 4, 3) := dk_167 0 4 (dk_at dksX4_roll_0 19 rfl rfl)
theorem dX4_roll_22 : decode cX4_roll 22 = .ok (.iconst 0, 1) := dk_3 (dk_at dksX4_roll_0 22 rfl rfl)
theorem dX4_roll_23 : decode cX4_roll 23 = .ok (.iconst 1, 1) := dk_4 (dk_at dksX4_roll_0 23 rfl rfl)
theorem dX4_roll_24 : decode cX4_roll 24 = .ok (.invokevirtual 290, 3) := dk_182 1 34 (dk_at dksX4_roll_1 0 rfl rfl)
theorem dX4_roll_27 : decode cX4_roll 27 = .ok (.ifCond .ne 5, 3) := dk_154 0 5 (dk_at dksX4_roll_1 3 rfl rfl)
theorem dX4_roll_30 : decode cX4_roll 30 = .ok (.iconst 0, 1) := dk_3 (dk_at dksX4_roll_1 6 rfl rfl)
theorem dX4_roll_31 : decode cX4_roll 31 = .ok (.ireturn, 1) := dk_172 (dk_at dksX4_roll_1 7 rfl rfl)
theorem dX4_roll_32 : decode cX4_roll 32 = .ok (.aload_n 0, 1) := dk_42 (dk_at dksX4_roll_1 8 rfl rfl)
theorem dX4_roll_33 : decode cX4_roll 33 = .ok (.iconst 0, 1) := dk_3 (dk_at dksX4_roll_1 9 rfl rfl)
theorem dX4_roll_34 : decode cX4_roll 34 = .ok (.putfield 118, 3) := dk_181 0 118 (dk_at dksX4_roll_1 10 rfl rfl)
theorem dX4_roll_37 : decode cX4_roll 37 = .ok (.aload_n 0, 1) := dk_42 (dk_at dksX4_roll_1 13 rfl rfl)
theorem dX4_roll_38 : decode cX4_roll 38 = .ok (.iconst (-1), 1) := dk_2 (dk_at dksX4_roll_1 14 rfl rfl)
theorem dX4_roll_39 : decode cX4_roll 39 = .ok (.putfield 41, 3) := dk_181 0 41 (dk_at dksX4_roll_1 15 rfl rfl)
theorem dX4_roll_42 : decode cX4_roll 42 = .ok (.aload_n 0, 1) := dk_42 (dk_at dksX4_roll_1 18 rfl rfl)
theorem dX4_roll_43 : decode cX4_roll 43 = .ok (.iconst 0, 1) := dk_3 (dk_at dksX4_roll_1 19 rfl rfl)
theorem dX4_roll_44 : decode cX4_roll 44 = .ok (.putfield 171, 3) := dk_181 0 171 (dk_at dksX4_roll_1 20 rfl rfl)
theorem dX4_roll_47 : decode cX4_roll 47 = .ok (.aload_n 0, 1) := dk_42 (dk_at dksX4_roll_1 23 rfl rfl)
theorem dX4_roll_48 : decode cX4_roll 48 = .ok (.iload_n 1, 1) := dk_27 (dk_at dksX4_roll_2 0 rfl rfl)
theorem dX4_roll_49 : decode cX4_roll 49 = .ok (.putfield 125, 3) := dk_181 0 125 (dk_at dksX4_roll_2 1 rfl rfl)
theorem dX4_roll_52 : decode cX4_roll 52 = .ok (.aload_n 0, 1) := dk_42 (dk_at dksX4_roll_2 4 rfl rfl)
theorem dX4_roll_53 : decode cX4_roll 53 = .ok (.iconst 0, 1) := dk_3 (dk_at dksX4_roll_2 5 rfl rfl)
theorem dX4_roll_54 : decode cX4_roll 54 = .ok (.putfield 128, 3) := dk_181 0 128 (dk_at dksX4_roll_2 6 rfl rfl)
theorem dX4_roll_57 : decode cX4_roll 57 = .ok (.aload_n 0, 1) := dk_42 (dk_at dksX4_roll_2 9 rfl rfl)
theorem dX4_roll_58 : decode cX4_roll 58 = .ok (.iconst (-1), 1) := dk_2 (dk_at dksX4_roll_2 10 rfl rfl)
theorem dX4_roll_59 : decode cX4_roll 59 = .ok (.putfield 234, 3) := dk_181 0 234 (dk_at dksX4_roll_2 11 rfl rfl)
theorem dX4_roll_62 : decode cX4_roll 62 = .ok (.aload_n 0, 1) := dk_42 (dk_at dksX4_roll_2 14 rfl rfl)
theorem dX4_roll_63 : decode cX4_roll 63 = .ok (.iconst (-1), 1) := dk_2 (dk_at dksX4_roll_2 15 rfl rfl)
theorem dX4_roll_64 : decode cX4_roll 64 = .ok (.putfield 237, 3) := dk_181 0 237 (dk_at dksX4_roll_2 16 rfl rfl)
theorem dX4_roll_67 : decode cX4_roll 67 = .ok (.aload_n 0, 1) := dk_42 (dk_at dksX4_roll_2 19 rfl rfl)
theorem dX4_roll_68 : decode cX4_roll 68 = .ok (.iconst 0, 1) := dk_3 (dk_at dksX4_roll_2 20 rfl rfl)
theorem dX4_roll_69 : decode cX4_roll 69 = .ok (.putfield 250, 3) := dk_181 0 250 (dk_at dksX4_roll_2 21 rfl rfl)
theorem dX4_roll_72 : decode cX4_roll 72 = .ok (.aload_n 0, 1) := dk_42 (dk_at dksX4_roll_3 0 rfl rfl)
theorem dX4_roll_73 : decode cX4_roll 73 = .ok (.iconst 0, 1) := dk_3 (dk_at dksX4_roll_3 1 rfl rfl)
theorem dX4_roll_74 : decode cX4_roll 74 = .ok (.putfield 253, 3) := dk_181 0 253 (dk_at dksX4_roll_3 2 rfl rfl)
theorem dX4_roll_77 : decode cX4_roll 77 = .ok (.aload_n 0, 1) := dk_42 (dk_at dksX4_roll_3 5 rfl rfl)
theorem dX4_roll_78 : decode cX4_roll 78 = .ok (.iconst (-1), 1) := dk_2 (dk_at dksX4_roll_3 6 rfl rfl)
theorem dX4_roll_79 : decode cX4_roll 79 = .ok (.putfield 272, 3) := dk_181 1 16 (dk_at dksX4_roll_3 7 rfl rfl)
theorem dX4_roll_82 : decode cX4_roll 82 = .ok (.aload_n 0, 1) := dk_42 (dk_at dksX4_roll_3 10 rfl rfl)
theorem dX4_roll_83 : decode cX4_roll 83 = .ok (.iconst (-1), 1) := dk_2 (dk_at dksX4_roll_3 11 rfl rfl)
theorem dX4_roll_84 : decode cX4_roll 84 = .ok (.putfield 275, 3) := dk_181 1 19 (dk_at dksX4_roll_3 12 rfl rfl)
theorem dX4_roll_87 : decode cX4_roll 87 = .ok (.aload_n 0, 1) := dk_42 (dk_at dksX4_roll_3 15 rfl rfl)
theorem dX4_roll_88 : decode cX4_roll 88 = .ok (.iconst (-1), 1) := dk_2 (dk_at dksX4_roll_3 16 rfl rfl)
theorem dX4_roll_89 : decode cX4_roll 89 = .ok (.putfield 278, 3) := dk_181 1 22 (dk_at dksX4_roll_3 17 rfl rfl)
theorem dX4_roll_92 : decode cX4_roll 92 = .ok (.aload_n 0, 1) := dk_42 (dk_at dksX4_roll_3 20 rfl rfl)
theorem dX4_roll_93 : decode cX4_roll 93 = .ok (.iconst (-1), 1) := dk_2 (dk_at dksX4_roll_3 21 rfl rfl)
theorem dX4_roll_94 : decode cX4_roll 94 = .ok (.putfield 284, 3) := dk_181 1 28 (dk_at dksX4_roll_4 0 rfl rfl)
theorem dX4_roll_97 : decode cX4_roll 97 = .ok (.aload_n 0, 1) := dk_42 (dk_at dksX4_roll_4 3 rfl rfl)
theorem dX4_roll_98 : decode cX4_roll 98 = .ok (.getfield 53, 3) := dk_180 0 53 (dk_at dksX4_roll_4 4 rfl rfl)
theorem dX4_roll_101 : decode cX4_roll 101 = .ok (.iconst 0, 1) := dk_3 (dk_at dksX4_roll_4 7 rfl rfl)
theorem dX4_roll_102 : decode cX4_roll 102 = .ok (.iconst 0, 1) := dk_3 (dk_at dksX4_roll_4 8 rfl rfl)
theorem dX4_roll_103 : decode cX4_roll 103 = .ok (.iastore, 1) := dk_79 (dk_at dksX4_roll_4 9 rfl rfl)
theorem dX4_roll_104 : decode cX4_roll 104 = .ok (.iconst 0, 1) := dk_3 (dk_at dksX4_roll_4 10 rfl rfl)
theorem dX4_roll_105 : decode cX4_roll 105 = .ok (.istore_n 2, 1) := dk_61 (dk_at dksX4_roll_4 11 rfl rfl)
theorem dX4_roll_106 : decode cX4_roll 106 = .ok (.iload_n 2, 1) := dk_28 (dk_at dksX4_roll_4 12 rfl rfl)
theorem dX4_roll_107 : decode cX4_roll 107 = .ok (.bipush 30, 2) := dk_16 30 (dk_at dksX4_roll_4 13 rfl rfl)
theorem dX4_roll_109 : decode cX4_roll 109 = .ok (.if_icmp .ge 25, 3) := dk_162 0 25 (dk_at dksX4_roll_4 15 rfl rfl)
theorem dX4_roll_112 : decode cX4_roll 112 = .ok (.aload_n 0, 1) := dk_42 (dk_at dksX4_roll_4 18 rfl rfl)
theorem dX4_roll_113 : decode cX4_roll 113 = .ok (.getfield 66, 3) := dk_180 0 66 (dk_at dksX4_roll_4 19 rfl rfl)
theorem dX4_roll_116 : decode cX4_roll 116 = .ok (.iload_n 2, 1) := dk_28 (dk_at dksX4_roll_4 22 rfl rfl)
theorem dX4_roll_117 : decode cX4_roll 117 = .ok (.iconst 0, 1) := dk_3 (dk_at dksX4_roll_4 23 rfl rfl)
theorem dX4_roll_118 : decode cX4_roll 118 = .ok (.bastore, 1) := dk_84 (dk_at dksX4_roll_5 0 rfl rfl)
theorem dX4_roll_119 : decode cX4_roll 119 = .ok (.aload_n 0, 1) := dk_42 (dk_at dksX4_roll_5 1 rfl rfl)
theorem dX4_roll_120 : decode cX4_roll 120 = .ok (.aload_n 0, 1) := dk_42 (dk_at dksX4_roll_5 2 rfl rfl)
theorem dX4_roll_121 : decode cX4_roll 121 = .ok (.getfield 53, 3) := dk_180 0 53 (dk_at dksX4_roll_5 3 rfl rfl)
theorem dX4_roll_124 : decode cX4_roll 124 = .ok (.iload_n 2, 1) := dk_28 (dk_at dksX4_roll_5 6 rfl rfl)
theorem dX4_roll_125 : decode cX4_roll 125 = .ok (.invokevirtual 111, 3) := dk_182 0 111 (dk_at dksX4_roll_5 7 rfl rfl)
theorem dX4_roll_128 : decode cX4_roll 128 = .ok (.iinc 2 1, 3) := dk_132 2 1 (dk_at dksX4_roll_5 10 rfl rfl)
theorem dX4_roll_131 : decode cX4_roll 131 = .ok (.goto (-25), 3) := dk_167 255 231 (dk_at dksX4_roll_5 13 rfl rfl)
theorem dX4_roll_134 : decode cX4_roll 134 = .ok (.aload_n 0, 1) := dk_42 (dk_at dksX4_roll_5 16 rfl rfl)
theorem dX4_roll_135 : decode cX4_roll 135 = .ok (.iconst 0, 1) := dk_3 (dk_at dksX4_roll_5 17 rfl rfl)
theorem dX4_roll_136 : decode cX4_roll 136 = .ok (.putfield 184, 3) := dk_181 0 184 (dk_at dksX4_roll_5 18 rfl rfl)
theorem dX4_roll_139 : decode cX4_roll 139 = .ok (.aload_n 0, 1) := dk_42 (dk_at dksX4_roll_5 21 rfl rfl)
theorem dX4_roll_140 : decode cX4_roll 140 = .ok (.invokevirtual 178, 3) := dk_182 0 178 (dk_at dksX4_roll_6 0 rfl rfl)
theorem dX4_roll_143 : decode cX4_roll 143 = .ok (.aload_n 0, 1) := dk_42 (dk_at dksX4_roll_6 3 rfl rfl)
theorem dX4_roll_144 : decode cX4_roll 144 = .ok (.invokevirtual 174, 3) := dk_182 0 174 (dk_at dksX4_roll_6 4 rfl rfl)
theorem dX4_roll_147 : decode cX4_roll 147 = .ok (.ifCond .eq 17, 3) := dk_153 0 17 (dk_at dksX4_roll_6 7 rfl rfl)
theorem dX4_roll_150 : decode cX4_roll 150 = .ok (.aload_n 0, 1) := dk_42 (dk_at dksX4_roll_6 10 rfl rfl)
theorem dX4_roll_151 : decode cX4_roll 151 = .ok (.getfield 148, 3) := dk_180 0 148 (dk_at dksX4_roll_6 11 rfl rfl)
theorem dX4_roll_154 : decode cX4_roll 154 = .ok (.ifCond .eq 10, 3) := dk_153 0 10 (dk_at dksX4_roll_6 14 rfl rfl)
theorem dX4_roll_157 : decode cX4_roll 157 = .ok (.aload_n 0, 1) := dk_42 (dk_at dksX4_roll_6 17 rfl rfl)
theorem dX4_roll_158 : decode cX4_roll 158 = .ok (.invokevirtual 294, 3) := dk_182 1 38 (dk_at dksX4_roll_6 18 rfl rfl)
theorem dX4_roll_161 : decode cX4_roll 161 = .ok (.goto (-18), 3) := dk_167 255 238 (dk_at dksX4_roll_6 21 rfl rfl)
theorem dX4_roll_164 : decode cX4_roll 164 = .ok (.aload_n 0, 1) := dk_42 (dk_at dksX4_roll_7 0 rfl rfl)
theorem dX4_roll_165 : decode cX4_roll 165 = .ok (.invokevirtual 174, 3) := dk_182 0 174 (dk_at dksX4_roll_7 1 rfl rfl)
theorem dX4_roll_168 : decode cX4_roll 168 = .ok (.ifCond .ne 18, 3) := dk_154 0 18 (dk_at dksX4_roll_7 4 rfl rfl)
theorem dX4_roll_171 : decode cX4_roll 171 = .ok (.aload_n 0, 1) := dk_42 (dk_at dksX4_roll_7 7 rfl rfl)
theorem dX4_roll_172 : decode cX4_roll 172 = .ok (.getfield 44, 3) := dk_180 0 44 (dk_at dksX4_roll_7 8 rfl rfl)
theorem dX4_roll_175 : decode cX4_roll 175 = .ok (.iconst 0, 1) := dk_3 (dk_at dksX4_roll_7 11 rfl rfl)
theorem dX4_roll_176 : decode cX4_roll 176 = .ok (.dup2, 1) := dk_92 (dk_at dksX4_roll_7 12 rfl rfl)
theorem dX4_roll_177 : decode cX4_roll 177 = .ok (.iaload, 1) := dk_46 (dk_at dksX4_roll_7 13 rfl rfl)
theorem dX4_roll_178 : decode cX4_roll 178 = .ok (.iconst 1, 1) := dk_4 (dk_at dksX4_roll_7 14 rfl rfl)
theorem dX4_roll_179 : decode cX4_roll 179 = .ok (.iadd, 1) := dk_96 (dk_at dksX4_roll_7 15 rfl rfl)
theorem dX4_roll_180 : decode cX4_roll 180 = .ok (.iastore, 1) := dk_79 (dk_at dksX4_roll_7 16 rfl rfl)
theorem dX4_roll_181 : decode cX4_roll 181 = .ok (.aload_n 0, 1) := dk_42 (dk_at dksX4_roll_7 17 rfl rfl)
theorem dX4_roll_182 : decode cX4_roll 182 = .ok (.getfield 171, 3) := dk_180 0 171 (dk_at dksX4_roll_7 18 rfl rfl)
theorem dX4_roll_185 : decode cX4_roll 185 = .ok (.ireturn, 1) := dk_172 (dk_at dksX4_roll_7 21 rfl rfl)
theorem dX4_roll_186 : decode cX4_roll 186 = .ok (.aload_n 0, 1) := dk_42 (dk_at dksX4_roll_7 22 rfl rfl)
theorem dX4_roll_187 : decode cX4_roll 187 = .ok (.aload_n 0, 1) := dk_42 (dk_at dksX4_roll_7 23 rfl rfl)
theorem dX4_roll_188 : decode cX4_roll 188 = .ok (.getfield 234, 3) := dk_180 0 234 (dk_at dksX4_roll_8 0 rfl rfl)
theorem dX4_roll_191 : decode cX4_roll 191 = .ok (.iconst (-1), 1) := dk_2 (dk_at dksX4_roll_8 3 rfl rfl)
theorem dX4_roll_192 : decode cX4_roll 192 = .ok (.if_icmp .ne 7, 3) := dk_160 0 7 (dk_at dksX4_roll_8 4 rfl rfl)
theorem dX4_roll_195 : decode cX4_roll 195 = .ok (.iconst 3, 1) := dk_6 (dk_at dksX4_roll_8 7 rfl rfl)
theorem dX4_roll_196 : decode cX4_roll 196 = .ok (.goto 7, 3) := dk_167 0 7 (dk_at dksX4_roll_8 8 rfl rfl)
theorem dX4_roll_199 : decode cX4_roll 199 = .ok (.aload_n 0, 1) := dk_42 (dk_at dksX4_roll_8 11 rfl rfl)
theorem dX4_roll_200 : decode cX4_roll 200 = .ok (.getfield 234, 3) := dk_180 0 234 (dk_at dksX4_roll_8 12 rfl rfl)
theorem dX4_roll_203 : decode cX4_roll 203 = .ok (.putfield 7, 3) := dk_181 0 7 (dk_at dksX4_roll_8 15 rfl rfl)
theorem dX4_roll_206 : decode cX4_roll 206 = .ok (.aload_n 0, 1) := dk_42 (dk_at dksX4_roll_8 18 rfl rfl)
theorem dX4_roll_207 : decode cX4_roll 207 = .ok (.aload_n 0, 1) := dk_42 (dk_at dksX4_roll_8 19 rfl rfl)
theorem dX4_roll_208 : decode cX4_roll 208 = .ok (.getfield 234, 3) := dk_180 0 234 (dk_at dksX4_roll_8 20 rfl rfl)
theorem dX4_roll_211 : decode cX4_roll 211 = .ok (.iconst (-1), 1) := dk_2 (dk_at dksX4_roll_8 23 rfl rfl)
theorem dX4_roll_212 : decode cX4_roll 212 = .ok (.if_icmp .ne 7, 3) := dk_160 0 7 (dk_at dksX4_roll_9 0 rfl rfl)
theorem dX4_roll_215 : decode cX4_roll 215 = .ok (.iconst 3, 1) := dk_6 (dk_at dksX4_roll_9 3 rfl rfl)
theorem dX4_roll_216 : decode cX4_roll 216 = .ok (.goto 7, 3) := dk_167 0 7 (dk_at dksX4_roll_9 4 rfl rfl)
theorem dX4_roll_219 : decode cX4_roll 219 = .ok (.aload_n 0, 1) := dk_42 (dk_at dksX4_roll_9 7 rfl rfl)
theorem dX4_roll_220 : decode cX4_roll 220 = .ok (.getfield 237, 3) := dk_180 0 237 (dk_at dksX4_roll_9 8 rfl rfl)
theorem dX4_roll_223 : decode cX4_roll 223 = .ok (.putfield 13, 3) := dk_181 0 13 (dk_at dksX4_roll_9 11 rfl rfl)
theorem dX4_roll_226 : decode cX4_roll 226 = .ok (.aload_n 0, 1) := dk_42 (dk_at dksX4_roll_9 14 rfl rfl)
theorem dX4_roll_227 : decode cX4_roll 227 = .ok (.aload_n 0, 1) := dk_42 (dk_at dksX4_roll_9 15 rfl rfl)
theorem dX4_roll_228 : decode cX4_roll 228 = .ok (.getfield 250, 3) := dk_180 0 250 (dk_at dksX4_roll_9 16 rfl rfl)
theorem dX4_roll_231 : decode cX4_roll 231 = .ok (.putfield 297, 3) := dk_181 1 41 (dk_at dksX4_roll_9 19 rfl rfl)
theorem dX4_roll_234 : decode cX4_roll 234 = .ok (.aload_n 0, 1) := dk_42 (dk_at dksX4_roll_9 22 rfl rfl)
theorem dX4_roll_235 : decode cX4_roll 235 = .ok (.aload_n 0, 1) := dk_42 (dk_at dksX4_roll_9 23 rfl rfl)
theorem dX4_roll_236 : decode cX4_roll 236 = .ok (.getfield 253, 3) := dk_180 0 253 (dk_at dksX4_roll_10 0 rfl rfl)
theorem dX4_roll_239 : decode cX4_roll 239 = .ok (.putfield 300, 3) := dk_181 1 44 (dk_at dksX4_roll_10 3 rfl rfl)
theorem dX4_roll_242 : decode cX4_roll 242 = .ok (.aload_n 0, 1) := dk_42 (dk_at dksX4_roll_10 6 rfl rfl)
theorem dX4_roll_243 : decode cX4_roll 243 = .ok (.aload_n 0, 1) := dk_42 (dk_at dksX4_roll_10 7 rfl rfl)
theorem dX4_roll_244 : decode cX4_roll 244 = .ok (.getfield 272, 3) := dk_180 1 16 (dk_at dksX4_roll_10 8 rfl rfl)
theorem dX4_roll_247 : decode cX4_roll 247 = .ok (.iconst (-1), 1) := dk_2 (dk_at dksX4_roll_10 11 rfl rfl)
theorem dX4_roll_248 : decode cX4_roll 248 = .ok (.if_icmp .ne 8, 3) := dk_160 0 8 (dk_at dksX4_roll_10 12 rfl rfl)
theorem dX4_roll_251 : decode cX4_roll 251 = .ok (.bipush 9, 2) := dk_16 9 (dk_at dksX4_roll_10 15 rfl rfl)
theorem dX4_roll_253 : decode cX4_roll 253 = .ok (.goto 7, 3) := dk_167 0 7 (dk_at dksX4_roll_10 17 rfl rfl)
theorem dX4_roll_256 : decode cX4_roll 256 = .ok (.aload_n 0, 1) := dk_42 (dk_at dksX4_roll_10 20 rfl rfl)
theorem dX4_roll_257 : decode cX4_roll 257 = .ok (.getfield 272, 3) := dk_180 1 16 (dk_at dksX4_roll_10 21 rfl rfl)
theorem dX4_roll_260 : decode cX4_roll 260 = .ok (.putfield 16, 3) := dk_181 0 16 (dk_at dksX4_roll_11 0 rfl rfl)
theorem dX4_roll_263 : decode cX4_roll 263 = .ok (.aload_n 0, 1) := dk_42 (dk_at dksX4_roll_11 3 rfl rfl)
theorem dX4_roll_264 : decode cX4_roll 264 = .ok (.aload_n 0, 1) := dk_42 (dk_at dksX4_roll_11 4 rfl rfl)
theorem dX4_roll_265 : decode cX4_roll 265 = .ok (.getfield 275, 3) := dk_180 1 19 (dk_at dksX4_roll_11 5 rfl rfl)
theorem dX4_roll_268 : decode cX4_roll 268 = .ok (.iconst (-1), 1) := dk_2 (dk_at dksX4_roll_11 8 rfl rfl)
theorem dX4_roll_269 : decode cX4_roll 269 = .ok (.if_icmp .ne 8, 3) := dk_160 0 8 (dk_at dksX4_roll_11 9 rfl rfl)
theorem dX4_roll_272 : decode cX4_roll 272 = .ok (.bipush 6, 2) := dk_16 6 (dk_at dksX4_roll_11 12 rfl rfl)
theorem dX4_roll_274 : decode cX4_roll 274 = .ok (.goto 7, 3) := dk_167 0 7 (dk_at dksX4_roll_11 14 rfl rfl)
theorem dX4_roll_277 : decode cX4_roll 277 = .ok (.aload_n 0, 1) := dk_42 (dk_at dksX4_roll_11 17 rfl rfl)
theorem dX4_roll_278 : decode cX4_roll 278 = .ok (.getfield 275, 3) := dk_180 1 19 (dk_at dksX4_roll_11 18 rfl rfl)
theorem dX4_roll_281 : decode cX4_roll 281 = .ok (.putfield 19, 3) := dk_181 0 19 (dk_at dksX4_roll_11 21 rfl rfl)
theorem dX4_roll_284 : decode cX4_roll 284 = .ok (.aload_n 0, 1) := dk_42 (dk_at dksX4_roll_12 0 rfl rfl)
theorem dX4_roll_285 : decode cX4_roll 285 = .ok (.aload_n 0, 1) := dk_42 (dk_at dksX4_roll_12 1 rfl rfl)
theorem dX4_roll_286 : decode cX4_roll 286 = .ok (.getfield 278, 3) := dk_180 1 22 (dk_at dksX4_roll_12 2 rfl rfl)
theorem dX4_roll_289 : decode cX4_roll 289 = .ok (.putfield 22, 3) := dk_181 0 22 (dk_at dksX4_roll_12 5 rfl rfl)
theorem dX4_roll_292 : decode cX4_roll 292 = .ok (.aload_n 0, 1) := dk_42 (dk_at dksX4_roll_12 8 rfl rfl)
theorem dX4_roll_293 : decode cX4_roll 293 = .ok (.aload_n 0, 1) := dk_42 (dk_at dksX4_roll_12 9 rfl rfl)
theorem dX4_roll_294 : decode cX4_roll 294 = .ok (.getfield 284, 3) := dk_180 1 28 (dk_at dksX4_roll_12 10 rfl rfl)
theorem dX4_roll_297 : decode cX4_roll 297 = .ok (.putfield 25, 3) := dk_181 0 25 (dk_at dksX4_roll_12 13 rfl rfl)
theorem dX4_roll_300 : decode cX4_roll 300 = .ok (.aload_n 0, 1) := dk_42 (dk_at dksX4_roll_12 16 rfl rfl)
theorem dX4_roll_301 : decode cX4_roll 301 = .ok (.aload_n 0, 1) := dk_42 (dk_at dksX4_roll_12 17 rfl rfl)
theorem dX4_roll_302 : decode cX4_roll 302 = .ok (.getfield 47, 3) := dk_180 0 47 (dk_at dksX4_roll_12 18 rfl rfl)
theorem dX4_roll_305 : decode cX4_roll 305 = .ok (.aload_n 0, 1) := dk_42 (dk_at dksX4_roll_12 21 rfl rfl)
theorem dX4_roll_306 : decode cX4_roll 306 = .ok (.getfield 28, 3) := dk_180 0 28 (dk_at dksX4_roll_13 0 rfl rfl)
theorem dX4_roll_309 : decode cX4_roll 309 = .ok (.invokevirtual 303, 3) := dk_182 1 47 (dk_at dksX4_roll_13 3 rfl rfl)
theorem dX4_roll_312 : decode cX4_roll 312 = .ok (.aload_n 0, 1) := dk_42 (dk_at dksX4_roll_13 6 rfl rfl)
theorem dX4_roll_313 : decode cX4_roll 313 = .ok (.aload_n 0, 1) := dk_42 (dk_at dksX4_roll_13 7 rfl rfl)
theorem dX4_roll_314 : decode cX4_roll 314 = .ok (.getfield 50, 3) := dk_180 0 50 (dk_at dksX4_roll_13 8 rfl rfl)
theorem dX4_roll_317 : decode cX4_roll 317 = .ok (.aload_n 0, 1) := dk_42 (dk_at dksX4_roll_13 11 rfl rfl)
theorem dX4_roll_318 : decode cX4_roll 318 = .ok (.getfield 32, 3) := dk_180 0 32 (dk_at dksX4_roll_13 12 rfl rfl)
theorem dX4_roll_321 : decode cX4_roll 321 = .ok (.invokevirtual 303, 3) := dk_182 1 47 (dk_at dksX4_roll_13 15 rfl rfl)
theorem dX4_roll_324 : decode cX4_roll 324 = .ok (.aload_n 0, 1) := dk_42 (dk_at dksX4_roll_13 18 rfl rfl)
theorem dX4_roll_325 : decode cX4_roll 325 = .ok (.aload_n 0, 1) := dk_42 (dk_at dksX4_roll_13 19 rfl rfl)
theorem dX4_roll_326 : decode cX4_roll 326 = .ok (.getfield 56, 3) := dk_180 0 56 (dk_at dksX4_roll_13 20 rfl rfl)
theorem dX4_roll_329 : decode cX4_roll 329 = .ok (.aload_n 0, 1) := dk_42 (dk_at dksX4_roll_13 23 rfl rfl)
theorem dX4_roll_330 : decode cX4_roll 330 = .ok (.getfield 35, 3) := dk_180 0 35 (dk_at dksX4_roll_14 0 rfl rfl)
theorem dX4_roll_333 : decode cX4_roll 333 = .ok (.invokevirtual 303, 3) := dk_182 1 47 (dk_at dksX4_roll_14 3 rfl rfl)
theorem dX4_roll_336 : decode cX4_roll 336 = .ok (.iconst 0, 1) := dk_3 (dk_at dksX4_roll_14 6 rfl rfl)
theorem dX4_roll_337 : decode cX4_roll 337 = .ok (.istore_n 2, 1) := dk_61 (dk_at dksX4_roll_14 7 rfl rfl)
theorem dX4_roll_338 : decode cX4_roll 338 = .ok (.iload_n 2, 1) := dk_28 (dk_at dksX4_roll_14 8 rfl rfl)
theorem dX4_roll_339 : decode cX4_roll 339 = .ok (.bipush 121, 2) := dk_16 121 (dk_at dksX4_roll_14 9 rfl rfl)
theorem dX4_roll_341 : decode cX4_roll 341 = .ok (.if_icmp .ge 21, 3) := dk_162 0 21 (dk_at dksX4_roll_14 11 rfl rfl)
theorem dX4_roll_344 : decode cX4_roll 344 = .ok (.aload_n 0, 1) := dk_42 (dk_at dksX4_roll_14 14 rfl rfl)
theorem dX4_roll_345 : decode cX4_roll 345 = .ok (.getfield 69, 3) := dk_180 0 69 (dk_at dksX4_roll_14 15 rfl rfl)
theorem dX4_roll_348 : decode cX4_roll 348 = .ok (.iload_n 2, 1) := dk_28 (dk_at dksX4_roll_14 18 rfl rfl)
theorem dX4_roll_349 : decode cX4_roll 349 = .ok (.aload_n 0, 1) := dk_42 (dk_at dksX4_roll_14 19 rfl rfl)
theorem dX4_roll_350 : decode cX4_roll 350 = .ok (.getfield 53, 3) := dk_180 0 53 (dk_at dksX4_roll_14 20 rfl rfl)
theorem dX4_roll_353 : decode cX4_roll 353 = .ok (.iload_n 2, 1) := dk_28 (dk_at dksX4_roll_14 23 rfl rfl)
theorem dX4_roll_354 : decode cX4_roll 354 = .ok (.iaload, 1) := dk_46 (dk_at dksX4_roll_15 0 rfl rfl)
theorem dX4_roll_355 : decode cX4_roll 355 = .ok (.iastore, 1) := dk_79 (dk_at dksX4_roll_15 1 rfl rfl)
theorem dX4_roll_356 : decode cX4_roll 356 = .ok (.iinc 2 1, 3) := dk_132 2 1 (dk_at dksX4_roll_15 2 rfl rfl)
theorem dX4_roll_359 : decode cX4_roll 359 = .ok (.goto (-21), 3) := dk_167 255 235 (dk_at dksX4_roll_15 5 rfl rfl)
theorem dX4_roll_362 : decode cX4_roll 362 = .ok (.aload_n 0, 1) := dk_42 (dk_at dksX4_roll_15 8 rfl rfl)
theorem dX4_roll_363 : decode cX4_roll 363 = .ok (.iconst 0, 1) := dk_3 (dk_at dksX4_roll_15 9 rfl rfl)
theorem dX4_roll_364 : decode cX4_roll 364 = .ok (.putfield 307, 3) := dk_181 1 51 (dk_at dksX4_roll_15 10 rfl rfl)
theorem dX4_roll_367 : decode cX4_roll 367 = .ok (.aload_n 0, 1) := dk_42 (dk_at dksX4_roll_15 13 rfl rfl)
theorem dX4_roll_368 : decode cX4_roll 368 = .ok (.iconst 0, 1) := dk_3 (dk_at dksX4_roll_15 14 rfl rfl)
theorem dX4_roll_369 : decode cX4_roll 369 = .ok (.putfield 310, 3) := dk_181 1 54 (dk_at dksX4_roll_15 15 rfl rfl)
theorem dX4_roll_372 : decode cX4_roll 372 = .ok (.aload_n 0, 1) := dk_42 (dk_at dksX4_roll_15 18 rfl rfl)
theorem dX4_roll_373 : decode cX4_roll 373 = .ok (.iconst 0, 1) := dk_3 (dk_at dksX4_roll_15 19 rfl rfl)
theorem dX4_roll_374 : decode cX4_roll 374 = .ok (.putfield 313, 3) := dk_181 1 57 (dk_at dksX4_roll_15 20 rfl rfl)
theorem dX4_roll_377 : decode cX4_roll 377 = .ok (.iconst 0, 1) := dk_3 (dk_at dksX4_roll_15 23 rfl rfl)
theorem dX4_roll_378 : decode cX4_roll 378 = .ok (.ireturn, 1) := dk_172 (dk_at dksX4_roll_16 0 rfl rfl)
abbrev mX4_roll : xM := (yX4_roll, cX4_roll, 3, (some .int), [])
def m_roll_338_b  (k338 : Int32 → MS → Option (Int32 × MS)) (x2 : Int32) (S : MS) : Option (Int32 × MS) :=
  if (121 : Int32) ≤ x2 then
    some ((0 : Int32), (sF ((sF ((sF S 46 (0 : Int32))) 53 (0 : Int32))) 58 (0 : Int32)))
  else
    (rdA S 8 x2).bind fun v354 =>
    (wrA S 13 x2 v354).bind fun S355 =>
    k338 ((x2 + 1)) S355
def m_roll_338  : Nat → Int32 → MS → Option (Int32 × MS)
  | 0 => fun _ _ => none
  | n + 1 => fun x2 S => m_roll_338_b (m_roll_338 n) x2 S
theorem m_roll_338_bok {G : xG} {m0 : Nat} {S0 : MS}  {k338 : Int32 → MS → Option (Int32 × MS)}  (hk338 : ∀ (x2 : Int32) (S : MS) (q : (Int32 × MS)), k338 x2 S = some q → XM G m0 mX4_roll 8 S0 (some (.int q.1)) q.2 338 [(0, .ref m0), (2, .int x2)] [] S) (x2 : Int32) (S : MS) (q : (Int32 × MS)) (hf : m_roll_338_b k338 x2 S = some q) : XM G m0 mX4_roll 8 S0 (some (.int q.1)) q.2 338 [(0, .ref m0), (2, .int x2)] [] S := by
  intro h N Z
  unfold m_roll_338_b at hf
  refine X.iload_n dX4_roll_338 rfl 1 rfl ?_
  refine X.bipush (v := 121) dX4_roll_339 (by decide) ?_
  refine X.icmp_ge (tgt := 362) dX4_roll_341 (by decide) (fun c341 => ?_) (fun c341 => ?_)
  · have hf := if_t c341 hf
    refine X.aload_n dX4_roll_362 rfl 0 rfl ?_
    refine X.iconst (v := 0) dX4_roll_363 (by decide) ?_
    refine M.putI dX4_roll_364 fX4_307 (by decide) rfl rfl rfl ?_
    refine X.aload_n dX4_roll_367 rfl 0 rfl ?_
    refine X.iconst (v := 0) dX4_roll_368 (by decide) ?_
    refine M.putI dX4_roll_369 fX4_310 (by decide) rfl rfl rfl ?_
    refine X.aload_n dX4_roll_372 rfl 0 rfl ?_
    refine X.iconst (v := 0) dX4_roll_373 (by decide) ?_
    refine M.putI dX4_roll_374 fX4_313 (by decide) rfl rfl rfl ?_
    refine X.iconst (v := 0) dX4_roll_377 (by decide) ?_
    obtain rfl := Option.some.inj hf
    exact X.iret dX4_roll_378 rfl rfl rfl
  · have hf := if_f c341 hf
    refine X.aload_n dX4_roll_344 rfl 0 rfl ?_
    refine M.get (v := .ref (m0 + 13)) dX4_roll_345 fX4_69 (Nat.le_of_ble_eq_true rfl) rfl ?_
    refine X.iload_n dX4_roll_348 rfl 1 rfl ?_
    refine X.aload_n dX4_roll_349 rfl 0 rfl ?_
    refine M.get (v := .ref (m0 + 8)) dX4_roll_350 fX4_53 (Nat.le_of_ble_eq_true rfl) rfl ?_
    refine X.iload_n dX4_roll_353 rfl 1 rfl ?_
    obtain ⟨v354, h354, hf⟩ := ob hf
    refine M.iald dX4_roll_354 rfl h354 ?_
    obtain ⟨S355, h355, hf⟩ := ob hf
    refine M.iast dX4_roll_355 rfl h355 ?_
    refine X.iinc (v := (x2 + 1)) (L' := [(2, .int (x2 + 1)), (0, .ref m0)]) dX4_roll_356 1 rfl rfl (Nat.le_of_ble_eq_true rfl) rfl ?_
    refine X.goto (tgt := 338) dX4_roll_359 (by decide) ?_
    refine X.sub [1, 0] (L' := [(0, .ref m0), (2, .int (x2 + 1))]) rfl ?_
    exact hk338 _ _ _ hf h N Z
theorem m_roll_338_ok {G : xG} {m0 : Nat} {S0 : MS}   : ∀ (n : Nat) (x2 : Int32) (S : MS) (q : (Int32 × MS)), m_roll_338 n x2 S = some q → XM G m0 mX4_roll 8 S0 (some (.int q.1)) q.2 338 [(0, .ref m0), (2, .int x2)] [] S
  | 0, _, _, _, hf => by cases hf
  | n + 1, x2, S, q, hf => m_roll_338_bok (m_roll_338_ok n) x2 S q hf
def m_roll_281  (y0 : Int32) (S : MS) : Option (Int32 × MS) :=
  (m_copies 6 1 ((sF ((sF ((sF S 6 y0)) 7 (((sF S 6 y0)).1 31))) 8 (((sF ((sF S 6 y0)) 7 (((sF S 6 y0)).1 31))).1 32)))).bind fun q309 =>
  (m_copies 7 2 q309).bind fun q321 =>
  (m_copies 9 3 q321).bind fun q333 =>
  m_roll_338 FU ((0 : Int32)) q333
theorem m_roll_281_ok {G : xG} {m0 : Nat} {S0 : MS}   (y0 : Int32) (S : MS) (q : (Int32 × MS)) (hf : m_roll_281 y0 S = some q) : XM G m0 mX4_roll 8 S0 (some (.int q.1)) q.2 281 [(0, .ref m0)] [.int y0, .ref m0] S := by
  intro h N Z
  unfold m_roll_281 at hf
  refine M.putI dX4_roll_281 fX4_19 (by decide) rfl rfl rfl ?_
  refine X.aload_n dX4_roll_284 rfl 0 rfl ?_
  refine X.aload_n dX4_roll_285 rfl 0 rfl ?_
  refine M.get (v := .int (((sF S 6 y0)).1 31)) dX4_roll_286 fX4_278 (Nat.le_of_ble_eq_true rfl) rfl ?_
  refine M.putI dX4_roll_289 fX4_22 (by decide) rfl rfl rfl ?_
  refine X.aload_n dX4_roll_292 rfl 0 rfl ?_
  refine X.aload_n dX4_roll_293 rfl 0 rfl ?_
  refine M.get (v := .int (((sF ((sF S 6 y0)) 7 (((sF S 6 y0)).1 31))).1 32)) dX4_roll_294 fX4_284 (Nat.le_of_ble_eq_true rfl) rfl ?_
  refine M.putI dX4_roll_297 fX4_25 (by decide) rfl rfl rfl ?_
  refine X.aload_n dX4_roll_300 rfl 0 rfl ?_
  refine X.aload_n dX4_roll_301 rfl 0 rfl ?_
  refine M.get (v := .ref (m0 + 6)) dX4_roll_302 fX4_47 (Nat.le_of_ble_eq_true rfl) rfl ?_
  refine X.aload_n dX4_roll_305 rfl 0 rfl ?_
  refine M.get (v := .ref (m0 + 1)) dX4_roll_306 fX4_28 (Nat.le_of_ble_eq_true rfl) rfl ?_
  obtain ⟨q309, h309, hf⟩ := ob hf
  refine X.callVv (As := [.ref (m0 + 6), .ref (m0 + 1)]) (rest := []) (T2 := (mh m0 h q309, N, Z)) dX4_roll_309 (w_copies h309 h N Z) cX4_303 rfl rfl (Nat.le_of_ble_eq_true rfl) mh_0 rfl rfl (xD (Nat.le_of_ble_eq_true rfl)) xleN xleN ?_
  refine X.aload_n dX4_roll_312 rfl 0 rfl ?_
  refine X.aload_n dX4_roll_313 rfl 0 rfl ?_
  refine M.get (v := .ref (m0 + 7)) dX4_roll_314 fX4_50 (Nat.le_of_ble_eq_true rfl) rfl ?_
  refine X.aload_n dX4_roll_317 rfl 0 rfl ?_
  refine M.get (v := .ref (m0 + 2)) dX4_roll_318 fX4_32 (Nat.le_of_ble_eq_true rfl) rfl ?_
  obtain ⟨q321, h321, hf⟩ := ob hf
  refine X.callVv (As := [.ref (m0 + 7), .ref (m0 + 2)]) (rest := []) (T2 := (mh m0 h q321, N, Z)) dX4_roll_321 (w_copies h321 h N Z) cX4_303 rfl rfl (Nat.le_of_ble_eq_true rfl) mh_0 rfl rfl (xD (Nat.le_of_ble_eq_true rfl)) xleN xleN ?_
  refine X.aload_n dX4_roll_324 rfl 0 rfl ?_
  refine X.aload_n dX4_roll_325 rfl 0 rfl ?_
  refine M.get (v := .ref (m0 + 9)) dX4_roll_326 fX4_56 (Nat.le_of_ble_eq_true rfl) rfl ?_
  refine X.aload_n dX4_roll_329 rfl 0 rfl ?_
  refine M.get (v := .ref (m0 + 3)) dX4_roll_330 fX4_35 (Nat.le_of_ble_eq_true rfl) rfl ?_
  obtain ⟨q333, h333, hf⟩ := ob hf
  refine X.callVv (As := [.ref (m0 + 9), .ref (m0 + 3)]) (rest := []) (T2 := (mh m0 h q333, N, Z)) dX4_roll_333 (w_copies h333 h N Z) cX4_303 rfl rfl (Nat.le_of_ble_eq_true rfl) mh_0 rfl rfl (xD (Nat.le_of_ble_eq_true rfl)) xleN xleN ?_
  refine X.iconst (v := 0) dX4_roll_336 (by decide) ?_
  refine X.istore_n (L' := [(2, .int (0 : Int32)), (0, .ref m0)]) dX4_roll_337 rfl (Nat.le_of_ble_eq_true rfl) rfl ?_
  refine X.sub [1, 0] (L' := [(0, .ref m0), (2, .int (0 : Int32))]) rfl ?_
  exact m_roll_338_ok FU _ _ _ hf h N Z
def m_roll_260  (y0 : Int32) (S : MS) : Option (Int32 × MS) :=
  if (((sF S 5 y0)).1 30) = (-1 : Int32) then
    m_roll_281 ((6 : Int32)) ((sF S 5 y0))
  else
    m_roll_281 ((((sF S 5 y0)).1 30)) ((sF S 5 y0))
theorem m_roll_260_ok {G : xG} {m0 : Nat} {S0 : MS}   (y0 : Int32) (S : MS) (q : (Int32 × MS)) (hf : m_roll_260 y0 S = some q) : XM G m0 mX4_roll 8 S0 (some (.int q.1)) q.2 260 [(0, .ref m0)] [.int y0, .ref m0] S := by
  intro h N Z
  unfold m_roll_260 at hf
  refine M.putI dX4_roll_260 fX4_16 (by decide) rfl rfl rfl ?_
  refine X.aload_n dX4_roll_263 rfl 0 rfl ?_
  refine X.aload_n dX4_roll_264 rfl 0 rfl ?_
  refine M.get (v := .int (((sF S 5 y0)).1 30)) dX4_roll_265 fX4_275 (Nat.le_of_ble_eq_true rfl) rfl ?_
  refine X.iconst (v := -1) dX4_roll_268 (by decide) ?_
  refine X.icmp_ne (tgt := 277) dX4_roll_269 (by decide) (fun c269 => ?_) (fun c269 => ?_)
  · have hf := if_f c269 hf
    refine X.aload_n dX4_roll_277 rfl 0 rfl ?_
    refine M.get (v := .int (((sF S 5 y0)).1 30)) dX4_roll_278 fX4_275 (Nat.le_of_ble_eq_true rfl) rfl ?_
    refine X.sub [0] (L' := [(0, .ref m0)]) rfl ?_
    exact m_roll_281_ok _ _ _ hf h N Z
  · have hf := if_t c269 hf
    refine X.bipush (v := 6) dX4_roll_272 (by decide) ?_
    refine X.goto (tgt := 281) dX4_roll_274 (by decide) ?_
    refine X.sub [0] (L' := [(0, .ref m0)]) rfl ?_
    exact m_roll_281_ok _ _ _ hf h N Z
def m_roll_223  (y0 : Int32) (S : MS) : Option (Int32 × MS) :=
  if (((sF ((sF ((sF S 2 y0)) 3 (((sF S 2 y0)).1 27))) 4 (((sF ((sF S 2 y0)) 3 (((sF S 2 y0)).1 27))).1 28))).1 29) = (-1 : Int32) then
    m_roll_260 ((9 : Int32)) ((sF ((sF ((sF S 2 y0)) 3 (((sF S 2 y0)).1 27))) 4 (((sF ((sF S 2 y0)) 3 (((sF S 2 y0)).1 27))).1 28)))
  else
    m_roll_260 ((((sF ((sF ((sF S 2 y0)) 3 (((sF S 2 y0)).1 27))) 4 (((sF ((sF S 2 y0)) 3 (((sF S 2 y0)).1 27))).1 28))).1 29)) ((sF ((sF ((sF S 2 y0)) 3 (((sF S 2 y0)).1 27))) 4 (((sF ((sF S 2 y0)) 3 (((sF S 2 y0)).1 27))).1 28)))
theorem m_roll_223_ok {G : xG} {m0 : Nat} {S0 : MS}   (y0 : Int32) (S : MS) (q : (Int32 × MS)) (hf : m_roll_223 y0 S = some q) : XM G m0 mX4_roll 8 S0 (some (.int q.1)) q.2 223 [(0, .ref m0)] [.int y0, .ref m0] S := by
  intro h N Z
  unfold m_roll_223 at hf
  refine M.putI dX4_roll_223 fX4_13 (by decide) rfl rfl rfl ?_
  refine X.aload_n dX4_roll_226 rfl 0 rfl ?_
  refine X.aload_n dX4_roll_227 rfl 0 rfl ?_
  refine M.get (v := .int (((sF S 2 y0)).1 27)) dX4_roll_228 fX4_250 (Nat.le_of_ble_eq_true rfl) rfl ?_
  refine M.putI dX4_roll_231 fX4_297 (by decide) rfl rfl rfl ?_
  refine X.aload_n dX4_roll_234 rfl 0 rfl ?_
  refine X.aload_n dX4_roll_235 rfl 0 rfl ?_
  refine M.get (v := .int (((sF ((sF S 2 y0)) 3 (((sF S 2 y0)).1 27))).1 28)) dX4_roll_236 fX4_253 (Nat.le_of_ble_eq_true rfl) rfl ?_
  refine M.putI dX4_roll_239 fX4_300 (by decide) rfl rfl rfl ?_
  refine X.aload_n dX4_roll_242 rfl 0 rfl ?_
  refine X.aload_n dX4_roll_243 rfl 0 rfl ?_
  refine M.get (v := .int (((sF ((sF ((sF S 2 y0)) 3 (((sF S 2 y0)).1 27))) 4 (((sF ((sF S 2 y0)) 3 (((sF S 2 y0)).1 27))).1 28))).1 29)) dX4_roll_244 fX4_272 (Nat.le_of_ble_eq_true rfl) rfl ?_
  refine X.iconst (v := -1) dX4_roll_247 (by decide) ?_
  refine X.icmp_ne (tgt := 256) dX4_roll_248 (by decide) (fun c248 => ?_) (fun c248 => ?_)
  · have hf := if_f c248 hf
    refine X.aload_n dX4_roll_256 rfl 0 rfl ?_
    refine M.get (v := .int (((sF ((sF ((sF S 2 y0)) 3 (((sF S 2 y0)).1 27))) 4 (((sF ((sF S 2 y0)) 3 (((sF S 2 y0)).1 27))).1 28))).1 29)) dX4_roll_257 fX4_272 (Nat.le_of_ble_eq_true rfl) rfl ?_
    refine X.sub [0] (L' := [(0, .ref m0)]) rfl ?_
    exact m_roll_260_ok _ _ _ hf h N Z
  · have hf := if_t c248 hf
    refine X.bipush (v := 9) dX4_roll_251 (by decide) ?_
    refine X.goto (tgt := 260) dX4_roll_253 (by decide) ?_
    refine X.sub [0] (L' := [(0, .ref m0)]) rfl ?_
    exact m_roll_260_ok _ _ _ hf h N Z
def m_roll_203  (y0 : Int32) (S : MS) : Option (Int32 × MS) :=
  if (((sF S 1 y0)).1 25) = (-1 : Int32) then
    m_roll_223 ((3 : Int32)) ((sF S 1 y0))
  else
    m_roll_223 ((((sF S 1 y0)).1 26)) ((sF S 1 y0))
theorem m_roll_203_ok {G : xG} {m0 : Nat} {S0 : MS}   (y0 : Int32) (S : MS) (q : (Int32 × MS)) (hf : m_roll_203 y0 S = some q) : XM G m0 mX4_roll 8 S0 (some (.int q.1)) q.2 203 [(0, .ref m0)] [.int y0, .ref m0] S := by
  intro h N Z
  unfold m_roll_203 at hf
  refine M.putI dX4_roll_203 fX4_7 (by decide) rfl rfl rfl ?_
  refine X.aload_n dX4_roll_206 rfl 0 rfl ?_
  refine X.aload_n dX4_roll_207 rfl 0 rfl ?_
  refine M.get (v := .int (((sF S 1 y0)).1 25)) dX4_roll_208 fX4_234 (Nat.le_of_ble_eq_true rfl) rfl ?_
  refine X.iconst (v := -1) dX4_roll_211 (by decide) ?_
  refine X.icmp_ne (tgt := 219) dX4_roll_212 (by decide) (fun c212 => ?_) (fun c212 => ?_)
  · have hf := if_f c212 hf
    refine X.aload_n dX4_roll_219 rfl 0 rfl ?_
    refine M.get (v := .int (((sF S 1 y0)).1 26)) dX4_roll_220 fX4_237 (Nat.le_of_ble_eq_true rfl) rfl ?_
    refine X.sub [0] (L' := [(0, .ref m0)]) rfl ?_
    exact m_roll_223_ok _ _ _ hf h N Z
  · have hf := if_t c212 hf
    refine X.iconst (v := 3) dX4_roll_215 (by decide) ?_
    refine X.goto (tgt := 223) dX4_roll_216 (by decide) ?_
    refine X.sub [0] (L' := [(0, .ref m0)]) rfl ?_
    exact m_roll_223_ok _ _ _ hf h N Z
def m_roll_164  (S : MS) : Option (Int32 × MS) :=
  (m_isGood S).bind fun q165 =>
  if q165 = 0 then
    (rdA S 5 (0 : Int32)).bind fun v177 =>
    (wrA S 5 (0 : Int32) (v177 + (1 : Int32))).bind fun S180 =>
    some ((S180.1 14), S180)
  else
    if (S.1 25) = (-1 : Int32) then
      m_roll_203 ((3 : Int32)) S
    else
      m_roll_203 ((S.1 25)) S
theorem m_roll_164_ok {G : xG} {m0 : Nat} {S0 : MS}   (S : MS) (q : (Int32 × MS)) (hf : m_roll_164 S = some q) : XM G m0 mX4_roll 8 S0 (some (.int q.1)) q.2 164 [(0, .ref m0)] [] S := by
  intro h N Z
  unfold m_roll_164 at hf
  refine X.aload_n dX4_roll_164 rfl 0 rfl ?_
  obtain ⟨q165, h165, hf⟩ := ob hf
  refine X.callVi (As := []) (rest := []) dX4_roll_165 (w_isGood h165 h N Z) cX4_174 rfl rfl (Nat.le_of_ble_eq_true rfl) mh_0 rfl rfl (xD (Nat.le_of_ble_eq_true rfl)) xleN xleN ?_
  refine X.if_ne (tgt := 186) dX4_roll_168 (by decide) (fun c168 => ?_) (fun c168 => ?_)
  · have hf := if_f c168 hf
    refine X.aload_n dX4_roll_186 rfl 0 rfl ?_
    refine X.aload_n dX4_roll_187 rfl 0 rfl ?_
    refine M.get (v := .int (S.1 25)) dX4_roll_188 fX4_234 (Nat.le_of_ble_eq_true rfl) rfl ?_
    refine X.iconst (v := -1) dX4_roll_191 (by decide) ?_
    refine X.icmp_ne (tgt := 199) dX4_roll_192 (by decide) (fun c192 => ?_) (fun c192 => ?_)
    · have hf := if_f c192 hf
      refine X.aload_n dX4_roll_199 rfl 0 rfl ?_
      refine M.get (v := .int (S.1 25)) dX4_roll_200 fX4_234 (Nat.le_of_ble_eq_true rfl) rfl ?_
      refine X.sub [0] (L' := [(0, .ref m0)]) rfl ?_
      exact m_roll_203_ok _ _ _ hf h N Z
    · have hf := if_t c192 hf
      refine X.iconst (v := 3) dX4_roll_195 (by decide) ?_
      refine X.goto (tgt := 203) dX4_roll_196 (by decide) ?_
      refine X.sub [0] (L' := [(0, .ref m0)]) rfl ?_
      exact m_roll_203_ok _ _ _ hf h N Z
  · have hf := if_t c168 hf
    refine X.aload_n dX4_roll_171 rfl 0 rfl ?_
    refine M.get (v := .ref (m0 + 5)) dX4_roll_172 fX4_44 (Nat.le_of_ble_eq_true rfl) rfl ?_
    refine X.iconst (v := 0) dX4_roll_175 (by decide) ?_
    refine X.dup2_11 dX4_roll_176 rfl rfl ?_
    obtain ⟨v177, h177, hf⟩ := ob hf
    refine M.iald dX4_roll_177 rfl h177 ?_
    refine X.iconst (v := 1) dX4_roll_178 (by decide) ?_
    refine X.iadd dX4_roll_179 ?_
    obtain ⟨S180, h180, hf⟩ := ob hf
    refine M.iast dX4_roll_180 rfl h180 ?_
    refine X.aload_n dX4_roll_181 rfl 0 rfl ?_
    refine M.get (v := .int (S180.1 14)) dX4_roll_182 fX4_171 (Nat.le_of_ble_eq_true rfl) rfl ?_
    obtain rfl := Option.some.inj hf
    exact X.iret dX4_roll_185 rfl rfl rfl
def m_roll_143_b  (k143 : MS → Option (Int32 × MS)) (S : MS) : Option (Int32 × MS) :=
  (m_isGood S).bind fun q144 =>
  if q144 = 0 then
    m_roll_164 S
  else
    if (S.1 19) = 0 then
      m_roll_164 S
    else
      (m_line S).bind fun q158 =>
      k143 q158
def m_roll_143  : Nat → MS → Option (Int32 × MS)
  | 0 => fun _ => none
  | n + 1 => fun S => m_roll_143_b (m_roll_143 n) S
theorem m_roll_143_bok {G : xG} {m0 : Nat} {S0 : MS}  {k143 : MS → Option (Int32 × MS)}  (hk143 : ∀ (S : MS) (q : (Int32 × MS)), k143 S = some q → XM G m0 mX4_roll 8 S0 (some (.int q.1)) q.2 143 [(0, .ref m0)] [] S) (S : MS) (q : (Int32 × MS)) (hf : m_roll_143_b k143 S = some q) : XM G m0 mX4_roll 8 S0 (some (.int q.1)) q.2 143 [(0, .ref m0)] [] S := by
  intro h N Z
  unfold m_roll_143_b at hf
  refine X.aload_n dX4_roll_143 rfl 0 rfl ?_
  obtain ⟨q144, h144, hf⟩ := ob hf
  refine X.callVi (As := []) (rest := []) dX4_roll_144 (w_isGood h144 h N Z) cX4_174 rfl rfl (Nat.le_of_ble_eq_true rfl) mh_0 rfl rfl (xD (Nat.le_of_ble_eq_true rfl)) xleN xleN ?_
  refine X.if_eq (tgt := 164) dX4_roll_147 (by decide) (fun c147 => ?_) (fun c147 => ?_)
  · have hf := if_t c147 hf
    refine X.sub [0] (L' := [(0, .ref m0)]) rfl ?_
    exact m_roll_164_ok _ _ hf h N Z
  · have hf := if_f c147 hf
    refine X.aload_n dX4_roll_150 rfl 0 rfl ?_
    refine M.get (v := .int (S.1 19)) dX4_roll_151 fX4_148 (Nat.le_of_ble_eq_true rfl) rfl ?_
    refine X.if_eq (tgt := 164) dX4_roll_154 (by decide) (fun c154 => ?_) (fun c154 => ?_)
    · have hf := if_t c154 hf
      refine X.sub [0] (L' := [(0, .ref m0)]) rfl ?_
      exact m_roll_164_ok _ _ hf h N Z
    · have hf := if_f c154 hf
      refine X.aload_n dX4_roll_157 rfl 0 rfl ?_
      obtain ⟨q158, h158, hf⟩ := ob hf
      refine X.callVv (As := []) (rest := []) (T2 := (mh m0 h q158, N, Z)) dX4_roll_158 (w_line h158 h N Z) cX4_294 rfl rfl (Nat.le_of_ble_eq_true rfl) mh_0 rfl rfl (xD (Nat.le_of_ble_eq_true rfl)) xleN xleN ?_
      refine X.goto (tgt := 143) dX4_roll_161 (by decide) ?_
      refine X.sub [0] (L' := [(0, .ref m0)]) rfl ?_
      exact hk143 _ _ hf h N Z
theorem m_roll_143_ok {G : xG} {m0 : Nat} {S0 : MS}   : ∀ (n : Nat) (S : MS) (q : (Int32 × MS)), m_roll_143 n S = some q → XM G m0 mX4_roll 8 S0 (some (.int q.1)) q.2 143 [(0, .ref m0)] [] S
  | 0, _, _, hf => by cases hf
  | n + 1, S, q, hf => m_roll_143_bok (m_roll_143_ok n) S q hf
def m_roll_106_b  (k106 : Int32 → MS → Option (Int32 × MS)) (x2 : Int32) (S : MS) : Option (Int32 × MS) :=
  if (30 : Int32) ≤ x2 then
    (m_goes ((sF S 33 (0 : Int32)))).bind fun q140 =>
    m_roll_143 FU q140
  else
    (wrA S 12 x2 (vp_nar .boolean (0 : Int32))).bind fun S118 =>
    (m_empties 8 x2 S118).bind fun q125 =>
    k106 ((x2 + 1)) q125
def m_roll_106  : Nat → Int32 → MS → Option (Int32 × MS)
  | 0 => fun _ _ => none
  | n + 1 => fun x2 S => m_roll_106_b (m_roll_106 n) x2 S
theorem m_roll_106_bok {G : xG} {m0 : Nat} {S0 : MS}  {k106 : Int32 → MS → Option (Int32 × MS)}  (hk106 : ∀ (x2 : Int32) (S : MS) (q : (Int32 × MS)), k106 x2 S = some q → XM G m0 mX4_roll 8 S0 (some (.int q.1)) q.2 106 [(0, .ref m0), (2, .int x2)] [] S) (x2 : Int32) (S : MS) (q : (Int32 × MS)) (hf : m_roll_106_b k106 x2 S = some q) : XM G m0 mX4_roll 8 S0 (some (.int q.1)) q.2 106 [(0, .ref m0), (2, .int x2)] [] S := by
  intro h N Z
  unfold m_roll_106_b at hf
  refine X.iload_n dX4_roll_106 rfl 1 rfl ?_
  refine X.bipush (v := 30) dX4_roll_107 (by decide) ?_
  refine X.icmp_ge (tgt := 134) dX4_roll_109 (by decide) (fun c109 => ?_) (fun c109 => ?_)
  · have hf := if_t c109 hf
    refine X.aload_n dX4_roll_134 rfl 0 rfl ?_
    refine X.iconst (v := 0) dX4_roll_135 (by decide) ?_
    refine M.putI dX4_roll_136 fX4_184 (by decide) rfl rfl rfl ?_
    refine X.aload_n dX4_roll_139 rfl 0 rfl ?_
    obtain ⟨q140, h140, hf⟩ := ob hf
    refine X.callVv (As := []) (rest := []) (T2 := (mh m0 h q140, N, Z)) dX4_roll_140 (w_goes h140 h N Z) cX4_178 rfl rfl (Nat.le_of_ble_eq_true rfl) mh_0 rfl rfl (xD (Nat.le_of_ble_eq_true rfl)) xleN xleN ?_
    refine X.sub [0] (L' := [(0, .ref m0)]) rfl ?_
    exact m_roll_143_ok FU _ _ hf h N Z
  · have hf := if_f c109 hf
    refine X.aload_n dX4_roll_112 rfl 0 rfl ?_
    refine M.get (v := .ref (m0 + 12)) dX4_roll_113 fX4_66 (Nat.le_of_ble_eq_true rfl) rfl ?_
    refine X.iload_n dX4_roll_116 rfl 1 rfl ?_
    refine X.iconst (v := 0) dX4_roll_117 (by decide) ?_
    obtain ⟨S118, h118, hf⟩ := ob hf
    refine M.zast dX4_roll_118 (Nat.le_of_ble_eq_true rfl) (Nat.le_of_ble_eq_true rfl) rfl h118 ?_
    refine X.aload_n dX4_roll_119 rfl 0 rfl ?_
    refine X.aload_n dX4_roll_120 rfl 0 rfl ?_
    refine M.get (v := .ref (m0 + 8)) dX4_roll_121 fX4_53 (Nat.le_of_ble_eq_true rfl) rfl ?_
    refine X.iload_n dX4_roll_124 rfl 1 rfl ?_
    obtain ⟨q125, h125, hf⟩ := ob hf
    refine X.callVv (As := [.ref (m0 + 8), .int x2]) (rest := []) (T2 := (mh m0 h q125, N, Z)) dX4_roll_125 (w_empties h125 h N Z) cX4_111 rfl rfl (Nat.le_of_ble_eq_true rfl) mh_0 rfl rfl (xD (Nat.le_of_ble_eq_true rfl)) xleN xleN ?_
    refine X.iinc (v := (x2 + 1)) (L' := [(2, .int (x2 + 1)), (0, .ref m0)]) dX4_roll_128 1 rfl rfl (Nat.le_of_ble_eq_true rfl) rfl ?_
    refine X.goto (tgt := 106) dX4_roll_131 (by decide) ?_
    refine X.sub [1, 0] (L' := [(0, .ref m0), (2, .int (x2 + 1))]) rfl ?_
    exact hk106 _ _ _ hf h N Z
theorem m_roll_106_ok {G : xG} {m0 : Nat} {S0 : MS}   : ∀ (n : Nat) (x2 : Int32) (S : MS) (q : (Int32 × MS)), m_roll_106 n x2 S = some q → XM G m0 mX4_roll 8 S0 (some (.int q.1)) q.2 106 [(0, .ref m0), (2, .int x2)] [] S
  | 0, _, _, _, hf => by cases hf
  | n + 1, x2, S, q, hf => m_roll_106_bok (m_roll_106_ok n) x2 S q hf
def m_roll_23  (x1 : Int32) (y0 : Int32) (S : MS) : Option (Int32 × MS) :=
  (m_right y0 ((1 : Int32)) S).bind fun q24 =>
  if q24.1 = 0 then
    some ((0 : Int32), q24.2)
  else
    (wrA ((sF ((sF ((sF ((sF ((sF ((sF ((sF ((sF ((sF ((sF ((sF ((sF ((sF q24.2 13 (0 : Int32))) 15 (-1 : Int32))) 14 (0 : Int32))) 17 x1)) 18 (0 : Int32))) 25 (-1 : Int32))) 26 (-1 : Int32))) 27 (0 : Int32))) 28 (0 : Int32))) 29 (-1 : Int32))) 30 (-1 : Int32))) 31 (-1 : Int32))) 32 (-1 : Int32))) 8 (0 : Int32) (0 : Int32)).bind fun S103 =>
    m_roll_106 FU ((0 : Int32)) S103
theorem m_roll_23_ok {G : xG} {m0 : Nat} {S0 : MS}   (x1 : Int32) (y0 : Int32) (S : MS) (q : (Int32 × MS)) (hf : m_roll_23 x1 y0 S = some q) : XM G m0 mX4_roll 8 S0 (some (.int q.1)) q.2 23 [(0, .ref m0), (1, .int x1)] [.int y0, .ref m0] S := by
  intro h N Z
  unfold m_roll_23 at hf
  refine X.iconst (v := 1) dX4_roll_23 (by decide) ?_
  obtain ⟨q24, h24, hf⟩ := ob hf
  refine X.callVi (As := [.int y0, .int (1 : Int32)]) (rest := []) (T2 := (mh m0 h q24.2, N, Z)) dX4_roll_24 (w_right h24 h N Z) cX4_290 rfl rfl (Nat.le_of_ble_eq_true rfl) mh_0 rfl rfl (xD (Nat.le_of_ble_eq_true rfl)) xleN xleN ?_
  refine X.if_ne (tgt := 32) dX4_roll_27 (by decide) (fun c27 => ?_) (fun c27 => ?_)
  · have hf := if_f c27 hf
    refine X.aload_n dX4_roll_32 rfl 0 rfl ?_
    refine X.iconst (v := 0) dX4_roll_33 (by decide) ?_
    refine M.putI dX4_roll_34 fX4_118 (by decide) rfl rfl rfl ?_
    refine X.aload_n dX4_roll_37 rfl 0 rfl ?_
    refine X.iconst (v := -1) dX4_roll_38 (by decide) ?_
    refine M.putI dX4_roll_39 fX4_41 (by decide) rfl rfl rfl ?_
    refine X.aload_n dX4_roll_42 rfl 0 rfl ?_
    refine X.iconst (v := 0) dX4_roll_43 (by decide) ?_
    refine M.putI dX4_roll_44 fX4_171 (by decide) rfl rfl rfl ?_
    refine X.aload_n dX4_roll_47 rfl 0 rfl ?_
    refine X.iload_n dX4_roll_48 rfl 1 rfl ?_
    refine M.putI dX4_roll_49 fX4_125 (by decide) rfl rfl rfl ?_
    refine X.aload_n dX4_roll_52 rfl 0 rfl ?_
    refine X.iconst (v := 0) dX4_roll_53 (by decide) ?_
    refine M.putI dX4_roll_54 fX4_128 (by decide) rfl rfl rfl ?_
    refine X.aload_n dX4_roll_57 rfl 0 rfl ?_
    refine X.iconst (v := -1) dX4_roll_58 (by decide) ?_
    refine M.putI dX4_roll_59 fX4_234 (by decide) rfl rfl rfl ?_
    refine X.aload_n dX4_roll_62 rfl 0 rfl ?_
    refine X.iconst (v := -1) dX4_roll_63 (by decide) ?_
    refine M.putI dX4_roll_64 fX4_237 (by decide) rfl rfl rfl ?_
    refine X.aload_n dX4_roll_67 rfl 0 rfl ?_
    refine X.iconst (v := 0) dX4_roll_68 (by decide) ?_
    refine M.putI dX4_roll_69 fX4_250 (by decide) rfl rfl rfl ?_
    refine X.aload_n dX4_roll_72 rfl 0 rfl ?_
    refine X.iconst (v := 0) dX4_roll_73 (by decide) ?_
    refine M.putI dX4_roll_74 fX4_253 (by decide) rfl rfl rfl ?_
    refine X.aload_n dX4_roll_77 rfl 0 rfl ?_
    refine X.iconst (v := -1) dX4_roll_78 (by decide) ?_
    refine M.putI dX4_roll_79 fX4_272 (by decide) rfl rfl rfl ?_
    refine X.aload_n dX4_roll_82 rfl 0 rfl ?_
    refine X.iconst (v := -1) dX4_roll_83 (by decide) ?_
    refine M.putI dX4_roll_84 fX4_275 (by decide) rfl rfl rfl ?_
    refine X.aload_n dX4_roll_87 rfl 0 rfl ?_
    refine X.iconst (v := -1) dX4_roll_88 (by decide) ?_
    refine M.putI dX4_roll_89 fX4_278 (by decide) rfl rfl rfl ?_
    refine X.aload_n dX4_roll_92 rfl 0 rfl ?_
    refine X.iconst (v := -1) dX4_roll_93 (by decide) ?_
    refine M.putI dX4_roll_94 fX4_284 (by decide) rfl rfl rfl ?_
    refine X.aload_n dX4_roll_97 rfl 0 rfl ?_
    refine M.get (v := .ref (m0 + 8)) dX4_roll_98 fX4_53 (Nat.le_of_ble_eq_true rfl) rfl ?_
    refine X.iconst (v := 0) dX4_roll_101 (by decide) ?_
    refine X.iconst (v := 0) dX4_roll_102 (by decide) ?_
    obtain ⟨S103, h103, hf⟩ := ob hf
    refine M.iast dX4_roll_103 rfl h103 ?_
    refine X.iconst (v := 0) dX4_roll_104 (by decide) ?_
    refine X.istore_n (L' := [(2, .int (0 : Int32)), (0, .ref m0), (1, .int x1)]) dX4_roll_105 rfl (Nat.le_of_ble_eq_true rfl) rfl ?_
    refine X.sub [1, 0] (L' := [(0, .ref m0), (2, .int (0 : Int32))]) rfl ?_
    exact m_roll_106_ok FU _ _ _ hf h N Z
  · have hf := if_t c27 hf
    refine X.iconst (v := 0) dX4_roll_30 (by decide) ?_
    obtain rfl := Option.some.inj hf
    exact X.iret dX4_roll_31 rfl rfl rfl
def m_roll_22  (x1 : Int32) (S : MS) : Option (Int32 × MS) :=
  m_roll_23 x1 ((0 : Int32)) S
theorem m_roll_22_ok {G : xG} {m0 : Nat} {S0 : MS}   (x1 : Int32) (S : MS) (q : (Int32 × MS)) (hf : m_roll_22 x1 S = some q) : XM G m0 mX4_roll 8 S0 (some (.int q.1)) q.2 22 [(0, .ref m0), (1, .int x1)] [.ref m0] S := by
  intro h N Z
  unfold m_roll_22 at hf
  refine X.iconst (v := 0) dX4_roll_22 (by decide) ?_
  refine X.sub [0, 1] (L' := [(0, .ref m0), (1, .int x1)]) rfl ?_
  exact m_roll_23_ok _ _ _ _ hf h N Z
def m_roll (x1 : Int32) (S : MS) : Option (Int32 × MS) :=
  if x1 < 0 then
    m_roll_22 x1 ((sF S 0 (0 : Int32)))
  else
    if (((sF S 0 (0 : Int32))).1 13) < x1 then
      m_roll_22 x1 ((sF S 0 (0 : Int32)))
    else
      m_roll_23 x1 ((1 : Int32)) ((sF S 0 (0 : Int32)))
theorem w_roll {G : xG} {m0 : Nat} {x1 : Int32} {S : MS} {q : (Int32 × MS)} (hf : m_roll x1 S = some q) : CtM G m0 mX4_roll 8 S [.ref m0, .int x1] (some (.int q.1)) q.2 := by
  intro h N Z
  refine Ct.of (by decide +kernel) rfl (Nat.le_of_ble_eq_true rfl) (show Xr G _ 0 [(0, .ref m0), (1, .int x1)] [] _ from ?_)
  unfold m_roll at hf
  refine X.aload_n dX4_roll_0 rfl 0 rfl ?_
  refine X.iconst (v := 0) dX4_roll_1 (by decide) ?_
  refine M.putI dX4_roll_2 fX4_115 (by decide) rfl rfl rfl ?_
  refine X.aload_n dX4_roll_5 rfl 0 rfl ?_
  refine X.iload_n dX4_roll_6 rfl 1 rfl ?_
  refine X.if_lt (tgt := 22) dX4_roll_7 (by decide) (fun c7 => ?_) (fun c7 => ?_)
  · have hf := if_t c7 hf
    refine X.sub [0, 1] (L' := [(0, .ref m0), (1, .int x1)]) rfl ?_
    exact m_roll_22_ok _ _ _ hf h N Z
  · have hf := if_f c7 hf
    refine X.iload_n dX4_roll_10 rfl 1 rfl ?_
    refine X.aload_n dX4_roll_11 rfl 0 rfl ?_
    refine M.get (v := .int (((sF S 0 (0 : Int32))).1 13)) dX4_roll_12 fX4_118 (Nat.le_of_ble_eq_true rfl) rfl ?_
    refine X.icmp_gt (tgt := 22) dX4_roll_15 (by decide) (fun c15 => ?_) (fun c15 => ?_)
    · have hf := if_t c15 hf
      refine X.sub [0, 1] (L' := [(0, .ref m0), (1, .int x1)]) rfl ?_
      exact m_roll_22_ok _ _ _ hf h N Z
    · have hf := if_f c15 hf
      refine X.iconst (v := 1) dX4_roll_18 (by decide) ?_
      refine X.goto (tgt := 23) dX4_roll_19 (by decide) ?_
      refine X.sub [0, 1] (L' := [(0, .ref m0), (1, .int x1)]) rfl ?_
      exact m_roll_23_ok _ _ _ _ hf h N Z
/-! fault -/
abbrev cX4_fault : ByteArray := prog_12_method_44_code
def yX4_fault : MethodName := ⟨RX4, "fault", "()I"⟩
def dkwX4_fault_0 : List UInt8 := [42, 3, 181, 0, 115, 42, 180, 0, 41, 172]
abbrev dktX4_fault_0 : List UInt8 := dkwX4_fault_0 ++ []
theorem dksX4_fault_0 : cX4_fault.data.toList.drop 0 = dktX4_fault_0 := by decide +kernel
theorem dX4_fault_0 : decode cX4_fault 0 = .ok (.aload_n 0, 1) := dk_42 (dk_at dksX4_fault_0 0 rfl rfl)
theorem dX4_fault_1 : decode cX4_fault 1 = .ok (.iconst 0, 1) := dk_3 (dk_at dksX4_fault_0 1 rfl rfl)
theorem dX4_fault_2 : decode cX4_fault 2 = .ok (.putfield 115, 3) := dk_181 0 115 (dk_at dksX4_fault_0 2 rfl rfl)
theorem dX4_fault_5 : decode cX4_fault 5 = .ok (.aload_n 0, 1) := dk_42 (dk_at dksX4_fault_0 5 rfl rfl)
theorem dX4_fault_6 : decode cX4_fault 6 = .ok (.getfield 41, 3) := dk_180 0 41 (dk_at dksX4_fault_0 6 rfl rfl)
theorem dX4_fault_9 : decode cX4_fault 9 = .ok (.ireturn, 1) := dk_172 (dk_at dksX4_fault_0 9 rfl rfl)
abbrev mX4_fault : xM := (yX4_fault, cX4_fault, 1, (some .int), [])
def m_fault  (S : MS) : Option (Int32 × MS) :=
  some ((((sF S 0 (0 : Int32))).1 15), (sF S 0 (0 : Int32)))
theorem w_fault {G : xG} {m0 : Nat}  {S : MS} {q : (Int32 × MS)} (hf : m_fault S = some q) : CtM G m0 mX4_fault 1 S [.ref m0] (some (.int q.1)) q.2 := by
  intro h N Z
  refine Ct.of (by decide +kernel) rfl (Nat.le_of_ble_eq_true rfl) (show Xr G _ 0 [(0, .ref m0)] [] _ from ?_)
  unfold m_fault at hf
  refine X.aload_n dX4_fault_0 rfl 0 rfl ?_
  refine X.iconst (v := 0) dX4_fault_1 (by decide) ?_
  refine M.putI dX4_fault_2 fX4_115 (by decide) rfl rfl rfl ?_
  refine X.aload_n dX4_fault_5 rfl 0 rfl ?_
  refine M.get (v := .int (((sF S 0 (0 : Int32))).1 15)) dX4_fault_6 fX4_41 (Nat.le_of_ble_eq_true rfl) rfl ?_
  obtain rfl := Option.some.inj hf
  exact X.iret dX4_fault_9 rfl rfl rfl
/-! keeps -/
abbrev cX4_keeps : ByteArray := prog_12_method_45_code
def yX4_keeps : MethodName := ⟨RX4, "keeps", "()V"⟩
def dkwX4_keeps_3 : List UInt8 := [42, 180, 0, 69, 27, 46, 79, 132, 1, 1, 167, 255, 227, 42, 89, 180, 1, 51, 4, 96, 181, 1, 51, 177]
abbrev dktX4_keeps_3 : List UInt8 := dkwX4_keeps_3 ++ []
def dkwX4_keeps_2 : List UInt8 := [181, 1, 51, 3, 60, 27, 16, 121, 162, 0, 29, 42, 180, 0, 72, 16, 121, 42, 180, 1, 51, 104, 27, 96]
abbrev dktX4_keeps_2 : List UInt8 := dkwX4_keeps_2 ++ dktX4_keeps_3
def dkwX4_keeps_1 : List UInt8 := [16, 121, 100, 42, 180, 0, 72, 27, 46, 79, 132, 1, 1, 167, 255, 231, 42, 89, 180, 1, 51, 4, 100]
abbrev dktX4_keeps_1 : List UInt8 := dkwX4_keeps_1 ++ dktX4_keeps_2
def dkwX4_keeps_0 : List UInt8 := [42, 180, 1, 51, 16, 40, 160, 0, 44, 16, 121, 60, 27, 17, 18, 232, 162, 0, 24, 42, 180, 0, 72, 27]
abbrev dktX4_keeps_0 : List UInt8 := dkwX4_keeps_0 ++ dktX4_keeps_1
theorem dksX4_keeps_0 : cX4_keeps.data.toList.drop 0 = dktX4_keeps_0 := by decide +kernel
theorem dksX4_keeps_1 : cX4_keeps.data.toList.drop 24 = dktX4_keeps_1 := dk_seg dksX4_keeps_0 24 rfl rfl
theorem dksX4_keeps_2 : cX4_keeps.data.toList.drop 47 = dktX4_keeps_2 := dk_seg dksX4_keeps_1 23 rfl rfl
theorem dksX4_keeps_3 : cX4_keeps.data.toList.drop 71 = dktX4_keeps_3 := dk_seg dksX4_keeps_2 24 rfl rfl
theorem dX4_keeps_0 : decode cX4_keeps 0 = .ok (.aload_n 0, 1) := dk_42 (dk_at dksX4_keeps_0 0 rfl rfl)
theorem dX4_keeps_1 : decode cX4_keeps 1 = .ok (.getfield 307, 3) := dk_180 1 51 (dk_at dksX4_keeps_0 1 rfl rfl)
theorem dX4_keeps_4 : decode cX4_keeps 4 = .ok (.bipush 40, 2) := dk_16 40 (dk_at dksX4_keeps_0 4 rfl rfl)
theorem dX4_keeps_6 : decode cX4_keeps 6 = .ok (.if_icmp .ne 44, 3) := dk_160 0 44 (dk_at dksX4_keeps_0 6 rfl rfl)
theorem dX4_keeps_9 : decode cX4_keeps 9 = .ok (.bipush 121, 2) := dk_16 121 (dk_at dksX4_keeps_0 9 rfl rfl)
theorem dX4_keeps_11 : decode cX4_keeps 11 = .ok (.istore_n 1, 1) := dk_60 (dk_at dksX4_keeps_0 11 rfl rfl)
theorem dX4_keeps_12 : decode cX4_keeps 12 = .ok (.iload_n 1, 1) := dk_27 (dk_at dksX4_keeps_0 12 rfl rfl)
theorem dX4_keeps_13 : decode cX4_keeps 13 = .ok (.sipush 4840, 3) := dk_17 18 232 (dk_at dksX4_keeps_0 13 rfl rfl)
theorem dX4_keeps_16 : decode cX4_keeps 16 = .ok (.if_icmp .ge 24, 3) := dk_162 0 24 (dk_at dksX4_keeps_0 16 rfl rfl)
theorem dX4_keeps_19 : decode cX4_keeps 19 = .ok (.aload_n 0, 1) := dk_42 (dk_at dksX4_keeps_0 19 rfl rfl)
theorem dX4_keeps_20 : decode cX4_keeps 20 = .ok (.getfield 72, 3) := dk_180 0 72 (dk_at dksX4_keeps_0 20 rfl rfl)
theorem dX4_keeps_23 : decode cX4_keeps 23 = .ok (.iload_n 1, 1) := dk_27 (dk_at dksX4_keeps_0 23 rfl rfl)
theorem dX4_keeps_24 : decode cX4_keeps 24 = .ok (.bipush 121, 2) := dk_16 121 (dk_at dksX4_keeps_1 0 rfl rfl)
theorem dX4_keeps_26 : decode cX4_keeps 26 = .ok (.isub, 1) := dk_100 (dk_at dksX4_keeps_1 2 rfl rfl)
theorem dX4_keeps_27 : decode cX4_keeps 27 = .ok (.aload_n 0, 1) := dk_42 (dk_at dksX4_keeps_1 3 rfl rfl)
theorem dX4_keeps_28 : decode cX4_keeps 28 = .ok (.getfield 72, 3) := dk_180 0 72 (dk_at dksX4_keeps_1 4 rfl rfl)
theorem dX4_keeps_31 : decode cX4_keeps 31 = .ok (.iload_n 1, 1) := dk_27 (dk_at dksX4_keeps_1 7 rfl rfl)
theorem dX4_keeps_32 : decode cX4_keeps 32 = .ok (.iaload, 1) := dk_46 (dk_at dksX4_keeps_1 8 rfl rfl)
theorem dX4_keeps_33 : decode cX4_keeps 33 = .ok (.iastore, 1) := dk_79 (dk_at dksX4_keeps_1 9 rfl rfl)
theorem dX4_keeps_34 : decode cX4_keeps 34 = .ok (.iinc 1 1, 3) := dk_132 1 1 (dk_at dksX4_keeps_1 10 rfl rfl)
theorem dX4_keeps_37 : decode cX4_keeps 37 = .ok (.goto (-25), 3) := dk_167 255 231 (dk_at dksX4_keeps_1 13 rfl rfl)
theorem dX4_keeps_40 : decode cX4_keeps 40 = .ok (.aload_n 0, 1) := dk_42 (dk_at dksX4_keeps_1 16 rfl rfl)
theorem dX4_keeps_41 : decode cX4_keeps 41 = .ok (.dup, 1) := dk_89 (dk_at dksX4_keeps_1 17 rfl rfl)
theorem dX4_keeps_42 : decode cX4_keeps 42 = .ok (.getfield 307, 3) := dk_180 1 51 (dk_at dksX4_keeps_1 18 rfl rfl)
theorem dX4_keeps_45 : decode cX4_keeps 45 = .ok (.iconst 1, 1) := dk_4 (dk_at dksX4_keeps_1 21 rfl rfl)
theorem dX4_keeps_46 : decode cX4_keeps 46 = .ok (.isub, 1) := dk_100 (dk_at dksX4_keeps_1 22 rfl rfl)
theorem dX4_keeps_47 : decode cX4_keeps 47 = .ok (.putfield 307, 3) := dk_181 1 51 (dk_at dksX4_keeps_2 0 rfl rfl)
theorem dX4_keeps_50 : decode cX4_keeps 50 = .ok (.iconst 0, 1) := dk_3 (dk_at dksX4_keeps_2 3 rfl rfl)
theorem dX4_keeps_51 : decode cX4_keeps 51 = .ok (.istore_n 1, 1) := dk_60 (dk_at dksX4_keeps_2 4 rfl rfl)
theorem dX4_keeps_52 : decode cX4_keeps 52 = .ok (.iload_n 1, 1) := dk_27 (dk_at dksX4_keeps_2 5 rfl rfl)
theorem dX4_keeps_53 : decode cX4_keeps 53 = .ok (.bipush 121, 2) := dk_16 121 (dk_at dksX4_keeps_2 6 rfl rfl)
theorem dX4_keeps_55 : decode cX4_keeps 55 = .ok (.if_icmp .ge 29, 3) := dk_162 0 29 (dk_at dksX4_keeps_2 8 rfl rfl)
theorem dX4_keeps_58 : decode cX4_keeps 58 = .ok (.aload_n 0, 1) := dk_42 (dk_at dksX4_keeps_2 11 rfl rfl)
theorem dX4_keeps_59 : decode cX4_keeps 59 = .ok (.getfield 72, 3) := dk_180 0 72 (dk_at dksX4_keeps_2 12 rfl rfl)
theorem dX4_keeps_62 : decode cX4_keeps 62 = .ok (.bipush 121, 2) := dk_16 121 (dk_at dksX4_keeps_2 15 rfl rfl)
theorem dX4_keeps_64 : decode cX4_keeps 64 = .ok (.aload_n 0, 1) := dk_42 (dk_at dksX4_keeps_2 17 rfl rfl)
theorem dX4_keeps_65 : decode cX4_keeps 65 = .ok (.getfield 307, 3) := dk_180 1 51 (dk_at dksX4_keeps_2 18 rfl rfl)
theorem dX4_keeps_68 : decode cX4_keeps 68 = .ok (.imul, 1) := dk_104 (dk_at dksX4_keeps_2 21 rfl rfl)
theorem dX4_keeps_69 : decode cX4_keeps 69 = .ok (.iload_n 1, 1) := dk_27 (dk_at dksX4_keeps_2 22 rfl rfl)
theorem dX4_keeps_70 : decode cX4_keeps 70 = .ok (.iadd, 1) := dk_96 (dk_at dksX4_keeps_2 23 rfl rfl)
theorem dX4_keeps_71 : decode cX4_keeps 71 = .ok (.aload_n 0, 1) := dk_42 (dk_at dksX4_keeps_3 0 rfl rfl)
theorem dX4_keeps_72 : decode cX4_keeps 72 = .ok (.getfield 69, 3) := dk_180 0 69 (dk_at dksX4_keeps_3 1 rfl rfl)
theorem dX4_keeps_75 : decode cX4_keeps 75 = .ok (.iload_n 1, 1) := dk_27 (dk_at dksX4_keeps_3 4 rfl rfl)
theorem dX4_keeps_76 : decode cX4_keeps 76 = .ok (.iaload, 1) := dk_46 (dk_at dksX4_keeps_3 5 rfl rfl)
theorem dX4_keeps_77 : decode cX4_keeps 77 = .ok (.iastore, 1) := dk_79 (dk_at dksX4_keeps_3 6 rfl rfl)
theorem dX4_keeps_78 : decode cX4_keeps 78 = .ok (.iinc 1 1, 3) := dk_132 1 1 (dk_at dksX4_keeps_3 7 rfl rfl)
theorem dX4_keeps_81 : decode cX4_keeps 81 = .ok (.goto (-29), 3) := dk_167 255 227 (dk_at dksX4_keeps_3 10 rfl rfl)
theorem dX4_keeps_84 : decode cX4_keeps 84 = .ok (.aload_n 0, 1) := dk_42 (dk_at dksX4_keeps_3 13 rfl rfl)
theorem dX4_keeps_85 : decode cX4_keeps 85 = .ok (.dup, 1) := dk_89 (dk_at dksX4_keeps_3 14 rfl rfl)
theorem dX4_keeps_86 : decode cX4_keeps 86 = .ok (.getfield 307, 3) := dk_180 1 51 (dk_at dksX4_keeps_3 15 rfl rfl)
theorem dX4_keeps_89 : decode cX4_keeps 89 = .ok (.iconst 1, 1) := dk_4 (dk_at dksX4_keeps_3 18 rfl rfl)
theorem dX4_keeps_90 : decode cX4_keeps 90 = .ok (.iadd, 1) := dk_96 (dk_at dksX4_keeps_3 19 rfl rfl)
theorem dX4_keeps_91 : decode cX4_keeps 91 = .ok (.putfield 307, 3) := dk_181 1 51 (dk_at dksX4_keeps_3 20 rfl rfl)
theorem dX4_keeps_94 : decode cX4_keeps 94 = .ok (.return_, 1) := dk_177 (dk_at dksX4_keeps_3 23 rfl rfl)
abbrev mX4_keeps : xM := (yX4_keeps, cX4_keeps, 2, none, [])
def m_keeps_52_b  (k52 : Int32 → MS → Option MS) (x1 : Int32) (S : MS) : Option MS :=
  if (121 : Int32) ≤ x1 then
    some ((sF S 46 ((S.1 46) + (1 : Int32))))
  else
    (rdA S 13 x1).bind fun v76 =>
    (wrA S 14 (((121 : Int32) * (S.1 46)) + x1) v76).bind fun S77 =>
    k52 ((x1 + 1)) S77
def m_keeps_52  : Nat → Int32 → MS → Option MS
  | 0 => fun _ _ => none
  | n + 1 => fun x1 S => m_keeps_52_b (m_keeps_52 n) x1 S
theorem m_keeps_52_bok {G : xG} {m0 : Nat} {S0 : MS}  {k52 : Int32 → MS → Option MS}  (hk52 : ∀ (x1 : Int32) (S : MS) (q : MS), k52 x1 S = some q → XM G m0 mX4_keeps 1 S0 none q 52 [(0, .ref m0), (1, .int x1)] [] S) (x1 : Int32) (S : MS) (q : MS) (hf : m_keeps_52_b k52 x1 S = some q) : XM G m0 mX4_keeps 1 S0 none q 52 [(0, .ref m0), (1, .int x1)] [] S := by
  intro h N Z
  unfold m_keeps_52_b at hf
  refine X.iload_n dX4_keeps_52 rfl 1 rfl ?_
  refine X.bipush (v := 121) dX4_keeps_53 (by decide) ?_
  refine X.icmp_ge (tgt := 84) dX4_keeps_55 (by decide) (fun c55 => ?_) (fun c55 => ?_)
  · have hf := if_t c55 hf
    refine X.aload_n dX4_keeps_84 rfl 0 rfl ?_
    refine X.dup dX4_keeps_85 rfl ?_
    refine M.get (v := .int (S.1 46)) dX4_keeps_86 fX4_307 (Nat.le_of_ble_eq_true rfl) rfl ?_
    refine X.iconst (v := 1) dX4_keeps_89 (by decide) ?_
    refine X.iadd dX4_keeps_90 ?_
    refine M.putI dX4_keeps_91 fX4_307 (by decide) rfl rfl rfl ?_
    obtain rfl := Option.some.inj hf
    exact X.vret dX4_keeps_94 rfl rfl
  · have hf := if_f c55 hf
    refine X.aload_n dX4_keeps_58 rfl 0 rfl ?_
    refine M.get (v := .ref (m0 + 14)) dX4_keeps_59 fX4_72 (Nat.le_of_ble_eq_true rfl) rfl ?_
    refine X.bipush (v := 121) dX4_keeps_62 (by decide) ?_
    refine X.aload_n dX4_keeps_64 rfl 0 rfl ?_
    refine M.get (v := .int (S.1 46)) dX4_keeps_65 fX4_307 (Nat.le_of_ble_eq_true rfl) rfl ?_
    refine X.imul dX4_keeps_68 ?_
    refine X.iload_n dX4_keeps_69 rfl 1 rfl ?_
    refine X.iadd dX4_keeps_70 ?_
    refine X.aload_n dX4_keeps_71 rfl 0 rfl ?_
    refine M.get (v := .ref (m0 + 13)) dX4_keeps_72 fX4_69 (Nat.le_of_ble_eq_true rfl) rfl ?_
    refine X.iload_n dX4_keeps_75 rfl 1 rfl ?_
    obtain ⟨v76, h76, hf⟩ := ob hf
    refine M.iald dX4_keeps_76 rfl h76 ?_
    obtain ⟨S77, h77, hf⟩ := ob hf
    refine M.iast dX4_keeps_77 rfl h77 ?_
    refine X.iinc (v := (x1 + 1)) (L' := [(1, .int (x1 + 1)), (0, .ref m0)]) dX4_keeps_78 1 rfl rfl (Nat.le_of_ble_eq_true rfl) rfl ?_
    refine X.goto (tgt := 52) dX4_keeps_81 (by decide) ?_
    refine X.sub [1, 0] (L' := [(0, .ref m0), (1, .int (x1 + 1))]) rfl ?_
    exact hk52 _ _ _ hf h N Z
theorem m_keeps_52_ok {G : xG} {m0 : Nat} {S0 : MS}   : ∀ (n : Nat) (x1 : Int32) (S : MS) (q : MS), m_keeps_52 n x1 S = some q → XM G m0 mX4_keeps 1 S0 none q 52 [(0, .ref m0), (1, .int x1)] [] S
  | 0, _, _, _, hf => by cases hf
  | n + 1, x1, S, q, hf => m_keeps_52_bok (m_keeps_52_ok n) x1 S q hf
def m_keeps_50  (S : MS) : Option MS :=
  m_keeps_52 FU ((0 : Int32)) S
theorem m_keeps_50_ok {G : xG} {m0 : Nat} {S0 : MS}   (S : MS) (q : MS) (hf : m_keeps_50 S = some q) : XM G m0 mX4_keeps 1 S0 none q 50 [(0, .ref m0)] [] S := by
  intro h N Z
  unfold m_keeps_50 at hf
  refine X.iconst (v := 0) dX4_keeps_50 (by decide) ?_
  refine X.istore_n (L' := [(1, .int (0 : Int32)), (0, .ref m0)]) dX4_keeps_51 rfl (Nat.le_of_ble_eq_true rfl) rfl ?_
  refine X.sub [1, 0] (L' := [(0, .ref m0), (1, .int (0 : Int32))]) rfl ?_
  exact m_keeps_52_ok FU _ _ _ hf h N Z
def m_keeps_12_b  (k12 : Int32 → MS → Option MS) (x1 : Int32) (S : MS) : Option MS :=
  if (4840 : Int32) ≤ x1 then
    m_keeps_50 ((sF S 46 ((S.1 46) - (1 : Int32))))
  else
    (rdA S 14 x1).bind fun v32 =>
    (wrA S 14 (x1 - (121 : Int32)) v32).bind fun S33 =>
    k12 ((x1 + 1)) S33
def m_keeps_12  : Nat → Int32 → MS → Option MS
  | 0 => fun _ _ => none
  | n + 1 => fun x1 S => m_keeps_12_b (m_keeps_12 n) x1 S
theorem m_keeps_12_bok {G : xG} {m0 : Nat} {S0 : MS}  {k12 : Int32 → MS → Option MS}  (hk12 : ∀ (x1 : Int32) (S : MS) (q : MS), k12 x1 S = some q → XM G m0 mX4_keeps 1 S0 none q 12 [(0, .ref m0), (1, .int x1)] [] S) (x1 : Int32) (S : MS) (q : MS) (hf : m_keeps_12_b k12 x1 S = some q) : XM G m0 mX4_keeps 1 S0 none q 12 [(0, .ref m0), (1, .int x1)] [] S := by
  intro h N Z
  unfold m_keeps_12_b at hf
  refine X.iload_n dX4_keeps_12 rfl 1 rfl ?_
  refine X.sipush (v := 4840) dX4_keeps_13 (by decide) ?_
  refine X.icmp_ge (tgt := 40) dX4_keeps_16 (by decide) (fun c16 => ?_) (fun c16 => ?_)
  · have hf := if_t c16 hf
    refine X.aload_n dX4_keeps_40 rfl 0 rfl ?_
    refine X.dup dX4_keeps_41 rfl ?_
    refine M.get (v := .int (S.1 46)) dX4_keeps_42 fX4_307 (Nat.le_of_ble_eq_true rfl) rfl ?_
    refine X.iconst (v := 1) dX4_keeps_45 (by decide) ?_
    refine X.isub dX4_keeps_46 ?_
    refine M.putI dX4_keeps_47 fX4_307 (by decide) rfl rfl rfl ?_
    refine X.sub [0] (L' := [(0, .ref m0)]) rfl ?_
    exact m_keeps_50_ok _ _ hf h N Z
  · have hf := if_f c16 hf
    refine X.aload_n dX4_keeps_19 rfl 0 rfl ?_
    refine M.get (v := .ref (m0 + 14)) dX4_keeps_20 fX4_72 (Nat.le_of_ble_eq_true rfl) rfl ?_
    refine X.iload_n dX4_keeps_23 rfl 1 rfl ?_
    refine X.bipush (v := 121) dX4_keeps_24 (by decide) ?_
    refine X.isub dX4_keeps_26 ?_
    refine X.aload_n dX4_keeps_27 rfl 0 rfl ?_
    refine M.get (v := .ref (m0 + 14)) dX4_keeps_28 fX4_72 (Nat.le_of_ble_eq_true rfl) rfl ?_
    refine X.iload_n dX4_keeps_31 rfl 1 rfl ?_
    obtain ⟨v32, h32, hf⟩ := ob hf
    refine M.iald dX4_keeps_32 rfl h32 ?_
    obtain ⟨S33, h33, hf⟩ := ob hf
    refine M.iast dX4_keeps_33 rfl h33 ?_
    refine X.iinc (v := (x1 + 1)) (L' := [(1, .int (x1 + 1)), (0, .ref m0)]) dX4_keeps_34 1 rfl rfl (Nat.le_of_ble_eq_true rfl) rfl ?_
    refine X.goto (tgt := 12) dX4_keeps_37 (by decide) ?_
    refine X.sub [1, 0] (L' := [(0, .ref m0), (1, .int (x1 + 1))]) rfl ?_
    exact hk12 _ _ _ hf h N Z
theorem m_keeps_12_ok {G : xG} {m0 : Nat} {S0 : MS}   : ∀ (n : Nat) (x1 : Int32) (S : MS) (q : MS), m_keeps_12 n x1 S = some q → XM G m0 mX4_keeps 1 S0 none q 12 [(0, .ref m0), (1, .int x1)] [] S
  | 0, _, _, _, hf => by cases hf
  | n + 1, x1, S, q, hf => m_keeps_12_bok (m_keeps_12_ok n) x1 S q hf
def m_keeps  (S : MS) : Option MS :=
  if (S.1 46) = (40 : Int32) then
    m_keeps_12 FU ((121 : Int32)) S
  else
    m_keeps_50 S
theorem w_keeps {G : xG} {m0 : Nat}  {S : MS} {q : MS} (hf : m_keeps S = some q) : CtM G m0 mX4_keeps 1 S [.ref m0] none q := by
  intro h N Z
  refine Ct.of (by decide +kernel) rfl (Nat.le_of_ble_eq_true rfl) (show Xr G _ 0 [(0, .ref m0)] [] _ from ?_)
  unfold m_keeps at hf
  refine X.aload_n dX4_keeps_0 rfl 0 rfl ?_
  refine M.get (v := .int (S.1 46)) dX4_keeps_1 fX4_307 (Nat.le_of_ble_eq_true rfl) rfl ?_
  refine X.bipush (v := 40) dX4_keeps_4 (by decide) ?_
  refine X.icmp_ne (tgt := 50) dX4_keeps_6 (by decide) (fun c6 => ?_) (fun c6 => ?_)
  · have hf := if_f c6 hf
    refine X.sub [0] (L' := [(0, .ref m0)]) rfl ?_
    exact m_keeps_50_ok _ _ hf h N Z
  · have hf := if_t c6 hf
    refine X.bipush (v := 121) dX4_keeps_9 (by decide) ?_
    refine X.istore_n (L' := [(1, .int (121 : Int32)), (0, .ref m0)]) dX4_keeps_11 rfl (Nat.le_of_ble_eq_true rfl) rfl ?_
    refine X.sub [1, 0] (L' := [(0, .ref m0), (1, .int (121 : Int32))]) rfl ?_
    exact m_keeps_12_ok FU _ _ _ hf h N Z
theorem cX4_400 : xCV RX4 400 mX4_keeps 0 := ⟨lw_V q2004 q2006 qs97 q127 q2007, rfl, ⟨by decide +kernel, by decide +kernel, by decide +kernel⟩, Nat.le_of_ble_eq_true rfl⟩
/-! refuses -/
abbrev cX4_refuses : ByteArray := prog_12_method_46_code
def yX4_refuses : MethodName := ⟨RX4, "refuses", "(I)I"⟩
def dkwX4_refuses_0 : List UInt8 := [42, 180, 0, 44, 27, 92, 46, 4, 96, 79, 2, 172]
abbrev dktX4_refuses_0 : List UInt8 := dkwX4_refuses_0 ++ []
theorem dksX4_refuses_0 : cX4_refuses.data.toList.drop 0 = dktX4_refuses_0 := by decide +kernel
theorem dX4_refuses_0 : decode cX4_refuses 0 = .ok (.aload_n 0, 1) := dk_42 (dk_at dksX4_refuses_0 0 rfl rfl)
theorem dX4_refuses_1 : decode cX4_refuses 1 = .ok (.getfield 44, 3) := dk_180 0 44 (dk_at dksX4_refuses_0 1 rfl rfl)
theorem dX4_refuses_4 : decode cX4_refuses 4 = .ok (.iload_n 1, 1) := dk_27 (dk_at dksX4_refuses_0 4 rfl rfl)
theorem dX4_refuses_5 : decode cX4_refuses 5 = .ok (.dup2, 1) := dk_92 (dk_at dksX4_refuses_0 5 rfl rfl)
theorem dX4_refuses_6 : decode cX4_refuses 6 = .ok (.iaload, 1) := dk_46 (dk_at dksX4_refuses_0 6 rfl rfl)
theorem dX4_refuses_7 : decode cX4_refuses 7 = .ok (.iconst 1, 1) := dk_4 (dk_at dksX4_refuses_0 7 rfl rfl)
theorem dX4_refuses_8 : decode cX4_refuses 8 = .ok (.iadd, 1) := dk_96 (dk_at dksX4_refuses_0 8 rfl rfl)
theorem dX4_refuses_9 : decode cX4_refuses 9 = .ok (.iastore, 1) := dk_79 (dk_at dksX4_refuses_0 9 rfl rfl)
theorem dX4_refuses_10 : decode cX4_refuses 10 = .ok (.iconst (-1), 1) := dk_2 (dk_at dksX4_refuses_0 10 rfl rfl)
theorem dX4_refuses_11 : decode cX4_refuses 11 = .ok (.ireturn, 1) := dk_172 (dk_at dksX4_refuses_0 11 rfl rfl)
abbrev mX4_refuses : xM := (yX4_refuses, cX4_refuses, 2, (some .int), [])
def m_refuses (x1 : Int32) (S : MS) : Option (Int32 × MS) :=
  (rdA S 5 x1).bind fun v6 =>
  (wrA S 5 x1 (v6 + (1 : Int32))).bind fun S9 =>
  some ((-1 : Int32), S9)
theorem w_refuses {G : xG} {m0 : Nat} {x1 : Int32} {S : MS} {q : (Int32 × MS)} (hf : m_refuses x1 S = some q) : CtM G m0 mX4_refuses 1 S [.ref m0, .int x1] (some (.int q.1)) q.2 := by
  intro h N Z
  refine Ct.of (by decide +kernel) rfl (Nat.le_of_ble_eq_true rfl) (show Xr G _ 0 [(0, .ref m0), (1, .int x1)] [] _ from ?_)
  unfold m_refuses at hf
  refine X.aload_n dX4_refuses_0 rfl 0 rfl ?_
  refine M.get (v := .ref (m0 + 5)) dX4_refuses_1 fX4_44 (Nat.le_of_ble_eq_true rfl) rfl ?_
  refine X.iload_n dX4_refuses_4 rfl 1 rfl ?_
  refine X.dup2_11 dX4_refuses_5 rfl rfl ?_
  obtain ⟨v6, h6, hf⟩ := ob hf
  refine M.iald dX4_refuses_6 rfl h6 ?_
  refine X.iconst (v := 1) dX4_refuses_7 (by decide) ?_
  refine X.iadd dX4_refuses_8 ?_
  obtain ⟨S9, h9, hf⟩ := ob hf
  refine M.iast dX4_refuses_9 rfl h9 ?_
  refine X.iconst (v := -1) dX4_refuses_10 (by decide) ?_
  obtain rfl := Option.some.inj hf
  exact X.iret dX4_refuses_11 rfl rfl rfl
theorem cX4_397 : xCV RX4 397 mX4_refuses 1 := ⟨lw_V q2000 q2002 qs96 q127 q2003, rfl, ⟨by decide +kernel, by decide +kernel, by decide +kernel⟩, Nat.le_of_ble_eq_true rfl⟩
/-! undo -/
abbrev cX4_undo : ByteArray := prog_12_method_47_code
def yX4_undo : MethodName := ⟨RX4, "undo", "()I"⟩
def dkwX4_undo_2 : List UInt8 := [27, 96, 46, 79, 132, 1, 1, 167, 255, 227, 42, 180, 1, 51, 172]
abbrev dktX4_undo_2 : List UInt8 := dkwX4_undo_2 ++ []
def dkwX4_undo_1 : List UInt8 := [3, 60, 27, 16, 121, 162, 0, 29, 42, 180, 0, 69, 27, 42, 180, 0, 72, 16, 121, 42, 180, 1, 51, 104]
abbrev dktX4_undo_1 : List UInt8 := dkwX4_undo_1 ++ dktX4_undo_2
def dkwX4_undo_0 : List UInt8 := [42, 3, 181, 0, 115, 42, 180, 1, 51, 154, 0, 5, 2, 172, 42, 89, 180, 1, 51, 4, 100, 181, 1, 51]
abbrev dktX4_undo_0 : List UInt8 := dkwX4_undo_0 ++ dktX4_undo_1
theorem dksX4_undo_0 : cX4_undo.data.toList.drop 0 = dktX4_undo_0 := by decide +kernel
theorem dksX4_undo_1 : cX4_undo.data.toList.drop 24 = dktX4_undo_1 := dk_seg dksX4_undo_0 24 rfl rfl
theorem dksX4_undo_2 : cX4_undo.data.toList.drop 48 = dktX4_undo_2 := dk_seg dksX4_undo_1 24 rfl rfl
theorem dX4_undo_0 : decode cX4_undo 0 = .ok (.aload_n 0, 1) := dk_42 (dk_at dksX4_undo_0 0 rfl rfl)
theorem dX4_undo_1 : decode cX4_undo 1 = .ok (.iconst 0, 1) := dk_3 (dk_at dksX4_undo_0 1 rfl rfl)
theorem dX4_undo_2 : decode cX4_undo 2 = .ok (.putfield 115, 3) := dk_181 0 115 (dk_at dksX4_undo_0 2 rfl rfl)
theorem dX4_undo_5 : decode cX4_undo 5 = .ok (.aload_n 0, 1) := dk_42 (dk_at dksX4_undo_0 5 rfl rfl)
theorem dX4_undo_6 : decode cX4_undo 6 = .ok (.getfield 307, 3) := dk_180 1 51 (dk_at dksX4_undo_0 6 rfl rfl)
theorem dX4_undo_9 : decode cX4_undo 9 = .ok (.ifCond .ne 5, 3) := dk_154 0 5 (dk_at dksX4_undo_0 9 rfl rfl)
theorem dX4_undo_12 : decode cX4_undo 12 = .ok (.iconst (-1), 1) := dk_2 (dk_at dksX4_undo_0 12 rfl rfl)
theorem dX4_undo_13 : decode cX4_undo 13 = .ok (.ireturn, 1) := dk_172 (dk_at dksX4_undo_0 13 rfl rfl)
theorem dX4_undo_14 : decode cX4_undo 14 = .ok (.aload_n 0, 1) := dk_42 (dk_at dksX4_undo_0 14 rfl rfl)
theorem dX4_undo_15 : decode cX4_undo 15 = .ok (.dup, 1) := dk_89 (dk_at dksX4_undo_0 15 rfl rfl)
theorem dX4_undo_16 : decode cX4_undo 16 = .ok (.getfield 307, 3) := dk_180 1 51 (dk_at dksX4_undo_0 16 rfl rfl)
theorem dX4_undo_19 : decode cX4_undo 19 = .ok (.iconst 1, 1) := dk_4 (dk_at dksX4_undo_0 19 rfl rfl)
theorem dX4_undo_20 : decode cX4_undo 20 = .ok (.isub, 1) := dk_100 (dk_at dksX4_undo_0 20 rfl rfl)
theorem dX4_undo_21 : decode cX4_undo 21 = .ok (.putfield 307, 3) := dk_181 1 51 (dk_at dksX4_undo_0 21 rfl rfl)
theorem dX4_undo_24 : decode cX4_undo 24 = .ok (.iconst 0, 1) := dk_3 (dk_at dksX4_undo_1 0 rfl rfl)
theorem dX4_undo_25 : decode cX4_undo 25 = .ok (.istore_n 1, 1) := dk_60 (dk_at dksX4_undo_1 1 rfl rfl)
theorem dX4_undo_26 : decode cX4_undo 26 = .ok (.iload_n 1, 1) := dk_27 (dk_at dksX4_undo_1 2 rfl rfl)
theorem dX4_undo_27 : decode cX4_undo 27 = .ok (.bipush 121, 2) := dk_16 121 (dk_at dksX4_undo_1 3 rfl rfl)
theorem dX4_undo_29 : decode cX4_undo 29 = .ok (.if_icmp .ge 29, 3) := dk_162 0 29 (dk_at dksX4_undo_1 5 rfl rfl)
theorem dX4_undo_32 : decode cX4_undo 32 = .ok (.aload_n 0, 1) := dk_42 (dk_at dksX4_undo_1 8 rfl rfl)
theorem dX4_undo_33 : decode cX4_undo 33 = .ok (.getfield 69, 3) := dk_180 0 69 (dk_at dksX4_undo_1 9 rfl rfl)
theorem dX4_undo_36 : decode cX4_undo 36 = .ok (.iload_n 1, 1) := dk_27 (dk_at dksX4_undo_1 12 rfl rfl)
theorem dX4_undo_37 : decode cX4_undo 37 = .ok (.aload_n 0, 1) := dk_42 (dk_at dksX4_undo_1 13 rfl rfl)
theorem dX4_undo_38 : decode cX4_undo 38 = .ok (.getfield 72, 3) := dk_180 0 72 (dk_at dksX4_undo_1 14 rfl rfl)
theorem dX4_undo_41 : decode cX4_undo 41 = .ok (.bipush 121, 2) := dk_16 121 (dk_at dksX4_undo_1 17 rfl rfl)
theorem dX4_undo_43 : decode cX4_undo 43 = .ok (.aload_n 0, 1) := dk_42 (dk_at dksX4_undo_1 19 rfl rfl)
theorem dX4_undo_44 : decode cX4_undo 44 = .ok (.getfield 307, 3) := dk_180 1 51 (dk_at dksX4_undo_1 20 rfl rfl)
theorem dX4_undo_47 : decode cX4_undo 47 = .ok (.imul, 1) := dk_104 (dk_at dksX4_undo_1 23 rfl rfl)
theorem dX4_undo_48 : decode cX4_undo 48 = .ok (.iload_n 1, 1) := dk_27 (dk_at dksX4_undo_2 0 rfl rfl)
theorem dX4_undo_49 : decode cX4_undo 49 = .ok (.iadd, 1) := dk_96 (dk_at dksX4_undo_2 1 rfl rfl)
theorem dX4_undo_50 : decode cX4_undo 50 = .ok (.iaload, 1) := dk_46 (dk_at dksX4_undo_2 2 rfl rfl)
theorem dX4_undo_51 : decode cX4_undo 51 = .ok (.iastore, 1) := dk_79 (dk_at dksX4_undo_2 3 rfl rfl)
theorem dX4_undo_52 : decode cX4_undo 52 = .ok (.iinc 1 1, 3) := dk_132 1 1 (dk_at dksX4_undo_2 4 rfl rfl)
theorem dX4_undo_55 : decode cX4_undo 55 = .ok (.goto (-29), 3) := dk_167 255 227 (dk_at dksX4_undo_2 7 rfl rfl)
theorem dX4_undo_58 : decode cX4_undo 58 = .ok (.aload_n 0, 1) := dk_42 (dk_at dksX4_undo_2 10 rfl rfl)
theorem dX4_undo_59 : decode cX4_undo 59 = .ok (.getfield 307, 3) := dk_180 1 51 (dk_at dksX4_undo_2 11 rfl rfl)
theorem dX4_undo_62 : decode cX4_undo 62 = .ok (.ireturn, 1) := dk_172 (dk_at dksX4_undo_2 14 rfl rfl)
abbrev mX4_undo : xM := (yX4_undo, cX4_undo, 2, (some .int), [])
def m_undo_26_b  (k26 : Int32 → MS → Option (Int32 × MS)) (x1 : Int32) (S : MS) : Option (Int32 × MS) :=
  if (121 : Int32) ≤ x1 then
    some ((S.1 46), S)
  else
    (rdA S 14 (((121 : Int32) * (S.1 46)) + x1)).bind fun v50 =>
    (wrA S 13 x1 v50).bind fun S51 =>
    k26 ((x1 + 1)) S51
def m_undo_26  : Nat → Int32 → MS → Option (Int32 × MS)
  | 0 => fun _ _ => none
  | n + 1 => fun x1 S => m_undo_26_b (m_undo_26 n) x1 S
theorem m_undo_26_bok {G : xG} {m0 : Nat} {S0 : MS}  {k26 : Int32 → MS → Option (Int32 × MS)}  (hk26 : ∀ (x1 : Int32) (S : MS) (q : (Int32 × MS)), k26 x1 S = some q → XM G m0 mX4_undo 1 S0 (some (.int q.1)) q.2 26 [(0, .ref m0), (1, .int x1)] [] S) (x1 : Int32) (S : MS) (q : (Int32 × MS)) (hf : m_undo_26_b k26 x1 S = some q) : XM G m0 mX4_undo 1 S0 (some (.int q.1)) q.2 26 [(0, .ref m0), (1, .int x1)] [] S := by
  intro h N Z
  unfold m_undo_26_b at hf
  refine X.iload_n dX4_undo_26 rfl 1 rfl ?_
  refine X.bipush (v := 121) dX4_undo_27 (by decide) ?_
  refine X.icmp_ge (tgt := 58) dX4_undo_29 (by decide) (fun c29 => ?_) (fun c29 => ?_)
  · have hf := if_t c29 hf
    refine X.aload_n dX4_undo_58 rfl 0 rfl ?_
    refine M.get (v := .int (S.1 46)) dX4_undo_59 fX4_307 (Nat.le_of_ble_eq_true rfl) rfl ?_
    obtain rfl := Option.some.inj hf
    exact X.iret dX4_undo_62 rfl rfl rfl
  · have hf := if_f c29 hf
    refine X.aload_n dX4_undo_32 rfl 0 rfl ?_
    refine M.get (v := .ref (m0 + 13)) dX4_undo_33 fX4_69 (Nat.le_of_ble_eq_true rfl) rfl ?_
    refine X.iload_n dX4_undo_36 rfl 1 rfl ?_
    refine X.aload_n dX4_undo_37 rfl 0 rfl ?_
    refine M.get (v := .ref (m0 + 14)) dX4_undo_38 fX4_72 (Nat.le_of_ble_eq_true rfl) rfl ?_
    refine X.bipush (v := 121) dX4_undo_41 (by decide) ?_
    refine X.aload_n dX4_undo_43 rfl 0 rfl ?_
    refine M.get (v := .int (S.1 46)) dX4_undo_44 fX4_307 (Nat.le_of_ble_eq_true rfl) rfl ?_
    refine X.imul dX4_undo_47 ?_
    refine X.iload_n dX4_undo_48 rfl 1 rfl ?_
    refine X.iadd dX4_undo_49 ?_
    obtain ⟨v50, h50, hf⟩ := ob hf
    refine M.iald dX4_undo_50 rfl h50 ?_
    obtain ⟨S51, h51, hf⟩ := ob hf
    refine M.iast dX4_undo_51 rfl h51 ?_
    refine X.iinc (v := (x1 + 1)) (L' := [(1, .int (x1 + 1)), (0, .ref m0)]) dX4_undo_52 1 rfl rfl (Nat.le_of_ble_eq_true rfl) rfl ?_
    refine X.goto (tgt := 26) dX4_undo_55 (by decide) ?_
    refine X.sub [1, 0] (L' := [(0, .ref m0), (1, .int (x1 + 1))]) rfl ?_
    exact hk26 _ _ _ hf h N Z
theorem m_undo_26_ok {G : xG} {m0 : Nat} {S0 : MS}   : ∀ (n : Nat) (x1 : Int32) (S : MS) (q : (Int32 × MS)), m_undo_26 n x1 S = some q → XM G m0 mX4_undo 1 S0 (some (.int q.1)) q.2 26 [(0, .ref m0), (1, .int x1)] [] S
  | 0, _, _, _, hf => by cases hf
  | n + 1, x1, S, q, hf => m_undo_26_bok (m_undo_26_ok n) x1 S q hf
def m_undo  (S : MS) : Option (Int32 × MS) :=
  if (((sF S 0 (0 : Int32))).1 46) = 0 then
    some ((-1 : Int32), (sF S 0 (0 : Int32)))
  else
    m_undo_26 FU ((0 : Int32)) ((sF ((sF S 0 (0 : Int32))) 46 ((((sF S 0 (0 : Int32))).1 46) - (1 : Int32))))
theorem w_undo {G : xG} {m0 : Nat}  {S : MS} {q : (Int32 × MS)} (hf : m_undo S = some q) : CtM G m0 mX4_undo 1 S [.ref m0] (some (.int q.1)) q.2 := by
  intro h N Z
  refine Ct.of (by decide +kernel) rfl (Nat.le_of_ble_eq_true rfl) (show Xr G _ 0 [(0, .ref m0)] [] _ from ?_)
  unfold m_undo at hf
  refine X.aload_n dX4_undo_0 rfl 0 rfl ?_
  refine X.iconst (v := 0) dX4_undo_1 (by decide) ?_
  refine M.putI dX4_undo_2 fX4_115 (by decide) rfl rfl rfl ?_
  refine X.aload_n dX4_undo_5 rfl 0 rfl ?_
  refine M.get (v := .int (((sF S 0 (0 : Int32))).1 46)) dX4_undo_6 fX4_307 (Nat.le_of_ble_eq_true rfl) rfl ?_
  refine X.if_ne (tgt := 14) dX4_undo_9 (by decide) (fun c9 => ?_) (fun c9 => ?_)
  · have hf := if_f c9 hf
    refine X.aload_n dX4_undo_14 rfl 0 rfl ?_
    refine X.dup dX4_undo_15 rfl ?_
    refine M.get (v := .int (((sF S 0 (0 : Int32))).1 46)) dX4_undo_16 fX4_307 (Nat.le_of_ble_eq_true rfl) rfl ?_
    refine X.iconst (v := 1) dX4_undo_19 (by decide) ?_
    refine X.isub dX4_undo_20 ?_
    refine M.putI dX4_undo_21 fX4_307 (by decide) rfl rfl rfl ?_
    refine X.iconst (v := 0) dX4_undo_24 (by decide) ?_
    refine X.istore_n (L' := [(1, .int (0 : Int32)), (0, .ref m0)]) dX4_undo_25 rfl (Nat.le_of_ble_eq_true rfl) rfl ?_
    refine X.sub [1, 0] (L' := [(0, .ref m0), (1, .int (0 : Int32))]) rfl ?_
    exact m_undo_26_ok FU _ _ _ hf h N Z
  · have hf := if_t c9 hf
    refine X.iconst (v := -1) dX4_undo_12 (by decide) ?_
    obtain rfl := Option.some.inj hf
    exact X.iret dX4_undo_13 rfl rfl rfl
/-! tries -/
abbrev cX4_tries : ByteArray := prog_12_method_48_code
def yX4_tries : MethodName := ⟨RX4, "tries", "()V"⟩
def dkwX4_tries_1 : List UInt8 := [132, 1, 1, 167, 255, 232, 177]
abbrev dktX4_tries_1 : List UInt8 := dkwX4_tries_1 ++ []
def dkwX4_tries_0 : List UInt8 := [3, 60, 27, 16, 121, 162, 0, 24, 42, 180, 0, 69, 16, 121, 27, 96, 42, 180, 0, 69, 27, 46, 79]
abbrev dktX4_tries_0 : List UInt8 := dkwX4_tries_0 ++ dktX4_tries_1
theorem dksX4_tries_0 : cX4_tries.data.toList.drop 0 = dktX4_tries_0 := by decide +kernel
theorem dksX4_tries_1 : cX4_tries.data.toList.drop 23 = dktX4_tries_1 := dk_seg dksX4_tries_0 23 rfl rfl
theorem dX4_tries_0 : decode cX4_tries 0 = .ok (.iconst 0, 1) := dk_3 (dk_at dksX4_tries_0 0 rfl rfl)
theorem dX4_tries_1 : decode cX4_tries 1 = .ok (.istore_n 1, 1) := dk_60 (dk_at dksX4_tries_0 1 rfl rfl)
theorem dX4_tries_2 : decode cX4_tries 2 = .ok (.iload_n 1, 1) := dk_27 (dk_at dksX4_tries_0 2 rfl rfl)
theorem dX4_tries_3 : decode cX4_tries 3 = .ok (.bipush 121, 2) := dk_16 121 (dk_at dksX4_tries_0 3 rfl rfl)
theorem dX4_tries_5 : decode cX4_tries 5 = .ok (.if_icmp .ge 24, 3) := dk_162 0 24 (dk_at dksX4_tries_0 5 rfl rfl)
theorem dX4_tries_8 : decode cX4_tries 8 = .ok (.aload_n 0, 1) := dk_42 (dk_at dksX4_tries_0 8 rfl rfl)
theorem dX4_tries_9 : decode cX4_tries 9 = .ok (.getfield 69, 3) := dk_180 0 69 (dk_at dksX4_tries_0 9 rfl rfl)
theorem dX4_tries_12 : decode cX4_tries 12 = .ok (.bipush 121, 2) := dk_16 121 (dk_at dksX4_tries_0 12 rfl rfl)
theorem dX4_tries_14 : decode cX4_tries 14 = .ok (.iload_n 1, 1) := dk_27 (dk_at dksX4_tries_0 14 rfl rfl)
theorem dX4_tries_15 : decode cX4_tries 15 = .ok (.iadd, 1) := dk_96 (dk_at dksX4_tries_0 15 rfl rfl)
theorem dX4_tries_16 : decode cX4_tries 16 = .ok (.aload_n 0, 1) := dk_42 (dk_at dksX4_tries_0 16 rfl rfl)
theorem dX4_tries_17 : decode cX4_tries 17 = .ok (.getfield 69, 3) := dk_180 0 69 (dk_at dksX4_tries_0 17 rfl rfl)
theorem dX4_tries_20 : decode cX4_tries 20 = .ok (.iload_n 1, 1) := dk_27 (dk_at dksX4_tries_0 20 rfl rfl)
theorem dX4_tries_21 : decode cX4_tries 21 = .ok (.iaload, 1) := dk_46 (dk_at dksX4_tries_0 21 rfl rfl)
theorem dX4_tries_22 : decode cX4_tries 22 = .ok (.iastore, 1) := dk_79 (dk_at dksX4_tries_0 22 rfl rfl)
theorem dX4_tries_23 : decode cX4_tries 23 = .ok (.iinc 1 1, 3) := dk_132 1 1 (dk_at dksX4_tries_1 0 rfl rfl)
theorem dX4_tries_26 : decode cX4_tries 26 = .ok (.goto (-24), 3) := dk_167 255 232 (dk_at dksX4_tries_1 3 rfl rfl)
theorem dX4_tries_29 : decode cX4_tries 29 = .ok (.return_, 1) := dk_177 (dk_at dksX4_tries_1 6 rfl rfl)
abbrev mX4_tries : xM := (yX4_tries, cX4_tries, 2, none, [])
def m_tries_2_b  (k2 : Int32 → MS → Option MS) (x1 : Int32) (S : MS) : Option MS :=
  if (121 : Int32) ≤ x1 then
    some S
  else
    (rdA S 13 x1).bind fun v21 =>
    (wrA S 13 ((121 : Int32) + x1) v21).bind fun S22 =>
    k2 ((x1 + 1)) S22
def m_tries_2  : Nat → Int32 → MS → Option MS
  | 0 => fun _ _ => none
  | n + 1 => fun x1 S => m_tries_2_b (m_tries_2 n) x1 S
theorem m_tries_2_bok {G : xG} {m0 : Nat} {S0 : MS}  {k2 : Int32 → MS → Option MS}  (hk2 : ∀ (x1 : Int32) (S : MS) (q : MS), k2 x1 S = some q → XM G m0 mX4_tries 1 S0 none q 2 [(0, .ref m0), (1, .int x1)] [] S) (x1 : Int32) (S : MS) (q : MS) (hf : m_tries_2_b k2 x1 S = some q) : XM G m0 mX4_tries 1 S0 none q 2 [(0, .ref m0), (1, .int x1)] [] S := by
  intro h N Z
  unfold m_tries_2_b at hf
  refine X.iload_n dX4_tries_2 rfl 1 rfl ?_
  refine X.bipush (v := 121) dX4_tries_3 (by decide) ?_
  refine X.icmp_ge (tgt := 29) dX4_tries_5 (by decide) (fun c5 => ?_) (fun c5 => ?_)
  · have hf := if_t c5 hf
    obtain rfl := Option.some.inj hf
    exact X.vret dX4_tries_29 rfl rfl
  · have hf := if_f c5 hf
    refine X.aload_n dX4_tries_8 rfl 0 rfl ?_
    refine M.get (v := .ref (m0 + 13)) dX4_tries_9 fX4_69 (Nat.le_of_ble_eq_true rfl) rfl ?_
    refine X.bipush (v := 121) dX4_tries_12 (by decide) ?_
    refine X.iload_n dX4_tries_14 rfl 1 rfl ?_
    refine X.iadd dX4_tries_15 ?_
    refine X.aload_n dX4_tries_16 rfl 0 rfl ?_
    refine M.get (v := .ref (m0 + 13)) dX4_tries_17 fX4_69 (Nat.le_of_ble_eq_true rfl) rfl ?_
    refine X.iload_n dX4_tries_20 rfl 1 rfl ?_
    obtain ⟨v21, h21, hf⟩ := ob hf
    refine M.iald dX4_tries_21 rfl h21 ?_
    obtain ⟨S22, h22, hf⟩ := ob hf
    refine M.iast dX4_tries_22 rfl h22 ?_
    refine X.iinc (v := (x1 + 1)) (L' := [(1, .int (x1 + 1)), (0, .ref m0)]) dX4_tries_23 1 rfl rfl (Nat.le_of_ble_eq_true rfl) rfl ?_
    refine X.goto (tgt := 2) dX4_tries_26 (by decide) ?_
    refine X.sub [1, 0] (L' := [(0, .ref m0), (1, .int (x1 + 1))]) rfl ?_
    exact hk2 _ _ _ hf h N Z
theorem m_tries_2_ok {G : xG} {m0 : Nat} {S0 : MS}   : ∀ (n : Nat) (x1 : Int32) (S : MS) (q : MS), m_tries_2 n x1 S = some q → XM G m0 mX4_tries 1 S0 none q 2 [(0, .ref m0), (1, .int x1)] [] S
  | 0, _, _, _, hf => by cases hf
  | n + 1, x1, S, q, hf => m_tries_2_bok (m_tries_2_ok n) x1 S q hf
def m_tries  (S : MS) : Option MS :=
  m_tries_2 FU ((0 : Int32)) S
theorem w_tries {G : xG} {m0 : Nat}  {S : MS} {q : MS} (hf : m_tries S = some q) : CtM G m0 mX4_tries 1 S [.ref m0] none q := by
  intro h N Z
  refine Ct.of (by decide +kernel) rfl (Nat.le_of_ble_eq_true rfl) (show Xr G _ 0 [(0, .ref m0)] [] _ from ?_)
  unfold m_tries at hf
  refine X.iconst (v := 0) dX4_tries_0 (by decide) ?_
  refine X.istore_n (L' := [(1, .int (0 : Int32)), (0, .ref m0)]) dX4_tries_1 rfl (Nat.le_of_ble_eq_true rfl) rfl ?_
  refine X.sub [1, 0] (L' := [(0, .ref m0), (1, .int (0 : Int32))]) rfl ?_
  exact m_tries_2_ok FU _ _ _ hf h N Z
theorem cX4_403 : xCV RX4 403 mX4_tries 0 := ⟨lw_V q2060 q2062 qs106 q127 q2063, rfl, ⟨by decide +kernel, by decide +kernel, by decide +kernel⟩, Nat.le_of_ble_eq_true rfl⟩
/-! works -/
abbrev cX4_works : ByteArray := prog_12_method_49_code
def yX4_works : MethodName := ⟨RX4, "works", "(III)I"⟩
def dkwX4_works_5 : List UInt8 := [167, 0, 6, 27, 28, 108, 172]
abbrev dktX4_works_5 : List UInt8 := dkwX4_works_5 ++ []
def dkwX4_works_4 : List UInt8 := [167, 0, 4, 3, 172, 27, 28, 96, 172, 27, 28, 100, 172, 27, 28, 104, 172, 28, 154, 0, 7, 3]
abbrev dktX4_works_4 : List UInt8 := dkwX4_works_4 ++ dktX4_works_5
def dkwX4_works_3 : List UInt8 := [167, 0, 4, 3, 172, 27, 28, 162, 0, 7, 4, 167, 0, 4, 3, 172, 27, 28, 160, 0, 7, 4]
abbrev dktX4_works_3 : List UInt8 := dkwX4_works_3 ++ dktX4_works_4
def dkwX4_works_2 : List UInt8 := [27, 153, 0, 11, 28, 153, 0, 7, 4, 167, 0, 4, 3, 172, 27, 154, 0, 7, 28, 153, 0, 7, 4]
abbrev dktX4_works_2 : List UInt8 := dkwX4_works_2 ++ dktX4_works_3
def dkwX4_works_1 : List UInt8 := [170, 0, 0, 0, 0, 0, 105, 0, 0, 0, 4, 0, 0, 0, 10, 0, 0, 0, 43, 0, 0, 0, 57, 0, 0, 0, 71, 0, 0, 0, 82, 0, 0, 0, 93, 0, 0, 0, 97, 0, 0, 0, 101]
abbrev dktX4_works_1 : List UInt8 := dkwX4_works_1 ++ dktX4_works_2
def dkwX4_works_0 : List UInt8 := [26]
abbrev dktX4_works_0 : List UInt8 := dkwX4_works_0 ++ dktX4_works_1
theorem dksX4_works_0 : cX4_works.data.toList.drop 0 = dktX4_works_0 := by decide +kernel
theorem dksX4_works_1 : cX4_works.data.toList.drop 1 = dktX4_works_1 := dk_seg dksX4_works_0 1 rfl rfl
theorem dksX4_works_2 : cX4_works.data.toList.drop 44 = dktX4_works_2 := dk_seg dksX4_works_1 43 rfl rfl
theorem dksX4_works_3 : cX4_works.data.toList.drop 67 = dktX4_works_3 := dk_seg dksX4_works_2 23 rfl rfl
theorem dksX4_works_4 : cX4_works.data.toList.drop 89 = dktX4_works_4 := dk_seg dksX4_works_3 22 rfl rfl
theorem dksX4_works_5 : cX4_works.data.toList.drop 111 = dktX4_works_5 := dk_seg dksX4_works_4 22 rfl rfl
theorem dX4_works_0 : decode cX4_works 0 = .ok (.iload_n 0, 1) := dk_26 (dk_at dksX4_works_0 0 rfl rfl)
theorem dX4_works_1 : decode cX4_works 1 = .ok (.tableswitch 105 4 10 #[43, 57, 71, 82, 93, 97, 101], 43) := by decide +kernel
theorem dX4_works_44 : decode cX4_works 44 = .ok (.iload_n 1, 1) := dk_27 (dk_at dksX4_works_2 0 rfl rfl)
theorem dX4_works_45 : decode cX4_works 45 = .ok (.ifCond .eq 11, 3) := dk_153 0 11 (dk_at dksX4_works_2 1 rfl rfl)
theorem dX4_works_48 : decode cX4_works 48 = .ok (.iload_n 2, 1) := dk_28 (dk_at dksX4_works_2 4 rfl rfl)
theorem dX4_works_49 : decode cX4_works 49 = .ok (.ifCond .eq 7, 3) := dk_153 0 7 (dk_at dksX4_works_2 5 rfl rfl)
theorem dX4_works_52 : decode cX4_works 52 = .ok (.iconst 1, 1) := dk_4 (dk_at dksX4_works_2 8 rfl rfl)
theorem dX4_works_53 : decode cX4_works 53 = .ok (.goto 4, 3) := dk_167 0 4 (dk_at dksX4_works_2 9 rfl rfl)
theorem dX4_works_56 : decode cX4_works 56 = .ok (.iconst 0, 1) := dk_3 (dk_at dksX4_works_2 12 rfl rfl)
theorem dX4_works_57 : decode cX4_works 57 = .ok (.ireturn, 1) := dk_172 (dk_at dksX4_works_2 13 rfl rfl)
theorem dX4_works_58 : decode cX4_works 58 = .ok (.iload_n 1, 1) := dk_27 (dk_at dksX4_works_2 14 rfl rfl)
theorem dX4_works_59 : decode cX4_works 59 = .ok (.ifCond .ne 7, 3) := dk_154 0 7 (dk_at dksX4_works_2 15 rfl rfl)
theorem dX4_works_62 : decode cX4_works 62 = .ok (.iload_n 2, 1) := dk_28 (dk_at dksX4_works_2 18 rfl rfl)
theorem dX4_works_63 : decode cX4_works 63 = .ok (.ifCond .eq 7, 3) := dk_153 0 7 (dk_at dksX4_works_2 19 rfl rfl)
theorem dX4_works_66 : decode cX4_works 66 = .ok (.iconst 1, 1) := dk_4 (dk_at dksX4_works_2 22 rfl rfl)
theorem dX4_works_67 : decode cX4_works 67 = .ok (.goto 4, 3) := dk_167 0 4 (dk_at dksX4_works_3 0 rfl rfl)
theorem dX4_works_70 : decode cX4_works 70 = .ok (.iconst 0, 1) := dk_3 (dk_at dksX4_works_3 3 rfl rfl)
theorem dX4_works_71 : decode cX4_works 71 = .ok (.ireturn, 1) := dk_172 (dk_at dksX4_works_3 4 rfl rfl)
theorem dX4_works_72 : decode cX4_works 72 = .ok (.iload_n 1, 1) := dk_27 (dk_at dksX4_works_3 5 rfl rfl)
theorem dX4_works_73 : decode cX4_works 73 = .ok (.iload_n 2, 1) := dk_28 (dk_at dksX4_works_3 6 rfl rfl)
theorem dX4_works_74 : decode cX4_works 74 = .ok (.if_icmp .ge 7, 3) := dk_162 0 7 (dk_at dksX4_works_3 7 rfl rfl)
theorem dX4_works_77 : decode cX4_works 77 = .ok (.iconst 1, 1) := dk_4 (dk_at dksX4_works_3 10 rfl rfl)
theorem dX4_works_78 : decode cX4_works 78 = .ok (.goto 4, 3) := dk_167 0 4 (dk_at dksX4_works_3 11 rfl rfl)
theorem dX4_works_81 : decode cX4_works 81 = .ok (.iconst 0, 1) := dk_3 (dk_at dksX4_works_3 14 rfl rfl)
theorem dX4_works_82 : decode cX4_works 82 = .ok (.ireturn, 1) := dk_172 (dk_at dksX4_works_3 15 rfl rfl)
theorem dX4_works_83 : decode cX4_works 83 = .ok (.iload_n 1, 1) := dk_27 (dk_at dksX4_works_3 16 rfl rfl)
theorem dX4_works_84 : decode cX4_works 84 = .ok (.iload_n 2, 1) := dk_28 (dk_at dksX4_works_3 17 rfl rfl)
theorem dX4_works_85 : decode cX4_works 85 = .ok (.if_icmp .ne 7, 3) := dk_160 0 7 (dk_at dksX4_works_3 18 rfl rfl)
theorem dX4_works_88 : decode cX4_works 88 = .ok (.iconst 1, 1) := dk_4 (dk_at dksX4_works_3 21 rfl rfl)
theorem dX4_works_89 : decode cX4_works 89 = .ok (.goto 4, 3) := dk_167 0 4 (dk_at dksX4_works_4 0 rfl rfl)
theorem dX4_works_92 : decode cX4_works 92 = .ok (.iconst 0, 1) := dk_3 (dk_at dksX4_works_4 3 rfl rfl)
theorem dX4_works_93 : decode cX4_works 93 = .ok (.ireturn, 1) := dk_172 (dk_at dksX4_works_4 4 rfl rfl)
theorem dX4_works_94 : decode cX4_works 94 = .ok (.iload_n 1, 1) := dk_27 (dk_at dksX4_works_4 5 rfl rfl)
theorem dX4_works_95 : decode cX4_works 95 = .ok (.iload_n 2, 1) := dk_28 (dk_at dksX4_works_4 6 rfl rfl)
theorem dX4_works_96 : decode cX4_works 96 = .ok (.iadd, 1) := dk_96 (dk_at dksX4_works_4 7 rfl rfl)
theorem dX4_works_97 : decode cX4_works 97 = .ok (.ireturn, 1) := dk_172 (dk_at dksX4_works_4 8 rfl rfl)
theorem dX4_works_98 : decode cX4_works 98 = .ok (.iload_n 1, 1) := dk_27 (dk_at dksX4_works_4 9 rfl rfl)
theorem dX4_works_99 : decode cX4_works 99 = .ok (.iload_n 2, 1) := dk_28 (dk_at dksX4_works_4 10 rfl rfl)
theorem dX4_works_100 : decode cX4_works 100 = .ok (.isub, 1) := dk_100 (dk_at dksX4_works_4 11 rfl rfl)
theorem dX4_works_101 : decode cX4_works 101 = .ok (.ireturn, 1) := dk_172 (dk_at dksX4_works_4 12 rfl rfl)
theorem dX4_works_102 : decode cX4_works 102 = .ok (.iload_n 1, 1) := dk_27 (dk_at dksX4_works_4 13 rfl rfl)
theorem dX4_works_103 : decode cX4_works 103 = .ok (.iload_n 2, 1) := dk_28 (dk_at dksX4_works_4 14 rfl rfl)
theorem dX4_works_104 : decode cX4_works 104 = .ok (.imul, 1) := dk_104 (dk_at dksX4_works_4 15 rfl rfl)
theorem dX4_works_105 : decode cX4_works 105 = .ok (.ireturn, 1) := dk_172 (dk_at dksX4_works_4 16 rfl rfl)
theorem dX4_works_106 : decode cX4_works 106 = .ok (.iload_n 2, 1) := dk_28 (dk_at dksX4_works_4 17 rfl rfl)
theorem dX4_works_107 : decode cX4_works 107 = .ok (.ifCond .ne 7, 3) := dk_154 0 7 (dk_at dksX4_works_4 18 rfl rfl)
theorem dX4_works_110 : decode cX4_works 110 = .ok (.iconst 0, 1) := dk_3 (dk_at dksX4_works_4 21 rfl rfl)
theorem dX4_works_111 : decode cX4_works 111 = .ok (.goto 6, 3) := dk_167 0 6 (dk_at dksX4_works_5 0 rfl rfl)
theorem dX4_works_114 : decode cX4_works 114 = .ok (.iload_n 1, 1) := dk_27 (dk_at dksX4_works_5 3 rfl rfl)
theorem dX4_works_115 : decode cX4_works 115 = .ok (.iload_n 2, 1) := dk_28 (dk_at dksX4_works_5 4 rfl rfl)
theorem dX4_works_116 : decode cX4_works 116 = .ok (.idiv, 1) := dk_108 (dk_at dksX4_works_5 5 rfl rfl)
theorem dX4_works_117 : decode cX4_works 117 = .ok (.ireturn, 1) := dk_172 (dk_at dksX4_works_5 6 rfl rfl)
abbrev mX4_works : xM := (yX4_works, cX4_works, 3, (some .int), [])
def m_works_66   : Option Int32 :=
  some (1 : Int32)
theorem m_works_66_ok {G : xG}    (q : Int32) (hf : m_works_66  = some q) : XP G mX4_works 1 (some (.int q)) 66 [] [] := by
  intro T
  unfold m_works_66 at hf
  refine X.iconst (v := 1) dX4_works_66 (by decide) ?_
  refine X.goto (tgt := 71) dX4_works_67 (by decide) ?_
  obtain rfl := Option.some.inj hf
  exact X.iret dX4_works_71 rfl rfl rfl
def m_works (x0 : Int32) (x1 : Int32) (x2 : Int32) : Option Int32 :=
  if x0 = (4 : Int32) then
    if x1 = 0 then
      some (0 : Int32)
    else
      if x2 = 0 then
        some (0 : Int32)
      else
        some (1 : Int32)
  else
  if x0 = (5 : Int32) then
    if x1 = 0 then
      if x2 = 0 then
        some (0 : Int32)
      else
        m_works_66 
    else
      m_works_66 
  else
  if x0 = (6 : Int32) then
    if x2 ≤ x1 then
      some (0 : Int32)
    else
      some (1 : Int32)
  else
  if x0 = (7 : Int32) then
    if x1 = x2 then
      some (1 : Int32)
    else
      some (0 : Int32)
  else
  if x0 = (8 : Int32) then
    some (x1 + x2)
  else
  if x0 = (9 : Int32) then
    some (x1 - x2)
  else
  if x0 = (10 : Int32) then
    some (x1 * x2)
  else
    if x2 = 0 then
      some (0 : Int32)
    else
      if x2 = 0 then none else
      some (x1 / x2)
theorem w_works {G : xG} {x0 : Int32} {x1 : Int32} {x2 : Int32} {q : Int32} (hf : m_works x0 x1 x2 = some q) : CtP G mX4_works 1 [.int x0, .int x1, .int x2] (some (.int q)) := by
  intro T
  refine Ct.of (by decide +kernel) rfl (Nat.le_of_ble_eq_true rfl) (show Xr G _ 0 [(0, .int x0), (1, .int x1), (2, .int x2)] [] _ from ?_)
  unfold m_works at hf
  refine X.iload_n dX4_works_0 rfl 0 rfl ?_
  by_cases c1_4 : x0 = (4 : Int32)
  · have hf := if_t c1_4 hf
    refine X.tableC (tgt := 44) c1_4 dX4_works_1 (by decide) (by decide) rfl (by decide) ?_
    refine X.iload_n dX4_works_44 rfl 1 rfl ?_
    refine X.if_eq (tgt := 56) dX4_works_45 (by decide) (fun c45 => ?_) (fun c45 => ?_)
    · have hf := if_t c45 hf
      refine X.iconst (v := 0) dX4_works_56 (by decide) ?_
      obtain rfl := Option.some.inj hf
      exact X.iret dX4_works_57 rfl rfl rfl
    · have hf := if_f c45 hf
      refine X.iload_n dX4_works_48 rfl 2 rfl ?_
      refine X.if_eq (tgt := 56) dX4_works_49 (by decide) (fun c49 => ?_) (fun c49 => ?_)
      · have hf := if_t c49 hf
        refine X.iconst (v := 0) dX4_works_56 (by decide) ?_
        obtain rfl := Option.some.inj hf
        exact X.iret dX4_works_57 rfl rfl rfl
      · have hf := if_f c49 hf
        refine X.iconst (v := 1) dX4_works_52 (by decide) ?_
        refine X.goto (tgt := 57) dX4_works_53 (by decide) ?_
        obtain rfl := Option.some.inj hf
        exact X.iret dX4_works_57 rfl rfl rfl
  have hf := if_f c1_4 hf
  by_cases c1_5 : x0 = (5 : Int32)
  · have hf := if_t c1_5 hf
    refine X.tableC (tgt := 58) c1_5 dX4_works_1 (by decide) (by decide) rfl (by decide) ?_
    refine X.iload_n dX4_works_58 rfl 1 rfl ?_
    refine X.if_ne (tgt := 66) dX4_works_59 (by decide) (fun c59 => ?_) (fun c59 => ?_)
    · have hf := if_f c59 hf
      refine X.sub [] (L' := []) rfl ?_
      exact m_works_66_ok  _ hf T
    · have hf := if_t c59 hf
      refine X.iload_n dX4_works_62 rfl 2 rfl ?_
      refine X.if_eq (tgt := 70) dX4_works_63 (by decide) (fun c63 => ?_) (fun c63 => ?_)
      · have hf := if_t c63 hf
        refine X.iconst (v := 0) dX4_works_70 (by decide) ?_
        obtain rfl := Option.some.inj hf
        exact X.iret dX4_works_71 rfl rfl rfl
      · have hf := if_f c63 hf
        refine X.sub [] (L' := []) rfl ?_
        exact m_works_66_ok  _ hf T
  have hf := if_f c1_5 hf
  by_cases c1_6 : x0 = (6 : Int32)
  · have hf := if_t c1_6 hf
    refine X.tableC (tgt := 72) c1_6 dX4_works_1 (by decide) (by decide) rfl (by decide) ?_
    refine X.iload_n dX4_works_72 rfl 1 rfl ?_
    refine X.iload_n dX4_works_73 rfl 2 rfl ?_
    refine X.icmp_ge (tgt := 81) dX4_works_74 (by decide) (fun c74 => ?_) (fun c74 => ?_)
    · have hf := if_t c74 hf
      refine X.iconst (v := 0) dX4_works_81 (by decide) ?_
      obtain rfl := Option.some.inj hf
      exact X.iret dX4_works_82 rfl rfl rfl
    · have hf := if_f c74 hf
      refine X.iconst (v := 1) dX4_works_77 (by decide) ?_
      refine X.goto (tgt := 82) dX4_works_78 (by decide) ?_
      obtain rfl := Option.some.inj hf
      exact X.iret dX4_works_82 rfl rfl rfl
  have hf := if_f c1_6 hf
  by_cases c1_7 : x0 = (7 : Int32)
  · have hf := if_t c1_7 hf
    refine X.tableC (tgt := 83) c1_7 dX4_works_1 (by decide) (by decide) rfl (by decide) ?_
    refine X.iload_n dX4_works_83 rfl 1 rfl ?_
    refine X.iload_n dX4_works_84 rfl 2 rfl ?_
    refine X.icmp_ne (tgt := 92) dX4_works_85 (by decide) (fun c85 => ?_) (fun c85 => ?_)
    · have hf := if_f c85 hf
      refine X.iconst (v := 0) dX4_works_92 (by decide) ?_
      obtain rfl := Option.some.inj hf
      exact X.iret dX4_works_93 rfl rfl rfl
    · have hf := if_t c85 hf
      refine X.iconst (v := 1) dX4_works_88 (by decide) ?_
      refine X.goto (tgt := 93) dX4_works_89 (by decide) ?_
      obtain rfl := Option.some.inj hf
      exact X.iret dX4_works_93 rfl rfl rfl
  have hf := if_f c1_7 hf
  by_cases c1_8 : x0 = (8 : Int32)
  · have hf := if_t c1_8 hf
    refine X.tableC (tgt := 94) c1_8 dX4_works_1 (by decide) (by decide) rfl (by decide) ?_
    refine X.iload_n dX4_works_94 rfl 1 rfl ?_
    refine X.iload_n dX4_works_95 rfl 2 rfl ?_
    refine X.iadd dX4_works_96 ?_
    obtain rfl := Option.some.inj hf
    exact X.iret dX4_works_97 rfl rfl rfl
  have hf := if_f c1_8 hf
  by_cases c1_9 : x0 = (9 : Int32)
  · have hf := if_t c1_9 hf
    refine X.tableC (tgt := 98) c1_9 dX4_works_1 (by decide) (by decide) rfl (by decide) ?_
    refine X.iload_n dX4_works_98 rfl 1 rfl ?_
    refine X.iload_n dX4_works_99 rfl 2 rfl ?_
    refine X.isub dX4_works_100 ?_
    obtain rfl := Option.some.inj hf
    exact X.iret dX4_works_101 rfl rfl rfl
  have hf := if_f c1_9 hf
  by_cases c1_10 : x0 = (10 : Int32)
  · have hf := if_t c1_10 hf
    refine X.tableC (tgt := 102) c1_10 dX4_works_1 (by decide) (by decide) rfl (by decide) ?_
    refine X.iload_n dX4_works_102 rfl 1 rfl ?_
    refine X.iload_n dX4_works_103 rfl 2 rfl ?_
    refine X.imul dX4_works_104 ?_
    obtain rfl := Option.some.inj hf
    exact X.iret dX4_works_105 rfl rfl rfl
  have hf := if_f c1_10 hf
  have t_c1_4 := lv_neT (a := 4) c1_4 rfl
  have t_c1_5 := lv_neT (a := 5) c1_5 rfl
  have t_c1_6 := lv_neT (a := 6) c1_6 rfl
  have t_c1_7 := lv_neT (a := 7) c1_7 rfl
  have t_c1_8 := lv_neT (a := 8) c1_8 rfl
  have t_c1_9 := lv_neT (a := 9) c1_9 rfl
  have t_c1_10 := lv_neT (a := 10) c1_10 rfl
  refine X.tableOut (tgt := 106) dX4_works_1 (by omega) (by decide) ?_
  refine X.iload_n dX4_works_106 rfl 2 rfl ?_
  refine X.if_ne (tgt := 114) dX4_works_107 (by decide) (fun c107 => ?_) (fun c107 => ?_)
  · have hf := if_f c107 hf
    refine X.iload_n dX4_works_114 rfl 1 rfl ?_
    refine X.iload_n dX4_works_115 rfl 2 rfl ?_
    obtain ⟨c116, hf⟩ := if_n hf
    refine X.idiv dX4_works_116 c116 ?_
    obtain rfl := Option.some.inj hf
    exact X.iret dX4_works_117 rfl rfl rfl
  · have hf := if_t c107 hf
    refine X.iconst (v := 0) dX4_works_110 (by decide) ?_
    refine X.goto (tgt := 117) dX4_works_111 (by decide) ?_
    obtain rfl := Option.some.inj hf
    exact X.iret dX4_works_117 rfl rfl rfl
theorem cX4_317 : xCS RX4 317 mX4_works 3 := ⟨lw_S q1971 q1972 q127 q1973, rfl, ⟨by decide +kernel, by decide +kernel, by decide +kernel⟩, Nat.le_of_ble_eq_true rfl⟩
