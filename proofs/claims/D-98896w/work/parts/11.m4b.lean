set_option maxRecDepth 100000
/-! amongHere -/
abbrev cX4_amongHere : ByteArray := prog_12_method_24_code
def yX4_amongHere : MethodName := ⟨RX4, "amongHere", "(I)Z"⟩
def dkwX4_amongHere_2 : List UInt8 := [161, 0, 8, 42, 6, 182, 0, 181, 42, 182, 0, 174, 172]
abbrev dktX4_amongHere_2 : List UInt8 := dkwX4_amongHere_2 ++ []
def dkwX4_amongHere_1 : List UInt8 := [167, 0, 32, 42, 180, 0, 158, 7, 164, 0, 11, 42, 5, 182, 0, 181, 167, 0, 16, 42, 180, 0, 142, 27]
abbrev dktX4_amongHere_1 : List UInt8 := dkwX4_amongHere_1 ++ dktX4_amongHere_2
def dkwX4_amongHere_0 : List UInt8 := [42, 182, 0, 174, 154, 0, 5, 3, 172, 42, 180, 0, 148, 5, 159, 0, 11, 42, 4, 182, 0, 181]
abbrev dktX4_amongHere_0 : List UInt8 := dkwX4_amongHere_0 ++ dktX4_amongHere_1
theorem dksX4_amongHere_0 : cX4_amongHere.data.toList.drop 0 = dktX4_amongHere_0 := by decide +kernel
theorem dksX4_amongHere_1 : cX4_amongHere.data.toList.drop 22 = dktX4_amongHere_1 := dk_seg dksX4_amongHere_0 22 rfl rfl
theorem dksX4_amongHere_2 : cX4_amongHere.data.toList.drop 46 = dktX4_amongHere_2 := dk_seg dksX4_amongHere_1 24 rfl rfl
theorem dX4_amongHere_0 : decode cX4_amongHere 0 = .ok (.aload_n 0, 1) := dk_42 (dk_at dksX4_amongHere_0 0 rfl rfl)
theorem dX4_amongHere_1 : decode cX4_amongHere 1 = .ok (.invokevirtual 174, 3) := dk_182 0 174 (dk_at dksX4_amongHere_0 1 rfl rfl)
theorem dX4_amongHere_4 : decode cX4_amongHere 4 = .ok (.ifCond .ne 5, 3) := dk_154 0 5 (dk_at dksX4_amongHere_0 4 rfl rfl)
theorem dX4_amongHere_7 : decode cX4_amongHere 7 = .ok (.iconst 0, 1) := dk_3 (dk_at dksX4_amongHere_0 7 rfl rfl)
theorem dX4_amongHere_8 : decode cX4_amongHere 8 = .ok (.ireturn, 1) := dk_172 (dk_at dksX4_amongHere_0 8 rfl rfl)
theorem dX4_amongHere_9 : decode cX4_amongHere 9 = .ok (.aload_n 0, 1) := dk_42 (dk_at dksX4_amongHere_0 9 rfl rfl)
theorem dX4_amongHere_10 : decode cX4_amongHere 10 = .ok (.getfield 148, 3) := dk_180 0 148 (dk_at dksX4_amongHere_0 10 rfl rfl)
theorem dX4_amongHere_13 : decode cX4_amongHere 13 = .ok (.iconst 2, 1) := dk_5 (dk_at dksX4_amongHere_0 13 rfl rfl)
theorem dX4_amongHere_14 : decode cX4_amongHere 14 = .ok (.if_icmp .eq 11, 3) := dk_159 0 11 (dk_at dksX4_amongHere_0 14 rfl rfl)
theorem dX4_amongHere_17 : decode cX4_amongHere 17 = .ok (.aload_n 0, 1) := dk_42 (dk_at dksX4_amongHere_0 17 rfl rfl)
theorem dX4_amongHere_18 : decode cX4_amongHere 18 = .ok (.iconst 1, 1) := dk_4 (dk_at dksX4_amongHere_0 18 rfl rfl)
theorem dX4_amongHere_19 : decode cX4_amongHere 19 = .ok (.invokevirtual 181, 3) := dk_182 0 181 (dk_at dksX4_amongHere_0 19 rfl rfl)
theorem dX4_amongHere_22 : decode cX4_amongHere 22 = .ok (.goto 32, 3) := dk_167 0 32 (dk_at dksX4_amongHere_1 0 rfl rfl)
theorem dX4_amongHere_25 : decode cX4_amongHere 25 = .ok (.aload_n 0, 1) := dk_42 (dk_at dksX4_amongHere_1 3 rfl rfl)
theorem dX4_amongHere_26 : decode cX4_amongHere 26 = .ok (.getfield 158, 3) := dk_180 0 158 (dk_at dksX4_amongHere_1 4 rfl rfl)
theorem dX4_amongHere_29 : decode cX4_amongHere 29 = .ok (.iconst 4, 1) := dk_7 (dk_at dksX4_amongHere_1 7 rfl rfl)
theorem dX4_amongHere_30 : decode cX4_amongHere 30 = .ok (.if_icmp .le 11, 3) := dk_164 0 11 (dk_at dksX4_amongHere_1 8 rfl rfl)
theorem dX4_amongHere_33 : decode cX4_amongHere 33 = .ok (.aload_n 0, 1) := dk_42 (dk_at dksX4_amongHere_1 11 rfl rfl)
theorem dX4_amongHere_34 : decode cX4_amongHere 34 = .ok (.iconst 2, 1) := dk_5 (dk_at dksX4_amongHere_1 12 rfl rfl)
theorem dX4_amongHere_35 : decode cX4_amongHere 35 = .ok (.invokevirtual 181, 3) := dk_182 0 181 (dk_at dksX4_amongHere_1 13 rfl rfl)
theorem dX4_amongHere_38 : decode cX4_amongHere 38 = .ok (.goto 16, 3) := dk_167 0 16 (dk_at dksX4_amongHere_1 16 rfl rfl)
theorem dX4_amongHere_41 : decode cX4_amongHere 41 = .ok (.aload_n 0, 1) := dk_42 (dk_at dksX4_amongHere_1 19 rfl rfl)
theorem dX4_amongHere_42 : decode cX4_amongHere 42 = .ok (.getfield 142, 3) := dk_180 0 142 (dk_at dksX4_amongHere_1 20 rfl rfl)
theorem dX4_amongHere_45 : decode cX4_amongHere 45 = .ok (.iload_n 1, 1) := dk_27 (dk_at dksX4_amongHere_1 23 rfl rfl)
theorem dX4_amongHere_46 : decode cX4_amongHere 46 = .ok (.if_icmp .lt 8, 3) := dk_161 0 8 (dk_at dksX4_amongHere_2 0 rfl rfl)
theorem dX4_amongHere_49 : decode cX4_amongHere 49 = .ok (.aload_n 0, 1) := dk_42 (dk_at dksX4_amongHere_2 3 rfl rfl)
theorem dX4_amongHere_50 : decode cX4_amongHere 50 = .ok (.iconst 3, 1) := dk_6 (dk_at dksX4_amongHere_2 4 rfl rfl)
theorem dX4_amongHere_51 : decode cX4_amongHere 51 = .ok (.invokevirtual 181, 3) := dk_182 0 181 (dk_at dksX4_amongHere_2 5 rfl rfl)
theorem dX4_amongHere_54 : decode cX4_amongHere 54 = .ok (.aload_n 0, 1) := dk_42 (dk_at dksX4_amongHere_2 8 rfl rfl)
theorem dX4_amongHere_55 : decode cX4_amongHere 55 = .ok (.invokevirtual 174, 3) := dk_182 0 174 (dk_at dksX4_amongHere_2 9 rfl rfl)
theorem dX4_amongHere_58 : decode cX4_amongHere 58 = .ok (.ireturn, 1) := dk_172 (dk_at dksX4_amongHere_2 12 rfl rfl)
abbrev mX4_amongHere : xM := (yX4_amongHere, cX4_amongHere, 2, (some .boolean), [])
def m_amongHere_54  (S : MS) : Option (Int32 × MS) :=
  (m_isGood S).bind fun q55 =>
  if ¬ zok q55 = true then none else some (q55, S)
theorem m_amongHere_54_ok {G : xG} {m0 : Nat} {S0 : MS}   (S : MS) (q : (Int32 × MS)) (hf : m_amongHere_54 S = some q) : XM G m0 mX4_amongHere 2 S0 (some (.int q.1)) q.2 54 [(0, .ref m0)] [] S := by
  intro h N Z
  unfold m_amongHere_54 at hf
  refine X.aload_n dX4_amongHere_54 rfl 0 rfl ?_
  obtain ⟨q55, h55, hf⟩ := ob hf
  refine X.callVi (As := []) (rest := []) dX4_amongHere_55 (w_isGood h55 h N Z) cX4_174 rfl rfl (Nat.le_of_ble_eq_true rfl) mh_0 rfl rfl (xD (Nat.le_of_ble_eq_true rfl)) xleN xleN ?_
  obtain ⟨cz, hf⟩ := if_n hf
  obtain rfl := Option.some.inj hf
  exact X.iret dX4_amongHere_58 rfl (zok_ok (Classical.not_not.mp cz)) rfl
def m_amongHere (x1 : Int32) (S : MS) : Option (Int32 × MS) :=
  (m_isGood S).bind fun q1 =>
  if q1 = 0 then
    some ((0 : Int32), S)
  else
    if (S.1 19) = (2 : Int32) then
      if (S.1 21) ≤ (4 : Int32) then
        if (S.1 22) < x1 then
          m_amongHere_54 S
        else
          (m_wrong ((3 : Int32)) S).bind fun q51 =>
          m_amongHere_54 q51
      else
        (m_wrong ((2 : Int32)) S).bind fun q35 =>
        m_amongHere_54 q35
    else
      (m_wrong ((1 : Int32)) S).bind fun q19 =>
      m_amongHere_54 q19
theorem w_amongHere {G : xG} {m0 : Nat} {x1 : Int32} {S : MS} {q : (Int32 × MS)} (hf : m_amongHere x1 S = some q) : CtM G m0 mX4_amongHere 2 S [.ref m0, .int x1] (some (.int q.1)) q.2 := by
  intro h N Z
  refine Ct.of (by decide +kernel) rfl (Nat.le_of_ble_eq_true rfl) (show Xr G _ 0 [(0, .ref m0), (1, .int x1)] [] _ from ?_)
  unfold m_amongHere at hf
  refine X.aload_n dX4_amongHere_0 rfl 0 rfl ?_
  obtain ⟨q1, h1, hf⟩ := ob hf
  refine X.callVi (As := []) (rest := []) dX4_amongHere_1 (w_isGood h1 h N Z) cX4_174 rfl rfl (Nat.le_of_ble_eq_true rfl) mh_0 rfl rfl (xD (Nat.le_of_ble_eq_true rfl)) xleN xleN ?_
  refine X.if_ne (tgt := 9) dX4_amongHere_4 (by decide) (fun c4 => ?_) (fun c4 => ?_)
  · have hf := if_f c4 hf
    refine X.aload_n dX4_amongHere_9 rfl 0 rfl ?_
    refine M.get (v := .int (S.1 19)) dX4_amongHere_10 fX4_148 (Nat.le_of_ble_eq_true rfl) rfl ?_
    refine X.iconst (v := 2) dX4_amongHere_13 (by decide) ?_
    refine X.icmp_eq (tgt := 25) dX4_amongHere_14 (by decide) (fun c14 => ?_) (fun c14 => ?_)
    · have hf := if_t c14 hf
      refine X.aload_n dX4_amongHere_25 rfl 0 rfl ?_
      refine M.get (v := .int (S.1 21)) dX4_amongHere_26 fX4_158 (Nat.le_of_ble_eq_true rfl) rfl ?_
      refine X.iconst (v := 4) dX4_amongHere_29 (by decide) ?_
      refine X.icmp_le (tgt := 41) dX4_amongHere_30 (by decide) (fun c30 => ?_) (fun c30 => ?_)
      · have hf := if_t c30 hf
        refine X.aload_n dX4_amongHere_41 rfl 0 rfl ?_
        refine M.get (v := .int (S.1 22)) dX4_amongHere_42 fX4_142 (Nat.le_of_ble_eq_true rfl) rfl ?_
        refine X.iload_n dX4_amongHere_45 rfl 1 rfl ?_
        refine X.icmp_lt (tgt := 54) dX4_amongHere_46 (by decide) (fun c46 => ?_) (fun c46 => ?_)
        · have hf := if_t c46 hf
          refine X.sub [0] (L' := [(0, .ref m0)]) rfl ?_
          exact m_amongHere_54_ok _ _ hf h N Z
        · have hf := if_f c46 hf
          refine X.aload_n dX4_amongHere_49 rfl 0 rfl ?_
          refine X.iconst (v := 3) dX4_amongHere_50 (by decide) ?_
          obtain ⟨q51, h51, hf⟩ := ob hf
          refine X.callVv (As := [.int (3 : Int32)]) (rest := []) (T2 := (mh m0 h q51, N, Z)) dX4_amongHere_51 (w_wrong h51 h N Z) cX4_181 rfl rfl (Nat.le_of_ble_eq_true rfl) mh_0 rfl rfl (xD (Nat.le_of_ble_eq_true rfl)) xleN xleN ?_
          refine X.sub [0] (L' := [(0, .ref m0)]) rfl ?_
          exact m_amongHere_54_ok _ _ hf h N Z
      · have hf := if_f c30 hf
        refine X.aload_n dX4_amongHere_33 rfl 0 rfl ?_
        refine X.iconst (v := 2) dX4_amongHere_34 (by decide) ?_
        obtain ⟨q35, h35, hf⟩ := ob hf
        refine X.callVv (As := [.int (2 : Int32)]) (rest := []) (T2 := (mh m0 h q35, N, Z)) dX4_amongHere_35 (w_wrong h35 h N Z) cX4_181 rfl rfl (Nat.le_of_ble_eq_true rfl) mh_0 rfl rfl (xD (Nat.le_of_ble_eq_true rfl)) xleN xleN ?_
        refine X.goto (tgt := 54) dX4_amongHere_38 (by decide) ?_
        refine X.sub [0] (L' := [(0, .ref m0)]) rfl ?_
        exact m_amongHere_54_ok _ _ hf h N Z
    · have hf := if_f c14 hf
      refine X.aload_n dX4_amongHere_17 rfl 0 rfl ?_
      refine X.iconst (v := 1) dX4_amongHere_18 (by decide) ?_
      obtain ⟨q19, h19, hf⟩ := ob hf
      refine X.callVv (As := [.int (1 : Int32)]) (rest := []) (T2 := (mh m0 h q19, N, Z)) dX4_amongHere_19 (w_wrong h19 h N Z) cX4_181 rfl rfl (Nat.le_of_ble_eq_true rfl) mh_0 rfl rfl (xD (Nat.le_of_ble_eq_true rfl)) xleN xleN ?_
      refine X.goto (tgt := 54) dX4_amongHere_22 (by decide) ?_
      refine X.sub [0] (L' := [(0, .ref m0)]) rfl ?_
      exact m_amongHere_54_ok _ _ hf h N Z
  · have hf := if_t c4 hf
    refine X.iconst (v := 0) dX4_amongHere_7 (by decide) ?_
    obtain rfl := Option.some.inj hf
    exact X.iret dX4_amongHere_8 rfl rfl rfl
theorem cX4_243 : xCV RX4 243 mX4_amongHere 1 := ⟨lw_V q1834 q1836 qs66 q127 q1837, rfl, ⟨by decide +kernel, by decide +kernel, by decide +kernel⟩, Nat.le_of_ble_eq_true rfl⟩
/-! puts -/
abbrev cX4_puts : ByteArray := prog_12_method_25_code
def yX4_puts : MethodName := ⟨RX4, "puts", "(I)V"⟩
def dkwX4_puts_0 : List UInt8 := [42, 180, 0, 56, 42, 180, 0, 184, 27, 79, 42, 89, 180, 0, 184, 4, 96, 181, 0, 184, 177]
abbrev dktX4_puts_0 : List UInt8 := dkwX4_puts_0 ++ []
theorem dksX4_puts_0 : cX4_puts.data.toList.drop 0 = dktX4_puts_0 := by decide +kernel
theorem dX4_puts_0 : decode cX4_puts 0 = .ok (.aload_n 0, 1) := dk_42 (dk_at dksX4_puts_0 0 rfl rfl)
theorem dX4_puts_1 : decode cX4_puts 1 = .ok (.getfield 56, 3) := dk_180 0 56 (dk_at dksX4_puts_0 1 rfl rfl)
theorem dX4_puts_4 : decode cX4_puts 4 = .ok (.aload_n 0, 1) := dk_42 (dk_at dksX4_puts_0 4 rfl rfl)
theorem dX4_puts_5 : decode cX4_puts 5 = .ok (.getfield 184, 3) := dk_180 0 184 (dk_at dksX4_puts_0 5 rfl rfl)
theorem dX4_puts_8 : decode cX4_puts 8 = .ok (.iload_n 1, 1) := dk_27 (dk_at dksX4_puts_0 8 rfl rfl)
theorem dX4_puts_9 : decode cX4_puts 9 = .ok (.iastore, 1) := dk_79 (dk_at dksX4_puts_0 9 rfl rfl)
theorem dX4_puts_10 : decode cX4_puts 10 = .ok (.aload_n 0, 1) := dk_42 (dk_at dksX4_puts_0 10 rfl rfl)
theorem dX4_puts_11 : decode cX4_puts 11 = .ok (.dup, 1) := dk_89 (dk_at dksX4_puts_0 11 rfl rfl)
theorem dX4_puts_12 : decode cX4_puts 12 = .ok (.getfield 184, 3) := dk_180 0 184 (dk_at dksX4_puts_0 12 rfl rfl)
theorem dX4_puts_15 : decode cX4_puts 15 = .ok (.iconst 1, 1) := dk_4 (dk_at dksX4_puts_0 15 rfl rfl)
theorem dX4_puts_16 : decode cX4_puts 16 = .ok (.iadd, 1) := dk_96 (dk_at dksX4_puts_0 16 rfl rfl)
theorem dX4_puts_17 : decode cX4_puts 17 = .ok (.putfield 184, 3) := dk_181 0 184 (dk_at dksX4_puts_0 17 rfl rfl)
theorem dX4_puts_20 : decode cX4_puts 20 = .ok (.return_, 1) := dk_177 (dk_at dksX4_puts_0 20 rfl rfl)
abbrev mX4_puts : xM := (yX4_puts, cX4_puts, 2, none, [])
def m_puts (x1 : Int32) (S : MS) : Option MS :=
  (wrA S 9 (S.1 33) x1).bind fun S9 =>
  some ((sF S9 33 ((S9.1 33) + (1 : Int32))))
theorem w_puts {G : xG} {m0 : Nat} {x1 : Int32} {S : MS} {q : MS} (hf : m_puts x1 S = some q) : CtM G m0 mX4_puts 1 S [.ref m0, .int x1] none q := by
  intro h N Z
  refine Ct.of (by decide +kernel) rfl (Nat.le_of_ble_eq_true rfl) (show Xr G _ 0 [(0, .ref m0), (1, .int x1)] [] _ from ?_)
  unfold m_puts at hf
  refine X.aload_n dX4_puts_0 rfl 0 rfl ?_
  refine M.get (v := .ref (m0 + 9)) dX4_puts_1 fX4_56 (Nat.le_of_ble_eq_true rfl) rfl ?_
  refine X.aload_n dX4_puts_4 rfl 0 rfl ?_
  refine M.get (v := .int (S.1 33)) dX4_puts_5 fX4_184 (Nat.le_of_ble_eq_true rfl) rfl ?_
  refine X.iload_n dX4_puts_8 rfl 1 rfl ?_
  obtain ⟨S9, h9, hf⟩ := ob hf
  refine M.iast dX4_puts_9 rfl h9 ?_
  refine X.aload_n dX4_puts_10 rfl 0 rfl ?_
  refine X.dup dX4_puts_11 rfl ?_
  refine M.get (v := .int (S9.1 33)) dX4_puts_12 fX4_184 (Nat.le_of_ble_eq_true rfl) rfl ?_
  refine X.iconst (v := 1) dX4_puts_15 (by decide) ?_
  refine X.iadd dX4_puts_16 ?_
  refine M.putI dX4_puts_17 fX4_184 (by decide) rfl rfl rfl ?_
  obtain rfl := Option.some.inj hf
  exact X.vret dX4_puts_20 rfl rfl
theorem cX4_196 : xCV RX4 196 mX4_puts 1 := ⟨lw_V q1870 q1872 qs75 q127 q1873, rfl, ⟨by decide +kernel, by decide +kernel, by decide +kernel⟩, Nat.le_of_ble_eq_true rfl⟩
/-! isOpen -/
abbrev cX4_isOpen : ByteArray := prog_12_method_26_code
def yX4_isOpen : MethodName := ⟨RX4, "isOpen", "(I)Z"⟩
def dkwX4_isOpen_0 : List UInt8 := [26, 16, 14, 161, 0, 7, 4, 167, 0, 4, 3, 172]
abbrev dktX4_isOpen_0 : List UInt8 := dkwX4_isOpen_0 ++ []
theorem dksX4_isOpen_0 : cX4_isOpen.data.toList.drop 0 = dktX4_isOpen_0 := by decide +kernel
theorem dX4_isOpen_0 : decode cX4_isOpen 0 = .ok (.iload_n 0, 1) := dk_26 (dk_at dksX4_isOpen_0 0 rfl rfl)
theorem dX4_isOpen_1 : decode cX4_isOpen 1 = .ok (.bipush 14, 2) := dk_16 14 (dk_at dksX4_isOpen_0 1 rfl rfl)
theorem dX4_isOpen_3 : decode cX4_isOpen 3 = .ok (.if_icmp .lt 7, 3) := dk_161 0 7 (dk_at dksX4_isOpen_0 3 rfl rfl)
theorem dX4_isOpen_6 : decode cX4_isOpen 6 = .ok (.iconst 1, 1) := dk_4 (dk_at dksX4_isOpen_0 6 rfl rfl)
theorem dX4_isOpen_7 : decode cX4_isOpen 7 = .ok (.goto 4, 3) := dk_167 0 4 (dk_at dksX4_isOpen_0 7 rfl rfl)
theorem dX4_isOpen_10 : decode cX4_isOpen 10 = .ok (.iconst 0, 1) := dk_3 (dk_at dksX4_isOpen_0 10 rfl rfl)
theorem dX4_isOpen_11 : decode cX4_isOpen 11 = .ok (.ireturn, 1) := dk_172 (dk_at dksX4_isOpen_0 11 rfl rfl)
abbrev mX4_isOpen : xM := (yX4_isOpen, cX4_isOpen, 1, (some .boolean), [])
def m_isOpen (x0 : Int32) : Option Int32 :=
  if x0 < (14 : Int32) then
    some (0 : Int32)
  else
    some (1 : Int32)
theorem w_isOpen {G : xG} {x0 : Int32} {q : Int32} (hf : m_isOpen x0 = some q) : CtP G mX4_isOpen 1 [.int x0] (some (.int q)) := by
  intro T
  refine Ct.of (by decide +kernel) rfl (Nat.le_of_ble_eq_true rfl) (show Xr G _ 0 [(0, .int x0)] [] _ from ?_)
  unfold m_isOpen at hf
  refine X.iload_n dX4_isOpen_0 rfl 0 rfl ?_
  refine X.bipush (v := 14) dX4_isOpen_1 (by decide) ?_
  refine X.icmp_lt (tgt := 10) dX4_isOpen_3 (by decide) (fun c3 => ?_) (fun c3 => ?_)
  · have hf := if_t c3 hf
    refine X.iconst (v := 0) dX4_isOpen_10 (by decide) ?_
    obtain rfl := Option.some.inj hf
    exact X.iret dX4_isOpen_11 rfl rfl rfl
  · have hf := if_f c3 hf
    refine X.iconst (v := 1) dX4_isOpen_6 (by decide) ?_
    refine X.goto (tgt := 11) dX4_isOpen_7 (by decide) ?_
    obtain rfl := Option.some.inj hf
    exact X.iret dX4_isOpen_11 rfl rfl rfl
theorem cX4_190 : xCS RX4 190 mX4_isOpen 1 := ⟨lw_S q1878 q1879 q127 q1880, rfl, ⟨by decide +kernel, by decide +kernel, by decide +kernel⟩, Nat.le_of_ble_eq_true rfl⟩
/-! strength -/
abbrev cX4_strength : ByteArray := prog_12_method_27_code
def yX4_strength : MethodName := ⟨RX4, "strength", "(I)I"⟩
def dkwX4_strength_2 : List UInt8 := [159, 0, 9, 26, 16, 9, 160, 0, 7, 8, 167, 0, 5, 16, 6, 172]
abbrev dktX4_strength_2 : List UInt8 := dkwX4_strength_2 ++ []
def dkwX4_strength_1 : List UInt8 := [167, 0, 37, 26, 16, 6, 159, 0, 9, 26, 16, 7, 160, 0, 7, 7, 167, 0, 21, 26, 16, 8]
abbrev dktX4_strength_1 : List UInt8 := dkwX4_strength_1 ++ dktX4_strength_2
def dkwX4_strength_0 : List UInt8 := [26, 8, 160, 0, 7, 4, 167, 0, 55, 26, 7, 160, 0, 7, 5, 167, 0, 46, 26, 6, 160, 0, 7, 6]
abbrev dktX4_strength_0 : List UInt8 := dkwX4_strength_0 ++ dktX4_strength_1
theorem dksX4_strength_0 : cX4_strength.data.toList.drop 0 = dktX4_strength_0 := by decide +kernel
theorem dksX4_strength_1 : cX4_strength.data.toList.drop 24 = dktX4_strength_1 := dk_seg dksX4_strength_0 24 rfl rfl
theorem dksX4_strength_2 : cX4_strength.data.toList.drop 46 = dktX4_strength_2 := dk_seg dksX4_strength_1 22 rfl rfl
theorem dX4_strength_0 : decode cX4_strength 0 = .ok (.iload_n 0, 1) := dk_26 (dk_at dksX4_strength_0 0 rfl rfl)
theorem dX4_strength_1 : decode cX4_strength 1 = .ok (.iconst 5, 1) := dk_8 (dk_at dksX4_strength_0 1 rfl rfl)
theorem dX4_strength_2 : decode cX4_strength 2 = .ok (.if_icmp .ne 7, 3) := dk_160 0 7 (dk_at dksX4_strength_0 2 rfl rfl)
theorem dX4_strength_5 : decode cX4_strength 5 = .ok (.iconst 1, 1) := dk_4 (dk_at dksX4_strength_0 5 rfl rfl)
theorem dX4_strength_6 : decode cX4_strength 6 = .ok (.goto 55, 3) := dk_167 0 55 (dk_at dksX4_strength_0 6 rfl rfl)
theorem dX4_strength_9 : decode cX4_strength 9 = .ok (.iload_n 0, 1) := dk_26 (dk_at dksX4_strength_0 9 rfl rfl)
theorem dX4_strength_10 : decode cX4_strength 10 = .ok (.iconst 4, 1) := dk_7 (dk_at dksX4_strength_0 10 rfl rfl)
theorem dX4_strength_11 : decode cX4_strength 11 = .ok (.if_icmp .ne 7, 3) := dk_160 0 7 (dk_at dksX4_strength_0 11 rfl rfl)
theorem dX4_strength_14 : decode cX4_strength 14 = .ok (.iconst 2, 1) := dk_5 (dk_at dksX4_strength_0 14 rfl rfl)
theorem dX4_strength_15 : decode cX4_strength 15 = .ok (.goto 46, 3) := dk_167 0 46 (dk_at dksX4_strength_0 15 rfl rfl)
theorem dX4_strength_18 : decode cX4_strength 18 = .ok (.iload_n 0, 1) := dk_26 (dk_at dksX4_strength_0 18 rfl rfl)
theorem dX4_strength_19 : decode cX4_strength 19 = .ok (.iconst 3, 1) := dk_6 (dk_at dksX4_strength_0 19 rfl rfl)
theorem dX4_strength_20 : decode cX4_strength 20 = .ok (.if_icmp .ne 7, 3) := dk_160 0 7 (dk_at dksX4_strength_0 20 rfl rfl)
theorem dX4_strength_23 : decode cX4_strength 23 = .ok (.iconst 3, 1) := dk_6 (dk_at dksX4_strength_0 23 rfl rfl)
theorem dX4_strength_24 : decode cX4_strength 24 = .ok (.goto 37, 3) := dk_167 0 37 (dk_at dksX4_strength_1 0 rfl rfl)
theorem dX4_strength_27 : decode cX4_strength 27 = .ok (.iload_n 0, 1) := dk_26 (dk_at dksX4_strength_1 3 rfl rfl)
theorem dX4_strength_28 : decode cX4_strength 28 = .ok (.bipush 6, 2) := dk_16 6 (dk_at dksX4_strength_1 4 rfl rfl)
theorem dX4_strength_30 : decode cX4_strength 30 = .ok (.if_icmp .eq 9, 3) := dk_159 0 9 (dk_at dksX4_strength_1 6 rfl rfl)
theorem dX4_strength_33 : decode cX4_strength 33 = .ok (.iload_n 0, 1) := dk_26 (dk_at dksX4_strength_1 9 rfl rfl)
theorem dX4_strength_34 : decode cX4_strength 34 = .ok (.bipush 7, 2) := dk_16 7 (dk_at dksX4_strength_1 10 rfl rfl)
theorem dX4_strength_36 : decode cX4_strength 36 = .ok (.if_icmp .ne 7, 3) := dk_160 0 7 (dk_at dksX4_strength_1 12 rfl rfl)
theorem dX4_strength_39 : decode cX4_strength 39 = .ok (.iconst 4, 1) := dk_7 (dk_at dksX4_strength_1 15 rfl rfl)
theorem dX4_strength_40 : decode cX4_strength 40 = .ok (.goto 21, 3) := dk_167 0 21 (dk_at dksX4_strength_1 16 rfl rfl)
theorem dX4_strength_43 : decode cX4_strength 43 = .ok (.iload_n 0, 1) := dk_26 (dk_at dksX4_strength_1 19 rfl rfl)
theorem dX4_strength_44 : decode cX4_strength 44 = .ok (.bipush 8, 2) := dk_16 8 (dk_at dksX4_strength_1 20 rfl rfl)
theorem dX4_strength_46 : decode cX4_strength 46 = .ok (.if_icmp .eq 9, 3) := dk_159 0 9 (dk_at dksX4_strength_2 0 rfl rfl)
theorem dX4_strength_49 : decode cX4_strength 49 = .ok (.iload_n 0, 1) := dk_26 (dk_at dksX4_strength_2 3 rfl rfl)
theorem dX4_strength_50 : decode cX4_strength 50 = .ok (.bipush 9, 2) := dk_16 9 (dk_at dksX4_strength_2 4 rfl rfl)
theorem dX4_strength_52 : decode cX4_strength 52 = .ok (.if_icmp .ne 7, 3) := dk_160 0 7 (dk_at dksX4_strength_2 6 rfl rfl)
theorem dX4_strength_55 : decode cX4_strength 55 = .ok (.iconst 5, 1) := dk_8 (dk_at dksX4_strength_2 9 rfl rfl)
theorem dX4_strength_56 : decode cX4_strength 56 = .ok (.goto 5, 3) := dk_167 0 5 (dk_at dksX4_strength_2 10 rfl rfl)
theorem dX4_strength_59 : decode cX4_strength 59 = .ok (.bipush 6, 2) := dk_16 6 (dk_at dksX4_strength_2 13 rfl rfl)
theorem dX4_strength_61 : decode cX4_strength 61 = .ok (.ireturn, 1) := dk_172 (dk_at dksX4_strength_2 15 rfl rfl)
abbrev mX4_strength : xM := (yX4_strength, cX4_strength, 1, (some .int), [])
def m_strength_39   : Option Int32 :=
  some (4 : Int32)
theorem m_strength_39_ok {G : xG}    (q : Int32) (hf : m_strength_39  = some q) : XP G mX4_strength 1 (some (.int q)) 39 [] [] := by
  intro T
  unfold m_strength_39 at hf
  refine X.iconst (v := 4) dX4_strength_39 (by decide) ?_
  refine X.goto (tgt := 61) dX4_strength_40 (by decide) ?_
  obtain rfl := Option.some.inj hf
  exact X.iret dX4_strength_61 rfl rfl rfl
def m_strength_55   : Option Int32 :=
  some (5 : Int32)
theorem m_strength_55_ok {G : xG}    (q : Int32) (hf : m_strength_55  = some q) : XP G mX4_strength 1 (some (.int q)) 55 [] [] := by
  intro T
  unfold m_strength_55 at hf
  refine X.iconst (v := 5) dX4_strength_55 (by decide) ?_
  refine X.goto (tgt := 61) dX4_strength_56 (by decide) ?_
  obtain rfl := Option.some.inj hf
  exact X.iret dX4_strength_61 rfl rfl rfl
def m_strength (x0 : Int32) : Option Int32 :=
  if x0 = (5 : Int32) then
    some (1 : Int32)
  else
    if x0 = (4 : Int32) then
      some (2 : Int32)
    else
      if x0 = (3 : Int32) then
        some (3 : Int32)
      else
        if x0 = (6 : Int32) then
          m_strength_39 
        else
          if x0 = (7 : Int32) then
            m_strength_39 
          else
            if x0 = (8 : Int32) then
              m_strength_55 
            else
              if x0 = (9 : Int32) then
                m_strength_55 
              else
                some (6 : Int32)
theorem w_strength {G : xG} {x0 : Int32} {q : Int32} (hf : m_strength x0 = some q) : CtP G mX4_strength 1 [.int x0] (some (.int q)) := by
  intro T
  refine Ct.of (by decide +kernel) rfl (Nat.le_of_ble_eq_true rfl) (show Xr G _ 0 [(0, .int x0)] [] _ from ?_)
  unfold m_strength at hf
  refine X.iload_n dX4_strength_0 rfl 0 rfl ?_
  refine X.iconst (v := 5) dX4_strength_1 (by decide) ?_
  refine X.icmp_ne (tgt := 9) dX4_strength_2 (by decide) (fun c2 => ?_) (fun c2 => ?_)
  · have hf := if_f c2 hf
    refine X.iload_n dX4_strength_9 rfl 0 rfl ?_
    refine X.iconst (v := 4) dX4_strength_10 (by decide) ?_
    refine X.icmp_ne (tgt := 18) dX4_strength_11 (by decide) (fun c11 => ?_) (fun c11 => ?_)
    · have hf := if_f c11 hf
      refine X.iload_n dX4_strength_18 rfl 0 rfl ?_
      refine X.iconst (v := 3) dX4_strength_19 (by decide) ?_
      refine X.icmp_ne (tgt := 27) dX4_strength_20 (by decide) (fun c20 => ?_) (fun c20 => ?_)
      · have hf := if_f c20 hf
        refine X.iload_n dX4_strength_27 rfl 0 rfl ?_
        refine X.bipush (v := 6) dX4_strength_28 (by decide) ?_
        refine X.icmp_eq (tgt := 39) dX4_strength_30 (by decide) (fun c30 => ?_) (fun c30 => ?_)
        · have hf := if_t c30 hf
          refine X.sub [] (L' := []) rfl ?_
          exact m_strength_39_ok  _ hf T
        · have hf := if_f c30 hf
          refine X.iload_n dX4_strength_33 rfl 0 rfl ?_
          refine X.bipush (v := 7) dX4_strength_34 (by decide) ?_
          refine X.icmp_ne (tgt := 43) dX4_strength_36 (by decide) (fun c36 => ?_) (fun c36 => ?_)
          · have hf := if_f c36 hf
            refine X.iload_n dX4_strength_43 rfl 0 rfl ?_
            refine X.bipush (v := 8) dX4_strength_44 (by decide) ?_
            refine X.icmp_eq (tgt := 55) dX4_strength_46 (by decide) (fun c46 => ?_) (fun c46 => ?_)
            · have hf := if_t c46 hf
              refine X.sub [] (L' := []) rfl ?_
              exact m_strength_55_ok  _ hf T
            · have hf := if_f c46 hf
              refine X.iload_n dX4_strength_49 rfl 0 rfl ?_
              refine X.bipush (v := 9) dX4_strength_50 (by decide) ?_
              refine X.icmp_ne (tgt := 59) dX4_strength_52 (by decide) (fun c52 => ?_) (fun c52 => ?_)
              · have hf := if_f c52 hf
                refine X.bipush (v := 6) dX4_strength_59 (by decide) ?_
                obtain rfl := Option.some.inj hf
                exact X.iret dX4_strength_61 rfl rfl rfl
              · have hf := if_t c52 hf
                refine X.sub [] (L' := []) rfl ?_
                exact m_strength_55_ok  _ hf T
          · have hf := if_t c36 hf
            refine X.sub [] (L' := []) rfl ?_
            exact m_strength_39_ok  _ hf T
      · have hf := if_t c20 hf
        refine X.iconst (v := 3) dX4_strength_23 (by decide) ?_
        refine X.goto (tgt := 61) dX4_strength_24 (by decide) ?_
        obtain rfl := Option.some.inj hf
        exact X.iret dX4_strength_61 rfl rfl rfl
    · have hf := if_t c11 hf
      refine X.iconst (v := 2) dX4_strength_14 (by decide) ?_
      refine X.goto (tgt := 61) dX4_strength_15 (by decide) ?_
      obtain rfl := Option.some.inj hf
      exact X.iret dX4_strength_61 rfl rfl rfl
  · have hf := if_t c2 hf
    refine X.iconst (v := 1) dX4_strength_5 (by decide) ?_
    refine X.goto (tgt := 61) dX4_strength_6 (by decide) ?_
    obtain rfl := Option.some.inj hf
    exact X.iret dX4_strength_61 rfl rfl rfl
theorem cX4_193 : xCS RX4 193 mX4_strength 1 := ⟨lw_S q1881 q1882 q127 q1883, rfl, ⟨by decide +kernel, by decide +kernel, by decide +kernel⟩, Nat.le_of_ble_eq_true rfl⟩
/-! drops -/
abbrev cX4_drops : ByteArray := prog_12_method_28_code
def yX4_drops : MethodName := ⟨RX4, "drops", "(I)V"⟩
def dkwX4_drops_2 : List UInt8 := [100, 181, 0, 187, 42, 42, 180, 0, 59, 42, 180, 0, 187, 46, 182, 0, 196, 167, 255, 191, 177]
abbrev dktX4_drops_2 : List UInt8 := dkwX4_drops_2 ++ []
def dkwX4_drops_1 : List UInt8 := [42, 180, 0, 59, 42, 180, 0, 187, 4, 100, 46, 184, 0, 193, 27, 161, 0, 29, 42, 89, 180, 0, 187, 4]
abbrev dktX4_drops_1 : List UInt8 := dkwX4_drops_1 ++ dktX4_drops_2
def dkwX4_drops_0 : List UInt8 := [42, 180, 0, 187, 158, 0, 64, 42, 180, 0, 59, 42, 180, 0, 187, 4, 100, 46, 184, 0, 190, 154, 0, 47]
abbrev dktX4_drops_0 : List UInt8 := dkwX4_drops_0 ++ dktX4_drops_1
theorem dksX4_drops_0 : cX4_drops.data.toList.drop 0 = dktX4_drops_0 := by decide +kernel
theorem dksX4_drops_1 : cX4_drops.data.toList.drop 24 = dktX4_drops_1 := dk_seg dksX4_drops_0 24 rfl rfl
theorem dksX4_drops_2 : cX4_drops.data.toList.drop 48 = dktX4_drops_2 := dk_seg dksX4_drops_1 24 rfl rfl
theorem dX4_drops_0 : decode cX4_drops 0 = .ok (.aload_n 0, 1) := dk_42 (dk_at dksX4_drops_0 0 rfl rfl)
theorem dX4_drops_1 : decode cX4_drops 1 = .ok (.getfield 187, 3) := dk_180 0 187 (dk_at dksX4_drops_0 1 rfl rfl)
theorem dX4_drops_4 : decode cX4_drops 4 = .ok (.ifCond .le 64, 3) := dk_158 0 64 (dk_at dksX4_drops_0 4 rfl rfl)
theorem dX4_drops_7 : decode cX4_drops 7 = .ok (.aload_n 0, 1) := dk_42 (dk_at dksX4_drops_0 7 rfl rfl)
theorem dX4_drops_8 : decode cX4_drops 8 = .ok (.getfield 59, 3) := dk_180 0 59 (dk_at dksX4_drops_0 8 rfl rfl)
theorem dX4_drops_11 : decode cX4_drops 11 = .ok (.aload_n 0, 1) := dk_42 (dk_at dksX4_drops_0 11 rfl rfl)
theorem dX4_drops_12 : decode cX4_drops 12 = .ok (.getfield 187, 3) := dk_180 0 187 (dk_at dksX4_drops_0 12 rfl rfl)
theorem dX4_drops_15 : decode cX4_drops 15 = .ok (.iconst 1, 1) := dk_4 (dk_at dksX4_drops_0 15 rfl rfl)
theorem dX4_drops_16 : decode cX4_drops 16 = .ok (.isub, 1) := dk_100 (dk_at dksX4_drops_0 16 rfl rfl)
theorem dX4_drops_17 : decode cX4_drops 17 = .ok (.iaload, 1) := dk_46 (dk_at dksX4_drops_0 17 rfl rfl)
theorem dX4_drops_18 : decode cX4_drops 18 = .ok (.invokestatic 190, 3) := dk_184 0 190 (dk_at dksX4_drops_0 18 rfl rfl)
theorem dX4_drops_21 : decode cX4_drops 21 = .ok (.ifCond .ne 47, 3) := dk_154 0 47 (dk_at dksX4_drops_0 21 rfl rfl)
theorem dX4_drops_24 : decode cX4_drops 24 = .ok (.aload_n 0, 1) := dk_42 (dk_at dksX4_drops_1 0 rfl rfl)
theorem dX4_drops_25 : decode cX4_drops 25 = .ok (.getfield 59, 3) := dk_180 0 59 (dk_at dksX4_drops_1 1 rfl rfl)
theorem dX4_drops_28 : decode cX4_drops 28 = .ok (.aload_n 0, 1) := dk_42 (dk_at dksX4_drops_1 4 rfl rfl)
theorem dX4_drops_29 : decode cX4_drops 29 = .ok (.getfield 187, 3) := dk_180 0 187 (dk_at dksX4_drops_1 5 rfl rfl)
theorem dX4_drops_32 : decode cX4_drops 32 = .ok (.iconst 1, 1) := dk_4 (dk_at dksX4_drops_1 8 rfl rfl)
theorem dX4_drops_33 : decode cX4_drops 33 = .ok (.isub, 1) := dk_100 (dk_at dksX4_drops_1 9 rfl rfl)
theorem dX4_drops_34 : decode cX4_drops 34 = .ok (.iaload, 1) := dk_46 (dk_at dksX4_drops_1 10 rfl rfl)
theorem dX4_drops_35 : decode cX4_drops 35 = .ok (.invokestatic 193, 3) := dk_184 0 193 (dk_at dksX4_drops_1 11 rfl rfl)
theorem dX4_drops_38 : decode cX4_drops 38 = .ok (.iload_n 1, 1) := dk_27 (dk_at dksX4_drops_1 14 rfl rfl)
theorem dX4_drops_39 : decode cX4_drops 39 = .ok (.if_icmp .lt 29, 3) := dk_161 0 29 (dk_at dksX4_drops_1 15 rfl rfl)
theorem dX4_drops_42 : decode cX4_drops 42 = .ok (.aload_n 0, 1) := dk_42 (dk_at dksX4_drops_1 18 rfl rfl)
theorem dX4_drops_43 : decode cX4_drops 43 = .ok (.dup, 1) := dk_89 (dk_at dksX4_drops_1 19 rfl rfl)
theorem dX4_drops_44 : decode cX4_drops 44 = .ok (.getfield 187, 3) := dk_180 0 187 (dk_at dksX4_drops_1 20 rfl rfl)
theorem dX4_drops_47 : decode cX4_drops 47 = .ok (.iconst 1, 1) := dk_4 (dk_at dksX4_drops_1 23 rfl rfl)
theorem dX4_drops_48 : decode cX4_drops 48 = .ok (.isub, 1) := dk_100 (dk_at dksX4_drops_2 0 rfl rfl)
theorem dX4_drops_49 : decode cX4_drops 49 = .ok (.putfield 187, 3) := dk_181 0 187 (dk_at dksX4_drops_2 1 rfl rfl)
theorem dX4_drops_52 : decode cX4_drops 52 = .ok (.aload_n 0, 1) := dk_42 (dk_at dksX4_drops_2 4 rfl rfl)
theorem dX4_drops_53 : decode cX4_drops 53 = .ok (.aload_n 0, 1) := dk_42 (dk_at dksX4_drops_2 5 rfl rfl)
theorem dX4_drops_54 : decode cX4_drops 54 = .ok (.getfield 59, 3) := dk_180 0 59 (dk_at dksX4_drops_2 6 rfl rfl)
theorem dX4_drops_57 : decode cX4_drops 57 = .ok (.aload_n 0, 1) := dk_42 (dk_at dksX4_drops_2 9 rfl rfl)
theorem dX4_drops_58 : decode cX4_drops 58 = .ok (.getfield 187, 3) := dk_180 0 187 (dk_at dksX4_drops_2 10 rfl rfl)
theorem dX4_drops_61 : decode cX4_drops 61 = .ok (.iaload, 1) := dk_46 (dk_at dksX4_drops_2 13 rfl rfl)
theorem dX4_drops_62 : decode cX4_drops 62 = .ok (.invokevirtual 196, 3) := dk_182 0 196 (dk_at dksX4_drops_2 14 rfl rfl)
theorem dX4_drops_65 : decode cX4_drops 65 = .ok (.goto (-65), 3) := dk_167 255 191 (dk_at dksX4_drops_2 17 rfl rfl)
theorem dX4_drops_68 : decode cX4_drops 68 = .ok (.return_, 1) := dk_177 (dk_at dksX4_drops_2 20 rfl rfl)
abbrev mX4_drops : xM := (yX4_drops, cX4_drops, 2, none, [])
def m_drops_0_b  (k0 : Int32 → MS → Option MS) (x1 : Int32) (S : MS) : Option MS :=
  if (S.1 34) ≤ 0 then
    some S
  else
    (rdA S 10 ((S.1 34) - (1 : Int32))).bind fun v17 =>
    (m_isOpen v17).bind fun q18 =>
    if q18 = 0 then
      (rdA S 10 ((S.1 34) - (1 : Int32))).bind fun v34 =>
      (m_strength v34).bind fun q35 =>
      if q35 < x1 then
        some S
      else
        (rdA ((sF S 34 ((S.1 34) - (1 : Int32)))) 10 (((sF S 34 ((S.1 34) - (1 : Int32)))).1 34)).bind fun v61 =>
        (m_puts v61 ((sF S 34 ((S.1 34) - (1 : Int32))))).bind fun q62 =>
        k0 x1 q62
    else
      some S
def m_drops_0  : Nat → Int32 → MS → Option MS
  | 0 => fun _ _ => none
  | n + 1 => fun x1 S => m_drops_0_b (m_drops_0 n) x1 S
theorem m_drops_0_bok {G : xG} {m0 : Nat} {S0 : MS}  {k0 : Int32 → MS → Option MS}  (hk0 : ∀ (x1 : Int32) (S : MS) (q : MS), k0 x1 S = some q → XM G m0 mX4_drops 2 S0 none q 0 [(0, .ref m0), (1, .int x1)] [] S) (x1 : Int32) (S : MS) (q : MS) (hf : m_drops_0_b k0 x1 S = some q) : XM G m0 mX4_drops 2 S0 none q 0 [(0, .ref m0), (1, .int x1)] [] S := by
  intro h N Z
  unfold m_drops_0_b at hf
  refine X.aload_n dX4_drops_0 rfl 0 rfl ?_
  refine M.get (v := .int (S.1 34)) dX4_drops_1 fX4_187 (Nat.le_of_ble_eq_true rfl) rfl ?_
  refine X.if_le (tgt := 68) dX4_drops_4 (by decide) (fun c4 => ?_) (fun c4 => ?_)
  · have hf := if_t c4 hf
    obtain rfl := Option.some.inj hf
    exact X.vret dX4_drops_68 rfl rfl
  · have hf := if_f c4 hf
    refine X.aload_n dX4_drops_7 rfl 0 rfl ?_
    refine M.get (v := .ref (m0 + 10)) dX4_drops_8 fX4_59 (Nat.le_of_ble_eq_true rfl) rfl ?_
    refine X.aload_n dX4_drops_11 rfl 0 rfl ?_
    refine M.get (v := .int (S.1 34)) dX4_drops_12 fX4_187 (Nat.le_of_ble_eq_true rfl) rfl ?_
    refine X.iconst (v := 1) dX4_drops_15 (by decide) ?_
    refine X.isub dX4_drops_16 ?_
    obtain ⟨v17, h17, hf⟩ := ob hf
    refine M.iald dX4_drops_17 rfl h17 ?_
    obtain ⟨q18, h18, hf⟩ := ob hf
    refine X.callSi (As := [.int v17]) (rest := []) dX4_drops_18 (w_isOpen h18 _) cX4_190 rfl rfl (Nat.le_of_ble_eq_true rfl) (xD (Nat.le_of_ble_eq_true rfl)) xle.rf xleN ?_
    refine X.if_ne (tgt := 68) dX4_drops_21 (by decide) (fun c21 => ?_) (fun c21 => ?_)
    · have hf := if_f c21 hf
      obtain rfl := Option.some.inj hf
      exact X.vret dX4_drops_68 rfl rfl
    · have hf := if_t c21 hf
      refine X.aload_n dX4_drops_24 rfl 0 rfl ?_
      refine M.get (v := .ref (m0 + 10)) dX4_drops_25 fX4_59 (Nat.le_of_ble_eq_true rfl) rfl ?_
      refine X.aload_n dX4_drops_28 rfl 0 rfl ?_
      refine M.get (v := .int (S.1 34)) dX4_drops_29 fX4_187 (Nat.le_of_ble_eq_true rfl) rfl ?_
      refine X.iconst (v := 1) dX4_drops_32 (by decide) ?_
      refine X.isub dX4_drops_33 ?_
      obtain ⟨v34, h34, hf⟩ := ob hf
      refine M.iald dX4_drops_34 rfl h34 ?_
      obtain ⟨q35, h35, hf⟩ := ob hf
      refine X.callSi (As := [.int v34]) (rest := []) dX4_drops_35 (w_strength h35 _) cX4_193 rfl rfl (Nat.le_of_ble_eq_true rfl) (xD (Nat.le_of_ble_eq_true rfl)) xle.rf xleN ?_
      refine X.iload_n dX4_drops_38 rfl 1 rfl ?_
      refine X.icmp_lt (tgt := 68) dX4_drops_39 (by decide) (fun c39 => ?_) (fun c39 => ?_)
      · have hf := if_t c39 hf
        obtain rfl := Option.some.inj hf
        exact X.vret dX4_drops_68 rfl rfl
      · have hf := if_f c39 hf
        refine X.aload_n dX4_drops_42 rfl 0 rfl ?_
        refine X.dup dX4_drops_43 rfl ?_
        refine M.get (v := .int (S.1 34)) dX4_drops_44 fX4_187 (Nat.le_of_ble_eq_true rfl) rfl ?_
        refine X.iconst (v := 1) dX4_drops_47 (by decide) ?_
        refine X.isub dX4_drops_48 ?_
        refine M.putI dX4_drops_49 fX4_187 (by decide) rfl rfl rfl ?_
        refine X.aload_n dX4_drops_52 rfl 0 rfl ?_
        refine X.aload_n dX4_drops_53 rfl 0 rfl ?_
        refine M.get (v := .ref (m0 + 10)) dX4_drops_54 fX4_59 (Nat.le_of_ble_eq_true rfl) rfl ?_
        refine X.aload_n dX4_drops_57 rfl 0 rfl ?_
        refine M.get (v := .int (((sF S 34 ((S.1 34) - (1 : Int32)))).1 34)) dX4_drops_58 fX4_187 (Nat.le_of_ble_eq_true rfl) rfl ?_
        obtain ⟨v61, h61, hf⟩ := ob hf
        refine M.iald dX4_drops_61 rfl h61 ?_
        obtain ⟨q62, h62, hf⟩ := ob hf
        refine X.callVv (As := [.int v61]) (rest := []) (T2 := (mh m0 h q62, N, Z)) dX4_drops_62 (w_puts h62 h N Z) cX4_196 rfl rfl (Nat.le_of_ble_eq_true rfl) mh_0 rfl rfl (xD (Nat.le_of_ble_eq_true rfl)) xleN xleN ?_
        refine X.goto (tgt := 0) dX4_drops_65 (by decide) ?_
        refine X.sub [0, 1] (L' := [(0, .ref m0), (1, .int x1)]) rfl ?_
        exact hk0 _ _ _ hf h N Z
theorem m_drops_0_ok {G : xG} {m0 : Nat} {S0 : MS}   : ∀ (n : Nat) (x1 : Int32) (S : MS) (q : MS), m_drops_0 n x1 S = some q → XM G m0 mX4_drops 2 S0 none q 0 [(0, .ref m0), (1, .int x1)] [] S
  | 0, _, _, _, hf => by cases hf
  | n + 1, x1, S, q, hf => m_drops_0_bok (m_drops_0_ok n) x1 S q hf
def m_drops (x1 : Int32) (S : MS) : Option MS :=
  m_drops_0 FU x1 S
theorem w_drops {G : xG} {m0 : Nat} {x1 : Int32} {S : MS} {q : MS} (hf : m_drops x1 S = some q) : CtM G m0 mX4_drops 2 S [.ref m0, .int x1] none q := by
  intro h N Z
  refine Ct.of (by decide +kernel) rfl (Nat.le_of_ble_eq_true rfl) (show Xr G _ 0 [(0, .ref m0), (1, .int x1)] [] _ from ?_)
  unfold m_drops at hf
  refine X.sub [0, 1] (L' := [(0, .ref m0), (1, .int x1)]) rfl ?_
  exact m_drops_0_ok FU _ _ _ hf h N Z
theorem cX4_221 : xCV RX4 221 mX4_drops 1 := ⟨lw_V q1874 q1876 qs76 q127 q1877, rfl, ⟨by decide +kernel, by decide +kernel, by decide +kernel⟩, Nat.le_of_ble_eq_true rfl⟩
/-! waitsFor -/
abbrev cX4_waitsFor : ByteArray := prog_12_method_29_code
def yX4_waitsFor : MethodName := ⟨RX4, "waitsFor", "(I)V"⟩
def dkwX4_waitsFor_0 : List UInt8 := [42, 180, 0, 59, 42, 180, 0, 187, 27, 79, 42, 89, 180, 0, 187, 4, 96, 181, 0, 187, 177]
abbrev dktX4_waitsFor_0 : List UInt8 := dkwX4_waitsFor_0 ++ []
theorem dksX4_waitsFor_0 : cX4_waitsFor.data.toList.drop 0 = dktX4_waitsFor_0 := by decide +kernel
theorem dX4_waitsFor_0 : decode cX4_waitsFor 0 = .ok (.aload_n 0, 1) := dk_42 (dk_at dksX4_waitsFor_0 0 rfl rfl)
theorem dX4_waitsFor_1 : decode cX4_waitsFor 1 = .ok (.getfield 59, 3) := dk_180 0 59 (dk_at dksX4_waitsFor_0 1 rfl rfl)
theorem dX4_waitsFor_4 : decode cX4_waitsFor 4 = .ok (.aload_n 0, 1) := dk_42 (dk_at dksX4_waitsFor_0 4 rfl rfl)
theorem dX4_waitsFor_5 : decode cX4_waitsFor 5 = .ok (.getfield 187, 3) := dk_180 0 187 (dk_at dksX4_waitsFor_0 5 rfl rfl)
theorem dX4_waitsFor_8 : decode cX4_waitsFor 8 = .ok (.iload_n 1, 1) := dk_27 (dk_at dksX4_waitsFor_0 8 rfl rfl)
theorem dX4_waitsFor_9 : decode cX4_waitsFor 9 = .ok (.iastore, 1) := dk_79 (dk_at dksX4_waitsFor_0 9 rfl rfl)
theorem dX4_waitsFor_10 : decode cX4_waitsFor 10 = .ok (.aload_n 0, 1) := dk_42 (dk_at dksX4_waitsFor_0 10 rfl rfl)
theorem dX4_waitsFor_11 : decode cX4_waitsFor 11 = .ok (.dup, 1) := dk_89 (dk_at dksX4_waitsFor_0 11 rfl rfl)
theorem dX4_waitsFor_12 : decode cX4_waitsFor 12 = .ok (.getfield 187, 3) := dk_180 0 187 (dk_at dksX4_waitsFor_0 12 rfl rfl)
theorem dX4_waitsFor_15 : decode cX4_waitsFor 15 = .ok (.iconst 1, 1) := dk_4 (dk_at dksX4_waitsFor_0 15 rfl rfl)
theorem dX4_waitsFor_16 : decode cX4_waitsFor 16 = .ok (.iadd, 1) := dk_96 (dk_at dksX4_waitsFor_0 16 rfl rfl)
theorem dX4_waitsFor_17 : decode cX4_waitsFor 17 = .ok (.putfield 187, 3) := dk_181 0 187 (dk_at dksX4_waitsFor_0 17 rfl rfl)
theorem dX4_waitsFor_20 : decode cX4_waitsFor 20 = .ok (.return_, 1) := dk_177 (dk_at dksX4_waitsFor_0 20 rfl rfl)
abbrev mX4_waitsFor : xM := (yX4_waitsFor, cX4_waitsFor, 2, none, [])
def m_waitsFor (x1 : Int32) (S : MS) : Option MS :=
  (wrA S 10 (S.1 34) x1).bind fun S9 =>
  some ((sF S9 34 ((S9.1 34) + (1 : Int32))))
theorem w_waitsFor {G : xG} {m0 : Nat} {x1 : Int32} {S : MS} {q : MS} (hf : m_waitsFor x1 S = some q) : CtM G m0 mX4_waitsFor 1 S [.ref m0, .int x1] none q := by
  intro h N Z
  refine Ct.of (by decide +kernel) rfl (Nat.le_of_ble_eq_true rfl) (show Xr G _ 0 [(0, .ref m0), (1, .int x1)] [] _ from ?_)
  unfold m_waitsFor at hf
  refine X.aload_n dX4_waitsFor_0 rfl 0 rfl ?_
  refine M.get (v := .ref (m0 + 10)) dX4_waitsFor_1 fX4_59 (Nat.le_of_ble_eq_true rfl) rfl ?_
  refine X.aload_n dX4_waitsFor_4 rfl 0 rfl ?_
  refine M.get (v := .int (S.1 34)) dX4_waitsFor_5 fX4_187 (Nat.le_of_ble_eq_true rfl) rfl ?_
  refine X.iload_n dX4_waitsFor_8 rfl 1 rfl ?_
  obtain ⟨S9, h9, hf⟩ := ob hf
  refine M.iast dX4_waitsFor_9 rfl h9 ?_
  refine X.aload_n dX4_waitsFor_10 rfl 0 rfl ?_
  refine X.dup dX4_waitsFor_11 rfl ?_
  refine M.get (v := .int (S9.1 34)) dX4_waitsFor_12 fX4_187 (Nat.le_of_ble_eq_true rfl) rfl ?_
  refine X.iconst (v := 1) dX4_waitsFor_15 (by decide) ?_
  refine X.iadd dX4_waitsFor_16 ?_
  refine M.putI dX4_waitsFor_17 fX4_187 (by decide) rfl rfl rfl ?_
  obtain rfl := Option.some.inj hf
  exact X.vret dX4_waitsFor_20 rfl rfl
theorem cX4_212 : xCV RX4 212 mX4_waitsFor 1 := ⟨lw_V q1862 q1864 qs73 q127 q1865, rfl, ⟨by decide +kernel, by decide +kernel, by decide +kernel⟩, Nat.le_of_ble_eq_true rfl⟩
/-! part -/
abbrev cX4_part : ByteArray := prog_12_method_30_code
def yX4_part : MethodName := ⟨RX4, "part", "()V"⟩
def dkwX4_part_4 : List UInt8 := [182, 0, 196, 167, 0, 8, 42, 4, 182, 0, 181, 42, 182, 0, 174, 153, 0, 7, 42, 182, 0, 178, 177]
abbrev dktX4_part_4 : List UInt8 := dkwX4_part_4 ++ []
def dkwX4_part_3 : List UInt8 := [180, 0, 203, 27, 122, 4, 126, 154, 0, 8, 42, 6, 182, 0, 181, 42, 5, 182, 0, 196, 42, 27]
abbrev dktX4_part_3 : List UInt8 := dkwX4_part_3 ++ dktX4_part_4
def dkwX4_part_2 : List UInt8 := [180, 0, 148, 4, 160, 0, 47, 42, 182, 0, 199, 60, 27, 155, 0, 20, 27, 16, 7, 163, 0, 14, 42]
abbrev dktX4_part_2 : List UInt8 := dkwX4_part_2 ++ dktX4_part_3
def dkwX4_part_1 : List UInt8 := [42, 5, 182, 0, 181, 42, 4, 182, 0, 196, 42, 42, 180, 0, 142, 182, 0, 196, 167, 0, 60, 42]
abbrev dktX4_part_1 : List UInt8 := dkwX4_part_1 ++ dktX4_part_2
def dkwX4_part_0 : List UInt8 := [42, 182, 0, 174, 154, 0, 4, 177, 42, 180, 0, 148, 5, 160, 0, 32, 42, 180, 0, 158, 7, 164, 0, 8]
abbrev dktX4_part_0 : List UInt8 := dkwX4_part_0 ++ dktX4_part_1
theorem dksX4_part_0 : cX4_part.data.toList.drop 0 = dktX4_part_0 := by decide +kernel
theorem dksX4_part_1 : cX4_part.data.toList.drop 24 = dktX4_part_1 := dk_seg dksX4_part_0 24 rfl rfl
theorem dksX4_part_2 : cX4_part.data.toList.drop 46 = dktX4_part_2 := dk_seg dksX4_part_1 22 rfl rfl
theorem dksX4_part_3 : cX4_part.data.toList.drop 69 = dktX4_part_3 := dk_seg dksX4_part_2 23 rfl rfl
theorem dksX4_part_4 : cX4_part.data.toList.drop 91 = dktX4_part_4 := dk_seg dksX4_part_3 22 rfl rfl
theorem dX4_part_0 : decode cX4_part 0 = .ok (.aload_n 0, 1) := dk_42 (dk_at dksX4_part_0 0 rfl rfl)
theorem dX4_part_1 : decode cX4_part 1 = .ok (.invokevirtual 174, 3) := dk_182 0 174 (dk_at dksX4_part_0 1 rfl rfl)
theorem dX4_part_4 : decode cX4_part 4 = .ok (.ifCond .ne 4, 3) := dk_154 0 4 (dk_at dksX4_part_0 4 rfl rfl)
theorem dX4_part_7 : decode cX4_part 7 = .ok (.return_, 1) := dk_177 (dk_at dksX4_part_0 7 rfl rfl)
theorem dX4_part_8 : decode cX4_part 8 = .ok (.aload_n 0, 1) := dk_42 (dk_at dksX4_part_0 8 rfl rfl)
theorem dX4_part_9 : decode cX4_part 9 = .ok (.getfield 148, 3) := dk_180 0 148 (dk_at dksX4_part_0 9 rfl rfl)
theorem dX4_part_12 : decode cX4_part 12 = .ok (.iconst 2, 1) := dk_5 (dk_at dksX4_part_0 12 rfl rfl)
theorem dX4_part_13 : decode cX4_part 13 = .ok (.if_icmp .ne 32, 3) := dk_160 0 32 (dk_at dksX4_part_0 13 rfl rfl)
theorem dX4_part_16 : decode cX4_part 16 = .ok (.aload_n 0, 1) := dk_42 (dk_at dksX4_part_0 16 rfl rfl)
theorem dX4_part_17 : decode cX4_part 17 = .ok (.getfield 158, 3) := dk_180 0 158 (dk_at dksX4_part_0 17 rfl rfl)
theorem dX4_part_20 : decode cX4_part 20 = .ok (.iconst 4, 1) := dk_7 (dk_at dksX4_part_0 20 rfl rfl)
theorem dX4_part_21 : decode cX4_part 21 = .ok (.if_icmp .le 8, 3) := dk_164 0 8 (dk_at dksX4_part_0 21 rfl rfl)
theorem dX4_part_24 : decode cX4_part 24 = .ok (.aload_n 0, 1) := dk_42 (dk_at dksX4_part_1 0 rfl rfl)
theorem dX4_part_25 : decode cX4_part 25 = .ok (.iconst 2, 1) := dk_5 (dk_at dksX4_part_1 1 rfl rfl)
theorem dX4_part_26 : decode cX4_part 26 = .ok (.invokevirtual 181, 3) := dk_182 0 181 (dk_at dksX4_part_1 2 rfl rfl)
theorem dX4_part_29 : decode cX4_part 29 = .ok (.aload_n 0, 1) := dk_42 (dk_at dksX4_part_1 5 rfl rfl)
theorem dX4_part_30 : decode cX4_part 30 = .ok (.iconst 1, 1) := dk_4 (dk_at dksX4_part_1 6 rfl rfl)
theorem dX4_part_31 : decode cX4_part 31 = .ok (.invokevirtual 196, 3) := dk_182 0 196 (dk_at dksX4_part_1 7 rfl rfl)
theorem dX4_part_34 : decode cX4_part 34 = .ok (.aload_n 0, 1) := dk_42 (dk_at dksX4_part_1 10 rfl rfl)
theorem dX4_part_35 : decode cX4_part 35 = .ok (.aload_n 0, 1) := dk_42 (dk_at dksX4_part_1 11 rfl rfl)
theorem dX4_part_36 : decode cX4_part 36 = .ok (.getfield 142, 3) := dk_180 0 142 (dk_at dksX4_part_1 12 rfl rfl)
theorem dX4_part_39 : decode cX4_part 39 = .ok (.invokevirtual 196, 3) := dk_182 0 196 (dk_at dksX4_part_1 15 rfl rfl)
theorem dX4_part_42 : decode cX4_part 42 = .ok (.goto 60, 3) := dk_167 0 60 (dk_at dksX4_part_1 18 rfl rfl)
theorem dX4_part_45 : decode cX4_part 45 = .ok (.aload_n 0, 1) := dk_42 (dk_at dksX4_part_1 21 rfl rfl)
theorem dX4_part_46 : decode cX4_part 46 = .ok (.getfield 148, 3) := dk_180 0 148 (dk_at dksX4_part_2 0 rfl rfl)
theorem dX4_part_49 : decode cX4_part 49 = .ok (.iconst 1, 1) := dk_4 (dk_at dksX4_part_2 3 rfl rfl)
theorem dX4_part_50 : decode cX4_part 50 = .ok (.if_icmp .ne 47, 3) := dk_160 0 47 (dk_at dksX4_part_2 4 rfl rfl)
theorem dX4_part_53 : decode cX4_part 53 = .ok (.aload_n 0, 1) := dk_42 (dk_at dksX4_part_2 7 rfl rfl)
theorem dX4_part_54 : decode cX4_part 54 = .ok (.invokevirtual 199, 3) := dk_182 0 199 (dk_at dksX4_part_2 8 rfl rfl)
theorem dX4_part_57 : decode cX4_part 57 = .ok (.istore_n 1, 1) := dk_60 (dk_at dksX4_part_2 11 rfl rfl)
theorem dX4_part_58 : decode cX4_part 58 = .ok (.iload_n 1, 1) := dk_27 (dk_at dksX4_part_2 12 rfl rfl)
theorem dX4_part_59 : decode cX4_part 59 = .ok (.ifCond .lt 20, 3) := dk_155 0 20 (dk_at dksX4_part_2 13 rfl rfl)
theorem dX4_part_62 : decode cX4_part 62 = .ok (.iload_n 1, 1) := dk_27 (dk_at dksX4_part_2 16 rfl rfl)
theorem dX4_part_63 : decode cX4_part 63 = .ok (.bipush 7, 2) := dk_16 7 (dk_at dksX4_part_2 17 rfl rfl)
theorem dX4_part_65 : decode cX4_part 65 = .ok (.if_icmp .gt 14, 3) := dk_163 0 14 (dk_at dksX4_part_2 19 rfl rfl)
theorem dX4_part_68 : decode cX4_part 68 = .ok (.aload_n 0, 1) := dk_42 (dk_at dksX4_part_2 22 rfl rfl)
theorem dX4_part_69 : decode cX4_part 69 = .ok (.getfield 203, 3) := dk_180 0 203 (dk_at dksX4_part_3 0 rfl rfl)
theorem dX4_part_72 : decode cX4_part 72 = .ok (.iload_n 1, 1) := dk_27 (dk_at dksX4_part_3 3 rfl rfl)
theorem dX4_part_73 : decode cX4_part 73 = .ok (.ishr, 1) := dk_122 (dk_at dksX4_part_3 4 rfl rfl)
theorem dX4_part_74 : decode cX4_part 74 = .ok (.iconst 1, 1) := dk_4 (dk_at dksX4_part_3 5 rfl rfl)
theorem dX4_part_75 : decode cX4_part 75 = .ok (.iand, 1) := dk_126 (dk_at dksX4_part_3 6 rfl rfl)
theorem dX4_part_76 : decode cX4_part 76 = .ok (.ifCond .ne 8, 3) := dk_154 0 8 (dk_at dksX4_part_3 7 rfl rfl)
theorem dX4_part_79 : decode cX4_part 79 = .ok (.aload_n 0, 1) := dk_42 (dk_at dksX4_part_3 10 rfl rfl)
theorem dX4_part_80 : decode cX4_part 80 = .ok (.iconst 3, 1) := dk_6 (dk_at dksX4_part_3 11 rfl rfl)
theorem dX4_part_81 : decode cX4_part 81 = .ok (.invokevirtual 181, 3) := dk_182 0 181 (dk_at dksX4_part_3 12 rfl rfl)
theorem dX4_part_84 : decode cX4_part 84 = .ok (.aload_n 0, 1) := dk_42 (dk_at dksX4_part_3 15 rfl rfl)
theorem dX4_part_85 : decode cX4_part 85 = .ok (.iconst 2, 1) := dk_5 (dk_at dksX4_part_3 16 rfl rfl)
theorem dX4_part_86 : decode cX4_part 86 = .ok (.invokevirtual 196, 3) := dk_182 0 196 (dk_at dksX4_part_3 17 rfl rfl)
theorem dX4_part_89 : decode cX4_part 89 = .ok (.aload_n 0, 1) := dk_42 (dk_at dksX4_part_3 20 rfl rfl)
theorem dX4_part_90 : decode cX4_part 90 = .ok (.iload_n 1, 1) := dk_27 (dk_at dksX4_part_3 21 rfl rfl)
theorem dX4_part_91 : decode cX4_part 91 = .ok (.invokevirtual 196, 3) := dk_182 0 196 (dk_at dksX4_part_4 0 rfl rfl)
theorem dX4_part_94 : decode cX4_part 94 = .ok (.goto 8, 3) := dk_167 0 8 (dk_at dksX4_part_4 3 rfl rfl)
theorem dX4_part_97 : decode cX4_part 97 = .ok (.aload_n 0, 1) := dk_42 (dk_at dksX4_part_4 6 rfl rfl)
theorem dX4_part_98 : decode cX4_part 98 = .ok (.iconst 1, 1) := dk_4 (dk_at dksX4_part_4 7 rfl rfl)
theorem dX4_part_99 : decode cX4_part 99 = .ok (.invokevirtual 181, 3) := dk_182 0 181 (dk_at dksX4_part_4 8 rfl rfl)
theorem dX4_part_102 : decode cX4_part 102 = .ok (.aload_n 0, 1) := dk_42 (dk_at dksX4_part_4 11 rfl rfl)
theorem dX4_part_103 : decode cX4_part 103 = .ok (.invokevirtual 174, 3) := dk_182 0 174 (dk_at dksX4_part_4 12 rfl rfl)
theorem dX4_part_106 : decode cX4_part 106 = .ok (.ifCond .eq 7, 3) := dk_153 0 7 (dk_at dksX4_part_4 15 rfl rfl)
theorem dX4_part_109 : decode cX4_part 109 = .ok (.aload_n 0, 1) := dk_42 (dk_at dksX4_part_4 18 rfl rfl)
theorem dX4_part_110 : decode cX4_part 110 = .ok (.invokevirtual 178, 3) := dk_182 0 178 (dk_at dksX4_part_4 19 rfl rfl)
theorem dX4_part_113 : decode cX4_part 113 = .ok (.return_, 1) := dk_177 (dk_at dksX4_part_4 22 rfl rfl)
abbrev mX4_part : xM := (yX4_part, cX4_part, 2, none, [])
def m_part_102  (S : MS) : Option MS :=
  (m_isGood S).bind fun q103 =>
  if q103 = 0 then
    some S
  else
    (m_goes S).bind fun q110 =>
    some q110
theorem m_part_102_ok {G : xG} {m0 : Nat} {S0 : MS}   (S : MS) (q : MS) (hf : m_part_102 S = some q) : XM G m0 mX4_part 4 S0 none q 102 [(0, .ref m0)] [] S := by
  intro h N Z
  unfold m_part_102 at hf
  refine X.aload_n dX4_part_102 rfl 0 rfl ?_
  obtain ⟨q103, h103, hf⟩ := ob hf
  refine X.callVi (As := []) (rest := []) dX4_part_103 (w_isGood h103 h N Z) cX4_174 rfl rfl (Nat.le_of_ble_eq_true rfl) mh_0 rfl rfl (xD (Nat.le_of_ble_eq_true rfl)) xleN xleN ?_
  refine X.if_eq (tgt := 113) dX4_part_106 (by decide) (fun c106 => ?_) (fun c106 => ?_)
  · have hf := if_t c106 hf
    obtain rfl := Option.some.inj hf
    exact X.vret dX4_part_113 rfl rfl
  · have hf := if_f c106 hf
    refine X.aload_n dX4_part_109 rfl 0 rfl ?_
    obtain ⟨q110, h110, hf⟩ := ob hf
    refine X.callVv (As := []) (rest := []) (T2 := (mh m0 h q110, N, Z)) dX4_part_110 (w_goes h110 h N Z) cX4_178 rfl rfl (Nat.le_of_ble_eq_true rfl) mh_0 rfl rfl (xD (Nat.le_of_ble_eq_true rfl)) xleN xleN ?_
    obtain rfl := Option.some.inj hf
    exact X.vret dX4_part_113 rfl rfl
def m_part_29  (S : MS) : Option MS :=
  (m_puts ((1 : Int32)) S).bind fun q31 =>
  (m_puts ((q31.1 22)) q31).bind fun q39 =>
  m_part_102 q39
theorem m_part_29_ok {G : xG} {m0 : Nat} {S0 : MS}   (S : MS) (q : MS) (hf : m_part_29 S = some q) : XM G m0 mX4_part 4 S0 none q 29 [(0, .ref m0)] [] S := by
  intro h N Z
  unfold m_part_29 at hf
  refine X.aload_n dX4_part_29 rfl 0 rfl ?_
  refine X.iconst (v := 1) dX4_part_30 (by decide) ?_
  obtain ⟨q31, h31, hf⟩ := ob hf
  refine X.callVv (As := [.int (1 : Int32)]) (rest := []) (T2 := (mh m0 h q31, N, Z)) dX4_part_31 (w_puts h31 h N Z) cX4_196 rfl rfl (Nat.le_of_ble_eq_true rfl) mh_0 rfl rfl (xD (Nat.le_of_ble_eq_true rfl)) xleN xleN ?_
  refine X.aload_n dX4_part_34 rfl 0 rfl ?_
  refine X.aload_n dX4_part_35 rfl 0 rfl ?_
  refine M.get (v := .int (q31.1 22)) dX4_part_36 fX4_142 (Nat.le_of_ble_eq_true rfl) rfl ?_
  obtain ⟨q39, h39, hf⟩ := ob hf
  refine X.callVv (As := [.int (q31.1 22)]) (rest := []) (T2 := (mh m0 h q39, N, Z)) dX4_part_39 (w_puts h39 h N Z) cX4_196 rfl rfl (Nat.le_of_ble_eq_true rfl) mh_0 rfl rfl (xD (Nat.le_of_ble_eq_true rfl)) xleN xleN ?_
  refine X.goto (tgt := 102) dX4_part_42 (by decide) ?_
  refine X.sub [0] (L' := [(0, .ref m0)]) rfl ?_
  exact m_part_102_ok _ _ hf h N Z
def m_part_84  (x1 : Int32) (S : MS) : Option MS :=
  (m_puts ((2 : Int32)) S).bind fun q86 =>
  (m_puts x1 q86).bind fun q91 =>
  m_part_102 q91
theorem m_part_84_ok {G : xG} {m0 : Nat} {S0 : MS}   (x1 : Int32) (S : MS) (q : MS) (hf : m_part_84 x1 S = some q) : XM G m0 mX4_part 4 S0 none q 84 [(0, .ref m0), (1, .int x1)] [] S := by
  intro h N Z
  unfold m_part_84 at hf
  refine X.aload_n dX4_part_84 rfl 0 rfl ?_
  refine X.iconst (v := 2) dX4_part_85 (by decide) ?_
  obtain ⟨q86, h86, hf⟩ := ob hf
  refine X.callVv (As := [.int (2 : Int32)]) (rest := []) (T2 := (mh m0 h q86, N, Z)) dX4_part_86 (w_puts h86 h N Z) cX4_196 rfl rfl (Nat.le_of_ble_eq_true rfl) mh_0 rfl rfl (xD (Nat.le_of_ble_eq_true rfl)) xleN xleN ?_
  refine X.aload_n dX4_part_89 rfl 0 rfl ?_
  refine X.iload_n dX4_part_90 rfl 1 rfl ?_
  obtain ⟨q91, h91, hf⟩ := ob hf
  refine X.callVv (As := [.int x1]) (rest := []) (T2 := (mh m0 h q91, N, Z)) dX4_part_91 (w_puts h91 h N Z) cX4_196 rfl rfl (Nat.le_of_ble_eq_true rfl) mh_0 rfl rfl (xD (Nat.le_of_ble_eq_true rfl)) xleN xleN ?_
  refine X.goto (tgt := 102) dX4_part_94 (by decide) ?_
  refine X.sub [0] (L' := [(0, .ref m0)]) rfl ?_
  exact m_part_102_ok _ _ hf h N Z
def m_part_79  (x1 : Int32) (S : MS) : Option MS :=
  (m_wrong ((3 : Int32)) S).bind fun q81 =>
  m_part_84 x1 q81
theorem m_part_79_ok {G : xG} {m0 : Nat} {S0 : MS}   (x1 : Int32) (S : MS) (q : MS) (hf : m_part_79 x1 S = some q) : XM G m0 mX4_part 4 S0 none q 79 [(0, .ref m0), (1, .int x1)] [] S := by
  intro h N Z
  unfold m_part_79 at hf
  refine X.aload_n dX4_part_79 rfl 0 rfl ?_
  refine X.iconst (v := 3) dX4_part_80 (by decide) ?_
  obtain ⟨q81, h81, hf⟩ := ob hf
  refine X.callVv (As := [.int (3 : Int32)]) (rest := []) (T2 := (mh m0 h q81, N, Z)) dX4_part_81 (w_wrong h81 h N Z) cX4_181 rfl rfl (Nat.le_of_ble_eq_true rfl) mh_0 rfl rfl (xD (Nat.le_of_ble_eq_true rfl)) xleN xleN ?_
  refine X.sub [0, 1] (L' := [(0, .ref m0), (1, .int x1)]) rfl ?_
  exact m_part_84_ok _ _ _ hf h N Z
def m_part  (S : MS) : Option MS :=
  (m_isGood S).bind fun q1 =>
  if q1 = 0 then
    some S
  else
    if (S.1 19) = (2 : Int32) then
      if (S.1 21) ≤ (4 : Int32) then
        m_part_29 S
      else
        (m_wrong ((2 : Int32)) S).bind fun q26 =>
        m_part_29 q26
    else
      if (S.1 19) = (1 : Int32) then
        (m_knownWord S).bind fun q54 =>
        if q54 < 0 then
          m_part_79 q54 S
        else
          if (7 : Int32) < q54 then
            m_part_79 q54 S
          else
            if (((S.1 36) >>> (q54 &&& 31)) &&& (1 : Int32)) = 0 then
              m_part_79 q54 S
            else
              m_part_84 q54 S
      else
        (m_wrong ((1 : Int32)) S).bind fun q99 =>
        m_part_102 q99
theorem w_part {G : xG} {m0 : Nat}  {S : MS} {q : MS} (hf : m_part S = some q) : CtM G m0 mX4_part 4 S [.ref m0] none q := by
  intro h N Z
  refine Ct.of (by decide +kernel) rfl (Nat.le_of_ble_eq_true rfl) (show Xr G _ 0 [(0, .ref m0)] [] _ from ?_)
  unfold m_part at hf
  refine X.aload_n dX4_part_0 rfl 0 rfl ?_
  obtain ⟨q1, h1, hf⟩ := ob hf
  refine X.callVi (As := []) (rest := []) dX4_part_1 (w_isGood h1 h N Z) cX4_174 rfl rfl (Nat.le_of_ble_eq_true rfl) mh_0 rfl rfl (xD (Nat.le_of_ble_eq_true rfl)) xleN xleN ?_
  refine X.if_ne (tgt := 8) dX4_part_4 (by decide) (fun c4 => ?_) (fun c4 => ?_)
  · have hf := if_f c4 hf
    refine X.aload_n dX4_part_8 rfl 0 rfl ?_
    refine M.get (v := .int (S.1 19)) dX4_part_9 fX4_148 (Nat.le_of_ble_eq_true rfl) rfl ?_
    refine X.iconst (v := 2) dX4_part_12 (by decide) ?_
    refine X.icmp_ne (tgt := 45) dX4_part_13 (by decide) (fun c13 => ?_) (fun c13 => ?_)
    · have hf := if_f c13 hf
      refine X.aload_n dX4_part_45 rfl 0 rfl ?_
      refine M.get (v := .int (S.1 19)) dX4_part_46 fX4_148 (Nat.le_of_ble_eq_true rfl) rfl ?_
      refine X.iconst (v := 1) dX4_part_49 (by decide) ?_
      refine X.icmp_ne (tgt := 97) dX4_part_50 (by decide) (fun c50 => ?_) (fun c50 => ?_)
      · have hf := if_f c50 hf
        refine X.aload_n dX4_part_97 rfl 0 rfl ?_
        refine X.iconst (v := 1) dX4_part_98 (by decide) ?_
        obtain ⟨q99, h99, hf⟩ := ob hf
        refine X.callVv (As := [.int (1 : Int32)]) (rest := []) (T2 := (mh m0 h q99, N, Z)) dX4_part_99 (w_wrong h99 h N Z) cX4_181 rfl rfl (Nat.le_of_ble_eq_true rfl) mh_0 rfl rfl (xD (Nat.le_of_ble_eq_true rfl)) xleN xleN ?_
        refine X.sub [0] (L' := [(0, .ref m0)]) rfl ?_
        exact m_part_102_ok _ _ hf h N Z
      · have hf := if_t c50 hf
        refine X.aload_n dX4_part_53 rfl 0 rfl ?_
        obtain ⟨q54, h54, hf⟩ := ob hf
        refine X.callVi (As := []) (rest := []) dX4_part_54 (w_knownWord h54 h N Z) cX4_199 rfl rfl (Nat.le_of_ble_eq_true rfl) mh_0 rfl rfl (xD (Nat.le_of_ble_eq_true rfl)) xleN xleN ?_
        refine X.istore_n (L' := [(1, .int q54), (0, .ref m0)]) dX4_part_57 rfl (Nat.le_of_ble_eq_true rfl) rfl ?_
        refine X.iload_n dX4_part_58 rfl 0 rfl ?_
        refine X.if_lt (tgt := 79) dX4_part_59 (by decide) (fun c59 => ?_) (fun c59 => ?_)
        · have hf := if_t c59 hf
          refine X.sub [1, 0] (L' := [(0, .ref m0), (1, .int q54)]) rfl ?_
          exact m_part_79_ok _ _ _ hf h N Z
        · have hf := if_f c59 hf
          refine X.iload_n dX4_part_62 rfl 0 rfl ?_
          refine X.bipush (v := 7) dX4_part_63 (by decide) ?_
          refine X.icmp_gt (tgt := 79) dX4_part_65 (by decide) (fun c65 => ?_) (fun c65 => ?_)
          · have hf := if_t c65 hf
            refine X.sub [1, 0] (L' := [(0, .ref m0), (1, .int q54)]) rfl ?_
            exact m_part_79_ok _ _ _ hf h N Z
          · have hf := if_f c65 hf
            refine X.aload_n dX4_part_68 rfl 1 rfl ?_
            refine M.get (v := .int (S.1 36)) dX4_part_69 fX4_203 (Nat.le_of_ble_eq_true rfl) rfl ?_
            refine X.iload_n dX4_part_72 rfl 0 rfl ?_
            refine X.ishr dX4_part_73 ?_
            refine X.iconst (v := 1) dX4_part_74 (by decide) ?_
            refine X.iand dX4_part_75 ?_
            refine X.if_ne (tgt := 84) dX4_part_76 (by decide) (fun c76 => ?_) (fun c76 => ?_)
            · have hf := if_f c76 hf
              refine X.sub [1, 0] (L' := [(0, .ref m0), (1, .int q54)]) rfl ?_
              exact m_part_84_ok _ _ _ hf h N Z
            · have hf := if_t c76 hf
              refine X.sub [1, 0] (L' := [(0, .ref m0), (1, .int q54)]) rfl ?_
              exact m_part_79_ok _ _ _ hf h N Z
    · have hf := if_t c13 hf
      refine X.aload_n dX4_part_16 rfl 0 rfl ?_
      refine M.get (v := .int (S.1 21)) dX4_part_17 fX4_158 (Nat.le_of_ble_eq_true rfl) rfl ?_
      refine X.iconst (v := 4) dX4_part_20 (by decide) ?_
      refine X.icmp_le (tgt := 29) dX4_part_21 (by decide) (fun c21 => ?_) (fun c21 => ?_)
      · have hf := if_t c21 hf
        refine X.sub [0] (L' := [(0, .ref m0)]) rfl ?_
        exact m_part_29_ok _ _ hf h N Z
      · have hf := if_f c21 hf
        refine X.aload_n dX4_part_24 rfl 0 rfl ?_
        refine X.iconst (v := 2) dX4_part_25 (by decide) ?_
        obtain ⟨q26, h26, hf⟩ := ob hf
        refine X.callVv (As := [.int (2 : Int32)]) (rest := []) (T2 := (mh m0 h q26, N, Z)) dX4_part_26 (w_wrong h26 h N Z) cX4_181 rfl rfl (Nat.le_of_ble_eq_true rfl) mh_0 rfl rfl (xD (Nat.le_of_ble_eq_true rfl)) xleN xleN ?_
        refine X.sub [0] (L' := [(0, .ref m0)]) rfl ?_
        exact m_part_29_ok _ _ hf h N Z
  · have hf := if_t c4 hf
    obtain rfl := Option.some.inj hf
    exact X.vret dX4_part_7 rfl rfl
theorem cX4_218 : xCV RX4 218 mX4_part 0 := ⟨lw_V q1866 q1868 qs74 q127 q1869, rfl, ⟨by decide +kernel, by decide +kernel, by decide +kernel⟩, Nat.le_of_ble_eq_true rfl⟩
/-! deeper -/
abbrev cX4_deeper : ByteArray := prog_12_method_31_code
def yX4_deeper : MethodName := ⟨RX4, "deeper", "()V"⟩
def dkwX4_deeper_2 : List UInt8 := [16, 40, 182, 0, 209, 153, 0, 7, 5, 167, 0, 4, 4, 182, 0, 181, 177]
abbrev dktX4_deeper_2 : List UInt8 := dkwX4_deeper_2 ++ []
def dkwX4_deeper_1 : List UInt8 := [180, 0, 206, 3, 84, 177, 42, 42, 180, 0, 148, 5, 159, 0, 20, 42, 180, 0, 148, 4, 159, 0, 12, 42]
abbrev dktX4_deeper_1 : List UInt8 := dkwX4_deeper_1 ++ dktX4_deeper_2
def dkwX4_deeper_0 : List UInt8 := [42, 180, 0, 206, 16, 6, 162, 0, 24, 42, 89, 180, 0, 206, 4, 96, 181, 0, 206, 42, 180, 0, 62, 42]
abbrev dktX4_deeper_0 : List UInt8 := dkwX4_deeper_0 ++ dktX4_deeper_1
theorem dksX4_deeper_0 : cX4_deeper.data.toList.drop 0 = dktX4_deeper_0 := by decide +kernel
theorem dksX4_deeper_1 : cX4_deeper.data.toList.drop 24 = dktX4_deeper_1 := dk_seg dksX4_deeper_0 24 rfl rfl
theorem dksX4_deeper_2 : cX4_deeper.data.toList.drop 48 = dktX4_deeper_2 := dk_seg dksX4_deeper_1 24 rfl rfl
theorem dX4_deeper_0 : decode cX4_deeper 0 = .ok (.aload_n 0, 1) := dk_42 (dk_at dksX4_deeper_0 0 rfl rfl)
theorem dX4_deeper_1 : decode cX4_deeper 1 = .ok (.getfield 206, 3) := dk_180 0 206 (dk_at dksX4_deeper_0 1 rfl rfl)
theorem dX4_deeper_4 : decode cX4_deeper 4 = .ok (.bipush 6, 2) := dk_16 6 (dk_at dksX4_deeper_0 4 rfl rfl)
theorem dX4_deeper_6 : decode cX4_deeper 6 = .ok (.if_icmp .ge 24, 3) := dk_162 0 24 (dk_at dksX4_deeper_0 6 rfl rfl)
theorem dX4_deeper_9 : decode cX4_deeper 9 = .ok (.aload_n 0, 1) := dk_42 (dk_at dksX4_deeper_0 9 rfl rfl)
theorem dX4_deeper_10 : decode cX4_deeper 10 = .ok (.dup, 1) := dk_89 (dk_at dksX4_deeper_0 10 rfl rfl)
theorem dX4_deeper_11 : decode cX4_deeper 11 = .ok (.getfield 206, 3) := dk_180 0 206 (dk_at dksX4_deeper_0 11 rfl rfl)
theorem dX4_deeper_14 : decode cX4_deeper 14 = .ok (.iconst 1, 1) := dk_4 (dk_at dksX4_deeper_0 14 rfl rfl)
theorem dX4_deeper_15 : decode cX4_deeper 15 = .ok (.iadd, 1) := dk_96 (dk_at dksX4_deeper_0 15 rfl rfl)
theorem dX4_deeper_16 : decode cX4_deeper 16 = .ok (.putfield 206, 3) := dk_181 0 206 (dk_at dksX4_deeper_0 16 rfl rfl)
theorem dX4_deeper_19 : decode cX4_deeper 19 = .ok (.aload_n 0, 1) := dk_42 (dk_at dksX4_deeper_0 19 rfl rfl)
theorem dX4_deeper_20 : decode cX4_deeper 20 = .ok (.getfield 62, 3) := dk_180 0 62 (dk_at dksX4_deeper_0 20 rfl rfl)
theorem dX4_deeper_23 : decode cX4_deeper 23 = .ok (.aload_n 0, 1) := dk_42 (dk_at dksX4_deeper_0 23 rfl rfl)
theorem dX4_deeper_24 : decode cX4_deeper 24 = .ok (.getfield 206, 3) := dk_180 0 206 (dk_at dksX4_deeper_1 0 rfl rfl)
theorem dX4_deeper_27 : decode cX4_deeper 27 = .ok (.iconst 0, 1) := dk_3 (dk_at dksX4_deeper_1 3 rfl rfl)
theorem dX4_deeper_28 : decode cX4_deeper 28 = .ok (.bastore, 1) := dk_84 (dk_at dksX4_deeper_1 4 rfl rfl)
theorem dX4_deeper_29 : decode cX4_deeper 29 = .ok (.return_, 1) := dk_177 (dk_at dksX4_deeper_1 5 rfl rfl)
theorem dX4_deeper_30 : decode cX4_deeper 30 = .ok (.aload_n 0, 1) := dk_42 (dk_at dksX4_deeper_1 6 rfl rfl)
theorem dX4_deeper_31 : decode cX4_deeper 31 = .ok (.aload_n 0, 1) := dk_42 (dk_at dksX4_deeper_1 7 rfl rfl)
theorem dX4_deeper_32 : decode cX4_deeper 32 = .ok (.getfield 148, 3) := dk_180 0 148 (dk_at dksX4_deeper_1 8 rfl rfl)
theorem dX4_deeper_35 : decode cX4_deeper 35 = .ok (.iconst 2, 1) := dk_5 (dk_at dksX4_deeper_1 11 rfl rfl)
theorem dX4_deeper_36 : decode cX4_deeper 36 = .ok (.if_icmp .eq 20, 3) := dk_159 0 20 (dk_at dksX4_deeper_1 12 rfl rfl)
theorem dX4_deeper_39 : decode cX4_deeper 39 = .ok (.aload_n 0, 1) := dk_42 (dk_at dksX4_deeper_1 15 rfl rfl)
theorem dX4_deeper_40 : decode cX4_deeper 40 = .ok (.getfield 148, 3) := dk_180 0 148 (dk_at dksX4_deeper_1 16 rfl rfl)
theorem dX4_deeper_43 : decode cX4_deeper 43 = .ok (.iconst 1, 1) := dk_4 (dk_at dksX4_deeper_1 19 rfl rfl)
theorem dX4_deeper_44 : decode cX4_deeper 44 = .ok (.if_icmp .eq 12, 3) := dk_159 0 12 (dk_at dksX4_deeper_1 20 rfl rfl)
theorem dX4_deeper_47 : decode cX4_deeper 47 = .ok (.aload_n 0, 1) := dk_42 (dk_at dksX4_deeper_1 23 rfl rfl)
theorem dX4_deeper_48 : decode cX4_deeper 48 = .ok (.bipush 40, 2) := dk_16 40 (dk_at dksX4_deeper_2 0 rfl rfl)
theorem dX4_deeper_50 : decode cX4_deeper 50 = .ok (.invokevirtual 209, 3) := dk_182 0 209 (dk_at dksX4_deeper_2 2 rfl rfl)
theorem dX4_deeper_53 : decode cX4_deeper 53 = .ok (.ifCond .eq 7, 3) := dk_153 0 7 (dk_at dksX4_deeper_2 5 rfl rfl)
theorem dX4_deeper_56 : decode cX4_deeper 56 = .ok (.iconst 2, 1) := dk_5 (dk_at dksX4_deeper_2 8 rfl rfl)
theorem dX4_deeper_57 : decode cX4_deeper 57 = .ok (.goto 4, 3) := dk_167 0 4 (dk_at dksX4_deeper_2 9 rfl rfl)
theorem dX4_deeper_60 : decode cX4_deeper 60 = .ok (.iconst 1, 1) := dk_4 (dk_at dksX4_deeper_2 12 rfl rfl)
theorem dX4_deeper_61 : decode cX4_deeper 61 = .ok (.invokevirtual 181, 3) := dk_182 0 181 (dk_at dksX4_deeper_2 13 rfl rfl)
theorem dX4_deeper_64 : decode cX4_deeper 64 = .ok (.return_, 1) := dk_177 (dk_at dksX4_deeper_2 16 rfl rfl)
abbrev mX4_deeper : xM := (yX4_deeper, cX4_deeper, 1, none, [])
def m_deeper_61  (y0 : Int32) (S : MS) : Option MS :=
  (m_wrong y0 S).bind fun q61 =>
  some q61
theorem m_deeper_61_ok {G : xG} {m0 : Nat} {S0 : MS}   (y0 : Int32) (S : MS) (q : MS) (hf : m_deeper_61 y0 S = some q) : XM G m0 mX4_deeper 2 S0 none q 61 [] [.int y0, .ref m0] S := by
  intro h N Z
  unfold m_deeper_61 at hf
  obtain ⟨q61, h61, hf⟩ := ob hf
  refine X.callVv (As := [.int y0]) (rest := []) (T2 := (mh m0 h q61, N, Z)) dX4_deeper_61 (w_wrong h61 h N Z) cX4_181 rfl rfl (Nat.le_of_ble_eq_true rfl) mh_0 rfl rfl (xD (Nat.le_of_ble_eq_true rfl)) xleN xleN ?_
  obtain rfl := Option.some.inj hf
  exact X.vret dX4_deeper_64 rfl rfl
def m_deeper_56  (S : MS) : Option MS :=
  m_deeper_61 ((2 : Int32)) S
theorem m_deeper_56_ok {G : xG} {m0 : Nat} {S0 : MS}   (S : MS) (q : MS) (hf : m_deeper_56 S = some q) : XM G m0 mX4_deeper 2 S0 none q 56 [] [.ref m0] S := by
  intro h N Z
  unfold m_deeper_56 at hf
  refine X.iconst (v := 2) dX4_deeper_56 (by decide) ?_
  refine X.goto (tgt := 61) dX4_deeper_57 (by decide) ?_
  refine X.sub [] (L' := []) rfl ?_
  exact m_deeper_61_ok _ _ _ hf h N Z
def m_deeper  (S : MS) : Option MS :=
  if (6 : Int32) ≤ (S.1 35) then
    if (S.1 19) = (2 : Int32) then
      m_deeper_56 S
    else
      if (S.1 19) = (1 : Int32) then
        m_deeper_56 S
      else
        (m_isSign ((40 : Int32)) S).bind fun q50 =>
        if q50 = 0 then
          m_deeper_61 ((1 : Int32)) S
        else
          m_deeper_56 S
  else
    (wrA ((sF S 35 ((S.1 35) + (1 : Int32)))) 11 (((sF S 35 ((S.1 35) + (1 : Int32)))).1 35) (vp_nar .boolean (0 : Int32))).bind fun S28 =>
    some S28
theorem w_deeper {G : xG} {m0 : Nat}  {S : MS} {q : MS} (hf : m_deeper S = some q) : CtM G m0 mX4_deeper 2 S [.ref m0] none q := by
  intro h N Z
  refine Ct.of (by decide +kernel) rfl (Nat.le_of_ble_eq_true rfl) (show Xr G _ 0 [(0, .ref m0)] [] _ from ?_)
  unfold m_deeper at hf
  refine X.aload_n dX4_deeper_0 rfl 0 rfl ?_
  refine M.get (v := .int (S.1 35)) dX4_deeper_1 fX4_206 (Nat.le_of_ble_eq_true rfl) rfl ?_
  refine X.bipush (v := 6) dX4_deeper_4 (by decide) ?_
  refine X.icmp_ge (tgt := 30) dX4_deeper_6 (by decide) (fun c6 => ?_) (fun c6 => ?_)
  · have hf := if_t c6 hf
    refine X.aload_n dX4_deeper_30 rfl 0 rfl ?_
    refine X.aload_n dX4_deeper_31 rfl 0 rfl ?_
    refine M.get (v := .int (S.1 19)) dX4_deeper_32 fX4_148 (Nat.le_of_ble_eq_true rfl) rfl ?_
    refine X.iconst (v := 2) dX4_deeper_35 (by decide) ?_
    refine X.icmp_eq (tgt := 56) dX4_deeper_36 (by decide) (fun c36 => ?_) (fun c36 => ?_)
    · have hf := if_t c36 hf
      refine X.sub [] (L' := []) rfl ?_
      exact m_deeper_56_ok _ _ hf h N Z
    · have hf := if_f c36 hf
      refine X.aload_n dX4_deeper_39 rfl 0 rfl ?_
      refine M.get (v := .int (S.1 19)) dX4_deeper_40 fX4_148 (Nat.le_of_ble_eq_true rfl) rfl ?_
      refine X.iconst (v := 1) dX4_deeper_43 (by decide) ?_
      refine X.icmp_eq (tgt := 56) dX4_deeper_44 (by decide) (fun c44 => ?_) (fun c44 => ?_)
      · have hf := if_t c44 hf
        refine X.sub [] (L' := []) rfl ?_
        exact m_deeper_56_ok _ _ hf h N Z
      · have hf := if_f c44 hf
        refine X.aload_n dX4_deeper_47 rfl 0 rfl ?_
        refine X.bipush (v := 40) dX4_deeper_48 (by decide) ?_
        obtain ⟨q50, h50, hf⟩ := ob hf
        refine X.callVi (As := [.int (40 : Int32)]) (rest := [.ref m0]) dX4_deeper_50 (w_isSign h50 h N Z) cX4_209 rfl rfl (Nat.le_of_ble_eq_true rfl) mh_0 rfl rfl (xD (Nat.le_of_ble_eq_true rfl)) xleN xleN ?_
        refine X.if_eq (tgt := 60) dX4_deeper_53 (by decide) (fun c53 => ?_) (fun c53 => ?_)
        · have hf := if_t c53 hf
          refine X.iconst (v := 1) dX4_deeper_60 (by decide) ?_
          refine X.sub [] (L' := []) rfl ?_
          exact m_deeper_61_ok _ _ _ hf h N Z
        · have hf := if_f c53 hf
          refine X.sub [] (L' := []) rfl ?_
          exact m_deeper_56_ok _ _ hf h N Z
  · have hf := if_f c6 hf
    refine X.aload_n dX4_deeper_9 rfl 0 rfl ?_
    refine X.dup dX4_deeper_10 rfl ?_
    refine M.get (v := .int (S.1 35)) dX4_deeper_11 fX4_206 (Nat.le_of_ble_eq_true rfl) rfl ?_
    refine X.iconst (v := 1) dX4_deeper_14 (by decide) ?_
    refine X.iadd dX4_deeper_15 ?_
    refine M.putI dX4_deeper_16 fX4_206 (by decide) rfl rfl rfl ?_
    refine X.aload_n dX4_deeper_19 rfl 0 rfl ?_
    refine M.get (v := .ref (m0 + 11)) dX4_deeper_20 fX4_62 (Nat.le_of_ble_eq_true rfl) rfl ?_
    refine X.aload_n dX4_deeper_23 rfl 0 rfl ?_
    refine M.get (v := .int (((sF S 35 ((S.1 35) + (1 : Int32)))).1 35)) dX4_deeper_24 fX4_206 (Nat.le_of_ble_eq_true rfl) rfl ?_
    refine X.iconst (v := 0) dX4_deeper_27 (by decide) ?_
    obtain ⟨S28, h28, hf⟩ := ob hf
    refine M.zast dX4_deeper_28 (Nat.le_of_ble_eq_true rfl) (Nat.le_of_ble_eq_true rfl) rfl h28 ?_
    obtain rfl := Option.some.inj hf
    exact X.vret dX4_deeper_29 rfl rfl
theorem cX4_215 : xCV RX4 215 mX4_deeper 0 := ⟨lw_V q1850 q1852 qs70 q127 q1853, rfl, ⟨by decide +kernel, by decide +kernel, by decide +kernel⟩, Nat.le_of_ble_eq_true rfl⟩
/-! operand -/
abbrev cX4_operand : ByteArray := prog_12_method_32_code
def yX4_operand : MethodName := ⟨RX4, "operand", "(Z)V"⟩
def dkwX4_operand_5 : List UInt8 := [61, 167, 255, 143, 42, 182, 0, 218, 177]
abbrev dktX4_operand_5 : List UInt8 := dkwX4_operand_5 ++ []
def dkwX4_operand_4 : List UInt8 := [167, 0, 4, 3, 62, 29, 153, 0, 19, 42, 16, 14, 182, 0, 212, 42, 182, 0, 178, 42, 182, 0, 215, 4]
abbrev dktX4_operand_4 : List UInt8 := dkwX4_operand_4 ++ dktX4_operand_5
def dkwX4_operand_3 : List UInt8 := [182, 0, 178, 167, 255, 202, 42, 182, 0, 174, 153, 0, 16, 42, 16, 40, 182, 0, 209, 153, 0, 7, 4]
abbrev dktX4_operand_3 : List UInt8 := dkwX4_operand_3 ++ dktX4_operand_4
def dkwX4_operand_2 : List UInt8 := [5, 182, 0, 181, 132, 4, 1, 42, 182, 0, 174, 154, 0, 6, 167, 255, 214, 42, 6, 182, 0, 212, 42]
abbrev dktX4_operand_2 : List UInt8 := dkwX4_operand_2 ++ dktX4_operand_3
def dkwX4_operand_1 : List UInt8 := [153, 0, 53, 28, 153, 0, 49, 42, 182, 0, 199, 16, 17, 160, 0, 40, 21, 4, 16, 6, 160, 0, 8, 42]
abbrev dktX4_operand_1 : List UInt8 := dkwX4_operand_1 ++ dktX4_operand_2
def dkwX4_operand_0 : List UInt8 := [27, 61, 4, 62, 29, 153, 0, 115, 42, 182, 0, 174, 153, 0, 108, 3, 54, 4, 42, 182, 0, 174]
abbrev dktX4_operand_0 : List UInt8 := dkwX4_operand_0 ++ dktX4_operand_1
theorem dksX4_operand_0 : cX4_operand.data.toList.drop 0 = dktX4_operand_0 := by decide +kernel
theorem dksX4_operand_1 : cX4_operand.data.toList.drop 22 = dktX4_operand_1 := dk_seg dksX4_operand_0 22 rfl rfl
theorem dksX4_operand_2 : cX4_operand.data.toList.drop 46 = dktX4_operand_2 := dk_seg dksX4_operand_1 24 rfl rfl
theorem dksX4_operand_3 : cX4_operand.data.toList.drop 69 = dktX4_operand_3 := dk_seg dksX4_operand_2 23 rfl rfl
theorem dksX4_operand_4 : cX4_operand.data.toList.drop 92 = dktX4_operand_4 := dk_seg dksX4_operand_3 23 rfl rfl
theorem dksX4_operand_5 : cX4_operand.data.toList.drop 116 = dktX4_operand_5 := dk_seg dksX4_operand_4 24 rfl rfl
theorem dX4_operand_0 : decode cX4_operand 0 = .ok (.iload_n 1, 1) := dk_27 (dk_at dksX4_operand_0 0 rfl rfl)
theorem dX4_operand_1 : decode cX4_operand 1 = .ok (.istore_n 2, 1) := dk_61 (dk_at dksX4_operand_0 1 rfl rfl)
theorem dX4_operand_2 : decode cX4_operand 2 = .ok (.iconst 1, 1) := dk_4 (dk_at dksX4_operand_0 2 rfl rfl)
theorem dX4_operand_3 : decode cX4_operand 3 = .ok (.istore_n 3, 1) := dk_62 (dk_at dksX4_operand_0 3 rfl rfl)
theorem dX4_operand_4 : decode cX4_operand 4 = .ok (.iload_n 3, 1) := dk_29 (dk_at dksX4_operand_0 4 rfl rfl)
theorem dX4_operand_5 : decode cX4_operand 5 = .ok (.ifCond .eq 115, 3) := dk_153 0 115 (dk_at dksX4_operand_0 5 rfl rfl)
theorem dX4_operand_8 : decode cX4_operand 8 = .ok (.aload_n 0, 1) := dk_42 (dk_at dksX4_operand_0 8 rfl rfl)
theorem dX4_operand_9 : decode cX4_operand 9 = .ok (.invokevirtual 174, 3) := dk_182 0 174 (dk_at dksX4_operand_0 9 rfl rfl)
theorem dX4_operand_12 : decode cX4_operand 12 = .ok (.ifCond .eq 108, 3) := dk_153 0 108 (dk_at dksX4_operand_0 12 rfl rfl)
theorem dX4_operand_15 : decode cX4_operand 15 = .ok (.iconst 0, 1) := dk_3 (dk_at dksX4_operand_0 15 rfl rfl)
theorem dX4_operand_16 : decode cX4_operand 16 = .ok (.istore 4, 2) := dk_54 4 (dk_at dksX4_operand_0 16 rfl rfl)
theorem dX4_operand_18 : decode cX4_operand 18 = .ok (.aload_n 0, 1) := dk_42 (dk_at dksX4_operand_0 18 rfl rfl)
theorem dX4_operand_19 : decode cX4_operand 19 = .ok (.invokevirtual 174, 3) := dk_182 0 174 (dk_at dksX4_operand_0 19 rfl rfl)
theorem dX4_operand_22 : decode cX4_operand 22 = .ok (.ifCond .eq 53, 3) := dk_153 0 53 (dk_at dksX4_operand_1 0 rfl rfl)
theorem dX4_operand_25 : decode cX4_operand 25 = .ok (.iload_n 2, 1) := dk_28 (dk_at dksX4_operand_1 3 rfl rfl)
theorem dX4_operand_26 : decode cX4_operand 26 = .ok (.ifCond .eq 49, 3) := dk_153 0 49 (dk_at dksX4_operand_1 4 rfl rfl)
theorem dX4_operand_29 : decode cX4_operand 29 = .ok (.aload_n 0, 1) := dk_42 (dk_at dksX4_operand_1 7 rfl rfl)
theorem dX4_operand_30 : decode cX4_operand 30 = .ok (.invokevirtual 199, 3) := dk_182 0 199 (dk_at dksX4_operand_1 8 rfl rfl)
theorem dX4_operand_33 : decode cX4_operand 33 = .ok (.bipush 17, 2) := dk_16 17 (dk_at dksX4_operand_1 11 rfl rfl)
theorem dX4_operand_35 : decode cX4_operand 35 = .ok (.if_icmp .ne 40, 3) := dk_160 0 40 (dk_at dksX4_operand_1 13 rfl rfl)
theorem dX4_operand_38 : decode cX4_operand 38 = .ok (.iload 4, 2) := dk_21 4 (dk_at dksX4_operand_1 16 rfl rfl)
theorem dX4_operand_40 : decode cX4_operand 40 = .ok (.bipush 6, 2) := dk_16 6 (dk_at dksX4_operand_1 18 rfl rfl)
theorem dX4_operand_42 : decode cX4_operand 42 = .ok (.if_icmp .ne 8, 3) := dk_160 0 8 (dk_at dksX4_operand_1 20 rfl rfl)
theorem dX4_operand_45 : decode cX4_operand 45 = .ok (.aload_n 0, 1) := dk_42 (dk_at dksX4_operand_1 23 rfl rfl)
theorem dX4_operand_46 : decode cX4_operand 46 = .ok (.iconst 2, 1) := dk_5 (dk_at dksX4_operand_2 0 rfl rfl)
theorem dX4_operand_47 : decode cX4_operand 47 = .ok (.invokevirtual 181, 3) := dk_182 0 181 (dk_at dksX4_operand_2 1 rfl rfl)
theorem dX4_operand_50 : decode cX4_operand 50 = .ok (.iinc 4 1, 3) := dk_132 4 1 (dk_at dksX4_operand_2 4 rfl rfl)
theorem dX4_operand_53 : decode cX4_operand 53 = .ok (.aload_n 0, 1) := dk_42 (dk_at dksX4_operand_2 7 rfl rfl)
theorem dX4_operand_54 : decode cX4_operand 54 = .ok (.invokevirtual 174, 3) := dk_182 0 174 (dk_at dksX4_operand_2 8 rfl rfl)
theorem dX4_operand_57 : decode cX4_operand 57 = .ok (.ifCond .ne 6, 3) := dk_154 0 6 (dk_at dksX4_operand_2 11 rfl rfl)
theorem dX4_operand_60 : decode cX4_operand 60 = .ok (.goto (-42), 3) := dk_167 255 214 (dk_at dksX4_operand_2 14 rfl rfl)
theorem dX4_operand_63 : decode cX4_operand 63 = .ok (.aload_n 0, 1) := dk_42 (dk_at dksX4_operand_2 17 rfl rfl)
theorem dX4_operand_64 : decode cX4_operand 64 = .ok (.iconst 3, 1) := dk_6 (dk_at dksX4_operand_2 18 rfl rfl)
theorem dX4_operand_65 : decode cX4_operand 65 = .ok (.invokevirtual 212, 3) := dk_182 0 212 (dk_at dksX4_operand_2 19 rfl rfl)
theorem dX4_operand_68 : decode cX4_operand 68 = .ok (.aload_n 0, 1) := dk_42 (dk_at dksX4_operand_2 22 rfl rfl)
theorem dX4_operand_69 : decode cX4_operand 69 = .ok (.invokevirtual 178, 3) := dk_182 0 178 (dk_at dksX4_operand_3 0 rfl rfl)
theorem dX4_operand_72 : decode cX4_operand 72 = .ok (.goto (-54), 3) := dk_167 255 202 (dk_at dksX4_operand_3 3 rfl rfl)
theorem dX4_operand_75 : decode cX4_operand 75 = .ok (.aload_n 0, 1) := dk_42 (dk_at dksX4_operand_3 6 rfl rfl)
theorem dX4_operand_76 : decode cX4_operand 76 = .ok (.invokevirtual 174, 3) := dk_182 0 174 (dk_at dksX4_operand_3 7 rfl rfl)
theorem dX4_operand_79 : decode cX4_operand 79 = .ok (.ifCond .eq 16, 3) := dk_153 0 16 (dk_at dksX4_operand_3 10 rfl rfl)
theorem dX4_operand_82 : decode cX4_operand 82 = .ok (.aload_n 0, 1) := dk_42 (dk_at dksX4_operand_3 13 rfl rfl)
theorem dX4_operand_83 : decode cX4_operand 83 = .ok (.bipush 40, 2) := dk_16 40 (dk_at dksX4_operand_3 14 rfl rfl)
theorem dX4_operand_85 : decode cX4_operand 85 = .ok (.invokevirtual 209, 3) := dk_182 0 209 (dk_at dksX4_operand_3 16 rfl rfl)
theorem dX4_operand_88 : decode cX4_operand 88 = .ok (.ifCond .eq 7, 3) := dk_153 0 7 (dk_at dksX4_operand_3 19 rfl rfl)
theorem dX4_operand_91 : decode cX4_operand 91 = .ok (.iconst 1, 1) := dk_4 (dk_at dksX4_operand_3 22 rfl rfl)
theorem dX4_operand_92 : decode cX4_operand 92 = .ok (.goto 4, 3) := dk_167 0 4 (dk_at dksX4_operand_4 0 rfl rfl)
theorem dX4_operand_95 : decode cX4_operand 95 = .ok (.iconst 0, 1) := dk_3 (dk_at dksX4_operand_4 3 rfl rfl)
theorem dX4_operand_96 : decode cX4_operand 96 = .ok (.istore_n 3, 1) := dk_62 (dk_at dksX4_operand_4 4 rfl rfl)
theorem dX4_operand_97 : decode cX4_operand 97 = .ok (.iload_n 3, 1) := dk_29 (dk_at dksX4_operand_4 5 rfl rfl)
theorem dX4_operand_98 : decode cX4_operand 98 = .ok (.ifCond .eq 19, 3) := dk_153 0 19 (dk_at dksX4_operand_4 6 rfl rfl)
theorem dX4_operand_101 : decode cX4_operand 101 = .ok (.aload_n 0, 1) := dk_42 (dk_at dksX4_operand_4 9 rfl rfl)
theorem dX4_operand_102 : decode cX4_operand 102 = .ok (.bipush 14, 2) := dk_16 14 (dk_at dksX4_operand_4 10 rfl rfl)
theorem dX4_operand_104 : decode cX4_operand 104 = .ok (.invokevirtual 212, 3) := dk_182 0 212 (dk_at dksX4_operand_4 12 rfl rfl)
theorem dX4_operand_107 : decode cX4_operand 107 = .ok (.aload_n 0, 1) := dk_42 (dk_at dksX4_operand_4 15 rfl rfl)
theorem dX4_operand_108 : decode cX4_operand 108 = .ok (.invokevirtual 178, 3) := dk_182 0 178 (dk_at dksX4_operand_4 16 rfl rfl)
theorem dX4_operand_111 : decode cX4_operand 111 = .ok (.aload_n 0, 1) := dk_42 (dk_at dksX4_operand_4 19 rfl rfl)
theorem dX4_operand_112 : decode cX4_operand 112 = .ok (.invokevirtual 215, 3) := dk_182 0 215 (dk_at dksX4_operand_4 20 rfl rfl)
theorem dX4_operand_115 : decode cX4_operand 115 = .ok (.iconst 1, 1) := dk_4 (dk_at dksX4_operand_4 23 rfl rfl)
theorem dX4_operand_116 : decode cX4_operand 116 = .ok (.istore_n 2, 1) := dk_61 (dk_at dksX4_operand_5 0 rfl rfl)
theorem dX4_operand_117 : decode cX4_operand 117 = .ok (.goto (-113), 3) := dk_167 255 143 (dk_at dksX4_operand_5 1 rfl rfl)
theorem dX4_operand_120 : decode cX4_operand 120 = .ok (.aload_n 0, 1) := dk_42 (dk_at dksX4_operand_5 4 rfl rfl)
theorem dX4_operand_121 : decode cX4_operand 121 = .ok (.invokevirtual 218, 3) := dk_182 0 218 (dk_at dksX4_operand_5 5 rfl rfl)
theorem dX4_operand_124 : decode cX4_operand 124 = .ok (.return_, 1) := dk_177 (dk_at dksX4_operand_5 8 rfl rfl)
abbrev mX4_operand : xM := (yX4_operand, cX4_operand, 5, none, [])
def m_operand_50 (k4 : Int32 → Int32 → MS → Option MS) (k18 : Int32 → Int32 → MS → Option MS) (x2 : Int32) (x4 : Int32) (S : MS) : Option MS :=
  (m_isGood S).bind fun q54 =>
  if q54 = 0 then
    k18 x2 ((x4 + 1)) S
  else
    (m_waitsFor ((3 : Int32)) S).bind fun q65 =>
    (m_goes q65).bind fun q69 =>
    k18 x2 ((x4 + 1)) q69
theorem m_operand_50_ok {G : xG} {m0 : Nat} {S0 : MS} {k4 : Int32 → Int32 → MS → Option MS} {k18 : Int32 → Int32 → MS → Option MS} (hk4 : ∀ (x2 : Int32) (x3 : Int32) (S : MS) (q : MS), k4 x2 x3 S = some q → XM G m0 mX4_operand 5 S0 none q 4 [(0, .ref m0), (2, .int x2), (3, .int x3)] [] S) (hk18 : ∀ (x2 : Int32) (x4 : Int32) (S : MS) (q : MS), k18 x2 x4 S = some q → XM G m0 mX4_operand 5 S0 none q 18 [(0, .ref m0), (2, .int x2), (4, .int x4)] [] S) (x2 : Int32) (x4 : Int32) (S : MS) (q : MS) (hf : m_operand_50 k4 k18 x2 x4 S = some q) : XM G m0 mX4_operand 5 S0 none q 50 [(0, .ref m0), (2, .int x2), (4, .int x4)] [] S := by
  intro h N Z
  unfold m_operand_50 at hf
  refine X.iinc (v := (x4 + 1)) (L' := [(4, .int (x4 + 1)), (0, .ref m0), (2, .int x2)]) dX4_operand_50 2 rfl rfl (Nat.le_of_ble_eq_true rfl) rfl ?_
  refine X.aload_n dX4_operand_53 rfl 1 rfl ?_
  obtain ⟨q54, h54, hf⟩ := ob hf
  refine X.callVi (As := []) (rest := []) dX4_operand_54 (w_isGood h54 h N Z) cX4_174 rfl rfl (Nat.le_of_ble_eq_true rfl) mh_0 rfl rfl (xD (Nat.le_of_ble_eq_true rfl)) xleN xleN ?_
  refine X.if_ne (tgt := 63) dX4_operand_57 (by decide) (fun c57 => ?_) (fun c57 => ?_)
  · have hf := if_f c57 hf
    refine X.aload_n dX4_operand_63 rfl 1 rfl ?_
    refine X.iconst (v := 3) dX4_operand_64 (by decide) ?_
    obtain ⟨q65, h65, hf⟩ := ob hf
    refine X.callVv (As := [.int (3 : Int32)]) (rest := []) (T2 := (mh m0 h q65, N, Z)) dX4_operand_65 (w_waitsFor h65 h N Z) cX4_212 rfl rfl (Nat.le_of_ble_eq_true rfl) mh_0 rfl rfl (xD (Nat.le_of_ble_eq_true rfl)) xleN xleN ?_
    refine X.aload_n dX4_operand_68 rfl 1 rfl ?_
    obtain ⟨q69, h69, hf⟩ := ob hf
    refine X.callVv (As := []) (rest := []) (T2 := (mh m0 h q69, N, Z)) dX4_operand_69 (w_goes h69 h N Z) cX4_178 rfl rfl (Nat.le_of_ble_eq_true rfl) mh_0 rfl rfl (xD (Nat.le_of_ble_eq_true rfl)) xleN xleN ?_
    refine X.goto (tgt := 18) dX4_operand_72 (by decide) ?_
    refine X.sub [1, 2, 0] (L' := [(0, .ref m0), (2, .int x2), (4, .int (x4 + 1))]) rfl ?_
    exact hk18 _ _ _ _ hf h N Z
  · have hf := if_t c57 hf
    refine X.goto (tgt := 18) dX4_operand_60 (by decide) ?_
    refine X.sub [1, 2, 0] (L' := [(0, .ref m0), (2, .int x2), (4, .int (x4 + 1))]) rfl ?_
    exact hk18 _ _ _ _ hf h N Z
def m_operand_117 (k4 : Int32 → Int32 → MS → Option MS) (x2 : Int32) (x3 : Int32) (S : MS) : Option MS :=
  k4 x2 x3 S
theorem m_operand_117_ok {G : xG} {m0 : Nat} {S0 : MS} {k4 : Int32 → Int32 → MS → Option MS} (hk4 : ∀ (x2 : Int32) (x3 : Int32) (S : MS) (q : MS), k4 x2 x3 S = some q → XM G m0 mX4_operand 5 S0 none q 4 [(0, .ref m0), (2, .int x2), (3, .int x3)] [] S) (x2 : Int32) (x3 : Int32) (S : MS) (q : MS) (hf : m_operand_117 k4 x2 x3 S = some q) : XM G m0 mX4_operand 5 S0 none q 117 [(0, .ref m0), (2, .int x2), (3, .int x3)] [] S := by
  intro h N Z
  unfold m_operand_117 at hf
  refine X.goto (tgt := 4) dX4_operand_117 (by decide) ?_
  refine X.sub [0, 1, 2] (L' := [(0, .ref m0), (2, .int x2), (3, .int x3)]) rfl ?_
  exact hk4 _ _ _ _ hf h N Z
def m_operand_96 (k4 : Int32 → Int32 → MS → Option MS) (x2 : Int32) (y0 : Int32) (S : MS) : Option MS :=
  if y0 = 0 then
    m_operand_117 k4 x2 y0 S
  else
    (m_waitsFor ((14 : Int32)) S).bind fun q104 =>
    (m_goes q104).bind fun q108 =>
    (m_deeper q108).bind fun q112 =>
    m_operand_117 k4 ((1 : Int32)) y0 q112
theorem m_operand_96_ok {G : xG} {m0 : Nat} {S0 : MS} {k4 : Int32 → Int32 → MS → Option MS} (hk4 : ∀ (x2 : Int32) (x3 : Int32) (S : MS) (q : MS), k4 x2 x3 S = some q → XM G m0 mX4_operand 5 S0 none q 4 [(0, .ref m0), (2, .int x2), (3, .int x3)] [] S) (x2 : Int32) (y0 : Int32) (S : MS) (q : MS) (hf : m_operand_96 k4 x2 y0 S = some q) : XM G m0 mX4_operand 5 S0 none q 96 [(0, .ref m0), (2, .int x2)] [.int y0] S := by
  intro h N Z
  unfold m_operand_96 at hf
  refine X.istore_n (L' := [(3, .int y0), (0, .ref m0), (2, .int x2)]) dX4_operand_96 rfl (Nat.le_of_ble_eq_true rfl) rfl ?_
  refine X.iload_n dX4_operand_97 rfl 0 rfl ?_
  refine X.if_eq (tgt := 117) dX4_operand_98 (by decide) (fun c98 => ?_) (fun c98 => ?_)
  · have hf := if_t c98 hf
    refine X.sub [1, 2, 0] (L' := [(0, .ref m0), (2, .int x2), (3, .int y0)]) rfl ?_
    exact m_operand_117_ok hk4 _ _ _ _ hf h N Z
  · have hf := if_f c98 hf
    refine X.aload_n dX4_operand_101 rfl 1 rfl ?_
    refine X.bipush (v := 14) dX4_operand_102 (by decide) ?_
    obtain ⟨q104, h104, hf⟩ := ob hf
    refine X.callVv (As := [.int (14 : Int32)]) (rest := []) (T2 := (mh m0 h q104, N, Z)) dX4_operand_104 (w_waitsFor h104 h N Z) cX4_212 rfl rfl (Nat.le_of_ble_eq_true rfl) mh_0 rfl rfl (xD (Nat.le_of_ble_eq_true rfl)) xleN xleN ?_
    refine X.aload_n dX4_operand_107 rfl 1 rfl ?_
    obtain ⟨q108, h108, hf⟩ := ob hf
    refine X.callVv (As := []) (rest := []) (T2 := (mh m0 h q108, N, Z)) dX4_operand_108 (w_goes h108 h N Z) cX4_178 rfl rfl (Nat.le_of_ble_eq_true rfl) mh_0 rfl rfl (xD (Nat.le_of_ble_eq_true rfl)) xleN xleN ?_
    refine X.aload_n dX4_operand_111 rfl 1 rfl ?_
    obtain ⟨q112, h112, hf⟩ := ob hf
    refine X.callVv (As := []) (rest := []) (T2 := (mh m0 h q112, N, Z)) dX4_operand_112 (w_deeper h112 h N Z) cX4_215 rfl rfl (Nat.le_of_ble_eq_true rfl) mh_0 rfl rfl (xD (Nat.le_of_ble_eq_true rfl)) xleN xleN ?_
    refine X.iconst (v := 1) dX4_operand_115 (by decide) ?_
    refine X.istore_n (L' := [(2, .int (1 : Int32)), (3, .int y0), (0, .ref m0)]) dX4_operand_116 rfl (Nat.le_of_ble_eq_true rfl) rfl ?_
    refine X.sub [2, 0, 1] (L' := [(0, .ref m0), (2, .int (1 : Int32)), (3, .int y0)]) rfl ?_
    exact m_operand_117_ok hk4 _ _ _ _ hf h N Z
def m_operand_95 (k4 : Int32 → Int32 → MS → Option MS) (x2 : Int32) (S : MS) : Option MS :=
  m_operand_96 k4 x2 ((0 : Int32)) S
theorem m_operand_95_ok {G : xG} {m0 : Nat} {S0 : MS} {k4 : Int32 → Int32 → MS → Option MS} (hk4 : ∀ (x2 : Int32) (x3 : Int32) (S : MS) (q : MS), k4 x2 x3 S = some q → XM G m0 mX4_operand 5 S0 none q 4 [(0, .ref m0), (2, .int x2), (3, .int x3)] [] S) (x2 : Int32) (S : MS) (q : MS) (hf : m_operand_95 k4 x2 S = some q) : XM G m0 mX4_operand 5 S0 none q 95 [(0, .ref m0), (2, .int x2)] [] S := by
  intro h N Z
  unfold m_operand_95 at hf
  refine X.iconst (v := 0) dX4_operand_95 (by decide) ?_
  refine X.sub [0, 1] (L' := [(0, .ref m0), (2, .int x2)]) rfl ?_
  exact m_operand_96_ok hk4 _ _ _ _ hf h N Z
def m_operand_75 (k4 : Int32 → Int32 → MS → Option MS) (x2 : Int32) (S : MS) : Option MS :=
  (m_isGood S).bind fun q76 =>
  if q76 = 0 then
    m_operand_95 k4 x2 S
  else
    (m_isSign ((40 : Int32)) S).bind fun q85 =>
    if q85 = 0 then
      m_operand_95 k4 x2 S
    else
      m_operand_96 k4 x2 ((1 : Int32)) S
theorem m_operand_75_ok {G : xG} {m0 : Nat} {S0 : MS} {k4 : Int32 → Int32 → MS → Option MS} (hk4 : ∀ (x2 : Int32) (x3 : Int32) (S : MS) (q : MS), k4 x2 x3 S = some q → XM G m0 mX4_operand 5 S0 none q 4 [(0, .ref m0), (2, .int x2), (3, .int x3)] [] S) (x2 : Int32) (S : MS) (q : MS) (hf : m_operand_75 k4 x2 S = some q) : XM G m0 mX4_operand 5 S0 none q 75 [(0, .ref m0), (2, .int x2)] [] S := by
  intro h N Z
  unfold m_operand_75 at hf
  refine X.aload_n dX4_operand_75 rfl 0 rfl ?_
  obtain ⟨q76, h76, hf⟩ := ob hf
  refine X.callVi (As := []) (rest := []) dX4_operand_76 (w_isGood h76 h N Z) cX4_174 rfl rfl (Nat.le_of_ble_eq_true rfl) mh_0 rfl rfl (xD (Nat.le_of_ble_eq_true rfl)) xleN xleN ?_
  refine X.if_eq (tgt := 95) dX4_operand_79 (by decide) (fun c79 => ?_) (fun c79 => ?_)
  · have hf := if_t c79 hf
    refine X.sub [0, 1] (L' := [(0, .ref m0), (2, .int x2)]) rfl ?_
    exact m_operand_95_ok hk4 _ _ _ hf h N Z
  · have hf := if_f c79 hf
    refine X.aload_n dX4_operand_82 rfl 0 rfl ?_
    refine X.bipush (v := 40) dX4_operand_83 (by decide) ?_
    obtain ⟨q85, h85, hf⟩ := ob hf
    refine X.callVi (As := [.int (40 : Int32)]) (rest := []) dX4_operand_85 (w_isSign h85 h N Z) cX4_209 rfl rfl (Nat.le_of_ble_eq_true rfl) mh_0 rfl rfl (xD (Nat.le_of_ble_eq_true rfl)) xleN xleN ?_
    refine X.if_eq (tgt := 95) dX4_operand_88 (by decide) (fun c88 => ?_) (fun c88 => ?_)
    · have hf := if_t c88 hf
      refine X.sub [0, 1] (L' := [(0, .ref m0), (2, .int x2)]) rfl ?_
      exact m_operand_95_ok hk4 _ _ _ hf h N Z
    · have hf := if_f c88 hf
      refine X.iconst (v := 1) dX4_operand_91 (by decide) ?_
      refine X.goto (tgt := 96) dX4_operand_92 (by decide) ?_
      refine X.sub [0, 1] (L' := [(0, .ref m0), (2, .int x2)]) rfl ?_
      exact m_operand_96_ok hk4 _ _ _ _ hf h N Z
def m_operand_18_b (k4 : Int32 → Int32 → MS → Option MS) (k18 : Int32 → Int32 → MS → Option MS) (x2 : Int32) (x4 : Int32) (S : MS) : Option MS :=
  (m_isGood S).bind fun q19 =>
  if q19 = 0 then
    m_operand_75 k4 x2 S
  else
    if x2 = 0 then
      m_operand_75 k4 x2 S
    else
      (m_knownWord S).bind fun q30 =>
      if q30 = (17 : Int32) then
        if x4 = (6 : Int32) then
          (m_wrong ((2 : Int32)) S).bind fun q47 =>
          m_operand_50 k4 k18 x2 x4 q47
        else
          m_operand_50 k4 k18 x2 x4 S
      else
        m_operand_75 k4 x2 S
def m_operand_18 (k4 : Int32 → Int32 → MS → Option MS) : Nat → Int32 → Int32 → MS → Option MS
  | 0 => fun _ _ _ => none
  | n + 1 => fun x2 x4 S => m_operand_18_b k4 (m_operand_18 k4 n) x2 x4 S
theorem m_operand_18_bok {G : xG} {m0 : Nat} {S0 : MS} {k4 : Int32 → Int32 → MS → Option MS} {k18 : Int32 → Int32 → MS → Option MS} (hk4 : ∀ (x2 : Int32) (x3 : Int32) (S : MS) (q : MS), k4 x2 x3 S = some q → XM G m0 mX4_operand 5 S0 none q 4 [(0, .ref m0), (2, .int x2), (3, .int x3)] [] S) (hk18 : ∀ (x2 : Int32) (x4 : Int32) (S : MS) (q : MS), k18 x2 x4 S = some q → XM G m0 mX4_operand 5 S0 none q 18 [(0, .ref m0), (2, .int x2), (4, .int x4)] [] S) (x2 : Int32) (x4 : Int32) (S : MS) (q : MS) (hf : m_operand_18_b k4 k18 x2 x4 S = some q) : XM G m0 mX4_operand 5 S0 none q 18 [(0, .ref m0), (2, .int x2), (4, .int x4)] [] S := by
  intro h N Z
  unfold m_operand_18_b at hf
  refine X.aload_n dX4_operand_18 rfl 0 rfl ?_
  obtain ⟨q19, h19, hf⟩ := ob hf
  refine X.callVi (As := []) (rest := []) dX4_operand_19 (w_isGood h19 h N Z) cX4_174 rfl rfl (Nat.le_of_ble_eq_true rfl) mh_0 rfl rfl (xD (Nat.le_of_ble_eq_true rfl)) xleN xleN ?_
  refine X.if_eq (tgt := 75) dX4_operand_22 (by decide) (fun c22 => ?_) (fun c22 => ?_)
  · have hf := if_t c22 hf
    refine X.sub [0, 1] (L' := [(0, .ref m0), (2, .int x2)]) rfl ?_
    exact m_operand_75_ok hk4 _ _ _ hf h N Z
  · have hf := if_f c22 hf
    refine X.iload_n dX4_operand_25 rfl 1 rfl ?_
    refine X.if_eq (tgt := 75) dX4_operand_26 (by decide) (fun c26 => ?_) (fun c26 => ?_)
    · have hf := if_t c26 hf
      refine X.sub [0, 1] (L' := [(0, .ref m0), (2, .int x2)]) rfl ?_
      exact m_operand_75_ok hk4 _ _ _ hf h N Z
    · have hf := if_f c26 hf
      refine X.aload_n dX4_operand_29 rfl 0 rfl ?_
      obtain ⟨q30, h30, hf⟩ := ob hf
      refine X.callVi (As := []) (rest := []) dX4_operand_30 (w_knownWord h30 h N Z) cX4_199 rfl rfl (Nat.le_of_ble_eq_true rfl) mh_0 rfl rfl (xD (Nat.le_of_ble_eq_true rfl)) xleN xleN ?_
      refine X.bipush (v := 17) dX4_operand_33 (by decide) ?_
      refine X.icmp_ne (tgt := 75) dX4_operand_35 (by decide) (fun c35 => ?_) (fun c35 => ?_)
      · have hf := if_f c35 hf
        refine X.sub [0, 1] (L' := [(0, .ref m0), (2, .int x2)]) rfl ?_
        exact m_operand_75_ok hk4 _ _ _ hf h N Z
      · have hf := if_t c35 hf
        refine X.iload dX4_operand_38 2 rfl ?_
        refine X.bipush (v := 6) dX4_operand_40 (by decide) ?_
        refine X.icmp_ne (tgt := 50) dX4_operand_42 (by decide) (fun c42 => ?_) (fun c42 => ?_)
        · have hf := if_f c42 hf
          refine X.sub [0, 1, 2] (L' := [(0, .ref m0), (2, .int x2), (4, .int x4)]) rfl ?_
          exact m_operand_50_ok hk4 hk18 _ _ _ _ hf h N Z
        · have hf := if_t c42 hf
          refine X.aload_n dX4_operand_45 rfl 0 rfl ?_
          refine X.iconst (v := 2) dX4_operand_46 (by decide) ?_
          obtain ⟨q47, h47, hf⟩ := ob hf
          refine X.callVv (As := [.int (2 : Int32)]) (rest := []) (T2 := (mh m0 h q47, N, Z)) dX4_operand_47 (w_wrong h47 h N Z) cX4_181 rfl rfl (Nat.le_of_ble_eq_true rfl) mh_0 rfl rfl (xD (Nat.le_of_ble_eq_true rfl)) xleN xleN ?_
          refine X.sub [0, 1, 2] (L' := [(0, .ref m0), (2, .int x2), (4, .int x4)]) rfl ?_
          exact m_operand_50_ok hk4 hk18 _ _ _ _ hf h N Z
theorem m_operand_18_ok {G : xG} {m0 : Nat} {S0 : MS} {k4 : Int32 → Int32 → MS → Option MS} (hk4 : ∀ (x2 : Int32) (x3 : Int32) (S : MS) (q : MS), k4 x2 x3 S = some q → XM G m0 mX4_operand 5 S0 none q 4 [(0, .ref m0), (2, .int x2), (3, .int x3)] [] S) : ∀ (n : Nat) (x2 : Int32) (x4 : Int32) (S : MS) (q : MS), m_operand_18 k4 n x2 x4 S = some q → XM G m0 mX4_operand 5 S0 none q 18 [(0, .ref m0), (2, .int x2), (4, .int x4)] [] S
  | 0, _, _, _, _, hf => by cases hf
  | n + 1, x2, x4, S, q, hf => m_operand_18_bok hk4 (m_operand_18_ok hk4 n) x2 x4 S q hf
def m_operand_120  (S : MS) : Option MS :=
  (m_part S).bind fun q121 =>
  some q121
theorem m_operand_120_ok {G : xG} {m0 : Nat} {S0 : MS}   (S : MS) (q : MS) (hf : m_operand_120 S = some q) : XM G m0 mX4_operand 5 S0 none q 120 [(0, .ref m0)] [] S := by
  intro h N Z
  unfold m_operand_120 at hf
  refine X.aload_n dX4_operand_120 rfl 0 rfl ?_
  obtain ⟨q121, h121, hf⟩ := ob hf
  refine X.callVv (As := []) (rest := []) (T2 := (mh m0 h q121, N, Z)) dX4_operand_121 (w_part h121 h N Z) cX4_218 rfl rfl (Nat.le_of_ble_eq_true rfl) mh_0 rfl rfl (xD (Nat.le_of_ble_eq_true rfl)) xleN xleN ?_
  obtain rfl := Option.some.inj hf
  exact X.vret dX4_operand_124 rfl rfl
def m_operand_4_b  (k4 : Int32 → Int32 → MS → Option MS) (x2 : Int32) (x3 : Int32) (S : MS) : Option MS :=
  if x3 = 0 then
    m_operand_120 S
  else
    (m_isGood S).bind fun q9 =>
    if q9 = 0 then
      m_operand_120 S
    else
      m_operand_18 k4 FU x2 ((0 : Int32)) S
def m_operand_4  : Nat → Int32 → Int32 → MS → Option MS
  | 0 => fun _ _ _ => none
  | n + 1 => fun x2 x3 S => m_operand_4_b (m_operand_4 n) x2 x3 S
theorem m_operand_4_bok {G : xG} {m0 : Nat} {S0 : MS}  {k4 : Int32 → Int32 → MS → Option MS}  (hk4 : ∀ (x2 : Int32) (x3 : Int32) (S : MS) (q : MS), k4 x2 x3 S = some q → XM G m0 mX4_operand 5 S0 none q 4 [(0, .ref m0), (2, .int x2), (3, .int x3)] [] S) (x2 : Int32) (x3 : Int32) (S : MS) (q : MS) (hf : m_operand_4_b k4 x2 x3 S = some q) : XM G m0 mX4_operand 5 S0 none q 4 [(0, .ref m0), (2, .int x2), (3, .int x3)] [] S := by
  intro h N Z
  unfold m_operand_4_b at hf
  refine X.iload_n dX4_operand_4 rfl 2 rfl ?_
  refine X.if_eq (tgt := 120) dX4_operand_5 (by decide) (fun c5 => ?_) (fun c5 => ?_)
  · have hf := if_t c5 hf
    refine X.sub [0] (L' := [(0, .ref m0)]) rfl ?_
    exact m_operand_120_ok _ _ hf h N Z
  · have hf := if_f c5 hf
    refine X.aload_n dX4_operand_8 rfl 0 rfl ?_
    obtain ⟨q9, h9, hf⟩ := ob hf
    refine X.callVi (As := []) (rest := []) dX4_operand_9 (w_isGood h9 h N Z) cX4_174 rfl rfl (Nat.le_of_ble_eq_true rfl) mh_0 rfl rfl (xD (Nat.le_of_ble_eq_true rfl)) xleN xleN ?_
    refine X.if_eq (tgt := 120) dX4_operand_12 (by decide) (fun c12 => ?_) (fun c12 => ?_)
    · have hf := if_t c12 hf
      refine X.sub [0] (L' := [(0, .ref m0)]) rfl ?_
      exact m_operand_120_ok _ _ hf h N Z
    · have hf := if_f c12 hf
      refine X.iconst (v := 0) dX4_operand_15 (by decide) ?_
      refine X.istore (L' := [(4, .int (0 : Int32)), (0, .ref m0), (2, .int x2), (3, .int x3)]) dX4_operand_16 (Nat.le_of_ble_eq_true rfl) rfl ?_
      refine X.sub [1, 2, 0] (L' := [(0, .ref m0), (2, .int x2), (4, .int (0 : Int32))]) rfl ?_
      exact m_operand_18_ok hk4 FU _ _ _ _ hf h N Z
theorem m_operand_4_ok {G : xG} {m0 : Nat} {S0 : MS}   : ∀ (n : Nat) (x2 : Int32) (x3 : Int32) (S : MS) (q : MS), m_operand_4 n x2 x3 S = some q → XM G m0 mX4_operand 5 S0 none q 4 [(0, .ref m0), (2, .int x2), (3, .int x3)] [] S
  | 0, _, _, _, _, hf => by cases hf
  | n + 1, x2, x3, S, q, hf => m_operand_4_bok (m_operand_4_ok n) x2 x3 S q hf
def m_operand (x1 : Int32) (S : MS) : Option MS :=
  m_operand_4 FU x1 ((1 : Int32)) S
theorem w_operand {G : xG} {m0 : Nat} {x1 : Int32} {S : MS} {q : MS} (hf : m_operand x1 S = some q) : CtM G m0 mX4_operand 5 S [.ref m0, .int x1] none q := by
  intro h N Z
  refine Ct.of (by decide +kernel) rfl (Nat.le_of_ble_eq_true rfl) (show Xr G _ 0 [(0, .ref m0), (1, .int x1)] [] _ from ?_)
  unfold m_operand at hf
  refine X.iload_n dX4_operand_0 rfl 1 rfl ?_
  refine X.istore_n (L' := [(2, .int x1), (0, .ref m0), (1, .int x1)]) dX4_operand_1 rfl (Nat.le_of_ble_eq_true rfl) rfl ?_
  refine X.iconst (v := 1) dX4_operand_2 (by decide) ?_
  refine X.istore_n (L' := [(3, .int (1 : Int32)), (2, .int x1), (0, .ref m0), (1, .int x1)]) dX4_operand_3 rfl (Nat.le_of_ble_eq_true rfl) rfl ?_
  refine X.sub [2, 1, 0] (L' := [(0, .ref m0), (2, .int x1), (3, .int (1 : Int32))]) rfl ?_
  exact m_operand_4_ok FU _ _ _ _ hf h N Z
theorem cX4_224 : xCV RX4 224 mX4_operand 1 := ⟨lw_V q1858 q1860 qs72 q127 q1861, rfl, ⟨by decide +kernel, by decide +kernel, by decide +kernel⟩, Nat.le_of_ble_eq_true rfl⟩
/-! isOpened -/
abbrev cX4_isOpened : ByteArray := prog_12_method_33_code
def yX4_isOpened : MethodName := ⟨RX4, "isOpened", "()Z"⟩
def dkwX4_isOpened_1 : List UInt8 := [132, 1, 255, 167, 255, 237, 27, 155, 0, 7, 4, 167, 0, 4, 3, 172]
abbrev dktX4_isOpened_1 : List UInt8 := dkwX4_isOpened_1 ++ []
def dkwX4_isOpened_0 : List UInt8 := [42, 180, 0, 187, 4, 100, 60, 27, 155, 0, 21, 42, 180, 0, 59, 27, 46, 184, 0, 190, 154, 0, 9]
abbrev dktX4_isOpened_0 : List UInt8 := dkwX4_isOpened_0 ++ dktX4_isOpened_1
theorem dksX4_isOpened_0 : cX4_isOpened.data.toList.drop 0 = dktX4_isOpened_0 := by decide +kernel
theorem dksX4_isOpened_1 : cX4_isOpened.data.toList.drop 23 = dktX4_isOpened_1 := dk_seg dksX4_isOpened_0 23 rfl rfl
theorem dX4_isOpened_0 : decode cX4_isOpened 0 = .ok (.aload_n 0, 1) := dk_42 (dk_at dksX4_isOpened_0 0 rfl rfl)
theorem dX4_isOpened_1 : decode cX4_isOpened 1 = .ok (.getfield 187, 3) := dk_180 0 187 (dk_at dksX4_isOpened_0 1 rfl rfl)
theorem dX4_isOpened_4 : decode cX4_isOpened 4 = .ok (.iconst 1, 1) := dk_4 (dk_at dksX4_isOpened_0 4 rfl rfl)
theorem dX4_isOpened_5 : decode cX4_isOpened 5 = .ok (.isub, 1) := dk_100 (dk_at dksX4_isOpened_0 5 rfl rfl)
theorem dX4_isOpened_6 : decode cX4_isOpened 6 = .ok (.istore_n 1, 1) := dk_60 (dk_at dksX4_isOpened_0 6 rfl rfl)
theorem dX4_isOpened_7 : decode cX4_isOpened 7 = .ok (.iload_n 1, 1) := dk_27 (dk_at dksX4_isOpened_0 7 rfl rfl)
theorem dX4_isOpened_8 : decode cX4_isOpened 8 = .ok (.ifCond .lt 21, 3) := dk_155 0 21 (dk_at dksX4_isOpened_0 8 rfl rfl)
theorem dX4_isOpened_11 : decode cX4_isOpened 11 = .ok (.aload_n 0, 1) := dk_42 (dk_at dksX4_isOpened_0 11 rfl rfl)
theorem dX4_isOpened_12 : decode cX4_isOpened 12 = .ok (.getfield 59, 3) := dk_180 0 59 (dk_at dksX4_isOpened_0 12 rfl rfl)
theorem dX4_isOpened_15 : decode cX4_isOpened 15 = .ok (.iload_n 1, 1) := dk_27 (dk_at dksX4_isOpened_0 15 rfl rfl)
theorem dX4_isOpened_16 : decode cX4_isOpened 16 = .ok (.iaload, 1) := dk_46 (dk_at dksX4_isOpened_0 16 rfl rfl)
theorem dX4_isOpened_17 : decode cX4_isOpened 17 = .ok (.invokestatic 190, 3) := dk_184 0 190 (dk_at dksX4_isOpened_0 17 rfl rfl)
theorem dX4_isOpened_20 : decode cX4_isOpened 20 = .ok (.ifCond .ne 9, 3) := dk_154 0 9 (dk_at dksX4_isOpened_0 20 rfl rfl)
theorem dX4_isOpened_23 : decode cX4_isOpened 23 = .ok (.iinc 1 (-1), 3) := dk_132 1 255 (dk_at dksX4_isOpened_1 0 rfl rfl)
theorem dX4_isOpened_26 : decode cX4_isOpened 26 = .ok (.goto (-19), 3) := dk_167 255 237 (dk_at dksX4_isOpened_1 3 rfl rfl)
theorem dX4_isOpened_29 : decode cX4_isOpened 29 = .ok (.iload_n 1, 1) := dk_27 (dk_at dksX4_isOpened_1 6 rfl rfl)
theorem dX4_isOpened_30 : decode cX4_isOpened 30 = .ok (.ifCond .lt 7, 3) := dk_155 0 7 (dk_at dksX4_isOpened_1 7 rfl rfl)
theorem dX4_isOpened_33 : decode cX4_isOpened 33 = .ok (.iconst 1, 1) := dk_4 (dk_at dksX4_isOpened_1 10 rfl rfl)
theorem dX4_isOpened_34 : decode cX4_isOpened 34 = .ok (.goto 4, 3) := dk_167 0 4 (dk_at dksX4_isOpened_1 11 rfl rfl)
theorem dX4_isOpened_37 : decode cX4_isOpened 37 = .ok (.iconst 0, 1) := dk_3 (dk_at dksX4_isOpened_1 14 rfl rfl)
theorem dX4_isOpened_38 : decode cX4_isOpened 38 = .ok (.ireturn, 1) := dk_172 (dk_at dksX4_isOpened_1 15 rfl rfl)
abbrev mX4_isOpened : xM := (yX4_isOpened, cX4_isOpened, 2, (some .boolean), [])
def m_isOpened_29  (x1 : Int32) (S : MS) : Option Int32 :=
  if x1 < 0 then
    some (0 : Int32)
  else
    some (1 : Int32)
theorem m_isOpened_29_ok {G : xG} {m0 : Nat}   (x1 : Int32) (S : MS) (q : Int32) (hf : m_isOpened_29 x1 S = some q) : XM G m0 mX4_isOpened 2 S (some (.int q)) S 29 [(1, .int x1)] [] S := by
  intro h N Z
  unfold m_isOpened_29 at hf
  refine X.iload_n dX4_isOpened_29 rfl 0 rfl ?_
  refine X.if_lt (tgt := 37) dX4_isOpened_30 (by decide) (fun c30 => ?_) (fun c30 => ?_)
  · have hf := if_t c30 hf
    refine X.iconst (v := 0) dX4_isOpened_37 (by decide) ?_
    obtain rfl := Option.some.inj hf
    exact X.iret dX4_isOpened_38 rfl rfl rfl
  · have hf := if_f c30 hf
    refine X.iconst (v := 1) dX4_isOpened_33 (by decide) ?_
    refine X.goto (tgt := 38) dX4_isOpened_34 (by decide) ?_
    obtain rfl := Option.some.inj hf
    exact X.iret dX4_isOpened_38 rfl rfl rfl
def m_isOpened_7_b  (k7 : Int32 → MS → Option Int32) (x1 : Int32) (S : MS) : Option Int32 :=
  if x1 < 0 then
    m_isOpened_29 x1 S
  else
    (rdA S 10 x1).bind fun v16 =>
    (m_isOpen v16).bind fun q17 =>
    if q17 = 0 then
      k7 ((x1 + (-1))) S
    else
      m_isOpened_29 x1 S
def m_isOpened_7  : Nat → Int32 → MS → Option Int32
  | 0 => fun _ _ => none
  | n + 1 => fun x1 S => m_isOpened_7_b (m_isOpened_7 n) x1 S
theorem m_isOpened_7_bok {G : xG} {m0 : Nat}  {k7 : Int32 → MS → Option Int32}  (hk7 : ∀ (x1 : Int32) (S : MS) (q : Int32), k7 x1 S = some q → XM G m0 mX4_isOpened 2 S (some (.int q)) S 7 [(0, .ref m0), (1, .int x1)] [] S) (x1 : Int32) (S : MS) (q : Int32) (hf : m_isOpened_7_b k7 x1 S = some q) : XM G m0 mX4_isOpened 2 S (some (.int q)) S 7 [(0, .ref m0), (1, .int x1)] [] S := by
  intro h N Z
  unfold m_isOpened_7_b at hf
  refine X.iload_n dX4_isOpened_7 rfl 1 rfl ?_
  refine X.if_lt (tgt := 29) dX4_isOpened_8 (by decide) (fun c8 => ?_) (fun c8 => ?_)
  · have hf := if_t c8 hf
    refine X.sub [1] (L' := [(1, .int x1)]) rfl ?_
    exact m_isOpened_29_ok _ _ _ hf h N Z
  · have hf := if_f c8 hf
    refine X.aload_n dX4_isOpened_11 rfl 0 rfl ?_
    refine M.get (v := .ref (m0 + 10)) dX4_isOpened_12 fX4_59 (Nat.le_of_ble_eq_true rfl) rfl ?_
    refine X.iload_n dX4_isOpened_15 rfl 1 rfl ?_
    obtain ⟨v16, h16, hf⟩ := ob hf
    refine M.iald dX4_isOpened_16 rfl h16 ?_
    obtain ⟨q17, h17, hf⟩ := ob hf
    refine X.callSi (As := [.int v16]) (rest := []) dX4_isOpened_17 (w_isOpen h17 _) cX4_190 rfl rfl (Nat.le_of_ble_eq_true rfl) (xD (Nat.le_of_ble_eq_true rfl)) xle.rf xleN ?_
    refine X.if_ne (tgt := 29) dX4_isOpened_20 (by decide) (fun c20 => ?_) (fun c20 => ?_)
    · have hf := if_f c20 hf
      refine X.sub [1] (L' := [(1, .int x1)]) rfl ?_
      exact m_isOpened_29_ok _ _ _ hf h N Z
    · have hf := if_t c20 hf
      refine X.iinc (v := (x1 + (-1))) (L' := [(1, .int (x1 + (-1))), (0, .ref m0)]) dX4_isOpened_23 1 rfl rfl (Nat.le_of_ble_eq_true rfl) rfl ?_
      refine X.goto (tgt := 7) dX4_isOpened_26 (by decide) ?_
      refine X.sub [1, 0] (L' := [(0, .ref m0), (1, .int (x1 + (-1)))]) rfl ?_
      exact hk7 _ _ _ hf h N Z
theorem m_isOpened_7_ok {G : xG} {m0 : Nat}   : ∀ (n : Nat) (x1 : Int32) (S : MS) (q : Int32), m_isOpened_7 n x1 S = some q → XM G m0 mX4_isOpened 2 S (some (.int q)) S 7 [(0, .ref m0), (1, .int x1)] [] S
  | 0, _, _, _, hf => by cases hf
  | n + 1, x1, S, q, hf => m_isOpened_7_bok (m_isOpened_7_ok n) x1 S q hf
def m_isOpened  (S : MS) : Option Int32 :=
  m_isOpened_7 FU (((S.1 34) - (1 : Int32))) S
theorem w_isOpened {G : xG} {m0 : Nat}  {S : MS} {q : Int32} (hf : m_isOpened S = some q) : CtM G m0 mX4_isOpened 2 S [.ref m0] (some (.int q)) S := by
  intro h N Z
  refine Ct.of (by decide +kernel) rfl (Nat.le_of_ble_eq_true rfl) (show Xr G _ 0 [(0, .ref m0)] [] _ from ?_)
  unfold m_isOpened at hf
  refine X.aload_n dX4_isOpened_0 rfl 0 rfl ?_
  refine M.get (v := .int (S.1 34)) dX4_isOpened_1 fX4_187 (Nat.le_of_ble_eq_true rfl) rfl ?_
  refine X.iconst (v := 1) dX4_isOpened_4 (by decide) ?_
  refine X.isub dX4_isOpened_5 ?_
  refine X.istore_n (L' := [(1, .int ((S.1 34) - (1 : Int32))), (0, .ref m0)]) dX4_isOpened_6 rfl (Nat.le_of_ble_eq_true rfl) rfl ?_
  refine X.sub [1, 0] (L' := [(0, .ref m0), (1, .int ((S.1 34) - (1 : Int32)))]) rfl ?_
  exact m_isOpened_7_ok FU _ _ _ hf h N Z
theorem cX4_228 : xCV RX4 228 mX4_isOpened 0 := ⟨lw_V q1884 q1886 qs77 q127 q1887, rfl, ⟨by decide +kernel, by decide +kernel, by decide +kernel⟩, Nat.le_of_ble_eq_true rfl⟩
/-! closes -/
abbrev cX4_closes : ByteArray := prog_12_method_34_code
def yX4_closes : MethodName := ⟨RX4, "closes", "()V"⟩
def dkwX4_closes_1 : List UInt8 := [181, 0, 206, 42, 182, 0, 178, 177]
abbrev dktX4_closes_1 : List UInt8 := dkwX4_closes_1 ++ []
def dkwX4_closes_0 : List UInt8 := [42, 3, 182, 0, 221, 42, 89, 180, 0, 187, 4, 100, 181, 0, 187, 42, 89, 180, 0, 206, 4, 100]
abbrev dktX4_closes_0 : List UInt8 := dkwX4_closes_0 ++ dktX4_closes_1
theorem dksX4_closes_0 : cX4_closes.data.toList.drop 0 = dktX4_closes_0 := by decide +kernel
theorem dksX4_closes_1 : cX4_closes.data.toList.drop 22 = dktX4_closes_1 := dk_seg dksX4_closes_0 22 rfl rfl
theorem dX4_closes_0 : decode cX4_closes 0 = .ok (.aload_n 0, 1) := dk_42 (dk_at dksX4_closes_0 0 rfl rfl)
theorem dX4_closes_1 : decode cX4_closes 1 = .ok (.iconst 0, 1) := dk_3 (dk_at dksX4_closes_0 1 rfl rfl)
theorem dX4_closes_2 : decode cX4_closes 2 = .ok (.invokevirtual 221, 3) := dk_182 0 221 (dk_at dksX4_closes_0 2 rfl rfl)
theorem dX4_closes_5 : decode cX4_closes 5 = .ok (.aload_n 0, 1) := dk_42 (dk_at dksX4_closes_0 5 rfl rfl)
theorem dX4_closes_6 : decode cX4_closes 6 = .ok (.dup, 1) := dk_89 (dk_at dksX4_closes_0 6 rfl rfl)
theorem dX4_closes_7 : decode cX4_closes 7 = .ok (.getfield 187, 3) := dk_180 0 187 (dk_at dksX4_closes_0 7 rfl rfl)
theorem dX4_closes_10 : decode cX4_closes 10 = .ok (.iconst 1, 1) := dk_4 (dk_at dksX4_closes_0 10 rfl rfl)
theorem dX4_closes_11 : decode cX4_closes 11 = .ok (.isub, 1) := dk_100 (dk_at dksX4_closes_0 11 rfl rfl)
theorem dX4_closes_12 : decode cX4_closes 12 = .ok (.putfield 187, 3) := dk_181 0 187 (dk_at dksX4_closes_0 12 rfl rfl)
theorem dX4_closes_15 : decode cX4_closes 15 = .ok (.aload_n 0, 1) := dk_42 (dk_at dksX4_closes_0 15 rfl rfl)
theorem dX4_closes_16 : decode cX4_closes 16 = .ok (.dup, 1) := dk_89 (dk_at dksX4_closes_0 16 rfl rfl)
theorem dX4_closes_17 : decode cX4_closes 17 = .ok (.getfield 206, 3) := dk_180 0 206 (dk_at dksX4_closes_0 17 rfl rfl)
theorem dX4_closes_20 : decode cX4_closes 20 = .ok (.iconst 1, 1) := dk_4 (dk_at dksX4_closes_0 20 rfl rfl)
theorem dX4_closes_21 : decode cX4_closes 21 = .ok (.isub, 1) := dk_100 (dk_at dksX4_closes_0 21 rfl rfl)
theorem dX4_closes_22 : decode cX4_closes 22 = .ok (.putfield 206, 3) := dk_181 0 206 (dk_at dksX4_closes_1 0 rfl rfl)
theorem dX4_closes_25 : decode cX4_closes 25 = .ok (.aload_n 0, 1) := dk_42 (dk_at dksX4_closes_1 3 rfl rfl)
theorem dX4_closes_26 : decode cX4_closes 26 = .ok (.invokevirtual 178, 3) := dk_182 0 178 (dk_at dksX4_closes_1 4 rfl rfl)
theorem dX4_closes_29 : decode cX4_closes 29 = .ok (.return_, 1) := dk_177 (dk_at dksX4_closes_1 7 rfl rfl)
abbrev mX4_closes : xM := (yX4_closes, cX4_closes, 1, none, [])
def m_closes  (S : MS) : Option MS :=
  (m_drops ((0 : Int32)) S).bind fun q2 =>
  (m_goes ((sF ((sF q2 34 ((q2.1 34) - (1 : Int32)))) 35 ((((sF q2 34 ((q2.1 34) - (1 : Int32)))).1 35) - (1 : Int32))))).bind fun q26 =>
  some q26
theorem w_closes {G : xG} {m0 : Nat}  {S : MS} {q : MS} (hf : m_closes S = some q) : CtM G m0 mX4_closes 3 S [.ref m0] none q := by
  intro h N Z
  refine Ct.of (by decide +kernel) rfl (Nat.le_of_ble_eq_true rfl) (show Xr G _ 0 [(0, .ref m0)] [] _ from ?_)
  unfold m_closes at hf
  refine X.aload_n dX4_closes_0 rfl 0 rfl ?_
  refine X.iconst (v := 0) dX4_closes_1 (by decide) ?_
  obtain ⟨q2, h2, hf⟩ := ob hf
  refine X.callVv (As := [.int (0 : Int32)]) (rest := []) (T2 := (mh m0 h q2, N, Z)) dX4_closes_2 (w_drops h2 h N Z) cX4_221 rfl rfl (Nat.le_of_ble_eq_true rfl) mh_0 rfl rfl (xD (Nat.le_of_ble_eq_true rfl)) xleN xleN ?_
  refine X.aload_n dX4_closes_5 rfl 0 rfl ?_
  refine X.dup dX4_closes_6 rfl ?_
  refine M.get (v := .int (q2.1 34)) dX4_closes_7 fX4_187 (Nat.le_of_ble_eq_true rfl) rfl ?_
  refine X.iconst (v := 1) dX4_closes_10 (by decide) ?_
  refine X.isub dX4_closes_11 ?_
  refine M.putI dX4_closes_12 fX4_187 (by decide) rfl rfl rfl ?_
  refine X.aload_n dX4_closes_15 rfl 0 rfl ?_
  refine X.dup dX4_closes_16 rfl ?_
  refine M.get (v := .int (((sF q2 34 ((q2.1 34) - (1 : Int32)))).1 35)) dX4_closes_17 fX4_206 (Nat.le_of_ble_eq_true rfl) rfl ?_
  refine X.iconst (v := 1) dX4_closes_20 (by decide) ?_
  refine X.isub dX4_closes_21 ?_
  refine M.putI dX4_closes_22 fX4_206 (by decide) rfl rfl rfl ?_
  refine X.aload_n dX4_closes_25 rfl 0 rfl ?_
  obtain ⟨q26, h26, hf⟩ := ob hf
  refine X.callVv (As := []) (rest := []) (T2 := (mh m0 h q26, N, Z)) dX4_closes_26 (w_goes h26 h N Z) cX4_178 rfl rfl (Nat.le_of_ble_eq_true rfl) mh_0 rfl rfl (xD (Nat.le_of_ble_eq_true rfl)) xleN xleN ?_
  obtain rfl := Option.some.inj hf
  exact X.vret dX4_closes_29 rfl rfl
theorem cX4_231 : xCV RX4 231 mX4_closes 0 := ⟨lw_V q1888 q1890 qs78 q127 q1891, rfl, ⟨by decide +kernel, by decide +kernel, by decide +kernel⟩, Nat.le_of_ble_eq_true rfl⟩
/-! expression -/
abbrev cX4_expression : ByteArray := prog_12_method_35_code
def yX4_expression : MethodName := ⟨RX4, "expression", "(I)V"⟩
def dkwX4_expression_15 : List UInt8 := [3, 182, 0, 221, 42, 3, 182, 0, 196, 177]
abbrev dktX4_expression_15 : List UInt8 := dkwX4_expression_15 ++ []
def dkwX4_expression_14 : List UInt8 := [167, 254, 219, 42, 182, 0, 174, 153, 0, 16, 42, 180, 0, 206, 4, 164, 0, 8, 42, 4, 182, 0, 181, 42]
abbrev dktX4_expression_14 : List UInt8 := dkwX4_expression_14 ++ dktX4_expression_15
def dkwX4_expression_13 : List UInt8 := [182, 0, 209, 153, 0, 17, 42, 182, 0, 228, 153, 0, 10, 42, 182, 0, 231, 167, 0, 5, 3, 61]
abbrev dktX4_expression_13 : List UInt8 := dkwX4_expression_13 ++ dktX4_expression_14
def dkwX4_expression_12 : List UInt8 := [167, 0, 5, 16, 11, 182, 0, 212, 42, 182, 0, 178, 42, 3, 182, 0, 224, 167, 0, 28, 42, 16, 41]
abbrev dktX4_expression_12 : List UInt8 := dkwX4_expression_12 ++ dktX4_expression_13
def dkwX4_expression_11 : List UInt8 := [182, 0, 209, 153, 0, 41, 42, 16, 6, 182, 0, 221, 42, 42, 16, 42, 182, 0, 209, 153, 0, 8, 16, 10]
abbrev dktX4_expression_11 : List UInt8 := dkwX4_expression_11 ++ dktX4_expression_12
def dkwX4_expression_10 : List UInt8 := [182, 0, 178, 42, 3, 182, 0, 224, 167, 0, 84, 42, 16, 42, 182, 0, 209, 154, 0, 12, 42, 16, 47]
abbrev dktX4_expression_10 : List UInt8 := dkwX4_expression_10 ++ dktX4_expression_11
def dkwX4_expression_9 : List UInt8 := [182, 0, 221, 42, 42, 16, 43, 182, 0, 209, 153, 0, 8, 16, 8, 167, 0, 5, 16, 9, 182, 0, 212, 42]
abbrev dktX4_expression_9 : List UInt8 := dkwX4_expression_9 ++ dktX4_expression_10
def dkwX4_expression_8 : List UInt8 := [167, 0, 139, 42, 16, 43, 182, 0, 209, 154, 0, 12, 42, 16, 45, 182, 0, 209, 153, 0, 40, 42, 8]
abbrev dktX4_expression_8 : List UInt8 := dkwX4_expression_8 ++ dktX4_expression_9
def dkwX4_expression_7 : List UInt8 := [16, 7, 182, 0, 212, 42, 180, 0, 62, 42, 180, 0, 206, 4, 84, 42, 182, 0, 178, 42, 3, 182, 0, 224]
abbrev dktX4_expression_7 : List UInt8 := dkwX4_expression_7 ++ dktX4_expression_8
def dkwX4_expression_6 : List UInt8 := [154, 0, 50, 42, 7, 182, 0, 221, 42, 42, 16, 60, 182, 0, 209, 153, 0, 8, 16, 6, 167, 0, 5]
abbrev dktX4_expression_6 : List UInt8 := dkwX4_expression_6 ++ dktX4_expression_7
def dkwX4_expression_5 : List UInt8 := [182, 0, 209, 154, 0, 12, 42, 16, 61, 182, 0, 209, 153, 0, 62, 42, 180, 0, 62, 42, 180, 0, 206, 51]
abbrev dktX4_expression_5 : List UInt8 := dkwX4_expression_5 ++ dktX4_expression_6
def dkwX4_expression_4 : List UInt8 := [180, 0, 62, 42, 180, 0, 206, 3, 84, 42, 182, 0, 178, 42, 4, 182, 0, 224, 167, 0, 216, 42, 16, 60]
abbrev dktX4_expression_4 : List UInt8 := dkwX4_expression_4 ++ dktX4_expression_5
def dkwX4_expression_3 : List UInt8 := [167, 0, 4, 4, 182, 0, 221, 42, 29, 16, 15, 160, 0, 7, 7, 167, 0, 4, 8, 182, 0, 212, 42]
abbrev dktX4_expression_3 : List UInt8 := dkwX4_expression_3 ++ dktX4_expression_4
def dkwX4_expression_2 : List UInt8 := [182, 0, 199, 62, 29, 16, 15, 159, 0, 9, 29, 16, 16, 160, 0, 55, 42, 29, 16, 15, 160, 0, 7, 5]
abbrev dktX4_expression_2 : List UInt8 := dkwX4_expression_2 ++ dktX4_expression_3
def dkwX4_expression_1 : List UInt8 := [182, 0, 215, 42, 4, 182, 0, 224, 4, 61, 28, 153, 1, 39, 42, 182, 0, 174, 153, 1, 32, 42]
abbrev dktX4_expression_1 : List UInt8 := dkwX4_expression_1 ++ dktX4_expression_2
def dkwX4_expression_0 : List UInt8 := [42, 182, 0, 174, 154, 0, 4, 177, 42, 27, 181, 0, 203, 42, 3, 181, 0, 187, 42, 3, 181, 0, 206, 42]
abbrev dktX4_expression_0 : List UInt8 := dkwX4_expression_0 ++ dktX4_expression_1
theorem dksX4_expression_0 : cX4_expression.data.toList.drop 0 = dktX4_expression_0 := by decide +kernel
theorem dksX4_expression_1 : cX4_expression.data.toList.drop 24 = dktX4_expression_1 := dk_seg dksX4_expression_0 24 rfl rfl
theorem dksX4_expression_2 : cX4_expression.data.toList.drop 46 = dktX4_expression_2 := dk_seg dksX4_expression_1 22 rfl rfl
theorem dksX4_expression_3 : cX4_expression.data.toList.drop 70 = dktX4_expression_3 := dk_seg dksX4_expression_2 24 rfl rfl
theorem dksX4_expression_4 : cX4_expression.data.toList.drop 93 = dktX4_expression_4 := dk_seg dksX4_expression_3 23 rfl rfl
theorem dksX4_expression_5 : cX4_expression.data.toList.drop 117 = dktX4_expression_5 := dk_seg dksX4_expression_4 24 rfl rfl
theorem dksX4_expression_6 : cX4_expression.data.toList.drop 141 = dktX4_expression_6 := dk_seg dksX4_expression_5 24 rfl rfl
theorem dksX4_expression_7 : cX4_expression.data.toList.drop 164 = dktX4_expression_7 := dk_seg dksX4_expression_6 23 rfl rfl
theorem dksX4_expression_8 : cX4_expression.data.toList.drop 188 = dktX4_expression_8 := dk_seg dksX4_expression_7 24 rfl rfl
theorem dksX4_expression_9 : cX4_expression.data.toList.drop 211 = dktX4_expression_9 := dk_seg dksX4_expression_8 23 rfl rfl
theorem dksX4_expression_10 : cX4_expression.data.toList.drop 235 = dktX4_expression_10 := dk_seg dksX4_expression_9 24 rfl rfl
theorem dksX4_expression_11 : cX4_expression.data.toList.drop 258 = dktX4_expression_11 := dk_seg dksX4_expression_10 23 rfl rfl
theorem dksX4_expression_12 : cX4_expression.data.toList.drop 282 = dktX4_expression_12 := dk_seg dksX4_expression_11 24 rfl rfl
theorem dksX4_expression_13 : cX4_expression.data.toList.drop 305 = dktX4_expression_13 := dk_seg dksX4_expression_12 23 rfl rfl
theorem dksX4_expression_14 : cX4_expression.data.toList.drop 327 = dktX4_expression_14 := dk_seg dksX4_expression_13 22 rfl rfl
theorem dksX4_expression_15 : cX4_expression.data.toList.drop 351 = dktX4_expression_15 := dk_seg dksX4_expression_14 24 rfl rfl
theorem dX4_expression_0 : decode cX4_expression 0 = .ok (.aload_n 0, 1) := dk_42 (dk_at dksX4_expression_0 0 rfl rfl)
theorem dX4_expression_1 : decode cX4_expression 1 = .ok (.invokevirtual 174, 3) := dk_182 0 174 (dk_at dksX4_expression_0 1 rfl rfl)
theorem dX4_expression_4 : decode cX4_expression 4 = .ok (.ifCond .ne 4, 3) := dk_154 0 4 (dk_at dksX4_expression_0 4 rfl rfl)
theorem dX4_expression_7 : decode cX4_expression 7 = .ok (.return_, 1) := dk_177 (dk_at dksX4_expression_0 7 rfl rfl)
theorem dX4_expression_8 : decode cX4_expression 8 = .ok (.aload_n 0, 1) := dk_42 (dk_at dksX4_expression_0 8 rfl rfl)
theorem dX4_expression_9 : decode cX4_expression 9 = .ok (.iload_n 1, 1) := dk_27 (dk_at dksX4_expression_0 9 rfl rfl)
theorem dX4_expression_10 : decode cX4_expression 10 = .ok (.putfield 203, 3) := dk_181 0 203 (dk_at dksX4_expression_0 10 rfl rfl)
theorem dX4_expression_13 : decode cX4_expression 13 = .ok (.aload_n 0, 1) := dk_42 (dk_at dksX4_expression_0 13 rfl rfl)
theorem dX4_expression_14 : decode cX4_expression 14 = .ok (.iconst 0, 1) := dk_3 (dk_at dksX4_expression_0 14 rfl rfl)
theorem dX4_expression_15 : decode cX4_expression 15 = .ok (.putfield 187, 3) := dk_181 0 187 (dk_at dksX4_expression_0 15 rfl rfl)
theorem dX4_expression_18 : decode cX4_expression 18 = .ok (.aload_n 0, 1) := dk_42 (dk_at dksX4_expression_0 18 rfl rfl)
theorem dX4_expression_19 : decode cX4_expression 19 = .ok (.iconst 0, 1) := dk_3 (dk_at dksX4_expression_0 19 rfl rfl)
theorem dX4_expression_20 : decode cX4_expression 20 = .ok (.putfield 206, 3) := dk_181 0 206 (dk_at dksX4_expression_0 20 rfl rfl)
theorem dX4_expression_23 : decode cX4_expression 23 = .ok (.aload_n 0, 1) := dk_42 (dk_at dksX4_expression_0 23 rfl rfl)
theorem dX4_expression_24 : decode cX4_expression 24 = .ok (.invokevirtual 215, 3) := dk_182 0 215 (dk_at dksX4_expression_1 0 rfl rfl)
theorem dX4_expression_27 : decode cX4_expression 27 = .ok (.aload_n 0, 1) := dk_42 (dk_at dksX4_expression_1 3 rfl rfl)
theorem dX4_expression_28 : decode cX4_expression 28 = .ok (.iconst 1, 1) := dk_4 (dk_at dksX4_expression_1 4 rfl rfl)
theorem dX4_expression_29 : decode cX4_expression 29 = .ok (.invokevirtual 224, 3) := dk_182 0 224 (dk_at dksX4_expression_1 5 rfl rfl)
theorem dX4_expression_32 : decode cX4_expression 32 = .ok (.iconst 1, 1) := dk_4 (dk_at dksX4_expression_1 8 rfl rfl)
theorem dX4_expression_33 : decode cX4_expression 33 = .ok (.istore_n 2, 1) := dk_61 (dk_at dksX4_expression_1 9 rfl rfl)
theorem dX4_expression_34 : decode cX4_expression 34 = .ok (.iload_n 2, 1) := dk_28 (dk_at dksX4_expression_1 10 rfl rfl)
theorem dX4_expression_35 : decode cX4_expression 35 = .ok (.ifCond .eq 295, 3) := dk_153 1 39 (dk_at dksX4_expression_1 11 rfl rfl)
theorem dX4_expression_38 : decode cX4_expression 38 = .ok (.aload_n 0, 1) := dk_42 (dk_at dksX4_expression_1 14 rfl rfl)
theorem dX4_expression_39 : decode cX4_expression 39 = .ok (.invokevirtual 174, 3) := dk_182 0 174 (dk_at dksX4_expression_1 15 rfl rfl)
theorem dX4_expression_42 : decode cX4_expression 42 = .ok (.ifCond .eq 288, 3) := dk_153 1 32 (dk_at dksX4_expression_1 18 rfl rfl)
theorem dX4_expression_45 : decode cX4_expression 45 = .ok (.aload_n 0, 1) := dk_42 (dk_at dksX4_expression_1 21 rfl rfl)
theorem dX4_expression_46 : decode cX4_expression 46 = .ok (.invokevirtual 199, 3) := dk_182 0 199 (dk_at dksX4_expression_2 0 rfl rfl)
theorem dX4_expression_49 : decode cX4_expression 49 = .ok (.istore_n 3, 1) := dk_62 (dk_at dksX4_expression_2 3 rfl rfl)
theorem dX4_expression_50 : decode cX4_expression 50 = .ok (.iload_n 3, 1) := dk_29 (dk_at dksX4_expression_2 4 rfl rfl)
theorem dX4_expression_51 : decode cX4_expression 51 = .ok (.bipush 15, 2) := dk_16 15 (dk_at dksX4_expression_2 5 rfl rfl)
theorem dX4_expression_53 : decode cX4_expression 53 = .ok (.if_icmp .eq 9, 3) := dk_159 0 9 (dk_at dksX4_expression_2 7 rfl rfl)
theorem dX4_expression_56 : decode cX4_expression 56 = .ok (.iload_n 3, 1) := dk_29 (dk_at dksX4_expression_2 10 rfl rfl)
theorem dX4_expression_57 : decode cX4_expression 57 = .ok (.bipush 16, 2) := dk_16 16 (dk_at dksX4_expression_2 11 rfl rfl)
theorem dX4_expression_59 : decode cX4_expression 59 = .ok (.if_icmp .ne 55, 3) := dk_160 0 55 (dk_at dksX4_expression_2 13 rfl rfl)
theorem dX4_expression_62 : decode cX4_expression 62 = .ok (.aload_n 0, 1) := dk_42 (dk_at dksX4_expression_2 16 rfl rfl)
theorem dX4_expression_63 : decode cX4_expression 63 = .ok (.iload_n 3, 1) := dk_29 (dk_at dksX4_expression_2 17 rfl rfl)
theorem dX4_expression_64 : decode cX4_expression 64 = .ok (.bipush 15, 2) := dk_16 15 (dk_at dksX4_expression_2 18 rfl rfl)
theorem dX4_expression_66 : decode cX4_expression 66 = .ok (.if_icmp .ne 7, 3) := dk_160 0 7 (dk_at dksX4_expression_2 20 rfl rfl)
theorem dX4_expression_69 : decode cX4_expression 69 = .ok (.iconst 2, 1) := dk_5 (dk_at dksX4_expression_2 23 rfl rfl)
theorem dX4_expression_70 : decode cX4_expression 70 = .ok (.goto 4, 3) := dk_167 0 4 (dk_at dksX4_expression_3 0 rfl rfl)
theorem dX4_expression_73 : decode cX4_expression 73 = .ok (.iconst 1, 1) := dk_4 (dk_at dksX4_expression_3 3 rfl rfl)
theorem dX4_expression_74 : decode cX4_expression 74 = .ok (.invokevirtual 221, 3) := dk_182 0 221 (dk_at dksX4_expression_3 4 rfl rfl)
theorem dX4_expression_77 : decode cX4_expression 77 = .ok (.aload_n 0, 1) := dk_42 (dk_at dksX4_expression_3 7 rfl rfl)
theorem dX4_expression_78 : decode cX4_expression 78 = .ok (.iload_n 3, 1) := dk_29 (dk_at dksX4_expression_3 8 rfl rfl)
theorem dX4_expression_79 : decode cX4_expression 79 = .ok (.bipush 15, 2) := dk_16 15 (dk_at dksX4_expression_3 9 rfl rfl)
theorem dX4_expression_81 : decode cX4_expression 81 = .ok (.if_icmp .ne 7, 3) := dk_160 0 7 (dk_at dksX4_expression_3 11 rfl rfl)
theorem dX4_expression_84 : decode cX4_expression 84 = .ok (.iconst 4, 1) := dk_7 (dk_at dksX4_expression_3 14 rfl rfl)
theorem dX4_expression_85 : decode cX4_expression 85 = .ok (.goto 4, 3) := dk_167 0 4 (dk_at dksX4_expression_3 15 rfl rfl)
theorem dX4_expression_88 : decode cX4_expression 88 = .ok (.iconst 5, 1) := dk_8 (dk_at dksX4_expression_3 18 rfl rfl)
theorem dX4_expression_89 : decode cX4_expression 89 = .ok (.invokevirtual 212, 3) := dk_182 0 212 (dk_at dksX4_expression_3 19 rfl rfl)
theorem dX4_expression_92 : decode cX4_expression 92 = .ok (.aload_n 0, 1) := dk_42 (dk_at dksX4_expression_3 22 rfl rfl)
theorem dX4_expression_93 : decode cX4_expression 93 = .ok (.getfield 62, 3) := dk_180 0 62 (dk_at dksX4_expression_4 0 rfl rfl)
theorem dX4_expression_96 : decode cX4_expression 96 = .ok (.aload_n 0, 1) := dk_42 (dk_at dksX4_expression_4 3 rfl rfl)
theorem dX4_expression_97 : decode cX4_expression 97 = .ok (.getfield 206, 3) := dk_180 0 206 (dk_at dksX4_expression_4 4 rfl rfl)
theorem dX4_expression_100 : decode cX4_expression 100 = .ok (.iconst 0, 1) := dk_3 (dk_at dksX4_expression_4 7 rfl rfl)
theorem dX4_expression_101 : decode cX4_expression 101 = .ok (.bastore, 1) := dk_84 (dk_at dksX4_expression_4 8 rfl rfl)
theorem dX4_expression_102 : decode cX4_expression 102 = .ok (.aload_n 0, 1) := dk_42 (dk_at dksX4_expression_4 9 rfl rfl)
theorem dX4_expression_103 : decode cX4_expression 103 = .ok (.invokevirtual 178, 3) := dk_182 0 178 (dk_at dksX4_expression_4 10 rfl rfl)
theorem dX4_expression_106 : decode cX4_expression 106 = .ok (.aload_n 0, 1) := dk_42 (dk_at dksX4_expression_4 13 rfl rfl)
theorem dX4_expression_107 : decode cX4_expression 107 = .ok (.iconst 1, 1) := dk_4 (dk_at dksX4_expression_4 14 rfl rfl)
theorem dX4_expression_108 : decode cX4_expression 108 = .ok (.invokevirtual 224, 3) := dk_182 0 224 (dk_at dksX4_expression_4 15 rfl rfl)
theorem dX4_expression_111 : decode cX4_expression 111 = .ok (.goto 216, 3) := dk_167 0 216 (dk_at dksX4_expression_4 18 rfl rfl)
theorem dX4_expression_114 : decode cX4_expression 114 = .ok (.aload_n 0, 1) := dk_42 (dk_at dksX4_expression_4 21 rfl rfl)
theorem dX4_expression_115 : decode cX4_expression 115 = .ok (.bipush 60, 2) := dk_16 60 (dk_at dksX4_expression_4 22 rfl rfl)
theorem dX4_expression_117 : decode cX4_expression 117 = .ok (.invokevirtual 209, 3) := dk_182 0 209 (dk_at dksX4_expression_5 0 rfl rfl)
theorem dX4_expression_120 : decode cX4_expression 120 = .ok (.ifCond .ne 12, 3) := dk_154 0 12 (dk_at dksX4_expression_5 3 rfl rfl)
theorem dX4_expression_123 : decode cX4_expression 123 = .ok (.aload_n 0, 1) := dk_42 (dk_at dksX4_expression_5 6 rfl rfl)
theorem dX4_expression_124 : decode cX4_expression 124 = .ok (.bipush 61, 2) := dk_16 61 (dk_at dksX4_expression_5 7 rfl rfl)
theorem dX4_expression_126 : decode cX4_expression 126 = .ok (.invokevirtual 209, 3) := dk_182 0 209 (dk_at dksX4_expression_5 9 rfl rfl)
theorem dX4_expression_129 : decode cX4_expression 129 = .ok (.ifCond .eq 62, 3) := dk_153 0 62 (dk_at dksX4_expression_5 12 rfl rfl)
theorem dX4_expression_132 : decode cX4_expression 132 = .ok (.aload_n 0, 1) := dk_42 (dk_at dksX4_expression_5 15 rfl rfl)
theorem dX4_expression_133 : decode cX4_expression 133 = .ok (.getfield 62, 3) := dk_180 0 62 (dk_at dksX4_expression_5 16 rfl rfl)
theorem dX4_expression_136 : decode cX4_expression 136 = .ok (.aload_n 0, 1) := dk_42 (dk_at dksX4_expression_5 19 rfl rfl)
theorem dX4_expression_137 : decode cX4_expression 137 = .ok (.getfield 206, 3) := dk_180 0 206 (dk_at dksX4_expression_5 20 rfl rfl)
theorem dX4_expression_140 : decode cX4_expression 140 = .ok (.baload, 1) := dk_51 (dk_at dksX4_expression_5 23 rfl rfl)
theorem dX4_expression_141 : decode cX4_expression 141 = .ok (.ifCond .ne 50, 3) := dk_154 0 50 (dk_at dksX4_expression_6 0 rfl rfl)
theorem dX4_expression_144 : decode cX4_expression 144 = .ok (.aload_n 0, 1) := dk_42 (dk_at dksX4_expression_6 3 rfl rfl)
theorem dX4_expression_145 : decode cX4_expression 145 = .ok (.iconst 4, 1) := dk_7 (dk_at dksX4_expression_6 4 rfl rfl)
theorem dX4_expression_146 : decode cX4_expression 146 = .ok (.invokevirtual 221, 3) := dk_182 0 221 (dk_at dksX4_expression_6 5 rfl rfl)
theorem dX4_expression_149 : decode cX4_expression 149 = .ok (.aload_n 0, 1) := dk_42 (dk_at dksX4_expression_6 8 rfl rfl)
theorem dX4_expression_150 : decode cX4_expression 150 = .ok (.aload_n 0, 1) := dk_42 (dk_at dksX4_expression_6 9 rfl rfl)
theorem dX4_expression_151 : decode cX4_expression 151 = .ok (.bipush 60, 2) := dk_16 60 (dk_at dksX4_expression_6 10 rfl rfl)
theorem dX4_expression_153 : decode cX4_expression 153 = .ok (.invokevirtual 209, 3) := dk_182 0 209 (dk_at dksX4_expression_6 12 rfl rfl)
theorem dX4_expression_156 : decode cX4_expression 156 = .ok (.ifCond .eq 8, 3) := dk_153 0 8 (dk_at dksX4_expression_6 15 rfl rfl)
theorem dX4_expression_159 : decode cX4_expression 159 = .ok (.bipush 6, 2) := dk_16 6 (dk_at dksX4_expression_6 18 rfl rfl)
theorem dX4_expression_161 : decode cX4_expression 161 = .ok (.goto 5, 3) := dk_167 0 5 (dk_at dksX4_expression_6 20 rfl rfl)
theorem dX4_expression_164 : decode cX4_expression 164 = .ok (.bipush 7, 2) := dk_16 7 (dk_at dksX4_expression_7 0 rfl rfl)
theorem dX4_expression_166 : decode cX4_expression 166 = .ok (.invokevirtual 212, 3) := dk_182 0 212 (dk_at dksX4_expression_7 2 rfl rfl)
theorem dX4_expression_169 : decode cX4_expression 169 = .ok (.aload_n 0, 1) := dk_42 (dk_at dksX4_expression_7 5 rfl rfl)
theorem dX4_expression_170 : decode cX4_expression 170 = .ok (.getfield 62, 3) := dk_180 0 62 (dk_at dksX4_expression_7 6 rfl rfl)
theorem dX4_expression_173 : decode cX4_expression 173 = .ok (.aload_n 0, 1) := dk_42 (dk_at dksX4_expression_7 9 rfl rfl)
theorem dX4_expression_174 : decode cX4_expression 174 = .ok (.getfield 206, 3) := dk_180 0 206 (dk_at dksX4_expression_7 10 rfl rfl)
theorem dX4_expression_177 : decode cX4_expression 177 = .ok (.iconst 1, 1) := dk_4 (dk_at dksX4_expression_7 13 rfl rfl)
theorem dX4_expression_178 : decode cX4_expression 178 = .ok (.bastore, 1) := dk_84 (dk_at dksX4_expression_7 14 rfl rfl)
theorem dX4_expression_179 : decode cX4_expression 179 = .ok (.aload_n 0, 1) := dk_42 (dk_at dksX4_expression_7 15 rfl rfl)
theorem dX4_expression_180 : decode cX4_expression 180 = .ok (.invokevirtual 178, 3) := dk_182 0 178 (dk_at dksX4_expression_7 16 rfl rfl)
theorem dX4_expression_183 : decode cX4_expression 183 = .ok (.aload_n 0, 1) := dk_42 (dk_at dksX4_expression_7 19 rfl rfl)
theorem dX4_expression_184 : decode cX4_expression 184 = .ok (.iconst 0, 1) := dk_3 (dk_at dksX4_expression_7 20 rfl rfl)
theorem dX4_expression_185 : decode cX4_expression 185 = .ok (.invokevirtual 224, 3) := dk_182 0 224 (dk_at dksX4_expression_7 21 rfl rfl)
theorem dX4_expression_188 : decode cX4_expression 188 = .ok (.goto 139, 3) := dk_167 0 139 (dk_at dksX4_expression_8 0 rfl rfl)
theorem dX4_expression_191 : decode cX4_expression 191 = .ok (.aload_n 0, 1) := dk_42 (dk_at dksX4_expression_8 3 rfl rfl)
theorem dX4_expression_192 : decode cX4_expression 192 = .ok (.bipush 43, 2) := dk_16 43 (dk_at dksX4_expression_8 4 rfl rfl)
theorem dX4_expression_194 : decode cX4_expression 194 = .ok (.invokevirtual 209, 3) := dk_182 0 209 (dk_at dksX4_expression_8 6 rfl rfl)
theorem dX4_expression_197 : decode cX4_expression 197 = .ok (.ifCond .ne 12, 3) := dk_154 0 12 (dk_at dksX4_expression_8 9 rfl rfl)
theorem dX4_expression_200 : decode cX4_expression 200 = .ok (.aload_n 0, 1) := dk_42 (dk_at dksX4_expression_8 12 rfl rfl)
theorem dX4_expression_201 : decode cX4_expression 201 = .ok (.bipush 45, 2) := dk_16 45 (dk_at dksX4_expression_8 13 rfl rfl)
theorem dX4_expression_203 : decode cX4_expression 203 = .ok (.invokevirtual 209, 3) := dk_182 0 209 (dk_at dksX4_expression_8 15 rfl rfl)
theorem dX4_expression_206 : decode cX4_expression 206 = .ok (.ifCond .eq 40, 3) := dk_153 0 40 (dk_at dksX4_expression_8 18 rfl rfl)
theorem dX4_expression_209 : decode cX4_expression 209 = .ok (.aload_n 0, 1) := dk_42 (dk_at dksX4_expression_8 21 rfl rfl)
theorem dX4_expression_210 : decode cX4_expression 210 = .ok (.iconst 5, 1) := dk_8 (dk_at dksX4_expression_8 22 rfl rfl)
theorem dX4_expression_211 : decode cX4_expression 211 = .ok (.invokevirtual 221, 3) := dk_182 0 221 (dk_at dksX4_expression_9 0 rfl rfl)
theorem dX4_expression_214 : decode cX4_expression 214 = .ok (.aload_n 0, 1) := dk_42 (dk_at dksX4_expression_9 3 rfl rfl)
theorem dX4_expression_215 : decode cX4_expression 215 = .ok (.aload_n 0, 1) := dk_42 (dk_at dksX4_expression_9 4 rfl rfl)
theorem dX4_expression_216 : decode cX4_expression 216 = .ok (.bipush 43, 2) := dk_16 43 (dk_at dksX4_expression_9 5 rfl rfl)
theorem dX4_expression_218 : decode cX4_expression 218 = .ok (.invokevirtual 209, 3) := dk_182 0 209 (dk_at dksX4_expression_9 7 rfl rfl)
theorem dX4_expression_221 : decode cX4_expression 221 = .ok (.ifCond .eq 8, 3) := dk_153 0 8 (dk_at dksX4_expression_9 10 rfl rfl)
theorem dX4_expression_224 : decode cX4_expression 224 = .ok (.bipush 8, 2) := dk_16 8 (dk_at dksX4_expression_9 13 rfl rfl)
theorem dX4_expression_226 : decode cX4_expression 226 = .ok (.goto 5, 3) := dk_167 0 5 (dk_at dksX4_expression_9 15 rfl rfl)
theorem dX4_expression_229 : decode cX4_expression 229 = .ok (.bipush 9, 2) := dk_16 9 (dk_at dksX4_expression_9 18 rfl rfl)
theorem dX4_expression_231 : decode cX4_expression 231 = .ok (.invokevirtual 212, 3) := dk_182 0 212 (dk_at dksX4_expression_9 20 rfl rfl)
theorem dX4_expression_234 : decode cX4_expression 234 = .ok (.aload_n 0, 1) := dk_42 (dk_at dksX4_expression_9 23 rfl rfl)
theorem dX4_expression_235 : decode cX4_expression 235 = .ok (.invokevirtual 178, 3) := dk_182 0 178 (dk_at dksX4_expression_10 0 rfl rfl)
theorem dX4_expression_238 : decode cX4_expression 238 = .ok (.aload_n 0, 1) := dk_42 (dk_at dksX4_expression_10 3 rfl rfl)
theorem dX4_expression_239 : decode cX4_expression 239 = .ok (.iconst 0, 1) := dk_3 (dk_at dksX4_expression_10 4 rfl rfl)
theorem dX4_expression_240 : decode cX4_expression 240 = .ok (.invokevirtual 224, 3) := dk_182 0 224 (dk_at dksX4_expression_10 5 rfl rfl)
theorem dX4_expression_243 : decode cX4_expression 243 = .ok (.goto 84, 3) := dk_167 0 84 (dk_at dksX4_expression_10 8 rfl rfl)
theorem dX4_expression_246 : decode cX4_expression 246 = .ok (.aload_n 0, 1) := dk_42 (dk_at dksX4_expression_10 11 rfl rfl)
theorem dX4_expression_247 : decode cX4_expression 247 = .ok (.bipush 42, 2) := dk_16 42 (dk_at dksX4_expression_10 12 rfl rfl)
theorem dX4_expression_249 : decode cX4_expression 249 = .ok (.invokevirtual 209, 3) := dk_182 0 209 (dk_at dksX4_expression_10 14 rfl rfl)
theorem dX4_expression_252 : decode cX4_expression 252 = .ok (.ifCond .ne 12, 3) := dk_154 0 12 (dk_at dksX4_expression_10 17 rfl rfl)
theorem dX4_expression_255 : decode cX4_expression 255 = .ok (.aload_n 0, 1) := dk_42 (dk_at dksX4_expression_10 20 rfl rfl)
theorem dX4_expression_256 : decode cX4_expression 256 = .ok (.bipush 47, 2) := dk_16 47 (dk_at dksX4_expression_10 21 rfl rfl)
theorem dX4_expression_258 : decode cX4_expression 258 = .ok (.invokevirtual 209, 3) := dk_182 0 209 (dk_at dksX4_expression_11 0 rfl rfl)
theorem dX4_expression_261 : decode cX4_expression 261 = .ok (.ifCond .eq 41, 3) := dk_153 0 41 (dk_at dksX4_expression_11 3 rfl rfl)
theorem dX4_expression_264 : decode cX4_expression 264 = .ok (.aload_n 0, 1) := dk_42 (dk_at dksX4_expression_11 6 rfl rfl)
theorem dX4_expression_265 : decode cX4_expression 265 = .ok (.bipush 6, 2) := dk_16 6 (dk_at dksX4_expression_11 7 rfl rfl)
theorem dX4_expression_267 : decode cX4_expression 267 = .ok (.invokevirtual 221, 3) := dk_182 0 221 (dk_at dksX4_expression_11 9 rfl rfl)
theorem dX4_expression_270 : decode cX4_expression 270 = .ok (.aload_n 0, 1) := dk_42 (dk_at dksX4_expression_11 12 rfl rfl)
theorem dX4_expression_271 : decode cX4_expression 271 = .ok (.aload_n 0, 1) := dk_42 (dk_at dksX4_expression_11 13 rfl rfl)
theorem dX4_expression_272 : decode cX4_expression 272 = .ok (.bipush 42, 2) := dk_16 42 (dk_at dksX4_expression_11 14 rfl rfl)
theorem dX4_expression_274 : decode cX4_expression 274 = .ok (.invokevirtual 209, 3) := dk_182 0 209 (dk_at dksX4_expression_11 16 rfl rfl)
theorem dX4_expression_277 : decode cX4_expression 277 = .ok (.ifCond .eq 8, 3) := dk_153 0 8 (dk_at dksX4_expression_11 19 rfl rfl)
theorem dX4_expression_280 : decode cX4_expression 280 = .ok (.bipush 10, 2) := dk_16 10 (dk_at dksX4_expression_11 22 rfl rfl)
theorem dX4_expression_282 : decode cX4_expression 282 = .ok (.goto 5, 3) := dk_167 0 5 (dk_at dksX4_expression_12 0 rfl rfl)
theorem dX4_expression_285 : decode cX4_expression 285 = .ok (.bipush 11, 2) := dk_16 11 (dk_at dksX4_expression_12 3 rfl rfl)
theorem dX4_expression_287 : decode cX4_expression 287 = .ok (.invokevirtual 212, 3) := dk_182 0 212 (dk_at dksX4_expression_12 5 rfl rfl)
theorem dX4_expression_290 : decode cX4_expression 290 = .ok (.aload_n 0, 1) := dk_42 (dk_at dksX4_expression_12 8 rfl rfl)
theorem dX4_expression_291 : decode cX4_expression 291 = .ok (.invokevirtual 178, 3) := dk_182 0 178 (dk_at dksX4_expression_12 9 rfl rfl)
theorem dX4_expression_294 : decode cX4_expression 294 = .ok (.aload_n 0, 1) := dk_42 (dk_at dksX4_expression_12 12 rfl rfl)
theorem dX4_expression_295 : decode cX4_expression 295 = .ok (.iconst 0, 1) := dk_3 (dk_at dksX4_expression_12 13 rfl rfl)
theorem dX4_expression_296 : decode cX4_expression 296 = .ok (.invokevirtual 224, 3) := dk_182 0 224 (dk_at dksX4_expression_12 14 rfl rfl)
theorem dX4_expression_299 : decode cX4_expression 299 = .ok (.goto 28, 3) := dk_167 0 28 (dk_at dksX4_expression_12 17 rfl rfl)
theorem dX4_expression_302 : decode cX4_expression 302 = .ok (.aload_n 0, 1) := dk_42 (dk_at dksX4_expression_12 20 rfl rfl)
theorem dX4_expression_303 : decode cX4_expression 303 = .ok (.bipush 41, 2) := dk_16 41 (dk_at dksX4_expression_12 21 rfl rfl)
theorem dX4_expression_305 : decode cX4_expression 305 = .ok (.invokevirtual 209, 3) := dk_182 0 209 (dk_at dksX4_expression_13 0 rfl rfl)
theorem dX4_expression_308 : decode cX4_expression 308 = .ok (.ifCond .eq 17, 3) := dk_153 0 17 (dk_at dksX4_expression_13 3 rfl rfl)
theorem dX4_expression_311 : decode cX4_expression 311 = .ok (.aload_n 0, 1) := dk_42 (dk_at dksX4_expression_13 6 rfl rfl)
theorem dX4_expression_312 : decode cX4_expression 312 = .ok (.invokevirtual 228, 3) := dk_182 0 228 (dk_at dksX4_expression_13 7 rfl rfl)
theorem dX4_expression_315 : decode cX4_expression 315 = .ok (.ifCond .eq 10, 3) := dk_153 0 10 (dk_at dksX4_expression_13 10 rfl rfl)
theorem dX4_expression_318 : decode cX4_expression 318 = .ok (.aload_n 0, 1) := dk_42 (dk_at dksX4_expression_13 13 rfl rfl)
theorem dX4_expression_319 : decode cX4_expression 319 = .ok (.invokevirtual 231, 3) := dk_182 0 231 (dk_at dksX4_expression_13 14 rfl rfl)
theorem dX4_expression_322 : decode cX4_expression 322 = .ok (.goto 5, 3) := dk_167 0 5 (dk_at dksX4_expression_13 17 rfl rfl)
theorem dX4_expression_325 : decode cX4_expression 325 = .ok (.iconst 0, 1) := dk_3 (dk_at dksX4_expression_13 20 rfl rfl)
theorem dX4_expression_326 : decode cX4_expression 326 = .ok (.istore_n 2, 1) := dk_61 (dk_at dksX4_expression_13 21 rfl rfl)
theorem dX4_expression_327 : decode cX4_expression 327 = .ok (.goto (-293), 3) := dk_167 254 219 (dk_at dksX4_expression_14 0 rfl rfl)
theorem dX4_expression_330 : decode cX4_expression 330 = .ok (.aload_n 0, 1) := dk_42 (dk_at dksX4_expression_14 3 rfl rfl)
theorem dX4_expression_331 : decode cX4_expression 331 = .ok (.invokevirtual 174, 3) := dk_182 0 174 (dk_at dksX4_expression_14 4 rfl rfl)
theorem dX4_expression_334 : decode cX4_expression 334 = .ok (.ifCond .eq 16, 3) := dk_153 0 16 (dk_at dksX4_expression_14 7 rfl rfl)
theorem dX4_expression_337 : decode cX4_expression 337 = .ok (.aload_n 0, 1) := dk_42 (dk_at dksX4_expression_14 10 rfl rfl)
theorem dX4_expression_338 : decode cX4_expression 338 = .ok (.getfield 206, 3) := dk_180 0 206 (dk_at dksX4_expression_14 11 rfl rfl)
theorem dX4_expression_341 : decode cX4_expression 341 = .ok (.iconst 1, 1) := dk_4 (dk_at dksX4_expression_14 14 rfl rfl)
theorem dX4_expression_342 : decode cX4_expression 342 = .ok (.if_icmp .le 8, 3) := dk_164 0 8 (dk_at dksX4_expression_14 15 rfl rfl)
theorem dX4_expression_345 : decode cX4_expression 345 = .ok (.aload_n 0, 1) := dk_42 (dk_at dksX4_expression_14 18 rfl rfl)
theorem dX4_expression_346 : decode cX4_expression 346 = .ok (.iconst 1, 1) := dk_4 (dk_at dksX4_expression_14 19 rfl rfl)
theorem dX4_expression_347 : decode cX4_expression 347 = .ok (.invokevirtual 181, 3) := dk_182 0 181 (dk_at dksX4_expression_14 20 rfl rfl)
theorem dX4_expression_350 : decode cX4_expression 350 = .ok (.aload_n 0, 1) := dk_42 (dk_at dksX4_expression_14 23 rfl rfl)
theorem dX4_expression_351 : decode cX4_expression 351 = .ok (.iconst 0, 1) := dk_3 (dk_at dksX4_expression_15 0 rfl rfl)
theorem dX4_expression_352 : decode cX4_expression 352 = .ok (.invokevirtual 221, 3) := dk_182 0 221 (dk_at dksX4_expression_15 1 rfl rfl)
theorem dX4_expression_355 : decode cX4_expression 355 = .ok (.aload_n 0, 1) := dk_42 (dk_at dksX4_expression_15 4 rfl rfl)
theorem dX4_expression_356 : decode cX4_expression 356 = .ok (.iconst 0, 1) := dk_3 (dk_at dksX4_expression_15 5 rfl rfl)
theorem dX4_expression_357 : decode cX4_expression 357 = .ok (.invokevirtual 196, 3) := dk_182 0 196 (dk_at dksX4_expression_15 6 rfl rfl)
theorem dX4_expression_360 : decode cX4_expression 360 = .ok (.return_, 1) := dk_177 (dk_at dksX4_expression_15 9 rfl rfl)
abbrev mX4_expression : xM := (yX4_expression, cX4_expression, 4, none, [])
def m_expression_327 (k34 : Int32 → MS → Option MS) (x2 : Int32) (S : MS) : Option MS :=
  k34 x2 S
theorem m_expression_327_ok {G : xG} {m0 : Nat} {S0 : MS} {k34 : Int32 → MS → Option MS} (hk34 : ∀ (x2 : Int32) (S : MS) (q : MS), k34 x2 S = some q → XM G m0 mX4_expression 6 S0 none q 34 [(0, .ref m0), (2, .int x2)] [] S) (x2 : Int32) (S : MS) (q : MS) (hf : m_expression_327 k34 x2 S = some q) : XM G m0 mX4_expression 6 S0 none q 327 [(0, .ref m0), (2, .int x2)] [] S := by
  intro h N Z
  unfold m_expression_327 at hf
  refine X.goto (tgt := 34) dX4_expression_327 (by decide) ?_
  refine X.sub [0, 1] (L' := [(0, .ref m0), (2, .int x2)]) rfl ?_
  exact hk34 _ _ _ hf h N Z
def m_expression_89 (k34 : Int32 → MS → Option MS) (x2 : Int32) (y0 : Int32) (S : MS) : Option MS :=
  (m_waitsFor y0 S).bind fun q89 =>
  (wrA q89 11 (q89.1 35) (vp_nar .boolean (0 : Int32))).bind fun S101 =>
  (m_goes S101).bind fun q103 =>
  (m_operand ((1 : Int32)) q103).bind fun q108 =>
  m_expression_327 k34 x2 q108
theorem m_expression_89_ok {G : xG} {m0 : Nat} {S0 : MS} {k34 : Int32 → MS → Option MS} (hk34 : ∀ (x2 : Int32) (S : MS) (q : MS), k34 x2 S = some q → XM G m0 mX4_expression 6 S0 none q 34 [(0, .ref m0), (2, .int x2)] [] S) (x2 : Int32) (y0 : Int32) (S : MS) (q : MS) (hf : m_expression_89 k34 x2 y0 S = some q) : XM G m0 mX4_expression 6 S0 none q 89 [(0, .ref m0), (2, .int x2)] [.int y0, .ref m0] S := by
  intro h N Z
  unfold m_expression_89 at hf
  obtain ⟨q89, h89, hf⟩ := ob hf
  refine X.callVv (As := [.int y0]) (rest := []) (T2 := (mh m0 h q89, N, Z)) dX4_expression_89 (w_waitsFor h89 h N Z) cX4_212 rfl rfl (Nat.le_of_ble_eq_true rfl) mh_0 rfl rfl (xD (Nat.le_of_ble_eq_true rfl)) xleN xleN ?_
  refine X.aload_n dX4_expression_92 rfl 0 rfl ?_
  refine M.get (v := .ref (m0 + 11)) dX4_expression_93 fX4_62 (Nat.le_of_ble_eq_true rfl) rfl ?_
  refine X.aload_n dX4_expression_96 rfl 0 rfl ?_
  refine M.get (v := .int (q89.1 35)) dX4_expression_97 fX4_206 (Nat.le_of_ble_eq_true rfl) rfl ?_
  refine X.iconst (v := 0) dX4_expression_100 (by decide) ?_
  obtain ⟨S101, h101, hf⟩ := ob hf
  refine M.zast dX4_expression_101 (Nat.le_of_ble_eq_true rfl) (Nat.le_of_ble_eq_true rfl) rfl h101 ?_
  refine X.aload_n dX4_expression_102 rfl 0 rfl ?_
  obtain ⟨q103, h103, hf⟩ := ob hf
  refine X.callVv (As := []) (rest := []) (T2 := (mh m0 h q103, N, Z)) dX4_expression_103 (w_goes h103 h N Z) cX4_178 rfl rfl (Nat.le_of_ble_eq_true rfl) mh_0 rfl rfl (xD (Nat.le_of_ble_eq_true rfl)) xleN xleN ?_
  refine X.aload_n dX4_expression_106 rfl 0 rfl ?_
  refine X.iconst (v := 1) dX4_expression_107 (by decide) ?_
  obtain ⟨q108, h108, hf⟩ := ob hf
  refine X.callVv (As := [.int (1 : Int32)]) (rest := []) (T2 := (mh m0 h q108, N, Z)) dX4_expression_108 (w_operand h108 h N Z) cX4_224 rfl rfl (Nat.le_of_ble_eq_true rfl) mh_0 rfl rfl (xD (Nat.le_of_ble_eq_true rfl)) xleN xleN ?_
  refine X.goto (tgt := 327) dX4_expression_111 (by decide) ?_
  refine X.sub [0, 1] (L' := [(0, .ref m0), (2, .int x2)]) rfl ?_
  exact m_expression_327_ok hk34 _ _ _ hf h N Z
def m_expression_74 (k34 : Int32 → MS → Option MS) (x2 : Int32) (x3 : Int32) (y0 : Int32) (S : MS) : Option MS :=
  (m_drops y0 S).bind fun q74 =>
  if x3 = (15 : Int32) then
    m_expression_89 k34 x2 ((4 : Int32)) q74
  else
    m_expression_89 k34 x2 ((5 : Int32)) q74
theorem m_expression_74_ok {G : xG} {m0 : Nat} {S0 : MS} {k34 : Int32 → MS → Option MS} (hk34 : ∀ (x2 : Int32) (S : MS) (q : MS), k34 x2 S = some q → XM G m0 mX4_expression 6 S0 none q 34 [(0, .ref m0), (2, .int x2)] [] S) (x2 : Int32) (x3 : Int32) (y0 : Int32) (S : MS) (q : MS) (hf : m_expression_74 k34 x2 x3 y0 S = some q) : XM G m0 mX4_expression 6 S0 none q 74 [(0, .ref m0), (2, .int x2), (3, .int x3)] [.int y0, .ref m0] S := by
  intro h N Z
  unfold m_expression_74 at hf
  obtain ⟨q74, h74, hf⟩ := ob hf
  refine X.callVv (As := [.int y0]) (rest := []) (T2 := (mh m0 h q74, N, Z)) dX4_expression_74 (w_drops h74 h N Z) cX4_221 rfl rfl (Nat.le_of_ble_eq_true rfl) mh_0 rfl rfl (xD (Nat.le_of_ble_eq_true rfl)) xleN xleN ?_
  refine X.aload_n dX4_expression_77 rfl 0 rfl ?_
  refine X.iload_n dX4_expression_78 rfl 2 rfl ?_
  refine X.bipush (v := 15) dX4_expression_79 (by decide) ?_
  refine X.icmp_ne (tgt := 88) dX4_expression_81 (by decide) (fun c81 => ?_) (fun c81 => ?_)
  · have hf := if_f c81 hf
    refine X.iconst (v := 5) dX4_expression_88 (by decide) ?_
    refine X.sub [0, 1] (L' := [(0, .ref m0), (2, .int x2)]) rfl ?_
    exact m_expression_89_ok hk34 _ _ _ _ hf h N Z
  · have hf := if_t c81 hf
    refine X.iconst (v := 4) dX4_expression_84 (by decide) ?_
    refine X.goto (tgt := 89) dX4_expression_85 (by decide) ?_
    refine X.sub [0, 1] (L' := [(0, .ref m0), (2, .int x2)]) rfl ?_
    exact m_expression_89_ok hk34 _ _ _ _ hf h N Z
def m_expression_62 (k34 : Int32 → MS → Option MS) (x2 : Int32) (x3 : Int32) (S : MS) : Option MS :=
  if x3 = (15 : Int32) then
    m_expression_74 k34 x2 x3 ((2 : Int32)) S
  else
    m_expression_74 k34 x2 x3 ((1 : Int32)) S
theorem m_expression_62_ok {G : xG} {m0 : Nat} {S0 : MS} {k34 : Int32 → MS → Option MS} (hk34 : ∀ (x2 : Int32) (S : MS) (q : MS), k34 x2 S = some q → XM G m0 mX4_expression 6 S0 none q 34 [(0, .ref m0), (2, .int x2)] [] S) (x2 : Int32) (x3 : Int32) (S : MS) (q : MS) (hf : m_expression_62 k34 x2 x3 S = some q) : XM G m0 mX4_expression 6 S0 none q 62 [(0, .ref m0), (2, .int x2), (3, .int x3)] [] S := by
  intro h N Z
  unfold m_expression_62 at hf
  refine X.aload_n dX4_expression_62 rfl 0 rfl ?_
  refine X.iload_n dX4_expression_63 rfl 2 rfl ?_
  refine X.bipush (v := 15) dX4_expression_64 (by decide) ?_
  refine X.icmp_ne (tgt := 73) dX4_expression_66 (by decide) (fun c66 => ?_) (fun c66 => ?_)
  · have hf := if_f c66 hf
    refine X.iconst (v := 1) dX4_expression_73 (by decide) ?_
    refine X.sub [0, 1, 2] (L' := [(0, .ref m0), (2, .int x2), (3, .int x3)]) rfl ?_
    exact m_expression_74_ok hk34 _ _ _ _ _ hf h N Z
  · have hf := if_t c66 hf
    refine X.iconst (v := 2) dX4_expression_69 (by decide) ?_
    refine X.goto (tgt := 74) dX4_expression_70 (by decide) ?_
    refine X.sub [0, 1, 2] (L' := [(0, .ref m0), (2, .int x2), (3, .int x3)]) rfl ?_
    exact m_expression_74_ok hk34 _ _ _ _ _ hf h N Z
def m_expression_166 (k34 : Int32 → MS → Option MS) (x2 : Int32) (y0 : Int32) (S : MS) : Option MS :=
  (m_waitsFor y0 S).bind fun q166 =>
  (wrA q166 11 (q166.1 35) (vp_nar .boolean (1 : Int32))).bind fun S178 =>
  (m_goes S178).bind fun q180 =>
  (m_operand ((0 : Int32)) q180).bind fun q185 =>
  m_expression_327 k34 x2 q185
theorem m_expression_166_ok {G : xG} {m0 : Nat} {S0 : MS} {k34 : Int32 → MS → Option MS} (hk34 : ∀ (x2 : Int32) (S : MS) (q : MS), k34 x2 S = some q → XM G m0 mX4_expression 6 S0 none q 34 [(0, .ref m0), (2, .int x2)] [] S) (x2 : Int32) (y0 : Int32) (S : MS) (q : MS) (hf : m_expression_166 k34 x2 y0 S = some q) : XM G m0 mX4_expression 6 S0 none q 166 [(0, .ref m0), (2, .int x2)] [.int y0, .ref m0] S := by
  intro h N Z
  unfold m_expression_166 at hf
  obtain ⟨q166, h166, hf⟩ := ob hf
  refine X.callVv (As := [.int y0]) (rest := []) (T2 := (mh m0 h q166, N, Z)) dX4_expression_166 (w_waitsFor h166 h N Z) cX4_212 rfl rfl (Nat.le_of_ble_eq_true rfl) mh_0 rfl rfl (xD (Nat.le_of_ble_eq_true rfl)) xleN xleN ?_
  refine X.aload_n dX4_expression_169 rfl 0 rfl ?_
  refine M.get (v := .ref (m0 + 11)) dX4_expression_170 fX4_62 (Nat.le_of_ble_eq_true rfl) rfl ?_
  refine X.aload_n dX4_expression_173 rfl 0 rfl ?_
  refine M.get (v := .int (q166.1 35)) dX4_expression_174 fX4_206 (Nat.le_of_ble_eq_true rfl) rfl ?_
  refine X.iconst (v := 1) dX4_expression_177 (by decide) ?_
  obtain ⟨S178, h178, hf⟩ := ob hf
  refine M.zast dX4_expression_178 (Nat.le_of_ble_eq_true rfl) (Nat.le_of_ble_eq_true rfl) rfl h178 ?_
  refine X.aload_n dX4_expression_179 rfl 0 rfl ?_
  obtain ⟨q180, h180, hf⟩ := ob hf
  refine X.callVv (As := []) (rest := []) (T2 := (mh m0 h q180, N, Z)) dX4_expression_180 (w_goes h180 h N Z) cX4_178 rfl rfl (Nat.le_of_ble_eq_true rfl) mh_0 rfl rfl (xD (Nat.le_of_ble_eq_true rfl)) xleN xleN ?_
  refine X.aload_n dX4_expression_183 rfl 0 rfl ?_
  refine X.iconst (v := 0) dX4_expression_184 (by decide) ?_
  obtain ⟨q185, h185, hf⟩ := ob hf
  refine X.callVv (As := [.int (0 : Int32)]) (rest := []) (T2 := (mh m0 h q185, N, Z)) dX4_expression_185 (w_operand h185 h N Z) cX4_224 rfl rfl (Nat.le_of_ble_eq_true rfl) mh_0 rfl rfl (xD (Nat.le_of_ble_eq_true rfl)) xleN xleN ?_
  refine X.goto (tgt := 327) dX4_expression_188 (by decide) ?_
  refine X.sub [0, 1] (L' := [(0, .ref m0), (2, .int x2)]) rfl ?_
  exact m_expression_327_ok hk34 _ _ _ hf h N Z
def m_expression_231 (k34 : Int32 → MS → Option MS) (x2 : Int32) (y0 : Int32) (S : MS) : Option MS :=
  (m_waitsFor y0 S).bind fun q231 =>
  (m_goes q231).bind fun q235 =>
  (m_operand ((0 : Int32)) q235).bind fun q240 =>
  m_expression_327 k34 x2 q240
theorem m_expression_231_ok {G : xG} {m0 : Nat} {S0 : MS} {k34 : Int32 → MS → Option MS} (hk34 : ∀ (x2 : Int32) (S : MS) (q : MS), k34 x2 S = some q → XM G m0 mX4_expression 6 S0 none q 34 [(0, .ref m0), (2, .int x2)] [] S) (x2 : Int32) (y0 : Int32) (S : MS) (q : MS) (hf : m_expression_231 k34 x2 y0 S = some q) : XM G m0 mX4_expression 6 S0 none q 231 [(0, .ref m0), (2, .int x2)] [.int y0, .ref m0] S := by
  intro h N Z
  unfold m_expression_231 at hf
  obtain ⟨q231, h231, hf⟩ := ob hf
  refine X.callVv (As := [.int y0]) (rest := []) (T2 := (mh m0 h q231, N, Z)) dX4_expression_231 (w_waitsFor h231 h N Z) cX4_212 rfl rfl (Nat.le_of_ble_eq_true rfl) mh_0 rfl rfl (xD (Nat.le_of_ble_eq_true rfl)) xleN xleN ?_
  refine X.aload_n dX4_expression_234 rfl 0 rfl ?_
  obtain ⟨q235, h235, hf⟩ := ob hf
  refine X.callVv (As := []) (rest := []) (T2 := (mh m0 h q235, N, Z)) dX4_expression_235 (w_goes h235 h N Z) cX4_178 rfl rfl (Nat.le_of_ble_eq_true rfl) mh_0 rfl rfl (xD (Nat.le_of_ble_eq_true rfl)) xleN xleN ?_
  refine X.aload_n dX4_expression_238 rfl 0 rfl ?_
  refine X.iconst (v := 0) dX4_expression_239 (by decide) ?_
  obtain ⟨q240, h240, hf⟩ := ob hf
  refine X.callVv (As := [.int (0 : Int32)]) (rest := []) (T2 := (mh m0 h q240, N, Z)) dX4_expression_240 (w_operand h240 h N Z) cX4_224 rfl rfl (Nat.le_of_ble_eq_true rfl) mh_0 rfl rfl (xD (Nat.le_of_ble_eq_true rfl)) xleN xleN ?_
  refine X.goto (tgt := 327) dX4_expression_243 (by decide) ?_
  refine X.sub [0, 1] (L' := [(0, .ref m0), (2, .int x2)]) rfl ?_
  exact m_expression_327_ok hk34 _ _ _ hf h N Z
def m_expression_209 (k34 : Int32 → MS → Option MS) (x2 : Int32) (S : MS) : Option MS :=
  (m_drops ((5 : Int32)) S).bind fun q211 =>
  (m_isSign ((43 : Int32)) q211).bind fun q218 =>
  if q218 = 0 then
    m_expression_231 k34 x2 ((9 : Int32)) q211
  else
    m_expression_231 k34 x2 ((8 : Int32)) q211
theorem m_expression_209_ok {G : xG} {m0 : Nat} {S0 : MS} {k34 : Int32 → MS → Option MS} (hk34 : ∀ (x2 : Int32) (S : MS) (q : MS), k34 x2 S = some q → XM G m0 mX4_expression 6 S0 none q 34 [(0, .ref m0), (2, .int x2)] [] S) (x2 : Int32) (S : MS) (q : MS) (hf : m_expression_209 k34 x2 S = some q) : XM G m0 mX4_expression 6 S0 none q 209 [(0, .ref m0), (2, .int x2)] [] S := by
  intro h N Z
  unfold m_expression_209 at hf
  refine X.aload_n dX4_expression_209 rfl 0 rfl ?_
  refine X.iconst (v := 5) dX4_expression_210 (by decide) ?_
  obtain ⟨q211, h211, hf⟩ := ob hf
  refine X.callVv (As := [.int (5 : Int32)]) (rest := []) (T2 := (mh m0 h q211, N, Z)) dX4_expression_211 (w_drops h211 h N Z) cX4_221 rfl rfl (Nat.le_of_ble_eq_true rfl) mh_0 rfl rfl (xD (Nat.le_of_ble_eq_true rfl)) xleN xleN ?_
  refine X.aload_n dX4_expression_214 rfl 0 rfl ?_
  refine X.aload_n dX4_expression_215 rfl 0 rfl ?_
  refine X.bipush (v := 43) dX4_expression_216 (by decide) ?_
  obtain ⟨q218, h218, hf⟩ := ob hf
  refine X.callVi (As := [.int (43 : Int32)]) (rest := [.ref m0]) dX4_expression_218 (w_isSign h218 h N Z) cX4_209 rfl rfl (Nat.le_of_ble_eq_true rfl) mh_0 rfl rfl (xD (Nat.le_of_ble_eq_true rfl)) xleN xleN ?_
  refine X.if_eq (tgt := 229) dX4_expression_221 (by decide) (fun c221 => ?_) (fun c221 => ?_)
  · have hf := if_t c221 hf
    refine X.bipush (v := 9) dX4_expression_229 (by decide) ?_
    refine X.sub [0, 1] (L' := [(0, .ref m0), (2, .int x2)]) rfl ?_
    exact m_expression_231_ok hk34 _ _ _ _ hf h N Z
  · have hf := if_f c221 hf
    refine X.bipush (v := 8) dX4_expression_224 (by decide) ?_
    refine X.goto (tgt := 231) dX4_expression_226 (by decide) ?_
    refine X.sub [0, 1] (L' := [(0, .ref m0), (2, .int x2)]) rfl ?_
    exact m_expression_231_ok hk34 _ _ _ _ hf h N Z
def m_expression_287 (k34 : Int32 → MS → Option MS) (x2 : Int32) (y0 : Int32) (S : MS) : Option MS :=
  (m_waitsFor y0 S).bind fun q287 =>
  (m_goes q287).bind fun q291 =>
  (m_operand ((0 : Int32)) q291).bind fun q296 =>
  m_expression_327 k34 x2 q296
theorem m_expression_287_ok {G : xG} {m0 : Nat} {S0 : MS} {k34 : Int32 → MS → Option MS} (hk34 : ∀ (x2 : Int32) (S : MS) (q : MS), k34 x2 S = some q → XM G m0 mX4_expression 6 S0 none q 34 [(0, .ref m0), (2, .int x2)] [] S) (x2 : Int32) (y0 : Int32) (S : MS) (q : MS) (hf : m_expression_287 k34 x2 y0 S = some q) : XM G m0 mX4_expression 6 S0 none q 287 [(0, .ref m0), (2, .int x2)] [.int y0, .ref m0] S := by
  intro h N Z
  unfold m_expression_287 at hf
  obtain ⟨q287, h287, hf⟩ := ob hf
  refine X.callVv (As := [.int y0]) (rest := []) (T2 := (mh m0 h q287, N, Z)) dX4_expression_287 (w_waitsFor h287 h N Z) cX4_212 rfl rfl (Nat.le_of_ble_eq_true rfl) mh_0 rfl rfl (xD (Nat.le_of_ble_eq_true rfl)) xleN xleN ?_
  refine X.aload_n dX4_expression_290 rfl 0 rfl ?_
  obtain ⟨q291, h291, hf⟩ := ob hf
  refine X.callVv (As := []) (rest := []) (T2 := (mh m0 h q291, N, Z)) dX4_expression_291 (w_goes h291 h N Z) cX4_178 rfl rfl (Nat.le_of_ble_eq_true rfl) mh_0 rfl rfl (xD (Nat.le_of_ble_eq_true rfl)) xleN xleN ?_
  refine X.aload_n dX4_expression_294 rfl 0 rfl ?_
  refine X.iconst (v := 0) dX4_expression_295 (by decide) ?_
  obtain ⟨q296, h296, hf⟩ := ob hf
  refine X.callVv (As := [.int (0 : Int32)]) (rest := []) (T2 := (mh m0 h q296, N, Z)) dX4_expression_296 (w_operand h296 h N Z) cX4_224 rfl rfl (Nat.le_of_ble_eq_true rfl) mh_0 rfl rfl (xD (Nat.le_of_ble_eq_true rfl)) xleN xleN ?_
  refine X.goto (tgt := 327) dX4_expression_299 (by decide) ?_
  refine X.sub [0, 1] (L' := [(0, .ref m0), (2, .int x2)]) rfl ?_
  exact m_expression_327_ok hk34 _ _ _ hf h N Z
def m_expression_264 (k34 : Int32 → MS → Option MS) (x2 : Int32) (S : MS) : Option MS :=
  (m_drops ((6 : Int32)) S).bind fun q267 =>
  (m_isSign ((42 : Int32)) q267).bind fun q274 =>
  if q274 = 0 then
    m_expression_287 k34 x2 ((11 : Int32)) q267
  else
    m_expression_287 k34 x2 ((10 : Int32)) q267
theorem m_expression_264_ok {G : xG} {m0 : Nat} {S0 : MS} {k34 : Int32 → MS → Option MS} (hk34 : ∀ (x2 : Int32) (S : MS) (q : MS), k34 x2 S = some q → XM G m0 mX4_expression 6 S0 none q 34 [(0, .ref m0), (2, .int x2)] [] S) (x2 : Int32) (S : MS) (q : MS) (hf : m_expression_264 k34 x2 S = some q) : XM G m0 mX4_expression 6 S0 none q 264 [(0, .ref m0), (2, .int x2)] [] S := by
  intro h N Z
  unfold m_expression_264 at hf
  refine X.aload_n dX4_expression_264 rfl 0 rfl ?_
  refine X.bipush (v := 6) dX4_expression_265 (by decide) ?_
  obtain ⟨q267, h267, hf⟩ := ob hf
  refine X.callVv (As := [.int (6 : Int32)]) (rest := []) (T2 := (mh m0 h q267, N, Z)) dX4_expression_267 (w_drops h267 h N Z) cX4_221 rfl rfl (Nat.le_of_ble_eq_true rfl) mh_0 rfl rfl (xD (Nat.le_of_ble_eq_true rfl)) xleN xleN ?_
  refine X.aload_n dX4_expression_270 rfl 0 rfl ?_
  refine X.aload_n dX4_expression_271 rfl 0 rfl ?_
  refine X.bipush (v := 42) dX4_expression_272 (by decide) ?_
  obtain ⟨q274, h274, hf⟩ := ob hf
  refine X.callVi (As := [.int (42 : Int32)]) (rest := [.ref m0]) dX4_expression_274 (w_isSign h274 h N Z) cX4_209 rfl rfl (Nat.le_of_ble_eq_true rfl) mh_0 rfl rfl (xD (Nat.le_of_ble_eq_true rfl)) xleN xleN ?_
  refine X.if_eq (tgt := 285) dX4_expression_277 (by decide) (fun c277 => ?_) (fun c277 => ?_)
  · have hf := if_t c277 hf
    refine X.bipush (v := 11) dX4_expression_285 (by decide) ?_
    refine X.sub [0, 1] (L' := [(0, .ref m0), (2, .int x2)]) rfl ?_
    exact m_expression_287_ok hk34 _ _ _ _ hf h N Z
  · have hf := if_f c277 hf
    refine X.bipush (v := 10) dX4_expression_280 (by decide) ?_
    refine X.goto (tgt := 287) dX4_expression_282 (by decide) ?_
    refine X.sub [0, 1] (L' := [(0, .ref m0), (2, .int x2)]) rfl ?_
    exact m_expression_287_ok hk34 _ _ _ _ hf h N Z
def m_expression_325 (k34 : Int32 → MS → Option MS) (S : MS) : Option MS :=
  m_expression_327 k34 ((0 : Int32)) S
theorem m_expression_325_ok {G : xG} {m0 : Nat} {S0 : MS} {k34 : Int32 → MS → Option MS} (hk34 : ∀ (x2 : Int32) (S : MS) (q : MS), k34 x2 S = some q → XM G m0 mX4_expression 6 S0 none q 34 [(0, .ref m0), (2, .int x2)] [] S) (S : MS) (q : MS) (hf : m_expression_325 k34 S = some q) : XM G m0 mX4_expression 6 S0 none q 325 [(0, .ref m0)] [] S := by
  intro h N Z
  unfold m_expression_325 at hf
  refine X.iconst (v := 0) dX4_expression_325 (by decide) ?_
  refine X.istore_n (L' := [(2, .int (0 : Int32)), (0, .ref m0)]) dX4_expression_326 rfl (Nat.le_of_ble_eq_true rfl) rfl ?_
  refine X.sub [1, 0] (L' := [(0, .ref m0), (2, .int (0 : Int32))]) rfl ?_
  exact m_expression_327_ok hk34 _ _ _ hf h N Z
def m_expression_191 (k34 : Int32 → MS → Option MS) (x2 : Int32) (S : MS) : Option MS :=
  (m_isSign ((43 : Int32)) S).bind fun q194 =>
  if q194 = 0 then
    (m_isSign ((45 : Int32)) S).bind fun q203 =>
    if q203 = 0 then
      (m_isSign ((42 : Int32)) S).bind fun q249 =>
      if q249 = 0 then
        (m_isSign ((47 : Int32)) S).bind fun q258 =>
        if q258 = 0 then
          (m_isSign ((41 : Int32)) S).bind fun q305 =>
          if q305 = 0 then
            m_expression_325 k34 S
          else
            (m_isOpened S).bind fun q312 =>
            if q312 = 0 then
              m_expression_325 k34 S
            else
              (m_closes S).bind fun q319 =>
              m_expression_327 k34 x2 q319
        else
          m_expression_264 k34 x2 S
      else
        m_expression_264 k34 x2 S
    else
      m_expression_209 k34 x2 S
  else
    m_expression_209 k34 x2 S
theorem m_expression_191_ok {G : xG} {m0 : Nat} {S0 : MS} {k34 : Int32 → MS → Option MS} (hk34 : ∀ (x2 : Int32) (S : MS) (q : MS), k34 x2 S = some q → XM G m0 mX4_expression 6 S0 none q 34 [(0, .ref m0), (2, .int x2)] [] S) (x2 : Int32) (S : MS) (q : MS) (hf : m_expression_191 k34 x2 S = some q) : XM G m0 mX4_expression 6 S0 none q 191 [(0, .ref m0), (2, .int x2)] [] S := by
  intro h N Z
  unfold m_expression_191 at hf
  refine X.aload_n dX4_expression_191 rfl 0 rfl ?_
  refine X.bipush (v := 43) dX4_expression_192 (by decide) ?_
  obtain ⟨q194, h194, hf⟩ := ob hf
  refine X.callVi (As := [.int (43 : Int32)]) (rest := []) dX4_expression_194 (w_isSign h194 h N Z) cX4_209 rfl rfl (Nat.le_of_ble_eq_true rfl) mh_0 rfl rfl (xD (Nat.le_of_ble_eq_true rfl)) xleN xleN ?_
  refine X.if_ne (tgt := 209) dX4_expression_197 (by decide) (fun c197 => ?_) (fun c197 => ?_)
  · have hf := if_f c197 hf
    refine X.sub [0, 1] (L' := [(0, .ref m0), (2, .int x2)]) rfl ?_
    exact m_expression_209_ok hk34 _ _ _ hf h N Z
  · have hf := if_t c197 hf
    refine X.aload_n dX4_expression_200 rfl 0 rfl ?_
    refine X.bipush (v := 45) dX4_expression_201 (by decide) ?_
    obtain ⟨q203, h203, hf⟩ := ob hf
    refine X.callVi (As := [.int (45 : Int32)]) (rest := []) dX4_expression_203 (w_isSign h203 h N Z) cX4_209 rfl rfl (Nat.le_of_ble_eq_true rfl) mh_0 rfl rfl (xD (Nat.le_of_ble_eq_true rfl)) xleN xleN ?_
    refine X.if_eq (tgt := 246) dX4_expression_206 (by decide) (fun c206 => ?_) (fun c206 => ?_)
    · have hf := if_t c206 hf
      refine X.aload_n dX4_expression_246 rfl 0 rfl ?_
      refine X.bipush (v := 42) dX4_expression_247 (by decide) ?_
      obtain ⟨q249, h249, hf⟩ := ob hf
      refine X.callVi (As := [.int (42 : Int32)]) (rest := []) dX4_expression_249 (w_isSign h249 h N Z) cX4_209 rfl rfl (Nat.le_of_ble_eq_true rfl) mh_0 rfl rfl (xD (Nat.le_of_ble_eq_true rfl)) xleN xleN ?_
      refine X.if_ne (tgt := 264) dX4_expression_252 (by decide) (fun c252 => ?_) (fun c252 => ?_)
      · have hf := if_f c252 hf
        refine X.sub [0, 1] (L' := [(0, .ref m0), (2, .int x2)]) rfl ?_
        exact m_expression_264_ok hk34 _ _ _ hf h N Z
      · have hf := if_t c252 hf
        refine X.aload_n dX4_expression_255 rfl 0 rfl ?_
        refine X.bipush (v := 47) dX4_expression_256 (by decide) ?_
        obtain ⟨q258, h258, hf⟩ := ob hf
        refine X.callVi (As := [.int (47 : Int32)]) (rest := []) dX4_expression_258 (w_isSign h258 h N Z) cX4_209 rfl rfl (Nat.le_of_ble_eq_true rfl) mh_0 rfl rfl (xD (Nat.le_of_ble_eq_true rfl)) xleN xleN ?_
        refine X.if_eq (tgt := 302) dX4_expression_261 (by decide) (fun c261 => ?_) (fun c261 => ?_)
        · have hf := if_t c261 hf
          refine X.aload_n dX4_expression_302 rfl 0 rfl ?_
          refine X.bipush (v := 41) dX4_expression_303 (by decide) ?_
          obtain ⟨q305, h305, hf⟩ := ob hf
          refine X.callVi (As := [.int (41 : Int32)]) (rest := []) dX4_expression_305 (w_isSign h305 h N Z) cX4_209 rfl rfl (Nat.le_of_ble_eq_true rfl) mh_0 rfl rfl (xD (Nat.le_of_ble_eq_true rfl)) xleN xleN ?_
          refine X.if_eq (tgt := 325) dX4_expression_308 (by decide) (fun c308 => ?_) (fun c308 => ?_)
          · have hf := if_t c308 hf
            refine X.sub [0] (L' := [(0, .ref m0)]) rfl ?_
            exact m_expression_325_ok hk34 _ _ hf h N Z
          · have hf := if_f c308 hf
            refine X.aload_n dX4_expression_311 rfl 0 rfl ?_
            obtain ⟨q312, h312, hf⟩ := ob hf
            refine X.callVi (As := []) (rest := []) dX4_expression_312 (w_isOpened h312 h N Z) cX4_228 rfl rfl (Nat.le_of_ble_eq_true rfl) mh_0 rfl rfl (xD (Nat.le_of_ble_eq_true rfl)) xleN xleN ?_
            refine X.if_eq (tgt := 325) dX4_expression_315 (by decide) (fun c315 => ?_) (fun c315 => ?_)
            · have hf := if_t c315 hf
              refine X.sub [0] (L' := [(0, .ref m0)]) rfl ?_
              exact m_expression_325_ok hk34 _ _ hf h N Z
            · have hf := if_f c315 hf
              refine X.aload_n dX4_expression_318 rfl 0 rfl ?_
              obtain ⟨q319, h319, hf⟩ := ob hf
              refine X.callVv (As := []) (rest := []) (T2 := (mh m0 h q319, N, Z)) dX4_expression_319 (w_closes h319 h N Z) cX4_231 rfl rfl (Nat.le_of_ble_eq_true rfl) mh_0 rfl rfl (xD (Nat.le_of_ble_eq_true rfl)) xleN xleN ?_
              refine X.goto (tgt := 327) dX4_expression_322 (by decide) ?_
              refine X.sub [0, 1] (L' := [(0, .ref m0), (2, .int x2)]) rfl ?_
              exact m_expression_327_ok hk34 _ _ _ hf h N Z
        · have hf := if_f c261 hf
          refine X.sub [0, 1] (L' := [(0, .ref m0), (2, .int x2)]) rfl ?_
          exact m_expression_264_ok hk34 _ _ _ hf h N Z
    · have hf := if_f c206 hf
      refine X.sub [0, 1] (L' := [(0, .ref m0), (2, .int x2)]) rfl ?_
      exact m_expression_209_ok hk34 _ _ _ hf h N Z
def m_expression_132 (k34 : Int32 → MS → Option MS) (x2 : Int32) (S : MS) : Option MS :=
  (rdA S 11 (S.1 35)).bind fun v140 =>
  if v140 = 0 then
    (m_drops ((4 : Int32)) S).bind fun q146 =>
    (m_isSign ((60 : Int32)) q146).bind fun q153 =>
    if q153 = 0 then
      m_expression_166 k34 x2 ((7 : Int32)) q146
    else
      m_expression_166 k34 x2 ((6 : Int32)) q146
  else
    m_expression_191 k34 x2 S
theorem m_expression_132_ok {G : xG} {m0 : Nat} {S0 : MS} {k34 : Int32 → MS → Option MS} (hk34 : ∀ (x2 : Int32) (S : MS) (q : MS), k34 x2 S = some q → XM G m0 mX4_expression 6 S0 none q 34 [(0, .ref m0), (2, .int x2)] [] S) (x2 : Int32) (S : MS) (q : MS) (hf : m_expression_132 k34 x2 S = some q) : XM G m0 mX4_expression 6 S0 none q 132 [(0, .ref m0), (2, .int x2)] [] S := by
  intro h N Z
  unfold m_expression_132 at hf
  refine X.aload_n dX4_expression_132 rfl 0 rfl ?_
  refine M.get (v := .ref (m0 + 11)) dX4_expression_133 fX4_62 (Nat.le_of_ble_eq_true rfl) rfl ?_
  refine X.aload_n dX4_expression_136 rfl 0 rfl ?_
  refine M.get (v := .int (S.1 35)) dX4_expression_137 fX4_206 (Nat.le_of_ble_eq_true rfl) rfl ?_
  obtain ⟨v140, h140, hf⟩ := ob hf
  refine M.zald dX4_expression_140 (Nat.le_of_ble_eq_true rfl) (Nat.le_of_ble_eq_true rfl) rfl h140 ?_
  refine X.if_ne (tgt := 191) dX4_expression_141 (by decide) (fun c141 => ?_) (fun c141 => ?_)
  · have hf := if_f c141 hf
    refine X.sub [0, 1] (L' := [(0, .ref m0), (2, .int x2)]) rfl ?_
    exact m_expression_191_ok hk34 _ _ _ hf h N Z
  · have hf := if_t c141 hf
    refine X.aload_n dX4_expression_144 rfl 0 rfl ?_
    refine X.iconst (v := 4) dX4_expression_145 (by decide) ?_
    obtain ⟨q146, h146, hf⟩ := ob hf
    refine X.callVv (As := [.int (4 : Int32)]) (rest := []) (T2 := (mh m0 h q146, N, Z)) dX4_expression_146 (w_drops h146 h N Z) cX4_221 rfl rfl (Nat.le_of_ble_eq_true rfl) mh_0 rfl rfl (xD (Nat.le_of_ble_eq_true rfl)) xleN xleN ?_
    refine X.aload_n dX4_expression_149 rfl 0 rfl ?_
    refine X.aload_n dX4_expression_150 rfl 0 rfl ?_
    refine X.bipush (v := 60) dX4_expression_151 (by decide) ?_
    obtain ⟨q153, h153, hf⟩ := ob hf
    refine X.callVi (As := [.int (60 : Int32)]) (rest := [.ref m0]) dX4_expression_153 (w_isSign h153 h N Z) cX4_209 rfl rfl (Nat.le_of_ble_eq_true rfl) mh_0 rfl rfl (xD (Nat.le_of_ble_eq_true rfl)) xleN xleN ?_
    refine X.if_eq (tgt := 164) dX4_expression_156 (by decide) (fun c156 => ?_) (fun c156 => ?_)
    · have hf := if_t c156 hf
      refine X.bipush (v := 7) dX4_expression_164 (by decide) ?_
      refine X.sub [0, 1] (L' := [(0, .ref m0), (2, .int x2)]) rfl ?_
      exact m_expression_166_ok hk34 _ _ _ _ hf h N Z
    · have hf := if_f c156 hf
      refine X.bipush (v := 6) dX4_expression_159 (by decide) ?_
      refine X.goto (tgt := 166) dX4_expression_161 (by decide) ?_
      refine X.sub [0, 1] (L' := [(0, .ref m0), (2, .int x2)]) rfl ?_
      exact m_expression_166_ok hk34 _ _ _ _ hf h N Z
def m_expression_350  (S : MS) : Option MS :=
  (m_drops ((0 : Int32)) S).bind fun q352 =>
  (m_puts ((0 : Int32)) q352).bind fun q357 =>
  some q357
theorem m_expression_350_ok {G : xG} {m0 : Nat} {S0 : MS}   (S : MS) (q : MS) (hf : m_expression_350 S = some q) : XM G m0 mX4_expression 6 S0 none q 350 [(0, .ref m0)] [] S := by
  intro h N Z
  unfold m_expression_350 at hf
  refine X.aload_n dX4_expression_350 rfl 0 rfl ?_
  refine X.iconst (v := 0) dX4_expression_351 (by decide) ?_
  obtain ⟨q352, h352, hf⟩ := ob hf
  refine X.callVv (As := [.int (0 : Int32)]) (rest := []) (T2 := (mh m0 h q352, N, Z)) dX4_expression_352 (w_drops h352 h N Z) cX4_221 rfl rfl (Nat.le_of_ble_eq_true rfl) mh_0 rfl rfl (xD (Nat.le_of_ble_eq_true rfl)) xleN xleN ?_
  refine X.aload_n dX4_expression_355 rfl 0 rfl ?_
  refine X.iconst (v := 0) dX4_expression_356 (by decide) ?_
  obtain ⟨q357, h357, hf⟩ := ob hf
  refine X.callVv (As := [.int (0 : Int32)]) (rest := []) (T2 := (mh m0 h q357, N, Z)) dX4_expression_357 (w_puts h357 h N Z) cX4_196 rfl rfl (Nat.le_of_ble_eq_true rfl) mh_0 rfl rfl (xD (Nat.le_of_ble_eq_true rfl)) xleN xleN ?_
  obtain rfl := Option.some.inj hf
  exact X.vret dX4_expression_360 rfl rfl
def m_expression_330  (S : MS) : Option MS :=
  (m_isGood S).bind fun q331 =>
  if q331 = 0 then
    m_expression_350 S
  else
    if (S.1 35) ≤ (1 : Int32) then
      m_expression_350 S
    else
      (m_wrong ((1 : Int32)) S).bind fun q347 =>
      m_expression_350 q347
theorem m_expression_330_ok {G : xG} {m0 : Nat} {S0 : MS}   (S : MS) (q : MS) (hf : m_expression_330 S = some q) : XM G m0 mX4_expression 6 S0 none q 330 [(0, .ref m0)] [] S := by
  intro h N Z
  unfold m_expression_330 at hf
  refine X.aload_n dX4_expression_330 rfl 0 rfl ?_
  obtain ⟨q331, h331, hf⟩ := ob hf
  refine X.callVi (As := []) (rest := []) dX4_expression_331 (w_isGood h331 h N Z) cX4_174 rfl rfl (Nat.le_of_ble_eq_true rfl) mh_0 rfl rfl (xD (Nat.le_of_ble_eq_true rfl)) xleN xleN ?_
  refine X.if_eq (tgt := 350) dX4_expression_334 (by decide) (fun c334 => ?_) (fun c334 => ?_)
  · have hf := if_t c334 hf
    refine X.sub [0] (L' := [(0, .ref m0)]) rfl ?_
    exact m_expression_350_ok _ _ hf h N Z
  · have hf := if_f c334 hf
    refine X.aload_n dX4_expression_337 rfl 0 rfl ?_
    refine M.get (v := .int (S.1 35)) dX4_expression_338 fX4_206 (Nat.le_of_ble_eq_true rfl) rfl ?_
    refine X.iconst (v := 1) dX4_expression_341 (by decide) ?_
    refine X.icmp_le (tgt := 350) dX4_expression_342 (by decide) (fun c342 => ?_) (fun c342 => ?_)
    · have hf := if_t c342 hf
      refine X.sub [0] (L' := [(0, .ref m0)]) rfl ?_
      exact m_expression_350_ok _ _ hf h N Z
    · have hf := if_f c342 hf
      refine X.aload_n dX4_expression_345 rfl 0 rfl ?_
      refine X.iconst (v := 1) dX4_expression_346 (by decide) ?_
      obtain ⟨q347, h347, hf⟩ := ob hf
      refine X.callVv (As := [.int (1 : Int32)]) (rest := []) (T2 := (mh m0 h q347, N, Z)) dX4_expression_347 (w_wrong h347 h N Z) cX4_181 rfl rfl (Nat.le_of_ble_eq_true rfl) mh_0 rfl rfl (xD (Nat.le_of_ble_eq_true rfl)) xleN xleN ?_
      refine X.sub [0] (L' := [(0, .ref m0)]) rfl ?_
      exact m_expression_350_ok _ _ hf h N Z
def m_expression_34_b  (k34 : Int32 → MS → Option MS) (x2 : Int32) (S : MS) : Option MS :=
  if x2 = 0 then
    m_expression_330 S
  else
    (m_isGood S).bind fun q39 =>
    if q39 = 0 then
      m_expression_330 S
    else
      (m_knownWord S).bind fun q46 =>
      if q46 = (15 : Int32) then
        m_expression_62 k34 x2 q46 S
      else
        if q46 = (16 : Int32) then
          m_expression_62 k34 x2 q46 S
        else
          (m_isSign ((60 : Int32)) S).bind fun q117 =>
          if q117 = 0 then
            (m_isSign ((61 : Int32)) S).bind fun q126 =>
            if q126 = 0 then
              m_expression_191 k34 x2 S
            else
              m_expression_132 k34 x2 S
          else
            m_expression_132 k34 x2 S
def m_expression_34  : Nat → Int32 → MS → Option MS
  | 0 => fun _ _ => none
  | n + 1 => fun x2 S => m_expression_34_b (m_expression_34 n) x2 S
theorem m_expression_34_bok {G : xG} {m0 : Nat} {S0 : MS}  {k34 : Int32 → MS → Option MS}  (hk34 : ∀ (x2 : Int32) (S : MS) (q : MS), k34 x2 S = some q → XM G m0 mX4_expression 6 S0 none q 34 [(0, .ref m0), (2, .int x2)] [] S) (x2 : Int32) (S : MS) (q : MS) (hf : m_expression_34_b k34 x2 S = some q) : XM G m0 mX4_expression 6 S0 none q 34 [(0, .ref m0), (2, .int x2)] [] S := by
  intro h N Z
  unfold m_expression_34_b at hf
  refine X.iload_n dX4_expression_34 rfl 1 rfl ?_
  refine X.if_eq (tgt := 330) dX4_expression_35 (by decide) (fun c35 => ?_) (fun c35 => ?_)
  · have hf := if_t c35 hf
    refine X.sub [0] (L' := [(0, .ref m0)]) rfl ?_
    exact m_expression_330_ok _ _ hf h N Z
  · have hf := if_f c35 hf
    refine X.aload_n dX4_expression_38 rfl 0 rfl ?_
    obtain ⟨q39, h39, hf⟩ := ob hf
    refine X.callVi (As := []) (rest := []) dX4_expression_39 (w_isGood h39 h N Z) cX4_174 rfl rfl (Nat.le_of_ble_eq_true rfl) mh_0 rfl rfl (xD (Nat.le_of_ble_eq_true rfl)) xleN xleN ?_
    refine X.if_eq (tgt := 330) dX4_expression_42 (by decide) (fun c42 => ?_) (fun c42 => ?_)
    · have hf := if_t c42 hf
      refine X.sub [0] (L' := [(0, .ref m0)]) rfl ?_
      exact m_expression_330_ok _ _ hf h N Z
    · have hf := if_f c42 hf
      refine X.aload_n dX4_expression_45 rfl 0 rfl ?_
      obtain ⟨q46, h46, hf⟩ := ob hf
      refine X.callVi (As := []) (rest := []) dX4_expression_46 (w_knownWord h46 h N Z) cX4_199 rfl rfl (Nat.le_of_ble_eq_true rfl) mh_0 rfl rfl (xD (Nat.le_of_ble_eq_true rfl)) xleN xleN ?_
      refine X.istore_n (L' := [(3, .int q46), (0, .ref m0), (2, .int x2)]) dX4_expression_49 rfl (Nat.le_of_ble_eq_true rfl) rfl ?_
      refine X.iload_n dX4_expression_50 rfl 0 rfl ?_
      refine X.bipush (v := 15) dX4_expression_51 (by decide) ?_
      refine X.icmp_eq (tgt := 62) dX4_expression_53 (by decide) (fun c53 => ?_) (fun c53 => ?_)
      · have hf := if_t c53 hf
        refine X.sub [1, 2, 0] (L' := [(0, .ref m0), (2, .int x2), (3, .int q46)]) rfl ?_
        exact m_expression_62_ok hk34 _ _ _ _ hf h N Z
      · have hf := if_f c53 hf
        refine X.iload_n dX4_expression_56 rfl 0 rfl ?_
        refine X.bipush (v := 16) dX4_expression_57 (by decide) ?_
        refine X.icmp_ne (tgt := 114) dX4_expression_59 (by decide) (fun c59 => ?_) (fun c59 => ?_)
        · have hf := if_f c59 hf
          refine X.aload_n dX4_expression_114 rfl 1 rfl ?_
          refine X.bipush (v := 60) dX4_expression_115 (by decide) ?_
          obtain ⟨q117, h117, hf⟩ := ob hf
          refine X.callVi (As := [.int (60 : Int32)]) (rest := []) dX4_expression_117 (w_isSign h117 h N Z) cX4_209 rfl rfl (Nat.le_of_ble_eq_true rfl) mh_0 rfl rfl (xD (Nat.le_of_ble_eq_true rfl)) xleN xleN ?_
          refine X.if_ne (tgt := 132) dX4_expression_120 (by decide) (fun c120 => ?_) (fun c120 => ?_)
          · have hf := if_f c120 hf
            refine X.sub [1, 2] (L' := [(0, .ref m0), (2, .int x2)]) rfl ?_
            exact m_expression_132_ok hk34 _ _ _ hf h N Z
          · have hf := if_t c120 hf
            refine X.aload_n dX4_expression_123 rfl 1 rfl ?_
            refine X.bipush (v := 61) dX4_expression_124 (by decide) ?_
            obtain ⟨q126, h126, hf⟩ := ob hf
            refine X.callVi (As := [.int (61 : Int32)]) (rest := []) dX4_expression_126 (w_isSign h126 h N Z) cX4_209 rfl rfl (Nat.le_of_ble_eq_true rfl) mh_0 rfl rfl (xD (Nat.le_of_ble_eq_true rfl)) xleN xleN ?_
            refine X.if_eq (tgt := 191) dX4_expression_129 (by decide) (fun c129 => ?_) (fun c129 => ?_)
            · have hf := if_t c129 hf
              refine X.sub [1, 2] (L' := [(0, .ref m0), (2, .int x2)]) rfl ?_
              exact m_expression_191_ok hk34 _ _ _ hf h N Z
            · have hf := if_f c129 hf
              refine X.sub [1, 2] (L' := [(0, .ref m0), (2, .int x2)]) rfl ?_
              exact m_expression_132_ok hk34 _ _ _ hf h N Z
        · have hf := if_t c59 hf
          refine X.sub [1, 2, 0] (L' := [(0, .ref m0), (2, .int x2), (3, .int q46)]) rfl ?_
          exact m_expression_62_ok hk34 _ _ _ _ hf h N Z
theorem m_expression_34_ok {G : xG} {m0 : Nat} {S0 : MS}   : ∀ (n : Nat) (x2 : Int32) (S : MS) (q : MS), m_expression_34 n x2 S = some q → XM G m0 mX4_expression 6 S0 none q 34 [(0, .ref m0), (2, .int x2)] [] S
  | 0, _, _, _, hf => by cases hf
  | n + 1, x2, S, q, hf => m_expression_34_bok (m_expression_34_ok n) x2 S q hf
def m_expression (x1 : Int32) (S : MS) : Option MS :=
  (m_isGood S).bind fun q1 =>
  if q1 = 0 then
    some S
  else
    (m_deeper ((sF ((sF ((sF S 36 x1)) 34 (0 : Int32))) 35 (0 : Int32)))).bind fun q24 =>
    (m_operand ((1 : Int32)) q24).bind fun q29 =>
    m_expression_34 FU ((1 : Int32)) q29
theorem w_expression {G : xG} {m0 : Nat} {x1 : Int32} {S : MS} {q : MS} (hf : m_expression x1 S = some q) : CtM G m0 mX4_expression 6 S [.ref m0, .int x1] none q := by
  intro h N Z
  refine Ct.of (by decide +kernel) rfl (Nat.le_of_ble_eq_true rfl) (show Xr G _ 0 [(0, .ref m0), (1, .int x1)] [] _ from ?_)
  unfold m_expression at hf
  refine X.aload_n dX4_expression_0 rfl 0 rfl ?_
  obtain ⟨q1, h1, hf⟩ := ob hf
  refine X.callVi (As := []) (rest := []) dX4_expression_1 (w_isGood h1 h N Z) cX4_174 rfl rfl (Nat.le_of_ble_eq_true rfl) mh_0 rfl rfl (xD (Nat.le_of_ble_eq_true rfl)) xleN xleN ?_
  refine X.if_ne (tgt := 8) dX4_expression_4 (by decide) (fun c4 => ?_) (fun c4 => ?_)
  · have hf := if_f c4 hf
    refine X.aload_n dX4_expression_8 rfl 0 rfl ?_
    refine X.iload_n dX4_expression_9 rfl 1 rfl ?_
    refine M.putI dX4_expression_10 fX4_203 (by decide) rfl rfl rfl ?_
    refine X.aload_n dX4_expression_13 rfl 0 rfl ?_
    refine X.iconst (v := 0) dX4_expression_14 (by decide) ?_
    refine M.putI dX4_expression_15 fX4_187 (by decide) rfl rfl rfl ?_
    refine X.aload_n dX4_expression_18 rfl 0 rfl ?_
    refine X.iconst (v := 0) dX4_expression_19 (by decide) ?_
    refine M.putI dX4_expression_20 fX4_206 (by decide) rfl rfl rfl ?_
    refine X.aload_n dX4_expression_23 rfl 0 rfl ?_
    obtain ⟨q24, h24, hf⟩ := ob hf
    refine X.callVv (As := []) (rest := []) (T2 := (mh m0 h q24, N, Z)) dX4_expression_24 (w_deeper h24 h N Z) cX4_215 rfl rfl (Nat.le_of_ble_eq_true rfl) mh_0 rfl rfl (xD (Nat.le_of_ble_eq_true rfl)) xleN xleN ?_
    refine X.aload_n dX4_expression_27 rfl 0 rfl ?_
    refine X.iconst (v := 1) dX4_expression_28 (by decide) ?_
    obtain ⟨q29, h29, hf⟩ := ob hf
    refine X.callVv (As := [.int (1 : Int32)]) (rest := []) (T2 := (mh m0 h q29, N, Z)) dX4_expression_29 (w_operand h29 h N Z) cX4_224 rfl rfl (Nat.le_of_ble_eq_true rfl) mh_0 rfl rfl (xD (Nat.le_of_ble_eq_true rfl)) xleN xleN ?_
    refine X.iconst (v := 1) dX4_expression_32 (by decide) ?_
    refine X.istore_n (L' := [(2, .int (1 : Int32)), (0, .ref m0), (1, .int x1)]) dX4_expression_33 rfl (Nat.le_of_ble_eq_true rfl) rfl ?_
    refine X.sub [1, 0] (L' := [(0, .ref m0), (2, .int (1 : Int32))]) rfl ?_
    exact m_expression_34_ok FU _ _ _ hf h N Z
  · have hf := if_t c4 hf
    obtain rfl := Option.some.inj hf
    exact X.vret dX4_expression_7 rfl rfl
theorem cX4_281 : xCV RX4 281 mX4_expression 1 := ⟨lw_V q1846 q1848 qs69 q127 q1849, rfl, ⟨by decide +kernel, by decide +kernel, by decide +kernel⟩, Nat.le_of_ble_eq_true rfl⟩
/-! begins -/
abbrev cX4_begins : ByteArray := prog_12_method_36_code
def yX4_begins : MethodName := ⟨RX4, "begins", "(ZZZ)Z"⟩
def dkwX4_begins_1 : List UInt8 := [182, 0, 181, 42, 182, 0, 174, 154, 0, 5, 3, 172, 42, 182, 0, 178, 4, 172]
abbrev dktX4_begins_1 : List UInt8 := dkwX4_begins_1 ++ []
def dkwX4_begins_0 : List UInt8 := [27, 153, 0, 8, 42, 5, 182, 0, 181, 28, 153, 0, 8, 42, 7, 182, 0, 181, 29, 153, 0, 8, 42, 8]
abbrev dktX4_begins_0 : List UInt8 := dkwX4_begins_0 ++ dktX4_begins_1
theorem dksX4_begins_0 : cX4_begins.data.toList.drop 0 = dktX4_begins_0 := by decide +kernel
theorem dksX4_begins_1 : cX4_begins.data.toList.drop 24 = dktX4_begins_1 := dk_seg dksX4_begins_0 24 rfl rfl
theorem dX4_begins_0 : decode cX4_begins 0 = .ok (.iload_n 1, 1) := dk_27 (dk_at dksX4_begins_0 0 rfl rfl)
theorem dX4_begins_1 : decode cX4_begins 1 = .ok (.ifCond .eq 8, 3) := dk_153 0 8 (dk_at dksX4_begins_0 1 rfl rfl)
theorem dX4_begins_4 : decode cX4_begins 4 = .ok (.aload_n 0, 1) := dk_42 (dk_at dksX4_begins_0 4 rfl rfl)
theorem dX4_begins_5 : decode cX4_begins 5 = .ok (.iconst 2, 1) := dk_5 (dk_at dksX4_begins_0 5 rfl rfl)
theorem dX4_begins_6 : decode cX4_begins 6 = .ok (.invokevirtual 181, 3) := dk_182 0 181 (dk_at dksX4_begins_0 6 rfl rfl)
theorem dX4_begins_9 : decode cX4_begins 9 = .ok (.iload_n 2, 1) := dk_28 (dk_at dksX4_begins_0 9 rfl rfl)
theorem dX4_begins_10 : decode cX4_begins 10 = .ok (.ifCond .eq 8, 3) := dk_153 0 8 (dk_at dksX4_begins_0 10 rfl rfl)
theorem dX4_begins_13 : decode cX4_begins 13 = .ok (.aload_n 0, 1) := dk_42 (dk_at dksX4_begins_0 13 rfl rfl)
theorem dX4_begins_14 : decode cX4_begins 14 = .ok (.iconst 4, 1) := dk_7 (dk_at dksX4_begins_0 14 rfl rfl)
theorem dX4_begins_15 : decode cX4_begins 15 = .ok (.invokevirtual 181, 3) := dk_182 0 181 (dk_at dksX4_begins_0 15 rfl rfl)
theorem dX4_begins_18 : decode cX4_begins 18 = .ok (.iload_n 3, 1) := dk_29 (dk_at dksX4_begins_0 18 rfl rfl)
theorem dX4_begins_19 : decode cX4_begins 19 = .ok (.ifCond .eq 8, 3) := dk_153 0 8 (dk_at dksX4_begins_0 19 rfl rfl)
theorem dX4_begins_22 : decode cX4_begins 22 = .ok (.aload_n 0, 1) := dk_42 (dk_at dksX4_begins_0 22 rfl rfl)
theorem dX4_begins_23 : decode cX4_begins 23 = .ok (.iconst 5, 1) := dk_8 (dk_at dksX4_begins_0 23 rfl rfl)
theorem dX4_begins_24 : decode cX4_begins 24 = .ok (.invokevirtual 181, 3) := dk_182 0 181 (dk_at dksX4_begins_1 0 rfl rfl)
theorem dX4_begins_27 : decode cX4_begins 27 = .ok (.aload_n 0, 1) := dk_42 (dk_at dksX4_begins_1 3 rfl rfl)
theorem dX4_begins_28 : decode cX4_begins 28 = .ok (.invokevirtual 174, 3) := dk_182 0 174 (dk_at dksX4_begins_1 4 rfl rfl)
theorem dX4_begins_31 : decode cX4_begins 31 = .ok (.ifCond .ne 5, 3) := dk_154 0 5 (dk_at dksX4_begins_1 7 rfl rfl)
theorem dX4_begins_34 : decode cX4_begins 34 = .ok (.iconst 0, 1) := dk_3 (dk_at dksX4_begins_1 10 rfl rfl)
theorem dX4_begins_35 : decode cX4_begins 35 = .ok (.ireturn, 1) := dk_172 (dk_at dksX4_begins_1 11 rfl rfl)
theorem dX4_begins_36 : decode cX4_begins 36 = .ok (.aload_n 0, 1) := dk_42 (dk_at dksX4_begins_1 12 rfl rfl)
theorem dX4_begins_37 : decode cX4_begins 37 = .ok (.invokevirtual 178, 3) := dk_182 0 178 (dk_at dksX4_begins_1 13 rfl rfl)
theorem dX4_begins_40 : decode cX4_begins 40 = .ok (.iconst 1, 1) := dk_4 (dk_at dksX4_begins_1 16 rfl rfl)
theorem dX4_begins_41 : decode cX4_begins 41 = .ok (.ireturn, 1) := dk_172 (dk_at dksX4_begins_1 17 rfl rfl)
abbrev mX4_begins : xM := (yX4_begins, cX4_begins, 4, (some .boolean), [])
def m_begins_27  (S : MS) : Option (Int32 × MS) :=
  (m_isGood S).bind fun q28 =>
  if q28 = 0 then
    some ((0 : Int32), S)
  else
    (m_goes S).bind fun q37 =>
    some ((1 : Int32), q37)
theorem m_begins_27_ok {G : xG} {m0 : Nat} {S0 : MS}   (S : MS) (q : (Int32 × MS)) (hf : m_begins_27 S = some q) : XM G m0 mX4_begins 3 S0 (some (.int q.1)) q.2 27 [(0, .ref m0)] [] S := by
  intro h N Z
  unfold m_begins_27 at hf
  refine X.aload_n dX4_begins_27 rfl 0 rfl ?_
  obtain ⟨q28, h28, hf⟩ := ob hf
  refine X.callVi (As := []) (rest := []) dX4_begins_28 (w_isGood h28 h N Z) cX4_174 rfl rfl (Nat.le_of_ble_eq_true rfl) mh_0 rfl rfl (xD (Nat.le_of_ble_eq_true rfl)) xleN xleN ?_
  refine X.if_ne (tgt := 36) dX4_begins_31 (by decide) (fun c31 => ?_) (fun c31 => ?_)
  · have hf := if_f c31 hf
    refine X.aload_n dX4_begins_36 rfl 0 rfl ?_
    obtain ⟨q37, h37, hf⟩ := ob hf
    refine X.callVv (As := []) (rest := []) (T2 := (mh m0 h q37, N, Z)) dX4_begins_37 (w_goes h37 h N Z) cX4_178 rfl rfl (Nat.le_of_ble_eq_true rfl) mh_0 rfl rfl (xD (Nat.le_of_ble_eq_true rfl)) xleN xleN ?_
    refine X.iconst (v := 1) dX4_begins_40 (by decide) ?_
    obtain rfl := Option.some.inj hf
    exact X.iret dX4_begins_41 rfl rfl rfl
  · have hf := if_t c31 hf
    refine X.iconst (v := 0) dX4_begins_34 (by decide) ?_
    obtain rfl := Option.some.inj hf
    exact X.iret dX4_begins_35 rfl rfl rfl
def m_begins_18  (x3 : Int32) (S : MS) : Option (Int32 × MS) :=
  if x3 = 0 then
    m_begins_27 S
  else
    (m_wrong ((5 : Int32)) S).bind fun q24 =>
    m_begins_27 q24
theorem m_begins_18_ok {G : xG} {m0 : Nat} {S0 : MS}   (x3 : Int32) (S : MS) (q : (Int32 × MS)) (hf : m_begins_18 x3 S = some q) : XM G m0 mX4_begins 3 S0 (some (.int q.1)) q.2 18 [(0, .ref m0), (3, .int x3)] [] S := by
  intro h N Z
  unfold m_begins_18 at hf
  refine X.iload_n dX4_begins_18 rfl 1 rfl ?_
  refine X.if_eq (tgt := 27) dX4_begins_19 (by decide) (fun c19 => ?_) (fun c19 => ?_)
  · have hf := if_t c19 hf
    refine X.sub [0] (L' := [(0, .ref m0)]) rfl ?_
    exact m_begins_27_ok _ _ hf h N Z
  · have hf := if_f c19 hf
    refine X.aload_n dX4_begins_22 rfl 0 rfl ?_
    refine X.iconst (v := 5) dX4_begins_23 (by decide) ?_
    obtain ⟨q24, h24, hf⟩ := ob hf
    refine X.callVv (As := [.int (5 : Int32)]) (rest := []) (T2 := (mh m0 h q24, N, Z)) dX4_begins_24 (w_wrong h24 h N Z) cX4_181 rfl rfl (Nat.le_of_ble_eq_true rfl) mh_0 rfl rfl (xD (Nat.le_of_ble_eq_true rfl)) xleN xleN ?_
    refine X.sub [0] (L' := [(0, .ref m0)]) rfl ?_
    exact m_begins_27_ok _ _ hf h N Z
def m_begins_9  (x2 : Int32) (x3 : Int32) (S : MS) : Option (Int32 × MS) :=
  if x2 = 0 then
    m_begins_18 x3 S
  else
    (m_wrong ((4 : Int32)) S).bind fun q15 =>
    m_begins_18 x3 q15
theorem m_begins_9_ok {G : xG} {m0 : Nat} {S0 : MS}   (x2 : Int32) (x3 : Int32) (S : MS) (q : (Int32 × MS)) (hf : m_begins_9 x2 x3 S = some q) : XM G m0 mX4_begins 3 S0 (some (.int q.1)) q.2 9 [(0, .ref m0), (2, .int x2), (3, .int x3)] [] S := by
  intro h N Z
  unfold m_begins_9 at hf
  refine X.iload_n dX4_begins_9 rfl 1 rfl ?_
  refine X.if_eq (tgt := 18) dX4_begins_10 (by decide) (fun c10 => ?_) (fun c10 => ?_)
  · have hf := if_t c10 hf
    refine X.sub [0, 2] (L' := [(0, .ref m0), (3, .int x3)]) rfl ?_
    exact m_begins_18_ok _ _ _ hf h N Z
  · have hf := if_f c10 hf
    refine X.aload_n dX4_begins_13 rfl 0 rfl ?_
    refine X.iconst (v := 4) dX4_begins_14 (by decide) ?_
    obtain ⟨q15, h15, hf⟩ := ob hf
    refine X.callVv (As := [.int (4 : Int32)]) (rest := []) (T2 := (mh m0 h q15, N, Z)) dX4_begins_15 (w_wrong h15 h N Z) cX4_181 rfl rfl (Nat.le_of_ble_eq_true rfl) mh_0 rfl rfl (xD (Nat.le_of_ble_eq_true rfl)) xleN xleN ?_
    refine X.sub [0, 2] (L' := [(0, .ref m0), (3, .int x3)]) rfl ?_
    exact m_begins_18_ok _ _ _ hf h N Z
def m_begins (x1 : Int32) (x2 : Int32) (x3 : Int32) (S : MS) : Option (Int32 × MS) :=
  if x1 = 0 then
    m_begins_9 x2 x3 S
  else
    (m_wrong ((2 : Int32)) S).bind fun q6 =>
    m_begins_9 x2 x3 q6
theorem w_begins {G : xG} {m0 : Nat} {x1 : Int32} {x2 : Int32} {x3 : Int32} {S : MS} {q : (Int32 × MS)} (hf : m_begins x1 x2 x3 S = some q) : CtM G m0 mX4_begins 3 S [.ref m0, .int x1, .int x2, .int x3] (some (.int q.1)) q.2 := by
  intro h N Z
  refine Ct.of (by decide +kernel) rfl (Nat.le_of_ble_eq_true rfl) (show Xr G _ 0 [(0, .ref m0), (1, .int x1), (2, .int x2), (3, .int x3)] [] _ from ?_)
  unfold m_begins at hf
  refine X.iload_n dX4_begins_0 rfl 1 rfl ?_
  refine X.if_eq (tgt := 9) dX4_begins_1 (by decide) (fun c1 => ?_) (fun c1 => ?_)
  · have hf := if_t c1 hf
    refine X.sub [0, 2, 3] (L' := [(0, .ref m0), (2, .int x2), (3, .int x3)]) rfl ?_
    exact m_begins_9_ok _ _ _ _ hf h N Z
  · have hf := if_f c1 hf
    refine X.aload_n dX4_begins_4 rfl 0 rfl ?_
    refine X.iconst (v := 2) dX4_begins_5 (by decide) ?_
    obtain ⟨q6, h6, hf⟩ := ob hf
    refine X.callVv (As := [.int (2 : Int32)]) (rest := []) (T2 := (mh m0 h q6, N, Z)) dX4_begins_6 (w_wrong h6 h N Z) cX4_181 rfl rfl (Nat.le_of_ble_eq_true rfl) mh_0 rfl rfl (xD (Nat.le_of_ble_eq_true rfl)) xleN xleN ?_
    refine X.sub [0, 2, 3] (L' := [(0, .ref m0), (2, .int x2), (3, .int x3)]) rfl ?_
    exact m_begins_9_ok _ _ _ _ hf h N Z
theorem cX4_259 : xCV RX4 259 mX4_begins 3 := ⟨lw_V q1814 q1816 qs61 q127 q1817, rfl, ⟨by decide +kernel, by decide +kernel, by decide +kernel⟩, Nat.le_of_ble_eq_true rfl⟩
/-! hasAny -/
abbrev cX4_hasAny : ByteArray := prog_12_method_37_code
def yX4_hasAny : MethodName := ⟨RX4, "hasAny", "()Z"⟩
def dkwX4_hasAny_1 : List UInt8 := [96, 46, 2, 159, 0, 5, 4, 172, 132, 1, 1, 167, 255, 223, 3, 172]
abbrev dktX4_hasAny_1 : List UInt8 := dkwX4_hasAny_1 ++ []
def dkwX4_hasAny_0 : List UInt8 := [3, 60, 27, 16, 30, 162, 0, 33, 42, 180, 0, 66, 27, 51, 154, 0, 16, 42, 180, 0, 53, 16, 61, 27]
abbrev dktX4_hasAny_0 : List UInt8 := dkwX4_hasAny_0 ++ dktX4_hasAny_1
theorem dksX4_hasAny_0 : cX4_hasAny.data.toList.drop 0 = dktX4_hasAny_0 := by decide +kernel
theorem dksX4_hasAny_1 : cX4_hasAny.data.toList.drop 24 = dktX4_hasAny_1 := dk_seg dksX4_hasAny_0 24 rfl rfl
theorem dX4_hasAny_0 : decode cX4_hasAny 0 = .ok (.iconst 0, 1) := dk_3 (dk_at dksX4_hasAny_0 0 rfl rfl)
theorem dX4_hasAny_1 : decode cX4_hasAny 1 = .ok (.istore_n 1, 1) := dk_60 (dk_at dksX4_hasAny_0 1 rfl rfl)
theorem dX4_hasAny_2 : decode cX4_hasAny 2 = .ok (.iload_n 1, 1) := dk_27 (dk_at dksX4_hasAny_0 2 rfl rfl)
theorem dX4_hasAny_3 : decode cX4_hasAny 3 = .ok (.bipush 30, 2) := dk_16 30 (dk_at dksX4_hasAny_0 3 rfl rfl)
theorem dX4_hasAny_5 : decode cX4_hasAny 5 = .ok (.if_icmp .ge 33, 3) := dk_162 0 33 (dk_at dksX4_hasAny_0 5 rfl rfl)
theorem dX4_hasAny_8 : decode cX4_hasAny 8 = .ok (.aload_n 0, 1) := dk_42 (dk_at dksX4_hasAny_0 8 rfl rfl)
theorem dX4_hasAny_9 : decode cX4_hasAny 9 = .ok (.getfield 66, 3) := dk_180 0 66 (dk_at dksX4_hasAny_0 9 rfl rfl)
theorem dX4_hasAny_12 : decode cX4_hasAny 12 = .ok (.iload_n 1, 1) := dk_27 (dk_at dksX4_hasAny_0 12 rfl rfl)
theorem dX4_hasAny_13 : decode cX4_hasAny 13 = .ok (.baload, 1) := dk_51 (dk_at dksX4_hasAny_0 13 rfl rfl)
theorem dX4_hasAny_14 : decode cX4_hasAny 14 = .ok (.ifCond .ne 16, 3) := dk_154 0 16 (dk_at dksX4_hasAny_0 14 rfl rfl)
theorem dX4_hasAny_17 : decode cX4_hasAny 17 = .ok (.aload_n 0, 1) := dk_42 (dk_at dksX4_hasAny_0 17 rfl rfl)
theorem dX4_hasAny_18 : decode cX4_hasAny 18 = .ok (.getfield 53, 3) := dk_180 0 53 (dk_at dksX4_hasAny_0 18 rfl rfl)
theorem dX4_hasAny_21 : decode cX4_hasAny 21 = .ok (.bipush 61, 2) := dk_16 61 (dk_at dksX4_hasAny_0 21 rfl rfl)
theorem dX4_hasAny_23 : decode cX4_hasAny 23 = .ok (.iload_n 1, 1) := dk_27 (dk_at dksX4_hasAny_0 23 rfl rfl)
theorem dX4_hasAny_24 : decode cX4_hasAny 24 = .ok (.iadd, 1) := dk_96 (dk_at dksX4_hasAny_1 0 rfl rfl)
theorem dX4_hasAny_25 : decode cX4_hasAny 25 = .ok (.iaload, 1) := dk_46 (dk_at dksX4_hasAny_1 1 rfl rfl)
theorem dX4_hasAny_26 : decode cX4_hasAny 26 = .ok (.iconst (-1), 1) := dk_2 (dk_at dksX4_hasAny_1 2 rfl rfl)
theorem dX4_hasAny_27 : decode cX4_hasAny 27 = .ok (.if_icmp .eq 5, 3) := dk_159 0 5 (dk_at dksX4_hasAny_1 3 rfl rfl)
theorem dX4_hasAny_30 : decode cX4_hasAny 30 = .ok (.iconst 1, 1) := dk_4 (dk_at dksX4_hasAny_1 6 rfl rfl)
theorem dX4_hasAny_31 : decode cX4_hasAny 31 = .ok (.ireturn, 1) := dk_172 (dk_at dksX4_hasAny_1 7 rfl rfl)
theorem dX4_hasAny_32 : decode cX4_hasAny 32 = .ok (.iinc 1 1, 3) := dk_132 1 1 (dk_at dksX4_hasAny_1 8 rfl rfl)
theorem dX4_hasAny_35 : decode cX4_hasAny 35 = .ok (.goto (-33), 3) := dk_167 255 223 (dk_at dksX4_hasAny_1 11 rfl rfl)
theorem dX4_hasAny_38 : decode cX4_hasAny 38 = .ok (.iconst 0, 1) := dk_3 (dk_at dksX4_hasAny_1 14 rfl rfl)
theorem dX4_hasAny_39 : decode cX4_hasAny 39 = .ok (.ireturn, 1) := dk_172 (dk_at dksX4_hasAny_1 15 rfl rfl)
abbrev mX4_hasAny : xM := (yX4_hasAny, cX4_hasAny, 2, (some .boolean), [])
def m_hasAny_2_b  (k2 : Int32 → MS → Option Int32) (x1 : Int32) (S : MS) : Option Int32 :=
  if (30 : Int32) ≤ x1 then
    some (0 : Int32)
  else
    (rdA S 12 x1).bind fun v13 =>
    if v13 = 0 then
      (rdA S 8 ((61 : Int32) + x1)).bind fun v25 =>
      if v25 = (-1 : Int32) then
        k2 ((x1 + 1)) S
      else
        some (1 : Int32)
    else
      some (1 : Int32)
def m_hasAny_2  : Nat → Int32 → MS → Option Int32
  | 0 => fun _ _ => none
  | n + 1 => fun x1 S => m_hasAny_2_b (m_hasAny_2 n) x1 S
theorem m_hasAny_2_bok {G : xG} {m0 : Nat}  {k2 : Int32 → MS → Option Int32}  (hk2 : ∀ (x1 : Int32) (S : MS) (q : Int32), k2 x1 S = some q → XM G m0 mX4_hasAny 1 S (some (.int q)) S 2 [(0, .ref m0), (1, .int x1)] [] S) (x1 : Int32) (S : MS) (q : Int32) (hf : m_hasAny_2_b k2 x1 S = some q) : XM G m0 mX4_hasAny 1 S (some (.int q)) S 2 [(0, .ref m0), (1, .int x1)] [] S := by
  intro h N Z
  unfold m_hasAny_2_b at hf
  refine X.iload_n dX4_hasAny_2 rfl 1 rfl ?_
  refine X.bipush (v := 30) dX4_hasAny_3 (by decide) ?_
  refine X.icmp_ge (tgt := 38) dX4_hasAny_5 (by decide) (fun c5 => ?_) (fun c5 => ?_)
  · have hf := if_t c5 hf
    refine X.iconst (v := 0) dX4_hasAny_38 (by decide) ?_
    obtain rfl := Option.some.inj hf
    exact X.iret dX4_hasAny_39 rfl rfl rfl
  · have hf := if_f c5 hf
    refine X.aload_n dX4_hasAny_8 rfl 0 rfl ?_
    refine M.get (v := .ref (m0 + 12)) dX4_hasAny_9 fX4_66 (Nat.le_of_ble_eq_true rfl) rfl ?_
    refine X.iload_n dX4_hasAny_12 rfl 1 rfl ?_
    obtain ⟨v13, h13, hf⟩ := ob hf
    refine M.zald dX4_hasAny_13 (Nat.le_of_ble_eq_true rfl) (Nat.le_of_ble_eq_true rfl) rfl h13 ?_
    refine X.if_ne (tgt := 30) dX4_hasAny_14 (by decide) (fun c14 => ?_) (fun c14 => ?_)
    · have hf := if_f c14 hf
      refine X.iconst (v := 1) dX4_hasAny_30 (by decide) ?_
      obtain rfl := Option.some.inj hf
      exact X.iret dX4_hasAny_31 rfl rfl rfl
    · have hf := if_t c14 hf
      refine X.aload_n dX4_hasAny_17 rfl 0 rfl ?_
      refine M.get (v := .ref (m0 + 8)) dX4_hasAny_18 fX4_53 (Nat.le_of_ble_eq_true rfl) rfl ?_
      refine X.bipush (v := 61) dX4_hasAny_21 (by decide) ?_
      refine X.iload_n dX4_hasAny_23 rfl 1 rfl ?_
      refine X.iadd dX4_hasAny_24 ?_
      obtain ⟨v25, h25, hf⟩ := ob hf
      refine M.iald dX4_hasAny_25 rfl h25 ?_
      refine X.iconst (v := -1) dX4_hasAny_26 (by decide) ?_
      refine X.icmp_eq (tgt := 32) dX4_hasAny_27 (by decide) (fun c27 => ?_) (fun c27 => ?_)
      · have hf := if_t c27 hf
        refine X.iinc (v := (x1 + 1)) (L' := [(1, .int (x1 + 1)), (0, .ref m0)]) dX4_hasAny_32 1 rfl rfl (Nat.le_of_ble_eq_true rfl) rfl ?_
        refine X.goto (tgt := 2) dX4_hasAny_35 (by decide) ?_
        refine X.sub [1, 0] (L' := [(0, .ref m0), (1, .int (x1 + 1))]) rfl ?_
        exact hk2 _ _ _ hf h N Z
      · have hf := if_f c27 hf
        refine X.iconst (v := 1) dX4_hasAny_30 (by decide) ?_
        obtain rfl := Option.some.inj hf
        exact X.iret dX4_hasAny_31 rfl rfl rfl
theorem m_hasAny_2_ok {G : xG} {m0 : Nat}   : ∀ (n : Nat) (x1 : Int32) (S : MS) (q : Int32), m_hasAny_2 n x1 S = some q → XM G m0 mX4_hasAny 1 S (some (.int q)) S 2 [(0, .ref m0), (1, .int x1)] [] S
  | 0, _, _, _, hf => by cases hf
  | n + 1, x1, S, q, hf => m_hasAny_2_bok (m_hasAny_2_ok n) x1 S q hf
def m_hasAny  (S : MS) : Option Int32 :=
  m_hasAny_2 FU ((0 : Int32)) S
theorem w_hasAny {G : xG} {m0 : Nat}  {S : MS} {q : Int32} (hf : m_hasAny S = some q) : CtM G m0 mX4_hasAny 1 S [.ref m0] (some (.int q)) S := by
  intro h N Z
  refine Ct.of (by decide +kernel) rfl (Nat.le_of_ble_eq_true rfl) (show Xr G _ 0 [(0, .ref m0)] [] _ from ?_)
  unfold m_hasAny at hf
  refine X.iconst (v := 0) dX4_hasAny_0 (by decide) ?_
  refine X.istore_n (L' := [(1, .int (0 : Int32)), (0, .ref m0)]) dX4_hasAny_1 rfl (Nat.le_of_ble_eq_true rfl) rfl ?_
  refine X.sub [1, 0] (L' := [(0, .ref m0), (1, .int (0 : Int32))]) rfl ?_
  exact m_hasAny_2_ok FU _ _ _ hf h N Z
theorem cX4_256 : xCV RX4 256 mX4_hasAny 0 := ⟨lw_V q1810 q1812 qs60 q127 q1813, rfl, ⟨by decide +kernel, by decide +kernel, by decide +kernel⟩, Nat.le_of_ble_eq_true rfl⟩
/-! cellsNow -/
abbrev cX4_cellsNow : ByteArray := prog_12_method_38_code
def yX4_cellsNow : MethodName := ⟨RX4, "cellsNow", "()I"⟩
def dkwX4_cellsNow_0 : List UInt8 := [42, 180, 0, 234, 2, 160, 0, 8, 16, 9, 167, 0, 12, 42, 180, 0, 234, 42, 180, 0, 237, 104, 172]
abbrev dktX4_cellsNow_0 : List UInt8 := dkwX4_cellsNow_0 ++ []
theorem dksX4_cellsNow_0 : cX4_cellsNow.data.toList.drop 0 = dktX4_cellsNow_0 := by decide +kernel
theorem dX4_cellsNow_0 : decode cX4_cellsNow 0 = .ok (.aload_n 0, 1) := dk_42 (dk_at dksX4_cellsNow_0 0 rfl rfl)
theorem dX4_cellsNow_1 : decode cX4_cellsNow 1 = .ok (.getfield 234, 3) := dk_180 0 234 (dk_at dksX4_cellsNow_0 1 rfl rfl)
theorem dX4_cellsNow_4 : decode cX4_cellsNow 4 = .ok (.iconst (-1), 1) := dk_2 (dk_at dksX4_cellsNow_0 4 rfl rfl)
theorem dX4_cellsNow_5 : decode cX4_cellsNow 5 = .ok (.if_icmp .ne 8, 3) := dk_160 0 8 (dk_at dksX4_cellsNow_0 5 rfl rfl)
theorem dX4_cellsNow_8 : decode cX4_cellsNow 8 = .ok (.bipush 9, 2) := dk_16 9 (dk_at dksX4_cellsNow_0 8 rfl rfl)
theorem dX4_cellsNow_10 : decode cX4_cellsNow 10 = .ok (.goto 12, 3) := dk_167 0 12 (dk_at dksX4_cellsNow_0 10 rfl rfl)
theorem dX4_cellsNow_13 : decode cX4_cellsNow 13 = .ok (.aload_n 0, 1) := dk_42 (dk_at dksX4_cellsNow_0 13 rfl rfl)
theorem dX4_cellsNow_14 : decode cX4_cellsNow 14 = .ok (.getfield 234, 3) := dk_180 0 234 (dk_at dksX4_cellsNow_0 14 rfl rfl)
theorem dX4_cellsNow_17 : decode cX4_cellsNow 17 = .ok (.aload_n 0, 1) := dk_42 (dk_at dksX4_cellsNow_0 17 rfl rfl)
theorem dX4_cellsNow_18 : decode cX4_cellsNow 18 = .ok (.getfield 237, 3) := dk_180 0 237 (dk_at dksX4_cellsNow_0 18 rfl rfl)
theorem dX4_cellsNow_21 : decode cX4_cellsNow 21 = .ok (.imul, 1) := dk_104 (dk_at dksX4_cellsNow_0 21 rfl rfl)
theorem dX4_cellsNow_22 : decode cX4_cellsNow 22 = .ok (.ireturn, 1) := dk_172 (dk_at dksX4_cellsNow_0 22 rfl rfl)
abbrev mX4_cellsNow : xM := (yX4_cellsNow, cX4_cellsNow, 1, (some .int), [])
def m_cellsNow  (S : MS) : Option Int32 :=
  if (S.1 25) = (-1 : Int32) then
    some (9 : Int32)
  else
    some ((S.1 25) * (S.1 26))
theorem w_cellsNow {G : xG} {m0 : Nat}  {S : MS} {q : Int32} (hf : m_cellsNow S = some q) : CtM G m0 mX4_cellsNow 1 S [.ref m0] (some (.int q)) S := by
  intro h N Z
  refine Ct.of (by decide +kernel) rfl (Nat.le_of_ble_eq_true rfl) (show Xr G _ 0 [(0, .ref m0)] [] _ from ?_)
  unfold m_cellsNow at hf
  refine X.aload_n dX4_cellsNow_0 rfl 0 rfl ?_
  refine M.get (v := .int (S.1 25)) dX4_cellsNow_1 fX4_234 (Nat.le_of_ble_eq_true rfl) rfl ?_
  refine X.iconst (v := -1) dX4_cellsNow_4 (by decide) ?_
  refine X.icmp_ne (tgt := 13) dX4_cellsNow_5 (by decide) (fun c5 => ?_) (fun c5 => ?_)
  · have hf := if_f c5 hf
    refine X.aload_n dX4_cellsNow_13 rfl 0 rfl ?_
    refine M.get (v := .int (S.1 25)) dX4_cellsNow_14 fX4_234 (Nat.le_of_ble_eq_true rfl) rfl ?_
    refine X.aload_n dX4_cellsNow_17 rfl 0 rfl ?_
    refine M.get (v := .int (S.1 26)) dX4_cellsNow_18 fX4_237 (Nat.le_of_ble_eq_true rfl) rfl ?_
    refine X.imul dX4_cellsNow_21 ?_
    obtain rfl := Option.some.inj hf
    exact X.iret dX4_cellsNow_22 rfl rfl rfl
  · have hf := if_t c5 hf
    refine X.bipush (v := 9) dX4_cellsNow_8 (by decide) ?_
    refine X.goto (tgt := 22) dX4_cellsNow_10 (by decide) ?_
    obtain rfl := Option.some.inj hf
    exact X.iret dX4_cellsNow_22 rfl rfl rfl
theorem cX4_240 : xCV RX4 240 mX4_cellsNow 0 := ⟨lw_V q1830 q1832 qs65 q127 q1833, rfl, ⟨by decide +kernel, by decide +kernel, by decide +kernel⟩, Nat.le_of_ble_eq_true rfl⟩
/-! readsCell -/
abbrev cX4_readsCell : ByteArray := prog_12_method_39_code
def yX4_readsCell : MethodName := ⟨RX4, "readsCell", "()V"⟩
def dkwX4_readsCell_3 : List UInt8 := [27, 96, 42, 3, 16, 99, 182, 0, 246, 79, 177]
abbrev dktX4_readsCell_3 : List UInt8 := dkwX4_readsCell_3 ++ []
def dkwX4_readsCell_2 : List UInt8 := [182, 0, 178, 42, 180, 0, 53, 4, 27, 96, 42, 3, 16, 9, 182, 0, 246, 79, 42, 180, 0, 53, 16, 31]
abbrev dktX4_readsCell_2 : List UInt8 := dkwX4_readsCell_2 ++ dktX4_readsCell_3
def dkwX4_readsCell_1 : List UInt8 := [153, 0, 8, 42, 7, 182, 0, 181, 42, 182, 0, 174, 154, 0, 4, 177, 42, 180, 0, 66, 27, 4, 84, 42]
abbrev dktX4_readsCell_1 : List UInt8 := dkwX4_readsCell_1 ++ dktX4_readsCell_2
def dkwX4_readsCell_0 : List UInt8 := [42, 42, 182, 0, 240, 182, 0, 243, 154, 0, 4, 177, 42, 180, 0, 142, 60, 42, 180, 0, 66, 27, 51]
abbrev dktX4_readsCell_0 : List UInt8 := dkwX4_readsCell_0 ++ dktX4_readsCell_1
theorem dksX4_readsCell_0 : cX4_readsCell.data.toList.drop 0 = dktX4_readsCell_0 := by decide +kernel
theorem dksX4_readsCell_1 : cX4_readsCell.data.toList.drop 23 = dktX4_readsCell_1 := dk_seg dksX4_readsCell_0 23 rfl rfl
theorem dksX4_readsCell_2 : cX4_readsCell.data.toList.drop 47 = dktX4_readsCell_2 := dk_seg dksX4_readsCell_1 24 rfl rfl
theorem dksX4_readsCell_3 : cX4_readsCell.data.toList.drop 71 = dktX4_readsCell_3 := dk_seg dksX4_readsCell_2 24 rfl rfl
theorem dX4_readsCell_0 : decode cX4_readsCell 0 = .ok (.aload_n 0, 1) := dk_42 (dk_at dksX4_readsCell_0 0 rfl rfl)
theorem dX4_readsCell_1 : decode cX4_readsCell 1 = .ok (.aload_n 0, 1) := dk_42 (dk_at dksX4_readsCell_0 1 rfl rfl)
theorem dX4_readsCell_2 : decode cX4_readsCell 2 = .ok (.invokevirtual 240, 3) := dk_182 0 240 (dk_at dksX4_readsCell_0 2 rfl rfl)
theorem dX4_readsCell_5 : decode cX4_readsCell 5 = .ok (.invokevirtual 243, 3) := dk_182 0 243 (dk_at dksX4_readsCell_0 5 rfl rfl)
theorem dX4_readsCell_8 : decode cX4_readsCell 8 = .ok (.ifCond .ne 4, 3) := dk_154 0 4 (dk_at dksX4_readsCell_0 8 rfl rfl)
theorem dX4_readsCell_11 : decode cX4_readsCell 11 = .ok (.return_, 1) := dk_177 (dk_at dksX4_readsCell_0 11 rfl rfl)
theorem dX4_readsCell_12 : decode cX4_readsCell 12 = .ok (.aload_n 0, 1) := dk_42 (dk_at dksX4_readsCell_0 12 rfl rfl)
theorem dX4_readsCell_13 : decode cX4_readsCell 13 = .ok (.getfield 142, 3) := dk_180 0 142 (dk_at dksX4_readsCell_0 13 rfl rfl)
theorem dX4_readsCell_16 : decode cX4_readsCell 16 = .ok (.istore_n 1, 1) := dk_60 (dk_at dksX4_readsCell_0 16 rfl rfl)
theorem dX4_readsCell_17 : decode cX4_readsCell 17 = .ok (.aload_n 0, 1) := dk_42 (dk_at dksX4_readsCell_0 17 rfl rfl)
theorem dX4_readsCell_18 : decode cX4_readsCell 18 = .ok (.getfield 66, 3) := dk_180 0 66 (dk_at dksX4_readsCell_0 18 rfl rfl)
theorem dX4_readsCell_21 : decode cX4_readsCell 21 = .ok (.iload_n 1, 1) := dk_27 (dk_at dksX4_readsCell_0 21 rfl rfl)
theorem dX4_readsCell_22 : decode cX4_readsCell 22 = .ok (.baload, 1) := dk_51 (dk_at dksX4_readsCell_0 22 rfl rfl)
theorem dX4_readsCell_23 : decode cX4_readsCell 23 = .ok (.ifCond .eq 8, 3) := dk_153 0 8 (dk_at dksX4_readsCell_1 0 rfl rfl)
theorem dX4_readsCell_26 : decode cX4_readsCell 26 = .ok (.aload_n 0, 1) := dk_42 (dk_at dksX4_readsCell_1 3 rfl rfl)
theorem dX4_readsCell_27 : decode cX4_readsCell 27 = .ok (.iconst 4, 1) := dk_7 (dk_at dksX4_readsCell_1 4 rfl rfl)
theorem dX4_readsCell_28 : decode cX4_readsCell 28 = .ok (.invokevirtual 181, 3) := dk_182 0 181 (dk_at dksX4_readsCell_1 5 rfl rfl)
theorem dX4_readsCell_31 : decode cX4_readsCell 31 = .ok (.aload_n 0, 1) := dk_42 (dk_at dksX4_readsCell_1 8 rfl rfl)
theorem dX4_readsCell_32 : decode cX4_readsCell 32 = .ok (.invokevirtual 174, 3) := dk_182 0 174 (dk_at dksX4_readsCell_1 9 rfl rfl)
theorem dX4_readsCell_35 : decode cX4_readsCell 35 = .ok (.ifCond .ne 4, 3) := dk_154 0 4 (dk_at dksX4_readsCell_1 12 rfl rfl)
theorem dX4_readsCell_38 : decode cX4_readsCell 38 = .ok (.return_, 1) := dk_177 (dk_at dksX4_readsCell_1 15 rfl rfl)
theorem dX4_readsCell_39 : decode cX4_readsCell 39 = .ok (.aload_n 0, 1) := dk_42 (dk_at dksX4_readsCell_1 16 rfl rfl)
theorem dX4_readsCell_40 : decode cX4_readsCell 40 = .ok (.getfield 66, 3) := dk_180 0 66 (dk_at dksX4_readsCell_1 17 rfl rfl)
theorem dX4_readsCell_43 : decode cX4_readsCell 43 = .ok (.iload_n 1, 1) := dk_27 (dk_at dksX4_readsCell_1 20 rfl rfl)
theorem dX4_readsCell_44 : decode cX4_readsCell 44 = .ok (.iconst 1, 1) := dk_4 (dk_at dksX4_readsCell_1 21 rfl rfl)
theorem dX4_readsCell_45 : decode cX4_readsCell 45 = .ok (.bastore, 1) := dk_84 (dk_at dksX4_readsCell_1 22 rfl rfl)
theorem dX4_readsCell_46 : decode cX4_readsCell 46 = .ok (.aload_n 0, 1) := dk_42 (dk_at dksX4_readsCell_1 23 rfl rfl)
theorem dX4_readsCell_47 : decode cX4_readsCell 47 = .ok (.invokevirtual 178, 3) := dk_182 0 178 (dk_at dksX4_readsCell_2 0 rfl rfl)
theorem dX4_readsCell_50 : decode cX4_readsCell 50 = .ok (.aload_n 0, 1) := dk_42 (dk_at dksX4_readsCell_2 3 rfl rfl)
theorem dX4_readsCell_51 : decode cX4_readsCell 51 = .ok (.getfield 53, 3) := dk_180 0 53 (dk_at dksX4_readsCell_2 4 rfl rfl)
theorem dX4_readsCell_54 : decode cX4_readsCell 54 = .ok (.iconst 1, 1) := dk_4 (dk_at dksX4_readsCell_2 7 rfl rfl)
theorem dX4_readsCell_55 : decode cX4_readsCell 55 = .ok (.iload_n 1, 1) := dk_27 (dk_at dksX4_readsCell_2 8 rfl rfl)
theorem dX4_readsCell_56 : decode cX4_readsCell 56 = .ok (.iadd, 1) := dk_96 (dk_at dksX4_readsCell_2 9 rfl rfl)
theorem dX4_readsCell_57 : decode cX4_readsCell 57 = .ok (.aload_n 0, 1) := dk_42 (dk_at dksX4_readsCell_2 10 rfl rfl)
theorem dX4_readsCell_58 : decode cX4_readsCell 58 = .ok (.iconst 0, 1) := dk_3 (dk_at dksX4_readsCell_2 11 rfl rfl)
theorem dX4_readsCell_59 : decode cX4_readsCell 59 = .ok (.bipush 9, 2) := dk_16 9 (dk_at dksX4_readsCell_2 12 rfl rfl)
theorem dX4_readsCell_61 : decode cX4_readsCell 61 = .ok (.invokevirtual 246, 3) := dk_182 0 246 (dk_at dksX4_readsCell_2 14 rfl rfl)
theorem dX4_readsCell_64 : decode cX4_readsCell 64 = .ok (.iastore, 1) := dk_79 (dk_at dksX4_readsCell_2 17 rfl rfl)
theorem dX4_readsCell_65 : decode cX4_readsCell 65 = .ok (.aload_n 0, 1) := dk_42 (dk_at dksX4_readsCell_2 18 rfl rfl)
theorem dX4_readsCell_66 : decode cX4_readsCell 66 = .ok (.getfield 53, 3) := dk_180 0 53 (dk_at dksX4_readsCell_2 19 rfl rfl)
theorem dX4_readsCell_69 : decode cX4_readsCell 69 = .ok (.bipush 31, 2) := dk_16 31 (dk_at dksX4_readsCell_2 22 rfl rfl)
theorem dX4_readsCell_71 : decode cX4_readsCell 71 = .ok (.iload_n 1, 1) := dk_27 (dk_at dksX4_readsCell_3 0 rfl rfl)
theorem dX4_readsCell_72 : decode cX4_readsCell 72 = .ok (.iadd, 1) := dk_96 (dk_at dksX4_readsCell_3 1 rfl rfl)
theorem dX4_readsCell_73 : decode cX4_readsCell 73 = .ok (.aload_n 0, 1) := dk_42 (dk_at dksX4_readsCell_3 2 rfl rfl)
theorem dX4_readsCell_74 : decode cX4_readsCell 74 = .ok (.iconst 0, 1) := dk_3 (dk_at dksX4_readsCell_3 3 rfl rfl)
theorem dX4_readsCell_75 : decode cX4_readsCell 75 = .ok (.bipush 99, 2) := dk_16 99 (dk_at dksX4_readsCell_3 4 rfl rfl)
theorem dX4_readsCell_77 : decode cX4_readsCell 77 = .ok (.invokevirtual 246, 3) := dk_182 0 246 (dk_at dksX4_readsCell_3 6 rfl rfl)
theorem dX4_readsCell_80 : decode cX4_readsCell 80 = .ok (.iastore, 1) := dk_79 (dk_at dksX4_readsCell_3 9 rfl rfl)
theorem dX4_readsCell_81 : decode cX4_readsCell 81 = .ok (.return_, 1) := dk_177 (dk_at dksX4_readsCell_3 10 rfl rfl)
abbrev mX4_readsCell : xM := (yX4_readsCell, cX4_readsCell, 2, none, [])
def m_readsCell_31  (x1 : Int32) (S : MS) : Option MS :=
  (m_isGood S).bind fun q32 =>
  if q32 = 0 then
    some S
  else
    (wrA S 12 x1 (vp_nar .boolean (1 : Int32))).bind fun S45 =>
    (m_goes S45).bind fun q47 =>
    (m_number ((0 : Int32)) ((9 : Int32)) q47).bind fun q61 =>
    (wrA q61.2 8 ((1 : Int32) + x1) q61.1).bind fun S64 =>
    (m_number ((0 : Int32)) ((99 : Int32)) S64).bind fun q77 =>
    (wrA q77.2 8 ((31 : Int32) + x1) q77.1).bind fun S80 =>
    some S80
theorem m_readsCell_31_ok {G : xG} {m0 : Nat} {S0 : MS}   (x1 : Int32) (S : MS) (q : MS) (hf : m_readsCell_31 x1 S = some q) : XM G m0 mX4_readsCell 4 S0 none q 31 [(0, .ref m0), (1, .int x1)] [] S := by
  intro h N Z
  unfold m_readsCell_31 at hf
  refine X.aload_n dX4_readsCell_31 rfl 0 rfl ?_
  obtain ⟨q32, h32, hf⟩ := ob hf
  refine X.callVi (As := []) (rest := []) dX4_readsCell_32 (w_isGood h32 h N Z) cX4_174 rfl rfl (Nat.le_of_ble_eq_true rfl) mh_0 rfl rfl (xD (Nat.le_of_ble_eq_true rfl)) xleN xleN ?_
  refine X.if_ne (tgt := 39) dX4_readsCell_35 (by decide) (fun c35 => ?_) (fun c35 => ?_)
  · have hf := if_f c35 hf
    refine X.aload_n dX4_readsCell_39 rfl 0 rfl ?_
    refine M.get (v := .ref (m0 + 12)) dX4_readsCell_40 fX4_66 (Nat.le_of_ble_eq_true rfl) rfl ?_
    refine X.iload_n dX4_readsCell_43 rfl 1 rfl ?_
    refine X.iconst (v := 1) dX4_readsCell_44 (by decide) ?_
    obtain ⟨S45, h45, hf⟩ := ob hf
    refine M.zast dX4_readsCell_45 (Nat.le_of_ble_eq_true rfl) (Nat.le_of_ble_eq_true rfl) rfl h45 ?_
    refine X.aload_n dX4_readsCell_46 rfl 0 rfl ?_
    obtain ⟨q47, h47, hf⟩ := ob hf
    refine X.callVv (As := []) (rest := []) (T2 := (mh m0 h q47, N, Z)) dX4_readsCell_47 (w_goes h47 h N Z) cX4_178 rfl rfl (Nat.le_of_ble_eq_true rfl) mh_0 rfl rfl (xD (Nat.le_of_ble_eq_true rfl)) xleN xleN ?_
    refine X.aload_n dX4_readsCell_50 rfl 0 rfl ?_
    refine M.get (v := .ref (m0 + 8)) dX4_readsCell_51 fX4_53 (Nat.le_of_ble_eq_true rfl) rfl ?_
    refine X.iconst (v := 1) dX4_readsCell_54 (by decide) ?_
    refine X.iload_n dX4_readsCell_55 rfl 1 rfl ?_
    refine X.iadd dX4_readsCell_56 ?_
    refine X.aload_n dX4_readsCell_57 rfl 0 rfl ?_
    refine X.iconst (v := 0) dX4_readsCell_58 (by decide) ?_
    refine X.bipush (v := 9) dX4_readsCell_59 (by decide) ?_
    obtain ⟨q61, h61, hf⟩ := ob hf
    refine X.callVi (As := [.int (0 : Int32), .int (9 : Int32)]) (rest := [.int ((1 : Int32) + x1), .ref (m0 + 8)]) (T2 := (mh m0 h q61.2, N, Z)) dX4_readsCell_61 (w_number h61 h N Z) cX4_246 rfl rfl (Nat.le_of_ble_eq_true rfl) mh_0 rfl rfl (xD (Nat.le_of_ble_eq_true rfl)) xleN xleN ?_
    obtain ⟨S64, h64, hf⟩ := ob hf
    refine M.iast dX4_readsCell_64 rfl h64 ?_
    refine X.aload_n dX4_readsCell_65 rfl 0 rfl ?_
    refine M.get (v := .ref (m0 + 8)) dX4_readsCell_66 fX4_53 (Nat.le_of_ble_eq_true rfl) rfl ?_
    refine X.bipush (v := 31) dX4_readsCell_69 (by decide) ?_
    refine X.iload_n dX4_readsCell_71 rfl 1 rfl ?_
    refine X.iadd dX4_readsCell_72 ?_
    refine X.aload_n dX4_readsCell_73 rfl 0 rfl ?_
    refine X.iconst (v := 0) dX4_readsCell_74 (by decide) ?_
    refine X.bipush (v := 99) dX4_readsCell_75 (by decide) ?_
    obtain ⟨q77, h77, hf⟩ := ob hf
    refine X.callVi (As := [.int (0 : Int32), .int (99 : Int32)]) (rest := [.int ((31 : Int32) + x1), .ref (m0 + 8)]) (T2 := (mh m0 h q77.2, N, Z)) dX4_readsCell_77 (w_number h77 h N Z) cX4_246 rfl rfl (Nat.le_of_ble_eq_true rfl) mh_0 rfl rfl (xD (Nat.le_of_ble_eq_true rfl)) xleN xleN ?_
    obtain ⟨S80, h80, hf⟩ := ob hf
    refine M.iast dX4_readsCell_80 rfl h80 ?_
    obtain rfl := Option.some.inj hf
    exact X.vret dX4_readsCell_81 rfl rfl
  · have hf := if_t c35 hf
    obtain rfl := Option.some.inj hf
    exact X.vret dX4_readsCell_38 rfl rfl
def m_readsCell  (S : MS) : Option MS :=
  (m_cellsNow S).bind fun q2 =>
  (m_amongHere q2 S).bind fun q5 =>
  if q5.1 = 0 then
    some q5.2
  else
    (rdA q5.2 12 (q5.2.1 22)).bind fun v22 =>
    if v22 = 0 then
      m_readsCell_31 ((q5.2.1 22)) q5.2
    else
      (m_wrong ((4 : Int32)) q5.2).bind fun q28 =>
      m_readsCell_31 ((q5.2.1 22)) q28
theorem w_readsCell {G : xG} {m0 : Nat}  {S : MS} {q : MS} (hf : m_readsCell S = some q) : CtM G m0 mX4_readsCell 4 S [.ref m0] none q := by
  intro h N Z
  refine Ct.of (by decide +kernel) rfl (Nat.le_of_ble_eq_true rfl) (show Xr G _ 0 [(0, .ref m0)] [] _ from ?_)
  unfold m_readsCell at hf
  refine X.aload_n dX4_readsCell_0 rfl 0 rfl ?_
  refine X.aload_n dX4_readsCell_1 rfl 0 rfl ?_
  obtain ⟨q2, h2, hf⟩ := ob hf
  refine X.callVi (As := []) (rest := [.ref m0]) dX4_readsCell_2 (w_cellsNow h2 h N Z) cX4_240 rfl rfl (Nat.le_of_ble_eq_true rfl) mh_0 rfl rfl (xD (Nat.le_of_ble_eq_true rfl)) xleN xleN ?_
  obtain ⟨q5, h5, hf⟩ := ob hf
  refine X.callVi (As := [.int q2]) (rest := []) (T2 := (mh m0 h q5.2, N, Z)) dX4_readsCell_5 (w_amongHere h5 h N Z) cX4_243 rfl rfl (Nat.le_of_ble_eq_true rfl) mh_0 rfl rfl (xD (Nat.le_of_ble_eq_true rfl)) xleN xleN ?_
  refine X.if_ne (tgt := 12) dX4_readsCell_8 (by decide) (fun c8 => ?_) (fun c8 => ?_)
  · have hf := if_f c8 hf
    refine X.aload_n dX4_readsCell_12 rfl 0 rfl ?_
    refine M.get (v := .int (q5.2.1 22)) dX4_readsCell_13 fX4_142 (Nat.le_of_ble_eq_true rfl) rfl ?_
    refine X.istore_n (L' := [(1, .int (q5.2.1 22)), (0, .ref m0)]) dX4_readsCell_16 rfl (Nat.le_of_ble_eq_true rfl) rfl ?_
    refine X.aload_n dX4_readsCell_17 rfl 1 rfl ?_
    refine M.get (v := .ref (m0 + 12)) dX4_readsCell_18 fX4_66 (Nat.le_of_ble_eq_true rfl) rfl ?_
    refine X.iload_n dX4_readsCell_21 rfl 0 rfl ?_
    obtain ⟨v22, h22, hf⟩ := ob hf
    refine M.zald dX4_readsCell_22 (Nat.le_of_ble_eq_true rfl) (Nat.le_of_ble_eq_true rfl) rfl h22 ?_
    refine X.if_eq (tgt := 31) dX4_readsCell_23 (by decide) (fun c23 => ?_) (fun c23 => ?_)
    · have hf := if_t c23 hf
      refine X.sub [1, 0] (L' := [(0, .ref m0), (1, .int (q5.2.1 22))]) rfl ?_
      exact m_readsCell_31_ok _ _ _ hf h N Z
    · have hf := if_f c23 hf
      refine X.aload_n dX4_readsCell_26 rfl 1 rfl ?_
      refine X.iconst (v := 4) dX4_readsCell_27 (by decide) ?_
      obtain ⟨q28, h28, hf⟩ := ob hf
      refine X.callVv (As := [.int (4 : Int32)]) (rest := []) (T2 := (mh m0 h q28, N, Z)) dX4_readsCell_28 (w_wrong h28 h N Z) cX4_181 rfl rfl (Nat.le_of_ble_eq_true rfl) mh_0 rfl rfl (xD (Nat.le_of_ble_eq_true rfl)) xleN xleN ?_
      refine X.sub [1, 0] (L' := [(0, .ref m0), (1, .int (q5.2.1 22))]) rfl ?_
      exact m_readsCell_31_ok _ _ _ hf h N Z
  · have hf := if_t c8 hf
    obtain rfl := Option.some.inj hf
    exact X.vret dX4_readsCell_11 rfl rfl
theorem cX4_263 : xCV RX4 263 mX4_readsCell 0 := ⟨lw_V q1826 q1828 qs64 q127 q1829, rfl, ⟨by decide +kernel, by decide +kernel, by decide +kernel⟩, Nat.le_of_ble_eq_true rfl⟩
/-! readsMould -/
abbrev cX4_readsMould : ByteArray := prog_12_method_40_code
def yX4_readsMould : MethodName := ⟨RX4, "readsMould", "()V"⟩
def dkwX4_readsMould_3 : List UInt8 := [42, 182, 0, 178, 42, 180, 0, 53, 16, 91, 27, 96, 42, 4, 16, 99, 182, 0, 246, 79, 177]
abbrev dktX4_readsMould_3 : List UInt8 := dkwX4_readsMould_3 ++ []
def dkwX4_readsMould_2 : List UInt8 := [42, 180, 0, 250, 182, 0, 243, 154, 0, 4, 177, 42, 180, 0, 53, 16, 61, 27, 96, 42, 180, 0, 142, 79]
abbrev dktX4_readsMould_2 : List UInt8 := dkwX4_readsMould_2 ++ dktX4_readsMould_3
def dkwX4_readsMould_1 : List UInt8 := [96, 46, 2, 159, 0, 8, 42, 7, 182, 0, 181, 42, 182, 0, 174, 154, 0, 4, 177, 42, 182, 0, 178, 42]
abbrev dktX4_readsMould_1 : List UInt8 := dkwX4_readsMould_1 ++ dktX4_readsMould_2
def dkwX4_readsMould_0 : List UInt8 := [42, 42, 182, 0, 240, 182, 0, 243, 154, 0, 4, 177, 42, 180, 0, 142, 60, 42, 180, 0, 53, 16, 61, 27]
abbrev dktX4_readsMould_0 : List UInt8 := dkwX4_readsMould_0 ++ dktX4_readsMould_1
theorem dksX4_readsMould_0 : cX4_readsMould.data.toList.drop 0 = dktX4_readsMould_0 := by decide +kernel
theorem dksX4_readsMould_1 : cX4_readsMould.data.toList.drop 24 = dktX4_readsMould_1 := dk_seg dksX4_readsMould_0 24 rfl rfl
theorem dksX4_readsMould_2 : cX4_readsMould.data.toList.drop 48 = dktX4_readsMould_2 := dk_seg dksX4_readsMould_1 24 rfl rfl
theorem dksX4_readsMould_3 : cX4_readsMould.data.toList.drop 72 = dktX4_readsMould_3 := dk_seg dksX4_readsMould_2 24 rfl rfl
theorem dX4_readsMould_0 : decode cX4_readsMould 0 = .ok (.aload_n 0, 1) := dk_42 (dk_at dksX4_readsMould_0 0 rfl rfl)
theorem dX4_readsMould_1 : decode cX4_readsMould 1 = .ok (.aload_n 0, 1) := dk_42 (dk_at dksX4_readsMould_0 1 rfl rfl)
theorem dX4_readsMould_2 : decode cX4_readsMould 2 = .ok (.invokevirtual 240, 3) := dk_182 0 240 (dk_at dksX4_readsMould_0 2 rfl rfl)
theorem dX4_readsMould_5 : decode cX4_readsMould 5 = .ok (.invokevirtual 243, 3) := dk_182 0 243 (dk_at dksX4_readsMould_0 5 rfl rfl)
theorem dX4_readsMould_8 : decode cX4_readsMould 8 = .ok (.ifCond .ne 4, 3) := dk_154 0 4 (dk_at dksX4_readsMould_0 8 rfl rfl)
theorem dX4_readsMould_11 : decode cX4_readsMould 11 = .ok (.return_, 1) := dk_177 (dk_at dksX4_readsMould_0 11 rfl rfl)
theorem dX4_readsMould_12 : decode cX4_readsMould 12 = .ok (.aload_n 0, 1) := dk_42 (dk_at dksX4_readsMould_0 12 rfl rfl)
theorem dX4_readsMould_13 : decode cX4_readsMould 13 = .ok (.getfield 142, 3) := dk_180 0 142 (dk_at dksX4_readsMould_0 13 rfl rfl)
theorem dX4_readsMould_16 : decode cX4_readsMould 16 = .ok (.istore_n 1, 1) := dk_60 (dk_at dksX4_readsMould_0 16 rfl rfl)
theorem dX4_readsMould_17 : decode cX4_readsMould 17 = .ok (.aload_n 0, 1) := dk_42 (dk_at dksX4_readsMould_0 17 rfl rfl)
theorem dX4_readsMould_18 : decode cX4_readsMould 18 = .ok (.getfield 53, 3) := dk_180 0 53 (dk_at dksX4_readsMould_0 18 rfl rfl)
theorem dX4_readsMould_21 : decode cX4_readsMould 21 = .ok (.bipush 61, 2) := dk_16 61 (dk_at dksX4_readsMould_0 21 rfl rfl)
theorem dX4_readsMould_23 : decode cX4_readsMould 23 = .ok (.iload_n 1, 1) := dk_27 (dk_at dksX4_readsMould_0 23 rfl rfl)
theorem dX4_readsMould_24 : decode cX4_readsMould 24 = .ok (.iadd, 1) := dk_96 (dk_at dksX4_readsMould_1 0 rfl rfl)
theorem dX4_readsMould_25 : decode cX4_readsMould 25 = .ok (.iaload, 1) := dk_46 (dk_at dksX4_readsMould_1 1 rfl rfl)
theorem dX4_readsMould_26 : decode cX4_readsMould 26 = .ok (.iconst (-1), 1) := dk_2 (dk_at dksX4_readsMould_1 2 rfl rfl)
theorem dX4_readsMould_27 : decode cX4_readsMould 27 = .ok (.if_icmp .eq 8, 3) := dk_159 0 8 (dk_at dksX4_readsMould_1 3 rfl rfl)
theorem dX4_readsMould_30 : decode cX4_readsMould 30 = .ok (.aload_n 0, 1) := dk_42 (dk_at dksX4_readsMould_1 6 rfl rfl)
theorem dX4_readsMould_31 : decode cX4_readsMould 31 = .ok (.iconst 4, 1) := dk_7 (dk_at dksX4_readsMould_1 7 rfl rfl)
theorem dX4_readsMould_32 : decode cX4_readsMould 32 = .ok (.invokevirtual 181, 3) := dk_182 0 181 (dk_at dksX4_readsMould_1 8 rfl rfl)
theorem dX4_readsMould_35 : decode cX4_readsMould 35 = .ok (.aload_n 0, 1) := dk_42 (dk_at dksX4_readsMould_1 11 rfl rfl)
theorem dX4_readsMould_36 : decode cX4_readsMould 36 = .ok (.invokevirtual 174, 3) := dk_182 0 174 (dk_at dksX4_readsMould_1 12 rfl rfl)
theorem dX4_readsMould_39 : decode cX4_readsMould 39 = .ok (.ifCond .ne 4, 3) := dk_154 0 4 (dk_at dksX4_readsMould_1 15 rfl rfl)
theorem dX4_readsMould_42 : decode cX4_readsMould 42 = .ok (.return_, 1) := dk_177 (dk_at dksX4_readsMould_1 18 rfl rfl)
theorem dX4_readsMould_43 : decode cX4_readsMould 43 = .ok (.aload_n 0, 1) := dk_42 (dk_at dksX4_readsMould_1 19 rfl rfl)
theorem dX4_readsMould_44 : decode cX4_readsMould 44 = .ok (.invokevirtual 178, 3) := dk_182 0 178 (dk_at dksX4_readsMould_1 20 rfl rfl)
theorem dX4_readsMould_47 : decode cX4_readsMould 47 = .ok (.aload_n 0, 1) := dk_42 (dk_at dksX4_readsMould_1 23 rfl rfl)
theorem dX4_readsMould_48 : decode cX4_readsMould 48 = .ok (.aload_n 0, 1) := dk_42 (dk_at dksX4_readsMould_2 0 rfl rfl)
theorem dX4_readsMould_49 : decode cX4_readsMould 49 = .ok (.getfield 250, 3) := dk_180 0 250 (dk_at dksX4_readsMould_2 1 rfl rfl)
theorem dX4_readsMould_52 : decode cX4_readsMould 52 = .ok (.invokevirtual 243, 3) := dk_182 0 243 (dk_at dksX4_readsMould_2 4 rfl rfl)
theorem dX4_readsMould_55 : decode cX4_readsMould 55 = .ok (.ifCond .ne 4, 3) := dk_154 0 4 (dk_at dksX4_readsMould_2 7 rfl rfl)
theorem dX4_readsMould_58 : decode cX4_readsMould 58 = .ok (.return_, 1) := dk_177 (dk_at dksX4_readsMould_2 10 rfl rfl)
theorem dX4_readsMould_59 : decode cX4_readsMould 59 = .ok (.aload_n 0, 1) := dk_42 (dk_at dksX4_readsMould_2 11 rfl rfl)
theorem dX4_readsMould_60 : decode cX4_readsMould 60 = .ok (.getfield 53, 3) := dk_180 0 53 (dk_at dksX4_readsMould_2 12 rfl rfl)
theorem dX4_readsMould_63 : decode cX4_readsMould 63 = .ok (.bipush 61, 2) := dk_16 61 (dk_at dksX4_readsMould_2 15 rfl rfl)
theorem dX4_readsMould_65 : decode cX4_readsMould 65 = .ok (.iload_n 1, 1) := dk_27 (dk_at dksX4_readsMould_2 17 rfl rfl)
theorem dX4_readsMould_66 : decode cX4_readsMould 66 = .ok (.iadd, 1) := dk_96 (dk_at dksX4_readsMould_2 18 rfl rfl)
theorem dX4_readsMould_67 : decode cX4_readsMould 67 = .ok (.aload_n 0, 1) := dk_42 (dk_at dksX4_readsMould_2 19 rfl rfl)
theorem dX4_readsMould_68 : decode cX4_readsMould 68 = .ok (.getfield 142, 3) := dk_180 0 142 (dk_at dksX4_readsMould_2 20 rfl rfl)
theorem dX4_readsMould_71 : decode cX4_readsMould 71 = .ok (.iastore, 1) := dk_79 (dk_at dksX4_readsMould_2 23 rfl rfl)
theorem dX4_readsMould_72 : decode cX4_readsMould 72 = .ok (.aload_n 0, 1) := dk_42 (dk_at dksX4_readsMould_3 0 rfl rfl)
theorem dX4_readsMould_73 : decode cX4_readsMould 73 = .ok (.invokevirtual 178, 3) := dk_182 0 178 (dk_at dksX4_readsMould_3 1 rfl rfl)
theorem dX4_readsMould_76 : decode cX4_readsMould 76 = .ok (.aload_n 0, 1) := dk_42 (dk_at dksX4_readsMould_3 4 rfl rfl)
theorem dX4_readsMould_77 : decode cX4_readsMould 77 = .ok (.getfield 53, 3) := dk_180 0 53 (dk_at dksX4_readsMould_3 5 rfl rfl)
theorem dX4_readsMould_80 : decode cX4_readsMould 80 = .ok (.bipush 91, 2) := dk_16 91 (dk_at dksX4_readsMould_3 8 rfl rfl)
theorem dX4_readsMould_82 : decode cX4_readsMould 82 = .ok (.iload_n 1, 1) := dk_27 (dk_at dksX4_readsMould_3 10 rfl rfl)
theorem dX4_readsMould_83 : decode cX4_readsMould 83 = .ok (.iadd, 1) := dk_96 (dk_at dksX4_readsMould_3 11 rfl rfl)
theorem dX4_readsMould_84 : decode cX4_readsMould 84 = .ok (.aload_n 0, 1) := dk_42 (dk_at dksX4_readsMould_3 12 rfl rfl)
theorem dX4_readsMould_85 : decode cX4_readsMould 85 = .ok (.iconst 1, 1) := dk_4 (dk_at dksX4_readsMould_3 13 rfl rfl)
theorem dX4_readsMould_86 : decode cX4_readsMould 86 = .ok (.bipush 99, 2) := dk_16 99 (dk_at dksX4_readsMould_3 14 rfl rfl)
theorem dX4_readsMould_88 : decode cX4_readsMould 88 = .ok (.invokevirtual 246, 3) := dk_182 0 246 (dk_at dksX4_readsMould_3 16 rfl rfl)
theorem dX4_readsMould_91 : decode cX4_readsMould 91 = .ok (.iastore, 1) := dk_79 (dk_at dksX4_readsMould_3 19 rfl rfl)
theorem dX4_readsMould_92 : decode cX4_readsMould 92 = .ok (.return_, 1) := dk_177 (dk_at dksX4_readsMould_3 20 rfl rfl)
abbrev mX4_readsMould : xM := (yX4_readsMould, cX4_readsMould, 2, none, [])
def m_readsMould_35  (x1 : Int32) (S : MS) : Option MS :=
  (m_isGood S).bind fun q36 =>
  if q36 = 0 then
    some S
  else
    (m_goes S).bind fun q44 =>
    (m_amongHere ((q44.1 27)) q44).bind fun q52 =>
    if q52.1 = 0 then
      some q52.2
    else
      (wrA q52.2 8 ((61 : Int32) + x1) (q52.2.1 22)).bind fun S71 =>
      (m_goes S71).bind fun q73 =>
      (m_number ((1 : Int32)) ((99 : Int32)) q73).bind fun q88 =>
      (wrA q88.2 8 ((91 : Int32) + x1) q88.1).bind fun S91 =>
      some S91
theorem m_readsMould_35_ok {G : xG} {m0 : Nat} {S0 : MS}   (x1 : Int32) (S : MS) (q : MS) (hf : m_readsMould_35 x1 S = some q) : XM G m0 mX4_readsMould 4 S0 none q 35 [(0, .ref m0), (1, .int x1)] [] S := by
  intro h N Z
  unfold m_readsMould_35 at hf
  refine X.aload_n dX4_readsMould_35 rfl 0 rfl ?_
  obtain ⟨q36, h36, hf⟩ := ob hf
  refine X.callVi (As := []) (rest := []) dX4_readsMould_36 (w_isGood h36 h N Z) cX4_174 rfl rfl (Nat.le_of_ble_eq_true rfl) mh_0 rfl rfl (xD (Nat.le_of_ble_eq_true rfl)) xleN xleN ?_
  refine X.if_ne (tgt := 43) dX4_readsMould_39 (by decide) (fun c39 => ?_) (fun c39 => ?_)
  · have hf := if_f c39 hf
    refine X.aload_n dX4_readsMould_43 rfl 0 rfl ?_
    obtain ⟨q44, h44, hf⟩ := ob hf
    refine X.callVv (As := []) (rest := []) (T2 := (mh m0 h q44, N, Z)) dX4_readsMould_44 (w_goes h44 h N Z) cX4_178 rfl rfl (Nat.le_of_ble_eq_true rfl) mh_0 rfl rfl (xD (Nat.le_of_ble_eq_true rfl)) xleN xleN ?_
    refine X.aload_n dX4_readsMould_47 rfl 0 rfl ?_
    refine X.aload_n dX4_readsMould_48 rfl 0 rfl ?_
    refine M.get (v := .int (q44.1 27)) dX4_readsMould_49 fX4_250 (Nat.le_of_ble_eq_true rfl) rfl ?_
    obtain ⟨q52, h52, hf⟩ := ob hf
    refine X.callVi (As := [.int (q44.1 27)]) (rest := []) (T2 := (mh m0 h q52.2, N, Z)) dX4_readsMould_52 (w_amongHere h52 h N Z) cX4_243 rfl rfl (Nat.le_of_ble_eq_true rfl) mh_0 rfl rfl (xD (Nat.le_of_ble_eq_true rfl)) xleN xleN ?_
    refine X.if_ne (tgt := 59) dX4_readsMould_55 (by decide) (fun c55 => ?_) (fun c55 => ?_)
    · have hf := if_f c55 hf
      refine X.aload_n dX4_readsMould_59 rfl 0 rfl ?_
      refine M.get (v := .ref (m0 + 8)) dX4_readsMould_60 fX4_53 (Nat.le_of_ble_eq_true rfl) rfl ?_
      refine X.bipush (v := 61) dX4_readsMould_63 (by decide) ?_
      refine X.iload_n dX4_readsMould_65 rfl 1 rfl ?_
      refine X.iadd dX4_readsMould_66 ?_
      refine X.aload_n dX4_readsMould_67 rfl 0 rfl ?_
      refine M.get (v := .int (q52.2.1 22)) dX4_readsMould_68 fX4_142 (Nat.le_of_ble_eq_true rfl) rfl ?_
      obtain ⟨S71, h71, hf⟩ := ob hf
      refine M.iast dX4_readsMould_71 rfl h71 ?_
      refine X.aload_n dX4_readsMould_72 rfl 0 rfl ?_
      obtain ⟨q73, h73, hf⟩ := ob hf
      refine X.callVv (As := []) (rest := []) (T2 := (mh m0 h q73, N, Z)) dX4_readsMould_73 (w_goes h73 h N Z) cX4_178 rfl rfl (Nat.le_of_ble_eq_true rfl) mh_0 rfl rfl (xD (Nat.le_of_ble_eq_true rfl)) xleN xleN ?_
      refine X.aload_n dX4_readsMould_76 rfl 0 rfl ?_
      refine M.get (v := .ref (m0 + 8)) dX4_readsMould_77 fX4_53 (Nat.le_of_ble_eq_true rfl) rfl ?_
      refine X.bipush (v := 91) dX4_readsMould_80 (by decide) ?_
      refine X.iload_n dX4_readsMould_82 rfl 1 rfl ?_
      refine X.iadd dX4_readsMould_83 ?_
      refine X.aload_n dX4_readsMould_84 rfl 0 rfl ?_
      refine X.iconst (v := 1) dX4_readsMould_85 (by decide) ?_
      refine X.bipush (v := 99) dX4_readsMould_86 (by decide) ?_
      obtain ⟨q88, h88, hf⟩ := ob hf
      refine X.callVi (As := [.int (1 : Int32), .int (99 : Int32)]) (rest := [.int ((91 : Int32) + x1), .ref (m0 + 8)]) (T2 := (mh m0 h q88.2, N, Z)) dX4_readsMould_88 (w_number h88 h N Z) cX4_246 rfl rfl (Nat.le_of_ble_eq_true rfl) mh_0 rfl rfl (xD (Nat.le_of_ble_eq_true rfl)) xleN xleN ?_
      obtain ⟨S91, h91, hf⟩ := ob hf
      refine M.iast dX4_readsMould_91 rfl h91 ?_
      obtain rfl := Option.some.inj hf
      exact X.vret dX4_readsMould_92 rfl rfl
    · have hf := if_t c55 hf
      obtain rfl := Option.some.inj hf
      exact X.vret dX4_readsMould_58 rfl rfl
  · have hf := if_t c39 hf
    obtain rfl := Option.some.inj hf
    exact X.vret dX4_readsMould_42 rfl rfl
def m_readsMould  (S : MS) : Option MS :=
  (m_cellsNow S).bind fun q2 =>
  (m_amongHere q2 S).bind fun q5 =>
  if q5.1 = 0 then
    some q5.2
  else
    (rdA q5.2 8 ((61 : Int32) + (q5.2.1 22))).bind fun v25 =>
    if v25 = (-1 : Int32) then
      m_readsMould_35 ((q5.2.1 22)) q5.2
    else
      (m_wrong ((4 : Int32)) q5.2).bind fun q32 =>
      m_readsMould_35 ((q5.2.1 22)) q32
theorem w_readsMould {G : xG} {m0 : Nat}  {S : MS} {q : MS} (hf : m_readsMould S = some q) : CtM G m0 mX4_readsMould 4 S [.ref m0] none q := by
  intro h N Z
  refine Ct.of (by decide +kernel) rfl (Nat.le_of_ble_eq_true rfl) (show Xr G _ 0 [(0, .ref m0)] [] _ from ?_)
  unfold m_readsMould at hf
  refine X.aload_n dX4_readsMould_0 rfl 0 rfl ?_
  refine X.aload_n dX4_readsMould_1 rfl 0 rfl ?_
  obtain ⟨q2, h2, hf⟩ := ob hf
  refine X.callVi (As := []) (rest := [.ref m0]) dX4_readsMould_2 (w_cellsNow h2 h N Z) cX4_240 rfl rfl (Nat.le_of_ble_eq_true rfl) mh_0 rfl rfl (xD (Nat.le_of_ble_eq_true rfl)) xleN xleN ?_
  obtain ⟨q5, h5, hf⟩ := ob hf
  refine X.callVi (As := [.int q2]) (rest := []) (T2 := (mh m0 h q5.2, N, Z)) dX4_readsMould_5 (w_amongHere h5 h N Z) cX4_243 rfl rfl (Nat.le_of_ble_eq_true rfl) mh_0 rfl rfl (xD (Nat.le_of_ble_eq_true rfl)) xleN xleN ?_
  refine X.if_ne (tgt := 12) dX4_readsMould_8 (by decide) (fun c8 => ?_) (fun c8 => ?_)
  · have hf := if_f c8 hf
    refine X.aload_n dX4_readsMould_12 rfl 0 rfl ?_
    refine M.get (v := .int (q5.2.1 22)) dX4_readsMould_13 fX4_142 (Nat.le_of_ble_eq_true rfl) rfl ?_
    refine X.istore_n (L' := [(1, .int (q5.2.1 22)), (0, .ref m0)]) dX4_readsMould_16 rfl (Nat.le_of_ble_eq_true rfl) rfl ?_
    refine X.aload_n dX4_readsMould_17 rfl 1 rfl ?_
    refine M.get (v := .ref (m0 + 8)) dX4_readsMould_18 fX4_53 (Nat.le_of_ble_eq_true rfl) rfl ?_
    refine X.bipush (v := 61) dX4_readsMould_21 (by decide) ?_
    refine X.iload_n dX4_readsMould_23 rfl 0 rfl ?_
    refine X.iadd dX4_readsMould_24 ?_
    obtain ⟨v25, h25, hf⟩ := ob hf
    refine M.iald dX4_readsMould_25 rfl h25 ?_
    refine X.iconst (v := -1) dX4_readsMould_26 (by decide) ?_
    refine X.icmp_eq (tgt := 35) dX4_readsMould_27 (by decide) (fun c27 => ?_) (fun c27 => ?_)
    · have hf := if_t c27 hf
      refine X.sub [1, 0] (L' := [(0, .ref m0), (1, .int (q5.2.1 22))]) rfl ?_
      exact m_readsMould_35_ok _ _ _ hf h N Z
    · have hf := if_f c27 hf
      refine X.aload_n dX4_readsMould_30 rfl 1 rfl ?_
      refine X.iconst (v := 4) dX4_readsMould_31 (by decide) ?_
      obtain ⟨q32, h32, hf⟩ := ob hf
      refine X.callVv (As := [.int (4 : Int32)]) (rest := []) (T2 := (mh m0 h q32, N, Z)) dX4_readsMould_32 (w_wrong h32 h N Z) cX4_181 rfl rfl (Nat.le_of_ble_eq_true rfl) mh_0 rfl rfl (xD (Nat.le_of_ble_eq_true rfl)) xleN xleN ?_
      refine X.sub [1, 0] (L' := [(0, .ref m0), (1, .int (q5.2.1 22))]) rfl ?_
      exact m_readsMould_35_ok _ _ _ hf h N Z
  · have hf := if_t c8 hf
    obtain rfl := Option.some.inj hf
    exact X.vret dX4_readsMould_11 rfl rfl
theorem cX4_266 : xCV RX4 266 mX4_readsMould 0 := ⟨lw_V q1838 q1840 qs67 q127 q1841, rfl, ⟨by decide +kernel, by decide +kernel, by decide +kernel⟩, Nat.le_of_ble_eq_true rfl⟩
