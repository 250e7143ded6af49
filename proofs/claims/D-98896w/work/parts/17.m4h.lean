set_option maxRecDepth 100000
/-! drawn -/
abbrev cX4_drawn : ByteArray := prog_12_method_111_code
def yX4_drawn : MethodName := ⟨RX4, "drawn", "(III)I"⟩
def dkwX4_drawn_5 : List UInt8 := [167, 0, 9, 42, 16, 121, 182, 1, 126, 172]
abbrev dktX4_drawn_5 : List UInt8 := dkwX4_drawn_5 ++ []
def dkwX4_drawn_4 : List UInt8 := [167, 255, 228, 29, 154, 0, 12, 42, 16, 121, 182, 1, 123, 167, 0, 19, 29, 4, 160, 0, 8, 21, 4]
abbrev dktX4_drawn_4 : List UInt8 := dkwX4_drawn_4 ++ dktX4_drawn_5
def dkwX4_drawn_3 : List UInt8 := [162, 0, 25, 21, 4, 42, 180, 0, 69, 17, 0, 212, 21, 5, 96, 46, 96, 54, 4, 132, 5, 1]
abbrev dktX4_drawn_3 : List UInt8 := dkwX4_drawn_3 ++ dktX4_drawn_4
def dkwX4_drawn_2 : List UInt8 := [42, 16, 121, 182, 1, 107, 132, 4, 1, 167, 255, 237, 3, 54, 4, 3, 54, 5, 21, 5, 42, 182, 1, 65]
abbrev dktX4_drawn_2 : List UInt8 := dkwX4_drawn_2 ++ dktX4_drawn_3
def dkwX4_drawn_1 : List UInt8 := [3, 172, 42, 182, 1, 147, 42, 27, 181, 1, 191, 3, 54, 4, 21, 4, 28, 162, 0, 19, 42, 182, 1, 198]
abbrev dktX4_drawn_1 : List UInt8 := dkwX4_drawn_1 ++ dktX4_drawn_2
def dkwX4_drawn_0 : List UInt8 := [42, 3, 181, 0, 115, 42, 29, 5, 182, 1, 132, 153, 0, 13, 42, 28, 3, 5, 182, 1, 153, 154, 0, 5]
abbrev dktX4_drawn_0 : List UInt8 := dkwX4_drawn_0 ++ dktX4_drawn_1
theorem dksX4_drawn_0 : cX4_drawn.data.toList.drop 0 = dktX4_drawn_0 := by decide +kernel
theorem dksX4_drawn_1 : cX4_drawn.data.toList.drop 24 = dktX4_drawn_1 := dk_seg dksX4_drawn_0 24 rfl rfl
theorem dksX4_drawn_2 : cX4_drawn.data.toList.drop 48 = dktX4_drawn_2 := dk_seg dksX4_drawn_1 24 rfl rfl
theorem dksX4_drawn_3 : cX4_drawn.data.toList.drop 72 = dktX4_drawn_3 := dk_seg dksX4_drawn_2 24 rfl rfl
theorem dksX4_drawn_4 : cX4_drawn.data.toList.drop 94 = dktX4_drawn_4 := dk_seg dksX4_drawn_3 22 rfl rfl
theorem dksX4_drawn_5 : cX4_drawn.data.toList.drop 117 = dktX4_drawn_5 := dk_seg dksX4_drawn_4 23 rfl rfl
theorem dX4_drawn_0 : decode cX4_drawn 0 = .ok (.aload_n 0, 1) := dk_42 (dk_at dksX4_drawn_0 0 rfl rfl)
theorem dX4_drawn_1 : decode cX4_drawn 1 = .ok (.iconst 0, 1) := dk_3 (dk_at dksX4_drawn_0 1 rfl rfl)
theorem dX4_drawn_2 : decode cX4_drawn 2 = .ok (.putfield 115, 3) := dk_181 0 115 (dk_at dksX4_drawn_0 2 rfl rfl)
theorem dX4_drawn_5 : decode cX4_drawn 5 = .ok (.aload_n 0, 1) := dk_42 (dk_at dksX4_drawn_0 5 rfl rfl)
theorem dX4_drawn_6 : decode cX4_drawn 6 = .ok (.iload_n 3, 1) := dk_29 (dk_at dksX4_drawn_0 6 rfl rfl)
theorem dX4_drawn_7 : decode cX4_drawn 7 = .ok (.iconst 2, 1) := dk_5 (dk_at dksX4_drawn_0 7 rfl rfl)
theorem dX4_drawn_8 : decode cX4_drawn 8 = .ok (.invokevirtual 388, 3) := dk_182 1 132 (dk_at dksX4_drawn_0 8 rfl rfl)
theorem dX4_drawn_11 : decode cX4_drawn 11 = .ok (.ifCond .eq 13, 3) := dk_153 0 13 (dk_at dksX4_drawn_0 11 rfl rfl)
theorem dX4_drawn_14 : decode cX4_drawn 14 = .ok (.aload_n 0, 1) := dk_42 (dk_at dksX4_drawn_0 14 rfl rfl)
theorem dX4_drawn_15 : decode cX4_drawn 15 = .ok (.iload_n 2, 1) := dk_28 (dk_at dksX4_drawn_0 15 rfl rfl)
theorem dX4_drawn_16 : decode cX4_drawn 16 = .ok (.iconst 0, 1) := dk_3 (dk_at dksX4_drawn_0 16 rfl rfl)
theorem dX4_drawn_17 : decode cX4_drawn 17 = .ok (.iconst 2, 1) := dk_5 (dk_at dksX4_drawn_0 17 rfl rfl)
theorem dX4_drawn_18 : decode cX4_drawn 18 = .ok (.invokevirtual 409, 3) := dk_182 1 153 (dk_at dksX4_drawn_0 18 rfl rfl)
theorem dX4_drawn_21 : decode cX4_drawn 21 = .ok (.ifCond .ne 5, 3) := dk_154 0 5 (dk_at dksX4_drawn_0 21 rfl rfl)
theorem dX4_drawn_24 : decode cX4_drawn 24 = .ok (.iconst 0, 1) := dk_3 (dk_at dksX4_drawn_1 0 rfl rfl)
theorem dX4_drawn_25 : decode cX4_drawn 25 = .ok (.ireturn, 1) := dk_172 (dk_at dksX4_drawn_1 1 rfl rfl)
theorem dX4_drawn_26 : decode cX4_drawn 26 = .ok (.aload_n 0, 1) := dk_42 (dk_at dksX4_drawn_1 2 rfl rfl)
theorem dX4_drawn_27 : decode cX4_drawn 27 = .ok (.invokevirtual 403, 3) := dk_182 1 147 (dk_at dksX4_drawn_1 3 rfl rfl)
theorem dX4_drawn_30 : decode cX4_drawn 30 = .ok (.aload_n 0, 1) := dk_42 (dk_at dksX4_drawn_1 6 rfl rfl)
theorem dX4_drawn_31 : decode cX4_drawn 31 = .ok (.iload_n 1, 1) := dk_27 (dk_at dksX4_drawn_1 7 rfl rfl)
theorem dX4_drawn_32 : decode cX4_drawn 32 = .ok (.putfield 447, 3) := dk_181 1 191 (dk_at dksX4_drawn_1 8 rfl rfl)
theorem dX4_drawn_35 : decode cX4_drawn 35 = .ok (.iconst 0, 1) := dk_3 (dk_at dksX4_drawn_1 11 rfl rfl)
theorem dX4_drawn_36 : decode cX4_drawn 36 = .ok (.istore 4, 2) := dk_54 4 (dk_at dksX4_drawn_1 12 rfl rfl)
theorem dX4_drawn_38 : decode cX4_drawn 38 = .ok (.iload 4, 2) := dk_21 4 (dk_at dksX4_drawn_1 14 rfl rfl)
theorem dX4_drawn_40 : decode cX4_drawn 40 = .ok (.iload_n 2, 1) := dk_28 (dk_at dksX4_drawn_1 16 rfl rfl)
theorem dX4_drawn_41 : decode cX4_drawn 41 = .ok (.if_icmp .ge 19, 3) := dk_162 0 19 (dk_at dksX4_drawn_1 17 rfl rfl)
theorem dX4_drawn_44 : decode cX4_drawn 44 = .ok (.aload_n 0, 1) := dk_42 (dk_at dksX4_drawn_1 20 rfl rfl)
theorem dX4_drawn_45 : decode cX4_drawn 45 = .ok (.invokevirtual 454, 3) := dk_182 1 198 (dk_at dksX4_drawn_1 21 rfl rfl)
theorem dX4_drawn_48 : decode cX4_drawn 48 = .ok (.aload_n 0, 1) := dk_42 (dk_at dksX4_drawn_2 0 rfl rfl)
theorem dX4_drawn_49 : decode cX4_drawn 49 = .ok (.bipush 121, 2) := dk_16 121 (dk_at dksX4_drawn_2 1 rfl rfl)
theorem dX4_drawn_51 : decode cX4_drawn 51 = .ok (.invokevirtual 363, 3) := dk_182 1 107 (dk_at dksX4_drawn_2 3 rfl rfl)
theorem dX4_drawn_54 : decode cX4_drawn 54 = .ok (.iinc 4 1, 3) := dk_132 4 1 (dk_at dksX4_drawn_2 6 rfl rfl)
theorem dX4_drawn_57 : decode cX4_drawn 57 = .ok (.goto (-19), 3) := dk_167 255 237 (dk_at dksX4_drawn_2 9 rfl rfl)
theorem dX4_drawn_60 : decode cX4_drawn 60 = .ok (.iconst 0, 1) := dk_3 (dk_at dksX4_drawn_2 12 rfl rfl)
theorem dX4_drawn_61 : decode cX4_drawn 61 = .ok (.istore 4, 2) := dk_54 4 (dk_at dksX4_drawn_2 13 rfl rfl)
theorem dX4_drawn_63 : decode cX4_drawn 63 = .ok (.iconst 0, 1) := dk_3 (dk_at dksX4_drawn_2 15 rfl rfl)
theorem dX4_drawn_64 : decode cX4_drawn 64 = .ok (.istore 5, 2) := dk_54 5 (dk_at dksX4_drawn_2 16 rfl rfl)
theorem dX4_drawn_66 : decode cX4_drawn 66 = .ok (.iload 5, 2) := dk_21 5 (dk_at dksX4_drawn_2 18 rfl rfl)
theorem dX4_drawn_68 : decode cX4_drawn 68 = .ok (.aload_n 0, 1) := dk_42 (dk_at dksX4_drawn_2 20 rfl rfl)
theorem dX4_drawn_69 : decode cX4_drawn 69 = .ok (.invokevirtual 321, 3) := dk_182 1 65 (dk_at dksX4_drawn_2 21 rfl rfl)
theorem dX4_drawn_72 : decode cX4_drawn 72 = .ok (.if_icmp .ge 25, 3) := dk_162 0 25 (dk_at dksX4_drawn_3 0 rfl rfl)
theorem dX4_drawn_75 : decode cX4_drawn 75 = .ok (.iload 4, 2) := dk_21 4 (dk_at dksX4_drawn_3 3 rfl rfl)
theorem dX4_drawn_77 : decode cX4_drawn 77 = .ok (.aload_n 0, 1) := dk_42 (dk_at dksX4_drawn_3 5 rfl rfl)
theorem dX4_drawn_78 : decode cX4_drawn 78 = .ok (.getfield 69, 3) := dk_180 0 69 (dk_at dksX4_drawn_3 6 rfl rfl)
theorem dX4_drawn_81 : decode cX4_drawn 81 = .ok (.sipush 212, 3) := dk_17 0 212 (dk_at dksX4_drawn_3 9 rfl rfl)
theorem dX4_drawn_84 : decode cX4_drawn 84 = .ok (.iload 5, 2) := dk_21 5 (dk_at dksX4_drawn_3 12 rfl rfl)
theorem dX4_drawn_86 : decode cX4_drawn 86 = .ok (.iadd, 1) := dk_96 (dk_at dksX4_drawn_3 14 rfl rfl)
theorem dX4_drawn_87 : decode cX4_drawn 87 = .ok (.iaload, 1) := dk_46 (dk_at dksX4_drawn_3 15 rfl rfl)
theorem dX4_drawn_88 : decode cX4_drawn 88 = .ok (.iadd, 1) := dk_96 (dk_at dksX4_drawn_3 16 rfl rfl)
theorem dX4_drawn_89 : decode cX4_drawn 89 = .ok (.istore 4, 2) := dk_54 4 (dk_at dksX4_drawn_3 17 rfl rfl)
theorem dX4_drawn_91 : decode cX4_drawn 91 = .ok (.iinc 5 1, 3) := dk_132 5 1 (dk_at dksX4_drawn_3 19 rfl rfl)
theorem dX4_drawn_94 : decode cX4_drawn 94 = .ok (.goto (-28), 3) := dk_167 255 228 (dk_at dksX4_drawn_4 0 rfl rfl)
theorem dX4_drawn_97 : decode cX4_drawn 97 = .ok (.iload_n 3, 1) := dk_29 (dk_at dksX4_drawn_4 3 rfl rfl)
theorem dX4_drawn_98 : decode cX4_drawn 98 = .ok (.ifCond .ne 12, 3) := dk_154 0 12 (dk_at dksX4_drawn_4 4 rfl rfl)
theorem dX4_drawn_101 : decode cX4_drawn 101 = .ok (.aload_n 0, 1) := dk_42 (dk_at dksX4_drawn_4 7 rfl rfl)
theorem dX4_drawn_102 : decode cX4_drawn 102 = .ok (.bipush 121, 2) := dk_16 121 (dk_at dksX4_drawn_4 8 rfl rfl)
theorem dX4_drawn_104 : decode cX4_drawn 104 = .ok (.invokevirtual 379, 3) := dk_182 1 123 (dk_at dksX4_drawn_4 10 rfl rfl)
theorem dX4_drawn_107 : decode cX4_drawn 107 = .ok (.goto 19, 3) := dk_167 0 19 (dk_at dksX4_drawn_4 13 rfl rfl)
theorem dX4_drawn_110 : decode cX4_drawn 110 = .ok (.iload_n 3, 1) := dk_29 (dk_at dksX4_drawn_4 16 rfl rfl)
theorem dX4_drawn_111 : decode cX4_drawn 111 = .ok (.iconst 1, 1) := dk_4 (dk_at dksX4_drawn_4 17 rfl rfl)
theorem dX4_drawn_112 : decode cX4_drawn 112 = .ok (.if_icmp .ne 8, 3) := dk_160 0 8 (dk_at dksX4_drawn_4 18 rfl rfl)
theorem dX4_drawn_115 : decode cX4_drawn 115 = .ok (.iload 4, 2) := dk_21 4 (dk_at dksX4_drawn_4 21 rfl rfl)
theorem dX4_drawn_117 : decode cX4_drawn 117 = .ok (.goto 9, 3) := dk_167 0 9 (dk_at dksX4_drawn_5 0 rfl rfl)
theorem dX4_drawn_120 : decode cX4_drawn 120 = .ok (.aload_n 0, 1) := dk_42 (dk_at dksX4_drawn_5 3 rfl rfl)
theorem dX4_drawn_121 : decode cX4_drawn 121 = .ok (.bipush 121, 2) := dk_16 121 (dk_at dksX4_drawn_5 4 rfl rfl)
theorem dX4_drawn_123 : decode cX4_drawn 123 = .ok (.invokevirtual 382, 3) := dk_182 1 126 (dk_at dksX4_drawn_5 6 rfl rfl)
theorem dX4_drawn_126 : decode cX4_drawn 126 = .ok (.ireturn, 1) := dk_172 (dk_at dksX4_drawn_5 9 rfl rfl)
abbrev mX4_drawn : xM := (yX4_drawn, cX4_drawn, 6, (some .int), [])
def m_drawn_66_b  (k66 : Int32 → Int32 → Int32 → MS → Option (Int32 × MS)) (x3 : Int32) (x4 : Int32) (x5 : Int32) (S : MS) : Option (Int32 × MS) :=
  (m_cells S).bind fun q69 =>
  if q69 ≤ x5 then
    if x3 = 0 then
      (m_votesAll ((121 : Int32)) S).bind fun q104 =>
      some (q104, S)
    else
      if x3 = (1 : Int32) then
        some (x4, S)
      else
        (m_winnerIn ((121 : Int32)) S).bind fun q123 =>
        some (q123, S)
  else
    (rdA S 13 ((212 : Int32) + x5)).bind fun v87 =>
    k66 x3 ((x4 + v87)) ((x5 + 1)) S
def m_drawn_66  : Nat → Int32 → Int32 → Int32 → MS → Option (Int32 × MS)
  | 0 => fun _ _ _ _ => none
  | n + 1 => fun x3 x4 x5 S => m_drawn_66_b (m_drawn_66 n) x3 x4 x5 S
theorem m_drawn_66_bok {G : xG} {m0 : Nat} {S0 : MS}  {k66 : Int32 → Int32 → Int32 → MS → Option (Int32 × MS)}  (hk66 : ∀ (x3 : Int32) (x4 : Int32) (x5 : Int32) (S : MS) (q : (Int32 × MS)), k66 x3 x4 x5 S = some q → XM G m0 mX4_drawn 6 S0 (some (.int q.1)) q.2 66 [(0, .ref m0), (3, .int x3), (4, .int x4), (5, .int x5)] [] S) (x3 : Int32) (x4 : Int32) (x5 : Int32) (S : MS) (q : (Int32 × MS)) (hf : m_drawn_66_b k66 x3 x4 x5 S = some q) : XM G m0 mX4_drawn 6 S0 (some (.int q.1)) q.2 66 [(0, .ref m0), (3, .int x3), (4, .int x4), (5, .int x5)] [] S := by
  intro h N Z
  unfold m_drawn_66_b at hf
  refine X.iload dX4_drawn_66 3 rfl ?_
  refine X.aload_n dX4_drawn_68 rfl 0 rfl ?_
  obtain ⟨q69, h69, hf⟩ := ob hf
  refine X.callVi (As := []) (rest := [.int x5]) dX4_drawn_69 (w_cells h69 h N Z) cX4_321 rfl rfl (Nat.le_of_ble_eq_true rfl) mh_0 rfl rfl (xD (Nat.le_of_ble_eq_true rfl)) xleN xleN ?_
  refine X.icmp_ge (tgt := 97) dX4_drawn_72 (by decide) (fun c72 => ?_) (fun c72 => ?_)
  · have hf := if_t c72 hf
    refine X.iload_n dX4_drawn_97 rfl 1 rfl ?_
    refine X.if_ne (tgt := 110) dX4_drawn_98 (by decide) (fun c98 => ?_) (fun c98 => ?_)
    · have hf := if_f c98 hf
      refine X.iload_n dX4_drawn_110 rfl 1 rfl ?_
      refine X.iconst (v := 1) dX4_drawn_111 (by decide) ?_
      refine X.icmp_ne (tgt := 120) dX4_drawn_112 (by decide) (fun c112 => ?_) (fun c112 => ?_)
      · have hf := if_f c112 hf
        refine X.aload_n dX4_drawn_120 rfl 0 rfl ?_
        refine X.bipush (v := 121) dX4_drawn_121 (by decide) ?_
        obtain ⟨q123, h123, hf⟩ := ob hf
        refine X.callVi (As := [.int (121 : Int32)]) (rest := []) dX4_drawn_123 (w_winnerIn h123 h N Z) cX4_382 rfl rfl (Nat.le_of_ble_eq_true rfl) mh_0 rfl rfl (xD (Nat.le_of_ble_eq_true rfl)) xleN xleN ?_
        obtain rfl := Option.some.inj hf
        exact X.iret dX4_drawn_126 rfl rfl rfl
      · have hf := if_t c112 hf
        refine X.iload dX4_drawn_115 2 rfl ?_
        refine X.goto (tgt := 126) dX4_drawn_117 (by decide) ?_
        obtain rfl := Option.some.inj hf
        exact X.iret dX4_drawn_126 rfl rfl rfl
    · have hf := if_t c98 hf
      refine X.aload_n dX4_drawn_101 rfl 0 rfl ?_
      refine X.bipush (v := 121) dX4_drawn_102 (by decide) ?_
      obtain ⟨q104, h104, hf⟩ := ob hf
      refine X.callVi (As := [.int (121 : Int32)]) (rest := []) dX4_drawn_104 (w_votesAll h104 h N Z) cX4_379 rfl rfl (Nat.le_of_ble_eq_true rfl) mh_0 rfl rfl (xD (Nat.le_of_ble_eq_true rfl)) xleN xleN ?_
      refine X.goto (tgt := 126) dX4_drawn_107 (by decide) ?_
      obtain rfl := Option.some.inj hf
      exact X.iret dX4_drawn_126 rfl rfl rfl
  · have hf := if_f c72 hf
    refine X.iload dX4_drawn_75 2 rfl ?_
    refine X.aload_n dX4_drawn_77 rfl 0 rfl ?_
    refine M.get (v := .ref (m0 + 13)) dX4_drawn_78 fX4_69 (Nat.le_of_ble_eq_true rfl) rfl ?_
    refine X.sipush (v := 212) dX4_drawn_81 (by decide) ?_
    refine X.iload dX4_drawn_84 3 rfl ?_
    refine X.iadd dX4_drawn_86 ?_
    obtain ⟨v87, h87, hf⟩ := ob hf
    refine M.iald dX4_drawn_87 rfl h87 ?_
    refine X.iadd dX4_drawn_88 ?_
    refine X.istore (L' := [(4, .int (x4 + v87)), (0, .ref m0), (3, .int x3), (5, .int x5)]) dX4_drawn_89 (Nat.le_of_ble_eq_true rfl) rfl ?_
    refine X.iinc (v := (x5 + 1)) (L' := [(5, .int (x5 + 1)), (4, .int (x4 + v87)), (0, .ref m0), (3, .int x3)]) dX4_drawn_91 3 rfl rfl (Nat.le_of_ble_eq_true rfl) rfl ?_
    refine X.goto (tgt := 66) dX4_drawn_94 (by decide) ?_
    refine X.sub [2, 3, 1, 0] (L' := [(0, .ref m0), (3, .int x3), (4, .int (x4 + v87)), (5, .int (x5 + 1))]) rfl ?_
    exact hk66 _ _ _ _ _ hf h N Z
theorem m_drawn_66_ok {G : xG} {m0 : Nat} {S0 : MS}   : ∀ (n : Nat) (x3 : Int32) (x4 : Int32) (x5 : Int32) (S : MS) (q : (Int32 × MS)), m_drawn_66 n x3 x4 x5 S = some q → XM G m0 mX4_drawn 6 S0 (some (.int q.1)) q.2 66 [(0, .ref m0), (3, .int x3), (4, .int x4), (5, .int x5)] [] S
  | 0, _, _, _, _, _, hf => by cases hf
  | n + 1, x3, x4, x5, S, q, hf => m_drawn_66_bok (m_drawn_66_ok n) x3 x4 x5 S q hf
def m_drawn_38_b  (k38 : Int32 → Int32 → Int32 → MS → Option (Int32 × MS)) (x2 : Int32) (x3 : Int32) (x4 : Int32) (S : MS) : Option (Int32 × MS) :=
  if x2 ≤ x4 then
    m_drawn_66 FU x3 ((0 : Int32)) ((0 : Int32)) S
  else
    (m_happens S).bind fun q45 =>
    (m_dayGoes ((121 : Int32)) q45).bind fun q51 =>
    k38 x2 x3 ((x4 + 1)) q51
def m_drawn_38  : Nat → Int32 → Int32 → Int32 → MS → Option (Int32 × MS)
  | 0 => fun _ _ _ _ => none
  | n + 1 => fun x2 x3 x4 S => m_drawn_38_b (m_drawn_38 n) x2 x3 x4 S
theorem m_drawn_38_bok {G : xG} {m0 : Nat} {S0 : MS}  {k38 : Int32 → Int32 → Int32 → MS → Option (Int32 × MS)}  (hk38 : ∀ (x2 : Int32) (x3 : Int32) (x4 : Int32) (S : MS) (q : (Int32 × MS)), k38 x2 x3 x4 S = some q → XM G m0 mX4_drawn 6 S0 (some (.int q.1)) q.2 38 [(0, .ref m0), (2, .int x2), (3, .int x3), (4, .int x4)] [] S) (x2 : Int32) (x3 : Int32) (x4 : Int32) (S : MS) (q : (Int32 × MS)) (hf : m_drawn_38_b k38 x2 x3 x4 S = some q) : XM G m0 mX4_drawn 6 S0 (some (.int q.1)) q.2 38 [(0, .ref m0), (2, .int x2), (3, .int x3), (4, .int x4)] [] S := by
  intro h N Z
  unfold m_drawn_38_b at hf
  refine X.iload dX4_drawn_38 3 rfl ?_
  refine X.iload_n dX4_drawn_40 rfl 1 rfl ?_
  refine X.icmp_ge (tgt := 60) dX4_drawn_41 (by decide) (fun c41 => ?_) (fun c41 => ?_)
  · have hf := if_t c41 hf
    refine X.iconst (v := 0) dX4_drawn_60 (by decide) ?_
    refine X.istore (L' := [(4, .int (0 : Int32)), (0, .ref m0), (2, .int x2), (3, .int x3)]) dX4_drawn_61 (Nat.le_of_ble_eq_true rfl) rfl ?_
    refine X.iconst (v := 0) dX4_drawn_63 (by decide) ?_
    refine X.istore (L' := [(5, .int (0 : Int32)), (4, .int (0 : Int32)), (0, .ref m0), (2, .int x2), (3, .int x3)]) dX4_drawn_64 (Nat.le_of_ble_eq_true rfl) rfl ?_
    refine X.sub [2, 4, 1, 0] (L' := [(0, .ref m0), (3, .int x3), (4, .int (0 : Int32)), (5, .int (0 : Int32))]) rfl ?_
    exact m_drawn_66_ok FU _ _ _ _ _ hf h N Z
  · have hf := if_f c41 hf
    refine X.aload_n dX4_drawn_44 rfl 0 rfl ?_
    obtain ⟨q45, h45, hf⟩ := ob hf
    refine X.callVv (As := []) (rest := []) (T2 := (mh m0 h q45, N, Z)) dX4_drawn_45 (w_happens h45 h N Z) cX4_454 rfl rfl (Nat.le_of_ble_eq_true rfl) mh_0 rfl rfl (xD (Nat.le_of_ble_eq_true rfl)) xleN xleN ?_
    refine X.aload_n dX4_drawn_48 rfl 0 rfl ?_
    refine X.bipush (v := 121) dX4_drawn_49 (by decide) ?_
    obtain ⟨q51, h51, hf⟩ := ob hf
    refine X.callVv (As := [.int (121 : Int32)]) (rest := []) (T2 := (mh m0 h q51, N, Z)) dX4_drawn_51 (w_dayGoes h51 h N Z) cX4_363 rfl rfl (Nat.le_of_ble_eq_true rfl) mh_0 rfl rfl (xD (Nat.le_of_ble_eq_true rfl)) xleN xleN ?_
    refine X.iinc (v := (x4 + 1)) (L' := [(4, .int (x4 + 1)), (0, .ref m0), (2, .int x2), (3, .int x3)]) dX4_drawn_54 3 rfl rfl (Nat.le_of_ble_eq_true rfl) rfl ?_
    refine X.goto (tgt := 38) dX4_drawn_57 (by decide) ?_
    refine X.sub [1, 2, 3, 0] (L' := [(0, .ref m0), (2, .int x2), (3, .int x3), (4, .int (x4 + 1))]) rfl ?_
    exact hk38 _ _ _ _ _ hf h N Z
theorem m_drawn_38_ok {G : xG} {m0 : Nat} {S0 : MS}   : ∀ (n : Nat) (x2 : Int32) (x3 : Int32) (x4 : Int32) (S : MS) (q : (Int32 × MS)), m_drawn_38 n x2 x3 x4 S = some q → XM G m0 mX4_drawn 6 S0 (some (.int q.1)) q.2 38 [(0, .ref m0), (2, .int x2), (3, .int x3), (4, .int x4)] [] S
  | 0, _, _, _, _, _, hf => by cases hf
  | n + 1, x2, x3, x4, S, q, hf => m_drawn_38_bok (m_drawn_38_ok n) x2 x3 x4 S q hf
def m_drawn (x1 : Int32) (x2 : Int32) (x3 : Int32) (S : MS) : Option (Int32 × MS) :=
  (m_isWhat x3 ((2 : Int32)) ((sF S 0 (0 : Int32)))).bind fun q8 =>
  if q8.1 = 0 then
    some ((0 : Int32), q8.2)
  else
    (m_isDays x2 ((0 : Int32)) ((2 : Int32)) q8.2).bind fun q18 =>
    if q18.1 = 0 then
      some ((0 : Int32), q18.2)
    else
      (m_tries q18.2).bind fun q27 =>
      m_drawn_38 FU x2 x3 ((0 : Int32)) ((sF q27 57 x1))
theorem w_drawn {G : xG} {m0 : Nat} {x1 : Int32} {x2 : Int32} {x3 : Int32} {S : MS} {q : (Int32 × MS)} (hf : m_drawn x1 x2 x3 S = some q) : CtM G m0 mX4_drawn 6 S [.ref m0, .int x1, .int x2, .int x3] (some (.int q.1)) q.2 := by
  intro h N Z
  refine Ct.of (by decide +kernel) rfl (Nat.le_of_ble_eq_true rfl) (show Xr G _ 0 [(0, .ref m0), (1, .int x1), (2, .int x2), (3, .int x3)] [] _ from ?_)
  unfold m_drawn at hf
  refine X.aload_n dX4_drawn_0 rfl 0 rfl ?_
  refine X.iconst (v := 0) dX4_drawn_1 (by decide) ?_
  refine M.putI dX4_drawn_2 fX4_115 (by decide) rfl rfl rfl ?_
  refine X.aload_n dX4_drawn_5 rfl 0 rfl ?_
  refine X.iload_n dX4_drawn_6 rfl 3 rfl ?_
  refine X.iconst (v := 2) dX4_drawn_7 (by decide) ?_
  obtain ⟨q8, h8, hf⟩ := ob hf
  refine X.callVi (As := [.int x3, .int (2 : Int32)]) (rest := []) (T2 := (mh m0 h q8.2, N, Z)) dX4_drawn_8 (w_isWhat h8 h N Z) cX4_388 rfl rfl (Nat.le_of_ble_eq_true rfl) mh_0 rfl rfl (xD (Nat.le_of_ble_eq_true rfl)) xleN xleN ?_
  refine X.if_eq (tgt := 24) dX4_drawn_11 (by decide) (fun c11 => ?_) (fun c11 => ?_)
  · have hf := if_t c11 hf
    refine X.iconst (v := 0) dX4_drawn_24 (by decide) ?_
    obtain rfl := Option.some.inj hf
    exact X.iret dX4_drawn_25 rfl rfl rfl
  · have hf := if_f c11 hf
    refine X.aload_n dX4_drawn_14 rfl 0 rfl ?_
    refine X.iload_n dX4_drawn_15 rfl 2 rfl ?_
    refine X.iconst (v := 0) dX4_drawn_16 (by decide) ?_
    refine X.iconst (v := 2) dX4_drawn_17 (by decide) ?_
    obtain ⟨q18, h18, hf⟩ := ob hf
    refine X.callVi (As := [.int x2, .int (0 : Int32), .int (2 : Int32)]) (rest := []) (T2 := (mh m0 h q18.2, N, Z)) dX4_drawn_18 (w_isDays h18 h N Z) cX4_409 rfl rfl (Nat.le_of_ble_eq_true rfl) mh_0 rfl rfl (xD (Nat.le_of_ble_eq_true rfl)) xleN xleN ?_
    refine X.if_ne (tgt := 26) dX4_drawn_21 (by decide) (fun c21 => ?_) (fun c21 => ?_)
    · have hf := if_f c21 hf
      refine X.aload_n dX4_drawn_26 rfl 0 rfl ?_
      obtain ⟨q27, h27, hf⟩ := ob hf
      refine X.callVv (As := []) (rest := []) (T2 := (mh m0 h q27, N, Z)) dX4_drawn_27 (w_tries h27 h N Z) cX4_403 rfl rfl (Nat.le_of_ble_eq_true rfl) mh_0 rfl rfl (xD (Nat.le_of_ble_eq_true rfl)) xleN xleN ?_
      refine X.aload_n dX4_drawn_30 rfl 0 rfl ?_
      refine X.iload_n dX4_drawn_31 rfl 1 rfl ?_
      refine M.putI dX4_drawn_32 fX4_447 (by decide) rfl rfl rfl ?_
      refine X.iconst (v := 0) dX4_drawn_35 (by decide) ?_
      refine X.istore (L' := [(4, .int (0 : Int32)), (0, .ref m0), (1, .int x1), (2, .int x2), (3, .int x3)]) dX4_drawn_36 (Nat.le_of_ble_eq_true rfl) rfl ?_
      refine X.sub [1, 3, 4, 0] (L' := [(0, .ref m0), (2, .int x2), (3, .int x3), (4, .int (0 : Int32))]) rfl ?_
      exact m_drawn_38_ok FU _ _ _ _ _ hf h N Z
    · have hf := if_t c21 hf
      refine X.iconst (v := 0) dX4_drawn_24 (by decide) ?_
      obtain rfl := Option.some.inj hf
      exact X.iret dX4_drawn_25 rfl rfl rfl
/-! fronts -/
abbrev cX4_fronts : ByteArray := prog_12_method_112_code
def yX4_fronts : MethodName := ⟨RX4, "fronts", "(I)I"⟩
def dkwX4_fronts_3 : List UInt8 := [5, 108, 172]
abbrev dktX4_fronts_3 : List UInt8 := dkwX4_fronts_3 ++ []
def dkwX4_fronts_2 : List UInt8 := [160, 0, 7, 3, 167, 0, 11, 42, 16, 121, 29, 3, 182, 1, 74, 96, 61, 132, 3, 1, 167, 255, 216, 28]
abbrev dktX4_fronts_2 : List UInt8 := dkwX4_fronts_2 ++ dktX4_fronts_3
def dkwX4_fronts_1 : List UInt8 := [3, 62, 29, 42, 182, 1, 65, 162, 0, 38, 28, 42, 180, 0, 69, 17, 0, 182, 29, 96, 46, 2]
abbrev dktX4_fronts_1 : List UInt8 := dkwX4_fronts_1 ++ dktX4_fronts_2
def dkwX4_fronts_0 : List UInt8 := [42, 3, 181, 0, 115, 42, 27, 3, 4, 182, 1, 153, 154, 0, 5, 3, 172, 42, 27, 182, 1, 156, 3, 61]
abbrev dktX4_fronts_0 : List UInt8 := dkwX4_fronts_0 ++ dktX4_fronts_1
theorem dksX4_fronts_0 : cX4_fronts.data.toList.drop 0 = dktX4_fronts_0 := by decide +kernel
theorem dksX4_fronts_1 : cX4_fronts.data.toList.drop 24 = dktX4_fronts_1 := dk_seg dksX4_fronts_0 24 rfl rfl
theorem dksX4_fronts_2 : cX4_fronts.data.toList.drop 46 = dktX4_fronts_2 := dk_seg dksX4_fronts_1 22 rfl rfl
theorem dksX4_fronts_3 : cX4_fronts.data.toList.drop 70 = dktX4_fronts_3 := dk_seg dksX4_fronts_2 24 rfl rfl
theorem dX4_fronts_0 : decode cX4_fronts 0 = .ok (.aload_n 0, 1) := dk_42 (dk_at dksX4_fronts_0 0 rfl rfl)
theorem dX4_fronts_1 : decode cX4_fronts 1 = .ok (.iconst 0, 1) := dk_3 (dk_at dksX4_fronts_0 1 rfl rfl)
theorem dX4_fronts_2 : decode cX4_fronts 2 = .ok (.putfield 115, 3) := dk_181 0 115 (dk_at dksX4_fronts_0 2 rfl rfl)
theorem dX4_fronts_5 : decode cX4_fronts 5 = .ok (.aload_n 0, 1) := dk_42 (dk_at dksX4_fronts_0 5 rfl rfl)
theorem dX4_fronts_6 : decode cX4_fronts 6 = .ok (.iload_n 1, 1) := dk_27 (dk_at dksX4_fronts_0 6 rfl rfl)
theorem dX4_fronts_7 : decode cX4_fronts 7 = .ok (.iconst 0, 1) := dk_3 (dk_at dksX4_fronts_0 7 rfl rfl)
theorem dX4_fronts_8 : decode cX4_fronts 8 = .ok (.iconst 1, 1) := dk_4 (dk_at dksX4_fronts_0 8 rfl rfl)
theorem dX4_fronts_9 : decode cX4_fronts 9 = .ok (.invokevirtual 409, 3) := dk_182 1 153 (dk_at dksX4_fronts_0 9 rfl rfl)
theorem dX4_fronts_12 : decode cX4_fronts 12 = .ok (.ifCond .ne 5, 3) := dk_154 0 5 (dk_at dksX4_fronts_0 12 rfl rfl)
theorem dX4_fronts_15 : decode cX4_fronts 15 = .ok (.iconst 0, 1) := dk_3 (dk_at dksX4_fronts_0 15 rfl rfl)
theorem dX4_fronts_16 : decode cX4_fronts 16 = .ok (.ireturn, 1) := dk_172 (dk_at dksX4_fronts_0 16 rfl rfl)
theorem dX4_fronts_17 : decode cX4_fronts 17 = .ok (.aload_n 0, 1) := dk_42 (dk_at dksX4_fronts_0 17 rfl rfl)
theorem dX4_fronts_18 : decode cX4_fronts 18 = .ok (.iload_n 1, 1) := dk_27 (dk_at dksX4_fronts_0 18 rfl rfl)
theorem dX4_fronts_19 : decode cX4_fronts 19 = .ok (.invokevirtual 412, 3) := dk_182 1 156 (dk_at dksX4_fronts_0 19 rfl rfl)
theorem dX4_fronts_22 : decode cX4_fronts 22 = .ok (.iconst 0, 1) := dk_3 (dk_at dksX4_fronts_0 22 rfl rfl)
theorem dX4_fronts_23 : decode cX4_fronts 23 = .ok (.istore_n 2, 1) := dk_61 (dk_at dksX4_fronts_0 23 rfl rfl)
theorem dX4_fronts_24 : decode cX4_fronts 24 = .ok (.iconst 0, 1) := dk_3 (dk_at dksX4_fronts_1 0 rfl rfl)
theorem dX4_fronts_25 : decode cX4_fronts 25 = .ok (.istore_n 3, 1) := dk_62 (dk_at dksX4_fronts_1 1 rfl rfl)
theorem dX4_fronts_26 : decode cX4_fronts 26 = .ok (.iload_n 3, 1) := dk_29 (dk_at dksX4_fronts_1 2 rfl rfl)
theorem dX4_fronts_27 : decode cX4_fronts 27 = .ok (.aload_n 0, 1) := dk_42 (dk_at dksX4_fronts_1 3 rfl rfl)
theorem dX4_fronts_28 : decode cX4_fronts 28 = .ok (.invokevirtual 321, 3) := dk_182 1 65 (dk_at dksX4_fronts_1 4 rfl rfl)
theorem dX4_fronts_31 : decode cX4_fronts 31 = .ok (.if_icmp .ge 38, 3) := dk_162 0 38 (dk_at dksX4_fronts_1 7 rfl rfl)
theorem dX4_fronts_34 : decode cX4_fronts 34 = .ok (.iload_n 2, 1) := dk_28 (dk_at dksX4_fronts_1 10 rfl rfl)
theorem dX4_fronts_35 : decode cX4_fronts 35 = .ok (.aload_n 0, 1) := dk_42 (dk_at dksX4_fronts_1 11 rfl rfl)
theorem dX4_fronts_36 : decode cX4_fronts 36 = .ok (.getfield 69, 3) := dk_180 0 69 (dk_at dksX4_fronts_1 12 rfl rfl)
theorem dX4_fronts_39 : decode cX4_fronts 39 = .ok (.sipush 182, 3) := dk_17 0 182 (dk_at dksX4_fronts_1 15 rfl rfl)
theorem dX4_fronts_42 : decode cX4_fronts 42 = .ok (.iload_n 3, 1) := dk_29 (dk_at dksX4_fronts_1 18 rfl rfl)
theorem dX4_fronts_43 : decode cX4_fronts 43 = .ok (.iadd, 1) := dk_96 (dk_at dksX4_fronts_1 19 rfl rfl)
theorem dX4_fronts_44 : decode cX4_fronts 44 = .ok (.iaload, 1) := dk_46 (dk_at dksX4_fronts_1 20 rfl rfl)
theorem dX4_fronts_45 : decode cX4_fronts 45 = .ok (.iconst (-1), 1) := dk_2 (dk_at dksX4_fronts_1 21 rfl rfl)
theorem dX4_fronts_46 : decode cX4_fronts 46 = .ok (.if_icmp .ne 7, 3) := dk_160 0 7 (dk_at dksX4_fronts_2 0 rfl rfl)
theorem dX4_fronts_49 : decode cX4_fronts 49 = .ok (.iconst 0, 1) := dk_3 (dk_at dksX4_fronts_2 3 rfl rfl)
theorem dX4_fronts_50 : decode cX4_fronts 50 = .ok (.goto 11, 3) := dk_167 0 11 (dk_at dksX4_fronts_2 4 rfl rfl)
theorem dX4_fronts_53 : decode cX4_fronts 53 = .ok (.aload_n 0, 1) := dk_42 (dk_at dksX4_fronts_2 7 rfl rfl)
theorem dX4_fronts_54 : decode cX4_fronts 54 = .ok (.bipush 121, 2) := dk_16 121 (dk_at dksX4_fronts_2 8 rfl rfl)
theorem dX4_fronts_56 : decode cX4_fronts 56 = .ok (.iload_n 3, 1) := dk_29 (dk_at dksX4_fronts_2 10 rfl rfl)
theorem dX4_fronts_57 : decode cX4_fronts 57 = .ok (.iconst 0, 1) := dk_3 (dk_at dksX4_fronts_2 11 rfl rfl)
theorem dX4_fronts_58 : decode cX4_fronts 58 = .ok (.invokevirtual 330, 3) := dk_182 1 74 (dk_at dksX4_fronts_2 12 rfl rfl)
theorem dX4_fronts_61 : decode cX4_fronts 61 = .ok (.iadd, 1) := dk_96 (dk_at dksX4_fronts_2 15 rfl rfl)
theorem dX4_fronts_62 : decode cX4_fronts 62 = .ok (.istore_n 2, 1) := dk_61 (dk_at dksX4_fronts_2 16 rfl rfl)
theorem dX4_fronts_63 : decode cX4_fronts 63 = .ok (.iinc 3 1, 3) := dk_132 3 1 (dk_at dksX4_fronts_2 17 rfl rfl)
theorem dX4_fronts_66 : decode cX4_fronts 66 = .ok (.goto (-40), 3) := dk_167 255 216 (dk_at dksX4_fronts_2 20 rfl rfl)
theorem dX4_fronts_69 : decode cX4_fronts 69 = .ok (.iload_n 2, 1) := dk_28 (dk_at dksX4_fronts_2 23 rfl rfl)
theorem dX4_fronts_70 : decode cX4_fronts 70 = .ok (.iconst 2, 1) := dk_5 (dk_at dksX4_fronts_3 0 rfl rfl)
theorem dX4_fronts_71 : decode cX4_fronts 71 = .ok (.idiv, 1) := dk_108 (dk_at dksX4_fronts_3 1 rfl rfl)
theorem dX4_fronts_72 : decode cX4_fronts 72 = .ok (.ireturn, 1) := dk_172 (dk_at dksX4_fronts_3 2 rfl rfl)
abbrev mX4_fronts : xM := (yX4_fronts, cX4_fronts, 4, (some .int), [])
def m_fronts_61 (k26 : Int32 → Int32 → MS → Option (Int32 × MS)) (x3 : Int32) (y0 : Int32) (y1 : Int32) (S : MS) : Option (Int32 × MS) :=
  k26 ((y1 + y0)) ((x3 + 1)) S
theorem m_fronts_61_ok {G : xG} {m0 : Nat} {S0 : MS} {k26 : Int32 → Int32 → MS → Option (Int32 × MS)} (hk26 : ∀ (x2 : Int32) (x3 : Int32) (S : MS) (q : (Int32 × MS)), k26 x2 x3 S = some q → XM G m0 mX4_fronts 8 S0 (some (.int q.1)) q.2 26 [(0, .ref m0), (2, .int x2), (3, .int x3)] [] S) (x3 : Int32) (y0 : Int32) (y1 : Int32) (S : MS) (q : (Int32 × MS)) (hf : m_fronts_61 k26 x3 y0 y1 S = some q) : XM G m0 mX4_fronts 8 S0 (some (.int q.1)) q.2 61 [(0, .ref m0), (3, .int x3)] [.int y0, .int y1] S := by
  intro h N Z
  unfold m_fronts_61 at hf
  refine X.iadd dX4_fronts_61 ?_
  refine X.istore_n (L' := [(2, .int (y1 + y0)), (0, .ref m0), (3, .int x3)]) dX4_fronts_62 rfl (Nat.le_of_ble_eq_true rfl) rfl ?_
  refine X.iinc (v := (x3 + 1)) (L' := [(3, .int (x3 + 1)), (2, .int (y1 + y0)), (0, .ref m0)]) dX4_fronts_63 2 rfl rfl (Nat.le_of_ble_eq_true rfl) rfl ?_
  refine X.goto (tgt := 26) dX4_fronts_66 (by decide) ?_
  refine X.sub [2, 1, 0] (L' := [(0, .ref m0), (2, .int (y1 + y0)), (3, .int (x3 + 1))]) rfl ?_
  exact hk26 _ _ _ _ hf h N Z
def m_fronts_26_b  (k26 : Int32 → Int32 → MS → Option (Int32 × MS)) (x2 : Int32) (x3 : Int32) (S : MS) : Option (Int32 × MS) :=
  (m_cells S).bind fun q28 =>
  if q28 ≤ x3 then
    if (2 : Int32) = 0 then none else
    some ((x2 / (2 : Int32)), S)
  else
    (rdA S 13 ((182 : Int32) + x3)).bind fun v44 =>
    if v44 = (-1 : Int32) then
      m_fronts_61 k26 x3 ((0 : Int32)) x2 S
    else
      (m_besideOf ((121 : Int32)) x3 ((0 : Int32)) S).bind fun q58 =>
      m_fronts_61 k26 x3 q58 x2 S
def m_fronts_26  : Nat → Int32 → Int32 → MS → Option (Int32 × MS)
  | 0 => fun _ _ _ => none
  | n + 1 => fun x2 x3 S => m_fronts_26_b (m_fronts_26 n) x2 x3 S
theorem m_fronts_26_bok {G : xG} {m0 : Nat} {S0 : MS}  {k26 : Int32 → Int32 → MS → Option (Int32 × MS)}  (hk26 : ∀ (x2 : Int32) (x3 : Int32) (S : MS) (q : (Int32 × MS)), k26 x2 x3 S = some q → XM G m0 mX4_fronts 8 S0 (some (.int q.1)) q.2 26 [(0, .ref m0), (2, .int x2), (3, .int x3)] [] S) (x2 : Int32) (x3 : Int32) (S : MS) (q : (Int32 × MS)) (hf : m_fronts_26_b k26 x2 x3 S = some q) : XM G m0 mX4_fronts 8 S0 (some (.int q.1)) q.2 26 [(0, .ref m0), (2, .int x2), (3, .int x3)] [] S := by
  intro h N Z
  unfold m_fronts_26_b at hf
  refine X.iload_n dX4_fronts_26 rfl 2 rfl ?_
  refine X.aload_n dX4_fronts_27 rfl 0 rfl ?_
  obtain ⟨q28, h28, hf⟩ := ob hf
  refine X.callVi (As := []) (rest := [.int x3]) dX4_fronts_28 (w_cells h28 h N Z) cX4_321 rfl rfl (Nat.le_of_ble_eq_true rfl) mh_0 rfl rfl (xD (Nat.le_of_ble_eq_true rfl)) xleN xleN ?_
  refine X.icmp_ge (tgt := 69) dX4_fronts_31 (by decide) (fun c31 => ?_) (fun c31 => ?_)
  · have hf := if_t c31 hf
    refine X.iload_n dX4_fronts_69 rfl 1 rfl ?_
    refine X.iconst (v := 2) dX4_fronts_70 (by decide) ?_
    obtain ⟨c71, hf⟩ := if_n hf
    refine X.idiv dX4_fronts_71 c71 ?_
    obtain rfl := Option.some.inj hf
    exact X.iret dX4_fronts_72 rfl rfl rfl
  · have hf := if_f c31 hf
    refine X.iload_n dX4_fronts_34 rfl 1 rfl ?_
    refine X.aload_n dX4_fronts_35 rfl 0 rfl ?_
    refine M.get (v := .ref (m0 + 13)) dX4_fronts_36 fX4_69 (Nat.le_of_ble_eq_true rfl) rfl ?_
    refine X.sipush (v := 182) dX4_fronts_39 (by decide) ?_
    refine X.iload_n dX4_fronts_42 rfl 2 rfl ?_
    refine X.iadd dX4_fronts_43 ?_
    obtain ⟨v44, h44, hf⟩ := ob hf
    refine M.iald dX4_fronts_44 rfl h44 ?_
    refine X.iconst (v := -1) dX4_fronts_45 (by decide) ?_
    refine X.icmp_ne (tgt := 53) dX4_fronts_46 (by decide) (fun c46 => ?_) (fun c46 => ?_)
    · have hf := if_f c46 hf
      refine X.aload_n dX4_fronts_53 rfl 0 rfl ?_
      refine X.bipush (v := 121) dX4_fronts_54 (by decide) ?_
      refine X.iload_n dX4_fronts_56 rfl 2 rfl ?_
      refine X.iconst (v := 0) dX4_fronts_57 (by decide) ?_
      obtain ⟨q58, h58, hf⟩ := ob hf
      refine X.callVi (As := [.int (121 : Int32), .int x3, .int (0 : Int32)]) (rest := [.int x2]) dX4_fronts_58 (w_besideOf h58 h N Z) cX4_330 rfl rfl (Nat.le_of_ble_eq_true rfl) mh_0 rfl rfl (xD (Nat.le_of_ble_eq_true rfl)) xleN xleN ?_
      refine X.sub [0, 2] (L' := [(0, .ref m0), (3, .int x3)]) rfl ?_
      exact m_fronts_61_ok hk26 _ _ _ _ _ hf h N Z
    · have hf := if_t c46 hf
      refine X.iconst (v := 0) dX4_fronts_49 (by decide) ?_
      refine X.goto (tgt := 61) dX4_fronts_50 (by decide) ?_
      refine X.sub [0, 2] (L' := [(0, .ref m0), (3, .int x3)]) rfl ?_
      exact m_fronts_61_ok hk26 _ _ _ _ _ hf h N Z
theorem m_fronts_26_ok {G : xG} {m0 : Nat} {S0 : MS}   : ∀ (n : Nat) (x2 : Int32) (x3 : Int32) (S : MS) (q : (Int32 × MS)), m_fronts_26 n x2 x3 S = some q → XM G m0 mX4_fronts 8 S0 (some (.int q.1)) q.2 26 [(0, .ref m0), (2, .int x2), (3, .int x3)] [] S
  | 0, _, _, _, _, hf => by cases hf
  | n + 1, x2, x3, S, q, hf => m_fronts_26_bok (m_fronts_26_ok n) x2 x3 S q hf
def m_fronts (x1 : Int32) (S : MS) : Option (Int32 × MS) :=
  (m_isDays x1 ((0 : Int32)) ((1 : Int32)) ((sF S 0 (0 : Int32)))).bind fun q9 =>
  if q9.1 = 0 then
    some ((0 : Int32), q9.2)
  else
    (m_goesTo x1 q9.2).bind fun q19 =>
    m_fronts_26 FU ((0 : Int32)) ((0 : Int32)) q19
theorem w_fronts {G : xG} {m0 : Nat} {x1 : Int32} {S : MS} {q : (Int32 × MS)} (hf : m_fronts x1 S = some q) : CtM G m0 mX4_fronts 8 S [.ref m0, .int x1] (some (.int q.1)) q.2 := by
  intro h N Z
  refine Ct.of (by decide +kernel) rfl (Nat.le_of_ble_eq_true rfl) (show Xr G _ 0 [(0, .ref m0), (1, .int x1)] [] _ from ?_)
  unfold m_fronts at hf
  refine X.aload_n dX4_fronts_0 rfl 0 rfl ?_
  refine X.iconst (v := 0) dX4_fronts_1 (by decide) ?_
  refine M.putI dX4_fronts_2 fX4_115 (by decide) rfl rfl rfl ?_
  refine X.aload_n dX4_fronts_5 rfl 0 rfl ?_
  refine X.iload_n dX4_fronts_6 rfl 1 rfl ?_
  refine X.iconst (v := 0) dX4_fronts_7 (by decide) ?_
  refine X.iconst (v := 1) dX4_fronts_8 (by decide) ?_
  obtain ⟨q9, h9, hf⟩ := ob hf
  refine X.callVi (As := [.int x1, .int (0 : Int32), .int (1 : Int32)]) (rest := []) (T2 := (mh m0 h q9.2, N, Z)) dX4_fronts_9 (w_isDays h9 h N Z) cX4_409 rfl rfl (Nat.le_of_ble_eq_true rfl) mh_0 rfl rfl (xD (Nat.le_of_ble_eq_true rfl)) xleN xleN ?_
  refine X.if_ne (tgt := 17) dX4_fronts_12 (by decide) (fun c12 => ?_) (fun c12 => ?_)
  · have hf := if_f c12 hf
    refine X.aload_n dX4_fronts_17 rfl 0 rfl ?_
    refine X.iload_n dX4_fronts_18 rfl 1 rfl ?_
    obtain ⟨q19, h19, hf⟩ := ob hf
    refine X.callVv (As := [.int x1]) (rest := []) (T2 := (mh m0 h q19, N, Z)) dX4_fronts_19 (w_goesTo h19 h N Z) cX4_412 rfl rfl (Nat.le_of_ble_eq_true rfl) mh_0 rfl rfl (xD (Nat.le_of_ble_eq_true rfl)) xleN xleN ?_
    refine X.iconst (v := 0) dX4_fronts_22 (by decide) ?_
    refine X.istore_n (L' := [(2, .int (0 : Int32)), (0, .ref m0), (1, .int x1)]) dX4_fronts_23 rfl (Nat.le_of_ble_eq_true rfl) rfl ?_
    refine X.iconst (v := 0) dX4_fronts_24 (by decide) ?_
    refine X.istore_n (L' := [(3, .int (0 : Int32)), (2, .int (0 : Int32)), (0, .ref m0), (1, .int x1)]) dX4_fronts_25 rfl (Nat.le_of_ble_eq_true rfl) rfl ?_
    refine X.sub [2, 1, 0] (L' := [(0, .ref m0), (2, .int (0 : Int32)), (3, .int (0 : Int32))]) rfl ?_
    exact m_fronts_26_ok FU _ _ _ _ hf h N Z
  · have hf := if_t c12 hf
    refine X.iconst (v := 0) dX4_fronts_15 (by decide) ?_
    obtain rfl := Option.some.inj hf
    exact X.iret dX4_fronts_16 rfl rfl rfl
/-! lost -/
abbrev cX4_lost : ByteArray := prog_12_method_113_code
def yX4_lost : MethodName := ⟨RX4, "lost", "(I)I"⟩
def dkwX4_lost_3 : List UInt8 := [120, 167, 0, 4, 3, 128, 61, 132, 3, 1, 167, 255, 200, 28, 172]
abbrev dktX4_lost_3 : List UInt8 := dkwX4_lost_3 ++ []
def dkwX4_lost_2 : List UInt8 := [42, 180, 0, 69, 17, 0, 182, 29, 96, 46, 42, 180, 0, 69, 16, 61, 29, 96, 46, 159, 0, 9, 4, 29]
abbrev dktX4_lost_2 : List UInt8 := dkwX4_lost_2 ++ dktX4_lost_3
def dkwX4_lost_1 : List UInt8 := [3, 62, 29, 42, 182, 1, 65, 162, 0, 54, 28, 42, 180, 0, 69, 16, 61, 29, 96, 46, 2, 159, 0, 31]
abbrev dktX4_lost_1 : List UInt8 := dkwX4_lost_1 ++ dktX4_lost_2
def dkwX4_lost_0 : List UInt8 := [42, 3, 181, 0, 115, 42, 27, 3, 4, 182, 1, 153, 154, 0, 5, 3, 172, 42, 27, 182, 1, 156, 3, 61]
abbrev dktX4_lost_0 : List UInt8 := dkwX4_lost_0 ++ dktX4_lost_1
theorem dksX4_lost_0 : cX4_lost.data.toList.drop 0 = dktX4_lost_0 := by decide +kernel
theorem dksX4_lost_1 : cX4_lost.data.toList.drop 24 = dktX4_lost_1 := dk_seg dksX4_lost_0 24 rfl rfl
theorem dksX4_lost_2 : cX4_lost.data.toList.drop 48 = dktX4_lost_2 := dk_seg dksX4_lost_1 24 rfl rfl
theorem dksX4_lost_3 : cX4_lost.data.toList.drop 72 = dktX4_lost_3 := dk_seg dksX4_lost_2 24 rfl rfl
theorem dX4_lost_0 : decode cX4_lost 0 = .ok (.aload_n 0, 1) := dk_42 (dk_at dksX4_lost_0 0 rfl rfl)
theorem dX4_lost_1 : decode cX4_lost 1 = .ok (.iconst 0, 1) := dk_3 (dk_at dksX4_lost_0 1 rfl rfl)
theorem dX4_lost_2 : decode cX4_lost 2 = .ok (.putfield 115, 3) := dk_181 0 115 (dk_at dksX4_lost_0 2 rfl rfl)
theorem dX4_lost_5 : decode cX4_lost 5 = .ok (.aload_n 0, 1) := dk_42 (dk_at dksX4_lost_0 5 rfl rfl)
theorem dX4_lost_6 : decode cX4_lost 6 = .ok (.iload_n 1, 1) := dk_27 (dk_at dksX4_lost_0 6 rfl rfl)
theorem dX4_lost_7 : decode cX4_lost 7 = .ok (.iconst 0, 1) := dk_3 (dk_at dksX4_lost_0 7 rfl rfl)
theorem dX4_lost_8 : decode cX4_lost 8 = .ok (.iconst 1, 1) := dk_4 (dk_at dksX4_lost_0 8 rfl rfl)
theorem dX4_lost_9 : decode cX4_lost 9 = .ok (.invokevirtual 409, 3) := dk_182 1 153 (dk_at dksX4_lost_0 9 rfl rfl)
theorem dX4_lost_12 : decode cX4_lost 12 = .ok (.ifCond .ne 5, 3) := dk_154 0 5 (dk_at dksX4_lost_0 12 rfl rfl)
theorem dX4_lost_15 : decode cX4_lost 15 = .ok (.iconst 0, 1) := dk_3 (dk_at dksX4_lost_0 15 rfl rfl)
theorem dX4_lost_16 : decode cX4_lost 16 = .ok (.ireturn, 1) := dk_172 (dk_at dksX4_lost_0 16 rfl rfl)
theorem dX4_lost_17 : decode cX4_lost 17 = .ok (.aload_n 0, 1) := dk_42 (dk_at dksX4_lost_0 17 rfl rfl)
theorem dX4_lost_18 : decode cX4_lost 18 = .ok (.iload_n 1, 1) := dk_27 (dk_at dksX4_lost_0 18 rfl rfl)
theorem dX4_lost_19 : decode cX4_lost 19 = .ok (.invokevirtual 412, 3) := dk_182 1 156 (dk_at dksX4_lost_0 19 rfl rfl)
theorem dX4_lost_22 : decode cX4_lost 22 = .ok (.iconst 0, 1) := dk_3 (dk_at dksX4_lost_0 22 rfl rfl)
theorem dX4_lost_23 : decode cX4_lost 23 = .ok (.istore_n 2, 1) := dk_61 (dk_at dksX4_lost_0 23 rfl rfl)
theorem dX4_lost_24 : decode cX4_lost 24 = .ok (.iconst 0, 1) := dk_3 (dk_at dksX4_lost_1 0 rfl rfl)
theorem dX4_lost_25 : decode cX4_lost 25 = .ok (.istore_n 3, 1) := dk_62 (dk_at dksX4_lost_1 1 rfl rfl)
theorem dX4_lost_26 : decode cX4_lost 26 = .ok (.iload_n 3, 1) := dk_29 (dk_at dksX4_lost_1 2 rfl rfl)
theorem dX4_lost_27 : decode cX4_lost 27 = .ok (.aload_n 0, 1) := dk_42 (dk_at dksX4_lost_1 3 rfl rfl)
theorem dX4_lost_28 : decode cX4_lost 28 = .ok (.invokevirtual 321, 3) := dk_182 1 65 (dk_at dksX4_lost_1 4 rfl rfl)
theorem dX4_lost_31 : decode cX4_lost 31 = .ok (.if_icmp .ge 54, 3) := dk_162 0 54 (dk_at dksX4_lost_1 7 rfl rfl)
theorem dX4_lost_34 : decode cX4_lost 34 = .ok (.iload_n 2, 1) := dk_28 (dk_at dksX4_lost_1 10 rfl rfl)
theorem dX4_lost_35 : decode cX4_lost 35 = .ok (.aload_n 0, 1) := dk_42 (dk_at dksX4_lost_1 11 rfl rfl)
theorem dX4_lost_36 : decode cX4_lost 36 = .ok (.getfield 69, 3) := dk_180 0 69 (dk_at dksX4_lost_1 12 rfl rfl)
theorem dX4_lost_39 : decode cX4_lost 39 = .ok (.bipush 61, 2) := dk_16 61 (dk_at dksX4_lost_1 15 rfl rfl)
theorem dX4_lost_41 : decode cX4_lost 41 = .ok (.iload_n 3, 1) := dk_29 (dk_at dksX4_lost_1 17 rfl rfl)
theorem dX4_lost_42 : decode cX4_lost 42 = .ok (.iadd, 1) := dk_96 (dk_at dksX4_lost_1 18 rfl rfl)
theorem dX4_lost_43 : decode cX4_lost 43 = .ok (.iaload, 1) := dk_46 (dk_at dksX4_lost_1 19 rfl rfl)
theorem dX4_lost_44 : decode cX4_lost 44 = .ok (.iconst (-1), 1) := dk_2 (dk_at dksX4_lost_1 20 rfl rfl)
theorem dX4_lost_45 : decode cX4_lost 45 = .ok (.if_icmp .eq 31, 3) := dk_159 0 31 (dk_at dksX4_lost_1 21 rfl rfl)
theorem dX4_lost_48 : decode cX4_lost 48 = .ok (.aload_n 0, 1) := dk_42 (dk_at dksX4_lost_2 0 rfl rfl)
theorem dX4_lost_49 : decode cX4_lost 49 = .ok (.getfield 69, 3) := dk_180 0 69 (dk_at dksX4_lost_2 1 rfl rfl)
theorem dX4_lost_52 : decode cX4_lost 52 = .ok (.sipush 182, 3) := dk_17 0 182 (dk_at dksX4_lost_2 4 rfl rfl)
theorem dX4_lost_55 : decode cX4_lost 55 = .ok (.iload_n 3, 1) := dk_29 (dk_at dksX4_lost_2 7 rfl rfl)
theorem dX4_lost_56 : decode cX4_lost 56 = .ok (.iadd, 1) := dk_96 (dk_at dksX4_lost_2 8 rfl rfl)
theorem dX4_lost_57 : decode cX4_lost 57 = .ok (.iaload, 1) := dk_46 (dk_at dksX4_lost_2 9 rfl rfl)
theorem dX4_lost_58 : decode cX4_lost 58 = .ok (.aload_n 0, 1) := dk_42 (dk_at dksX4_lost_2 10 rfl rfl)
theorem dX4_lost_59 : decode cX4_lost 59 = .ok (.getfield 69, 3) := dk_180 0 69 (dk_at dksX4_lost_2 11 rfl rfl)
theorem dX4_lost_62 : decode cX4_lost 62 = .ok (.bipush 61, 2) := dk_16 61 (dk_at dksX4_lost_2 14 rfl rfl)
theorem dX4_lost_64 : decode cX4_lost 64 = .ok (.iload_n 3, 1) := dk_29 (dk_at dksX4_lost_2 16 rfl rfl)
theorem dX4_lost_65 : decode cX4_lost 65 = .ok (.iadd, 1) := dk_96 (dk_at dksX4_lost_2 17 rfl rfl)
theorem dX4_lost_66 : decode cX4_lost 66 = .ok (.iaload, 1) := dk_46 (dk_at dksX4_lost_2 18 rfl rfl)
theorem dX4_lost_67 : decode cX4_lost 67 = .ok (.if_icmp .eq 9, 3) := dk_159 0 9 (dk_at dksX4_lost_2 19 rfl rfl)
theorem dX4_lost_70 : decode cX4_lost 70 = .ok (.iconst 1, 1) := dk_4 (dk_at dksX4_lost_2 22 rfl rfl)
theorem dX4_lost_71 : decode cX4_lost 71 = .ok (.iload_n 3, 1) := dk_29 (dk_at dksX4_lost_2 23 rfl rfl)
theorem dX4_lost_72 : decode cX4_lost 72 = .ok (.ishl, 1) := dk_120 (dk_at dksX4_lost_3 0 rfl rfl)
theorem dX4_lost_73 : decode cX4_lost 73 = .ok (.goto 4, 3) := dk_167 0 4 (dk_at dksX4_lost_3 1 rfl rfl)
theorem dX4_lost_76 : decode cX4_lost 76 = .ok (.iconst 0, 1) := dk_3 (dk_at dksX4_lost_3 4 rfl rfl)
theorem dX4_lost_77 : decode cX4_lost 77 = .ok (.ior, 1) := dk_128 (dk_at dksX4_lost_3 5 rfl rfl)
theorem dX4_lost_78 : decode cX4_lost 78 = .ok (.istore_n 2, 1) := dk_61 (dk_at dksX4_lost_3 6 rfl rfl)
theorem dX4_lost_79 : decode cX4_lost 79 = .ok (.iinc 3 1, 3) := dk_132 3 1 (dk_at dksX4_lost_3 7 rfl rfl)
theorem dX4_lost_82 : decode cX4_lost 82 = .ok (.goto (-56), 3) := dk_167 255 200 (dk_at dksX4_lost_3 10 rfl rfl)
theorem dX4_lost_85 : decode cX4_lost 85 = .ok (.iload_n 2, 1) := dk_28 (dk_at dksX4_lost_3 13 rfl rfl)
theorem dX4_lost_86 : decode cX4_lost 86 = .ok (.ireturn, 1) := dk_172 (dk_at dksX4_lost_3 14 rfl rfl)
abbrev mX4_lost : xM := (yX4_lost, cX4_lost, 4, (some .int), [])
def m_lost_77 (k26 : Int32 → Int32 → MS → Option (Int32 × MS)) (x3 : Int32) (y0 : Int32) (y1 : Int32) (S : MS) : Option (Int32 × MS) :=
  k26 ((y1 ||| y0)) ((x3 + 1)) S
theorem m_lost_77_ok {G : xG} {m0 : Nat} {S0 : MS} {k26 : Int32 → Int32 → MS → Option (Int32 × MS)} (hk26 : ∀ (x2 : Int32) (x3 : Int32) (S : MS) (q : (Int32 × MS)), k26 x2 x3 S = some q → XM G m0 mX4_lost 8 S0 (some (.int q.1)) q.2 26 [(0, .ref m0), (2, .int x2), (3, .int x3)] [] S) (x3 : Int32) (y0 : Int32) (y1 : Int32) (S : MS) (q : (Int32 × MS)) (hf : m_lost_77 k26 x3 y0 y1 S = some q) : XM G m0 mX4_lost 8 S0 (some (.int q.1)) q.2 77 [(0, .ref m0), (3, .int x3)] [.int y0, .int y1] S := by
  intro h N Z
  unfold m_lost_77 at hf
  refine X.ior dX4_lost_77 ?_
  refine X.istore_n (L' := [(2, .int (y1 ||| y0)), (0, .ref m0), (3, .int x3)]) dX4_lost_78 rfl (Nat.le_of_ble_eq_true rfl) rfl ?_
  refine X.iinc (v := (x3 + 1)) (L' := [(3, .int (x3 + 1)), (2, .int (y1 ||| y0)), (0, .ref m0)]) dX4_lost_79 2 rfl rfl (Nat.le_of_ble_eq_true rfl) rfl ?_
  refine X.goto (tgt := 26) dX4_lost_82 (by decide) ?_
  refine X.sub [2, 1, 0] (L' := [(0, .ref m0), (2, .int (y1 ||| y0)), (3, .int (x3 + 1))]) rfl ?_
  exact hk26 _ _ _ _ hf h N Z
def m_lost_76 (k26 : Int32 → Int32 → MS → Option (Int32 × MS)) (x3 : Int32) (y0 : Int32) (S : MS) : Option (Int32 × MS) :=
  m_lost_77 k26 x3 ((0 : Int32)) y0 S
theorem m_lost_76_ok {G : xG} {m0 : Nat} {S0 : MS} {k26 : Int32 → Int32 → MS → Option (Int32 × MS)} (hk26 : ∀ (x2 : Int32) (x3 : Int32) (S : MS) (q : (Int32 × MS)), k26 x2 x3 S = some q → XM G m0 mX4_lost 8 S0 (some (.int q.1)) q.2 26 [(0, .ref m0), (2, .int x2), (3, .int x3)] [] S) (x3 : Int32) (y0 : Int32) (S : MS) (q : (Int32 × MS)) (hf : m_lost_76 k26 x3 y0 S = some q) : XM G m0 mX4_lost 8 S0 (some (.int q.1)) q.2 76 [(0, .ref m0), (3, .int x3)] [.int y0] S := by
  intro h N Z
  unfold m_lost_76 at hf
  refine X.iconst (v := 0) dX4_lost_76 (by decide) ?_
  refine X.sub [0, 1] (L' := [(0, .ref m0), (3, .int x3)]) rfl ?_
  exact m_lost_77_ok hk26 _ _ _ _ _ hf h N Z
def m_lost_26_b  (k26 : Int32 → Int32 → MS → Option (Int32 × MS)) (x2 : Int32) (x3 : Int32) (S : MS) : Option (Int32 × MS) :=
  (m_cells S).bind fun q28 =>
  if q28 ≤ x3 then
    some (x2, S)
  else
    (rdA S 13 ((61 : Int32) + x3)).bind fun v43 =>
    if v43 = (-1 : Int32) then
      m_lost_76 k26 x3 x2 S
    else
      (rdA S 13 ((182 : Int32) + x3)).bind fun v57 =>
      (rdA S 13 ((61 : Int32) + x3)).bind fun v66 =>
      if v57 = v66 then
        m_lost_76 k26 x3 x2 S
      else
        m_lost_77 k26 x3 (((1 : Int32) <<< (x3 &&& 31))) x2 S
def m_lost_26  : Nat → Int32 → Int32 → MS → Option (Int32 × MS)
  | 0 => fun _ _ _ => none
  | n + 1 => fun x2 x3 S => m_lost_26_b (m_lost_26 n) x2 x3 S
theorem m_lost_26_bok {G : xG} {m0 : Nat} {S0 : MS}  {k26 : Int32 → Int32 → MS → Option (Int32 × MS)}  (hk26 : ∀ (x2 : Int32) (x3 : Int32) (S : MS) (q : (Int32 × MS)), k26 x2 x3 S = some q → XM G m0 mX4_lost 8 S0 (some (.int q.1)) q.2 26 [(0, .ref m0), (2, .int x2), (3, .int x3)] [] S) (x2 : Int32) (x3 : Int32) (S : MS) (q : (Int32 × MS)) (hf : m_lost_26_b k26 x2 x3 S = some q) : XM G m0 mX4_lost 8 S0 (some (.int q.1)) q.2 26 [(0, .ref m0), (2, .int x2), (3, .int x3)] [] S := by
  intro h N Z
  unfold m_lost_26_b at hf
  refine X.iload_n dX4_lost_26 rfl 2 rfl ?_
  refine X.aload_n dX4_lost_27 rfl 0 rfl ?_
  obtain ⟨q28, h28, hf⟩ := ob hf
  refine X.callVi (As := []) (rest := [.int x3]) dX4_lost_28 (w_cells h28 h N Z) cX4_321 rfl rfl (Nat.le_of_ble_eq_true rfl) mh_0 rfl rfl (xD (Nat.le_of_ble_eq_true rfl)) xleN xleN ?_
  refine X.icmp_ge (tgt := 85) dX4_lost_31 (by decide) (fun c31 => ?_) (fun c31 => ?_)
  · have hf := if_t c31 hf
    refine X.iload_n dX4_lost_85 rfl 1 rfl ?_
    obtain rfl := Option.some.inj hf
    exact X.iret dX4_lost_86 rfl rfl rfl
  · have hf := if_f c31 hf
    refine X.iload_n dX4_lost_34 rfl 1 rfl ?_
    refine X.aload_n dX4_lost_35 rfl 0 rfl ?_
    refine M.get (v := .ref (m0 + 13)) dX4_lost_36 fX4_69 (Nat.le_of_ble_eq_true rfl) rfl ?_
    refine X.bipush (v := 61) dX4_lost_39 (by decide) ?_
    refine X.iload_n dX4_lost_41 rfl 2 rfl ?_
    refine X.iadd dX4_lost_42 ?_
    obtain ⟨v43, h43, hf⟩ := ob hf
    refine M.iald dX4_lost_43 rfl h43 ?_
    refine X.iconst (v := -1) dX4_lost_44 (by decide) ?_
    refine X.icmp_eq (tgt := 76) dX4_lost_45 (by decide) (fun c45 => ?_) (fun c45 => ?_)
    · have hf := if_t c45 hf
      refine X.sub [0, 2] (L' := [(0, .ref m0), (3, .int x3)]) rfl ?_
      exact m_lost_76_ok hk26 _ _ _ _ hf h N Z
    · have hf := if_f c45 hf
      refine X.aload_n dX4_lost_48 rfl 0 rfl ?_
      refine M.get (v := .ref (m0 + 13)) dX4_lost_49 fX4_69 (Nat.le_of_ble_eq_true rfl) rfl ?_
      refine X.sipush (v := 182) dX4_lost_52 (by decide) ?_
      refine X.iload_n dX4_lost_55 rfl 2 rfl ?_
      refine X.iadd dX4_lost_56 ?_
      obtain ⟨v57, h57, hf⟩ := ob hf
      refine M.iald dX4_lost_57 rfl h57 ?_
      refine X.aload_n dX4_lost_58 rfl 0 rfl ?_
      refine M.get (v := .ref (m0 + 13)) dX4_lost_59 fX4_69 (Nat.le_of_ble_eq_true rfl) rfl ?_
      refine X.bipush (v := 61) dX4_lost_62 (by decide) ?_
      refine X.iload_n dX4_lost_64 rfl 2 rfl ?_
      refine X.iadd dX4_lost_65 ?_
      obtain ⟨v66, h66, hf⟩ := ob hf
      refine M.iald dX4_lost_66 rfl h66 ?_
      refine X.icmp_eq (tgt := 76) dX4_lost_67 (by decide) (fun c67 => ?_) (fun c67 => ?_)
      · have hf := if_t c67 hf
        refine X.sub [0, 2] (L' := [(0, .ref m0), (3, .int x3)]) rfl ?_
        exact m_lost_76_ok hk26 _ _ _ _ hf h N Z
      · have hf := if_f c67 hf
        refine X.iconst (v := 1) dX4_lost_70 (by decide) ?_
        refine X.iload_n dX4_lost_71 rfl 2 rfl ?_
        refine X.ishl dX4_lost_72 ?_
        refine X.goto (tgt := 77) dX4_lost_73 (by decide) ?_
        refine X.sub [0, 2] (L' := [(0, .ref m0), (3, .int x3)]) rfl ?_
        exact m_lost_77_ok hk26 _ _ _ _ _ hf h N Z
theorem m_lost_26_ok {G : xG} {m0 : Nat} {S0 : MS}   : ∀ (n : Nat) (x2 : Int32) (x3 : Int32) (S : MS) (q : (Int32 × MS)), m_lost_26 n x2 x3 S = some q → XM G m0 mX4_lost 8 S0 (some (.int q.1)) q.2 26 [(0, .ref m0), (2, .int x2), (3, .int x3)] [] S
  | 0, _, _, _, _, hf => by cases hf
  | n + 1, x2, x3, S, q, hf => m_lost_26_bok (m_lost_26_ok n) x2 x3 S q hf
def m_lost (x1 : Int32) (S : MS) : Option (Int32 × MS) :=
  (m_isDays x1 ((0 : Int32)) ((1 : Int32)) ((sF S 0 (0 : Int32)))).bind fun q9 =>
  if q9.1 = 0 then
    some ((0 : Int32), q9.2)
  else
    (m_goesTo x1 q9.2).bind fun q19 =>
    m_lost_26 FU ((0 : Int32)) ((0 : Int32)) q19
theorem w_lost {G : xG} {m0 : Nat} {x1 : Int32} {S : MS} {q : (Int32 × MS)} (hf : m_lost x1 S = some q) : CtM G m0 mX4_lost 8 S [.ref m0, .int x1] (some (.int q.1)) q.2 := by
  intro h N Z
  refine Ct.of (by decide +kernel) rfl (Nat.le_of_ble_eq_true rfl) (show Xr G _ 0 [(0, .ref m0), (1, .int x1)] [] _ from ?_)
  unfold m_lost at hf
  refine X.aload_n dX4_lost_0 rfl 0 rfl ?_
  refine X.iconst (v := 0) dX4_lost_1 (by decide) ?_
  refine M.putI dX4_lost_2 fX4_115 (by decide) rfl rfl rfl ?_
  refine X.aload_n dX4_lost_5 rfl 0 rfl ?_
  refine X.iload_n dX4_lost_6 rfl 1 rfl ?_
  refine X.iconst (v := 0) dX4_lost_7 (by decide) ?_
  refine X.iconst (v := 1) dX4_lost_8 (by decide) ?_
  obtain ⟨q9, h9, hf⟩ := ob hf
  refine X.callVi (As := [.int x1, .int (0 : Int32), .int (1 : Int32)]) (rest := []) (T2 := (mh m0 h q9.2, N, Z)) dX4_lost_9 (w_isDays h9 h N Z) cX4_409 rfl rfl (Nat.le_of_ble_eq_true rfl) mh_0 rfl rfl (xD (Nat.le_of_ble_eq_true rfl)) xleN xleN ?_
  refine X.if_ne (tgt := 17) dX4_lost_12 (by decide) (fun c12 => ?_) (fun c12 => ?_)
  · have hf := if_f c12 hf
    refine X.aload_n dX4_lost_17 rfl 0 rfl ?_
    refine X.iload_n dX4_lost_18 rfl 1 rfl ?_
    obtain ⟨q19, h19, hf⟩ := ob hf
    refine X.callVv (As := [.int x1]) (rest := []) (T2 := (mh m0 h q19, N, Z)) dX4_lost_19 (w_goesTo h19 h N Z) cX4_412 rfl rfl (Nat.le_of_ble_eq_true rfl) mh_0 rfl rfl (xD (Nat.le_of_ble_eq_true rfl)) xleN xleN ?_
    refine X.iconst (v := 0) dX4_lost_22 (by decide) ?_
    refine X.istore_n (L' := [(2, .int (0 : Int32)), (0, .ref m0), (1, .int x1)]) dX4_lost_23 rfl (Nat.le_of_ble_eq_true rfl) rfl ?_
    refine X.iconst (v := 0) dX4_lost_24 (by decide) ?_
    refine X.istore_n (L' := [(3, .int (0 : Int32)), (2, .int (0 : Int32)), (0, .ref m0), (1, .int x1)]) dX4_lost_25 rfl (Nat.le_of_ble_eq_true rfl) rfl ?_
    refine X.sub [2, 1, 0] (L' := [(0, .ref m0), (2, .int (0 : Int32)), (3, .int (0 : Int32))]) rfl ?_
    exact m_lost_26_ok FU _ _ _ _ hf h N Z
  · have hf := if_t c12 hf
    refine X.iconst (v := 0) dX4_lost_15 (by decide) ?_
    obtain rfl := Option.some.inj hf
    exact X.iret dX4_lost_16 rfl rfl rfl
/-! starved -/
abbrev cX4_starved : ByteArray := prog_12_method_114_code
def yX4_starved : MethodName := ⟨RX4, "starved", "(I)I"⟩
def dkwX4_starved_2 : List UInt8 := [4, 29, 120, 167, 0, 4, 3, 128, 61, 132, 3, 1, 167, 255, 222, 28, 172]
abbrev dktX4_starved_2 : List UInt8 := dkwX4_starved_2 ++ []
def dkwX4_starved_1 : List UInt8 := [3, 62, 29, 42, 182, 1, 65, 162, 0, 32, 28, 42, 180, 0, 69, 17, 0, 152, 29, 96, 46, 154, 0, 9]
abbrev dktX4_starved_1 : List UInt8 := dkwX4_starved_1 ++ dktX4_starved_2
def dkwX4_starved_0 : List UInt8 := [42, 3, 181, 0, 115, 42, 27, 3, 4, 182, 1, 153, 154, 0, 5, 3, 172, 42, 27, 182, 1, 156, 3, 61]
abbrev dktX4_starved_0 : List UInt8 := dkwX4_starved_0 ++ dktX4_starved_1
theorem dksX4_starved_0 : cX4_starved.data.toList.drop 0 = dktX4_starved_0 := by decide +kernel
theorem dksX4_starved_1 : cX4_starved.data.toList.drop 24 = dktX4_starved_1 := dk_seg dksX4_starved_0 24 rfl rfl
theorem dksX4_starved_2 : cX4_starved.data.toList.drop 48 = dktX4_starved_2 := dk_seg dksX4_starved_1 24 rfl rfl
theorem dX4_starved_0 : decode cX4_starved 0 = .ok (.aload_n 0, 1) := dk_42 (dk_at dksX4_starved_0 0 rfl rfl)
theorem dX4_starved_1 : decode cX4_starved 1 = .ok (.iconst 0, 1) := dk_3 (dk_at dksX4_starved_0 1 rfl rfl)
theorem dX4_starved_2 : decode cX4_starved 2 = .ok (.putfield 115, 3) := dk_181 0 115 (dk_at dksX4_starved_0 2 rfl rfl)
theorem dX4_starved_5 : decode cX4_starved 5 = .ok (.aload_n 0, 1) := dk_42 (dk_at dksX4_starved_0 5 rfl rfl)
theorem dX4_starved_6 : decode cX4_starved 6 = .ok (.iload_n 1, 1) := dk_27 (dk_at dksX4_starved_0 6 rfl rfl)
theorem dX4_starved_7 : decode cX4_starved 7 = .ok (.iconst 0, 1) := dk_3 (dk_at dksX4_starved_0 7 rfl rfl)
theorem dX4_starved_8 : decode cX4_starved 8 = .ok (.iconst 1, 1) := dk_4 (dk_at dksX4_starved_0 8 rfl rfl)
theorem dX4_starved_9 : decode cX4_starved 9 = .ok (.invokevirtual 409, 3) := dk_182 1 153 (dk_at dksX4_starved_0 9 rfl rfl)
theorem dX4_starved_12 : decode cX4_starved 12 = .ok (.ifCond .ne 5, 3) := dk_154 0 5 (dk_at dksX4_starved_0 12 rfl rfl)
theorem dX4_starved_15 : decode cX4_starved 15 = .ok (.iconst 0, 1) := dk_3 (dk_at dksX4_starved_0 15 rfl rfl)
theorem dX4_starved_16 : decode cX4_starved 16 = .ok (.ireturn, 1) := dk_172 (dk_at dksX4_starved_0 16 rfl rfl)
theorem dX4_starved_17 : decode cX4_starved 17 = .ok (.aload_n 0, 1) := dk_42 (dk_at dksX4_starved_0 17 rfl rfl)
theorem dX4_starved_18 : decode cX4_starved 18 = .ok (.iload_n 1, 1) := dk_27 (dk_at dksX4_starved_0 18 rfl rfl)
theorem dX4_starved_19 : decode cX4_starved 19 = .ok (.invokevirtual 412, 3) := dk_182 1 156 (dk_at dksX4_starved_0 19 rfl rfl)
theorem dX4_starved_22 : decode cX4_starved 22 = .ok (.iconst 0, 1) := dk_3 (dk_at dksX4_starved_0 22 rfl rfl)
theorem dX4_starved_23 : decode cX4_starved 23 = .ok (.istore_n 2, 1) := dk_61 (dk_at dksX4_starved_0 23 rfl rfl)
theorem dX4_starved_24 : decode cX4_starved 24 = .ok (.iconst 0, 1) := dk_3 (dk_at dksX4_starved_1 0 rfl rfl)
theorem dX4_starved_25 : decode cX4_starved 25 = .ok (.istore_n 3, 1) := dk_62 (dk_at dksX4_starved_1 1 rfl rfl)
theorem dX4_starved_26 : decode cX4_starved 26 = .ok (.iload_n 3, 1) := dk_29 (dk_at dksX4_starved_1 2 rfl rfl)
theorem dX4_starved_27 : decode cX4_starved 27 = .ok (.aload_n 0, 1) := dk_42 (dk_at dksX4_starved_1 3 rfl rfl)
theorem dX4_starved_28 : decode cX4_starved 28 = .ok (.invokevirtual 321, 3) := dk_182 1 65 (dk_at dksX4_starved_1 4 rfl rfl)
theorem dX4_starved_31 : decode cX4_starved 31 = .ok (.if_icmp .ge 32, 3) := dk_162 0 32 (dk_at dksX4_starved_1 7 rfl rfl)
theorem dX4_starved_34 : decode cX4_starved 34 = .ok (.iload_n 2, 1) := dk_28 (dk_at dksX4_starved_1 10 rfl rfl)
theorem dX4_starved_35 : decode cX4_starved 35 = .ok (.aload_n 0, 1) := dk_42 (dk_at dksX4_starved_1 11 rfl rfl)
theorem dX4_starved_36 : decode cX4_starved 36 = .ok (.getfield 69, 3) := dk_180 0 69 (dk_at dksX4_starved_1 12 rfl rfl)
theorem dX4_starved_39 : decode cX4_starved 39 = .ok (.sipush 152, 3) := dk_17 0 152 (dk_at dksX4_starved_1 15 rfl rfl)
theorem dX4_starved_42 : decode cX4_starved 42 = .ok (.iload_n 3, 1) := dk_29 (dk_at dksX4_starved_1 18 rfl rfl)
theorem dX4_starved_43 : decode cX4_starved 43 = .ok (.iadd, 1) := dk_96 (dk_at dksX4_starved_1 19 rfl rfl)
theorem dX4_starved_44 : decode cX4_starved 44 = .ok (.iaload, 1) := dk_46 (dk_at dksX4_starved_1 20 rfl rfl)
theorem dX4_starved_45 : decode cX4_starved 45 = .ok (.ifCond .ne 9, 3) := dk_154 0 9 (dk_at dksX4_starved_1 21 rfl rfl)
theorem dX4_starved_48 : decode cX4_starved 48 = .ok (.iconst 1, 1) := dk_4 (dk_at dksX4_starved_2 0 rfl rfl)
theorem dX4_starved_49 : decode cX4_starved 49 = .ok (.iload_n 3, 1) := dk_29 (dk_at dksX4_starved_2 1 rfl rfl)
theorem dX4_starved_50 : decode cX4_starved 50 = .ok (.ishl, 1) := dk_120 (dk_at dksX4_starved_2 2 rfl rfl)
theorem dX4_starved_51 : decode cX4_starved 51 = .ok (.goto 4, 3) := dk_167 0 4 (dk_at dksX4_starved_2 3 rfl rfl)
theorem dX4_starved_54 : decode cX4_starved 54 = .ok (.iconst 0, 1) := dk_3 (dk_at dksX4_starved_2 6 rfl rfl)
theorem dX4_starved_55 : decode cX4_starved 55 = .ok (.ior, 1) := dk_128 (dk_at dksX4_starved_2 7 rfl rfl)
theorem dX4_starved_56 : decode cX4_starved 56 = .ok (.istore_n 2, 1) := dk_61 (dk_at dksX4_starved_2 8 rfl rfl)
theorem dX4_starved_57 : decode cX4_starved 57 = .ok (.iinc 3 1, 3) := dk_132 3 1 (dk_at dksX4_starved_2 9 rfl rfl)
theorem dX4_starved_60 : decode cX4_starved 60 = .ok (.goto (-34), 3) := dk_167 255 222 (dk_at dksX4_starved_2 12 rfl rfl)
theorem dX4_starved_63 : decode cX4_starved 63 = .ok (.iload_n 2, 1) := dk_28 (dk_at dksX4_starved_2 15 rfl rfl)
theorem dX4_starved_64 : decode cX4_starved 64 = .ok (.ireturn, 1) := dk_172 (dk_at dksX4_starved_2 16 rfl rfl)
abbrev mX4_starved : xM := (yX4_starved, cX4_starved, 4, (some .int), [])
def m_starved_55 (k26 : Int32 → Int32 → MS → Option (Int32 × MS)) (x3 : Int32) (y0 : Int32) (y1 : Int32) (S : MS) : Option (Int32 × MS) :=
  k26 ((y1 ||| y0)) ((x3 + 1)) S
theorem m_starved_55_ok {G : xG} {m0 : Nat} {S0 : MS} {k26 : Int32 → Int32 → MS → Option (Int32 × MS)} (hk26 : ∀ (x2 : Int32) (x3 : Int32) (S : MS) (q : (Int32 × MS)), k26 x2 x3 S = some q → XM G m0 mX4_starved 8 S0 (some (.int q.1)) q.2 26 [(0, .ref m0), (2, .int x2), (3, .int x3)] [] S) (x3 : Int32) (y0 : Int32) (y1 : Int32) (S : MS) (q : (Int32 × MS)) (hf : m_starved_55 k26 x3 y0 y1 S = some q) : XM G m0 mX4_starved 8 S0 (some (.int q.1)) q.2 55 [(0, .ref m0), (3, .int x3)] [.int y0, .int y1] S := by
  intro h N Z
  unfold m_starved_55 at hf
  refine X.ior dX4_starved_55 ?_
  refine X.istore_n (L' := [(2, .int (y1 ||| y0)), (0, .ref m0), (3, .int x3)]) dX4_starved_56 rfl (Nat.le_of_ble_eq_true rfl) rfl ?_
  refine X.iinc (v := (x3 + 1)) (L' := [(3, .int (x3 + 1)), (2, .int (y1 ||| y0)), (0, .ref m0)]) dX4_starved_57 2 rfl rfl (Nat.le_of_ble_eq_true rfl) rfl ?_
  refine X.goto (tgt := 26) dX4_starved_60 (by decide) ?_
  refine X.sub [2, 1, 0] (L' := [(0, .ref m0), (2, .int (y1 ||| y0)), (3, .int (x3 + 1))]) rfl ?_
  exact hk26 _ _ _ _ hf h N Z
def m_starved_26_b  (k26 : Int32 → Int32 → MS → Option (Int32 × MS)) (x2 : Int32) (x3 : Int32) (S : MS) : Option (Int32 × MS) :=
  (m_cells S).bind fun q28 =>
  if q28 ≤ x3 then
    some (x2, S)
  else
    (rdA S 13 ((152 : Int32) + x3)).bind fun v44 =>
    if v44 = 0 then
      m_starved_55 k26 x3 (((1 : Int32) <<< (x3 &&& 31))) x2 S
    else
      m_starved_55 k26 x3 ((0 : Int32)) x2 S
def m_starved_26  : Nat → Int32 → Int32 → MS → Option (Int32 × MS)
  | 0 => fun _ _ _ => none
  | n + 1 => fun x2 x3 S => m_starved_26_b (m_starved_26 n) x2 x3 S
theorem m_starved_26_bok {G : xG} {m0 : Nat} {S0 : MS}  {k26 : Int32 → Int32 → MS → Option (Int32 × MS)}  (hk26 : ∀ (x2 : Int32) (x3 : Int32) (S : MS) (q : (Int32 × MS)), k26 x2 x3 S = some q → XM G m0 mX4_starved 8 S0 (some (.int q.1)) q.2 26 [(0, .ref m0), (2, .int x2), (3, .int x3)] [] S) (x2 : Int32) (x3 : Int32) (S : MS) (q : (Int32 × MS)) (hf : m_starved_26_b k26 x2 x3 S = some q) : XM G m0 mX4_starved 8 S0 (some (.int q.1)) q.2 26 [(0, .ref m0), (2, .int x2), (3, .int x3)] [] S := by
  intro h N Z
  unfold m_starved_26_b at hf
  refine X.iload_n dX4_starved_26 rfl 2 rfl ?_
  refine X.aload_n dX4_starved_27 rfl 0 rfl ?_
  obtain ⟨q28, h28, hf⟩ := ob hf
  refine X.callVi (As := []) (rest := [.int x3]) dX4_starved_28 (w_cells h28 h N Z) cX4_321 rfl rfl (Nat.le_of_ble_eq_true rfl) mh_0 rfl rfl (xD (Nat.le_of_ble_eq_true rfl)) xleN xleN ?_
  refine X.icmp_ge (tgt := 63) dX4_starved_31 (by decide) (fun c31 => ?_) (fun c31 => ?_)
  · have hf := if_t c31 hf
    refine X.iload_n dX4_starved_63 rfl 1 rfl ?_
    obtain rfl := Option.some.inj hf
    exact X.iret dX4_starved_64 rfl rfl rfl
  · have hf := if_f c31 hf
    refine X.iload_n dX4_starved_34 rfl 1 rfl ?_
    refine X.aload_n dX4_starved_35 rfl 0 rfl ?_
    refine M.get (v := .ref (m0 + 13)) dX4_starved_36 fX4_69 (Nat.le_of_ble_eq_true rfl) rfl ?_
    refine X.sipush (v := 152) dX4_starved_39 (by decide) ?_
    refine X.iload_n dX4_starved_42 rfl 2 rfl ?_
    refine X.iadd dX4_starved_43 ?_
    obtain ⟨v44, h44, hf⟩ := ob hf
    refine M.iald dX4_starved_44 rfl h44 ?_
    refine X.if_ne (tgt := 54) dX4_starved_45 (by decide) (fun c45 => ?_) (fun c45 => ?_)
    · have hf := if_f c45 hf
      refine X.iconst (v := 0) dX4_starved_54 (by decide) ?_
      refine X.sub [0, 2] (L' := [(0, .ref m0), (3, .int x3)]) rfl ?_
      exact m_starved_55_ok hk26 _ _ _ _ _ hf h N Z
    · have hf := if_t c45 hf
      refine X.iconst (v := 1) dX4_starved_48 (by decide) ?_
      refine X.iload_n dX4_starved_49 rfl 2 rfl ?_
      refine X.ishl dX4_starved_50 ?_
      refine X.goto (tgt := 55) dX4_starved_51 (by decide) ?_
      refine X.sub [0, 2] (L' := [(0, .ref m0), (3, .int x3)]) rfl ?_
      exact m_starved_55_ok hk26 _ _ _ _ _ hf h N Z
theorem m_starved_26_ok {G : xG} {m0 : Nat} {S0 : MS}   : ∀ (n : Nat) (x2 : Int32) (x3 : Int32) (S : MS) (q : (Int32 × MS)), m_starved_26 n x2 x3 S = some q → XM G m0 mX4_starved 8 S0 (some (.int q.1)) q.2 26 [(0, .ref m0), (2, .int x2), (3, .int x3)] [] S
  | 0, _, _, _, _, hf => by cases hf
  | n + 1, x2, x3, S, q, hf => m_starved_26_bok (m_starved_26_ok n) x2 x3 S q hf
def m_starved (x1 : Int32) (S : MS) : Option (Int32 × MS) :=
  (m_isDays x1 ((0 : Int32)) ((1 : Int32)) ((sF S 0 (0 : Int32)))).bind fun q9 =>
  if q9.1 = 0 then
    some ((0 : Int32), q9.2)
  else
    (m_goesTo x1 q9.2).bind fun q19 =>
    m_starved_26 FU ((0 : Int32)) ((0 : Int32)) q19
theorem w_starved {G : xG} {m0 : Nat} {x1 : Int32} {S : MS} {q : (Int32 × MS)} (hf : m_starved x1 S = some q) : CtM G m0 mX4_starved 8 S [.ref m0, .int x1] (some (.int q.1)) q.2 := by
  intro h N Z
  refine Ct.of (by decide +kernel) rfl (Nat.le_of_ble_eq_true rfl) (show Xr G _ 0 [(0, .ref m0), (1, .int x1)] [] _ from ?_)
  unfold m_starved at hf
  refine X.aload_n dX4_starved_0 rfl 0 rfl ?_
  refine X.iconst (v := 0) dX4_starved_1 (by decide) ?_
  refine M.putI dX4_starved_2 fX4_115 (by decide) rfl rfl rfl ?_
  refine X.aload_n dX4_starved_5 rfl 0 rfl ?_
  refine X.iload_n dX4_starved_6 rfl 1 rfl ?_
  refine X.iconst (v := 0) dX4_starved_7 (by decide) ?_
  refine X.iconst (v := 1) dX4_starved_8 (by decide) ?_
  obtain ⟨q9, h9, hf⟩ := ob hf
  refine X.callVi (As := [.int x1, .int (0 : Int32), .int (1 : Int32)]) (rest := []) (T2 := (mh m0 h q9.2, N, Z)) dX4_starved_9 (w_isDays h9 h N Z) cX4_409 rfl rfl (Nat.le_of_ble_eq_true rfl) mh_0 rfl rfl (xD (Nat.le_of_ble_eq_true rfl)) xleN xleN ?_
  refine X.if_ne (tgt := 17) dX4_starved_12 (by decide) (fun c12 => ?_) (fun c12 => ?_)
  · have hf := if_f c12 hf
    refine X.aload_n dX4_starved_17 rfl 0 rfl ?_
    refine X.iload_n dX4_starved_18 rfl 1 rfl ?_
    obtain ⟨q19, h19, hf⟩ := ob hf
    refine X.callVv (As := [.int x1]) (rest := []) (T2 := (mh m0 h q19, N, Z)) dX4_starved_19 (w_goesTo h19 h N Z) cX4_412 rfl rfl (Nat.le_of_ble_eq_true rfl) mh_0 rfl rfl (xD (Nat.le_of_ble_eq_true rfl)) xleN xleN ?_
    refine X.iconst (v := 0) dX4_starved_22 (by decide) ?_
    refine X.istore_n (L' := [(2, .int (0 : Int32)), (0, .ref m0), (1, .int x1)]) dX4_starved_23 rfl (Nat.le_of_ble_eq_true rfl) rfl ?_
    refine X.iconst (v := 0) dX4_starved_24 (by decide) ?_
    refine X.istore_n (L' := [(3, .int (0 : Int32)), (2, .int (0 : Int32)), (0, .ref m0), (1, .int x1)]) dX4_starved_25 rfl (Nat.le_of_ble_eq_true rfl) rfl ?_
    refine X.sub [2, 1, 0] (L' := [(0, .ref m0), (2, .int (0 : Int32)), (3, .int (0 : Int32))]) rfl ?_
    exact m_starved_26_ok FU _ _ _ _ hf h N Z
  · have hf := if_t c12 hf
    refine X.iconst (v := 0) dX4_starved_15 (by decide) ?_
    obtain rfl := Option.some.inj hf
    exact X.iret dX4_starved_16 rfl rfl rfl
/-! margin -/
abbrev cX4_margin : ByteArray := prog_12_method_115_code
def yX4_margin : MethodName := ⟨RX4, "margin", "(I)I"⟩
def dkwX4_margin_3 : List UInt8 := [182, 1, 114, 167, 0, 4, 29, 62, 132, 4, 1, 167, 255, 216, 42, 16, 121, 28, 182, 1, 114, 29, 100, 172]
abbrev dktX4_margin_3 : List UInt8 := dkwX4_margin_3 ++ []
def dkwX4_margin_2 : List UInt8 := [21, 4, 28, 159, 0, 26, 42, 16, 121, 21, 4, 182, 1, 114, 29, 164, 0, 14, 42, 16, 121, 21, 4]
abbrev dktX4_margin_2 : List UInt8 := dkwX4_margin_2 ++ dktX4_margin_3
def dkwX4_margin_1 : List UInt8 := [16, 121, 182, 1, 126, 61, 28, 2, 160, 0, 5, 2, 172, 3, 62, 3, 54, 4, 21, 4, 7, 162, 0, 40]
abbrev dktX4_margin_1 : List UInt8 := dkwX4_margin_1 ++ dktX4_margin_2
def dkwX4_margin_0 : List UInt8 := [42, 3, 181, 0, 115, 42, 27, 3, 4, 182, 1, 153, 154, 0, 5, 3, 172, 42, 27, 182, 1, 156, 42]
abbrev dktX4_margin_0 : List UInt8 := dkwX4_margin_0 ++ dktX4_margin_1
theorem dksX4_margin_0 : cX4_margin.data.toList.drop 0 = dktX4_margin_0 := by decide +kernel
theorem dksX4_margin_1 : cX4_margin.data.toList.drop 23 = dktX4_margin_1 := dk_seg dksX4_margin_0 23 rfl rfl
theorem dksX4_margin_2 : cX4_margin.data.toList.drop 47 = dktX4_margin_2 := dk_seg dksX4_margin_1 24 rfl rfl
theorem dksX4_margin_3 : cX4_margin.data.toList.drop 70 = dktX4_margin_3 := dk_seg dksX4_margin_2 23 rfl rfl
theorem dX4_margin_0 : decode cX4_margin 0 = .ok (.aload_n 0, 1) := dk_42 (dk_at dksX4_margin_0 0 rfl rfl)
theorem dX4_margin_1 : decode cX4_margin 1 = .ok (.iconst 0, 1) := dk_3 (dk_at dksX4_margin_0 1 rfl rfl)
theorem dX4_margin_2 : decode cX4_margin 2 = .ok (.putfield 115, 3) := dk_181 0 115 (dk_at dksX4_margin_0 2 rfl rfl)
theorem dX4_margin_5 : decode cX4_margin 5 = .ok (.aload_n 0, 1) := dk_42 (dk_at dksX4_margin_0 5 rfl rfl)
theorem dX4_margin_6 : decode cX4_margin 6 = .ok (.iload_n 1, 1) := dk_27 (dk_at dksX4_margin_0 6 rfl rfl)
theorem dX4_margin_7 : decode cX4_margin 7 = .ok (.iconst 0, 1) := dk_3 (dk_at dksX4_margin_0 7 rfl rfl)
theorem dX4_margin_8 : decode cX4_margin 8 = .ok (.iconst 1, 1) := dk_4 (dk_at dksX4_margin_0 8 rfl rfl)
theorem dX4_margin_9 : decode cX4_margin 9 = .ok (.invokevirtual 409, 3) := dk_182 1 153 (dk_at dksX4_margin_0 9 rfl rfl)
theorem dX4_margin_12 : decode cX4_margin 12 = .ok (.ifCond .ne 5, 3) := dk_154 0 5 (dk_at dksX4_margin_0 12 rfl rfl)
theorem dX4_margin_15 : decode cX4_margin 15 = .ok (.iconst 0, 1) := dk_3 (dk_at dksX4_margin_0 15 rfl rfl)
theorem dX4_margin_16 : decode cX4_margin 16 = .ok (.ireturn, 1) := dk_172 (dk_at dksX4_margin_0 16 rfl rfl)
theorem dX4_margin_17 : decode cX4_margin 17 = .ok (.aload_n 0, 1) := dk_42 (dk_at dksX4_margin_0 17 rfl rfl)
theorem dX4_margin_18 : decode cX4_margin 18 = .ok (.iload_n 1, 1) := dk_27 (dk_at dksX4_margin_0 18 rfl rfl)
theorem dX4_margin_19 : decode cX4_margin 19 = .ok (.invokevirtual 412, 3) := dk_182 1 156 (dk_at dksX4_margin_0 19 rfl rfl)
theorem dX4_margin_22 : decode cX4_margin 22 = .ok (.aload_n 0, 1) := dk_42 (dk_at dksX4_margin_0 22 rfl rfl)
theorem dX4_margin_23 : decode cX4_margin 23 = .ok (.bipush 121, 2) := dk_16 121 (dk_at dksX4_margin_1 0 rfl rfl)
theorem dX4_margin_25 : decode cX4_margin 25 = .ok (.invokevirtual 382, 3) := dk_182 1 126 (dk_at dksX4_margin_1 2 rfl rfl)
theorem dX4_margin_28 : decode cX4_margin 28 = .ok (.istore_n 2, 1) := dk_61 (dk_at dksX4_margin_1 5 rfl rfl)
theorem dX4_margin_29 : decode cX4_margin 29 = .ok (.iload_n 2, 1) := dk_28 (dk_at dksX4_margin_1 6 rfl rfl)
theorem dX4_margin_30 : decode cX4_margin 30 = .ok (.iconst (-1), 1) := dk_2 (dk_at dksX4_margin_1 7 rfl rfl)
theorem dX4_margin_31 : decode cX4_margin 31 = .ok (.if_icmp .ne 5, 3) := dk_160 0 5 (dk_at dksX4_margin_1 8 rfl rfl)
theorem dX4_margin_34 : decode cX4_margin 34 = .ok (.iconst (-1), 1) := dk_2 (dk_at dksX4_margin_1 11 rfl rfl)
theorem dX4_margin_35 : decode cX4_margin 35 = .ok (.ireturn, 1) := dk_172 (dk_at dksX4_margin_1 12 rfl rfl)
theorem dX4_margin_36 : decode cX4_margin 36 = .ok (.iconst 0, 1) := dk_3 (dk_at dksX4_margin_1 13 rfl rfl)
theorem dX4_margin_37 : decode cX4_margin 37 = .ok (.istore_n 3, 1) := dk_62 (dk_at dksX4_margin_1 14 rfl rfl)
theorem dX4_margin_38 : decode cX4_margin 38 = .ok (.iconst 0, 1) := dk_3 (dk_at dksX4_margin_1 15 rfl rfl)
theorem dX4_margin_39 : decode cX4_margin 39 = .ok (.istore 4, 2) := dk_54 4 (dk_at dksX4_margin_1 16 rfl rfl)
theorem dX4_margin_41 : decode cX4_margin 41 = .ok (.iload 4, 2) := dk_21 4 (dk_at dksX4_margin_1 18 rfl rfl)
theorem dX4_margin_43 : decode cX4_margin 43 = .ok (.iconst 4, 1) := dk_7 (dk_at dksX4_margin_1 20 rfl rfl)
theorem dX4_margin_44 : decode cX4_margin 44 = .ok (.if_icmp .ge 40, 3) := dk_162 0 40 (dk_at dksX4_margin_1 21 rfl rfl)
theorem dX4_margin_47 : decode cX4_margin 47 = .ok (.iload 4, 2) := dk_21 4 (dk_at dksX4_margin_2 0 rfl rfl)
theorem dX4_margin_49 : decode cX4_margin 49 = .ok (.iload_n 2, 1) := dk_28 (dk_at dksX4_margin_2 2 rfl rfl)
theorem dX4_margin_50 : decode cX4_margin 50 = .ok (.if_icmp .eq 26, 3) := dk_159 0 26 (dk_at dksX4_margin_2 3 rfl rfl)
theorem dX4_margin_53 : decode cX4_margin 53 = .ok (.aload_n 0, 1) := dk_42 (dk_at dksX4_margin_2 6 rfl rfl)
theorem dX4_margin_54 : decode cX4_margin 54 = .ok (.bipush 121, 2) := dk_16 121 (dk_at dksX4_margin_2 7 rfl rfl)
theorem dX4_margin_56 : decode cX4_margin 56 = .ok (.iload 4, 2) := dk_21 4 (dk_at dksX4_margin_2 9 rfl rfl)
theorem dX4_margin_58 : decode cX4_margin 58 = .ok (.invokevirtual 370, 3) := dk_182 1 114 (dk_at dksX4_margin_2 11 rfl rfl)
theorem dX4_margin_61 : decode cX4_margin 61 = .ok (.iload_n 3, 1) := dk_29 (dk_at dksX4_margin_2 14 rfl rfl)
theorem dX4_margin_62 : decode cX4_margin 62 = .ok (.if_icmp .le 14, 3) := dk_164 0 14 (dk_at dksX4_margin_2 15 rfl rfl)
theorem dX4_margin_65 : decode cX4_margin 65 = .ok (.aload_n 0, 1) := dk_42 (dk_at dksX4_margin_2 18 rfl rfl)
theorem dX4_margin_66 : decode cX4_margin 66 = .ok (.bipush 121, 2) := dk_16 121 (dk_at dksX4_margin_2 19 rfl rfl)
theorem dX4_margin_68 : decode cX4_margin 68 = .ok (.iload 4, 2) := dk_21 4 (dk_at dksX4_margin_2 21 rfl rfl)
theorem dX4_margin_70 : decode cX4_margin 70 = .ok (.invokevirtual 370, 3) := dk_182 1 114 (dk_at dksX4_margin_3 0 rfl rfl)
theorem dX4_margin_73 : decode cX4_margin 73 = .ok (.goto 4, 3) := dk_167 0 4 (dk_at dksX4_margin_3 3 rfl rfl)
theorem dX4_margin_76 : decode cX4_margin 76 = .ok (.iload_n 3, 1) := dk_29 (dk_at dksX4_margin_3 6 rfl rfl)
theorem dX4_margin_77 : decode cX4_margin 77 = .ok (.istore_n 3, 1) := dk_62 (dk_at dksX4_margin_3 7 rfl rfl)
theorem dX4_margin_78 : decode cX4_margin 78 = .ok (.iinc 4 1, 3) := dk_132 4 1 (dk_at dksX4_margin_3 8 rfl rfl)
theorem dX4_margin_81 : decode cX4_margin 81 = .ok (.goto (-40), 3) := dk_167 255 216 (dk_at dksX4_margin_3 11 rfl rfl)
theorem dX4_margin_84 : decode cX4_margin 84 = .ok (.aload_n 0, 1) := dk_42 (dk_at dksX4_margin_3 14 rfl rfl)
theorem dX4_margin_85 : decode cX4_margin 85 = .ok (.bipush 121, 2) := dk_16 121 (dk_at dksX4_margin_3 15 rfl rfl)
theorem dX4_margin_87 : decode cX4_margin 87 = .ok (.iload_n 2, 1) := dk_28 (dk_at dksX4_margin_3 17 rfl rfl)
theorem dX4_margin_88 : decode cX4_margin 88 = .ok (.invokevirtual 370, 3) := dk_182 1 114 (dk_at dksX4_margin_3 18 rfl rfl)
theorem dX4_margin_91 : decode cX4_margin 91 = .ok (.iload_n 3, 1) := dk_29 (dk_at dksX4_margin_3 21 rfl rfl)
theorem dX4_margin_92 : decode cX4_margin 92 = .ok (.isub, 1) := dk_100 (dk_at dksX4_margin_3 22 rfl rfl)
theorem dX4_margin_93 : decode cX4_margin 93 = .ok (.ireturn, 1) := dk_172 (dk_at dksX4_margin_3 23 rfl rfl)
abbrev mX4_margin : xM := (yX4_margin, cX4_margin, 5, (some .int), [])
def m_margin_77 (k41 : Int32 → Int32 → Int32 → MS → Option (Int32 × MS)) (x2 : Int32) (x4 : Int32) (y0 : Int32) (S : MS) : Option (Int32 × MS) :=
  k41 x2 y0 ((x4 + 1)) S
theorem m_margin_77_ok {G : xG} {m0 : Nat} {S0 : MS} {k41 : Int32 → Int32 → Int32 → MS → Option (Int32 × MS)} (hk41 : ∀ (x2 : Int32) (x3 : Int32) (x4 : Int32) (S : MS) (q : (Int32 × MS)), k41 x2 x3 x4 S = some q → XM G m0 mX4_margin 8 S0 (some (.int q.1)) q.2 41 [(0, .ref m0), (2, .int x2), (3, .int x3), (4, .int x4)] [] S) (x2 : Int32) (x4 : Int32) (y0 : Int32) (S : MS) (q : (Int32 × MS)) (hf : m_margin_77 k41 x2 x4 y0 S = some q) : XM G m0 mX4_margin 8 S0 (some (.int q.1)) q.2 77 [(0, .ref m0), (2, .int x2), (4, .int x4)] [.int y0] S := by
  intro h N Z
  unfold m_margin_77 at hf
  refine X.istore_n (L' := [(3, .int y0), (0, .ref m0), (2, .int x2), (4, .int x4)]) dX4_margin_77 rfl (Nat.le_of_ble_eq_true rfl) rfl ?_
  refine X.iinc (v := (x4 + 1)) (L' := [(4, .int (x4 + 1)), (3, .int y0), (0, .ref m0), (2, .int x2)]) dX4_margin_78 3 rfl rfl (Nat.le_of_ble_eq_true rfl) rfl ?_
  refine X.goto (tgt := 41) dX4_margin_81 (by decide) ?_
  refine X.sub [2, 3, 1, 0] (L' := [(0, .ref m0), (2, .int x2), (3, .int y0), (4, .int (x4 + 1))]) rfl ?_
  exact hk41 _ _ _ _ _ hf h N Z
def m_margin_76 (k41 : Int32 → Int32 → Int32 → MS → Option (Int32 × MS)) (x2 : Int32) (x3 : Int32) (x4 : Int32) (S : MS) : Option (Int32 × MS) :=
  m_margin_77 k41 x2 x4 x3 S
theorem m_margin_76_ok {G : xG} {m0 : Nat} {S0 : MS} {k41 : Int32 → Int32 → Int32 → MS → Option (Int32 × MS)} (hk41 : ∀ (x2 : Int32) (x3 : Int32) (x4 : Int32) (S : MS) (q : (Int32 × MS)), k41 x2 x3 x4 S = some q → XM G m0 mX4_margin 8 S0 (some (.int q.1)) q.2 41 [(0, .ref m0), (2, .int x2), (3, .int x3), (4, .int x4)] [] S) (x2 : Int32) (x3 : Int32) (x4 : Int32) (S : MS) (q : (Int32 × MS)) (hf : m_margin_76 k41 x2 x3 x4 S = some q) : XM G m0 mX4_margin 8 S0 (some (.int q.1)) q.2 76 [(0, .ref m0), (2, .int x2), (3, .int x3), (4, .int x4)] [] S := by
  intro h N Z
  unfold m_margin_76 at hf
  refine X.iload_n dX4_margin_76 rfl 2 rfl ?_
  refine X.sub [0, 1, 3] (L' := [(0, .ref m0), (2, .int x2), (4, .int x4)]) rfl ?_
  exact m_margin_77_ok hk41 _ _ _ _ _ hf h N Z
def m_margin_41_b  (k41 : Int32 → Int32 → Int32 → MS → Option (Int32 × MS)) (x2 : Int32) (x3 : Int32) (x4 : Int32) (S : MS) : Option (Int32 × MS) :=
  if (4 : Int32) ≤ x4 then
    (m_votesOf ((121 : Int32)) x2 S).bind fun q88 =>
    some ((q88 - x3), S)
  else
    if x4 = x2 then
      m_margin_76 k41 x2 x3 x4 S
    else
      (m_votesOf ((121 : Int32)) x4 S).bind fun q58 =>
      if q58 ≤ x3 then
        m_margin_76 k41 x2 x3 x4 S
      else
        (m_votesOf ((121 : Int32)) x4 S).bind fun q70 =>
        m_margin_77 k41 x2 x4 q70 S
def m_margin_41  : Nat → Int32 → Int32 → Int32 → MS → Option (Int32 × MS)
  | 0 => fun _ _ _ _ => none
  | n + 1 => fun x2 x3 x4 S => m_margin_41_b (m_margin_41 n) x2 x3 x4 S
theorem m_margin_41_bok {G : xG} {m0 : Nat} {S0 : MS}  {k41 : Int32 → Int32 → Int32 → MS → Option (Int32 × MS)}  (hk41 : ∀ (x2 : Int32) (x3 : Int32) (x4 : Int32) (S : MS) (q : (Int32 × MS)), k41 x2 x3 x4 S = some q → XM G m0 mX4_margin 8 S0 (some (.int q.1)) q.2 41 [(0, .ref m0), (2, .int x2), (3, .int x3), (4, .int x4)] [] S) (x2 : Int32) (x3 : Int32) (x4 : Int32) (S : MS) (q : (Int32 × MS)) (hf : m_margin_41_b k41 x2 x3 x4 S = some q) : XM G m0 mX4_margin 8 S0 (some (.int q.1)) q.2 41 [(0, .ref m0), (2, .int x2), (3, .int x3), (4, .int x4)] [] S := by
  intro h N Z
  unfold m_margin_41_b at hf
  refine X.iload dX4_margin_41 3 rfl ?_
  refine X.iconst (v := 4) dX4_margin_43 (by decide) ?_
  refine X.icmp_ge (tgt := 84) dX4_margin_44 (by decide) (fun c44 => ?_) (fun c44 => ?_)
  · have hf := if_t c44 hf
    refine X.aload_n dX4_margin_84 rfl 0 rfl ?_
    refine X.bipush (v := 121) dX4_margin_85 (by decide) ?_
    refine X.iload_n dX4_margin_87 rfl 1 rfl ?_
    obtain ⟨q88, h88, hf⟩ := ob hf
    refine X.callVi (As := [.int (121 : Int32), .int x2]) (rest := []) dX4_margin_88 (w_votesOf h88 h N Z) cX4_370 rfl rfl (Nat.le_of_ble_eq_true rfl) mh_0 rfl rfl (xD (Nat.le_of_ble_eq_true rfl)) xleN xleN ?_
    refine X.iload_n dX4_margin_91 rfl 2 rfl ?_
    refine X.isub dX4_margin_92 ?_
    obtain rfl := Option.some.inj hf
    exact X.iret dX4_margin_93 rfl rfl rfl
  · have hf := if_f c44 hf
    refine X.iload dX4_margin_47 3 rfl ?_
    refine X.iload_n dX4_margin_49 rfl 1 rfl ?_
    refine X.icmp_eq (tgt := 76) dX4_margin_50 (by decide) (fun c50 => ?_) (fun c50 => ?_)
    · have hf := if_t c50 hf
      refine X.sub [0, 1, 2, 3] (L' := [(0, .ref m0), (2, .int x2), (3, .int x3), (4, .int x4)]) rfl ?_
      exact m_margin_76_ok hk41 _ _ _ _ _ hf h N Z
    · have hf := if_f c50 hf
      refine X.aload_n dX4_margin_53 rfl 0 rfl ?_
      refine X.bipush (v := 121) dX4_margin_54 (by decide) ?_
      refine X.iload dX4_margin_56 3 rfl ?_
      obtain ⟨q58, h58, hf⟩ := ob hf
      refine X.callVi (As := [.int (121 : Int32), .int x4]) (rest := []) dX4_margin_58 (w_votesOf h58 h N Z) cX4_370 rfl rfl (Nat.le_of_ble_eq_true rfl) mh_0 rfl rfl (xD (Nat.le_of_ble_eq_true rfl)) xleN xleN ?_
      refine X.iload_n dX4_margin_61 rfl 2 rfl ?_
      refine X.icmp_le (tgt := 76) dX4_margin_62 (by decide) (fun c62 => ?_) (fun c62 => ?_)
      · have hf := if_t c62 hf
        refine X.sub [0, 1, 2, 3] (L' := [(0, .ref m0), (2, .int x2), (3, .int x3), (4, .int x4)]) rfl ?_
        exact m_margin_76_ok hk41 _ _ _ _ _ hf h N Z
      · have hf := if_f c62 hf
        refine X.aload_n dX4_margin_65 rfl 0 rfl ?_
        refine X.bipush (v := 121) dX4_margin_66 (by decide) ?_
        refine X.iload dX4_margin_68 3 rfl ?_
        obtain ⟨q70, h70, hf⟩ := ob hf
        refine X.callVi (As := [.int (121 : Int32), .int x4]) (rest := []) dX4_margin_70 (w_votesOf h70 h N Z) cX4_370 rfl rfl (Nat.le_of_ble_eq_true rfl) mh_0 rfl rfl (xD (Nat.le_of_ble_eq_true rfl)) xleN xleN ?_
        refine X.goto (tgt := 77) dX4_margin_73 (by decide) ?_
        refine X.sub [0, 1, 3] (L' := [(0, .ref m0), (2, .int x2), (4, .int x4)]) rfl ?_
        exact m_margin_77_ok hk41 _ _ _ _ _ hf h N Z
theorem m_margin_41_ok {G : xG} {m0 : Nat} {S0 : MS}   : ∀ (n : Nat) (x2 : Int32) (x3 : Int32) (x4 : Int32) (S : MS) (q : (Int32 × MS)), m_margin_41 n x2 x3 x4 S = some q → XM G m0 mX4_margin 8 S0 (some (.int q.1)) q.2 41 [(0, .ref m0), (2, .int x2), (3, .int x3), (4, .int x4)] [] S
  | 0, _, _, _, _, _, hf => by cases hf
  | n + 1, x2, x3, x4, S, q, hf => m_margin_41_bok (m_margin_41_ok n) x2 x3 x4 S q hf
def m_margin (x1 : Int32) (S : MS) : Option (Int32 × MS) :=
  (m_isDays x1 ((0 : Int32)) ((1 : Int32)) ((sF S 0 (0 : Int32)))).bind fun q9 =>
  if q9.1 = 0 then
    some ((0 : Int32), q9.2)
  else
    (m_goesTo x1 q9.2).bind fun q19 =>
    (m_winnerIn ((121 : Int32)) q19).bind fun q25 =>
    if q25 = (-1 : Int32) then
      some ((-1 : Int32), q19)
    else
      m_margin_41 FU q25 ((0 : Int32)) ((0 : Int32)) q19
theorem w_margin {G : xG} {m0 : Nat} {x1 : Int32} {S : MS} {q : (Int32 × MS)} (hf : m_margin x1 S = some q) : CtM G m0 mX4_margin 8 S [.ref m0, .int x1] (some (.int q.1)) q.2 := by
  intro h N Z
  refine Ct.of (by decide +kernel) rfl (Nat.le_of_ble_eq_true rfl) (show Xr G _ 0 [(0, .ref m0), (1, .int x1)] [] _ from ?_)
  unfold m_margin at hf
  refine X.aload_n dX4_margin_0 rfl 0 rfl ?_
  refine X.iconst (v := 0) dX4_margin_1 (by decide) ?_
  refine M.putI dX4_margin_2 fX4_115 (by decide) rfl rfl rfl ?_
  refine X.aload_n dX4_margin_5 rfl 0 rfl ?_
  refine X.iload_n dX4_margin_6 rfl 1 rfl ?_
  refine X.iconst (v := 0) dX4_margin_7 (by decide) ?_
  refine X.iconst (v := 1) dX4_margin_8 (by decide) ?_
  obtain ⟨q9, h9, hf⟩ := ob hf
  refine X.callVi (As := [.int x1, .int (0 : Int32), .int (1 : Int32)]) (rest := []) (T2 := (mh m0 h q9.2, N, Z)) dX4_margin_9 (w_isDays h9 h N Z) cX4_409 rfl rfl (Nat.le_of_ble_eq_true rfl) mh_0 rfl rfl (xD (Nat.le_of_ble_eq_true rfl)) xleN xleN ?_
  refine X.if_ne (tgt := 17) dX4_margin_12 (by decide) (fun c12 => ?_) (fun c12 => ?_)
  · have hf := if_f c12 hf
    refine X.aload_n dX4_margin_17 rfl 0 rfl ?_
    refine X.iload_n dX4_margin_18 rfl 1 rfl ?_
    obtain ⟨q19, h19, hf⟩ := ob hf
    refine X.callVv (As := [.int x1]) (rest := []) (T2 := (mh m0 h q19, N, Z)) dX4_margin_19 (w_goesTo h19 h N Z) cX4_412 rfl rfl (Nat.le_of_ble_eq_true rfl) mh_0 rfl rfl (xD (Nat.le_of_ble_eq_true rfl)) xleN xleN ?_
    refine X.aload_n dX4_margin_22 rfl 0 rfl ?_
    refine X.bipush (v := 121) dX4_margin_23 (by decide) ?_
    obtain ⟨q25, h25, hf⟩ := ob hf
    refine X.callVi (As := [.int (121 : Int32)]) (rest := []) dX4_margin_25 (w_winnerIn h25 h N Z) cX4_382 rfl rfl (Nat.le_of_ble_eq_true rfl) mh_0 rfl rfl (xD (Nat.le_of_ble_eq_true rfl)) xleN xleN ?_
    refine X.istore_n (L' := [(2, .int q25), (0, .ref m0), (1, .int x1)]) dX4_margin_28 rfl (Nat.le_of_ble_eq_true rfl) rfl ?_
    refine X.iload_n dX4_margin_29 rfl 0 rfl ?_
    refine X.iconst (v := -1) dX4_margin_30 (by decide) ?_
    refine X.icmp_ne (tgt := 36) dX4_margin_31 (by decide) (fun c31 => ?_) (fun c31 => ?_)
    · have hf := if_f c31 hf
      refine X.iconst (v := 0) dX4_margin_36 (by decide) ?_
      refine X.istore_n (L' := [(3, .int (0 : Int32)), (2, .int q25), (0, .ref m0), (1, .int x1)]) dX4_margin_37 rfl (Nat.le_of_ble_eq_true rfl) rfl ?_
      refine X.iconst (v := 0) dX4_margin_38 (by decide) ?_
      refine X.istore (L' := [(4, .int (0 : Int32)), (3, .int (0 : Int32)), (2, .int q25), (0, .ref m0), (1, .int x1)]) dX4_margin_39 (Nat.le_of_ble_eq_true rfl) rfl ?_
      refine X.sub [3, 2, 1, 0] (L' := [(0, .ref m0), (2, .int q25), (3, .int (0 : Int32)), (4, .int (0 : Int32))]) rfl ?_
      exact m_margin_41_ok FU _ _ _ _ _ hf h N Z
    · have hf := if_t c31 hf
      refine X.iconst (v := -1) dX4_margin_34 (by decide) ?_
      obtain rfl := Option.some.inj hf
      exact X.iret dX4_margin_35 rfl rfl rfl
  · have hf := if_t c12 hf
    refine X.iconst (v := 0) dX4_margin_15 (by decide) ?_
    obtain rfl := Option.some.inj hf
    exact X.iret dX4_margin_16 rfl rfl rfl
/-! patchOf -/
abbrev cX4_patchOf : ByteArray := prog_12_method_116_code
def yX4_patchOf : MethodName := ⟨RX4, "patchOf", "(I)I"⟩
def dkwX4_patchOf_5 : List UInt8 := [132, 4, 1, 167, 255, 158, 132, 3, 1, 167, 255, 141, 28, 172]
abbrev dktX4_patchOf_5 : List UInt8 := dkwX4_patchOf_5 ++ []
def dkwX4_patchOf_4 : List UInt8 := [182, 1, 68, 4, 160, 0, 10, 4, 21, 4, 120, 167, 0, 4, 3, 128, 61, 132, 5, 1, 167, 255, 211]
abbrev dktX4_patchOf_4 : List UInt8 := dkwX4_patchOf_4 ++ dktX4_patchOf_5
def dkwX4_patchOf_3 : List UInt8 := [182, 1, 65, 162, 0, 42, 28, 28, 21, 5, 122, 4, 126, 4, 160, 0, 22, 42, 21, 4, 21, 5]
abbrev dktX4_patchOf_3 : List UInt8 := dkwX4_patchOf_3 ++ dktX4_patchOf_4
def dkwX4_patchOf_2 : List UInt8 := [160, 0, 67, 28, 21, 4, 122, 4, 126, 4, 160, 0, 6, 167, 0, 54, 3, 54, 5, 21, 5, 42]
abbrev dktX4_patchOf_2 : List UInt8 := dkwX4_patchOf_2 ++ dktX4_patchOf_3
def dkwX4_patchOf_1 : List UInt8 := [162, 0, 95, 42, 180, 0, 69, 16, 61, 21, 4, 96, 46, 42, 180, 0, 69, 16, 61, 27, 96, 46]
abbrev dktX4_patchOf_1 : List UInt8 := dkwX4_patchOf_1 ++ dktX4_patchOf_2
def dkwX4_patchOf_0 : List UInt8 := [4, 27, 120, 61, 3, 62, 29, 42, 182, 1, 65, 162, 0, 113, 3, 54, 4, 21, 4, 42, 182, 1, 65]
abbrev dktX4_patchOf_0 : List UInt8 := dkwX4_patchOf_0 ++ dktX4_patchOf_1
theorem dksX4_patchOf_0 : cX4_patchOf.data.toList.drop 0 = dktX4_patchOf_0 := by decide +kernel
theorem dksX4_patchOf_1 : cX4_patchOf.data.toList.drop 23 = dktX4_patchOf_1 := dk_seg dksX4_patchOf_0 23 rfl rfl
theorem dksX4_patchOf_2 : cX4_patchOf.data.toList.drop 45 = dktX4_patchOf_2 := dk_seg dksX4_patchOf_1 22 rfl rfl
theorem dksX4_patchOf_3 : cX4_patchOf.data.toList.drop 67 = dktX4_patchOf_3 := dk_seg dksX4_patchOf_2 22 rfl rfl
theorem dksX4_patchOf_4 : cX4_patchOf.data.toList.drop 89 = dktX4_patchOf_4 := dk_seg dksX4_patchOf_3 22 rfl rfl
theorem dksX4_patchOf_5 : cX4_patchOf.data.toList.drop 112 = dktX4_patchOf_5 := dk_seg dksX4_patchOf_4 23 rfl rfl
theorem dX4_patchOf_0 : decode cX4_patchOf 0 = .ok (.iconst 1, 1) := dk_4 (dk_at dksX4_patchOf_0 0 rfl rfl)
theorem dX4_patchOf_1 : decode cX4_patchOf 1 = .ok (.iload_n 1, 1) := dk_27 (dk_at dksX4_patchOf_0 1 rfl rfl)
theorem dX4_patchOf_2 : decode cX4_patchOf 2 = .ok (.ishl, 1) := dk_120 (dk_at dksX4_patchOf_0 2 rfl rfl)
theorem dX4_patchOf_3 : decode cX4_patchOf 3 = .ok (.istore_n 2, 1) := dk_61 (dk_at dksX4_patchOf_0 3 rfl rfl)
theorem dX4_patchOf_4 : decode cX4_patchOf 4 = .ok (.iconst 0, 1) := dk_3 (dk_at dksX4_patchOf_0 4 rfl rfl)
theorem dX4_patchOf_5 : decode cX4_patchOf 5 = .ok (.istore_n 3, 1) := dk_62 (dk_at dksX4_patchOf_0 5 rfl rfl)
theorem dX4_patchOf_6 : decode cX4_patchOf 6 = .ok (.iload_n 3, 1) := dk_29 (dk_at dksX4_patchOf_0 6 rfl rfl)
theorem dX4_patchOf_7 : decode cX4_patchOf 7 = .ok (.aload_n 0, 1) := dk_42 (dk_at dksX4_patchOf_0 7 rfl rfl)
theorem dX4_patchOf_8 : decode cX4_patchOf 8 = .ok (.invokevirtual 321, 3) := dk_182 1 65 (dk_at dksX4_patchOf_0 8 rfl rfl)
theorem dX4_patchOf_11 : decode cX4_patchOf 11 = .ok (.if_icmp .ge 113, 3) := dk_162 0 113 (dk_at dksX4_patchOf_0 11 rfl rfl)
theorem dX4_patchOf_14 : decode cX4_patchOf 14 = .ok (.iconst 0, 1) := dk_3 (dk_at dksX4_patchOf_0 14 rfl rfl)
theorem dX4_patchOf_15 : decode cX4_patchOf 15 = .ok (.istore 4, 2) := dk_54 4 (dk_at dksX4_patchOf_0 15 rfl rfl)
theorem dX4_patchOf_17 : decode cX4_patchOf 17 = .ok (.iload 4, 2) := dk_21 4 (dk_at dksX4_patchOf_0 17 rfl rfl)
theorem dX4_patchOf_19 : decode cX4_patchOf 19 = .ok (.aload_n 0, 1) := dk_42 (dk_at dksX4_patchOf_0 19 rfl rfl)
theorem dX4_patchOf_20 : decode cX4_patchOf 20 = .ok (.invokevirtual 321, 3) := dk_182 1 65 (dk_at dksX4_patchOf_0 20 rfl rfl)
theorem dX4_patchOf_23 : decode cX4_patchOf 23 = .ok (.if_icmp .ge 95, 3) := dk_162 0 95 (dk_at dksX4_patchOf_1 0 rfl rfl)
theorem dX4_patchOf_26 : decode cX4_patchOf 26 = .ok (.aload_n 0, 1) := dk_42 (dk_at dksX4_patchOf_1 3 rfl rfl)
theorem dX4_patchOf_27 : decode cX4_patchOf 27 = .ok (.getfield 69, 3) := dk_180 0 69 (dk_at dksX4_patchOf_1 4 rfl rfl)
theorem dX4_patchOf_30 : decode cX4_patchOf 30 = .ok (.bipush 61, 2) := dk_16 61 (dk_at dksX4_patchOf_1 7 rfl rfl)
theorem dX4_patchOf_32 : decode cX4_patchOf 32 = .ok (.iload 4, 2) := dk_21 4 (dk_at dksX4_patchOf_1 9 rfl rfl)
theorem dX4_patchOf_34 : decode cX4_patchOf 34 = .ok (.iadd, 1) := dk_96 (dk_at dksX4_patchOf_1 11 rfl rfl)
theorem dX4_patchOf_35 : decode cX4_patchOf 35 = .ok (.iaload, 1) := dk_46 (dk_at dksX4_patchOf_1 12 rfl rfl)
theorem dX4_patchOf_36 : decode cX4_patchOf 36 = .ok (.aload_n 0, 1) := dk_42 (dk_at dksX4_patchOf_1 13 rfl rfl)
theorem dX4_patchOf_37 : decode cX4_patchOf 37 = .ok (.getfield 69, 3) := dk_180 0 69 (dk_at dksX4_patchOf_1 14 rfl rfl)
theorem dX4_patchOf_40 : decode cX4_patchOf 40 = .ok (.bipush 61, 2) := dk_16 61 (dk_at dksX4_patchOf_1 17 rfl rfl)
theorem dX4_patchOf_42 : decode cX4_patchOf 42 = .ok (.iload_n 1, 1) := dk_27 (dk_at dksX4_patchOf_1 19 rfl rfl)
theorem dX4_patchOf_43 : decode cX4_patchOf 43 = .ok (.iadd, 1) := dk_96 (dk_at dksX4_patchOf_1 20 rfl rfl)
theorem dX4_patchOf_44 : decode cX4_patchOf 44 = .ok (.iaload, 1) := dk_46 (dk_at dksX4_patchOf_1 21 rfl rfl)
theorem dX4_patchOf_45 : decode cX4_patchOf 45 = .ok (.if_icmp .ne 67, 3) := dk_160 0 67 (dk_at dksX4_patchOf_2 0 rfl rfl)
theorem dX4_patchOf_48 : decode cX4_patchOf 48 = .ok (.iload_n 2, 1) := dk_28 (dk_at dksX4_patchOf_2 3 rfl rfl)
theorem dX4_patchOf_49 : decode cX4_patchOf 49 = .ok (.iload 4, 2) := dk_21 4 (dk_at dksX4_patchOf_2 4 rfl rfl)
theorem dX4_patchOf_51 : decode cX4_patchOf 51 = .ok (.ishr, 1) := dk_122 (dk_at dksX4_patchOf_2 6 rfl rfl)
theorem dX4_patchOf_52 : decode cX4_patchOf 52 = .ok (.iconst 1, 1) := dk_4 (dk_at dksX4_patchOf_2 7 rfl rfl)
theorem dX4_patchOf_53 : decode cX4_patchOf 53 = .ok (.iand, 1) := dk_126 (dk_at dksX4_patchOf_2 8 rfl rfl)
theorem dX4_patchOf_54 : decode cX4_patchOf 54 = .ok (.iconst 1, 1) := dk_4 (dk_at dksX4_patchOf_2 9 rfl rfl)
theorem dX4_patchOf_55 : decode cX4_patchOf 55 = .ok (.if_icmp .ne 6, 3) := dk_160 0 6 (dk_at dksX4_patchOf_2 10 rfl rfl)
theorem dX4_patchOf_58 : decode cX4_patchOf 58 = .ok (.goto 54, 3) := dk_167 0 54 (dk_at dksX4_patchOf_2 13 rfl rfl)
theorem dX4_patchOf_61 : decode cX4_patchOf 61 = .ok (.iconst 0, 1) := dk_3 (dk_at dksX4_patchOf_2 16 rfl rfl)
theorem dX4_patchOf_62 : decode cX4_patchOf 62 = .ok (.istore 5, 2) := dk_54 5 (dk_at dksX4_patchOf_2 17 rfl rfl)
theorem dX4_patchOf_64 : decode cX4_patchOf 64 = .ok (.iload 5, 2) := dk_21 5 (dk_at dksX4_patchOf_2 19 rfl rfl)
theorem dX4_patchOf_66 : decode cX4_patchOf 66 = .ok (.aload_n 0, 1) := dk_42 (dk_at dksX4_patchOf_2 21 rfl rfl)
theorem dX4_patchOf_67 : decode cX4_patchOf 67 = .ok (.invokevirtual 321, 3) := dk_182 1 65 (dk_at dksX4_patchOf_3 0 rfl rfl)
theorem dX4_patchOf_70 : decode cX4_patchOf 70 = .ok (.if_icmp .ge 42, 3) := dk_162 0 42 (dk_at dksX4_patchOf_3 3 rfl rfl)
theorem dX4_patchOf_73 : decode cX4_patchOf 73 = .ok (.iload_n 2, 1) := dk_28 (dk_at dksX4_patchOf_3 6 rfl rfl)
theorem dX4_patchOf_74 : decode cX4_patchOf 74 = .ok (.iload_n 2, 1) := dk_28 (dk_at dksX4_patchOf_3 7 rfl rfl)
theorem dX4_patchOf_75 : decode cX4_patchOf 75 = .ok (.iload 5, 2) := dk_21 5 (dk_at dksX4_patchOf_3 8 rfl rfl)
theorem dX4_patchOf_77 : decode cX4_patchOf 77 = .ok (.ishr, 1) := dk_122 (dk_at dksX4_patchOf_3 10 rfl rfl)
theorem dX4_patchOf_78 : decode cX4_patchOf 78 = .ok (.iconst 1, 1) := dk_4 (dk_at dksX4_patchOf_3 11 rfl rfl)
theorem dX4_patchOf_79 : decode cX4_patchOf 79 = .ok (.iand, 1) := dk_126 (dk_at dksX4_patchOf_3 12 rfl rfl)
theorem dX4_patchOf_80 : decode cX4_patchOf 80 = .ok (.iconst 1, 1) := dk_4 (dk_at dksX4_patchOf_3 13 rfl rfl)
theorem dX4_patchOf_81 : decode cX4_patchOf 81 = .ok (.if_icmp .ne 22, 3) := dk_160 0 22 (dk_at dksX4_patchOf_3 14 rfl rfl)
theorem dX4_patchOf_84 : decode cX4_patchOf 84 = .ok (.aload_n 0, 1) := dk_42 (dk_at dksX4_patchOf_3 17 rfl rfl)
theorem dX4_patchOf_85 : decode cX4_patchOf 85 = .ok (.iload 4, 2) := dk_21 4 (dk_at dksX4_patchOf_3 18 rfl rfl)
theorem dX4_patchOf_87 : decode cX4_patchOf 87 = .ok (.iload 5, 2) := dk_21 5 (dk_at dksX4_patchOf_3 20 rfl rfl)
theorem dX4_patchOf_89 : decode cX4_patchOf 89 = .ok (.invokevirtual 324, 3) := dk_182 1 68 (dk_at dksX4_patchOf_4 0 rfl rfl)
theorem dX4_patchOf_92 : decode cX4_patchOf 92 = .ok (.iconst 1, 1) := dk_4 (dk_at dksX4_patchOf_4 3 rfl rfl)
theorem dX4_patchOf_93 : decode cX4_patchOf 93 = .ok (.if_icmp .ne 10, 3) := dk_160 0 10 (dk_at dksX4_patchOf_4 4 rfl rfl)
theorem dX4_patchOf_96 : decode cX4_patchOf 96 = .ok (.iconst 1, 1) := dk_4 (dk_at dksX4_patchOf_4 7 rfl rfl)
theorem dX4_patchOf_97 : decode cX4_patchOf 97 = .ok (.iload 4, 2) := dk_21 4 (dk_at dksX4_patchOf_4 8 rfl rfl)
theorem dX4_patchOf_99 : decode cX4_patchOf 99 = .ok (.ishl, 1) := dk_120 (dk_at dksX4_patchOf_4 10 rfl rfl)
theorem dX4_patchOf_100 : decode cX4_patchOf 100 = .ok (.goto 4, 3) := dk_167 0 4 (dk_at dksX4_patchOf_4 11 rfl rfl)
theorem dX4_patchOf_103 : decode cX4_patchOf 103 = .ok (.iconst 0, 1) := dk_3 (dk_at dksX4_patchOf_4 14 rfl rfl)
theorem dX4_patchOf_104 : decode cX4_patchOf 104 = .ok (.ior, 1) := dk_128 (dk_at dksX4_patchOf_4 15 rfl rfl)
theorem dX4_patchOf_105 : decode cX4_patchOf 105 = .ok (.istore_n 2, 1) := dk_61 (dk_at dksX4_patchOf_4 16 rfl rfl)
theorem dX4_patchOf_106 : decode cX4_patchOf 106 = .ok (.iinc 5 1, 3) := dk_132 5 1 (dk_at dksX4_patchOf_4 17 rfl rfl)
theorem dX4_patchOf_109 : decode cX4_patchOf 109 = .ok (.goto (-45), 3) := dk_167 255 211 (dk_at dksX4_patchOf_4 20 rfl rfl)
theorem dX4_patchOf_112 : decode cX4_patchOf 112 = .ok (.iinc 4 1, 3) := dk_132 4 1 (dk_at dksX4_patchOf_5 0 rfl rfl)
theorem dX4_patchOf_115 : decode cX4_patchOf 115 = .ok (.goto (-98), 3) := dk_167 255 158 (dk_at dksX4_patchOf_5 3 rfl rfl)
theorem dX4_patchOf_118 : decode cX4_patchOf 118 = .ok (.iinc 3 1, 3) := dk_132 3 1 (dk_at dksX4_patchOf_5 6 rfl rfl)
theorem dX4_patchOf_121 : decode cX4_patchOf 121 = .ok (.goto (-115), 3) := dk_167 255 141 (dk_at dksX4_patchOf_5 9 rfl rfl)
theorem dX4_patchOf_124 : decode cX4_patchOf 124 = .ok (.iload_n 2, 1) := dk_28 (dk_at dksX4_patchOf_5 12 rfl rfl)
theorem dX4_patchOf_125 : decode cX4_patchOf 125 = .ok (.ireturn, 1) := dk_172 (dk_at dksX4_patchOf_5 13 rfl rfl)
abbrev mX4_patchOf : xM := (yX4_patchOf, cX4_patchOf, 6, (some .int), [])
def m_patchOf_104 (k6 : Int32 → Int32 → Int32 → MS → Option Int32) (k17 : Int32 → Int32 → Int32 → Int32 → MS → Option Int32) (k64 : Int32 → Int32 → Int32 → Int32 → Int32 → MS → Option Int32) (x1 : Int32) (x3 : Int32) (x4 : Int32) (x5 : Int32) (y0 : Int32) (y1 : Int32) (S : MS) : Option Int32 :=
  k64 x1 ((y1 ||| y0)) x3 x4 ((x5 + 1)) S
theorem m_patchOf_104_ok {G : xG} {m0 : Nat} {k6 : Int32 → Int32 → Int32 → MS → Option Int32} {k17 : Int32 → Int32 → Int32 → Int32 → MS → Option Int32} {k64 : Int32 → Int32 → Int32 → Int32 → Int32 → MS → Option Int32} (hk6 : ∀ (x1 : Int32) (x2 : Int32) (x3 : Int32) (S : MS) (q : Int32), k6 x1 x2 x3 S = some q → XM G m0 mX4_patchOf 2 S (some (.int q)) S 6 [(0, .ref m0), (1, .int x1), (2, .int x2), (3, .int x3)] [] S) (hk17 : ∀ (x1 : Int32) (x2 : Int32) (x3 : Int32) (x4 : Int32) (S : MS) (q : Int32), k17 x1 x2 x3 x4 S = some q → XM G m0 mX4_patchOf 2 S (some (.int q)) S 17 [(0, .ref m0), (1, .int x1), (2, .int x2), (3, .int x3), (4, .int x4)] [] S) (hk64 : ∀ (x1 : Int32) (x2 : Int32) (x3 : Int32) (x4 : Int32) (x5 : Int32) (S : MS) (q : Int32), k64 x1 x2 x3 x4 x5 S = some q → XM G m0 mX4_patchOf 2 S (some (.int q)) S 64 [(0, .ref m0), (1, .int x1), (2, .int x2), (3, .int x3), (4, .int x4), (5, .int x5)] [] S) (x1 : Int32) (x3 : Int32) (x4 : Int32) (x5 : Int32) (y0 : Int32) (y1 : Int32) (S : MS) (q : Int32) (hf : m_patchOf_104 k6 k17 k64 x1 x3 x4 x5 y0 y1 S = some q) : XM G m0 mX4_patchOf 2 S (some (.int q)) S 104 [(0, .ref m0), (1, .int x1), (3, .int x3), (4, .int x4), (5, .int x5)] [.int y0, .int y1] S := by
  intro h N Z
  unfold m_patchOf_104 at hf
  refine X.ior dX4_patchOf_104 ?_
  refine X.istore_n (L' := [(2, .int (y1 ||| y0)), (0, .ref m0), (1, .int x1), (3, .int x3), (4, .int x4), (5, .int x5)]) dX4_patchOf_105 rfl (Nat.le_of_ble_eq_true rfl) rfl ?_
  refine X.iinc (v := (x5 + 1)) (L' := [(5, .int (x5 + 1)), (2, .int (y1 ||| y0)), (0, .ref m0), (1, .int x1), (3, .int x3), (4, .int x4)]) dX4_patchOf_106 5 rfl rfl (Nat.le_of_ble_eq_true rfl) rfl ?_
  refine X.goto (tgt := 64) dX4_patchOf_109 (by decide) ?_
  refine X.sub [2, 3, 1, 4, 5, 0] (L' := [(0, .ref m0), (1, .int x1), (2, .int (y1 ||| y0)), (3, .int x3), (4, .int x4), (5, .int (x5 + 1))]) rfl ?_
  exact hk64 _ _ _ _ _ _ _ hf h N Z
def m_patchOf_103 (k6 : Int32 → Int32 → Int32 → MS → Option Int32) (k17 : Int32 → Int32 → Int32 → Int32 → MS → Option Int32) (k64 : Int32 → Int32 → Int32 → Int32 → Int32 → MS → Option Int32) (x1 : Int32) (x3 : Int32) (x4 : Int32) (x5 : Int32) (y0 : Int32) (S : MS) : Option Int32 :=
  m_patchOf_104 k6 k17 k64 x1 x3 x4 x5 ((0 : Int32)) y0 S
theorem m_patchOf_103_ok {G : xG} {m0 : Nat} {k6 : Int32 → Int32 → Int32 → MS → Option Int32} {k17 : Int32 → Int32 → Int32 → Int32 → MS → Option Int32} {k64 : Int32 → Int32 → Int32 → Int32 → Int32 → MS → Option Int32} (hk6 : ∀ (x1 : Int32) (x2 : Int32) (x3 : Int32) (S : MS) (q : Int32), k6 x1 x2 x3 S = some q → XM G m0 mX4_patchOf 2 S (some (.int q)) S 6 [(0, .ref m0), (1, .int x1), (2, .int x2), (3, .int x3)] [] S) (hk17 : ∀ (x1 : Int32) (x2 : Int32) (x3 : Int32) (x4 : Int32) (S : MS) (q : Int32), k17 x1 x2 x3 x4 S = some q → XM G m0 mX4_patchOf 2 S (some (.int q)) S 17 [(0, .ref m0), (1, .int x1), (2, .int x2), (3, .int x3), (4, .int x4)] [] S) (hk64 : ∀ (x1 : Int32) (x2 : Int32) (x3 : Int32) (x4 : Int32) (x5 : Int32) (S : MS) (q : Int32), k64 x1 x2 x3 x4 x5 S = some q → XM G m0 mX4_patchOf 2 S (some (.int q)) S 64 [(0, .ref m0), (1, .int x1), (2, .int x2), (3, .int x3), (4, .int x4), (5, .int x5)] [] S) (x1 : Int32) (x3 : Int32) (x4 : Int32) (x5 : Int32) (y0 : Int32) (S : MS) (q : Int32) (hf : m_patchOf_103 k6 k17 k64 x1 x3 x4 x5 y0 S = some q) : XM G m0 mX4_patchOf 2 S (some (.int q)) S 103 [(0, .ref m0), (1, .int x1), (3, .int x3), (4, .int x4), (5, .int x5)] [.int y0] S := by
  intro h N Z
  unfold m_patchOf_103 at hf
  refine X.iconst (v := 0) dX4_patchOf_103 (by decide) ?_
  refine X.sub [0, 1, 2, 3, 4] (L' := [(0, .ref m0), (1, .int x1), (3, .int x3), (4, .int x4), (5, .int x5)]) rfl ?_
  exact m_patchOf_104_ok hk6 hk17 hk64 _ _ _ _ _ _ _ _ hf h N Z
def m_patchOf_112 (k6 : Int32 → Int32 → Int32 → MS → Option Int32) (k17 : Int32 → Int32 → Int32 → Int32 → MS → Option Int32) (x1 : Int32) (x2 : Int32) (x3 : Int32) (x4 : Int32) (S : MS) : Option Int32 :=
  k17 x1 x2 x3 ((x4 + 1)) S
theorem m_patchOf_112_ok {G : xG} {m0 : Nat} {k6 : Int32 → Int32 → Int32 → MS → Option Int32} {k17 : Int32 → Int32 → Int32 → Int32 → MS → Option Int32} (hk6 : ∀ (x1 : Int32) (x2 : Int32) (x3 : Int32) (S : MS) (q : Int32), k6 x1 x2 x3 S = some q → XM G m0 mX4_patchOf 2 S (some (.int q)) S 6 [(0, .ref m0), (1, .int x1), (2, .int x2), (3, .int x3)] [] S) (hk17 : ∀ (x1 : Int32) (x2 : Int32) (x3 : Int32) (x4 : Int32) (S : MS) (q : Int32), k17 x1 x2 x3 x4 S = some q → XM G m0 mX4_patchOf 2 S (some (.int q)) S 17 [(0, .ref m0), (1, .int x1), (2, .int x2), (3, .int x3), (4, .int x4)] [] S) (x1 : Int32) (x2 : Int32) (x3 : Int32) (x4 : Int32) (S : MS) (q : Int32) (hf : m_patchOf_112 k6 k17 x1 x2 x3 x4 S = some q) : XM G m0 mX4_patchOf 2 S (some (.int q)) S 112 [(0, .ref m0), (1, .int x1), (2, .int x2), (3, .int x3), (4, .int x4)] [] S := by
  intro h N Z
  unfold m_patchOf_112 at hf
  refine X.iinc (v := (x4 + 1)) (L' := [(4, .int (x4 + 1)), (0, .ref m0), (1, .int x1), (2, .int x2), (3, .int x3)]) dX4_patchOf_112 4 rfl rfl (Nat.le_of_ble_eq_true rfl) rfl ?_
  refine X.goto (tgt := 17) dX4_patchOf_115 (by decide) ?_
  refine X.sub [1, 2, 3, 4, 0] (L' := [(0, .ref m0), (1, .int x1), (2, .int x2), (3, .int x3), (4, .int (x4 + 1))]) rfl ?_
  exact hk17 _ _ _ _ _ _ hf h N Z
def m_patchOf_64_b (k6 : Int32 → Int32 → Int32 → MS → Option Int32) (k17 : Int32 → Int32 → Int32 → Int32 → MS → Option Int32) (k64 : Int32 → Int32 → Int32 → Int32 → Int32 → MS → Option Int32) (x1 : Int32) (x2 : Int32) (x3 : Int32) (x4 : Int32) (x5 : Int32) (S : MS) : Option Int32 :=
  (m_cells S).bind fun q67 =>
  if q67 ≤ x5 then
    m_patchOf_112 k6 k17 x1 x2 x3 x4 S
  else
    if ((x2 >>> (x5 &&& 31)) &&& (1 : Int32)) = (1 : Int32) then
      (m_far x4 x5 S).bind fun q89 =>
      if q89 = (1 : Int32) then
        m_patchOf_104 k6 k17 k64 x1 x3 x4 x5 (((1 : Int32) <<< (x4 &&& 31))) x2 S
      else
        m_patchOf_103 k6 k17 k64 x1 x3 x4 x5 x2 S
    else
      m_patchOf_103 k6 k17 k64 x1 x3 x4 x5 x2 S
def m_patchOf_64 (k6 : Int32 → Int32 → Int32 → MS → Option Int32) (k17 : Int32 → Int32 → Int32 → Int32 → MS → Option Int32) : Nat → Int32 → Int32 → Int32 → Int32 → Int32 → MS → Option Int32
  | 0 => fun _ _ _ _ _ _ => none
  | n + 1 => fun x1 x2 x3 x4 x5 S => m_patchOf_64_b k6 k17 (m_patchOf_64 k6 k17 n) x1 x2 x3 x4 x5 S
theorem m_patchOf_64_bok {G : xG} {m0 : Nat} {k6 : Int32 → Int32 → Int32 → MS → Option Int32} {k17 : Int32 → Int32 → Int32 → Int32 → MS → Option Int32} {k64 : Int32 → Int32 → Int32 → Int32 → Int32 → MS → Option Int32} (hk6 : ∀ (x1 : Int32) (x2 : Int32) (x3 : Int32) (S : MS) (q : Int32), k6 x1 x2 x3 S = some q → XM G m0 mX4_patchOf 2 S (some (.int q)) S 6 [(0, .ref m0), (1, .int x1), (2, .int x2), (3, .int x3)] [] S) (hk17 : ∀ (x1 : Int32) (x2 : Int32) (x3 : Int32) (x4 : Int32) (S : MS) (q : Int32), k17 x1 x2 x3 x4 S = some q → XM G m0 mX4_patchOf 2 S (some (.int q)) S 17 [(0, .ref m0), (1, .int x1), (2, .int x2), (3, .int x3), (4, .int x4)] [] S) (hk64 : ∀ (x1 : Int32) (x2 : Int32) (x3 : Int32) (x4 : Int32) (x5 : Int32) (S : MS) (q : Int32), k64 x1 x2 x3 x4 x5 S = some q → XM G m0 mX4_patchOf 2 S (some (.int q)) S 64 [(0, .ref m0), (1, .int x1), (2, .int x2), (3, .int x3), (4, .int x4), (5, .int x5)] [] S) (x1 : Int32) (x2 : Int32) (x3 : Int32) (x4 : Int32) (x5 : Int32) (S : MS) (q : Int32) (hf : m_patchOf_64_b k6 k17 k64 x1 x2 x3 x4 x5 S = some q) : XM G m0 mX4_patchOf 2 S (some (.int q)) S 64 [(0, .ref m0), (1, .int x1), (2, .int x2), (3, .int x3), (4, .int x4), (5, .int x5)] [] S := by
  intro h N Z
  unfold m_patchOf_64_b at hf
  refine X.iload dX4_patchOf_64 5 rfl ?_
  refine X.aload_n dX4_patchOf_66 rfl 0 rfl ?_
  obtain ⟨q67, h67, hf⟩ := ob hf
  refine X.callVi (As := []) (rest := [.int x5]) dX4_patchOf_67 (w_cells h67 h N Z) cX4_321 rfl rfl (Nat.le_of_ble_eq_true rfl) mh_0 rfl rfl (xD (Nat.le_of_ble_eq_true rfl)) xleN xleN ?_
  refine X.icmp_ge (tgt := 112) dX4_patchOf_70 (by decide) (fun c70 => ?_) (fun c70 => ?_)
  · have hf := if_t c70 hf
    refine X.sub [0, 1, 2, 3, 4] (L' := [(0, .ref m0), (1, .int x1), (2, .int x2), (3, .int x3), (4, .int x4)]) rfl ?_
    exact m_patchOf_112_ok hk6 hk17 _ _ _ _ _ _ hf h N Z
  · have hf := if_f c70 hf
    refine X.iload_n dX4_patchOf_73 rfl 2 rfl ?_
    refine X.iload_n dX4_patchOf_74 rfl 2 rfl ?_
    refine X.iload dX4_patchOf_75 5 rfl ?_
    refine X.ishr dX4_patchOf_77 ?_
    refine X.iconst (v := 1) dX4_patchOf_78 (by decide) ?_
    refine X.iand dX4_patchOf_79 ?_
    refine X.iconst (v := 1) dX4_patchOf_80 (by decide) ?_
    refine X.icmp_ne (tgt := 103) dX4_patchOf_81 (by decide) (fun c81 => ?_) (fun c81 => ?_)
    · have hf := if_f c81 hf
      refine X.sub [0, 1, 3, 4, 5] (L' := [(0, .ref m0), (1, .int x1), (3, .int x3), (4, .int x4), (5, .int x5)]) rfl ?_
      exact m_patchOf_103_ok hk6 hk17 hk64 _ _ _ _ _ _ _ hf h N Z
    · have hf := if_t c81 hf
      refine X.aload_n dX4_patchOf_84 rfl 0 rfl ?_
      refine X.iload dX4_patchOf_85 4 rfl ?_
      refine X.iload dX4_patchOf_87 5 rfl ?_
      obtain ⟨q89, h89, hf⟩ := ob hf
      refine X.callVi (As := [.int x4, .int x5]) (rest := [.int x2]) dX4_patchOf_89 (w_far h89 h N Z) cX4_324 rfl rfl (Nat.le_of_ble_eq_true rfl) mh_0 rfl rfl (xD (Nat.le_of_ble_eq_true rfl)) xleN xleN ?_
      refine X.iconst (v := 1) dX4_patchOf_92 (by decide) ?_
      refine X.icmp_ne (tgt := 103) dX4_patchOf_93 (by decide) (fun c93 => ?_) (fun c93 => ?_)
      · have hf := if_f c93 hf
        refine X.sub [0, 1, 3, 4, 5] (L' := [(0, .ref m0), (1, .int x1), (3, .int x3), (4, .int x4), (5, .int x5)]) rfl ?_
        exact m_patchOf_103_ok hk6 hk17 hk64 _ _ _ _ _ _ _ hf h N Z
      · have hf := if_t c93 hf
        refine X.iconst (v := 1) dX4_patchOf_96 (by decide) ?_
        refine X.iload dX4_patchOf_97 4 rfl ?_
        refine X.ishl dX4_patchOf_99 ?_
        refine X.goto (tgt := 104) dX4_patchOf_100 (by decide) ?_
        refine X.sub [0, 1, 3, 4, 5] (L' := [(0, .ref m0), (1, .int x1), (3, .int x3), (4, .int x4), (5, .int x5)]) rfl ?_
        exact m_patchOf_104_ok hk6 hk17 hk64 _ _ _ _ _ _ _ _ hf h N Z
theorem m_patchOf_64_ok {G : xG} {m0 : Nat} {k6 : Int32 → Int32 → Int32 → MS → Option Int32} {k17 : Int32 → Int32 → Int32 → Int32 → MS → Option Int32} (hk6 : ∀ (x1 : Int32) (x2 : Int32) (x3 : Int32) (S : MS) (q : Int32), k6 x1 x2 x3 S = some q → XM G m0 mX4_patchOf 2 S (some (.int q)) S 6 [(0, .ref m0), (1, .int x1), (2, .int x2), (3, .int x3)] [] S) (hk17 : ∀ (x1 : Int32) (x2 : Int32) (x3 : Int32) (x4 : Int32) (S : MS) (q : Int32), k17 x1 x2 x3 x4 S = some q → XM G m0 mX4_patchOf 2 S (some (.int q)) S 17 [(0, .ref m0), (1, .int x1), (2, .int x2), (3, .int x3), (4, .int x4)] [] S) : ∀ (n : Nat) (x1 : Int32) (x2 : Int32) (x3 : Int32) (x4 : Int32) (x5 : Int32) (S : MS) (q : Int32), m_patchOf_64 k6 k17 n x1 x2 x3 x4 x5 S = some q → XM G m0 mX4_patchOf 2 S (some (.int q)) S 64 [(0, .ref m0), (1, .int x1), (2, .int x2), (3, .int x3), (4, .int x4), (5, .int x5)] [] S
  | 0, _, _, _, _, _, _, _, hf => by cases hf
  | n + 1, x1, x2, x3, x4, x5, S, q, hf => m_patchOf_64_bok hk6 hk17 (m_patchOf_64_ok hk6 hk17 n) x1 x2 x3 x4 x5 S q hf
def m_patchOf_17_b (k6 : Int32 → Int32 → Int32 → MS → Option Int32) (k17 : Int32 → Int32 → Int32 → Int32 → MS → Option Int32) (x1 : Int32) (x2 : Int32) (x3 : Int32) (x4 : Int32) (S : MS) : Option Int32 :=
  (m_cells S).bind fun q20 =>
  if q20 ≤ x4 then
    k6 x1 x2 ((x3 + 1)) S
  else
    (rdA S 13 ((61 : Int32) + x4)).bind fun v35 =>
    (rdA S 13 ((61 : Int32) + x1)).bind fun v44 =>
    if v35 = v44 then
      if ((x2 >>> (x4 &&& 31)) &&& (1 : Int32)) = (1 : Int32) then
        m_patchOf_112 k6 k17 x1 x2 x3 x4 S
      else
        m_patchOf_64 k6 k17 FU x1 x2 x3 x4 ((0 : Int32)) S
    else
      m_patchOf_112 k6 k17 x1 x2 x3 x4 S
def m_patchOf_17 (k6 : Int32 → Int32 → Int32 → MS → Option Int32) : Nat → Int32 → Int32 → Int32 → Int32 → MS → Option Int32
  | 0 => fun _ _ _ _ _ => none
  | n + 1 => fun x1 x2 x3 x4 S => m_patchOf_17_b k6 (m_patchOf_17 k6 n) x1 x2 x3 x4 S
theorem m_patchOf_17_bok {G : xG} {m0 : Nat} {k6 : Int32 → Int32 → Int32 → MS → Option Int32} {k17 : Int32 → Int32 → Int32 → Int32 → MS → Option Int32} (hk6 : ∀ (x1 : Int32) (x2 : Int32) (x3 : Int32) (S : MS) (q : Int32), k6 x1 x2 x3 S = some q → XM G m0 mX4_patchOf 2 S (some (.int q)) S 6 [(0, .ref m0), (1, .int x1), (2, .int x2), (3, .int x3)] [] S) (hk17 : ∀ (x1 : Int32) (x2 : Int32) (x3 : Int32) (x4 : Int32) (S : MS) (q : Int32), k17 x1 x2 x3 x4 S = some q → XM G m0 mX4_patchOf 2 S (some (.int q)) S 17 [(0, .ref m0), (1, .int x1), (2, .int x2), (3, .int x3), (4, .int x4)] [] S) (x1 : Int32) (x2 : Int32) (x3 : Int32) (x4 : Int32) (S : MS) (q : Int32) (hf : m_patchOf_17_b k6 k17 x1 x2 x3 x4 S = some q) : XM G m0 mX4_patchOf 2 S (some (.int q)) S 17 [(0, .ref m0), (1, .int x1), (2, .int x2), (3, .int x3), (4, .int x4)] [] S := by
  intro h N Z
  unfold m_patchOf_17_b at hf
  refine X.iload dX4_patchOf_17 4 rfl ?_
  refine X.aload_n dX4_patchOf_19 rfl 0 rfl ?_
  obtain ⟨q20, h20, hf⟩ := ob hf
  refine X.callVi (As := []) (rest := [.int x4]) dX4_patchOf_20 (w_cells h20 h N Z) cX4_321 rfl rfl (Nat.le_of_ble_eq_true rfl) mh_0 rfl rfl (xD (Nat.le_of_ble_eq_true rfl)) xleN xleN ?_
  refine X.icmp_ge (tgt := 118) dX4_patchOf_23 (by decide) (fun c23 => ?_) (fun c23 => ?_)
  · have hf := if_t c23 hf
    refine X.iinc (v := (x3 + 1)) (L' := [(3, .int (x3 + 1)), (0, .ref m0), (1, .int x1), (2, .int x2), (4, .int x4)]) dX4_patchOf_118 3 rfl rfl (Nat.le_of_ble_eq_true rfl) rfl ?_
    refine X.goto (tgt := 6) dX4_patchOf_121 (by decide) ?_
    refine X.sub [1, 2, 3, 0] (L' := [(0, .ref m0), (1, .int x1), (2, .int x2), (3, .int (x3 + 1))]) rfl ?_
    exact hk6 _ _ _ _ _ hf h N Z
  · have hf := if_f c23 hf
    refine X.aload_n dX4_patchOf_26 rfl 0 rfl ?_
    refine M.get (v := .ref (m0 + 13)) dX4_patchOf_27 fX4_69 (Nat.le_of_ble_eq_true rfl) rfl ?_
    refine X.bipush (v := 61) dX4_patchOf_30 (by decide) ?_
    refine X.iload dX4_patchOf_32 4 rfl ?_
    refine X.iadd dX4_patchOf_34 ?_
    obtain ⟨v35, h35, hf⟩ := ob hf
    refine M.iald dX4_patchOf_35 rfl h35 ?_
    refine X.aload_n dX4_patchOf_36 rfl 0 rfl ?_
    refine M.get (v := .ref (m0 + 13)) dX4_patchOf_37 fX4_69 (Nat.le_of_ble_eq_true rfl) rfl ?_
    refine X.bipush (v := 61) dX4_patchOf_40 (by decide) ?_
    refine X.iload_n dX4_patchOf_42 rfl 1 rfl ?_
    refine X.iadd dX4_patchOf_43 ?_
    obtain ⟨v44, h44, hf⟩ := ob hf
    refine M.iald dX4_patchOf_44 rfl h44 ?_
    refine X.icmp_ne (tgt := 112) dX4_patchOf_45 (by decide) (fun c45 => ?_) (fun c45 => ?_)
    · have hf := if_f c45 hf
      refine X.sub [0, 1, 2, 3, 4] (L' := [(0, .ref m0), (1, .int x1), (2, .int x2), (3, .int x3), (4, .int x4)]) rfl ?_
      exact m_patchOf_112_ok hk6 hk17 _ _ _ _ _ _ hf h N Z
    · have hf := if_t c45 hf
      refine X.iload_n dX4_patchOf_48 rfl 2 rfl ?_
      refine X.iload dX4_patchOf_49 4 rfl ?_
      refine X.ishr dX4_patchOf_51 ?_
      refine X.iconst (v := 1) dX4_patchOf_52 (by decide) ?_
      refine X.iand dX4_patchOf_53 ?_
      refine X.iconst (v := 1) dX4_patchOf_54 (by decide) ?_
      refine X.icmp_ne (tgt := 61) dX4_patchOf_55 (by decide) (fun c55 => ?_) (fun c55 => ?_)
      · have hf := if_f c55 hf
        refine X.iconst (v := 0) dX4_patchOf_61 (by decide) ?_
        refine X.istore (L' := [(5, .int (0 : Int32)), (0, .ref m0), (1, .int x1), (2, .int x2), (3, .int x3), (4, .int x4)]) dX4_patchOf_62 (Nat.le_of_ble_eq_true rfl) rfl ?_
        refine X.sub [1, 2, 3, 4, 5, 0] (L' := [(0, .ref m0), (1, .int x1), (2, .int x2), (3, .int x3), (4, .int x4), (5, .int (0 : Int32))]) rfl ?_
        exact m_patchOf_64_ok hk6 hk17 FU _ _ _ _ _ _ _ hf h N Z
      · have hf := if_t c55 hf
        refine X.goto (tgt := 112) dX4_patchOf_58 (by decide) ?_
        refine X.sub [0, 1, 2, 3, 4] (L' := [(0, .ref m0), (1, .int x1), (2, .int x2), (3, .int x3), (4, .int x4)]) rfl ?_
        exact m_patchOf_112_ok hk6 hk17 _ _ _ _ _ _ hf h N Z
theorem m_patchOf_17_ok {G : xG} {m0 : Nat} {k6 : Int32 → Int32 → Int32 → MS → Option Int32} (hk6 : ∀ (x1 : Int32) (x2 : Int32) (x3 : Int32) (S : MS) (q : Int32), k6 x1 x2 x3 S = some q → XM G m0 mX4_patchOf 2 S (some (.int q)) S 6 [(0, .ref m0), (1, .int x1), (2, .int x2), (3, .int x3)] [] S) : ∀ (n : Nat) (x1 : Int32) (x2 : Int32) (x3 : Int32) (x4 : Int32) (S : MS) (q : Int32), m_patchOf_17 k6 n x1 x2 x3 x4 S = some q → XM G m0 mX4_patchOf 2 S (some (.int q)) S 17 [(0, .ref m0), (1, .int x1), (2, .int x2), (3, .int x3), (4, .int x4)] [] S
  | 0, _, _, _, _, _, _, hf => by cases hf
  | n + 1, x1, x2, x3, x4, S, q, hf => m_patchOf_17_bok hk6 (m_patchOf_17_ok hk6 n) x1 x2 x3 x4 S q hf
def m_patchOf_6_b  (k6 : Int32 → Int32 → Int32 → MS → Option Int32) (x1 : Int32) (x2 : Int32) (x3 : Int32) (S : MS) : Option Int32 :=
  (m_cells S).bind fun q8 =>
  if q8 ≤ x3 then
    some x2
  else
    m_patchOf_17 k6 FU x1 x2 x3 ((0 : Int32)) S
def m_patchOf_6  : Nat → Int32 → Int32 → Int32 → MS → Option Int32
  | 0 => fun _ _ _ _ => none
  | n + 1 => fun x1 x2 x3 S => m_patchOf_6_b (m_patchOf_6 n) x1 x2 x3 S
theorem m_patchOf_6_bok {G : xG} {m0 : Nat}  {k6 : Int32 → Int32 → Int32 → MS → Option Int32}  (hk6 : ∀ (x1 : Int32) (x2 : Int32) (x3 : Int32) (S : MS) (q : Int32), k6 x1 x2 x3 S = some q → XM G m0 mX4_patchOf 2 S (some (.int q)) S 6 [(0, .ref m0), (1, .int x1), (2, .int x2), (3, .int x3)] [] S) (x1 : Int32) (x2 : Int32) (x3 : Int32) (S : MS) (q : Int32) (hf : m_patchOf_6_b k6 x1 x2 x3 S = some q) : XM G m0 mX4_patchOf 2 S (some (.int q)) S 6 [(0, .ref m0), (1, .int x1), (2, .int x2), (3, .int x3)] [] S := by
  intro h N Z
  unfold m_patchOf_6_b at hf
  refine X.iload_n dX4_patchOf_6 rfl 3 rfl ?_
  refine X.aload_n dX4_patchOf_7 rfl 0 rfl ?_
  obtain ⟨q8, h8, hf⟩ := ob hf
  refine X.callVi (As := []) (rest := [.int x3]) dX4_patchOf_8 (w_cells h8 h N Z) cX4_321 rfl rfl (Nat.le_of_ble_eq_true rfl) mh_0 rfl rfl (xD (Nat.le_of_ble_eq_true rfl)) xleN xleN ?_
  refine X.icmp_ge (tgt := 124) dX4_patchOf_11 (by decide) (fun c11 => ?_) (fun c11 => ?_)
  · have hf := if_t c11 hf
    refine X.iload_n dX4_patchOf_124 rfl 2 rfl ?_
    obtain rfl := Option.some.inj hf
    exact X.iret dX4_patchOf_125 rfl rfl rfl
  · have hf := if_f c11 hf
    refine X.iconst (v := 0) dX4_patchOf_14 (by decide) ?_
    refine X.istore (L' := [(4, .int (0 : Int32)), (0, .ref m0), (1, .int x1), (2, .int x2), (3, .int x3)]) dX4_patchOf_15 (Nat.le_of_ble_eq_true rfl) rfl ?_
    refine X.sub [1, 2, 3, 4, 0] (L' := [(0, .ref m0), (1, .int x1), (2, .int x2), (3, .int x3), (4, .int (0 : Int32))]) rfl ?_
    exact m_patchOf_17_ok hk6 FU _ _ _ _ _ _ hf h N Z
theorem m_patchOf_6_ok {G : xG} {m0 : Nat}   : ∀ (n : Nat) (x1 : Int32) (x2 : Int32) (x3 : Int32) (S : MS) (q : Int32), m_patchOf_6 n x1 x2 x3 S = some q → XM G m0 mX4_patchOf 2 S (some (.int q)) S 6 [(0, .ref m0), (1, .int x1), (2, .int x2), (3, .int x3)] [] S
  | 0, _, _, _, _, _, hf => by cases hf
  | n + 1, x1, x2, x3, S, q, hf => m_patchOf_6_bok (m_patchOf_6_ok n) x1 x2 x3 S q hf
def m_patchOf (x1 : Int32) (S : MS) : Option Int32 :=
  m_patchOf_6 FU x1 (((1 : Int32) <<< (x1 &&& 31))) ((0 : Int32)) S
theorem w_patchOf {G : xG} {m0 : Nat} {x1 : Int32} {S : MS} {q : Int32} (hf : m_patchOf x1 S = some q) : CtM G m0 mX4_patchOf 2 S [.ref m0, .int x1] (some (.int q)) S := by
  intro h N Z
  refine Ct.of (by decide +kernel) rfl (Nat.le_of_ble_eq_true rfl) (show Xr G _ 0 [(0, .ref m0), (1, .int x1)] [] _ from ?_)
  unfold m_patchOf at hf
  refine X.iconst (v := 1) dX4_patchOf_0 (by decide) ?_
  refine X.iload_n dX4_patchOf_1 rfl 1 rfl ?_
  refine X.ishl dX4_patchOf_2 ?_
  refine X.istore_n (L' := [(2, .int ((1 : Int32) <<< (x1 &&& 31))), (0, .ref m0), (1, .int x1)]) dX4_patchOf_3 rfl (Nat.le_of_ble_eq_true rfl) rfl ?_
  refine X.iconst (v := 0) dX4_patchOf_4 (by decide) ?_
  refine X.istore_n (L' := [(3, .int (0 : Int32)), (2, .int ((1 : Int32) <<< (x1 &&& 31))), (0, .ref m0), (1, .int x1)]) dX4_patchOf_5 rfl (Nat.le_of_ble_eq_true rfl) rfl ?_
  refine X.sub [2, 3, 1, 0] (L' := [(0, .ref m0), (1, .int x1), (2, .int ((1 : Int32) <<< (x1 &&& 31))), (3, .int (0 : Int32))]) rfl ?_
  exact m_patchOf_6_ok FU _ _ _ _ _ hf h N Z
theorem cX4_457 : xCV RX4 457 mX4_patchOf 1 := ⟨lw_V q2205 q2207 qs119 q127 q2208, rfl, ⟨by decide +kernel, by decide +kernel, by decide +kernel⟩, Nat.le_of_ble_eq_true rfl⟩
/-! patch -/
abbrev cX4_patch : ByteArray := prog_12_method_117_code
def yX4_patch : MethodName := ⟨RX4, "patch", "(I)I"⟩
def dkwX4_patch_1 : List UInt8 := [2, 160, 0, 7, 3, 167, 0, 8, 42, 27, 182, 1, 201, 172]
abbrev dktX4_patch_1 : List UInt8 := dkwX4_patch_1 ++ []
def dkwX4_patch_0 : List UInt8 := [42, 3, 181, 0, 115, 42, 27, 182, 1, 129, 154, 0, 5, 3, 172, 42, 180, 0, 69, 16, 61, 27, 96, 46]
abbrev dktX4_patch_0 : List UInt8 := dkwX4_patch_0 ++ dktX4_patch_1
theorem dksX4_patch_0 : cX4_patch.data.toList.drop 0 = dktX4_patch_0 := by decide +kernel
theorem dksX4_patch_1 : cX4_patch.data.toList.drop 24 = dktX4_patch_1 := dk_seg dksX4_patch_0 24 rfl rfl
theorem dX4_patch_0 : decode cX4_patch 0 = .ok (.aload_n 0, 1) := dk_42 (dk_at dksX4_patch_0 0 rfl rfl)
theorem dX4_patch_1 : decode cX4_patch 1 = .ok (.iconst 0, 1) := dk_3 (dk_at dksX4_patch_0 1 rfl rfl)
theorem dX4_patch_2 : decode cX4_patch 2 = .ok (.putfield 115, 3) := dk_181 0 115 (dk_at dksX4_patch_0 2 rfl rfl)
theorem dX4_patch_5 : decode cX4_patch 5 = .ok (.aload_n 0, 1) := dk_42 (dk_at dksX4_patch_0 5 rfl rfl)
theorem dX4_patch_6 : decode cX4_patch 6 = .ok (.iload_n 1, 1) := dk_27 (dk_at dksX4_patch_0 6 rfl rfl)
theorem dX4_patch_7 : decode cX4_patch 7 = .ok (.invokevirtual 385, 3) := dk_182 1 129 (dk_at dksX4_patch_0 7 rfl rfl)
theorem dX4_patch_10 : decode cX4_patch 10 = .ok (.ifCond .ne 5, 3) := dk_154 0 5 (dk_at dksX4_patch_0 10 rfl rfl)
theorem dX4_patch_13 : decode cX4_patch 13 = .ok (.iconst 0, 1) := dk_3 (dk_at dksX4_patch_0 13 rfl rfl)
theorem dX4_patch_14 : decode cX4_patch 14 = .ok (.ireturn, 1) := dk_172 (dk_at dksX4_patch_0 14 rfl rfl)
theorem dX4_patch_15 : decode cX4_patch 15 = .ok (.aload_n 0, 1) := dk_42 (dk_at dksX4_patch_0 15 rfl rfl)
theorem dX4_patch_16 : decode cX4_patch 16 = .ok (.getfield 69, 3) := dk_180 0 69 (dk_at dksX4_patch_0 16 rfl rfl)
theorem dX4_patch_19 : decode cX4_patch 19 = .ok (.bipush 61, 2) := dk_16 61 (dk_at dksX4_patch_0 19 rfl rfl)
theorem dX4_patch_21 : decode cX4_patch 21 = .ok (.iload_n 1, 1) := dk_27 (dk_at dksX4_patch_0 21 rfl rfl)
theorem dX4_patch_22 : decode cX4_patch 22 = .ok (.iadd, 1) := dk_96 (dk_at dksX4_patch_0 22 rfl rfl)
theorem dX4_patch_23 : decode cX4_patch 23 = .ok (.iaload, 1) := dk_46 (dk_at dksX4_patch_0 23 rfl rfl)
theorem dX4_patch_24 : decode cX4_patch 24 = .ok (.iconst (-1), 1) := dk_2 (dk_at dksX4_patch_1 0 rfl rfl)
theorem dX4_patch_25 : decode cX4_patch 25 = .ok (.if_icmp .ne 7, 3) := dk_160 0 7 (dk_at dksX4_patch_1 1 rfl rfl)
theorem dX4_patch_28 : decode cX4_patch 28 = .ok (.iconst 0, 1) := dk_3 (dk_at dksX4_patch_1 4 rfl rfl)
theorem dX4_patch_29 : decode cX4_patch 29 = .ok (.goto 8, 3) := dk_167 0 8 (dk_at dksX4_patch_1 5 rfl rfl)
theorem dX4_patch_32 : decode cX4_patch 32 = .ok (.aload_n 0, 1) := dk_42 (dk_at dksX4_patch_1 8 rfl rfl)
theorem dX4_patch_33 : decode cX4_patch 33 = .ok (.iload_n 1, 1) := dk_27 (dk_at dksX4_patch_1 9 rfl rfl)
theorem dX4_patch_34 : decode cX4_patch 34 = .ok (.invokevirtual 457, 3) := dk_182 1 201 (dk_at dksX4_patch_1 10 rfl rfl)
theorem dX4_patch_37 : decode cX4_patch 37 = .ok (.ireturn, 1) := dk_172 (dk_at dksX4_patch_1 13 rfl rfl)
abbrev mX4_patch : xM := (yX4_patch, cX4_patch, 2, (some .int), [])
def m_patch (x1 : Int32) (S : MS) : Option (Int32 × MS) :=
  (m_isTheCell x1 ((sF S 0 (0 : Int32)))).bind fun q7 =>
  if q7.1 = 0 then
    some ((0 : Int32), q7.2)
  else
    (rdA q7.2 13 ((61 : Int32) + x1)).bind fun v23 =>
    if v23 = (-1 : Int32) then
      some ((0 : Int32), q7.2)
    else
      (m_patchOf x1 q7.2).bind fun q34 =>
      some (q34, q7.2)
theorem w_patch {G : xG} {m0 : Nat} {x1 : Int32} {S : MS} {q : (Int32 × MS)} (hf : m_patch x1 S = some q) : CtM G m0 mX4_patch 3 S [.ref m0, .int x1] (some (.int q.1)) q.2 := by
  intro h N Z
  refine Ct.of (by decide +kernel) rfl (Nat.le_of_ble_eq_true rfl) (show Xr G _ 0 [(0, .ref m0), (1, .int x1)] [] _ from ?_)
  unfold m_patch at hf
  refine X.aload_n dX4_patch_0 rfl 0 rfl ?_
  refine X.iconst (v := 0) dX4_patch_1 (by decide) ?_
  refine M.putI dX4_patch_2 fX4_115 (by decide) rfl rfl rfl ?_
  refine X.aload_n dX4_patch_5 rfl 0 rfl ?_
  refine X.iload_n dX4_patch_6 rfl 1 rfl ?_
  obtain ⟨q7, h7, hf⟩ := ob hf
  refine X.callVi (As := [.int x1]) (rest := []) (T2 := (mh m0 h q7.2, N, Z)) dX4_patch_7 (w_isTheCell h7 h N Z) cX4_385 rfl rfl (Nat.le_of_ble_eq_true rfl) mh_0 rfl rfl (xD (Nat.le_of_ble_eq_true rfl)) xleN xleN ?_
  refine X.if_ne (tgt := 15) dX4_patch_10 (by decide) (fun c10 => ?_) (fun c10 => ?_)
  · have hf := if_f c10 hf
    refine X.aload_n dX4_patch_15 rfl 0 rfl ?_
    refine M.get (v := .ref (m0 + 13)) dX4_patch_16 fX4_69 (Nat.le_of_ble_eq_true rfl) rfl ?_
    refine X.bipush (v := 61) dX4_patch_19 (by decide) ?_
    refine X.iload_n dX4_patch_21 rfl 1 rfl ?_
    refine X.iadd dX4_patch_22 ?_
    obtain ⟨v23, h23, hf⟩ := ob hf
    refine M.iald dX4_patch_23 rfl h23 ?_
    refine X.iconst (v := -1) dX4_patch_24 (by decide) ?_
    refine X.icmp_ne (tgt := 32) dX4_patch_25 (by decide) (fun c25 => ?_) (fun c25 => ?_)
    · have hf := if_f c25 hf
      refine X.aload_n dX4_patch_32 rfl 0 rfl ?_
      refine X.iload_n dX4_patch_33 rfl 1 rfl ?_
      obtain ⟨q34, h34, hf⟩ := ob hf
      refine X.callVi (As := [.int x1]) (rest := []) dX4_patch_34 (w_patchOf h34 h N Z) cX4_457 rfl rfl (Nat.le_of_ble_eq_true rfl) mh_0 rfl rfl (xD (Nat.le_of_ble_eq_true rfl)) xleN xleN ?_
      obtain rfl := Option.some.inj hf
      exact X.iret dX4_patch_37 rfl rfl rfl
    · have hf := if_t c25 hf
      refine X.iconst (v := 0) dX4_patch_28 (by decide) ?_
      refine X.goto (tgt := 37) dX4_patch_29 (by decide) ?_
      obtain rfl := Option.some.inj hf
      exact X.iret dX4_patch_37 rfl rfl rfl
  · have hf := if_t c10 hf
    refine X.iconst (v := 0) dX4_patch_13 (by decide) ?_
    obtain rfl := Option.some.inj hf
    exact X.iret dX4_patch_14 rfl rfl rfl
/-! greatest -/
abbrev cX4_greatest : ByteArray := prog_12_method_118_code
def yX4_greatest : MethodName := ⟨RX4, "greatest", "(II)I"⟩
def dkwX4_greatest_5 : List UInt8 := [132, 5, 1, 167, 255, 169, 28, 154, 0, 8, 21, 4, 167, 0, 4, 29, 172]
abbrev dktX4_greatest_5 : List UInt8 := dkwX4_greatest_5 ++ []
def dkwX4_greatest_4 : List UInt8 := [132, 8, 1, 167, 255, 232, 21, 7, 21, 4, 163, 0, 6, 167, 0, 10, 21, 5, 62, 21, 7, 54, 4]
abbrev dktX4_greatest_4 : List UInt8 := dkwX4_greatest_4 ++ dktX4_greatest_5
def dkwX4_greatest_3 : List UInt8 := [54, 8, 21, 8, 42, 182, 1, 65, 162, 0, 21, 21, 7, 21, 6, 21, 8, 122, 4, 126, 96, 54, 7]
abbrev dktX4_greatest_3 : List UInt8 := dkwX4_greatest_3 ++ dktX4_greatest_4
def dkwX4_greatest_2 : List UInt8 := [21, 5, 96, 46, 27, 159, 0, 6, 167, 0, 61, 42, 21, 5, 182, 1, 201, 54, 6, 3, 54, 7, 3]
abbrev dktX4_greatest_2 : List UInt8 := dkwX4_greatest_2 ++ dktX4_greatest_3
def dkwX4_greatest_1 : List UInt8 := [2, 62, 3, 54, 4, 3, 54, 5, 21, 5, 42, 182, 1, 65, 162, 0, 84, 42, 180, 0, 69, 16, 61]
abbrev dktX4_greatest_1 : List UInt8 := dkwX4_greatest_1 ++ dktX4_greatest_2
def dkwX4_greatest_0 : List UInt8 := [42, 3, 181, 0, 115, 42, 27, 182, 1, 135, 153, 0, 12, 42, 28, 4, 182, 1, 132, 154, 0, 5, 3, 172]
abbrev dktX4_greatest_0 : List UInt8 := dkwX4_greatest_0 ++ dktX4_greatest_1
theorem dksX4_greatest_0 : cX4_greatest.data.toList.drop 0 = dktX4_greatest_0 := by decide +kernel
theorem dksX4_greatest_1 : cX4_greatest.data.toList.drop 24 = dktX4_greatest_1 := dk_seg dksX4_greatest_0 24 rfl rfl
theorem dksX4_greatest_2 : cX4_greatest.data.toList.drop 47 = dktX4_greatest_2 := dk_seg dksX4_greatest_1 23 rfl rfl
theorem dksX4_greatest_3 : cX4_greatest.data.toList.drop 70 = dktX4_greatest_3 := dk_seg dksX4_greatest_2 23 rfl rfl
theorem dksX4_greatest_4 : cX4_greatest.data.toList.drop 93 = dktX4_greatest_4 := dk_seg dksX4_greatest_3 23 rfl rfl
theorem dksX4_greatest_5 : cX4_greatest.data.toList.drop 116 = dktX4_greatest_5 := dk_seg dksX4_greatest_4 23 rfl rfl
theorem dX4_greatest_0 : decode cX4_greatest 0 = .ok (.aload_n 0, 1) := dk_42 (dk_at dksX4_greatest_0 0 rfl rfl)
theorem dX4_greatest_1 : decode cX4_greatest 1 = .ok (.iconst 0, 1) := dk_3 (dk_at dksX4_greatest_0 1 rfl rfl)
theorem dX4_greatest_2 : decode cX4_greatest 2 = .ok (.putfield 115, 3) := dk_181 0 115 (dk_at dksX4_greatest_0 2 rfl rfl)
theorem dX4_greatest_5 : decode cX4_greatest 5 = .ok (.aload_n 0, 1) := dk_42 (dk_at dksX4_greatest_0 5 rfl rfl)
theorem dX4_greatest_6 : decode cX4_greatest 6 = .ok (.iload_n 1, 1) := dk_27 (dk_at dksX4_greatest_0 6 rfl rfl)
theorem dX4_greatest_7 : decode cX4_greatest 7 = .ok (.invokevirtual 391, 3) := dk_182 1 135 (dk_at dksX4_greatest_0 7 rfl rfl)
theorem dX4_greatest_10 : decode cX4_greatest 10 = .ok (.ifCond .eq 12, 3) := dk_153 0 12 (dk_at dksX4_greatest_0 10 rfl rfl)
theorem dX4_greatest_13 : decode cX4_greatest 13 = .ok (.aload_n 0, 1) := dk_42 (dk_at dksX4_greatest_0 13 rfl rfl)
theorem dX4_greatest_14 : decode cX4_greatest 14 = .ok (.iload_n 2, 1) := dk_28 (dk_at dksX4_greatest_0 14 rfl rfl)
theorem dX4_greatest_15 : decode cX4_greatest 15 = .ok (.iconst 1, 1) := dk_4 (dk_at dksX4_greatest_0 15 rfl rfl)
theorem dX4_greatest_16 : decode cX4_greatest 16 = .ok (.invokevirtual 388, 3) := dk_182 1 132 (dk_at dksX4_greatest_0 16 rfl rfl)
theorem dX4_greatest_19 : decode cX4_greatest 19 = .ok (.ifCond .ne 5, 3) := dk_154 0 5 (dk_at dksX4_greatest_0 19 rfl rfl)
theorem dX4_greatest_22 : decode cX4_greatest 22 = .ok (.iconst 0, 1) := dk_3 (dk_at dksX4_greatest_0 22 rfl rfl)
theorem dX4_greatest_23 : decode cX4_greatest 23 = .ok (.ireturn, 1) := dk_172 (dk_at dksX4_greatest_0 23 rfl rfl)
theorem dX4_greatest_24 : decode cX4_greatest 24 = .ok (.iconst (-1), 1) := dk_2 (dk_at dksX4_greatest_1 0 rfl rfl)
theorem dX4_greatest_25 : decode cX4_greatest 25 = .ok (.istore_n 3, 1) := dk_62 (dk_at dksX4_greatest_1 1 rfl rfl)
theorem dX4_greatest_26 : decode cX4_greatest 26 = .ok (.iconst 0, 1) := dk_3 (dk_at dksX4_greatest_1 2 rfl rfl)
theorem dX4_greatest_27 : decode cX4_greatest 27 = .ok (.istore 4, 2) := dk_54 4 (dk_at dksX4_greatest_1 3 rfl rfl)
theorem dX4_greatest_29 : decode cX4_greatest 29 = .ok (.iconst 0, 1) := dk_3 (dk_at dksX4_greatest_1 5 rfl rfl)
theorem dX4_greatest_30 : decode cX4_greatest 30 = .ok (.istore 5, 2) := dk_54 5 (dk_at dksX4_greatest_1 6 rfl rfl)
theorem dX4_greatest_32 : decode cX4_greatest 32 = .ok (.iload 5, 2) := dk_21 5 (dk_at dksX4_greatest_1 8 rfl rfl)
theorem dX4_greatest_34 : decode cX4_greatest 34 = .ok (.aload_n 0, 1) := dk_42 (dk_at dksX4_greatest_1 10 rfl rfl)
theorem dX4_greatest_35 : decode cX4_greatest 35 = .ok (.invokevirtual 321, 3) := dk_182 1 65 (dk_at dksX4_greatest_1 11 rfl rfl)
theorem dX4_greatest_38 : decode cX4_greatest 38 = .ok (.if_icmp .ge 84, 3) := dk_162 0 84 (dk_at dksX4_greatest_1 14 rfl rfl)
theorem dX4_greatest_41 : decode cX4_greatest 41 = .ok (.aload_n 0, 1) := dk_42 (dk_at dksX4_greatest_1 17 rfl rfl)
theorem dX4_greatest_42 : decode cX4_greatest 42 = .ok (.getfield 69, 3) := dk_180 0 69 (dk_at dksX4_greatest_1 18 rfl rfl)
theorem dX4_greatest_45 : decode cX4_greatest 45 = .ok (.bipush 61, 2) := dk_16 61 (dk_at dksX4_greatest_1 21 rfl rfl)
theorem dX4_greatest_47 : decode cX4_greatest 47 = .ok (.iload 5, 2) := dk_21 5 (dk_at dksX4_greatest_2 0 rfl rfl)
theorem dX4_greatest_49 : decode cX4_greatest 49 = .ok (.iadd, 1) := dk_96 (dk_at dksX4_greatest_2 2 rfl rfl)
theorem dX4_greatest_50 : decode cX4_greatest 50 = .ok (.iaload, 1) := dk_46 (dk_at dksX4_greatest_2 3 rfl rfl)
theorem dX4_greatest_51 : decode cX4_greatest 51 = .ok (.iload_n 1, 1) := dk_27 (dk_at dksX4_greatest_2 4 rfl rfl)
theorem dX4_greatest_52 : decode cX4_greatest 52 = .ok (.if_icmp .eq 6, 3) := dk_159 0 6 (dk_at dksX4_greatest_2 5 rfl rfl)
theorem dX4_greatest_55 : decode cX4_greatest 55 = .ok (.goto 61, 3) := dk_167 0 61 (dk_at dksX4_greatest_2 8 rfl rfl)
theorem dX4_greatest_58 : decode cX4_greatest 58 = .ok (.aload_n 0, 1) := dk_42 (dk_at dksX4_greatest_2 11 rfl rfl)
theorem dX4_greatest_59 : decode cX4_greatest 59 = .ok (.iload 5, 2) := dk_21 5 (dk_at dksX4_greatest_2 12 rfl rfl)
theorem dX4_greatest_61 : decode cX4_greatest 61 = .ok (.invokevirtual 457, 3) := dk_182 1 201 (dk_at dksX4_greatest_2 14 rfl rfl)
theorem dX4_greatest_64 : decode cX4_greatest 64 = .ok (.istore 6, 2) := dk_54 6 (dk_at dksX4_greatest_2 17 rfl rfl)
theorem dX4_greatest_66 : decode cX4_greatest 66 = .ok (.iconst 0, 1) := dk_3 (dk_at dksX4_greatest_2 19 rfl rfl)
theorem dX4_greatest_67 : decode cX4_greatest 67 = .ok (.istore 7, 2) := dk_54 7 (dk_at dksX4_greatest_2 20 rfl rfl)
theorem dX4_greatest_69 : decode cX4_greatest 69 = .ok (.iconst 0, 1) := dk_3 (dk_at dksX4_greatest_2 22 rfl rfl)
theorem dX4_greatest_70 : decode cX4_greatest 70 = .ok (.istore 8, 2) := dk_54 8 (dk_at dksX4_greatest_3 0 rfl rfl)
theorem dX4_greatest_72 : decode cX4_greatest 72 = .ok (.iload 8, 2) := dk_21 8 (dk_at dksX4_greatest_3 2 rfl rfl)
theorem dX4_greatest_74 : decode cX4_greatest 74 = .ok (.aload_n 0, 1) := dk_42 (dk_at dksX4_greatest_3 4 rfl rfl)
theorem dX4_greatest_75 : decode cX4_greatest 75 = .ok (.invokevirtual 321, 3) := dk_182 1 65 (dk_at dksX4_greatest_3 5 rfl rfl)
theorem dX4_greatest_78 : decode cX4_greatest 78 = .ok (.if_icmp .ge 21, 3) := dk_162 0 21 (dk_at dksX4_greatest_3 8 rfl rfl)
theorem dX4_greatest_81 : decode cX4_greatest 81 = .ok (.iload 7, 2) := dk_21 7 (dk_at dksX4_greatest_3 11 rfl rfl)
theorem dX4_greatest_83 : decode cX4_greatest 83 = .ok (.iload 6, 2) := dk_21 6 (dk_at dksX4_greatest_3 13 rfl rfl)
theorem dX4_greatest_85 : decode cX4_greatest 85 = .ok (.iload 8, 2) := dk_21 8 (dk_at dksX4_greatest_3 15 rfl rfl)
theorem dX4_greatest_87 : decode cX4_greatest 87 = .ok (.ishr, 1) := dk_122 (dk_at dksX4_greatest_3 17 rfl rfl)
theorem dX4_greatest_88 : decode cX4_greatest 88 = .ok (.iconst 1, 1) := dk_4 (dk_at dksX4_greatest_3 18 rfl rfl)
theorem dX4_greatest_89 : decode cX4_greatest 89 = .ok (.iand, 1) := dk_126 (dk_at dksX4_greatest_3 19 rfl rfl)
theorem dX4_greatest_90 : decode cX4_greatest 90 = .ok (.iadd, 1) := dk_96 (dk_at dksX4_greatest_3 20 rfl rfl)
theorem dX4_greatest_91 : decode cX4_greatest 91 = .ok (.istore 7, 2) := dk_54 7 (dk_at dksX4_greatest_3 21 rfl rfl)
theorem dX4_greatest_93 : decode cX4_greatest 93 = .ok (.iinc 8 1, 3) := dk_132 8 1 (dk_at dksX4_greatest_4 0 rfl rfl)
theorem dX4_greatest_96 : decode cX4_greatest 96 = .ok (.goto (-24), 3) := dk_167 255 232 (dk_at dksX4_greatest_4 3 rfl rfl)
theorem dX4_greatest_99 : decode cX4_greatest 99 = .ok (.iload 7, 2) := dk_21 7 (dk_at dksX4_greatest_4 6 rfl rfl)
theorem dX4_greatest_101 : decode cX4_greatest 101 = .ok (.iload 4, 2) := dk_21 4 (dk_at dksX4_greatest_4 8 rfl rfl)
theorem dX4_greatest_103 : decode cX4_greatest 103 = .ok (.if_icmp .gt 6, 3) := dk_163 0 6 (dk_at dksX4_greatest_4 10 rfl rfl)
theorem dX4_greatest_106 : decode cX4_greatest 106 = .ok (.goto 10, 3) := dk_167 0 10 (dk_at dksX4_greatest_4 13 rfl rfl)
theorem dX4_greatest_109 : decode cX4_greatest 109 = .ok (.iload 5, 2) := dk_21 5 (dk_at dksX4_greatest_4 16 rfl rfl)
theorem dX4_greatest_111 : decode cX4_greatest 111 = .ok (.istore_n 3, 1) := dk_62 (dk_at dksX4_greatest_4 18 rfl rfl)
theorem dX4_greatest_112 : decode cX4_greatest 112 = .ok (.iload 7, 2) := dk_21 7 (dk_at dksX4_greatest_4 19 rfl rfl)
theorem dX4_greatest_114 : decode cX4_greatest 114 = .ok (.istore 4, 2) := dk_54 4 (dk_at dksX4_greatest_4 21 rfl rfl)
theorem dX4_greatest_116 : decode cX4_greatest 116 = .ok (.iinc 5 1, 3) := dk_132 5 1 (dk_at dksX4_greatest_5 0 rfl rfl)
theorem dX4_greatest_119 : decode cX4_greatest 119 = .ok (.goto (-87), 3) := dk_167 255 169 (dk_at dksX4_greatest_5 3 rfl rfl)
theorem dX4_greatest_122 : decode cX4_greatest 122 = .ok (.iload_n 2, 1) := dk_28 (dk_at dksX4_greatest_5 6 rfl rfl)
theorem dX4_greatest_123 : decode cX4_greatest 123 = .ok (.ifCond .ne 8, 3) := dk_154 0 8 (dk_at dksX4_greatest_5 7 rfl rfl)
theorem dX4_greatest_126 : decode cX4_greatest 126 = .ok (.iload 4, 2) := dk_21 4 (dk_at dksX4_greatest_5 10 rfl rfl)
theorem dX4_greatest_128 : decode cX4_greatest 128 = .ok (.goto 4, 3) := dk_167 0 4 (dk_at dksX4_greatest_5 12 rfl rfl)
theorem dX4_greatest_131 : decode cX4_greatest 131 = .ok (.iload_n 3, 1) := dk_29 (dk_at dksX4_greatest_5 15 rfl rfl)
theorem dX4_greatest_132 : decode cX4_greatest 132 = .ok (.ireturn, 1) := dk_172 (dk_at dksX4_greatest_5 16 rfl rfl)
abbrev mX4_greatest : xM := (yX4_greatest, cX4_greatest, 9, (some .int), [])
def m_greatest_116 (k32 : Int32 → Int32 → Int32 → Int32 → Int32 → MS → Option (Int32 × MS)) (x1 : Int32) (x2 : Int32) (x3 : Int32) (x4 : Int32) (x5 : Int32) (S : MS) : Option (Int32 × MS) :=
  k32 x1 x2 x3 x4 ((x5 + 1)) S
theorem m_greatest_116_ok {G : xG} {m0 : Nat} {S0 : MS} {k32 : Int32 → Int32 → Int32 → Int32 → Int32 → MS → Option (Int32 × MS)} (hk32 : ∀ (x1 : Int32) (x2 : Int32) (x3 : Int32) (x4 : Int32) (x5 : Int32) (S : MS) (q : (Int32 × MS)), k32 x1 x2 x3 x4 x5 S = some q → XM G m0 mX4_greatest 3 S0 (some (.int q.1)) q.2 32 [(0, .ref m0), (1, .int x1), (2, .int x2), (3, .int x3), (4, .int x4), (5, .int x5)] [] S) (x1 : Int32) (x2 : Int32) (x3 : Int32) (x4 : Int32) (x5 : Int32) (S : MS) (q : (Int32 × MS)) (hf : m_greatest_116 k32 x1 x2 x3 x4 x5 S = some q) : XM G m0 mX4_greatest 3 S0 (some (.int q.1)) q.2 116 [(0, .ref m0), (1, .int x1), (2, .int x2), (3, .int x3), (4, .int x4), (5, .int x5)] [] S := by
  intro h N Z
  unfold m_greatest_116 at hf
  refine X.iinc (v := (x5 + 1)) (L' := [(5, .int (x5 + 1)), (0, .ref m0), (1, .int x1), (2, .int x2), (3, .int x3), (4, .int x4)]) dX4_greatest_116 5 rfl rfl (Nat.le_of_ble_eq_true rfl) rfl ?_
  refine X.goto (tgt := 32) dX4_greatest_119 (by decide) ?_
  refine X.sub [1, 2, 3, 4, 5, 0] (L' := [(0, .ref m0), (1, .int x1), (2, .int x2), (3, .int x3), (4, .int x4), (5, .int (x5 + 1))]) rfl ?_
  exact hk32 _ _ _ _ _ _ _ hf h N Z
def m_greatest_72_b (k32 : Int32 → Int32 → Int32 → Int32 → Int32 → MS → Option (Int32 × MS)) (k72 : Int32 → Int32 → Int32 → Int32 → Int32 → Int32 → Int32 → Int32 → MS → Option (Int32 × MS)) (x1 : Int32) (x2 : Int32) (x3 : Int32) (x4 : Int32) (x5 : Int32) (x6 : Int32) (x7 : Int32) (x8 : Int32) (S : MS) : Option (Int32 × MS) :=
  (m_cells S).bind fun q75 =>
  if q75 ≤ x8 then
    if x4 < x7 then
      m_greatest_116 k32 x1 x2 x5 x7 x5 S
    else
      m_greatest_116 k32 x1 x2 x3 x4 x5 S
  else
    k72 x1 x2 x3 x4 x5 x6 ((x7 + ((x6 >>> (x8 &&& 31)) &&& (1 : Int32)))) ((x8 + 1)) S
def m_greatest_72 (k32 : Int32 → Int32 → Int32 → Int32 → Int32 → MS → Option (Int32 × MS)) : Nat → Int32 → Int32 → Int32 → Int32 → Int32 → Int32 → Int32 → Int32 → MS → Option (Int32 × MS)
  | 0 => fun _ _ _ _ _ _ _ _ _ => none
  | n + 1 => fun x1 x2 x3 x4 x5 x6 x7 x8 S => m_greatest_72_b k32 (m_greatest_72 k32 n) x1 x2 x3 x4 x5 x6 x7 x8 S
theorem m_greatest_72_bok {G : xG} {m0 : Nat} {S0 : MS} {k32 : Int32 → Int32 → Int32 → Int32 → Int32 → MS → Option (Int32 × MS)} {k72 : Int32 → Int32 → Int32 → Int32 → Int32 → Int32 → Int32 → Int32 → MS → Option (Int32 × MS)} (hk32 : ∀ (x1 : Int32) (x2 : Int32) (x3 : Int32) (x4 : Int32) (x5 : Int32) (S : MS) (q : (Int32 × MS)), k32 x1 x2 x3 x4 x5 S = some q → XM G m0 mX4_greatest 3 S0 (some (.int q.1)) q.2 32 [(0, .ref m0), (1, .int x1), (2, .int x2), (3, .int x3), (4, .int x4), (5, .int x5)] [] S) (hk72 : ∀ (x1 : Int32) (x2 : Int32) (x3 : Int32) (x4 : Int32) (x5 : Int32) (x6 : Int32) (x7 : Int32) (x8 : Int32) (S : MS) (q : (Int32 × MS)), k72 x1 x2 x3 x4 x5 x6 x7 x8 S = some q → XM G m0 mX4_greatest 3 S0 (some (.int q.1)) q.2 72 [(0, .ref m0), (1, .int x1), (2, .int x2), (3, .int x3), (4, .int x4), (5, .int x5), (6, .int x6), (7, .int x7), (8, .int x8)] [] S) (x1 : Int32) (x2 : Int32) (x3 : Int32) (x4 : Int32) (x5 : Int32) (x6 : Int32) (x7 : Int32) (x8 : Int32) (S : MS) (q : (Int32 × MS)) (hf : m_greatest_72_b k32 k72 x1 x2 x3 x4 x5 x6 x7 x8 S = some q) : XM G m0 mX4_greatest 3 S0 (some (.int q.1)) q.2 72 [(0, .ref m0), (1, .int x1), (2, .int x2), (3, .int x3), (4, .int x4), (5, .int x5), (6, .int x6), (7, .int x7), (8, .int x8)] [] S := by
  intro h N Z
  unfold m_greatest_72_b at hf
  refine X.iload dX4_greatest_72 8 rfl ?_
  refine X.aload_n dX4_greatest_74 rfl 0 rfl ?_
  obtain ⟨q75, h75, hf⟩ := ob hf
  refine X.callVi (As := []) (rest := [.int x8]) dX4_greatest_75 (w_cells h75 h N Z) cX4_321 rfl rfl (Nat.le_of_ble_eq_true rfl) mh_0 rfl rfl (xD (Nat.le_of_ble_eq_true rfl)) xleN xleN ?_
  refine X.icmp_ge (tgt := 99) dX4_greatest_78 (by decide) (fun c78 => ?_) (fun c78 => ?_)
  · have hf := if_t c78 hf
    refine X.iload dX4_greatest_99 7 rfl ?_
    refine X.iload dX4_greatest_101 4 rfl ?_
    refine X.icmp_gt (tgt := 109) dX4_greatest_103 (by decide) (fun c103 => ?_) (fun c103 => ?_)
    · have hf := if_t c103 hf
      refine X.iload dX4_greatest_109 5 rfl ?_
      refine X.istore_n (L' := [(3, .int x5), (0, .ref m0), (1, .int x1), (2, .int x2), (4, .int x4), (5, .int x5), (6, .int x6), (7, .int x7), (8, .int x8)]) dX4_greatest_111 rfl (Nat.le_of_ble_eq_true rfl) rfl ?_
      refine X.iload dX4_greatest_112 7 rfl ?_
      refine X.istore (L' := [(4, .int x7), (3, .int x5), (0, .ref m0), (1, .int x1), (2, .int x2), (5, .int x5), (6, .int x6), (7, .int x7), (8, .int x8)]) dX4_greatest_114 (Nat.le_of_ble_eq_true rfl) rfl ?_
      refine X.sub [2, 3, 4, 1, 0, 5] (L' := [(0, .ref m0), (1, .int x1), (2, .int x2), (3, .int x5), (4, .int x7), (5, .int x5)]) rfl ?_
      exact m_greatest_116_ok hk32 _ _ _ _ _ _ _ hf h N Z
    · have hf := if_f c103 hf
      refine X.goto (tgt := 116) dX4_greatest_106 (by decide) ?_
      refine X.sub [0, 1, 2, 3, 4, 5] (L' := [(0, .ref m0), (1, .int x1), (2, .int x2), (3, .int x3), (4, .int x4), (5, .int x5)]) rfl ?_
      exact m_greatest_116_ok hk32 _ _ _ _ _ _ _ hf h N Z
  · have hf := if_f c78 hf
    refine X.iload dX4_greatest_81 7 rfl ?_
    refine X.iload dX4_greatest_83 6 rfl ?_
    refine X.iload dX4_greatest_85 8 rfl ?_
    refine X.ishr dX4_greatest_87 ?_
    refine X.iconst (v := 1) dX4_greatest_88 (by decide) ?_
    refine X.iand dX4_greatest_89 ?_
    refine X.iadd dX4_greatest_90 ?_
    refine X.istore (L' := [(7, .int (x7 + ((x6 >>> (x8 &&& 31)) &&& (1 : Int32)))), (0, .ref m0), (1, .int x1), (2, .int x2), (3, .int x3), (4, .int x4), (5, .int x5), (6, .int x6), (8, .int x8)]) dX4_greatest_91 (Nat.le_of_ble_eq_true rfl) rfl ?_
    refine X.iinc (v := (x8 + 1)) (L' := [(8, .int (x8 + 1)), (7, .int (x7 + ((x6 >>> (x8 &&& 31)) &&& (1 : Int32)))), (0, .ref m0), (1, .int x1), (2, .int x2), (3, .int x3), (4, .int x4), (5, .int x5), (6, .int x6)]) dX4_greatest_93 8 rfl rfl (Nat.le_of_ble_eq_true rfl) rfl ?_
    refine X.goto (tgt := 72) dX4_greatest_96 (by decide) ?_
    refine X.sub [2, 3, 4, 5, 6, 7, 8, 1, 0] (L' := [(0, .ref m0), (1, .int x1), (2, .int x2), (3, .int x3), (4, .int x4), (5, .int x5), (6, .int x6), (7, .int (x7 + ((x6 >>> (x8 &&& 31)) &&& (1 : Int32)))), (8, .int (x8 + 1))]) rfl ?_
    exact hk72 _ _ _ _ _ _ _ _ _ _ hf h N Z
theorem m_greatest_72_ok {G : xG} {m0 : Nat} {S0 : MS} {k32 : Int32 → Int32 → Int32 → Int32 → Int32 → MS → Option (Int32 × MS)} (hk32 : ∀ (x1 : Int32) (x2 : Int32) (x3 : Int32) (x4 : Int32) (x5 : Int32) (S : MS) (q : (Int32 × MS)), k32 x1 x2 x3 x4 x5 S = some q → XM G m0 mX4_greatest 3 S0 (some (.int q.1)) q.2 32 [(0, .ref m0), (1, .int x1), (2, .int x2), (3, .int x3), (4, .int x4), (5, .int x5)] [] S) : ∀ (n : Nat) (x1 : Int32) (x2 : Int32) (x3 : Int32) (x4 : Int32) (x5 : Int32) (x6 : Int32) (x7 : Int32) (x8 : Int32) (S : MS) (q : (Int32 × MS)), m_greatest_72 k32 n x1 x2 x3 x4 x5 x6 x7 x8 S = some q → XM G m0 mX4_greatest 3 S0 (some (.int q.1)) q.2 72 [(0, .ref m0), (1, .int x1), (2, .int x2), (3, .int x3), (4, .int x4), (5, .int x5), (6, .int x6), (7, .int x7), (8, .int x8)] [] S
  | 0, _, _, _, _, _, _, _, _, _, _, hf => by cases hf
  | n + 1, x1, x2, x3, x4, x5, x6, x7, x8, S, q, hf => m_greatest_72_bok hk32 (m_greatest_72_ok hk32 n) x1 x2 x3 x4 x5 x6 x7 x8 S q hf
def m_greatest_32_b  (k32 : Int32 → Int32 → Int32 → Int32 → Int32 → MS → Option (Int32 × MS)) (x1 : Int32) (x2 : Int32) (x3 : Int32) (x4 : Int32) (x5 : Int32) (S : MS) : Option (Int32 × MS) :=
  (m_cells S).bind fun q35 =>
  if q35 ≤ x5 then
    if x2 = 0 then
      some (x4, S)
    else
      some (x3, S)
  else
    (rdA S 13 ((61 : Int32) + x5)).bind fun v50 =>
    if v50 = x1 then
      (m_patchOf x5 S).bind fun q61 =>
      m_greatest_72 k32 FU x1 x2 x3 x4 x5 q61 ((0 : Int32)) ((0 : Int32)) S
    else
      m_greatest_116 k32 x1 x2 x3 x4 x5 S
def m_greatest_32  : Nat → Int32 → Int32 → Int32 → Int32 → Int32 → MS → Option (Int32 × MS)
  | 0 => fun _ _ _ _ _ _ => none
  | n + 1 => fun x1 x2 x3 x4 x5 S => m_greatest_32_b (m_greatest_32 n) x1 x2 x3 x4 x5 S
theorem m_greatest_32_bok {G : xG} {m0 : Nat} {S0 : MS}  {k32 : Int32 → Int32 → Int32 → Int32 → Int32 → MS → Option (Int32 × MS)}  (hk32 : ∀ (x1 : Int32) (x2 : Int32) (x3 : Int32) (x4 : Int32) (x5 : Int32) (S : MS) (q : (Int32 × MS)), k32 x1 x2 x3 x4 x5 S = some q → XM G m0 mX4_greatest 3 S0 (some (.int q.1)) q.2 32 [(0, .ref m0), (1, .int x1), (2, .int x2), (3, .int x3), (4, .int x4), (5, .int x5)] [] S) (x1 : Int32) (x2 : Int32) (x3 : Int32) (x4 : Int32) (x5 : Int32) (S : MS) (q : (Int32 × MS)) (hf : m_greatest_32_b k32 x1 x2 x3 x4 x5 S = some q) : XM G m0 mX4_greatest 3 S0 (some (.int q.1)) q.2 32 [(0, .ref m0), (1, .int x1), (2, .int x2), (3, .int x3), (4, .int x4), (5, .int x5)] [] S := by
  intro h N Z
  unfold m_greatest_32_b at hf
  refine X.iload dX4_greatest_32 5 rfl ?_
  refine X.aload_n dX4_greatest_34 rfl 0 rfl ?_
  obtain ⟨q35, h35, hf⟩ := ob hf
  refine X.callVi (As := []) (rest := [.int x5]) dX4_greatest_35 (w_cells h35 h N Z) cX4_321 rfl rfl (Nat.le_of_ble_eq_true rfl) mh_0 rfl rfl (xD (Nat.le_of_ble_eq_true rfl)) xleN xleN ?_
  refine X.icmp_ge (tgt := 122) dX4_greatest_38 (by decide) (fun c38 => ?_) (fun c38 => ?_)
  · have hf := if_t c38 hf
    refine X.iload_n dX4_greatest_122 rfl 2 rfl ?_
    refine X.if_ne (tgt := 131) dX4_greatest_123 (by decide) (fun c123 => ?_) (fun c123 => ?_)
    · have hf := if_f c123 hf
      refine X.iload_n dX4_greatest_131 rfl 3 rfl ?_
      obtain rfl := Option.some.inj hf
      exact X.iret dX4_greatest_132 rfl rfl rfl
    · have hf := if_t c123 hf
      refine X.iload dX4_greatest_126 4 rfl ?_
      refine X.goto (tgt := 132) dX4_greatest_128 (by decide) ?_
      obtain rfl := Option.some.inj hf
      exact X.iret dX4_greatest_132 rfl rfl rfl
  · have hf := if_f c38 hf
    refine X.aload_n dX4_greatest_41 rfl 0 rfl ?_
    refine M.get (v := .ref (m0 + 13)) dX4_greatest_42 fX4_69 (Nat.le_of_ble_eq_true rfl) rfl ?_
    refine X.bipush (v := 61) dX4_greatest_45 (by decide) ?_
    refine X.iload dX4_greatest_47 5 rfl ?_
    refine X.iadd dX4_greatest_49 ?_
    obtain ⟨v50, h50, hf⟩ := ob hf
    refine M.iald dX4_greatest_50 rfl h50 ?_
    refine X.iload_n dX4_greatest_51 rfl 1 rfl ?_
    refine X.icmp_eq (tgt := 58) dX4_greatest_52 (by decide) (fun c52 => ?_) (fun c52 => ?_)
    · have hf := if_t c52 hf
      refine X.aload_n dX4_greatest_58 rfl 0 rfl ?_
      refine X.iload dX4_greatest_59 5 rfl ?_
      obtain ⟨q61, h61, hf⟩ := ob hf
      refine X.callVi (As := [.int x5]) (rest := []) dX4_greatest_61 (w_patchOf h61 h N Z) cX4_457 rfl rfl (Nat.le_of_ble_eq_true rfl) mh_0 rfl rfl (xD (Nat.le_of_ble_eq_true rfl)) xleN xleN ?_
      refine X.istore (L' := [(6, .int q61), (0, .ref m0), (1, .int x1), (2, .int x2), (3, .int x3), (4, .int x4), (5, .int x5)]) dX4_greatest_64 (Nat.le_of_ble_eq_true rfl) rfl ?_
      refine X.iconst (v := 0) dX4_greatest_66 (by decide) ?_
      refine X.istore (L' := [(7, .int (0 : Int32)), (6, .int q61), (0, .ref m0), (1, .int x1), (2, .int x2), (3, .int x3), (4, .int x4), (5, .int x5)]) dX4_greatest_67 (Nat.le_of_ble_eq_true rfl) rfl ?_
      refine X.iconst (v := 0) dX4_greatest_69 (by decide) ?_
      refine X.istore (L' := [(8, .int (0 : Int32)), (7, .int (0 : Int32)), (6, .int q61), (0, .ref m0), (1, .int x1), (2, .int x2), (3, .int x3), (4, .int x4), (5, .int x5)]) dX4_greatest_70 (Nat.le_of_ble_eq_true rfl) rfl ?_
      refine X.sub [3, 4, 5, 6, 7, 8, 2, 1, 0] (L' := [(0, .ref m0), (1, .int x1), (2, .int x2), (3, .int x3), (4, .int x4), (5, .int x5), (6, .int q61), (7, .int (0 : Int32)), (8, .int (0 : Int32))]) rfl ?_
      exact m_greatest_72_ok hk32 FU _ _ _ _ _ _ _ _ _ _ hf h N Z
    · have hf := if_f c52 hf
      refine X.goto (tgt := 116) dX4_greatest_55 (by decide) ?_
      refine X.sub [0, 1, 2, 3, 4, 5] (L' := [(0, .ref m0), (1, .int x1), (2, .int x2), (3, .int x3), (4, .int x4), (5, .int x5)]) rfl ?_
      exact m_greatest_116_ok hk32 _ _ _ _ _ _ _ hf h N Z
theorem m_greatest_32_ok {G : xG} {m0 : Nat} {S0 : MS}   : ∀ (n : Nat) (x1 : Int32) (x2 : Int32) (x3 : Int32) (x4 : Int32) (x5 : Int32) (S : MS) (q : (Int32 × MS)), m_greatest_32 n x1 x2 x3 x4 x5 S = some q → XM G m0 mX4_greatest 3 S0 (some (.int q.1)) q.2 32 [(0, .ref m0), (1, .int x1), (2, .int x2), (3, .int x3), (4, .int x4), (5, .int x5)] [] S
  | 0, _, _, _, _, _, _, _, hf => by cases hf
  | n + 1, x1, x2, x3, x4, x5, S, q, hf => m_greatest_32_bok (m_greatest_32_ok n) x1 x2 x3 x4 x5 S q hf
def m_greatest (x1 : Int32) (x2 : Int32) (S : MS) : Option (Int32 × MS) :=
  (m_isKind x1 ((sF S 0 (0 : Int32)))).bind fun q7 =>
  if q7.1 = 0 then
    some ((0 : Int32), q7.2)
  else
    (m_isWhat x2 ((1 : Int32)) q7.2).bind fun q16 =>
    if q16.1 = 0 then
      some ((0 : Int32), q16.2)
    else
      m_greatest_32 FU x1 x2 ((-1 : Int32)) ((0 : Int32)) ((0 : Int32)) q16.2
theorem w_greatest {G : xG} {m0 : Nat} {x1 : Int32} {x2 : Int32} {S : MS} {q : (Int32 × MS)} (hf : m_greatest x1 x2 S = some q) : CtM G m0 mX4_greatest 3 S [.ref m0, .int x1, .int x2] (some (.int q.1)) q.2 := by
  intro h N Z
  refine Ct.of (by decide +kernel) rfl (Nat.le_of_ble_eq_true rfl) (show Xr G _ 0 [(0, .ref m0), (1, .int x1), (2, .int x2)] [] _ from ?_)
  unfold m_greatest at hf
  refine X.aload_n dX4_greatest_0 rfl 0 rfl ?_
  refine X.iconst (v := 0) dX4_greatest_1 (by decide) ?_
  refine M.putI dX4_greatest_2 fX4_115 (by decide) rfl rfl rfl ?_
  refine X.aload_n dX4_greatest_5 rfl 0 rfl ?_
  refine X.iload_n dX4_greatest_6 rfl 1 rfl ?_
  obtain ⟨q7, h7, hf⟩ := ob hf
  refine X.callVi (As := [.int x1]) (rest := []) (T2 := (mh m0 h q7.2, N, Z)) dX4_greatest_7 (w_isKind h7 h N Z) cX4_391 rfl rfl (Nat.le_of_ble_eq_true rfl) mh_0 rfl rfl (xD (Nat.le_of_ble_eq_true rfl)) xleN xleN ?_
  refine X.if_eq (tgt := 22) dX4_greatest_10 (by decide) (fun c10 => ?_) (fun c10 => ?_)
  · have hf := if_t c10 hf
    refine X.iconst (v := 0) dX4_greatest_22 (by decide) ?_
    obtain rfl := Option.some.inj hf
    exact X.iret dX4_greatest_23 rfl rfl rfl
  · have hf := if_f c10 hf
    refine X.aload_n dX4_greatest_13 rfl 0 rfl ?_
    refine X.iload_n dX4_greatest_14 rfl 2 rfl ?_
    refine X.iconst (v := 1) dX4_greatest_15 (by decide) ?_
    obtain ⟨q16, h16, hf⟩ := ob hf
    refine X.callVi (As := [.int x2, .int (1 : Int32)]) (rest := []) (T2 := (mh m0 h q16.2, N, Z)) dX4_greatest_16 (w_isWhat h16 h N Z) cX4_388 rfl rfl (Nat.le_of_ble_eq_true rfl) mh_0 rfl rfl (xD (Nat.le_of_ble_eq_true rfl)) xleN xleN ?_
    refine X.if_ne (tgt := 24) dX4_greatest_19 (by decide) (fun c19 => ?_) (fun c19 => ?_)
    · have hf := if_f c19 hf
      refine X.iconst (v := -1) dX4_greatest_24 (by decide) ?_
      refine X.istore_n (L' := [(3, .int (-1 : Int32)), (0, .ref m0), (1, .int x1), (2, .int x2)]) dX4_greatest_25 rfl (Nat.le_of_ble_eq_true rfl) rfl ?_
      refine X.iconst (v := 0) dX4_greatest_26 (by decide) ?_
      refine X.istore (L' := [(4, .int (0 : Int32)), (3, .int (-1 : Int32)), (0, .ref m0), (1, .int x1), (2, .int x2)]) dX4_greatest_27 (Nat.le_of_ble_eq_true rfl) rfl ?_
      refine X.iconst (v := 0) dX4_greatest_29 (by decide) ?_
      refine X.istore (L' := [(5, .int (0 : Int32)), (4, .int (0 : Int32)), (3, .int (-1 : Int32)), (0, .ref m0), (1, .int x1), (2, .int x2)]) dX4_greatest_30 (Nat.le_of_ble_eq_true rfl) rfl ?_
      refine X.sub [3, 4, 5, 2, 1, 0] (L' := [(0, .ref m0), (1, .int x1), (2, .int x2), (3, .int (-1 : Int32)), (4, .int (0 : Int32)), (5, .int (0 : Int32))]) rfl ?_
      exact m_greatest_32_ok FU _ _ _ _ _ _ _ hf h N Z
    · have hf := if_t c19 hf
      refine X.iconst (v := 0) dX4_greatest_22 (by decide) ?_
      obtain rfl := Option.some.inj hf
      exact X.iret dX4_greatest_23 rfl rfl rfl
/-! keep -/
abbrev cX4_keep : ByteArray := prog_12_method_119_code
def yX4_keep : MethodName := ⟨RX4, "keep", "(I)I"⟩
def dkwX4_keep_2 : List UInt8 := [27, 96, 28, 79, 42, 16, 121, 27, 182, 1, 87, 155, 0, 5, 28, 172, 132, 2, 1, 167, 255, 225, 2, 172]
abbrev dktX4_keep_2 : List UInt8 := dkwX4_keep_2 ++ []
def dkwX4_keep_1 : List UInt8 := [2, 160, 0, 5, 2, 172, 42, 182, 1, 147, 3, 61, 28, 16, 9, 163, 0, 31, 42, 180, 0, 69, 16, 122]
abbrev dktX4_keep_1 : List UInt8 := dkwX4_keep_1 ++ dktX4_keep_2
def dkwX4_keep_0 : List UInt8 := [42, 3, 181, 0, 115, 42, 27, 182, 1, 129, 154, 0, 5, 3, 172, 42, 180, 0, 69, 16, 61, 27, 96, 46]
abbrev dktX4_keep_0 : List UInt8 := dkwX4_keep_0 ++ dktX4_keep_1
theorem dksX4_keep_0 : cX4_keep.data.toList.drop 0 = dktX4_keep_0 := by decide +kernel
theorem dksX4_keep_1 : cX4_keep.data.toList.drop 24 = dktX4_keep_1 := dk_seg dksX4_keep_0 24 rfl rfl
theorem dksX4_keep_2 : cX4_keep.data.toList.drop 48 = dktX4_keep_2 := dk_seg dksX4_keep_1 24 rfl rfl
theorem dX4_keep_0 : decode cX4_keep 0 = .ok (.aload_n 0, 1) := dk_42 (dk_at dksX4_keep_0 0 rfl rfl)
theorem dX4_keep_1 : decode cX4_keep 1 = .ok (.iconst 0, 1) := dk_3 (dk_at dksX4_keep_0 1 rfl rfl)
theorem dX4_keep_2 : decode cX4_keep 2 = .ok (.putfield 115, 3) := dk_181 0 115 (dk_at dksX4_keep_0 2 rfl rfl)
theorem dX4_keep_5 : decode cX4_keep 5 = .ok (.aload_n 0, 1) := dk_42 (dk_at dksX4_keep_0 5 rfl rfl)
theorem dX4_keep_6 : decode cX4_keep 6 = .ok (.iload_n 1, 1) := dk_27 (dk_at dksX4_keep_0 6 rfl rfl)
theorem dX4_keep_7 : decode cX4_keep 7 = .ok (.invokevirtual 385, 3) := dk_182 1 129 (dk_at dksX4_keep_0 7 rfl rfl)
theorem dX4_keep_10 : decode cX4_keep 10 = .ok (.ifCond .ne 5, 3) := dk_154 0 5 (dk_at dksX4_keep_0 10 rfl rfl)
theorem dX4_keep_13 : decode cX4_keep 13 = .ok (.iconst 0, 1) := dk_3 (dk_at dksX4_keep_0 13 rfl rfl)
theorem dX4_keep_14 : decode cX4_keep 14 = .ok (.ireturn, 1) := dk_172 (dk_at dksX4_keep_0 14 rfl rfl)
theorem dX4_keep_15 : decode cX4_keep 15 = .ok (.aload_n 0, 1) := dk_42 (dk_at dksX4_keep_0 15 rfl rfl)
theorem dX4_keep_16 : decode cX4_keep 16 = .ok (.getfield 69, 3) := dk_180 0 69 (dk_at dksX4_keep_0 16 rfl rfl)
theorem dX4_keep_19 : decode cX4_keep 19 = .ok (.bipush 61, 2) := dk_16 61 (dk_at dksX4_keep_0 19 rfl rfl)
theorem dX4_keep_21 : decode cX4_keep 21 = .ok (.iload_n 1, 1) := dk_27 (dk_at dksX4_keep_0 21 rfl rfl)
theorem dX4_keep_22 : decode cX4_keep 22 = .ok (.iadd, 1) := dk_96 (dk_at dksX4_keep_0 22 rfl rfl)
theorem dX4_keep_23 : decode cX4_keep 23 = .ok (.iaload, 1) := dk_46 (dk_at dksX4_keep_0 23 rfl rfl)
theorem dX4_keep_24 : decode cX4_keep 24 = .ok (.iconst (-1), 1) := dk_2 (dk_at dksX4_keep_1 0 rfl rfl)
theorem dX4_keep_25 : decode cX4_keep 25 = .ok (.if_icmp .ne 5, 3) := dk_160 0 5 (dk_at dksX4_keep_1 1 rfl rfl)
theorem dX4_keep_28 : decode cX4_keep 28 = .ok (.iconst (-1), 1) := dk_2 (dk_at dksX4_keep_1 4 rfl rfl)
theorem dX4_keep_29 : decode cX4_keep 29 = .ok (.ireturn, 1) := dk_172 (dk_at dksX4_keep_1 5 rfl rfl)
theorem dX4_keep_30 : decode cX4_keep 30 = .ok (.aload_n 0, 1) := dk_42 (dk_at dksX4_keep_1 6 rfl rfl)
theorem dX4_keep_31 : decode cX4_keep 31 = .ok (.invokevirtual 403, 3) := dk_182 1 147 (dk_at dksX4_keep_1 7 rfl rfl)
theorem dX4_keep_34 : decode cX4_keep 34 = .ok (.iconst 0, 1) := dk_3 (dk_at dksX4_keep_1 10 rfl rfl)
theorem dX4_keep_35 : decode cX4_keep 35 = .ok (.istore_n 2, 1) := dk_61 (dk_at dksX4_keep_1 11 rfl rfl)
theorem dX4_keep_36 : decode cX4_keep 36 = .ok (.iload_n 2, 1) := dk_28 (dk_at dksX4_keep_1 12 rfl rfl)
theorem dX4_keep_37 : decode cX4_keep 37 = .ok (.bipush 9, 2) := dk_16 9 (dk_at dksX4_keep_1 13 rfl rfl)
theorem dX4_keep_39 : decode cX4_keep 39 = .ok (.if_icmp .gt 31, 3) := dk_163 0 31 (dk_at dksX4_keep_1 15 rfl rfl)
theorem dX4_keep_42 : decode cX4_keep 42 = .ok (.aload_n 0, 1) := dk_42 (dk_at dksX4_keep_1 18 rfl rfl)
theorem dX4_keep_43 : decode cX4_keep 43 = .ok (.getfield 69, 3) := dk_180 0 69 (dk_at dksX4_keep_1 19 rfl rfl)
theorem dX4_keep_46 : decode cX4_keep 46 = .ok (.bipush 122, 2) := dk_16 122 (dk_at dksX4_keep_1 22 rfl rfl)
theorem dX4_keep_48 : decode cX4_keep 48 = .ok (.iload_n 1, 1) := dk_27 (dk_at dksX4_keep_2 0 rfl rfl)
theorem dX4_keep_49 : decode cX4_keep 49 = .ok (.iadd, 1) := dk_96 (dk_at dksX4_keep_2 1 rfl rfl)
theorem dX4_keep_50 : decode cX4_keep 50 = .ok (.iload_n 2, 1) := dk_28 (dk_at dksX4_keep_2 2 rfl rfl)
theorem dX4_keep_51 : decode cX4_keep 51 = .ok (.iastore, 1) := dk_79 (dk_at dksX4_keep_2 3 rfl rfl)
theorem dX4_keep_52 : decode cX4_keep 52 = .ok (.aload_n 0, 1) := dk_42 (dk_at dksX4_keep_2 4 rfl rfl)
theorem dX4_keep_53 : decode cX4_keep 53 = .ok (.bipush 121, 2) := dk_16 121 (dk_at dksX4_keep_2 5 rfl rfl)
theorem dX4_keep_55 : decode cX4_keep 55 = .ok (.iload_n 1, 1) := dk_27 (dk_at dksX4_keep_2 7 rfl rfl)
theorem dX4_keep_56 : decode cX4_keep 56 = .ok (.invokevirtual 343, 3) := dk_182 1 87 (dk_at dksX4_keep_2 8 rfl rfl)
theorem dX4_keep_59 : decode cX4_keep 59 = .ok (.ifCond .lt 5, 3) := dk_155 0 5 (dk_at dksX4_keep_2 11 rfl rfl)
theorem dX4_keep_62 : decode cX4_keep 62 = .ok (.iload_n 2, 1) := dk_28 (dk_at dksX4_keep_2 14 rfl rfl)
theorem dX4_keep_63 : decode cX4_keep 63 = .ok (.ireturn, 1) := dk_172 (dk_at dksX4_keep_2 15 rfl rfl)
theorem dX4_keep_64 : decode cX4_keep 64 = .ok (.iinc 2 1, 3) := dk_132 2 1 (dk_at dksX4_keep_2 16 rfl rfl)
theorem dX4_keep_67 : decode cX4_keep 67 = .ok (.goto (-31), 3) := dk_167 255 225 (dk_at dksX4_keep_2 19 rfl rfl)
theorem dX4_keep_70 : decode cX4_keep 70 = .ok (.iconst (-1), 1) := dk_2 (dk_at dksX4_keep_2 22 rfl rfl)
theorem dX4_keep_71 : decode cX4_keep 71 = .ok (.ireturn, 1) := dk_172 (dk_at dksX4_keep_2 23 rfl rfl)
abbrev mX4_keep : xM := (yX4_keep, cX4_keep, 3, (some .int), [])
def m_keep_36_b  (k36 : Int32 → Int32 → MS → Option (Int32 × MS)) (x1 : Int32) (x2 : Int32) (S : MS) : Option (Int32 × MS) :=
  if (9 : Int32) < x2 then
    some ((-1 : Int32), S)
  else
    (wrA S 13 ((122 : Int32) + x1) x2).bind fun S51 =>
    (m_growthOf ((121 : Int32)) x1 S51).bind fun q56 =>
    if q56.1 < 0 then
      k36 x1 ((x2 + 1)) q56.2
    else
      some (x2, q56.2)
def m_keep_36  : Nat → Int32 → Int32 → MS → Option (Int32 × MS)
  | 0 => fun _ _ _ => none
  | n + 1 => fun x1 x2 S => m_keep_36_b (m_keep_36 n) x1 x2 S
theorem m_keep_36_bok {G : xG} {m0 : Nat} {S0 : MS}  {k36 : Int32 → Int32 → MS → Option (Int32 × MS)}  (hk36 : ∀ (x1 : Int32) (x2 : Int32) (S : MS) (q : (Int32 × MS)), k36 x1 x2 S = some q → XM G m0 mX4_keep 4 S0 (some (.int q.1)) q.2 36 [(0, .ref m0), (1, .int x1), (2, .int x2)] [] S) (x1 : Int32) (x2 : Int32) (S : MS) (q : (Int32 × MS)) (hf : m_keep_36_b k36 x1 x2 S = some q) : XM G m0 mX4_keep 4 S0 (some (.int q.1)) q.2 36 [(0, .ref m0), (1, .int x1), (2, .int x2)] [] S := by
  intro h N Z
  unfold m_keep_36_b at hf
  refine X.iload_n dX4_keep_36 rfl 2 rfl ?_
  refine X.bipush (v := 9) dX4_keep_37 (by decide) ?_
  refine X.icmp_gt (tgt := 70) dX4_keep_39 (by decide) (fun c39 => ?_) (fun c39 => ?_)
  · have hf := if_t c39 hf
    refine X.iconst (v := -1) dX4_keep_70 (by decide) ?_
    obtain rfl := Option.some.inj hf
    exact X.iret dX4_keep_71 rfl rfl rfl
  · have hf := if_f c39 hf
    refine X.aload_n dX4_keep_42 rfl 0 rfl ?_
    refine M.get (v := .ref (m0 + 13)) dX4_keep_43 fX4_69 (Nat.le_of_ble_eq_true rfl) rfl ?_
    refine X.bipush (v := 122) dX4_keep_46 (by decide) ?_
    refine X.iload_n dX4_keep_48 rfl 1 rfl ?_
    refine X.iadd dX4_keep_49 ?_
    refine X.iload_n dX4_keep_50 rfl 2 rfl ?_
    obtain ⟨S51, h51, hf⟩ := ob hf
    refine M.iast dX4_keep_51 rfl h51 ?_
    refine X.aload_n dX4_keep_52 rfl 0 rfl ?_
    refine X.bipush (v := 121) dX4_keep_53 (by decide) ?_
    refine X.iload_n dX4_keep_55 rfl 1 rfl ?_
    obtain ⟨q56, h56, hf⟩ := ob hf
    refine X.callVi (As := [.int (121 : Int32), .int x1]) (rest := []) (T2 := (mh m0 h q56.2, N, Z)) dX4_keep_56 (w_growthOf h56 h N Z) cX4_343 rfl rfl (Nat.le_of_ble_eq_true rfl) mh_0 rfl rfl (xD (Nat.le_of_ble_eq_true rfl)) xleN xleN ?_
    refine X.if_lt (tgt := 64) dX4_keep_59 (by decide) (fun c59 => ?_) (fun c59 => ?_)
    · have hf := if_t c59 hf
      refine X.iinc (v := (x2 + 1)) (L' := [(2, .int (x2 + 1)), (0, .ref m0), (1, .int x1)]) dX4_keep_64 2 rfl rfl (Nat.le_of_ble_eq_true rfl) rfl ?_
      refine X.goto (tgt := 36) dX4_keep_67 (by decide) ?_
      refine X.sub [1, 2, 0] (L' := [(0, .ref m0), (1, .int x1), (2, .int (x2 + 1))]) rfl ?_
      exact hk36 _ _ _ _ hf h N Z
    · have hf := if_f c59 hf
      refine X.iload_n dX4_keep_62 rfl 2 rfl ?_
      obtain rfl := Option.some.inj hf
      exact X.iret dX4_keep_63 rfl rfl rfl
theorem m_keep_36_ok {G : xG} {m0 : Nat} {S0 : MS}   : ∀ (n : Nat) (x1 : Int32) (x2 : Int32) (S : MS) (q : (Int32 × MS)), m_keep_36 n x1 x2 S = some q → XM G m0 mX4_keep 4 S0 (some (.int q.1)) q.2 36 [(0, .ref m0), (1, .int x1), (2, .int x2)] [] S
  | 0, _, _, _, _, hf => by cases hf
  | n + 1, x1, x2, S, q, hf => m_keep_36_bok (m_keep_36_ok n) x1 x2 S q hf
def m_keep (x1 : Int32) (S : MS) : Option (Int32 × MS) :=
  (m_isTheCell x1 ((sF S 0 (0 : Int32)))).bind fun q7 =>
  if q7.1 = 0 then
    some ((0 : Int32), q7.2)
  else
    (rdA q7.2 13 ((61 : Int32) + x1)).bind fun v23 =>
    if v23 = (-1 : Int32) then
      some ((-1 : Int32), q7.2)
    else
      (m_tries q7.2).bind fun q31 =>
      m_keep_36 FU x1 ((0 : Int32)) q31
theorem w_keep {G : xG} {m0 : Nat} {x1 : Int32} {S : MS} {q : (Int32 × MS)} (hf : m_keep x1 S = some q) : CtM G m0 mX4_keep 4 S [.ref m0, .int x1] (some (.int q.1)) q.2 := by
  intro h N Z
  refine Ct.of (by decide +kernel) rfl (Nat.le_of_ble_eq_true rfl) (show Xr G _ 0 [(0, .ref m0), (1, .int x1)] [] _ from ?_)
  unfold m_keep at hf
  refine X.aload_n dX4_keep_0 rfl 0 rfl ?_
  refine X.iconst (v := 0) dX4_keep_1 (by decide) ?_
  refine M.putI dX4_keep_2 fX4_115 (by decide) rfl rfl rfl ?_
  refine X.aload_n dX4_keep_5 rfl 0 rfl ?_
  refine X.iload_n dX4_keep_6 rfl 1 rfl ?_
  obtain ⟨q7, h7, hf⟩ := ob hf
  refine X.callVi (As := [.int x1]) (rest := []) (T2 := (mh m0 h q7.2, N, Z)) dX4_keep_7 (w_isTheCell h7 h N Z) cX4_385 rfl rfl (Nat.le_of_ble_eq_true rfl) mh_0 rfl rfl (xD (Nat.le_of_ble_eq_true rfl)) xleN xleN ?_
  refine X.if_ne (tgt := 15) dX4_keep_10 (by decide) (fun c10 => ?_) (fun c10 => ?_)
  · have hf := if_f c10 hf
    refine X.aload_n dX4_keep_15 rfl 0 rfl ?_
    refine M.get (v := .ref (m0 + 13)) dX4_keep_16 fX4_69 (Nat.le_of_ble_eq_true rfl) rfl ?_
    refine X.bipush (v := 61) dX4_keep_19 (by decide) ?_
    refine X.iload_n dX4_keep_21 rfl 1 rfl ?_
    refine X.iadd dX4_keep_22 ?_
    obtain ⟨v23, h23, hf⟩ := ob hf
    refine M.iald dX4_keep_23 rfl h23 ?_
    refine X.iconst (v := -1) dX4_keep_24 (by decide) ?_
    refine X.icmp_ne (tgt := 30) dX4_keep_25 (by decide) (fun c25 => ?_) (fun c25 => ?_)
    · have hf := if_f c25 hf
      refine X.aload_n dX4_keep_30 rfl 0 rfl ?_
      obtain ⟨q31, h31, hf⟩ := ob hf
      refine X.callVv (As := []) (rest := []) (T2 := (mh m0 h q31, N, Z)) dX4_keep_31 (w_tries h31 h N Z) cX4_403 rfl rfl (Nat.le_of_ble_eq_true rfl) mh_0 rfl rfl (xD (Nat.le_of_ble_eq_true rfl)) xleN xleN ?_
      refine X.iconst (v := 0) dX4_keep_34 (by decide) ?_
      refine X.istore_n (L' := [(2, .int (0 : Int32)), (0, .ref m0), (1, .int x1)]) dX4_keep_35 rfl (Nat.le_of_ble_eq_true rfl) rfl ?_
      refine X.sub [1, 2, 0] (L' := [(0, .ref m0), (1, .int x1), (2, .int (0 : Int32))]) rfl ?_
      exact m_keep_36_ok FU _ _ _ _ hf h N Z
    · have hf := if_t c25 hf
      refine X.iconst (v := -1) dX4_keep_28 (by decide) ?_
      obtain rfl := Option.some.inj hf
      exact X.iret dX4_keep_29 rfl rfl rfl
  · have hf := if_t c10 hf
    refine X.iconst (v := 0) dX4_keep_13 (by decide) ?_
    obtain rfl := Option.some.inj hf
    exact X.iret dX4_keep_14 rfl rfl rfl
/-! harm -/
abbrev cX4_harm : ByteArray := prog_12_method_120_code
def yX4_harm : MethodName := ⟨RX4, "harm", "(II)I"⟩
def dkwX4_harm_5 : List UInt8 := [21, 4, 172]
abbrev dktX4_harm_5 : List UInt8 := dkwX4_harm_5 ++ []
def dkwX4_harm_4 : List UInt8 := [54, 6, 21, 6, 29, 161, 0, 6, 167, 0, 10, 21, 5, 54, 4, 21, 6, 62, 132, 5, 1, 167, 255, 185]
abbrev dktX4_harm_4 : List UInt8 := dkwX4_harm_4 ++ dktX4_harm_5
def dkwX4_harm_3 : List UInt8 := [182, 1, 147, 42, 16, 121, 21, 5, 182, 1, 90, 42, 28, 182, 1, 150, 42, 16, 121, 27, 182, 1, 114]
abbrev dktX4_harm_3 : List UInt8 := dkwX4_harm_3 ++ dktX4_harm_4
def dkwX4_harm_2 : List UInt8 := [182, 1, 65, 162, 0, 68, 42, 180, 0, 69, 16, 61, 21, 5, 96, 46, 2, 160, 0, 6, 167, 0, 45, 42]
abbrev dktX4_harm_2 : List UInt8 := dkwX4_harm_2 ++ dktX4_harm_3
def dkwX4_harm_1 : List UInt8 := [172, 42, 28, 182, 1, 156, 42, 16, 121, 27, 182, 1, 114, 62, 2, 54, 4, 3, 54, 5, 21, 5, 42]
abbrev dktX4_harm_1 : List UInt8 := dkwX4_harm_1 ++ dktX4_harm_2
def dkwX4_harm_0 : List UInt8 := [42, 3, 181, 0, 115, 42, 27, 182, 1, 138, 153, 0, 13, 42, 28, 4, 5, 182, 1, 153, 154, 0, 5, 3]
abbrev dktX4_harm_0 : List UInt8 := dkwX4_harm_0 ++ dktX4_harm_1
theorem dksX4_harm_0 : cX4_harm.data.toList.drop 0 = dktX4_harm_0 := by decide +kernel
theorem dksX4_harm_1 : cX4_harm.data.toList.drop 24 = dktX4_harm_1 := dk_seg dksX4_harm_0 24 rfl rfl
theorem dksX4_harm_2 : cX4_harm.data.toList.drop 47 = dktX4_harm_2 := dk_seg dksX4_harm_1 23 rfl rfl
theorem dksX4_harm_3 : cX4_harm.data.toList.drop 71 = dktX4_harm_3 := dk_seg dksX4_harm_2 24 rfl rfl
theorem dksX4_harm_4 : cX4_harm.data.toList.drop 94 = dktX4_harm_4 := dk_seg dksX4_harm_3 23 rfl rfl
theorem dksX4_harm_5 : cX4_harm.data.toList.drop 118 = dktX4_harm_5 := dk_seg dksX4_harm_4 24 rfl rfl
theorem dX4_harm_0 : decode cX4_harm 0 = .ok (.aload_n 0, 1) := dk_42 (dk_at dksX4_harm_0 0 rfl rfl)
theorem dX4_harm_1 : decode cX4_harm 1 = .ok (.iconst 0, 1) := dk_3 (dk_at dksX4_harm_0 1 rfl rfl)
theorem dX4_harm_2 : decode cX4_harm 2 = .ok (.putfield 115, 3) := dk_181 0 115 (dk_at dksX4_harm_0 2 rfl rfl)
theorem dX4_harm_5 : decode cX4_harm 5 = .ok (.aload_n 0, 1) := dk_42 (dk_at dksX4_harm_0 5 rfl rfl)
theorem dX4_harm_6 : decode cX4_harm 6 = .ok (.iload_n 1, 1) := dk_27 (dk_at dksX4_harm_0 6 rfl rfl)
theorem dX4_harm_7 : decode cX4_harm 7 = .ok (.invokevirtual 394, 3) := dk_182 1 138 (dk_at dksX4_harm_0 7 rfl rfl)
theorem dX4_harm_10 : decode cX4_harm 10 = .ok (.ifCond .eq 13, 3) := dk_153 0 13 (dk_at dksX4_harm_0 10 rfl rfl)
theorem dX4_harm_13 : decode cX4_harm 13 = .ok (.aload_n 0, 1) := dk_42 (dk_at dksX4_harm_0 13 rfl rfl)
theorem dX4_harm_14 : decode cX4_harm 14 = .ok (.iload_n 2, 1) := dk_28 (dk_at dksX4_harm_0 14 rfl rfl)
theorem dX4_harm_15 : decode cX4_harm 15 = .ok (.iconst 1, 1) := dk_4 (dk_at dksX4_harm_0 15 rfl rfl)
theorem dX4_harm_16 : decode cX4_harm 16 = .ok (.iconst 2, 1) := dk_5 (dk_at dksX4_harm_0 16 rfl rfl)
theorem dX4_harm_17 : decode cX4_harm 17 = .ok (.invokevirtual 409, 3) := dk_182 1 153 (dk_at dksX4_harm_0 17 rfl rfl)
theorem dX4_harm_20 : decode cX4_harm 20 = .ok (.ifCond .ne 5, 3) := dk_154 0 5 (dk_at dksX4_harm_0 20 rfl rfl)
theorem dX4_harm_23 : decode cX4_harm 23 = .ok (.iconst 0, 1) := dk_3 (dk_at dksX4_harm_0 23 rfl rfl)
theorem dX4_harm_24 : decode cX4_harm 24 = .ok (.ireturn, 1) := dk_172 (dk_at dksX4_harm_1 0 rfl rfl)
theorem dX4_harm_25 : decode cX4_harm 25 = .ok (.aload_n 0, 1) := dk_42 (dk_at dksX4_harm_1 1 rfl rfl)
theorem dX4_harm_26 : decode cX4_harm 26 = .ok (.iload_n 2, 1) := dk_28 (dk_at dksX4_harm_1 2 rfl rfl)
theorem dX4_harm_27 : decode cX4_harm 27 = .ok (.invokevirtual 412, 3) := dk_182 1 156 (dk_at dksX4_harm_1 3 rfl rfl)
theorem dX4_harm_30 : decode cX4_harm 30 = .ok (.aload_n 0, 1) := dk_42 (dk_at dksX4_harm_1 6 rfl rfl)
theorem dX4_harm_31 : decode cX4_harm 31 = .ok (.bipush 121, 2) := dk_16 121 (dk_at dksX4_harm_1 7 rfl rfl)
theorem dX4_harm_33 : decode cX4_harm 33 = .ok (.iload_n 1, 1) := dk_27 (dk_at dksX4_harm_1 9 rfl rfl)
theorem dX4_harm_34 : decode cX4_harm 34 = .ok (.invokevirtual 370, 3) := dk_182 1 114 (dk_at dksX4_harm_1 10 rfl rfl)
theorem dX4_harm_37 : decode cX4_harm 37 = .ok (.istore_n 3, 1) := dk_62 (dk_at dksX4_harm_1 13 rfl rfl)
theorem dX4_harm_38 : decode cX4_harm 38 = .ok (.iconst (-1), 1) := dk_2 (dk_at dksX4_harm_1 14 rfl rfl)
theorem dX4_harm_39 : decode cX4_harm 39 = .ok (.istore 4, 2) := dk_54 4 (dk_at dksX4_harm_1 15 rfl rfl)
theorem dX4_harm_41 : decode cX4_harm 41 = .ok (.iconst 0, 1) := dk_3 (dk_at dksX4_harm_1 17 rfl rfl)
theorem dX4_harm_42 : decode cX4_harm 42 = .ok (.istore 5, 2) := dk_54 5 (dk_at dksX4_harm_1 18 rfl rfl)
theorem dX4_harm_44 : decode cX4_harm 44 = .ok (.iload 5, 2) := dk_21 5 (dk_at dksX4_harm_1 20 rfl rfl)
theorem dX4_harm_46 : decode cX4_harm 46 = .ok (.aload_n 0, 1) := dk_42 (dk_at dksX4_harm_1 22 rfl rfl)
theorem dX4_harm_47 : decode cX4_harm 47 = .ok (.invokevirtual 321, 3) := dk_182 1 65 (dk_at dksX4_harm_2 0 rfl rfl)
theorem dX4_harm_50 : decode cX4_harm 50 = .ok (.if_icmp .ge 68, 3) := dk_162 0 68 (dk_at dksX4_harm_2 3 rfl rfl)
theorem dX4_harm_53 : decode cX4_harm 53 = .ok (.aload_n 0, 1) := dk_42 (dk_at dksX4_harm_2 6 rfl rfl)
theorem dX4_harm_54 : decode cX4_harm 54 = .ok (.getfield 69, 3) := dk_180 0 69 (dk_at dksX4_harm_2 7 rfl rfl)
theorem dX4_harm_57 : decode cX4_harm 57 = .ok (.bipush 61, 2) := dk_16 61 (dk_at dksX4_harm_2 10 rfl rfl)
theorem dX4_harm_59 : decode cX4_harm 59 = .ok (.iload 5, 2) := dk_21 5 (dk_at dksX4_harm_2 12 rfl rfl)
theorem dX4_harm_61 : decode cX4_harm 61 = .ok (.iadd, 1) := dk_96 (dk_at dksX4_harm_2 14 rfl rfl)
theorem dX4_harm_62 : decode cX4_harm 62 = .ok (.iaload, 1) := dk_46 (dk_at dksX4_harm_2 15 rfl rfl)
theorem dX4_harm_63 : decode cX4_harm 63 = .ok (.iconst (-1), 1) := dk_2 (dk_at dksX4_harm_2 16 rfl rfl)
theorem dX4_harm_64 : decode cX4_harm 64 = .ok (.if_icmp .ne 6, 3) := dk_160 0 6 (dk_at dksX4_harm_2 17 rfl rfl)
theorem dX4_harm_67 : decode cX4_harm 67 = .ok (.goto 45, 3) := dk_167 0 45 (dk_at dksX4_harm_2 20 rfl rfl)
theorem dX4_harm_70 : decode cX4_harm 70 = .ok (.aload_n 0, 1) := dk_42 (dk_at dksX4_harm_2 23 rfl rfl)
theorem dX4_harm_71 : decode cX4_harm 71 = .ok (.invokevirtual 403, 3) := dk_182 1 147 (dk_at dksX4_harm_3 0 rfl rfl)
theorem dX4_harm_74 : decode cX4_harm 74 = .ok (.aload_n 0, 1) := dk_42 (dk_at dksX4_harm_3 3 rfl rfl)
theorem dX4_harm_75 : decode cX4_harm 75 = .ok (.bipush 121, 2) := dk_16 121 (dk_at dksX4_harm_3 4 rfl rfl)
theorem dX4_harm_77 : decode cX4_harm 77 = .ok (.iload 5, 2) := dk_21 5 (dk_at dksX4_harm_3 6 rfl rfl)
theorem dX4_harm_79 : decode cX4_harm 79 = .ok (.invokevirtual 346, 3) := dk_182 1 90 (dk_at dksX4_harm_3 8 rfl rfl)
theorem dX4_harm_82 : decode cX4_harm 82 = .ok (.aload_n 0, 1) := dk_42 (dk_at dksX4_harm_3 11 rfl rfl)
theorem dX4_harm_83 : decode cX4_harm 83 = .ok (.iload_n 2, 1) := dk_28 (dk_at dksX4_harm_3 12 rfl rfl)
theorem dX4_harm_84 : decode cX4_harm 84 = .ok (.invokevirtual 406, 3) := dk_182 1 150 (dk_at dksX4_harm_3 13 rfl rfl)
theorem dX4_harm_87 : decode cX4_harm 87 = .ok (.aload_n 0, 1) := dk_42 (dk_at dksX4_harm_3 16 rfl rfl)
theorem dX4_harm_88 : decode cX4_harm 88 = .ok (.bipush 121, 2) := dk_16 121 (dk_at dksX4_harm_3 17 rfl rfl)
theorem dX4_harm_90 : decode cX4_harm 90 = .ok (.iload_n 1, 1) := dk_27 (dk_at dksX4_harm_3 19 rfl rfl)
theorem dX4_harm_91 : decode cX4_harm 91 = .ok (.invokevirtual 370, 3) := dk_182 1 114 (dk_at dksX4_harm_3 20 rfl rfl)
theorem dX4_harm_94 : decode cX4_harm 94 = .ok (.istore 6, 2) := dk_54 6 (dk_at dksX4_harm_4 0 rfl rfl)
theorem dX4_harm_96 : decode cX4_harm 96 = .ok (.iload 6, 2) := dk_21 6 (dk_at dksX4_harm_4 2 rfl rfl)
theorem dX4_harm_98 : decode cX4_harm 98 = .ok (.iload_n 3, 1) := dk_29 (dk_at dksX4_harm_4 4 rfl rfl)
theorem dX4_harm_99 : decode cX4_harm 99 = .ok (.if_icmp .lt 6, 3) := dk_161 0 6 (dk_at dksX4_harm_4 5 rfl rfl)
theorem dX4_harm_102 : decode cX4_harm 102 = .ok (.goto 10, 3) := dk_167 0 10 (dk_at dksX4_harm_4 8 rfl rfl)
theorem dX4_harm_105 : decode cX4_harm 105 = .ok (.iload 5, 2) := dk_21 5 (dk_at dksX4_harm_4 11 rfl rfl)
theorem dX4_harm_107 : decode cX4_harm 107 = .ok (.istore 4, 2) := dk_54 4 (dk_at dksX4_harm_4 13 rfl rfl)
theorem dX4_harm_109 : decode cX4_harm 109 = .ok (.iload 6, 2) := dk_21 6 (dk_at dksX4_harm_4 15 rfl rfl)
theorem dX4_harm_111 : decode cX4_harm 111 = .ok (.istore_n 3, 1) := dk_62 (dk_at dksX4_harm_4 17 rfl rfl)
theorem dX4_harm_112 : decode cX4_harm 112 = .ok (.iinc 5 1, 3) := dk_132 5 1 (dk_at dksX4_harm_4 18 rfl rfl)
theorem dX4_harm_115 : decode cX4_harm 115 = .ok (.goto (-71), 3) := dk_167 255 185 (dk_at dksX4_harm_4 21 rfl rfl)
theorem dX4_harm_118 : decode cX4_harm 118 = .ok (.iload 4, 2) := dk_21 4 (dk_at dksX4_harm_5 0 rfl rfl)
theorem dX4_harm_120 : decode cX4_harm 120 = .ok (.ireturn, 1) := dk_172 (dk_at dksX4_harm_5 2 rfl rfl)
abbrev mX4_harm : xM := (yX4_harm, cX4_harm, 7, (some .int), [])
def m_harm_112 (k44 : Int32 → Int32 → Int32 → Int32 → Int32 → MS → Option (Int32 × MS)) (x1 : Int32) (x2 : Int32) (x3 : Int32) (x4 : Int32) (x5 : Int32) (S : MS) : Option (Int32 × MS) :=
  k44 x1 x2 x3 x4 ((x5 + 1)) S
theorem m_harm_112_ok {G : xG} {m0 : Nat} {S0 : MS} {k44 : Int32 → Int32 → Int32 → Int32 → Int32 → MS → Option (Int32 × MS)} (hk44 : ∀ (x1 : Int32) (x2 : Int32) (x3 : Int32) (x4 : Int32) (x5 : Int32) (S : MS) (q : (Int32 × MS)), k44 x1 x2 x3 x4 x5 S = some q → XM G m0 mX4_harm 8 S0 (some (.int q.1)) q.2 44 [(0, .ref m0), (1, .int x1), (2, .int x2), (3, .int x3), (4, .int x4), (5, .int x5)] [] S) (x1 : Int32) (x2 : Int32) (x3 : Int32) (x4 : Int32) (x5 : Int32) (S : MS) (q : (Int32 × MS)) (hf : m_harm_112 k44 x1 x2 x3 x4 x5 S = some q) : XM G m0 mX4_harm 8 S0 (some (.int q.1)) q.2 112 [(0, .ref m0), (1, .int x1), (2, .int x2), (3, .int x3), (4, .int x4), (5, .int x5)] [] S := by
  intro h N Z
  unfold m_harm_112 at hf
  refine X.iinc (v := (x5 + 1)) (L' := [(5, .int (x5 + 1)), (0, .ref m0), (1, .int x1), (2, .int x2), (3, .int x3), (4, .int x4)]) dX4_harm_112 5 rfl rfl (Nat.le_of_ble_eq_true rfl) rfl ?_
  refine X.goto (tgt := 44) dX4_harm_115 (by decide) ?_
  refine X.sub [1, 2, 3, 4, 5, 0] (L' := [(0, .ref m0), (1, .int x1), (2, .int x2), (3, .int x3), (4, .int x4), (5, .int (x5 + 1))]) rfl ?_
  exact hk44 _ _ _ _ _ _ _ hf h N Z
def m_harm_44_b  (k44 : Int32 → Int32 → Int32 → Int32 → Int32 → MS → Option (Int32 × MS)) (x1 : Int32) (x2 : Int32) (x3 : Int32) (x4 : Int32) (x5 : Int32) (S : MS) : Option (Int32 × MS) :=
  (m_cells S).bind fun q47 =>
  if q47 ≤ x5 then
    some (x4, S)
  else
    (rdA S 13 ((61 : Int32) + x5)).bind fun v62 =>
    if v62 = (-1 : Int32) then
      m_harm_112 k44 x1 x2 x3 x4 x5 S
    else
      (m_tries S).bind fun q71 =>
      (m_clears ((121 : Int32)) x5 q71).bind fun q79 =>
      (m_daysGo x2 q79).bind fun q84 =>
      (m_votesOf ((121 : Int32)) x1 q84).bind fun q91 =>
      if q91 < x3 then
        m_harm_112 k44 x1 x2 q91 x5 x5 q84
      else
        m_harm_112 k44 x1 x2 x3 x4 x5 q84
def m_harm_44  : Nat → Int32 → Int32 → Int32 → Int32 → Int32 → MS → Option (Int32 × MS)
  | 0 => fun _ _ _ _ _ _ => none
  | n + 1 => fun x1 x2 x3 x4 x5 S => m_harm_44_b (m_harm_44 n) x1 x2 x3 x4 x5 S
theorem m_harm_44_bok {G : xG} {m0 : Nat} {S0 : MS}  {k44 : Int32 → Int32 → Int32 → Int32 → Int32 → MS → Option (Int32 × MS)}  (hk44 : ∀ (x1 : Int32) (x2 : Int32) (x3 : Int32) (x4 : Int32) (x5 : Int32) (S : MS) (q : (Int32 × MS)), k44 x1 x2 x3 x4 x5 S = some q → XM G m0 mX4_harm 8 S0 (some (.int q.1)) q.2 44 [(0, .ref m0), (1, .int x1), (2, .int x2), (3, .int x3), (4, .int x4), (5, .int x5)] [] S) (x1 : Int32) (x2 : Int32) (x3 : Int32) (x4 : Int32) (x5 : Int32) (S : MS) (q : (Int32 × MS)) (hf : m_harm_44_b k44 x1 x2 x3 x4 x5 S = some q) : XM G m0 mX4_harm 8 S0 (some (.int q.1)) q.2 44 [(0, .ref m0), (1, .int x1), (2, .int x2), (3, .int x3), (4, .int x4), (5, .int x5)] [] S := by
  intro h N Z
  unfold m_harm_44_b at hf
  refine X.iload dX4_harm_44 5 rfl ?_
  refine X.aload_n dX4_harm_46 rfl 0 rfl ?_
  obtain ⟨q47, h47, hf⟩ := ob hf
  refine X.callVi (As := []) (rest := [.int x5]) dX4_harm_47 (w_cells h47 h N Z) cX4_321 rfl rfl (Nat.le_of_ble_eq_true rfl) mh_0 rfl rfl (xD (Nat.le_of_ble_eq_true rfl)) xleN xleN ?_
  refine X.icmp_ge (tgt := 118) dX4_harm_50 (by decide) (fun c50 => ?_) (fun c50 => ?_)
  · have hf := if_t c50 hf
    refine X.iload dX4_harm_118 4 rfl ?_
    obtain rfl := Option.some.inj hf
    exact X.iret dX4_harm_120 rfl rfl rfl
  · have hf := if_f c50 hf
    refine X.aload_n dX4_harm_53 rfl 0 rfl ?_
    refine M.get (v := .ref (m0 + 13)) dX4_harm_54 fX4_69 (Nat.le_of_ble_eq_true rfl) rfl ?_
    refine X.bipush (v := 61) dX4_harm_57 (by decide) ?_
    refine X.iload dX4_harm_59 5 rfl ?_
    refine X.iadd dX4_harm_61 ?_
    obtain ⟨v62, h62, hf⟩ := ob hf
    refine M.iald dX4_harm_62 rfl h62 ?_
    refine X.iconst (v := -1) dX4_harm_63 (by decide) ?_
    refine X.icmp_ne (tgt := 70) dX4_harm_64 (by decide) (fun c64 => ?_) (fun c64 => ?_)
    · have hf := if_f c64 hf
      refine X.aload_n dX4_harm_70 rfl 0 rfl ?_
      obtain ⟨q71, h71, hf⟩ := ob hf
      refine X.callVv (As := []) (rest := []) (T2 := (mh m0 h q71, N, Z)) dX4_harm_71 (w_tries h71 h N Z) cX4_403 rfl rfl (Nat.le_of_ble_eq_true rfl) mh_0 rfl rfl (xD (Nat.le_of_ble_eq_true rfl)) xleN xleN ?_
      refine X.aload_n dX4_harm_74 rfl 0 rfl ?_
      refine X.bipush (v := 121) dX4_harm_75 (by decide) ?_
      refine X.iload dX4_harm_77 5 rfl ?_
      obtain ⟨q79, h79, hf⟩ := ob hf
      refine X.callVv (As := [.int (121 : Int32), .int x5]) (rest := []) (T2 := (mh m0 h q79, N, Z)) dX4_harm_79 (w_clears h79 h N Z) cX4_346 rfl rfl (Nat.le_of_ble_eq_true rfl) mh_0 rfl rfl (xD (Nat.le_of_ble_eq_true rfl)) xleN xleN ?_
      refine X.aload_n dX4_harm_82 rfl 0 rfl ?_
      refine X.iload_n dX4_harm_83 rfl 2 rfl ?_
      obtain ⟨q84, h84, hf⟩ := ob hf
      refine X.callVv (As := [.int x2]) (rest := []) (T2 := (mh m0 h q84, N, Z)) dX4_harm_84 (w_daysGo h84 h N Z) cX4_406 rfl rfl (Nat.le_of_ble_eq_true rfl) mh_0 rfl rfl (xD (Nat.le_of_ble_eq_true rfl)) xleN xleN ?_
      refine X.aload_n dX4_harm_87 rfl 0 rfl ?_
      refine X.bipush (v := 121) dX4_harm_88 (by decide) ?_
      refine X.iload_n dX4_harm_90 rfl 1 rfl ?_
      obtain ⟨q91, h91, hf⟩ := ob hf
      refine X.callVi (As := [.int (121 : Int32), .int x1]) (rest := []) dX4_harm_91 (w_votesOf h91 h N Z) cX4_370 rfl rfl (Nat.le_of_ble_eq_true rfl) mh_0 rfl rfl (xD (Nat.le_of_ble_eq_true rfl)) xleN xleN ?_
      refine X.istore (L' := [(6, .int q91), (0, .ref m0), (1, .int x1), (2, .int x2), (3, .int x3), (4, .int x4), (5, .int x5)]) dX4_harm_94 (Nat.le_of_ble_eq_true rfl) rfl ?_
      refine X.iload dX4_harm_96 0 rfl ?_
      refine X.iload_n dX4_harm_98 rfl 4 rfl ?_
      refine X.icmp_lt (tgt := 105) dX4_harm_99 (by decide) (fun c99 => ?_) (fun c99 => ?_)
      · have hf := if_t c99 hf
        refine X.iload dX4_harm_105 6 rfl ?_
        refine X.istore (L' := [(4, .int x5), (6, .int q91), (0, .ref m0), (1, .int x1), (2, .int x2), (3, .int x3), (5, .int x5)]) dX4_harm_107 (Nat.le_of_ble_eq_true rfl) rfl ?_
        refine X.iload dX4_harm_109 1 rfl ?_
        refine X.istore_n (L' := [(3, .int q91), (4, .int x5), (6, .int q91), (0, .ref m0), (1, .int x1), (2, .int x2), (5, .int x5)]) dX4_harm_111 rfl (Nat.le_of_ble_eq_true rfl) rfl ?_
        refine X.sub [3, 4, 5, 0, 1, 6] (L' := [(0, .ref m0), (1, .int x1), (2, .int x2), (3, .int q91), (4, .int x5), (5, .int x5)]) rfl ?_
        exact m_harm_112_ok hk44 _ _ _ _ _ _ _ hf h N Z
      · have hf := if_f c99 hf
        refine X.goto (tgt := 112) dX4_harm_102 (by decide) ?_
        refine X.sub [1, 2, 3, 4, 5, 6] (L' := [(0, .ref m0), (1, .int x1), (2, .int x2), (3, .int x3), (4, .int x4), (5, .int x5)]) rfl ?_
        exact m_harm_112_ok hk44 _ _ _ _ _ _ _ hf h N Z
    · have hf := if_t c64 hf
      refine X.goto (tgt := 112) dX4_harm_67 (by decide) ?_
      refine X.sub [0, 1, 2, 3, 4, 5] (L' := [(0, .ref m0), (1, .int x1), (2, .int x2), (3, .int x3), (4, .int x4), (5, .int x5)]) rfl ?_
      exact m_harm_112_ok hk44 _ _ _ _ _ _ _ hf h N Z
theorem m_harm_44_ok {G : xG} {m0 : Nat} {S0 : MS}   : ∀ (n : Nat) (x1 : Int32) (x2 : Int32) (x3 : Int32) (x4 : Int32) (x5 : Int32) (S : MS) (q : (Int32 × MS)), m_harm_44 n x1 x2 x3 x4 x5 S = some q → XM G m0 mX4_harm 8 S0 (some (.int q.1)) q.2 44 [(0, .ref m0), (1, .int x1), (2, .int x2), (3, .int x3), (4, .int x4), (5, .int x5)] [] S
  | 0, _, _, _, _, _, _, _, hf => by cases hf
  | n + 1, x1, x2, x3, x4, x5, S, q, hf => m_harm_44_bok (m_harm_44_ok n) x1 x2 x3 x4 x5 S q hf
def m_harm (x1 : Int32) (x2 : Int32) (S : MS) : Option (Int32 × MS) :=
  (m_isParty x1 ((sF S 0 (0 : Int32)))).bind fun q7 =>
  if q7.1 = 0 then
    some ((0 : Int32), q7.2)
  else
    (m_isDays x2 ((1 : Int32)) ((2 : Int32)) q7.2).bind fun q17 =>
    if q17.1 = 0 then
      some ((0 : Int32), q17.2)
    else
      (m_goesTo x2 q17.2).bind fun q27 =>
      (m_votesOf ((121 : Int32)) x1 q27).bind fun q34 =>
      m_harm_44 FU x1 x2 q34 ((-1 : Int32)) ((0 : Int32)) q27
theorem w_harm {G : xG} {m0 : Nat} {x1 : Int32} {x2 : Int32} {S : MS} {q : (Int32 × MS)} (hf : m_harm x1 x2 S = some q) : CtM G m0 mX4_harm 8 S [.ref m0, .int x1, .int x2] (some (.int q.1)) q.2 := by
  intro h N Z
  refine Ct.of (by decide +kernel) rfl (Nat.le_of_ble_eq_true rfl) (show Xr G _ 0 [(0, .ref m0), (1, .int x1), (2, .int x2)] [] _ from ?_)
  unfold m_harm at hf
  refine X.aload_n dX4_harm_0 rfl 0 rfl ?_
  refine X.iconst (v := 0) dX4_harm_1 (by decide) ?_
  refine M.putI dX4_harm_2 fX4_115 (by decide) rfl rfl rfl ?_
  refine X.aload_n dX4_harm_5 rfl 0 rfl ?_
  refine X.iload_n dX4_harm_6 rfl 1 rfl ?_
  obtain ⟨q7, h7, hf⟩ := ob hf
  refine X.callVi (As := [.int x1]) (rest := []) (T2 := (mh m0 h q7.2, N, Z)) dX4_harm_7 (w_isParty h7 h N Z) cX4_394 rfl rfl (Nat.le_of_ble_eq_true rfl) mh_0 rfl rfl (xD (Nat.le_of_ble_eq_true rfl)) xleN xleN ?_
  refine X.if_eq (tgt := 23) dX4_harm_10 (by decide) (fun c10 => ?_) (fun c10 => ?_)
  · have hf := if_t c10 hf
    refine X.iconst (v := 0) dX4_harm_23 (by decide) ?_
    obtain rfl := Option.some.inj hf
    exact X.iret dX4_harm_24 rfl rfl rfl
  · have hf := if_f c10 hf
    refine X.aload_n dX4_harm_13 rfl 0 rfl ?_
    refine X.iload_n dX4_harm_14 rfl 2 rfl ?_
    refine X.iconst (v := 1) dX4_harm_15 (by decide) ?_
    refine X.iconst (v := 2) dX4_harm_16 (by decide) ?_
    obtain ⟨q17, h17, hf⟩ := ob hf
    refine X.callVi (As := [.int x2, .int (1 : Int32), .int (2 : Int32)]) (rest := []) (T2 := (mh m0 h q17.2, N, Z)) dX4_harm_17 (w_isDays h17 h N Z) cX4_409 rfl rfl (Nat.le_of_ble_eq_true rfl) mh_0 rfl rfl (xD (Nat.le_of_ble_eq_true rfl)) xleN xleN ?_
    refine X.if_ne (tgt := 25) dX4_harm_20 (by decide) (fun c20 => ?_) (fun c20 => ?_)
    · have hf := if_f c20 hf
      refine X.aload_n dX4_harm_25 rfl 0 rfl ?_
      refine X.iload_n dX4_harm_26 rfl 2 rfl ?_
      obtain ⟨q27, h27, hf⟩ := ob hf
      refine X.callVv (As := [.int x2]) (rest := []) (T2 := (mh m0 h q27, N, Z)) dX4_harm_27 (w_goesTo h27 h N Z) cX4_412 rfl rfl (Nat.le_of_ble_eq_true rfl) mh_0 rfl rfl (xD (Nat.le_of_ble_eq_true rfl)) xleN xleN ?_
      refine X.aload_n dX4_harm_30 rfl 0 rfl ?_
      refine X.bipush (v := 121) dX4_harm_31 (by decide) ?_
      refine X.iload_n dX4_harm_33 rfl 1 rfl ?_
      obtain ⟨q34, h34, hf⟩ := ob hf
      refine X.callVi (As := [.int (121 : Int32), .int x1]) (rest := []) dX4_harm_34 (w_votesOf h34 h N Z) cX4_370 rfl rfl (Nat.le_of_ble_eq_true rfl) mh_0 rfl rfl (xD (Nat.le_of_ble_eq_true rfl)) xleN xleN ?_
      refine X.istore_n (L' := [(3, .int q34), (0, .ref m0), (1, .int x1), (2, .int x2)]) dX4_harm_37 rfl (Nat.le_of_ble_eq_true rfl) rfl ?_
      refine X.iconst (v := -1) dX4_harm_38 (by decide) ?_
      refine X.istore (L' := [(4, .int (-1 : Int32)), (3, .int q34), (0, .ref m0), (1, .int x1), (2, .int x2)]) dX4_harm_39 (Nat.le_of_ble_eq_true rfl) rfl ?_
      refine X.iconst (v := 0) dX4_harm_41 (by decide) ?_
      refine X.istore (L' := [(5, .int (0 : Int32)), (4, .int (-1 : Int32)), (3, .int q34), (0, .ref m0), (1, .int x1), (2, .int x2)]) dX4_harm_42 (Nat.le_of_ble_eq_true rfl) rfl ?_
      refine X.sub [3, 4, 5, 2, 1, 0] (L' := [(0, .ref m0), (1, .int x1), (2, .int x2), (3, .int q34), (4, .int (-1 : Int32)), (5, .int (0 : Int32))]) rfl ?_
      exact m_harm_44_ok FU _ _ _ _ _ _ _ hf h N Z
    · have hf := if_t c20 hf
      refine X.iconst (v := 0) dX4_harm_23 (by decide) ?_
      obtain rfl := Option.some.inj hf
      exact X.iret dX4_harm_24 rfl rfl rfl
/-! image -/
abbrev cX4_image : ByteArray := prog_12_method_121_code
def yX4_image : MethodName := ⟨RX4, "image", "()V"⟩
def dkwX4_image_3 : List UInt8 := [180, 0, 108, 182, 1, 47, 177]
abbrev dktX4_image_3 : List UInt8 := dkwX4_image_3 ++ []
def dkwX4_image_2 : List UInt8 := [132, 1, 1, 167, 255, 235, 42, 42, 180, 0, 72, 42, 180, 0, 105, 182, 1, 47, 42, 42, 180, 0, 93, 42]
abbrev dktX4_image_2 : List UInt8 := dkwX4_image_2 ++ dktX4_image_3
def dkwX4_image_1 : List UInt8 := [181, 1, 207, 3, 60, 27, 16, 121, 162, 0, 21, 42, 180, 0, 102, 27, 42, 180, 0, 69, 27, 46, 79]
abbrev dktX4_image_1 : List UInt8 := dkwX4_image_1 ++ dktX4_image_2
def dkwX4_image_0 : List UInt8 := [42, 3, 181, 0, 115, 42, 4, 181, 1, 57, 42, 42, 180, 1, 51, 181, 1, 204, 42, 42, 180, 1, 54]
abbrev dktX4_image_0 : List UInt8 := dkwX4_image_0 ++ dktX4_image_1
theorem dksX4_image_0 : cX4_image.data.toList.drop 0 = dktX4_image_0 := by decide +kernel
theorem dksX4_image_1 : cX4_image.data.toList.drop 23 = dktX4_image_1 := dk_seg dksX4_image_0 23 rfl rfl
theorem dksX4_image_2 : cX4_image.data.toList.drop 46 = dktX4_image_2 := dk_seg dksX4_image_1 23 rfl rfl
theorem dksX4_image_3 : cX4_image.data.toList.drop 70 = dktX4_image_3 := dk_seg dksX4_image_2 24 rfl rfl
theorem dX4_image_0 : decode cX4_image 0 = .ok (.aload_n 0, 1) := dk_42 (dk_at dksX4_image_0 0 rfl rfl)
theorem dX4_image_1 : decode cX4_image 1 = .ok (.iconst 0, 1) := dk_3 (dk_at dksX4_image_0 1 rfl rfl)
theorem dX4_image_2 : decode cX4_image 2 = .ok (.putfield 115, 3) := dk_181 0 115 (dk_at dksX4_image_0 2 rfl rfl)
theorem dX4_image_5 : decode cX4_image 5 = .ok (.aload_n 0, 1) := dk_42 (dk_at dksX4_image_0 5 rfl rfl)
theorem dX4_image_6 : decode cX4_image 6 = .ok (.iconst 1, 1) := dk_4 (dk_at dksX4_image_0 6 rfl rfl)
theorem dX4_image_7 : decode cX4_image 7 = .ok (.putfield 313, 3) := dk_181 1 57 (dk_at dksX4_image_0 7 rfl rfl)
theorem dX4_image_10 : decode cX4_image 10 = .ok (.aload_n 0, 1) := dk_42 (dk_at dksX4_image_0 10 rfl rfl)
theorem dX4_image_11 : decode cX4_image 11 = .ok (.aload_n 0, 1) := dk_42 (dk_at dksX4_image_0 11 rfl rfl)
theorem dX4_image_12 : decode cX4_image 12 = .ok (.getfield 307, 3) := dk_180 1 51 (dk_at dksX4_image_0 12 rfl rfl)
theorem dX4_image_15 : decode cX4_image 15 = .ok (.putfield 460, 3) := dk_181 1 204 (dk_at dksX4_image_0 15 rfl rfl)
theorem dX4_image_18 : decode cX4_image 18 = .ok (.aload_n 0, 1) := dk_42 (dk_at dksX4_image_0 18 rfl rfl)
theorem dX4_image_19 : decode cX4_image 19 = .ok (.aload_n 0, 1) := dk_42 (dk_at dksX4_image_0 19 rfl rfl)
theorem dX4_image_20 : decode cX4_image 20 = .ok (.getfield 310, 3) := dk_180 1 54 (dk_at dksX4_image_0 20 rfl rfl)
theorem dX4_image_23 : decode cX4_image 23 = .ok (.putfield 463, 3) := dk_181 1 207 (dk_at dksX4_image_1 0 rfl rfl)
theorem dX4_image_26 : decode cX4_image 26 = .ok (.iconst 0, 1) := dk_3 (dk_at dksX4_image_1 3 rfl rfl)
theorem dX4_image_27 : decode cX4_image 27 = .ok (.istore_n 1, 1) := dk_60 (dk_at dksX4_image_1 4 rfl rfl)
theorem dX4_image_28 : decode cX4_image 28 = .ok (.iload_n 1, 1) := dk_27 (dk_at dksX4_image_1 5 rfl rfl)
theorem dX4_image_29 : decode cX4_image 29 = .ok (.bipush 121, 2) := dk_16 121 (dk_at dksX4_image_1 6 rfl rfl)
theorem dX4_image_31 : decode cX4_image 31 = .ok (.if_icmp .ge 21, 3) := dk_162 0 21 (dk_at dksX4_image_1 8 rfl rfl)
theorem dX4_image_34 : decode cX4_image 34 = .ok (.aload_n 0, 1) := dk_42 (dk_at dksX4_image_1 11 rfl rfl)
theorem dX4_image_35 : decode cX4_image 35 = .ok (.getfield 102, 3) := dk_180 0 102 (dk_at dksX4_image_1 12 rfl rfl)
theorem dX4_image_38 : decode cX4_image 38 = .ok (.iload_n 1, 1) := dk_27 (dk_at dksX4_image_1 15 rfl rfl)
theorem dX4_image_39 : decode cX4_image 39 = .ok (.aload_n 0, 1) := dk_42 (dk_at dksX4_image_1 16 rfl rfl)
theorem dX4_image_40 : decode cX4_image 40 = .ok (.getfield 69, 3) := dk_180 0 69 (dk_at dksX4_image_1 17 rfl rfl)
theorem dX4_image_43 : decode cX4_image 43 = .ok (.iload_n 1, 1) := dk_27 (dk_at dksX4_image_1 20 rfl rfl)
theorem dX4_image_44 : decode cX4_image 44 = .ok (.iaload, 1) := dk_46 (dk_at dksX4_image_1 21 rfl rfl)
theorem dX4_image_45 : decode cX4_image 45 = .ok (.iastore, 1) := dk_79 (dk_at dksX4_image_1 22 rfl rfl)
theorem dX4_image_46 : decode cX4_image 46 = .ok (.iinc 1 1, 3) := dk_132 1 1 (dk_at dksX4_image_2 0 rfl rfl)
theorem dX4_image_49 : decode cX4_image 49 = .ok (.goto (-21), 3) := dk_167 255 235 (dk_at dksX4_image_2 3 rfl rfl)
theorem dX4_image_52 : decode cX4_image 52 = .ok (.aload_n 0, 1) := dk_42 (dk_at dksX4_image_2 6 rfl rfl)
theorem dX4_image_53 : decode cX4_image 53 = .ok (.aload_n 0, 1) := dk_42 (dk_at dksX4_image_2 7 rfl rfl)
theorem dX4_image_54 : decode cX4_image 54 = .ok (.getfield 72, 3) := dk_180 0 72 (dk_at dksX4_image_2 8 rfl rfl)
theorem dX4_image_57 : decode cX4_image 57 = .ok (.aload_n 0, 1) := dk_42 (dk_at dksX4_image_2 11 rfl rfl)
theorem dX4_image_58 : decode cX4_image 58 = .ok (.getfield 105, 3) := dk_180 0 105 (dk_at dksX4_image_2 12 rfl rfl)
theorem dX4_image_61 : decode cX4_image 61 = .ok (.invokevirtual 303, 3) := dk_182 1 47 (dk_at dksX4_image_2 15 rfl rfl)
theorem dX4_image_64 : decode cX4_image 64 = .ok (.aload_n 0, 1) := dk_42 (dk_at dksX4_image_2 18 rfl rfl)
theorem dX4_image_65 : decode cX4_image 65 = .ok (.aload_n 0, 1) := dk_42 (dk_at dksX4_image_2 19 rfl rfl)
theorem dX4_image_66 : decode cX4_image 66 = .ok (.getfield 93, 3) := dk_180 0 93 (dk_at dksX4_image_2 20 rfl rfl)
theorem dX4_image_69 : decode cX4_image 69 = .ok (.aload_n 0, 1) := dk_42 (dk_at dksX4_image_2 23 rfl rfl)
theorem dX4_image_70 : decode cX4_image 70 = .ok (.getfield 108, 3) := dk_180 0 108 (dk_at dksX4_image_3 0 rfl rfl)
theorem dX4_image_73 : decode cX4_image 73 = .ok (.invokevirtual 303, 3) := dk_182 1 47 (dk_at dksX4_image_3 3 rfl rfl)
theorem dX4_image_76 : decode cX4_image 76 = .ok (.return_, 1) := dk_177 (dk_at dksX4_image_3 6 rfl rfl)
abbrev mX4_image : xM := (yX4_image, cX4_image, 2, none, [])
def m_image_28_b  (k28 : Int32 → MS → Option MS) (x1 : Int32) (S : MS) : Option MS :=
  if (121 : Int32) ≤ x1 then
    (m_copies 14 25 S).bind fun q61 =>
    (m_copies 21 26 q61).bind fun q73 =>
    some q73
  else
    (rdA S 13 x1).bind fun v44 =>
    (wrA S 24 x1 v44).bind fun S45 =>
    k28 ((x1 + 1)) S45
def m_image_28  : Nat → Int32 → MS → Option MS
  | 0 => fun _ _ => none
  | n + 1 => fun x1 S => m_image_28_b (m_image_28 n) x1 S
theorem m_image_28_bok {G : xG} {m0 : Nat} {S0 : MS}  {k28 : Int32 → MS → Option MS}  (hk28 : ∀ (x1 : Int32) (S : MS) (q : MS), k28 x1 S = some q → XM G m0 mX4_image 2 S0 none q 28 [(0, .ref m0), (1, .int x1)] [] S) (x1 : Int32) (S : MS) (q : MS) (hf : m_image_28_b k28 x1 S = some q) : XM G m0 mX4_image 2 S0 none q 28 [(0, .ref m0), (1, .int x1)] [] S := by
  intro h N Z
  unfold m_image_28_b at hf
  refine X.iload_n dX4_image_28 rfl 1 rfl ?_
  refine X.bipush (v := 121) dX4_image_29 (by decide) ?_
  refine X.icmp_ge (tgt := 52) dX4_image_31 (by decide) (fun c31 => ?_) (fun c31 => ?_)
  · have hf := if_t c31 hf
    refine X.aload_n dX4_image_52 rfl 0 rfl ?_
    refine X.aload_n dX4_image_53 rfl 0 rfl ?_
    refine M.get (v := .ref (m0 + 14)) dX4_image_54 fX4_72 (Nat.le_of_ble_eq_true rfl) rfl ?_
    refine X.aload_n dX4_image_57 rfl 0 rfl ?_
    refine M.get (v := .ref (m0 + 25)) dX4_image_58 fX4_105 (Nat.le_of_ble_eq_true rfl) rfl ?_
    obtain ⟨q61, h61, hf⟩ := ob hf
    refine X.callVv (As := [.ref (m0 + 14), .ref (m0 + 25)]) (rest := []) (T2 := (mh m0 h q61, N, Z)) dX4_image_61 (w_copies h61 h N Z) cX4_303 rfl rfl (Nat.le_of_ble_eq_true rfl) mh_0 rfl rfl (xD (Nat.le_of_ble_eq_true rfl)) xleN xleN ?_
    refine X.aload_n dX4_image_64 rfl 0 rfl ?_
    refine X.aload_n dX4_image_65 rfl 0 rfl ?_
    refine M.get (v := .ref (m0 + 21)) dX4_image_66 fX4_93 (Nat.le_of_ble_eq_true rfl) rfl ?_
    refine X.aload_n dX4_image_69 rfl 0 rfl ?_
    refine M.get (v := .ref (m0 + 26)) dX4_image_70 fX4_108 (Nat.le_of_ble_eq_true rfl) rfl ?_
    obtain ⟨q73, h73, hf⟩ := ob hf
    refine X.callVv (As := [.ref (m0 + 21), .ref (m0 + 26)]) (rest := []) (T2 := (mh m0 h q73, N, Z)) dX4_image_73 (w_copies h73 h N Z) cX4_303 rfl rfl (Nat.le_of_ble_eq_true rfl) mh_0 rfl rfl (xD (Nat.le_of_ble_eq_true rfl)) xleN xleN ?_
    obtain rfl := Option.some.inj hf
    exact X.vret dX4_image_76 rfl rfl
  · have hf := if_f c31 hf
    refine X.aload_n dX4_image_34 rfl 0 rfl ?_
    refine M.get (v := .ref (m0 + 24)) dX4_image_35 fX4_102 (Nat.le_of_ble_eq_true rfl) rfl ?_
    refine X.iload_n dX4_image_38 rfl 1 rfl ?_
    refine X.aload_n dX4_image_39 rfl 0 rfl ?_
    refine M.get (v := .ref (m0 + 13)) dX4_image_40 fX4_69 (Nat.le_of_ble_eq_true rfl) rfl ?_
    refine X.iload_n dX4_image_43 rfl 1 rfl ?_
    obtain ⟨v44, h44, hf⟩ := ob hf
    refine M.iald dX4_image_44 rfl h44 ?_
    obtain ⟨S45, h45, hf⟩ := ob hf
    refine M.iast dX4_image_45 rfl h45 ?_
    refine X.iinc (v := (x1 + 1)) (L' := [(1, .int (x1 + 1)), (0, .ref m0)]) dX4_image_46 1 rfl rfl (Nat.le_of_ble_eq_true rfl) rfl ?_
    refine X.goto (tgt := 28) dX4_image_49 (by decide) ?_
    refine X.sub [1, 0] (L' := [(0, .ref m0), (1, .int (x1 + 1))]) rfl ?_
    exact hk28 _ _ _ hf h N Z
theorem m_image_28_ok {G : xG} {m0 : Nat} {S0 : MS}   : ∀ (n : Nat) (x1 : Int32) (S : MS) (q : MS), m_image_28 n x1 S = some q → XM G m0 mX4_image 2 S0 none q 28 [(0, .ref m0), (1, .int x1)] [] S
  | 0, _, _, _, hf => by cases hf
  | n + 1, x1, S, q, hf => m_image_28_bok (m_image_28_ok n) x1 S q hf
def m_image  (S : MS) : Option MS :=
  m_image_28 FU ((0 : Int32)) ((sF ((sF ((sF ((sF S 0 (0 : Int32))) 58 (1 : Int32))) 59 (((sF ((sF S 0 (0 : Int32))) 58 (1 : Int32))).1 46))) 60 (((sF ((sF ((sF S 0 (0 : Int32))) 58 (1 : Int32))) 59 (((sF ((sF S 0 (0 : Int32))) 58 (1 : Int32))).1 46))).1 53)))
theorem w_image {G : xG} {m0 : Nat}  {S : MS} {q : MS} (hf : m_image S = some q) : CtM G m0 mX4_image 2 S [.ref m0] none q := by
  intro h N Z
  refine Ct.of (by decide +kernel) rfl (Nat.le_of_ble_eq_true rfl) (show Xr G _ 0 [(0, .ref m0)] [] _ from ?_)
  unfold m_image at hf
  refine X.aload_n dX4_image_0 rfl 0 rfl ?_
  refine X.iconst (v := 0) dX4_image_1 (by decide) ?_
  refine M.putI dX4_image_2 fX4_115 (by decide) rfl rfl rfl ?_
  refine X.aload_n dX4_image_5 rfl 0 rfl ?_
  refine X.iconst (v := 1) dX4_image_6 (by decide) ?_
  refine M.putI dX4_image_7 fX4_313 (by decide) rfl rfl rfl ?_
  refine X.aload_n dX4_image_10 rfl 0 rfl ?_
  refine X.aload_n dX4_image_11 rfl 0 rfl ?_
  refine M.get (v := .int (((sF ((sF S 0 (0 : Int32))) 58 (1 : Int32))).1 46)) dX4_image_12 fX4_307 (Nat.le_of_ble_eq_true rfl) rfl ?_
  refine M.putI dX4_image_15 fX4_460 (by decide) rfl rfl rfl ?_
  refine X.aload_n dX4_image_18 rfl 0 rfl ?_
  refine X.aload_n dX4_image_19 rfl 0 rfl ?_
  refine M.get (v := .int (((sF ((sF ((sF S 0 (0 : Int32))) 58 (1 : Int32))) 59 (((sF ((sF S 0 (0 : Int32))) 58 (1 : Int32))).1 46))).1 53)) dX4_image_20 fX4_310 (Nat.le_of_ble_eq_true rfl) rfl ?_
  refine M.putI dX4_image_23 fX4_463 (by decide) rfl rfl rfl ?_
  refine X.iconst (v := 0) dX4_image_26 (by decide) ?_
  refine X.istore_n (L' := [(1, .int (0 : Int32)), (0, .ref m0)]) dX4_image_27 rfl (Nat.le_of_ble_eq_true rfl) rfl ?_
  refine X.sub [1, 0] (L' := [(0, .ref m0), (1, .int (0 : Int32))]) rfl ?_
  exact m_image_28_ok FU _ _ _ hf h N Z
/-! restore -/
abbrev cX4_restore : ByteArray := prog_12_method_122_code
def yX4_restore : MethodName := ⟨RX4, "restore", "()Z"⟩
def dkwX4_restore_3 : List UInt8 := [180, 0, 108, 42, 180, 0, 93, 182, 1, 47, 4, 172]
abbrev dktX4_restore_3 : List UInt8 := dkwX4_restore_3 ++ []
def dkwX4_restore_2 : List UInt8 := [46, 79, 132, 1, 1, 167, 255, 235, 42, 42, 180, 0, 105, 42, 180, 0, 72, 182, 1, 47, 42, 42]
abbrev dktX4_restore_2 : List UInt8 := dkwX4_restore_2 ++ dktX4_restore_3
def dkwX4_restore_1 : List UInt8 := [180, 1, 207, 181, 1, 54, 3, 60, 27, 16, 121, 162, 0, 21, 42, 180, 0, 69, 27, 42, 180, 0, 102, 27]
abbrev dktX4_restore_1 : List UInt8 := dkwX4_restore_1 ++ dktX4_restore_2
def dkwX4_restore_0 : List UInt8 := [42, 3, 181, 0, 115, 42, 180, 1, 57, 154, 0, 5, 3, 172, 42, 42, 180, 1, 204, 181, 1, 51, 42, 42]
abbrev dktX4_restore_0 : List UInt8 := dkwX4_restore_0 ++ dktX4_restore_1
theorem dksX4_restore_0 : cX4_restore.data.toList.drop 0 = dktX4_restore_0 := by decide +kernel
theorem dksX4_restore_1 : cX4_restore.data.toList.drop 24 = dktX4_restore_1 := dk_seg dksX4_restore_0 24 rfl rfl
theorem dksX4_restore_2 : cX4_restore.data.toList.drop 48 = dktX4_restore_2 := dk_seg dksX4_restore_1 24 rfl rfl
theorem dksX4_restore_3 : cX4_restore.data.toList.drop 70 = dktX4_restore_3 := dk_seg dksX4_restore_2 22 rfl rfl
theorem dX4_restore_0 : decode cX4_restore 0 = .ok (.aload_n 0, 1) := dk_42 (dk_at dksX4_restore_0 0 rfl rfl)
theorem dX4_restore_1 : decode cX4_restore 1 = .ok (.iconst 0, 1) := dk_3 (dk_at dksX4_restore_0 1 rfl rfl)
theorem dX4_restore_2 : decode cX4_restore 2 = .ok (.putfield 115, 3) := dk_181 0 115 (dk_at dksX4_restore_0 2 rfl rfl)
theorem dX4_restore_5 : decode cX4_restore 5 = .ok (.aload_n 0, 1) := dk_42 (dk_at dksX4_restore_0 5 rfl rfl)
theorem dX4_restore_6 : decode cX4_restore 6 = .ok (.getfield 313, 3) := dk_180 1 57 (dk_at dksX4_restore_0 6 rfl rfl)
theorem dX4_restore_9 : decode cX4_restore 9 = .ok (.ifCond .ne 5, 3) := dk_154 0 5 (dk_at dksX4_restore_0 9 rfl rfl)
theorem dX4_restore_12 : decode cX4_restore 12 = .ok (.iconst 0, 1) := dk_3 (dk_at dksX4_restore_0 12 rfl rfl)
theorem dX4_restore_13 : decode cX4_restore 13 = .ok (.ireturn, 1) := dk_172 (dk_at dksX4_restore_0 13 rfl rfl)
theorem dX4_restore_14 : decode cX4_restore 14 = .ok (.aload_n 0, 1) := dk_42 (dk_at dksX4_restore_0 14 rfl rfl)
theorem dX4_restore_15 : decode cX4_restore 15 = .ok (.aload_n 0, 1) := dk_42 (dk_at dksX4_restore_0 15 rfl rfl)
theorem dX4_restore_16 : decode cX4_restore 16 = .ok (.getfield 460, 3) := dk_180 1 204 (dk_at dksX4_restore_0 16 rfl rfl)
theorem dX4_restore_19 : decode cX4_restore 19 = .ok (.putfield 307, 3) := dk_181 1 51 (dk_at dksX4_restore_0 19 rfl rfl)
theorem dX4_restore_22 : decode cX4_restore 22 = .ok (.aload_n 0, 1) := dk_42 (dk_at dksX4_restore_0 22 rfl rfl)
theorem dX4_restore_23 : decode cX4_restore 23 = .ok (.aload_n 0, 1) := dk_42 (dk_at dksX4_restore_0 23 rfl rfl)
theorem dX4_restore_24 : decode cX4_restore 24 = .ok (.getfield 463, 3) := dk_180 1 207 (dk_at dksX4_restore_1 0 rfl rfl)
theorem dX4_restore_27 : decode cX4_restore 27 = .ok (.putfield 310, 3) := dk_181 1 54 (dk_at dksX4_restore_1 3 rfl rfl)
theorem dX4_restore_30 : decode cX4_restore 30 = .ok (.iconst 0, 1) := dk_3 (dk_at dksX4_restore_1 6 rfl rfl)
theorem dX4_restore_31 : decode cX4_restore 31 = .ok (.istore_n 1, 1) := dk_60 (dk_at dksX4_restore_1 7 rfl rfl)
theorem dX4_restore_32 : decode cX4_restore 32 = .ok (.iload_n 1, 1) := dk_27 (dk_at dksX4_restore_1 8 rfl rfl)
theorem dX4_restore_33 : decode cX4_restore 33 = .ok (.bipush 121, 2) := dk_16 121 (dk_at dksX4_restore_1 9 rfl rfl)
theorem dX4_restore_35 : decode cX4_restore 35 = .ok (.if_icmp .ge 21, 3) := dk_162 0 21 (dk_at dksX4_restore_1 11 rfl rfl)
theorem dX4_restore_38 : decode cX4_restore 38 = .ok (.aload_n 0, 1) := dk_42 (dk_at dksX4_restore_1 14 rfl rfl)
theorem dX4_restore_39 : decode cX4_restore 39 = .ok (.getfield 69, 3) := dk_180 0 69 (dk_at dksX4_restore_1 15 rfl rfl)
theorem dX4_restore_42 : decode cX4_restore 42 = .ok (.iload_n 1, 1) := dk_27 (dk_at dksX4_restore_1 18 rfl rfl)
theorem dX4_restore_43 : decode cX4_restore 43 = .ok (.aload_n 0, 1) := dk_42 (dk_at dksX4_restore_1 19 rfl rfl)
theorem dX4_restore_44 : decode cX4_restore 44 = .ok (.getfield 102, 3) := dk_180 0 102 (dk_at dksX4_restore_1 20 rfl rfl)
theorem dX4_restore_47 : decode cX4_restore 47 = .ok (.iload_n 1, 1) := dk_27 (dk_at dksX4_restore_1 23 rfl rfl)
theorem dX4_restore_48 : decode cX4_restore 48 = .ok (.iaload, 1) := dk_46 (dk_at dksX4_restore_2 0 rfl rfl)
theorem dX4_restore_49 : decode cX4_restore 49 = .ok (.iastore, 1) := dk_79 (dk_at dksX4_restore_2 1 rfl rfl)
theorem dX4_restore_50 : decode cX4_restore 50 = .ok (.iinc 1 1, 3) := dk_132 1 1 (dk_at dksX4_restore_2 2 rfl rfl)
theorem dX4_restore_53 : decode cX4_restore 53 = .ok (.goto (-21), 3) := dk_167 255 235 (dk_at dksX4_restore_2 5 rfl rfl)
theorem dX4_restore_56 : decode cX4_restore 56 = .ok (.aload_n 0, 1) := dk_42 (dk_at dksX4_restore_2 8 rfl rfl)
theorem dX4_restore_57 : decode cX4_restore 57 = .ok (.aload_n 0, 1) := dk_42 (dk_at dksX4_restore_2 9 rfl rfl)
theorem dX4_restore_58 : decode cX4_restore 58 = .ok (.getfield 105, 3) := dk_180 0 105 (dk_at dksX4_restore_2 10 rfl rfl)
theorem dX4_restore_61 : decode cX4_restore 61 = .ok (.aload_n 0, 1) := dk_42 (dk_at dksX4_restore_2 13 rfl rfl)
theorem dX4_restore_62 : decode cX4_restore 62 = .ok (.getfield 72, 3) := dk_180 0 72 (dk_at dksX4_restore_2 14 rfl rfl)
theorem dX4_restore_65 : decode cX4_restore 65 = .ok (.invokevirtual 303, 3) := dk_182 1 47 (dk_at dksX4_restore_2 17 rfl rfl)
theorem dX4_restore_68 : decode cX4_restore 68 = .ok (.aload_n 0, 1) := dk_42 (dk_at dksX4_restore_2 20 rfl rfl)
theorem dX4_restore_69 : decode cX4_restore 69 = .ok (.aload_n 0, 1) := dk_42 (dk_at dksX4_restore_2 21 rfl rfl)
theorem dX4_restore_70 : decode cX4_restore 70 = .ok (.getfield 108, 3) := dk_180 0 108 (dk_at dksX4_restore_3 0 rfl rfl)
theorem dX4_restore_73 : decode cX4_restore 73 = .ok (.aload_n 0, 1) := dk_42 (dk_at dksX4_restore_3 3 rfl rfl)
theorem dX4_restore_74 : decode cX4_restore 74 = .ok (.getfield 93, 3) := dk_180 0 93 (dk_at dksX4_restore_3 4 rfl rfl)
theorem dX4_restore_77 : decode cX4_restore 77 = .ok (.invokevirtual 303, 3) := dk_182 1 47 (dk_at dksX4_restore_3 7 rfl rfl)
theorem dX4_restore_80 : decode cX4_restore 80 = .ok (.iconst 1, 1) := dk_4 (dk_at dksX4_restore_3 10 rfl rfl)
theorem dX4_restore_81 : decode cX4_restore 81 = .ok (.ireturn, 1) := dk_172 (dk_at dksX4_restore_3 11 rfl rfl)
abbrev mX4_restore : xM := (yX4_restore, cX4_restore, 2, (some .boolean), [])
def m_restore_32_b  (k32 : Int32 → MS → Option (Int32 × MS)) (x1 : Int32) (S : MS) : Option (Int32 × MS) :=
  if (121 : Int32) ≤ x1 then
    (m_copies 25 14 S).bind fun q65 =>
    (m_copies 26 21 q65).bind fun q77 =>
    some ((1 : Int32), q77)
  else
    (rdA S 24 x1).bind fun v48 =>
    (wrA S 13 x1 v48).bind fun S49 =>
    k32 ((x1 + 1)) S49
def m_restore_32  : Nat → Int32 → MS → Option (Int32 × MS)
  | 0 => fun _ _ => none
  | n + 1 => fun x1 S => m_restore_32_b (m_restore_32 n) x1 S
theorem m_restore_32_bok {G : xG} {m0 : Nat} {S0 : MS}  {k32 : Int32 → MS → Option (Int32 × MS)}  (hk32 : ∀ (x1 : Int32) (S : MS) (q : (Int32 × MS)), k32 x1 S = some q → XM G m0 mX4_restore 2 S0 (some (.int q.1)) q.2 32 [(0, .ref m0), (1, .int x1)] [] S) (x1 : Int32) (S : MS) (q : (Int32 × MS)) (hf : m_restore_32_b k32 x1 S = some q) : XM G m0 mX4_restore 2 S0 (some (.int q.1)) q.2 32 [(0, .ref m0), (1, .int x1)] [] S := by
  intro h N Z
  unfold m_restore_32_b at hf
  refine X.iload_n dX4_restore_32 rfl 1 rfl ?_
  refine X.bipush (v := 121) dX4_restore_33 (by decide) ?_
  refine X.icmp_ge (tgt := 56) dX4_restore_35 (by decide) (fun c35 => ?_) (fun c35 => ?_)
  · have hf := if_t c35 hf
    refine X.aload_n dX4_restore_56 rfl 0 rfl ?_
    refine X.aload_n dX4_restore_57 rfl 0 rfl ?_
    refine M.get (v := .ref (m0 + 25)) dX4_restore_58 fX4_105 (Nat.le_of_ble_eq_true rfl) rfl ?_
    refine X.aload_n dX4_restore_61 rfl 0 rfl ?_
    refine M.get (v := .ref (m0 + 14)) dX4_restore_62 fX4_72 (Nat.le_of_ble_eq_true rfl) rfl ?_
    obtain ⟨q65, h65, hf⟩ := ob hf
    refine X.callVv (As := [.ref (m0 + 25), .ref (m0 + 14)]) (rest := []) (T2 := (mh m0 h q65, N, Z)) dX4_restore_65 (w_copies h65 h N Z) cX4_303 rfl rfl (Nat.le_of_ble_eq_true rfl) mh_0 rfl rfl (xD (Nat.le_of_ble_eq_true rfl)) xleN xleN ?_
    refine X.aload_n dX4_restore_68 rfl 0 rfl ?_
    refine X.aload_n dX4_restore_69 rfl 0 rfl ?_
    refine M.get (v := .ref (m0 + 26)) dX4_restore_70 fX4_108 (Nat.le_of_ble_eq_true rfl) rfl ?_
    refine X.aload_n dX4_restore_73 rfl 0 rfl ?_
    refine M.get (v := .ref (m0 + 21)) dX4_restore_74 fX4_93 (Nat.le_of_ble_eq_true rfl) rfl ?_
    obtain ⟨q77, h77, hf⟩ := ob hf
    refine X.callVv (As := [.ref (m0 + 26), .ref (m0 + 21)]) (rest := []) (T2 := (mh m0 h q77, N, Z)) dX4_restore_77 (w_copies h77 h N Z) cX4_303 rfl rfl (Nat.le_of_ble_eq_true rfl) mh_0 rfl rfl (xD (Nat.le_of_ble_eq_true rfl)) xleN xleN ?_
    refine X.iconst (v := 1) dX4_restore_80 (by decide) ?_
    obtain rfl := Option.some.inj hf
    exact X.iret dX4_restore_81 rfl rfl rfl
  · have hf := if_f c35 hf
    refine X.aload_n dX4_restore_38 rfl 0 rfl ?_
    refine M.get (v := .ref (m0 + 13)) dX4_restore_39 fX4_69 (Nat.le_of_ble_eq_true rfl) rfl ?_
    refine X.iload_n dX4_restore_42 rfl 1 rfl ?_
    refine X.aload_n dX4_restore_43 rfl 0 rfl ?_
    refine M.get (v := .ref (m0 + 24)) dX4_restore_44 fX4_102 (Nat.le_of_ble_eq_true rfl) rfl ?_
    refine X.iload_n dX4_restore_47 rfl 1 rfl ?_
    obtain ⟨v48, h48, hf⟩ := ob hf
    refine M.iald dX4_restore_48 rfl h48 ?_
    obtain ⟨S49, h49, hf⟩ := ob hf
    refine M.iast dX4_restore_49 rfl h49 ?_
    refine X.iinc (v := (x1 + 1)) (L' := [(1, .int (x1 + 1)), (0, .ref m0)]) dX4_restore_50 1 rfl rfl (Nat.le_of_ble_eq_true rfl) rfl ?_
    refine X.goto (tgt := 32) dX4_restore_53 (by decide) ?_
    refine X.sub [1, 0] (L' := [(0, .ref m0), (1, .int (x1 + 1))]) rfl ?_
    exact hk32 _ _ _ hf h N Z
theorem m_restore_32_ok {G : xG} {m0 : Nat} {S0 : MS}   : ∀ (n : Nat) (x1 : Int32) (S : MS) (q : (Int32 × MS)), m_restore_32 n x1 S = some q → XM G m0 mX4_restore 2 S0 (some (.int q.1)) q.2 32 [(0, .ref m0), (1, .int x1)] [] S
  | 0, _, _, _, hf => by cases hf
  | n + 1, x1, S, q, hf => m_restore_32_bok (m_restore_32_ok n) x1 S q hf
def m_restore  (S : MS) : Option (Int32 × MS) :=
  if (((sF S 0 (0 : Int32))).1 58) = 0 then
    some ((0 : Int32), (sF S 0 (0 : Int32)))
  else
    m_restore_32 FU ((0 : Int32)) ((sF ((sF ((sF S 0 (0 : Int32))) 46 (((sF S 0 (0 : Int32))).1 59))) 53 (((sF ((sF S 0 (0 : Int32))) 46 (((sF S 0 (0 : Int32))).1 59))).1 60)))
theorem w_restore {G : xG} {m0 : Nat}  {S : MS} {q : (Int32 × MS)} (hf : m_restore S = some q) : CtM G m0 mX4_restore 2 S [.ref m0] (some (.int q.1)) q.2 := by
  intro h N Z
  refine Ct.of (by decide +kernel) rfl (Nat.le_of_ble_eq_true rfl) (show Xr G _ 0 [(0, .ref m0)] [] _ from ?_)
  unfold m_restore at hf
  refine X.aload_n dX4_restore_0 rfl 0 rfl ?_
  refine X.iconst (v := 0) dX4_restore_1 (by decide) ?_
  refine M.putI dX4_restore_2 fX4_115 (by decide) rfl rfl rfl ?_
  refine X.aload_n dX4_restore_5 rfl 0 rfl ?_
  refine M.get (v := .int (((sF S 0 (0 : Int32))).1 58)) dX4_restore_6 fX4_313 (Nat.le_of_ble_eq_true rfl) rfl ?_
  refine X.if_ne (tgt := 14) dX4_restore_9 (by decide) (fun c9 => ?_) (fun c9 => ?_)
  · have hf := if_f c9 hf
    refine X.aload_n dX4_restore_14 rfl 0 rfl ?_
    refine X.aload_n dX4_restore_15 rfl 0 rfl ?_
    refine M.get (v := .int (((sF S 0 (0 : Int32))).1 59)) dX4_restore_16 fX4_460 (Nat.le_of_ble_eq_true rfl) rfl ?_
    refine M.putI dX4_restore_19 fX4_307 (by decide) rfl rfl rfl ?_
    refine X.aload_n dX4_restore_22 rfl 0 rfl ?_
    refine X.aload_n dX4_restore_23 rfl 0 rfl ?_
    refine M.get (v := .int (((sF ((sF S 0 (0 : Int32))) 46 (((sF S 0 (0 : Int32))).1 59))).1 60)) dX4_restore_24 fX4_463 (Nat.le_of_ble_eq_true rfl) rfl ?_
    refine M.putI dX4_restore_27 fX4_310 (by decide) rfl rfl rfl ?_
    refine X.iconst (v := 0) dX4_restore_30 (by decide) ?_
    refine X.istore_n (L' := [(1, .int (0 : Int32)), (0, .ref m0)]) dX4_restore_31 rfl (Nat.le_of_ble_eq_true rfl) rfl ?_
    refine X.sub [1, 0] (L' := [(0, .ref m0), (1, .int (0 : Int32))]) rfl ?_
    exact m_restore_32_ok FU _ _ _ hf h N Z
  · have hf := if_t c9 hf
    refine X.iconst (v := 0) dX4_restore_12 (by decide) ?_
    obtain rfl := Option.some.inj hf
    exact X.iret dX4_restore_13 rfl rfl rfl
