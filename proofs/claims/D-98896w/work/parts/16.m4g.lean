set_option maxRecDepth 100000
/-! forget -/
abbrev cX4_forget : ByteArray := prog_12_method_99_code
def yX4_forget : MethodName := ⟨RX4, "forget", "()V"⟩
def dkwX4_forget_0 : List UInt8 := [42, 3, 181, 0, 115, 42, 3, 181, 1, 54, 177]
abbrev dktX4_forget_0 : List UInt8 := dkwX4_forget_0 ++ []
theorem dksX4_forget_0 : cX4_forget.data.toList.drop 0 = dktX4_forget_0 := by decide +kernel
theorem dX4_forget_0 : decode cX4_forget 0 = .ok (.aload_n 0, 1) := dk_42 (dk_at dksX4_forget_0 0 rfl rfl)
theorem dX4_forget_1 : decode cX4_forget 1 = .ok (.iconst 0, 1) := dk_3 (dk_at dksX4_forget_0 1 rfl rfl)
theorem dX4_forget_2 : decode cX4_forget 2 = .ok (.putfield 115, 3) := dk_181 0 115 (dk_at dksX4_forget_0 2 rfl rfl)
theorem dX4_forget_5 : decode cX4_forget 5 = .ok (.aload_n 0, 1) := dk_42 (dk_at dksX4_forget_0 5 rfl rfl)
theorem dX4_forget_6 : decode cX4_forget 6 = .ok (.iconst 0, 1) := dk_3 (dk_at dksX4_forget_0 6 rfl rfl)
theorem dX4_forget_7 : decode cX4_forget 7 = .ok (.putfield 310, 3) := dk_181 1 54 (dk_at dksX4_forget_0 7 rfl rfl)
theorem dX4_forget_10 : decode cX4_forget 10 = .ok (.return_, 1) := dk_177 (dk_at dksX4_forget_0 10 rfl rfl)
abbrev mX4_forget : xM := (yX4_forget, cX4_forget, 1, none, [])
def m_forget  (S : MS) : Option MS :=
  some ((sF ((sF S 0 (0 : Int32))) 53 (0 : Int32)))
theorem w_forget {G : xG} {m0 : Nat}  {S : MS} {q : MS} (hf : m_forget S = some q) : CtM G m0 mX4_forget 1 S [.ref m0] none q := by
  intro h N Z
  refine Ct.of (by decide +kernel) rfl (Nat.le_of_ble_eq_true rfl) (show Xr G _ 0 [(0, .ref m0)] [] _ from ?_)
  unfold m_forget at hf
  refine X.aload_n dX4_forget_0 rfl 0 rfl ?_
  refine X.iconst (v := 0) dX4_forget_1 (by decide) ?_
  refine M.putI dX4_forget_2 fX4_115 (by decide) rfl rfl rfl ?_
  refine X.aload_n dX4_forget_5 rfl 0 rfl ?_
  refine X.iconst (v := 0) dX4_forget_6 (by decide) ?_
  refine M.putI dX4_forget_7 fX4_310 (by decide) rfl rfl rfl ?_
  obtain rfl := Option.some.inj hf
  exact X.vret dX4_forget_10 rfl rfl
/-! isSeen -/
abbrev cX4_isSeen : ByteArray := prog_12_method_100_code
def yX4_isSeen : MethodName := ⟨RX4, "isSeen", "()Z"⟩
def dkwX4_isSeen_5 : List UInt8 := [167, 255, 142, 4, 172]
abbrev dktX4_isSeen_5 : List UInt8 := dkwX4_isSeen_5 ++ []
def dkwX4_isSeen_4 : List UInt8 := [17, 0, 212, 28, 96, 46, 79, 132, 2, 1, 167, 255, 229, 42, 16, 121, 182, 1, 107, 132, 1, 1]
abbrev dktX4_isSeen_4 : List UInt8 := dkwX4_isSeen_4 ++ dktX4_isSeen_5
def dkwX4_isSeen_3 : List UInt8 := [160, 0, 35, 3, 61, 28, 42, 182, 1, 65, 162, 0, 25, 42, 180, 0, 96, 28, 42, 180, 0, 69]
abbrev dktX4_isSeen_3 : List UInt8 := dkwX4_isSeen_3 ++ dktX4_isSeen_4
def dkwX4_isSeen_2 : List UInt8 := [46, 42, 180, 0, 93, 6, 28, 104, 5, 96, 46, 159, 0, 5, 3, 172, 132, 2, 1, 167, 255, 199, 27, 8]
abbrev dktX4_isSeen_2 : List UInt8 := dkwX4_isSeen_2 ++ dktX4_isSeen_3
def dkwX4_isSeen_1 : List UInt8 := [104, 4, 96, 46, 27, 160, 0, 35, 42, 180, 0, 69, 17, 0, 212, 42, 180, 0, 93, 6, 28, 104, 46, 96]
abbrev dktX4_isSeen_1 : List UInt8 := dkwX4_isSeen_1 ++ dktX4_isSeen_2
def dkwX4_isSeen_0 : List UInt8 := [3, 60, 27, 16, 20, 163, 0, 114, 3, 61, 28, 42, 180, 1, 54, 162, 0, 55, 42, 180, 0, 93, 6, 28]
abbrev dktX4_isSeen_0 : List UInt8 := dkwX4_isSeen_0 ++ dktX4_isSeen_1
theorem dksX4_isSeen_0 : cX4_isSeen.data.toList.drop 0 = dktX4_isSeen_0 := by decide +kernel
theorem dksX4_isSeen_1 : cX4_isSeen.data.toList.drop 24 = dktX4_isSeen_1 := dk_seg dksX4_isSeen_0 24 rfl rfl
theorem dksX4_isSeen_2 : cX4_isSeen.data.toList.drop 48 = dktX4_isSeen_2 := dk_seg dksX4_isSeen_1 24 rfl rfl
theorem dksX4_isSeen_3 : cX4_isSeen.data.toList.drop 72 = dktX4_isSeen_3 := dk_seg dksX4_isSeen_2 24 rfl rfl
theorem dksX4_isSeen_4 : cX4_isSeen.data.toList.drop 94 = dktX4_isSeen_4 := dk_seg dksX4_isSeen_3 22 rfl rfl
theorem dksX4_isSeen_5 : cX4_isSeen.data.toList.drop 116 = dktX4_isSeen_5 := dk_seg dksX4_isSeen_4 22 rfl rfl
theorem dX4_isSeen_0 : decode cX4_isSeen 0 = .ok (.iconst 0, 1) := dk_3 (dk_at dksX4_isSeen_0 0 rfl rfl)
theorem dX4_isSeen_1 : decode cX4_isSeen 1 = .ok (.istore_n 1, 1) := dk_60 (dk_at dksX4_isSeen_0 1 rfl rfl)
theorem dX4_isSeen_2 : decode cX4_isSeen 2 = .ok (.iload_n 1, 1) := dk_27 (dk_at dksX4_isSeen_0 2 rfl rfl)
theorem dX4_isSeen_3 : decode cX4_isSeen 3 = .ok (.bipush 20, 2) := dk_16 20 (dk_at dksX4_isSeen_0 3 rfl rfl)
theorem dX4_isSeen_5 : decode cX4_isSeen 5 = .ok (.if_icmp .gt 114, 3) := dk_163 0 114 (dk_at dksX4_isSeen_0 5 rfl rfl)
theorem dX4_isSeen_8 : decode cX4_isSeen 8 = .ok (.iconst 0, 1) := dk_3 (dk_at dksX4_isSeen_0 8 rfl rfl)
theorem dX4_isSeen_9 : decode cX4_isSeen 9 = .ok (.istore_n 2, 1) := dk_61 (dk_at dksX4_isSeen_0 9 rfl rfl)
theorem dX4_isSeen_10 : decode cX4_isSeen 10 = .ok (.iload_n 2, 1) := dk_28 (dk_at dksX4_isSeen_0 10 rfl rfl)
theorem dX4_isSeen_11 : decode cX4_isSeen 11 = .ok (.aload_n 0, 1) := dk_42 (dk_at dksX4_isSeen_0 11 rfl rfl)
theorem dX4_isSeen_12 : decode cX4_isSeen 12 = .ok (.getfield 310, 3) := dk_180 1 54 (dk_at dksX4_isSeen_0 12 rfl rfl)
theorem dX4_isSeen_15 : decode cX4_isSeen 15 = .ok (.if_icmp .ge 55, 3) := dk_162 0 55 (dk_at dksX4_isSeen_0 15 rfl rfl)
theorem dX4_isSeen_18 : decode cX4_isSeen 18 = .ok (.aload_n 0, 1) := dk_42 (dk_at dksX4_isSeen_0 18 rfl rfl)
theorem dX4_isSeen_19 : decode cX4_isSeen 19 = .ok (.getfield 93, 3) := dk_180 0 93 (dk_at dksX4_isSeen_0 19 rfl rfl)
theorem dX4_isSeen_22 : decode cX4_isSeen 22 = .ok (.iconst 3, 1) := dk_6 (dk_at dksX4_isSeen_0 22 rfl rfl)
theorem dX4_isSeen_23 : decode cX4_isSeen 23 = .ok (.iload_n 2, 1) := dk_28 (dk_at dksX4_isSeen_0 23 rfl rfl)
theorem dX4_isSeen_24 : decode cX4_isSeen 24 = .ok (.imul, 1) := dk_104 (dk_at dksX4_isSeen_1 0 rfl rfl)
theorem dX4_isSeen_25 : decode cX4_isSeen 25 = .ok (.iconst 1, 1) := dk_4 (dk_at dksX4_isSeen_1 1 rfl rfl)
theorem dX4_isSeen_26 : decode cX4_isSeen 26 = .ok (.iadd, 1) := dk_96 (dk_at dksX4_isSeen_1 2 rfl rfl)
theorem dX4_isSeen_27 : decode cX4_isSeen 27 = .ok (.iaload, 1) := dk_46 (dk_at dksX4_isSeen_1 3 rfl rfl)
theorem dX4_isSeen_28 : decode cX4_isSeen 28 = .ok (.iload_n 1, 1) := dk_27 (dk_at dksX4_isSeen_1 4 rfl rfl)
theorem dX4_isSeen_29 : decode cX4_isSeen 29 = .ok (.if_icmp .ne 35, 3) := dk_160 0 35 (dk_at dksX4_isSeen_1 5 rfl rfl)
theorem dX4_isSeen_32 : decode cX4_isSeen 32 = .ok (.aload_n 0, 1) := dk_42 (dk_at dksX4_isSeen_1 8 rfl rfl)
theorem dX4_isSeen_33 : decode cX4_isSeen 33 = .ok (.getfield 69, 3) := dk_180 0 69 (dk_at dksX4_isSeen_1 9 rfl rfl)
theorem dX4_isSeen_36 : decode cX4_isSeen 36 = .ok (.sipush 212, 3) := dk_17 0 212 (dk_at dksX4_isSeen_1 12 rfl rfl)
theorem dX4_isSeen_39 : decode cX4_isSeen 39 = .ok (.aload_n 0, 1) := dk_42 (dk_at dksX4_isSeen_1 15 rfl rfl)
theorem dX4_isSeen_40 : decode cX4_isSeen 40 = .ok (.getfield 93, 3) := dk_180 0 93 (dk_at dksX4_isSeen_1 16 rfl rfl)
theorem dX4_isSeen_43 : decode cX4_isSeen 43 = .ok (.iconst 3, 1) := dk_6 (dk_at dksX4_isSeen_1 19 rfl rfl)
theorem dX4_isSeen_44 : decode cX4_isSeen 44 = .ok (.iload_n 2, 1) := dk_28 (dk_at dksX4_isSeen_1 20 rfl rfl)
theorem dX4_isSeen_45 : decode cX4_isSeen 45 = .ok (.imul, 1) := dk_104 (dk_at dksX4_isSeen_1 21 rfl rfl)
theorem dX4_isSeen_46 : decode cX4_isSeen 46 = .ok (.iaload, 1) := dk_46 (dk_at dksX4_isSeen_1 22 rfl rfl)
theorem dX4_isSeen_47 : decode cX4_isSeen 47 = .ok (.iadd, 1) := dk_96 (dk_at dksX4_isSeen_1 23 rfl rfl)
theorem dX4_isSeen_48 : decode cX4_isSeen 48 = .ok (.iaload, 1) := dk_46 (dk_at dksX4_isSeen_2 0 rfl rfl)
theorem dX4_isSeen_49 : decode cX4_isSeen 49 = .ok (.aload_n 0, 1) := dk_42 (dk_at dksX4_isSeen_2 1 rfl rfl)
theorem dX4_isSeen_50 : decode cX4_isSeen 50 = .ok (.getfield 93, 3) := dk_180 0 93 (dk_at dksX4_isSeen_2 2 rfl rfl)
theorem dX4_isSeen_53 : decode cX4_isSeen 53 = .ok (.iconst 3, 1) := dk_6 (dk_at dksX4_isSeen_2 5 rfl rfl)
theorem dX4_isSeen_54 : decode cX4_isSeen 54 = .ok (.iload_n 2, 1) := dk_28 (dk_at dksX4_isSeen_2 6 rfl rfl)
theorem dX4_isSeen_55 : decode cX4_isSeen 55 = .ok (.imul, 1) := dk_104 (dk_at dksX4_isSeen_2 7 rfl rfl)
theorem dX4_isSeen_56 : decode cX4_isSeen 56 = .ok (.iconst 2, 1) := dk_5 (dk_at dksX4_isSeen_2 8 rfl rfl)
theorem dX4_isSeen_57 : decode cX4_isSeen 57 = .ok (.iadd, 1) := dk_96 (dk_at dksX4_isSeen_2 9 rfl rfl)
theorem dX4_isSeen_58 : decode cX4_isSeen 58 = .ok (.iaload, 1) := dk_46 (dk_at dksX4_isSeen_2 10 rfl rfl)
theorem dX4_isSeen_59 : decode cX4_isSeen 59 = .ok (.if_icmp .eq 5, 3) := dk_159 0 5 (dk_at dksX4_isSeen_2 11 rfl rfl)
theorem dX4_isSeen_62 : decode cX4_isSeen 62 = .ok (.iconst 0, 1) := dk_3 (dk_at dksX4_isSeen_2 14 rfl rfl)
theorem dX4_isSeen_63 : decode cX4_isSeen 63 = .ok (.ireturn, 1) := dk_172 (dk_at dksX4_isSeen_2 15 rfl rfl)
theorem dX4_isSeen_64 : decode cX4_isSeen 64 = .ok (.iinc 2 1, 3) := dk_132 2 1 (dk_at dksX4_isSeen_2 16 rfl rfl)
theorem dX4_isSeen_67 : decode cX4_isSeen 67 = .ok (.goto (-57), 3) := dk_167 255 199 (dk_at dksX4_isSeen_2 19 rfl rfl)
theorem dX4_isSeen_70 : decode cX4_isSeen 70 = .ok (.iload_n 1, 1) := dk_27 (dk_at dksX4_isSeen_2 22 rfl rfl)
theorem dX4_isSeen_71 : decode cX4_isSeen 71 = .ok (.iconst 5, 1) := dk_8 (dk_at dksX4_isSeen_2 23 rfl rfl)
theorem dX4_isSeen_72 : decode cX4_isSeen 72 = .ok (.if_icmp .ne 35, 3) := dk_160 0 35 (dk_at dksX4_isSeen_3 0 rfl rfl)
theorem dX4_isSeen_75 : decode cX4_isSeen 75 = .ok (.iconst 0, 1) := dk_3 (dk_at dksX4_isSeen_3 3 rfl rfl)
theorem dX4_isSeen_76 : decode cX4_isSeen 76 = .ok (.istore_n 2, 1) := dk_61 (dk_at dksX4_isSeen_3 4 rfl rfl)
theorem dX4_isSeen_77 : decode cX4_isSeen 77 = .ok (.iload_n 2, 1) := dk_28 (dk_at dksX4_isSeen_3 5 rfl rfl)
theorem dX4_isSeen_78 : decode cX4_isSeen 78 = .ok (.aload_n 0, 1) := dk_42 (dk_at dksX4_isSeen_3 6 rfl rfl)
theorem dX4_isSeen_79 : decode cX4_isSeen 79 = .ok (.invokevirtual 321, 3) := dk_182 1 65 (dk_at dksX4_isSeen_3 7 rfl rfl)
theorem dX4_isSeen_82 : decode cX4_isSeen 82 = .ok (.if_icmp .ge 25, 3) := dk_162 0 25 (dk_at dksX4_isSeen_3 10 rfl rfl)
theorem dX4_isSeen_85 : decode cX4_isSeen 85 = .ok (.aload_n 0, 1) := dk_42 (dk_at dksX4_isSeen_3 13 rfl rfl)
theorem dX4_isSeen_86 : decode cX4_isSeen 86 = .ok (.getfield 96, 3) := dk_180 0 96 (dk_at dksX4_isSeen_3 14 rfl rfl)
theorem dX4_isSeen_89 : decode cX4_isSeen 89 = .ok (.iload_n 2, 1) := dk_28 (dk_at dksX4_isSeen_3 17 rfl rfl)
theorem dX4_isSeen_90 : decode cX4_isSeen 90 = .ok (.aload_n 0, 1) := dk_42 (dk_at dksX4_isSeen_3 18 rfl rfl)
theorem dX4_isSeen_91 : decode cX4_isSeen 91 = .ok (.getfield 69, 3) := dk_180 0 69 (dk_at dksX4_isSeen_3 19 rfl rfl)
theorem dX4_isSeen_94 : decode cX4_isSeen 94 = .ok (.sipush 212, 3) := dk_17 0 212 (dk_at dksX4_isSeen_4 0 rfl rfl)
theorem dX4_isSeen_97 : decode cX4_isSeen 97 = .ok (.iload_n 2, 1) := dk_28 (dk_at dksX4_isSeen_4 3 rfl rfl)
theorem dX4_isSeen_98 : decode cX4_isSeen 98 = .ok (.iadd, 1) := dk_96 (dk_at dksX4_isSeen_4 4 rfl rfl)
theorem dX4_isSeen_99 : decode cX4_isSeen 99 = .ok (.iaload, 1) := dk_46 (dk_at dksX4_isSeen_4 5 rfl rfl)
theorem dX4_isSeen_100 : decode cX4_isSeen 100 = .ok (.iastore, 1) := dk_79 (dk_at dksX4_isSeen_4 6 rfl rfl)
theorem dX4_isSeen_101 : decode cX4_isSeen 101 = .ok (.iinc 2 1, 3) := dk_132 2 1 (dk_at dksX4_isSeen_4 7 rfl rfl)
theorem dX4_isSeen_104 : decode cX4_isSeen 104 = .ok (.goto (-27), 3) := dk_167 255 229 (dk_at dksX4_isSeen_4 10 rfl rfl)
theorem dX4_isSeen_107 : decode cX4_isSeen 107 = .ok (.aload_n 0, 1) := dk_42 (dk_at dksX4_isSeen_4 13 rfl rfl)
theorem dX4_isSeen_108 : decode cX4_isSeen 108 = .ok (.bipush 121, 2) := dk_16 121 (dk_at dksX4_isSeen_4 14 rfl rfl)
theorem dX4_isSeen_110 : decode cX4_isSeen 110 = .ok (.invokevirtual 363, 3) := dk_182 1 107 (dk_at dksX4_isSeen_4 16 rfl rfl)
theorem dX4_isSeen_113 : decode cX4_isSeen 113 = .ok (.iinc 1 1, 3) := dk_132 1 1 (dk_at dksX4_isSeen_4 19 rfl rfl)
theorem dX4_isSeen_116 : decode cX4_isSeen 116 = .ok (.goto (-114), 3) := dk_167 255 142 (dk_at dksX4_isSeen_5 0 rfl rfl)
theorem dX4_isSeen_119 : decode cX4_isSeen 119 = .ok (.iconst 1, 1) := dk_4 (dk_at dksX4_isSeen_5 3 rfl rfl)
theorem dX4_isSeen_120 : decode cX4_isSeen 120 = .ok (.ireturn, 1) := dk_172 (dk_at dksX4_isSeen_5 4 rfl rfl)
abbrev mX4_isSeen : xM := (yX4_isSeen, cX4_isSeen, 3, (some .boolean), [])
def m_isSeen_64 (k2 : Int32 → MS → Option (Int32 × MS)) (k10 : Int32 → Int32 → MS → Option (Int32 × MS)) (x1 : Int32) (x2 : Int32) (S : MS) : Option (Int32 × MS) :=
  k10 x1 ((x2 + 1)) S
theorem m_isSeen_64_ok {G : xG} {m0 : Nat} {S0 : MS} {k2 : Int32 → MS → Option (Int32 × MS)} {k10 : Int32 → Int32 → MS → Option (Int32 × MS)} (hk2 : ∀ (x1 : Int32) (S : MS) (q : (Int32 × MS)), k2 x1 S = some q → XM G m0 mX4_isSeen 6 S0 (some (.int q.1)) q.2 2 [(0, .ref m0), (1, .int x1)] [] S) (hk10 : ∀ (x1 : Int32) (x2 : Int32) (S : MS) (q : (Int32 × MS)), k10 x1 x2 S = some q → XM G m0 mX4_isSeen 6 S0 (some (.int q.1)) q.2 10 [(0, .ref m0), (1, .int x1), (2, .int x2)] [] S) (x1 : Int32) (x2 : Int32) (S : MS) (q : (Int32 × MS)) (hf : m_isSeen_64 k2 k10 x1 x2 S = some q) : XM G m0 mX4_isSeen 6 S0 (some (.int q.1)) q.2 64 [(0, .ref m0), (1, .int x1), (2, .int x2)] [] S := by
  intro h N Z
  unfold m_isSeen_64 at hf
  refine X.iinc (v := (x2 + 1)) (L' := [(2, .int (x2 + 1)), (0, .ref m0), (1, .int x1)]) dX4_isSeen_64 2 rfl rfl (Nat.le_of_ble_eq_true rfl) rfl ?_
  refine X.goto (tgt := 10) dX4_isSeen_67 (by decide) ?_
  refine X.sub [1, 2, 0] (L' := [(0, .ref m0), (1, .int x1), (2, .int (x2 + 1))]) rfl ?_
  exact hk10 _ _ _ _ hf h N Z
def m_isSeen_107 (k2 : Int32 → MS → Option (Int32 × MS)) (x1 : Int32) (S : MS) : Option (Int32 × MS) :=
  (m_dayGoes ((121 : Int32)) S).bind fun q110 =>
  k2 ((x1 + 1)) q110
theorem m_isSeen_107_ok {G : xG} {m0 : Nat} {S0 : MS} {k2 : Int32 → MS → Option (Int32 × MS)} (hk2 : ∀ (x1 : Int32) (S : MS) (q : (Int32 × MS)), k2 x1 S = some q → XM G m0 mX4_isSeen 6 S0 (some (.int q.1)) q.2 2 [(0, .ref m0), (1, .int x1)] [] S) (x1 : Int32) (S : MS) (q : (Int32 × MS)) (hf : m_isSeen_107 k2 x1 S = some q) : XM G m0 mX4_isSeen 6 S0 (some (.int q.1)) q.2 107 [(0, .ref m0), (1, .int x1)] [] S := by
  intro h N Z
  unfold m_isSeen_107 at hf
  refine X.aload_n dX4_isSeen_107 rfl 0 rfl ?_
  refine X.bipush (v := 121) dX4_isSeen_108 (by decide) ?_
  obtain ⟨q110, h110, hf⟩ := ob hf
  refine X.callVv (As := [.int (121 : Int32)]) (rest := []) (T2 := (mh m0 h q110, N, Z)) dX4_isSeen_110 (w_dayGoes h110 h N Z) cX4_363 rfl rfl (Nat.le_of_ble_eq_true rfl) mh_0 rfl rfl (xD (Nat.le_of_ble_eq_true rfl)) xleN xleN ?_
  refine X.iinc (v := (x1 + 1)) (L' := [(1, .int (x1 + 1)), (0, .ref m0)]) dX4_isSeen_113 1 rfl rfl (Nat.le_of_ble_eq_true rfl) rfl ?_
  refine X.goto (tgt := 2) dX4_isSeen_116 (by decide) ?_
  refine X.sub [1, 0] (L' := [(0, .ref m0), (1, .int (x1 + 1))]) rfl ?_
  exact hk2 _ _ _ hf h N Z
def m_isSeen_77_b (k2 : Int32 → MS → Option (Int32 × MS)) (k77 : Int32 → Int32 → MS → Option (Int32 × MS)) (x1 : Int32) (x2 : Int32) (S : MS) : Option (Int32 × MS) :=
  (m_cells S).bind fun q79 =>
  if q79 ≤ x2 then
    m_isSeen_107 k2 x1 S
  else
    (rdA S 13 ((212 : Int32) + x2)).bind fun v99 =>
    (wrA S 22 x2 v99).bind fun S100 =>
    k77 x1 ((x2 + 1)) S100
def m_isSeen_77 (k2 : Int32 → MS → Option (Int32 × MS)) : Nat → Int32 → Int32 → MS → Option (Int32 × MS)
  | 0 => fun _ _ _ => none
  | n + 1 => fun x1 x2 S => m_isSeen_77_b k2 (m_isSeen_77 k2 n) x1 x2 S
theorem m_isSeen_77_bok {G : xG} {m0 : Nat} {S0 : MS} {k2 : Int32 → MS → Option (Int32 × MS)} {k77 : Int32 → Int32 → MS → Option (Int32 × MS)} (hk2 : ∀ (x1 : Int32) (S : MS) (q : (Int32 × MS)), k2 x1 S = some q → XM G m0 mX4_isSeen 6 S0 (some (.int q.1)) q.2 2 [(0, .ref m0), (1, .int x1)] [] S) (hk77 : ∀ (x1 : Int32) (x2 : Int32) (S : MS) (q : (Int32 × MS)), k77 x1 x2 S = some q → XM G m0 mX4_isSeen 6 S0 (some (.int q.1)) q.2 77 [(0, .ref m0), (1, .int x1), (2, .int x2)] [] S) (x1 : Int32) (x2 : Int32) (S : MS) (q : (Int32 × MS)) (hf : m_isSeen_77_b k2 k77 x1 x2 S = some q) : XM G m0 mX4_isSeen 6 S0 (some (.int q.1)) q.2 77 [(0, .ref m0), (1, .int x1), (2, .int x2)] [] S := by
  intro h N Z
  unfold m_isSeen_77_b at hf
  refine X.iload_n dX4_isSeen_77 rfl 2 rfl ?_
  refine X.aload_n dX4_isSeen_78 rfl 0 rfl ?_
  obtain ⟨q79, h79, hf⟩ := ob hf
  refine X.callVi (As := []) (rest := [.int x2]) dX4_isSeen_79 (w_cells h79 h N Z) cX4_321 rfl rfl (Nat.le_of_ble_eq_true rfl) mh_0 rfl rfl (xD (Nat.le_of_ble_eq_true rfl)) xleN xleN ?_
  refine X.icmp_ge (tgt := 107) dX4_isSeen_82 (by decide) (fun c82 => ?_) (fun c82 => ?_)
  · have hf := if_t c82 hf
    refine X.sub [0, 1] (L' := [(0, .ref m0), (1, .int x1)]) rfl ?_
    exact m_isSeen_107_ok hk2 _ _ _ hf h N Z
  · have hf := if_f c82 hf
    refine X.aload_n dX4_isSeen_85 rfl 0 rfl ?_
    refine M.get (v := .ref (m0 + 22)) dX4_isSeen_86 fX4_96 (Nat.le_of_ble_eq_true rfl) rfl ?_
    refine X.iload_n dX4_isSeen_89 rfl 2 rfl ?_
    refine X.aload_n dX4_isSeen_90 rfl 0 rfl ?_
    refine M.get (v := .ref (m0 + 13)) dX4_isSeen_91 fX4_69 (Nat.le_of_ble_eq_true rfl) rfl ?_
    refine X.sipush (v := 212) dX4_isSeen_94 (by decide) ?_
    refine X.iload_n dX4_isSeen_97 rfl 2 rfl ?_
    refine X.iadd dX4_isSeen_98 ?_
    obtain ⟨v99, h99, hf⟩ := ob hf
    refine M.iald dX4_isSeen_99 rfl h99 ?_
    obtain ⟨S100, h100, hf⟩ := ob hf
    refine M.iast dX4_isSeen_100 rfl h100 ?_
    refine X.iinc (v := (x2 + 1)) (L' := [(2, .int (x2 + 1)), (0, .ref m0), (1, .int x1)]) dX4_isSeen_101 2 rfl rfl (Nat.le_of_ble_eq_true rfl) rfl ?_
    refine X.goto (tgt := 77) dX4_isSeen_104 (by decide) ?_
    refine X.sub [1, 2, 0] (L' := [(0, .ref m0), (1, .int x1), (2, .int (x2 + 1))]) rfl ?_
    exact hk77 _ _ _ _ hf h N Z
theorem m_isSeen_77_ok {G : xG} {m0 : Nat} {S0 : MS} {k2 : Int32 → MS → Option (Int32 × MS)} (hk2 : ∀ (x1 : Int32) (S : MS) (q : (Int32 × MS)), k2 x1 S = some q → XM G m0 mX4_isSeen 6 S0 (some (.int q.1)) q.2 2 [(0, .ref m0), (1, .int x1)] [] S) : ∀ (n : Nat) (x1 : Int32) (x2 : Int32) (S : MS) (q : (Int32 × MS)), m_isSeen_77 k2 n x1 x2 S = some q → XM G m0 mX4_isSeen 6 S0 (some (.int q.1)) q.2 77 [(0, .ref m0), (1, .int x1), (2, .int x2)] [] S
  | 0, _, _, _, _, hf => by cases hf
  | n + 1, x1, x2, S, q, hf => m_isSeen_77_bok hk2 (m_isSeen_77_ok hk2 n) x1 x2 S q hf
def m_isSeen_10_b (k2 : Int32 → MS → Option (Int32 × MS)) (k10 : Int32 → Int32 → MS → Option (Int32 × MS)) (x1 : Int32) (x2 : Int32) (S : MS) : Option (Int32 × MS) :=
  if (S.1 53) ≤ x2 then
    if x1 = (5 : Int32) then
      m_isSeen_77 k2 FU x1 ((0 : Int32)) S
    else
      m_isSeen_107 k2 x1 S
  else
    (rdA S 21 (((3 : Int32) * x2) + (1 : Int32))).bind fun v27 =>
    if v27 = x1 then
      (rdA S 21 ((3 : Int32) * x2)).bind fun v46 =>
      (rdA S 13 ((212 : Int32) + v46)).bind fun v48 =>
      (rdA S 21 (((3 : Int32) * x2) + (2 : Int32))).bind fun v58 =>
      if v48 = v58 then
        m_isSeen_64 k2 k10 x1 x2 S
      else
        some ((0 : Int32), S)
    else
      m_isSeen_64 k2 k10 x1 x2 S
def m_isSeen_10 (k2 : Int32 → MS → Option (Int32 × MS)) : Nat → Int32 → Int32 → MS → Option (Int32 × MS)
  | 0 => fun _ _ _ => none
  | n + 1 => fun x1 x2 S => m_isSeen_10_b k2 (m_isSeen_10 k2 n) x1 x2 S
theorem m_isSeen_10_bok {G : xG} {m0 : Nat} {S0 : MS} {k2 : Int32 → MS → Option (Int32 × MS)} {k10 : Int32 → Int32 → MS → Option (Int32 × MS)} (hk2 : ∀ (x1 : Int32) (S : MS) (q : (Int32 × MS)), k2 x1 S = some q → XM G m0 mX4_isSeen 6 S0 (some (.int q.1)) q.2 2 [(0, .ref m0), (1, .int x1)] [] S) (hk10 : ∀ (x1 : Int32) (x2 : Int32) (S : MS) (q : (Int32 × MS)), k10 x1 x2 S = some q → XM G m0 mX4_isSeen 6 S0 (some (.int q.1)) q.2 10 [(0, .ref m0), (1, .int x1), (2, .int x2)] [] S) (x1 : Int32) (x2 : Int32) (S : MS) (q : (Int32 × MS)) (hf : m_isSeen_10_b k2 k10 x1 x2 S = some q) : XM G m0 mX4_isSeen 6 S0 (some (.int q.1)) q.2 10 [(0, .ref m0), (1, .int x1), (2, .int x2)] [] S := by
  intro h N Z
  unfold m_isSeen_10_b at hf
  refine X.iload_n dX4_isSeen_10 rfl 2 rfl ?_
  refine X.aload_n dX4_isSeen_11 rfl 0 rfl ?_
  refine M.get (v := .int (S.1 53)) dX4_isSeen_12 fX4_310 (Nat.le_of_ble_eq_true rfl) rfl ?_
  refine X.icmp_ge (tgt := 70) dX4_isSeen_15 (by decide) (fun c15 => ?_) (fun c15 => ?_)
  · have hf := if_t c15 hf
    refine X.iload_n dX4_isSeen_70 rfl 1 rfl ?_
    refine X.iconst (v := 5) dX4_isSeen_71 (by decide) ?_
    refine X.icmp_ne (tgt := 107) dX4_isSeen_72 (by decide) (fun c72 => ?_) (fun c72 => ?_)
    · have hf := if_f c72 hf
      refine X.sub [0, 1] (L' := [(0, .ref m0), (1, .int x1)]) rfl ?_
      exact m_isSeen_107_ok hk2 _ _ _ hf h N Z
    · have hf := if_t c72 hf
      refine X.iconst (v := 0) dX4_isSeen_75 (by decide) ?_
      refine X.istore_n (L' := [(2, .int (0 : Int32)), (0, .ref m0), (1, .int x1)]) dX4_isSeen_76 rfl (Nat.le_of_ble_eq_true rfl) rfl ?_
      refine X.sub [1, 2, 0] (L' := [(0, .ref m0), (1, .int x1), (2, .int (0 : Int32))]) rfl ?_
      exact m_isSeen_77_ok hk2 FU _ _ _ _ hf h N Z
  · have hf := if_f c15 hf
    refine X.aload_n dX4_isSeen_18 rfl 0 rfl ?_
    refine M.get (v := .ref (m0 + 21)) dX4_isSeen_19 fX4_93 (Nat.le_of_ble_eq_true rfl) rfl ?_
    refine X.iconst (v := 3) dX4_isSeen_22 (by decide) ?_
    refine X.iload_n dX4_isSeen_23 rfl 2 rfl ?_
    refine X.imul dX4_isSeen_24 ?_
    refine X.iconst (v := 1) dX4_isSeen_25 (by decide) ?_
    refine X.iadd dX4_isSeen_26 ?_
    obtain ⟨v27, h27, hf⟩ := ob hf
    refine M.iald dX4_isSeen_27 rfl h27 ?_
    refine X.iload_n dX4_isSeen_28 rfl 1 rfl ?_
    refine X.icmp_ne (tgt := 64) dX4_isSeen_29 (by decide) (fun c29 => ?_) (fun c29 => ?_)
    · have hf := if_f c29 hf
      refine X.sub [0, 1, 2] (L' := [(0, .ref m0), (1, .int x1), (2, .int x2)]) rfl ?_
      exact m_isSeen_64_ok hk2 hk10 _ _ _ _ hf h N Z
    · have hf := if_t c29 hf
      refine X.aload_n dX4_isSeen_32 rfl 0 rfl ?_
      refine M.get (v := .ref (m0 + 13)) dX4_isSeen_33 fX4_69 (Nat.le_of_ble_eq_true rfl) rfl ?_
      refine X.sipush (v := 212) dX4_isSeen_36 (by decide) ?_
      refine X.aload_n dX4_isSeen_39 rfl 0 rfl ?_
      refine M.get (v := .ref (m0 + 21)) dX4_isSeen_40 fX4_93 (Nat.le_of_ble_eq_true rfl) rfl ?_
      refine X.iconst (v := 3) dX4_isSeen_43 (by decide) ?_
      refine X.iload_n dX4_isSeen_44 rfl 2 rfl ?_
      refine X.imul dX4_isSeen_45 ?_
      obtain ⟨v46, h46, hf⟩ := ob hf
      refine M.iald dX4_isSeen_46 rfl h46 ?_
      refine X.iadd dX4_isSeen_47 ?_
      obtain ⟨v48, h48, hf⟩ := ob hf
      refine M.iald dX4_isSeen_48 rfl h48 ?_
      refine X.aload_n dX4_isSeen_49 rfl 0 rfl ?_
      refine M.get (v := .ref (m0 + 21)) dX4_isSeen_50 fX4_93 (Nat.le_of_ble_eq_true rfl) rfl ?_
      refine X.iconst (v := 3) dX4_isSeen_53 (by decide) ?_
      refine X.iload_n dX4_isSeen_54 rfl 2 rfl ?_
      refine X.imul dX4_isSeen_55 ?_
      refine X.iconst (v := 2) dX4_isSeen_56 (by decide) ?_
      refine X.iadd dX4_isSeen_57 ?_
      obtain ⟨v58, h58, hf⟩ := ob hf
      refine M.iald dX4_isSeen_58 rfl h58 ?_
      refine X.icmp_eq (tgt := 64) dX4_isSeen_59 (by decide) (fun c59 => ?_) (fun c59 => ?_)
      · have hf := if_t c59 hf
        refine X.sub [0, 1, 2] (L' := [(0, .ref m0), (1, .int x1), (2, .int x2)]) rfl ?_
        exact m_isSeen_64_ok hk2 hk10 _ _ _ _ hf h N Z
      · have hf := if_f c59 hf
        refine X.iconst (v := 0) dX4_isSeen_62 (by decide) ?_
        obtain rfl := Option.some.inj hf
        exact X.iret dX4_isSeen_63 rfl rfl rfl
theorem m_isSeen_10_ok {G : xG} {m0 : Nat} {S0 : MS} {k2 : Int32 → MS → Option (Int32 × MS)} (hk2 : ∀ (x1 : Int32) (S : MS) (q : (Int32 × MS)), k2 x1 S = some q → XM G m0 mX4_isSeen 6 S0 (some (.int q.1)) q.2 2 [(0, .ref m0), (1, .int x1)] [] S) : ∀ (n : Nat) (x1 : Int32) (x2 : Int32) (S : MS) (q : (Int32 × MS)), m_isSeen_10 k2 n x1 x2 S = some q → XM G m0 mX4_isSeen 6 S0 (some (.int q.1)) q.2 10 [(0, .ref m0), (1, .int x1), (2, .int x2)] [] S
  | 0, _, _, _, _, hf => by cases hf
  | n + 1, x1, x2, S, q, hf => m_isSeen_10_bok hk2 (m_isSeen_10_ok hk2 n) x1 x2 S q hf
def m_isSeen_2_b  (k2 : Int32 → MS → Option (Int32 × MS)) (x1 : Int32) (S : MS) : Option (Int32 × MS) :=
  if (20 : Int32) < x1 then
    some ((1 : Int32), S)
  else
    m_isSeen_10 k2 FU x1 ((0 : Int32)) S
def m_isSeen_2  : Nat → Int32 → MS → Option (Int32 × MS)
  | 0 => fun _ _ => none
  | n + 1 => fun x1 S => m_isSeen_2_b (m_isSeen_2 n) x1 S
theorem m_isSeen_2_bok {G : xG} {m0 : Nat} {S0 : MS}  {k2 : Int32 → MS → Option (Int32 × MS)}  (hk2 : ∀ (x1 : Int32) (S : MS) (q : (Int32 × MS)), k2 x1 S = some q → XM G m0 mX4_isSeen 6 S0 (some (.int q.1)) q.2 2 [(0, .ref m0), (1, .int x1)] [] S) (x1 : Int32) (S : MS) (q : (Int32 × MS)) (hf : m_isSeen_2_b k2 x1 S = some q) : XM G m0 mX4_isSeen 6 S0 (some (.int q.1)) q.2 2 [(0, .ref m0), (1, .int x1)] [] S := by
  intro h N Z
  unfold m_isSeen_2_b at hf
  refine X.iload_n dX4_isSeen_2 rfl 1 rfl ?_
  refine X.bipush (v := 20) dX4_isSeen_3 (by decide) ?_
  refine X.icmp_gt (tgt := 119) dX4_isSeen_5 (by decide) (fun c5 => ?_) (fun c5 => ?_)
  · have hf := if_t c5 hf
    refine X.iconst (v := 1) dX4_isSeen_119 (by decide) ?_
    obtain rfl := Option.some.inj hf
    exact X.iret dX4_isSeen_120 rfl rfl rfl
  · have hf := if_f c5 hf
    refine X.iconst (v := 0) dX4_isSeen_8 (by decide) ?_
    refine X.istore_n (L' := [(2, .int (0 : Int32)), (0, .ref m0), (1, .int x1)]) dX4_isSeen_9 rfl (Nat.le_of_ble_eq_true rfl) rfl ?_
    refine X.sub [1, 2, 0] (L' := [(0, .ref m0), (1, .int x1), (2, .int (0 : Int32))]) rfl ?_
    exact m_isSeen_10_ok hk2 FU _ _ _ _ hf h N Z
theorem m_isSeen_2_ok {G : xG} {m0 : Nat} {S0 : MS}   : ∀ (n : Nat) (x1 : Int32) (S : MS) (q : (Int32 × MS)), m_isSeen_2 n x1 S = some q → XM G m0 mX4_isSeen 6 S0 (some (.int q.1)) q.2 2 [(0, .ref m0), (1, .int x1)] [] S
  | 0, _, _, _, hf => by cases hf
  | n + 1, x1, S, q, hf => m_isSeen_2_bok (m_isSeen_2_ok n) x1 S q hf
def m_isSeen  (S : MS) : Option (Int32 × MS) :=
  m_isSeen_2 FU ((0 : Int32)) S
theorem w_isSeen {G : xG} {m0 : Nat}  {S : MS} {q : (Int32 × MS)} (hf : m_isSeen S = some q) : CtM G m0 mX4_isSeen 6 S [.ref m0] (some (.int q.1)) q.2 := by
  intro h N Z
  refine Ct.of (by decide +kernel) rfl (Nat.le_of_ble_eq_true rfl) (show Xr G _ 0 [(0, .ref m0)] [] _ from ?_)
  unfold m_isSeen at hf
  refine X.iconst (v := 0) dX4_isSeen_0 (by decide) ?_
  refine X.istore_n (L' := [(1, .int (0 : Int32)), (0, .ref m0)]) dX4_isSeen_1 rfl (Nat.le_of_ble_eq_true rfl) rfl ?_
  refine X.sub [1, 0] (L' := [(0, .ref m0), (1, .int (0 : Int32))]) rfl ?_
  exact m_isSeen_2_ok FU _ _ _ hf h N Z
theorem cX4_431 : xCV RX4 431 mX4_isSeen 0 := ⟨lw_V q2140 q2142 qs112 q127 q2143, rfl, ⟨by decide +kernel, by decide +kernel, by decide +kernel⟩, Nat.le_of_ble_eq_true rfl⟩
/-! isGuess -/
abbrev cX4_isGuess : ByteArray := prog_12_method_101_code
def yX4_isGuess : MethodName := ⟨RX4, "isGuess", "(I)Z"⟩
def dkwX4_isGuess_2 : List UInt8 := [180, 0, 69, 17, 0, 212, 28, 96, 4, 79, 42, 182, 1, 175, 172]
abbrev dktX4_isGuess_2 : List UInt8 := dkwX4_isGuess_2 ++ []
def dkwX4_isGuess_1 : List UInt8 := [161, 0, 5, 3, 172, 42, 182, 1, 147, 42, 180, 0, 69, 17, 0, 182, 28, 96, 27, 7, 112, 79, 42]
abbrev dktX4_isGuess_1 : List UInt8 := dkwX4_isGuess_1 ++ dktX4_isGuess_2
def dkwX4_isGuess_0 : List UInt8 := [27, 7, 108, 61, 42, 180, 0, 69, 16, 61, 28, 96, 46, 2, 160, 0, 13, 27, 7, 112, 42, 180, 1, 41]
abbrev dktX4_isGuess_0 : List UInt8 := dkwX4_isGuess_0 ++ dktX4_isGuess_1
theorem dksX4_isGuess_0 : cX4_isGuess.data.toList.drop 0 = dktX4_isGuess_0 := by decide +kernel
theorem dksX4_isGuess_1 : cX4_isGuess.data.toList.drop 24 = dktX4_isGuess_1 := dk_seg dksX4_isGuess_0 24 rfl rfl
theorem dksX4_isGuess_2 : cX4_isGuess.data.toList.drop 47 = dktX4_isGuess_2 := dk_seg dksX4_isGuess_1 23 rfl rfl
theorem dX4_isGuess_0 : decode cX4_isGuess 0 = .ok (.iload_n 1, 1) := dk_27 (dk_at dksX4_isGuess_0 0 rfl rfl)
theorem dX4_isGuess_1 : decode cX4_isGuess 1 = .ok (.iconst 4, 1) := dk_7 (dk_at dksX4_isGuess_0 1 rfl rfl)
theorem dX4_isGuess_2 : decode cX4_isGuess 2 = .ok (.idiv, 1) := dk_108 (dk_at dksX4_isGuess_0 2 rfl rfl)
theorem dX4_isGuess_3 : decode cX4_isGuess 3 = .ok (.istore_n 2, 1) := dk_61 (dk_at dksX4_isGuess_0 3 rfl rfl)
theorem dX4_isGuess_4 : decode cX4_isGuess 4 = .ok (.aload_n 0, 1) := dk_42 (dk_at dksX4_isGuess_0 4 rfl rfl)
theorem dX4_isGuess_5 : decode cX4_isGuess 5 = .ok (.getfield 69, 3) := dk_180 0 69 (dk_at dksX4_isGuess_0 5 rfl rfl)
theorem dX4_isGuess_8 : decode cX4_isGuess 8 = .ok (.bipush 61, 2) := dk_16 61 (dk_at dksX4_isGuess_0 8 rfl rfl)
theorem dX4_isGuess_10 : decode cX4_isGuess 10 = .ok (.iload_n 2, 1) := dk_28 (dk_at dksX4_isGuess_0 10 rfl rfl)
theorem dX4_isGuess_11 : decode cX4_isGuess 11 = .ok (.iadd, 1) := dk_96 (dk_at dksX4_isGuess_0 11 rfl rfl)
theorem dX4_isGuess_12 : decode cX4_isGuess 12 = .ok (.iaload, 1) := dk_46 (dk_at dksX4_isGuess_0 12 rfl rfl)
theorem dX4_isGuess_13 : decode cX4_isGuess 13 = .ok (.iconst (-1), 1) := dk_2 (dk_at dksX4_isGuess_0 13 rfl rfl)
theorem dX4_isGuess_14 : decode cX4_isGuess 14 = .ok (.if_icmp .ne 13, 3) := dk_160 0 13 (dk_at dksX4_isGuess_0 14 rfl rfl)
theorem dX4_isGuess_17 : decode cX4_isGuess 17 = .ok (.iload_n 1, 1) := dk_27 (dk_at dksX4_isGuess_0 17 rfl rfl)
theorem dX4_isGuess_18 : decode cX4_isGuess 18 = .ok (.iconst 4, 1) := dk_7 (dk_at dksX4_isGuess_0 18 rfl rfl)
theorem dX4_isGuess_19 : decode cX4_isGuess 19 = .ok (.irem, 1) := dk_112 (dk_at dksX4_isGuess_0 19 rfl rfl)
theorem dX4_isGuess_20 : decode cX4_isGuess 20 = .ok (.aload_n 0, 1) := dk_42 (dk_at dksX4_isGuess_0 20 rfl rfl)
theorem dX4_isGuess_21 : decode cX4_isGuess 21 = .ok (.getfield 297, 3) := dk_180 1 41 (dk_at dksX4_isGuess_0 21 rfl rfl)
theorem dX4_isGuess_24 : decode cX4_isGuess 24 = .ok (.if_icmp .lt 5, 3) := dk_161 0 5 (dk_at dksX4_isGuess_1 0 rfl rfl)
theorem dX4_isGuess_27 : decode cX4_isGuess 27 = .ok (.iconst 0, 1) := dk_3 (dk_at dksX4_isGuess_1 3 rfl rfl)
theorem dX4_isGuess_28 : decode cX4_isGuess 28 = .ok (.ireturn, 1) := dk_172 (dk_at dksX4_isGuess_1 4 rfl rfl)
theorem dX4_isGuess_29 : decode cX4_isGuess 29 = .ok (.aload_n 0, 1) := dk_42 (dk_at dksX4_isGuess_1 5 rfl rfl)
theorem dX4_isGuess_30 : decode cX4_isGuess 30 = .ok (.invokevirtual 403, 3) := dk_182 1 147 (dk_at dksX4_isGuess_1 6 rfl rfl)
theorem dX4_isGuess_33 : decode cX4_isGuess 33 = .ok (.aload_n 0, 1) := dk_42 (dk_at dksX4_isGuess_1 9 rfl rfl)
theorem dX4_isGuess_34 : decode cX4_isGuess 34 = .ok (.getfield 69, 3) := dk_180 0 69 (dk_at dksX4_isGuess_1 10 rfl rfl)
theorem dX4_isGuess_37 : decode cX4_isGuess 37 = .ok (.sipush 182, 3) := dk_17 0 182 (dk_at dksX4_isGuess_1 13 rfl rfl)
theorem dX4_isGuess_40 : decode cX4_isGuess 40 = .ok (.iload_n 2, 1) := dk_28 (dk_at dksX4_isGuess_1 16 rfl rfl)
theorem dX4_isGuess_41 : decode cX4_isGuess 41 = .ok (.iadd, 1) := dk_96 (dk_at dksX4_isGuess_1 17 rfl rfl)
theorem dX4_isGuess_42 : decode cX4_isGuess 42 = .ok (.iload_n 1, 1) := dk_27 (dk_at dksX4_isGuess_1 18 rfl rfl)
theorem dX4_isGuess_43 : decode cX4_isGuess 43 = .ok (.iconst 4, 1) := dk_7 (dk_at dksX4_isGuess_1 19 rfl rfl)
theorem dX4_isGuess_44 : decode cX4_isGuess 44 = .ok (.irem, 1) := dk_112 (dk_at dksX4_isGuess_1 20 rfl rfl)
theorem dX4_isGuess_45 : decode cX4_isGuess 45 = .ok (.iastore, 1) := dk_79 (dk_at dksX4_isGuess_1 21 rfl rfl)
theorem dX4_isGuess_46 : decode cX4_isGuess 46 = .ok (.aload_n 0, 1) := dk_42 (dk_at dksX4_isGuess_1 22 rfl rfl)
theorem dX4_isGuess_47 : decode cX4_isGuess 47 = .ok (.getfield 69, 3) := dk_180 0 69 (dk_at dksX4_isGuess_2 0 rfl rfl)
theorem dX4_isGuess_50 : decode cX4_isGuess 50 = .ok (.sipush 212, 3) := dk_17 0 212 (dk_at dksX4_isGuess_2 3 rfl rfl)
theorem dX4_isGuess_53 : decode cX4_isGuess 53 = .ok (.iload_n 2, 1) := dk_28 (dk_at dksX4_isGuess_2 6 rfl rfl)
theorem dX4_isGuess_54 : decode cX4_isGuess 54 = .ok (.iadd, 1) := dk_96 (dk_at dksX4_isGuess_2 7 rfl rfl)
theorem dX4_isGuess_55 : decode cX4_isGuess 55 = .ok (.iconst 1, 1) := dk_4 (dk_at dksX4_isGuess_2 8 rfl rfl)
theorem dX4_isGuess_56 : decode cX4_isGuess 56 = .ok (.iastore, 1) := dk_79 (dk_at dksX4_isGuess_2 9 rfl rfl)
theorem dX4_isGuess_57 : decode cX4_isGuess 57 = .ok (.aload_n 0, 1) := dk_42 (dk_at dksX4_isGuess_2 10 rfl rfl)
theorem dX4_isGuess_58 : decode cX4_isGuess 58 = .ok (.invokevirtual 431, 3) := dk_182 1 175 (dk_at dksX4_isGuess_2 11 rfl rfl)
theorem dX4_isGuess_61 : decode cX4_isGuess 61 = .ok (.ireturn, 1) := dk_172 (dk_at dksX4_isGuess_2 14 rfl rfl)
abbrev mX4_isGuess : xM := (yX4_isGuess, cX4_isGuess, 3, (some .boolean), [])
def m_isGuess (x1 : Int32) (S : MS) : Option (Int32 × MS) :=
  if (4 : Int32) = 0 then none else
  (rdA S 13 ((61 : Int32) + (x1 / (4 : Int32)))).bind fun v12 =>
  if v12 = (-1 : Int32) then
    if (4 : Int32) = 0 then none else
    if (x1 - x1 / (4 : Int32) * (4 : Int32)) < (S.1 3) then
      (m_tries S).bind fun q30 =>
      if (4 : Int32) = 0 then none else
      (wrA q30 13 ((182 : Int32) + (x1 / (4 : Int32))) (x1 - x1 / (4 : Int32) * (4 : Int32))).bind fun S45 =>
      (wrA S45 13 ((212 : Int32) + (x1 / (4 : Int32))) (1 : Int32)).bind fun S56 =>
      (m_isSeen S56).bind fun q58 =>
      if ¬ zok q58.1 = true then none else some (q58.1, q58.2)
    else
      some ((0 : Int32), S)
  else
    some ((0 : Int32), S)
theorem w_isGuess {G : xG} {m0 : Nat} {x1 : Int32} {S : MS} {q : (Int32 × MS)} (hf : m_isGuess x1 S = some q) : CtM G m0 mX4_isGuess 7 S [.ref m0, .int x1] (some (.int q.1)) q.2 := by
  intro h N Z
  refine Ct.of (by decide +kernel) rfl (Nat.le_of_ble_eq_true rfl) (show Xr G _ 0 [(0, .ref m0), (1, .int x1)] [] _ from ?_)
  unfold m_isGuess at hf
  refine X.iload_n dX4_isGuess_0 rfl 1 rfl ?_
  refine X.iconst (v := 4) dX4_isGuess_1 (by decide) ?_
  obtain ⟨c2, hf⟩ := if_n hf
  refine X.idiv dX4_isGuess_2 c2 ?_
  refine X.istore_n (L' := [(2, .int (x1 / (4 : Int32))), (0, .ref m0), (1, .int x1)]) dX4_isGuess_3 rfl (Nat.le_of_ble_eq_true rfl) rfl ?_
  refine X.aload_n dX4_isGuess_4 rfl 1 rfl ?_
  refine M.get (v := .ref (m0 + 13)) dX4_isGuess_5 fX4_69 (Nat.le_of_ble_eq_true rfl) rfl ?_
  refine X.bipush (v := 61) dX4_isGuess_8 (by decide) ?_
  refine X.iload_n dX4_isGuess_10 rfl 0 rfl ?_
  refine X.iadd dX4_isGuess_11 ?_
  obtain ⟨v12, h12, hf⟩ := ob hf
  refine M.iald dX4_isGuess_12 rfl h12 ?_
  refine X.iconst (v := -1) dX4_isGuess_13 (by decide) ?_
  refine X.icmp_ne (tgt := 27) dX4_isGuess_14 (by decide) (fun c14 => ?_) (fun c14 => ?_)
  · have hf := if_f c14 hf
    refine X.iconst (v := 0) dX4_isGuess_27 (by decide) ?_
    obtain rfl := Option.some.inj hf
    exact X.iret dX4_isGuess_28 rfl rfl rfl
  · have hf := if_t c14 hf
    refine X.iload_n dX4_isGuess_17 rfl 2 rfl ?_
    refine X.iconst (v := 4) dX4_isGuess_18 (by decide) ?_
    obtain ⟨c19, hf⟩ := if_n hf
    refine X.irem dX4_isGuess_19 c19 ?_
    refine X.aload_n dX4_isGuess_20 rfl 1 rfl ?_
    refine M.get (v := .int (S.1 3)) dX4_isGuess_21 fX4_297 (Nat.le_of_ble_eq_true rfl) rfl ?_
    refine X.icmp_lt (tgt := 29) dX4_isGuess_24 (by decide) (fun c24 => ?_) (fun c24 => ?_)
    · have hf := if_t c24 hf
      refine X.aload_n dX4_isGuess_29 rfl 1 rfl ?_
      obtain ⟨q30, h30, hf⟩ := ob hf
      refine X.callVv (As := []) (rest := []) (T2 := (mh m0 h q30, N, Z)) dX4_isGuess_30 (w_tries h30 h N Z) cX4_403 rfl rfl (Nat.le_of_ble_eq_true rfl) mh_0 rfl rfl (xD (Nat.le_of_ble_eq_true rfl)) xleN xleN ?_
      refine X.aload_n dX4_isGuess_33 rfl 1 rfl ?_
      refine M.get (v := .ref (m0 + 13)) dX4_isGuess_34 fX4_69 (Nat.le_of_ble_eq_true rfl) rfl ?_
      refine X.sipush (v := 182) dX4_isGuess_37 (by decide) ?_
      refine X.iload_n dX4_isGuess_40 rfl 0 rfl ?_
      refine X.iadd dX4_isGuess_41 ?_
      refine X.iload_n dX4_isGuess_42 rfl 2 rfl ?_
      refine X.iconst (v := 4) dX4_isGuess_43 (by decide) ?_
      obtain ⟨c44, hf⟩ := if_n hf
      refine X.irem dX4_isGuess_44 c44 ?_
      obtain ⟨S45, h45, hf⟩ := ob hf
      refine M.iast dX4_isGuess_45 rfl h45 ?_
      refine X.aload_n dX4_isGuess_46 rfl 1 rfl ?_
      refine M.get (v := .ref (m0 + 13)) dX4_isGuess_47 fX4_69 (Nat.le_of_ble_eq_true rfl) rfl ?_
      refine X.sipush (v := 212) dX4_isGuess_50 (by decide) ?_
      refine X.iload_n dX4_isGuess_53 rfl 0 rfl ?_
      refine X.iadd dX4_isGuess_54 ?_
      refine X.iconst (v := 1) dX4_isGuess_55 (by decide) ?_
      obtain ⟨S56, h56, hf⟩ := ob hf
      refine M.iast dX4_isGuess_56 rfl h56 ?_
      refine X.aload_n dX4_isGuess_57 rfl 1 rfl ?_
      obtain ⟨q58, h58, hf⟩ := ob hf
      refine X.callVi (As := []) (rest := []) (T2 := (mh m0 h q58.2, N, Z)) dX4_isGuess_58 (w_isSeen h58 h N Z) cX4_431 rfl rfl (Nat.le_of_ble_eq_true rfl) mh_0 rfl rfl (xD (Nat.le_of_ble_eq_true rfl)) xleN xleN ?_
      obtain ⟨cz, hf⟩ := if_n hf
      obtain rfl := Option.some.inj hf
      exact X.iret dX4_isGuess_61 rfl (zok_ok (Classical.not_not.mp cz)) rfl
    · have hf := if_f c24 hf
      refine X.iconst (v := 0) dX4_isGuess_27 (by decide) ?_
      obtain rfl := Option.some.inj hf
      exact X.iret dX4_isGuess_28 rfl rfl rfl
theorem cX4_434 : xCV RX4 434 mX4_isGuess 1 := ⟨lw_V q2144 q2146 qs113 q127 q2147, rfl, ⟨by decide +kernel, by decide +kernel, by decide +kernel⟩, Nat.le_of_ble_eq_true rfl⟩
/-! sown -/
abbrev cX4_sown : ByteArray := prog_12_method_102_code
def yX4_sown : MethodName := ⟨RX4, "sown", "(I)I"⟩
def dkwX4_sown_4 : List UInt8 := [167, 255, 209, 27, 154, 0, 7, 28, 167, 0, 4, 29, 172]
abbrev dktX4_sown_4 : List UInt8 := dkwX4_sown_4 ++ []
def dkwX4_sown_3 : List UInt8 := [132, 2, 1, 29, 2, 160, 0, 16, 21, 4, 7, 108, 16, 10, 104, 21, 4, 7, 112, 96, 62, 132, 4, 1]
abbrev dktX4_sown_3 : List UInt8 := dkwX4_sown_3 ++ dktX4_sown_4
def dkwX4_sown_2 : List UInt8 := [21, 4, 7, 42, 182, 1, 65, 104, 162, 0, 42, 42, 21, 4, 182, 1, 178, 154, 0, 6, 167, 0, 24]
abbrev dktX4_sown_2 : List UInt8 := dkwX4_sown_2 ++ dktX4_sown_3
def dkwX4_sown_1 : List UInt8 := [182, 1, 147, 42, 182, 1, 175, 153, 0, 7, 4, 167, 0, 4, 3, 172, 3, 61, 2, 62, 3, 54, 4]
abbrev dktX4_sown_1 : List UInt8 := dkwX4_sown_1 ++ dktX4_sown_2
def dkwX4_sown_0 : List UInt8 := [42, 3, 181, 0, 115, 42, 27, 5, 182, 1, 132, 154, 0, 5, 3, 172, 27, 5, 160, 0, 20, 42]
abbrev dktX4_sown_0 : List UInt8 := dkwX4_sown_0 ++ dktX4_sown_1
theorem dksX4_sown_0 : cX4_sown.data.toList.drop 0 = dktX4_sown_0 := by decide +kernel
theorem dksX4_sown_1 : cX4_sown.data.toList.drop 22 = dktX4_sown_1 := dk_seg dksX4_sown_0 22 rfl rfl
theorem dksX4_sown_2 : cX4_sown.data.toList.drop 45 = dktX4_sown_2 := dk_seg dksX4_sown_1 23 rfl rfl
theorem dksX4_sown_3 : cX4_sown.data.toList.drop 68 = dktX4_sown_3 := dk_seg dksX4_sown_2 23 rfl rfl
theorem dksX4_sown_4 : cX4_sown.data.toList.drop 92 = dktX4_sown_4 := dk_seg dksX4_sown_3 24 rfl rfl
theorem dX4_sown_0 : decode cX4_sown 0 = .ok (.aload_n 0, 1) := dk_42 (dk_at dksX4_sown_0 0 rfl rfl)
theorem dX4_sown_1 : decode cX4_sown 1 = .ok (.iconst 0, 1) := dk_3 (dk_at dksX4_sown_0 1 rfl rfl)
theorem dX4_sown_2 : decode cX4_sown 2 = .ok (.putfield 115, 3) := dk_181 0 115 (dk_at dksX4_sown_0 2 rfl rfl)
theorem dX4_sown_5 : decode cX4_sown 5 = .ok (.aload_n 0, 1) := dk_42 (dk_at dksX4_sown_0 5 rfl rfl)
theorem dX4_sown_6 : decode cX4_sown 6 = .ok (.iload_n 1, 1) := dk_27 (dk_at dksX4_sown_0 6 rfl rfl)
theorem dX4_sown_7 : decode cX4_sown 7 = .ok (.iconst 2, 1) := dk_5 (dk_at dksX4_sown_0 7 rfl rfl)
theorem dX4_sown_8 : decode cX4_sown 8 = .ok (.invokevirtual 388, 3) := dk_182 1 132 (dk_at dksX4_sown_0 8 rfl rfl)
theorem dX4_sown_11 : decode cX4_sown 11 = .ok (.ifCond .ne 5, 3) := dk_154 0 5 (dk_at dksX4_sown_0 11 rfl rfl)
theorem dX4_sown_14 : decode cX4_sown 14 = .ok (.iconst 0, 1) := dk_3 (dk_at dksX4_sown_0 14 rfl rfl)
theorem dX4_sown_15 : decode cX4_sown 15 = .ok (.ireturn, 1) := dk_172 (dk_at dksX4_sown_0 15 rfl rfl)
theorem dX4_sown_16 : decode cX4_sown 16 = .ok (.iload_n 1, 1) := dk_27 (dk_at dksX4_sown_0 16 rfl rfl)
theorem dX4_sown_17 : decode cX4_sown 17 = .ok (.iconst 2, 1) := dk_5 (dk_at dksX4_sown_0 17 rfl rfl)
theorem dX4_sown_18 : decode cX4_sown 18 = .ok (.if_icmp .ne 20, 3) := dk_160 0 20 (dk_at dksX4_sown_0 18 rfl rfl)
theorem dX4_sown_21 : decode cX4_sown 21 = .ok (.aload_n 0, 1) := dk_42 (dk_at dksX4_sown_0 21 rfl rfl)
theorem dX4_sown_22 : decode cX4_sown 22 = .ok (.invokevirtual 403, 3) := dk_182 1 147 (dk_at dksX4_sown_1 0 rfl rfl)
theorem dX4_sown_25 : decode cX4_sown 25 = .ok (.aload_n 0, 1) := dk_42 (dk_at dksX4_sown_1 3 rfl rfl)
theorem dX4_sown_26 : decode cX4_sown 26 = .ok (.invokevirtual 431, 3) := dk_182 1 175 (dk_at dksX4_sown_1 4 rfl rfl)
theorem dX4_sown_29 : decode cX4_sown 29 = .ok (.ifCond .eq 7, 3) := dk_153 0 7 (dk_at dksX4_sown_1 7 rfl rfl)
theorem dX4_sown_32 : decode cX4_sown 32 = .ok (.iconst 1, 1) := dk_4 (dk_at dksX4_sown_1 10 rfl rfl)
theorem dX4_sown_33 : decode cX4_sown 33 = .ok (.goto 4, 3) := dk_167 0 4 (dk_at dksX4_sown_1 11 rfl rfl)
theorem dX4_sown_36 : decode cX4_sown 36 = .ok (.iconst 0, 1) := dk_3 (dk_at dksX4_sown_1 14 rfl rfl)
theorem dX4_sown_37 : decode cX4_sown 37 = .ok (.ireturn, 1) := dk_172 (dk_at dksX4_sown_1 15 rfl rfl)
theorem dX4_sown_38 : decode cX4_sown 38 = .ok (.iconst 0, 1) := dk_3 (dk_at dksX4_sown_1 16 rfl rfl)
theorem dX4_sown_39 : decode cX4_sown 39 = .ok (.istore_n 2, 1) := dk_61 (dk_at dksX4_sown_1 17 rfl rfl)
theorem dX4_sown_40 : decode cX4_sown 40 = .ok (.iconst (-1), 1) := dk_2 (dk_at dksX4_sown_1 18 rfl rfl)
theorem dX4_sown_41 : decode cX4_sown 41 = .ok (.istore_n 3, 1) := dk_62 (dk_at dksX4_sown_1 19 rfl rfl)
theorem dX4_sown_42 : decode cX4_sown 42 = .ok (.iconst 0, 1) := dk_3 (dk_at dksX4_sown_1 20 rfl rfl)
theorem dX4_sown_43 : decode cX4_sown 43 = .ok (.istore 4, 2) := dk_54 4 (dk_at dksX4_sown_1 21 rfl rfl)
theorem dX4_sown_45 : decode cX4_sown 45 = .ok (.iload 4, 2) := dk_21 4 (dk_at dksX4_sown_2 0 rfl rfl)
theorem dX4_sown_47 : decode cX4_sown 47 = .ok (.iconst 4, 1) := dk_7 (dk_at dksX4_sown_2 2 rfl rfl)
theorem dX4_sown_48 : decode cX4_sown 48 = .ok (.aload_n 0, 1) := dk_42 (dk_at dksX4_sown_2 3 rfl rfl)
theorem dX4_sown_49 : decode cX4_sown 49 = .ok (.invokevirtual 321, 3) := dk_182 1 65 (dk_at dksX4_sown_2 4 rfl rfl)
theorem dX4_sown_52 : decode cX4_sown 52 = .ok (.imul, 1) := dk_104 (dk_at dksX4_sown_2 7 rfl rfl)
theorem dX4_sown_53 : decode cX4_sown 53 = .ok (.if_icmp .ge 42, 3) := dk_162 0 42 (dk_at dksX4_sown_2 8 rfl rfl)
theorem dX4_sown_56 : decode cX4_sown 56 = .ok (.aload_n 0, 1) := dk_42 (dk_at dksX4_sown_2 11 rfl rfl)
theorem dX4_sown_57 : decode cX4_sown 57 = .ok (.iload 4, 2) := dk_21 4 (dk_at dksX4_sown_2 12 rfl rfl)
theorem dX4_sown_59 : decode cX4_sown 59 = .ok (.invokevirtual 434, 3) := dk_182 1 178 (dk_at dksX4_sown_2 14 rfl rfl)
theorem dX4_sown_62 : decode cX4_sown 62 = .ok (.ifCond .ne 6, 3) := dk_154 0 6 (dk_at dksX4_sown_2 17 rfl rfl)
theorem dX4_sown_65 : decode cX4_sown 65 = .ok (.goto 24, 3) := dk_167 0 24 (dk_at dksX4_sown_2 20 rfl rfl)
theorem dX4_sown_68 : decode cX4_sown 68 = .ok (.iinc 2 1, 3) := dk_132 2 1 (dk_at dksX4_sown_3 0 rfl rfl)
theorem dX4_sown_71 : decode cX4_sown 71 = .ok (.iload_n 3, 1) := dk_29 (dk_at dksX4_sown_3 3 rfl rfl)
theorem dX4_sown_72 : decode cX4_sown 72 = .ok (.iconst (-1), 1) := dk_2 (dk_at dksX4_sown_3 4 rfl rfl)
theorem dX4_sown_73 : decode cX4_sown 73 = .ok (.if_icmp .ne 16, 3) := dk_160 0 16 (dk_at dksX4_sown_3 5 rfl rfl)
theorem dX4_sown_76 : decode cX4_sown 76 = .ok (.iload 4, 2) := dk_21 4 (dk_at dksX4_sown_3 8 rfl rfl)
theorem dX4_sown_78 : decode cX4_sown 78 = .ok (.iconst 4, 1) := dk_7 (dk_at dksX4_sown_3 10 rfl rfl)
theorem dX4_sown_79 : decode cX4_sown 79 = .ok (.idiv, 1) := dk_108 (dk_at dksX4_sown_3 11 rfl rfl)
theorem dX4_sown_80 : decode cX4_sown 80 = .ok (.bipush 10, 2) := dk_16 10 (dk_at dksX4_sown_3 12 rfl rfl)
theorem dX4_sown_82 : decode cX4_sown 82 = .ok (.imul, 1) := dk_104 (dk_at dksX4_sown_3 14 rfl rfl)
theorem dX4_sown_83 : decode cX4_sown 83 = .ok (.iload 4, 2) := dk_21 4 (dk_at dksX4_sown_3 15 rfl rfl)
theorem dX4_sown_85 : decode cX4_sown 85 = .ok (.iconst 4, 1) := dk_7 (dk_at dksX4_sown_3 17 rfl rfl)
theorem dX4_sown_86 : decode cX4_sown 86 = .ok (.irem, 1) := dk_112 (dk_at dksX4_sown_3 18 rfl rfl)
theorem dX4_sown_87 : decode cX4_sown 87 = .ok (.iadd, 1) := dk_96 (dk_at dksX4_sown_3 19 rfl rfl)
theorem dX4_sown_88 : decode cX4_sown 88 = .ok (.istore_n 3, 1) := dk_62 (dk_at dksX4_sown_3 20 rfl rfl)
theorem dX4_sown_89 : decode cX4_sown 89 = .ok (.iinc 4 1, 3) := dk_132 4 1 (dk_at dksX4_sown_3 21 rfl rfl)
theorem dX4_sown_92 : decode cX4_sown 92 = .ok (.goto (-47), 3) := dk_167 255 209 (dk_at dksX4_sown_4 0 rfl rfl)
theorem dX4_sown_95 : decode cX4_sown 95 = .ok (.iload_n 1, 1) := dk_27 (dk_at dksX4_sown_4 3 rfl rfl)
theorem dX4_sown_96 : decode cX4_sown 96 = .ok (.ifCond .ne 7, 3) := dk_154 0 7 (dk_at dksX4_sown_4 4 rfl rfl)
theorem dX4_sown_99 : decode cX4_sown 99 = .ok (.iload_n 2, 1) := dk_28 (dk_at dksX4_sown_4 7 rfl rfl)
theorem dX4_sown_100 : decode cX4_sown 100 = .ok (.goto 4, 3) := dk_167 0 4 (dk_at dksX4_sown_4 8 rfl rfl)
theorem dX4_sown_103 : decode cX4_sown 103 = .ok (.iload_n 3, 1) := dk_29 (dk_at dksX4_sown_4 11 rfl rfl)
theorem dX4_sown_104 : decode cX4_sown 104 = .ok (.ireturn, 1) := dk_172 (dk_at dksX4_sown_4 12 rfl rfl)
abbrev mX4_sown : xM := (yX4_sown, cX4_sown, 5, (some .int), [])
def m_sown_89 (k45 : Int32 → Int32 → Int32 → Int32 → MS → Option (Int32 × MS)) (x1 : Int32) (x2 : Int32) (x3 : Int32) (x4 : Int32) (S : MS) : Option (Int32 × MS) :=
  k45 x1 x2 x3 ((x4 + 1)) S
theorem m_sown_89_ok {G : xG} {m0 : Nat} {S0 : MS} {k45 : Int32 → Int32 → Int32 → Int32 → MS → Option (Int32 × MS)} (hk45 : ∀ (x1 : Int32) (x2 : Int32) (x3 : Int32) (x4 : Int32) (S : MS) (q : (Int32 × MS)), k45 x1 x2 x3 x4 S = some q → XM G m0 mX4_sown 8 S0 (some (.int q.1)) q.2 45 [(0, .ref m0), (1, .int x1), (2, .int x2), (3, .int x3), (4, .int x4)] [] S) (x1 : Int32) (x2 : Int32) (x3 : Int32) (x4 : Int32) (S : MS) (q : (Int32 × MS)) (hf : m_sown_89 k45 x1 x2 x3 x4 S = some q) : XM G m0 mX4_sown 8 S0 (some (.int q.1)) q.2 89 [(0, .ref m0), (1, .int x1), (2, .int x2), (3, .int x3), (4, .int x4)] [] S := by
  intro h N Z
  unfold m_sown_89 at hf
  refine X.iinc (v := (x4 + 1)) (L' := [(4, .int (x4 + 1)), (0, .ref m0), (1, .int x1), (2, .int x2), (3, .int x3)]) dX4_sown_89 4 rfl rfl (Nat.le_of_ble_eq_true rfl) rfl ?_
  refine X.goto (tgt := 45) dX4_sown_92 (by decide) ?_
  refine X.sub [1, 2, 3, 4, 0] (L' := [(0, .ref m0), (1, .int x1), (2, .int x2), (3, .int x3), (4, .int (x4 + 1))]) rfl ?_
  exact hk45 _ _ _ _ _ _ hf h N Z
def m_sown_45_b  (k45 : Int32 → Int32 → Int32 → Int32 → MS → Option (Int32 × MS)) (x1 : Int32) (x2 : Int32) (x3 : Int32) (x4 : Int32) (S : MS) : Option (Int32 × MS) :=
  (m_cells S).bind fun q49 =>
  if ((4 : Int32) * q49) ≤ x4 then
    if x1 = 0 then
      some (x2, S)
    else
      some (x3, S)
  else
    (m_isGuess x4 S).bind fun q59 =>
    if q59.1 = 0 then
      m_sown_89 k45 x1 x2 x3 x4 q59.2
    else
      if x3 = (-1 : Int32) then
        if (4 : Int32) = 0 then none else
        if (4 : Int32) = 0 then none else
        m_sown_89 k45 x1 ((x2 + 1)) ((((x4 / (4 : Int32)) * (10 : Int32)) + (x4 - x4 / (4 : Int32) * (4 : Int32)))) x4 q59.2
      else
        m_sown_89 k45 x1 ((x2 + 1)) x3 x4 q59.2
def m_sown_45  : Nat → Int32 → Int32 → Int32 → Int32 → MS → Option (Int32 × MS)
  | 0 => fun _ _ _ _ _ => none
  | n + 1 => fun x1 x2 x3 x4 S => m_sown_45_b (m_sown_45 n) x1 x2 x3 x4 S
theorem m_sown_45_bok {G : xG} {m0 : Nat} {S0 : MS}  {k45 : Int32 → Int32 → Int32 → Int32 → MS → Option (Int32 × MS)}  (hk45 : ∀ (x1 : Int32) (x2 : Int32) (x3 : Int32) (x4 : Int32) (S : MS) (q : (Int32 × MS)), k45 x1 x2 x3 x4 S = some q → XM G m0 mX4_sown 8 S0 (some (.int q.1)) q.2 45 [(0, .ref m0), (1, .int x1), (2, .int x2), (3, .int x3), (4, .int x4)] [] S) (x1 : Int32) (x2 : Int32) (x3 : Int32) (x4 : Int32) (S : MS) (q : (Int32 × MS)) (hf : m_sown_45_b k45 x1 x2 x3 x4 S = some q) : XM G m0 mX4_sown 8 S0 (some (.int q.1)) q.2 45 [(0, .ref m0), (1, .int x1), (2, .int x2), (3, .int x3), (4, .int x4)] [] S := by
  intro h N Z
  unfold m_sown_45_b at hf
  refine X.iload dX4_sown_45 4 rfl ?_
  refine X.iconst (v := 4) dX4_sown_47 (by decide) ?_
  refine X.aload_n dX4_sown_48 rfl 0 rfl ?_
  obtain ⟨q49, h49, hf⟩ := ob hf
  refine X.callVi (As := []) (rest := [.int (4 : Int32), .int x4]) dX4_sown_49 (w_cells h49 h N Z) cX4_321 rfl rfl (Nat.le_of_ble_eq_true rfl) mh_0 rfl rfl (xD (Nat.le_of_ble_eq_true rfl)) xleN xleN ?_
  refine X.imul dX4_sown_52 ?_
  refine X.icmp_ge (tgt := 95) dX4_sown_53 (by decide) (fun c53 => ?_) (fun c53 => ?_)
  · have hf := if_t c53 hf
    refine X.iload_n dX4_sown_95 rfl 1 rfl ?_
    refine X.if_ne (tgt := 103) dX4_sown_96 (by decide) (fun c96 => ?_) (fun c96 => ?_)
    · have hf := if_f c96 hf
      refine X.iload_n dX4_sown_103 rfl 3 rfl ?_
      obtain rfl := Option.some.inj hf
      exact X.iret dX4_sown_104 rfl rfl rfl
    · have hf := if_t c96 hf
      refine X.iload_n dX4_sown_99 rfl 2 rfl ?_
      refine X.goto (tgt := 104) dX4_sown_100 (by decide) ?_
      obtain rfl := Option.some.inj hf
      exact X.iret dX4_sown_104 rfl rfl rfl
  · have hf := if_f c53 hf
    refine X.aload_n dX4_sown_56 rfl 0 rfl ?_
    refine X.iload dX4_sown_57 4 rfl ?_
    obtain ⟨q59, h59, hf⟩ := ob hf
    refine X.callVi (As := [.int x4]) (rest := []) (T2 := (mh m0 h q59.2, N, Z)) dX4_sown_59 (w_isGuess h59 h N Z) cX4_434 rfl rfl (Nat.le_of_ble_eq_true rfl) mh_0 rfl rfl (xD (Nat.le_of_ble_eq_true rfl)) xleN xleN ?_
    refine X.if_ne (tgt := 68) dX4_sown_62 (by decide) (fun c62 => ?_) (fun c62 => ?_)
    · have hf := if_f c62 hf
      refine X.iinc (v := (x2 + 1)) (L' := [(2, .int (x2 + 1)), (0, .ref m0), (1, .int x1), (3, .int x3), (4, .int x4)]) dX4_sown_68 2 rfl rfl (Nat.le_of_ble_eq_true rfl) rfl ?_
      refine X.iload_n dX4_sown_71 rfl 3 rfl ?_
      refine X.iconst (v := -1) dX4_sown_72 (by decide) ?_
      refine X.icmp_ne (tgt := 89) dX4_sown_73 (by decide) (fun c73 => ?_) (fun c73 => ?_)
      · have hf := if_f c73 hf
        refine X.sub [1, 2, 0, 3, 4] (L' := [(0, .ref m0), (1, .int x1), (2, .int (x2 + 1)), (3, .int x3), (4, .int x4)]) rfl ?_
        exact m_sown_89_ok hk45 _ _ _ _ _ _ hf h N Z
      · have hf := if_t c73 hf
        refine X.iload dX4_sown_76 4 rfl ?_
        refine X.iconst (v := 4) dX4_sown_78 (by decide) ?_
        obtain ⟨c79, hf⟩ := if_n hf
        refine X.idiv dX4_sown_79 c79 ?_
        refine X.bipush (v := 10) dX4_sown_80 (by decide) ?_
        refine X.imul dX4_sown_82 ?_
        refine X.iload dX4_sown_83 4 rfl ?_
        refine X.iconst (v := 4) dX4_sown_85 (by decide) ?_
        obtain ⟨c86, hf⟩ := if_n hf
        refine X.irem dX4_sown_86 c86 ?_
        refine X.iadd dX4_sown_87 ?_
        refine X.istore_n (L' := [(3, .int (((x4 / (4 : Int32)) * (10 : Int32)) + (x4 - x4 / (4 : Int32) * (4 : Int32)))), (2, .int (x2 + 1)), (0, .ref m0), (1, .int x1), (4, .int x4)]) dX4_sown_88 rfl (Nat.le_of_ble_eq_true rfl) rfl ?_
        refine X.sub [2, 3, 1, 0, 4] (L' := [(0, .ref m0), (1, .int x1), (2, .int (x2 + 1)), (3, .int (((x4 / (4 : Int32)) * (10 : Int32)) + (x4 - x4 / (4 : Int32) * (4 : Int32)))), (4, .int x4)]) rfl ?_
        exact m_sown_89_ok hk45 _ _ _ _ _ _ hf h N Z
    · have hf := if_t c62 hf
      refine X.goto (tgt := 89) dX4_sown_65 (by decide) ?_
      refine X.sub [0, 1, 2, 3, 4] (L' := [(0, .ref m0), (1, .int x1), (2, .int x2), (3, .int x3), (4, .int x4)]) rfl ?_
      exact m_sown_89_ok hk45 _ _ _ _ _ _ hf h N Z
theorem m_sown_45_ok {G : xG} {m0 : Nat} {S0 : MS}   : ∀ (n : Nat) (x1 : Int32) (x2 : Int32) (x3 : Int32) (x4 : Int32) (S : MS) (q : (Int32 × MS)), m_sown_45 n x1 x2 x3 x4 S = some q → XM G m0 mX4_sown 8 S0 (some (.int q.1)) q.2 45 [(0, .ref m0), (1, .int x1), (2, .int x2), (3, .int x3), (4, .int x4)] [] S
  | 0, _, _, _, _, _, _, hf => by cases hf
  | n + 1, x1, x2, x3, x4, S, q, hf => m_sown_45_bok (m_sown_45_ok n) x1 x2 x3 x4 S q hf
def m_sown (x1 : Int32) (S : MS) : Option (Int32 × MS) :=
  (m_isWhat x1 ((2 : Int32)) ((sF S 0 (0 : Int32)))).bind fun q8 =>
  if q8.1 = 0 then
    some ((0 : Int32), q8.2)
  else
    if x1 = (2 : Int32) then
      (m_tries q8.2).bind fun q22 =>
      (m_isSeen q22).bind fun q26 =>
      if q26.1 = 0 then
        some ((0 : Int32), q26.2)
      else
        some ((1 : Int32), q26.2)
    else
      m_sown_45 FU x1 ((0 : Int32)) ((-1 : Int32)) ((0 : Int32)) q8.2
theorem w_sown {G : xG} {m0 : Nat} {x1 : Int32} {S : MS} {q : (Int32 × MS)} (hf : m_sown x1 S = some q) : CtM G m0 mX4_sown 8 S [.ref m0, .int x1] (some (.int q.1)) q.2 := by
  intro h N Z
  refine Ct.of (by decide +kernel) rfl (Nat.le_of_ble_eq_true rfl) (show Xr G _ 0 [(0, .ref m0), (1, .int x1)] [] _ from ?_)
  unfold m_sown at hf
  refine X.aload_n dX4_sown_0 rfl 0 rfl ?_
  refine X.iconst (v := 0) dX4_sown_1 (by decide) ?_
  refine M.putI dX4_sown_2 fX4_115 (by decide) rfl rfl rfl ?_
  refine X.aload_n dX4_sown_5 rfl 0 rfl ?_
  refine X.iload_n dX4_sown_6 rfl 1 rfl ?_
  refine X.iconst (v := 2) dX4_sown_7 (by decide) ?_
  obtain ⟨q8, h8, hf⟩ := ob hf
  refine X.callVi (As := [.int x1, .int (2 : Int32)]) (rest := []) (T2 := (mh m0 h q8.2, N, Z)) dX4_sown_8 (w_isWhat h8 h N Z) cX4_388 rfl rfl (Nat.le_of_ble_eq_true rfl) mh_0 rfl rfl (xD (Nat.le_of_ble_eq_true rfl)) xleN xleN ?_
  refine X.if_ne (tgt := 16) dX4_sown_11 (by decide) (fun c11 => ?_) (fun c11 => ?_)
  · have hf := if_f c11 hf
    refine X.iload_n dX4_sown_16 rfl 1 rfl ?_
    refine X.iconst (v := 2) dX4_sown_17 (by decide) ?_
    refine X.icmp_ne (tgt := 38) dX4_sown_18 (by decide) (fun c18 => ?_) (fun c18 => ?_)
    · have hf := if_f c18 hf
      refine X.iconst (v := 0) dX4_sown_38 (by decide) ?_
      refine X.istore_n (L' := [(2, .int (0 : Int32)), (0, .ref m0), (1, .int x1)]) dX4_sown_39 rfl (Nat.le_of_ble_eq_true rfl) rfl ?_
      refine X.iconst (v := -1) dX4_sown_40 (by decide) ?_
      refine X.istore_n (L' := [(3, .int (-1 : Int32)), (2, .int (0 : Int32)), (0, .ref m0), (1, .int x1)]) dX4_sown_41 rfl (Nat.le_of_ble_eq_true rfl) rfl ?_
      refine X.iconst (v := 0) dX4_sown_42 (by decide) ?_
      refine X.istore (L' := [(4, .int (0 : Int32)), (3, .int (-1 : Int32)), (2, .int (0 : Int32)), (0, .ref m0), (1, .int x1)]) dX4_sown_43 (Nat.le_of_ble_eq_true rfl) rfl ?_
      refine X.sub [3, 4, 2, 1, 0] (L' := [(0, .ref m0), (1, .int x1), (2, .int (0 : Int32)), (3, .int (-1 : Int32)), (4, .int (0 : Int32))]) rfl ?_
      exact m_sown_45_ok FU _ _ _ _ _ _ hf h N Z
    · have hf := if_t c18 hf
      refine X.aload_n dX4_sown_21 rfl 0 rfl ?_
      obtain ⟨q22, h22, hf⟩ := ob hf
      refine X.callVv (As := []) (rest := []) (T2 := (mh m0 h q22, N, Z)) dX4_sown_22 (w_tries h22 h N Z) cX4_403 rfl rfl (Nat.le_of_ble_eq_true rfl) mh_0 rfl rfl (xD (Nat.le_of_ble_eq_true rfl)) xleN xleN ?_
      refine X.aload_n dX4_sown_25 rfl 0 rfl ?_
      obtain ⟨q26, h26, hf⟩ := ob hf
      refine X.callVi (As := []) (rest := []) (T2 := (mh m0 h q26.2, N, Z)) dX4_sown_26 (w_isSeen h26 h N Z) cX4_431 rfl rfl (Nat.le_of_ble_eq_true rfl) mh_0 rfl rfl (xD (Nat.le_of_ble_eq_true rfl)) xleN xleN ?_
      refine X.if_eq (tgt := 36) dX4_sown_29 (by decide) (fun c29 => ?_) (fun c29 => ?_)
      · have hf := if_t c29 hf
        refine X.iconst (v := 0) dX4_sown_36 (by decide) ?_
        obtain rfl := Option.some.inj hf
        exact X.iret dX4_sown_37 rfl rfl rfl
      · have hf := if_f c29 hf
        refine X.iconst (v := 1) dX4_sown_32 (by decide) ?_
        refine X.goto (tgt := 37) dX4_sown_33 (by decide) ?_
        obtain rfl := Option.some.inj hf
        exact X.iret dX4_sown_37 rfl rfl rfl
  · have hf := if_t c11 hf
    refine X.iconst (v := 0) dX4_sown_14 (by decide) ?_
    obtain rfl := Option.some.inj hf
    exact X.iret dX4_sown_15 rfl rfl rfl
/-! next -/
abbrev cX4_next : ByteArray := prog_12_method_103_code
def yX4_next : MethodName := ⟨RX4, "next", "(I)I"⟩
def dkwX4_next_9 : List UInt8 := [132, 5, 1, 167, 255, 134, 27, 154, 0, 7, 29, 167, 0, 5, 21, 4, 172]
abbrev dktX4_next_9 : List UInt8 := dkwX4_next_9 ++ []
def dkwX4_next_8 : List UInt8 := [132, 7, 1, 167, 255, 172, 21, 6, 21, 4, 163, 0, 6, 167, 0, 10, 21, 5, 62, 21, 6, 54, 4]
abbrev dktX4_next_8 : List UInt8 := dkwX4_next_8 ++ dktX4_next_9
def dkwX4_next_7 : List UInt8 := [3, 54, 8, 132, 9, 1, 167, 255, 205, 21, 6, 21, 8, 153, 0, 7, 4, 167, 0, 4, 3, 96, 54, 6]
abbrev dktX4_next_7 : List UInt8 := dkwX4_next_7 ++ dktX4_next_8
def dkwX4_next_6 : List UInt8 := [21, 5, 96, 46, 42, 180, 0, 99, 16, 30, 21, 9, 104, 21, 5, 96, 46, 159, 0, 7, 4, 167, 0, 4]
abbrev dktX4_next_6 : List UInt8 := dkwX4_next_6 ++ dktX4_next_7
def dkwX4_next_5 : List UInt8 := [3, 54, 9, 21, 9, 21, 7, 162, 0, 50, 21, 8, 153, 0, 45, 42, 180, 0, 99, 16, 30, 21, 7, 104]
abbrev dktX4_next_5 : List UInt8 := dkwX4_next_5 ++ dktX4_next_6
def dkwX4_next_4 : List UInt8 := [21, 5, 42, 182, 1, 65, 162, 0, 119, 3, 54, 6, 3, 54, 7, 21, 7, 28, 162, 0, 84, 4, 54, 8]
abbrev dktX4_next_4 : List UInt8 := dkwX4_next_4 ++ dktX4_next_5
def dkwX4_next_3 : List UInt8 := [79, 132, 4, 1, 167, 255, 225, 132, 2, 1, 132, 3, 1, 167, 255, 192, 2, 62, 3, 54, 4, 3, 54, 5]
abbrev dktX4_next_3 : List UInt8 := dkwX4_next_3 ++ dktX4_next_4
def dkwX4_next_2 : List UInt8 := [182, 1, 65, 162, 0, 28, 42, 180, 0, 99, 16, 30, 28, 104, 21, 4, 96, 42, 180, 0, 96, 21, 4, 46]
abbrev dktX4_next_2 : List UInt8 := dkwX4_next_2 ++ dktX4_next_3
def dkwX4_next_1 : List UInt8 := [182, 1, 65, 104, 162, 0, 60, 42, 29, 182, 1, 178, 154, 0, 6, 167, 0, 43, 3, 54, 4, 21, 4, 42]
abbrev dktX4_next_1 : List UInt8 := dkwX4_next_1 ++ dktX4_next_2
def dkwX4_next_0 : List UInt8 := [42, 3, 181, 0, 115, 42, 27, 4, 182, 1, 132, 154, 0, 5, 3, 172, 3, 61, 3, 62, 29, 7, 42]
abbrev dktX4_next_0 : List UInt8 := dkwX4_next_0 ++ dktX4_next_1
theorem dksX4_next_0 : cX4_next.data.toList.drop 0 = dktX4_next_0 := by decide +kernel
theorem dksX4_next_1 : cX4_next.data.toList.drop 23 = dktX4_next_1 := dk_seg dksX4_next_0 23 rfl rfl
theorem dksX4_next_2 : cX4_next.data.toList.drop 47 = dktX4_next_2 := dk_seg dksX4_next_1 24 rfl rfl
theorem dksX4_next_3 : cX4_next.data.toList.drop 71 = dktX4_next_3 := dk_seg dksX4_next_2 24 rfl rfl
theorem dksX4_next_4 : cX4_next.data.toList.drop 95 = dktX4_next_4 := dk_seg dksX4_next_3 24 rfl rfl
theorem dksX4_next_5 : cX4_next.data.toList.drop 119 = dktX4_next_5 := dk_seg dksX4_next_4 24 rfl rfl
theorem dksX4_next_6 : cX4_next.data.toList.drop 143 = dktX4_next_6 := dk_seg dksX4_next_5 24 rfl rfl
theorem dksX4_next_7 : cX4_next.data.toList.drop 167 = dktX4_next_7 := dk_seg dksX4_next_6 24 rfl rfl
theorem dksX4_next_8 : cX4_next.data.toList.drop 191 = dktX4_next_8 := dk_seg dksX4_next_7 24 rfl rfl
theorem dksX4_next_9 : cX4_next.data.toList.drop 214 = dktX4_next_9 := dk_seg dksX4_next_8 23 rfl rfl
theorem dX4_next_0 : decode cX4_next 0 = .ok (.aload_n 0, 1) := dk_42 (dk_at dksX4_next_0 0 rfl rfl)
theorem dX4_next_1 : decode cX4_next 1 = .ok (.iconst 0, 1) := dk_3 (dk_at dksX4_next_0 1 rfl rfl)
theorem dX4_next_2 : decode cX4_next 2 = .ok (.putfield 115, 3) := dk_181 0 115 (dk_at dksX4_next_0 2 rfl rfl)
theorem dX4_next_5 : decode cX4_next 5 = .ok (.aload_n 0, 1) := dk_42 (dk_at dksX4_next_0 5 rfl rfl)
theorem dX4_next_6 : decode cX4_next 6 = .ok (.iload_n 1, 1) := dk_27 (dk_at dksX4_next_0 6 rfl rfl)
theorem dX4_next_7 : decode cX4_next 7 = .ok (.iconst 1, 1) := dk_4 (dk_at dksX4_next_0 7 rfl rfl)
theorem dX4_next_8 : decode cX4_next 8 = .ok (.invokevirtual 388, 3) := dk_182 1 132 (dk_at dksX4_next_0 8 rfl rfl)
theorem dX4_next_11 : decode cX4_next 11 = .ok (.ifCond .ne 5, 3) := dk_154 0 5 (dk_at dksX4_next_0 11 rfl rfl)
theorem dX4_next_14 : decode cX4_next 14 = .ok (.iconst 0, 1) := dk_3 (dk_at dksX4_next_0 14 rfl rfl)
theorem dX4_next_15 : decode cX4_next 15 = .ok (.ireturn, 1) := dk_172 (dk_at dksX4_next_0 15 rfl rfl)
theorem dX4_next_16 : decode cX4_next 16 = .ok (.iconst 0, 1) := dk_3 (dk_at dksX4_next_0 16 rfl rfl)
theorem dX4_next_17 : decode cX4_next 17 = .ok (.istore_n 2, 1) := dk_61 (dk_at dksX4_next_0 17 rfl rfl)
theorem dX4_next_18 : decode cX4_next 18 = .ok (.iconst 0, 1) := dk_3 (dk_at dksX4_next_0 18 rfl rfl)
theorem dX4_next_19 : decode cX4_next 19 = .ok (.istore_n 3, 1) := dk_62 (dk_at dksX4_next_0 19 rfl rfl)
theorem dX4_next_20 : decode cX4_next 20 = .ok (.iload_n 3, 1) := dk_29 (dk_at dksX4_next_0 20 rfl rfl)
theorem dX4_next_21 : decode cX4_next 21 = .ok (.iconst 4, 1) := dk_7 (dk_at dksX4_next_0 21 rfl rfl)
theorem dX4_next_22 : decode cX4_next 22 = .ok (.aload_n 0, 1) := dk_42 (dk_at dksX4_next_0 22 rfl rfl)
theorem dX4_next_23 : decode cX4_next 23 = .ok (.invokevirtual 321, 3) := dk_182 1 65 (dk_at dksX4_next_1 0 rfl rfl)
theorem dX4_next_26 : decode cX4_next 26 = .ok (.imul, 1) := dk_104 (dk_at dksX4_next_1 3 rfl rfl)
theorem dX4_next_27 : decode cX4_next 27 = .ok (.if_icmp .ge 60, 3) := dk_162 0 60 (dk_at dksX4_next_1 4 rfl rfl)
theorem dX4_next_30 : decode cX4_next 30 = .ok (.aload_n 0, 1) := dk_42 (dk_at dksX4_next_1 7 rfl rfl)
theorem dX4_next_31 : decode cX4_next 31 = .ok (.iload_n 3, 1) := dk_29 (dk_at dksX4_next_1 8 rfl rfl)
theorem dX4_next_32 : decode cX4_next 32 = .ok (.invokevirtual 434, 3) := dk_182 1 178 (dk_at dksX4_next_1 9 rfl rfl)
theorem dX4_next_35 : decode cX4_next 35 = .ok (.ifCond .ne 6, 3) := dk_154 0 6 (dk_at dksX4_next_1 12 rfl rfl)
theorem dX4_next_38 : decode cX4_next 38 = .ok (.goto 43, 3) := dk_167 0 43 (dk_at dksX4_next_1 15 rfl rfl)
theorem dX4_next_41 : decode cX4_next 41 = .ok (.iconst 0, 1) := dk_3 (dk_at dksX4_next_1 18 rfl rfl)
theorem dX4_next_42 : decode cX4_next 42 = .ok (.istore 4, 2) := dk_54 4 (dk_at dksX4_next_1 19 rfl rfl)
theorem dX4_next_44 : decode cX4_next 44 = .ok (.iload 4, 2) := dk_21 4 (dk_at dksX4_next_1 21 rfl rfl)
theorem dX4_next_46 : decode cX4_next 46 = .ok (.aload_n 0, 1) := dk_42 (dk_at dksX4_next_1 23 rfl rfl)
theorem dX4_next_47 : decode cX4_next 47 = .ok (.invokevirtual 321, 3) := dk_182 1 65 (dk_at dksX4_next_2 0 rfl rfl)
theorem dX4_next_50 : decode cX4_next 50 = .ok (.if_icmp .ge 28, 3) := dk_162 0 28 (dk_at dksX4_next_2 3 rfl rfl)
theorem dX4_next_53 : decode cX4_next 53 = .ok (.aload_n 0, 1) := dk_42 (dk_at dksX4_next_2 6 rfl rfl)
theorem dX4_next_54 : decode cX4_next 54 = .ok (.getfield 99, 3) := dk_180 0 99 (dk_at dksX4_next_2 7 rfl rfl)
theorem dX4_next_57 : decode cX4_next 57 = .ok (.bipush 30, 2) := dk_16 30 (dk_at dksX4_next_2 10 rfl rfl)
theorem dX4_next_59 : decode cX4_next 59 = .ok (.iload_n 2, 1) := dk_28 (dk_at dksX4_next_2 12 rfl rfl)
theorem dX4_next_60 : decode cX4_next 60 = .ok (.imul, 1) := dk_104 (dk_at dksX4_next_2 13 rfl rfl)
theorem dX4_next_61 : decode cX4_next 61 = .ok (.iload 4, 2) := dk_21 4 (dk_at dksX4_next_2 14 rfl rfl)
theorem dX4_next_63 : decode cX4_next 63 = .ok (.iadd, 1) := dk_96 (dk_at dksX4_next_2 16 rfl rfl)
theorem dX4_next_64 : decode cX4_next 64 = .ok (.aload_n 0, 1) := dk_42 (dk_at dksX4_next_2 17 rfl rfl)
theorem dX4_next_65 : decode cX4_next 65 = .ok (.getfield 96, 3) := dk_180 0 96 (dk_at dksX4_next_2 18 rfl rfl)
theorem dX4_next_68 : decode cX4_next 68 = .ok (.iload 4, 2) := dk_21 4 (dk_at dksX4_next_2 21 rfl rfl)
theorem dX4_next_70 : decode cX4_next 70 = .ok (.iaload, 1) := dk_46 (dk_at dksX4_next_2 23 rfl rfl)
theorem dX4_next_71 : decode cX4_next 71 = .ok (.iastore, 1) := dk_79 (dk_at dksX4_next_3 0 rfl rfl)
theorem dX4_next_72 : decode cX4_next 72 = .ok (.iinc 4 1, 3) := dk_132 4 1 (dk_at dksX4_next_3 1 rfl rfl)
theorem dX4_next_75 : decode cX4_next 75 = .ok (.goto (-31), 3) := dk_167 255 225 (dk_at dksX4_next_3 4 rfl rfl)
theorem dX4_next_78 : decode cX4_next 78 = .ok (.iinc 2 1, 3) := dk_132 2 1 (dk_at dksX4_next_3 7 rfl rfl)
theorem dX4_next_81 : decode cX4_next 81 = .ok (.iinc 3 1, 3) := dk_132 3 1 (dk_at dksX4_next_3 10 rfl rfl)
theorem dX4_next_84 : decode cX4_next 84 = .ok (.goto (-64), 3) := dk_167 255 192 (dk_at dksX4_next_3 13 rfl rfl)
theorem dX4_next_87 : decode cX4_next 87 = .ok (.iconst (-1), 1) := dk_2 (dk_at dksX4_next_3 16 rfl rfl)
theorem dX4_next_88 : decode cX4_next 88 = .ok (.istore_n 3, 1) := dk_62 (dk_at dksX4_next_3 17 rfl rfl)
theorem dX4_next_89 : decode cX4_next 89 = .ok (.iconst 0, 1) := dk_3 (dk_at dksX4_next_3 18 rfl rfl)
theorem dX4_next_90 : decode cX4_next 90 = .ok (.istore 4, 2) := dk_54 4 (dk_at dksX4_next_3 19 rfl rfl)
theorem dX4_next_92 : decode cX4_next 92 = .ok (.iconst 0, 1) := dk_3 (dk_at dksX4_next_3 21 rfl rfl)
theorem dX4_next_93 : decode cX4_next 93 = .ok (.istore 5, 2) := dk_54 5 (dk_at dksX4_next_3 22 rfl rfl)
theorem dX4_next_95 : decode cX4_next 95 = .ok (.iload 5, 2) := dk_21 5 (dk_at dksX4_next_4 0 rfl rfl)
theorem dX4_next_97 : decode cX4_next 97 = .ok (.aload_n 0, 1) := dk_42 (dk_at dksX4_next_4 2 rfl rfl)
theorem dX4_next_98 : decode cX4_next 98 = .ok (.invokevirtual 321, 3) := dk_182 1 65 (dk_at dksX4_next_4 3 rfl rfl)
theorem dX4_next_101 : decode cX4_next 101 = .ok (.if_icmp .ge 119, 3) := dk_162 0 119 (dk_at dksX4_next_4 6 rfl rfl)
theorem dX4_next_104 : decode cX4_next 104 = .ok (.iconst 0, 1) := dk_3 (dk_at dksX4_next_4 9 rfl rfl)
theorem dX4_next_105 : decode cX4_next 105 = .ok (.istore 6, 2) := dk_54 6 (dk_at dksX4_next_4 10 rfl rfl)
theorem dX4_next_107 : decode cX4_next 107 = .ok (.iconst 0, 1) := dk_3 (dk_at dksX4_next_4 12 rfl rfl)
theorem dX4_next_108 : decode cX4_next 108 = .ok (.istore 7, 2) := dk_54 7 (dk_at dksX4_next_4 13 rfl rfl)
theorem dX4_next_110 : decode cX4_next 110 = .ok (.iload 7, 2) := dk_21 7 (dk_at dksX4_next_4 15 rfl rfl)
theorem dX4_next_112 : decode cX4_next 112 = .ok (.iload_n 2, 1) := dk_28 (dk_at dksX4_next_4 17 rfl rfl)
theorem dX4_next_113 : decode cX4_next 113 = .ok (.if_icmp .ge 84, 3) := dk_162 0 84 (dk_at dksX4_next_4 18 rfl rfl)
theorem dX4_next_116 : decode cX4_next 116 = .ok (.iconst 1, 1) := dk_4 (dk_at dksX4_next_4 21 rfl rfl)
theorem dX4_next_117 : decode cX4_next 117 = .ok (.istore 8, 2) := dk_54 8 (dk_at dksX4_next_4 22 rfl rfl)
theorem dX4_next_119 : decode cX4_next 119 = .ok (.iconst 0, 1) := dk_3 (dk_at dksX4_next_5 0 rfl rfl)
theorem dX4_next_120 : decode cX4_next 120 = .ok (.istore 9, 2) := dk_54 9 (dk_at dksX4_next_5 1 rfl rfl)
theorem dX4_next_122 : decode cX4_next 122 = .ok (.iload 9, 2) := dk_21 9 (dk_at dksX4_next_5 3 rfl rfl)
theorem dX4_next_124 : decode cX4_next 124 = .ok (.iload 7, 2) := dk_21 7 (dk_at dksX4_next_5 5 rfl rfl)
theorem dX4_next_126 : decode cX4_next 126 = .ok (.if_icmp .ge 50, 3) := dk_162 0 50 (dk_at dksX4_next_5 7 rfl rfl)
theorem dX4_next_129 : decode cX4_next 129 = .ok (.iload 8, 2) := dk_21 8 (dk_at dksX4_next_5 10 rfl rfl)
theorem dX4_next_131 : decode cX4_next 131 = .ok (.ifCond .eq 45, 3) := dk_153 0 45 (dk_at dksX4_next_5 12 rfl rfl)
theorem dX4_next_134 : decode cX4_next 134 = .ok (.aload_n 0, 1) := dk_42 (dk_at dksX4_next_5 15 rfl rfl)
theorem dX4_next_135 : decode cX4_next 135 = .ok (.getfield 99, 3) := dk_180 0 99 (dk_at dksX4_next_5 16 rfl rfl)
theorem dX4_next_138 : decode cX4_next 138 = .ok (.bipush 30, 2) := dk_16 30 (dk_at dksX4_next_5 19 rfl rfl)
theorem dX4_next_140 : decode cX4_next 140 = .ok (.iload 7, 2) := dk_21 7 (dk_at dksX4_next_5 21 rfl rfl)
theorem dX4_next_142 : decode cX4_next 142 = .ok (.imul, 1) := dk_104 (dk_at dksX4_next_5 23 rfl rfl)
theorem dX4_next_143 : decode cX4_next 143 = .ok (.iload 5, 2) := dk_21 5 (dk_at dksX4_next_6 0 rfl rfl)
theorem dX4_next_145 : decode cX4_next 145 = .ok (.iadd, 1) := dk_96 (dk_at dksX4_next_6 2 rfl rfl)
theorem dX4_next_146 : decode cX4_next 146 = .ok (.iaload, 1) := dk_46 (dk_at dksX4_next_6 3 rfl rfl)
theorem dX4_next_147 : decode cX4_next 147 = .ok (.aload_n 0, 1) := dk_42 (dk_at dksX4_next_6 4 rfl rfl)
theorem dX4_next_148 : decode cX4_next 148 = .ok (.getfield 99, 3) := dk_180 0 99 (dk_at dksX4_next_6 5 rfl rfl)
theorem dX4_next_151 : decode cX4_next 151 = .ok (.bipush 30, 2) := dk_16 30 (dk_at dksX4_next_6 8 rfl rfl)
theorem dX4_next_153 : decode cX4_next 153 = .ok (.iload 9, 2) := dk_21 9 (dk_at dksX4_next_6 10 rfl rfl)
theorem dX4_next_155 : decode cX4_next 155 = .ok (.imul, 1) := dk_104 (dk_at dksX4_next_6 12 rfl rfl)
theorem dX4_next_156 : decode cX4_next 156 = .ok (.iload 5, 2) := dk_21 5 (dk_at dksX4_next_6 13 rfl rfl)
theorem dX4_next_158 : decode cX4_next 158 = .ok (.iadd, 1) := dk_96 (dk_at dksX4_next_6 15 rfl rfl)
theorem dX4_next_159 : decode cX4_next 159 = .ok (.iaload, 1) := dk_46 (dk_at dksX4_next_6 16 rfl rfl)
theorem dX4_next_160 : decode cX4_next 160 = .ok (.if_icmp .eq 7, 3) := dk_159 0 7 (dk_at dksX4_next_6 17 rfl rfl)
theorem dX4_next_163 : decode cX4_next 163 = .ok (.iconst 1, 1) := dk_4 (dk_at dksX4_next_6 20 rfl rfl)
theorem dX4_next_164 : decode cX4_next 164 = .ok (.goto 4, 3) := dk_167 0 4 (dk_at dksX4_next_6 21 rfl rfl)
theorem dX4_next_167 : decode cX4_next 167 = .ok (.iconst 0, 1) := dk_3 (dk_at dksX4_next_7 0 rfl rfl)
theorem dX4_next_168 : decode cX4_next 168 = .ok (.istore 8, 2) := dk_54 8 (dk_at dksX4_next_7 1 rfl rfl)
theorem dX4_next_170 : decode cX4_next 170 = .ok (.iinc 9 1, 3) := dk_132 9 1 (dk_at dksX4_next_7 3 rfl rfl)
theorem dX4_next_173 : decode cX4_next 173 = .ok (.goto (-51), 3) := dk_167 255 205 (dk_at dksX4_next_7 6 rfl rfl)
theorem dX4_next_176 : decode cX4_next 176 = .ok (.iload 6, 2) := dk_21 6 (dk_at dksX4_next_7 9 rfl rfl)
theorem dX4_next_178 : decode cX4_next 178 = .ok (.iload 8, 2) := dk_21 8 (dk_at dksX4_next_7 11 rfl rfl)
theorem dX4_next_180 : decode cX4_next 180 = .ok (.ifCond .eq 7, 3) := dk_153 0 7 (dk_at dksX4_next_7 13 rfl rfl)
theorem dX4_next_183 : decode cX4_next 183 = .ok (.iconst 1, 1) := dk_4 (dk_at dksX4_next_7 16 rfl rfl)
theorem dX4_next_184 : decode cX4_next 184 = .ok (.goto 4, 3) := dk_167 0 4 (dk_at dksX4_next_7 17 rfl rfl)
theorem dX4_next_187 : decode cX4_next 187 = .ok (.iconst 0, 1) := dk_3 (dk_at dksX4_next_7 20 rfl rfl)
theorem dX4_next_188 : decode cX4_next 188 = .ok (.iadd, 1) := dk_96 (dk_at dksX4_next_7 21 rfl rfl)
theorem dX4_next_189 : decode cX4_next 189 = .ok (.istore 6, 2) := dk_54 6 (dk_at dksX4_next_7 22 rfl rfl)
theorem dX4_next_191 : decode cX4_next 191 = .ok (.iinc 7 1, 3) := dk_132 7 1 (dk_at dksX4_next_8 0 rfl rfl)
theorem dX4_next_194 : decode cX4_next 194 = .ok (.goto (-84), 3) := dk_167 255 172 (dk_at dksX4_next_8 3 rfl rfl)
theorem dX4_next_197 : decode cX4_next 197 = .ok (.iload 6, 2) := dk_21 6 (dk_at dksX4_next_8 6 rfl rfl)
theorem dX4_next_199 : decode cX4_next 199 = .ok (.iload 4, 2) := dk_21 4 (dk_at dksX4_next_8 8 rfl rfl)
theorem dX4_next_201 : decode cX4_next 201 = .ok (.if_icmp .gt 6, 3) := dk_163 0 6 (dk_at dksX4_next_8 10 rfl rfl)
theorem dX4_next_204 : decode cX4_next 204 = .ok (.goto 10, 3) := dk_167 0 10 (dk_at dksX4_next_8 13 rfl rfl)
theorem dX4_next_207 : decode cX4_next 207 = .ok (.iload 5, 2) := dk_21 5 (dk_at dksX4_next_8 16 rfl rfl)
theorem dX4_next_209 : decode cX4_next 209 = .ok (.istore_n 3, 1) := dk_62 (dk_at dksX4_next_8 18 rfl rfl)
theorem dX4_next_210 : decode cX4_next 210 = .ok (.iload 6, 2) := dk_21 6 (dk_at dksX4_next_8 19 rfl rfl)
theorem dX4_next_212 : decode cX4_next 212 = .ok (.istore 4, 2) := dk_54 4 (dk_at dksX4_next_8 21 rfl rfl)
theorem dX4_next_214 : decode cX4_next 214 = .ok (.iinc 5 1, 3) := dk_132 5 1 (dk_at dksX4_next_9 0 rfl rfl)
theorem dX4_next_217 : decode cX4_next 217 = .ok (.goto (-122), 3) := dk_167 255 134 (dk_at dksX4_next_9 3 rfl rfl)
theorem dX4_next_220 : decode cX4_next 220 = .ok (.iload_n 1, 1) := dk_27 (dk_at dksX4_next_9 6 rfl rfl)
theorem dX4_next_221 : decode cX4_next 221 = .ok (.ifCond .ne 7, 3) := dk_154 0 7 (dk_at dksX4_next_9 7 rfl rfl)
theorem dX4_next_224 : decode cX4_next 224 = .ok (.iload_n 3, 1) := dk_29 (dk_at dksX4_next_9 10 rfl rfl)
theorem dX4_next_225 : decode cX4_next 225 = .ok (.goto 5, 3) := dk_167 0 5 (dk_at dksX4_next_9 11 rfl rfl)
theorem dX4_next_228 : decode cX4_next 228 = .ok (.iload 4, 2) := dk_21 4 (dk_at dksX4_next_9 14 rfl rfl)
theorem dX4_next_230 : decode cX4_next 230 = .ok (.ireturn, 1) := dk_172 (dk_at dksX4_next_9 16 rfl rfl)
abbrev mX4_next : xM := (yX4_next, cX4_next, 10, (some .int), [])
def m_next_81 (k20 : Int32 → Int32 → Int32 → MS → Option (Int32 × MS)) (x1 : Int32) (x2 : Int32) (x3 : Int32) (S : MS) : Option (Int32 × MS) :=
  k20 x1 x2 ((x3 + 1)) S
theorem m_next_81_ok {G : xG} {m0 : Nat} {S0 : MS} {k20 : Int32 → Int32 → Int32 → MS → Option (Int32 × MS)} (hk20 : ∀ (x1 : Int32) (x2 : Int32) (x3 : Int32) (S : MS) (q : (Int32 × MS)), k20 x1 x2 x3 S = some q → XM G m0 mX4_next 8 S0 (some (.int q.1)) q.2 20 [(0, .ref m0), (1, .int x1), (2, .int x2), (3, .int x3)] [] S) (x1 : Int32) (x2 : Int32) (x3 : Int32) (S : MS) (q : (Int32 × MS)) (hf : m_next_81 k20 x1 x2 x3 S = some q) : XM G m0 mX4_next 8 S0 (some (.int q.1)) q.2 81 [(0, .ref m0), (1, .int x1), (2, .int x2), (3, .int x3)] [] S := by
  intro h N Z
  unfold m_next_81 at hf
  refine X.iinc (v := (x3 + 1)) (L' := [(3, .int (x3 + 1)), (0, .ref m0), (1, .int x1), (2, .int x2)]) dX4_next_81 3 rfl rfl (Nat.le_of_ble_eq_true rfl) rfl ?_
  refine X.goto (tgt := 20) dX4_next_84 (by decide) ?_
  refine X.sub [1, 2, 3, 0] (L' := [(0, .ref m0), (1, .int x1), (2, .int x2), (3, .int (x3 + 1))]) rfl ?_
  exact hk20 _ _ _ _ _ hf h N Z
def m_next_44_b (k20 : Int32 → Int32 → Int32 → MS → Option (Int32 × MS)) (k44 : Int32 → Int32 → Int32 → Int32 → MS → Option (Int32 × MS)) (x1 : Int32) (x2 : Int32) (x3 : Int32) (x4 : Int32) (S : MS) : Option (Int32 × MS) :=
  (m_cells S).bind fun q47 =>
  if q47 ≤ x4 then
    m_next_81 k20 x1 ((x2 + 1)) x3 S
  else
    (rdA S 22 x4).bind fun v70 =>
    (wrA S 23 (((30 : Int32) * x2) + x4) v70).bind fun S71 =>
    k44 x1 x2 x3 ((x4 + 1)) S71
def m_next_44 (k20 : Int32 → Int32 → Int32 → MS → Option (Int32 × MS)) : Nat → Int32 → Int32 → Int32 → Int32 → MS → Option (Int32 × MS)
  | 0 => fun _ _ _ _ _ => none
  | n + 1 => fun x1 x2 x3 x4 S => m_next_44_b k20 (m_next_44 k20 n) x1 x2 x3 x4 S
theorem m_next_44_bok {G : xG} {m0 : Nat} {S0 : MS} {k20 : Int32 → Int32 → Int32 → MS → Option (Int32 × MS)} {k44 : Int32 → Int32 → Int32 → Int32 → MS → Option (Int32 × MS)} (hk20 : ∀ (x1 : Int32) (x2 : Int32) (x3 : Int32) (S : MS) (q : (Int32 × MS)), k20 x1 x2 x3 S = some q → XM G m0 mX4_next 8 S0 (some (.int q.1)) q.2 20 [(0, .ref m0), (1, .int x1), (2, .int x2), (3, .int x3)] [] S) (hk44 : ∀ (x1 : Int32) (x2 : Int32) (x3 : Int32) (x4 : Int32) (S : MS) (q : (Int32 × MS)), k44 x1 x2 x3 x4 S = some q → XM G m0 mX4_next 8 S0 (some (.int q.1)) q.2 44 [(0, .ref m0), (1, .int x1), (2, .int x2), (3, .int x3), (4, .int x4)] [] S) (x1 : Int32) (x2 : Int32) (x3 : Int32) (x4 : Int32) (S : MS) (q : (Int32 × MS)) (hf : m_next_44_b k20 k44 x1 x2 x3 x4 S = some q) : XM G m0 mX4_next 8 S0 (some (.int q.1)) q.2 44 [(0, .ref m0), (1, .int x1), (2, .int x2), (3, .int x3), (4, .int x4)] [] S := by
  intro h N Z
  unfold m_next_44_b at hf
  refine X.iload dX4_next_44 4 rfl ?_
  refine X.aload_n dX4_next_46 rfl 0 rfl ?_
  obtain ⟨q47, h47, hf⟩ := ob hf
  refine X.callVi (As := []) (rest := [.int x4]) dX4_next_47 (w_cells h47 h N Z) cX4_321 rfl rfl (Nat.le_of_ble_eq_true rfl) mh_0 rfl rfl (xD (Nat.le_of_ble_eq_true rfl)) xleN xleN ?_
  refine X.icmp_ge (tgt := 78) dX4_next_50 (by decide) (fun c50 => ?_) (fun c50 => ?_)
  · have hf := if_t c50 hf
    refine X.iinc (v := (x2 + 1)) (L' := [(2, .int (x2 + 1)), (0, .ref m0), (1, .int x1), (3, .int x3), (4, .int x4)]) dX4_next_78 2 rfl rfl (Nat.le_of_ble_eq_true rfl) rfl ?_
    refine X.sub [1, 2, 0, 3] (L' := [(0, .ref m0), (1, .int x1), (2, .int (x2 + 1)), (3, .int x3)]) rfl ?_
    exact m_next_81_ok hk20 _ _ _ _ _ hf h N Z
  · have hf := if_f c50 hf
    refine X.aload_n dX4_next_53 rfl 0 rfl ?_
    refine M.get (v := .ref (m0 + 23)) dX4_next_54 fX4_99 (Nat.le_of_ble_eq_true rfl) rfl ?_
    refine X.bipush (v := 30) dX4_next_57 (by decide) ?_
    refine X.iload_n dX4_next_59 rfl 2 rfl ?_
    refine X.imul dX4_next_60 ?_
    refine X.iload dX4_next_61 4 rfl ?_
    refine X.iadd dX4_next_63 ?_
    refine X.aload_n dX4_next_64 rfl 0 rfl ?_
    refine M.get (v := .ref (m0 + 22)) dX4_next_65 fX4_96 (Nat.le_of_ble_eq_true rfl) rfl ?_
    refine X.iload dX4_next_68 4 rfl ?_
    obtain ⟨v70, h70, hf⟩ := ob hf
    refine M.iald dX4_next_70 rfl h70 ?_
    obtain ⟨S71, h71, hf⟩ := ob hf
    refine M.iast dX4_next_71 rfl h71 ?_
    refine X.iinc (v := (x4 + 1)) (L' := [(4, .int (x4 + 1)), (0, .ref m0), (1, .int x1), (2, .int x2), (3, .int x3)]) dX4_next_72 4 rfl rfl (Nat.le_of_ble_eq_true rfl) rfl ?_
    refine X.goto (tgt := 44) dX4_next_75 (by decide) ?_
    refine X.sub [1, 2, 3, 4, 0] (L' := [(0, .ref m0), (1, .int x1), (2, .int x2), (3, .int x3), (4, .int (x4 + 1))]) rfl ?_
    exact hk44 _ _ _ _ _ _ hf h N Z
theorem m_next_44_ok {G : xG} {m0 : Nat} {S0 : MS} {k20 : Int32 → Int32 → Int32 → MS → Option (Int32 × MS)} (hk20 : ∀ (x1 : Int32) (x2 : Int32) (x3 : Int32) (S : MS) (q : (Int32 × MS)), k20 x1 x2 x3 S = some q → XM G m0 mX4_next 8 S0 (some (.int q.1)) q.2 20 [(0, .ref m0), (1, .int x1), (2, .int x2), (3, .int x3)] [] S) : ∀ (n : Nat) (x1 : Int32) (x2 : Int32) (x3 : Int32) (x4 : Int32) (S : MS) (q : (Int32 × MS)), m_next_44 k20 n x1 x2 x3 x4 S = some q → XM G m0 mX4_next 8 S0 (some (.int q.1)) q.2 44 [(0, .ref m0), (1, .int x1), (2, .int x2), (3, .int x3), (4, .int x4)] [] S
  | 0, _, _, _, _, _, _, hf => by cases hf
  | n + 1, x1, x2, x3, x4, S, q, hf => m_next_44_bok hk20 (m_next_44_ok hk20 n) x1 x2 x3 x4 S q hf
def m_next_168 (k95 : Int32 → Int32 → Int32 → Int32 → Int32 → MS → Option (Int32 × MS)) (k110 : Int32 → Int32 → Int32 → Int32 → Int32 → Int32 → Int32 → MS → Option (Int32 × MS)) (k122 : Int32 → Int32 → Int32 → Int32 → Int32 → Int32 → Int32 → Int32 → Int32 → MS → Option (Int32 × MS)) (x1 : Int32) (x2 : Int32) (x3 : Int32) (x4 : Int32) (x5 : Int32) (x6 : Int32) (x7 : Int32) (x9 : Int32) (y0 : Int32) (S : MS) : Option (Int32 × MS) :=
  k122 x1 x2 x3 x4 x5 x6 x7 y0 ((x9 + 1)) S
theorem m_next_168_ok {G : xG} {m0 : Nat} {S0 : MS} {k95 : Int32 → Int32 → Int32 → Int32 → Int32 → MS → Option (Int32 × MS)} {k110 : Int32 → Int32 → Int32 → Int32 → Int32 → Int32 → Int32 → MS → Option (Int32 × MS)} {k122 : Int32 → Int32 → Int32 → Int32 → Int32 → Int32 → Int32 → Int32 → Int32 → MS → Option (Int32 × MS)} (hk95 : ∀ (x1 : Int32) (x2 : Int32) (x3 : Int32) (x4 : Int32) (x5 : Int32) (S : MS) (q : (Int32 × MS)), k95 x1 x2 x3 x4 x5 S = some q → XM G m0 mX4_next 8 S0 (some (.int q.1)) q.2 95 [(0, .ref m0), (1, .int x1), (2, .int x2), (3, .int x3), (4, .int x4), (5, .int x5)] [] S) (hk110 : ∀ (x1 : Int32) (x2 : Int32) (x3 : Int32) (x4 : Int32) (x5 : Int32) (x6 : Int32) (x7 : Int32) (S : MS) (q : (Int32 × MS)), k110 x1 x2 x3 x4 x5 x6 x7 S = some q → XM G m0 mX4_next 8 S0 (some (.int q.1)) q.2 110 [(0, .ref m0), (1, .int x1), (2, .int x2), (3, .int x3), (4, .int x4), (5, .int x5), (6, .int x6), (7, .int x7)] [] S) (hk122 : ∀ (x1 : Int32) (x2 : Int32) (x3 : Int32) (x4 : Int32) (x5 : Int32) (x6 : Int32) (x7 : Int32) (x8 : Int32) (x9 : Int32) (S : MS) (q : (Int32 × MS)), k122 x1 x2 x3 x4 x5 x6 x7 x8 x9 S = some q → XM G m0 mX4_next 8 S0 (some (.int q.1)) q.2 122 [(0, .ref m0), (1, .int x1), (2, .int x2), (3, .int x3), (4, .int x4), (5, .int x5), (6, .int x6), (7, .int x7), (8, .int x8), (9, .int x9)] [] S) (x1 : Int32) (x2 : Int32) (x3 : Int32) (x4 : Int32) (x5 : Int32) (x6 : Int32) (x7 : Int32) (x9 : Int32) (y0 : Int32) (S : MS) (q : (Int32 × MS)) (hf : m_next_168 k95 k110 k122 x1 x2 x3 x4 x5 x6 x7 x9 y0 S = some q) : XM G m0 mX4_next 8 S0 (some (.int q.1)) q.2 168 [(0, .ref m0), (1, .int x1), (2, .int x2), (3, .int x3), (4, .int x4), (5, .int x5), (6, .int x6), (7, .int x7), (9, .int x9)] [.int y0] S := by
  intro h N Z
  unfold m_next_168 at hf
  refine X.istore (L' := [(8, .int y0), (0, .ref m0), (1, .int x1), (2, .int x2), (3, .int x3), (4, .int x4), (5, .int x5), (6, .int x6), (7, .int x7), (9, .int x9)]) dX4_next_168 (Nat.le_of_ble_eq_true rfl) rfl ?_
  refine X.iinc (v := (x9 + 1)) (L' := [(9, .int (x9 + 1)), (8, .int y0), (0, .ref m0), (1, .int x1), (2, .int x2), (3, .int x3), (4, .int x4), (5, .int x5), (6, .int x6), (7, .int x7)]) dX4_next_170 9 rfl rfl (Nat.le_of_ble_eq_true rfl) rfl ?_
  refine X.goto (tgt := 122) dX4_next_173 (by decide) ?_
  refine X.sub [2, 3, 4, 5, 6, 7, 8, 9, 1, 0] (L' := [(0, .ref m0), (1, .int x1), (2, .int x2), (3, .int x3), (4, .int x4), (5, .int x5), (6, .int x6), (7, .int x7), (8, .int y0), (9, .int (x9 + 1))]) rfl ?_
  exact hk122 _ _ _ _ _ _ _ _ _ _ _ hf h N Z
def m_next_188 (k95 : Int32 → Int32 → Int32 → Int32 → Int32 → MS → Option (Int32 × MS)) (k110 : Int32 → Int32 → Int32 → Int32 → Int32 → Int32 → Int32 → MS → Option (Int32 × MS)) (x1 : Int32) (x2 : Int32) (x3 : Int32) (x4 : Int32) (x5 : Int32) (x7 : Int32) (y0 : Int32) (y1 : Int32) (S : MS) : Option (Int32 × MS) :=
  k110 x1 x2 x3 x4 x5 ((y1 + y0)) ((x7 + 1)) S
theorem m_next_188_ok {G : xG} {m0 : Nat} {S0 : MS} {k95 : Int32 → Int32 → Int32 → Int32 → Int32 → MS → Option (Int32 × MS)} {k110 : Int32 → Int32 → Int32 → Int32 → Int32 → Int32 → Int32 → MS → Option (Int32 × MS)} (hk95 : ∀ (x1 : Int32) (x2 : Int32) (x3 : Int32) (x4 : Int32) (x5 : Int32) (S : MS) (q : (Int32 × MS)), k95 x1 x2 x3 x4 x5 S = some q → XM G m0 mX4_next 8 S0 (some (.int q.1)) q.2 95 [(0, .ref m0), (1, .int x1), (2, .int x2), (3, .int x3), (4, .int x4), (5, .int x5)] [] S) (hk110 : ∀ (x1 : Int32) (x2 : Int32) (x3 : Int32) (x4 : Int32) (x5 : Int32) (x6 : Int32) (x7 : Int32) (S : MS) (q : (Int32 × MS)), k110 x1 x2 x3 x4 x5 x6 x7 S = some q → XM G m0 mX4_next 8 S0 (some (.int q.1)) q.2 110 [(0, .ref m0), (1, .int x1), (2, .int x2), (3, .int x3), (4, .int x4), (5, .int x5), (6, .int x6), (7, .int x7)] [] S) (x1 : Int32) (x2 : Int32) (x3 : Int32) (x4 : Int32) (x5 : Int32) (x7 : Int32) (y0 : Int32) (y1 : Int32) (S : MS) (q : (Int32 × MS)) (hf : m_next_188 k95 k110 x1 x2 x3 x4 x5 x7 y0 y1 S = some q) : XM G m0 mX4_next 8 S0 (some (.int q.1)) q.2 188 [(0, .ref m0), (1, .int x1), (2, .int x2), (3, .int x3), (4, .int x4), (5, .int x5), (7, .int x7)] [.int y0, .int y1] S := by
  intro h N Z
  unfold m_next_188 at hf
  refine X.iadd dX4_next_188 ?_
  refine X.istore (L' := [(6, .int (y1 + y0)), (0, .ref m0), (1, .int x1), (2, .int x2), (3, .int x3), (4, .int x4), (5, .int x5), (7, .int x7)]) dX4_next_189 (Nat.le_of_ble_eq_true rfl) rfl ?_
  refine X.iinc (v := (x7 + 1)) (L' := [(7, .int (x7 + 1)), (6, .int (y1 + y0)), (0, .ref m0), (1, .int x1), (2, .int x2), (3, .int x3), (4, .int x4), (5, .int x5)]) dX4_next_191 7 rfl rfl (Nat.le_of_ble_eq_true rfl) rfl ?_
  refine X.goto (tgt := 110) dX4_next_194 (by decide) ?_
  refine X.sub [2, 3, 4, 5, 6, 7, 1, 0] (L' := [(0, .ref m0), (1, .int x1), (2, .int x2), (3, .int x3), (4, .int x4), (5, .int x5), (6, .int (y1 + y0)), (7, .int (x7 + 1))]) rfl ?_
  exact hk110 _ _ _ _ _ _ _ _ _ hf h N Z
def m_next_176 (k95 : Int32 → Int32 → Int32 → Int32 → Int32 → MS → Option (Int32 × MS)) (k110 : Int32 → Int32 → Int32 → Int32 → Int32 → Int32 → Int32 → MS → Option (Int32 × MS)) (x1 : Int32) (x2 : Int32) (x3 : Int32) (x4 : Int32) (x5 : Int32) (x6 : Int32) (x7 : Int32) (x8 : Int32) (S : MS) : Option (Int32 × MS) :=
  if x8 = 0 then
    m_next_188 k95 k110 x1 x2 x3 x4 x5 x7 ((0 : Int32)) x6 S
  else
    m_next_188 k95 k110 x1 x2 x3 x4 x5 x7 ((1 : Int32)) x6 S
theorem m_next_176_ok {G : xG} {m0 : Nat} {S0 : MS} {k95 : Int32 → Int32 → Int32 → Int32 → Int32 → MS → Option (Int32 × MS)} {k110 : Int32 → Int32 → Int32 → Int32 → Int32 → Int32 → Int32 → MS → Option (Int32 × MS)} (hk95 : ∀ (x1 : Int32) (x2 : Int32) (x3 : Int32) (x4 : Int32) (x5 : Int32) (S : MS) (q : (Int32 × MS)), k95 x1 x2 x3 x4 x5 S = some q → XM G m0 mX4_next 8 S0 (some (.int q.1)) q.2 95 [(0, .ref m0), (1, .int x1), (2, .int x2), (3, .int x3), (4, .int x4), (5, .int x5)] [] S) (hk110 : ∀ (x1 : Int32) (x2 : Int32) (x3 : Int32) (x4 : Int32) (x5 : Int32) (x6 : Int32) (x7 : Int32) (S : MS) (q : (Int32 × MS)), k110 x1 x2 x3 x4 x5 x6 x7 S = some q → XM G m0 mX4_next 8 S0 (some (.int q.1)) q.2 110 [(0, .ref m0), (1, .int x1), (2, .int x2), (3, .int x3), (4, .int x4), (5, .int x5), (6, .int x6), (7, .int x7)] [] S) (x1 : Int32) (x2 : Int32) (x3 : Int32) (x4 : Int32) (x5 : Int32) (x6 : Int32) (x7 : Int32) (x8 : Int32) (S : MS) (q : (Int32 × MS)) (hf : m_next_176 k95 k110 x1 x2 x3 x4 x5 x6 x7 x8 S = some q) : XM G m0 mX4_next 8 S0 (some (.int q.1)) q.2 176 [(0, .ref m0), (1, .int x1), (2, .int x2), (3, .int x3), (4, .int x4), (5, .int x5), (6, .int x6), (7, .int x7), (8, .int x8)] [] S := by
  intro h N Z
  unfold m_next_176 at hf
  refine X.iload dX4_next_176 6 rfl ?_
  refine X.iload dX4_next_178 8 rfl ?_
  refine X.if_eq (tgt := 187) dX4_next_180 (by decide) (fun c180 => ?_) (fun c180 => ?_)
  · have hf := if_t c180 hf
    refine X.iconst (v := 0) dX4_next_187 (by decide) ?_
    refine X.sub [0, 1, 2, 3, 4, 5, 7] (L' := [(0, .ref m0), (1, .int x1), (2, .int x2), (3, .int x3), (4, .int x4), (5, .int x5), (7, .int x7)]) rfl ?_
    exact m_next_188_ok hk95 hk110 _ _ _ _ _ _ _ _ _ _ hf h N Z
  · have hf := if_f c180 hf
    refine X.iconst (v := 1) dX4_next_183 (by decide) ?_
    refine X.goto (tgt := 188) dX4_next_184 (by decide) ?_
    refine X.sub [0, 1, 2, 3, 4, 5, 7] (L' := [(0, .ref m0), (1, .int x1), (2, .int x2), (3, .int x3), (4, .int x4), (5, .int x5), (7, .int x7)]) rfl ?_
    exact m_next_188_ok hk95 hk110 _ _ _ _ _ _ _ _ _ _ hf h N Z
def m_next_122_b (k95 : Int32 → Int32 → Int32 → Int32 → Int32 → MS → Option (Int32 × MS)) (k110 : Int32 → Int32 → Int32 → Int32 → Int32 → Int32 → Int32 → MS → Option (Int32 × MS)) (k122 : Int32 → Int32 → Int32 → Int32 → Int32 → Int32 → Int32 → Int32 → Int32 → MS → Option (Int32 × MS)) (x1 : Int32) (x2 : Int32) (x3 : Int32) (x4 : Int32) (x5 : Int32) (x6 : Int32) (x7 : Int32) (x8 : Int32) (x9 : Int32) (S : MS) : Option (Int32 × MS) :=
  if x7 ≤ x9 then
    m_next_176 k95 k110 x1 x2 x3 x4 x5 x6 x7 x8 S
  else
    if x8 = 0 then
      m_next_176 k95 k110 x1 x2 x3 x4 x5 x6 x7 x8 S
    else
      (rdA S 23 (((30 : Int32) * x7) + x5)).bind fun v146 =>
      (rdA S 23 (((30 : Int32) * x9) + x5)).bind fun v159 =>
      if v146 = v159 then
        m_next_168 k95 k110 k122 x1 x2 x3 x4 x5 x6 x7 x9 ((0 : Int32)) S
      else
        m_next_168 k95 k110 k122 x1 x2 x3 x4 x5 x6 x7 x9 ((1 : Int32)) S
def m_next_122 (k95 : Int32 → Int32 → Int32 → Int32 → Int32 → MS → Option (Int32 × MS)) (k110 : Int32 → Int32 → Int32 → Int32 → Int32 → Int32 → Int32 → MS → Option (Int32 × MS)) : Nat → Int32 → Int32 → Int32 → Int32 → Int32 → Int32 → Int32 → Int32 → Int32 → MS → Option (Int32 × MS)
  | 0 => fun _ _ _ _ _ _ _ _ _ _ => none
  | n + 1 => fun x1 x2 x3 x4 x5 x6 x7 x8 x9 S => m_next_122_b k95 k110 (m_next_122 k95 k110 n) x1 x2 x3 x4 x5 x6 x7 x8 x9 S
theorem m_next_122_bok {G : xG} {m0 : Nat} {S0 : MS} {k95 : Int32 → Int32 → Int32 → Int32 → Int32 → MS → Option (Int32 × MS)} {k110 : Int32 → Int32 → Int32 → Int32 → Int32 → Int32 → Int32 → MS → Option (Int32 × MS)} {k122 : Int32 → Int32 → Int32 → Int32 → Int32 → Int32 → Int32 → Int32 → Int32 → MS → Option (Int32 × MS)} (hk95 : ∀ (x1 : Int32) (x2 : Int32) (x3 : Int32) (x4 : Int32) (x5 : Int32) (S : MS) (q : (Int32 × MS)), k95 x1 x2 x3 x4 x5 S = some q → XM G m0 mX4_next 8 S0 (some (.int q.1)) q.2 95 [(0, .ref m0), (1, .int x1), (2, .int x2), (3, .int x3), (4, .int x4), (5, .int x5)] [] S) (hk110 : ∀ (x1 : Int32) (x2 : Int32) (x3 : Int32) (x4 : Int32) (x5 : Int32) (x6 : Int32) (x7 : Int32) (S : MS) (q : (Int32 × MS)), k110 x1 x2 x3 x4 x5 x6 x7 S = some q → XM G m0 mX4_next 8 S0 (some (.int q.1)) q.2 110 [(0, .ref m0), (1, .int x1), (2, .int x2), (3, .int x3), (4, .int x4), (5, .int x5), (6, .int x6), (7, .int x7)] [] S) (hk122 : ∀ (x1 : Int32) (x2 : Int32) (x3 : Int32) (x4 : Int32) (x5 : Int32) (x6 : Int32) (x7 : Int32) (x8 : Int32) (x9 : Int32) (S : MS) (q : (Int32 × MS)), k122 x1 x2 x3 x4 x5 x6 x7 x8 x9 S = some q → XM G m0 mX4_next 8 S0 (some (.int q.1)) q.2 122 [(0, .ref m0), (1, .int x1), (2, .int x2), (3, .int x3), (4, .int x4), (5, .int x5), (6, .int x6), (7, .int x7), (8, .int x8), (9, .int x9)] [] S) (x1 : Int32) (x2 : Int32) (x3 : Int32) (x4 : Int32) (x5 : Int32) (x6 : Int32) (x7 : Int32) (x8 : Int32) (x9 : Int32) (S : MS) (q : (Int32 × MS)) (hf : m_next_122_b k95 k110 k122 x1 x2 x3 x4 x5 x6 x7 x8 x9 S = some q) : XM G m0 mX4_next 8 S0 (some (.int q.1)) q.2 122 [(0, .ref m0), (1, .int x1), (2, .int x2), (3, .int x3), (4, .int x4), (5, .int x5), (6, .int x6), (7, .int x7), (8, .int x8), (9, .int x9)] [] S := by
  intro h N Z
  unfold m_next_122_b at hf
  refine X.iload dX4_next_122 9 rfl ?_
  refine X.iload dX4_next_124 7 rfl ?_
  refine X.icmp_ge (tgt := 176) dX4_next_126 (by decide) (fun c126 => ?_) (fun c126 => ?_)
  · have hf := if_t c126 hf
    refine X.sub [0, 1, 2, 3, 4, 5, 6, 7, 8] (L' := [(0, .ref m0), (1, .int x1), (2, .int x2), (3, .int x3), (4, .int x4), (5, .int x5), (6, .int x6), (7, .int x7), (8, .int x8)]) rfl ?_
    exact m_next_176_ok hk95 hk110 _ _ _ _ _ _ _ _ _ _ hf h N Z
  · have hf := if_f c126 hf
    refine X.iload dX4_next_129 8 rfl ?_
    refine X.if_eq (tgt := 176) dX4_next_131 (by decide) (fun c131 => ?_) (fun c131 => ?_)
    · have hf := if_t c131 hf
      refine X.sub [0, 1, 2, 3, 4, 5, 6, 7, 8] (L' := [(0, .ref m0), (1, .int x1), (2, .int x2), (3, .int x3), (4, .int x4), (5, .int x5), (6, .int x6), (7, .int x7), (8, .int x8)]) rfl ?_
      exact m_next_176_ok hk95 hk110 _ _ _ _ _ _ _ _ _ _ hf h N Z
    · have hf := if_f c131 hf
      refine X.aload_n dX4_next_134 rfl 0 rfl ?_
      refine M.get (v := .ref (m0 + 23)) dX4_next_135 fX4_99 (Nat.le_of_ble_eq_true rfl) rfl ?_
      refine X.bipush (v := 30) dX4_next_138 (by decide) ?_
      refine X.iload dX4_next_140 7 rfl ?_
      refine X.imul dX4_next_142 ?_
      refine X.iload dX4_next_143 5 rfl ?_
      refine X.iadd dX4_next_145 ?_
      obtain ⟨v146, h146, hf⟩ := ob hf
      refine M.iald dX4_next_146 rfl h146 ?_
      refine X.aload_n dX4_next_147 rfl 0 rfl ?_
      refine M.get (v := .ref (m0 + 23)) dX4_next_148 fX4_99 (Nat.le_of_ble_eq_true rfl) rfl ?_
      refine X.bipush (v := 30) dX4_next_151 (by decide) ?_
      refine X.iload dX4_next_153 9 rfl ?_
      refine X.imul dX4_next_155 ?_
      refine X.iload dX4_next_156 5 rfl ?_
      refine X.iadd dX4_next_158 ?_
      obtain ⟨v159, h159, hf⟩ := ob hf
      refine M.iald dX4_next_159 rfl h159 ?_
      refine X.icmp_eq (tgt := 167) dX4_next_160 (by decide) (fun c160 => ?_) (fun c160 => ?_)
      · have hf := if_t c160 hf
        refine X.iconst (v := 0) dX4_next_167 (by decide) ?_
        refine X.sub [0, 1, 2, 3, 4, 5, 6, 7, 9] (L' := [(0, .ref m0), (1, .int x1), (2, .int x2), (3, .int x3), (4, .int x4), (5, .int x5), (6, .int x6), (7, .int x7), (9, .int x9)]) rfl ?_
        exact m_next_168_ok hk95 hk110 hk122 _ _ _ _ _ _ _ _ _ _ _ hf h N Z
      · have hf := if_f c160 hf
        refine X.iconst (v := 1) dX4_next_163 (by decide) ?_
        refine X.goto (tgt := 168) dX4_next_164 (by decide) ?_
        refine X.sub [0, 1, 2, 3, 4, 5, 6, 7, 9] (L' := [(0, .ref m0), (1, .int x1), (2, .int x2), (3, .int x3), (4, .int x4), (5, .int x5), (6, .int x6), (7, .int x7), (9, .int x9)]) rfl ?_
        exact m_next_168_ok hk95 hk110 hk122 _ _ _ _ _ _ _ _ _ _ _ hf h N Z
theorem m_next_122_ok {G : xG} {m0 : Nat} {S0 : MS} {k95 : Int32 → Int32 → Int32 → Int32 → Int32 → MS → Option (Int32 × MS)} {k110 : Int32 → Int32 → Int32 → Int32 → Int32 → Int32 → Int32 → MS → Option (Int32 × MS)} (hk95 : ∀ (x1 : Int32) (x2 : Int32) (x3 : Int32) (x4 : Int32) (x5 : Int32) (S : MS) (q : (Int32 × MS)), k95 x1 x2 x3 x4 x5 S = some q → XM G m0 mX4_next 8 S0 (some (.int q.1)) q.2 95 [(0, .ref m0), (1, .int x1), (2, .int x2), (3, .int x3), (4, .int x4), (5, .int x5)] [] S) (hk110 : ∀ (x1 : Int32) (x2 : Int32) (x3 : Int32) (x4 : Int32) (x5 : Int32) (x6 : Int32) (x7 : Int32) (S : MS) (q : (Int32 × MS)), k110 x1 x2 x3 x4 x5 x6 x7 S = some q → XM G m0 mX4_next 8 S0 (some (.int q.1)) q.2 110 [(0, .ref m0), (1, .int x1), (2, .int x2), (3, .int x3), (4, .int x4), (5, .int x5), (6, .int x6), (7, .int x7)] [] S) : ∀ (n : Nat) (x1 : Int32) (x2 : Int32) (x3 : Int32) (x4 : Int32) (x5 : Int32) (x6 : Int32) (x7 : Int32) (x8 : Int32) (x9 : Int32) (S : MS) (q : (Int32 × MS)), m_next_122 k95 k110 n x1 x2 x3 x4 x5 x6 x7 x8 x9 S = some q → XM G m0 mX4_next 8 S0 (some (.int q.1)) q.2 122 [(0, .ref m0), (1, .int x1), (2, .int x2), (3, .int x3), (4, .int x4), (5, .int x5), (6, .int x6), (7, .int x7), (8, .int x8), (9, .int x9)] [] S
  | 0, _, _, _, _, _, _, _, _, _, _, _, hf => by cases hf
  | n + 1, x1, x2, x3, x4, x5, x6, x7, x8, x9, S, q, hf => m_next_122_bok hk95 hk110 (m_next_122_ok hk95 hk110 n) x1 x2 x3 x4 x5 x6 x7 x8 x9 S q hf
def m_next_214 (k95 : Int32 → Int32 → Int32 → Int32 → Int32 → MS → Option (Int32 × MS)) (x1 : Int32) (x2 : Int32) (x3 : Int32) (x4 : Int32) (x5 : Int32) (S : MS) : Option (Int32 × MS) :=
  k95 x1 x2 x3 x4 ((x5 + 1)) S
theorem m_next_214_ok {G : xG} {m0 : Nat} {S0 : MS} {k95 : Int32 → Int32 → Int32 → Int32 → Int32 → MS → Option (Int32 × MS)} (hk95 : ∀ (x1 : Int32) (x2 : Int32) (x3 : Int32) (x4 : Int32) (x5 : Int32) (S : MS) (q : (Int32 × MS)), k95 x1 x2 x3 x4 x5 S = some q → XM G m0 mX4_next 8 S0 (some (.int q.1)) q.2 95 [(0, .ref m0), (1, .int x1), (2, .int x2), (3, .int x3), (4, .int x4), (5, .int x5)] [] S) (x1 : Int32) (x2 : Int32) (x3 : Int32) (x4 : Int32) (x5 : Int32) (S : MS) (q : (Int32 × MS)) (hf : m_next_214 k95 x1 x2 x3 x4 x5 S = some q) : XM G m0 mX4_next 8 S0 (some (.int q.1)) q.2 214 [(0, .ref m0), (1, .int x1), (2, .int x2), (3, .int x3), (4, .int x4), (5, .int x5)] [] S := by
  intro h N Z
  unfold m_next_214 at hf
  refine X.iinc (v := (x5 + 1)) (L' := [(5, .int (x5 + 1)), (0, .ref m0), (1, .int x1), (2, .int x2), (3, .int x3), (4, .int x4)]) dX4_next_214 5 rfl rfl (Nat.le_of_ble_eq_true rfl) rfl ?_
  refine X.goto (tgt := 95) dX4_next_217 (by decide) ?_
  refine X.sub [1, 2, 3, 4, 5, 0] (L' := [(0, .ref m0), (1, .int x1), (2, .int x2), (3, .int x3), (4, .int x4), (5, .int (x5 + 1))]) rfl ?_
  exact hk95 _ _ _ _ _ _ _ hf h N Z
def m_next_110_b (k95 : Int32 → Int32 → Int32 → Int32 → Int32 → MS → Option (Int32 × MS)) (k110 : Int32 → Int32 → Int32 → Int32 → Int32 → Int32 → Int32 → MS → Option (Int32 × MS)) (x1 : Int32) (x2 : Int32) (x3 : Int32) (x4 : Int32) (x5 : Int32) (x6 : Int32) (x7 : Int32) (S : MS) : Option (Int32 × MS) :=
  if x2 ≤ x7 then
    if x4 < x6 then
      m_next_214 k95 x1 x2 x5 x6 x5 S
    else
      m_next_214 k95 x1 x2 x3 x4 x5 S
  else
    m_next_122 k95 k110 FU x1 x2 x3 x4 x5 x6 x7 ((1 : Int32)) ((0 : Int32)) S
def m_next_110 (k95 : Int32 → Int32 → Int32 → Int32 → Int32 → MS → Option (Int32 × MS)) : Nat → Int32 → Int32 → Int32 → Int32 → Int32 → Int32 → Int32 → MS → Option (Int32 × MS)
  | 0 => fun _ _ _ _ _ _ _ _ => none
  | n + 1 => fun x1 x2 x3 x4 x5 x6 x7 S => m_next_110_b k95 (m_next_110 k95 n) x1 x2 x3 x4 x5 x6 x7 S
theorem m_next_110_bok {G : xG} {m0 : Nat} {S0 : MS} {k95 : Int32 → Int32 → Int32 → Int32 → Int32 → MS → Option (Int32 × MS)} {k110 : Int32 → Int32 → Int32 → Int32 → Int32 → Int32 → Int32 → MS → Option (Int32 × MS)} (hk95 : ∀ (x1 : Int32) (x2 : Int32) (x3 : Int32) (x4 : Int32) (x5 : Int32) (S : MS) (q : (Int32 × MS)), k95 x1 x2 x3 x4 x5 S = some q → XM G m0 mX4_next 8 S0 (some (.int q.1)) q.2 95 [(0, .ref m0), (1, .int x1), (2, .int x2), (3, .int x3), (4, .int x4), (5, .int x5)] [] S) (hk110 : ∀ (x1 : Int32) (x2 : Int32) (x3 : Int32) (x4 : Int32) (x5 : Int32) (x6 : Int32) (x7 : Int32) (S : MS) (q : (Int32 × MS)), k110 x1 x2 x3 x4 x5 x6 x7 S = some q → XM G m0 mX4_next 8 S0 (some (.int q.1)) q.2 110 [(0, .ref m0), (1, .int x1), (2, .int x2), (3, .int x3), (4, .int x4), (5, .int x5), (6, .int x6), (7, .int x7)] [] S) (x1 : Int32) (x2 : Int32) (x3 : Int32) (x4 : Int32) (x5 : Int32) (x6 : Int32) (x7 : Int32) (S : MS) (q : (Int32 × MS)) (hf : m_next_110_b k95 k110 x1 x2 x3 x4 x5 x6 x7 S = some q) : XM G m0 mX4_next 8 S0 (some (.int q.1)) q.2 110 [(0, .ref m0), (1, .int x1), (2, .int x2), (3, .int x3), (4, .int x4), (5, .int x5), (6, .int x6), (7, .int x7)] [] S := by
  intro h N Z
  unfold m_next_110_b at hf
  refine X.iload dX4_next_110 7 rfl ?_
  refine X.iload_n dX4_next_112 rfl 2 rfl ?_
  refine X.icmp_ge (tgt := 197) dX4_next_113 (by decide) (fun c113 => ?_) (fun c113 => ?_)
  · have hf := if_t c113 hf
    refine X.iload dX4_next_197 6 rfl ?_
    refine X.iload dX4_next_199 4 rfl ?_
    refine X.icmp_gt (tgt := 207) dX4_next_201 (by decide) (fun c201 => ?_) (fun c201 => ?_)
    · have hf := if_t c201 hf
      refine X.iload dX4_next_207 5 rfl ?_
      refine X.istore_n (L' := [(3, .int x5), (0, .ref m0), (1, .int x1), (2, .int x2), (4, .int x4), (5, .int x5), (6, .int x6), (7, .int x7)]) dX4_next_209 rfl (Nat.le_of_ble_eq_true rfl) rfl ?_
      refine X.iload dX4_next_210 6 rfl ?_
      refine X.istore (L' := [(4, .int x6), (3, .int x5), (0, .ref m0), (1, .int x1), (2, .int x2), (5, .int x5), (6, .int x6), (7, .int x7)]) dX4_next_212 (Nat.le_of_ble_eq_true rfl) rfl ?_
      refine X.sub [2, 3, 4, 1, 0, 5] (L' := [(0, .ref m0), (1, .int x1), (2, .int x2), (3, .int x5), (4, .int x6), (5, .int x5)]) rfl ?_
      exact m_next_214_ok hk95 _ _ _ _ _ _ _ hf h N Z
    · have hf := if_f c201 hf
      refine X.goto (tgt := 214) dX4_next_204 (by decide) ?_
      refine X.sub [0, 1, 2, 3, 4, 5] (L' := [(0, .ref m0), (1, .int x1), (2, .int x2), (3, .int x3), (4, .int x4), (5, .int x5)]) rfl ?_
      exact m_next_214_ok hk95 _ _ _ _ _ _ _ hf h N Z
  · have hf := if_f c113 hf
    refine X.iconst (v := 1) dX4_next_116 (by decide) ?_
    refine X.istore (L' := [(8, .int (1 : Int32)), (0, .ref m0), (1, .int x1), (2, .int x2), (3, .int x3), (4, .int x4), (5, .int x5), (6, .int x6), (7, .int x7)]) dX4_next_117 (Nat.le_of_ble_eq_true rfl) rfl ?_
    refine X.iconst (v := 0) dX4_next_119 (by decide) ?_
    refine X.istore (L' := [(9, .int (0 : Int32)), (8, .int (1 : Int32)), (0, .ref m0), (1, .int x1), (2, .int x2), (3, .int x3), (4, .int x4), (5, .int x5), (6, .int x6), (7, .int x7)]) dX4_next_120 (Nat.le_of_ble_eq_true rfl) rfl ?_
    refine X.sub [2, 3, 4, 5, 6, 7, 8, 9, 1, 0] (L' := [(0, .ref m0), (1, .int x1), (2, .int x2), (3, .int x3), (4, .int x4), (5, .int x5), (6, .int x6), (7, .int x7), (8, .int (1 : Int32)), (9, .int (0 : Int32))]) rfl ?_
    exact m_next_122_ok hk95 hk110 FU _ _ _ _ _ _ _ _ _ _ _ hf h N Z
theorem m_next_110_ok {G : xG} {m0 : Nat} {S0 : MS} {k95 : Int32 → Int32 → Int32 → Int32 → Int32 → MS → Option (Int32 × MS)} (hk95 : ∀ (x1 : Int32) (x2 : Int32) (x3 : Int32) (x4 : Int32) (x5 : Int32) (S : MS) (q : (Int32 × MS)), k95 x1 x2 x3 x4 x5 S = some q → XM G m0 mX4_next 8 S0 (some (.int q.1)) q.2 95 [(0, .ref m0), (1, .int x1), (2, .int x2), (3, .int x3), (4, .int x4), (5, .int x5)] [] S) : ∀ (n : Nat) (x1 : Int32) (x2 : Int32) (x3 : Int32) (x4 : Int32) (x5 : Int32) (x6 : Int32) (x7 : Int32) (S : MS) (q : (Int32 × MS)), m_next_110 k95 n x1 x2 x3 x4 x5 x6 x7 S = some q → XM G m0 mX4_next 8 S0 (some (.int q.1)) q.2 110 [(0, .ref m0), (1, .int x1), (2, .int x2), (3, .int x3), (4, .int x4), (5, .int x5), (6, .int x6), (7, .int x7)] [] S
  | 0, _, _, _, _, _, _, _, _, _, hf => by cases hf
  | n + 1, x1, x2, x3, x4, x5, x6, x7, S, q, hf => m_next_110_bok hk95 (m_next_110_ok hk95 n) x1 x2 x3 x4 x5 x6 x7 S q hf
def m_next_95_b  (k95 : Int32 → Int32 → Int32 → Int32 → Int32 → MS → Option (Int32 × MS)) (x1 : Int32) (x2 : Int32) (x3 : Int32) (x4 : Int32) (x5 : Int32) (S : MS) : Option (Int32 × MS) :=
  (m_cells S).bind fun q98 =>
  if q98 ≤ x5 then
    if x1 = 0 then
      some (x3, S)
    else
      some (x4, S)
  else
    m_next_110 k95 FU x1 x2 x3 x4 x5 ((0 : Int32)) ((0 : Int32)) S
def m_next_95  : Nat → Int32 → Int32 → Int32 → Int32 → Int32 → MS → Option (Int32 × MS)
  | 0 => fun _ _ _ _ _ _ => none
  | n + 1 => fun x1 x2 x3 x4 x5 S => m_next_95_b (m_next_95 n) x1 x2 x3 x4 x5 S
theorem m_next_95_bok {G : xG} {m0 : Nat} {S0 : MS}  {k95 : Int32 → Int32 → Int32 → Int32 → Int32 → MS → Option (Int32 × MS)}  (hk95 : ∀ (x1 : Int32) (x2 : Int32) (x3 : Int32) (x4 : Int32) (x5 : Int32) (S : MS) (q : (Int32 × MS)), k95 x1 x2 x3 x4 x5 S = some q → XM G m0 mX4_next 8 S0 (some (.int q.1)) q.2 95 [(0, .ref m0), (1, .int x1), (2, .int x2), (3, .int x3), (4, .int x4), (5, .int x5)] [] S) (x1 : Int32) (x2 : Int32) (x3 : Int32) (x4 : Int32) (x5 : Int32) (S : MS) (q : (Int32 × MS)) (hf : m_next_95_b k95 x1 x2 x3 x4 x5 S = some q) : XM G m0 mX4_next 8 S0 (some (.int q.1)) q.2 95 [(0, .ref m0), (1, .int x1), (2, .int x2), (3, .int x3), (4, .int x4), (5, .int x5)] [] S := by
  intro h N Z
  unfold m_next_95_b at hf
  refine X.iload dX4_next_95 5 rfl ?_
  refine X.aload_n dX4_next_97 rfl 0 rfl ?_
  obtain ⟨q98, h98, hf⟩ := ob hf
  refine X.callVi (As := []) (rest := [.int x5]) dX4_next_98 (w_cells h98 h N Z) cX4_321 rfl rfl (Nat.le_of_ble_eq_true rfl) mh_0 rfl rfl (xD (Nat.le_of_ble_eq_true rfl)) xleN xleN ?_
  refine X.icmp_ge (tgt := 220) dX4_next_101 (by decide) (fun c101 => ?_) (fun c101 => ?_)
  · have hf := if_t c101 hf
    refine X.iload_n dX4_next_220 rfl 1 rfl ?_
    refine X.if_ne (tgt := 228) dX4_next_221 (by decide) (fun c221 => ?_) (fun c221 => ?_)
    · have hf := if_f c221 hf
      refine X.iload dX4_next_228 4 rfl ?_
      obtain rfl := Option.some.inj hf
      exact X.iret dX4_next_230 rfl rfl rfl
    · have hf := if_t c221 hf
      refine X.iload_n dX4_next_224 rfl 3 rfl ?_
      refine X.goto (tgt := 230) dX4_next_225 (by decide) ?_
      obtain rfl := Option.some.inj hf
      exact X.iret dX4_next_230 rfl rfl rfl
  · have hf := if_f c101 hf
    refine X.iconst (v := 0) dX4_next_104 (by decide) ?_
    refine X.istore (L' := [(6, .int (0 : Int32)), (0, .ref m0), (1, .int x1), (2, .int x2), (3, .int x3), (4, .int x4), (5, .int x5)]) dX4_next_105 (Nat.le_of_ble_eq_true rfl) rfl ?_
    refine X.iconst (v := 0) dX4_next_107 (by decide) ?_
    refine X.istore (L' := [(7, .int (0 : Int32)), (6, .int (0 : Int32)), (0, .ref m0), (1, .int x1), (2, .int x2), (3, .int x3), (4, .int x4), (5, .int x5)]) dX4_next_108 (Nat.le_of_ble_eq_true rfl) rfl ?_
    refine X.sub [2, 3, 4, 5, 6, 7, 1, 0] (L' := [(0, .ref m0), (1, .int x1), (2, .int x2), (3, .int x3), (4, .int x4), (5, .int x5), (6, .int (0 : Int32)), (7, .int (0 : Int32))]) rfl ?_
    exact m_next_110_ok hk95 FU _ _ _ _ _ _ _ _ _ hf h N Z
theorem m_next_95_ok {G : xG} {m0 : Nat} {S0 : MS}   : ∀ (n : Nat) (x1 : Int32) (x2 : Int32) (x3 : Int32) (x4 : Int32) (x5 : Int32) (S : MS) (q : (Int32 × MS)), m_next_95 n x1 x2 x3 x4 x5 S = some q → XM G m0 mX4_next 8 S0 (some (.int q.1)) q.2 95 [(0, .ref m0), (1, .int x1), (2, .int x2), (3, .int x3), (4, .int x4), (5, .int x5)] [] S
  | 0, _, _, _, _, _, _, _, hf => by cases hf
  | n + 1, x1, x2, x3, x4, x5, S, q, hf => m_next_95_bok (m_next_95_ok n) x1 x2 x3 x4 x5 S q hf
def m_next_20_b  (k20 : Int32 → Int32 → Int32 → MS → Option (Int32 × MS)) (x1 : Int32) (x2 : Int32) (x3 : Int32) (S : MS) : Option (Int32 × MS) :=
  (m_cells S).bind fun q23 =>
  if ((4 : Int32) * q23) ≤ x3 then
    m_next_95 FU x1 x2 ((-1 : Int32)) ((0 : Int32)) ((0 : Int32)) S
  else
    (m_isGuess x3 S).bind fun q32 =>
    if q32.1 = 0 then
      m_next_81 k20 x1 x2 x3 q32.2
    else
      m_next_44 k20 FU x1 x2 x3 ((0 : Int32)) q32.2
def m_next_20  : Nat → Int32 → Int32 → Int32 → MS → Option (Int32 × MS)
  | 0 => fun _ _ _ _ => none
  | n + 1 => fun x1 x2 x3 S => m_next_20_b (m_next_20 n) x1 x2 x3 S
theorem m_next_20_bok {G : xG} {m0 : Nat} {S0 : MS}  {k20 : Int32 → Int32 → Int32 → MS → Option (Int32 × MS)}  (hk20 : ∀ (x1 : Int32) (x2 : Int32) (x3 : Int32) (S : MS) (q : (Int32 × MS)), k20 x1 x2 x3 S = some q → XM G m0 mX4_next 8 S0 (some (.int q.1)) q.2 20 [(0, .ref m0), (1, .int x1), (2, .int x2), (3, .int x3)] [] S) (x1 : Int32) (x2 : Int32) (x3 : Int32) (S : MS) (q : (Int32 × MS)) (hf : m_next_20_b k20 x1 x2 x3 S = some q) : XM G m0 mX4_next 8 S0 (some (.int q.1)) q.2 20 [(0, .ref m0), (1, .int x1), (2, .int x2), (3, .int x3)] [] S := by
  intro h N Z
  unfold m_next_20_b at hf
  refine X.iload_n dX4_next_20 rfl 3 rfl ?_
  refine X.iconst (v := 4) dX4_next_21 (by decide) ?_
  refine X.aload_n dX4_next_22 rfl 0 rfl ?_
  obtain ⟨q23, h23, hf⟩ := ob hf
  refine X.callVi (As := []) (rest := [.int (4 : Int32), .int x3]) dX4_next_23 (w_cells h23 h N Z) cX4_321 rfl rfl (Nat.le_of_ble_eq_true rfl) mh_0 rfl rfl (xD (Nat.le_of_ble_eq_true rfl)) xleN xleN ?_
  refine X.imul dX4_next_26 ?_
  refine X.icmp_ge (tgt := 87) dX4_next_27 (by decide) (fun c27 => ?_) (fun c27 => ?_)
  · have hf := if_t c27 hf
    refine X.iconst (v := -1) dX4_next_87 (by decide) ?_
    refine X.istore_n (L' := [(3, .int (-1 : Int32)), (0, .ref m0), (1, .int x1), (2, .int x2)]) dX4_next_88 rfl (Nat.le_of_ble_eq_true rfl) rfl ?_
    refine X.iconst (v := 0) dX4_next_89 (by decide) ?_
    refine X.istore (L' := [(4, .int (0 : Int32)), (3, .int (-1 : Int32)), (0, .ref m0), (1, .int x1), (2, .int x2)]) dX4_next_90 (Nat.le_of_ble_eq_true rfl) rfl ?_
    refine X.iconst (v := 0) dX4_next_92 (by decide) ?_
    refine X.istore (L' := [(5, .int (0 : Int32)), (4, .int (0 : Int32)), (3, .int (-1 : Int32)), (0, .ref m0), (1, .int x1), (2, .int x2)]) dX4_next_93 (Nat.le_of_ble_eq_true rfl) rfl ?_
    refine X.sub [3, 4, 5, 2, 1, 0] (L' := [(0, .ref m0), (1, .int x1), (2, .int x2), (3, .int (-1 : Int32)), (4, .int (0 : Int32)), (5, .int (0 : Int32))]) rfl ?_
    exact m_next_95_ok FU _ _ _ _ _ _ _ hf h N Z
  · have hf := if_f c27 hf
    refine X.aload_n dX4_next_30 rfl 0 rfl ?_
    refine X.iload_n dX4_next_31 rfl 3 rfl ?_
    obtain ⟨q32, h32, hf⟩ := ob hf
    refine X.callVi (As := [.int x3]) (rest := []) (T2 := (mh m0 h q32.2, N, Z)) dX4_next_32 (w_isGuess h32 h N Z) cX4_434 rfl rfl (Nat.le_of_ble_eq_true rfl) mh_0 rfl rfl (xD (Nat.le_of_ble_eq_true rfl)) xleN xleN ?_
    refine X.if_ne (tgt := 41) dX4_next_35 (by decide) (fun c35 => ?_) (fun c35 => ?_)
    · have hf := if_f c35 hf
      refine X.iconst (v := 0) dX4_next_41 (by decide) ?_
      refine X.istore (L' := [(4, .int (0 : Int32)), (0, .ref m0), (1, .int x1), (2, .int x2), (3, .int x3)]) dX4_next_42 (Nat.le_of_ble_eq_true rfl) rfl ?_
      refine X.sub [1, 2, 3, 4, 0] (L' := [(0, .ref m0), (1, .int x1), (2, .int x2), (3, .int x3), (4, .int (0 : Int32))]) rfl ?_
      exact m_next_44_ok hk20 FU _ _ _ _ _ _ hf h N Z
    · have hf := if_t c35 hf
      refine X.goto (tgt := 81) dX4_next_38 (by decide) ?_
      refine X.sub [0, 1, 2, 3] (L' := [(0, .ref m0), (1, .int x1), (2, .int x2), (3, .int x3)]) rfl ?_
      exact m_next_81_ok hk20 _ _ _ _ _ hf h N Z
theorem m_next_20_ok {G : xG} {m0 : Nat} {S0 : MS}   : ∀ (n : Nat) (x1 : Int32) (x2 : Int32) (x3 : Int32) (S : MS) (q : (Int32 × MS)), m_next_20 n x1 x2 x3 S = some q → XM G m0 mX4_next 8 S0 (some (.int q.1)) q.2 20 [(0, .ref m0), (1, .int x1), (2, .int x2), (3, .int x3)] [] S
  | 0, _, _, _, _, _, hf => by cases hf
  | n + 1, x1, x2, x3, S, q, hf => m_next_20_bok (m_next_20_ok n) x1 x2 x3 S q hf
def m_next (x1 : Int32) (S : MS) : Option (Int32 × MS) :=
  (m_isWhat x1 ((1 : Int32)) ((sF S 0 (0 : Int32)))).bind fun q8 =>
  if q8.1 = 0 then
    some ((0 : Int32), q8.2)
  else
    m_next_20 FU x1 ((0 : Int32)) ((0 : Int32)) q8.2
theorem w_next {G : xG} {m0 : Nat} {x1 : Int32} {S : MS} {q : (Int32 × MS)} (hf : m_next x1 S = some q) : CtM G m0 mX4_next 8 S [.ref m0, .int x1] (some (.int q.1)) q.2 := by
  intro h N Z
  refine Ct.of (by decide +kernel) rfl (Nat.le_of_ble_eq_true rfl) (show Xr G _ 0 [(0, .ref m0), (1, .int x1)] [] _ from ?_)
  unfold m_next at hf
  refine X.aload_n dX4_next_0 rfl 0 rfl ?_
  refine X.iconst (v := 0) dX4_next_1 (by decide) ?_
  refine M.putI dX4_next_2 fX4_115 (by decide) rfl rfl rfl ?_
  refine X.aload_n dX4_next_5 rfl 0 rfl ?_
  refine X.iload_n dX4_next_6 rfl 1 rfl ?_
  refine X.iconst (v := 1) dX4_next_7 (by decide) ?_
  obtain ⟨q8, h8, hf⟩ := ob hf
  refine X.callVi (As := [.int x1, .int (1 : Int32)]) (rest := []) (T2 := (mh m0 h q8.2, N, Z)) dX4_next_8 (w_isWhat h8 h N Z) cX4_388 rfl rfl (Nat.le_of_ble_eq_true rfl) mh_0 rfl rfl (xD (Nat.le_of_ble_eq_true rfl)) xleN xleN ?_
  refine X.if_ne (tgt := 16) dX4_next_11 (by decide) (fun c11 => ?_) (fun c11 => ?_)
  · have hf := if_f c11 hf
    refine X.iconst (v := 0) dX4_next_16 (by decide) ?_
    refine X.istore_n (L' := [(2, .int (0 : Int32)), (0, .ref m0), (1, .int x1)]) dX4_next_17 rfl (Nat.le_of_ble_eq_true rfl) rfl ?_
    refine X.iconst (v := 0) dX4_next_18 (by decide) ?_
    refine X.istore_n (L' := [(3, .int (0 : Int32)), (2, .int (0 : Int32)), (0, .ref m0), (1, .int x1)]) dX4_next_19 rfl (Nat.le_of_ble_eq_true rfl) rfl ?_
    refine X.sub [2, 3, 1, 0] (L' := [(0, .ref m0), (1, .int x1), (2, .int (0 : Int32)), (3, .int (0 : Int32))]) rfl ?_
    exact m_next_20_ok FU _ _ _ _ _ hf h N Z
  · have hf := if_t c11 hf
    refine X.iconst (v := 0) dX4_next_14 (by decide) ?_
    obtain rfl := Option.some.inj hf
    exact X.iret dX4_next_15 rfl rfl rfl
/-! frosts -/
abbrev cX4_frosts : ByteArray := prog_12_method_104_code
def yX4_frosts : MethodName := ⟨RX4, "frosts", "(III)I"⟩
def dkwX4_frosts_6 : List UInt8 := [21, 6, 167, 0, 4, 3, 96, 54, 4, 132, 5, 1, 167, 255, 157, 21, 4, 172]
abbrev dktX4_frosts_6 : List UInt8 := dkwX4_frosts_6 ++ []
def dkwX4_frosts_5 : List UInt8 := [16, 121, 182, 1, 107, 132, 7, 1, 167, 255, 202, 21, 4, 42, 16, 121, 182, 1, 126, 27, 160, 0, 8]
abbrev dktX4_frosts_5 : List UInt8 := dkwX4_frosts_5 ++ dktX4_frosts_6
def dkwX4_frosts_4 : List UInt8 := [16, 10, 29, 100, 104, 54, 6, 21, 5, 21, 7, 122, 4, 126, 4, 160, 0, 7, 42, 182, 1, 162, 42]
abbrev dktX4_frosts_4 : List UInt8 := dkwX4_frosts_4 ++ dktX4_frosts_5
def dkwX4_frosts_3 : List UInt8 := [21, 7, 28, 162, 0, 54, 21, 6, 21, 5, 21, 7, 122, 4, 126, 4, 160, 0, 7, 29, 167, 0, 7]
abbrev dktX4_frosts_3 : List UInt8 := dkwX4_frosts_3 ++ dktX4_frosts_4
def dkwX4_frosts_2 : List UInt8 := [54, 4, 3, 54, 5, 21, 5, 4, 28, 120, 162, 0, 97, 4, 54, 6, 42, 182, 1, 147, 3, 54, 7]
abbrev dktX4_frosts_2 : List UInt8 := dkwX4_frosts_2 ++ dktX4_frosts_3
def dkwX4_frosts_1 : List UInt8 := [3, 16, 10, 184, 1, 117, 153, 0, 7, 4, 167, 0, 4, 3, 5, 182, 1, 34, 154, 0, 5, 3, 172, 3]
abbrev dktX4_frosts_1 : List UInt8 := dkwX4_frosts_1 ++ dktX4_frosts_2
def dkwX4_frosts_0 : List UInt8 := [42, 3, 181, 0, 115, 42, 27, 182, 1, 138, 153, 0, 35, 42, 28, 4, 8, 184, 1, 117, 153, 0, 17, 29]
abbrev dktX4_frosts_0 : List UInt8 := dkwX4_frosts_0 ++ dktX4_frosts_1
theorem dksX4_frosts_0 : cX4_frosts.data.toList.drop 0 = dktX4_frosts_0 := by decide +kernel
theorem dksX4_frosts_1 : cX4_frosts.data.toList.drop 24 = dktX4_frosts_1 := dk_seg dksX4_frosts_0 24 rfl rfl
theorem dksX4_frosts_2 : cX4_frosts.data.toList.drop 48 = dktX4_frosts_2 := dk_seg dksX4_frosts_1 24 rfl rfl
theorem dksX4_frosts_3 : cX4_frosts.data.toList.drop 71 = dktX4_frosts_3 := dk_seg dksX4_frosts_2 23 rfl rfl
theorem dksX4_frosts_4 : cX4_frosts.data.toList.drop 94 = dktX4_frosts_4 := dk_seg dksX4_frosts_3 23 rfl rfl
theorem dksX4_frosts_5 : cX4_frosts.data.toList.drop 117 = dktX4_frosts_5 := dk_seg dksX4_frosts_4 23 rfl rfl
theorem dksX4_frosts_6 : cX4_frosts.data.toList.drop 140 = dktX4_frosts_6 := dk_seg dksX4_frosts_5 23 rfl rfl
theorem dX4_frosts_0 : decode cX4_frosts 0 = .ok (.aload_n 0, 1) := dk_42 (dk_at dksX4_frosts_0 0 rfl rfl)
theorem dX4_frosts_1 : decode cX4_frosts 1 = .ok (.iconst 0, 1) := dk_3 (dk_at dksX4_frosts_0 1 rfl rfl)
theorem dX4_frosts_2 : decode cX4_frosts 2 = .ok (.putfield 115, 3) := dk_181 0 115 (dk_at dksX4_frosts_0 2 rfl rfl)
theorem dX4_frosts_5 : decode cX4_frosts 5 = .ok (.aload_n 0, 1) := dk_42 (dk_at dksX4_frosts_0 5 rfl rfl)
theorem dX4_frosts_6 : decode cX4_frosts 6 = .ok (.iload_n 1, 1) := dk_27 (dk_at dksX4_frosts_0 6 rfl rfl)
theorem dX4_frosts_7 : decode cX4_frosts 7 = .ok (.invokevirtual 394, 3) := dk_182 1 138 (dk_at dksX4_frosts_0 7 rfl rfl)
theorem dX4_frosts_10 : decode cX4_frosts 10 = .ok (.ifCond .eq 35, 3) := dk_153 0 35 (dk_at dksX4_frosts_0 10 rfl rfl)
theorem dX4_frosts_13 : decode cX4_frosts 13 = .ok (.aload_n 0, 1) := dk_42 (dk_at dksX4_frosts_0 13 rfl rfl)
theorem dX4_frosts_14 : decode cX4_frosts 14 = .ok (.iload_n 2, 1) := dk_28 (dk_at dksX4_frosts_0 14 rfl rfl)
theorem dX4_frosts_15 : decode cX4_frosts 15 = .ok (.iconst 1, 1) := dk_4 (dk_at dksX4_frosts_0 15 rfl rfl)
theorem dX4_frosts_16 : decode cX4_frosts 16 = .ok (.iconst 5, 1) := dk_8 (dk_at dksX4_frosts_0 16 rfl rfl)
theorem dX4_frosts_17 : decode cX4_frosts 17 = .ok (.invokestatic 373, 3) := dk_184 1 117 (dk_at dksX4_frosts_0 17 rfl rfl)
theorem dX4_frosts_20 : decode cX4_frosts 20 = .ok (.ifCond .eq 17, 3) := dk_153 0 17 (dk_at dksX4_frosts_0 20 rfl rfl)
theorem dX4_frosts_23 : decode cX4_frosts 23 = .ok (.iload_n 3, 1) := dk_29 (dk_at dksX4_frosts_0 23 rfl rfl)
theorem dX4_frosts_24 : decode cX4_frosts 24 = .ok (.iconst 0, 1) := dk_3 (dk_at dksX4_frosts_1 0 rfl rfl)
theorem dX4_frosts_25 : decode cX4_frosts 25 = .ok (.bipush 10, 2) := dk_16 10 (dk_at dksX4_frosts_1 1 rfl rfl)
theorem dX4_frosts_27 : decode cX4_frosts 27 = .ok (.invokestatic 373, 3) := dk_184 1 117 (dk_at dksX4_frosts_1 3 rfl rfl)
theorem dX4_frosts_30 : decode cX4_frosts 30 = .ok (.ifCond .eq 7, 3) := dk_153 0 7 (dk_at dksX4_frosts_1 6 rfl rfl)
theorem dX4_frosts_33 : decode cX4_frosts 33 = .ok (.iconst 1, 1) := dk_4 (dk_at dksX4_frosts_1 9 rfl rfl)
theorem dX4_frosts_34 : decode cX4_frosts 34 = .ok (.goto 4, 3) := dk_167 0 4 (dk_at dksX4_frosts_1 10 rfl rfl)
theorem dX4_frosts_37 : decode cX4_frosts 37 = .ok (.iconst 0, 1) := dk_3 (dk_at dksX4_frosts_1 13 rfl rfl)
theorem dX4_frosts_38 : decode cX4_frosts 38 = .ok (.iconst 2, 1) := dk_5 (dk_at dksX4_frosts_1 14 rfl rfl)
theorem dX4_frosts_39 : decode cX4_frosts 39 = .ok (.invokevirtual 290, 3) := dk_182 1 34 (dk_at dksX4_frosts_1 15 rfl rfl)
theorem dX4_frosts_42 : decode cX4_frosts 42 = .ok (.ifCond .ne 5, 3) := dk_154 0 5 (dk_at dksX4_frosts_1 18 rfl rfl)
theorem dX4_frosts_45 : decode cX4_frosts 45 = .ok (.iconst 0, 1) := dk_3 (dk_at dksX4_frosts_1 21 rfl rfl)
theorem dX4_frosts_46 : decode cX4_frosts 46 = .ok (.ireturn, 1) := dk_172 (dk_at dksX4_frosts_1 22 rfl rfl)
theorem dX4_frosts_47 : decode cX4_frosts 47 = .ok (.iconst 0, 1) := dk_3 (dk_at dksX4_frosts_1 23 rfl rfl)
theorem dX4_frosts_48 : decode cX4_frosts 48 = .ok (.istore 4, 2) := dk_54 4 (dk_at dksX4_frosts_2 0 rfl rfl)
theorem dX4_frosts_50 : decode cX4_frosts 50 = .ok (.iconst 0, 1) := dk_3 (dk_at dksX4_frosts_2 2 rfl rfl)
theorem dX4_frosts_51 : decode cX4_frosts 51 = .ok (.istore 5, 2) := dk_54 5 (dk_at dksX4_frosts_2 3 rfl rfl)
theorem dX4_frosts_53 : decode cX4_frosts 53 = .ok (.iload 5, 2) := dk_21 5 (dk_at dksX4_frosts_2 5 rfl rfl)
theorem dX4_frosts_55 : decode cX4_frosts 55 = .ok (.iconst 1, 1) := dk_4 (dk_at dksX4_frosts_2 7 rfl rfl)
theorem dX4_frosts_56 : decode cX4_frosts 56 = .ok (.iload_n 2, 1) := dk_28 (dk_at dksX4_frosts_2 8 rfl rfl)
theorem dX4_frosts_57 : decode cX4_frosts 57 = .ok (.ishl, 1) := dk_120 (dk_at dksX4_frosts_2 9 rfl rfl)
theorem dX4_frosts_58 : decode cX4_frosts 58 = .ok (.if_icmp .ge 97, 3) := dk_162 0 97 (dk_at dksX4_frosts_2 10 rfl rfl)
theorem dX4_frosts_61 : decode cX4_frosts 61 = .ok (.iconst 1, 1) := dk_4 (dk_at dksX4_frosts_2 13 rfl rfl)
theorem dX4_frosts_62 : decode cX4_frosts 62 = .ok (.istore 6, 2) := dk_54 6 (dk_at dksX4_frosts_2 14 rfl rfl)
theorem dX4_frosts_64 : decode cX4_frosts 64 = .ok (.aload_n 0, 1) := dk_42 (dk_at dksX4_frosts_2 16 rfl rfl)
theorem dX4_frosts_65 : decode cX4_frosts 65 = .ok (.invokevirtual 403, 3) := dk_182 1 147 (dk_at dksX4_frosts_2 17 rfl rfl)
theorem dX4_frosts_68 : decode cX4_frosts 68 = .ok (.iconst 0, 1) := dk_3 (dk_at dksX4_frosts_2 20 rfl rfl)
theorem dX4_frosts_69 : decode cX4_frosts 69 = .ok (.istore 7, 2) := dk_54 7 (dk_at dksX4_frosts_2 21 rfl rfl)
theorem dX4_frosts_71 : decode cX4_frosts 71 = .ok (.iload 7, 2) := dk_21 7 (dk_at dksX4_frosts_3 0 rfl rfl)
theorem dX4_frosts_73 : decode cX4_frosts 73 = .ok (.iload_n 2, 1) := dk_28 (dk_at dksX4_frosts_3 2 rfl rfl)
theorem dX4_frosts_74 : decode cX4_frosts 74 = .ok (.if_icmp .ge 54, 3) := dk_162 0 54 (dk_at dksX4_frosts_3 3 rfl rfl)
theorem dX4_frosts_77 : decode cX4_frosts 77 = .ok (.iload 6, 2) := dk_21 6 (dk_at dksX4_frosts_3 6 rfl rfl)
theorem dX4_frosts_79 : decode cX4_frosts 79 = .ok (.iload 5, 2) := dk_21 5 (dk_at dksX4_frosts_3 8 rfl rfl)
theorem dX4_frosts_81 : decode cX4_frosts 81 = .ok (.iload 7, 2) := dk_21 7 (dk_at dksX4_frosts_3 10 rfl rfl)
theorem dX4_frosts_83 : decode cX4_frosts 83 = .ok (.ishr, 1) := dk_122 (dk_at dksX4_frosts_3 12 rfl rfl)
theorem dX4_frosts_84 : decode cX4_frosts 84 = .ok (.iconst 1, 1) := dk_4 (dk_at dksX4_frosts_3 13 rfl rfl)
theorem dX4_frosts_85 : decode cX4_frosts 85 = .ok (.iand, 1) := dk_126 (dk_at dksX4_frosts_3 14 rfl rfl)
theorem dX4_frosts_86 : decode cX4_frosts 86 = .ok (.iconst 1, 1) := dk_4 (dk_at dksX4_frosts_3 15 rfl rfl)
theorem dX4_frosts_87 : decode cX4_frosts 87 = .ok (.if_icmp .ne 7, 3) := dk_160 0 7 (dk_at dksX4_frosts_3 16 rfl rfl)
theorem dX4_frosts_90 : decode cX4_frosts 90 = .ok (.iload_n 3, 1) := dk_29 (dk_at dksX4_frosts_3 19 rfl rfl)
theorem dX4_frosts_91 : decode cX4_frosts 91 = .ok (.goto 7, 3) := dk_167 0 7 (dk_at dksX4_frosts_3 20 rfl rfl)
theorem dX4_frosts_94 : decode cX4_frosts 94 = .ok (.bipush 10, 2) := dk_16 10 (dk_at dksX4_frosts_4 0 rfl rfl)
theorem dX4_frosts_96 : decode cX4_frosts 96 = .ok (.iload_n 3, 1) := dk_29 (dk_at dksX4_frosts_4 2 rfl rfl)
theorem dX4_frosts_97 : decode cX4_frosts 97 = .ok (.isub, 1) := dk_100 (dk_at dksX4_frosts_4 3 rfl rfl)
theorem dX4_frosts_98 : decode cX4_frosts 98 = .ok (.imul, 1) := dk_104 (dk_at dksX4_frosts_4 4 rfl rfl)
theorem dX4_frosts_99 : decode cX4_frosts 99 = .ok (.istore 6, 2) := dk_54 6 (dk_at dksX4_frosts_4 5 rfl rfl)
theorem dX4_frosts_101 : decode cX4_frosts 101 = .ok (.iload 5, 2) := dk_21 5 (dk_at dksX4_frosts_4 7 rfl rfl)
theorem dX4_frosts_103 : decode cX4_frosts 103 = .ok (.iload 7, 2) := dk_21 7 (dk_at dksX4_frosts_4 9 rfl rfl)
theorem dX4_frosts_105 : decode cX4_frosts 105 = .ok (.ishr, 1) := dk_122 (dk_at dksX4_frosts_4 11 rfl rfl)
theorem dX4_frosts_106 : decode cX4_frosts 106 = .ok (.iconst 1, 1) := dk_4 (dk_at dksX4_frosts_4 12 rfl rfl)
theorem dX4_frosts_107 : decode cX4_frosts 107 = .ok (.iand, 1) := dk_126 (dk_at dksX4_frosts_4 13 rfl rfl)
theorem dX4_frosts_108 : decode cX4_frosts 108 = .ok (.iconst 1, 1) := dk_4 (dk_at dksX4_frosts_4 14 rfl rfl)
theorem dX4_frosts_109 : decode cX4_frosts 109 = .ok (.if_icmp .ne 7, 3) := dk_160 0 7 (dk_at dksX4_frosts_4 15 rfl rfl)
theorem dX4_frosts_112 : decode cX4_frosts 112 = .ok (.aload_n 0, 1) := dk_42 (dk_at dksX4_frosts_4 18 rfl rfl)
theorem dX4_frosts_113 : decode cX4_frosts 113 = .ok (.invokevirtual 418, 3) := dk_182 1 162 (dk_at dksX4_frosts_4 19 rfl rfl)
theorem dX4_frosts_116 : decode cX4_frosts 116 = .ok (.aload_n 0, 1) := dk_42 (dk_at dksX4_frosts_4 22 rfl rfl)
theorem dX4_frosts_117 : decode cX4_frosts 117 = .ok (.bipush 121, 2) := dk_16 121 (dk_at dksX4_frosts_5 0 rfl rfl)
theorem dX4_frosts_119 : decode cX4_frosts 119 = .ok (.invokevirtual 363, 3) := dk_182 1 107 (dk_at dksX4_frosts_5 2 rfl rfl)
theorem dX4_frosts_122 : decode cX4_frosts 122 = .ok (.iinc 7 1, 3) := dk_132 7 1 (dk_at dksX4_frosts_5 5 rfl rfl)
theorem dX4_frosts_125 : decode cX4_frosts 125 = .ok (.goto (-54), 3) := dk_167 255 202 (dk_at dksX4_frosts_5 8 rfl rfl)
theorem dX4_frosts_128 : decode cX4_frosts 128 = .ok (.iload 4, 2) := dk_21 4 (dk_at dksX4_frosts_5 11 rfl rfl)
theorem dX4_frosts_130 : decode cX4_frosts 130 = .ok (.aload_n 0, 1) := dk_42 (dk_at dksX4_frosts_5 13 rfl rfl)
theorem dX4_frosts_131 : decode cX4_frosts 131 = .ok (.bipush 121, 2) := dk_16 121 (dk_at dksX4_frosts_5 14 rfl rfl)
theorem dX4_frosts_133 : decode cX4_frosts 133 = .ok (.invokevirtual 382, 3) := dk_182 1 126 (dk_at dksX4_frosts_5 16 rfl rfl)
theorem dX4_frosts_136 : decode cX4_frosts 136 = .ok (.iload_n 1, 1) := dk_27 (dk_at dksX4_frosts_5 19 rfl rfl)
theorem dX4_frosts_137 : decode cX4_frosts 137 = .ok (.if_icmp .ne 8, 3) := dk_160 0 8 (dk_at dksX4_frosts_5 20 rfl rfl)
theorem dX4_frosts_140 : decode cX4_frosts 140 = .ok (.iload 6, 2) := dk_21 6 (dk_at dksX4_frosts_6 0 rfl rfl)
theorem dX4_frosts_142 : decode cX4_frosts 142 = .ok (.goto 4, 3) := dk_167 0 4 (dk_at dksX4_frosts_6 2 rfl rfl)
theorem dX4_frosts_145 : decode cX4_frosts 145 = .ok (.iconst 0, 1) := dk_3 (dk_at dksX4_frosts_6 5 rfl rfl)
theorem dX4_frosts_146 : decode cX4_frosts 146 = .ok (.iadd, 1) := dk_96 (dk_at dksX4_frosts_6 6 rfl rfl)
theorem dX4_frosts_147 : decode cX4_frosts 147 = .ok (.istore 4, 2) := dk_54 4 (dk_at dksX4_frosts_6 7 rfl rfl)
theorem dX4_frosts_149 : decode cX4_frosts 149 = .ok (.iinc 5 1, 3) := dk_132 5 1 (dk_at dksX4_frosts_6 9 rfl rfl)
theorem dX4_frosts_152 : decode cX4_frosts 152 = .ok (.goto (-99), 3) := dk_167 255 157 (dk_at dksX4_frosts_6 12 rfl rfl)
theorem dX4_frosts_155 : decode cX4_frosts 155 = .ok (.iload 4, 2) := dk_21 4 (dk_at dksX4_frosts_6 15 rfl rfl)
theorem dX4_frosts_157 : decode cX4_frosts 157 = .ok (.ireturn, 1) := dk_172 (dk_at dksX4_frosts_6 17 rfl rfl)
abbrev mX4_frosts : xM := (yX4_frosts, cX4_frosts, 8, (some .int), [])
def m_frosts_116 (k53 : Int32 → Int32 → Int32 → Int32 → Int32 → MS → Option (Int32 × MS)) (k71 : Int32 → Int32 → Int32 → Int32 → Int32 → Int32 → Int32 → MS → Option (Int32 × MS)) (x1 : Int32) (x2 : Int32) (x3 : Int32) (x4 : Int32) (x5 : Int32) (x6 : Int32) (x7 : Int32) (S : MS) : Option (Int32 × MS) :=
  (m_dayGoes ((121 : Int32)) S).bind fun q119 =>
  k71 x1 x2 x3 x4 x5 x6 ((x7 + 1)) q119
theorem m_frosts_116_ok {G : xG} {m0 : Nat} {S0 : MS} {k53 : Int32 → Int32 → Int32 → Int32 → Int32 → MS → Option (Int32 × MS)} {k71 : Int32 → Int32 → Int32 → Int32 → Int32 → Int32 → Int32 → MS → Option (Int32 × MS)} (hk53 : ∀ (x1 : Int32) (x2 : Int32) (x3 : Int32) (x4 : Int32) (x5 : Int32) (S : MS) (q : (Int32 × MS)), k53 x1 x2 x3 x4 x5 S = some q → XM G m0 mX4_frosts 6 S0 (some (.int q.1)) q.2 53 [(0, .ref m0), (1, .int x1), (2, .int x2), (3, .int x3), (4, .int x4), (5, .int x5)] [] S) (hk71 : ∀ (x1 : Int32) (x2 : Int32) (x3 : Int32) (x4 : Int32) (x5 : Int32) (x6 : Int32) (x7 : Int32) (S : MS) (q : (Int32 × MS)), k71 x1 x2 x3 x4 x5 x6 x7 S = some q → XM G m0 mX4_frosts 6 S0 (some (.int q.1)) q.2 71 [(0, .ref m0), (1, .int x1), (2, .int x2), (3, .int x3), (4, .int x4), (5, .int x5), (6, .int x6), (7, .int x7)] [] S) (x1 : Int32) (x2 : Int32) (x3 : Int32) (x4 : Int32) (x5 : Int32) (x6 : Int32) (x7 : Int32) (S : MS) (q : (Int32 × MS)) (hf : m_frosts_116 k53 k71 x1 x2 x3 x4 x5 x6 x7 S = some q) : XM G m0 mX4_frosts 6 S0 (some (.int q.1)) q.2 116 [(0, .ref m0), (1, .int x1), (2, .int x2), (3, .int x3), (4, .int x4), (5, .int x5), (6, .int x6), (7, .int x7)] [] S := by
  intro h N Z
  unfold m_frosts_116 at hf
  refine X.aload_n dX4_frosts_116 rfl 0 rfl ?_
  refine X.bipush (v := 121) dX4_frosts_117 (by decide) ?_
  obtain ⟨q119, h119, hf⟩ := ob hf
  refine X.callVv (As := [.int (121 : Int32)]) (rest := []) (T2 := (mh m0 h q119, N, Z)) dX4_frosts_119 (w_dayGoes h119 h N Z) cX4_363 rfl rfl (Nat.le_of_ble_eq_true rfl) mh_0 rfl rfl (xD (Nat.le_of_ble_eq_true rfl)) xleN xleN ?_
  refine X.iinc (v := (x7 + 1)) (L' := [(7, .int (x7 + 1)), (0, .ref m0), (1, .int x1), (2, .int x2), (3, .int x3), (4, .int x4), (5, .int x5), (6, .int x6)]) dX4_frosts_122 7 rfl rfl (Nat.le_of_ble_eq_true rfl) rfl ?_
  refine X.goto (tgt := 71) dX4_frosts_125 (by decide) ?_
  refine X.sub [1, 2, 3, 4, 5, 6, 7, 0] (L' := [(0, .ref m0), (1, .int x1), (2, .int x2), (3, .int x3), (4, .int x4), (5, .int x5), (6, .int x6), (7, .int (x7 + 1))]) rfl ?_
  exact hk71 _ _ _ _ _ _ _ _ _ hf h N Z
def m_frosts_98 (k53 : Int32 → Int32 → Int32 → Int32 → Int32 → MS → Option (Int32 × MS)) (k71 : Int32 → Int32 → Int32 → Int32 → Int32 → Int32 → Int32 → MS → Option (Int32 × MS)) (x1 : Int32) (x2 : Int32) (x3 : Int32) (x4 : Int32) (x5 : Int32) (x7 : Int32) (y0 : Int32) (y1 : Int32) (S : MS) : Option (Int32 × MS) :=
  if ((x5 >>> (x7 &&& 31)) &&& (1 : Int32)) = (1 : Int32) then
    (m_freezes S).bind fun q113 =>
    m_frosts_116 k53 k71 x1 x2 x3 x4 x5 ((y1 * y0)) x7 q113
  else
    m_frosts_116 k53 k71 x1 x2 x3 x4 x5 ((y1 * y0)) x7 S
theorem m_frosts_98_ok {G : xG} {m0 : Nat} {S0 : MS} {k53 : Int32 → Int32 → Int32 → Int32 → Int32 → MS → Option (Int32 × MS)} {k71 : Int32 → Int32 → Int32 → Int32 → Int32 → Int32 → Int32 → MS → Option (Int32 × MS)} (hk53 : ∀ (x1 : Int32) (x2 : Int32) (x3 : Int32) (x4 : Int32) (x5 : Int32) (S : MS) (q : (Int32 × MS)), k53 x1 x2 x3 x4 x5 S = some q → XM G m0 mX4_frosts 6 S0 (some (.int q.1)) q.2 53 [(0, .ref m0), (1, .int x1), (2, .int x2), (3, .int x3), (4, .int x4), (5, .int x5)] [] S) (hk71 : ∀ (x1 : Int32) (x2 : Int32) (x3 : Int32) (x4 : Int32) (x5 : Int32) (x6 : Int32) (x7 : Int32) (S : MS) (q : (Int32 × MS)), k71 x1 x2 x3 x4 x5 x6 x7 S = some q → XM G m0 mX4_frosts 6 S0 (some (.int q.1)) q.2 71 [(0, .ref m0), (1, .int x1), (2, .int x2), (3, .int x3), (4, .int x4), (5, .int x5), (6, .int x6), (7, .int x7)] [] S) (x1 : Int32) (x2 : Int32) (x3 : Int32) (x4 : Int32) (x5 : Int32) (x7 : Int32) (y0 : Int32) (y1 : Int32) (S : MS) (q : (Int32 × MS)) (hf : m_frosts_98 k53 k71 x1 x2 x3 x4 x5 x7 y0 y1 S = some q) : XM G m0 mX4_frosts 6 S0 (some (.int q.1)) q.2 98 [(0, .ref m0), (1, .int x1), (2, .int x2), (3, .int x3), (4, .int x4), (5, .int x5), (7, .int x7)] [.int y0, .int y1] S := by
  intro h N Z
  unfold m_frosts_98 at hf
  refine X.imul dX4_frosts_98 ?_
  refine X.istore (L' := [(6, .int (y1 * y0)), (0, .ref m0), (1, .int x1), (2, .int x2), (3, .int x3), (4, .int x4), (5, .int x5), (7, .int x7)]) dX4_frosts_99 (Nat.le_of_ble_eq_true rfl) rfl ?_
  refine X.iload dX4_frosts_101 6 rfl ?_
  refine X.iload dX4_frosts_103 7 rfl ?_
  refine X.ishr dX4_frosts_105 ?_
  refine X.iconst (v := 1) dX4_frosts_106 (by decide) ?_
  refine X.iand dX4_frosts_107 ?_
  refine X.iconst (v := 1) dX4_frosts_108 (by decide) ?_
  refine X.icmp_ne (tgt := 116) dX4_frosts_109 (by decide) (fun c109 => ?_) (fun c109 => ?_)
  · have hf := if_f c109 hf
    refine X.sub [1, 2, 3, 4, 5, 6, 0, 7] (L' := [(0, .ref m0), (1, .int x1), (2, .int x2), (3, .int x3), (4, .int x4), (5, .int x5), (6, .int (y1 * y0)), (7, .int x7)]) rfl ?_
    exact m_frosts_116_ok hk53 hk71 _ _ _ _ _ _ _ _ _ hf h N Z
  · have hf := if_t c109 hf
    refine X.aload_n dX4_frosts_112 rfl 1 rfl ?_
    obtain ⟨q113, h113, hf⟩ := ob hf
    refine X.callVv (As := []) (rest := []) (T2 := (mh m0 h q113, N, Z)) dX4_frosts_113 (w_freezes h113 h N Z) cX4_418 rfl rfl (Nat.le_of_ble_eq_true rfl) mh_0 rfl rfl (xD (Nat.le_of_ble_eq_true rfl)) xleN xleN ?_
    refine X.sub [1, 2, 3, 4, 5, 6, 0, 7] (L' := [(0, .ref m0), (1, .int x1), (2, .int x2), (3, .int x3), (4, .int x4), (5, .int x5), (6, .int (y1 * y0)), (7, .int x7)]) rfl ?_
    exact m_frosts_116_ok hk53 hk71 _ _ _ _ _ _ _ _ _ hf h N Z
def m_frosts_146 (k53 : Int32 → Int32 → Int32 → Int32 → Int32 → MS → Option (Int32 × MS)) (x1 : Int32) (x2 : Int32) (x3 : Int32) (x5 : Int32) (y0 : Int32) (y1 : Int32) (S : MS) : Option (Int32 × MS) :=
  k53 x1 x2 x3 ((y1 + y0)) ((x5 + 1)) S
theorem m_frosts_146_ok {G : xG} {m0 : Nat} {S0 : MS} {k53 : Int32 → Int32 → Int32 → Int32 → Int32 → MS → Option (Int32 × MS)} (hk53 : ∀ (x1 : Int32) (x2 : Int32) (x3 : Int32) (x4 : Int32) (x5 : Int32) (S : MS) (q : (Int32 × MS)), k53 x1 x2 x3 x4 x5 S = some q → XM G m0 mX4_frosts 6 S0 (some (.int q.1)) q.2 53 [(0, .ref m0), (1, .int x1), (2, .int x2), (3, .int x3), (4, .int x4), (5, .int x5)] [] S) (x1 : Int32) (x2 : Int32) (x3 : Int32) (x5 : Int32) (y0 : Int32) (y1 : Int32) (S : MS) (q : (Int32 × MS)) (hf : m_frosts_146 k53 x1 x2 x3 x5 y0 y1 S = some q) : XM G m0 mX4_frosts 6 S0 (some (.int q.1)) q.2 146 [(0, .ref m0), (1, .int x1), (2, .int x2), (3, .int x3), (5, .int x5)] [.int y0, .int y1] S := by
  intro h N Z
  unfold m_frosts_146 at hf
  refine X.iadd dX4_frosts_146 ?_
  refine X.istore (L' := [(4, .int (y1 + y0)), (0, .ref m0), (1, .int x1), (2, .int x2), (3, .int x3), (5, .int x5)]) dX4_frosts_147 (Nat.le_of_ble_eq_true rfl) rfl ?_
  refine X.iinc (v := (x5 + 1)) (L' := [(5, .int (x5 + 1)), (4, .int (y1 + y0)), (0, .ref m0), (1, .int x1), (2, .int x2), (3, .int x3)]) dX4_frosts_149 5 rfl rfl (Nat.le_of_ble_eq_true rfl) rfl ?_
  refine X.goto (tgt := 53) dX4_frosts_152 (by decide) ?_
  refine X.sub [2, 3, 4, 5, 1, 0] (L' := [(0, .ref m0), (1, .int x1), (2, .int x2), (3, .int x3), (4, .int (y1 + y0)), (5, .int (x5 + 1))]) rfl ?_
  exact hk53 _ _ _ _ _ _ _ hf h N Z
def m_frosts_71_b (k53 : Int32 → Int32 → Int32 → Int32 → Int32 → MS → Option (Int32 × MS)) (k71 : Int32 → Int32 → Int32 → Int32 → Int32 → Int32 → Int32 → MS → Option (Int32 × MS)) (x1 : Int32) (x2 : Int32) (x3 : Int32) (x4 : Int32) (x5 : Int32) (x6 : Int32) (x7 : Int32) (S : MS) : Option (Int32 × MS) :=
  if x2 ≤ x7 then
    (m_winnerIn ((121 : Int32)) S).bind fun q133 =>
    if q133 = x1 then
      m_frosts_146 k53 x1 x2 x3 x5 x6 x4 S
    else
      m_frosts_146 k53 x1 x2 x3 x5 ((0 : Int32)) x4 S
  else
    if ((x5 >>> (x7 &&& 31)) &&& (1 : Int32)) = (1 : Int32) then
      m_frosts_98 k53 k71 x1 x2 x3 x4 x5 x7 x3 x6 S
    else
      m_frosts_98 k53 k71 x1 x2 x3 x4 x5 x7 (((10 : Int32) - x3)) x6 S
def m_frosts_71 (k53 : Int32 → Int32 → Int32 → Int32 → Int32 → MS → Option (Int32 × MS)) : Nat → Int32 → Int32 → Int32 → Int32 → Int32 → Int32 → Int32 → MS → Option (Int32 × MS)
  | 0 => fun _ _ _ _ _ _ _ _ => none
  | n + 1 => fun x1 x2 x3 x4 x5 x6 x7 S => m_frosts_71_b k53 (m_frosts_71 k53 n) x1 x2 x3 x4 x5 x6 x7 S
theorem m_frosts_71_bok {G : xG} {m0 : Nat} {S0 : MS} {k53 : Int32 → Int32 → Int32 → Int32 → Int32 → MS → Option (Int32 × MS)} {k71 : Int32 → Int32 → Int32 → Int32 → Int32 → Int32 → Int32 → MS → Option (Int32 × MS)} (hk53 : ∀ (x1 : Int32) (x2 : Int32) (x3 : Int32) (x4 : Int32) (x5 : Int32) (S : MS) (q : (Int32 × MS)), k53 x1 x2 x3 x4 x5 S = some q → XM G m0 mX4_frosts 6 S0 (some (.int q.1)) q.2 53 [(0, .ref m0), (1, .int x1), (2, .int x2), (3, .int x3), (4, .int x4), (5, .int x5)] [] S) (hk71 : ∀ (x1 : Int32) (x2 : Int32) (x3 : Int32) (x4 : Int32) (x5 : Int32) (x6 : Int32) (x7 : Int32) (S : MS) (q : (Int32 × MS)), k71 x1 x2 x3 x4 x5 x6 x7 S = some q → XM G m0 mX4_frosts 6 S0 (some (.int q.1)) q.2 71 [(0, .ref m0), (1, .int x1), (2, .int x2), (3, .int x3), (4, .int x4), (5, .int x5), (6, .int x6), (7, .int x7)] [] S) (x1 : Int32) (x2 : Int32) (x3 : Int32) (x4 : Int32) (x5 : Int32) (x6 : Int32) (x7 : Int32) (S : MS) (q : (Int32 × MS)) (hf : m_frosts_71_b k53 k71 x1 x2 x3 x4 x5 x6 x7 S = some q) : XM G m0 mX4_frosts 6 S0 (some (.int q.1)) q.2 71 [(0, .ref m0), (1, .int x1), (2, .int x2), (3, .int x3), (4, .int x4), (5, .int x5), (6, .int x6), (7, .int x7)] [] S := by
  intro h N Z
  unfold m_frosts_71_b at hf
  refine X.iload dX4_frosts_71 7 rfl ?_
  refine X.iload_n dX4_frosts_73 rfl 2 rfl ?_
  refine X.icmp_ge (tgt := 128) dX4_frosts_74 (by decide) (fun c74 => ?_) (fun c74 => ?_)
  · have hf := if_t c74 hf
    refine X.iload dX4_frosts_128 4 rfl ?_
    refine X.aload_n dX4_frosts_130 rfl 0 rfl ?_
    refine X.bipush (v := 121) dX4_frosts_131 (by decide) ?_
    obtain ⟨q133, h133, hf⟩ := ob hf
    refine X.callVi (As := [.int (121 : Int32)]) (rest := [.int x4]) dX4_frosts_133 (w_winnerIn h133 h N Z) cX4_382 rfl rfl (Nat.le_of_ble_eq_true rfl) mh_0 rfl rfl (xD (Nat.le_of_ble_eq_true rfl)) xleN xleN ?_
    refine X.iload_n dX4_frosts_136 rfl 1 rfl ?_
    refine X.icmp_ne (tgt := 145) dX4_frosts_137 (by decide) (fun c137 => ?_) (fun c137 => ?_)
    · have hf := if_f c137 hf
      refine X.iconst (v := 0) dX4_frosts_145 (by decide) ?_
      refine X.sub [0, 1, 2, 3, 5] (L' := [(0, .ref m0), (1, .int x1), (2, .int x2), (3, .int x3), (5, .int x5)]) rfl ?_
      exact m_frosts_146_ok hk53 _ _ _ _ _ _ _ _ hf h N Z
    · have hf := if_t c137 hf
      refine X.iload dX4_frosts_140 6 rfl ?_
      refine X.goto (tgt := 146) dX4_frosts_142 (by decide) ?_
      refine X.sub [0, 1, 2, 3, 5] (L' := [(0, .ref m0), (1, .int x1), (2, .int x2), (3, .int x3), (5, .int x5)]) rfl ?_
      exact m_frosts_146_ok hk53 _ _ _ _ _ _ _ _ hf h N Z
  · have hf := if_f c74 hf
    refine X.iload dX4_frosts_77 6 rfl ?_
    refine X.iload dX4_frosts_79 5 rfl ?_
    refine X.iload dX4_frosts_81 7 rfl ?_
    refine X.ishr dX4_frosts_83 ?_
    refine X.iconst (v := 1) dX4_frosts_84 (by decide) ?_
    refine X.iand dX4_frosts_85 ?_
    refine X.iconst (v := 1) dX4_frosts_86 (by decide) ?_
    refine X.icmp_ne (tgt := 94) dX4_frosts_87 (by decide) (fun c87 => ?_) (fun c87 => ?_)
    · have hf := if_f c87 hf
      refine X.bipush (v := 10) dX4_frosts_94 (by decide) ?_
      refine X.iload_n dX4_frosts_96 rfl 3 rfl ?_
      refine X.isub dX4_frosts_97 ?_
      refine X.sub [0, 1, 2, 3, 4, 5, 7] (L' := [(0, .ref m0), (1, .int x1), (2, .int x2), (3, .int x3), (4, .int x4), (5, .int x5), (7, .int x7)]) rfl ?_
      exact m_frosts_98_ok hk53 hk71 _ _ _ _ _ _ _ _ _ _ hf h N Z
    · have hf := if_t c87 hf
      refine X.iload_n dX4_frosts_90 rfl 3 rfl ?_
      refine X.goto (tgt := 98) dX4_frosts_91 (by decide) ?_
      refine X.sub [0, 1, 2, 3, 4, 5, 7] (L' := [(0, .ref m0), (1, .int x1), (2, .int x2), (3, .int x3), (4, .int x4), (5, .int x5), (7, .int x7)]) rfl ?_
      exact m_frosts_98_ok hk53 hk71 _ _ _ _ _ _ _ _ _ _ hf h N Z
theorem m_frosts_71_ok {G : xG} {m0 : Nat} {S0 : MS} {k53 : Int32 → Int32 → Int32 → Int32 → Int32 → MS → Option (Int32 × MS)} (hk53 : ∀ (x1 : Int32) (x2 : Int32) (x3 : Int32) (x4 : Int32) (x5 : Int32) (S : MS) (q : (Int32 × MS)), k53 x1 x2 x3 x4 x5 S = some q → XM G m0 mX4_frosts 6 S0 (some (.int q.1)) q.2 53 [(0, .ref m0), (1, .int x1), (2, .int x2), (3, .int x3), (4, .int x4), (5, .int x5)] [] S) : ∀ (n : Nat) (x1 : Int32) (x2 : Int32) (x3 : Int32) (x4 : Int32) (x5 : Int32) (x6 : Int32) (x7 : Int32) (S : MS) (q : (Int32 × MS)), m_frosts_71 k53 n x1 x2 x3 x4 x5 x6 x7 S = some q → XM G m0 mX4_frosts 6 S0 (some (.int q.1)) q.2 71 [(0, .ref m0), (1, .int x1), (2, .int x2), (3, .int x3), (4, .int x4), (5, .int x5), (6, .int x6), (7, .int x7)] [] S
  | 0, _, _, _, _, _, _, _, _, _, hf => by cases hf
  | n + 1, x1, x2, x3, x4, x5, x6, x7, S, q, hf => m_frosts_71_bok hk53 (m_frosts_71_ok hk53 n) x1 x2 x3 x4 x5 x6 x7 S q hf
def m_frosts_53_b  (k53 : Int32 → Int32 → Int32 → Int32 → Int32 → MS → Option (Int32 × MS)) (x1 : Int32) (x2 : Int32) (x3 : Int32) (x4 : Int32) (x5 : Int32) (S : MS) : Option (Int32 × MS) :=
  if ((1 : Int32) <<< (x2 &&& 31)) ≤ x5 then
    some (x4, S)
  else
    (m_tries S).bind fun q65 =>
    m_frosts_71 k53 FU x1 x2 x3 x4 x5 ((1 : Int32)) ((0 : Int32)) q65
def m_frosts_53  : Nat → Int32 → Int32 → Int32 → Int32 → Int32 → MS → Option (Int32 × MS)
  | 0 => fun _ _ _ _ _ _ => none
  | n + 1 => fun x1 x2 x3 x4 x5 S => m_frosts_53_b (m_frosts_53 n) x1 x2 x3 x4 x5 S
theorem m_frosts_53_bok {G : xG} {m0 : Nat} {S0 : MS}  {k53 : Int32 → Int32 → Int32 → Int32 → Int32 → MS → Option (Int32 × MS)}  (hk53 : ∀ (x1 : Int32) (x2 : Int32) (x3 : Int32) (x4 : Int32) (x5 : Int32) (S : MS) (q : (Int32 × MS)), k53 x1 x2 x3 x4 x5 S = some q → XM G m0 mX4_frosts 6 S0 (some (.int q.1)) q.2 53 [(0, .ref m0), (1, .int x1), (2, .int x2), (3, .int x3), (4, .int x4), (5, .int x5)] [] S) (x1 : Int32) (x2 : Int32) (x3 : Int32) (x4 : Int32) (x5 : Int32) (S : MS) (q : (Int32 × MS)) (hf : m_frosts_53_b k53 x1 x2 x3 x4 x5 S = some q) : XM G m0 mX4_frosts 6 S0 (some (.int q.1)) q.2 53 [(0, .ref m0), (1, .int x1), (2, .int x2), (3, .int x3), (4, .int x4), (5, .int x5)] [] S := by
  intro h N Z
  unfold m_frosts_53_b at hf
  refine X.iload dX4_frosts_53 5 rfl ?_
  refine X.iconst (v := 1) dX4_frosts_55 (by decide) ?_
  refine X.iload_n dX4_frosts_56 rfl 2 rfl ?_
  refine X.ishl dX4_frosts_57 ?_
  refine X.icmp_ge (tgt := 155) dX4_frosts_58 (by decide) (fun c58 => ?_) (fun c58 => ?_)
  · have hf := if_t c58 hf
    refine X.iload dX4_frosts_155 4 rfl ?_
    obtain rfl := Option.some.inj hf
    exact X.iret dX4_frosts_157 rfl rfl rfl
  · have hf := if_f c58 hf
    refine X.iconst (v := 1) dX4_frosts_61 (by decide) ?_
    refine X.istore (L' := [(6, .int (1 : Int32)), (0, .ref m0), (1, .int x1), (2, .int x2), (3, .int x3), (4, .int x4), (5, .int x5)]) dX4_frosts_62 (Nat.le_of_ble_eq_true rfl) rfl ?_
    refine X.aload_n dX4_frosts_64 rfl 1 rfl ?_
    obtain ⟨q65, h65, hf⟩ := ob hf
    refine X.callVv (As := []) (rest := []) (T2 := (mh m0 h q65, N, Z)) dX4_frosts_65 (w_tries h65 h N Z) cX4_403 rfl rfl (Nat.le_of_ble_eq_true rfl) mh_0 rfl rfl (xD (Nat.le_of_ble_eq_true rfl)) xleN xleN ?_
    refine X.iconst (v := 0) dX4_frosts_68 (by decide) ?_
    refine X.istore (L' := [(7, .int (0 : Int32)), (6, .int (1 : Int32)), (0, .ref m0), (1, .int x1), (2, .int x2), (3, .int x3), (4, .int x4), (5, .int x5)]) dX4_frosts_69 (Nat.le_of_ble_eq_true rfl) rfl ?_
    refine X.sub [2, 3, 4, 5, 6, 7, 1, 0] (L' := [(0, .ref m0), (1, .int x1), (2, .int x2), (3, .int x3), (4, .int x4), (5, .int x5), (6, .int (1 : Int32)), (7, .int (0 : Int32))]) rfl ?_
    exact m_frosts_71_ok hk53 FU _ _ _ _ _ _ _ _ _ hf h N Z
theorem m_frosts_53_ok {G : xG} {m0 : Nat} {S0 : MS}   : ∀ (n : Nat) (x1 : Int32) (x2 : Int32) (x3 : Int32) (x4 : Int32) (x5 : Int32) (S : MS) (q : (Int32 × MS)), m_frosts_53 n x1 x2 x3 x4 x5 S = some q → XM G m0 mX4_frosts 6 S0 (some (.int q.1)) q.2 53 [(0, .ref m0), (1, .int x1), (2, .int x2), (3, .int x3), (4, .int x4), (5, .int x5)] [] S
  | 0, _, _, _, _, _, _, _, hf => by cases hf
  | n + 1, x1, x2, x3, x4, x5, S, q, hf => m_frosts_53_bok (m_frosts_53_ok n) x1 x2 x3 x4 x5 S q hf
def m_frosts_38  (x1 : Int32) (x2 : Int32) (x3 : Int32) (y0 : Int32) (S : MS) : Option (Int32 × MS) :=
  (m_right y0 ((2 : Int32)) S).bind fun q39 =>
  if q39.1 = 0 then
    some ((0 : Int32), q39.2)
  else
    m_frosts_53 FU x1 x2 x3 ((0 : Int32)) ((0 : Int32)) q39.2
theorem m_frosts_38_ok {G : xG} {m0 : Nat} {S0 : MS}   (x1 : Int32) (x2 : Int32) (x3 : Int32) (y0 : Int32) (S : MS) (q : (Int32 × MS)) (hf : m_frosts_38 x1 x2 x3 y0 S = some q) : XM G m0 mX4_frosts 6 S0 (some (.int q.1)) q.2 38 [(0, .ref m0), (1, .int x1), (2, .int x2), (3, .int x3)] [.int y0, .ref m0] S := by
  intro h N Z
  unfold m_frosts_38 at hf
  refine X.iconst (v := 2) dX4_frosts_38 (by decide) ?_
  obtain ⟨q39, h39, hf⟩ := ob hf
  refine X.callVi (As := [.int y0, .int (2 : Int32)]) (rest := []) (T2 := (mh m0 h q39.2, N, Z)) dX4_frosts_39 (w_right h39 h N Z) cX4_290 rfl rfl (Nat.le_of_ble_eq_true rfl) mh_0 rfl rfl (xD (Nat.le_of_ble_eq_true rfl)) xleN xleN ?_
  refine X.if_ne (tgt := 47) dX4_frosts_42 (by decide) (fun c42 => ?_) (fun c42 => ?_)
  · have hf := if_f c42 hf
    refine X.iconst (v := 0) dX4_frosts_47 (by decide) ?_
    refine X.istore (L' := [(4, .int (0 : Int32)), (0, .ref m0), (1, .int x1), (2, .int x2), (3, .int x3)]) dX4_frosts_48 (Nat.le_of_ble_eq_true rfl) rfl ?_
    refine X.iconst (v := 0) dX4_frosts_50 (by decide) ?_
    refine X.istore (L' := [(5, .int (0 : Int32)), (4, .int (0 : Int32)), (0, .ref m0), (1, .int x1), (2, .int x2), (3, .int x3)]) dX4_frosts_51 (Nat.le_of_ble_eq_true rfl) rfl ?_
    refine X.sub [2, 3, 4, 5, 1, 0] (L' := [(0, .ref m0), (1, .int x1), (2, .int x2), (3, .int x3), (4, .int (0 : Int32)), (5, .int (0 : Int32))]) rfl ?_
    exact m_frosts_53_ok FU _ _ _ _ _ _ _ hf h N Z
  · have hf := if_t c42 hf
    refine X.iconst (v := 0) dX4_frosts_45 (by decide) ?_
    obtain rfl := Option.some.inj hf
    exact X.iret dX4_frosts_46 rfl rfl rfl
def m_frosts_37  (x1 : Int32) (x2 : Int32) (x3 : Int32) (S : MS) : Option (Int32 × MS) :=
  m_frosts_38 x1 x2 x3 ((0 : Int32)) S
theorem m_frosts_37_ok {G : xG} {m0 : Nat} {S0 : MS}   (x1 : Int32) (x2 : Int32) (x3 : Int32) (S : MS) (q : (Int32 × MS)) (hf : m_frosts_37 x1 x2 x3 S = some q) : XM G m0 mX4_frosts 6 S0 (some (.int q.1)) q.2 37 [(0, .ref m0), (1, .int x1), (2, .int x2), (3, .int x3)] [.ref m0] S := by
  intro h N Z
  unfold m_frosts_37 at hf
  refine X.iconst (v := 0) dX4_frosts_37 (by decide) ?_
  refine X.sub [0, 1, 2, 3] (L' := [(0, .ref m0), (1, .int x1), (2, .int x2), (3, .int x3)]) rfl ?_
  exact m_frosts_38_ok _ _ _ _ _ _ hf h N Z
def m_frosts (x1 : Int32) (x2 : Int32) (x3 : Int32) (S : MS) : Option (Int32 × MS) :=
  (m_isParty x1 ((sF S 0 (0 : Int32)))).bind fun q7 =>
  if q7.1 = 0 then
    some ((0 : Int32), q7.2)
  else
    (m_within x2 ((1 : Int32)) ((5 : Int32))).bind fun q17 =>
    if q17 = 0 then
      m_frosts_37 x1 x2 x3 q7.2
    else
      (m_within x3 ((0 : Int32)) ((10 : Int32))).bind fun q27 =>
      if q27 = 0 then
        m_frosts_37 x1 x2 x3 q7.2
      else
        m_frosts_38 x1 x2 x3 ((1 : Int32)) q7.2
theorem w_frosts {G : xG} {m0 : Nat} {x1 : Int32} {x2 : Int32} {x3 : Int32} {S : MS} {q : (Int32 × MS)} (hf : m_frosts x1 x2 x3 S = some q) : CtM G m0 mX4_frosts 6 S [.ref m0, .int x1, .int x2, .int x3] (some (.int q.1)) q.2 := by
  intro h N Z
  refine Ct.of (by decide +kernel) rfl (Nat.le_of_ble_eq_true rfl) (show Xr G _ 0 [(0, .ref m0), (1, .int x1), (2, .int x2), (3, .int x3)] [] _ from ?_)
  unfold m_frosts at hf
  refine X.aload_n dX4_frosts_0 rfl 0 rfl ?_
  refine X.iconst (v := 0) dX4_frosts_1 (by decide) ?_
  refine M.putI dX4_frosts_2 fX4_115 (by decide) rfl rfl rfl ?_
  refine X.aload_n dX4_frosts_5 rfl 0 rfl ?_
  refine X.iload_n dX4_frosts_6 rfl 1 rfl ?_
  obtain ⟨q7, h7, hf⟩ := ob hf
  refine X.callVi (As := [.int x1]) (rest := []) (T2 := (mh m0 h q7.2, N, Z)) dX4_frosts_7 (w_isParty h7 h N Z) cX4_394 rfl rfl (Nat.le_of_ble_eq_true rfl) mh_0 rfl rfl (xD (Nat.le_of_ble_eq_true rfl)) xleN xleN ?_
  refine X.if_eq (tgt := 45) dX4_frosts_10 (by decide) (fun c10 => ?_) (fun c10 => ?_)
  · have hf := if_t c10 hf
    refine X.iconst (v := 0) dX4_frosts_45 (by decide) ?_
    obtain rfl := Option.some.inj hf
    exact X.iret dX4_frosts_46 rfl rfl rfl
  · have hf := if_f c10 hf
    refine X.aload_n dX4_frosts_13 rfl 0 rfl ?_
    refine X.iload_n dX4_frosts_14 rfl 2 rfl ?_
    refine X.iconst (v := 1) dX4_frosts_15 (by decide) ?_
    refine X.iconst (v := 5) dX4_frosts_16 (by decide) ?_
    obtain ⟨q17, h17, hf⟩ := ob hf
    refine X.callSi (As := [.int x2, .int (1 : Int32), .int (5 : Int32)]) (rest := [.ref m0]) dX4_frosts_17 (w_within h17 _) cX4_373 rfl rfl (Nat.le_of_ble_eq_true rfl) (xD (Nat.le_of_ble_eq_true rfl)) xle.rf xleN ?_
    refine X.if_eq (tgt := 37) dX4_frosts_20 (by decide) (fun c20 => ?_) (fun c20 => ?_)
    · have hf := if_t c20 hf
      refine X.sub [0, 1, 2, 3] (L' := [(0, .ref m0), (1, .int x1), (2, .int x2), (3, .int x3)]) rfl ?_
      exact m_frosts_37_ok _ _ _ _ _ hf h N Z
    · have hf := if_f c20 hf
      refine X.iload_n dX4_frosts_23 rfl 3 rfl ?_
      refine X.iconst (v := 0) dX4_frosts_24 (by decide) ?_
      refine X.bipush (v := 10) dX4_frosts_25 (by decide) ?_
      obtain ⟨q27, h27, hf⟩ := ob hf
      refine X.callSi (As := [.int x3, .int (0 : Int32), .int (10 : Int32)]) (rest := [.ref m0]) dX4_frosts_27 (w_within h27 _) cX4_373 rfl rfl (Nat.le_of_ble_eq_true rfl) (xD (Nat.le_of_ble_eq_true rfl)) xle.rf xleN ?_
      refine X.if_eq (tgt := 37) dX4_frosts_30 (by decide) (fun c30 => ?_) (fun c30 => ?_)
      · have hf := if_t c30 hf
        refine X.sub [0, 1, 2, 3] (L' := [(0, .ref m0), (1, .int x1), (2, .int x2), (3, .int x3)]) rfl ?_
        exact m_frosts_37_ok _ _ _ _ _ hf h N Z
      · have hf := if_f c30 hf
        refine X.iconst (v := 1) dX4_frosts_33 (by decide) ?_
        refine X.goto (tgt := 38) dX4_frosts_34 (by decide) ?_
        refine X.sub [0, 1, 2, 3] (L' := [(0, .ref m0), (1, .int x1), (2, .int x2), (3, .int x3)]) rfl ?_
        exact m_frosts_38_ok _ _ _ _ _ _ hf h N Z
/-! greatestOf -/
abbrev cX4_greatestOf : ByteArray := prog_12_method_105_code
def yX4_greatestOf : MethodName := ⟨RX4, "greatestOf", "(I)I"⟩
def dkwX4_greatestOf_3 : List UInt8 := [164, 0, 5, 29, 61, 132, 3, 1, 167, 255, 183, 28, 172]
abbrev dktX4_greatestOf_3 : List UInt8 := dkwX4_greatestOf_3 ++ []
def dkwX4_greatestOf_2 : List UInt8 := [28, 2, 159, 0, 24, 42, 180, 0, 69, 16, 91, 29, 96, 46, 42, 180, 0, 69, 16, 91, 28, 96, 46]
abbrev dktX4_greatestOf_2 : List UInt8 := dkwX4_greatestOf_2 ++ dktX4_greatestOf_3
def dkwX4_greatestOf_1 : List UInt8 := [159, 0, 52, 42, 180, 0, 28, 42, 180, 0, 69, 16, 61, 29, 96, 46, 46, 27, 159, 0, 6, 167, 0, 31]
abbrev dktX4_greatestOf_1 : List UInt8 := dkwX4_greatestOf_1 ++ dktX4_greatestOf_2
def dkwX4_greatestOf_0 : List UInt8 := [2, 61, 3, 62, 29, 42, 182, 1, 65, 162, 0, 71, 42, 180, 0, 69, 16, 61, 29, 96, 46, 2]
abbrev dktX4_greatestOf_0 : List UInt8 := dkwX4_greatestOf_0 ++ dktX4_greatestOf_1
theorem dksX4_greatestOf_0 : cX4_greatestOf.data.toList.drop 0 = dktX4_greatestOf_0 := by decide +kernel
theorem dksX4_greatestOf_1 : cX4_greatestOf.data.toList.drop 22 = dktX4_greatestOf_1 := dk_seg dksX4_greatestOf_0 22 rfl rfl
theorem dksX4_greatestOf_2 : cX4_greatestOf.data.toList.drop 46 = dktX4_greatestOf_2 := dk_seg dksX4_greatestOf_1 24 rfl rfl
theorem dksX4_greatestOf_3 : cX4_greatestOf.data.toList.drop 69 = dktX4_greatestOf_3 := dk_seg dksX4_greatestOf_2 23 rfl rfl
theorem dX4_greatestOf_0 : decode cX4_greatestOf 0 = .ok (.iconst (-1), 1) := dk_2 (dk_at dksX4_greatestOf_0 0 rfl rfl)
theorem dX4_greatestOf_1 : decode cX4_greatestOf 1 = .ok (.istore_n 2, 1) := dk_61 (dk_at dksX4_greatestOf_0 1 rfl rfl)
theorem dX4_greatestOf_2 : decode cX4_greatestOf 2 = .ok (.iconst 0, 1) := dk_3 (dk_at dksX4_greatestOf_0 2 rfl rfl)
theorem dX4_greatestOf_3 : decode cX4_greatestOf 3 = .ok (.istore_n 3, 1) := dk_62 (dk_at dksX4_greatestOf_0 3 rfl rfl)
theorem dX4_greatestOf_4 : decode cX4_greatestOf 4 = .ok (.iload_n 3, 1) := dk_29 (dk_at dksX4_greatestOf_0 4 rfl rfl)
theorem dX4_greatestOf_5 : decode cX4_greatestOf 5 = .ok (.aload_n 0, 1) := dk_42 (dk_at dksX4_greatestOf_0 5 rfl rfl)
theorem dX4_greatestOf_6 : decode cX4_greatestOf 6 = .ok (.invokevirtual 321, 3) := dk_182 1 65 (dk_at dksX4_greatestOf_0 6 rfl rfl)
theorem dX4_greatestOf_9 : decode cX4_greatestOf 9 = .ok (.if_icmp .ge 71, 3) := dk_162 0 71 (dk_at dksX4_greatestOf_0 9 rfl rfl)
theorem dX4_greatestOf_12 : decode cX4_greatestOf 12 = .ok (.aload_n 0, 1) := dk_42 (dk_at dksX4_greatestOf_0 12 rfl rfl)
theorem dX4_greatestOf_13 : decode cX4_greatestOf 13 = .ok (.getfield 69, 3) := dk_180 0 69 (dk_at dksX4_greatestOf_0 13 rfl rfl)
theorem dX4_greatestOf_16 : decode cX4_greatestOf 16 = .ok (.bipush 61, 2) := dk_16 61 (dk_at dksX4_greatestOf_0 16 rfl rfl)
theorem dX4_greatestOf_18 : decode cX4_greatestOf 18 = .ok (.iload_n 3, 1) := dk_29 (dk_at dksX4_greatestOf_0 18 rfl rfl)
theorem dX4_greatestOf_19 : decode cX4_greatestOf 19 = .ok (.iadd, 1) := dk_96 (dk_at dksX4_greatestOf_0 19 rfl rfl)
theorem dX4_greatestOf_20 : decode cX4_greatestOf 20 = .ok (.iaload, 1) := dk_46 (dk_at dksX4_greatestOf_0 20 rfl rfl)
theorem dX4_greatestOf_21 : decode cX4_greatestOf 21 = .ok (.iconst (-1), 1) := dk_2 (dk_at dksX4_greatestOf_0 21 rfl rfl)
theorem dX4_greatestOf_22 : decode cX4_greatestOf 22 = .ok (.if_icmp .eq 52, 3) := dk_159 0 52 (dk_at dksX4_greatestOf_1 0 rfl rfl)
theorem dX4_greatestOf_25 : decode cX4_greatestOf 25 = .ok (.aload_n 0, 1) := dk_42 (dk_at dksX4_greatestOf_1 3 rfl rfl)
theorem dX4_greatestOf_26 : decode cX4_greatestOf 26 = .ok (.getfield 28, 3) := dk_180 0 28 (dk_at dksX4_greatestOf_1 4 rfl rfl)
theorem dX4_greatestOf_29 : decode cX4_greatestOf 29 = .ok (.aload_n 0, 1) := dk_42 (dk_at dksX4_greatestOf_1 7 rfl rfl)
theorem dX4_greatestOf_30 : decode cX4_greatestOf 30 = .ok (.getfield 69, 3) := dk_180 0 69 (dk_at dksX4_greatestOf_1 8 rfl rfl)
theorem dX4_greatestOf_33 : decode cX4_greatestOf 33 = .ok (.bipush 61, 2) := dk_16 61 (dk_at dksX4_greatestOf_1 11 rfl rfl)
theorem dX4_greatestOf_35 : decode cX4_greatestOf 35 = .ok (.iload_n 3, 1) := dk_29 (dk_at dksX4_greatestOf_1 13 rfl rfl)
theorem dX4_greatestOf_36 : decode cX4_greatestOf 36 = .ok (.iadd, 1) := dk_96 (dk_at dksX4_greatestOf_1 14 rfl rfl)
theorem dX4_greatestOf_37 : decode cX4_greatestOf 37 = .ok (.iaload, 1) := dk_46 (dk_at dksX4_greatestOf_1 15 rfl rfl)
theorem dX4_greatestOf_38 : decode cX4_greatestOf 38 = .ok (.iaload, 1) := dk_46 (dk_at dksX4_greatestOf_1 16 rfl rfl)
theorem dX4_greatestOf_39 : decode cX4_greatestOf 39 = .ok (.iload_n 1, 1) := dk_27 (dk_at dksX4_greatestOf_1 17 rfl rfl)
theorem dX4_greatestOf_40 : decode cX4_greatestOf 40 = .ok (.if_icmp .eq 6, 3) := dk_159 0 6 (dk_at dksX4_greatestOf_1 18 rfl rfl)
theorem dX4_greatestOf_43 : decode cX4_greatestOf 43 = .ok (.goto 31, 3) := dk_167 0 31 (dk_at dksX4_greatestOf_1 21 rfl rfl)
theorem dX4_greatestOf_46 : decode cX4_greatestOf 46 = .ok (.iload_n 2, 1) := dk_28 (dk_at dksX4_greatestOf_2 0 rfl rfl)
theorem dX4_greatestOf_47 : decode cX4_greatestOf 47 = .ok (.iconst (-1), 1) := dk_2 (dk_at dksX4_greatestOf_2 1 rfl rfl)
theorem dX4_greatestOf_48 : decode cX4_greatestOf 48 = .ok (.if_icmp .eq 24, 3) := dk_159 0 24 (dk_at dksX4_greatestOf_2 2 rfl rfl)
theorem dX4_greatestOf_51 : decode cX4_greatestOf 51 = .ok (.aload_n 0, 1) := dk_42 (dk_at dksX4_greatestOf_2 5 rfl rfl)
theorem dX4_greatestOf_52 : decode cX4_greatestOf 52 = .ok (.getfield 69, 3) := dk_180 0 69 (dk_at dksX4_greatestOf_2 6 rfl rfl)
theorem dX4_greatestOf_55 : decode cX4_greatestOf 55 = .ok (.bipush 91, 2) := dk_16 91 (dk_at dksX4_greatestOf_2 9 rfl rfl)
theorem dX4_greatestOf_57 : decode cX4_greatestOf 57 = .ok (.iload_n 3, 1) := dk_29 (dk_at dksX4_greatestOf_2 11 rfl rfl)
theorem dX4_greatestOf_58 : decode cX4_greatestOf 58 = .ok (.iadd, 1) := dk_96 (dk_at dksX4_greatestOf_2 12 rfl rfl)
theorem dX4_greatestOf_59 : decode cX4_greatestOf 59 = .ok (.iaload, 1) := dk_46 (dk_at dksX4_greatestOf_2 13 rfl rfl)
theorem dX4_greatestOf_60 : decode cX4_greatestOf 60 = .ok (.aload_n 0, 1) := dk_42 (dk_at dksX4_greatestOf_2 14 rfl rfl)
theorem dX4_greatestOf_61 : decode cX4_greatestOf 61 = .ok (.getfield 69, 3) := dk_180 0 69 (dk_at dksX4_greatestOf_2 15 rfl rfl)
theorem dX4_greatestOf_64 : decode cX4_greatestOf 64 = .ok (.bipush 91, 2) := dk_16 91 (dk_at dksX4_greatestOf_2 18 rfl rfl)
theorem dX4_greatestOf_66 : decode cX4_greatestOf 66 = .ok (.iload_n 2, 1) := dk_28 (dk_at dksX4_greatestOf_2 20 rfl rfl)
theorem dX4_greatestOf_67 : decode cX4_greatestOf 67 = .ok (.iadd, 1) := dk_96 (dk_at dksX4_greatestOf_2 21 rfl rfl)
theorem dX4_greatestOf_68 : decode cX4_greatestOf 68 = .ok (.iaload, 1) := dk_46 (dk_at dksX4_greatestOf_2 22 rfl rfl)
theorem dX4_greatestOf_69 : decode cX4_greatestOf 69 = .ok (.if_icmp .le 5, 3) := dk_164 0 5 (dk_at dksX4_greatestOf_3 0 rfl rfl)
theorem dX4_greatestOf_72 : decode cX4_greatestOf 72 = .ok (.iload_n 3, 1) := dk_29 (dk_at dksX4_greatestOf_3 3 rfl rfl)
theorem dX4_greatestOf_73 : decode cX4_greatestOf 73 = .ok (.istore_n 2, 1) := dk_61 (dk_at dksX4_greatestOf_3 4 rfl rfl)
theorem dX4_greatestOf_74 : decode cX4_greatestOf 74 = .ok (.iinc 3 1, 3) := dk_132 3 1 (dk_at dksX4_greatestOf_3 5 rfl rfl)
theorem dX4_greatestOf_77 : decode cX4_greatestOf 77 = .ok (.goto (-73), 3) := dk_167 255 183 (dk_at dksX4_greatestOf_3 8 rfl rfl)
theorem dX4_greatestOf_80 : decode cX4_greatestOf 80 = .ok (.iload_n 2, 1) := dk_28 (dk_at dksX4_greatestOf_3 11 rfl rfl)
theorem dX4_greatestOf_81 : decode cX4_greatestOf 81 = .ok (.ireturn, 1) := dk_172 (dk_at dksX4_greatestOf_3 12 rfl rfl)
abbrev mX4_greatestOf : xM := (yX4_greatestOf, cX4_greatestOf, 4, (some .int), [])
def m_greatestOf_74 (k4 : Int32 → Int32 → Int32 → MS → Option Int32) (x1 : Int32) (x2 : Int32) (x3 : Int32) (S : MS) : Option Int32 :=
  k4 x1 x2 ((x3 + 1)) S
theorem m_greatestOf_74_ok {G : xG} {m0 : Nat} {k4 : Int32 → Int32 → Int32 → MS → Option Int32} (hk4 : ∀ (x1 : Int32) (x2 : Int32) (x3 : Int32) (S : MS) (q : Int32), k4 x1 x2 x3 S = some q → XM G m0 mX4_greatestOf 2 S (some (.int q)) S 4 [(0, .ref m0), (1, .int x1), (2, .int x2), (3, .int x3)] [] S) (x1 : Int32) (x2 : Int32) (x3 : Int32) (S : MS) (q : Int32) (hf : m_greatestOf_74 k4 x1 x2 x3 S = some q) : XM G m0 mX4_greatestOf 2 S (some (.int q)) S 74 [(0, .ref m0), (1, .int x1), (2, .int x2), (3, .int x3)] [] S := by
  intro h N Z
  unfold m_greatestOf_74 at hf
  refine X.iinc (v := (x3 + 1)) (L' := [(3, .int (x3 + 1)), (0, .ref m0), (1, .int x1), (2, .int x2)]) dX4_greatestOf_74 3 rfl rfl (Nat.le_of_ble_eq_true rfl) rfl ?_
  refine X.goto (tgt := 4) dX4_greatestOf_77 (by decide) ?_
  refine X.sub [1, 2, 3, 0] (L' := [(0, .ref m0), (1, .int x1), (2, .int x2), (3, .int (x3 + 1))]) rfl ?_
  exact hk4 _ _ _ _ _ hf h N Z
def m_greatestOf_72 (k4 : Int32 → Int32 → Int32 → MS → Option Int32) (x1 : Int32) (x3 : Int32) (S : MS) : Option Int32 :=
  m_greatestOf_74 k4 x1 x3 x3 S
theorem m_greatestOf_72_ok {G : xG} {m0 : Nat} {k4 : Int32 → Int32 → Int32 → MS → Option Int32} (hk4 : ∀ (x1 : Int32) (x2 : Int32) (x3 : Int32) (S : MS) (q : Int32), k4 x1 x2 x3 S = some q → XM G m0 mX4_greatestOf 2 S (some (.int q)) S 4 [(0, .ref m0), (1, .int x1), (2, .int x2), (3, .int x3)] [] S) (x1 : Int32) (x3 : Int32) (S : MS) (q : Int32) (hf : m_greatestOf_72 k4 x1 x3 S = some q) : XM G m0 mX4_greatestOf 2 S (some (.int q)) S 72 [(0, .ref m0), (1, .int x1), (3, .int x3)] [] S := by
  intro h N Z
  unfold m_greatestOf_72 at hf
  refine X.iload_n dX4_greatestOf_72 rfl 2 rfl ?_
  refine X.istore_n (L' := [(2, .int x3), (0, .ref m0), (1, .int x1), (3, .int x3)]) dX4_greatestOf_73 rfl (Nat.le_of_ble_eq_true rfl) rfl ?_
  refine X.sub [1, 2, 0, 3] (L' := [(0, .ref m0), (1, .int x1), (2, .int x3), (3, .int x3)]) rfl ?_
  exact m_greatestOf_74_ok hk4 _ _ _ _ _ hf h N Z
def m_greatestOf_4_b  (k4 : Int32 → Int32 → Int32 → MS → Option Int32) (x1 : Int32) (x2 : Int32) (x3 : Int32) (S : MS) : Option Int32 :=
  (m_cells S).bind fun q6 =>
  if q6 ≤ x3 then
    some x2
  else
    (rdA S 13 ((61 : Int32) + x3)).bind fun v20 =>
    if v20 = (-1 : Int32) then
      m_greatestOf_74 k4 x1 x2 x3 S
    else
      (rdA S 13 ((61 : Int32) + x3)).bind fun v37 =>
      (rdA S 1 v37).bind fun v38 =>
      if v38 = x1 then
        if x2 = (-1 : Int32) then
          m_greatestOf_72 k4 x1 x3 S
        else
          (rdA S 13 ((91 : Int32) + x3)).bind fun v59 =>
          (rdA S 13 ((91 : Int32) + x2)).bind fun v68 =>
          if v59 ≤ v68 then
            m_greatestOf_74 k4 x1 x2 x3 S
          else
            m_greatestOf_72 k4 x1 x3 S
      else
        m_greatestOf_74 k4 x1 x2 x3 S
def m_greatestOf_4  : Nat → Int32 → Int32 → Int32 → MS → Option Int32
  | 0 => fun _ _ _ _ => none
  | n + 1 => fun x1 x2 x3 S => m_greatestOf_4_b (m_greatestOf_4 n) x1 x2 x3 S
theorem m_greatestOf_4_bok {G : xG} {m0 : Nat}  {k4 : Int32 → Int32 → Int32 → MS → Option Int32}  (hk4 : ∀ (x1 : Int32) (x2 : Int32) (x3 : Int32) (S : MS) (q : Int32), k4 x1 x2 x3 S = some q → XM G m0 mX4_greatestOf 2 S (some (.int q)) S 4 [(0, .ref m0), (1, .int x1), (2, .int x2), (3, .int x3)] [] S) (x1 : Int32) (x2 : Int32) (x3 : Int32) (S : MS) (q : Int32) (hf : m_greatestOf_4_b k4 x1 x2 x3 S = some q) : XM G m0 mX4_greatestOf 2 S (some (.int q)) S 4 [(0, .ref m0), (1, .int x1), (2, .int x2), (3, .int x3)] [] S := by
  intro h N Z
  unfold m_greatestOf_4_b at hf
  refine X.iload_n dX4_greatestOf_4 rfl 3 rfl ?_
  refine X.aload_n dX4_greatestOf_5 rfl 0 rfl ?_
  obtain ⟨q6, h6, hf⟩ := ob hf
  refine X.callVi (As := []) (rest := [.int x3]) dX4_greatestOf_6 (w_cells h6 h N Z) cX4_321 rfl rfl (Nat.le_of_ble_eq_true rfl) mh_0 rfl rfl (xD (Nat.le_of_ble_eq_true rfl)) xleN xleN ?_
  refine X.icmp_ge (tgt := 80) dX4_greatestOf_9 (by decide) (fun c9 => ?_) (fun c9 => ?_)
  · have hf := if_t c9 hf
    refine X.iload_n dX4_greatestOf_80 rfl 2 rfl ?_
    obtain rfl := Option.some.inj hf
    exact X.iret dX4_greatestOf_81 rfl rfl rfl
  · have hf := if_f c9 hf
    refine X.aload_n dX4_greatestOf_12 rfl 0 rfl ?_
    refine M.get (v := .ref (m0 + 13)) dX4_greatestOf_13 fX4_69 (Nat.le_of_ble_eq_true rfl) rfl ?_
    refine X.bipush (v := 61) dX4_greatestOf_16 (by decide) ?_
    refine X.iload_n dX4_greatestOf_18 rfl 3 rfl ?_
    refine X.iadd dX4_greatestOf_19 ?_
    obtain ⟨v20, h20, hf⟩ := ob hf
    refine M.iald dX4_greatestOf_20 rfl h20 ?_
    refine X.iconst (v := -1) dX4_greatestOf_21 (by decide) ?_
    refine X.icmp_eq (tgt := 74) dX4_greatestOf_22 (by decide) (fun c22 => ?_) (fun c22 => ?_)
    · have hf := if_t c22 hf
      refine X.sub [0, 1, 2, 3] (L' := [(0, .ref m0), (1, .int x1), (2, .int x2), (3, .int x3)]) rfl ?_
      exact m_greatestOf_74_ok hk4 _ _ _ _ _ hf h N Z
    · have hf := if_f c22 hf
      refine X.aload_n dX4_greatestOf_25 rfl 0 rfl ?_
      refine M.get (v := .ref (m0 + 1)) dX4_greatestOf_26 fX4_28 (Nat.le_of_ble_eq_true rfl) rfl ?_
      refine X.aload_n dX4_greatestOf_29 rfl 0 rfl ?_
      refine M.get (v := .ref (m0 + 13)) dX4_greatestOf_30 fX4_69 (Nat.le_of_ble_eq_true rfl) rfl ?_
      refine X.bipush (v := 61) dX4_greatestOf_33 (by decide) ?_
      refine X.iload_n dX4_greatestOf_35 rfl 3 rfl ?_
      refine X.iadd dX4_greatestOf_36 ?_
      obtain ⟨v37, h37, hf⟩ := ob hf
      refine M.iald dX4_greatestOf_37 rfl h37 ?_
      obtain ⟨v38, h38, hf⟩ := ob hf
      refine M.iald dX4_greatestOf_38 rfl h38 ?_
      refine X.iload_n dX4_greatestOf_39 rfl 1 rfl ?_
      refine X.icmp_eq (tgt := 46) dX4_greatestOf_40 (by decide) (fun c40 => ?_) (fun c40 => ?_)
      · have hf := if_t c40 hf
        refine X.iload_n dX4_greatestOf_46 rfl 2 rfl ?_
        refine X.iconst (v := -1) dX4_greatestOf_47 (by decide) ?_
        refine X.icmp_eq (tgt := 72) dX4_greatestOf_48 (by decide) (fun c48 => ?_) (fun c48 => ?_)
        · have hf := if_t c48 hf
          refine X.sub [0, 1, 3] (L' := [(0, .ref m0), (1, .int x1), (3, .int x3)]) rfl ?_
          exact m_greatestOf_72_ok hk4 _ _ _ _ hf h N Z
        · have hf := if_f c48 hf
          refine X.aload_n dX4_greatestOf_51 rfl 0 rfl ?_
          refine M.get (v := .ref (m0 + 13)) dX4_greatestOf_52 fX4_69 (Nat.le_of_ble_eq_true rfl) rfl ?_
          refine X.bipush (v := 91) dX4_greatestOf_55 (by decide) ?_
          refine X.iload_n dX4_greatestOf_57 rfl 3 rfl ?_
          refine X.iadd dX4_greatestOf_58 ?_
          obtain ⟨v59, h59, hf⟩ := ob hf
          refine M.iald dX4_greatestOf_59 rfl h59 ?_
          refine X.aload_n dX4_greatestOf_60 rfl 0 rfl ?_
          refine M.get (v := .ref (m0 + 13)) dX4_greatestOf_61 fX4_69 (Nat.le_of_ble_eq_true rfl) rfl ?_
          refine X.bipush (v := 91) dX4_greatestOf_64 (by decide) ?_
          refine X.iload_n dX4_greatestOf_66 rfl 2 rfl ?_
          refine X.iadd dX4_greatestOf_67 ?_
          obtain ⟨v68, h68, hf⟩ := ob hf
          refine M.iald dX4_greatestOf_68 rfl h68 ?_
          refine X.icmp_le (tgt := 74) dX4_greatestOf_69 (by decide) (fun c69 => ?_) (fun c69 => ?_)
          · have hf := if_t c69 hf
            refine X.sub [0, 1, 2, 3] (L' := [(0, .ref m0), (1, .int x1), (2, .int x2), (3, .int x3)]) rfl ?_
            exact m_greatestOf_74_ok hk4 _ _ _ _ _ hf h N Z
          · have hf := if_f c69 hf
            refine X.sub [0, 1, 3] (L' := [(0, .ref m0), (1, .int x1), (3, .int x3)]) rfl ?_
            exact m_greatestOf_72_ok hk4 _ _ _ _ hf h N Z
      · have hf := if_f c40 hf
        refine X.goto (tgt := 74) dX4_greatestOf_43 (by decide) ?_
        refine X.sub [0, 1, 2, 3] (L' := [(0, .ref m0), (1, .int x1), (2, .int x2), (3, .int x3)]) rfl ?_
        exact m_greatestOf_74_ok hk4 _ _ _ _ _ hf h N Z
theorem m_greatestOf_4_ok {G : xG} {m0 : Nat}   : ∀ (n : Nat) (x1 : Int32) (x2 : Int32) (x3 : Int32) (S : MS) (q : Int32), m_greatestOf_4 n x1 x2 x3 S = some q → XM G m0 mX4_greatestOf 2 S (some (.int q)) S 4 [(0, .ref m0), (1, .int x1), (2, .int x2), (3, .int x3)] [] S
  | 0, _, _, _, _, _, hf => by cases hf
  | n + 1, x1, x2, x3, S, q, hf => m_greatestOf_4_bok (m_greatestOf_4_ok n) x1 x2 x3 S q hf
def m_greatestOf (x1 : Int32) (S : MS) : Option Int32 :=
  m_greatestOf_4 FU x1 ((-1 : Int32)) ((0 : Int32)) S
theorem w_greatestOf {G : xG} {m0 : Nat} {x1 : Int32} {S : MS} {q : Int32} (hf : m_greatestOf x1 S = some q) : CtM G m0 mX4_greatestOf 2 S [.ref m0, .int x1] (some (.int q)) S := by
  intro h N Z
  refine Ct.of (by decide +kernel) rfl (Nat.le_of_ble_eq_true rfl) (show Xr G _ 0 [(0, .ref m0), (1, .int x1)] [] _ from ?_)
  unfold m_greatestOf at hf
  refine X.iconst (v := -1) dX4_greatestOf_0 (by decide) ?_
  refine X.istore_n (L' := [(2, .int (-1 : Int32)), (0, .ref m0), (1, .int x1)]) dX4_greatestOf_1 rfl (Nat.le_of_ble_eq_true rfl) rfl ?_
  refine X.iconst (v := 0) dX4_greatestOf_2 (by decide) ?_
  refine X.istore_n (L' := [(3, .int (0 : Int32)), (2, .int (-1 : Int32)), (0, .ref m0), (1, .int x1)]) dX4_greatestOf_3 rfl (Nat.le_of_ble_eq_true rfl) rfl ?_
  refine X.sub [2, 3, 1, 0] (L' := [(0, .ref m0), (1, .int x1), (2, .int (-1 : Int32)), (3, .int (0 : Int32))]) rfl ?_
  exact m_greatestOf_4_ok FU _ _ _ _ _ hf h N Z
theorem cX4_437 : xCV RX4 437 mX4_greatestOf 1 := ⟨lw_V q2168 q2170 qs116 q127 q2171, rfl, ⟨by decide +kernel, by decide +kernel, by decide +kernel⟩, Nat.le_of_ble_eq_true rfl⟩
/-! gives -/
abbrev cX4_gives : ByteArray := prog_12_method_106_code
def yX4_gives : MethodName := ⟨RX4, "gives", "(II)V"⟩
def dkwX4_gives_2 : List UInt8 := [177]
abbrev dktX4_gives_2 : List UInt8 := dkwX4_gives_2 ++ []
def dkwX4_gives_1 : List UInt8 := [17, 0, 152, 29, 96, 16, 99, 42, 180, 0, 69, 17, 0, 152, 29, 96, 46, 16, 10, 96, 184, 1, 84, 79]
abbrev dktX4_gives_1 : List UInt8 := dkwX4_gives_1 ++ dktX4_gives_2
def dkwX4_gives_0 : List UInt8 := [28, 154, 0, 7, 2, 167, 0, 8, 42, 27, 182, 1, 181, 62, 29, 2, 159, 0, 31, 42, 180, 0, 69]
abbrev dktX4_gives_0 : List UInt8 := dkwX4_gives_0 ++ dktX4_gives_1
theorem dksX4_gives_0 : cX4_gives.data.toList.drop 0 = dktX4_gives_0 := by decide +kernel
theorem dksX4_gives_1 : cX4_gives.data.toList.drop 23 = dktX4_gives_1 := dk_seg dksX4_gives_0 23 rfl rfl
theorem dksX4_gives_2 : cX4_gives.data.toList.drop 47 = dktX4_gives_2 := dk_seg dksX4_gives_1 24 rfl rfl
theorem dX4_gives_0 : decode cX4_gives 0 = .ok (.iload_n 2, 1) := dk_28 (dk_at dksX4_gives_0 0 rfl rfl)
theorem dX4_gives_1 : decode cX4_gives 1 = .ok (.ifCond .ne 7, 3) := dk_154 0 7 (dk_at dksX4_gives_0 1 rfl rfl)
theorem dX4_gives_4 : decode cX4_gives 4 = .ok (.iconst (-1), 1) := dk_2 (dk_at dksX4_gives_0 4 rfl rfl)
theorem dX4_gives_5 : decode cX4_gives 5 = .ok (.goto 8, 3) := dk_167 0 8 (dk_at dksX4_gives_0 5 rfl rfl)
theorem dX4_gives_8 : decode cX4_gives 8 = .ok (.aload_n 0, 1) := dk_42 (dk_at dksX4_gives_0 8 rfl rfl)
theorem dX4_gives_9 : decode cX4_gives 9 = .ok (.iload_n 1, 1) := dk_27 (dk_at dksX4_gives_0 9 rfl rfl)
theorem dX4_gives_10 : decode cX4_gives 10 = .ok (.invokevirtual 437, 3) := dk_182 1 181 (dk_at dksX4_gives_0 10 rfl rfl)
theorem dX4_gives_13 : decode cX4_gives 13 = .ok (.istore_n 3, 1) := dk_62 (dk_at dksX4_gives_0 13 rfl rfl)
theorem dX4_gives_14 : decode cX4_gives 14 = .ok (.iload_n 3, 1) := dk_29 (dk_at dksX4_gives_0 14 rfl rfl)
theorem dX4_gives_15 : decode cX4_gives 15 = .ok (.iconst (-1), 1) := dk_2 (dk_at dksX4_gives_0 15 rfl rfl)
theorem dX4_gives_16 : decode cX4_gives 16 = .ok (.if_icmp .eq 31, 3) := dk_159 0 31 (dk_at dksX4_gives_0 16 rfl rfl)
theorem dX4_gives_19 : decode cX4_gives 19 = .ok (.aload_n 0, 1) := dk_42 (dk_at dksX4_gives_0 19 rfl rfl)
theorem dX4_gives_20 : decode cX4_gives 20 = .ok (.getfield 69, 3) := dk_180 0 69 (dk_at dksX4_gives_0 20 rfl rfl)
theorem dX4_gives_23 : decode cX4_gives 23 = .ok (.sipush 152, 3) := dk_17 0 152 (dk_at dksX4_gives_1 0 rfl rfl)
theorem dX4_gives_26 : decode cX4_gives 26 = .ok (.iload_n 3, 1) := dk_29 (dk_at dksX4_gives_1 3 rfl rfl)
theorem dX4_gives_27 : decode cX4_gives 27 = .ok (.iadd, 1) := dk_96 (dk_at dksX4_gives_1 4 rfl rfl)
theorem dX4_gives_28 : decode cX4_gives 28 = .ok (.bipush 99, 2) := dk_16 99 (dk_at dksX4_gives_1 5 rfl rfl)
theorem dX4_gives_30 : decode cX4_gives 30 = .ok (.aload_n 0, 1) := dk_42 (dk_at dksX4_gives_1 7 rfl rfl)
theorem dX4_gives_31 : decode cX4_gives 31 = .ok (.getfield 69, 3) := dk_180 0 69 (dk_at dksX4_gives_1 8 rfl rfl)
theorem dX4_gives_34 : decode cX4_gives 34 = .ok (.sipush 152, 3) := dk_17 0 152 (dk_at dksX4_gives_1 11 rfl rfl)
theorem dX4_gives_37 : decode cX4_gives 37 = .ok (.iload_n 3, 1) := dk_29 (dk_at dksX4_gives_1 14 rfl rfl)
theorem dX4_gives_38 : decode cX4_gives 38 = .ok (.iadd, 1) := dk_96 (dk_at dksX4_gives_1 15 rfl rfl)
theorem dX4_gives_39 : decode cX4_gives 39 = .ok (.iaload, 1) := dk_46 (dk_at dksX4_gives_1 16 rfl rfl)
theorem dX4_gives_40 : decode cX4_gives 40 = .ok (.bipush 10, 2) := dk_16 10 (dk_at dksX4_gives_1 17 rfl rfl)
theorem dX4_gives_42 : decode cX4_gives 42 = .ok (.iadd, 1) := dk_96 (dk_at dksX4_gives_1 19 rfl rfl)
theorem dX4_gives_43 : decode cX4_gives 43 = .ok (.invokestatic 340, 3) := dk_184 1 84 (dk_at dksX4_gives_1 20 rfl rfl)
theorem dX4_gives_46 : decode cX4_gives 46 = .ok (.iastore, 1) := dk_79 (dk_at dksX4_gives_1 23 rfl rfl)
theorem dX4_gives_47 : decode cX4_gives 47 = .ok (.return_, 1) := dk_177 (dk_at dksX4_gives_2 0 rfl rfl)
abbrev mX4_gives : xM := (yX4_gives, cX4_gives, 4, none, [])
def m_gives_13  (y0 : Int32) (S : MS) : Option MS :=
  if y0 = (-1 : Int32) then
    some S
  else
    (rdA S 13 ((152 : Int32) + y0)).bind fun v39 =>
    (m_lesser ((99 : Int32)) ((v39 + (10 : Int32)))).bind fun q43 =>
    (wrA S 13 ((152 : Int32) + y0) q43).bind fun S46 =>
    some S46
theorem m_gives_13_ok {G : xG} {m0 : Nat} {S0 : MS}   (y0 : Int32) (S : MS) (q : MS) (hf : m_gives_13 y0 S = some q) : XM G m0 mX4_gives 3 S0 none q 13 [(0, .ref m0)] [.int y0] S := by
  intro h N Z
  unfold m_gives_13 at hf
  refine X.istore_n (L' := [(3, .int y0), (0, .ref m0)]) dX4_gives_13 rfl (Nat.le_of_ble_eq_true rfl) rfl ?_
  refine X.iload_n dX4_gives_14 rfl 0 rfl ?_
  refine X.iconst (v := -1) dX4_gives_15 (by decide) ?_
  refine X.icmp_eq (tgt := 47) dX4_gives_16 (by decide) (fun c16 => ?_) (fun c16 => ?_)
  · have hf := if_t c16 hf
    obtain rfl := Option.some.inj hf
    exact X.vret dX4_gives_47 rfl rfl
  · have hf := if_f c16 hf
    refine X.aload_n dX4_gives_19 rfl 1 rfl ?_
    refine M.get (v := .ref (m0 + 13)) dX4_gives_20 fX4_69 (Nat.le_of_ble_eq_true rfl) rfl ?_
    refine X.sipush (v := 152) dX4_gives_23 (by decide) ?_
    refine X.iload_n dX4_gives_26 rfl 0 rfl ?_
    refine X.iadd dX4_gives_27 ?_
    refine X.bipush (v := 99) dX4_gives_28 (by decide) ?_
    refine X.aload_n dX4_gives_30 rfl 1 rfl ?_
    refine M.get (v := .ref (m0 + 13)) dX4_gives_31 fX4_69 (Nat.le_of_ble_eq_true rfl) rfl ?_
    refine X.sipush (v := 152) dX4_gives_34 (by decide) ?_
    refine X.iload_n dX4_gives_37 rfl 0 rfl ?_
    refine X.iadd dX4_gives_38 ?_
    obtain ⟨v39, h39, hf⟩ := ob hf
    refine M.iald dX4_gives_39 rfl h39 ?_
    refine X.bipush (v := 10) dX4_gives_40 (by decide) ?_
    refine X.iadd dX4_gives_42 ?_
    obtain ⟨q43, h43, hf⟩ := ob hf
    refine X.callSi (As := [.int (99 : Int32), .int (v39 + (10 : Int32))]) (rest := [.int ((152 : Int32) + y0), .ref (m0 + 13)]) dX4_gives_43 (w_lesser h43 _) cX4_340 rfl rfl (Nat.le_of_ble_eq_true rfl) (xD (Nat.le_of_ble_eq_true rfl)) xle.rf xleN ?_
    obtain ⟨S46, h46, hf⟩ := ob hf
    refine M.iast dX4_gives_46 rfl h46 ?_
    obtain rfl := Option.some.inj hf
    exact X.vret dX4_gives_47 rfl rfl
def m_gives (x1 : Int32) (x2 : Int32) (S : MS) : Option MS :=
  if x2 = 0 then
    m_gives_13 ((-1 : Int32)) S
  else
    (m_greatestOf x1 S).bind fun q10 =>
    m_gives_13 q10 S
theorem w_gives {G : xG} {m0 : Nat} {x1 : Int32} {x2 : Int32} {S : MS} {q : MS} (hf : m_gives x1 x2 S = some q) : CtM G m0 mX4_gives 3 S [.ref m0, .int x1, .int x2] none q := by
  intro h N Z
  refine Ct.of (by decide +kernel) rfl (Nat.le_of_ble_eq_true rfl) (show Xr G _ 0 [(0, .ref m0), (1, .int x1), (2, .int x2)] [] _ from ?_)
  unfold m_gives at hf
  refine X.iload_n dX4_gives_0 rfl 2 rfl ?_
  refine X.if_ne (tgt := 8) dX4_gives_1 (by decide) (fun c1 => ?_) (fun c1 => ?_)
  · have hf := if_f c1 hf
    refine X.aload_n dX4_gives_8 rfl 0 rfl ?_
    refine X.iload_n dX4_gives_9 rfl 1 rfl ?_
    obtain ⟨q10, h10, hf⟩ := ob hf
    refine X.callVi (As := [.int x1]) (rest := []) dX4_gives_10 (w_greatestOf h10 h N Z) cX4_437 rfl rfl (Nat.le_of_ble_eq_true rfl) mh_0 rfl rfl (xD (Nat.le_of_ble_eq_true rfl)) xleN xleN ?_
    refine X.sub [0] (L' := [(0, .ref m0)]) rfl ?_
    exact m_gives_13_ok _ _ _ hf h N Z
  · have hf := if_t c1 hf
    refine X.iconst (v := -1) dX4_gives_4 (by decide) ?_
    refine X.goto (tgt := 13) dX4_gives_5 (by decide) ?_
    refine X.sub [0] (L' := [(0, .ref m0)]) rfl ?_
    exact m_gives_13_ok _ _ _ hf h N Z
theorem cX4_440 : xCV RX4 440 mX4_gives 2 := ⟨lw_V q2164 q2166 qs115 q127 q2167, rfl, ⟨by decide +kernel, by decide +kernel, by decide +kernel⟩, Nat.le_of_ble_eq_true rfl⟩
/-! gains -/
abbrev cX4_gains : ByteArray := prog_12_method_107_code
def yX4_gains : MethodName := ⟨RX4, "gains", "(IIII)I"⟩
def dkwX4_gains_1 : List UInt8 := [16, 121, 27, 182, 1, 114, 29, 100, 172]
abbrev dktX4_gains_1 : List UInt8 := dkwX4_gains_1 ++ []
def dkwX4_gains_0 : List UInt8 := [42, 182, 1, 147, 42, 27, 29, 182, 1, 184, 42, 28, 21, 4, 182, 1, 184, 42, 16, 10, 182, 1, 150, 42]
abbrev dktX4_gains_0 : List UInt8 := dkwX4_gains_0 ++ dktX4_gains_1
theorem dksX4_gains_0 : cX4_gains.data.toList.drop 0 = dktX4_gains_0 := by decide +kernel
theorem dksX4_gains_1 : cX4_gains.data.toList.drop 24 = dktX4_gains_1 := dk_seg dksX4_gains_0 24 rfl rfl
theorem dX4_gains_0 : decode cX4_gains 0 = .ok (.aload_n 0, 1) := dk_42 (dk_at dksX4_gains_0 0 rfl rfl)
theorem dX4_gains_1 : decode cX4_gains 1 = .ok (.invokevirtual 403, 3) := dk_182 1 147 (dk_at dksX4_gains_0 1 rfl rfl)
theorem dX4_gains_4 : decode cX4_gains 4 = .ok (.aload_n 0, 1) := dk_42 (dk_at dksX4_gains_0 4 rfl rfl)
theorem dX4_gains_5 : decode cX4_gains 5 = .ok (.iload_n 1, 1) := dk_27 (dk_at dksX4_gains_0 5 rfl rfl)
theorem dX4_gains_6 : decode cX4_gains 6 = .ok (.iload_n 3, 1) := dk_29 (dk_at dksX4_gains_0 6 rfl rfl)
theorem dX4_gains_7 : decode cX4_gains 7 = .ok (.invokevirtual 440, 3) := dk_182 1 184 (dk_at dksX4_gains_0 7 rfl rfl)
theorem dX4_gains_10 : decode cX4_gains 10 = .ok (.aload_n 0, 1) := dk_42 (dk_at dksX4_gains_0 10 rfl rfl)
theorem dX4_gains_11 : decode cX4_gains 11 = .ok (.iload_n 2, 1) := dk_28 (dk_at dksX4_gains_0 11 rfl rfl)
theorem dX4_gains_12 : decode cX4_gains 12 = .ok (.iload 4, 2) := dk_21 4 (dk_at dksX4_gains_0 12 rfl rfl)
theorem dX4_gains_14 : decode cX4_gains 14 = .ok (.invokevirtual 440, 3) := dk_182 1 184 (dk_at dksX4_gains_0 14 rfl rfl)
theorem dX4_gains_17 : decode cX4_gains 17 = .ok (.aload_n 0, 1) := dk_42 (dk_at dksX4_gains_0 17 rfl rfl)
theorem dX4_gains_18 : decode cX4_gains 18 = .ok (.bipush 10, 2) := dk_16 10 (dk_at dksX4_gains_0 18 rfl rfl)
theorem dX4_gains_20 : decode cX4_gains 20 = .ok (.invokevirtual 406, 3) := dk_182 1 150 (dk_at dksX4_gains_0 20 rfl rfl)
theorem dX4_gains_23 : decode cX4_gains 23 = .ok (.aload_n 0, 1) := dk_42 (dk_at dksX4_gains_0 23 rfl rfl)
theorem dX4_gains_24 : decode cX4_gains 24 = .ok (.bipush 121, 2) := dk_16 121 (dk_at dksX4_gains_1 0 rfl rfl)
theorem dX4_gains_26 : decode cX4_gains 26 = .ok (.iload_n 1, 1) := dk_27 (dk_at dksX4_gains_1 2 rfl rfl)
theorem dX4_gains_27 : decode cX4_gains 27 = .ok (.invokevirtual 370, 3) := dk_182 1 114 (dk_at dksX4_gains_1 3 rfl rfl)
theorem dX4_gains_30 : decode cX4_gains 30 = .ok (.iload_n 3, 1) := dk_29 (dk_at dksX4_gains_1 6 rfl rfl)
theorem dX4_gains_31 : decode cX4_gains 31 = .ok (.isub, 1) := dk_100 (dk_at dksX4_gains_1 7 rfl rfl)
theorem dX4_gains_32 : decode cX4_gains 32 = .ok (.ireturn, 1) := dk_172 (dk_at dksX4_gains_1 8 rfl rfl)
abbrev mX4_gains : xM := (yX4_gains, cX4_gains, 5, (some .int), [])
def m_gains (x1 : Int32) (x2 : Int32) (x3 : Int32) (x4 : Int32) (S : MS) : Option (Int32 × MS) :=
  (m_tries S).bind fun q1 =>
  (m_gives x1 x3 q1).bind fun q7 =>
  (m_gives x2 x4 q7).bind fun q14 =>
  (m_daysGo ((10 : Int32)) q14).bind fun q20 =>
  (m_votesOf ((121 : Int32)) x1 q20).bind fun q27 =>
  some ((q27 - x3), q20)
theorem w_gains {G : xG} {m0 : Nat} {x1 : Int32} {x2 : Int32} {x3 : Int32} {x4 : Int32} {S : MS} {q : (Int32 × MS)} (hf : m_gains x1 x2 x3 x4 S = some q) : CtM G m0 mX4_gains 7 S [.ref m0, .int x1, .int x2, .int x3, .int x4] (some (.int q.1)) q.2 := by
  intro h N Z
  refine Ct.of (by decide +kernel) rfl (Nat.le_of_ble_eq_true rfl) (show Xr G _ 0 [(0, .ref m0), (1, .int x1), (2, .int x2), (3, .int x3), (4, .int x4)] [] _ from ?_)
  unfold m_gains at hf
  refine X.aload_n dX4_gains_0 rfl 0 rfl ?_
  obtain ⟨q1, h1, hf⟩ := ob hf
  refine X.callVv (As := []) (rest := []) (T2 := (mh m0 h q1, N, Z)) dX4_gains_1 (w_tries h1 h N Z) cX4_403 rfl rfl (Nat.le_of_ble_eq_true rfl) mh_0 rfl rfl (xD (Nat.le_of_ble_eq_true rfl)) xleN xleN ?_
  refine X.aload_n dX4_gains_4 rfl 0 rfl ?_
  refine X.iload_n dX4_gains_5 rfl 1 rfl ?_
  refine X.iload_n dX4_gains_6 rfl 3 rfl ?_
  obtain ⟨q7, h7, hf⟩ := ob hf
  refine X.callVv (As := [.int x1, .int x3]) (rest := []) (T2 := (mh m0 h q7, N, Z)) dX4_gains_7 (w_gives h7 h N Z) cX4_440 rfl rfl (Nat.le_of_ble_eq_true rfl) mh_0 rfl rfl (xD (Nat.le_of_ble_eq_true rfl)) xleN xleN ?_
  refine X.aload_n dX4_gains_10 rfl 0 rfl ?_
  refine X.iload_n dX4_gains_11 rfl 2 rfl ?_
  refine X.iload dX4_gains_12 4 rfl ?_
  obtain ⟨q14, h14, hf⟩ := ob hf
  refine X.callVv (As := [.int x2, .int x4]) (rest := []) (T2 := (mh m0 h q14, N, Z)) dX4_gains_14 (w_gives h14 h N Z) cX4_440 rfl rfl (Nat.le_of_ble_eq_true rfl) mh_0 rfl rfl (xD (Nat.le_of_ble_eq_true rfl)) xleN xleN ?_
  refine X.aload_n dX4_gains_17 rfl 0 rfl ?_
  refine X.bipush (v := 10) dX4_gains_18 (by decide) ?_
  obtain ⟨q20, h20, hf⟩ := ob hf
  refine X.callVv (As := [.int (10 : Int32)]) (rest := []) (T2 := (mh m0 h q20, N, Z)) dX4_gains_20 (w_daysGo h20 h N Z) cX4_406 rfl rfl (Nat.le_of_ble_eq_true rfl) mh_0 rfl rfl (xD (Nat.le_of_ble_eq_true rfl)) xleN xleN ?_
  refine X.aload_n dX4_gains_23 rfl 0 rfl ?_
  refine X.bipush (v := 121) dX4_gains_24 (by decide) ?_
  refine X.iload_n dX4_gains_26 rfl 1 rfl ?_
  obtain ⟨q27, h27, hf⟩ := ob hf
  refine X.callVi (As := [.int (121 : Int32), .int x1]) (rest := []) dX4_gains_27 (w_votesOf h27 h N Z) cX4_370 rfl rfl (Nat.le_of_ble_eq_true rfl) mh_0 rfl rfl (xD (Nat.le_of_ble_eq_true rfl)) xleN xleN ?_
  refine X.iload_n dX4_gains_30 rfl 3 rfl ?_
  refine X.isub dX4_gains_31 ?_
  obtain rfl := Option.some.inj hf
  exact X.iret dX4_gains_32 rfl rfl rfl
theorem cX4_443 : xCV RX4 443 mX4_gains 4 := ⟨lw_V q2160 q2162 qs114 q127 q2163, rfl, ⟨by decide +kernel, by decide +kernel, by decide +kernel⟩, Nat.le_of_ble_eq_true rfl⟩
/-! game -/
abbrev cX4_game : ByteArray := prog_12_method_108_code
def yX4_game : MethodName := ⟨RX4, "game", "(III)I"⟩
def dkwX4_game_7 : List UInt8 := [21, 5, 172]
abbrev dktX4_game_7 : List UInt8 := dkwX4_game_7 ++ []
def dkwX4_game_6 : List UInt8 := [21, 7, 104, 21, 8, 96, 54, 5, 132, 6, 1, 167, 255, 163, 29, 154, 0, 8, 21, 4, 167, 0, 5]
abbrev dktX4_game_6 : List UInt8 := dkwX4_game_6 ++ dktX4_game_7
def dkwX4_game_5 : List UInt8 := [21, 8, 21, 7, 182, 1, 187, 164, 0, 6, 167, 0, 22, 132, 4, 1, 21, 5, 2, 160, 0, 13, 16, 10]
abbrev dktX4_game_5 : List UInt8 := dkwX4_game_5 ++ dktX4_game_6
def dkwX4_game_4 : List UInt8 := [21, 8, 182, 1, 187, 163, 0, 50, 42, 28, 27, 4, 21, 8, 100, 21, 7, 182, 1, 187, 42, 28, 27]
abbrev dktX4_game_4 : List UInt8 := dkwX4_game_4 ++ dktX4_game_5
def dkwX4_game_3 : List UInt8 := [21, 6, 5, 112, 54, 8, 42, 27, 28, 4, 21, 7, 100, 21, 8, 182, 1, 187, 42, 27, 28, 21, 7]
abbrev dktX4_game_3 : List UInt8 := dkwX4_game_3 ++ dktX4_game_4
def dkwX4_game_2 : List UInt8 := [3, 172, 3, 54, 4, 2, 54, 5, 3, 54, 6, 21, 6, 7, 162, 0, 93, 21, 6, 5, 108, 54, 7]
abbrev dktX4_game_2 : List UInt8 := dkwX4_game_2 ++ dktX4_game_3
def dkwX4_game_1 : List UInt8 := [182, 1, 132, 153, 0, 21, 42, 27, 28, 159, 0, 7, 4, 167, 0, 4, 3, 5, 182, 1, 34, 154, 0, 5]
abbrev dktX4_game_1 : List UInt8 := dkwX4_game_1 ++ dktX4_game_2
def dkwX4_game_0 : List UInt8 := [42, 3, 181, 0, 115, 42, 27, 182, 1, 138, 153, 0, 38, 42, 28, 182, 1, 138, 153, 0, 30, 42, 29, 4]
abbrev dktX4_game_0 : List UInt8 := dkwX4_game_0 ++ dktX4_game_1
theorem dksX4_game_0 : cX4_game.data.toList.drop 0 = dktX4_game_0 := by decide +kernel
theorem dksX4_game_1 : cX4_game.data.toList.drop 24 = dktX4_game_1 := dk_seg dksX4_game_0 24 rfl rfl
theorem dksX4_game_2 : cX4_game.data.toList.drop 48 = dktX4_game_2 := dk_seg dksX4_game_1 24 rfl rfl
theorem dksX4_game_3 : cX4_game.data.toList.drop 71 = dktX4_game_3 := dk_seg dksX4_game_2 23 rfl rfl
theorem dksX4_game_4 : cX4_game.data.toList.drop 94 = dktX4_game_4 := dk_seg dksX4_game_3 23 rfl rfl
theorem dksX4_game_5 : cX4_game.data.toList.drop 117 = dktX4_game_5 := dk_seg dksX4_game_4 23 rfl rfl
theorem dksX4_game_6 : cX4_game.data.toList.drop 141 = dktX4_game_6 := dk_seg dksX4_game_5 24 rfl rfl
theorem dksX4_game_7 : cX4_game.data.toList.drop 164 = dktX4_game_7 := dk_seg dksX4_game_6 23 rfl rfl
theorem dX4_game_0 : decode cX4_game 0 = .ok (.aload_n 0, 1) := dk_42 (dk_at dksX4_game_0 0 rfl rfl)
theorem dX4_game_1 : decode cX4_game 1 = .ok (.iconst 0, 1) := dk_3 (dk_at dksX4_game_0 1 rfl rfl)
theorem dX4_game_2 : decode cX4_game 2 = .ok (.putfield 115, 3) := dk_181 0 115 (dk_at dksX4_game_0 2 rfl rfl)
theorem dX4_game_5 : decode cX4_game 5 = .ok (.aload_n 0, 1) := dk_42 (dk_at dksX4_game_0 5 rfl rfl)
theorem dX4_game_6 : decode cX4_game 6 = .ok (.iload_n 1, 1) := dk_27 (dk_at dksX4_game_0 6 rfl rfl)
theorem dX4_game_7 : decode cX4_game 7 = .ok (.invokevirtual 394, 3) := dk_182 1 138 (dk_at dksX4_game_0 7 rfl rfl)
theorem dX4_game_10 : decode cX4_game 10 = .ok (.ifCond .eq 38, 3) := dk_153 0 38 (dk_at dksX4_game_0 10 rfl rfl)
theorem dX4_game_13 : decode cX4_game 13 = .ok (.aload_n 0, 1) := dk_42 (dk_at dksX4_game_0 13 rfl rfl)
theorem dX4_game_14 : decode cX4_game 14 = .ok (.iload_n 2, 1) := dk_28 (dk_at dksX4_game_0 14 rfl rfl)
theorem dX4_game_15 : decode cX4_game 15 = .ok (.invokevirtual 394, 3) := dk_182 1 138 (dk_at dksX4_game_0 15 rfl rfl)
theorem dX4_game_18 : decode cX4_game 18 = .ok (.ifCond .eq 30, 3) := dk_153 0 30 (dk_at dksX4_game_0 18 rfl rfl)
theorem dX4_game_21 : decode cX4_game 21 = .ok (.aload_n 0, 1) := dk_42 (dk_at dksX4_game_0 21 rfl rfl)
theorem dX4_game_22 : decode cX4_game 22 = .ok (.iload_n 3, 1) := dk_29 (dk_at dksX4_game_0 22 rfl rfl)
theorem dX4_game_23 : decode cX4_game 23 = .ok (.iconst 1, 1) := dk_4 (dk_at dksX4_game_0 23 rfl rfl)
theorem dX4_game_24 : decode cX4_game 24 = .ok (.invokevirtual 388, 3) := dk_182 1 132 (dk_at dksX4_game_1 0 rfl rfl)
theorem dX4_game_27 : decode cX4_game 27 = .ok (.ifCond .eq 21, 3) := dk_153 0 21 (dk_at dksX4_game_1 3 rfl rfl)
theorem dX4_game_30 : decode cX4_game 30 = .ok (.aload_n 0, 1) := dk_42 (dk_at dksX4_game_1 6 rfl rfl)
theorem dX4_game_31 : decode cX4_game 31 = .ok (.iload_n 1, 1) := dk_27 (dk_at dksX4_game_1 7 rfl rfl)
theorem dX4_game_32 : decode cX4_game 32 = .ok (.iload_n 2, 1) := dk_28 (dk_at dksX4_game_1 8 rfl rfl)
theorem dX4_game_33 : decode cX4_game 33 = .ok (.if_icmp .eq 7, 3) := dk_159 0 7 (dk_at dksX4_game_1 9 rfl rfl)
theorem dX4_game_36 : decode cX4_game 36 = .ok (.iconst 1, 1) := dk_4 (dk_at dksX4_game_1 12 rfl rfl)
theorem dX4_game_37 : decode cX4_game 37 = .ok (.goto 4, 3) := dk_167 0 4 (dk_at dksX4_game_1 13 rfl rfl)
theorem dX4_game_40 : decode cX4_game 40 = .ok (.iconst 0, 1) := dk_3 (dk_at dksX4_game_1 16 rfl rfl)
theorem dX4_game_41 : decode cX4_game 41 = .ok (.iconst 2, 1) := dk_5 (dk_at dksX4_game_1 17 rfl rfl)
theorem dX4_game_42 : decode cX4_game 42 = .ok (.invokevirtual 290, 3) := dk_182 1 34 (dk_at dksX4_game_1 18 rfl rfl)
theorem dX4_game_45 : decode cX4_game 45 = .ok (.ifCond .ne 5, 3) := dk_154 0 5 (dk_at dksX4_game_1 21 rfl rfl)
theorem dX4_game_48 : decode cX4_game 48 = .ok (.iconst 0, 1) := dk_3 (dk_at dksX4_game_2 0 rfl rfl)
theorem dX4_game_49 : decode cX4_game 49 = .ok (.ireturn, 1) := dk_172 (dk_at dksX4_game_2 1 rfl rfl)
theorem dX4_game_50 : decode cX4_game 50 = .ok (.iconst 0, 1) := dk_3 (dk_at dksX4_game_2 2 rfl rfl)
theorem dX4_game_51 : decode cX4_game 51 = .ok (.istore 4, 2) := dk_54 4 (dk_at dksX4_game_2 3 rfl rfl)
theorem dX4_game_53 : decode cX4_game 53 = .ok (.iconst (-1), 1) := dk_2 (dk_at dksX4_game_2 5 rfl rfl)
theorem dX4_game_54 : decode cX4_game 54 = .ok (.istore 5, 2) := dk_54 5 (dk_at dksX4_game_2 6 rfl rfl)
theorem dX4_game_56 : decode cX4_game 56 = .ok (.iconst 0, 1) := dk_3 (dk_at dksX4_game_2 8 rfl rfl)
theorem dX4_game_57 : decode cX4_game 57 = .ok (.istore 6, 2) := dk_54 6 (dk_at dksX4_game_2 9 rfl rfl)
theorem dX4_game_59 : decode cX4_game 59 = .ok (.iload 6, 2) := dk_21 6 (dk_at dksX4_game_2 11 rfl rfl)
theorem dX4_game_61 : decode cX4_game 61 = .ok (.iconst 4, 1) := dk_7 (dk_at dksX4_game_2 13 rfl rfl)
theorem dX4_game_62 : decode cX4_game 62 = .ok (.if_icmp .ge 93, 3) := dk_162 0 93 (dk_at dksX4_game_2 14 rfl rfl)
theorem dX4_game_65 : decode cX4_game 65 = .ok (.iload 6, 2) := dk_21 6 (dk_at dksX4_game_2 17 rfl rfl)
theorem dX4_game_67 : decode cX4_game 67 = .ok (.iconst 2, 1) := dk_5 (dk_at dksX4_game_2 19 rfl rfl)
theorem dX4_game_68 : decode cX4_game 68 = .ok (.idiv, 1) := dk_108 (dk_at dksX4_game_2 20 rfl rfl)
theorem dX4_game_69 : decode cX4_game 69 = .ok (.istore 7, 2) := dk_54 7 (dk_at dksX4_game_2 21 rfl rfl)
theorem dX4_game_71 : decode cX4_game 71 = .ok (.iload 6, 2) := dk_21 6 (dk_at dksX4_game_3 0 rfl rfl)
theorem dX4_game_73 : decode cX4_game 73 = .ok (.iconst 2, 1) := dk_5 (dk_at dksX4_game_3 2 rfl rfl)
theorem dX4_game_74 : decode cX4_game 74 = .ok (.irem, 1) := dk_112 (dk_at dksX4_game_3 3 rfl rfl)
theorem dX4_game_75 : decode cX4_game 75 = .ok (.istore 8, 2) := dk_54 8 (dk_at dksX4_game_3 4 rfl rfl)
theorem dX4_game_77 : decode cX4_game 77 = .ok (.aload_n 0, 1) := dk_42 (dk_at dksX4_game_3 6 rfl rfl)
theorem dX4_game_78 : decode cX4_game 78 = .ok (.iload_n 1, 1) := dk_27 (dk_at dksX4_game_3 7 rfl rfl)
theorem dX4_game_79 : decode cX4_game 79 = .ok (.iload_n 2, 1) := dk_28 (dk_at dksX4_game_3 8 rfl rfl)
theorem dX4_game_80 : decode cX4_game 80 = .ok (.iconst 1, 1) := dk_4 (dk_at dksX4_game_3 9 rfl rfl)
theorem dX4_game_81 : decode cX4_game 81 = .ok (.iload 7, 2) := dk_21 7 (dk_at dksX4_game_3 10 rfl rfl)
theorem dX4_game_83 : decode cX4_game 83 = .ok (.isub, 1) := dk_100 (dk_at dksX4_game_3 12 rfl rfl)
theorem dX4_game_84 : decode cX4_game 84 = .ok (.iload 8, 2) := dk_21 8 (dk_at dksX4_game_3 13 rfl rfl)
theorem dX4_game_86 : decode cX4_game 86 = .ok (.invokevirtual 443, 3) := dk_182 1 187 (dk_at dksX4_game_3 15 rfl rfl)
theorem dX4_game_89 : decode cX4_game 89 = .ok (.aload_n 0, 1) := dk_42 (dk_at dksX4_game_3 18 rfl rfl)
theorem dX4_game_90 : decode cX4_game 90 = .ok (.iload_n 1, 1) := dk_27 (dk_at dksX4_game_3 19 rfl rfl)
theorem dX4_game_91 : decode cX4_game 91 = .ok (.iload_n 2, 1) := dk_28 (dk_at dksX4_game_3 20 rfl rfl)
theorem dX4_game_92 : decode cX4_game 92 = .ok (.iload 7, 2) := dk_21 7 (dk_at dksX4_game_3 21 rfl rfl)
theorem dX4_game_94 : decode cX4_game 94 = .ok (.iload 8, 2) := dk_21 8 (dk_at dksX4_game_4 0 rfl rfl)
theorem dX4_game_96 : decode cX4_game 96 = .ok (.invokevirtual 443, 3) := dk_182 1 187 (dk_at dksX4_game_4 2 rfl rfl)
theorem dX4_game_99 : decode cX4_game 99 = .ok (.if_icmp .gt 50, 3) := dk_163 0 50 (dk_at dksX4_game_4 5 rfl rfl)
theorem dX4_game_102 : decode cX4_game 102 = .ok (.aload_n 0, 1) := dk_42 (dk_at dksX4_game_4 8 rfl rfl)
theorem dX4_game_103 : decode cX4_game 103 = .ok (.iload_n 2, 1) := dk_28 (dk_at dksX4_game_4 9 rfl rfl)
theorem dX4_game_104 : decode cX4_game 104 = .ok (.iload_n 1, 1) := dk_27 (dk_at dksX4_game_4 10 rfl rfl)
theorem dX4_game_105 : decode cX4_game 105 = .ok (.iconst 1, 1) := dk_4 (dk_at dksX4_game_4 11 rfl rfl)
theorem dX4_game_106 : decode cX4_game 106 = .ok (.iload 8, 2) := dk_21 8 (dk_at dksX4_game_4 12 rfl rfl)
theorem dX4_game_108 : decode cX4_game 108 = .ok (.isub, 1) := dk_100 (dk_at dksX4_game_4 14 rfl rfl)
theorem dX4_game_109 : decode cX4_game 109 = .ok (.iload 7, 2) := dk_21 7 (dk_at dksX4_game_4 15 rfl rfl)
theorem dX4_game_111 : decode cX4_game 111 = .ok (.invokevirtual 443, 3) := dk_182 1 187 (dk_at dksX4_game_4 17 rfl rfl)
theorem dX4_game_114 : decode cX4_game 114 = .ok (.aload_n 0, 1) := dk_42 (dk_at dksX4_game_4 20 rfl rfl)
theorem dX4_game_115 : decode cX4_game 115 = .ok (.iload_n 2, 1) := dk_28 (dk_at dksX4_game_4 21 rfl rfl)
theorem dX4_game_116 : decode cX4_game 116 = .ok (.iload_n 1, 1) := dk_27 (dk_at dksX4_game_4 22 rfl rfl)
theorem dX4_game_117 : decode cX4_game 117 = .ok (.iload 8, 2) := dk_21 8 (dk_at dksX4_game_5 0 rfl rfl)
theorem dX4_game_119 : decode cX4_game 119 = .ok (.iload 7, 2) := dk_21 7 (dk_at dksX4_game_5 2 rfl rfl)
theorem dX4_game_121 : decode cX4_game 121 = .ok (.invokevirtual 443, 3) := dk_182 1 187 (dk_at dksX4_game_5 4 rfl rfl)
theorem dX4_game_124 : decode cX4_game 124 = .ok (.if_icmp .le 6, 3) := dk_164 0 6 (dk_at dksX4_game_5 7 rfl rfl)
theorem dX4_game_127 : decode cX4_game 127 = .ok (.goto 22, 3) := dk_167 0 22 (dk_at dksX4_game_5 10 rfl rfl)
theorem dX4_game_130 : decode cX4_game 130 = .ok (.iinc 4 1, 3) := dk_132 4 1 (dk_at dksX4_game_5 13 rfl rfl)
theorem dX4_game_133 : decode cX4_game 133 = .ok (.iload 5, 2) := dk_21 5 (dk_at dksX4_game_5 16 rfl rfl)
theorem dX4_game_135 : decode cX4_game 135 = .ok (.iconst (-1), 1) := dk_2 (dk_at dksX4_game_5 18 rfl rfl)
theorem dX4_game_136 : decode cX4_game 136 = .ok (.if_icmp .ne 13, 3) := dk_160 0 13 (dk_at dksX4_game_5 19 rfl rfl)
theorem dX4_game_139 : decode cX4_game 139 = .ok (.bipush 10, 2) := dk_16 10 (dk_at dksX4_game_5 22 rfl rfl)
theorem dX4_game_141 : decode cX4_game 141 = .ok (.iload 7, 2) := dk_21 7 (dk_at dksX4_game_6 0 rfl rfl)
theorem dX4_game_143 : decode cX4_game 143 = .ok (.imul, 1) := dk_104 (dk_at dksX4_game_6 2 rfl rfl)
theorem dX4_game_144 : decode cX4_game 144 = .ok (.iload 8, 2) := dk_21 8 (dk_at dksX4_game_6 3 rfl rfl)
theorem dX4_game_146 : decode cX4_game 146 = .ok (.iadd, 1) := dk_96 (dk_at dksX4_game_6 5 rfl rfl)
theorem dX4_game_147 : decode cX4_game 147 = .ok (.istore 5, 2) := dk_54 5 (dk_at dksX4_game_6 6 rfl rfl)
theorem dX4_game_149 : decode cX4_game 149 = .ok (.iinc 6 1, 3) := dk_132 6 1 (dk_at dksX4_game_6 8 rfl rfl)
theorem dX4_game_152 : decode cX4_game 152 = .ok (.goto (-93), 3) := dk_167 255 163 (dk_at dksX4_game_6 11 rfl rfl)
theorem dX4_game_155 : decode cX4_game 155 = .ok (.iload_n 3, 1) := dk_29 (dk_at dksX4_game_6 14 rfl rfl)
theorem dX4_game_156 : decode cX4_game 156 = .ok (.ifCond .ne 8, 3) := dk_154 0 8 (dk_at dksX4_game_6 15 rfl rfl)
theorem dX4_game_159 : decode cX4_game 159 = .ok (.iload 4, 2) := dk_21 4 (dk_at dksX4_game_6 18 rfl rfl)
theorem dX4_game_161 : decode cX4_game 161 = .ok (.goto 5, 3) := dk_167 0 5 (dk_at dksX4_game_6 20 rfl rfl)
theorem dX4_game_164 : decode cX4_game 164 = .ok (.iload 5, 2) := dk_21 5 (dk_at dksX4_game_7 0 rfl rfl)
theorem dX4_game_166 : decode cX4_game 166 = .ok (.ireturn, 1) := dk_172 (dk_at dksX4_game_7 2 rfl rfl)
abbrev mX4_game : xM := (yX4_game, cX4_game, 9, (some .int), [])
def m_game_149 (k59 : Int32 → Int32 → Int32 → Int32 → Int32 → Int32 → MS → Option (Int32 × MS)) (x1 : Int32) (x2 : Int32) (x3 : Int32) (x4 : Int32) (x5 : Int32) (x6 : Int32) (S : MS) : Option (Int32 × MS) :=
  k59 x1 x2 x3 x4 x5 ((x6 + 1)) S
theorem m_game_149_ok {G : xG} {m0 : Nat} {S0 : MS} {k59 : Int32 → Int32 → Int32 → Int32 → Int32 → Int32 → MS → Option (Int32 × MS)} (hk59 : ∀ (x1 : Int32) (x2 : Int32) (x3 : Int32) (x4 : Int32) (x5 : Int32) (x6 : Int32) (S : MS) (q : (Int32 × MS)), k59 x1 x2 x3 x4 x5 x6 S = some q → XM G m0 mX4_game 8 S0 (some (.int q.1)) q.2 59 [(0, .ref m0), (1, .int x1), (2, .int x2), (3, .int x3), (4, .int x4), (5, .int x5), (6, .int x6)] [] S) (x1 : Int32) (x2 : Int32) (x3 : Int32) (x4 : Int32) (x5 : Int32) (x6 : Int32) (S : MS) (q : (Int32 × MS)) (hf : m_game_149 k59 x1 x2 x3 x4 x5 x6 S = some q) : XM G m0 mX4_game 8 S0 (some (.int q.1)) q.2 149 [(0, .ref m0), (1, .int x1), (2, .int x2), (3, .int x3), (4, .int x4), (5, .int x5), (6, .int x6)] [] S := by
  intro h N Z
  unfold m_game_149 at hf
  refine X.iinc (v := (x6 + 1)) (L' := [(6, .int (x6 + 1)), (0, .ref m0), (1, .int x1), (2, .int x2), (3, .int x3), (4, .int x4), (5, .int x5)]) dX4_game_149 6 rfl rfl (Nat.le_of_ble_eq_true rfl) rfl ?_
  refine X.goto (tgt := 59) dX4_game_152 (by decide) ?_
  refine X.sub [1, 2, 3, 4, 5, 6, 0] (L' := [(0, .ref m0), (1, .int x1), (2, .int x2), (3, .int x3), (4, .int x4), (5, .int x5), (6, .int (x6 + 1))]) rfl ?_
  exact hk59 _ _ _ _ _ _ _ _ hf h N Z
def m_game_59_b  (k59 : Int32 → Int32 → Int32 → Int32 → Int32 → Int32 → MS → Option (Int32 × MS)) (x1 : Int32) (x2 : Int32) (x3 : Int32) (x4 : Int32) (x5 : Int32) (x6 : Int32) (S : MS) : Option (Int32 × MS) :=
  if (4 : Int32) ≤ x6 then
    if x3 = 0 then
      some (x4, S)
    else
      some (x5, S)
  else
    if (2 : Int32) = 0 then none else
    if (2 : Int32) = 0 then none else
    (m_gains x1 x2 (((1 : Int32) - (x6 / (2 : Int32)))) ((x6 - x6 / (2 : Int32) * (2 : Int32))) S).bind fun q86 =>
    (m_gains x1 x2 ((x6 / (2 : Int32))) ((x6 - x6 / (2 : Int32) * (2 : Int32))) q86.2).bind fun q96 =>
    if q96.1 < q86.1 then
      m_game_149 k59 x1 x2 x3 x4 x5 x6 q96.2
    else
      (m_gains x2 x1 (((1 : Int32) - (x6 - x6 / (2 : Int32) * (2 : Int32)))) ((x6 / (2 : Int32))) q96.2).bind fun q111 =>
      (m_gains x2 x1 ((x6 - x6 / (2 : Int32) * (2 : Int32))) ((x6 / (2 : Int32))) q111.2).bind fun q121 =>
      if q111.1 ≤ q121.1 then
        if x5 = (-1 : Int32) then
          m_game_149 k59 x1 x2 x3 ((x4 + 1)) ((((10 : Int32) * (x6 / (2 : Int32))) + (x6 - x6 / (2 : Int32) * (2 : Int32)))) x6 q121.2
        else
          m_game_149 k59 x1 x2 x3 ((x4 + 1)) x5 x6 q121.2
      else
        m_game_149 k59 x1 x2 x3 x4 x5 x6 q121.2
def m_game_59  : Nat → Int32 → Int32 → Int32 → Int32 → Int32 → Int32 → MS → Option (Int32 × MS)
  | 0 => fun _ _ _ _ _ _ _ => none
  | n + 1 => fun x1 x2 x3 x4 x5 x6 S => m_game_59_b (m_game_59 n) x1 x2 x3 x4 x5 x6 S
theorem m_game_59_bok {G : xG} {m0 : Nat} {S0 : MS}  {k59 : Int32 → Int32 → Int32 → Int32 → Int32 → Int32 → MS → Option (Int32 × MS)}  (hk59 : ∀ (x1 : Int32) (x2 : Int32) (x3 : Int32) (x4 : Int32) (x5 : Int32) (x6 : Int32) (S : MS) (q : (Int32 × MS)), k59 x1 x2 x3 x4 x5 x6 S = some q → XM G m0 mX4_game 8 S0 (some (.int q.1)) q.2 59 [(0, .ref m0), (1, .int x1), (2, .int x2), (3, .int x3), (4, .int x4), (5, .int x5), (6, .int x6)] [] S) (x1 : Int32) (x2 : Int32) (x3 : Int32) (x4 : Int32) (x5 : Int32) (x6 : Int32) (S : MS) (q : (Int32 × MS)) (hf : m_game_59_b k59 x1 x2 x3 x4 x5 x6 S = some q) : XM G m0 mX4_game 8 S0 (some (.int q.1)) q.2 59 [(0, .ref m0), (1, .int x1), (2, .int x2), (3, .int x3), (4, .int x4), (5, .int x5), (6, .int x6)] [] S := by
  intro h N Z
  unfold m_game_59_b at hf
  refine X.iload dX4_game_59 6 rfl ?_
  refine X.iconst (v := 4) dX4_game_61 (by decide) ?_
  refine X.icmp_ge (tgt := 155) dX4_game_62 (by decide) (fun c62 => ?_) (fun c62 => ?_)
  · have hf := if_t c62 hf
    refine X.iload_n dX4_game_155 rfl 3 rfl ?_
    refine X.if_ne (tgt := 164) dX4_game_156 (by decide) (fun c156 => ?_) (fun c156 => ?_)
    · have hf := if_f c156 hf
      refine X.iload dX4_game_164 5 rfl ?_
      obtain rfl := Option.some.inj hf
      exact X.iret dX4_game_166 rfl rfl rfl
    · have hf := if_t c156 hf
      refine X.iload dX4_game_159 4 rfl ?_
      refine X.goto (tgt := 166) dX4_game_161 (by decide) ?_
      obtain rfl := Option.some.inj hf
      exact X.iret dX4_game_166 rfl rfl rfl
  · have hf := if_f c62 hf
    refine X.iload dX4_game_65 6 rfl ?_
    refine X.iconst (v := 2) dX4_game_67 (by decide) ?_
    obtain ⟨c68, hf⟩ := if_n hf
    refine X.idiv dX4_game_68 c68 ?_
    refine X.istore (L' := [(7, .int (x6 / (2 : Int32))), (0, .ref m0), (1, .int x1), (2, .int x2), (3, .int x3), (4, .int x4), (5, .int x5), (6, .int x6)]) dX4_game_69 (Nat.le_of_ble_eq_true rfl) rfl ?_
    refine X.iload dX4_game_71 7 rfl ?_
    refine X.iconst (v := 2) dX4_game_73 (by decide) ?_
    obtain ⟨c74, hf⟩ := if_n hf
    refine X.irem dX4_game_74 c74 ?_
    refine X.istore (L' := [(8, .int (x6 - x6 / (2 : Int32) * (2 : Int32))), (7, .int (x6 / (2 : Int32))), (0, .ref m0), (1, .int x1), (2, .int x2), (3, .int x3), (4, .int x4), (5, .int x5), (6, .int x6)]) dX4_game_75 (Nat.le_of_ble_eq_true rfl) rfl ?_
    refine X.aload_n dX4_game_77 rfl 2 rfl ?_
    refine X.iload_n dX4_game_78 rfl 3 rfl ?_
    refine X.iload_n dX4_game_79 rfl 4 rfl ?_
    refine X.iconst (v := 1) dX4_game_80 (by decide) ?_
    refine X.iload dX4_game_81 1 rfl ?_
    refine X.isub dX4_game_83 ?_
    refine X.iload dX4_game_84 0 rfl ?_
    obtain ⟨q86, h86, hf⟩ := ob hf
    refine X.callVi (As := [.int x1, .int x2, .int ((1 : Int32) - (x6 / (2 : Int32))), .int (x6 - x6 / (2 : Int32) * (2 : Int32))]) (rest := []) (T2 := (mh m0 h q86.2, N, Z)) dX4_game_86 (w_gains h86 h N Z) cX4_443 rfl rfl (Nat.le_of_ble_eq_true rfl) mh_0 rfl rfl (xD (Nat.le_of_ble_eq_true rfl)) xleN xleN ?_
    refine X.aload_n dX4_game_89 rfl 2 rfl ?_
    refine X.iload_n dX4_game_90 rfl 3 rfl ?_
    refine X.iload_n dX4_game_91 rfl 4 rfl ?_
    refine X.iload dX4_game_92 1 rfl ?_
    refine X.iload dX4_game_94 0 rfl ?_
    obtain ⟨q96, h96, hf⟩ := ob hf
    refine X.callVi (As := [.int x1, .int x2, .int (x6 / (2 : Int32)), .int (x6 - x6 / (2 : Int32) * (2 : Int32))]) (rest := [.int q86.1]) (T2 := (mh m0 h q96.2, N, Z)) dX4_game_96 (w_gains h96 h N Z) cX4_443 rfl rfl (Nat.le_of_ble_eq_true rfl) mh_0 rfl rfl (xD (Nat.le_of_ble_eq_true rfl)) xleN xleN ?_
    refine X.icmp_gt (tgt := 149) dX4_game_99 (by decide) (fun c99 => ?_) (fun c99 => ?_)
    · have hf := if_t c99 hf
      refine X.sub [2, 3, 4, 5, 6, 7, 8] (L' := [(0, .ref m0), (1, .int x1), (2, .int x2), (3, .int x3), (4, .int x4), (5, .int x5), (6, .int x6)]) rfl ?_
      exact m_game_149_ok hk59 _ _ _ _ _ _ _ _ hf h N Z
    · have hf := if_f c99 hf
      refine X.aload_n dX4_game_102 rfl 2 rfl ?_
      refine X.iload_n dX4_game_103 rfl 4 rfl ?_
      refine X.iload_n dX4_game_104 rfl 3 rfl ?_
      refine X.iconst (v := 1) dX4_game_105 (by decide) ?_
      refine X.iload dX4_game_106 0 rfl ?_
      refine X.isub dX4_game_108 ?_
      refine X.iload dX4_game_109 1 rfl ?_
      obtain ⟨q111, h111, hf⟩ := ob hf
      refine X.callVi (As := [.int x2, .int x1, .int ((1 : Int32) - (x6 - x6 / (2 : Int32) * (2 : Int32))), .int (x6 / (2 : Int32))]) (rest := []) (T2 := (mh m0 h q111.2, N, Z)) dX4_game_111 (w_gains h111 h N Z) cX4_443 rfl rfl (Nat.le_of_ble_eq_true rfl) mh_0 rfl rfl (xD (Nat.le_of_ble_eq_true rfl)) xleN xleN ?_
      refine X.aload_n dX4_game_114 rfl 2 rfl ?_
      refine X.iload_n dX4_game_115 rfl 4 rfl ?_
      refine X.iload_n dX4_game_116 rfl 3 rfl ?_
      refine X.iload dX4_game_117 0 rfl ?_
      refine X.iload dX4_game_119 1 rfl ?_
      obtain ⟨q121, h121, hf⟩ := ob hf
      refine X.callVi (As := [.int x2, .int x1, .int (x6 - x6 / (2 : Int32) * (2 : Int32)), .int (x6 / (2 : Int32))]) (rest := [.int q111.1]) (T2 := (mh m0 h q121.2, N, Z)) dX4_game_121 (w_gains h121 h N Z) cX4_443 rfl rfl (Nat.le_of_ble_eq_true rfl) mh_0 rfl rfl (xD (Nat.le_of_ble_eq_true rfl)) xleN xleN ?_
      refine X.icmp_le (tgt := 130) dX4_game_124 (by decide) (fun c124 => ?_) (fun c124 => ?_)
      · have hf := if_t c124 hf
        refine X.iinc (v := (x4 + 1)) (L' := [(4, .int (x4 + 1)), (8, .int (x6 - x6 / (2 : Int32) * (2 : Int32))), (7, .int (x6 / (2 : Int32))), (0, .ref m0), (1, .int x1), (2, .int x2), (3, .int x3), (5, .int x5), (6, .int x6)]) dX4_game_130 6 rfl rfl (Nat.le_of_ble_eq_true rfl) rfl ?_
        refine X.iload dX4_game_133 7 rfl ?_
        refine X.iconst (v := -1) dX4_game_135 (by decide) ?_
        refine X.icmp_ne (tgt := 149) dX4_game_136 (by decide) (fun c136 => ?_) (fun c136 => ?_)
        · have hf := if_f c136 hf
          refine X.sub [3, 4, 5, 6, 0, 7, 8] (L' := [(0, .ref m0), (1, .int x1), (2, .int x2), (3, .int x3), (4, .int (x4 + 1)), (5, .int x5), (6, .int x6)]) rfl ?_
          exact m_game_149_ok hk59 _ _ _ _ _ _ _ _ hf h N Z
        · have hf := if_t c136 hf
          refine X.bipush (v := 10) dX4_game_139 (by decide) ?_
          refine X.iload dX4_game_141 2 rfl ?_
          refine X.imul dX4_game_143 ?_
          refine X.iload dX4_game_144 1 rfl ?_
          refine X.iadd dX4_game_146 ?_
          refine X.istore (L' := [(5, .int (((10 : Int32) * (x6 / (2 : Int32))) + (x6 - x6 / (2 : Int32) * (2 : Int32)))), (4, .int (x4 + 1)), (8, .int (x6 - x6 / (2 : Int32) * (2 : Int32))), (7, .int (x6 / (2 : Int32))), (0, .ref m0), (1, .int x1), (2, .int x2), (3, .int x3), (6, .int x6)]) dX4_game_147 (Nat.le_of_ble_eq_true rfl) rfl ?_
          refine X.sub [4, 5, 6, 7, 1, 0, 8] (L' := [(0, .ref m0), (1, .int x1), (2, .int x2), (3, .int x3), (4, .int (x4 + 1)), (5, .int (((10 : Int32) * (x6 / (2 : Int32))) + (x6 - x6 / (2 : Int32) * (2 : Int32)))), (6, .int x6)]) rfl ?_
          exact m_game_149_ok hk59 _ _ _ _ _ _ _ _ hf h N Z
      · have hf := if_f c124 hf
        refine X.goto (tgt := 149) dX4_game_127 (by decide) ?_
        refine X.sub [2, 3, 4, 5, 6, 7, 8] (L' := [(0, .ref m0), (1, .int x1), (2, .int x2), (3, .int x3), (4, .int x4), (5, .int x5), (6, .int x6)]) rfl ?_
        exact m_game_149_ok hk59 _ _ _ _ _ _ _ _ hf h N Z
theorem m_game_59_ok {G : xG} {m0 : Nat} {S0 : MS}   : ∀ (n : Nat) (x1 : Int32) (x2 : Int32) (x3 : Int32) (x4 : Int32) (x5 : Int32) (x6 : Int32) (S : MS) (q : (Int32 × MS)), m_game_59 n x1 x2 x3 x4 x5 x6 S = some q → XM G m0 mX4_game 8 S0 (some (.int q.1)) q.2 59 [(0, .ref m0), (1, .int x1), (2, .int x2), (3, .int x3), (4, .int x4), (5, .int x5), (6, .int x6)] [] S
  | 0, _, _, _, _, _, _, _, _, hf => by cases hf
  | n + 1, x1, x2, x3, x4, x5, x6, S, q, hf => m_game_59_bok (m_game_59_ok n) x1 x2 x3 x4 x5 x6 S q hf
def m_game_41  (x1 : Int32) (x2 : Int32) (x3 : Int32) (y0 : Int32) (S : MS) : Option (Int32 × MS) :=
  (m_right y0 ((2 : Int32)) S).bind fun q42 =>
  if q42.1 = 0 then
    some ((0 : Int32), q42.2)
  else
    m_game_59 FU x1 x2 x3 ((0 : Int32)) ((-1 : Int32)) ((0 : Int32)) q42.2
theorem m_game_41_ok {G : xG} {m0 : Nat} {S0 : MS}   (x1 : Int32) (x2 : Int32) (x3 : Int32) (y0 : Int32) (S : MS) (q : (Int32 × MS)) (hf : m_game_41 x1 x2 x3 y0 S = some q) : XM G m0 mX4_game 8 S0 (some (.int q.1)) q.2 41 [(0, .ref m0), (1, .int x1), (2, .int x2), (3, .int x3)] [.int y0, .ref m0] S := by
  intro h N Z
  unfold m_game_41 at hf
  refine X.iconst (v := 2) dX4_game_41 (by decide) ?_
  obtain ⟨q42, h42, hf⟩ := ob hf
  refine X.callVi (As := [.int y0, .int (2 : Int32)]) (rest := []) (T2 := (mh m0 h q42.2, N, Z)) dX4_game_42 (w_right h42 h N Z) cX4_290 rfl rfl (Nat.le_of_ble_eq_true rfl) mh_0 rfl rfl (xD (Nat.le_of_ble_eq_true rfl)) xleN xleN ?_
  refine X.if_ne (tgt := 50) dX4_game_45 (by decide) (fun c45 => ?_) (fun c45 => ?_)
  · have hf := if_f c45 hf
    refine X.iconst (v := 0) dX4_game_50 (by decide) ?_
    refine X.istore (L' := [(4, .int (0 : Int32)), (0, .ref m0), (1, .int x1), (2, .int x2), (3, .int x3)]) dX4_game_51 (Nat.le_of_ble_eq_true rfl) rfl ?_
    refine X.iconst (v := -1) dX4_game_53 (by decide) ?_
    refine X.istore (L' := [(5, .int (-1 : Int32)), (4, .int (0 : Int32)), (0, .ref m0), (1, .int x1), (2, .int x2), (3, .int x3)]) dX4_game_54 (Nat.le_of_ble_eq_true rfl) rfl ?_
    refine X.iconst (v := 0) dX4_game_56 (by decide) ?_
    refine X.istore (L' := [(6, .int (0 : Int32)), (5, .int (-1 : Int32)), (4, .int (0 : Int32)), (0, .ref m0), (1, .int x1), (2, .int x2), (3, .int x3)]) dX4_game_57 (Nat.le_of_ble_eq_true rfl) rfl ?_
    refine X.sub [3, 4, 5, 6, 2, 1, 0] (L' := [(0, .ref m0), (1, .int x1), (2, .int x2), (3, .int x3), (4, .int (0 : Int32)), (5, .int (-1 : Int32)), (6, .int (0 : Int32))]) rfl ?_
    exact m_game_59_ok FU _ _ _ _ _ _ _ _ hf h N Z
  · have hf := if_t c45 hf
    refine X.iconst (v := 0) dX4_game_48 (by decide) ?_
    obtain rfl := Option.some.inj hf
    exact X.iret dX4_game_49 rfl rfl rfl
def m_game (x1 : Int32) (x2 : Int32) (x3 : Int32) (S : MS) : Option (Int32 × MS) :=
  (m_isParty x1 ((sF S 0 (0 : Int32)))).bind fun q7 =>
  if q7.1 = 0 then
    some ((0 : Int32), q7.2)
  else
    (m_isParty x2 q7.2).bind fun q15 =>
    if q15.1 = 0 then
      some ((0 : Int32), q15.2)
    else
      (m_isWhat x3 ((1 : Int32)) q15.2).bind fun q24 =>
      if q24.1 = 0 then
        some ((0 : Int32), q24.2)
      else
        if x1 = x2 then
          m_game_41 x1 x2 x3 ((0 : Int32)) q24.2
        else
          m_game_41 x1 x2 x3 ((1 : Int32)) q24.2
theorem w_game {G : xG} {m0 : Nat} {x1 : Int32} {x2 : Int32} {x3 : Int32} {S : MS} {q : (Int32 × MS)} (hf : m_game x1 x2 x3 S = some q) : CtM G m0 mX4_game 8 S [.ref m0, .int x1, .int x2, .int x3] (some (.int q.1)) q.2 := by
  intro h N Z
  refine Ct.of (by decide +kernel) rfl (Nat.le_of_ble_eq_true rfl) (show Xr G _ 0 [(0, .ref m0), (1, .int x1), (2, .int x2), (3, .int x3)] [] _ from ?_)
  unfold m_game at hf
  refine X.aload_n dX4_game_0 rfl 0 rfl ?_
  refine X.iconst (v := 0) dX4_game_1 (by decide) ?_
  refine M.putI dX4_game_2 fX4_115 (by decide) rfl rfl rfl ?_
  refine X.aload_n dX4_game_5 rfl 0 rfl ?_
  refine X.iload_n dX4_game_6 rfl 1 rfl ?_
  obtain ⟨q7, h7, hf⟩ := ob hf
  refine X.callVi (As := [.int x1]) (rest := []) (T2 := (mh m0 h q7.2, N, Z)) dX4_game_7 (w_isParty h7 h N Z) cX4_394 rfl rfl (Nat.le_of_ble_eq_true rfl) mh_0 rfl rfl (xD (Nat.le_of_ble_eq_true rfl)) xleN xleN ?_
  refine X.if_eq (tgt := 48) dX4_game_10 (by decide) (fun c10 => ?_) (fun c10 => ?_)
  · have hf := if_t c10 hf
    refine X.iconst (v := 0) dX4_game_48 (by decide) ?_
    obtain rfl := Option.some.inj hf
    exact X.iret dX4_game_49 rfl rfl rfl
  · have hf := if_f c10 hf
    refine X.aload_n dX4_game_13 rfl 0 rfl ?_
    refine X.iload_n dX4_game_14 rfl 2 rfl ?_
    obtain ⟨q15, h15, hf⟩ := ob hf
    refine X.callVi (As := [.int x2]) (rest := []) (T2 := (mh m0 h q15.2, N, Z)) dX4_game_15 (w_isParty h15 h N Z) cX4_394 rfl rfl (Nat.le_of_ble_eq_true rfl) mh_0 rfl rfl (xD (Nat.le_of_ble_eq_true rfl)) xleN xleN ?_
    refine X.if_eq (tgt := 48) dX4_game_18 (by decide) (fun c18 => ?_) (fun c18 => ?_)
    · have hf := if_t c18 hf
      refine X.iconst (v := 0) dX4_game_48 (by decide) ?_
      obtain rfl := Option.some.inj hf
      exact X.iret dX4_game_49 rfl rfl rfl
    · have hf := if_f c18 hf
      refine X.aload_n dX4_game_21 rfl 0 rfl ?_
      refine X.iload_n dX4_game_22 rfl 3 rfl ?_
      refine X.iconst (v := 1) dX4_game_23 (by decide) ?_
      obtain ⟨q24, h24, hf⟩ := ob hf
      refine X.callVi (As := [.int x3, .int (1 : Int32)]) (rest := []) (T2 := (mh m0 h q24.2, N, Z)) dX4_game_24 (w_isWhat h24 h N Z) cX4_388 rfl rfl (Nat.le_of_ble_eq_true rfl) mh_0 rfl rfl (xD (Nat.le_of_ble_eq_true rfl)) xleN xleN ?_
      refine X.if_eq (tgt := 48) dX4_game_27 (by decide) (fun c27 => ?_) (fun c27 => ?_)
      · have hf := if_t c27 hf
        refine X.iconst (v := 0) dX4_game_48 (by decide) ?_
        obtain rfl := Option.some.inj hf
        exact X.iret dX4_game_49 rfl rfl rfl
      · have hf := if_f c27 hf
        refine X.aload_n dX4_game_30 rfl 0 rfl ?_
        refine X.iload_n dX4_game_31 rfl 1 rfl ?_
        refine X.iload_n dX4_game_32 rfl 2 rfl ?_
        refine X.icmp_eq (tgt := 40) dX4_game_33 (by decide) (fun c33 => ?_) (fun c33 => ?_)
        · have hf := if_t c33 hf
          refine X.iconst (v := 0) dX4_game_40 (by decide) ?_
          refine X.sub [0, 1, 2, 3] (L' := [(0, .ref m0), (1, .int x1), (2, .int x2), (3, .int x3)]) rfl ?_
          exact m_game_41_ok _ _ _ _ _ _ hf h N Z
        · have hf := if_f c33 hf
          refine X.iconst (v := 1) dX4_game_36 (by decide) ?_
          refine X.goto (tgt := 41) dX4_game_37 (by decide) ?_
          refine X.sub [0, 1, 2, 3] (L' := [(0, .ref m0), (1, .int x1), (2, .int x2), (3, .int x3)]) rfl ?_
          exact m_game_41_ok _ _ _ _ _ _ hf h N Z
/-! draw -/
abbrev cX4_draw : ByteArray := prog_12_method_109_code
def yX4_draw : MethodName := ⟨RX4, "draw", "(I)I"⟩
def dkwX4_draw_1 : List UInt8 := [17, 127, 255, 126, 27, 112, 172]
abbrev dktX4_draw_1 : List UInt8 := dkwX4_draw_1 ++ []
def dkwX4_draw_0 : List UInt8 := [42, 42, 180, 1, 191, 19, 1, 194, 104, 17, 48, 57, 96, 181, 1, 191, 42, 180, 1, 191, 16, 16, 122]
abbrev dktX4_draw_0 : List UInt8 := dkwX4_draw_0 ++ dktX4_draw_1
theorem dksX4_draw_0 : cX4_draw.data.toList.drop 0 = dktX4_draw_0 := by decide +kernel
theorem dksX4_draw_1 : cX4_draw.data.toList.drop 23 = dktX4_draw_1 := dk_seg dksX4_draw_0 23 rfl rfl
theorem dX4_draw_0 : decode cX4_draw 0 = .ok (.aload_n 0, 1) := dk_42 (dk_at dksX4_draw_0 0 rfl rfl)
theorem dX4_draw_1 : decode cX4_draw 1 = .ok (.aload_n 0, 1) := dk_42 (dk_at dksX4_draw_0 1 rfl rfl)
theorem dX4_draw_2 : decode cX4_draw 2 = .ok (.getfield 447, 3) := dk_180 1 191 (dk_at dksX4_draw_0 2 rfl rfl)
theorem dX4_draw_5 : decode cX4_draw 5 = .ok (.ldc_w 450, 3) := dk_19 1 194 (dk_at dksX4_draw_0 5 rfl rfl)
theorem dX4_draw_8 : decode cX4_draw 8 = .ok (.imul, 1) := dk_104 (dk_at dksX4_draw_0 8 rfl rfl)
theorem dX4_draw_9 : decode cX4_draw 9 = .ok (.sipush 12345, 3) := dk_17 48 57 (dk_at dksX4_draw_0 9 rfl rfl)
theorem dX4_draw_12 : decode cX4_draw 12 = .ok (.iadd, 1) := dk_96 (dk_at dksX4_draw_0 12 rfl rfl)
theorem dX4_draw_13 : decode cX4_draw 13 = .ok (.putfield 447, 3) := dk_181 1 191 (dk_at dksX4_draw_0 13 rfl rfl)
theorem dX4_draw_16 : decode cX4_draw 16 = .ok (.aload_n 0, 1) := dk_42 (dk_at dksX4_draw_0 16 rfl rfl)
theorem dX4_draw_17 : decode cX4_draw 17 = .ok (.getfield 447, 3) := dk_180 1 191 (dk_at dksX4_draw_0 17 rfl rfl)
theorem dX4_draw_20 : decode cX4_draw 20 = .ok (.bipush 16, 2) := dk_16 16 (dk_at dksX4_draw_0 20 rfl rfl)
theorem dX4_draw_22 : decode cX4_draw 22 = .ok (.ishr, 1) := dk_122 (dk_at dksX4_draw_0 22 rfl rfl)
theorem dX4_draw_23 : decode cX4_draw 23 = .ok (.sipush 32767, 3) := dk_17 127 255 (dk_at dksX4_draw_1 0 rfl rfl)
theorem dX4_draw_26 : decode cX4_draw 26 = .ok (.iand, 1) := dk_126 (dk_at dksX4_draw_1 3 rfl rfl)
theorem dX4_draw_27 : decode cX4_draw 27 = .ok (.iload_n 1, 1) := dk_27 (dk_at dksX4_draw_1 4 rfl rfl)
theorem dX4_draw_28 : decode cX4_draw 28 = .ok (.irem, 1) := dk_112 (dk_at dksX4_draw_1 5 rfl rfl)
theorem dX4_draw_29 : decode cX4_draw 29 = .ok (.ireturn, 1) := dk_172 (dk_at dksX4_draw_1 6 rfl rfl)
abbrev mX4_draw : xM := (yX4_draw, cX4_draw, 2, (some .int), [])
def m_draw (x1 : Int32) (S : MS) : Option (Int32 × MS) :=
  if x1 = 0 then none else
  some (((((((sF S 57 (((S.1 57) * (1103515245 : Int32)) + (12345 : Int32)))).1 57) >>> ((16 : Int32) &&& 31)) &&& (32767 : Int32)) - (((((sF S 57 (((S.1 57) * (1103515245 : Int32)) + (12345 : Int32)))).1 57) >>> ((16 : Int32) &&& 31)) &&& (32767 : Int32)) / x1 * x1), (sF S 57 (((S.1 57) * (1103515245 : Int32)) + (12345 : Int32))))
theorem w_draw {G : xG} {m0 : Nat} {x1 : Int32} {S : MS} {q : (Int32 × MS)} (hf : m_draw x1 S = some q) : CtM G m0 mX4_draw 1 S [.ref m0, .int x1] (some (.int q.1)) q.2 := by
  intro h N Z
  refine Ct.of (by decide +kernel) rfl (Nat.le_of_ble_eq_true rfl) (show Xr G _ 0 [(0, .ref m0), (1, .int x1)] [] _ from ?_)
  unfold m_draw at hf
  refine X.aload_n dX4_draw_0 rfl 0 rfl ?_
  refine X.aload_n dX4_draw_1 rfl 0 rfl ?_
  refine M.get (v := .int (S.1 57)) dX4_draw_2 fX4_447 (Nat.le_of_ble_eq_true rfl) rfl ?_
  refine X.ldcwI (v := 1103515245) dX4_draw_5 q2184 ?_
  refine X.imul dX4_draw_8 ?_
  refine X.sipush (v := 12345) dX4_draw_9 (by decide) ?_
  refine X.iadd dX4_draw_12 ?_
  refine M.putI dX4_draw_13 fX4_447 (by decide) rfl rfl rfl ?_
  refine X.aload_n dX4_draw_16 rfl 0 rfl ?_
  refine M.get (v := .int (((sF S 57 (((S.1 57) * (1103515245 : Int32)) + (12345 : Int32)))).1 57)) dX4_draw_17 fX4_447 (Nat.le_of_ble_eq_true rfl) rfl ?_
  refine X.bipush (v := 16) dX4_draw_20 (by decide) ?_
  refine X.ishr dX4_draw_22 ?_
  refine X.sipush (v := 32767) dX4_draw_23 (by decide) ?_
  refine X.iand dX4_draw_26 ?_
  refine X.iload_n dX4_draw_27 rfl 1 rfl ?_
  obtain ⟨c28, hf⟩ := if_n hf
  refine X.irem dX4_draw_28 c28 ?_
  obtain rfl := Option.some.inj hf
  exact X.iret dX4_draw_29 rfl rfl rfl
theorem cX4_451 : xCV RX4 451 mX4_draw 1 := ⟨lw_V q2180 q2182 qs118 q127 q2183, rfl, ⟨by decide +kernel, by decide +kernel, by decide +kernel⟩, Nat.le_of_ble_eq_true rfl⟩
/-! happens -/
abbrev cX4_happens : ByteArray := prog_12_method_110_code
def yX4_happens : MethodName := ⟨RX4, "happens", "()V"⟩
def dkwX4_happens_5 : List UInt8 := [27, 182, 1, 90, 177]
abbrev dktX4_happens_5 : List UInt8 := dkwX4_happens_5 ++ []
def dkwX4_happens_4 : List UInt8 := [29, 79, 42, 180, 0, 69, 17, 0, 212, 27, 96, 4, 79, 167, 0, 15, 28, 5, 160, 0, 10, 42, 16, 121]
abbrev dktX4_happens_4 : List UInt8 := dkwX4_happens_4 ++ dktX4_happens_5
def dkwX4_happens_3 : List UInt8 := [42, 180, 0, 69, 17, 0, 182, 27, 96, 46, 2, 159, 0, 4, 177, 42, 180, 0, 69, 17, 0, 182, 27, 96]
abbrev dktX4_happens_3 : List UInt8 := dkwX4_happens_3 ++ dktX4_happens_4
def dkwX4_happens_2 : List UInt8 := [167, 0, 76, 28, 4, 160, 0, 59, 42, 180, 1, 41, 158, 0, 52, 42, 42, 180, 1, 41, 182, 1, 195, 62]
abbrev dktX4_happens_2 : List UInt8 := dkwX4_happens_2 ++ dktX4_happens_3
def dkwX4_happens_1 : List UInt8 := [17, 0, 152, 27, 96, 16, 99, 42, 180, 0, 69, 17, 0, 152, 27, 96, 46, 16, 9, 96, 184, 1, 84, 79]
abbrev dktX4_happens_1 : List UInt8 := dkwX4_happens_1 ++ dktX4_happens_2
def dkwX4_happens_0 : List UInt8 := [42, 42, 182, 1, 65, 182, 1, 195, 60, 42, 7, 182, 1, 195, 61, 28, 154, 0, 34, 42, 180, 0, 69]
abbrev dktX4_happens_0 : List UInt8 := dkwX4_happens_0 ++ dktX4_happens_1
theorem dksX4_happens_0 : cX4_happens.data.toList.drop 0 = dktX4_happens_0 := by decide +kernel
theorem dksX4_happens_1 : cX4_happens.data.toList.drop 23 = dktX4_happens_1 := dk_seg dksX4_happens_0 23 rfl rfl
theorem dksX4_happens_2 : cX4_happens.data.toList.drop 47 = dktX4_happens_2 := dk_seg dksX4_happens_1 24 rfl rfl
theorem dksX4_happens_3 : cX4_happens.data.toList.drop 71 = dktX4_happens_3 := dk_seg dksX4_happens_2 24 rfl rfl
theorem dksX4_happens_4 : cX4_happens.data.toList.drop 95 = dktX4_happens_4 := dk_seg dksX4_happens_3 24 rfl rfl
theorem dksX4_happens_5 : cX4_happens.data.toList.drop 119 = dktX4_happens_5 := dk_seg dksX4_happens_4 24 rfl rfl
theorem dX4_happens_0 : decode cX4_happens 0 = .ok (.aload_n 0, 1) := dk_42 (dk_at dksX4_happens_0 0 rfl rfl)
theorem dX4_happens_1 : decode cX4_happens 1 = .ok (.aload_n 0, 1) := dk_42 (dk_at dksX4_happens_0 1 rfl rfl)
theorem dX4_happens_2 : decode cX4_happens 2 = .ok (.invokevirtual 321, 3) := dk_182 1 65 (dk_at dksX4_happens_0 2 rfl rfl)
theorem dX4_happens_5 : decode cX4_happens 5 = .ok (.invokevirtual 451, 3) := dk_182 1 195 (dk_at dksX4_happens_0 5 rfl rfl)
theorem dX4_happens_8 : decode cX4_happens 8 = .ok (.istore_n 1, 1) := dk_60 (dk_at dksX4_happens_0 8 rfl rfl)
theorem dX4_happens_9 : decode cX4_happens 9 = .ok (.aload_n 0, 1) := dk_42 (dk_at dksX4_happens_0 9 rfl rfl)
theorem dX4_happens_10 : decode cX4_happens 10 = .ok (.iconst 4, 1) := dk_7 (dk_at dksX4_happens_0 10 rfl rfl)
theorem dX4_happens_11 : decode cX4_happens 11 = .ok (.invokevirtual 451, 3) := dk_182 1 195 (dk_at dksX4_happens_0 11 rfl rfl)
theorem dX4_happens_14 : decode cX4_happens 14 = .ok (.istore_n 2, 1) := dk_61 (dk_at dksX4_happens_0 14 rfl rfl)
theorem dX4_happens_15 : decode cX4_happens 15 = .ok (.iload_n 2, 1) := dk_28 (dk_at dksX4_happens_0 15 rfl rfl)
theorem dX4_happens_16 : decode cX4_happens 16 = .ok (.ifCond .ne 34, 3) := dk_154 0 34 (dk_at dksX4_happens_0 16 rfl rfl)
theorem dX4_happens_19 : decode cX4_happens 19 = .ok (.aload_n 0, 1) := dk_42 (dk_at dksX4_happens_0 19 rfl rfl)
theorem dX4_happens_20 : decode cX4_happens 20 = .ok (.getfield 69, 3) := dk_180 0 69 (dk_at dksX4_happens_0 20 rfl rfl)
theorem dX4_happens_23 : decode cX4_happens 23 = .ok (.sipush 152, 3) := dk_17 0 152 (dk_at dksX4_happens_1 0 rfl rfl)
theorem dX4_happens_26 : decode cX4_happens 26 = .ok (.iload_n 1, 1) := dk_27 (dk_at dksX4_happens_1 3 rfl rfl)
theorem dX4_happens_27 : decode cX4_happens 27 = .ok (.iadd, 1) := dk_96 (dk_at dksX4_happens_1 4 rfl rfl)
theorem dX4_happens_28 : decode cX4_happens 28 = .ok (.bipush 99, 2) := dk_16 99 (dk_at dksX4_happens_1 5 rfl rfl)
theorem dX4_happens_30 : decode cX4_happens 30 = .ok (.aload_n 0, 1) := dk_42 (dk_at dksX4_happens_1 7 rfl rfl)
theorem dX4_happens_31 : decode cX4_happens 31 = .ok (.getfield 69, 3) := dk_180 0 69 (dk_at dksX4_happens_1 8 rfl rfl)
theorem dX4_happens_34 : decode cX4_happens 34 = .ok (.sipush 152, 3) := dk_17 0 152 (dk_at dksX4_happens_1 11 rfl rfl)
theorem dX4_happens_37 : decode cX4_happens 37 = .ok (.iload_n 1, 1) := dk_27 (dk_at dksX4_happens_1 14 rfl rfl)
theorem dX4_happens_38 : decode cX4_happens 38 = .ok (.iadd, 1) := dk_96 (dk_at dksX4_happens_1 15 rfl rfl)
theorem dX4_happens_39 : decode cX4_happens 39 = .ok (.iaload, 1) := dk_46 (dk_at dksX4_happens_1 16 rfl rfl)
theorem dX4_happens_40 : decode cX4_happens 40 = .ok (.bipush 9, 2) := dk_16 9 (dk_at dksX4_happens_1 17 rfl rfl)
theorem dX4_happens_42 : decode cX4_happens 42 = .ok (.iadd, 1) := dk_96 (dk_at dksX4_happens_1 19 rfl rfl)
theorem dX4_happens_43 : decode cX4_happens 43 = .ok (.invokestatic 340, 3) := dk_184 1 84 (dk_at dksX4_happens_1 20 rfl rfl)
theorem dX4_happens_46 : decode cX4_happens 46 = .ok (.iastore, 1) := dk_79 (dk_at dksX4_happens_1 23 rfl rfl)
theorem dX4_happens_47 : decode cX4_happens 47 = .ok (.goto 76, 3) := dk_167 0 76 (dk_at dksX4_happens_2 0 rfl rfl)
theorem dX4_happens_50 : decode cX4_happens 50 = .ok (.iload_n 2, 1) := dk_28 (dk_at dksX4_happens_2 3 rfl rfl)
theorem dX4_happens_51 : decode cX4_happens 51 = .ok (.iconst 1, 1) := dk_4 (dk_at dksX4_happens_2 4 rfl rfl)
theorem dX4_happens_52 : decode cX4_happens 52 = .ok (.if_icmp .ne 59, 3) := dk_160 0 59 (dk_at dksX4_happens_2 5 rfl rfl)
theorem dX4_happens_55 : decode cX4_happens 55 = .ok (.aload_n 0, 1) := dk_42 (dk_at dksX4_happens_2 8 rfl rfl)
theorem dX4_happens_56 : decode cX4_happens 56 = .ok (.getfield 297, 3) := dk_180 1 41 (dk_at dksX4_happens_2 9 rfl rfl)
theorem dX4_happens_59 : decode cX4_happens 59 = .ok (.ifCond .le 52, 3) := dk_158 0 52 (dk_at dksX4_happens_2 12 rfl rfl)
theorem dX4_happens_62 : decode cX4_happens 62 = .ok (.aload_n 0, 1) := dk_42 (dk_at dksX4_happens_2 15 rfl rfl)
theorem dX4_happens_63 : decode cX4_happens 63 = .ok (.aload_n 0, 1) := dk_42 (dk_at dksX4_happens_2 16 rfl rfl)
theorem dX4_happens_64 : decode cX4_happens 64 = .ok (.getfield 297, 3) := dk_180 1 41 (dk_at dksX4_happens_2 17 rfl rfl)
theorem dX4_happens_67 : decode cX4_happens 67 = .ok (.invokevirtual 451, 3) := dk_182 1 195 (dk_at dksX4_happens_2 20 rfl rfl)
theorem dX4_happens_70 : decode cX4_happens 70 = .ok (.istore_n 3, 1) := dk_62 (dk_at dksX4_happens_2 23 rfl rfl)
theorem dX4_happens_71 : decode cX4_happens 71 = .ok (.aload_n 0, 1) := dk_42 (dk_at dksX4_happens_3 0 rfl rfl)
theorem dX4_happens_72 : decode cX4_happens 72 = .ok (.getfield 69, 3) := dk_180 0 69 (dk_at dksX4_happens_3 1 rfl rfl)
theorem dX4_happens_75 : decode cX4_happens 75 = .ok (.sipush 182, 3) := dk_17 0 182 (dk_at dksX4_happens_3 4 rfl rfl)
theorem dX4_happens_78 : decode cX4_happens 78 = .ok (.iload_n 1, 1) := dk_27 (dk_at dksX4_happens_3 7 rfl rfl)
theorem dX4_happens_79 : decode cX4_happens 79 = .ok (.iadd, 1) := dk_96 (dk_at dksX4_happens_3 8 rfl rfl)
theorem dX4_happens_80 : decode cX4_happens 80 = .ok (.iaload, 1) := dk_46 (dk_at dksX4_happens_3 9 rfl rfl)
theorem dX4_happens_81 : decode cX4_happens 81 = .ok (.iconst (-1), 1) := dk_2 (dk_at dksX4_happens_3 10 rfl rfl)
theorem dX4_happens_82 : decode cX4_happens 82 = .ok (.if_icmp .eq 4, 3) := dk_159 0 4 (dk_at dksX4_happens_3 11 rfl rfl)
theorem dX4_happens_85 : decode cX4_happens 85 = .ok (.return_, 1) := dk_177 (dk_at dksX4_happens_3 14 rfl rfl)
theorem dX4_happens_86 : decode cX4_happens 86 = .ok (.aload_n 0, 1) := dk_42 (dk_at dksX4_happens_3 15 rfl rfl)
theorem dX4_happens_87 : decode cX4_happens 87 = .ok (.getfield 69, 3) := dk_180 0 69 (dk_at dksX4_happens_3 16 rfl rfl)
theorem dX4_happens_90 : decode cX4_happens 90 = .ok (.sipush 182, 3) := dk_17 0 182 (dk_at dksX4_happens_3 19 rfl rfl)
theorem dX4_happens_93 : decode cX4_happens 93 = .ok (.iload_n 1, 1) := dk_27 (dk_at dksX4_happens_3 22 rfl rfl)
theorem dX4_happens_94 : decode cX4_happens 94 = .ok (.iadd, 1) := dk_96 (dk_at dksX4_happens_3 23 rfl rfl)
theorem dX4_happens_95 : decode cX4_happens 95 = .ok (.iload_n 3, 1) := dk_29 (dk_at dksX4_happens_4 0 rfl rfl)
theorem dX4_happens_96 : decode cX4_happens 96 = .ok (.iastore, 1) := dk_79 (dk_at dksX4_happens_4 1 rfl rfl)
theorem dX4_happens_97 : decode cX4_happens 97 = .ok (.aload_n 0, 1) := dk_42 (dk_at dksX4_happens_4 2 rfl rfl)
theorem dX4_happens_98 : decode cX4_happens 98 = .ok (.getfield 69, 3) := dk_180 0 69 (dk_at dksX4_happens_4 3 rfl rfl)
theorem dX4_happens_101 : decode cX4_happens 101 = .ok (.sipush 212, 3) := dk_17 0 212 (dk_at dksX4_happens_4 6 rfl rfl)
theorem dX4_happens_104 : decode cX4_happens 104 = .ok (.iload_n 1, 1) := dk_27 (dk_at dksX4_happens_4 9 rfl rfl)
theorem dX4_happens_105 : decode cX4_happens 105 = .ok (.iadd, 1) := dk_96 (dk_at dksX4_happens_4 10 rfl rfl)
theorem dX4_happens_106 : decode cX4_happens 106 = .ok (.iconst 1, 1) := dk_4 (dk_at dksX4_happens_4 11 rfl rfl)
theorem dX4_happens_107 : decode cX4_happens 107 = .ok (.iastore, 1) := dk_79 (dk_at dksX4_happens_4 12 rfl rfl)
theorem dX4_happens_108 : decode cX4_happens 108 = .ok (.goto 15, 3) := dk_167 0 15 (dk_at dksX4_happens_4 13 rfl rfl)
theorem dX4_happens_111 : decode cX4_happens 111 = .ok (.iload_n 2, 1) := dk_28 (dk_at dksX4_happens_4 16 rfl rfl)
theorem dX4_happens_112 : decode cX4_happens 112 = .ok (.iconst 2, 1) := dk_5 (dk_at dksX4_happens_4 17 rfl rfl)
theorem dX4_happens_113 : decode cX4_happens 113 = .ok (.if_icmp .ne 10, 3) := dk_160 0 10 (dk_at dksX4_happens_4 18 rfl rfl)
theorem dX4_happens_116 : decode cX4_happens 116 = .ok (.aload_n 0, 1) := dk_42 (dk_at dksX4_happens_4 21 rfl rfl)
theorem dX4_happens_117 : decode cX4_happens 117 = .ok (.bipush 121, 2) := dk_16 121 (dk_at dksX4_happens_4 22 rfl rfl)
theorem dX4_happens_119 : decode cX4_happens 119 = .ok (.iload_n 1, 1) := dk_27 (dk_at dksX4_happens_5 0 rfl rfl)
theorem dX4_happens_120 : decode cX4_happens 120 = .ok (.invokevirtual 346, 3) := dk_182 1 90 (dk_at dksX4_happens_5 1 rfl rfl)
theorem dX4_happens_123 : decode cX4_happens 123 = .ok (.return_, 1) := dk_177 (dk_at dksX4_happens_5 4 rfl rfl)
abbrev mX4_happens : xM := (yX4_happens, cX4_happens, 4, none, [])
def m_happens_111  (x1 : Int32) (x2 : Int32) (S : MS) : Option MS :=
  if x2 = (2 : Int32) then
    (m_clears ((121 : Int32)) x1 S).bind fun q120 =>
    some q120
  else
    some S
theorem m_happens_111_ok {G : xG} {m0 : Nat} {S0 : MS}   (x1 : Int32) (x2 : Int32) (S : MS) (q : MS) (hf : m_happens_111 x1 x2 S = some q) : XM G m0 mX4_happens 2 S0 none q 111 [(0, .ref m0), (1, .int x1), (2, .int x2)] [] S := by
  intro h N Z
  unfold m_happens_111 at hf
  refine X.iload_n dX4_happens_111 rfl 2 rfl ?_
  refine X.iconst (v := 2) dX4_happens_112 (by decide) ?_
  refine X.icmp_ne (tgt := 123) dX4_happens_113 (by decide) (fun c113 => ?_) (fun c113 => ?_)
  · have hf := if_f c113 hf
    obtain rfl := Option.some.inj hf
    exact X.vret dX4_happens_123 rfl rfl
  · have hf := if_t c113 hf
    refine X.aload_n dX4_happens_116 rfl 0 rfl ?_
    refine X.bipush (v := 121) dX4_happens_117 (by decide) ?_
    refine X.iload_n dX4_happens_119 rfl 1 rfl ?_
    obtain ⟨q120, h120, hf⟩ := ob hf
    refine X.callVv (As := [.int (121 : Int32), .int x1]) (rest := []) (T2 := (mh m0 h q120, N, Z)) dX4_happens_120 (w_clears h120 h N Z) cX4_346 rfl rfl (Nat.le_of_ble_eq_true rfl) mh_0 rfl rfl (xD (Nat.le_of_ble_eq_true rfl)) xleN xleN ?_
    obtain rfl := Option.some.inj hf
    exact X.vret dX4_happens_123 rfl rfl
def m_happens  (S : MS) : Option MS :=
  (m_cells S).bind fun q2 =>
  (m_draw q2 S).bind fun q5 =>
  (m_draw ((4 : Int32)) q5.2).bind fun q11 =>
  if q11.1 = 0 then
    (rdA q11.2 13 ((152 : Int32) + q5.1)).bind fun v39 =>
    (m_lesser ((99 : Int32)) ((v39 + (9 : Int32)))).bind fun q43 =>
    (wrA q11.2 13 ((152 : Int32) + q5.1) q43).bind fun S46 =>
    some S46
  else
    if q11.1 = (1 : Int32) then
      if (q11.2.1 3) ≤ 0 then
        m_happens_111 q5.1 q11.1 q11.2
      else
        (m_draw ((q11.2.1 3)) q11.2).bind fun q67 =>
        (rdA q67.2 13 ((182 : Int32) + q5.1)).bind fun v80 =>
        if v80 = (-1 : Int32) then
          (wrA q67.2 13 ((182 : Int32) + q5.1) q67.1).bind fun S96 =>
          (wrA S96 13 ((212 : Int32) + q5.1) (1 : Int32)).bind fun S107 =>
          some S107
        else
          some q67.2
    else
      m_happens_111 q5.1 q11.1 q11.2
theorem w_happens {G : xG} {m0 : Nat}  {S : MS} {q : MS} (hf : m_happens S = some q) : CtM G m0 mX4_happens 2 S [.ref m0] none q := by
  intro h N Z
  refine Ct.of (by decide +kernel) rfl (Nat.le_of_ble_eq_true rfl) (show Xr G _ 0 [(0, .ref m0)] [] _ from ?_)
  unfold m_happens at hf
  refine X.aload_n dX4_happens_0 rfl 0 rfl ?_
  refine X.aload_n dX4_happens_1 rfl 0 rfl ?_
  obtain ⟨q2, h2, hf⟩ := ob hf
  refine X.callVi (As := []) (rest := [.ref m0]) dX4_happens_2 (w_cells h2 h N Z) cX4_321 rfl rfl (Nat.le_of_ble_eq_true rfl) mh_0 rfl rfl (xD (Nat.le_of_ble_eq_true rfl)) xleN xleN ?_
  obtain ⟨q5, h5, hf⟩ := ob hf
  refine X.callVi (As := [.int q2]) (rest := []) (T2 := (mh m0 h q5.2, N, Z)) dX4_happens_5 (w_draw h5 h N Z) cX4_451 rfl rfl (Nat.le_of_ble_eq_true rfl) mh_0 rfl rfl (xD (Nat.le_of_ble_eq_true rfl)) xleN xleN ?_
  refine X.istore_n (L' := [(1, .int q5.1), (0, .ref m0)]) dX4_happens_8 rfl (Nat.le_of_ble_eq_true rfl) rfl ?_
  refine X.aload_n dX4_happens_9 rfl 1 rfl ?_
  refine X.iconst (v := 4) dX4_happens_10 (by decide) ?_
  obtain ⟨q11, h11, hf⟩ := ob hf
  refine X.callVi (As := [.int (4 : Int32)]) (rest := []) (T2 := (mh m0 h q11.2, N, Z)) dX4_happens_11 (w_draw h11 h N Z) cX4_451 rfl rfl (Nat.le_of_ble_eq_true rfl) mh_0 rfl rfl (xD (Nat.le_of_ble_eq_true rfl)) xleN xleN ?_
  refine X.istore_n (L' := [(2, .int q11.1), (1, .int q5.1), (0, .ref m0)]) dX4_happens_14 rfl (Nat.le_of_ble_eq_true rfl) rfl ?_
  refine X.iload_n dX4_happens_15 rfl 0 rfl ?_
  refine X.if_ne (tgt := 50) dX4_happens_16 (by decide) (fun c16 => ?_) (fun c16 => ?_)
  · have hf := if_f c16 hf
    refine X.iload_n dX4_happens_50 rfl 0 rfl ?_
    refine X.iconst (v := 1) dX4_happens_51 (by decide) ?_
    refine X.icmp_ne (tgt := 111) dX4_happens_52 (by decide) (fun c52 => ?_) (fun c52 => ?_)
    · have hf := if_f c52 hf
      refine X.sub [2, 1, 0] (L' := [(0, .ref m0), (1, .int q5.1), (2, .int q11.1)]) rfl ?_
      exact m_happens_111_ok _ _ _ _ hf h N Z
    · have hf := if_t c52 hf
      refine X.aload_n dX4_happens_55 rfl 2 rfl ?_
      refine M.get (v := .int (q11.2.1 3)) dX4_happens_56 fX4_297 (Nat.le_of_ble_eq_true rfl) rfl ?_
      refine X.if_le (tgt := 111) dX4_happens_59 (by decide) (fun c59 => ?_) (fun c59 => ?_)
      · have hf := if_t c59 hf
        refine X.sub [2, 1, 0] (L' := [(0, .ref m0), (1, .int q5.1), (2, .int q11.1)]) rfl ?_
        exact m_happens_111_ok _ _ _ _ hf h N Z
      · have hf := if_f c59 hf
        refine X.aload_n dX4_happens_62 rfl 2 rfl ?_
        refine X.aload_n dX4_happens_63 rfl 2 rfl ?_
        refine M.get (v := .int (q11.2.1 3)) dX4_happens_64 fX4_297 (Nat.le_of_ble_eq_true rfl) rfl ?_
        obtain ⟨q67, h67, hf⟩ := ob hf
        refine X.callVi (As := [.int (q11.2.1 3)]) (rest := []) (T2 := (mh m0 h q67.2, N, Z)) dX4_happens_67 (w_draw h67 h N Z) cX4_451 rfl rfl (Nat.le_of_ble_eq_true rfl) mh_0 rfl rfl (xD (Nat.le_of_ble_eq_true rfl)) xleN xleN ?_
        refine X.istore_n (L' := [(3, .int q67.1), (2, .int q11.1), (1, .int q5.1), (0, .ref m0)]) dX4_happens_70 rfl (Nat.le_of_ble_eq_true rfl) rfl ?_
        refine X.aload_n dX4_happens_71 rfl 3 rfl ?_
        refine M.get (v := .ref (m0 + 13)) dX4_happens_72 fX4_69 (Nat.le_of_ble_eq_true rfl) rfl ?_
        refine X.sipush (v := 182) dX4_happens_75 (by decide) ?_
        refine X.iload_n dX4_happens_78 rfl 2 rfl ?_
        refine X.iadd dX4_happens_79 ?_
        obtain ⟨v80, h80, hf⟩ := ob hf
        refine M.iald dX4_happens_80 rfl h80 ?_
        refine X.iconst (v := -1) dX4_happens_81 (by decide) ?_
        refine X.icmp_eq (tgt := 86) dX4_happens_82 (by decide) (fun c82 => ?_) (fun c82 => ?_)
        · have hf := if_t c82 hf
          refine X.aload_n dX4_happens_86 rfl 3 rfl ?_
          refine M.get (v := .ref (m0 + 13)) dX4_happens_87 fX4_69 (Nat.le_of_ble_eq_true rfl) rfl ?_
          refine X.sipush (v := 182) dX4_happens_90 (by decide) ?_
          refine X.iload_n dX4_happens_93 rfl 2 rfl ?_
          refine X.iadd dX4_happens_94 ?_
          refine X.iload_n dX4_happens_95 rfl 0 rfl ?_
          obtain ⟨S96, h96, hf⟩ := ob hf
          refine M.iast dX4_happens_96 rfl h96 ?_
          refine X.aload_n dX4_happens_97 rfl 3 rfl ?_
          refine M.get (v := .ref (m0 + 13)) dX4_happens_98 fX4_69 (Nat.le_of_ble_eq_true rfl) rfl ?_
          refine X.sipush (v := 212) dX4_happens_101 (by decide) ?_
          refine X.iload_n dX4_happens_104 rfl 2 rfl ?_
          refine X.iadd dX4_happens_105 ?_
          refine X.iconst (v := 1) dX4_happens_106 (by decide) ?_
          obtain ⟨S107, h107, hf⟩ := ob hf
          refine M.iast dX4_happens_107 rfl h107 ?_
          refine X.goto (tgt := 123) dX4_happens_108 (by decide) ?_
          obtain rfl := Option.some.inj hf
          exact X.vret dX4_happens_123 rfl rfl
        · have hf := if_f c82 hf
          obtain rfl := Option.some.inj hf
          exact X.vret dX4_happens_85 rfl rfl
  · have hf := if_t c16 hf
    refine X.aload_n dX4_happens_19 rfl 2 rfl ?_
    refine M.get (v := .ref (m0 + 13)) dX4_happens_20 fX4_69 (Nat.le_of_ble_eq_true rfl) rfl ?_
    refine X.sipush (v := 152) dX4_happens_23 (by decide) ?_
    refine X.iload_n dX4_happens_26 rfl 1 rfl ?_
    refine X.iadd dX4_happens_27 ?_
    refine X.bipush (v := 99) dX4_happens_28 (by decide) ?_
    refine X.aload_n dX4_happens_30 rfl 2 rfl ?_
    refine M.get (v := .ref (m0 + 13)) dX4_happens_31 fX4_69 (Nat.le_of_ble_eq_true rfl) rfl ?_
    refine X.sipush (v := 152) dX4_happens_34 (by decide) ?_
    refine X.iload_n dX4_happens_37 rfl 1 rfl ?_
    refine X.iadd dX4_happens_38 ?_
    obtain ⟨v39, h39, hf⟩ := ob hf
    refine M.iald dX4_happens_39 rfl h39 ?_
    refine X.bipush (v := 9) dX4_happens_40 (by decide) ?_
    refine X.iadd dX4_happens_42 ?_
    obtain ⟨q43, h43, hf⟩ := ob hf
    refine X.callSi (As := [.int (99 : Int32), .int (v39 + (9 : Int32))]) (rest := [.int ((152 : Int32) + q5.1), .ref (m0 + 13)]) dX4_happens_43 (w_lesser h43 _) cX4_340 rfl rfl (Nat.le_of_ble_eq_true rfl) (xD (Nat.le_of_ble_eq_true rfl)) xle.rf xleN ?_
    obtain ⟨S46, h46, hf⟩ := ob hf
    refine M.iast dX4_happens_46 rfl h46 ?_
    refine X.goto (tgt := 123) dX4_happens_47 (by decide) ?_
    obtain rfl := Option.some.inj hf
    exact X.vret dX4_happens_123 rfl rfl
theorem cX4_454 : xCV RX4 454 mX4_happens 0 := ⟨lw_V q2176 q2178 qs117 q127 q2179, rfl, ⟨by decide +kernel, by decide +kernel, by decide +kernel⟩, Nat.le_of_ble_eq_true rfl⟩
