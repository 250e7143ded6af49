set_option maxRecDepth 100000
/-! reckons -/
abbrev cX4_reckons : ByteArray := prog_12_method_50_code
def yX4_reckons : MethodName := ⟨RX4, "reckons", "(I)I"⟩
def dkwX4_reckons_6 : List UInt8 := [42, 180, 0, 78, 3, 46, 172]
abbrev dktX4_reckons_6 : List UInt8 := dkwX4_reckons_6 ++ []
def dkwX4_reckons_5 : List UInt8 := [100, 21, 4, 42, 180, 0, 78, 28, 4, 100, 46, 42, 180, 0, 78, 28, 46, 184, 1, 61, 79, 167, 255, 120]
abbrev dktX4_reckons_5 : List UInt8 := dkwX4_reckons_5 ++ dktX4_reckons_6
def dkwX4_reckons_4 : List UInt8 := [4, 100, 46, 154, 0, 7, 4, 167, 0, 4, 3, 79, 167, 0, 33, 132, 2, 255, 42, 180, 0, 78, 28, 4]
abbrev dktX4_reckons_4 : List UInt8 := dkwX4_reckons_4 ++ dktX4_reckons_5
def dkwX4_reckons_3 : List UInt8 := [132, 2, 1, 167, 0, 66, 21, 4, 6, 160, 0, 30, 42, 180, 0, 78, 28, 4, 100, 42, 180, 0, 78, 28]
abbrev dktX4_reckons_3 : List UInt8 := dkwX4_reckons_3 ++ dktX4_reckons_4
def dkwX4_reckons_2 : List UInt8 := [180, 0, 35, 29, 46, 167, 0, 14, 42, 180, 0, 75, 42, 180, 0, 35, 29, 46, 46, 79, 132, 3, 1]
abbrev dktX4_reckons_2 : List UInt8 := dkwX4_reckons_2 ++ dktX4_reckons_3
def dkwX4_reckons_1 : List UInt8 := [21, 4, 4, 159, 0, 9, 21, 4, 5, 160, 0, 44, 42, 180, 0, 78, 28, 21, 4, 4, 160, 0, 12, 42]
abbrev dktX4_reckons_1 : List UInt8 := dkwX4_reckons_1 ++ dktX4_reckons_2
def dkwX4_reckons_0 : List UInt8 := [3, 61, 27, 62, 42, 180, 0, 35, 29, 46, 153, 0, 133, 42, 180, 0, 35, 29, 46, 54, 4, 132, 3, 1]
abbrev dktX4_reckons_0 : List UInt8 := dkwX4_reckons_0 ++ dktX4_reckons_1
theorem dksX4_reckons_0 : cX4_reckons.data.toList.drop 0 = dktX4_reckons_0 := by decide +kernel
theorem dksX4_reckons_1 : cX4_reckons.data.toList.drop 24 = dktX4_reckons_1 := dk_seg dksX4_reckons_0 24 rfl rfl
theorem dksX4_reckons_2 : cX4_reckons.data.toList.drop 48 = dktX4_reckons_2 := dk_seg dksX4_reckons_1 24 rfl rfl
theorem dksX4_reckons_3 : cX4_reckons.data.toList.drop 71 = dktX4_reckons_3 := dk_seg dksX4_reckons_2 23 rfl rfl
theorem dksX4_reckons_4 : cX4_reckons.data.toList.drop 95 = dktX4_reckons_4 := dk_seg dksX4_reckons_3 24 rfl rfl
theorem dksX4_reckons_5 : cX4_reckons.data.toList.drop 119 = dktX4_reckons_5 := dk_seg dksX4_reckons_4 24 rfl rfl
theorem dksX4_reckons_6 : cX4_reckons.data.toList.drop 143 = dktX4_reckons_6 := dk_seg dksX4_reckons_5 24 rfl rfl
theorem dX4_reckons_0 : decode cX4_reckons 0 = .ok (.iconst 0, 1) := dk_3 (dk_at dksX4_reckons_0 0 rfl rfl)
theorem dX4_reckons_1 : decode cX4_reckons 1 = .ok (.istore_n 2, 1) := dk_61 (dk_at dksX4_reckons_0 1 rfl rfl)
theorem dX4_reckons_2 : decode cX4_reckons 2 = .ok (.iload_n 1, 1) := dk_27 (dk_at dksX4_reckons_0 2 rfl rfl)
theorem dX4_reckons_3 : decode cX4_reckons 3 = .ok (.istore_n 3, 1) := dk_62 (dk_at dksX4_reckons_0 3 rfl rfl)
theorem dX4_reckons_4 : decode cX4_reckons 4 = .ok (.aload_n 0, 1) := dk_42 (dk_at dksX4_reckons_0 4 rfl rfl)
theorem dX4_reckons_5 : decode cX4_reckons 5 = .ok (.getfield 35, 3) := dk_180 0 35 (dk_at dksX4_reckons_0 5 rfl rfl)
theorem dX4_reckons_8 : decode cX4_reckons 8 = .ok (.iload_n 3, 1) := dk_29 (dk_at dksX4_reckons_0 8 rfl rfl)
theorem dX4_reckons_9 : decode cX4_reckons 9 = .ok (.iaload, 1) := dk_46 (dk_at dksX4_reckons_0 9 rfl rfl)
theorem dX4_reckons_10 : decode cX4_reckons 10 = .ok (.ifCond .eq 133, 3) := dk_153 0 133 (dk_at dksX4_reckons_0 10 rfl rfl)
theorem dX4_reckons_13 : decode cX4_reckons 13 = .ok (.aload_n 0, 1) := dk_42 (dk_at dksX4_reckons_0 13 rfl rfl)
theorem dX4_reckons_14 : decode cX4_reckons 14 = .ok (.getfield 35, 3) := dk_180 0 35 (dk_at dksX4_reckons_0 14 rfl rfl)
theorem dX4_reckons_17 : decode cX4_reckons 17 = .ok (.iload_n 3, 1) := dk_29 (dk_at dksX4_reckons_0 17 rfl rfl)
theorem dX4_reckons_18 : decode cX4_reckons 18 = .ok (.iaload, 1) := dk_46 (dk_at dksX4_reckons_0 18 rfl rfl)
theorem dX4_reckons_19 : decode cX4_reckons 19 = .ok (.istore 4, 2) := dk_54 4 (dk_at dksX4_reckons_0 19 rfl rfl)
theorem dX4_reckons_21 : decode cX4_reckons 21 = .ok (.iinc 3 1, 3) := dk_132 3 1 (dk_at dksX4_reckons_0 21 rfl rfl)
theorem dX4_reckons_24 : decode cX4_reckons 24 = .ok (.iload 4, 2) := dk_21 4 (dk_at dksX4_reckons_1 0 rfl rfl)
theorem dX4_reckons_26 : decode cX4_reckons 26 = .ok (.iconst 1, 1) := dk_4 (dk_at dksX4_reckons_1 2 rfl rfl)
theorem dX4_reckons_27 : decode cX4_reckons 27 = .ok (.if_icmp .eq 9, 3) := dk_159 0 9 (dk_at dksX4_reckons_1 3 rfl rfl)
theorem dX4_reckons_30 : decode cX4_reckons 30 = .ok (.iload 4, 2) := dk_21 4 (dk_at dksX4_reckons_1 6 rfl rfl)
theorem dX4_reckons_32 : decode cX4_reckons 32 = .ok (.iconst 2, 1) := dk_5 (dk_at dksX4_reckons_1 8 rfl rfl)
theorem dX4_reckons_33 : decode cX4_reckons 33 = .ok (.if_icmp .ne 44, 3) := dk_160 0 44 (dk_at dksX4_reckons_1 9 rfl rfl)
theorem dX4_reckons_36 : decode cX4_reckons 36 = .ok (.aload_n 0, 1) := dk_42 (dk_at dksX4_reckons_1 12 rfl rfl)
theorem dX4_reckons_37 : decode cX4_reckons 37 = .ok (.getfield 78, 3) := dk_180 0 78 (dk_at dksX4_reckons_1 13 rfl rfl)
theorem dX4_reckons_40 : decode cX4_reckons 40 = .ok (.iload_n 2, 1) := dk_28 (dk_at dksX4_reckons_1 16 rfl rfl)
theorem dX4_reckons_41 : decode cX4_reckons 41 = .ok (.iload 4, 2) := dk_21 4 (dk_at dksX4_reckons_1 17 rfl rfl)
theorem dX4_reckons_43 : decode cX4_reckons 43 = .ok (.iconst 1, 1) := dk_4 (dk_at dksX4_reckons_1 19 rfl rfl)
theorem dX4_reckons_44 : decode cX4_reckons 44 = .ok (.if_icmp .ne 12, 3) := dk_160 0 12 (dk_at dksX4_reckons_1 20 rfl rfl)
theorem dX4_reckons_47 : decode cX4_reckons 47 = .ok (.aload_n 0, 1) := dk_42 (dk_at dksX4_reckons_1 23 rfl rfl)
theorem dX4_reckons_48 : decode cX4_reckons 48 = .ok (.getfield 35, 3) := dk_180 0 35 (dk_at dksX4_reckons_2 0 rfl rfl)
theorem dX4_reckons_51 : decode cX4_reckons 51 = .ok (.iload_n 3, 1) := dk_29 (dk_at dksX4_reckons_2 3 rfl rfl)
theorem dX4_reckons_52 : decode cX4_reckons 52 = .ok (.iaload, 1) := dk_46 (dk_at dksX4_reckons_2 4 rfl rfl)
theorem dX4_reckons_53 : decode cX4_reckons 53 = .ok (.goto 14, 3) := dk_167 0 14 (dk_at dksX4_reckons_2 5 rfl rfl)
theorem dX4_reckons_56 : decode cX4_reckons 56 = .ok (.aload_n 0, 1) := dk_42 (dk_at dksX4_reckons_2 8 rfl rfl)
theorem dX4_reckons_57 : decode cX4_reckons 57 = .ok (.getfield 75, 3) := dk_180 0 75 (dk_at dksX4_reckons_2 9 rfl rfl)
theorem dX4_reckons_60 : decode cX4_reckons 60 = .ok (.aload_n 0, 1) := dk_42 (dk_at dksX4_reckons_2 12 rfl rfl)
theorem dX4_reckons_61 : decode cX4_reckons 61 = .ok (.getfield 35, 3) := dk_180 0 35 (dk_at dksX4_reckons_2 13 rfl rfl)
theorem dX4_reckons_64 : decode cX4_reckons 64 = .ok (.iload_n 3, 1) := dk_29 (dk_at dksX4_reckons_2 16 rfl rfl)
theorem dX4_reckons_65 : decode cX4_reckons 65 = .ok (.iaload, 1) := dk_46 (dk_at dksX4_reckons_2 17 rfl rfl)
theorem dX4_reckons_66 : decode cX4_reckons 66 = .ok (.iaload, 1) := dk_46 (dk_at dksX4_reckons_2 18 rfl rfl)
theorem dX4_reckons_67 : decode cX4_reckons 67 = .ok (.iastore, 1) := dk_79 (dk_at dksX4_reckons_2 19 rfl rfl)
theorem dX4_reckons_68 : decode cX4_reckons 68 = .ok (.iinc 3 1, 3) := dk_132 3 1 (dk_at dksX4_reckons_2 20 rfl rfl)
theorem dX4_reckons_71 : decode cX4_reckons 71 = .ok (.iinc 2 1, 3) := dk_132 2 1 (dk_at dksX4_reckons_3 0 rfl rfl)
theorem dX4_reckons_74 : decode cX4_reckons 74 = .ok (.goto 66, 3) := dk_167 0 66 (dk_at dksX4_reckons_3 3 rfl rfl)
theorem dX4_reckons_77 : decode cX4_reckons 77 = .ok (.iload 4, 2) := dk_21 4 (dk_at dksX4_reckons_3 6 rfl rfl)
theorem dX4_reckons_79 : decode cX4_reckons 79 = .ok (.iconst 3, 1) := dk_6 (dk_at dksX4_reckons_3 8 rfl rfl)
theorem dX4_reckons_80 : decode cX4_reckons 80 = .ok (.if_icmp .ne 30, 3) := dk_160 0 30 (dk_at dksX4_reckons_3 9 rfl rfl)
theorem dX4_reckons_83 : decode cX4_reckons 83 = .ok (.aload_n 0, 1) := dk_42 (dk_at dksX4_reckons_3 12 rfl rfl)
theorem dX4_reckons_84 : decode cX4_reckons 84 = .ok (.getfield 78, 3) := dk_180 0 78 (dk_at dksX4_reckons_3 13 rfl rfl)
theorem dX4_reckons_87 : decode cX4_reckons 87 = .ok (.iload_n 2, 1) := dk_28 (dk_at dksX4_reckons_3 16 rfl rfl)
theorem dX4_reckons_88 : decode cX4_reckons 88 = .ok (.iconst 1, 1) := dk_4 (dk_at dksX4_reckons_3 17 rfl rfl)
theorem dX4_reckons_89 : decode cX4_reckons 89 = .ok (.isub, 1) := dk_100 (dk_at dksX4_reckons_3 18 rfl rfl)
theorem dX4_reckons_90 : decode cX4_reckons 90 = .ok (.aload_n 0, 1) := dk_42 (dk_at dksX4_reckons_3 19 rfl rfl)
theorem dX4_reckons_91 : decode cX4_reckons 91 = .ok (.getfield 78, 3) := dk_180 0 78 (dk_at dksX4_reckons_3 20 rfl rfl)
theorem dX4_reckons_94 : decode cX4_reckons 94 = .ok (.iload_n 2, 1) := dk_28 (dk_at dksX4_reckons_3 23 rfl rfl)
theorem dX4_reckons_95 : decode cX4_reckons 95 = .ok (.iconst 1, 1) := dk_4 (dk_at dksX4_reckons_4 0 rfl rfl)
theorem dX4_reckons_96 : decode cX4_reckons 96 = .ok (.isub, 1) := dk_100 (dk_at dksX4_reckons_4 1 rfl rfl)
theorem dX4_reckons_97 : decode cX4_reckons 97 = .ok (.iaload, 1) := dk_46 (dk_at dksX4_reckons_4 2 rfl rfl)
theorem dX4_reckons_98 : decode cX4_reckons 98 = .ok (.ifCond .ne 7, 3) := dk_154 0 7 (dk_at dksX4_reckons_4 3 rfl rfl)
theorem dX4_reckons_101 : decode cX4_reckons 101 = .ok (.iconst 1, 1) := dk_4 (dk_at dksX4_reckons_4 6 rfl rfl)
theorem dX4_reckons_102 : decode cX4_reckons 102 = .ok (.goto 4, 3) := dk_167 0 4 (dk_at dksX4_reckons_4 7 rfl rfl)
theorem dX4_reckons_105 : decode cX4_reckons 105 = .ok (.iconst 0, 1) := dk_3 (dk_at dksX4_reckons_4 10 rfl rfl)
theorem dX4_reckons_106 : decode cX4_reckons 106 = .ok (.iastore, 1) := dk_79 (dk_at dksX4_reckons_4 11 rfl rfl)
theorem dX4_reckons_107 : decode cX4_reckons 107 = .ok (.goto 33, 3) := dk_167 0 33 (dk_at dksX4_reckons_4 12 rfl rfl)
theorem dX4_reckons_110 : decode cX4_reckons 110 = .ok (.iinc 2 (-1), 3) := dk_132 2 255 (dk_at dksX4_reckons_4 15 rfl rfl)
theorem dX4_reckons_113 : decode cX4_reckons 113 = .ok (.aload_n 0, 1) := dk_42 (dk_at dksX4_reckons_4 18 rfl rfl)
theorem dX4_reckons_114 : decode cX4_reckons 114 = .ok (.getfield 78, 3) := dk_180 0 78 (dk_at dksX4_reckons_4 19 rfl rfl)
theorem dX4_reckons_117 : decode cX4_reckons 117 = .ok (.iload_n 2, 1) := dk_28 (dk_at dksX4_reckons_4 22 rfl rfl)
theorem dX4_reckons_118 : decode cX4_reckons 118 = .ok (.iconst 1, 1) := dk_4 (dk_at dksX4_reckons_4 23 rfl rfl)
theorem dX4_reckons_119 : decode cX4_reckons 119 = .ok (.isub, 1) := dk_100 (dk_at dksX4_reckons_5 0 rfl rfl)
theorem dX4_reckons_120 : decode cX4_reckons 120 = .ok (.iload 4, 2) := dk_21 4 (dk_at dksX4_reckons_5 1 rfl rfl)
theorem dX4_reckons_122 : decode cX4_reckons 122 = .ok (.aload_n 0, 1) := dk_42 (dk_at dksX4_reckons_5 3 rfl rfl)
theorem dX4_reckons_123 : decode cX4_reckons 123 = .ok (.getfield 78, 3) := dk_180 0 78 (dk_at dksX4_reckons_5 4 rfl rfl)
theorem dX4_reckons_126 : decode cX4_reckons 126 = .ok (.iload_n 2, 1) := dk_28 (dk_at dksX4_reckons_5 7 rfl rfl)
theorem dX4_reckons_127 : decode cX4_reckons 127 = .ok (.iconst 1, 1) := dk_4 (dk_at dksX4_reckons_5 8 rfl rfl)
theorem dX4_reckons_128 : decode cX4_reckons 128 = .ok (.isub, 1) := dk_100 (dk_at dksX4_reckons_5 9 rfl rfl)
theorem dX4_reckons_129 : decode cX4_reckons 129 = .ok (.iaload, 1) := dk_46 (dk_at dksX4_reckons_5 10 rfl rfl)
theorem dX4_reckons_130 : decode cX4_reckons 130 = .ok (.aload_n 0, 1) := dk_42 (dk_at dksX4_reckons_5 11 rfl rfl)
theorem dX4_reckons_131 : decode cX4_reckons 131 = .ok (.getfield 78, 3) := dk_180 0 78 (dk_at dksX4_reckons_5 12 rfl rfl)
theorem dX4_reckons_134 : decode cX4_reckons 134 = .ok (.iload_n 2, 1) := dk_28 (dk_at dksX4_reckons_5 15 rfl rfl)
theorem dX4_reckons_135 : decode cX4_reckons 135 = .ok (.iaload, 1) := dk_46 (dk_at dksX4_reckons_5 16 rfl rfl)
theorem dX4_reckons_136 : decode cX4_reckons 136 = .ok (.invokestatic 317, 3) := dk_184 1 61 (dk_at dksX4_reckons_5 17 rfl rfl)
theorem dX4_reckons_139 : decode cX4_reckons 139 = .ok (.iastore, 1) := dk_79 (dk_at dksX4_reckons_5 20 rfl rfl)
theorem dX4_reckons_140 : decode cX4_reckons 140 = .ok (.goto (-136), 3) := dk_167 255 120 (dk_at dksX4_reckons_5 21 rfl rfl)
theorem dX4_reckons_143 : decode cX4_reckons 143 = .ok (.aload_n 0, 1) := dk_42 (dk_at dksX4_reckons_6 0 rfl rfl)
theorem dX4_reckons_144 : decode cX4_reckons 144 = .ok (.getfield 78, 3) := dk_180 0 78 (dk_at dksX4_reckons_6 1 rfl rfl)
theorem dX4_reckons_147 : decode cX4_reckons 147 = .ok (.iconst 0, 1) := dk_3 (dk_at dksX4_reckons_6 4 rfl rfl)
theorem dX4_reckons_148 : decode cX4_reckons 148 = .ok (.iaload, 1) := dk_46 (dk_at dksX4_reckons_6 5 rfl rfl)
theorem dX4_reckons_149 : decode cX4_reckons 149 = .ok (.ireturn, 1) := dk_172 (dk_at dksX4_reckons_6 6 rfl rfl)
abbrev mX4_reckons : xM := (yX4_reckons, cX4_reckons, 5, (some .int), [])
def m_reckons_140 (k4 : Int32 → Int32 → MS → Option (Int32 × MS)) (x2 : Int32) (x3 : Int32) (S : MS) : Option (Int32 × MS) :=
  k4 x2 x3 S
theorem m_reckons_140_ok {G : xG} {m0 : Nat} {S0 : MS} {k4 : Int32 → Int32 → MS → Option (Int32 × MS)} (hk4 : ∀ (x2 : Int32) (x3 : Int32) (S : MS) (q : (Int32 × MS)), k4 x2 x3 S = some q → XM G m0 mX4_reckons 2 S0 (some (.int q.1)) q.2 4 [(0, .ref m0), (2, .int x2), (3, .int x3)] [] S) (x2 : Int32) (x3 : Int32) (S : MS) (q : (Int32 × MS)) (hf : m_reckons_140 k4 x2 x3 S = some q) : XM G m0 mX4_reckons 2 S0 (some (.int q.1)) q.2 140 [(0, .ref m0), (2, .int x2), (3, .int x3)] [] S := by
  intro h N Z
  unfold m_reckons_140 at hf
  refine X.goto (tgt := 4) dX4_reckons_140 (by decide) ?_
  refine X.sub [0, 1, 2] (L' := [(0, .ref m0), (2, .int x2), (3, .int x3)]) rfl ?_
  exact hk4 _ _ _ _ hf h N Z
def m_reckons_67 (k4 : Int32 → Int32 → MS → Option (Int32 × MS)) (x2 : Int32) (x3 : Int32) (y0 : Int32) (y1 : Int32) (S : MS) : Option (Int32 × MS) :=
  (wrA S 16 y1 y0).bind fun S67 =>
  m_reckons_140 k4 ((x2 + 1)) ((x3 + 1)) S67
theorem m_reckons_67_ok {G : xG} {m0 : Nat} {S0 : MS} {k4 : Int32 → Int32 → MS → Option (Int32 × MS)} (hk4 : ∀ (x2 : Int32) (x3 : Int32) (S : MS) (q : (Int32 × MS)), k4 x2 x3 S = some q → XM G m0 mX4_reckons 2 S0 (some (.int q.1)) q.2 4 [(0, .ref m0), (2, .int x2), (3, .int x3)] [] S) (x2 : Int32) (x3 : Int32) (y0 : Int32) (y1 : Int32) (S : MS) (q : (Int32 × MS)) (hf : m_reckons_67 k4 x2 x3 y0 y1 S = some q) : XM G m0 mX4_reckons 2 S0 (some (.int q.1)) q.2 67 [(0, .ref m0), (2, .int x2), (3, .int x3)] [.int y0, .int y1, .ref (m0 + 16)] S := by
  intro h N Z
  unfold m_reckons_67 at hf
  obtain ⟨S67, h67, hf⟩ := ob hf
  refine M.iast dX4_reckons_67 rfl h67 ?_
  refine X.iinc (v := (x3 + 1)) (L' := [(3, .int (x3 + 1)), (0, .ref m0), (2, .int x2)]) dX4_reckons_68 2 rfl rfl (Nat.le_of_ble_eq_true rfl) rfl ?_
  refine X.iinc (v := (x2 + 1)) (L' := [(2, .int (x2 + 1)), (3, .int (x3 + 1)), (0, .ref m0)]) dX4_reckons_71 2 rfl rfl (Nat.le_of_ble_eq_true rfl) rfl ?_
  refine X.goto (tgt := 140) dX4_reckons_74 (by decide) ?_
  refine X.sub [2, 0, 1] (L' := [(0, .ref m0), (2, .int (x2 + 1)), (3, .int (x3 + 1))]) rfl ?_
  exact m_reckons_140_ok hk4 _ _ _ _ hf h N Z
def m_reckons_36 (k4 : Int32 → Int32 → MS → Option (Int32 × MS)) (x2 : Int32) (x3 : Int32) (x4 : Int32) (S : MS) : Option (Int32 × MS) :=
  if x4 = (1 : Int32) then
    (rdA S 3 x3).bind fun v52 =>
    m_reckons_67 k4 x2 x3 v52 x2 S
  else
    (rdA S 3 x3).bind fun v65 =>
    (rdA S 15 v65).bind fun v66 =>
    m_reckons_67 k4 x2 x3 v66 x2 S
theorem m_reckons_36_ok {G : xG} {m0 : Nat} {S0 : MS} {k4 : Int32 → Int32 → MS → Option (Int32 × MS)} (hk4 : ∀ (x2 : Int32) (x3 : Int32) (S : MS) (q : (Int32 × MS)), k4 x2 x3 S = some q → XM G m0 mX4_reckons 2 S0 (some (.int q.1)) q.2 4 [(0, .ref m0), (2, .int x2), (3, .int x3)] [] S) (x2 : Int32) (x3 : Int32) (x4 : Int32) (S : MS) (q : (Int32 × MS)) (hf : m_reckons_36 k4 x2 x3 x4 S = some q) : XM G m0 mX4_reckons 2 S0 (some (.int q.1)) q.2 36 [(0, .ref m0), (2, .int x2), (3, .int x3), (4, .int x4)] [] S := by
  intro h N Z
  unfold m_reckons_36 at hf
  refine X.aload_n dX4_reckons_36 rfl 0 rfl ?_
  refine M.get (v := .ref (m0 + 16)) dX4_reckons_37 fX4_78 (Nat.le_of_ble_eq_true rfl) rfl ?_
  refine X.iload_n dX4_reckons_40 rfl 1 rfl ?_
  refine X.iload dX4_reckons_41 3 rfl ?_
  refine X.iconst (v := 1) dX4_reckons_43 (by decide) ?_
  refine X.icmp_ne (tgt := 56) dX4_reckons_44 (by decide) (fun c44 => ?_) (fun c44 => ?_)
  · have hf := if_f c44 hf
    refine X.aload_n dX4_reckons_56 rfl 0 rfl ?_
    refine M.get (v := .ref (m0 + 15)) dX4_reckons_57 fX4_75 (Nat.le_of_ble_eq_true rfl) rfl ?_
    refine X.aload_n dX4_reckons_60 rfl 0 rfl ?_
    refine M.get (v := .ref (m0 + 3)) dX4_reckons_61 fX4_35 (Nat.le_of_ble_eq_true rfl) rfl ?_
    refine X.iload_n dX4_reckons_64 rfl 2 rfl ?_
    obtain ⟨v65, h65, hf⟩ := ob hf
    refine M.iald dX4_reckons_65 rfl h65 ?_
    obtain ⟨v66, h66, hf⟩ := ob hf
    refine M.iald dX4_reckons_66 rfl h66 ?_
    refine X.sub [0, 1, 2] (L' := [(0, .ref m0), (2, .int x2), (3, .int x3)]) rfl ?_
    exact m_reckons_67_ok hk4 _ _ _ _ _ _ hf h N Z
  · have hf := if_t c44 hf
    refine X.aload_n dX4_reckons_47 rfl 0 rfl ?_
    refine M.get (v := .ref (m0 + 3)) dX4_reckons_48 fX4_35 (Nat.le_of_ble_eq_true rfl) rfl ?_
    refine X.iload_n dX4_reckons_51 rfl 2 rfl ?_
    obtain ⟨v52, h52, hf⟩ := ob hf
    refine M.iald dX4_reckons_52 rfl h52 ?_
    refine X.goto (tgt := 67) dX4_reckons_53 (by decide) ?_
    refine X.sub [0, 1, 2] (L' := [(0, .ref m0), (2, .int x2), (3, .int x3)]) rfl ?_
    exact m_reckons_67_ok hk4 _ _ _ _ _ _ hf h N Z
def m_reckons_106 (k4 : Int32 → Int32 → MS → Option (Int32 × MS)) (x2 : Int32) (x3 : Int32) (y0 : Int32) (y1 : Int32) (S : MS) : Option (Int32 × MS) :=
  (wrA S 16 y1 y0).bind fun S106 =>
  m_reckons_140 k4 x2 x3 S106
theorem m_reckons_106_ok {G : xG} {m0 : Nat} {S0 : MS} {k4 : Int32 → Int32 → MS → Option (Int32 × MS)} (hk4 : ∀ (x2 : Int32) (x3 : Int32) (S : MS) (q : (Int32 × MS)), k4 x2 x3 S = some q → XM G m0 mX4_reckons 2 S0 (some (.int q.1)) q.2 4 [(0, .ref m0), (2, .int x2), (3, .int x3)] [] S) (x2 : Int32) (x3 : Int32) (y0 : Int32) (y1 : Int32) (S : MS) (q : (Int32 × MS)) (hf : m_reckons_106 k4 x2 x3 y0 y1 S = some q) : XM G m0 mX4_reckons 2 S0 (some (.int q.1)) q.2 106 [(0, .ref m0), (2, .int x2), (3, .int x3)] [.int y0, .int y1, .ref (m0 + 16)] S := by
  intro h N Z
  unfold m_reckons_106 at hf
  obtain ⟨S106, h106, hf⟩ := ob hf
  refine M.iast dX4_reckons_106 rfl h106 ?_
  refine X.goto (tgt := 140) dX4_reckons_107 (by decide) ?_
  refine X.sub [0, 1, 2] (L' := [(0, .ref m0), (2, .int x2), (3, .int x3)]) rfl ?_
  exact m_reckons_140_ok hk4 _ _ _ _ hf h N Z
def m_reckons_4_b  (k4 : Int32 → Int32 → MS → Option (Int32 × MS)) (x2 : Int32) (x3 : Int32) (S : MS) : Option (Int32 × MS) :=
  (rdA S 3 x3).bind fun v9 =>
  if v9 = 0 then
    (rdA S 16 (0 : Int32)).bind fun v148 =>
    some (v148, S)
  else
    (rdA S 3 x3).bind fun v18 =>
    if v18 = (1 : Int32) then
      m_reckons_36 k4 x2 ((x3 + 1)) v18 S
    else
      if v18 = (2 : Int32) then
        m_reckons_36 k4 x2 ((x3 + 1)) v18 S
      else
        if v18 = (3 : Int32) then
          (rdA S 16 (x2 - (1 : Int32))).bind fun v97 =>
          if v97 = 0 then
            m_reckons_106 k4 x2 ((x3 + 1)) ((1 : Int32)) ((x2 - (1 : Int32))) S
          else
            m_reckons_106 k4 x2 ((x3 + 1)) ((0 : Int32)) ((x2 - (1 : Int32))) S
        else
          (rdA S 16 ((x2 + (-1)) - (1 : Int32))).bind fun v129 =>
          (rdA S 16 (x2 + (-1))).bind fun v135 =>
          (m_works v18 v129 v135).bind fun q136 =>
          (wrA S 16 ((x2 + (-1)) - (1 : Int32)) q136).bind fun S139 =>
          m_reckons_140 k4 ((x2 + (-1))) ((x3 + 1)) S139
def m_reckons_4  : Nat → Int32 → Int32 → MS → Option (Int32 × MS)
  | 0 => fun _ _ _ => none
  | n + 1 => fun x2 x3 S => m_reckons_4_b (m_reckons_4 n) x2 x3 S
theorem m_reckons_4_bok {G : xG} {m0 : Nat} {S0 : MS}  {k4 : Int32 → Int32 → MS → Option (Int32 × MS)}  (hk4 : ∀ (x2 : Int32) (x3 : Int32) (S : MS) (q : (Int32 × MS)), k4 x2 x3 S = some q → XM G m0 mX4_reckons 2 S0 (some (.int q.1)) q.2 4 [(0, .ref m0), (2, .int x2), (3, .int x3)] [] S) (x2 : Int32) (x3 : Int32) (S : MS) (q : (Int32 × MS)) (hf : m_reckons_4_b k4 x2 x3 S = some q) : XM G m0 mX4_reckons 2 S0 (some (.int q.1)) q.2 4 [(0, .ref m0), (2, .int x2), (3, .int x3)] [] S := by
  intro h N Z
  unfold m_reckons_4_b at hf
  refine X.aload_n dX4_reckons_4 rfl 0 rfl ?_
  refine M.get (v := .ref (m0 + 3)) dX4_reckons_5 fX4_35 (Nat.le_of_ble_eq_true rfl) rfl ?_
  refine X.iload_n dX4_reckons_8 rfl 2 rfl ?_
  obtain ⟨v9, h9, hf⟩ := ob hf
  refine M.iald dX4_reckons_9 rfl h9 ?_
  refine X.if_eq (tgt := 143) dX4_reckons_10 (by decide) (fun c10 => ?_) (fun c10 => ?_)
  · have hf := if_t c10 hf
    refine X.aload_n dX4_reckons_143 rfl 0 rfl ?_
    refine M.get (v := .ref (m0 + 16)) dX4_reckons_144 fX4_78 (Nat.le_of_ble_eq_true rfl) rfl ?_
    refine X.iconst (v := 0) dX4_reckons_147 (by decide) ?_
    obtain ⟨v148, h148, hf⟩ := ob hf
    refine M.iald dX4_reckons_148 rfl h148 ?_
    obtain rfl := Option.some.inj hf
    exact X.iret dX4_reckons_149 rfl rfl rfl
  · have hf := if_f c10 hf
    refine X.aload_n dX4_reckons_13 rfl 0 rfl ?_
    refine M.get (v := .ref (m0 + 3)) dX4_reckons_14 fX4_35 (Nat.le_of_ble_eq_true rfl) rfl ?_
    refine X.iload_n dX4_reckons_17 rfl 2 rfl ?_
    obtain ⟨v18, h18, hf⟩ := ob hf
    refine M.iald dX4_reckons_18 rfl h18 ?_
    refine X.istore (L' := [(4, .int v18), (0, .ref m0), (2, .int x2), (3, .int x3)]) dX4_reckons_19 (Nat.le_of_ble_eq_true rfl) rfl ?_
    refine X.iinc (v := (x3 + 1)) (L' := [(3, .int (x3 + 1)), (4, .int v18), (0, .ref m0), (2, .int x2)]) dX4_reckons_21 3 rfl rfl (Nat.le_of_ble_eq_true rfl) rfl ?_
    refine X.iload dX4_reckons_24 1 rfl ?_
    refine X.iconst (v := 1) dX4_reckons_26 (by decide) ?_
    refine X.icmp_eq (tgt := 36) dX4_reckons_27 (by decide) (fun c27 => ?_) (fun c27 => ?_)
    · have hf := if_t c27 hf
      refine X.sub [2, 3, 0, 1] (L' := [(0, .ref m0), (2, .int x2), (3, .int (x3 + 1)), (4, .int v18)]) rfl ?_
      exact m_reckons_36_ok hk4 _ _ _ _ _ hf h N Z
    · have hf := if_f c27 hf
      refine X.iload dX4_reckons_30 1 rfl ?_
      refine X.iconst (v := 2) dX4_reckons_32 (by decide) ?_
      refine X.icmp_ne (tgt := 77) dX4_reckons_33 (by decide) (fun c33 => ?_) (fun c33 => ?_)
      · have hf := if_f c33 hf
        refine X.iload dX4_reckons_77 1 rfl ?_
        refine X.iconst (v := 3) dX4_reckons_79 (by decide) ?_
        refine X.icmp_ne (tgt := 110) dX4_reckons_80 (by decide) (fun c80 => ?_) (fun c80 => ?_)
        · have hf := if_f c80 hf
          refine X.iinc (v := (x2 + (-1))) (L' := [(2, .int (x2 + (-1))), (3, .int (x3 + 1)), (4, .int v18), (0, .ref m0)]) dX4_reckons_110 3 rfl rfl (Nat.le_of_ble_eq_true rfl) rfl ?_
          refine X.aload_n dX4_reckons_113 rfl 3 rfl ?_
          refine M.get (v := .ref (m0 + 16)) dX4_reckons_114 fX4_78 (Nat.le_of_ble_eq_true rfl) rfl ?_
          refine X.iload_n dX4_reckons_117 rfl 0 rfl ?_
          refine X.iconst (v := 1) dX4_reckons_118 (by decide) ?_
          refine X.isub dX4_reckons_119 ?_
          refine X.iload dX4_reckons_120 2 rfl ?_
          refine X.aload_n dX4_reckons_122 rfl 3 rfl ?_
          refine M.get (v := .ref (m0 + 16)) dX4_reckons_123 fX4_78 (Nat.le_of_ble_eq_true rfl) rfl ?_
          refine X.iload_n dX4_reckons_126 rfl 0 rfl ?_
          refine X.iconst (v := 1) dX4_reckons_127 (by decide) ?_
          refine X.isub dX4_reckons_128 ?_
          obtain ⟨v129, h129, hf⟩ := ob hf
          refine M.iald dX4_reckons_129 rfl h129 ?_
          refine X.aload_n dX4_reckons_130 rfl 3 rfl ?_
          refine M.get (v := .ref (m0 + 16)) dX4_reckons_131 fX4_78 (Nat.le_of_ble_eq_true rfl) rfl ?_
          refine X.iload_n dX4_reckons_134 rfl 0 rfl ?_
          obtain ⟨v135, h135, hf⟩ := ob hf
          refine M.iald dX4_reckons_135 rfl h135 ?_
          obtain ⟨q136, h136, hf⟩ := ob hf
          refine X.callSi (As := [.int v18, .int v129, .int v135]) (rest := [.int ((x2 + (-1)) - (1 : Int32)), .ref (m0 + 16)]) dX4_reckons_136 (w_works h136 _) cX4_317 rfl rfl (Nat.le_of_ble_eq_true rfl) (xD (Nat.le_of_ble_eq_true rfl)) xle.rf xleN ?_
          obtain ⟨S139, h139, hf⟩ := ob hf
          refine M.iast dX4_reckons_139 rfl h139 ?_
          refine X.sub [3, 0, 1] (L' := [(0, .ref m0), (2, .int (x2 + (-1))), (3, .int (x3 + 1))]) rfl ?_
          exact m_reckons_140_ok hk4 _ _ _ _ hf h N Z
        · have hf := if_t c80 hf
          refine X.aload_n dX4_reckons_83 rfl 2 rfl ?_
          refine M.get (v := .ref (m0 + 16)) dX4_reckons_84 fX4_78 (Nat.le_of_ble_eq_true rfl) rfl ?_
          refine X.iload_n dX4_reckons_87 rfl 3 rfl ?_
          refine X.iconst (v := 1) dX4_reckons_88 (by decide) ?_
          refine X.isub dX4_reckons_89 ?_
          refine X.aload_n dX4_reckons_90 rfl 2 rfl ?_
          refine M.get (v := .ref (m0 + 16)) dX4_reckons_91 fX4_78 (Nat.le_of_ble_eq_true rfl) rfl ?_
          refine X.iload_n dX4_reckons_94 rfl 3 rfl ?_
          refine X.iconst (v := 1) dX4_reckons_95 (by decide) ?_
          refine X.isub dX4_reckons_96 ?_
          obtain ⟨v97, h97, hf⟩ := ob hf
          refine M.iald dX4_reckons_97 rfl h97 ?_
          refine X.if_ne (tgt := 105) dX4_reckons_98 (by decide) (fun c98 => ?_) (fun c98 => ?_)
          · have hf := if_f c98 hf
            refine X.iconst (v := 0) dX4_reckons_105 (by decide) ?_
            refine X.sub [2, 3, 0] (L' := [(0, .ref m0), (2, .int x2), (3, .int (x3 + 1))]) rfl ?_
            exact m_reckons_106_ok hk4 _ _ _ _ _ _ hf h N Z
          · have hf := if_t c98 hf
            refine X.iconst (v := 1) dX4_reckons_101 (by decide) ?_
            refine X.goto (tgt := 106) dX4_reckons_102 (by decide) ?_
            refine X.sub [2, 3, 0] (L' := [(0, .ref m0), (2, .int x2), (3, .int (x3 + 1))]) rfl ?_
            exact m_reckons_106_ok hk4 _ _ _ _ _ _ hf h N Z
      · have hf := if_t c33 hf
        refine X.sub [2, 3, 0, 1] (L' := [(0, .ref m0), (2, .int x2), (3, .int (x3 + 1)), (4, .int v18)]) rfl ?_
        exact m_reckons_36_ok hk4 _ _ _ _ _ hf h N Z
theorem m_reckons_4_ok {G : xG} {m0 : Nat} {S0 : MS}   : ∀ (n : Nat) (x2 : Int32) (x3 : Int32) (S : MS) (q : (Int32 × MS)), m_reckons_4 n x2 x3 S = some q → XM G m0 mX4_reckons 2 S0 (some (.int q.1)) q.2 4 [(0, .ref m0), (2, .int x2), (3, .int x3)] [] S
  | 0, _, _, _, _, hf => by cases hf
  | n + 1, x2, x3, S, q, hf => m_reckons_4_bok (m_reckons_4_ok n) x2 x3 S q hf
def m_reckons (x1 : Int32) (S : MS) : Option (Int32 × MS) :=
  m_reckons_4 FU ((0 : Int32)) x1 S
theorem w_reckons {G : xG} {m0 : Nat} {x1 : Int32} {S : MS} {q : (Int32 × MS)} (hf : m_reckons x1 S = some q) : CtM G m0 mX4_reckons 2 S [.ref m0, .int x1] (some (.int q.1)) q.2 := by
  intro h N Z
  refine Ct.of (by decide +kernel) rfl (Nat.le_of_ble_eq_true rfl) (show Xr G _ 0 [(0, .ref m0), (1, .int x1)] [] _ from ?_)
  unfold m_reckons at hf
  refine X.iconst (v := 0) dX4_reckons_0 (by decide) ?_
  refine X.istore_n (L' := [(2, .int (0 : Int32)), (0, .ref m0), (1, .int x1)]) dX4_reckons_1 rfl (Nat.le_of_ble_eq_true rfl) rfl ?_
  refine X.iload_n dX4_reckons_2 rfl 2 rfl ?_
  refine X.istore_n (L' := [(3, .int x1), (2, .int (0 : Int32)), (0, .ref m0), (1, .int x1)]) dX4_reckons_3 rfl (Nat.le_of_ble_eq_true rfl) rfl ?_
  refine X.sub [2, 1, 0] (L' := [(0, .ref m0), (2, .int (0 : Int32)), (3, .int x1)]) rfl ?_
  exact m_reckons_4_ok FU _ _ _ _ hf h N Z
theorem cX4_334 : xCV RX4 334 mX4_reckons 1 := ⟨lw_V q1967 q1969 qs93 q127 q1970, rfl, ⟨by decide +kernel, by decide +kernel, by decide +kernel⟩, Nat.le_of_ble_eq_true rfl⟩
/-! cells -/
abbrev cX4_cells : ByteArray := prog_12_method_51_code
def yX4_cells : MethodName := ⟨RX4, "cells", "()I"⟩
def dkwX4_cells_0 : List UInt8 := [42, 180, 0, 7, 42, 180, 0, 13, 104, 172]
abbrev dktX4_cells_0 : List UInt8 := dkwX4_cells_0 ++ []
theorem dksX4_cells_0 : cX4_cells.data.toList.drop 0 = dktX4_cells_0 := by decide +kernel
theorem dX4_cells_0 : decode cX4_cells 0 = .ok (.aload_n 0, 1) := dk_42 (dk_at dksX4_cells_0 0 rfl rfl)
theorem dX4_cells_1 : decode cX4_cells 1 = .ok (.getfield 7, 3) := dk_180 0 7 (dk_at dksX4_cells_0 1 rfl rfl)
theorem dX4_cells_4 : decode cX4_cells 4 = .ok (.aload_n 0, 1) := dk_42 (dk_at dksX4_cells_0 4 rfl rfl)
theorem dX4_cells_5 : decode cX4_cells 5 = .ok (.getfield 13, 3) := dk_180 0 13 (dk_at dksX4_cells_0 5 rfl rfl)
theorem dX4_cells_8 : decode cX4_cells 8 = .ok (.imul, 1) := dk_104 (dk_at dksX4_cells_0 8 rfl rfl)
theorem dX4_cells_9 : decode cX4_cells 9 = .ok (.ireturn, 1) := dk_172 (dk_at dksX4_cells_0 9 rfl rfl)
abbrev mX4_cells : xM := (yX4_cells, cX4_cells, 1, (some .int), [])
def m_cells  (S : MS) : Option Int32 :=
  some ((S.1 1) * (S.1 2))
theorem w_cells {G : xG} {m0 : Nat}  {S : MS} {q : Int32} (hf : m_cells S = some q) : CtM G m0 mX4_cells 1 S [.ref m0] (some (.int q)) S := by
  intro h N Z
  refine Ct.of (by decide +kernel) rfl (Nat.le_of_ble_eq_true rfl) (show Xr G _ 0 [(0, .ref m0)] [] _ from ?_)
  unfold m_cells at hf
  refine X.aload_n dX4_cells_0 rfl 0 rfl ?_
  refine M.get (v := .int (S.1 1)) dX4_cells_1 fX4_7 (Nat.le_of_ble_eq_true rfl) rfl ?_
  refine X.aload_n dX4_cells_4 rfl 0 rfl ?_
  refine M.get (v := .int (S.1 2)) dX4_cells_5 fX4_13 (Nat.le_of_ble_eq_true rfl) rfl ?_
  refine X.imul dX4_cells_8 ?_
  obtain rfl := Option.some.inj hf
  exact X.iret dX4_cells_9 rfl rfl rfl
theorem cX4_321 : xCV RX4 321 mX4_cells 0 := ⟨lw_V q1915 q1917 qs81 q127 q1918, rfl, ⟨by decide +kernel, by decide +kernel, by decide +kernel⟩, Nat.le_of_ble_eq_true rfl⟩
/-! far -/
abbrev cX4_far : ByteArray := prog_12_method_52_code
def yX4_far : MethodName := ⟨RX4, "far", "(II)I"⟩
def dkwX4_far_2 : List UInt8 := [21, 4, 100, 167, 0, 5, 21, 4, 96, 172]
abbrev dktX4_far_2 : List UInt8 := dkwX4_far_2 ++ []
def dkwX4_far_1 : List UInt8 := [180, 0, 7, 108, 100, 54, 4, 29, 156, 0, 9, 3, 29, 100, 167, 0, 4, 29, 21, 4, 156, 0, 10, 3]
abbrev dktX4_far_1 : List UInt8 := dkwX4_far_1 ++ dktX4_far_2
def dkwX4_far_0 : List UInt8 := [27, 42, 180, 0, 7, 112, 28, 42, 180, 0, 7, 112, 100, 62, 27, 42, 180, 0, 7, 108, 28, 42]
abbrev dktX4_far_0 : List UInt8 := dkwX4_far_0 ++ dktX4_far_1
theorem dksX4_far_0 : cX4_far.data.toList.drop 0 = dktX4_far_0 := by decide +kernel
theorem dksX4_far_1 : cX4_far.data.toList.drop 22 = dktX4_far_1 := dk_seg dksX4_far_0 22 rfl rfl
theorem dksX4_far_2 : cX4_far.data.toList.drop 46 = dktX4_far_2 := dk_seg dksX4_far_1 24 rfl rfl
theorem dX4_far_0 : decode cX4_far 0 = .ok (.iload_n 1, 1) := dk_27 (dk_at dksX4_far_0 0 rfl rfl)
theorem dX4_far_1 : decode cX4_far 1 = .ok (.aload_n 0, 1) := dk_42 (dk_at dksX4_far_0 1 rfl rfl)
theorem dX4_far_2 : decode cX4_far 2 = .ok (.getfield 7, 3) := dk_180 0 7 (dk_at dksX4_far_0 2 rfl rfl)
theorem dX4_far_5 : decode cX4_far 5 = .ok (.irem, 1) := dk_112 (dk_at dksX4_far_0 5 rfl rfl)
theorem dX4_far_6 : decode cX4_far 6 = .ok (.iload_n 2, 1) := dk_28 (dk_at dksX4_far_0 6 rfl rfl)
theorem dX4_far_7 : decode cX4_far 7 = .ok (.aload_n 0, 1) := dk_42 (dk_at dksX4_far_0 7 rfl rfl)
theorem dX4_far_8 : decode cX4_far 8 = .ok (.getfield 7, 3) := dk_180 0 7 (dk_at dksX4_far_0 8 rfl rfl)
theorem dX4_far_11 : decode cX4_far 11 = .ok (.irem, 1) := dk_112 (dk_at dksX4_far_0 11 rfl rfl)
theorem dX4_far_12 : decode cX4_far 12 = .ok (.isub, 1) := dk_100 (dk_at dksX4_far_0 12 rfl rfl)
theorem dX4_far_13 : decode cX4_far 13 = .ok (.istore_n 3, 1) := dk_62 (dk_at dksX4_far_0 13 rfl rfl)
theorem dX4_far_14 : decode cX4_far 14 = .ok (.iload_n 1, 1) := dk_27 (dk_at dksX4_far_0 14 rfl rfl)
theorem dX4_far_15 : decode cX4_far 15 = .ok (.aload_n 0, 1) := dk_42 (dk_at dksX4_far_0 15 rfl rfl)
theorem dX4_far_16 : decode cX4_far 16 = .ok (.getfield 7, 3) := dk_180 0 7 (dk_at dksX4_far_0 16 rfl rfl)
theorem dX4_far_19 : decode cX4_far 19 = .ok (.idiv, 1) := dk_108 (dk_at dksX4_far_0 19 rfl rfl)
theorem dX4_far_20 : decode cX4_far 20 = .ok (.iload_n 2, 1) := dk_28 (dk_at dksX4_far_0 20 rfl rfl)
theorem dX4_far_21 : decode cX4_far 21 = .ok (.aload_n 0, 1) := dk_42 (dk_at dksX4_far_0 21 rfl rfl)
theorem dX4_far_22 : decode cX4_far 22 = .ok (.getfield 7, 3) := dk_180 0 7 (dk_at dksX4_far_1 0 rfl rfl)
theorem dX4_far_25 : decode cX4_far 25 = .ok (.idiv, 1) := dk_108 (dk_at dksX4_far_1 3 rfl rfl)
theorem dX4_far_26 : decode cX4_far 26 = .ok (.isub, 1) := dk_100 (dk_at dksX4_far_1 4 rfl rfl)
theorem dX4_far_27 : decode cX4_far 27 = .ok (.istore 4, 2) := dk_54 4 (dk_at dksX4_far_1 5 rfl rfl)
theorem dX4_far_29 : decode cX4_far 29 = .ok (.iload_n 3, 1) := dk_29 (dk_at dksX4_far_1 7 rfl rfl)
theorem dX4_far_30 : decode cX4_far 30 = .ok (.ifCond .ge 9, 3) := dk_156 0 9 (dk_at dksX4_far_1 8 rfl rfl)
theorem dX4_far_33 : decode cX4_far 33 = .ok (.iconst 0, 1) := dk_3 (dk_at dksX4_far_1 11 rfl rfl)
theorem dX4_far_34 : decode cX4_far 34 = .ok (.iload_n 3, 1) := dk_29 (dk_at dksX4_far_1 12 rfl rfl)
theorem dX4_far_35 : decode cX4_far 35 = .ok (.isub, 1) := dk_100 (dk_at dksX4_far_1 13 rfl rfl)
theorem dX4_far_36 : decode cX4_far 36 = .ok (.goto 4, 3) := dk_167 0 4 (dk_at dksX4_far_1 14 rfl rfl)
theorem dX4_far_39 : decode cX4_far 39 = .ok (.iload_n 3, 1) := dk_29 (dk_at dksX4_far_1 17 rfl rfl)
theorem dX4_far_40 : decode cX4_far 40 = .ok (.iload 4, 2) := dk_21 4 (dk_at dksX4_far_1 18 rfl rfl)
theorem dX4_far_42 : decode cX4_far 42 = .ok (.ifCond .ge 10, 3) := dk_156 0 10 (dk_at dksX4_far_1 20 rfl rfl)
theorem dX4_far_45 : decode cX4_far 45 = .ok (.iconst 0, 1) := dk_3 (dk_at dksX4_far_1 23 rfl rfl)
theorem dX4_far_46 : decode cX4_far 46 = .ok (.iload 4, 2) := dk_21 4 (dk_at dksX4_far_2 0 rfl rfl)
theorem dX4_far_48 : decode cX4_far 48 = .ok (.isub, 1) := dk_100 (dk_at dksX4_far_2 2 rfl rfl)
theorem dX4_far_49 : decode cX4_far 49 = .ok (.goto 5, 3) := dk_167 0 5 (dk_at dksX4_far_2 3 rfl rfl)
theorem dX4_far_52 : decode cX4_far 52 = .ok (.iload 4, 2) := dk_21 4 (dk_at dksX4_far_2 6 rfl rfl)
theorem dX4_far_54 : decode cX4_far 54 = .ok (.iadd, 1) := dk_96 (dk_at dksX4_far_2 8 rfl rfl)
theorem dX4_far_55 : decode cX4_far 55 = .ok (.ireturn, 1) := dk_172 (dk_at dksX4_far_2 9 rfl rfl)
abbrev mX4_far : xM := (yX4_far, cX4_far, 5, (some .int), [])
def m_far_40  (x4 : Int32) (y0 : Int32) (S : MS) : Option Int32 :=
  if 0 ≤ x4 then
    some (y0 + x4)
  else
    some (y0 + ((0 : Int32) - x4))
theorem m_far_40_ok {G : xG} {m0 : Nat}   (x4 : Int32) (y0 : Int32) (S : MS) (q : Int32) (hf : m_far_40 x4 y0 S = some q) : XM G m0 mX4_far 1 S (some (.int q)) S 40 [(4, .int x4)] [.int y0] S := by
  intro h N Z
  unfold m_far_40 at hf
  refine X.iload dX4_far_40 0 rfl ?_
  refine X.if_ge (tgt := 52) dX4_far_42 (by decide) (fun c42 => ?_) (fun c42 => ?_)
  · have hf := if_t c42 hf
    refine X.iload dX4_far_52 0 rfl ?_
    refine X.iadd dX4_far_54 ?_
    obtain rfl := Option.some.inj hf
    exact X.iret dX4_far_55 rfl rfl rfl
  · have hf := if_f c42 hf
    refine X.iconst (v := 0) dX4_far_45 (by decide) ?_
    refine X.iload dX4_far_46 0 rfl ?_
    refine X.isub dX4_far_48 ?_
    refine X.goto (tgt := 54) dX4_far_49 (by decide) ?_
    refine X.iadd dX4_far_54 ?_
    obtain rfl := Option.some.inj hf
    exact X.iret dX4_far_55 rfl rfl rfl
def m_far (x1 : Int32) (x2 : Int32) (S : MS) : Option Int32 :=
  if (S.1 1) = 0 then none else
  if (S.1 1) = 0 then none else
  if (S.1 1) = 0 then none else
  if (S.1 1) = 0 then none else
  if 0 ≤ ((x1 - x1 / (S.1 1) * (S.1 1)) - (x2 - x2 / (S.1 1) * (S.1 1))) then
    m_far_40 (((x1 / (S.1 1)) - (x2 / (S.1 1)))) (((x1 - x1 / (S.1 1) * (S.1 1)) - (x2 - x2 / (S.1 1) * (S.1 1)))) S
  else
    m_far_40 (((x1 / (S.1 1)) - (x2 / (S.1 1)))) (((0 : Int32) - ((x1 - x1 / (S.1 1) * (S.1 1)) - (x2 - x2 / (S.1 1) * (S.1 1))))) S
theorem w_far {G : xG} {m0 : Nat} {x1 : Int32} {x2 : Int32} {S : MS} {q : Int32} (hf : m_far x1 x2 S = some q) : CtM G m0 mX4_far 1 S [.ref m0, .int x1, .int x2] (some (.int q)) S := by
  intro h N Z
  refine Ct.of (by decide +kernel) rfl (Nat.le_of_ble_eq_true rfl) (show Xr G _ 0 [(0, .ref m0), (1, .int x1), (2, .int x2)] [] _ from ?_)
  unfold m_far at hf
  refine X.iload_n dX4_far_0 rfl 1 rfl ?_
  refine X.aload_n dX4_far_1 rfl 0 rfl ?_
  refine M.get (v := .int (S.1 1)) dX4_far_2 fX4_7 (Nat.le_of_ble_eq_true rfl) rfl ?_
  obtain ⟨c5, hf⟩ := if_n hf
  refine X.irem dX4_far_5 c5 ?_
  refine X.iload_n dX4_far_6 rfl 2 rfl ?_
  refine X.aload_n dX4_far_7 rfl 0 rfl ?_
  refine M.get (v := .int (S.1 1)) dX4_far_8 fX4_7 (Nat.le_of_ble_eq_true rfl) rfl ?_
  obtain ⟨c11, hf⟩ := if_n hf
  refine X.irem dX4_far_11 c11 ?_
  refine X.isub dX4_far_12 ?_
  refine X.istore_n (L' := [(3, .int ((x1 - x1 / (S.1 1) * (S.1 1)) - (x2 - x2 / (S.1 1) * (S.1 1)))), (0, .ref m0), (1, .int x1), (2, .int x2)]) dX4_far_13 rfl (Nat.le_of_ble_eq_true rfl) rfl ?_
  refine X.iload_n dX4_far_14 rfl 2 rfl ?_
  refine X.aload_n dX4_far_15 rfl 1 rfl ?_
  refine M.get (v := .int (S.1 1)) dX4_far_16 fX4_7 (Nat.le_of_ble_eq_true rfl) rfl ?_
  obtain ⟨c19, hf⟩ := if_n hf
  refine X.idiv dX4_far_19 c19 ?_
  refine X.iload_n dX4_far_20 rfl 3 rfl ?_
  refine X.aload_n dX4_far_21 rfl 1 rfl ?_
  refine M.get (v := .int (S.1 1)) dX4_far_22 fX4_7 (Nat.le_of_ble_eq_true rfl) rfl ?_
  obtain ⟨c25, hf⟩ := if_n hf
  refine X.idiv dX4_far_25 c25 ?_
  refine X.isub dX4_far_26 ?_
  refine X.istore (L' := [(4, .int ((x1 / (S.1 1)) - (x2 / (S.1 1)))), (3, .int ((x1 - x1 / (S.1 1) * (S.1 1)) - (x2 - x2 / (S.1 1) * (S.1 1)))), (0, .ref m0), (1, .int x1), (2, .int x2)]) dX4_far_27 (Nat.le_of_ble_eq_true rfl) rfl ?_
  refine X.iload_n dX4_far_29 rfl 1 rfl ?_
  refine X.if_ge (tgt := 39) dX4_far_30 (by decide) (fun c30 => ?_) (fun c30 => ?_)
  · have hf := if_t c30 hf
    refine X.iload_n dX4_far_39 rfl 1 rfl ?_
    refine X.sub [0] (L' := [(4, .int ((x1 / (S.1 1)) - (x2 / (S.1 1))))]) rfl ?_
    exact m_far_40_ok _ _ _ _ hf h N Z
  · have hf := if_f c30 hf
    refine X.iconst (v := 0) dX4_far_33 (by decide) ?_
    refine X.iload_n dX4_far_34 rfl 1 rfl ?_
    refine X.isub dX4_far_35 ?_
    refine X.goto (tgt := 40) dX4_far_36 (by decide) ?_
    refine X.sub [0] (L' := [(4, .int ((x1 / (S.1 1)) - (x2 / (S.1 1))))]) rfl ?_
    exact m_far_40_ok _ _ _ _ hf h N Z
theorem cX4_324 : xCV RX4 324 mX4_far 2 := ⟨lw_V q1955 q1957 qs90 q127 q1958, rfl, ⟨by decide +kernel, by decide +kernel, by decide +kernel⟩, Nat.le_of_ble_eq_true rfl⟩
/-! besideOf -/
abbrev cX4_besideOf : ByteArray := prog_12_method_53_code
def yX4_besideOf : MethodName := ⟨RX4, "besideOf", "(IIZ)I"⟩
def dkwX4_besideOf_4 : List UInt8 := [167, 255, 169, 21, 4, 172]
abbrev dktX4_besideOf_4 : List UInt8 := dkwX4_besideOf_4 ++ []
def dkwX4_besideOf_3 : List UInt8 := [160, 0, 7, 4, 167, 0, 4, 3, 29, 160, 0, 7, 4, 167, 0, 4, 3, 96, 54, 4, 132, 5, 1]
abbrev dktX4_besideOf_3 : List UInt8 := dkwX4_besideOf_3 ++ dktX4_besideOf_4
def dkwX4_besideOf_2 : List UInt8 := [42, 180, 0, 69, 27, 16, 61, 96, 21, 5, 96, 46, 42, 180, 0, 69, 27, 16, 61, 96, 28, 96, 46]
abbrev dktX4_besideOf_2 : List UInt8 := dkwX4_besideOf_2 ++ dktX4_besideOf_3
def dkwX4_besideOf_1 : List UInt8 := [160, 0, 67, 42, 180, 0, 69, 27, 16, 61, 96, 21, 5, 96, 46, 2, 160, 0, 6, 167, 0, 48, 21, 4]
abbrev dktX4_besideOf_1 : List UInt8 := dkwX4_besideOf_1 ++ dktX4_besideOf_2
def dkwX4_besideOf_0 : List UInt8 := [3, 54, 4, 3, 54, 5, 21, 5, 42, 182, 1, 65, 162, 0, 84, 42, 28, 21, 5, 182, 1, 68, 4]
abbrev dktX4_besideOf_0 : List UInt8 := dkwX4_besideOf_0 ++ dktX4_besideOf_1
theorem dksX4_besideOf_0 : cX4_besideOf.data.toList.drop 0 = dktX4_besideOf_0 := by decide +kernel
theorem dksX4_besideOf_1 : cX4_besideOf.data.toList.drop 23 = dktX4_besideOf_1 := dk_seg dksX4_besideOf_0 23 rfl rfl
theorem dksX4_besideOf_2 : cX4_besideOf.data.toList.drop 47 = dktX4_besideOf_2 := dk_seg dksX4_besideOf_1 24 rfl rfl
theorem dksX4_besideOf_3 : cX4_besideOf.data.toList.drop 70 = dktX4_besideOf_3 := dk_seg dksX4_besideOf_2 23 rfl rfl
theorem dksX4_besideOf_4 : cX4_besideOf.data.toList.drop 93 = dktX4_besideOf_4 := dk_seg dksX4_besideOf_3 23 rfl rfl
theorem dX4_besideOf_0 : decode cX4_besideOf 0 = .ok (.iconst 0, 1) := dk_3 (dk_at dksX4_besideOf_0 0 rfl rfl)
theorem dX4_besideOf_1 : decode cX4_besideOf 1 = .ok (.istore 4, 2) := dk_54 4 (dk_at dksX4_besideOf_0 1 rfl rfl)
theorem dX4_besideOf_3 : decode cX4_besideOf 3 = .ok (.iconst 0, 1) := dk_3 (dk_at dksX4_besideOf_0 3 rfl rfl)
theorem dX4_besideOf_4 : decode cX4_besideOf 4 = .ok (.istore 5, 2) := dk_54 5 (dk_at dksX4_besideOf_0 4 rfl rfl)
theorem dX4_besideOf_6 : decode cX4_besideOf 6 = .ok (.iload 5, 2) := dk_21 5 (dk_at dksX4_besideOf_0 6 rfl rfl)
theorem dX4_besideOf_8 : decode cX4_besideOf 8 = .ok (.aload_n 0, 1) := dk_42 (dk_at dksX4_besideOf_0 8 rfl rfl)
theorem dX4_besideOf_9 : decode cX4_besideOf 9 = .ok (.invokevirtual 321, 3) := dk_182 1 65 (dk_at dksX4_besideOf_0 9 rfl rfl)
theorem dX4_besideOf_12 : decode cX4_besideOf 12 = .ok (.if_icmp .ge 84, 3) := dk_162 0 84 (dk_at dksX4_besideOf_0 12 rfl rfl)
theorem dX4_besideOf_15 : decode cX4_besideOf 15 = .ok (.aload_n 0, 1) := dk_42 (dk_at dksX4_besideOf_0 15 rfl rfl)
theorem dX4_besideOf_16 : decode cX4_besideOf 16 = .ok (.iload_n 2, 1) := dk_28 (dk_at dksX4_besideOf_0 16 rfl rfl)
theorem dX4_besideOf_17 : decode cX4_besideOf 17 = .ok (.iload 5, 2) := dk_21 5 (dk_at dksX4_besideOf_0 17 rfl rfl)
theorem dX4_besideOf_19 : decode cX4_besideOf 19 = .ok (.invokevirtual 324, 3) := dk_182 1 68 (dk_at dksX4_besideOf_0 19 rfl rfl)
theorem dX4_besideOf_22 : decode cX4_besideOf 22 = .ok (.iconst 1, 1) := dk_4 (dk_at dksX4_besideOf_0 22 rfl rfl)
theorem dX4_besideOf_23 : decode cX4_besideOf 23 = .ok (.if_icmp .ne 67, 3) := dk_160 0 67 (dk_at dksX4_besideOf_1 0 rfl rfl)
theorem dX4_besideOf_26 : decode cX4_besideOf 26 = .ok (.aload_n 0, 1) := dk_42 (dk_at dksX4_besideOf_1 3 rfl rfl)
theorem dX4_besideOf_27 : decode cX4_besideOf 27 = .ok (.getfield 69, 3) := dk_180 0 69 (dk_at dksX4_besideOf_1 4 rfl rfl)
theorem dX4_besideOf_30 : decode cX4_besideOf 30 = .ok (.iload_n 1, 1) := dk_27 (dk_at dksX4_besideOf_1 7 rfl rfl)
theorem dX4_besideOf_31 : decode cX4_besideOf 31 = .ok (.bipush 61, 2) := dk_16 61 (dk_at dksX4_besideOf_1 8 rfl rfl)
theorem dX4_besideOf_33 : decode cX4_besideOf 33 = .ok (.iadd, 1) := dk_96 (dk_at dksX4_besideOf_1 10 rfl rfl)
theorem dX4_besideOf_34 : decode cX4_besideOf 34 = .ok (.iload 5, 2) := dk_21 5 (dk_at dksX4_besideOf_1 11 rfl rfl)
theorem dX4_besideOf_36 : decode cX4_besideOf 36 = .ok (.iadd, 1) := dk_96 (dk_at dksX4_besideOf_1 13 rfl rfl)
theorem dX4_besideOf_37 : decode cX4_besideOf 37 = .ok (.iaload, 1) := dk_46 (dk_at dksX4_besideOf_1 14 rfl rfl)
theorem dX4_besideOf_38 : decode cX4_besideOf 38 = .ok (.iconst (-1), 1) := dk_2 (dk_at dksX4_besideOf_1 15 rfl rfl)
theorem dX4_besideOf_39 : decode cX4_besideOf 39 = .ok (.if_icmp .ne 6, 3) := dk_160 0 6 (dk_at dksX4_besideOf_1 16 rfl rfl)
theorem dX4_besideOf_42 : decode cX4_besideOf 42 = .ok (.goto 48, 3) := dk_167 0 48 (dk_at dksX4_besideOf_1 19 rfl rfl)
theorem dX4_besideOf_45 : decode cX4_besideOf 45 = .ok (.iload 4, 2) := dk_21 4 (dk_at dksX4_besideOf_1 22 rfl rfl)
theorem dX4_besideOf_47 : decode cX4_besideOf 47 = .ok (.aload_n 0, 1) := dk_42 (dk_at dksX4_besideOf_2 0 rfl rfl)
theorem dX4_besideOf_48 : decode cX4_besideOf 48 = .ok (.getfield 69, 3) := dk_180 0 69 (dk_at dksX4_besideOf_2 1 rfl rfl)
theorem dX4_besideOf_51 : decode cX4_besideOf 51 = .ok (.iload_n 1, 1) := dk_27 (dk_at dksX4_besideOf_2 4 rfl rfl)
theorem dX4_besideOf_52 : decode cX4_besideOf 52 = .ok (.bipush 61, 2) := dk_16 61 (dk_at dksX4_besideOf_2 5 rfl rfl)
theorem dX4_besideOf_54 : decode cX4_besideOf 54 = .ok (.iadd, 1) := dk_96 (dk_at dksX4_besideOf_2 7 rfl rfl)
theorem dX4_besideOf_55 : decode cX4_besideOf 55 = .ok (.iload 5, 2) := dk_21 5 (dk_at dksX4_besideOf_2 8 rfl rfl)
theorem dX4_besideOf_57 : decode cX4_besideOf 57 = .ok (.iadd, 1) := dk_96 (dk_at dksX4_besideOf_2 10 rfl rfl)
theorem dX4_besideOf_58 : decode cX4_besideOf 58 = .ok (.iaload, 1) := dk_46 (dk_at dksX4_besideOf_2 11 rfl rfl)
theorem dX4_besideOf_59 : decode cX4_besideOf 59 = .ok (.aload_n 0, 1) := dk_42 (dk_at dksX4_besideOf_2 12 rfl rfl)
theorem dX4_besideOf_60 : decode cX4_besideOf 60 = .ok (.getfield 69, 3) := dk_180 0 69 (dk_at dksX4_besideOf_2 13 rfl rfl)
theorem dX4_besideOf_63 : decode cX4_besideOf 63 = .ok (.iload_n 1, 1) := dk_27 (dk_at dksX4_besideOf_2 16 rfl rfl)
theorem dX4_besideOf_64 : decode cX4_besideOf 64 = .ok (.bipush 61, 2) := dk_16 61 (dk_at dksX4_besideOf_2 17 rfl rfl)
theorem dX4_besideOf_66 : decode cX4_besideOf 66 = .ok (.iadd, 1) := dk_96 (dk_at dksX4_besideOf_2 19 rfl rfl)
theorem dX4_besideOf_67 : decode cX4_besideOf 67 = .ok (.iload_n 2, 1) := dk_28 (dk_at dksX4_besideOf_2 20 rfl rfl)
theorem dX4_besideOf_68 : decode cX4_besideOf 68 = .ok (.iadd, 1) := dk_96 (dk_at dksX4_besideOf_2 21 rfl rfl)
theorem dX4_besideOf_69 : decode cX4_besideOf 69 = .ok (.iaload, 1) := dk_46 (dk_at dksX4_besideOf_2 22 rfl rfl)
theorem dX4_besideOf_70 : decode cX4_besideOf 70 = .ok (.if_icmp .ne 7, 3) := dk_160 0 7 (dk_at dksX4_besideOf_3 0 rfl rfl)
theorem dX4_besideOf_73 : decode cX4_besideOf 73 = .ok (.iconst 1, 1) := dk_4 (dk_at dksX4_besideOf_3 3 rfl rfl)
theorem dX4_besideOf_74 : decode cX4_besideOf 74 = .ok (.goto 4, 3) := dk_167 0 4 (dk_at dksX4_besideOf_3 4 rfl rfl)
theorem dX4_besideOf_77 : decode cX4_besideOf 77 = .ok (.iconst 0, 1) := dk_3 (dk_at dksX4_besideOf_3 7 rfl rfl)
theorem dX4_besideOf_78 : decode cX4_besideOf 78 = .ok (.iload_n 3, 1) := dk_29 (dk_at dksX4_besideOf_3 8 rfl rfl)
theorem dX4_besideOf_79 : decode cX4_besideOf 79 = .ok (.if_icmp .ne 7, 3) := dk_160 0 7 (dk_at dksX4_besideOf_3 9 rfl rfl)
theorem dX4_besideOf_82 : decode cX4_besideOf 82 = .ok (.iconst 1, 1) := dk_4 (dk_at dksX4_besideOf_3 12 rfl rfl)
theorem dX4_besideOf_83 : decode cX4_besideOf 83 = .ok (.goto 4, 3) := dk_167 0 4 (dk_at dksX4_besideOf_3 13 rfl rfl)
theorem dX4_besideOf_86 : decode cX4_besideOf 86 = .ok (.iconst 0, 1) := dk_3 (dk_at dksX4_besideOf_3 16 rfl rfl)
theorem dX4_besideOf_87 : decode cX4_besideOf 87 = .ok (.iadd, 1) := dk_96 (dk_at dksX4_besideOf_3 17 rfl rfl)
theorem dX4_besideOf_88 : decode cX4_besideOf 88 = .ok (.istore 4, 2) := dk_54 4 (dk_at dksX4_besideOf_3 18 rfl rfl)
theorem dX4_besideOf_90 : decode cX4_besideOf 90 = .ok (.iinc 5 1, 3) := dk_132 5 1 (dk_at dksX4_besideOf_3 20 rfl rfl)
theorem dX4_besideOf_93 : decode cX4_besideOf 93 = .ok (.goto (-87), 3) := dk_167 255 169 (dk_at dksX4_besideOf_4 0 rfl rfl)
theorem dX4_besideOf_96 : decode cX4_besideOf 96 = .ok (.iload 4, 2) := dk_21 4 (dk_at dksX4_besideOf_4 3 rfl rfl)
theorem dX4_besideOf_98 : decode cX4_besideOf 98 = .ok (.ireturn, 1) := dk_172 (dk_at dksX4_besideOf_4 5 rfl rfl)
abbrev mX4_besideOf : xM := (yX4_besideOf, cX4_besideOf, 6, (some .int), [])
def m_besideOf_90 (k6 : Int32 → Int32 → Int32 → Int32 → Int32 → MS → Option Int32) (x1 : Int32) (x2 : Int32) (x3 : Int32) (x4 : Int32) (x5 : Int32) (S : MS) : Option Int32 :=
  k6 x1 x2 x3 x4 ((x5 + 1)) S
theorem m_besideOf_90_ok {G : xG} {m0 : Nat} {k6 : Int32 → Int32 → Int32 → Int32 → Int32 → MS → Option Int32} (hk6 : ∀ (x1 : Int32) (x2 : Int32) (x3 : Int32) (x4 : Int32) (x5 : Int32) (S : MS) (q : Int32), k6 x1 x2 x3 x4 x5 S = some q → XM G m0 mX4_besideOf 2 S (some (.int q)) S 6 [(0, .ref m0), (1, .int x1), (2, .int x2), (3, .int x3), (4, .int x4), (5, .int x5)] [] S) (x1 : Int32) (x2 : Int32) (x3 : Int32) (x4 : Int32) (x5 : Int32) (S : MS) (q : Int32) (hf : m_besideOf_90 k6 x1 x2 x3 x4 x5 S = some q) : XM G m0 mX4_besideOf 2 S (some (.int q)) S 90 [(0, .ref m0), (1, .int x1), (2, .int x2), (3, .int x3), (4, .int x4), (5, .int x5)] [] S := by
  intro h N Z
  unfold m_besideOf_90 at hf
  refine X.iinc (v := (x5 + 1)) (L' := [(5, .int (x5 + 1)), (0, .ref m0), (1, .int x1), (2, .int x2), (3, .int x3), (4, .int x4)]) dX4_besideOf_90 5 rfl rfl (Nat.le_of_ble_eq_true rfl) rfl ?_
  refine X.goto (tgt := 6) dX4_besideOf_93 (by decide) ?_
  refine X.sub [1, 2, 3, 4, 5, 0] (L' := [(0, .ref m0), (1, .int x1), (2, .int x2), (3, .int x3), (4, .int x4), (5, .int (x5 + 1))]) rfl ?_
  exact hk6 _ _ _ _ _ _ _ hf h N Z
def m_besideOf_87 (k6 : Int32 → Int32 → Int32 → Int32 → Int32 → MS → Option Int32) (x1 : Int32) (x2 : Int32) (x3 : Int32) (x5 : Int32) (y0 : Int32) (y1 : Int32) (S : MS) : Option Int32 :=
  m_besideOf_90 k6 x1 x2 x3 ((y1 + y0)) x5 S
theorem m_besideOf_87_ok {G : xG} {m0 : Nat} {k6 : Int32 → Int32 → Int32 → Int32 → Int32 → MS → Option Int32} (hk6 : ∀ (x1 : Int32) (x2 : Int32) (x3 : Int32) (x4 : Int32) (x5 : Int32) (S : MS) (q : Int32), k6 x1 x2 x3 x4 x5 S = some q → XM G m0 mX4_besideOf 2 S (some (.int q)) S 6 [(0, .ref m0), (1, .int x1), (2, .int x2), (3, .int x3), (4, .int x4), (5, .int x5)] [] S) (x1 : Int32) (x2 : Int32) (x3 : Int32) (x5 : Int32) (y0 : Int32) (y1 : Int32) (S : MS) (q : Int32) (hf : m_besideOf_87 k6 x1 x2 x3 x5 y0 y1 S = some q) : XM G m0 mX4_besideOf 2 S (some (.int q)) S 87 [(0, .ref m0), (1, .int x1), (2, .int x2), (3, .int x3), (5, .int x5)] [.int y0, .int y1] S := by
  intro h N Z
  unfold m_besideOf_87 at hf
  refine X.iadd dX4_besideOf_87 ?_
  refine X.istore (L' := [(4, .int (y1 + y0)), (0, .ref m0), (1, .int x1), (2, .int x2), (3, .int x3), (5, .int x5)]) dX4_besideOf_88 (Nat.le_of_ble_eq_true rfl) rfl ?_
  refine X.sub [1, 2, 3, 4, 0, 5] (L' := [(0, .ref m0), (1, .int x1), (2, .int x2), (3, .int x3), (4, .int (y1 + y0)), (5, .int x5)]) rfl ?_
  exact m_besideOf_90_ok hk6 _ _ _ _ _ _ _ hf h N Z
def m_besideOf_78 (k6 : Int32 → Int32 → Int32 → Int32 → Int32 → MS → Option Int32) (x1 : Int32) (x2 : Int32) (x3 : Int32) (x5 : Int32) (y0 : Int32) (y1 : Int32) (S : MS) : Option Int32 :=
  if y0 = x3 then
    m_besideOf_87 k6 x1 x2 x3 x5 ((1 : Int32)) y1 S
  else
    m_besideOf_87 k6 x1 x2 x3 x5 ((0 : Int32)) y1 S
theorem m_besideOf_78_ok {G : xG} {m0 : Nat} {k6 : Int32 → Int32 → Int32 → Int32 → Int32 → MS → Option Int32} (hk6 : ∀ (x1 : Int32) (x2 : Int32) (x3 : Int32) (x4 : Int32) (x5 : Int32) (S : MS) (q : Int32), k6 x1 x2 x3 x4 x5 S = some q → XM G m0 mX4_besideOf 2 S (some (.int q)) S 6 [(0, .ref m0), (1, .int x1), (2, .int x2), (3, .int x3), (4, .int x4), (5, .int x5)] [] S) (x1 : Int32) (x2 : Int32) (x3 : Int32) (x5 : Int32) (y0 : Int32) (y1 : Int32) (S : MS) (q : Int32) (hf : m_besideOf_78 k6 x1 x2 x3 x5 y0 y1 S = some q) : XM G m0 mX4_besideOf 2 S (some (.int q)) S 78 [(0, .ref m0), (1, .int x1), (2, .int x2), (3, .int x3), (5, .int x5)] [.int y0, .int y1] S := by
  intro h N Z
  unfold m_besideOf_78 at hf
  refine X.iload_n dX4_besideOf_78 rfl 3 rfl ?_
  refine X.icmp_ne (tgt := 86) dX4_besideOf_79 (by decide) (fun c79 => ?_) (fun c79 => ?_)
  · have hf := if_f c79 hf
    refine X.iconst (v := 0) dX4_besideOf_86 (by decide) ?_
    refine X.sub [0, 1, 2, 3, 4] (L' := [(0, .ref m0), (1, .int x1), (2, .int x2), (3, .int x3), (5, .int x5)]) rfl ?_
    exact m_besideOf_87_ok hk6 _ _ _ _ _ _ _ _ hf h N Z
  · have hf := if_t c79 hf
    refine X.iconst (v := 1) dX4_besideOf_82 (by decide) ?_
    refine X.goto (tgt := 87) dX4_besideOf_83 (by decide) ?_
    refine X.sub [0, 1, 2, 3, 4] (L' := [(0, .ref m0), (1, .int x1), (2, .int x2), (3, .int x3), (5, .int x5)]) rfl ?_
    exact m_besideOf_87_ok hk6 _ _ _ _ _ _ _ _ hf h N Z
def m_besideOf_6_b  (k6 : Int32 → Int32 → Int32 → Int32 → Int32 → MS → Option Int32) (x1 : Int32) (x2 : Int32) (x3 : Int32) (x4 : Int32) (x5 : Int32) (S : MS) : Option Int32 :=
  (m_cells S).bind fun q9 =>
  if q9 ≤ x5 then
    some x4
  else
    (m_far x2 x5 S).bind fun q19 =>
    if q19 = (1 : Int32) then
      (rdA S 13 ((x1 + (61 : Int32)) + x5)).bind fun v37 =>
      if v37 = (-1 : Int32) then
        m_besideOf_90 k6 x1 x2 x3 x4 x5 S
      else
        (rdA S 13 ((x1 + (61 : Int32)) + x5)).bind fun v58 =>
        (rdA S 13 ((x1 + (61 : Int32)) + x2)).bind fun v69 =>
        if v58 = v69 then
          m_besideOf_78 k6 x1 x2 x3 x5 ((1 : Int32)) x4 S
        else
          m_besideOf_78 k6 x1 x2 x3 x5 ((0 : Int32)) x4 S
    else
      m_besideOf_90 k6 x1 x2 x3 x4 x5 S
def m_besideOf_6  : Nat → Int32 → Int32 → Int32 → Int32 → Int32 → MS → Option Int32
  | 0 => fun _ _ _ _ _ _ => none
  | n + 1 => fun x1 x2 x3 x4 x5 S => m_besideOf_6_b (m_besideOf_6 n) x1 x2 x3 x4 x5 S
theorem m_besideOf_6_bok {G : xG} {m0 : Nat}  {k6 : Int32 → Int32 → Int32 → Int32 → Int32 → MS → Option Int32}  (hk6 : ∀ (x1 : Int32) (x2 : Int32) (x3 : Int32) (x4 : Int32) (x5 : Int32) (S : MS) (q : Int32), k6 x1 x2 x3 x4 x5 S = some q → XM G m0 mX4_besideOf 2 S (some (.int q)) S 6 [(0, .ref m0), (1, .int x1), (2, .int x2), (3, .int x3), (4, .int x4), (5, .int x5)] [] S) (x1 : Int32) (x2 : Int32) (x3 : Int32) (x4 : Int32) (x5 : Int32) (S : MS) (q : Int32) (hf : m_besideOf_6_b k6 x1 x2 x3 x4 x5 S = some q) : XM G m0 mX4_besideOf 2 S (some (.int q)) S 6 [(0, .ref m0), (1, .int x1), (2, .int x2), (3, .int x3), (4, .int x4), (5, .int x5)] [] S := by
  intro h N Z
  unfold m_besideOf_6_b at hf
  refine X.iload dX4_besideOf_6 5 rfl ?_
  refine X.aload_n dX4_besideOf_8 rfl 0 rfl ?_
  obtain ⟨q9, h9, hf⟩ := ob hf
  refine X.callVi (As := []) (rest := [.int x5]) dX4_besideOf_9 (w_cells h9 h N Z) cX4_321 rfl rfl (Nat.le_of_ble_eq_true rfl) mh_0 rfl rfl (xD (Nat.le_of_ble_eq_true rfl)) xleN xleN ?_
  refine X.icmp_ge (tgt := 96) dX4_besideOf_12 (by decide) (fun c12 => ?_) (fun c12 => ?_)
  · have hf := if_t c12 hf
    refine X.iload dX4_besideOf_96 4 rfl ?_
    obtain rfl := Option.some.inj hf
    exact X.iret dX4_besideOf_98 rfl rfl rfl
  · have hf := if_f c12 hf
    refine X.aload_n dX4_besideOf_15 rfl 0 rfl ?_
    refine X.iload_n dX4_besideOf_16 rfl 2 rfl ?_
    refine X.iload dX4_besideOf_17 5 rfl ?_
    obtain ⟨q19, h19, hf⟩ := ob hf
    refine X.callVi (As := [.int x2, .int x5]) (rest := []) dX4_besideOf_19 (w_far h19 h N Z) cX4_324 rfl rfl (Nat.le_of_ble_eq_true rfl) mh_0 rfl rfl (xD (Nat.le_of_ble_eq_true rfl)) xleN xleN ?_
    refine X.iconst (v := 1) dX4_besideOf_22 (by decide) ?_
    refine X.icmp_ne (tgt := 90) dX4_besideOf_23 (by decide) (fun c23 => ?_) (fun c23 => ?_)
    · have hf := if_f c23 hf
      refine X.sub [0, 1, 2, 3, 4, 5] (L' := [(0, .ref m0), (1, .int x1), (2, .int x2), (3, .int x3), (4, .int x4), (5, .int x5)]) rfl ?_
      exact m_besideOf_90_ok hk6 _ _ _ _ _ _ _ hf h N Z
    · have hf := if_t c23 hf
      refine X.aload_n dX4_besideOf_26 rfl 0 rfl ?_
      refine M.get (v := .ref (m0 + 13)) dX4_besideOf_27 fX4_69 (Nat.le_of_ble_eq_true rfl) rfl ?_
      refine X.iload_n dX4_besideOf_30 rfl 1 rfl ?_
      refine X.bipush (v := 61) dX4_besideOf_31 (by decide) ?_
      refine X.iadd dX4_besideOf_33 ?_
      refine X.iload dX4_besideOf_34 5 rfl ?_
      refine X.iadd dX4_besideOf_36 ?_
      obtain ⟨v37, h37, hf⟩ := ob hf
      refine M.iald dX4_besideOf_37 rfl h37 ?_
      refine X.iconst (v := -1) dX4_besideOf_38 (by decide) ?_
      refine X.icmp_ne (tgt := 45) dX4_besideOf_39 (by decide) (fun c39 => ?_) (fun c39 => ?_)
      · have hf := if_f c39 hf
        refine X.iload dX4_besideOf_45 4 rfl ?_
        refine X.aload_n dX4_besideOf_47 rfl 0 rfl ?_
        refine M.get (v := .ref (m0 + 13)) dX4_besideOf_48 fX4_69 (Nat.le_of_ble_eq_true rfl) rfl ?_
        refine X.iload_n dX4_besideOf_51 rfl 1 rfl ?_
        refine X.bipush (v := 61) dX4_besideOf_52 (by decide) ?_
        refine X.iadd dX4_besideOf_54 ?_
        refine X.iload dX4_besideOf_55 5 rfl ?_
        refine X.iadd dX4_besideOf_57 ?_
        obtain ⟨v58, h58, hf⟩ := ob hf
        refine M.iald dX4_besideOf_58 rfl h58 ?_
        refine X.aload_n dX4_besideOf_59 rfl 0 rfl ?_
        refine M.get (v := .ref (m0 + 13)) dX4_besideOf_60 fX4_69 (Nat.le_of_ble_eq_true rfl) rfl ?_
        refine X.iload_n dX4_besideOf_63 rfl 1 rfl ?_
        refine X.bipush (v := 61) dX4_besideOf_64 (by decide) ?_
        refine X.iadd dX4_besideOf_66 ?_
        refine X.iload_n dX4_besideOf_67 rfl 2 rfl ?_
        refine X.iadd dX4_besideOf_68 ?_
        obtain ⟨v69, h69, hf⟩ := ob hf
        refine M.iald dX4_besideOf_69 rfl h69 ?_
        refine X.icmp_ne (tgt := 77) dX4_besideOf_70 (by decide) (fun c70 => ?_) (fun c70 => ?_)
        · have hf := if_f c70 hf
          refine X.iconst (v := 0) dX4_besideOf_77 (by decide) ?_
          refine X.sub [0, 1, 2, 3, 5] (L' := [(0, .ref m0), (1, .int x1), (2, .int x2), (3, .int x3), (5, .int x5)]) rfl ?_
          exact m_besideOf_78_ok hk6 _ _ _ _ _ _ _ _ hf h N Z
        · have hf := if_t c70 hf
          refine X.iconst (v := 1) dX4_besideOf_73 (by decide) ?_
          refine X.goto (tgt := 78) dX4_besideOf_74 (by decide) ?_
          refine X.sub [0, 1, 2, 3, 5] (L' := [(0, .ref m0), (1, .int x1), (2, .int x2), (3, .int x3), (5, .int x5)]) rfl ?_
          exact m_besideOf_78_ok hk6 _ _ _ _ _ _ _ _ hf h N Z
      · have hf := if_t c39 hf
        refine X.goto (tgt := 90) dX4_besideOf_42 (by decide) ?_
        refine X.sub [0, 1, 2, 3, 4, 5] (L' := [(0, .ref m0), (1, .int x1), (2, .int x2), (3, .int x3), (4, .int x4), (5, .int x5)]) rfl ?_
        exact m_besideOf_90_ok hk6 _ _ _ _ _ _ _ hf h N Z
theorem m_besideOf_6_ok {G : xG} {m0 : Nat}   : ∀ (n : Nat) (x1 : Int32) (x2 : Int32) (x3 : Int32) (x4 : Int32) (x5 : Int32) (S : MS) (q : Int32), m_besideOf_6 n x1 x2 x3 x4 x5 S = some q → XM G m0 mX4_besideOf 2 S (some (.int q)) S 6 [(0, .ref m0), (1, .int x1), (2, .int x2), (3, .int x3), (4, .int x4), (5, .int x5)] [] S
  | 0, _, _, _, _, _, _, _, hf => by cases hf
  | n + 1, x1, x2, x3, x4, x5, S, q, hf => m_besideOf_6_bok (m_besideOf_6_ok n) x1 x2 x3 x4 x5 S q hf
def m_besideOf (x1 : Int32) (x2 : Int32) (x3 : Int32) (S : MS) : Option Int32 :=
  m_besideOf_6 FU x1 x2 x3 ((0 : Int32)) ((0 : Int32)) S
theorem w_besideOf {G : xG} {m0 : Nat} {x1 : Int32} {x2 : Int32} {x3 : Int32} {S : MS} {q : Int32} (hf : m_besideOf x1 x2 x3 S = some q) : CtM G m0 mX4_besideOf 2 S [.ref m0, .int x1, .int x2, .int x3] (some (.int q)) S := by
  intro h N Z
  refine Ct.of (by decide +kernel) rfl (Nat.le_of_ble_eq_true rfl) (show Xr G _ 0 [(0, .ref m0), (1, .int x1), (2, .int x2), (3, .int x3)] [] _ from ?_)
  unfold m_besideOf at hf
  refine X.iconst (v := 0) dX4_besideOf_0 (by decide) ?_
  refine X.istore (L' := [(4, .int (0 : Int32)), (0, .ref m0), (1, .int x1), (2, .int x2), (3, .int x3)]) dX4_besideOf_1 (Nat.le_of_ble_eq_true rfl) rfl ?_
  refine X.iconst (v := 0) dX4_besideOf_3 (by decide) ?_
  refine X.istore (L' := [(5, .int (0 : Int32)), (4, .int (0 : Int32)), (0, .ref m0), (1, .int x1), (2, .int x2), (3, .int x3)]) dX4_besideOf_4 (Nat.le_of_ble_eq_true rfl) rfl ?_
  refine X.sub [2, 3, 4, 5, 1, 0] (L' := [(0, .ref m0), (1, .int x1), (2, .int x2), (3, .int x3), (4, .int (0 : Int32)), (5, .int (0 : Int32))]) rfl ?_
  exact m_besideOf_6_ok FU _ _ _ _ _ _ _ hf h N Z
theorem cX4_330 : xCV RX4 330 mX4_besideOf 3 := ⟨lw_V q1963 q1965 qs92 q127 q1966, rfl, ⟨by decide +kernel, by decide +kernel, by decide +kernel⟩, Nat.le_of_ble_eq_true rfl⟩
/-! weatherOf -/
abbrev cX4_weatherOf : ByteArray := prog_12_method_54_code
def yX4_weatherOf : MethodName := ⟨RX4, "weatherOf", "(I)I"⟩
def dkwX4_weatherOf_0 : List UInt8 := [42, 180, 1, 44, 154, 0, 7, 8, 167, 0, 14, 42, 180, 0, 32, 27, 42, 180, 1, 44, 112, 46, 172]
abbrev dktX4_weatherOf_0 : List UInt8 := dkwX4_weatherOf_0 ++ []
theorem dksX4_weatherOf_0 : cX4_weatherOf.data.toList.drop 0 = dktX4_weatherOf_0 := by decide +kernel
theorem dX4_weatherOf_0 : decode cX4_weatherOf 0 = .ok (.aload_n 0, 1) := dk_42 (dk_at dksX4_weatherOf_0 0 rfl rfl)
theorem dX4_weatherOf_1 : decode cX4_weatherOf 1 = .ok (.getfield 300, 3) := dk_180 1 44 (dk_at dksX4_weatherOf_0 1 rfl rfl)
theorem dX4_weatherOf_4 : decode cX4_weatherOf 4 = .ok (.ifCond .ne 7, 3) := dk_154 0 7 (dk_at dksX4_weatherOf_0 4 rfl rfl)
theorem dX4_weatherOf_7 : decode cX4_weatherOf 7 = .ok (.iconst 5, 1) := dk_8 (dk_at dksX4_weatherOf_0 7 rfl rfl)
theorem dX4_weatherOf_8 : decode cX4_weatherOf 8 = .ok (.goto 14, 3) := dk_167 0 14 (dk_at dksX4_weatherOf_0 8 rfl rfl)
theorem dX4_weatherOf_11 : decode cX4_weatherOf 11 = .ok (.aload_n 0, 1) := dk_42 (dk_at dksX4_weatherOf_0 11 rfl rfl)
theorem dX4_weatherOf_12 : decode cX4_weatherOf 12 = .ok (.getfield 32, 3) := dk_180 0 32 (dk_at dksX4_weatherOf_0 12 rfl rfl)
theorem dX4_weatherOf_15 : decode cX4_weatherOf 15 = .ok (.iload_n 1, 1) := dk_27 (dk_at dksX4_weatherOf_0 15 rfl rfl)
theorem dX4_weatherOf_16 : decode cX4_weatherOf 16 = .ok (.aload_n 0, 1) := dk_42 (dk_at dksX4_weatherOf_0 16 rfl rfl)
theorem dX4_weatherOf_17 : decode cX4_weatherOf 17 = .ok (.getfield 300, 3) := dk_180 1 44 (dk_at dksX4_weatherOf_0 17 rfl rfl)
theorem dX4_weatherOf_20 : decode cX4_weatherOf 20 = .ok (.irem, 1) := dk_112 (dk_at dksX4_weatherOf_0 20 rfl rfl)
theorem dX4_weatherOf_21 : decode cX4_weatherOf 21 = .ok (.iaload, 1) := dk_46 (dk_at dksX4_weatherOf_0 21 rfl rfl)
theorem dX4_weatherOf_22 : decode cX4_weatherOf 22 = .ok (.ireturn, 1) := dk_172 (dk_at dksX4_weatherOf_0 22 rfl rfl)
abbrev mX4_weatherOf : xM := (yX4_weatherOf, cX4_weatherOf, 2, (some .int), [])
def m_weatherOf (x1 : Int32) (S : MS) : Option Int32 :=
  if (S.1 4) = 0 then
    some (5 : Int32)
  else
    if (S.1 4) = 0 then none else
    (rdA S 2 (x1 - x1 / (S.1 4) * (S.1 4))).bind fun v21 =>
    some v21
theorem w_weatherOf {G : xG} {m0 : Nat} {x1 : Int32} {S : MS} {q : Int32} (hf : m_weatherOf x1 S = some q) : CtM G m0 mX4_weatherOf 1 S [.ref m0, .int x1] (some (.int q)) S := by
  intro h N Z
  refine Ct.of (by decide +kernel) rfl (Nat.le_of_ble_eq_true rfl) (show Xr G _ 0 [(0, .ref m0), (1, .int x1)] [] _ from ?_)
  unfold m_weatherOf at hf
  refine X.aload_n dX4_weatherOf_0 rfl 0 rfl ?_
  refine M.get (v := .int (S.1 4)) dX4_weatherOf_1 fX4_300 (Nat.le_of_ble_eq_true rfl) rfl ?_
  refine X.if_ne (tgt := 11) dX4_weatherOf_4 (by decide) (fun c4 => ?_) (fun c4 => ?_)
  · have hf := if_f c4 hf
    refine X.aload_n dX4_weatherOf_11 rfl 0 rfl ?_
    refine M.get (v := .ref (m0 + 2)) dX4_weatherOf_12 fX4_32 (Nat.le_of_ble_eq_true rfl) rfl ?_
    refine X.iload_n dX4_weatherOf_15 rfl 1 rfl ?_
    refine X.aload_n dX4_weatherOf_16 rfl 0 rfl ?_
    refine M.get (v := .int (S.1 4)) dX4_weatherOf_17 fX4_300 (Nat.le_of_ble_eq_true rfl) rfl ?_
    obtain ⟨c20, hf⟩ := if_n hf
    refine X.irem dX4_weatherOf_20 c20 ?_
    obtain ⟨v21, h21, hf⟩ := ob hf
    refine M.iald dX4_weatherOf_21 rfl h21 ?_
    obtain rfl := Option.some.inj hf
    exact X.iret dX4_weatherOf_22 rfl rfl rfl
  · have hf := if_t c4 hf
    refine X.iconst (v := 5) dX4_weatherOf_7 (by decide) ?_
    refine X.goto (tgt := 22) dX4_weatherOf_8 (by decide) ?_
    obtain rfl := Option.some.inj hf
    exact X.iret dX4_weatherOf_22 rfl rfl rfl
theorem cX4_327 : xCV RX4 327 mX4_weatherOf 1 := ⟨lw_V q1919 q1921 qs82 q127 q1922, rfl, ⟨by decide +kernel, by decide +kernel, by decide +kernel⟩, Nat.le_of_ble_eq_true rfl⟩
/-! growthOf -/
abbrev cX4_growthOf : ByteArray := prog_12_method_55_code
def yX4_growthOf : MethodName := ⟨RX4, "growthOf", "(II)I"⟩
def dkwX4_growthOf_7 : List UInt8 := [21, 4, 42, 180, 0, 69, 27, 16, 31, 96, 28, 96, 46, 184, 1, 84, 172]
abbrev dktX4_growthOf_7 : List UInt8 := dkwX4_growthOf_7 ++ []
def dkwX4_growthOf_6 : List UInt8 := [16, 61, 96, 28, 96, 46, 79, 42, 42, 180, 0, 22, 182, 1, 78, 16, 236, 16, 20, 184, 1, 81, 54, 4]
abbrev dktX4_growthOf_6 : List UInt8 := dkwX4_growthOf_6 ++ dktX4_growthOf_7
def dkwX4_growthOf_5 : List UInt8 := [180, 0, 75, 8, 42, 27, 28, 3, 182, 1, 74, 79, 42, 180, 0, 75, 16, 6, 42, 180, 0, 69, 27]
abbrev dktX4_growthOf_5 : List UInt8 := dkwX4_growthOf_5 ++ dktX4_growthOf_6
def dkwX4_growthOf_4 : List UInt8 := [96, 46, 79, 42, 180, 0, 75, 6, 29, 79, 42, 180, 0, 75, 7, 42, 27, 28, 4, 182, 1, 74, 79, 42]
abbrev dktX4_growthOf_4 : List UInt8 := dkwX4_growthOf_4 ++ dktX4_growthOf_5
def dkwX4_growthOf_3 : List UInt8 := [180, 0, 69, 27, 4, 96, 28, 96, 46, 79, 42, 180, 0, 75, 5, 42, 180, 0, 69, 27, 16, 31, 96, 28]
abbrev dktX4_growthOf_3 : List UInt8 := dkwX4_growthOf_3 ++ dktX4_growthOf_4
def dkwX4_growthOf_2 : List UInt8 := [42, 180, 0, 75, 3, 42, 180, 0, 69, 27, 16, 91, 96, 28, 96, 46, 79, 42, 180, 0, 75, 4, 42]
abbrev dktX4_growthOf_2 : List UInt8 := dkwX4_growthOf_2 ++ dktX4_growthOf_3
def dkwX4_growthOf_1 : List UInt8 := [8, 162, 0, 9, 8, 29, 100, 167, 0, 6, 29, 8, 100, 100, 54, 4, 42, 180, 0, 22, 2, 159, 0, 121]
abbrev dktX4_growthOf_1 : List UInt8 := dkwX4_growthOf_1 ++ dktX4_growthOf_2
def dkwX4_growthOf_0 : List UInt8 := [42, 42, 180, 0, 69, 27, 3, 96, 46, 182, 1, 71, 62, 42, 180, 0, 69, 27, 4, 96, 28, 96, 46, 29]
abbrev dktX4_growthOf_0 : List UInt8 := dkwX4_growthOf_0 ++ dktX4_growthOf_1
theorem dksX4_growthOf_0 : cX4_growthOf.data.toList.drop 0 = dktX4_growthOf_0 := by decide +kernel
theorem dksX4_growthOf_1 : cX4_growthOf.data.toList.drop 24 = dktX4_growthOf_1 := dk_seg dksX4_growthOf_0 24 rfl rfl
theorem dksX4_growthOf_2 : cX4_growthOf.data.toList.drop 48 = dktX4_growthOf_2 := dk_seg dksX4_growthOf_1 24 rfl rfl
theorem dksX4_growthOf_3 : cX4_growthOf.data.toList.drop 71 = dktX4_growthOf_3 := dk_seg dksX4_growthOf_2 23 rfl rfl
theorem dksX4_growthOf_4 : cX4_growthOf.data.toList.drop 95 = dktX4_growthOf_4 := dk_seg dksX4_growthOf_3 24 rfl rfl
theorem dksX4_growthOf_5 : cX4_growthOf.data.toList.drop 119 = dktX4_growthOf_5 := dk_seg dksX4_growthOf_4 24 rfl rfl
theorem dksX4_growthOf_6 : cX4_growthOf.data.toList.drop 142 = dktX4_growthOf_6 := dk_seg dksX4_growthOf_5 23 rfl rfl
theorem dksX4_growthOf_7 : cX4_growthOf.data.toList.drop 166 = dktX4_growthOf_7 := dk_seg dksX4_growthOf_6 24 rfl rfl
theorem dX4_growthOf_0 : decode cX4_growthOf 0 = .ok (.aload_n 0, 1) := dk_42 (dk_at dksX4_growthOf_0 0 rfl rfl)
theorem dX4_growthOf_1 : decode cX4_growthOf 1 = .ok (.aload_n 0, 1) := dk_42 (dk_at dksX4_growthOf_0 1 rfl rfl)
theorem dX4_growthOf_2 : decode cX4_growthOf 2 = .ok (.getfield 69, 3) := dk_180 0 69 (dk_at dksX4_growthOf_0 2 rfl rfl)
theorem dX4_growthOf_5 : decode cX4_growthOf 5 = .ok (.iload_n 1, 1) := dk_27 (dk_at dksX4_growthOf_0 5 rfl rfl)
theorem dX4_growthOf_6 : decode cX4_growthOf 6 = .ok (.iconst 0, 1) := dk_3 (dk_at dksX4_growthOf_0 6 rfl rfl)
theorem dX4_growthOf_7 : decode cX4_growthOf 7 = .ok (.iadd, 1) := dk_96 (dk_at dksX4_growthOf_0 7 rfl rfl)
theorem dX4_growthOf_8 : decode cX4_growthOf 8 = .ok (.iaload, 1) := dk_46 (dk_at dksX4_growthOf_0 8 rfl rfl)
theorem dX4_growthOf_9 : decode cX4_growthOf 9 = .ok (.invokevirtual 327, 3) := dk_182 1 71 (dk_at dksX4_growthOf_0 9 rfl rfl)
theorem dX4_growthOf_12 : decode cX4_growthOf 12 = .ok (.istore_n 3, 1) := dk_62 (dk_at dksX4_growthOf_0 12 rfl rfl)
theorem dX4_growthOf_13 : decode cX4_growthOf 13 = .ok (.aload_n 0, 1) := dk_42 (dk_at dksX4_growthOf_0 13 rfl rfl)
theorem dX4_growthOf_14 : decode cX4_growthOf 14 = .ok (.getfield 69, 3) := dk_180 0 69 (dk_at dksX4_growthOf_0 14 rfl rfl)
theorem dX4_growthOf_17 : decode cX4_growthOf 17 = .ok (.iload_n 1, 1) := dk_27 (dk_at dksX4_growthOf_0 17 rfl rfl)
theorem dX4_growthOf_18 : decode cX4_growthOf 18 = .ok (.iconst 1, 1) := dk_4 (dk_at dksX4_growthOf_0 18 rfl rfl)
theorem dX4_growthOf_19 : decode cX4_growthOf 19 = .ok (.iadd, 1) := dk_96 (dk_at dksX4_growthOf_0 19 rfl rfl)
theorem dX4_growthOf_20 : decode cX4_growthOf 20 = .ok (.iload_n 2, 1) := dk_28 (dk_at dksX4_growthOf_0 20 rfl rfl)
theorem dX4_growthOf_21 : decode cX4_growthOf 21 = .ok (.iadd, 1) := dk_96 (dk_at dksX4_growthOf_0 21 rfl rfl)
theorem dX4_growthOf_22 : decode cX4_growthOf 22 = .ok (.iaload, 1) := dk_46 (dk_at dksX4_growthOf_0 22 rfl rfl)
theorem dX4_growthOf_23 : decode cX4_growthOf 23 = .ok (.iload_n 3, 1) := dk_29 (dk_at dksX4_growthOf_0 23 rfl rfl)
theorem dX4_growthOf_24 : decode cX4_growthOf 24 = .ok (.iconst 5, 1) := dk_8 (dk_at dksX4_growthOf_1 0 rfl rfl)
theorem dX4_growthOf_25 : decode cX4_growthOf 25 = .ok (.if_icmp .ge 9, 3) := dk_162 0 9 (dk_at dksX4_growthOf_1 1 rfl rfl)
theorem dX4_growthOf_28 : decode cX4_growthOf 28 = .ok (.iconst 5, 1) := dk_8 (dk_at dksX4_growthOf_1 4 rfl rfl)
theorem dX4_growthOf_29 : decode cX4_growthOf 29 = .ok (.iload_n 3, 1) := dk_29 (dk_at dksX4_growthOf_1 5 rfl rfl)
theorem dX4_growthOf_30 : decode cX4_growthOf 30 = .ok (.isub, 1) := dk_100 (dk_at dksX4_growthOf_1 6 rfl rfl)
theorem dX4_growthOf_31 : decode cX4_growthOf 31 = .ok (.goto 6, 3) := dk_167 0 6 (dk_at dksX4_growthOf_1 7 rfl rfl)
theorem dX4_growthOf_34 : decode cX4_growthOf 34 = .ok (.iload_n 3, 1) := dk_29 (dk_at dksX4_growthOf_1 10 rfl rfl)
theorem dX4_growthOf_35 : decode cX4_growthOf 35 = .ok (.iconst 5, 1) := dk_8 (dk_at dksX4_growthOf_1 11 rfl rfl)
theorem dX4_growthOf_36 : decode cX4_growthOf 36 = .ok (.isub, 1) := dk_100 (dk_at dksX4_growthOf_1 12 rfl rfl)
theorem dX4_growthOf_37 : decode cX4_growthOf 37 = .ok (.isub, 1) := dk_100 (dk_at dksX4_growthOf_1 13 rfl rfl)
theorem dX4_growthOf_38 : decode cX4_growthOf 38 = .ok (.istore 4, 2) := dk_54 4 (dk_at dksX4_growthOf_1 14 rfl rfl)
theorem dX4_growthOf_40 : decode cX4_growthOf 40 = .ok (.aload_n 0, 1) := dk_42 (dk_at dksX4_growthOf_1 16 rfl rfl)
theorem dX4_growthOf_41 : decode cX4_growthOf 41 = .ok (.getfield 22, 3) := dk_180 0 22 (dk_at dksX4_growthOf_1 17 rfl rfl)
theorem dX4_growthOf_44 : decode cX4_growthOf 44 = .ok (.iconst (-1), 1) := dk_2 (dk_at dksX4_growthOf_1 20 rfl rfl)
theorem dX4_growthOf_45 : decode cX4_growthOf 45 = .ok (.if_icmp .eq 121, 3) := dk_159 0 121 (dk_at dksX4_growthOf_1 21 rfl rfl)
theorem dX4_growthOf_48 : decode cX4_growthOf 48 = .ok (.aload_n 0, 1) := dk_42 (dk_at dksX4_growthOf_2 0 rfl rfl)
theorem dX4_growthOf_49 : decode cX4_growthOf 49 = .ok (.getfield 75, 3) := dk_180 0 75 (dk_at dksX4_growthOf_2 1 rfl rfl)
theorem dX4_growthOf_52 : decode cX4_growthOf 52 = .ok (.iconst 0, 1) := dk_3 (dk_at dksX4_growthOf_2 4 rfl rfl)
theorem dX4_growthOf_53 : decode cX4_growthOf 53 = .ok (.aload_n 0, 1) := dk_42 (dk_at dksX4_growthOf_2 5 rfl rfl)
theorem dX4_growthOf_54 : decode cX4_growthOf 54 = .ok (.getfield 69, 3) := dk_180 0 69 (dk_at dksX4_growthOf_2 6 rfl rfl)
theorem dX4_growthOf_57 : decode cX4_growthOf 57 = .ok (.iload_n 1, 1) := dk_27 (dk_at dksX4_growthOf_2 9 rfl rfl)
theorem dX4_growthOf_58 : decode cX4_growthOf 58 = .ok (.bipush 91, 2) := dk_16 91 (dk_at dksX4_growthOf_2 10 rfl rfl)
theorem dX4_growthOf_60 : decode cX4_growthOf 60 = .ok (.iadd, 1) := dk_96 (dk_at dksX4_growthOf_2 12 rfl rfl)
theorem dX4_growthOf_61 : decode cX4_growthOf 61 = .ok (.iload_n 2, 1) := dk_28 (dk_at dksX4_growthOf_2 13 rfl rfl)
theorem dX4_growthOf_62 : decode cX4_growthOf 62 = .ok (.iadd, 1) := dk_96 (dk_at dksX4_growthOf_2 14 rfl rfl)
theorem dX4_growthOf_63 : decode cX4_growthOf 63 = .ok (.iaload, 1) := dk_46 (dk_at dksX4_growthOf_2 15 rfl rfl)
theorem dX4_growthOf_64 : decode cX4_growthOf 64 = .ok (.iastore, 1) := dk_79 (dk_at dksX4_growthOf_2 16 rfl rfl)
theorem dX4_growthOf_65 : decode cX4_growthOf 65 = .ok (.aload_n 0, 1) := dk_42 (dk_at dksX4_growthOf_2 17 rfl rfl)
theorem dX4_growthOf_66 : decode cX4_growthOf 66 = .ok (.getfield 75, 3) := dk_180 0 75 (dk_at dksX4_growthOf_2 18 rfl rfl)
theorem dX4_growthOf_69 : decode cX4_growthOf 69 = .ok (.iconst 1, 1) := dk_4 (dk_at dksX4_growthOf_2 21 rfl rfl)
theorem dX4_growthOf_70 : decode cX4_growthOf 70 = .ok (.aload_n 0, 1) := dk_42 (dk_at dksX4_growthOf_2 22 rfl rfl)
theorem dX4_growthOf_71 : decode cX4_growthOf 71 = .ok (.getfield 69, 3) := dk_180 0 69 (dk_at dksX4_growthOf_3 0 rfl rfl)
theorem dX4_growthOf_74 : decode cX4_growthOf 74 = .ok (.iload_n 1, 1) := dk_27 (dk_at dksX4_growthOf_3 3 rfl rfl)
theorem dX4_growthOf_75 : decode cX4_growthOf 75 = .ok (.iconst 1, 1) := dk_4 (dk_at dksX4_growthOf_3 4 rfl rfl)
theorem dX4_growthOf_76 : decode cX4_growthOf 76 = .ok (.iadd, 1) := dk_96 (dk_at dksX4_growthOf_3 5 rfl rfl)
theorem dX4_growthOf_77 : decode cX4_growthOf 77 = .ok (.iload_n 2, 1) := dk_28 (dk_at dksX4_growthOf_3 6 rfl rfl)
theorem dX4_growthOf_78 : decode cX4_growthOf 78 = .ok (.iadd, 1) := dk_96 (dk_at dksX4_growthOf_3 7 rfl rfl)
theorem dX4_growthOf_79 : decode cX4_growthOf 79 = .ok (.iaload, 1) := dk_46 (dk_at dksX4_growthOf_3 8 rfl rfl)
theorem dX4_growthOf_80 : decode cX4_growthOf 80 = .ok (.iastore, 1) := dk_79 (dk_at dksX4_growthOf_3 9 rfl rfl)
theorem dX4_growthOf_81 : decode cX4_growthOf 81 = .ok (.aload_n 0, 1) := dk_42 (dk_at dksX4_growthOf_3 10 rfl rfl)
theorem dX4_growthOf_82 : decode cX4_growthOf 82 = .ok (.getfield 75, 3) := dk_180 0 75 (dk_at dksX4_growthOf_3 11 rfl rfl)
theorem dX4_growthOf_85 : decode cX4_growthOf 85 = .ok (.iconst 2, 1) := dk_5 (dk_at dksX4_growthOf_3 14 rfl rfl)
theorem dX4_growthOf_86 : decode cX4_growthOf 86 = .ok (.aload_n 0, 1) := dk_42 (dk_at dksX4_growthOf_3 15 rfl rfl)
theorem dX4_growthOf_87 : decode cX4_growthOf 87 = .ok (.getfield 69, 3) := dk_180 0 69 (dk_at dksX4_growthOf_3 16 rfl rfl)
theorem dX4_growthOf_90 : decode cX4_growthOf 90 = .ok (.iload_n 1, 1) := dk_27 (dk_at dksX4_growthOf_3 19 rfl rfl)
theorem dX4_growthOf_91 : decode cX4_growthOf 91 = .ok (.bipush 31, 2) := dk_16 31 (dk_at dksX4_growthOf_3 20 rfl rfl)
theorem dX4_growthOf_93 : decode cX4_growthOf 93 = .ok (.iadd, 1) := dk_96 (dk_at dksX4_growthOf_3 22 rfl rfl)
theorem dX4_growthOf_94 : decode cX4_growthOf 94 = .ok (.iload_n 2, 1) := dk_28 (dk_at dksX4_growthOf_3 23 rfl rfl)
theorem dX4_growthOf_95 : decode cX4_growthOf 95 = .ok (.iadd, 1) := dk_96 (dk_at dksX4_growthOf_4 0 rfl rfl)
theorem dX4_growthOf_96 : decode cX4_growthOf 96 = .ok (.iaload, 1) := dk_46 (dk_at dksX4_growthOf_4 1 rfl rfl)
theorem dX4_growthOf_97 : decode cX4_growthOf 97 = .ok (.iastore, 1) := dk_79 (dk_at dksX4_growthOf_4 2 rfl rfl)
theorem dX4_growthOf_98 : decode cX4_growthOf 98 = .ok (.aload_n 0, 1) := dk_42 (dk_at dksX4_growthOf_4 3 rfl rfl)
theorem dX4_growthOf_99 : decode cX4_growthOf 99 = .ok (.getfield 75, 3) := dk_180 0 75 (dk_at dksX4_growthOf_4 4 rfl rfl)
theorem dX4_growthOf_102 : decode cX4_growthOf 102 = .ok (.iconst 3, 1) := dk_6 (dk_at dksX4_growthOf_4 7 rfl rfl)
theorem dX4_growthOf_103 : decode cX4_growthOf 103 = .ok (.iload_n 3, 1) := dk_29 (dk_at dksX4_growthOf_4 8 rfl rfl)
theorem dX4_growthOf_104 : decode cX4_growthOf 104 = .ok (.iastore, 1) := dk_79 (dk_at dksX4_growthOf_4 9 rfl rfl)
theorem dX4_growthOf_105 : decode cX4_growthOf 105 = .ok (.aload_n 0, 1) := dk_42 (dk_at dksX4_growthOf_4 10 rfl rfl)
theorem dX4_growthOf_106 : decode cX4_growthOf 106 = .ok (.getfield 75, 3) := dk_180 0 75 (dk_at dksX4_growthOf_4 11 rfl rfl)
theorem dX4_growthOf_109 : decode cX4_growthOf 109 = .ok (.iconst 4, 1) := dk_7 (dk_at dksX4_growthOf_4 14 rfl rfl)
theorem dX4_growthOf_110 : decode cX4_growthOf 110 = .ok (.aload_n 0, 1) := dk_42 (dk_at dksX4_growthOf_4 15 rfl rfl)
theorem dX4_growthOf_111 : decode cX4_growthOf 111 = .ok (.iload_n 1, 1) := dk_27 (dk_at dksX4_growthOf_4 16 rfl rfl)
theorem dX4_growthOf_112 : decode cX4_growthOf 112 = .ok (.iload_n 2, 1) := dk_28 (dk_at dksX4_growthOf_4 17 rfl rfl)
theorem dX4_growthOf_113 : decode cX4_growthOf 113 = .ok (.iconst 1, 1) := dk_4 (dk_at dksX4_growthOf_4 18 rfl rfl)
theorem dX4_growthOf_114 : decode cX4_growthOf 114 = .ok (.invokevirtual 330, 3) := dk_182 1 74 (dk_at dksX4_growthOf_4 19 rfl rfl)
theorem dX4_growthOf_117 : decode cX4_growthOf 117 = .ok (.iastore, 1) := dk_79 (dk_at dksX4_growthOf_4 22 rfl rfl)
theorem dX4_growthOf_118 : decode cX4_growthOf 118 = .ok (.aload_n 0, 1) := dk_42 (dk_at dksX4_growthOf_4 23 rfl rfl)
theorem dX4_growthOf_119 : decode cX4_growthOf 119 = .ok (.getfield 75, 3) := dk_180 0 75 (dk_at dksX4_growthOf_5 0 rfl rfl)
theorem dX4_growthOf_122 : decode cX4_growthOf 122 = .ok (.iconst 5, 1) := dk_8 (dk_at dksX4_growthOf_5 3 rfl rfl)
theorem dX4_growthOf_123 : decode cX4_growthOf 123 = .ok (.aload_n 0, 1) := dk_42 (dk_at dksX4_growthOf_5 4 rfl rfl)
theorem dX4_growthOf_124 : decode cX4_growthOf 124 = .ok (.iload_n 1, 1) := dk_27 (dk_at dksX4_growthOf_5 5 rfl rfl)
theorem dX4_growthOf_125 : decode cX4_growthOf 125 = .ok (.iload_n 2, 1) := dk_28 (dk_at dksX4_growthOf_5 6 rfl rfl)
theorem dX4_growthOf_126 : decode cX4_growthOf 126 = .ok (.iconst 0, 1) := dk_3 (dk_at dksX4_growthOf_5 7 rfl rfl)
theorem dX4_growthOf_127 : decode cX4_growthOf 127 = .ok (.invokevirtual 330, 3) := dk_182 1 74 (dk_at dksX4_growthOf_5 8 rfl rfl)
theorem dX4_growthOf_130 : decode cX4_growthOf 130 = .ok (.iastore, 1) := dk_79 (dk_at dksX4_growthOf_5 11 rfl rfl)
theorem dX4_growthOf_131 : decode cX4_growthOf 131 = .ok (.aload_n 0, 1) := dk_42 (dk_at dksX4_growthOf_5 12 rfl rfl)
theorem dX4_growthOf_132 : decode cX4_growthOf 132 = .ok (.getfield 75, 3) := dk_180 0 75 (dk_at dksX4_growthOf_5 13 rfl rfl)
theorem dX4_growthOf_135 : decode cX4_growthOf 135 = .ok (.bipush 6, 2) := dk_16 6 (dk_at dksX4_growthOf_5 16 rfl rfl)
theorem dX4_growthOf_137 : decode cX4_growthOf 137 = .ok (.aload_n 0, 1) := dk_42 (dk_at dksX4_growthOf_5 18 rfl rfl)
theorem dX4_growthOf_138 : decode cX4_growthOf 138 = .ok (.getfield 69, 3) := dk_180 0 69 (dk_at dksX4_growthOf_5 19 rfl rfl)
theorem dX4_growthOf_141 : decode cX4_growthOf 141 = .ok (.iload_n 1, 1) := dk_27 (dk_at dksX4_growthOf_5 22 rfl rfl)
theorem dX4_growthOf_142 : decode cX4_growthOf 142 = .ok (.bipush 61, 2) := dk_16 61 (dk_at dksX4_growthOf_6 0 rfl rfl)
theorem dX4_growthOf_144 : decode cX4_growthOf 144 = .ok (.iadd, 1) := dk_96 (dk_at dksX4_growthOf_6 2 rfl rfl)
theorem dX4_growthOf_145 : decode cX4_growthOf 145 = .ok (.iload_n 2, 1) := dk_28 (dk_at dksX4_growthOf_6 3 rfl rfl)
theorem dX4_growthOf_146 : decode cX4_growthOf 146 = .ok (.iadd, 1) := dk_96 (dk_at dksX4_growthOf_6 4 rfl rfl)
theorem dX4_growthOf_147 : decode cX4_growthOf 147 = .ok (.iaload, 1) := dk_46 (dk_at dksX4_growthOf_6 5 rfl rfl)
theorem dX4_growthOf_148 : decode cX4_growthOf 148 = .ok (.iastore, 1) := dk_79 (dk_at dksX4_growthOf_6 6 rfl rfl)
theorem dX4_growthOf_149 : decode cX4_growthOf 149 = .ok (.aload_n 0, 1) := dk_42 (dk_at dksX4_growthOf_6 7 rfl rfl)
theorem dX4_growthOf_150 : decode cX4_growthOf 150 = .ok (.aload_n 0, 1) := dk_42 (dk_at dksX4_growthOf_6 8 rfl rfl)
theorem dX4_growthOf_151 : decode cX4_growthOf 151 = .ok (.getfield 22, 3) := dk_180 0 22 (dk_at dksX4_growthOf_6 9 rfl rfl)
theorem dX4_growthOf_154 : decode cX4_growthOf 154 = .ok (.invokevirtual 334, 3) := dk_182 1 78 (dk_at dksX4_growthOf_6 12 rfl rfl)
theorem dX4_growthOf_157 : decode cX4_growthOf 157 = .ok (.bipush (-20), 2) := dk_16 236 (dk_at dksX4_growthOf_6 15 rfl rfl)
theorem dX4_growthOf_159 : decode cX4_growthOf 159 = .ok (.bipush 20, 2) := dk_16 20 (dk_at dksX4_growthOf_6 17 rfl rfl)
theorem dX4_growthOf_161 : decode cX4_growthOf 161 = .ok (.invokestatic 337, 3) := dk_184 1 81 (dk_at dksX4_growthOf_6 19 rfl rfl)
theorem dX4_growthOf_164 : decode cX4_growthOf 164 = .ok (.istore 4, 2) := dk_54 4 (dk_at dksX4_growthOf_6 22 rfl rfl)
theorem dX4_growthOf_166 : decode cX4_growthOf 166 = .ok (.iload 4, 2) := dk_21 4 (dk_at dksX4_growthOf_7 0 rfl rfl)
theorem dX4_growthOf_168 : decode cX4_growthOf 168 = .ok (.aload_n 0, 1) := dk_42 (dk_at dksX4_growthOf_7 2 rfl rfl)
theorem dX4_growthOf_169 : decode cX4_growthOf 169 = .ok (.getfield 69, 3) := dk_180 0 69 (dk_at dksX4_growthOf_7 3 rfl rfl)
theorem dX4_growthOf_172 : decode cX4_growthOf 172 = .ok (.iload_n 1, 1) := dk_27 (dk_at dksX4_growthOf_7 6 rfl rfl)
theorem dX4_growthOf_173 : decode cX4_growthOf 173 = .ok (.bipush 31, 2) := dk_16 31 (dk_at dksX4_growthOf_7 7 rfl rfl)
theorem dX4_growthOf_175 : decode cX4_growthOf 175 = .ok (.iadd, 1) := dk_96 (dk_at dksX4_growthOf_7 9 rfl rfl)
theorem dX4_growthOf_176 : decode cX4_growthOf 176 = .ok (.iload_n 2, 1) := dk_28 (dk_at dksX4_growthOf_7 10 rfl rfl)
theorem dX4_growthOf_177 : decode cX4_growthOf 177 = .ok (.iadd, 1) := dk_96 (dk_at dksX4_growthOf_7 11 rfl rfl)
theorem dX4_growthOf_178 : decode cX4_growthOf 178 = .ok (.iaload, 1) := dk_46 (dk_at dksX4_growthOf_7 12 rfl rfl)
theorem dX4_growthOf_179 : decode cX4_growthOf 179 = .ok (.invokestatic 340, 3) := dk_184 1 84 (dk_at dksX4_growthOf_7 13 rfl rfl)
theorem dX4_growthOf_182 : decode cX4_growthOf 182 = .ok (.ireturn, 1) := dk_172 (dk_at dksX4_growthOf_7 16 rfl rfl)
abbrev mX4_growthOf : xM := (yX4_growthOf, cX4_growthOf, 5, (some .int), [])
def m_growthOf_166  (x1 : Int32) (x2 : Int32) (x4 : Int32) (S : MS) : Option (Int32 × MS) :=
  (rdA S 13 ((x1 + (31 : Int32)) + x2)).bind fun v178 =>
  (m_lesser x4 v178).bind fun q179 =>
  some (q179, S)
theorem m_growthOf_166_ok {G : xG} {m0 : Nat} {S0 : MS}   (x1 : Int32) (x2 : Int32) (x4 : Int32) (S : MS) (q : (Int32 × MS)) (hf : m_growthOf_166 x1 x2 x4 S = some q) : XM G m0 mX4_growthOf 3 S0 (some (.int q.1)) q.2 166 [(0, .ref m0), (1, .int x1), (2, .int x2), (4, .int x4)] [] S := by
  intro h N Z
  unfold m_growthOf_166 at hf
  refine X.iload dX4_growthOf_166 3 rfl ?_
  refine X.aload_n dX4_growthOf_168 rfl 0 rfl ?_
  refine M.get (v := .ref (m0 + 13)) dX4_growthOf_169 fX4_69 (Nat.le_of_ble_eq_true rfl) rfl ?_
  refine X.iload_n dX4_growthOf_172 rfl 1 rfl ?_
  refine X.bipush (v := 31) dX4_growthOf_173 (by decide) ?_
  refine X.iadd dX4_growthOf_175 ?_
  refine X.iload_n dX4_growthOf_176 rfl 2 rfl ?_
  refine X.iadd dX4_growthOf_177 ?_
  obtain ⟨v178, h178, hf⟩ := ob hf
  refine M.iald dX4_growthOf_178 rfl h178 ?_
  obtain ⟨q179, h179, hf⟩ := ob hf
  refine X.callSi (As := [.int x4, .int v178]) (rest := []) dX4_growthOf_179 (w_lesser h179 _) cX4_340 rfl rfl (Nat.le_of_ble_eq_true rfl) (xD (Nat.le_of_ble_eq_true rfl)) xle.rf xleN ?_
  obtain rfl := Option.some.inj hf
  exact X.iret dX4_growthOf_182 rfl rfl rfl
def m_growthOf_37  (x1 : Int32) (x2 : Int32) (x3 : Int32) (y0 : Int32) (y1 : Int32) (S : MS) : Option (Int32 × MS) :=
  if (S.1 7) = (-1 : Int32) then
    m_growthOf_166 x1 x2 ((y1 - y0)) S
  else
    (rdA S 13 ((x1 + (91 : Int32)) + x2)).bind fun v63 =>
    (wrA S 15 (0 : Int32) v63).bind fun S64 =>
    (rdA S64 13 ((x1 + (1 : Int32)) + x2)).bind fun v79 =>
    (wrA S64 15 (1 : Int32) v79).bind fun S80 =>
    (rdA S80 13 ((x1 + (31 : Int32)) + x2)).bind fun v96 =>
    (wrA S80 15 (2 : Int32) v96).bind fun S97 =>
    (wrA S97 15 (3 : Int32) x3).bind fun S104 =>
    (m_besideOf x1 x2 ((1 : Int32)) S104).bind fun q114 =>
    (wrA S104 15 (4 : Int32) q114).bind fun S117 =>
    (m_besideOf x1 x2 ((0 : Int32)) S117).bind fun q127 =>
    (wrA S117 15 (5 : Int32) q127).bind fun S130 =>
    (rdA S130 13 ((x1 + (61 : Int32)) + x2)).bind fun v147 =>
    (wrA S130 15 (6 : Int32) v147).bind fun S148 =>
    (m_reckons ((S148.1 7)) S148).bind fun q154 =>
    (m_kept q154.1 ((-20 : Int32)) ((20 : Int32))).bind fun q161 =>
    m_growthOf_166 x1 x2 q161 q154.2
theorem m_growthOf_37_ok {G : xG} {m0 : Nat} {S0 : MS}   (x1 : Int32) (x2 : Int32) (x3 : Int32) (y0 : Int32) (y1 : Int32) (S : MS) (q : (Int32 × MS)) (hf : m_growthOf_37 x1 x2 x3 y0 y1 S = some q) : XM G m0 mX4_growthOf 3 S0 (some (.int q.1)) q.2 37 [(0, .ref m0), (1, .int x1), (2, .int x2), (3, .int x3)] [.int y0, .int y1] S := by
  intro h N Z
  unfold m_growthOf_37 at hf
  refine X.isub dX4_growthOf_37 ?_
  refine X.istore (L' := [(4, .int (y1 - y0)), (0, .ref m0), (1, .int x1), (2, .int x2), (3, .int x3)]) dX4_growthOf_38 (Nat.le_of_ble_eq_true rfl) rfl ?_
  refine X.aload_n dX4_growthOf_40 rfl 1 rfl ?_
  refine M.get (v := .int (S.1 7)) dX4_growthOf_41 fX4_22 (Nat.le_of_ble_eq_true rfl) rfl ?_
  refine X.iconst (v := -1) dX4_growthOf_44 (by decide) ?_
  refine X.icmp_eq (tgt := 166) dX4_growthOf_45 (by decide) (fun c45 => ?_) (fun c45 => ?_)
  · have hf := if_t c45 hf
    refine X.sub [1, 2, 3, 0] (L' := [(0, .ref m0), (1, .int x1), (2, .int x2), (4, .int (y1 - y0))]) rfl ?_
    exact m_growthOf_166_ok _ _ _ _ _ hf h N Z
  · have hf := if_f c45 hf
    refine X.aload_n dX4_growthOf_48 rfl 1 rfl ?_
    refine M.get (v := .ref (m0 + 15)) dX4_growthOf_49 fX4_75 (Nat.le_of_ble_eq_true rfl) rfl ?_
    refine X.iconst (v := 0) dX4_growthOf_52 (by decide) ?_
    refine X.aload_n dX4_growthOf_53 rfl 1 rfl ?_
    refine M.get (v := .ref (m0 + 13)) dX4_growthOf_54 fX4_69 (Nat.le_of_ble_eq_true rfl) rfl ?_
    refine X.iload_n dX4_growthOf_57 rfl 2 rfl ?_
    refine X.bipush (v := 91) dX4_growthOf_58 (by decide) ?_
    refine X.iadd dX4_growthOf_60 ?_
    refine X.iload_n dX4_growthOf_61 rfl 3 rfl ?_
    refine X.iadd dX4_growthOf_62 ?_
    obtain ⟨v63, h63, hf⟩ := ob hf
    refine M.iald dX4_growthOf_63 rfl h63 ?_
    obtain ⟨S64, h64, hf⟩ := ob hf
    refine M.iast dX4_growthOf_64 rfl h64 ?_
    refine X.aload_n dX4_growthOf_65 rfl 1 rfl ?_
    refine M.get (v := .ref (m0 + 15)) dX4_growthOf_66 fX4_75 (Nat.le_of_ble_eq_true rfl) rfl ?_
    refine X.iconst (v := 1) dX4_growthOf_69 (by decide) ?_
    refine X.aload_n dX4_growthOf_70 rfl 1 rfl ?_
    refine M.get (v := .ref (m0 + 13)) dX4_growthOf_71 fX4_69 (Nat.le_of_ble_eq_true rfl) rfl ?_
    refine X.iload_n dX4_growthOf_74 rfl 2 rfl ?_
    refine X.iconst (v := 1) dX4_growthOf_75 (by decide) ?_
    refine X.iadd dX4_growthOf_76 ?_
    refine X.iload_n dX4_growthOf_77 rfl 3 rfl ?_
    refine X.iadd dX4_growthOf_78 ?_
    obtain ⟨v79, h79, hf⟩ := ob hf
    refine M.iald dX4_growthOf_79 rfl h79 ?_
    obtain ⟨S80, h80, hf⟩ := ob hf
    refine M.iast dX4_growthOf_80 rfl h80 ?_
    refine X.aload_n dX4_growthOf_81 rfl 1 rfl ?_
    refine M.get (v := .ref (m0 + 15)) dX4_growthOf_82 fX4_75 (Nat.le_of_ble_eq_true rfl) rfl ?_
    refine X.iconst (v := 2) dX4_growthOf_85 (by decide) ?_
    refine X.aload_n dX4_growthOf_86 rfl 1 rfl ?_
    refine M.get (v := .ref (m0 + 13)) dX4_growthOf_87 fX4_69 (Nat.le_of_ble_eq_true rfl) rfl ?_
    refine X.iload_n dX4_growthOf_90 rfl 2 rfl ?_
    refine X.bipush (v := 31) dX4_growthOf_91 (by decide) ?_
    refine X.iadd dX4_growthOf_93 ?_
    refine X.iload_n dX4_growthOf_94 rfl 3 rfl ?_
    refine X.iadd dX4_growthOf_95 ?_
    obtain ⟨v96, h96, hf⟩ := ob hf
    refine M.iald dX4_growthOf_96 rfl h96 ?_
    obtain ⟨S97, h97, hf⟩ := ob hf
    refine M.iast dX4_growthOf_97 rfl h97 ?_
    refine X.aload_n dX4_growthOf_98 rfl 1 rfl ?_
    refine M.get (v := .ref (m0 + 15)) dX4_growthOf_99 fX4_75 (Nat.le_of_ble_eq_true rfl) rfl ?_
    refine X.iconst (v := 3) dX4_growthOf_102 (by decide) ?_
    refine X.iload_n dX4_growthOf_103 rfl 4 rfl ?_
    obtain ⟨S104, h104, hf⟩ := ob hf
    refine M.iast dX4_growthOf_104 rfl h104 ?_
    refine X.aload_n dX4_growthOf_105 rfl 1 rfl ?_
    refine M.get (v := .ref (m0 + 15)) dX4_growthOf_106 fX4_75 (Nat.le_of_ble_eq_true rfl) rfl ?_
    refine X.iconst (v := 4) dX4_growthOf_109 (by decide) ?_
    refine X.aload_n dX4_growthOf_110 rfl 1 rfl ?_
    refine X.iload_n dX4_growthOf_111 rfl 2 rfl ?_
    refine X.iload_n dX4_growthOf_112 rfl 3 rfl ?_
    refine X.iconst (v := 1) dX4_growthOf_113 (by decide) ?_
    obtain ⟨q114, h114, hf⟩ := ob hf
    refine X.callVi (As := [.int x1, .int x2, .int (1 : Int32)]) (rest := [.int (4 : Int32), .ref (m0 + 15)]) dX4_growthOf_114 (w_besideOf h114 h N Z) cX4_330 rfl rfl (Nat.le_of_ble_eq_true rfl) mh_0 rfl rfl (xD (Nat.le_of_ble_eq_true rfl)) xleN xleN ?_
    obtain ⟨S117, h117, hf⟩ := ob hf
    refine M.iast dX4_growthOf_117 rfl h117 ?_
    refine X.aload_n dX4_growthOf_118 rfl 1 rfl ?_
    refine M.get (v := .ref (m0 + 15)) dX4_growthOf_119 fX4_75 (Nat.le_of_ble_eq_true rfl) rfl ?_
    refine X.iconst (v := 5) dX4_growthOf_122 (by decide) ?_
    refine X.aload_n dX4_growthOf_123 rfl 1 rfl ?_
    refine X.iload_n dX4_growthOf_124 rfl 2 rfl ?_
    refine X.iload_n dX4_growthOf_125 rfl 3 rfl ?_
    refine X.iconst (v := 0) dX4_growthOf_126 (by decide) ?_
    obtain ⟨q127, h127, hf⟩ := ob hf
    refine X.callVi (As := [.int x1, .int x2, .int (0 : Int32)]) (rest := [.int (5 : Int32), .ref (m0 + 15)]) dX4_growthOf_127 (w_besideOf h127 h N Z) cX4_330 rfl rfl (Nat.le_of_ble_eq_true rfl) mh_0 rfl rfl (xD (Nat.le_of_ble_eq_true rfl)) xleN xleN ?_
    obtain ⟨S130, h130, hf⟩ := ob hf
    refine M.iast dX4_growthOf_130 rfl h130 ?_
    refine X.aload_n dX4_growthOf_131 rfl 1 rfl ?_
    refine M.get (v := .ref (m0 + 15)) dX4_growthOf_132 fX4_75 (Nat.le_of_ble_eq_true rfl) rfl ?_
    refine X.bipush (v := 6) dX4_growthOf_135 (by decide) ?_
    refine X.aload_n dX4_growthOf_137 rfl 1 rfl ?_
    refine M.get (v := .ref (m0 + 13)) dX4_growthOf_138 fX4_69 (Nat.le_of_ble_eq_true rfl) rfl ?_
    refine X.iload_n dX4_growthOf_141 rfl 2 rfl ?_
    refine X.bipush (v := 61) dX4_growthOf_142 (by decide) ?_
    refine X.iadd dX4_growthOf_144 ?_
    refine X.iload_n dX4_growthOf_145 rfl 3 rfl ?_
    refine X.iadd dX4_growthOf_146 ?_
    obtain ⟨v147, h147, hf⟩ := ob hf
    refine M.iald dX4_growthOf_147 rfl h147 ?_
    obtain ⟨S148, h148, hf⟩ := ob hf
    refine M.iast dX4_growthOf_148 rfl h148 ?_
    refine X.aload_n dX4_growthOf_149 rfl 1 rfl ?_
    refine X.aload_n dX4_growthOf_150 rfl 1 rfl ?_
    refine M.get (v := .int (S148.1 7)) dX4_growthOf_151 fX4_22 (Nat.le_of_ble_eq_true rfl) rfl ?_
    obtain ⟨q154, h154, hf⟩ := ob hf
    refine X.callVi (As := [.int (S148.1 7)]) (rest := []) (T2 := (mh m0 h q154.2, N, Z)) dX4_growthOf_154 (w_reckons h154 h N Z) cX4_334 rfl rfl (Nat.le_of_ble_eq_true rfl) mh_0 rfl rfl (xD (Nat.le_of_ble_eq_true rfl)) xleN xleN ?_
    refine X.bipush (v := -20) dX4_growthOf_157 (by decide) ?_
    refine X.bipush (v := 20) dX4_growthOf_159 (by decide) ?_
    obtain ⟨q161, h161, hf⟩ := ob hf
    refine X.callSi (As := [.int q154.1, .int (-20 : Int32), .int (20 : Int32)]) (rest := []) dX4_growthOf_161 (w_kept h161 _) cX4_337 rfl rfl (Nat.le_of_ble_eq_true rfl) (xD (Nat.le_of_ble_eq_true rfl)) xle.rf xleN ?_
    refine X.istore (L' := [(4, .int q161), (0, .ref m0), (1, .int x1), (2, .int x2), (3, .int x3)]) dX4_growthOf_164 (Nat.le_of_ble_eq_true rfl) rfl ?_
    refine X.sub [1, 2, 3, 0] (L' := [(0, .ref m0), (1, .int x1), (2, .int x2), (4, .int q161)]) rfl ?_
    exact m_growthOf_166_ok _ _ _ _ _ hf h N Z
def m_growthOf (x1 : Int32) (x2 : Int32) (S : MS) : Option (Int32 × MS) :=
  (rdA S 13 (x1 + (0 : Int32))).bind fun v8 =>
  (m_weatherOf v8 S).bind fun q9 =>
  (rdA S 13 ((x1 + (1 : Int32)) + x2)).bind fun v22 =>
  if (5 : Int32) ≤ q9 then
    m_growthOf_37 x1 x2 q9 ((q9 - (5 : Int32))) v22 S
  else
    m_growthOf_37 x1 x2 q9 (((5 : Int32) - q9)) v22 S
theorem w_growthOf {G : xG} {m0 : Nat} {x1 : Int32} {x2 : Int32} {S : MS} {q : (Int32 × MS)} (hf : m_growthOf x1 x2 S = some q) : CtM G m0 mX4_growthOf 3 S [.ref m0, .int x1, .int x2] (some (.int q.1)) q.2 := by
  intro h N Z
  refine Ct.of (by decide +kernel) rfl (Nat.le_of_ble_eq_true rfl) (show Xr G _ 0 [(0, .ref m0), (1, .int x1), (2, .int x2)] [] _ from ?_)
  unfold m_growthOf at hf
  refine X.aload_n dX4_growthOf_0 rfl 0 rfl ?_
  refine X.aload_n dX4_growthOf_1 rfl 0 rfl ?_
  refine M.get (v := .ref (m0 + 13)) dX4_growthOf_2 fX4_69 (Nat.le_of_ble_eq_true rfl) rfl ?_
  refine X.iload_n dX4_growthOf_5 rfl 1 rfl ?_
  refine X.iconst (v := 0) dX4_growthOf_6 (by decide) ?_
  refine X.iadd dX4_growthOf_7 ?_
  obtain ⟨v8, h8, hf⟩ := ob hf
  refine M.iald dX4_growthOf_8 rfl h8 ?_
  obtain ⟨q9, h9, hf⟩ := ob hf
  refine X.callVi (As := [.int v8]) (rest := []) dX4_growthOf_9 (w_weatherOf h9 h N Z) cX4_327 rfl rfl (Nat.le_of_ble_eq_true rfl) mh_0 rfl rfl (xD (Nat.le_of_ble_eq_true rfl)) xleN xleN ?_
  refine X.istore_n (L' := [(3, .int q9), (0, .ref m0), (1, .int x1), (2, .int x2)]) dX4_growthOf_12 rfl (Nat.le_of_ble_eq_true rfl) rfl ?_
  refine X.aload_n dX4_growthOf_13 rfl 1 rfl ?_
  refine M.get (v := .ref (m0 + 13)) dX4_growthOf_14 fX4_69 (Nat.le_of_ble_eq_true rfl) rfl ?_
  refine X.iload_n dX4_growthOf_17 rfl 2 rfl ?_
  refine X.iconst (v := 1) dX4_growthOf_18 (by decide) ?_
  refine X.iadd dX4_growthOf_19 ?_
  refine X.iload_n dX4_growthOf_20 rfl 3 rfl ?_
  refine X.iadd dX4_growthOf_21 ?_
  obtain ⟨v22, h22, hf⟩ := ob hf
  refine M.iald dX4_growthOf_22 rfl h22 ?_
  refine X.iload_n dX4_growthOf_23 rfl 0 rfl ?_
  refine X.iconst (v := 5) dX4_growthOf_24 (by decide) ?_
  refine X.icmp_ge (tgt := 34) dX4_growthOf_25 (by decide) (fun c25 => ?_) (fun c25 => ?_)
  · have hf := if_t c25 hf
    refine X.iload_n dX4_growthOf_34 rfl 0 rfl ?_
    refine X.iconst (v := 5) dX4_growthOf_35 (by decide) ?_
    refine X.isub dX4_growthOf_36 ?_
    refine X.sub [1, 2, 3, 0] (L' := [(0, .ref m0), (1, .int x1), (2, .int x2), (3, .int q9)]) rfl ?_
    exact m_growthOf_37_ok _ _ _ _ _ _ _ hf h N Z
  · have hf := if_f c25 hf
    refine X.iconst (v := 5) dX4_growthOf_28 (by decide) ?_
    refine X.iload_n dX4_growthOf_29 rfl 0 rfl ?_
    refine X.isub dX4_growthOf_30 ?_
    refine X.goto (tgt := 37) dX4_growthOf_31 (by decide) ?_
    refine X.sub [1, 2, 3, 0] (L' := [(0, .ref m0), (1, .int x1), (2, .int x2), (3, .int q9)]) rfl ?_
    exact m_growthOf_37_ok _ _ _ _ _ _ _ hf h N Z
theorem cX4_343 : xCV RX4 343 mX4_growthOf 2 := ⟨lw_V q1959 q1961 qs91 q127 q1962, rfl, ⟨by decide +kernel, by decide +kernel, by decide +kernel⟩, Nat.le_of_ble_eq_true rfl⟩
/-! doesBeat -/
abbrev cX4_doesBeat : ByteArray := prog_12_method_56_code
def yX4_doesBeat : MethodName := ⟨RX4, "doesBeat", "(III)Z"⟩
def dkwX4_doesBeat_5 : List UInt8 := [42, 180, 0, 25, 182, 1, 78, 158, 0, 7, 4, 167, 0, 4, 3, 172]
abbrev dktX4_doesBeat_5 : List UInt8 := dkwX4_doesBeat_5 ++ []
def dkwX4_doesBeat_4 : List UInt8 := [27, 28, 3, 182, 1, 74, 79, 42, 180, 0, 75, 4, 42, 180, 0, 69, 27, 4, 96, 29, 96, 46, 79, 42]
abbrev dktX4_doesBeat_4 : List UInt8 := dkwX4_doesBeat_4 ++ dktX4_doesBeat_5
def dkwX4_doesBeat_3 : List UInt8 := [96, 29, 96, 46, 79, 42, 180, 0, 75, 7, 42, 27, 28, 4, 182, 1, 74, 79, 42, 180, 0, 75, 8, 42]
abbrev dktX4_doesBeat_3 : List UInt8 := dkwX4_doesBeat_3 ++ dktX4_doesBeat_4
def dkwX4_doesBeat_2 : List UInt8 := [180, 0, 69, 27, 16, 91, 96, 28, 96, 46, 79, 42, 180, 0, 75, 16, 7, 42, 180, 0, 69, 27, 16, 91]
abbrev dktX4_doesBeat_2 : List UInt8 := dkwX4_doesBeat_2 ++ dktX4_doesBeat_3
def dkwX4_doesBeat_1 : List UInt8 := [27, 16, 91, 96, 29, 96, 46, 104, 164, 0, 7, 4, 167, 0, 4, 3, 172, 42, 180, 0, 75, 3, 42]
abbrev dktX4_doesBeat_1 : List UInt8 := dkwX4_doesBeat_1 ++ dktX4_doesBeat_2
def dkwX4_doesBeat_0 : List UInt8 := [42, 180, 0, 25, 2, 160, 0, 36, 42, 180, 0, 69, 27, 16, 91, 96, 28, 96, 46, 5, 42, 180, 0, 69]
abbrev dktX4_doesBeat_0 : List UInt8 := dkwX4_doesBeat_0 ++ dktX4_doesBeat_1
theorem dksX4_doesBeat_0 : cX4_doesBeat.data.toList.drop 0 = dktX4_doesBeat_0 := by decide +kernel
theorem dksX4_doesBeat_1 : cX4_doesBeat.data.toList.drop 24 = dktX4_doesBeat_1 := dk_seg dksX4_doesBeat_0 24 rfl rfl
theorem dksX4_doesBeat_2 : cX4_doesBeat.data.toList.drop 47 = dktX4_doesBeat_2 := dk_seg dksX4_doesBeat_1 23 rfl rfl
theorem dksX4_doesBeat_3 : cX4_doesBeat.data.toList.drop 71 = dktX4_doesBeat_3 := dk_seg dksX4_doesBeat_2 24 rfl rfl
theorem dksX4_doesBeat_4 : cX4_doesBeat.data.toList.drop 95 = dktX4_doesBeat_4 := dk_seg dksX4_doesBeat_3 24 rfl rfl
theorem dksX4_doesBeat_5 : cX4_doesBeat.data.toList.drop 119 = dktX4_doesBeat_5 := dk_seg dksX4_doesBeat_4 24 rfl rfl
theorem dX4_doesBeat_0 : decode cX4_doesBeat 0 = .ok (.aload_n 0, 1) := dk_42 (dk_at dksX4_doesBeat_0 0 rfl rfl)
theorem dX4_doesBeat_1 : decode cX4_doesBeat 1 = .ok (.getfield 25, 3) := dk_180 0 25 (dk_at dksX4_doesBeat_0 1 rfl rfl)
theorem dX4_doesBeat_4 : decode cX4_doesBeat 4 = .ok (.iconst (-1), 1) := dk_2 (dk_at dksX4_doesBeat_0 4 rfl rfl)
theorem dX4_doesBeat_5 : decode cX4_doesBeat 5 = .ok (.if_icmp .ne 36, 3) := dk_160 0 36 (dk_at dksX4_doesBeat_0 5 rfl rfl)
theorem dX4_doesBeat_8 : decode cX4_doesBeat 8 = .ok (.aload_n 0, 1) := dk_42 (dk_at dksX4_doesBeat_0 8 rfl rfl)
theorem dX4_doesBeat_9 : decode cX4_doesBeat 9 = .ok (.getfield 69, 3) := dk_180 0 69 (dk_at dksX4_doesBeat_0 9 rfl rfl)
theorem dX4_doesBeat_12 : decode cX4_doesBeat 12 = .ok (.iload_n 1, 1) := dk_27 (dk_at dksX4_doesBeat_0 12 rfl rfl)
theorem dX4_doesBeat_13 : decode cX4_doesBeat 13 = .ok (.bipush 91, 2) := dk_16 91 (dk_at dksX4_doesBeat_0 13 rfl rfl)
theorem dX4_doesBeat_15 : decode cX4_doesBeat 15 = .ok (.iadd, 1) := dk_96 (dk_at dksX4_doesBeat_0 15 rfl rfl)
theorem dX4_doesBeat_16 : decode cX4_doesBeat 16 = .ok (.iload_n 2, 1) := dk_28 (dk_at dksX4_doesBeat_0 16 rfl rfl)
theorem dX4_doesBeat_17 : decode cX4_doesBeat 17 = .ok (.iadd, 1) := dk_96 (dk_at dksX4_doesBeat_0 17 rfl rfl)
theorem dX4_doesBeat_18 : decode cX4_doesBeat 18 = .ok (.iaload, 1) := dk_46 (dk_at dksX4_doesBeat_0 18 rfl rfl)
theorem dX4_doesBeat_19 : decode cX4_doesBeat 19 = .ok (.iconst 2, 1) := dk_5 (dk_at dksX4_doesBeat_0 19 rfl rfl)
theorem dX4_doesBeat_20 : decode cX4_doesBeat 20 = .ok (.aload_n 0, 1) := dk_42 (dk_at dksX4_doesBeat_0 20 rfl rfl)
theorem dX4_doesBeat_21 : decode cX4_doesBeat 21 = .ok (.getfield 69, 3) := dk_180 0 69 (dk_at dksX4_doesBeat_0 21 rfl rfl)
theorem dX4_doesBeat_24 : decode cX4_doesBeat 24 = .ok (.iload_n 1, 1) := dk_27 (dk_at dksX4_doesBeat_1 0 rfl rfl)
theorem dX4_doesBeat_25 : decode cX4_doesBeat 25 = .ok (.bipush 91, 2) := dk_16 91 (dk_at dksX4_doesBeat_1 1 rfl rfl)
theorem dX4_doesBeat_27 : decode cX4_doesBeat 27 = .ok (.iadd, 1) := dk_96 (dk_at dksX4_doesBeat_1 3 rfl rfl)
theorem dX4_doesBeat_28 : decode cX4_doesBeat 28 = .ok (.iload_n 3, 1) := dk_29 (dk_at dksX4_doesBeat_1 4 rfl rfl)
theorem dX4_doesBeat_29 : decode cX4_doesBeat 29 = .ok (.iadd, 1) := dk_96 (dk_at dksX4_doesBeat_1 5 rfl rfl)
theorem dX4_doesBeat_30 : decode cX4_doesBeat 30 = .ok (.iaload, 1) := dk_46 (dk_at dksX4_doesBeat_1 6 rfl rfl)
theorem dX4_doesBeat_31 : decode cX4_doesBeat 31 = .ok (.imul, 1) := dk_104 (dk_at dksX4_doesBeat_1 7 rfl rfl)
theorem dX4_doesBeat_32 : decode cX4_doesBeat 32 = .ok (.if_icmp .le 7, 3) := dk_164 0 7 (dk_at dksX4_doesBeat_1 8 rfl rfl)
theorem dX4_doesBeat_35 : decode cX4_doesBeat 35 = .ok (.iconst 1, 1) := dk_4 (dk_at dksX4_doesBeat_1 11 rfl rfl)
theorem dX4_doesBeat_36 : decode cX4_doesBeat 36 = .ok (.goto 4, 3) := dk_167 0 4 (dk_at dksX4_doesBeat_1 12 rfl rfl)
theorem dX4_doesBeat_39 : decode cX4_doesBeat 39 = .ok (.iconst 0, 1) := dk_3 (dk_at dksX4_doesBeat_1 15 rfl rfl)
theorem dX4_doesBeat_40 : decode cX4_doesBeat 40 = .ok (.ireturn, 1) := dk_172 (dk_at dksX4_doesBeat_1 16 rfl rfl)
theorem dX4_doesBeat_41 : decode cX4_doesBeat 41 = .ok (.aload_n 0, 1) := dk_42 (dk_at dksX4_doesBeat_1 17 rfl rfl)
theorem dX4_doesBeat_42 : decode cX4_doesBeat 42 = .ok (.getfield 75, 3) := dk_180 0 75 (dk_at dksX4_doesBeat_1 18 rfl rfl)
theorem dX4_doesBeat_45 : decode cX4_doesBeat 45 = .ok (.iconst 0, 1) := dk_3 (dk_at dksX4_doesBeat_1 21 rfl rfl)
theorem dX4_doesBeat_46 : decode cX4_doesBeat 46 = .ok (.aload_n 0, 1) := dk_42 (dk_at dksX4_doesBeat_1 22 rfl rfl)
theorem dX4_doesBeat_47 : decode cX4_doesBeat 47 = .ok (.getfield 69, 3) := dk_180 0 69 (dk_at dksX4_doesBeat_2 0 rfl rfl)
theorem dX4_doesBeat_50 : decode cX4_doesBeat 50 = .ok (.iload_n 1, 1) := dk_27 (dk_at dksX4_doesBeat_2 3 rfl rfl)
theorem dX4_doesBeat_51 : decode cX4_doesBeat 51 = .ok (.bipush 91, 2) := dk_16 91 (dk_at dksX4_doesBeat_2 4 rfl rfl)
theorem dX4_doesBeat_53 : decode cX4_doesBeat 53 = .ok (.iadd, 1) := dk_96 (dk_at dksX4_doesBeat_2 6 rfl rfl)
theorem dX4_doesBeat_54 : decode cX4_doesBeat 54 = .ok (.iload_n 2, 1) := dk_28 (dk_at dksX4_doesBeat_2 7 rfl rfl)
theorem dX4_doesBeat_55 : decode cX4_doesBeat 55 = .ok (.iadd, 1) := dk_96 (dk_at dksX4_doesBeat_2 8 rfl rfl)
theorem dX4_doesBeat_56 : decode cX4_doesBeat 56 = .ok (.iaload, 1) := dk_46 (dk_at dksX4_doesBeat_2 9 rfl rfl)
theorem dX4_doesBeat_57 : decode cX4_doesBeat 57 = .ok (.iastore, 1) := dk_79 (dk_at dksX4_doesBeat_2 10 rfl rfl)
theorem dX4_doesBeat_58 : decode cX4_doesBeat 58 = .ok (.aload_n 0, 1) := dk_42 (dk_at dksX4_doesBeat_2 11 rfl rfl)
theorem dX4_doesBeat_59 : decode cX4_doesBeat 59 = .ok (.getfield 75, 3) := dk_180 0 75 (dk_at dksX4_doesBeat_2 12 rfl rfl)
theorem dX4_doesBeat_62 : decode cX4_doesBeat 62 = .ok (.bipush 7, 2) := dk_16 7 (dk_at dksX4_doesBeat_2 15 rfl rfl)
theorem dX4_doesBeat_64 : decode cX4_doesBeat 64 = .ok (.aload_n 0, 1) := dk_42 (dk_at dksX4_doesBeat_2 17 rfl rfl)
theorem dX4_doesBeat_65 : decode cX4_doesBeat 65 = .ok (.getfield 69, 3) := dk_180 0 69 (dk_at dksX4_doesBeat_2 18 rfl rfl)
theorem dX4_doesBeat_68 : decode cX4_doesBeat 68 = .ok (.iload_n 1, 1) := dk_27 (dk_at dksX4_doesBeat_2 21 rfl rfl)
theorem dX4_doesBeat_69 : decode cX4_doesBeat 69 = .ok (.bipush 91, 2) := dk_16 91 (dk_at dksX4_doesBeat_2 22 rfl rfl)
theorem dX4_doesBeat_71 : decode cX4_doesBeat 71 = .ok (.iadd, 1) := dk_96 (dk_at dksX4_doesBeat_3 0 rfl rfl)
theorem dX4_doesBeat_72 : decode cX4_doesBeat 72 = .ok (.iload_n 3, 1) := dk_29 (dk_at dksX4_doesBeat_3 1 rfl rfl)
theorem dX4_doesBeat_73 : decode cX4_doesBeat 73 = .ok (.iadd, 1) := dk_96 (dk_at dksX4_doesBeat_3 2 rfl rfl)
theorem dX4_doesBeat_74 : decode cX4_doesBeat 74 = .ok (.iaload, 1) := dk_46 (dk_at dksX4_doesBeat_3 3 rfl rfl)
theorem dX4_doesBeat_75 : decode cX4_doesBeat 75 = .ok (.iastore, 1) := dk_79 (dk_at dksX4_doesBeat_3 4 rfl rfl)
theorem dX4_doesBeat_76 : decode cX4_doesBeat 76 = .ok (.aload_n 0, 1) := dk_42 (dk_at dksX4_doesBeat_3 5 rfl rfl)
theorem dX4_doesBeat_77 : decode cX4_doesBeat 77 = .ok (.getfield 75, 3) := dk_180 0 75 (dk_at dksX4_doesBeat_3 6 rfl rfl)
theorem dX4_doesBeat_80 : decode cX4_doesBeat 80 = .ok (.iconst 4, 1) := dk_7 (dk_at dksX4_doesBeat_3 9 rfl rfl)
theorem dX4_doesBeat_81 : decode cX4_doesBeat 81 = .ok (.aload_n 0, 1) := dk_42 (dk_at dksX4_doesBeat_3 10 rfl rfl)
theorem dX4_doesBeat_82 : decode cX4_doesBeat 82 = .ok (.iload_n 1, 1) := dk_27 (dk_at dksX4_doesBeat_3 11 rfl rfl)
theorem dX4_doesBeat_83 : decode cX4_doesBeat 83 = .ok (.iload_n 2, 1) := dk_28 (dk_at dksX4_doesBeat_3 12 rfl rfl)
theorem dX4_doesBeat_84 : decode cX4_doesBeat 84 = .ok (.iconst 1, 1) := dk_4 (dk_at dksX4_doesBeat_3 13 rfl rfl)
theorem dX4_doesBeat_85 : decode cX4_doesBeat 85 = .ok (.invokevirtual 330, 3) := dk_182 1 74 (dk_at dksX4_doesBeat_3 14 rfl rfl)
theorem dX4_doesBeat_88 : decode cX4_doesBeat 88 = .ok (.iastore, 1) := dk_79 (dk_at dksX4_doesBeat_3 17 rfl rfl)
theorem dX4_doesBeat_89 : decode cX4_doesBeat 89 = .ok (.aload_n 0, 1) := dk_42 (dk_at dksX4_doesBeat_3 18 rfl rfl)
theorem dX4_doesBeat_90 : decode cX4_doesBeat 90 = .ok (.getfield 75, 3) := dk_180 0 75 (dk_at dksX4_doesBeat_3 19 rfl rfl)
theorem dX4_doesBeat_93 : decode cX4_doesBeat 93 = .ok (.iconst 5, 1) := dk_8 (dk_at dksX4_doesBeat_3 22 rfl rfl)
theorem dX4_doesBeat_94 : decode cX4_doesBeat 94 = .ok (.aload_n 0, 1) := dk_42 (dk_at dksX4_doesBeat_3 23 rfl rfl)
theorem dX4_doesBeat_95 : decode cX4_doesBeat 95 = .ok (.iload_n 1, 1) := dk_27 (dk_at dksX4_doesBeat_4 0 rfl rfl)
theorem dX4_doesBeat_96 : decode cX4_doesBeat 96 = .ok (.iload_n 2, 1) := dk_28 (dk_at dksX4_doesBeat_4 1 rfl rfl)
theorem dX4_doesBeat_97 : decode cX4_doesBeat 97 = .ok (.iconst 0, 1) := dk_3 (dk_at dksX4_doesBeat_4 2 rfl rfl)
theorem dX4_doesBeat_98 : decode cX4_doesBeat 98 = .ok (.invokevirtual 330, 3) := dk_182 1 74 (dk_at dksX4_doesBeat_4 3 rfl rfl)
theorem dX4_doesBeat_101 : decode cX4_doesBeat 101 = .ok (.iastore, 1) := dk_79 (dk_at dksX4_doesBeat_4 6 rfl rfl)
theorem dX4_doesBeat_102 : decode cX4_doesBeat 102 = .ok (.aload_n 0, 1) := dk_42 (dk_at dksX4_doesBeat_4 7 rfl rfl)
theorem dX4_doesBeat_103 : decode cX4_doesBeat 103 = .ok (.getfield 75, 3) := dk_180 0 75 (dk_at dksX4_doesBeat_4 8 rfl rfl)
theorem dX4_doesBeat_106 : decode cX4_doesBeat 106 = .ok (.iconst 1, 1) := dk_4 (dk_at dksX4_doesBeat_4 11 rfl rfl)
theorem dX4_doesBeat_107 : decode cX4_doesBeat 107 = .ok (.aload_n 0, 1) := dk_42 (dk_at dksX4_doesBeat_4 12 rfl rfl)
theorem dX4_doesBeat_108 : decode cX4_doesBeat 108 = .ok (.getfield 69, 3) := dk_180 0 69 (dk_at dksX4_doesBeat_4 13 rfl rfl)
theorem dX4_doesBeat_111 : decode cX4_doesBeat 111 = .ok (.iload_n 1, 1) := dk_27 (dk_at dksX4_doesBeat_4 16 rfl rfl)
theorem dX4_doesBeat_112 : decode cX4_doesBeat 112 = .ok (.iconst 1, 1) := dk_4 (dk_at dksX4_doesBeat_4 17 rfl rfl)
theorem dX4_doesBeat_113 : decode cX4_doesBeat 113 = .ok (.iadd, 1) := dk_96 (dk_at dksX4_doesBeat_4 18 rfl rfl)
theorem dX4_doesBeat_114 : decode cX4_doesBeat 114 = .ok (.iload_n 3, 1) := dk_29 (dk_at dksX4_doesBeat_4 19 rfl rfl)
theorem dX4_doesBeat_115 : decode cX4_doesBeat 115 = .ok (.iadd, 1) := dk_96 (dk_at dksX4_doesBeat_4 20 rfl rfl)
theorem dX4_doesBeat_116 : decode cX4_doesBeat 116 = .ok (.iaload, 1) := dk_46 (dk_at dksX4_doesBeat_4 21 rfl rfl)
theorem dX4_doesBeat_117 : decode cX4_doesBeat 117 = .ok (.iastore, 1) := dk_79 (dk_at dksX4_doesBeat_4 22 rfl rfl)
theorem dX4_doesBeat_118 : decode cX4_doesBeat 118 = .ok (.aload_n 0, 1) := dk_42 (dk_at dksX4_doesBeat_4 23 rfl rfl)
theorem dX4_doesBeat_119 : decode cX4_doesBeat 119 = .ok (.aload_n 0, 1) := dk_42 (dk_at dksX4_doesBeat_5 0 rfl rfl)
theorem dX4_doesBeat_120 : decode cX4_doesBeat 120 = .ok (.getfield 25, 3) := dk_180 0 25 (dk_at dksX4_doesBeat_5 1 rfl rfl)
theorem dX4_doesBeat_123 : decode cX4_doesBeat 123 = .ok (.invokevirtual 334, 3) := dk_182 1 78 (dk_at dksX4_doesBeat_5 4 rfl rfl)
theorem dX4_doesBeat_126 : decode cX4_doesBeat 126 = .ok (.ifCond .le 7, 3) := dk_158 0 7 (dk_at dksX4_doesBeat_5 7 rfl rfl)
theorem dX4_doesBeat_129 : decode cX4_doesBeat 129 = .ok (.iconst 1, 1) := dk_4 (dk_at dksX4_doesBeat_5 10 rfl rfl)
theorem dX4_doesBeat_130 : decode cX4_doesBeat 130 = .ok (.goto 4, 3) := dk_167 0 4 (dk_at dksX4_doesBeat_5 11 rfl rfl)
theorem dX4_doesBeat_133 : decode cX4_doesBeat 133 = .ok (.iconst 0, 1) := dk_3 (dk_at dksX4_doesBeat_5 14 rfl rfl)
theorem dX4_doesBeat_134 : decode cX4_doesBeat 134 = .ok (.ireturn, 1) := dk_172 (dk_at dksX4_doesBeat_5 15 rfl rfl)
abbrev mX4_doesBeat : xM := (yX4_doesBeat, cX4_doesBeat, 4, (some .boolean), [])
def m_doesBeat (x1 : Int32) (x2 : Int32) (x3 : Int32) (S : MS) : Option (Int32 × MS) :=
  if (S.1 8) = (-1 : Int32) then
    (rdA S 13 ((x1 + (91 : Int32)) + x2)).bind fun v18 =>
    (rdA S 13 ((x1 + (91 : Int32)) + x3)).bind fun v30 =>
    if v18 ≤ ((2 : Int32) * v30) then
      some ((0 : Int32), S)
    else
      some ((1 : Int32), S)
  else
    (rdA S 13 ((x1 + (91 : Int32)) + x2)).bind fun v56 =>
    (wrA S 15 (0 : Int32) v56).bind fun S57 =>
    (rdA S57 13 ((x1 + (91 : Int32)) + x3)).bind fun v74 =>
    (wrA S57 15 (7 : Int32) v74).bind fun S75 =>
    (m_besideOf x1 x2 ((1 : Int32)) S75).bind fun q85 =>
    (wrA S75 15 (4 : Int32) q85).bind fun S88 =>
    (m_besideOf x1 x2 ((0 : Int32)) S88).bind fun q98 =>
    (wrA S88 15 (5 : Int32) q98).bind fun S101 =>
    (rdA S101 13 ((x1 + (1 : Int32)) + x3)).bind fun v116 =>
    (wrA S101 15 (1 : Int32) v116).bind fun S117 =>
    (m_reckons ((S117.1 8)) S117).bind fun q123 =>
    if q123.1 ≤ 0 then
      some ((0 : Int32), q123.2)
    else
      some ((1 : Int32), q123.2)
theorem w_doesBeat {G : xG} {m0 : Nat} {x1 : Int32} {x2 : Int32} {x3 : Int32} {S : MS} {q : (Int32 × MS)} (hf : m_doesBeat x1 x2 x3 S = some q) : CtM G m0 mX4_doesBeat 3 S [.ref m0, .int x1, .int x2, .int x3] (some (.int q.1)) q.2 := by
  intro h N Z
  refine Ct.of (by decide +kernel) rfl (Nat.le_of_ble_eq_true rfl) (show Xr G _ 0 [(0, .ref m0), (1, .int x1), (2, .int x2), (3, .int x3)] [] _ from ?_)
  unfold m_doesBeat at hf
  refine X.aload_n dX4_doesBeat_0 rfl 0 rfl ?_
  refine M.get (v := .int (S.1 8)) dX4_doesBeat_1 fX4_25 (Nat.le_of_ble_eq_true rfl) rfl ?_
  refine X.iconst (v := -1) dX4_doesBeat_4 (by decide) ?_
  refine X.icmp_ne (tgt := 41) dX4_doesBeat_5 (by decide) (fun c5 => ?_) (fun c5 => ?_)
  · have hf := if_f c5 hf
    refine X.aload_n dX4_doesBeat_41 rfl 0 rfl ?_
    refine M.get (v := .ref (m0 + 15)) dX4_doesBeat_42 fX4_75 (Nat.le_of_ble_eq_true rfl) rfl ?_
    refine X.iconst (v := 0) dX4_doesBeat_45 (by decide) ?_
    refine X.aload_n dX4_doesBeat_46 rfl 0 rfl ?_
    refine M.get (v := .ref (m0 + 13)) dX4_doesBeat_47 fX4_69 (Nat.le_of_ble_eq_true rfl) rfl ?_
    refine X.iload_n dX4_doesBeat_50 rfl 1 rfl ?_
    refine X.bipush (v := 91) dX4_doesBeat_51 (by decide) ?_
    refine X.iadd dX4_doesBeat_53 ?_
    refine X.iload_n dX4_doesBeat_54 rfl 2 rfl ?_
    refine X.iadd dX4_doesBeat_55 ?_
    obtain ⟨v56, h56, hf⟩ := ob hf
    refine M.iald dX4_doesBeat_56 rfl h56 ?_
    obtain ⟨S57, h57, hf⟩ := ob hf
    refine M.iast dX4_doesBeat_57 rfl h57 ?_
    refine X.aload_n dX4_doesBeat_58 rfl 0 rfl ?_
    refine M.get (v := .ref (m0 + 15)) dX4_doesBeat_59 fX4_75 (Nat.le_of_ble_eq_true rfl) rfl ?_
    refine X.bipush (v := 7) dX4_doesBeat_62 (by decide) ?_
    refine X.aload_n dX4_doesBeat_64 rfl 0 rfl ?_
    refine M.get (v := .ref (m0 + 13)) dX4_doesBeat_65 fX4_69 (Nat.le_of_ble_eq_true rfl) rfl ?_
    refine X.iload_n dX4_doesBeat_68 rfl 1 rfl ?_
    refine X.bipush (v := 91) dX4_doesBeat_69 (by decide) ?_
    refine X.iadd dX4_doesBeat_71 ?_
    refine X.iload_n dX4_doesBeat_72 rfl 3 rfl ?_
    refine X.iadd dX4_doesBeat_73 ?_
    obtain ⟨v74, h74, hf⟩ := ob hf
    refine M.iald dX4_doesBeat_74 rfl h74 ?_
    obtain ⟨S75, h75, hf⟩ := ob hf
    refine M.iast dX4_doesBeat_75 rfl h75 ?_
    refine X.aload_n dX4_doesBeat_76 rfl 0 rfl ?_
    refine M.get (v := .ref (m0 + 15)) dX4_doesBeat_77 fX4_75 (Nat.le_of_ble_eq_true rfl) rfl ?_
    refine X.iconst (v := 4) dX4_doesBeat_80 (by decide) ?_
    refine X.aload_n dX4_doesBeat_81 rfl 0 rfl ?_
    refine X.iload_n dX4_doesBeat_82 rfl 1 rfl ?_
    refine X.iload_n dX4_doesBeat_83 rfl 2 rfl ?_
    refine X.iconst (v := 1) dX4_doesBeat_84 (by decide) ?_
    obtain ⟨q85, h85, hf⟩ := ob hf
    refine X.callVi (As := [.int x1, .int x2, .int (1 : Int32)]) (rest := [.int (4 : Int32), .ref (m0 + 15)]) dX4_doesBeat_85 (w_besideOf h85 h N Z) cX4_330 rfl rfl (Nat.le_of_ble_eq_true rfl) mh_0 rfl rfl (xD (Nat.le_of_ble_eq_true rfl)) xleN xleN ?_
    obtain ⟨S88, h88, hf⟩ := ob hf
    refine M.iast dX4_doesBeat_88 rfl h88 ?_
    refine X.aload_n dX4_doesBeat_89 rfl 0 rfl ?_
    refine M.get (v := .ref (m0 + 15)) dX4_doesBeat_90 fX4_75 (Nat.le_of_ble_eq_true rfl) rfl ?_
    refine X.iconst (v := 5) dX4_doesBeat_93 (by decide) ?_
    refine X.aload_n dX4_doesBeat_94 rfl 0 rfl ?_
    refine X.iload_n dX4_doesBeat_95 rfl 1 rfl ?_
    refine X.iload_n dX4_doesBeat_96 rfl 2 rfl ?_
    refine X.iconst (v := 0) dX4_doesBeat_97 (by decide) ?_
    obtain ⟨q98, h98, hf⟩ := ob hf
    refine X.callVi (As := [.int x1, .int x2, .int (0 : Int32)]) (rest := [.int (5 : Int32), .ref (m0 + 15)]) dX4_doesBeat_98 (w_besideOf h98 h N Z) cX4_330 rfl rfl (Nat.le_of_ble_eq_true rfl) mh_0 rfl rfl (xD (Nat.le_of_ble_eq_true rfl)) xleN xleN ?_
    obtain ⟨S101, h101, hf⟩ := ob hf
    refine M.iast dX4_doesBeat_101 rfl h101 ?_
    refine X.aload_n dX4_doesBeat_102 rfl 0 rfl ?_
    refine M.get (v := .ref (m0 + 15)) dX4_doesBeat_103 fX4_75 (Nat.le_of_ble_eq_true rfl) rfl ?_
    refine X.iconst (v := 1) dX4_doesBeat_106 (by decide) ?_
    refine X.aload_n dX4_doesBeat_107 rfl 0 rfl ?_
    refine M.get (v := .ref (m0 + 13)) dX4_doesBeat_108 fX4_69 (Nat.le_of_ble_eq_true rfl) rfl ?_
    refine X.iload_n dX4_doesBeat_111 rfl 1 rfl ?_
    refine X.iconst (v := 1) dX4_doesBeat_112 (by decide) ?_
    refine X.iadd dX4_doesBeat_113 ?_
    refine X.iload_n dX4_doesBeat_114 rfl 3 rfl ?_
    refine X.iadd dX4_doesBeat_115 ?_
    obtain ⟨v116, h116, hf⟩ := ob hf
    refine M.iald dX4_doesBeat_116 rfl h116 ?_
    obtain ⟨S117, h117, hf⟩ := ob hf
    refine M.iast dX4_doesBeat_117 rfl h117 ?_
    refine X.aload_n dX4_doesBeat_118 rfl 0 rfl ?_
    refine X.aload_n dX4_doesBeat_119 rfl 0 rfl ?_
    refine M.get (v := .int (S117.1 8)) dX4_doesBeat_120 fX4_25 (Nat.le_of_ble_eq_true rfl) rfl ?_
    obtain ⟨q123, h123, hf⟩ := ob hf
    refine X.callVi (As := [.int (S117.1 8)]) (rest := []) (T2 := (mh m0 h q123.2, N, Z)) dX4_doesBeat_123 (w_reckons h123 h N Z) cX4_334 rfl rfl (Nat.le_of_ble_eq_true rfl) mh_0 rfl rfl (xD (Nat.le_of_ble_eq_true rfl)) xleN xleN ?_
    refine X.if_le (tgt := 133) dX4_doesBeat_126 (by decide) (fun c126 => ?_) (fun c126 => ?_)
    · have hf := if_t c126 hf
      refine X.iconst (v := 0) dX4_doesBeat_133 (by decide) ?_
      obtain rfl := Option.some.inj hf
      exact X.iret dX4_doesBeat_134 rfl rfl rfl
    · have hf := if_f c126 hf
      refine X.iconst (v := 1) dX4_doesBeat_129 (by decide) ?_
      refine X.goto (tgt := 134) dX4_doesBeat_130 (by decide) ?_
      obtain rfl := Option.some.inj hf
      exact X.iret dX4_doesBeat_134 rfl rfl rfl
  · have hf := if_t c5 hf
    refine X.aload_n dX4_doesBeat_8 rfl 0 rfl ?_
    refine M.get (v := .ref (m0 + 13)) dX4_doesBeat_9 fX4_69 (Nat.le_of_ble_eq_true rfl) rfl ?_
    refine X.iload_n dX4_doesBeat_12 rfl 1 rfl ?_
    refine X.bipush (v := 91) dX4_doesBeat_13 (by decide) ?_
    refine X.iadd dX4_doesBeat_15 ?_
    refine X.iload_n dX4_doesBeat_16 rfl 2 rfl ?_
    refine X.iadd dX4_doesBeat_17 ?_
    obtain ⟨v18, h18, hf⟩ := ob hf
    refine M.iald dX4_doesBeat_18 rfl h18 ?_
    refine X.iconst (v := 2) dX4_doesBeat_19 (by decide) ?_
    refine X.aload_n dX4_doesBeat_20 rfl 0 rfl ?_
    refine M.get (v := .ref (m0 + 13)) dX4_doesBeat_21 fX4_69 (Nat.le_of_ble_eq_true rfl) rfl ?_
    refine X.iload_n dX4_doesBeat_24 rfl 1 rfl ?_
    refine X.bipush (v := 91) dX4_doesBeat_25 (by decide) ?_
    refine X.iadd dX4_doesBeat_27 ?_
    refine X.iload_n dX4_doesBeat_28 rfl 3 rfl ?_
    refine X.iadd dX4_doesBeat_29 ?_
    obtain ⟨v30, h30, hf⟩ := ob hf
    refine M.iald dX4_doesBeat_30 rfl h30 ?_
    refine X.imul dX4_doesBeat_31 ?_
    refine X.icmp_le (tgt := 39) dX4_doesBeat_32 (by decide) (fun c32 => ?_) (fun c32 => ?_)
    · have hf := if_t c32 hf
      refine X.iconst (v := 0) dX4_doesBeat_39 (by decide) ?_
      obtain rfl := Option.some.inj hf
      exact X.iret dX4_doesBeat_40 rfl rfl rfl
    · have hf := if_f c32 hf
      refine X.iconst (v := 1) dX4_doesBeat_35 (by decide) ?_
      refine X.goto (tgt := 40) dX4_doesBeat_36 (by decide) ?_
      obtain rfl := Option.some.inj hf
      exact X.iret dX4_doesBeat_40 rfl rfl rfl
theorem cX4_350 : xCV RX4 350 mX4_doesBeat 3 := ⟨lw_V q2024 q2026 qs102 q127 q2027, rfl, ⟨by decide +kernel, by decide +kernel, by decide +kernel⟩, Nat.le_of_ble_eq_true rfl⟩
/-! clears -/
abbrev cX4_clears : ByteArray := prog_12_method_57_code
def yX4_clears : MethodName := ⟨RX4, "clears", "(II)V"⟩
def dkwX4_clears_1 : List UInt8 := [177]
abbrev dktX4_clears_1 : List UInt8 := dkwX4_clears_1 ++ []
def dkwX4_clears_0 : List UInt8 := [42, 180, 0, 69, 27, 16, 61, 96, 28, 96, 2, 79, 42, 180, 0, 69, 27, 16, 91, 96, 28, 96, 3, 79]
abbrev dktX4_clears_0 : List UInt8 := dkwX4_clears_0 ++ dktX4_clears_1
theorem dksX4_clears_0 : cX4_clears.data.toList.drop 0 = dktX4_clears_0 := by decide +kernel
theorem dksX4_clears_1 : cX4_clears.data.toList.drop 24 = dktX4_clears_1 := dk_seg dksX4_clears_0 24 rfl rfl
theorem dX4_clears_0 : decode cX4_clears 0 = .ok (.aload_n 0, 1) := dk_42 (dk_at dksX4_clears_0 0 rfl rfl)
theorem dX4_clears_1 : decode cX4_clears 1 = .ok (.getfield 69, 3) := dk_180 0 69 (dk_at dksX4_clears_0 1 rfl rfl)
theorem dX4_clears_4 : decode cX4_clears 4 = .ok (.iload_n 1, 1) := dk_27 (dk_at dksX4_clears_0 4 rfl rfl)
theorem dX4_clears_5 : decode cX4_clears 5 = .ok (.bipush 61, 2) := dk_16 61 (dk_at dksX4_clears_0 5 rfl rfl)
theorem dX4_clears_7 : decode cX4_clears 7 = .ok (.iadd, 1) := dk_96 (dk_at dksX4_clears_0 7 rfl rfl)
theorem dX4_clears_8 : decode cX4_clears 8 = .ok (.iload_n 2, 1) := dk_28 (dk_at dksX4_clears_0 8 rfl rfl)
theorem dX4_clears_9 : decode cX4_clears 9 = .ok (.iadd, 1) := dk_96 (dk_at dksX4_clears_0 9 rfl rfl)
theorem dX4_clears_10 : decode cX4_clears 10 = .ok (.iconst (-1), 1) := dk_2 (dk_at dksX4_clears_0 10 rfl rfl)
theorem dX4_clears_11 : decode cX4_clears 11 = .ok (.iastore, 1) := dk_79 (dk_at dksX4_clears_0 11 rfl rfl)
theorem dX4_clears_12 : decode cX4_clears 12 = .ok (.aload_n 0, 1) := dk_42 (dk_at dksX4_clears_0 12 rfl rfl)
theorem dX4_clears_13 : decode cX4_clears 13 = .ok (.getfield 69, 3) := dk_180 0 69 (dk_at dksX4_clears_0 13 rfl rfl)
theorem dX4_clears_16 : decode cX4_clears 16 = .ok (.iload_n 1, 1) := dk_27 (dk_at dksX4_clears_0 16 rfl rfl)
theorem dX4_clears_17 : decode cX4_clears 17 = .ok (.bipush 91, 2) := dk_16 91 (dk_at dksX4_clears_0 17 rfl rfl)
theorem dX4_clears_19 : decode cX4_clears 19 = .ok (.iadd, 1) := dk_96 (dk_at dksX4_clears_0 19 rfl rfl)
theorem dX4_clears_20 : decode cX4_clears 20 = .ok (.iload_n 2, 1) := dk_28 (dk_at dksX4_clears_0 20 rfl rfl)
theorem dX4_clears_21 : decode cX4_clears 21 = .ok (.iadd, 1) := dk_96 (dk_at dksX4_clears_0 21 rfl rfl)
theorem dX4_clears_22 : decode cX4_clears 22 = .ok (.iconst 0, 1) := dk_3 (dk_at dksX4_clears_0 22 rfl rfl)
theorem dX4_clears_23 : decode cX4_clears 23 = .ok (.iastore, 1) := dk_79 (dk_at dksX4_clears_0 23 rfl rfl)
theorem dX4_clears_24 : decode cX4_clears 24 = .ok (.return_, 1) := dk_177 (dk_at dksX4_clears_1 0 rfl rfl)
abbrev mX4_clears : xM := (yX4_clears, cX4_clears, 3, none, [])
def m_clears (x1 : Int32) (x2 : Int32) (S : MS) : Option MS :=
  (wrA S 13 ((x1 + (61 : Int32)) + x2) (-1 : Int32)).bind fun S11 =>
  (wrA S11 13 ((x1 + (91 : Int32)) + x2) (0 : Int32)).bind fun S23 =>
  some S23
theorem w_clears {G : xG} {m0 : Nat} {x1 : Int32} {x2 : Int32} {S : MS} {q : MS} (hf : m_clears x1 x2 S = some q) : CtM G m0 mX4_clears 1 S [.ref m0, .int x1, .int x2] none q := by
  intro h N Z
  refine Ct.of (by decide +kernel) rfl (Nat.le_of_ble_eq_true rfl) (show Xr G _ 0 [(0, .ref m0), (1, .int x1), (2, .int x2)] [] _ from ?_)
  unfold m_clears at hf
  refine X.aload_n dX4_clears_0 rfl 0 rfl ?_
  refine M.get (v := .ref (m0 + 13)) dX4_clears_1 fX4_69 (Nat.le_of_ble_eq_true rfl) rfl ?_
  refine X.iload_n dX4_clears_4 rfl 1 rfl ?_
  refine X.bipush (v := 61) dX4_clears_5 (by decide) ?_
  refine X.iadd dX4_clears_7 ?_
  refine X.iload_n dX4_clears_8 rfl 2 rfl ?_
  refine X.iadd dX4_clears_9 ?_
  refine X.iconst (v := -1) dX4_clears_10 (by decide) ?_
  obtain ⟨S11, h11, hf⟩ := ob hf
  refine M.iast dX4_clears_11 rfl h11 ?_
  refine X.aload_n dX4_clears_12 rfl 0 rfl ?_
  refine M.get (v := .ref (m0 + 13)) dX4_clears_13 fX4_69 (Nat.le_of_ble_eq_true rfl) rfl ?_
  refine X.iload_n dX4_clears_16 rfl 1 rfl ?_
  refine X.bipush (v := 91) dX4_clears_17 (by decide) ?_
  refine X.iadd dX4_clears_19 ?_
  refine X.iload_n dX4_clears_20 rfl 2 rfl ?_
  refine X.iadd dX4_clears_21 ?_
  refine X.iconst (v := 0) dX4_clears_22 (by decide) ?_
  obtain ⟨S23, h23, hf⟩ := ob hf
  refine M.iast dX4_clears_23 rfl h23 ?_
  obtain rfl := Option.some.inj hf
  exact X.vret dX4_clears_24 rfl rfl
theorem cX4_346 : xCV RX4 346 mX4_clears 2 := ⟨lw_V q2016 q2018 qs100 q127 q2019, rfl, ⟨by decide +kernel, by decide +kernel, by decide +kernel⟩, Nat.le_of_ble_eq_true rfl⟩
/-! grow -/
abbrev cX4_grow : ByteArray := prog_12_method_58_code
def yX4_grow : MethodName := ⟨RX4, "grow", "(I)V"⟩
def dkwX4_grow_7 : List UInt8 := [167, 255, 140, 177]
abbrev dktX4_grow_7 : List UInt8 := dkwX4_grow_7 ++ []
def dkwX4_grow_6 : List UInt8 := [180, 0, 69, 27, 16, 91, 96, 28, 96, 46, 157, 0, 9, 42, 27, 28, 182, 1, 90, 132, 2, 1]
abbrev dktX4_grow_6 : List UInt8 := dkwX4_grow_6 ++ dktX4_grow_7
def dkwX4_grow_5 : List UInt8 := [46, 42, 180, 0, 81, 28, 46, 158, 0, 12, 42, 180, 0, 81, 28, 46, 167, 0, 4, 3, 100, 79, 42]
abbrev dktX4_grow_5 : List UInt8 := dkwX4_grow_5 ++ dktX4_grow_6
def dkwX4_grow_4 : List UInt8 := [96, 46, 42, 180, 0, 81, 28, 46, 96, 184, 1, 84, 79, 42, 180, 0, 69, 27, 16, 31, 96, 28, 96, 92]
abbrev dktX4_grow_4 : List UInt8 := dkwX4_grow_4 ++ dktX4_grow_5
def dkwX4_grow_3 : List UInt8 := [167, 0, 90, 42, 180, 0, 69, 27, 16, 91, 96, 28, 96, 16, 99, 42, 180, 0, 69, 27, 16, 91, 96, 28]
abbrev dktX4_grow_3 : List UInt8 := dkwX4_grow_3 ++ dktX4_grow_4
def dkwX4_grow_2 : List UInt8 := [61, 28, 42, 182, 1, 65, 162, 0, 114, 42, 180, 0, 69, 27, 16, 61, 96, 28, 96, 46, 2, 160, 0, 6]
abbrev dktX4_grow_2 : List UInt8 := dkwX4_grow_2 ++ dktX4_grow_3
def dkwX4_grow_1 : List UInt8 := [96, 46, 2, 160, 0, 7, 3, 167, 0, 9, 42, 27, 28, 182, 1, 87, 79, 132, 2, 1, 167, 255, 214, 3]
abbrev dktX4_grow_1 : List UInt8 := dkwX4_grow_1 ++ dktX4_grow_2
def dkwX4_grow_0 : List UInt8 := [3, 61, 28, 42, 182, 1, 65, 162, 0, 40, 42, 180, 0, 81, 28, 42, 180, 0, 69, 27, 16, 61, 96, 28]
abbrev dktX4_grow_0 : List UInt8 := dkwX4_grow_0 ++ dktX4_grow_1
theorem dksX4_grow_0 : cX4_grow.data.toList.drop 0 = dktX4_grow_0 := by decide +kernel
theorem dksX4_grow_1 : cX4_grow.data.toList.drop 24 = dktX4_grow_1 := dk_seg dksX4_grow_0 24 rfl rfl
theorem dksX4_grow_2 : cX4_grow.data.toList.drop 48 = dktX4_grow_2 := dk_seg dksX4_grow_1 24 rfl rfl
theorem dksX4_grow_3 : cX4_grow.data.toList.drop 72 = dktX4_grow_3 := dk_seg dksX4_grow_2 24 rfl rfl
theorem dksX4_grow_4 : cX4_grow.data.toList.drop 96 = dktX4_grow_4 := dk_seg dksX4_grow_3 24 rfl rfl
theorem dksX4_grow_5 : cX4_grow.data.toList.drop 120 = dktX4_grow_5 := dk_seg dksX4_grow_4 24 rfl rfl
theorem dksX4_grow_6 : cX4_grow.data.toList.drop 143 = dktX4_grow_6 := dk_seg dksX4_grow_5 23 rfl rfl
theorem dksX4_grow_7 : cX4_grow.data.toList.drop 165 = dktX4_grow_7 := dk_seg dksX4_grow_6 22 rfl rfl
theorem dX4_grow_0 : decode cX4_grow 0 = .ok (.iconst 0, 1) := dk_3 (dk_at dksX4_grow_0 0 rfl rfl)
theorem dX4_grow_1 : decode cX4_grow 1 = .ok (.istore_n 2, 1) := dk_61 (dk_at dksX4_grow_0 1 rfl rfl)
theorem dX4_grow_2 : decode cX4_grow 2 = .ok (.iload_n 2, 1) := dk_28 (dk_at dksX4_grow_0 2 rfl rfl)
theorem dX4_grow_3 : decode cX4_grow 3 = .ok (.aload_n 0, 1) := dk_42 (dk_at dksX4_grow_0 3 rfl rfl)
theorem dX4_grow_4 : decode cX4_grow 4 = .ok (.invokevirtual 321, 3) := dk_182 1 65 (dk_at dksX4_grow_0 4 rfl rfl)
theorem dX4_grow_7 : decode cX4_grow 7 = .ok (.if_icmp .ge 40, 3) := dk_162 0 40 (dk_at dksX4_grow_0 7 rfl rfl)
theorem dX4_grow_10 : decode cX4_grow 10 = .ok (.aload_n 0, 1) := dk_42 (dk_at dksX4_grow_0 10 rfl rfl)
theorem dX4_grow_11 : decode cX4_grow 11 = .ok (.getfield 81, 3) := dk_180 0 81 (dk_at dksX4_grow_0 11 rfl rfl)
theorem dX4_grow_14 : decode cX4_grow 14 = .ok (.iload_n 2, 1) := dk_28 (dk_at dksX4_grow_0 14 rfl rfl)
theorem dX4_grow_15 : decode cX4_grow 15 = .ok (.aload_n 0, 1) := dk_42 (dk_at dksX4_grow_0 15 rfl rfl)
theorem dX4_grow_16 : decode cX4_grow 16 = .ok (.getfield 69, 3) := dk_180 0 69 (dk_at dksX4_grow_0 16 rfl rfl)
theorem dX4_grow_19 : decode cX4_grow 19 = .ok (.iload_n 1, 1) := dk_27 (dk_at dksX4_grow_0 19 rfl rfl)
theorem dX4_grow_20 : decode cX4_grow 20 = .ok (.bipush 61, 2) := dk_16 61 (dk_at dksX4_grow_0 20 rfl rfl)
theorem dX4_grow_22 : decode cX4_grow 22 = .ok (.iadd, 1) := dk_96 (dk_at dksX4_grow_0 22 rfl rfl)
theorem dX4_grow_23 : decode cX4_grow 23 = .ok (.iload_n 2, 1) := dk_28 (dk_at dksX4_grow_0 23 rfl rfl)
theorem dX4_grow_24 : decode cX4_grow 24 = .ok (.iadd, 1) := dk_96 (dk_at dksX4_grow_1 0 rfl rfl)
theorem dX4_grow_25 : decode cX4_grow 25 = .ok (.iaload, 1) := dk_46 (dk_at dksX4_grow_1 1 rfl rfl)
theorem dX4_grow_26 : decode cX4_grow 26 = .ok (.iconst (-1), 1) := dk_2 (dk_at dksX4_grow_1 2 rfl rfl)
theorem dX4_grow_27 : decode cX4_grow 27 = .ok (.if_icmp .ne 7, 3) := dk_160 0 7 (dk_at dksX4_grow_1 3 rfl rfl)
theorem dX4_grow_30 : decode cX4_grow 30 = .ok (.iconst 0, 1) := dk_3 (dk_at dksX4_grow_1 6 rfl rfl)
theorem dX4_grow_31 : decode cX4_grow 31 = .ok (.goto 9, 3) := dk_167 0 9 (dk_at dksX4_grow_1 7 rfl rfl)
theorem dX4_grow_34 : decode cX4_grow 34 = .ok (.aload_n 0, 1) := dk_42 (dk_at dksX4_grow_1 10 rfl rfl)
theorem dX4_grow_35 : decode cX4_grow 35 = .ok (.iload_n 1, 1) := dk_27 (dk_at dksX4_grow_1 11 rfl rfl)
theorem dX4_grow_36 : decode cX4_grow 36 = .ok (.iload_n 2, 1) := dk_28 (dk_at dksX4_grow_1 12 rfl rfl)
theorem dX4_grow_37 : decode cX4_grow 37 = .ok (.invokevirtual 343, 3) := dk_182 1 87 (dk_at dksX4_grow_1 13 rfl rfl)
theorem dX4_grow_40 : decode cX4_grow 40 = .ok (.iastore, 1) := dk_79 (dk_at dksX4_grow_1 16 rfl rfl)
theorem dX4_grow_41 : decode cX4_grow 41 = .ok (.iinc 2 1, 3) := dk_132 2 1 (dk_at dksX4_grow_1 17 rfl rfl)
theorem dX4_grow_44 : decode cX4_grow 44 = .ok (.goto (-42), 3) := dk_167 255 214 (dk_at dksX4_grow_1 20 rfl rfl)
theorem dX4_grow_47 : decode cX4_grow 47 = .ok (.iconst 0, 1) := dk_3 (dk_at dksX4_grow_1 23 rfl rfl)
theorem dX4_grow_48 : decode cX4_grow 48 = .ok (.istore_n 2, 1) := dk_61 (dk_at dksX4_grow_2 0 rfl rfl)
theorem dX4_grow_49 : decode cX4_grow 49 = .ok (.iload_n 2, 1) := dk_28 (dk_at dksX4_grow_2 1 rfl rfl)
theorem dX4_grow_50 : decode cX4_grow 50 = .ok (.aload_n 0, 1) := dk_42 (dk_at dksX4_grow_2 2 rfl rfl)
theorem dX4_grow_51 : decode cX4_grow 51 = .ok (.invokevirtual 321, 3) := dk_182 1 65 (dk_at dksX4_grow_2 3 rfl rfl)
theorem dX4_grow_54 : decode cX4_grow 54 = .ok (.if_icmp .ge 114, 3) := dk_162 0 114 (dk_at dksX4_grow_2 6 rfl rfl)
theorem dX4_grow_57 : decode cX4_grow 57 = .ok (.aload_n 0, 1) := dk_42 (dk_at dksX4_grow_2 9 rfl rfl)
theorem dX4_grow_58 : decode cX4_grow 58 = .ok (.getfield 69, 3) := dk_180 0 69 (dk_at dksX4_grow_2 10 rfl rfl)
theorem dX4_grow_61 : decode cX4_grow 61 = .ok (.iload_n 1, 1) := dk_27 (dk_at dksX4_grow_2 13 rfl rfl)
theorem dX4_grow_62 : decode cX4_grow 62 = .ok (.bipush 61, 2) := dk_16 61 (dk_at dksX4_grow_2 14 rfl rfl)
theorem dX4_grow_64 : decode cX4_grow 64 = .ok (.iadd, 1) := dk_96 (dk_at dksX4_grow_2 16 rfl rfl)
theorem dX4_grow_65 : decode cX4_grow 65 = .ok (.iload_n 2, 1) := dk_28 (dk_at dksX4_grow_2 17 rfl rfl)
theorem dX4_grow_66 : decode cX4_grow 66 = .ok (.iadd, 1) := dk_96 (dk_at dksX4_grow_2 18 rfl rfl)
theorem dX4_grow_67 : decode cX4_grow 67 = .ok (.iaload, 1) := dk_46 (dk_at dksX4_grow_2 19 rfl rfl)
theorem dX4_grow_68 : decode cX4_grow 68 = .ok (.iconst (-1), 1) := dk_2 (dk_at dksX4_grow_2 20 rfl rfl)
theorem dX4_grow_69 : decode cX4_grow 69 = .ok (.if_icmp .ne 6, 3) := dk_160 0 6 (dk_at dksX4_grow_2 21 rfl rfl)
theorem dX4_grow_72 : decode cX4_grow 72 = .ok (.goto 90, 3) := dk_167 0 90 (dk_at dksX4_grow_3 0 rfl rfl)
theorem dX4_grow_75 : decode cX4_grow 75 = .ok (.aload_n 0, 1) := dk_42 (dk_at dksX4_grow_3 3 rfl rfl)
theorem dX4_grow_76 : decode cX4_grow 76 = .ok (.getfield 69, 3) := dk_180 0 69 (dk_at dksX4_grow_3 4 rfl rfl)
theorem dX4_grow_79 : decode cX4_grow 79 = .ok (.iload_n 1, 1) := dk_27 (dk_at dksX4_grow_3 7 rfl rfl)
theorem dX4_grow_80 : decode cX4_grow 80 = .ok (.bipush 91, 2) := dk_16 91 (dk_at dksX4_grow_3 8 rfl rfl)
theorem dX4_grow_82 : decode cX4_grow 82 = .ok (.iadd, 1) := dk_96 (dk_at dksX4_grow_3 10 rfl rfl)
theorem dX4_grow_83 : decode cX4_grow 83 = .ok (.iload_n 2, 1) := dk_28 (dk_at dksX4_grow_3 11 rfl rfl)
theorem dX4_grow_84 : decode cX4_grow 84 = .ok (.iadd, 1) := dk_96 (dk_at dksX4_grow_3 12 rfl rfl)
theorem dX4_grow_85 : decode cX4_grow 85 = .ok (.bipush 99, 2) := dk_16 99 (dk_at dksX4_grow_3 13 rfl rfl)
theorem dX4_grow_87 : decode cX4_grow 87 = .ok (.aload_n 0, 1) := dk_42 (dk_at dksX4_grow_3 15 rfl rfl)
theorem dX4_grow_88 : decode cX4_grow 88 = .ok (.getfield 69, 3) := dk_180 0 69 (dk_at dksX4_grow_3 16 rfl rfl)
theorem dX4_grow_91 : decode cX4_grow 91 = .ok (.iload_n 1, 1) := dk_27 (dk_at dksX4_grow_3 19 rfl rfl)
theorem dX4_grow_92 : decode cX4_grow 92 = .ok (.bipush 91, 2) := dk_16 91 (dk_at dksX4_grow_3 20 rfl rfl)
theorem dX4_grow_94 : decode cX4_grow 94 = .ok (.iadd, 1) := dk_96 (dk_at dksX4_grow_3 22 rfl rfl)
theorem dX4_grow_95 : decode cX4_grow 95 = .ok (.iload_n 2, 1) := dk_28 (dk_at dksX4_grow_3 23 rfl rfl)
theorem dX4_grow_96 : decode cX4_grow 96 = .ok (.iadd, 1) := dk_96 (dk_at dksX4_grow_4 0 rfl rfl)
theorem dX4_grow_97 : decode cX4_grow 97 = .ok (.iaload, 1) := dk_46 (dk_at dksX4_grow_4 1 rfl rfl)
theorem dX4_grow_98 : decode cX4_grow 98 = .ok (.aload_n 0, 1) := dk_42 (dk_at dksX4_grow_4 2 rfl rfl)
theorem dX4_grow_99 : decode cX4_grow 99 = .ok (.getfield 81, 3) := dk_180 0 81 (dk_at dksX4_grow_4 3 rfl rfl)
theorem dX4_grow_102 : decode cX4_grow 102 = .ok (.iload_n 2, 1) := dk_28 (dk_at dksX4_grow_4 6 rfl rfl)
theorem dX4_grow_103 : decode cX4_grow 103 = .ok (.iaload, 1) := dk_46 (dk_at dksX4_grow_4 7 rfl rfl)
theorem dX4_grow_104 : decode cX4_grow 104 = .ok (.iadd, 1) := dk_96 (dk_at dksX4_grow_4 8 rfl rfl)
theorem dX4_grow_105 : decode cX4_grow 105 = .ok (.invokestatic 340, 3) := dk_184 1 84 (dk_at dksX4_grow_4 9 rfl rfl)
theorem dX4_grow_108 : decode cX4_grow 108 = .ok (.iastore, 1) := dk_79 (dk_at dksX4_grow_4 12 rfl rfl)
theorem dX4_grow_109 : decode cX4_grow 109 = .ok (.aload_n 0, 1) := dk_42 (dk_at dksX4_grow_4 13 rfl rfl)
theorem dX4_grow_110 : decode cX4_grow 110 = .ok (.getfield 69, 3) := dk_180 0 69 (dk_at dksX4_grow_4 14 rfl rfl)
theorem dX4_grow_113 : decode cX4_grow 113 = .ok (.iload_n 1, 1) := dk_27 (dk_at dksX4_grow_4 17 rfl rfl)
theorem dX4_grow_114 : decode cX4_grow 114 = .ok (.bipush 31, 2) := dk_16 31 (dk_at dksX4_grow_4 18 rfl rfl)
theorem dX4_grow_116 : decode cX4_grow 116 = .ok (.iadd, 1) := dk_96 (dk_at dksX4_grow_4 20 rfl rfl)
theorem dX4_grow_117 : decode cX4_grow 117 = .ok (.iload_n 2, 1) := dk_28 (dk_at dksX4_grow_4 21 rfl rfl)
theorem dX4_grow_118 : decode cX4_grow 118 = .ok (.iadd, 1) := dk_96 (dk_at dksX4_grow_4 22 rfl rfl)
theorem dX4_grow_119 : decode cX4_grow 119 = .ok (.dup2, 1) := dk_92 (dk_at dksX4_grow_4 23 rfl rfl)
theorem dX4_grow_120 : decode cX4_grow 120 = .ok (.iaload, 1) := dk_46 (dk_at dksX4_grow_5 0 rfl rfl)
theorem dX4_grow_121 : decode cX4_grow 121 = .ok (.aload_n 0, 1) := dk_42 (dk_at dksX4_grow_5 1 rfl rfl)
theorem dX4_grow_122 : decode cX4_grow 122 = .ok (.getfield 81, 3) := dk_180 0 81 (dk_at dksX4_grow_5 2 rfl rfl)
theorem dX4_grow_125 : decode cX4_grow 125 = .ok (.iload_n 2, 1) := dk_28 (dk_at dksX4_grow_5 5 rfl rfl)
theorem dX4_grow_126 : decode cX4_grow 126 = .ok (.iaload, 1) := dk_46 (dk_at dksX4_grow_5 6 rfl rfl)
theorem dX4_grow_127 : decode cX4_grow 127 = .ok (.ifCond .le 12, 3) := dk_158 0 12 (dk_at dksX4_grow_5 7 rfl rfl)
theorem dX4_grow_130 : decode cX4_grow 130 = .ok (.aload_n 0, 1) := dk_42 (dk_at dksX4_grow_5 10 rfl rfl)
theorem dX4_grow_131 : decode cX4_grow 131 = .ok (.getfield 81, 3) := dk_180 0 81 (dk_at dksX4_grow_5 11 rfl rfl)
theorem dX4_grow_134 : decode cX4_grow 134 = .ok (.iload_n 2, 1) := dk_28 (dk_at dksX4_grow_5 14 rfl rfl)
theorem dX4_grow_135 : decode cX4_grow 135 = .ok (.iaload, 1) := dk_46 (dk_at dksX4_grow_5 15 rfl rfl)
theorem dX4_grow_136 : decode cX4_grow 136 = .ok (.goto 4, 3) := dk_167 0 4 (dk_at dksX4_grow_5 16 rfl rfl)
theorem dX4_grow_139 : decode cX4_grow 139 = .ok (.iconst 0, 1) := dk_3 (dk_at dksX4_grow_5 19 rfl rfl)
theorem dX4_grow_140 : decode cX4_grow 140 = .ok (.isub, 1) := dk_100 (dk_at dksX4_grow_5 20 rfl rfl)
theorem dX4_grow_141 : decode cX4_grow 141 = .ok (.iastore, 1) := dk_79 (dk_at dksX4_grow_5 21 rfl rfl)
theorem dX4_grow_142 : decode cX4_grow 142 = .ok (.aload_n 0, 1) := dk_42 (dk_at dksX4_grow_5 22 rfl rfl)
theorem dX4_grow_143 : decode cX4_grow 143 = .ok (.getfield 69, 3) := dk_180 0 69 (dk_at dksX4_grow_6 0 rfl rfl)
theorem dX4_grow_146 : decode cX4_grow 146 = .ok (.iload_n 1, 1) := dk_27 (dk_at dksX4_grow_6 3 rfl rfl)
theorem dX4_grow_147 : decode cX4_grow 147 = .ok (.bipush 91, 2) := dk_16 91 (dk_at dksX4_grow_6 4 rfl rfl)
theorem dX4_grow_149 : decode cX4_grow 149 = .ok (.iadd, 1) := dk_96 (dk_at dksX4_grow_6 6 rfl rfl)
theorem dX4_grow_150 : decode cX4_grow 150 = .ok (.iload_n 2, 1) := dk_28 (dk_at dksX4_grow_6 7 rfl rfl)
theorem dX4_grow_151 : decode cX4_grow 151 = .ok (.iadd, 1) := dk_96 (dk_at dksX4_grow_6 8 rfl rfl)
theorem dX4_grow_152 : decode cX4_grow 152 = .ok (.iaload, 1) := dk_46 (dk_at dksX4_grow_6 9 rfl rfl)
theorem dX4_grow_153 : decode cX4_grow 153 = .ok (.ifCond .gt 9, 3) := dk_157 0 9 (dk_at dksX4_grow_6 10 rfl rfl)
theorem dX4_grow_156 : decode cX4_grow 156 = .ok (.aload_n 0, 1) := dk_42 (dk_at dksX4_grow_6 13 rfl rfl)
theorem dX4_grow_157 : decode cX4_grow 157 = .ok (.iload_n 1, 1) := dk_27 (dk_at dksX4_grow_6 14 rfl rfl)
theorem dX4_grow_158 : decode cX4_grow 158 = .ok (.iload_n 2, 1) := dk_28 (dk_at dksX4_grow_6 15 rfl rfl)
theorem dX4_grow_159 : decode cX4_grow 159 = .ok (.invokevirtual 346, 3) := dk_182 1 90 (dk_at dksX4_grow_6 16 rfl rfl)
theorem dX4_grow_162 : decode cX4_grow 162 = .ok (.iinc 2 1, 3) := dk_132 2 1 (dk_at dksX4_grow_6 19 rfl rfl)
theorem dX4_grow_165 : decode cX4_grow 165 = .ok (.goto (-116), 3) := dk_167 255 140 (dk_at dksX4_grow_7 0 rfl rfl)
theorem dX4_grow_168 : decode cX4_grow 168 = .ok (.return_, 1) := dk_177 (dk_at dksX4_grow_7 3 rfl rfl)
abbrev mX4_grow : xM := (yX4_grow, cX4_grow, 3, none, [])
def m_grow_40 (k2 : Int32 → Int32 → MS → Option MS) (x1 : Int32) (x2 : Int32) (y0 : Int32) (y1 : Int32) (S : MS) : Option MS :=
  (wrA S 17 y1 y0).bind fun S40 =>
  k2 x1 ((x2 + 1)) S40
theorem m_grow_40_ok {G : xG} {m0 : Nat} {S0 : MS} {k2 : Int32 → Int32 → MS → Option MS} (hk2 : ∀ (x1 : Int32) (x2 : Int32) (S : MS) (q : MS), k2 x1 x2 S = some q → XM G m0 mX4_grow 4 S0 none q 2 [(0, .ref m0), (1, .int x1), (2, .int x2)] [] S) (x1 : Int32) (x2 : Int32) (y0 : Int32) (y1 : Int32) (S : MS) (q : MS) (hf : m_grow_40 k2 x1 x2 y0 y1 S = some q) : XM G m0 mX4_grow 4 S0 none q 40 [(0, .ref m0), (1, .int x1), (2, .int x2)] [.int y0, .int y1, .ref (m0 + 17)] S := by
  intro h N Z
  unfold m_grow_40 at hf
  obtain ⟨S40, h40, hf⟩ := ob hf
  refine M.iast dX4_grow_40 rfl h40 ?_
  refine X.iinc (v := (x2 + 1)) (L' := [(2, .int (x2 + 1)), (0, .ref m0), (1, .int x1)]) dX4_grow_41 2 rfl rfl (Nat.le_of_ble_eq_true rfl) rfl ?_
  refine X.goto (tgt := 2) dX4_grow_44 (by decide) ?_
  refine X.sub [1, 2, 0] (L' := [(0, .ref m0), (1, .int x1), (2, .int (x2 + 1))]) rfl ?_
  exact hk2 _ _ _ _ hf h N Z
def m_grow_162 (k49 : Int32 → Int32 → MS → Option MS) (x1 : Int32) (x2 : Int32) (S : MS) : Option MS :=
  k49 x1 ((x2 + 1)) S
theorem m_grow_162_ok {G : xG} {m0 : Nat} {S0 : MS} {k49 : Int32 → Int32 → MS → Option MS} (hk49 : ∀ (x1 : Int32) (x2 : Int32) (S : MS) (q : MS), k49 x1 x2 S = some q → XM G m0 mX4_grow 4 S0 none q 49 [(0, .ref m0), (1, .int x1), (2, .int x2)] [] S) (x1 : Int32) (x2 : Int32) (S : MS) (q : MS) (hf : m_grow_162 k49 x1 x2 S = some q) : XM G m0 mX4_grow 4 S0 none q 162 [(0, .ref m0), (1, .int x1), (2, .int x2)] [] S := by
  intro h N Z
  unfold m_grow_162 at hf
  refine X.iinc (v := (x2 + 1)) (L' := [(2, .int (x2 + 1)), (0, .ref m0), (1, .int x1)]) dX4_grow_162 2 rfl rfl (Nat.le_of_ble_eq_true rfl) rfl ?_
  refine X.goto (tgt := 49) dX4_grow_165 (by decide) ?_
  refine X.sub [1, 2, 0] (L' := [(0, .ref m0), (1, .int x1), (2, .int (x2 + 1))]) rfl ?_
  exact hk49 _ _ _ _ hf h N Z
def m_grow_140 (k49 : Int32 → Int32 → MS → Option MS) (x1 : Int32) (x2 : Int32) (y0 : Int32) (y1 : Int32) (y2 : Int32) (S : MS) : Option MS :=
  (wrA S 13 y2 (y1 - y0)).bind fun S141 =>
  (rdA S141 13 ((x1 + (91 : Int32)) + x2)).bind fun v152 =>
  if 0 < v152 then
    m_grow_162 k49 x1 x2 S141
  else
    (m_clears x1 x2 S141).bind fun q159 =>
    m_grow_162 k49 x1 x2 q159
theorem m_grow_140_ok {G : xG} {m0 : Nat} {S0 : MS} {k49 : Int32 → Int32 → MS → Option MS} (hk49 : ∀ (x1 : Int32) (x2 : Int32) (S : MS) (q : MS), k49 x1 x2 S = some q → XM G m0 mX4_grow 4 S0 none q 49 [(0, .ref m0), (1, .int x1), (2, .int x2)] [] S) (x1 : Int32) (x2 : Int32) (y0 : Int32) (y1 : Int32) (y2 : Int32) (S : MS) (q : MS) (hf : m_grow_140 k49 x1 x2 y0 y1 y2 S = some q) : XM G m0 mX4_grow 4 S0 none q 140 [(0, .ref m0), (1, .int x1), (2, .int x2)] [.int y0, .int y1, .int y2, .ref (m0 + 13)] S := by
  intro h N Z
  unfold m_grow_140 at hf
  refine X.isub dX4_grow_140 ?_
  obtain ⟨S141, h141, hf⟩ := ob hf
  refine M.iast dX4_grow_141 rfl h141 ?_
  refine X.aload_n dX4_grow_142 rfl 0 rfl ?_
  refine M.get (v := .ref (m0 + 13)) dX4_grow_143 fX4_69 (Nat.le_of_ble_eq_true rfl) rfl ?_
  refine X.iload_n dX4_grow_146 rfl 1 rfl ?_
  refine X.bipush (v := 91) dX4_grow_147 (by decide) ?_
  refine X.iadd dX4_grow_149 ?_
  refine X.iload_n dX4_grow_150 rfl 2 rfl ?_
  refine X.iadd dX4_grow_151 ?_
  obtain ⟨v152, h152, hf⟩ := ob hf
  refine M.iald dX4_grow_152 rfl h152 ?_
  refine X.if_gt (tgt := 162) dX4_grow_153 (by decide) (fun c153 => ?_) (fun c153 => ?_)
  · have hf := if_t c153 hf
    refine X.sub [0, 1, 2] (L' := [(0, .ref m0), (1, .int x1), (2, .int x2)]) rfl ?_
    exact m_grow_162_ok hk49 _ _ _ _ hf h N Z
  · have hf := if_f c153 hf
    refine X.aload_n dX4_grow_156 rfl 0 rfl ?_
    refine X.iload_n dX4_grow_157 rfl 1 rfl ?_
    refine X.iload_n dX4_grow_158 rfl 2 rfl ?_
    obtain ⟨q159, h159, hf⟩ := ob hf
    refine X.callVv (As := [.int x1, .int x2]) (rest := []) (T2 := (mh m0 h q159, N, Z)) dX4_grow_159 (w_clears h159 h N Z) cX4_346 rfl rfl (Nat.le_of_ble_eq_true rfl) mh_0 rfl rfl (xD (Nat.le_of_ble_eq_true rfl)) xleN xleN ?_
    refine X.sub [0, 1, 2] (L' := [(0, .ref m0), (1, .int x1), (2, .int x2)]) rfl ?_
    exact m_grow_162_ok hk49 _ _ _ _ hf h N Z
def m_grow_49_b  (k49 : Int32 → Int32 → MS → Option MS) (x1 : Int32) (x2 : Int32) (S : MS) : Option MS :=
  (m_cells S).bind fun q51 =>
  if q51 ≤ x2 then
    some S
  else
    (rdA S 13 ((x1 + (61 : Int32)) + x2)).bind fun v67 =>
    if v67 = (-1 : Int32) then
      m_grow_162 k49 x1 x2 S
    else
      (rdA S 13 ((x1 + (91 : Int32)) + x2)).bind fun v97 =>
      (rdA S 17 x2).bind fun v103 =>
      (m_lesser ((99 : Int32)) ((v97 + v103))).bind fun q105 =>
      (wrA S 13 ((x1 + (91 : Int32)) + x2) q105).bind fun S108 =>
      (rdA S108 13 ((x1 + (31 : Int32)) + x2)).bind fun v120 =>
      (rdA S108 17 x2).bind fun v126 =>
      if v126 ≤ 0 then
        m_grow_140 k49 x1 x2 ((0 : Int32)) v120 (((x1 + (31 : Int32)) + x2)) S108
      else
        (rdA S108 17 x2).bind fun v135 =>
        m_grow_140 k49 x1 x2 v135 v120 (((x1 + (31 : Int32)) + x2)) S108
def m_grow_49  : Nat → Int32 → Int32 → MS → Option MS
  | 0 => fun _ _ _ => none
  | n + 1 => fun x1 x2 S => m_grow_49_b (m_grow_49 n) x1 x2 S
theorem m_grow_49_bok {G : xG} {m0 : Nat} {S0 : MS}  {k49 : Int32 → Int32 → MS → Option MS}  (hk49 : ∀ (x1 : Int32) (x2 : Int32) (S : MS) (q : MS), k49 x1 x2 S = some q → XM G m0 mX4_grow 4 S0 none q 49 [(0, .ref m0), (1, .int x1), (2, .int x2)] [] S) (x1 : Int32) (x2 : Int32) (S : MS) (q : MS) (hf : m_grow_49_b k49 x1 x2 S = some q) : XM G m0 mX4_grow 4 S0 none q 49 [(0, .ref m0), (1, .int x1), (2, .int x2)] [] S := by
  intro h N Z
  unfold m_grow_49_b at hf
  refine X.iload_n dX4_grow_49 rfl 2 rfl ?_
  refine X.aload_n dX4_grow_50 rfl 0 rfl ?_
  obtain ⟨q51, h51, hf⟩ := ob hf
  refine X.callVi (As := []) (rest := [.int x2]) dX4_grow_51 (w_cells h51 h N Z) cX4_321 rfl rfl (Nat.le_of_ble_eq_true rfl) mh_0 rfl rfl (xD (Nat.le_of_ble_eq_true rfl)) xleN xleN ?_
  refine X.icmp_ge (tgt := 168) dX4_grow_54 (by decide) (fun c54 => ?_) (fun c54 => ?_)
  · have hf := if_t c54 hf
    obtain rfl := Option.some.inj hf
    exact X.vret dX4_grow_168 rfl rfl
  · have hf := if_f c54 hf
    refine X.aload_n dX4_grow_57 rfl 0 rfl ?_
    refine M.get (v := .ref (m0 + 13)) dX4_grow_58 fX4_69 (Nat.le_of_ble_eq_true rfl) rfl ?_
    refine X.iload_n dX4_grow_61 rfl 1 rfl ?_
    refine X.bipush (v := 61) dX4_grow_62 (by decide) ?_
    refine X.iadd dX4_grow_64 ?_
    refine X.iload_n dX4_grow_65 rfl 2 rfl ?_
    refine X.iadd dX4_grow_66 ?_
    obtain ⟨v67, h67, hf⟩ := ob hf
    refine M.iald dX4_grow_67 rfl h67 ?_
    refine X.iconst (v := -1) dX4_grow_68 (by decide) ?_
    refine X.icmp_ne (tgt := 75) dX4_grow_69 (by decide) (fun c69 => ?_) (fun c69 => ?_)
    · have hf := if_f c69 hf
      refine X.aload_n dX4_grow_75 rfl 0 rfl ?_
      refine M.get (v := .ref (m0 + 13)) dX4_grow_76 fX4_69 (Nat.le_of_ble_eq_true rfl) rfl ?_
      refine X.iload_n dX4_grow_79 rfl 1 rfl ?_
      refine X.bipush (v := 91) dX4_grow_80 (by decide) ?_
      refine X.iadd dX4_grow_82 ?_
      refine X.iload_n dX4_grow_83 rfl 2 rfl ?_
      refine X.iadd dX4_grow_84 ?_
      refine X.bipush (v := 99) dX4_grow_85 (by decide) ?_
      refine X.aload_n dX4_grow_87 rfl 0 rfl ?_
      refine M.get (v := .ref (m0 + 13)) dX4_grow_88 fX4_69 (Nat.le_of_ble_eq_true rfl) rfl ?_
      refine X.iload_n dX4_grow_91 rfl 1 rfl ?_
      refine X.bipush (v := 91) dX4_grow_92 (by decide) ?_
      refine X.iadd dX4_grow_94 ?_
      refine X.iload_n dX4_grow_95 rfl 2 rfl ?_
      refine X.iadd dX4_grow_96 ?_
      obtain ⟨v97, h97, hf⟩ := ob hf
      refine M.iald dX4_grow_97 rfl h97 ?_
      refine X.aload_n dX4_grow_98 rfl 0 rfl ?_
      refine M.get (v := .ref (m0 + 17)) dX4_grow_99 fX4_81 (Nat.le_of_ble_eq_true rfl) rfl ?_
      refine X.iload_n dX4_grow_102 rfl 2 rfl ?_
      obtain ⟨v103, h103, hf⟩ := ob hf
      refine M.iald dX4_grow_103 rfl h103 ?_
      refine X.iadd dX4_grow_104 ?_
      obtain ⟨q105, h105, hf⟩ := ob hf
      refine X.callSi (As := [.int (99 : Int32), .int (v97 + v103)]) (rest := [.int ((x1 + (91 : Int32)) + x2), .ref (m0 + 13)]) dX4_grow_105 (w_lesser h105 _) cX4_340 rfl rfl (Nat.le_of_ble_eq_true rfl) (xD (Nat.le_of_ble_eq_true rfl)) xle.rf xleN ?_
      obtain ⟨S108, h108, hf⟩ := ob hf
      refine M.iast dX4_grow_108 rfl h108 ?_
      refine X.aload_n dX4_grow_109 rfl 0 rfl ?_
      refine M.get (v := .ref (m0 + 13)) dX4_grow_110 fX4_69 (Nat.le_of_ble_eq_true rfl) rfl ?_
      refine X.iload_n dX4_grow_113 rfl 1 rfl ?_
      refine X.bipush (v := 31) dX4_grow_114 (by decide) ?_
      refine X.iadd dX4_grow_116 ?_
      refine X.iload_n dX4_grow_117 rfl 2 rfl ?_
      refine X.iadd dX4_grow_118 ?_
      refine X.dup2_11 dX4_grow_119 rfl rfl ?_
      obtain ⟨v120, h120, hf⟩ := ob hf
      refine M.iald dX4_grow_120 rfl h120 ?_
      refine X.aload_n dX4_grow_121 rfl 0 rfl ?_
      refine M.get (v := .ref (m0 + 17)) dX4_grow_122 fX4_81 (Nat.le_of_ble_eq_true rfl) rfl ?_
      refine X.iload_n dX4_grow_125 rfl 2 rfl ?_
      obtain ⟨v126, h126, hf⟩ := ob hf
      refine M.iald dX4_grow_126 rfl h126 ?_
      refine X.if_le (tgt := 139) dX4_grow_127 (by decide) (fun c127 => ?_) (fun c127 => ?_)
      · have hf := if_t c127 hf
        refine X.iconst (v := 0) dX4_grow_139 (by decide) ?_
        refine X.sub [0, 1, 2] (L' := [(0, .ref m0), (1, .int x1), (2, .int x2)]) rfl ?_
        exact m_grow_140_ok hk49 _ _ _ _ _ _ _ hf h N Z
      · have hf := if_f c127 hf
        refine X.aload_n dX4_grow_130 rfl 0 rfl ?_
        refine M.get (v := .ref (m0 + 17)) dX4_grow_131 fX4_81 (Nat.le_of_ble_eq_true rfl) rfl ?_
        refine X.iload_n dX4_grow_134 rfl 2 rfl ?_
        obtain ⟨v135, h135, hf⟩ := ob hf
        refine M.iald dX4_grow_135 rfl h135 ?_
        refine X.goto (tgt := 140) dX4_grow_136 (by decide) ?_
        refine X.sub [0, 1, 2] (L' := [(0, .ref m0), (1, .int x1), (2, .int x2)]) rfl ?_
        exact m_grow_140_ok hk49 _ _ _ _ _ _ _ hf h N Z
    · have hf := if_t c69 hf
      refine X.goto (tgt := 162) dX4_grow_72 (by decide) ?_
      refine X.sub [0, 1, 2] (L' := [(0, .ref m0), (1, .int x1), (2, .int x2)]) rfl ?_
      exact m_grow_162_ok hk49 _ _ _ _ hf h N Z
theorem m_grow_49_ok {G : xG} {m0 : Nat} {S0 : MS}   : ∀ (n : Nat) (x1 : Int32) (x2 : Int32) (S : MS) (q : MS), m_grow_49 n x1 x2 S = some q → XM G m0 mX4_grow 4 S0 none q 49 [(0, .ref m0), (1, .int x1), (2, .int x2)] [] S
  | 0, _, _, _, _, hf => by cases hf
  | n + 1, x1, x2, S, q, hf => m_grow_49_bok (m_grow_49_ok n) x1 x2 S q hf
def m_grow_2_b  (k2 : Int32 → Int32 → MS → Option MS) (x1 : Int32) (x2 : Int32) (S : MS) : Option MS :=
  (m_cells S).bind fun q4 =>
  if q4 ≤ x2 then
    m_grow_49 FU x1 ((0 : Int32)) S
  else
    (rdA S 13 ((x1 + (61 : Int32)) + x2)).bind fun v25 =>
    if v25 = (-1 : Int32) then
      m_grow_40 k2 x1 x2 ((0 : Int32)) x2 S
    else
      (m_growthOf x1 x2 S).bind fun q37 =>
      m_grow_40 k2 x1 x2 q37.1 x2 q37.2
def m_grow_2  : Nat → Int32 → Int32 → MS → Option MS
  | 0 => fun _ _ _ => none
  | n + 1 => fun x1 x2 S => m_grow_2_b (m_grow_2 n) x1 x2 S
theorem m_grow_2_bok {G : xG} {m0 : Nat} {S0 : MS}  {k2 : Int32 → Int32 → MS → Option MS}  (hk2 : ∀ (x1 : Int32) (x2 : Int32) (S : MS) (q : MS), k2 x1 x2 S = some q → XM G m0 mX4_grow 4 S0 none q 2 [(0, .ref m0), (1, .int x1), (2, .int x2)] [] S) (x1 : Int32) (x2 : Int32) (S : MS) (q : MS) (hf : m_grow_2_b k2 x1 x2 S = some q) : XM G m0 mX4_grow 4 S0 none q 2 [(0, .ref m0), (1, .int x1), (2, .int x2)] [] S := by
  intro h N Z
  unfold m_grow_2_b at hf
  refine X.iload_n dX4_grow_2 rfl 2 rfl ?_
  refine X.aload_n dX4_grow_3 rfl 0 rfl ?_
  obtain ⟨q4, h4, hf⟩ := ob hf
  refine X.callVi (As := []) (rest := [.int x2]) dX4_grow_4 (w_cells h4 h N Z) cX4_321 rfl rfl (Nat.le_of_ble_eq_true rfl) mh_0 rfl rfl (xD (Nat.le_of_ble_eq_true rfl)) xleN xleN ?_
  refine X.icmp_ge (tgt := 47) dX4_grow_7 (by decide) (fun c7 => ?_) (fun c7 => ?_)
  · have hf := if_t c7 hf
    refine X.iconst (v := 0) dX4_grow_47 (by decide) ?_
    refine X.istore_n (L' := [(2, .int (0 : Int32)), (0, .ref m0), (1, .int x1)]) dX4_grow_48 rfl (Nat.le_of_ble_eq_true rfl) rfl ?_
    refine X.sub [1, 2, 0] (L' := [(0, .ref m0), (1, .int x1), (2, .int (0 : Int32))]) rfl ?_
    exact m_grow_49_ok FU _ _ _ _ hf h N Z
  · have hf := if_f c7 hf
    refine X.aload_n dX4_grow_10 rfl 0 rfl ?_
    refine M.get (v := .ref (m0 + 17)) dX4_grow_11 fX4_81 (Nat.le_of_ble_eq_true rfl) rfl ?_
    refine X.iload_n dX4_grow_14 rfl 2 rfl ?_
    refine X.aload_n dX4_grow_15 rfl 0 rfl ?_
    refine M.get (v := .ref (m0 + 13)) dX4_grow_16 fX4_69 (Nat.le_of_ble_eq_true rfl) rfl ?_
    refine X.iload_n dX4_grow_19 rfl 1 rfl ?_
    refine X.bipush (v := 61) dX4_grow_20 (by decide) ?_
    refine X.iadd dX4_grow_22 ?_
    refine X.iload_n dX4_grow_23 rfl 2 rfl ?_
    refine X.iadd dX4_grow_24 ?_
    obtain ⟨v25, h25, hf⟩ := ob hf
    refine M.iald dX4_grow_25 rfl h25 ?_
    refine X.iconst (v := -1) dX4_grow_26 (by decide) ?_
    refine X.icmp_ne (tgt := 34) dX4_grow_27 (by decide) (fun c27 => ?_) (fun c27 => ?_)
    · have hf := if_f c27 hf
      refine X.aload_n dX4_grow_34 rfl 0 rfl ?_
      refine X.iload_n dX4_grow_35 rfl 1 rfl ?_
      refine X.iload_n dX4_grow_36 rfl 2 rfl ?_
      obtain ⟨q37, h37, hf⟩ := ob hf
      refine X.callVi (As := [.int x1, .int x2]) (rest := [.int x2, .ref (m0 + 17)]) (T2 := (mh m0 h q37.2, N, Z)) dX4_grow_37 (w_growthOf h37 h N Z) cX4_343 rfl rfl (Nat.le_of_ble_eq_true rfl) mh_0 rfl rfl (xD (Nat.le_of_ble_eq_true rfl)) xleN xleN ?_
      refine X.sub [0, 1, 2] (L' := [(0, .ref m0), (1, .int x1), (2, .int x2)]) rfl ?_
      exact m_grow_40_ok hk2 _ _ _ _ _ _ hf h N Z
    · have hf := if_t c27 hf
      refine X.iconst (v := 0) dX4_grow_30 (by decide) ?_
      refine X.goto (tgt := 40) dX4_grow_31 (by decide) ?_
      refine X.sub [0, 1, 2] (L' := [(0, .ref m0), (1, .int x1), (2, .int x2)]) rfl ?_
      exact m_grow_40_ok hk2 _ _ _ _ _ _ hf h N Z
theorem m_grow_2_ok {G : xG} {m0 : Nat} {S0 : MS}   : ∀ (n : Nat) (x1 : Int32) (x2 : Int32) (S : MS) (q : MS), m_grow_2 n x1 x2 S = some q → XM G m0 mX4_grow 4 S0 none q 2 [(0, .ref m0), (1, .int x1), (2, .int x2)] [] S
  | 0, _, _, _, _, hf => by cases hf
  | n + 1, x1, x2, S, q, hf => m_grow_2_bok (m_grow_2_ok n) x1 x2 S q hf
def m_grow (x1 : Int32) (S : MS) : Option MS :=
  m_grow_2 FU x1 ((0 : Int32)) S
theorem w_grow {G : xG} {m0 : Nat} {x1 : Int32} {S : MS} {q : MS} (hf : m_grow x1 S = some q) : CtM G m0 mX4_grow 4 S [.ref m0, .int x1] none q := by
  intro h N Z
  refine Ct.of (by decide +kernel) rfl (Nat.le_of_ble_eq_true rfl) (show Xr G _ 0 [(0, .ref m0), (1, .int x1)] [] _ from ?_)
  unfold m_grow at hf
  refine X.iconst (v := 0) dX4_grow_0 (by decide) ?_
  refine X.istore_n (L' := [(2, .int (0 : Int32)), (0, .ref m0), (1, .int x1)]) dX4_grow_1 rfl (Nat.le_of_ble_eq_true rfl) rfl ?_
  refine X.sub [1, 2, 0] (L' := [(0, .ref m0), (1, .int x1), (2, .int (0 : Int32))]) rfl ?_
  exact m_grow_2_ok FU _ _ _ _ hf h N Z
theorem cX4_354 : xCV RX4 354 mX4_grow 1 := ⟨lw_V q2012 q2014 qs99 q127 q2015, rfl, ⟨by decide +kernel, by decide +kernel, by decide +kernel⟩, Nat.le_of_ble_eq_true rfl⟩
/-! beatenBy -/
abbrev cX4_beatenBy : ByteArray := prog_12_method_59_code
def yX4_beatenBy : MethodName := ⟨RX4, "beatenBy", "(II)I"⟩
def dkwX4_beatenBy_6 : List UInt8 := [180, 0, 69, 27, 16, 61, 96, 29, 96, 46, 172]
abbrev dktX4_beatenBy_6 : List UInt8 := dkwX4_beatenBy_6 ++ []
def dkwX4_beatenBy_5 : List UInt8 := [167, 255, 143, 29, 2, 160, 0, 17, 42, 180, 0, 69, 27, 16, 61, 96, 28, 96, 46, 167, 0, 14, 42]
abbrev dktX4_beatenBy_5 : List UInt8 := dkwX4_beatenBy_5 ++ dktX4_beatenBy_6
def dkwX4_beatenBy_4 : List UInt8 := [96, 29, 96, 46, 164, 0, 17, 42, 27, 21, 4, 28, 182, 1, 94, 153, 0, 6, 21, 4, 62, 132, 4, 1]
abbrev dktX4_beatenBy_4 : List UInt8 := dkwX4_beatenBy_4 ++ dktX4_beatenBy_5
def dkwX4_beatenBy_3 : List UInt8 := [29, 2, 159, 0, 29, 42, 180, 0, 69, 27, 16, 91, 96, 21, 4, 96, 46, 42, 180, 0, 69, 27, 16, 91]
abbrev dktX4_beatenBy_3 : List UInt8 := dkwX4_beatenBy_3 ++ dktX4_beatenBy_4
def dkwX4_beatenBy_2 : List UInt8 := [16, 61, 96, 21, 4, 96, 46, 42, 180, 0, 69, 27, 16, 61, 96, 28, 96, 46, 160, 0, 6, 167, 0, 48]
abbrev dktX4_beatenBy_2 : List UInt8 := dkwX4_beatenBy_2 ++ dktX4_beatenBy_3
def dkwX4_beatenBy_1 : List UInt8 := [160, 0, 93, 42, 180, 0, 69, 27, 16, 61, 96, 21, 4, 96, 46, 2, 159, 0, 77, 42, 180, 0, 69, 27]
abbrev dktX4_beatenBy_1 : List UInt8 := dkwX4_beatenBy_1 ++ dktX4_beatenBy_2
def dkwX4_beatenBy_0 : List UInt8 := [2, 62, 3, 54, 4, 21, 4, 42, 182, 1, 65, 162, 0, 110, 42, 28, 21, 4, 182, 1, 68, 4]
abbrev dktX4_beatenBy_0 : List UInt8 := dkwX4_beatenBy_0 ++ dktX4_beatenBy_1
theorem dksX4_beatenBy_0 : cX4_beatenBy.data.toList.drop 0 = dktX4_beatenBy_0 := by decide +kernel
theorem dksX4_beatenBy_1 : cX4_beatenBy.data.toList.drop 22 = dktX4_beatenBy_1 := dk_seg dksX4_beatenBy_0 22 rfl rfl
theorem dksX4_beatenBy_2 : cX4_beatenBy.data.toList.drop 46 = dktX4_beatenBy_2 := dk_seg dksX4_beatenBy_1 24 rfl rfl
theorem dksX4_beatenBy_3 : cX4_beatenBy.data.toList.drop 70 = dktX4_beatenBy_3 := dk_seg dksX4_beatenBy_2 24 rfl rfl
theorem dksX4_beatenBy_4 : cX4_beatenBy.data.toList.drop 94 = dktX4_beatenBy_4 := dk_seg dksX4_beatenBy_3 24 rfl rfl
theorem dksX4_beatenBy_5 : cX4_beatenBy.data.toList.drop 118 = dktX4_beatenBy_5 := dk_seg dksX4_beatenBy_4 24 rfl rfl
theorem dksX4_beatenBy_6 : cX4_beatenBy.data.toList.drop 141 = dktX4_beatenBy_6 := dk_seg dksX4_beatenBy_5 23 rfl rfl
theorem dX4_beatenBy_0 : decode cX4_beatenBy 0 = .ok (.iconst (-1), 1) := dk_2 (dk_at dksX4_beatenBy_0 0 rfl rfl)
theorem dX4_beatenBy_1 : decode cX4_beatenBy 1 = .ok (.istore_n 3, 1) := dk_62 (dk_at dksX4_beatenBy_0 1 rfl rfl)
theorem dX4_beatenBy_2 : decode cX4_beatenBy 2 = .ok (.iconst 0, 1) := dk_3 (dk_at dksX4_beatenBy_0 2 rfl rfl)
theorem dX4_beatenBy_3 : decode cX4_beatenBy 3 = .ok (.istore 4, 2) := dk_54 4 (dk_at dksX4_beatenBy_0 3 rfl rfl)
theorem dX4_beatenBy_5 : decode cX4_beatenBy 5 = .ok (.iload 4, 2) := dk_21 4 (dk_at dksX4_beatenBy_0 5 rfl rfl)
theorem dX4_beatenBy_7 : decode cX4_beatenBy 7 = .ok (.aload_n 0, 1) := dk_42 (dk_at dksX4_beatenBy_0 7 rfl rfl)
theorem dX4_beatenBy_8 : decode cX4_beatenBy 8 = .ok (.invokevirtual 321, 3) := dk_182 1 65 (dk_at dksX4_beatenBy_0 8 rfl rfl)
theorem dX4_beatenBy_11 : decode cX4_beatenBy 11 = .ok (.if_icmp .ge 110, 3) := dk_162 0 110 (dk_at dksX4_beatenBy_0 11 rfl rfl)
theorem dX4_beatenBy_14 : decode cX4_beatenBy 14 = .ok (.aload_n 0, 1) := dk_42 (dk_at dksX4_beatenBy_0 14 rfl rfl)
theorem dX4_beatenBy_15 : decode cX4_beatenBy 15 = .ok (.iload_n 2, 1) := dk_28 (dk_at dksX4_beatenBy_0 15 rfl rfl)
theorem dX4_beatenBy_16 : decode cX4_beatenBy 16 = .ok (.iload 4, 2) := dk_21 4 (dk_at dksX4_beatenBy_0 16 rfl rfl)
theorem dX4_beatenBy_18 : decode cX4_beatenBy 18 = .ok (.invokevirtual 324, 3) := dk_182 1 68 (dk_at dksX4_beatenBy_0 18 rfl rfl)
theorem dX4_beatenBy_21 : decode cX4_beatenBy 21 = .ok (.iconst 1, 1) := dk_4 (dk_at dksX4_beatenBy_0 21 rfl rfl)
theorem dX4_beatenBy_22 : decode cX4_beatenBy 22 = .ok (.if_icmp .ne 93, 3) := dk_160 0 93 (dk_at dksX4_beatenBy_1 0 rfl rfl)
theorem dX4_beatenBy_25 : decode cX4_beatenBy 25 = .ok (.aload_n 0, 1) := dk_42 (dk_at dksX4_beatenBy_1 3 rfl rfl)
theorem dX4_beatenBy_26 : decode cX4_beatenBy 26 = .ok (.getfield 69, 3) := dk_180 0 69 (dk_at dksX4_beatenBy_1 4 rfl rfl)
theorem dX4_beatenBy_29 : decode cX4_beatenBy 29 = .ok (.iload_n 1, 1) := dk_27 (dk_at dksX4_beatenBy_1 7 rfl rfl)
theorem dX4_beatenBy_30 : decode cX4_beatenBy 30 = .ok (.bipush 61, 2) := dk_16 61 (dk_at dksX4_beatenBy_1 8 rfl rfl)
theorem dX4_beatenBy_32 : decode cX4_beatenBy 32 = .ok (.iadd, 1) := dk_96 (dk_at dksX4_beatenBy_1 10 rfl rfl)
theorem dX4_beatenBy_33 : decode cX4_beatenBy 33 = .ok (.iload 4, 2) := dk_21 4 (dk_at dksX4_beatenBy_1 11 rfl rfl)
theorem dX4_beatenBy_35 : decode cX4_beatenBy 35 = .ok (.iadd, 1) := dk_96 (dk_at dksX4_beatenBy_1 13 rfl rfl)
theorem dX4_beatenBy_36 : decode cX4_beatenBy 36 = .ok (.iaload, 1) := dk_46 (dk_at dksX4_beatenBy_1 14 rfl rfl)
theorem dX4_beatenBy_37 : decode cX4_beatenBy 37 = .ok (.iconst (-1), 1) := dk_2 (dk_at dksX4_beatenBy_1 15 rfl rfl)
theorem dX4_beatenBy_38 : decode cX4_beatenBy 38 = .ok (.if_icmp .eq 77, 3) := dk_159 0 77 (dk_at dksX4_beatenBy_1 16 rfl rfl)
theorem dX4_beatenBy_41 : decode cX4_beatenBy 41 = .ok (.aload_n 0, 1) := dk_42 (dk_at dksX4_beatenBy_1 19 rfl rfl)
theorem dX4_beatenBy_42 : decode cX4_beatenBy 42 = .ok (.getfield 69, 3) := dk_180 0 69 (dk_at dksX4_beatenBy_1 20 rfl rfl)
theorem dX4_beatenBy_45 : decode cX4_beatenBy 45 = .ok (.iload_n 1, 1) := dk_27 (dk_at dksX4_beatenBy_1 23 rfl rfl)
theorem dX4_beatenBy_46 : decode cX4_beatenBy 46 = .ok (.bipush 61, 2) := dk_16 61 (dk_at dksX4_beatenBy_2 0 rfl rfl)
theorem dX4_beatenBy_48 : decode cX4_beatenBy 48 = .ok (.iadd, 1) := dk_96 (dk_at dksX4_beatenBy_2 2 rfl rfl)
theorem dX4_beatenBy_49 : decode cX4_beatenBy 49 = .ok (.iload 4, 2) := dk_21 4 (dk_at dksX4_beatenBy_2 3 rfl rfl)
theorem dX4_beatenBy_51 : decode cX4_beatenBy 51 = .ok (.iadd, 1) := dk_96 (dk_at dksX4_beatenBy_2 5 rfl rfl)
theorem dX4_beatenBy_52 : decode cX4_beatenBy 52 = .ok (.iaload, 1) := dk_46 (dk_at dksX4_beatenBy_2 6 rfl rfl)
theorem dX4_beatenBy_53 : decode cX4_beatenBy 53 = .ok (.aload_n 0, 1) := dk_42 (dk_at dksX4_beatenBy_2 7 rfl rfl)
theorem dX4_beatenBy_54 : decode cX4_beatenBy 54 = .ok (.getfield 69, 3) := dk_180 0 69 (dk_at dksX4_beatenBy_2 8 rfl rfl)
theorem dX4_beatenBy_57 : decode cX4_beatenBy 57 = .ok (.iload_n 1, 1) := dk_27 (dk_at dksX4_beatenBy_2 11 rfl rfl)
theorem dX4_beatenBy_58 : decode cX4_beatenBy 58 = .ok (.bipush 61, 2) := dk_16 61 (dk_at dksX4_beatenBy_2 12 rfl rfl)
theorem dX4_beatenBy_60 : decode cX4_beatenBy 60 = .ok (.iadd, 1) := dk_96 (dk_at dksX4_beatenBy_2 14 rfl rfl)
theorem dX4_beatenBy_61 : decode cX4_beatenBy 61 = .ok (.iload_n 2, 1) := dk_28 (dk_at dksX4_beatenBy_2 15 rfl rfl)
theorem dX4_beatenBy_62 : decode cX4_beatenBy 62 = .ok (.iadd, 1) := dk_96 (dk_at dksX4_beatenBy_2 16 rfl rfl)
theorem dX4_beatenBy_63 : decode cX4_beatenBy 63 = .ok (.iaload, 1) := dk_46 (dk_at dksX4_beatenBy_2 17 rfl rfl)
theorem dX4_beatenBy_64 : decode cX4_beatenBy 64 = .ok (.if_icmp .ne 6, 3) := dk_160 0 6 (dk_at dksX4_beatenBy_2 18 rfl rfl)
theorem dX4_beatenBy_67 : decode cX4_beatenBy 67 = .ok (.goto 48, 3) := dk_167 0 48 (dk_at dksX4_beatenBy_2 21 rfl rfl)
theorem dX4_beatenBy_70 : decode cX4_beatenBy 70 = .ok (.iload_n 3, 1) := dk_29 (dk_at dksX4_beatenBy_3 0 rfl rfl)
theorem dX4_beatenBy_71 : decode cX4_beatenBy 71 = .ok (.iconst (-1), 1) := dk_2 (dk_at dksX4_beatenBy_3 1 rfl rfl)
theorem dX4_beatenBy_72 : decode cX4_beatenBy 72 = .ok (.if_icmp .eq 29, 3) := dk_159 0 29 (dk_at dksX4_beatenBy_3 2 rfl rfl)
theorem dX4_beatenBy_75 : decode cX4_beatenBy 75 = .ok (.aload_n 0, 1) := dk_42 (dk_at dksX4_beatenBy_3 5 rfl rfl)
theorem dX4_beatenBy_76 : decode cX4_beatenBy 76 = .ok (.getfield 69, 3) := dk_180 0 69 (dk_at dksX4_beatenBy_3 6 rfl rfl)
theorem dX4_beatenBy_79 : decode cX4_beatenBy 79 = .ok (.iload_n 1, 1) := dk_27 (dk_at dksX4_beatenBy_3 9 rfl rfl)
theorem dX4_beatenBy_80 : decode cX4_beatenBy 80 = .ok (.bipush 91, 2) := dk_16 91 (dk_at dksX4_beatenBy_3 10 rfl rfl)
theorem dX4_beatenBy_82 : decode cX4_beatenBy 82 = .ok (.iadd, 1) := dk_96 (dk_at dksX4_beatenBy_3 12 rfl rfl)
theorem dX4_beatenBy_83 : decode cX4_beatenBy 83 = .ok (.iload 4, 2) := dk_21 4 (dk_at dksX4_beatenBy_3 13 rfl rfl)
theorem dX4_beatenBy_85 : decode cX4_beatenBy 85 = .ok (.iadd, 1) := dk_96 (dk_at dksX4_beatenBy_3 15 rfl rfl)
theorem dX4_beatenBy_86 : decode cX4_beatenBy 86 = .ok (.iaload, 1) := dk_46 (dk_at dksX4_beatenBy_3 16 rfl rfl)
theorem dX4_beatenBy_87 : decode cX4_beatenBy 87 = .ok (.aload_n 0, 1) := dk_42 (dk_at dksX4_beatenBy_3 17 rfl rfl)
theorem dX4_beatenBy_88 : decode cX4_beatenBy 88 = .ok (.getfield 69, 3) := dk_180 0 69 (dk_at dksX4_beatenBy_3 18 rfl rfl)
theorem dX4_beatenBy_91 : decode cX4_beatenBy 91 = .ok (.iload_n 1, 1) := dk_27 (dk_at dksX4_beatenBy_3 21 rfl rfl)
theorem dX4_beatenBy_92 : decode cX4_beatenBy 92 = .ok (.bipush 91, 2) := dk_16 91 (dk_at dksX4_beatenBy_3 22 rfl rfl)
theorem dX4_beatenBy_94 : decode cX4_beatenBy 94 = .ok (.iadd, 1) := dk_96 (dk_at dksX4_beatenBy_4 0 rfl rfl)
theorem dX4_beatenBy_95 : decode cX4_beatenBy 95 = .ok (.iload_n 3, 1) := dk_29 (dk_at dksX4_beatenBy_4 1 rfl rfl)
theorem dX4_beatenBy_96 : decode cX4_beatenBy 96 = .ok (.iadd, 1) := dk_96 (dk_at dksX4_beatenBy_4 2 rfl rfl)
theorem dX4_beatenBy_97 : decode cX4_beatenBy 97 = .ok (.iaload, 1) := dk_46 (dk_at dksX4_beatenBy_4 3 rfl rfl)
theorem dX4_beatenBy_98 : decode cX4_beatenBy 98 = .ok (.if_icmp .le 17, 3) := dk_164 0 17 (dk_at dksX4_beatenBy_4 4 rfl rfl)
theorem dX4_beatenBy_101 : decode cX4_beatenBy 101 = .ok (.aload_n 0, 1) := dk_42 (dk_at dksX4_beatenBy_4 7 rfl rfl)
theorem dX4_beatenBy_102 : decode cX4_beatenBy 102 = .ok (.iload_n 1, 1) := dk_27 (dk_at dksX4_beatenBy_4 8 rfl rfl)
theorem dX4_beatenBy_103 : decode cX4_beatenBy 103 = .ok (.iload 4, 2) := dk_21 4 (dk_at dksX4_beatenBy_4 9 rfl rfl)
theorem dX4_beatenBy_105 : decode cX4_beatenBy 105 = .ok (.iload_n 2, 1) := dk_28 (dk_at dksX4_beatenBy_4 11 rfl rfl)
theorem dX4_beatenBy_106 : decode cX4_beatenBy 106 = .ok (.invokevirtual 350, 3) := dk_182 1 94 (dk_at dksX4_beatenBy_4 12 rfl rfl)
theorem dX4_beatenBy_109 : decode cX4_beatenBy 109 = .ok (.ifCond .eq 6, 3) := dk_153 0 6 (dk_at dksX4_beatenBy_4 15 rfl rfl)
theorem dX4_beatenBy_112 : decode cX4_beatenBy 112 = .ok (.iload 4, 2) := dk_21 4 (dk_at dksX4_beatenBy_4 18 rfl rfl)
theorem dX4_beatenBy_114 : decode cX4_beatenBy 114 = .ok (.istore_n 3, 1) := dk_62 (dk_at dksX4_beatenBy_4 20 rfl rfl)
theorem dX4_beatenBy_115 : decode cX4_beatenBy 115 = .ok (.iinc 4 1, 3) := dk_132 4 1 (dk_at dksX4_beatenBy_4 21 rfl rfl)
theorem dX4_beatenBy_118 : decode cX4_beatenBy 118 = .ok (.goto (-113), 3) := dk_167 255 143 (dk_at dksX4_beatenBy_5 0 rfl rfl)
theorem dX4_beatenBy_121 : decode cX4_beatenBy 121 = .ok (.iload_n 3, 1) := dk_29 (dk_at dksX4_beatenBy_5 3 rfl rfl)
theorem dX4_beatenBy_122 : decode cX4_beatenBy 122 = .ok (.iconst (-1), 1) := dk_2 (dk_at dksX4_beatenBy_5 4 rfl rfl)
theorem dX4_beatenBy_123 : decode cX4_beatenBy 123 = .ok (.if_icmp .ne 17, 3) := dk_160 0 17 (dk_at dksX4_beatenBy_5 5 rfl rfl)
theorem dX4_beatenBy_126 : decode cX4_beatenBy 126 = .ok (.aload_n 0, 1) := dk_42 (dk_at dksX4_beatenBy_5 8 rfl rfl)
theorem dX4_beatenBy_127 : decode cX4_beatenBy 127 = .ok (.getfield 69, 3) := dk_180 0 69 (dk_at dksX4_beatenBy_5 9 rfl rfl)
theorem dX4_beatenBy_130 : decode cX4_beatenBy 130 = .ok (.iload_n 1, 1) := dk_27 (dk_at dksX4_beatenBy_5 12 rfl rfl)
theorem dX4_beatenBy_131 : decode cX4_beatenBy 131 = .ok (.bipush 61, 2) := dk_16 61 (dk_at dksX4_beatenBy_5 13 rfl rfl)
theorem dX4_beatenBy_133 : decode cX4_beatenBy 133 = .ok (.iadd, 1) := dk_96 (dk_at dksX4_beatenBy_5 15 rfl rfl)
theorem dX4_beatenBy_134 : decode cX4_beatenBy 134 = .ok (.iload_n 2, 1) := dk_28 (dk_at dksX4_beatenBy_5 16 rfl rfl)
theorem dX4_beatenBy_135 : decode cX4_beatenBy 135 = .ok (.iadd, 1) := dk_96 (dk_at dksX4_beatenBy_5 17 rfl rfl)
theorem dX4_beatenBy_136 : decode cX4_beatenBy 136 = .ok (.iaload, 1) := dk_46 (dk_at dksX4_beatenBy_5 18 rfl rfl)
theorem dX4_beatenBy_137 : decode cX4_beatenBy 137 = .ok (.goto 14, 3) := dk_167 0 14 (dk_at dksX4_beatenBy_5 19 rfl rfl)
theorem dX4_beatenBy_140 : decode cX4_beatenBy 140 = .ok (.aload_n 0, 1) := dk_42 (dk_at dksX4_beatenBy_5 22 rfl rfl)
theorem dX4_beatenBy_141 : decode cX4_beatenBy 141 = .ok (.getfield 69, 3) := dk_180 0 69 (dk_at dksX4_beatenBy_6 0 rfl rfl)
theorem dX4_beatenBy_144 : decode cX4_beatenBy 144 = .ok (.iload_n 1, 1) := dk_27 (dk_at dksX4_beatenBy_6 3 rfl rfl)
theorem dX4_beatenBy_145 : decode cX4_beatenBy 145 = .ok (.bipush 61, 2) := dk_16 61 (dk_at dksX4_beatenBy_6 4 rfl rfl)
theorem dX4_beatenBy_147 : decode cX4_beatenBy 147 = .ok (.iadd, 1) := dk_96 (dk_at dksX4_beatenBy_6 6 rfl rfl)
theorem dX4_beatenBy_148 : decode cX4_beatenBy 148 = .ok (.iload_n 3, 1) := dk_29 (dk_at dksX4_beatenBy_6 7 rfl rfl)
theorem dX4_beatenBy_149 : decode cX4_beatenBy 149 = .ok (.iadd, 1) := dk_96 (dk_at dksX4_beatenBy_6 8 rfl rfl)
theorem dX4_beatenBy_150 : decode cX4_beatenBy 150 = .ok (.iaload, 1) := dk_46 (dk_at dksX4_beatenBy_6 9 rfl rfl)
theorem dX4_beatenBy_151 : decode cX4_beatenBy 151 = .ok (.ireturn, 1) := dk_172 (dk_at dksX4_beatenBy_6 10 rfl rfl)
abbrev mX4_beatenBy : xM := (yX4_beatenBy, cX4_beatenBy, 5, (some .int), [])
def m_beatenBy_115 (k5 : Int32 → Int32 → Int32 → Int32 → MS → Option (Int32 × MS)) (x1 : Int32) (x2 : Int32) (x3 : Int32) (x4 : Int32) (S : MS) : Option (Int32 × MS) :=
  k5 x1 x2 x3 ((x4 + 1)) S
theorem m_beatenBy_115_ok {G : xG} {m0 : Nat} {S0 : MS} {k5 : Int32 → Int32 → Int32 → Int32 → MS → Option (Int32 × MS)} (hk5 : ∀ (x1 : Int32) (x2 : Int32) (x3 : Int32) (x4 : Int32) (S : MS) (q : (Int32 × MS)), k5 x1 x2 x3 x4 S = some q → XM G m0 mX4_beatenBy 4 S0 (some (.int q.1)) q.2 5 [(0, .ref m0), (1, .int x1), (2, .int x2), (3, .int x3), (4, .int x4)] [] S) (x1 : Int32) (x2 : Int32) (x3 : Int32) (x4 : Int32) (S : MS) (q : (Int32 × MS)) (hf : m_beatenBy_115 k5 x1 x2 x3 x4 S = some q) : XM G m0 mX4_beatenBy 4 S0 (some (.int q.1)) q.2 115 [(0, .ref m0), (1, .int x1), (2, .int x2), (3, .int x3), (4, .int x4)] [] S := by
  intro h N Z
  unfold m_beatenBy_115 at hf
  refine X.iinc (v := (x4 + 1)) (L' := [(4, .int (x4 + 1)), (0, .ref m0), (1, .int x1), (2, .int x2), (3, .int x3)]) dX4_beatenBy_115 4 rfl rfl (Nat.le_of_ble_eq_true rfl) rfl ?_
  refine X.goto (tgt := 5) dX4_beatenBy_118 (by decide) ?_
  refine X.sub [1, 2, 3, 4, 0] (L' := [(0, .ref m0), (1, .int x1), (2, .int x2), (3, .int x3), (4, .int (x4 + 1))]) rfl ?_
  exact hk5 _ _ _ _ _ _ hf h N Z
def m_beatenBy_101 (k5 : Int32 → Int32 → Int32 → Int32 → MS → Option (Int32 × MS)) (x1 : Int32) (x2 : Int32) (x3 : Int32) (x4 : Int32) (S : MS) : Option (Int32 × MS) :=
  (m_doesBeat x1 x4 x2 S).bind fun q106 =>
  if q106.1 = 0 then
    m_beatenBy_115 k5 x1 x2 x3 x4 q106.2
  else
    m_beatenBy_115 k5 x1 x2 x4 x4 q106.2
theorem m_beatenBy_101_ok {G : xG} {m0 : Nat} {S0 : MS} {k5 : Int32 → Int32 → Int32 → Int32 → MS → Option (Int32 × MS)} (hk5 : ∀ (x1 : Int32) (x2 : Int32) (x3 : Int32) (x4 : Int32) (S : MS) (q : (Int32 × MS)), k5 x1 x2 x3 x4 S = some q → XM G m0 mX4_beatenBy 4 S0 (some (.int q.1)) q.2 5 [(0, .ref m0), (1, .int x1), (2, .int x2), (3, .int x3), (4, .int x4)] [] S) (x1 : Int32) (x2 : Int32) (x3 : Int32) (x4 : Int32) (S : MS) (q : (Int32 × MS)) (hf : m_beatenBy_101 k5 x1 x2 x3 x4 S = some q) : XM G m0 mX4_beatenBy 4 S0 (some (.int q.1)) q.2 101 [(0, .ref m0), (1, .int x1), (2, .int x2), (3, .int x3), (4, .int x4)] [] S := by
  intro h N Z
  unfold m_beatenBy_101 at hf
  refine X.aload_n dX4_beatenBy_101 rfl 0 rfl ?_
  refine X.iload_n dX4_beatenBy_102 rfl 1 rfl ?_
  refine X.iload dX4_beatenBy_103 4 rfl ?_
  refine X.iload_n dX4_beatenBy_105 rfl 2 rfl ?_
  obtain ⟨q106, h106, hf⟩ := ob hf
  refine X.callVi (As := [.int x1, .int x4, .int x2]) (rest := []) (T2 := (mh m0 h q106.2, N, Z)) dX4_beatenBy_106 (w_doesBeat h106 h N Z) cX4_350 rfl rfl (Nat.le_of_ble_eq_true rfl) mh_0 rfl rfl (xD (Nat.le_of_ble_eq_true rfl)) xleN xleN ?_
  refine X.if_eq (tgt := 115) dX4_beatenBy_109 (by decide) (fun c109 => ?_) (fun c109 => ?_)
  · have hf := if_t c109 hf
    refine X.sub [0, 1, 2, 3, 4] (L' := [(0, .ref m0), (1, .int x1), (2, .int x2), (3, .int x3), (4, .int x4)]) rfl ?_
    exact m_beatenBy_115_ok hk5 _ _ _ _ _ _ hf h N Z
  · have hf := if_f c109 hf
    refine X.iload dX4_beatenBy_112 4 rfl ?_
    refine X.istore_n (L' := [(3, .int x4), (0, .ref m0), (1, .int x1), (2, .int x2), (4, .int x4)]) dX4_beatenBy_114 rfl (Nat.le_of_ble_eq_true rfl) rfl ?_
    refine X.sub [1, 2, 3, 0, 4] (L' := [(0, .ref m0), (1, .int x1), (2, .int x2), (3, .int x4), (4, .int x4)]) rfl ?_
    exact m_beatenBy_115_ok hk5 _ _ _ _ _ _ hf h N Z
def m_beatenBy_5_b  (k5 : Int32 → Int32 → Int32 → Int32 → MS → Option (Int32 × MS)) (x1 : Int32) (x2 : Int32) (x3 : Int32) (x4 : Int32) (S : MS) : Option (Int32 × MS) :=
  (m_cells S).bind fun q8 =>
  if q8 ≤ x4 then
    if x3 = (-1 : Int32) then
      (rdA S 13 ((x1 + (61 : Int32)) + x2)).bind fun v136 =>
      some (v136, S)
    else
      (rdA S 13 ((x1 + (61 : Int32)) + x3)).bind fun v150 =>
      some (v150, S)
  else
    (m_far x2 x4 S).bind fun q18 =>
    if q18 = (1 : Int32) then
      (rdA S 13 ((x1 + (61 : Int32)) + x4)).bind fun v36 =>
      if v36 = (-1 : Int32) then
        m_beatenBy_115 k5 x1 x2 x3 x4 S
      else
        (rdA S 13 ((x1 + (61 : Int32)) + x4)).bind fun v52 =>
        (rdA S 13 ((x1 + (61 : Int32)) + x2)).bind fun v63 =>
        if v52 = v63 then
          m_beatenBy_115 k5 x1 x2 x3 x4 S
        else
          if x3 = (-1 : Int32) then
            m_beatenBy_101 k5 x1 x2 x3 x4 S
          else
            (rdA S 13 ((x1 + (91 : Int32)) + x4)).bind fun v86 =>
            (rdA S 13 ((x1 + (91 : Int32)) + x3)).bind fun v97 =>
            if v86 ≤ v97 then
              m_beatenBy_115 k5 x1 x2 x3 x4 S
            else
              m_beatenBy_101 k5 x1 x2 x3 x4 S
    else
      m_beatenBy_115 k5 x1 x2 x3 x4 S
def m_beatenBy_5  : Nat → Int32 → Int32 → Int32 → Int32 → MS → Option (Int32 × MS)
  | 0 => fun _ _ _ _ _ => none
  | n + 1 => fun x1 x2 x3 x4 S => m_beatenBy_5_b (m_beatenBy_5 n) x1 x2 x3 x4 S
theorem m_beatenBy_5_bok {G : xG} {m0 : Nat} {S0 : MS}  {k5 : Int32 → Int32 → Int32 → Int32 → MS → Option (Int32 × MS)}  (hk5 : ∀ (x1 : Int32) (x2 : Int32) (x3 : Int32) (x4 : Int32) (S : MS) (q : (Int32 × MS)), k5 x1 x2 x3 x4 S = some q → XM G m0 mX4_beatenBy 4 S0 (some (.int q.1)) q.2 5 [(0, .ref m0), (1, .int x1), (2, .int x2), (3, .int x3), (4, .int x4)] [] S) (x1 : Int32) (x2 : Int32) (x3 : Int32) (x4 : Int32) (S : MS) (q : (Int32 × MS)) (hf : m_beatenBy_5_b k5 x1 x2 x3 x4 S = some q) : XM G m0 mX4_beatenBy 4 S0 (some (.int q.1)) q.2 5 [(0, .ref m0), (1, .int x1), (2, .int x2), (3, .int x3), (4, .int x4)] [] S := by
  intro h N Z
  unfold m_beatenBy_5_b at hf
  refine X.iload dX4_beatenBy_5 4 rfl ?_
  refine X.aload_n dX4_beatenBy_7 rfl 0 rfl ?_
  obtain ⟨q8, h8, hf⟩ := ob hf
  refine X.callVi (As := []) (rest := [.int x4]) dX4_beatenBy_8 (w_cells h8 h N Z) cX4_321 rfl rfl (Nat.le_of_ble_eq_true rfl) mh_0 rfl rfl (xD (Nat.le_of_ble_eq_true rfl)) xleN xleN ?_
  refine X.icmp_ge (tgt := 121) dX4_beatenBy_11 (by decide) (fun c11 => ?_) (fun c11 => ?_)
  · have hf := if_t c11 hf
    refine X.iload_n dX4_beatenBy_121 rfl 3 rfl ?_
    refine X.iconst (v := -1) dX4_beatenBy_122 (by decide) ?_
    refine X.icmp_ne (tgt := 140) dX4_beatenBy_123 (by decide) (fun c123 => ?_) (fun c123 => ?_)
    · have hf := if_f c123 hf
      refine X.aload_n dX4_beatenBy_140 rfl 0 rfl ?_
      refine M.get (v := .ref (m0 + 13)) dX4_beatenBy_141 fX4_69 (Nat.le_of_ble_eq_true rfl) rfl ?_
      refine X.iload_n dX4_beatenBy_144 rfl 1 rfl ?_
      refine X.bipush (v := 61) dX4_beatenBy_145 (by decide) ?_
      refine X.iadd dX4_beatenBy_147 ?_
      refine X.iload_n dX4_beatenBy_148 rfl 3 rfl ?_
      refine X.iadd dX4_beatenBy_149 ?_
      obtain ⟨v150, h150, hf⟩ := ob hf
      refine M.iald dX4_beatenBy_150 rfl h150 ?_
      obtain rfl := Option.some.inj hf
      exact X.iret dX4_beatenBy_151 rfl rfl rfl
    · have hf := if_t c123 hf
      refine X.aload_n dX4_beatenBy_126 rfl 0 rfl ?_
      refine M.get (v := .ref (m0 + 13)) dX4_beatenBy_127 fX4_69 (Nat.le_of_ble_eq_true rfl) rfl ?_
      refine X.iload_n dX4_beatenBy_130 rfl 1 rfl ?_
      refine X.bipush (v := 61) dX4_beatenBy_131 (by decide) ?_
      refine X.iadd dX4_beatenBy_133 ?_
      refine X.iload_n dX4_beatenBy_134 rfl 2 rfl ?_
      refine X.iadd dX4_beatenBy_135 ?_
      obtain ⟨v136, h136, hf⟩ := ob hf
      refine M.iald dX4_beatenBy_136 rfl h136 ?_
      refine X.goto (tgt := 151) dX4_beatenBy_137 (by decide) ?_
      obtain rfl := Option.some.inj hf
      exact X.iret dX4_beatenBy_151 rfl rfl rfl
  · have hf := if_f c11 hf
    refine X.aload_n dX4_beatenBy_14 rfl 0 rfl ?_
    refine X.iload_n dX4_beatenBy_15 rfl 2 rfl ?_
    refine X.iload dX4_beatenBy_16 4 rfl ?_
    obtain ⟨q18, h18, hf⟩ := ob hf
    refine X.callVi (As := [.int x2, .int x4]) (rest := []) dX4_beatenBy_18 (w_far h18 h N Z) cX4_324 rfl rfl (Nat.le_of_ble_eq_true rfl) mh_0 rfl rfl (xD (Nat.le_of_ble_eq_true rfl)) xleN xleN ?_
    refine X.iconst (v := 1) dX4_beatenBy_21 (by decide) ?_
    refine X.icmp_ne (tgt := 115) dX4_beatenBy_22 (by decide) (fun c22 => ?_) (fun c22 => ?_)
    · have hf := if_f c22 hf
      refine X.sub [0, 1, 2, 3, 4] (L' := [(0, .ref m0), (1, .int x1), (2, .int x2), (3, .int x3), (4, .int x4)]) rfl ?_
      exact m_beatenBy_115_ok hk5 _ _ _ _ _ _ hf h N Z
    · have hf := if_t c22 hf
      refine X.aload_n dX4_beatenBy_25 rfl 0 rfl ?_
      refine M.get (v := .ref (m0 + 13)) dX4_beatenBy_26 fX4_69 (Nat.le_of_ble_eq_true rfl) rfl ?_
      refine X.iload_n dX4_beatenBy_29 rfl 1 rfl ?_
      refine X.bipush (v := 61) dX4_beatenBy_30 (by decide) ?_
      refine X.iadd dX4_beatenBy_32 ?_
      refine X.iload dX4_beatenBy_33 4 rfl ?_
      refine X.iadd dX4_beatenBy_35 ?_
      obtain ⟨v36, h36, hf⟩ := ob hf
      refine M.iald dX4_beatenBy_36 rfl h36 ?_
      refine X.iconst (v := -1) dX4_beatenBy_37 (by decide) ?_
      refine X.icmp_eq (tgt := 115) dX4_beatenBy_38 (by decide) (fun c38 => ?_) (fun c38 => ?_)
      · have hf := if_t c38 hf
        refine X.sub [0, 1, 2, 3, 4] (L' := [(0, .ref m0), (1, .int x1), (2, .int x2), (3, .int x3), (4, .int x4)]) rfl ?_
        exact m_beatenBy_115_ok hk5 _ _ _ _ _ _ hf h N Z
      · have hf := if_f c38 hf
        refine X.aload_n dX4_beatenBy_41 rfl 0 rfl ?_
        refine M.get (v := .ref (m0 + 13)) dX4_beatenBy_42 fX4_69 (Nat.le_of_ble_eq_true rfl) rfl ?_
        refine X.iload_n dX4_beatenBy_45 rfl 1 rfl ?_
        refine X.bipush (v := 61) dX4_beatenBy_46 (by decide) ?_
        refine X.iadd dX4_beatenBy_48 ?_
        refine X.iload dX4_beatenBy_49 4 rfl ?_
        refine X.iadd dX4_beatenBy_51 ?_
        obtain ⟨v52, h52, hf⟩ := ob hf
        refine M.iald dX4_beatenBy_52 rfl h52 ?_
        refine X.aload_n dX4_beatenBy_53 rfl 0 rfl ?_
        refine M.get (v := .ref (m0 + 13)) dX4_beatenBy_54 fX4_69 (Nat.le_of_ble_eq_true rfl) rfl ?_
        refine X.iload_n dX4_beatenBy_57 rfl 1 rfl ?_
        refine X.bipush (v := 61) dX4_beatenBy_58 (by decide) ?_
        refine X.iadd dX4_beatenBy_60 ?_
        refine X.iload_n dX4_beatenBy_61 rfl 2 rfl ?_
        refine X.iadd dX4_beatenBy_62 ?_
        obtain ⟨v63, h63, hf⟩ := ob hf
        refine M.iald dX4_beatenBy_63 rfl h63 ?_
        refine X.icmp_ne (tgt := 70) dX4_beatenBy_64 (by decide) (fun c64 => ?_) (fun c64 => ?_)
        · have hf := if_f c64 hf
          refine X.iload_n dX4_beatenBy_70 rfl 3 rfl ?_
          refine X.iconst (v := -1) dX4_beatenBy_71 (by decide) ?_
          refine X.icmp_eq (tgt := 101) dX4_beatenBy_72 (by decide) (fun c72 => ?_) (fun c72 => ?_)
          · have hf := if_t c72 hf
            refine X.sub [0, 1, 2, 3, 4] (L' := [(0, .ref m0), (1, .int x1), (2, .int x2), (3, .int x3), (4, .int x4)]) rfl ?_
            exact m_beatenBy_101_ok hk5 _ _ _ _ _ _ hf h N Z
          · have hf := if_f c72 hf
            refine X.aload_n dX4_beatenBy_75 rfl 0 rfl ?_
            refine M.get (v := .ref (m0 + 13)) dX4_beatenBy_76 fX4_69 (Nat.le_of_ble_eq_true rfl) rfl ?_
            refine X.iload_n dX4_beatenBy_79 rfl 1 rfl ?_
            refine X.bipush (v := 91) dX4_beatenBy_80 (by decide) ?_
            refine X.iadd dX4_beatenBy_82 ?_
            refine X.iload dX4_beatenBy_83 4 rfl ?_
            refine X.iadd dX4_beatenBy_85 ?_
            obtain ⟨v86, h86, hf⟩ := ob hf
            refine M.iald dX4_beatenBy_86 rfl h86 ?_
            refine X.aload_n dX4_beatenBy_87 rfl 0 rfl ?_
            refine M.get (v := .ref (m0 + 13)) dX4_beatenBy_88 fX4_69 (Nat.le_of_ble_eq_true rfl) rfl ?_
            refine X.iload_n dX4_beatenBy_91 rfl 1 rfl ?_
            refine X.bipush (v := 91) dX4_beatenBy_92 (by decide) ?_
            refine X.iadd dX4_beatenBy_94 ?_
            refine X.iload_n dX4_beatenBy_95 rfl 3 rfl ?_
            refine X.iadd dX4_beatenBy_96 ?_
            obtain ⟨v97, h97, hf⟩ := ob hf
            refine M.iald dX4_beatenBy_97 rfl h97 ?_
            refine X.icmp_le (tgt := 115) dX4_beatenBy_98 (by decide) (fun c98 => ?_) (fun c98 => ?_)
            · have hf := if_t c98 hf
              refine X.sub [0, 1, 2, 3, 4] (L' := [(0, .ref m0), (1, .int x1), (2, .int x2), (3, .int x3), (4, .int x4)]) rfl ?_
              exact m_beatenBy_115_ok hk5 _ _ _ _ _ _ hf h N Z
            · have hf := if_f c98 hf
              refine X.sub [0, 1, 2, 3, 4] (L' := [(0, .ref m0), (1, .int x1), (2, .int x2), (3, .int x3), (4, .int x4)]) rfl ?_
              exact m_beatenBy_101_ok hk5 _ _ _ _ _ _ hf h N Z
        · have hf := if_t c64 hf
          refine X.goto (tgt := 115) dX4_beatenBy_67 (by decide) ?_
          refine X.sub [0, 1, 2, 3, 4] (L' := [(0, .ref m0), (1, .int x1), (2, .int x2), (3, .int x3), (4, .int x4)]) rfl ?_
          exact m_beatenBy_115_ok hk5 _ _ _ _ _ _ hf h N Z
theorem m_beatenBy_5_ok {G : xG} {m0 : Nat} {S0 : MS}   : ∀ (n : Nat) (x1 : Int32) (x2 : Int32) (x3 : Int32) (x4 : Int32) (S : MS) (q : (Int32 × MS)), m_beatenBy_5 n x1 x2 x3 x4 S = some q → XM G m0 mX4_beatenBy 4 S0 (some (.int q.1)) q.2 5 [(0, .ref m0), (1, .int x1), (2, .int x2), (3, .int x3), (4, .int x4)] [] S
  | 0, _, _, _, _, _, _, hf => by cases hf
  | n + 1, x1, x2, x3, x4, S, q, hf => m_beatenBy_5_bok (m_beatenBy_5_ok n) x1 x2 x3 x4 S q hf
def m_beatenBy (x1 : Int32) (x2 : Int32) (S : MS) : Option (Int32 × MS) :=
  m_beatenBy_5 FU x1 x2 ((-1 : Int32)) ((0 : Int32)) S
theorem w_beatenBy {G : xG} {m0 : Nat} {x1 : Int32} {x2 : Int32} {S : MS} {q : (Int32 × MS)} (hf : m_beatenBy x1 x2 S = some q) : CtM G m0 mX4_beatenBy 4 S [.ref m0, .int x1, .int x2] (some (.int q.1)) q.2 := by
  intro h N Z
  refine Ct.of (by decide +kernel) rfl (Nat.le_of_ble_eq_true rfl) (show Xr G _ 0 [(0, .ref m0), (1, .int x1), (2, .int x2)] [] _ from ?_)
  unfold m_beatenBy at hf
  refine X.iconst (v := -1) dX4_beatenBy_0 (by decide) ?_
  refine X.istore_n (L' := [(3, .int (-1 : Int32)), (0, .ref m0), (1, .int x1), (2, .int x2)]) dX4_beatenBy_1 rfl (Nat.le_of_ble_eq_true rfl) rfl ?_
  refine X.iconst (v := 0) dX4_beatenBy_2 (by decide) ?_
  refine X.istore (L' := [(4, .int (0 : Int32)), (3, .int (-1 : Int32)), (0, .ref m0), (1, .int x1), (2, .int x2)]) dX4_beatenBy_3 (Nat.le_of_ble_eq_true rfl) rfl ?_
  refine X.sub [2, 3, 4, 1, 0] (L' := [(0, .ref m0), (1, .int x1), (2, .int x2), (3, .int (-1 : Int32)), (4, .int (0 : Int32))]) rfl ?_
  exact m_beatenBy_5_ok FU _ _ _ _ _ _ hf h N Z
theorem cX4_357 : xCV RX4 357 mX4_beatenBy 2 := ⟨lw_V q2020 q2022 qs101 q127 q2023, rfl, ⟨by decide +kernel, by decide +kernel, by decide +kernel⟩, Nat.le_of_ble_eq_true rfl⟩
/-! sownBy -/
abbrev cX4_sownBy : ByteArray := prog_12_method_60_code
def yX4_sownBy : MethodName := ⟨RX4, "sownBy", "(II)I"⟩
def dkwX4_sownBy_4 : List UInt8 := [2, 167, 0, 14, 42, 180, 0, 69, 27, 16, 61, 96, 29, 96, 46, 172]
abbrev dktX4_sownBy_4 : List UInt8 := dkwX4_sownBy_4 ++ []
def dkwX4_sownBy_3 : List UInt8 := [27, 16, 91, 96, 29, 96, 46, 164, 0, 6, 21, 4, 62, 132, 4, 1, 167, 255, 177, 29, 2, 160, 0, 7]
abbrev dktX4_sownBy_3 : List UInt8 := dkwX4_sownBy_3 ++ dktX4_sownBy_4
def dkwX4_sownBy_2 : List UInt8 := [167, 0, 37, 29, 2, 159, 0, 29, 42, 180, 0, 69, 27, 16, 91, 96, 21, 4, 96, 46, 42, 180, 0, 69]
abbrev dktX4_sownBy_2 : List UInt8 := dkwX4_sownBy_2 ++ dktX4_sownBy_3
def dkwX4_sownBy_1 : List UInt8 := [160, 0, 59, 42, 180, 0, 69, 27, 16, 91, 96, 21, 4, 96, 46, 42, 180, 0, 19, 162, 0, 6]
abbrev dktX4_sownBy_1 : List UInt8 := dkwX4_sownBy_1 ++ dktX4_sownBy_2
def dkwX4_sownBy_0 : List UInt8 := [2, 62, 3, 54, 4, 21, 4, 42, 182, 1, 65, 162, 0, 76, 42, 28, 21, 4, 182, 1, 68, 4]
abbrev dktX4_sownBy_0 : List UInt8 := dkwX4_sownBy_0 ++ dktX4_sownBy_1
theorem dksX4_sownBy_0 : cX4_sownBy.data.toList.drop 0 = dktX4_sownBy_0 := by decide +kernel
theorem dksX4_sownBy_1 : cX4_sownBy.data.toList.drop 22 = dktX4_sownBy_1 := dk_seg dksX4_sownBy_0 22 rfl rfl
theorem dksX4_sownBy_2 : cX4_sownBy.data.toList.drop 44 = dktX4_sownBy_2 := dk_seg dksX4_sownBy_1 22 rfl rfl
theorem dksX4_sownBy_3 : cX4_sownBy.data.toList.drop 68 = dktX4_sownBy_3 := dk_seg dksX4_sownBy_2 24 rfl rfl
theorem dksX4_sownBy_4 : cX4_sownBy.data.toList.drop 92 = dktX4_sownBy_4 := dk_seg dksX4_sownBy_3 24 rfl rfl
theorem dX4_sownBy_0 : decode cX4_sownBy 0 = .ok (.iconst (-1), 1) := dk_2 (dk_at dksX4_sownBy_0 0 rfl rfl)
theorem dX4_sownBy_1 : decode cX4_sownBy 1 = .ok (.istore_n 3, 1) := dk_62 (dk_at dksX4_sownBy_0 1 rfl rfl)
theorem dX4_sownBy_2 : decode cX4_sownBy 2 = .ok (.iconst 0, 1) := dk_3 (dk_at dksX4_sownBy_0 2 rfl rfl)
theorem dX4_sownBy_3 : decode cX4_sownBy 3 = .ok (.istore 4, 2) := dk_54 4 (dk_at dksX4_sownBy_0 3 rfl rfl)
theorem dX4_sownBy_5 : decode cX4_sownBy 5 = .ok (.iload 4, 2) := dk_21 4 (dk_at dksX4_sownBy_0 5 rfl rfl)
theorem dX4_sownBy_7 : decode cX4_sownBy 7 = .ok (.aload_n 0, 1) := dk_42 (dk_at dksX4_sownBy_0 7 rfl rfl)
theorem dX4_sownBy_8 : decode cX4_sownBy 8 = .ok (.invokevirtual 321, 3) := dk_182 1 65 (dk_at dksX4_sownBy_0 8 rfl rfl)
theorem dX4_sownBy_11 : decode cX4_sownBy 11 = .ok (.if_icmp .ge 76, 3) := dk_162 0 76 (dk_at dksX4_sownBy_0 11 rfl rfl)
theorem dX4_sownBy_14 : decode cX4_sownBy 14 = .ok (.aload_n 0, 1) := dk_42 (dk_at dksX4_sownBy_0 14 rfl rfl)
theorem dX4_sownBy_15 : decode cX4_sownBy 15 = .ok (.iload_n 2, 1) := dk_28 (dk_at dksX4_sownBy_0 15 rfl rfl)
theorem dX4_sownBy_16 : decode cX4_sownBy 16 = .ok (.iload 4, 2) := dk_21 4 (dk_at dksX4_sownBy_0 16 rfl rfl)
theorem dX4_sownBy_18 : decode cX4_sownBy 18 = .ok (.invokevirtual 324, 3) := dk_182 1 68 (dk_at dksX4_sownBy_0 18 rfl rfl)
theorem dX4_sownBy_21 : decode cX4_sownBy 21 = .ok (.iconst 1, 1) := dk_4 (dk_at dksX4_sownBy_0 21 rfl rfl)
theorem dX4_sownBy_22 : decode cX4_sownBy 22 = .ok (.if_icmp .ne 59, 3) := dk_160 0 59 (dk_at dksX4_sownBy_1 0 rfl rfl)
theorem dX4_sownBy_25 : decode cX4_sownBy 25 = .ok (.aload_n 0, 1) := dk_42 (dk_at dksX4_sownBy_1 3 rfl rfl)
theorem dX4_sownBy_26 : decode cX4_sownBy 26 = .ok (.getfield 69, 3) := dk_180 0 69 (dk_at dksX4_sownBy_1 4 rfl rfl)
theorem dX4_sownBy_29 : decode cX4_sownBy 29 = .ok (.iload_n 1, 1) := dk_27 (dk_at dksX4_sownBy_1 7 rfl rfl)
theorem dX4_sownBy_30 : decode cX4_sownBy 30 = .ok (.bipush 91, 2) := dk_16 91 (dk_at dksX4_sownBy_1 8 rfl rfl)
theorem dX4_sownBy_32 : decode cX4_sownBy 32 = .ok (.iadd, 1) := dk_96 (dk_at dksX4_sownBy_1 10 rfl rfl)
theorem dX4_sownBy_33 : decode cX4_sownBy 33 = .ok (.iload 4, 2) := dk_21 4 (dk_at dksX4_sownBy_1 11 rfl rfl)
theorem dX4_sownBy_35 : decode cX4_sownBy 35 = .ok (.iadd, 1) := dk_96 (dk_at dksX4_sownBy_1 13 rfl rfl)
theorem dX4_sownBy_36 : decode cX4_sownBy 36 = .ok (.iaload, 1) := dk_46 (dk_at dksX4_sownBy_1 14 rfl rfl)
theorem dX4_sownBy_37 : decode cX4_sownBy 37 = .ok (.aload_n 0, 1) := dk_42 (dk_at dksX4_sownBy_1 15 rfl rfl)
theorem dX4_sownBy_38 : decode cX4_sownBy 38 = .ok (.getfield 19, 3) := dk_180 0 19 (dk_at dksX4_sownBy_1 16 rfl rfl)
theorem dX4_sownBy_41 : decode cX4_sownBy 41 = .ok (.if_icmp .ge 6, 3) := dk_162 0 6 (dk_at dksX4_sownBy_1 19 rfl rfl)
theorem dX4_sownBy_44 : decode cX4_sownBy 44 = .ok (.goto 37, 3) := dk_167 0 37 (dk_at dksX4_sownBy_2 0 rfl rfl)
theorem dX4_sownBy_47 : decode cX4_sownBy 47 = .ok (.iload_n 3, 1) := dk_29 (dk_at dksX4_sownBy_2 3 rfl rfl)
theorem dX4_sownBy_48 : decode cX4_sownBy 48 = .ok (.iconst (-1), 1) := dk_2 (dk_at dksX4_sownBy_2 4 rfl rfl)
theorem dX4_sownBy_49 : decode cX4_sownBy 49 = .ok (.if_icmp .eq 29, 3) := dk_159 0 29 (dk_at dksX4_sownBy_2 5 rfl rfl)
theorem dX4_sownBy_52 : decode cX4_sownBy 52 = .ok (.aload_n 0, 1) := dk_42 (dk_at dksX4_sownBy_2 8 rfl rfl)
theorem dX4_sownBy_53 : decode cX4_sownBy 53 = .ok (.getfield 69, 3) := dk_180 0 69 (dk_at dksX4_sownBy_2 9 rfl rfl)
theorem dX4_sownBy_56 : decode cX4_sownBy 56 = .ok (.iload_n 1, 1) := dk_27 (dk_at dksX4_sownBy_2 12 rfl rfl)
theorem dX4_sownBy_57 : decode cX4_sownBy 57 = .ok (.bipush 91, 2) := dk_16 91 (dk_at dksX4_sownBy_2 13 rfl rfl)
theorem dX4_sownBy_59 : decode cX4_sownBy 59 = .ok (.iadd, 1) := dk_96 (dk_at dksX4_sownBy_2 15 rfl rfl)
theorem dX4_sownBy_60 : decode cX4_sownBy 60 = .ok (.iload 4, 2) := dk_21 4 (dk_at dksX4_sownBy_2 16 rfl rfl)
theorem dX4_sownBy_62 : decode cX4_sownBy 62 = .ok (.iadd, 1) := dk_96 (dk_at dksX4_sownBy_2 18 rfl rfl)
theorem dX4_sownBy_63 : decode cX4_sownBy 63 = .ok (.iaload, 1) := dk_46 (dk_at dksX4_sownBy_2 19 rfl rfl)
theorem dX4_sownBy_64 : decode cX4_sownBy 64 = .ok (.aload_n 0, 1) := dk_42 (dk_at dksX4_sownBy_2 20 rfl rfl)
theorem dX4_sownBy_65 : decode cX4_sownBy 65 = .ok (.getfield 69, 3) := dk_180 0 69 (dk_at dksX4_sownBy_2 21 rfl rfl)
theorem dX4_sownBy_68 : decode cX4_sownBy 68 = .ok (.iload_n 1, 1) := dk_27 (dk_at dksX4_sownBy_3 0 rfl rfl)
theorem dX4_sownBy_69 : decode cX4_sownBy 69 = .ok (.bipush 91, 2) := dk_16 91 (dk_at dksX4_sownBy_3 1 rfl rfl)
theorem dX4_sownBy_71 : decode cX4_sownBy 71 = .ok (.iadd, 1) := dk_96 (dk_at dksX4_sownBy_3 3 rfl rfl)
theorem dX4_sownBy_72 : decode cX4_sownBy 72 = .ok (.iload_n 3, 1) := dk_29 (dk_at dksX4_sownBy_3 4 rfl rfl)
theorem dX4_sownBy_73 : decode cX4_sownBy 73 = .ok (.iadd, 1) := dk_96 (dk_at dksX4_sownBy_3 5 rfl rfl)
theorem dX4_sownBy_74 : decode cX4_sownBy 74 = .ok (.iaload, 1) := dk_46 (dk_at dksX4_sownBy_3 6 rfl rfl)
theorem dX4_sownBy_75 : decode cX4_sownBy 75 = .ok (.if_icmp .le 6, 3) := dk_164 0 6 (dk_at dksX4_sownBy_3 7 rfl rfl)
theorem dX4_sownBy_78 : decode cX4_sownBy 78 = .ok (.iload 4, 2) := dk_21 4 (dk_at dksX4_sownBy_3 10 rfl rfl)
theorem dX4_sownBy_80 : decode cX4_sownBy 80 = .ok (.istore_n 3, 1) := dk_62 (dk_at dksX4_sownBy_3 12 rfl rfl)
theorem dX4_sownBy_81 : decode cX4_sownBy 81 = .ok (.iinc 4 1, 3) := dk_132 4 1 (dk_at dksX4_sownBy_3 13 rfl rfl)
theorem dX4_sownBy_84 : decode cX4_sownBy 84 = .ok (.goto (-79), 3) := dk_167 255 177 (dk_at dksX4_sownBy_3 16 rfl rfl)
theorem dX4_sownBy_87 : decode cX4_sownBy 87 = .ok (.iload_n 3, 1) := dk_29 (dk_at dksX4_sownBy_3 19 rfl rfl)
theorem dX4_sownBy_88 : decode cX4_sownBy 88 = .ok (.iconst (-1), 1) := dk_2 (dk_at dksX4_sownBy_3 20 rfl rfl)
theorem dX4_sownBy_89 : decode cX4_sownBy 89 = .ok (.if_icmp .ne 7, 3) := dk_160 0 7 (dk_at dksX4_sownBy_3 21 rfl rfl)
theorem dX4_sownBy_92 : decode cX4_sownBy 92 = .ok (.iconst (-1), 1) := dk_2 (dk_at dksX4_sownBy_4 0 rfl rfl)
theorem dX4_sownBy_93 : decode cX4_sownBy 93 = .ok (.goto 14, 3) := dk_167 0 14 (dk_at dksX4_sownBy_4 1 rfl rfl)
theorem dX4_sownBy_96 : decode cX4_sownBy 96 = .ok (.aload_n 0, 1) := dk_42 (dk_at dksX4_sownBy_4 4 rfl rfl)
theorem dX4_sownBy_97 : decode cX4_sownBy 97 = .ok (.getfield 69, 3) := dk_180 0 69 (dk_at dksX4_sownBy_4 5 rfl rfl)
theorem dX4_sownBy_100 : decode cX4_sownBy 100 = .ok (.iload_n 1, 1) := dk_27 (dk_at dksX4_sownBy_4 8 rfl rfl)
theorem dX4_sownBy_101 : decode cX4_sownBy 101 = .ok (.bipush 61, 2) := dk_16 61 (dk_at dksX4_sownBy_4 9 rfl rfl)
theorem dX4_sownBy_103 : decode cX4_sownBy 103 = .ok (.iadd, 1) := dk_96 (dk_at dksX4_sownBy_4 11 rfl rfl)
theorem dX4_sownBy_104 : decode cX4_sownBy 104 = .ok (.iload_n 3, 1) := dk_29 (dk_at dksX4_sownBy_4 12 rfl rfl)
theorem dX4_sownBy_105 : decode cX4_sownBy 105 = .ok (.iadd, 1) := dk_96 (dk_at dksX4_sownBy_4 13 rfl rfl)
theorem dX4_sownBy_106 : decode cX4_sownBy 106 = .ok (.iaload, 1) := dk_46 (dk_at dksX4_sownBy_4 14 rfl rfl)
theorem dX4_sownBy_107 : decode cX4_sownBy 107 = .ok (.ireturn, 1) := dk_172 (dk_at dksX4_sownBy_4 15 rfl rfl)
abbrev mX4_sownBy : xM := (yX4_sownBy, cX4_sownBy, 5, (some .int), [])
def m_sownBy_81 (k5 : Int32 → Int32 → Int32 → Int32 → MS → Option Int32) (x1 : Int32) (x2 : Int32) (x3 : Int32) (x4 : Int32) (S : MS) : Option Int32 :=
  k5 x1 x2 x3 ((x4 + 1)) S
theorem m_sownBy_81_ok {G : xG} {m0 : Nat} {k5 : Int32 → Int32 → Int32 → Int32 → MS → Option Int32} (hk5 : ∀ (x1 : Int32) (x2 : Int32) (x3 : Int32) (x4 : Int32) (S : MS) (q : Int32), k5 x1 x2 x3 x4 S = some q → XM G m0 mX4_sownBy 2 S (some (.int q)) S 5 [(0, .ref m0), (1, .int x1), (2, .int x2), (3, .int x3), (4, .int x4)] [] S) (x1 : Int32) (x2 : Int32) (x3 : Int32) (x4 : Int32) (S : MS) (q : Int32) (hf : m_sownBy_81 k5 x1 x2 x3 x4 S = some q) : XM G m0 mX4_sownBy 2 S (some (.int q)) S 81 [(0, .ref m0), (1, .int x1), (2, .int x2), (3, .int x3), (4, .int x4)] [] S := by
  intro h N Z
  unfold m_sownBy_81 at hf
  refine X.iinc (v := (x4 + 1)) (L' := [(4, .int (x4 + 1)), (0, .ref m0), (1, .int x1), (2, .int x2), (3, .int x3)]) dX4_sownBy_81 4 rfl rfl (Nat.le_of_ble_eq_true rfl) rfl ?_
  refine X.goto (tgt := 5) dX4_sownBy_84 (by decide) ?_
  refine X.sub [1, 2, 3, 4, 0] (L' := [(0, .ref m0), (1, .int x1), (2, .int x2), (3, .int x3), (4, .int (x4 + 1))]) rfl ?_
  exact hk5 _ _ _ _ _ _ hf h N Z
def m_sownBy_78 (k5 : Int32 → Int32 → Int32 → Int32 → MS → Option Int32) (x1 : Int32) (x2 : Int32) (x4 : Int32) (S : MS) : Option Int32 :=
  m_sownBy_81 k5 x1 x2 x4 x4 S
theorem m_sownBy_78_ok {G : xG} {m0 : Nat} {k5 : Int32 → Int32 → Int32 → Int32 → MS → Option Int32} (hk5 : ∀ (x1 : Int32) (x2 : Int32) (x3 : Int32) (x4 : Int32) (S : MS) (q : Int32), k5 x1 x2 x3 x4 S = some q → XM G m0 mX4_sownBy 2 S (some (.int q)) S 5 [(0, .ref m0), (1, .int x1), (2, .int x2), (3, .int x3), (4, .int x4)] [] S) (x1 : Int32) (x2 : Int32) (x4 : Int32) (S : MS) (q : Int32) (hf : m_sownBy_78 k5 x1 x2 x4 S = some q) : XM G m0 mX4_sownBy 2 S (some (.int q)) S 78 [(0, .ref m0), (1, .int x1), (2, .int x2), (4, .int x4)] [] S := by
  intro h N Z
  unfold m_sownBy_78 at hf
  refine X.iload dX4_sownBy_78 3 rfl ?_
  refine X.istore_n (L' := [(3, .int x4), (0, .ref m0), (1, .int x1), (2, .int x2), (4, .int x4)]) dX4_sownBy_80 rfl (Nat.le_of_ble_eq_true rfl) rfl ?_
  refine X.sub [1, 2, 3, 0, 4] (L' := [(0, .ref m0), (1, .int x1), (2, .int x2), (3, .int x4), (4, .int x4)]) rfl ?_
  exact m_sownBy_81_ok hk5 _ _ _ _ _ _ hf h N Z
def m_sownBy_5_b  (k5 : Int32 → Int32 → Int32 → Int32 → MS → Option Int32) (x1 : Int32) (x2 : Int32) (x3 : Int32) (x4 : Int32) (S : MS) : Option Int32 :=
  (m_cells S).bind fun q8 =>
  if q8 ≤ x4 then
    if x3 = (-1 : Int32) then
      some (-1 : Int32)
    else
      (rdA S 13 ((x1 + (61 : Int32)) + x3)).bind fun v106 =>
      some v106
  else
    (m_far x2 x4 S).bind fun q18 =>
    if q18 = (1 : Int32) then
      (rdA S 13 ((x1 + (91 : Int32)) + x4)).bind fun v36 =>
      if (S.1 6) ≤ v36 then
        if x3 = (-1 : Int32) then
          m_sownBy_78 k5 x1 x2 x4 S
        else
          (rdA S 13 ((x1 + (91 : Int32)) + x4)).bind fun v63 =>
          (rdA S 13 ((x1 + (91 : Int32)) + x3)).bind fun v74 =>
          if v63 ≤ v74 then
            m_sownBy_81 k5 x1 x2 x3 x4 S
          else
            m_sownBy_78 k5 x1 x2 x4 S
      else
        m_sownBy_81 k5 x1 x2 x3 x4 S
    else
      m_sownBy_81 k5 x1 x2 x3 x4 S
def m_sownBy_5  : Nat → Int32 → Int32 → Int32 → Int32 → MS → Option Int32
  | 0 => fun _ _ _ _ _ => none
  | n + 1 => fun x1 x2 x3 x4 S => m_sownBy_5_b (m_sownBy_5 n) x1 x2 x3 x4 S
theorem m_sownBy_5_bok {G : xG} {m0 : Nat}  {k5 : Int32 → Int32 → Int32 → Int32 → MS → Option Int32}  (hk5 : ∀ (x1 : Int32) (x2 : Int32) (x3 : Int32) (x4 : Int32) (S : MS) (q : Int32), k5 x1 x2 x3 x4 S = some q → XM G m0 mX4_sownBy 2 S (some (.int q)) S 5 [(0, .ref m0), (1, .int x1), (2, .int x2), (3, .int x3), (4, .int x4)] [] S) (x1 : Int32) (x2 : Int32) (x3 : Int32) (x4 : Int32) (S : MS) (q : Int32) (hf : m_sownBy_5_b k5 x1 x2 x3 x4 S = some q) : XM G m0 mX4_sownBy 2 S (some (.int q)) S 5 [(0, .ref m0), (1, .int x1), (2, .int x2), (3, .int x3), (4, .int x4)] [] S := by
  intro h N Z
  unfold m_sownBy_5_b at hf
  refine X.iload dX4_sownBy_5 4 rfl ?_
  refine X.aload_n dX4_sownBy_7 rfl 0 rfl ?_
  obtain ⟨q8, h8, hf⟩ := ob hf
  refine X.callVi (As := []) (rest := [.int x4]) dX4_sownBy_8 (w_cells h8 h N Z) cX4_321 rfl rfl (Nat.le_of_ble_eq_true rfl) mh_0 rfl rfl (xD (Nat.le_of_ble_eq_true rfl)) xleN xleN ?_
  refine X.icmp_ge (tgt := 87) dX4_sownBy_11 (by decide) (fun c11 => ?_) (fun c11 => ?_)
  · have hf := if_t c11 hf
    refine X.iload_n dX4_sownBy_87 rfl 3 rfl ?_
    refine X.iconst (v := -1) dX4_sownBy_88 (by decide) ?_
    refine X.icmp_ne (tgt := 96) dX4_sownBy_89 (by decide) (fun c89 => ?_) (fun c89 => ?_)
    · have hf := if_f c89 hf
      refine X.aload_n dX4_sownBy_96 rfl 0 rfl ?_
      refine M.get (v := .ref (m0 + 13)) dX4_sownBy_97 fX4_69 (Nat.le_of_ble_eq_true rfl) rfl ?_
      refine X.iload_n dX4_sownBy_100 rfl 1 rfl ?_
      refine X.bipush (v := 61) dX4_sownBy_101 (by decide) ?_
      refine X.iadd dX4_sownBy_103 ?_
      refine X.iload_n dX4_sownBy_104 rfl 3 rfl ?_
      refine X.iadd dX4_sownBy_105 ?_
      obtain ⟨v106, h106, hf⟩ := ob hf
      refine M.iald dX4_sownBy_106 rfl h106 ?_
      obtain rfl := Option.some.inj hf
      exact X.iret dX4_sownBy_107 rfl rfl rfl
    · have hf := if_t c89 hf
      refine X.iconst (v := -1) dX4_sownBy_92 (by decide) ?_
      refine X.goto (tgt := 107) dX4_sownBy_93 (by decide) ?_
      obtain rfl := Option.some.inj hf
      exact X.iret dX4_sownBy_107 rfl rfl rfl
  · have hf := if_f c11 hf
    refine X.aload_n dX4_sownBy_14 rfl 0 rfl ?_
    refine X.iload_n dX4_sownBy_15 rfl 2 rfl ?_
    refine X.iload dX4_sownBy_16 4 rfl ?_
    obtain ⟨q18, h18, hf⟩ := ob hf
    refine X.callVi (As := [.int x2, .int x4]) (rest := []) dX4_sownBy_18 (w_far h18 h N Z) cX4_324 rfl rfl (Nat.le_of_ble_eq_true rfl) mh_0 rfl rfl (xD (Nat.le_of_ble_eq_true rfl)) xleN xleN ?_
    refine X.iconst (v := 1) dX4_sownBy_21 (by decide) ?_
    refine X.icmp_ne (tgt := 81) dX4_sownBy_22 (by decide) (fun c22 => ?_) (fun c22 => ?_)
    · have hf := if_f c22 hf
      refine X.sub [0, 1, 2, 3, 4] (L' := [(0, .ref m0), (1, .int x1), (2, .int x2), (3, .int x3), (4, .int x4)]) rfl ?_
      exact m_sownBy_81_ok hk5 _ _ _ _ _ _ hf h N Z
    · have hf := if_t c22 hf
      refine X.aload_n dX4_sownBy_25 rfl 0 rfl ?_
      refine M.get (v := .ref (m0 + 13)) dX4_sownBy_26 fX4_69 (Nat.le_of_ble_eq_true rfl) rfl ?_
      refine X.iload_n dX4_sownBy_29 rfl 1 rfl ?_
      refine X.bipush (v := 91) dX4_sownBy_30 (by decide) ?_
      refine X.iadd dX4_sownBy_32 ?_
      refine X.iload dX4_sownBy_33 4 rfl ?_
      refine X.iadd dX4_sownBy_35 ?_
      obtain ⟨v36, h36, hf⟩ := ob hf
      refine M.iald dX4_sownBy_36 rfl h36 ?_
      refine X.aload_n dX4_sownBy_37 rfl 0 rfl ?_
      refine M.get (v := .int (S.1 6)) dX4_sownBy_38 fX4_19 (Nat.le_of_ble_eq_true rfl) rfl ?_
      refine X.icmp_ge (tgt := 47) dX4_sownBy_41 (by decide) (fun c41 => ?_) (fun c41 => ?_)
      · have hf := if_t c41 hf
        refine X.iload_n dX4_sownBy_47 rfl 3 rfl ?_
        refine X.iconst (v := -1) dX4_sownBy_48 (by decide) ?_
        refine X.icmp_eq (tgt := 78) dX4_sownBy_49 (by decide) (fun c49 => ?_) (fun c49 => ?_)
        · have hf := if_t c49 hf
          refine X.sub [0, 1, 2, 4] (L' := [(0, .ref m0), (1, .int x1), (2, .int x2), (4, .int x4)]) rfl ?_
          exact m_sownBy_78_ok hk5 _ _ _ _ _ hf h N Z
        · have hf := if_f c49 hf
          refine X.aload_n dX4_sownBy_52 rfl 0 rfl ?_
          refine M.get (v := .ref (m0 + 13)) dX4_sownBy_53 fX4_69 (Nat.le_of_ble_eq_true rfl) rfl ?_
          refine X.iload_n dX4_sownBy_56 rfl 1 rfl ?_
          refine X.bipush (v := 91) dX4_sownBy_57 (by decide) ?_
          refine X.iadd dX4_sownBy_59 ?_
          refine X.iload dX4_sownBy_60 4 rfl ?_
          refine X.iadd dX4_sownBy_62 ?_
          obtain ⟨v63, h63, hf⟩ := ob hf
          refine M.iald dX4_sownBy_63 rfl h63 ?_
          refine X.aload_n dX4_sownBy_64 rfl 0 rfl ?_
          refine M.get (v := .ref (m0 + 13)) dX4_sownBy_65 fX4_69 (Nat.le_of_ble_eq_true rfl) rfl ?_
          refine X.iload_n dX4_sownBy_68 rfl 1 rfl ?_
          refine X.bipush (v := 91) dX4_sownBy_69 (by decide) ?_
          refine X.iadd dX4_sownBy_71 ?_
          refine X.iload_n dX4_sownBy_72 rfl 3 rfl ?_
          refine X.iadd dX4_sownBy_73 ?_
          obtain ⟨v74, h74, hf⟩ := ob hf
          refine M.iald dX4_sownBy_74 rfl h74 ?_
          refine X.icmp_le (tgt := 81) dX4_sownBy_75 (by decide) (fun c75 => ?_) (fun c75 => ?_)
          · have hf := if_t c75 hf
            refine X.sub [0, 1, 2, 3, 4] (L' := [(0, .ref m0), (1, .int x1), (2, .int x2), (3, .int x3), (4, .int x4)]) rfl ?_
            exact m_sownBy_81_ok hk5 _ _ _ _ _ _ hf h N Z
          · have hf := if_f c75 hf
            refine X.sub [0, 1, 2, 4] (L' := [(0, .ref m0), (1, .int x1), (2, .int x2), (4, .int x4)]) rfl ?_
            exact m_sownBy_78_ok hk5 _ _ _ _ _ hf h N Z
      · have hf := if_f c41 hf
        refine X.goto (tgt := 81) dX4_sownBy_44 (by decide) ?_
        refine X.sub [0, 1, 2, 3, 4] (L' := [(0, .ref m0), (1, .int x1), (2, .int x2), (3, .int x3), (4, .int x4)]) rfl ?_
        exact m_sownBy_81_ok hk5 _ _ _ _ _ _ hf h N Z
theorem m_sownBy_5_ok {G : xG} {m0 : Nat}   : ∀ (n : Nat) (x1 : Int32) (x2 : Int32) (x3 : Int32) (x4 : Int32) (S : MS) (q : Int32), m_sownBy_5 n x1 x2 x3 x4 S = some q → XM G m0 mX4_sownBy 2 S (some (.int q)) S 5 [(0, .ref m0), (1, .int x1), (2, .int x2), (3, .int x3), (4, .int x4)] [] S
  | 0, _, _, _, _, _, _, hf => by cases hf
  | n + 1, x1, x2, x3, x4, S, q, hf => m_sownBy_5_bok (m_sownBy_5_ok n) x1 x2 x3 x4 S q hf
def m_sownBy (x1 : Int32) (x2 : Int32) (S : MS) : Option Int32 :=
  m_sownBy_5 FU x1 x2 ((-1 : Int32)) ((0 : Int32)) S
theorem w_sownBy {G : xG} {m0 : Nat} {x1 : Int32} {x2 : Int32} {S : MS} {q : Int32} (hf : m_sownBy x1 x2 S = some q) : CtM G m0 mX4_sownBy 2 S [.ref m0, .int x1, .int x2] (some (.int q)) S := by
  intro h N Z
  refine Ct.of (by decide +kernel) rfl (Nat.le_of_ble_eq_true rfl) (show Xr G _ 0 [(0, .ref m0), (1, .int x1), (2, .int x2)] [] _ from ?_)
  unfold m_sownBy at hf
  refine X.iconst (v := -1) dX4_sownBy_0 (by decide) ?_
  refine X.istore_n (L' := [(3, .int (-1 : Int32)), (0, .ref m0), (1, .int x1), (2, .int x2)]) dX4_sownBy_1 rfl (Nat.le_of_ble_eq_true rfl) rfl ?_
  refine X.iconst (v := 0) dX4_sownBy_2 (by decide) ?_
  refine X.istore (L' := [(4, .int (0 : Int32)), (3, .int (-1 : Int32)), (0, .ref m0), (1, .int x1), (2, .int x2)]) dX4_sownBy_3 (Nat.le_of_ble_eq_true rfl) rfl ?_
  refine X.sub [2, 3, 4, 1, 0] (L' := [(0, .ref m0), (1, .int x1), (2, .int x2), (3, .int (-1 : Int32)), (4, .int (0 : Int32))]) rfl ?_
  exact m_sownBy_5_ok FU _ _ _ _ _ _ hf h N Z
theorem cX4_360 : xCV RX4 360 mX4_sownBy 2 := ⟨lw_V q2028 q2030 qs103 q127 q2031, rfl, ⟨by decide +kernel, by decide +kernel, by decide +kernel⟩, Nat.le_of_ble_eq_true rfl⟩
