set_option maxRecDepth 100000
/-! dayGoes -/
abbrev cX4_dayGoes : ByteArray := prog_12_method_61_code
def yX4_dayGoes : MethodName := ⟨RX4, "dayGoes", "(I)V"⟩
def dkwX4_dayGoes_9 : List UInt8 := [92, 46, 4, 96, 79, 177]
abbrev dktX4_dayGoes_9 : List UInt8 := dkwX4_dayGoes_9 ++ []
def dkwX4_dayGoes_8 : List UInt8 := [180, 0, 69, 27, 16, 91, 96, 28, 96, 4, 79, 132, 2, 1, 167, 255, 203, 42, 180, 0, 69, 27, 3, 96]
abbrev dktX4_dayGoes_8 : List UInt8 := dkwX4_dayGoes_8 ++ dktX4_dayGoes_9
def dkwX4_dayGoes_7 : List UInt8 := [160, 0, 6, 167, 0, 32, 42, 180, 0, 69, 27, 16, 61, 96, 28, 96, 42, 180, 0, 81, 28, 46, 79, 42]
abbrev dktX4_dayGoes_7 : List UInt8 := dkwX4_dayGoes_7 ++ dktX4_dayGoes_8
def dkwX4_dayGoes_6 : List UInt8 := [132, 2, 1, 167, 255, 200, 3, 61, 28, 42, 182, 1, 65, 162, 0, 51, 42, 180, 0, 81, 28, 46, 2]
abbrev dktX4_dayGoes_6 : List UInt8 := dkwX4_dayGoes_6 ++ dktX4_dayGoes_7
def dkwX4_dayGoes_5 : List UInt8 := [180, 0, 69, 27, 16, 31, 96, 28, 96, 46, 158, 0, 12, 42, 27, 28, 182, 1, 104, 167, 0, 4, 2, 79]
abbrev dktX4_dayGoes_5 : List UInt8 := dkwX4_dayGoes_5 ++ dktX4_dayGoes_6
def dkwX4_dayGoes_4 : List UInt8 := [162, 0, 54, 42, 180, 0, 81, 28, 42, 180, 0, 69, 27, 16, 61, 96, 28, 96, 46, 2, 160, 0, 26, 42]
abbrev dktX4_dayGoes_4 : List UInt8 := dkwX4_dayGoes_4 ++ dktX4_dayGoes_5
def dkwX4_dayGoes_3 : List UInt8 := [28, 96, 42, 180, 0, 81, 28, 46, 79, 132, 2, 1, 167, 255, 228, 3, 61, 28, 42, 182, 1, 65]
abbrev dktX4_dayGoes_3 : List UInt8 := dkwX4_dayGoes_3 ++ dktX4_dayGoes_4
def dkwX4_dayGoes_2 : List UInt8 := [132, 2, 1, 167, 255, 214, 3, 61, 28, 42, 182, 1, 65, 162, 0, 26, 42, 180, 0, 69, 27, 16, 61, 96]
abbrev dktX4_dayGoes_2 : List UInt8 := dkwX4_dayGoes_2 ++ dktX4_dayGoes_3
def dkwX4_dayGoes_1 : List UInt8 := [27, 16, 61, 96, 28, 96, 46, 2, 160, 0, 7, 2, 167, 0, 9, 42, 27, 28, 182, 1, 101, 79]
abbrev dktX4_dayGoes_1 : List UInt8 := dkwX4_dayGoes_1 ++ dktX4_dayGoes_2
def dkwX4_dayGoes_0 : List UInt8 := [42, 27, 182, 1, 98, 3, 61, 28, 42, 182, 1, 65, 162, 0, 40, 42, 180, 0, 81, 28, 42, 180, 0, 69]
abbrev dktX4_dayGoes_0 : List UInt8 := dkwX4_dayGoes_0 ++ dktX4_dayGoes_1
theorem dksX4_dayGoes_0 : cX4_dayGoes.data.toList.drop 0 = dktX4_dayGoes_0 := by decide +kernel
theorem dksX4_dayGoes_1 : cX4_dayGoes.data.toList.drop 24 = dktX4_dayGoes_1 := dk_seg dksX4_dayGoes_0 24 rfl rfl
theorem dksX4_dayGoes_2 : cX4_dayGoes.data.toList.drop 46 = dktX4_dayGoes_2 := dk_seg dksX4_dayGoes_1 22 rfl rfl
theorem dksX4_dayGoes_3 : cX4_dayGoes.data.toList.drop 70 = dktX4_dayGoes_3 := dk_seg dksX4_dayGoes_2 24 rfl rfl
theorem dksX4_dayGoes_4 : cX4_dayGoes.data.toList.drop 92 = dktX4_dayGoes_4 := dk_seg dksX4_dayGoes_3 22 rfl rfl
theorem dksX4_dayGoes_5 : cX4_dayGoes.data.toList.drop 116 = dktX4_dayGoes_5 := dk_seg dksX4_dayGoes_4 24 rfl rfl
theorem dksX4_dayGoes_6 : cX4_dayGoes.data.toList.drop 140 = dktX4_dayGoes_6 := dk_seg dksX4_dayGoes_5 24 rfl rfl
theorem dksX4_dayGoes_7 : cX4_dayGoes.data.toList.drop 163 = dktX4_dayGoes_7 := dk_seg dksX4_dayGoes_6 23 rfl rfl
theorem dksX4_dayGoes_8 : cX4_dayGoes.data.toList.drop 187 = dktX4_dayGoes_8 := dk_seg dksX4_dayGoes_7 24 rfl rfl
theorem dksX4_dayGoes_9 : cX4_dayGoes.data.toList.drop 211 = dktX4_dayGoes_9 := dk_seg dksX4_dayGoes_8 24 rfl rfl
theorem dX4_dayGoes_0 : decode cX4_dayGoes 0 = .ok (.aload_n 0, 1) := dk_42 (dk_at dksX4_dayGoes_0 0 rfl rfl)
theorem dX4_dayGoes_1 : decode cX4_dayGoes 1 = .ok (.iload_n 1, 1) := dk_27 (dk_at dksX4_dayGoes_0 1 rfl rfl)
theorem dX4_dayGoes_2 : decode cX4_dayGoes 2 = .ok (.invokevirtual 354, 3) := dk_182 1 98 (dk_at dksX4_dayGoes_0 2 rfl rfl)
theorem dX4_dayGoes_5 : decode cX4_dayGoes 5 = .ok (.iconst 0, 1) := dk_3 (dk_at dksX4_dayGoes_0 5 rfl rfl)
theorem dX4_dayGoes_6 : decode cX4_dayGoes 6 = .ok (.istore_n 2, 1) := dk_61 (dk_at dksX4_dayGoes_0 6 rfl rfl)
theorem dX4_dayGoes_7 : decode cX4_dayGoes 7 = .ok (.iload_n 2, 1) := dk_28 (dk_at dksX4_dayGoes_0 7 rfl rfl)
theorem dX4_dayGoes_8 : decode cX4_dayGoes 8 = .ok (.aload_n 0, 1) := dk_42 (dk_at dksX4_dayGoes_0 8 rfl rfl)
theorem dX4_dayGoes_9 : decode cX4_dayGoes 9 = .ok (.invokevirtual 321, 3) := dk_182 1 65 (dk_at dksX4_dayGoes_0 9 rfl rfl)
theorem dX4_dayGoes_12 : decode cX4_dayGoes 12 = .ok (.if_icmp .ge 40, 3) := dk_162 0 40 (dk_at dksX4_dayGoes_0 12 rfl rfl)
theorem dX4_dayGoes_15 : decode cX4_dayGoes 15 = .ok (.aload_n 0, 1) := dk_42 (dk_at dksX4_dayGoes_0 15 rfl rfl)
theorem dX4_dayGoes_16 : decode cX4_dayGoes 16 = .ok (.getfield 81, 3) := dk_180 0 81 (dk_at dksX4_dayGoes_0 16 rfl rfl)
theorem dX4_dayGoes_19 : decode cX4_dayGoes 19 = .ok (.iload_n 2, 1) := dk_28 (dk_at dksX4_dayGoes_0 19 rfl rfl)
theorem dX4_dayGoes_20 : decode cX4_dayGoes 20 = .ok (.aload_n 0, 1) := dk_42 (dk_at dksX4_dayGoes_0 20 rfl rfl)
theorem dX4_dayGoes_21 : decode cX4_dayGoes 21 = .ok (.getfield 69, 3) := dk_180 0 69 (dk_at dksX4_dayGoes_0 21 rfl rfl)
theorem dX4_dayGoes_24 : decode cX4_dayGoes 24 = .ok (.iload_n 1, 1) := dk_27 (dk_at dksX4_dayGoes_1 0 rfl rfl)
theorem dX4_dayGoes_25 : decode cX4_dayGoes 25 = .ok (.bipush 61, 2) := dk_16 61 (dk_at dksX4_dayGoes_1 1 rfl rfl)
theorem dX4_dayGoes_27 : decode cX4_dayGoes 27 = .ok (.iadd, 1) := dk_96 (dk_at dksX4_dayGoes_1 3 rfl rfl)
theorem dX4_dayGoes_28 : decode cX4_dayGoes 28 = .ok (.iload_n 2, 1) := dk_28 (dk_at dksX4_dayGoes_1 4 rfl rfl)
theorem dX4_dayGoes_29 : decode cX4_dayGoes 29 = .ok (.iadd, 1) := dk_96 (dk_at dksX4_dayGoes_1 5 rfl rfl)
theorem dX4_dayGoes_30 : decode cX4_dayGoes 30 = .ok (.iaload, 1) := dk_46 (dk_at dksX4_dayGoes_1 6 rfl rfl)
theorem dX4_dayGoes_31 : decode cX4_dayGoes 31 = .ok (.iconst (-1), 1) := dk_2 (dk_at dksX4_dayGoes_1 7 rfl rfl)
theorem dX4_dayGoes_32 : decode cX4_dayGoes 32 = .ok (.if_icmp .ne 7, 3) := dk_160 0 7 (dk_at dksX4_dayGoes_1 8 rfl rfl)
theorem dX4_dayGoes_35 : decode cX4_dayGoes 35 = .ok (.iconst (-1), 1) := dk_2 (dk_at dksX4_dayGoes_1 11 rfl rfl)
theorem dX4_dayGoes_36 : decode cX4_dayGoes 36 = .ok (.goto 9, 3) := dk_167 0 9 (dk_at dksX4_dayGoes_1 12 rfl rfl)
theorem dX4_dayGoes_39 : decode cX4_dayGoes 39 = .ok (.aload_n 0, 1) := dk_42 (dk_at dksX4_dayGoes_1 15 rfl rfl)
theorem dX4_dayGoes_40 : decode cX4_dayGoes 40 = .ok (.iload_n 1, 1) := dk_27 (dk_at dksX4_dayGoes_1 16 rfl rfl)
theorem dX4_dayGoes_41 : decode cX4_dayGoes 41 = .ok (.iload_n 2, 1) := dk_28 (dk_at dksX4_dayGoes_1 17 rfl rfl)
theorem dX4_dayGoes_42 : decode cX4_dayGoes 42 = .ok (.invokevirtual 357, 3) := dk_182 1 101 (dk_at dksX4_dayGoes_1 18 rfl rfl)
theorem dX4_dayGoes_45 : decode cX4_dayGoes 45 = .ok (.iastore, 1) := dk_79 (dk_at dksX4_dayGoes_1 21 rfl rfl)
theorem dX4_dayGoes_46 : decode cX4_dayGoes 46 = .ok (.iinc 2 1, 3) := dk_132 2 1 (dk_at dksX4_dayGoes_2 0 rfl rfl)
theorem dX4_dayGoes_49 : decode cX4_dayGoes 49 = .ok (.goto (-42), 3) := dk_167 255 214 (dk_at dksX4_dayGoes_2 3 rfl rfl)
theorem dX4_dayGoes_52 : decode cX4_dayGoes 52 = .ok (.iconst 0, 1) := dk_3 (dk_at dksX4_dayGoes_2 6 rfl rfl)
theorem dX4_dayGoes_53 : decode cX4_dayGoes 53 = .ok (.istore_n 2, 1) := dk_61 (dk_at dksX4_dayGoes_2 7 rfl rfl)
theorem dX4_dayGoes_54 : decode cX4_dayGoes 54 = .ok (.iload_n 2, 1) := dk_28 (dk_at dksX4_dayGoes_2 8 rfl rfl)
theorem dX4_dayGoes_55 : decode cX4_dayGoes 55 = .ok (.aload_n 0, 1) := dk_42 (dk_at dksX4_dayGoes_2 9 rfl rfl)
theorem dX4_dayGoes_56 : decode cX4_dayGoes 56 = .ok (.invokevirtual 321, 3) := dk_182 1 65 (dk_at dksX4_dayGoes_2 10 rfl rfl)
theorem dX4_dayGoes_59 : decode cX4_dayGoes 59 = .ok (.if_icmp .ge 26, 3) := dk_162 0 26 (dk_at dksX4_dayGoes_2 13 rfl rfl)
theorem dX4_dayGoes_62 : decode cX4_dayGoes 62 = .ok (.aload_n 0, 1) := dk_42 (dk_at dksX4_dayGoes_2 16 rfl rfl)
theorem dX4_dayGoes_63 : decode cX4_dayGoes 63 = .ok (.getfield 69, 3) := dk_180 0 69 (dk_at dksX4_dayGoes_2 17 rfl rfl)
theorem dX4_dayGoes_66 : decode cX4_dayGoes 66 = .ok (.iload_n 1, 1) := dk_27 (dk_at dksX4_dayGoes_2 20 rfl rfl)
theorem dX4_dayGoes_67 : decode cX4_dayGoes 67 = .ok (.bipush 61, 2) := dk_16 61 (dk_at dksX4_dayGoes_2 21 rfl rfl)
theorem dX4_dayGoes_69 : decode cX4_dayGoes 69 = .ok (.iadd, 1) := dk_96 (dk_at dksX4_dayGoes_2 23 rfl rfl)
theorem dX4_dayGoes_70 : decode cX4_dayGoes 70 = .ok (.iload_n 2, 1) := dk_28 (dk_at dksX4_dayGoes_3 0 rfl rfl)
theorem dX4_dayGoes_71 : decode cX4_dayGoes 71 = .ok (.iadd, 1) := dk_96 (dk_at dksX4_dayGoes_3 1 rfl rfl)
theorem dX4_dayGoes_72 : decode cX4_dayGoes 72 = .ok (.aload_n 0, 1) := dk_42 (dk_at dksX4_dayGoes_3 2 rfl rfl)
theorem dX4_dayGoes_73 : decode cX4_dayGoes 73 = .ok (.getfield 81, 3) := dk_180 0 81 (dk_at dksX4_dayGoes_3 3 rfl rfl)
theorem dX4_dayGoes_76 : decode cX4_dayGoes 76 = .ok (.iload_n 2, 1) := dk_28 (dk_at dksX4_dayGoes_3 6 rfl rfl)
theorem dX4_dayGoes_77 : decode cX4_dayGoes 77 = .ok (.iaload, 1) := dk_46 (dk_at dksX4_dayGoes_3 7 rfl rfl)
theorem dX4_dayGoes_78 : decode cX4_dayGoes 78 = .ok (.iastore, 1) := dk_79 (dk_at dksX4_dayGoes_3 8 rfl rfl)
theorem dX4_dayGoes_79 : decode cX4_dayGoes 79 = .ok (.iinc 2 1, 3) := dk_132 2 1 (dk_at dksX4_dayGoes_3 9 rfl rfl)
theorem dX4_dayGoes_82 : decode cX4_dayGoes 82 = .ok (.goto (-28), 3) := dk_167 255 228 (dk_at dksX4_dayGoes_3 12 rfl rfl)
theorem dX4_dayGoes_85 : decode cX4_dayGoes 85 = .ok (.iconst 0, 1) := dk_3 (dk_at dksX4_dayGoes_3 15 rfl rfl)
theorem dX4_dayGoes_86 : decode cX4_dayGoes 86 = .ok (.istore_n 2, 1) := dk_61 (dk_at dksX4_dayGoes_3 16 rfl rfl)
theorem dX4_dayGoes_87 : decode cX4_dayGoes 87 = .ok (.iload_n 2, 1) := dk_28 (dk_at dksX4_dayGoes_3 17 rfl rfl)
theorem dX4_dayGoes_88 : decode cX4_dayGoes 88 = .ok (.aload_n 0, 1) := dk_42 (dk_at dksX4_dayGoes_3 18 rfl rfl)
theorem dX4_dayGoes_89 : decode cX4_dayGoes 89 = .ok (.invokevirtual 321, 3) := dk_182 1 65 (dk_at dksX4_dayGoes_3 19 rfl rfl)
theorem dX4_dayGoes_92 : decode cX4_dayGoes 92 = .ok (.if_icmp .ge 54, 3) := dk_162 0 54 (dk_at dksX4_dayGoes_4 0 rfl rfl)
theorem dX4_dayGoes_95 : decode cX4_dayGoes 95 = .ok (.aload_n 0, 1) := dk_42 (dk_at dksX4_dayGoes_4 3 rfl rfl)
theorem dX4_dayGoes_96 : decode cX4_dayGoes 96 = .ok (.getfield 81, 3) := dk_180 0 81 (dk_at dksX4_dayGoes_4 4 rfl rfl)
theorem dX4_dayGoes_99 : decode cX4_dayGoes 99 = .ok (.iload_n 2, 1) := dk_28 (dk_at dksX4_dayGoes_4 7 rfl rfl)
theorem dX4_dayGoes_100 : decode cX4_dayGoes 100 = .ok (.aload_n 0, 1) := dk_42 (dk_at dksX4_dayGoes_4 8 rfl rfl)
theorem dX4_dayGoes_101 : decode cX4_dayGoes 101 = .ok (.getfield 69, 3) := dk_180 0 69 (dk_at dksX4_dayGoes_4 9 rfl rfl)
theorem dX4_dayGoes_104 : decode cX4_dayGoes 104 = .ok (.iload_n 1, 1) := dk_27 (dk_at dksX4_dayGoes_4 12 rfl rfl)
theorem dX4_dayGoes_105 : decode cX4_dayGoes 105 = .ok (.bipush 61, 2) := dk_16 61 (dk_at dksX4_dayGoes_4 13 rfl rfl)
theorem dX4_dayGoes_107 : decode cX4_dayGoes 107 = .ok (.iadd, 1) := dk_96 (dk_at dksX4_dayGoes_4 15 rfl rfl)
theorem dX4_dayGoes_108 : decode cX4_dayGoes 108 = .ok (.iload_n 2, 1) := dk_28 (dk_at dksX4_dayGoes_4 16 rfl rfl)
theorem dX4_dayGoes_109 : decode cX4_dayGoes 109 = .ok (.iadd, 1) := dk_96 (dk_at dksX4_dayGoes_4 17 rfl rfl)
theorem dX4_dayGoes_110 : decode cX4_dayGoes 110 = .ok (.iaload, 1) := dk_46 (dk_at dksX4_dayGoes_4 18 rfl rfl)
theorem dX4_dayGoes_111 : decode cX4_dayGoes 111 = .ok (.iconst (-1), 1) := dk_2 (dk_at dksX4_dayGoes_4 19 rfl rfl)
theorem dX4_dayGoes_112 : decode cX4_dayGoes 112 = .ok (.if_icmp .ne 26, 3) := dk_160 0 26 (dk_at dksX4_dayGoes_4 20 rfl rfl)
theorem dX4_dayGoes_115 : decode cX4_dayGoes 115 = .ok (.aload_n 0, 1) := dk_42 (dk_at dksX4_dayGoes_4 23 rfl rfl)
theorem dX4_dayGoes_116 : decode cX4_dayGoes 116 = .ok (.getfield 69, 3) := dk_180 0 69 (dk_at dksX4_dayGoes_5 0 rfl rfl)
theorem dX4_dayGoes_119 : decode cX4_dayGoes 119 = .ok (.iload_n 1, 1) := dk_27 (dk_at dksX4_dayGoes_5 3 rfl rfl)
theorem dX4_dayGoes_120 : decode cX4_dayGoes 120 = .ok (.bipush 31, 2) := dk_16 31 (dk_at dksX4_dayGoes_5 4 rfl rfl)
theorem dX4_dayGoes_122 : decode cX4_dayGoes 122 = .ok (.iadd, 1) := dk_96 (dk_at dksX4_dayGoes_5 6 rfl rfl)
theorem dX4_dayGoes_123 : decode cX4_dayGoes 123 = .ok (.iload_n 2, 1) := dk_28 (dk_at dksX4_dayGoes_5 7 rfl rfl)
theorem dX4_dayGoes_124 : decode cX4_dayGoes 124 = .ok (.iadd, 1) := dk_96 (dk_at dksX4_dayGoes_5 8 rfl rfl)
theorem dX4_dayGoes_125 : decode cX4_dayGoes 125 = .ok (.iaload, 1) := dk_46 (dk_at dksX4_dayGoes_5 9 rfl rfl)
theorem dX4_dayGoes_126 : decode cX4_dayGoes 126 = .ok (.ifCond .le 12, 3) := dk_158 0 12 (dk_at dksX4_dayGoes_5 10 rfl rfl)
theorem dX4_dayGoes_129 : decode cX4_dayGoes 129 = .ok (.aload_n 0, 1) := dk_42 (dk_at dksX4_dayGoes_5 13 rfl rfl)
theorem dX4_dayGoes_130 : decode cX4_dayGoes 130 = .ok (.iload_n 1, 1) := dk_27 (dk_at dksX4_dayGoes_5 14 rfl rfl)
theorem dX4_dayGoes_131 : decode cX4_dayGoes 131 = .ok (.iload_n 2, 1) := dk_28 (dk_at dksX4_dayGoes_5 15 rfl rfl)
theorem dX4_dayGoes_132 : decode cX4_dayGoes 132 = .ok (.invokevirtual 360, 3) := dk_182 1 104 (dk_at dksX4_dayGoes_5 16 rfl rfl)
theorem dX4_dayGoes_135 : decode cX4_dayGoes 135 = .ok (.goto 4, 3) := dk_167 0 4 (dk_at dksX4_dayGoes_5 19 rfl rfl)
theorem dX4_dayGoes_138 : decode cX4_dayGoes 138 = .ok (.iconst (-1), 1) := dk_2 (dk_at dksX4_dayGoes_5 22 rfl rfl)
theorem dX4_dayGoes_139 : decode cX4_dayGoes 139 = .ok (.iastore, 1) := dk_79 (dk_at dksX4_dayGoes_5 23 rfl rfl)
theorem dX4_dayGoes_140 : decode cX4_dayGoes 140 = .ok (.iinc 2 1, 3) := dk_132 2 1 (dk_at dksX4_dayGoes_6 0 rfl rfl)
theorem dX4_dayGoes_143 : decode cX4_dayGoes 143 = .ok (.goto (-56), 3) := dk_167 255 200 (dk_at dksX4_dayGoes_6 3 rfl rfl)
theorem dX4_dayGoes_146 : decode cX4_dayGoes 146 = .ok (.iconst 0, 1) := dk_3 (dk_at dksX4_dayGoes_6 6 rfl rfl)
theorem dX4_dayGoes_147 : decode cX4_dayGoes 147 = .ok (.istore_n 2, 1) := dk_61 (dk_at dksX4_dayGoes_6 7 rfl rfl)
theorem dX4_dayGoes_148 : decode cX4_dayGoes 148 = .ok (.iload_n 2, 1) := dk_28 (dk_at dksX4_dayGoes_6 8 rfl rfl)
theorem dX4_dayGoes_149 : decode cX4_dayGoes 149 = .ok (.aload_n 0, 1) := dk_42 (dk_at dksX4_dayGoes_6 9 rfl rfl)
theorem dX4_dayGoes_150 : decode cX4_dayGoes 150 = .ok (.invokevirtual 321, 3) := dk_182 1 65 (dk_at dksX4_dayGoes_6 10 rfl rfl)
theorem dX4_dayGoes_153 : decode cX4_dayGoes 153 = .ok (.if_icmp .ge 51, 3) := dk_162 0 51 (dk_at dksX4_dayGoes_6 13 rfl rfl)
theorem dX4_dayGoes_156 : decode cX4_dayGoes 156 = .ok (.aload_n 0, 1) := dk_42 (dk_at dksX4_dayGoes_6 16 rfl rfl)
theorem dX4_dayGoes_157 : decode cX4_dayGoes 157 = .ok (.getfield 81, 3) := dk_180 0 81 (dk_at dksX4_dayGoes_6 17 rfl rfl)
theorem dX4_dayGoes_160 : decode cX4_dayGoes 160 = .ok (.iload_n 2, 1) := dk_28 (dk_at dksX4_dayGoes_6 20 rfl rfl)
theorem dX4_dayGoes_161 : decode cX4_dayGoes 161 = .ok (.iaload, 1) := dk_46 (dk_at dksX4_dayGoes_6 21 rfl rfl)
theorem dX4_dayGoes_162 : decode cX4_dayGoes 162 = .ok (.iconst (-1), 1) := dk_2 (dk_at dksX4_dayGoes_6 22 rfl rfl)
theorem dX4_dayGoes_163 : decode cX4_dayGoes 163 = .ok (.if_icmp .ne 6, 3) := dk_160 0 6 (dk_at dksX4_dayGoes_7 0 rfl rfl)
theorem dX4_dayGoes_166 : decode cX4_dayGoes 166 = .ok (.goto 32, 3) := dk_167 0 32 (dk_at dksX4_dayGoes_7 3 rfl rfl)
theorem dX4_dayGoes_169 : decode cX4_dayGoes 169 = .ok (.aload_n 0, 1) := dk_42 (dk_at dksX4_dayGoes_7 6 rfl rfl)
theorem dX4_dayGoes_170 : decode cX4_dayGoes 170 = .ok (.getfield 69, 3) := dk_180 0 69 (dk_at dksX4_dayGoes_7 7 rfl rfl)
theorem dX4_dayGoes_173 : decode cX4_dayGoes 173 = .ok (.iload_n 1, 1) := dk_27 (dk_at dksX4_dayGoes_7 10 rfl rfl)
theorem dX4_dayGoes_174 : decode cX4_dayGoes 174 = .ok (.bipush 61, 2) := dk_16 61 (dk_at dksX4_dayGoes_7 11 rfl rfl)
theorem dX4_dayGoes_176 : decode cX4_dayGoes 176 = .ok (.iadd, 1) := dk_96 (dk_at dksX4_dayGoes_7 13 rfl rfl)
theorem dX4_dayGoes_177 : decode cX4_dayGoes 177 = .ok (.iload_n 2, 1) := dk_28 (dk_at dksX4_dayGoes_7 14 rfl rfl)
theorem dX4_dayGoes_178 : decode cX4_dayGoes 178 = .ok (.iadd, 1) := dk_96 (dk_at dksX4_dayGoes_7 15 rfl rfl)
theorem dX4_dayGoes_179 : decode cX4_dayGoes 179 = .ok (.aload_n 0, 1) := dk_42 (dk_at dksX4_dayGoes_7 16 rfl rfl)
theorem dX4_dayGoes_180 : decode cX4_dayGoes 180 = .ok (.getfield 81, 3) := dk_180 0 81 (dk_at dksX4_dayGoes_7 17 rfl rfl)
theorem dX4_dayGoes_183 : decode cX4_dayGoes 183 = .ok (.iload_n 2, 1) := dk_28 (dk_at dksX4_dayGoes_7 20 rfl rfl)
theorem dX4_dayGoes_184 : decode cX4_dayGoes 184 = .ok (.iaload, 1) := dk_46 (dk_at dksX4_dayGoes_7 21 rfl rfl)
theorem dX4_dayGoes_185 : decode cX4_dayGoes 185 = .ok (.iastore, 1) := dk_79 (dk_at dksX4_dayGoes_7 22 rfl rfl)
theorem dX4_dayGoes_186 : decode cX4_dayGoes 186 = .ok (.aload_n 0, 1) := dk_42 (dk_at dksX4_dayGoes_7 23 rfl rfl)
theorem dX4_dayGoes_187 : decode cX4_dayGoes 187 = .ok (.getfield 69, 3) := dk_180 0 69 (dk_at dksX4_dayGoes_8 0 rfl rfl)
theorem dX4_dayGoes_190 : decode cX4_dayGoes 190 = .ok (.iload_n 1, 1) := dk_27 (dk_at dksX4_dayGoes_8 3 rfl rfl)
theorem dX4_dayGoes_191 : decode cX4_dayGoes 191 = .ok (.bipush 91, 2) := dk_16 91 (dk_at dksX4_dayGoes_8 4 rfl rfl)
theorem dX4_dayGoes_193 : decode cX4_dayGoes 193 = .ok (.iadd, 1) := dk_96 (dk_at dksX4_dayGoes_8 6 rfl rfl)
theorem dX4_dayGoes_194 : decode cX4_dayGoes 194 = .ok (.iload_n 2, 1) := dk_28 (dk_at dksX4_dayGoes_8 7 rfl rfl)
theorem dX4_dayGoes_195 : decode cX4_dayGoes 195 = .ok (.iadd, 1) := dk_96 (dk_at dksX4_dayGoes_8 8 rfl rfl)
theorem dX4_dayGoes_196 : decode cX4_dayGoes 196 = .ok (.iconst 1, 1) := dk_4 (dk_at dksX4_dayGoes_8 9 rfl rfl)
theorem dX4_dayGoes_197 : decode cX4_dayGoes 197 = .ok (.iastore, 1) := dk_79 (dk_at dksX4_dayGoes_8 10 rfl rfl)
theorem dX4_dayGoes_198 : decode cX4_dayGoes 198 = .ok (.iinc 2 1, 3) := dk_132 2 1 (dk_at dksX4_dayGoes_8 11 rfl rfl)
theorem dX4_dayGoes_201 : decode cX4_dayGoes 201 = .ok (.goto (-53), 3) := dk_167 255 203 (dk_at dksX4_dayGoes_8 14 rfl rfl)
theorem dX4_dayGoes_204 : decode cX4_dayGoes 204 = .ok (.aload_n 0, 1) := dk_42 (dk_at dksX4_dayGoes_8 17 rfl rfl)
theorem dX4_dayGoes_205 : decode cX4_dayGoes 205 = .ok (.getfield 69, 3) := dk_180 0 69 (dk_at dksX4_dayGoes_8 18 rfl rfl)
theorem dX4_dayGoes_208 : decode cX4_dayGoes 208 = .ok (.iload_n 1, 1) := dk_27 (dk_at dksX4_dayGoes_8 21 rfl rfl)
theorem dX4_dayGoes_209 : decode cX4_dayGoes 209 = .ok (.iconst 0, 1) := dk_3 (dk_at dksX4_dayGoes_8 22 rfl rfl)
theorem dX4_dayGoes_210 : decode cX4_dayGoes 210 = .ok (.iadd, 1) := dk_96 (dk_at dksX4_dayGoes_8 23 rfl rfl)
theorem dX4_dayGoes_211 : decode cX4_dayGoes 211 = .ok (.dup2, 1) := dk_92 (dk_at dksX4_dayGoes_9 0 rfl rfl)
theorem dX4_dayGoes_212 : decode cX4_dayGoes 212 = .ok (.iaload, 1) := dk_46 (dk_at dksX4_dayGoes_9 1 rfl rfl)
theorem dX4_dayGoes_213 : decode cX4_dayGoes 213 = .ok (.iconst 1, 1) := dk_4 (dk_at dksX4_dayGoes_9 2 rfl rfl)
theorem dX4_dayGoes_214 : decode cX4_dayGoes 214 = .ok (.iadd, 1) := dk_96 (dk_at dksX4_dayGoes_9 3 rfl rfl)
theorem dX4_dayGoes_215 : decode cX4_dayGoes 215 = .ok (.iastore, 1) := dk_79 (dk_at dksX4_dayGoes_9 4 rfl rfl)
theorem dX4_dayGoes_216 : decode cX4_dayGoes 216 = .ok (.return_, 1) := dk_177 (dk_at dksX4_dayGoes_9 5 rfl rfl)
abbrev mX4_dayGoes : xM := (yX4_dayGoes, cX4_dayGoes, 3, none, [])
def m_dayGoes_45 (k7 : Int32 → Int32 → MS → Option MS) (x1 : Int32) (x2 : Int32) (y0 : Int32) (y1 : Int32) (S : MS) : Option MS :=
  (wrA S 17 y1 y0).bind fun S45 =>
  k7 x1 ((x2 + 1)) S45
theorem m_dayGoes_45_ok {G : xG} {m0 : Nat} {S0 : MS} {k7 : Int32 → Int32 → MS → Option MS} (hk7 : ∀ (x1 : Int32) (x2 : Int32) (S : MS) (q : MS), k7 x1 x2 S = some q → XM G m0 mX4_dayGoes 5 S0 none q 7 [(0, .ref m0), (1, .int x1), (2, .int x2)] [] S) (x1 : Int32) (x2 : Int32) (y0 : Int32) (y1 : Int32) (S : MS) (q : MS) (hf : m_dayGoes_45 k7 x1 x2 y0 y1 S = some q) : XM G m0 mX4_dayGoes 5 S0 none q 45 [(0, .ref m0), (1, .int x1), (2, .int x2)] [.int y0, .int y1, .ref (m0 + 17)] S := by
  intro h N Z
  unfold m_dayGoes_45 at hf
  obtain ⟨S45, h45, hf⟩ := ob hf
  refine M.iast dX4_dayGoes_45 rfl h45 ?_
  refine X.iinc (v := (x2 + 1)) (L' := [(2, .int (x2 + 1)), (0, .ref m0), (1, .int x1)]) dX4_dayGoes_46 2 rfl rfl (Nat.le_of_ble_eq_true rfl) rfl ?_
  refine X.goto (tgt := 7) dX4_dayGoes_49 (by decide) ?_
  refine X.sub [1, 2, 0] (L' := [(0, .ref m0), (1, .int x1), (2, .int (x2 + 1))]) rfl ?_
  exact hk7 _ _ _ _ hf h N Z
def m_dayGoes_139 (k87 : Int32 → Int32 → MS → Option MS) (x1 : Int32) (x2 : Int32) (y0 : Int32) (y1 : Int32) (S : MS) : Option MS :=
  (wrA S 17 y1 y0).bind fun S139 =>
  k87 x1 ((x2 + 1)) S139
theorem m_dayGoes_139_ok {G : xG} {m0 : Nat} {S0 : MS} {k87 : Int32 → Int32 → MS → Option MS} (hk87 : ∀ (x1 : Int32) (x2 : Int32) (S : MS) (q : MS), k87 x1 x2 S = some q → XM G m0 mX4_dayGoes 5 S0 none q 87 [(0, .ref m0), (1, .int x1), (2, .int x2)] [] S) (x1 : Int32) (x2 : Int32) (y0 : Int32) (y1 : Int32) (S : MS) (q : MS) (hf : m_dayGoes_139 k87 x1 x2 y0 y1 S = some q) : XM G m0 mX4_dayGoes 5 S0 none q 139 [(0, .ref m0), (1, .int x1), (2, .int x2)] [.int y0, .int y1, .ref (m0 + 17)] S := by
  intro h N Z
  unfold m_dayGoes_139 at hf
  obtain ⟨S139, h139, hf⟩ := ob hf
  refine M.iast dX4_dayGoes_139 rfl h139 ?_
  refine X.iinc (v := (x2 + 1)) (L' := [(2, .int (x2 + 1)), (0, .ref m0), (1, .int x1)]) dX4_dayGoes_140 2 rfl rfl (Nat.le_of_ble_eq_true rfl) rfl ?_
  refine X.goto (tgt := 87) dX4_dayGoes_143 (by decide) ?_
  refine X.sub [1, 2, 0] (L' := [(0, .ref m0), (1, .int x1), (2, .int (x2 + 1))]) rfl ?_
  exact hk87 _ _ _ _ hf h N Z
def m_dayGoes_138 (k87 : Int32 → Int32 → MS → Option MS) (x1 : Int32) (x2 : Int32) (y0 : Int32) (S : MS) : Option MS :=
  m_dayGoes_139 k87 x1 x2 ((-1 : Int32)) y0 S
theorem m_dayGoes_138_ok {G : xG} {m0 : Nat} {S0 : MS} {k87 : Int32 → Int32 → MS → Option MS} (hk87 : ∀ (x1 : Int32) (x2 : Int32) (S : MS) (q : MS), k87 x1 x2 S = some q → XM G m0 mX4_dayGoes 5 S0 none q 87 [(0, .ref m0), (1, .int x1), (2, .int x2)] [] S) (x1 : Int32) (x2 : Int32) (y0 : Int32) (S : MS) (q : MS) (hf : m_dayGoes_138 k87 x1 x2 y0 S = some q) : XM G m0 mX4_dayGoes 5 S0 none q 138 [(0, .ref m0), (1, .int x1), (2, .int x2)] [.int y0, .ref (m0 + 17)] S := by
  intro h N Z
  unfold m_dayGoes_138 at hf
  refine X.iconst (v := -1) dX4_dayGoes_138 (by decide) ?_
  refine X.sub [0, 1, 2] (L' := [(0, .ref m0), (1, .int x1), (2, .int x2)]) rfl ?_
  exact m_dayGoes_139_ok hk87 _ _ _ _ _ _ hf h N Z
def m_dayGoes_198 (k148 : Int32 → Int32 → MS → Option MS) (x1 : Int32) (x2 : Int32) (S : MS) : Option MS :=
  k148 x1 ((x2 + 1)) S
theorem m_dayGoes_198_ok {G : xG} {m0 : Nat} {S0 : MS} {k148 : Int32 → Int32 → MS → Option MS} (hk148 : ∀ (x1 : Int32) (x2 : Int32) (S : MS) (q : MS), k148 x1 x2 S = some q → XM G m0 mX4_dayGoes 5 S0 none q 148 [(0, .ref m0), (1, .int x1), (2, .int x2)] [] S) (x1 : Int32) (x2 : Int32) (S : MS) (q : MS) (hf : m_dayGoes_198 k148 x1 x2 S = some q) : XM G m0 mX4_dayGoes 5 S0 none q 198 [(0, .ref m0), (1, .int x1), (2, .int x2)] [] S := by
  intro h N Z
  unfold m_dayGoes_198 at hf
  refine X.iinc (v := (x2 + 1)) (L' := [(2, .int (x2 + 1)), (0, .ref m0), (1, .int x1)]) dX4_dayGoes_198 2 rfl rfl (Nat.le_of_ble_eq_true rfl) rfl ?_
  refine X.goto (tgt := 148) dX4_dayGoes_201 (by decide) ?_
  refine X.sub [1, 2, 0] (L' := [(0, .ref m0), (1, .int x1), (2, .int (x2 + 1))]) rfl ?_
  exact hk148 _ _ _ _ hf h N Z
def m_dayGoes_148_b  (k148 : Int32 → Int32 → MS → Option MS) (x1 : Int32) (x2 : Int32) (S : MS) : Option MS :=
  (m_cells S).bind fun q150 =>
  if q150 ≤ x2 then
    (rdA S 13 (x1 + (0 : Int32))).bind fun v212 =>
    (wrA S 13 (x1 + (0 : Int32)) (v212 + (1 : Int32))).bind fun S215 =>
    some S215
  else
    (rdA S 17 x2).bind fun v161 =>
    if v161 = (-1 : Int32) then
      m_dayGoes_198 k148 x1 x2 S
    else
      (rdA S 17 x2).bind fun v184 =>
      (wrA S 13 ((x1 + (61 : Int32)) + x2) v184).bind fun S185 =>
      (wrA S185 13 ((x1 + (91 : Int32)) + x2) (1 : Int32)).bind fun S197 =>
      m_dayGoes_198 k148 x1 x2 S197
def m_dayGoes_148  : Nat → Int32 → Int32 → MS → Option MS
  | 0 => fun _ _ _ => none
  | n + 1 => fun x1 x2 S => m_dayGoes_148_b (m_dayGoes_148 n) x1 x2 S
theorem m_dayGoes_148_bok {G : xG} {m0 : Nat} {S0 : MS}  {k148 : Int32 → Int32 → MS → Option MS}  (hk148 : ∀ (x1 : Int32) (x2 : Int32) (S : MS) (q : MS), k148 x1 x2 S = some q → XM G m0 mX4_dayGoes 5 S0 none q 148 [(0, .ref m0), (1, .int x1), (2, .int x2)] [] S) (x1 : Int32) (x2 : Int32) (S : MS) (q : MS) (hf : m_dayGoes_148_b k148 x1 x2 S = some q) : XM G m0 mX4_dayGoes 5 S0 none q 148 [(0, .ref m0), (1, .int x1), (2, .int x2)] [] S := by
  intro h N Z
  unfold m_dayGoes_148_b at hf
  refine X.iload_n dX4_dayGoes_148 rfl 2 rfl ?_
  refine X.aload_n dX4_dayGoes_149 rfl 0 rfl ?_
  obtain ⟨q150, h150, hf⟩ := ob hf
  refine X.callVi (As := []) (rest := [.int x2]) dX4_dayGoes_150 (w_cells h150 h N Z) cX4_321 rfl rfl (Nat.le_of_ble_eq_true rfl) mh_0 rfl rfl (xD (Nat.le_of_ble_eq_true rfl)) xleN xleN ?_
  refine X.icmp_ge (tgt := 204) dX4_dayGoes_153 (by decide) (fun c153 => ?_) (fun c153 => ?_)
  · have hf := if_t c153 hf
    refine X.aload_n dX4_dayGoes_204 rfl 0 rfl ?_
    refine M.get (v := .ref (m0 + 13)) dX4_dayGoes_205 fX4_69 (Nat.le_of_ble_eq_true rfl) rfl ?_
    refine X.iload_n dX4_dayGoes_208 rfl 1 rfl ?_
    refine X.iconst (v := 0) dX4_dayGoes_209 (by decide) ?_
    refine X.iadd dX4_dayGoes_210 ?_
    refine X.dup2_11 dX4_dayGoes_211 rfl rfl ?_
    obtain ⟨v212, h212, hf⟩ := ob hf
    refine M.iald dX4_dayGoes_212 rfl h212 ?_
    refine X.iconst (v := 1) dX4_dayGoes_213 (by decide) ?_
    refine X.iadd dX4_dayGoes_214 ?_
    obtain ⟨S215, h215, hf⟩ := ob hf
    refine M.iast dX4_dayGoes_215 rfl h215 ?_
    obtain rfl := Option.some.inj hf
    exact X.vret dX4_dayGoes_216 rfl rfl
  · have hf := if_f c153 hf
    refine X.aload_n dX4_dayGoes_156 rfl 0 rfl ?_
    refine M.get (v := .ref (m0 + 17)) dX4_dayGoes_157 fX4_81 (Nat.le_of_ble_eq_true rfl) rfl ?_
    refine X.iload_n dX4_dayGoes_160 rfl 2 rfl ?_
    obtain ⟨v161, h161, hf⟩ := ob hf
    refine M.iald dX4_dayGoes_161 rfl h161 ?_
    refine X.iconst (v := -1) dX4_dayGoes_162 (by decide) ?_
    refine X.icmp_ne (tgt := 169) dX4_dayGoes_163 (by decide) (fun c163 => ?_) (fun c163 => ?_)
    · have hf := if_f c163 hf
      refine X.aload_n dX4_dayGoes_169 rfl 0 rfl ?_
      refine M.get (v := .ref (m0 + 13)) dX4_dayGoes_170 fX4_69 (Nat.le_of_ble_eq_true rfl) rfl ?_
      refine X.iload_n dX4_dayGoes_173 rfl 1 rfl ?_
      refine X.bipush (v := 61) dX4_dayGoes_174 (by decide) ?_
      refine X.iadd dX4_dayGoes_176 ?_
      refine X.iload_n dX4_dayGoes_177 rfl 2 rfl ?_
      refine X.iadd dX4_dayGoes_178 ?_
      refine X.aload_n dX4_dayGoes_179 rfl 0 rfl ?_
      refine M.get (v := .ref (m0 + 17)) dX4_dayGoes_180 fX4_81 (Nat.le_of_ble_eq_true rfl) rfl ?_
      refine X.iload_n dX4_dayGoes_183 rfl 2 rfl ?_
      obtain ⟨v184, h184, hf⟩ := ob hf
      refine M.iald dX4_dayGoes_184 rfl h184 ?_
      obtain ⟨S185, h185, hf⟩ := ob hf
      refine M.iast dX4_dayGoes_185 rfl h185 ?_
      refine X.aload_n dX4_dayGoes_186 rfl 0 rfl ?_
      refine M.get (v := .ref (m0 + 13)) dX4_dayGoes_187 fX4_69 (Nat.le_of_ble_eq_true rfl) rfl ?_
      refine X.iload_n dX4_dayGoes_190 rfl 1 rfl ?_
      refine X.bipush (v := 91) dX4_dayGoes_191 (by decide) ?_
      refine X.iadd dX4_dayGoes_193 ?_
      refine X.iload_n dX4_dayGoes_194 rfl 2 rfl ?_
      refine X.iadd dX4_dayGoes_195 ?_
      refine X.iconst (v := 1) dX4_dayGoes_196 (by decide) ?_
      obtain ⟨S197, h197, hf⟩ := ob hf
      refine M.iast dX4_dayGoes_197 rfl h197 ?_
      refine X.sub [0, 1, 2] (L' := [(0, .ref m0), (1, .int x1), (2, .int x2)]) rfl ?_
      exact m_dayGoes_198_ok hk148 _ _ _ _ hf h N Z
    · have hf := if_t c163 hf
      refine X.goto (tgt := 198) dX4_dayGoes_166 (by decide) ?_
      refine X.sub [0, 1, 2] (L' := [(0, .ref m0), (1, .int x1), (2, .int x2)]) rfl ?_
      exact m_dayGoes_198_ok hk148 _ _ _ _ hf h N Z
theorem m_dayGoes_148_ok {G : xG} {m0 : Nat} {S0 : MS}   : ∀ (n : Nat) (x1 : Int32) (x2 : Int32) (S : MS) (q : MS), m_dayGoes_148 n x1 x2 S = some q → XM G m0 mX4_dayGoes 5 S0 none q 148 [(0, .ref m0), (1, .int x1), (2, .int x2)] [] S
  | 0, _, _, _, _, hf => by cases hf
  | n + 1, x1, x2, S, q, hf => m_dayGoes_148_bok (m_dayGoes_148_ok n) x1 x2 S q hf
def m_dayGoes_87_b  (k87 : Int32 → Int32 → MS → Option MS) (x1 : Int32) (x2 : Int32) (S : MS) : Option MS :=
  (m_cells S).bind fun q89 =>
  if q89 ≤ x2 then
    m_dayGoes_148 FU x1 ((0 : Int32)) S
  else
    (rdA S 13 ((x1 + (61 : Int32)) + x2)).bind fun v110 =>
    if v110 = (-1 : Int32) then
      (rdA S 13 ((x1 + (31 : Int32)) + x2)).bind fun v125 =>
      if v125 ≤ 0 then
        m_dayGoes_138 k87 x1 x2 x2 S
      else
        (m_sownBy x1 x2 S).bind fun q132 =>
        m_dayGoes_139 k87 x1 x2 q132 x2 S
    else
      m_dayGoes_138 k87 x1 x2 x2 S
def m_dayGoes_87  : Nat → Int32 → Int32 → MS → Option MS
  | 0 => fun _ _ _ => none
  | n + 1 => fun x1 x2 S => m_dayGoes_87_b (m_dayGoes_87 n) x1 x2 S
theorem m_dayGoes_87_bok {G : xG} {m0 : Nat} {S0 : MS}  {k87 : Int32 → Int32 → MS → Option MS}  (hk87 : ∀ (x1 : Int32) (x2 : Int32) (S : MS) (q : MS), k87 x1 x2 S = some q → XM G m0 mX4_dayGoes 5 S0 none q 87 [(0, .ref m0), (1, .int x1), (2, .int x2)] [] S) (x1 : Int32) (x2 : Int32) (S : MS) (q : MS) (hf : m_dayGoes_87_b k87 x1 x2 S = some q) : XM G m0 mX4_dayGoes 5 S0 none q 87 [(0, .ref m0), (1, .int x1), (2, .int x2)] [] S := by
  intro h N Z
  unfold m_dayGoes_87_b at hf
  refine X.iload_n dX4_dayGoes_87 rfl 2 rfl ?_
  refine X.aload_n dX4_dayGoes_88 rfl 0 rfl ?_
  obtain ⟨q89, h89, hf⟩ := ob hf
  refine X.callVi (As := []) (rest := [.int x2]) dX4_dayGoes_89 (w_cells h89 h N Z) cX4_321 rfl rfl (Nat.le_of_ble_eq_true rfl) mh_0 rfl rfl (xD (Nat.le_of_ble_eq_true rfl)) xleN xleN ?_
  refine X.icmp_ge (tgt := 146) dX4_dayGoes_92 (by decide) (fun c92 => ?_) (fun c92 => ?_)
  · have hf := if_t c92 hf
    refine X.iconst (v := 0) dX4_dayGoes_146 (by decide) ?_
    refine X.istore_n (L' := [(2, .int (0 : Int32)), (0, .ref m0), (1, .int x1)]) dX4_dayGoes_147 rfl (Nat.le_of_ble_eq_true rfl) rfl ?_
    refine X.sub [1, 2, 0] (L' := [(0, .ref m0), (1, .int x1), (2, .int (0 : Int32))]) rfl ?_
    exact m_dayGoes_148_ok FU _ _ _ _ hf h N Z
  · have hf := if_f c92 hf
    refine X.aload_n dX4_dayGoes_95 rfl 0 rfl ?_
    refine M.get (v := .ref (m0 + 17)) dX4_dayGoes_96 fX4_81 (Nat.le_of_ble_eq_true rfl) rfl ?_
    refine X.iload_n dX4_dayGoes_99 rfl 2 rfl ?_
    refine X.aload_n dX4_dayGoes_100 rfl 0 rfl ?_
    refine M.get (v := .ref (m0 + 13)) dX4_dayGoes_101 fX4_69 (Nat.le_of_ble_eq_true rfl) rfl ?_
    refine X.iload_n dX4_dayGoes_104 rfl 1 rfl ?_
    refine X.bipush (v := 61) dX4_dayGoes_105 (by decide) ?_
    refine X.iadd dX4_dayGoes_107 ?_
    refine X.iload_n dX4_dayGoes_108 rfl 2 rfl ?_
    refine X.iadd dX4_dayGoes_109 ?_
    obtain ⟨v110, h110, hf⟩ := ob hf
    refine M.iald dX4_dayGoes_110 rfl h110 ?_
    refine X.iconst (v := -1) dX4_dayGoes_111 (by decide) ?_
    refine X.icmp_ne (tgt := 138) dX4_dayGoes_112 (by decide) (fun c112 => ?_) (fun c112 => ?_)
    · have hf := if_f c112 hf
      refine X.sub [0, 1, 2] (L' := [(0, .ref m0), (1, .int x1), (2, .int x2)]) rfl ?_
      exact m_dayGoes_138_ok hk87 _ _ _ _ _ hf h N Z
    · have hf := if_t c112 hf
      refine X.aload_n dX4_dayGoes_115 rfl 0 rfl ?_
      refine M.get (v := .ref (m0 + 13)) dX4_dayGoes_116 fX4_69 (Nat.le_of_ble_eq_true rfl) rfl ?_
      refine X.iload_n dX4_dayGoes_119 rfl 1 rfl ?_
      refine X.bipush (v := 31) dX4_dayGoes_120 (by decide) ?_
      refine X.iadd dX4_dayGoes_122 ?_
      refine X.iload_n dX4_dayGoes_123 rfl 2 rfl ?_
      refine X.iadd dX4_dayGoes_124 ?_
      obtain ⟨v125, h125, hf⟩ := ob hf
      refine M.iald dX4_dayGoes_125 rfl h125 ?_
      refine X.if_le (tgt := 138) dX4_dayGoes_126 (by decide) (fun c126 => ?_) (fun c126 => ?_)
      · have hf := if_t c126 hf
        refine X.sub [0, 1, 2] (L' := [(0, .ref m0), (1, .int x1), (2, .int x2)]) rfl ?_
        exact m_dayGoes_138_ok hk87 _ _ _ _ _ hf h N Z
      · have hf := if_f c126 hf
        refine X.aload_n dX4_dayGoes_129 rfl 0 rfl ?_
        refine X.iload_n dX4_dayGoes_130 rfl 1 rfl ?_
        refine X.iload_n dX4_dayGoes_131 rfl 2 rfl ?_
        obtain ⟨q132, h132, hf⟩ := ob hf
        refine X.callVi (As := [.int x1, .int x2]) (rest := [.int x2, .ref (m0 + 17)]) dX4_dayGoes_132 (w_sownBy h132 h N Z) cX4_360 rfl rfl (Nat.le_of_ble_eq_true rfl) mh_0 rfl rfl (xD (Nat.le_of_ble_eq_true rfl)) xleN xleN ?_
        refine X.goto (tgt := 139) dX4_dayGoes_135 (by decide) ?_
        refine X.sub [0, 1, 2] (L' := [(0, .ref m0), (1, .int x1), (2, .int x2)]) rfl ?_
        exact m_dayGoes_139_ok hk87 _ _ _ _ _ _ hf h N Z
theorem m_dayGoes_87_ok {G : xG} {m0 : Nat} {S0 : MS}   : ∀ (n : Nat) (x1 : Int32) (x2 : Int32) (S : MS) (q : MS), m_dayGoes_87 n x1 x2 S = some q → XM G m0 mX4_dayGoes 5 S0 none q 87 [(0, .ref m0), (1, .int x1), (2, .int x2)] [] S
  | 0, _, _, _, _, hf => by cases hf
  | n + 1, x1, x2, S, q, hf => m_dayGoes_87_bok (m_dayGoes_87_ok n) x1 x2 S q hf
def m_dayGoes_54_b  (k54 : Int32 → Int32 → MS → Option MS) (x1 : Int32) (x2 : Int32) (S : MS) : Option MS :=
  (m_cells S).bind fun q56 =>
  if q56 ≤ x2 then
    m_dayGoes_87 FU x1 ((0 : Int32)) S
  else
    (rdA S 17 x2).bind fun v77 =>
    (wrA S 13 ((x1 + (61 : Int32)) + x2) v77).bind fun S78 =>
    k54 x1 ((x2 + 1)) S78
def m_dayGoes_54  : Nat → Int32 → Int32 → MS → Option MS
  | 0 => fun _ _ _ => none
  | n + 1 => fun x1 x2 S => m_dayGoes_54_b (m_dayGoes_54 n) x1 x2 S
theorem m_dayGoes_54_bok {G : xG} {m0 : Nat} {S0 : MS}  {k54 : Int32 → Int32 → MS → Option MS}  (hk54 : ∀ (x1 : Int32) (x2 : Int32) (S : MS) (q : MS), k54 x1 x2 S = some q → XM G m0 mX4_dayGoes 5 S0 none q 54 [(0, .ref m0), (1, .int x1), (2, .int x2)] [] S) (x1 : Int32) (x2 : Int32) (S : MS) (q : MS) (hf : m_dayGoes_54_b k54 x1 x2 S = some q) : XM G m0 mX4_dayGoes 5 S0 none q 54 [(0, .ref m0), (1, .int x1), (2, .int x2)] [] S := by
  intro h N Z
  unfold m_dayGoes_54_b at hf
  refine X.iload_n dX4_dayGoes_54 rfl 2 rfl ?_
  refine X.aload_n dX4_dayGoes_55 rfl 0 rfl ?_
  obtain ⟨q56, h56, hf⟩ := ob hf
  refine X.callVi (As := []) (rest := [.int x2]) dX4_dayGoes_56 (w_cells h56 h N Z) cX4_321 rfl rfl (Nat.le_of_ble_eq_true rfl) mh_0 rfl rfl (xD (Nat.le_of_ble_eq_true rfl)) xleN xleN ?_
  refine X.icmp_ge (tgt := 85) dX4_dayGoes_59 (by decide) (fun c59 => ?_) (fun c59 => ?_)
  · have hf := if_t c59 hf
    refine X.iconst (v := 0) dX4_dayGoes_85 (by decide) ?_
    refine X.istore_n (L' := [(2, .int (0 : Int32)), (0, .ref m0), (1, .int x1)]) dX4_dayGoes_86 rfl (Nat.le_of_ble_eq_true rfl) rfl ?_
    refine X.sub [1, 2, 0] (L' := [(0, .ref m0), (1, .int x1), (2, .int (0 : Int32))]) rfl ?_
    exact m_dayGoes_87_ok FU _ _ _ _ hf h N Z
  · have hf := if_f c59 hf
    refine X.aload_n dX4_dayGoes_62 rfl 0 rfl ?_
    refine M.get (v := .ref (m0 + 13)) dX4_dayGoes_63 fX4_69 (Nat.le_of_ble_eq_true rfl) rfl ?_
    refine X.iload_n dX4_dayGoes_66 rfl 1 rfl ?_
    refine X.bipush (v := 61) dX4_dayGoes_67 (by decide) ?_
    refine X.iadd dX4_dayGoes_69 ?_
    refine X.iload_n dX4_dayGoes_70 rfl 2 rfl ?_
    refine X.iadd dX4_dayGoes_71 ?_
    refine X.aload_n dX4_dayGoes_72 rfl 0 rfl ?_
    refine M.get (v := .ref (m0 + 17)) dX4_dayGoes_73 fX4_81 (Nat.le_of_ble_eq_true rfl) rfl ?_
    refine X.iload_n dX4_dayGoes_76 rfl 2 rfl ?_
    obtain ⟨v77, h77, hf⟩ := ob hf
    refine M.iald dX4_dayGoes_77 rfl h77 ?_
    obtain ⟨S78, h78, hf⟩ := ob hf
    refine M.iast dX4_dayGoes_78 rfl h78 ?_
    refine X.iinc (v := (x2 + 1)) (L' := [(2, .int (x2 + 1)), (0, .ref m0), (1, .int x1)]) dX4_dayGoes_79 2 rfl rfl (Nat.le_of_ble_eq_true rfl) rfl ?_
    refine X.goto (tgt := 54) dX4_dayGoes_82 (by decide) ?_
    refine X.sub [1, 2, 0] (L' := [(0, .ref m0), (1, .int x1), (2, .int (x2 + 1))]) rfl ?_
    exact hk54 _ _ _ _ hf h N Z
theorem m_dayGoes_54_ok {G : xG} {m0 : Nat} {S0 : MS}   : ∀ (n : Nat) (x1 : Int32) (x2 : Int32) (S : MS) (q : MS), m_dayGoes_54 n x1 x2 S = some q → XM G m0 mX4_dayGoes 5 S0 none q 54 [(0, .ref m0), (1, .int x1), (2, .int x2)] [] S
  | 0, _, _, _, _, hf => by cases hf
  | n + 1, x1, x2, S, q, hf => m_dayGoes_54_bok (m_dayGoes_54_ok n) x1 x2 S q hf
def m_dayGoes_7_b  (k7 : Int32 → Int32 → MS → Option MS) (x1 : Int32) (x2 : Int32) (S : MS) : Option MS :=
  (m_cells S).bind fun q9 =>
  if q9 ≤ x2 then
    m_dayGoes_54 FU x1 ((0 : Int32)) S
  else
    (rdA S 13 ((x1 + (61 : Int32)) + x2)).bind fun v30 =>
    if v30 = (-1 : Int32) then
      m_dayGoes_45 k7 x1 x2 ((-1 : Int32)) x2 S
    else
      (m_beatenBy x1 x2 S).bind fun q42 =>
      m_dayGoes_45 k7 x1 x2 q42.1 x2 q42.2
def m_dayGoes_7  : Nat → Int32 → Int32 → MS → Option MS
  | 0 => fun _ _ _ => none
  | n + 1 => fun x1 x2 S => m_dayGoes_7_b (m_dayGoes_7 n) x1 x2 S
theorem m_dayGoes_7_bok {G : xG} {m0 : Nat} {S0 : MS}  {k7 : Int32 → Int32 → MS → Option MS}  (hk7 : ∀ (x1 : Int32) (x2 : Int32) (S : MS) (q : MS), k7 x1 x2 S = some q → XM G m0 mX4_dayGoes 5 S0 none q 7 [(0, .ref m0), (1, .int x1), (2, .int x2)] [] S) (x1 : Int32) (x2 : Int32) (S : MS) (q : MS) (hf : m_dayGoes_7_b k7 x1 x2 S = some q) : XM G m0 mX4_dayGoes 5 S0 none q 7 [(0, .ref m0), (1, .int x1), (2, .int x2)] [] S := by
  intro h N Z
  unfold m_dayGoes_7_b at hf
  refine X.iload_n dX4_dayGoes_7 rfl 2 rfl ?_
  refine X.aload_n dX4_dayGoes_8 rfl 0 rfl ?_
  obtain ⟨q9, h9, hf⟩ := ob hf
  refine X.callVi (As := []) (rest := [.int x2]) dX4_dayGoes_9 (w_cells h9 h N Z) cX4_321 rfl rfl (Nat.le_of_ble_eq_true rfl) mh_0 rfl rfl (xD (Nat.le_of_ble_eq_true rfl)) xleN xleN ?_
  refine X.icmp_ge (tgt := 52) dX4_dayGoes_12 (by decide) (fun c12 => ?_) (fun c12 => ?_)
  · have hf := if_t c12 hf
    refine X.iconst (v := 0) dX4_dayGoes_52 (by decide) ?_
    refine X.istore_n (L' := [(2, .int (0 : Int32)), (0, .ref m0), (1, .int x1)]) dX4_dayGoes_53 rfl (Nat.le_of_ble_eq_true rfl) rfl ?_
    refine X.sub [1, 2, 0] (L' := [(0, .ref m0), (1, .int x1), (2, .int (0 : Int32))]) rfl ?_
    exact m_dayGoes_54_ok FU _ _ _ _ hf h N Z
  · have hf := if_f c12 hf
    refine X.aload_n dX4_dayGoes_15 rfl 0 rfl ?_
    refine M.get (v := .ref (m0 + 17)) dX4_dayGoes_16 fX4_81 (Nat.le_of_ble_eq_true rfl) rfl ?_
    refine X.iload_n dX4_dayGoes_19 rfl 2 rfl ?_
    refine X.aload_n dX4_dayGoes_20 rfl 0 rfl ?_
    refine M.get (v := .ref (m0 + 13)) dX4_dayGoes_21 fX4_69 (Nat.le_of_ble_eq_true rfl) rfl ?_
    refine X.iload_n dX4_dayGoes_24 rfl 1 rfl ?_
    refine X.bipush (v := 61) dX4_dayGoes_25 (by decide) ?_
    refine X.iadd dX4_dayGoes_27 ?_
    refine X.iload_n dX4_dayGoes_28 rfl 2 rfl ?_
    refine X.iadd dX4_dayGoes_29 ?_
    obtain ⟨v30, h30, hf⟩ := ob hf
    refine M.iald dX4_dayGoes_30 rfl h30 ?_
    refine X.iconst (v := -1) dX4_dayGoes_31 (by decide) ?_
    refine X.icmp_ne (tgt := 39) dX4_dayGoes_32 (by decide) (fun c32 => ?_) (fun c32 => ?_)
    · have hf := if_f c32 hf
      refine X.aload_n dX4_dayGoes_39 rfl 0 rfl ?_
      refine X.iload_n dX4_dayGoes_40 rfl 1 rfl ?_
      refine X.iload_n dX4_dayGoes_41 rfl 2 rfl ?_
      obtain ⟨q42, h42, hf⟩ := ob hf
      refine X.callVi (As := [.int x1, .int x2]) (rest := [.int x2, .ref (m0 + 17)]) (T2 := (mh m0 h q42.2, N, Z)) dX4_dayGoes_42 (w_beatenBy h42 h N Z) cX4_357 rfl rfl (Nat.le_of_ble_eq_true rfl) mh_0 rfl rfl (xD (Nat.le_of_ble_eq_true rfl)) xleN xleN ?_
      refine X.sub [0, 1, 2] (L' := [(0, .ref m0), (1, .int x1), (2, .int x2)]) rfl ?_
      exact m_dayGoes_45_ok hk7 _ _ _ _ _ _ hf h N Z
    · have hf := if_t c32 hf
      refine X.iconst (v := -1) dX4_dayGoes_35 (by decide) ?_
      refine X.goto (tgt := 45) dX4_dayGoes_36 (by decide) ?_
      refine X.sub [0, 1, 2] (L' := [(0, .ref m0), (1, .int x1), (2, .int x2)]) rfl ?_
      exact m_dayGoes_45_ok hk7 _ _ _ _ _ _ hf h N Z
theorem m_dayGoes_7_ok {G : xG} {m0 : Nat} {S0 : MS}   : ∀ (n : Nat) (x1 : Int32) (x2 : Int32) (S : MS) (q : MS), m_dayGoes_7 n x1 x2 S = some q → XM G m0 mX4_dayGoes 5 S0 none q 7 [(0, .ref m0), (1, .int x1), (2, .int x2)] [] S
  | 0, _, _, _, _, hf => by cases hf
  | n + 1, x1, x2, S, q, hf => m_dayGoes_7_bok (m_dayGoes_7_ok n) x1 x2 S q hf
def m_dayGoes (x1 : Int32) (S : MS) : Option MS :=
  (m_grow x1 S).bind fun q2 =>
  m_dayGoes_7 FU x1 ((0 : Int32)) q2
theorem w_dayGoes {G : xG} {m0 : Nat} {x1 : Int32} {S : MS} {q : MS} (hf : m_dayGoes x1 S = some q) : CtM G m0 mX4_dayGoes 5 S [.ref m0, .int x1] none q := by
  intro h N Z
  refine Ct.of (by decide +kernel) rfl (Nat.le_of_ble_eq_true rfl) (show Xr G _ 0 [(0, .ref m0), (1, .int x1)] [] _ from ?_)
  unfold m_dayGoes at hf
  refine X.aload_n dX4_dayGoes_0 rfl 0 rfl ?_
  refine X.iload_n dX4_dayGoes_1 rfl 1 rfl ?_
  obtain ⟨q2, h2, hf⟩ := ob hf
  refine X.callVv (As := [.int x1]) (rest := []) (T2 := (mh m0 h q2, N, Z)) dX4_dayGoes_2 (w_grow h2 h N Z) cX4_354 rfl rfl (Nat.le_of_ble_eq_true rfl) mh_0 rfl rfl (xD (Nat.le_of_ble_eq_true rfl)) xleN xleN ?_
  refine X.iconst (v := 0) dX4_dayGoes_5 (by decide) ?_
  refine X.istore_n (L' := [(2, .int (0 : Int32)), (0, .ref m0), (1, .int x1)]) dX4_dayGoes_6 rfl (Nat.le_of_ble_eq_true rfl) rfl ?_
  refine X.sub [1, 2, 0] (L' := [(0, .ref m0), (1, .int x1), (2, .int (0 : Int32))]) rfl ?_
  exact m_dayGoes_7_ok FU _ _ _ _ hf h N Z
theorem cX4_363 : xCV RX4 363 mX4_dayGoes 1 := ⟨lw_V q2008 q2010 qs98 q127 q2011, rfl, ⟨by decide +kernel, by decide +kernel, by decide +kernel⟩, Nat.le_of_ble_eq_true rfl⟩
/-! daysGo -/
abbrev cX4_daysGo : ByteArray := prog_12_method_62_code
def yX4_daysGo : MethodName := ⟨RX4, "daysGo", "(I)V"⟩
def dkwX4_daysGo_0 : List UInt8 := [3, 61, 28, 27, 162, 0, 15, 42, 16, 121, 182, 1, 107, 132, 2, 1, 167, 255, 242, 177]
abbrev dktX4_daysGo_0 : List UInt8 := dkwX4_daysGo_0 ++ []
theorem dksX4_daysGo_0 : cX4_daysGo.data.toList.drop 0 = dktX4_daysGo_0 := by decide +kernel
theorem dX4_daysGo_0 : decode cX4_daysGo 0 = .ok (.iconst 0, 1) := dk_3 (dk_at dksX4_daysGo_0 0 rfl rfl)
theorem dX4_daysGo_1 : decode cX4_daysGo 1 = .ok (.istore_n 2, 1) := dk_61 (dk_at dksX4_daysGo_0 1 rfl rfl)
theorem dX4_daysGo_2 : decode cX4_daysGo 2 = .ok (.iload_n 2, 1) := dk_28 (dk_at dksX4_daysGo_0 2 rfl rfl)
theorem dX4_daysGo_3 : decode cX4_daysGo 3 = .ok (.iload_n 1, 1) := dk_27 (dk_at dksX4_daysGo_0 3 rfl rfl)
theorem dX4_daysGo_4 : decode cX4_daysGo 4 = .ok (.if_icmp .ge 15, 3) := dk_162 0 15 (dk_at dksX4_daysGo_0 4 rfl rfl)
theorem dX4_daysGo_7 : decode cX4_daysGo 7 = .ok (.aload_n 0, 1) := dk_42 (dk_at dksX4_daysGo_0 7 rfl rfl)
theorem dX4_daysGo_8 : decode cX4_daysGo 8 = .ok (.bipush 121, 2) := dk_16 121 (dk_at dksX4_daysGo_0 8 rfl rfl)
theorem dX4_daysGo_10 : decode cX4_daysGo 10 = .ok (.invokevirtual 363, 3) := dk_182 1 107 (dk_at dksX4_daysGo_0 10 rfl rfl)
theorem dX4_daysGo_13 : decode cX4_daysGo 13 = .ok (.iinc 2 1, 3) := dk_132 2 1 (dk_at dksX4_daysGo_0 13 rfl rfl)
theorem dX4_daysGo_16 : decode cX4_daysGo 16 = .ok (.goto (-14), 3) := dk_167 255 242 (dk_at dksX4_daysGo_0 16 rfl rfl)
theorem dX4_daysGo_19 : decode cX4_daysGo 19 = .ok (.return_, 1) := dk_177 (dk_at dksX4_daysGo_0 19 rfl rfl)
abbrev mX4_daysGo : xM := (yX4_daysGo, cX4_daysGo, 3, none, [])
def m_daysGo_2_b  (k2 : Int32 → Int32 → MS → Option MS) (x1 : Int32) (x2 : Int32) (S : MS) : Option MS :=
  if x1 ≤ x2 then
    some S
  else
    (m_dayGoes ((121 : Int32)) S).bind fun q10 =>
    k2 x1 ((x2 + 1)) q10
def m_daysGo_2  : Nat → Int32 → Int32 → MS → Option MS
  | 0 => fun _ _ _ => none
  | n + 1 => fun x1 x2 S => m_daysGo_2_b (m_daysGo_2 n) x1 x2 S
theorem m_daysGo_2_bok {G : xG} {m0 : Nat} {S0 : MS}  {k2 : Int32 → Int32 → MS → Option MS}  (hk2 : ∀ (x1 : Int32) (x2 : Int32) (S : MS) (q : MS), k2 x1 x2 S = some q → XM G m0 mX4_daysGo 6 S0 none q 2 [(0, .ref m0), (1, .int x1), (2, .int x2)] [] S) (x1 : Int32) (x2 : Int32) (S : MS) (q : MS) (hf : m_daysGo_2_b k2 x1 x2 S = some q) : XM G m0 mX4_daysGo 6 S0 none q 2 [(0, .ref m0), (1, .int x1), (2, .int x2)] [] S := by
  intro h N Z
  unfold m_daysGo_2_b at hf
  refine X.iload_n dX4_daysGo_2 rfl 2 rfl ?_
  refine X.iload_n dX4_daysGo_3 rfl 1 rfl ?_
  refine X.icmp_ge (tgt := 19) dX4_daysGo_4 (by decide) (fun c4 => ?_) (fun c4 => ?_)
  · have hf := if_t c4 hf
    obtain rfl := Option.some.inj hf
    exact X.vret dX4_daysGo_19 rfl rfl
  · have hf := if_f c4 hf
    refine X.aload_n dX4_daysGo_7 rfl 0 rfl ?_
    refine X.bipush (v := 121) dX4_daysGo_8 (by decide) ?_
    obtain ⟨q10, h10, hf⟩ := ob hf
    refine X.callVv (As := [.int (121 : Int32)]) (rest := []) (T2 := (mh m0 h q10, N, Z)) dX4_daysGo_10 (w_dayGoes h10 h N Z) cX4_363 rfl rfl (Nat.le_of_ble_eq_true rfl) mh_0 rfl rfl (xD (Nat.le_of_ble_eq_true rfl)) xleN xleN ?_
    refine X.iinc (v := (x2 + 1)) (L' := [(2, .int (x2 + 1)), (0, .ref m0), (1, .int x1)]) dX4_daysGo_13 2 rfl rfl (Nat.le_of_ble_eq_true rfl) rfl ?_
    refine X.goto (tgt := 2) dX4_daysGo_16 (by decide) ?_
    refine X.sub [1, 2, 0] (L' := [(0, .ref m0), (1, .int x1), (2, .int (x2 + 1))]) rfl ?_
    exact hk2 _ _ _ _ hf h N Z
theorem m_daysGo_2_ok {G : xG} {m0 : Nat} {S0 : MS}   : ∀ (n : Nat) (x1 : Int32) (x2 : Int32) (S : MS) (q : MS), m_daysGo_2 n x1 x2 S = some q → XM G m0 mX4_daysGo 6 S0 none q 2 [(0, .ref m0), (1, .int x1), (2, .int x2)] [] S
  | 0, _, _, _, _, hf => by cases hf
  | n + 1, x1, x2, S, q, hf => m_daysGo_2_bok (m_daysGo_2_ok n) x1 x2 S q hf
def m_daysGo (x1 : Int32) (S : MS) : Option MS :=
  m_daysGo_2 FU x1 ((0 : Int32)) S
theorem w_daysGo {G : xG} {m0 : Nat} {x1 : Int32} {S : MS} {q : MS} (hf : m_daysGo x1 S = some q) : CtM G m0 mX4_daysGo 6 S [.ref m0, .int x1] none q := by
  intro h N Z
  refine Ct.of (by decide +kernel) rfl (Nat.le_of_ble_eq_true rfl) (show Xr G _ 0 [(0, .ref m0), (1, .int x1)] [] _ from ?_)
  unfold m_daysGo at hf
  refine X.iconst (v := 0) dX4_daysGo_0 (by decide) ?_
  refine X.istore_n (L' := [(2, .int (0 : Int32)), (0, .ref m0), (1, .int x1)]) dX4_daysGo_1 rfl (Nat.le_of_ble_eq_true rfl) rfl ?_
  refine X.sub [1, 2, 0] (L' := [(0, .ref m0), (1, .int x1), (2, .int (0 : Int32))]) rfl ?_
  exact m_daysGo_2_ok FU _ _ _ _ hf h N Z
theorem cX4_406 : xCV RX4 406 mX4_daysGo 1 := ⟨lw_V q2064 q2066 qs107 q127 q2067, rfl, ⟨by decide +kernel, by decide +kernel, by decide +kernel⟩, Nat.le_of_ble_eq_true rfl⟩
/-! doesVote -/
abbrev cX4_doesVote : ByteArray := prog_12_method_63_code
def yX4_doesVote : MethodName := ⟨RX4, "doesVote", "(II)Z"⟩
def dkwX4_doesVote_1 : List UInt8 := [96, 46, 42, 180, 0, 16, 161, 0, 7, 4, 167, 0, 4, 3, 172]
abbrev dktX4_doesVote_1 : List UInt8 := dkwX4_doesVote_1 ++ []
def dkwX4_doesVote_0 : List UInt8 := [42, 180, 0, 69, 27, 16, 61, 96, 28, 96, 46, 2, 159, 0, 25, 42, 180, 0, 69, 27, 16, 91, 96, 28]
abbrev dktX4_doesVote_0 : List UInt8 := dkwX4_doesVote_0 ++ dktX4_doesVote_1
theorem dksX4_doesVote_0 : cX4_doesVote.data.toList.drop 0 = dktX4_doesVote_0 := by decide +kernel
theorem dksX4_doesVote_1 : cX4_doesVote.data.toList.drop 24 = dktX4_doesVote_1 := dk_seg dksX4_doesVote_0 24 rfl rfl
theorem dX4_doesVote_0 : decode cX4_doesVote 0 = .ok (.aload_n 0, 1) := dk_42 (dk_at dksX4_doesVote_0 0 rfl rfl)
theorem dX4_doesVote_1 : decode cX4_doesVote 1 = .ok (.getfield 69, 3) := dk_180 0 69 (dk_at dksX4_doesVote_0 1 rfl rfl)
theorem dX4_doesVote_4 : decode cX4_doesVote 4 = .ok (.iload_n 1, 1) := dk_27 (dk_at dksX4_doesVote_0 4 rfl rfl)
theorem dX4_doesVote_5 : decode cX4_doesVote 5 = .ok (.bipush 61, 2) := dk_16 61 (dk_at dksX4_doesVote_0 5 rfl rfl)
theorem dX4_doesVote_7 : decode cX4_doesVote 7 = .ok (.iadd, 1) := dk_96 (dk_at dksX4_doesVote_0 7 rfl rfl)
theorem dX4_doesVote_8 : decode cX4_doesVote 8 = .ok (.iload_n 2, 1) := dk_28 (dk_at dksX4_doesVote_0 8 rfl rfl)
theorem dX4_doesVote_9 : decode cX4_doesVote 9 = .ok (.iadd, 1) := dk_96 (dk_at dksX4_doesVote_0 9 rfl rfl)
theorem dX4_doesVote_10 : decode cX4_doesVote 10 = .ok (.iaload, 1) := dk_46 (dk_at dksX4_doesVote_0 10 rfl rfl)
theorem dX4_doesVote_11 : decode cX4_doesVote 11 = .ok (.iconst (-1), 1) := dk_2 (dk_at dksX4_doesVote_0 11 rfl rfl)
theorem dX4_doesVote_12 : decode cX4_doesVote 12 = .ok (.if_icmp .eq 25, 3) := dk_159 0 25 (dk_at dksX4_doesVote_0 12 rfl rfl)
theorem dX4_doesVote_15 : decode cX4_doesVote 15 = .ok (.aload_n 0, 1) := dk_42 (dk_at dksX4_doesVote_0 15 rfl rfl)
theorem dX4_doesVote_16 : decode cX4_doesVote 16 = .ok (.getfield 69, 3) := dk_180 0 69 (dk_at dksX4_doesVote_0 16 rfl rfl)
theorem dX4_doesVote_19 : decode cX4_doesVote 19 = .ok (.iload_n 1, 1) := dk_27 (dk_at dksX4_doesVote_0 19 rfl rfl)
theorem dX4_doesVote_20 : decode cX4_doesVote 20 = .ok (.bipush 91, 2) := dk_16 91 (dk_at dksX4_doesVote_0 20 rfl rfl)
theorem dX4_doesVote_22 : decode cX4_doesVote 22 = .ok (.iadd, 1) := dk_96 (dk_at dksX4_doesVote_0 22 rfl rfl)
theorem dX4_doesVote_23 : decode cX4_doesVote 23 = .ok (.iload_n 2, 1) := dk_28 (dk_at dksX4_doesVote_0 23 rfl rfl)
theorem dX4_doesVote_24 : decode cX4_doesVote 24 = .ok (.iadd, 1) := dk_96 (dk_at dksX4_doesVote_1 0 rfl rfl)
theorem dX4_doesVote_25 : decode cX4_doesVote 25 = .ok (.iaload, 1) := dk_46 (dk_at dksX4_doesVote_1 1 rfl rfl)
theorem dX4_doesVote_26 : decode cX4_doesVote 26 = .ok (.aload_n 0, 1) := dk_42 (dk_at dksX4_doesVote_1 2 rfl rfl)
theorem dX4_doesVote_27 : decode cX4_doesVote 27 = .ok (.getfield 16, 3) := dk_180 0 16 (dk_at dksX4_doesVote_1 3 rfl rfl)
theorem dX4_doesVote_30 : decode cX4_doesVote 30 = .ok (.if_icmp .lt 7, 3) := dk_161 0 7 (dk_at dksX4_doesVote_1 6 rfl rfl)
theorem dX4_doesVote_33 : decode cX4_doesVote 33 = .ok (.iconst 1, 1) := dk_4 (dk_at dksX4_doesVote_1 9 rfl rfl)
theorem dX4_doesVote_34 : decode cX4_doesVote 34 = .ok (.goto 4, 3) := dk_167 0 4 (dk_at dksX4_doesVote_1 10 rfl rfl)
theorem dX4_doesVote_37 : decode cX4_doesVote 37 = .ok (.iconst 0, 1) := dk_3 (dk_at dksX4_doesVote_1 13 rfl rfl)
theorem dX4_doesVote_38 : decode cX4_doesVote 38 = .ok (.ireturn, 1) := dk_172 (dk_at dksX4_doesVote_1 14 rfl rfl)
abbrev mX4_doesVote : xM := (yX4_doesVote, cX4_doesVote, 3, (some .boolean), [])
def m_doesVote (x1 : Int32) (x2 : Int32) (S : MS) : Option Int32 :=
  (rdA S 13 ((x1 + (61 : Int32)) + x2)).bind fun v10 =>
  if v10 = (-1 : Int32) then
    some (0 : Int32)
  else
    (rdA S 13 ((x1 + (91 : Int32)) + x2)).bind fun v25 =>
    if v25 < (S.1 5) then
      some (0 : Int32)
    else
      some (1 : Int32)
theorem w_doesVote {G : xG} {m0 : Nat} {x1 : Int32} {x2 : Int32} {S : MS} {q : Int32} (hf : m_doesVote x1 x2 S = some q) : CtM G m0 mX4_doesVote 1 S [.ref m0, .int x1, .int x2] (some (.int q)) S := by
  intro h N Z
  refine Ct.of (by decide +kernel) rfl (Nat.le_of_ble_eq_true rfl) (show Xr G _ 0 [(0, .ref m0), (1, .int x1), (2, .int x2)] [] _ from ?_)
  unfold m_doesVote at hf
  refine X.aload_n dX4_doesVote_0 rfl 0 rfl ?_
  refine M.get (v := .ref (m0 + 13)) dX4_doesVote_1 fX4_69 (Nat.le_of_ble_eq_true rfl) rfl ?_
  refine X.iload_n dX4_doesVote_4 rfl 1 rfl ?_
  refine X.bipush (v := 61) dX4_doesVote_5 (by decide) ?_
  refine X.iadd dX4_doesVote_7 ?_
  refine X.iload_n dX4_doesVote_8 rfl 2 rfl ?_
  refine X.iadd dX4_doesVote_9 ?_
  obtain ⟨v10, h10, hf⟩ := ob hf
  refine M.iald dX4_doesVote_10 rfl h10 ?_
  refine X.iconst (v := -1) dX4_doesVote_11 (by decide) ?_
  refine X.icmp_eq (tgt := 37) dX4_doesVote_12 (by decide) (fun c12 => ?_) (fun c12 => ?_)
  · have hf := if_t c12 hf
    refine X.iconst (v := 0) dX4_doesVote_37 (by decide) ?_
    obtain rfl := Option.some.inj hf
    exact X.iret dX4_doesVote_38 rfl rfl rfl
  · have hf := if_f c12 hf
    refine X.aload_n dX4_doesVote_15 rfl 0 rfl ?_
    refine M.get (v := .ref (m0 + 13)) dX4_doesVote_16 fX4_69 (Nat.le_of_ble_eq_true rfl) rfl ?_
    refine X.iload_n dX4_doesVote_19 rfl 1 rfl ?_
    refine X.bipush (v := 91) dX4_doesVote_20 (by decide) ?_
    refine X.iadd dX4_doesVote_22 ?_
    refine X.iload_n dX4_doesVote_23 rfl 2 rfl ?_
    refine X.iadd dX4_doesVote_24 ?_
    obtain ⟨v25, h25, hf⟩ := ob hf
    refine M.iald dX4_doesVote_25 rfl h25 ?_
    refine X.aload_n dX4_doesVote_26 rfl 0 rfl ?_
    refine M.get (v := .int (S.1 5)) dX4_doesVote_27 fX4_16 (Nat.le_of_ble_eq_true rfl) rfl ?_
    refine X.icmp_lt (tgt := 37) dX4_doesVote_30 (by decide) (fun c30 => ?_) (fun c30 => ?_)
    · have hf := if_t c30 hf
      refine X.iconst (v := 0) dX4_doesVote_37 (by decide) ?_
      obtain rfl := Option.some.inj hf
      exact X.iret dX4_doesVote_38 rfl rfl rfl
    · have hf := if_f c30 hf
      refine X.iconst (v := 1) dX4_doesVote_33 (by decide) ?_
      refine X.goto (tgt := 38) dX4_doesVote_34 (by decide) ?_
      obtain rfl := Option.some.inj hf
      exact X.iret dX4_doesVote_38 rfl rfl rfl
theorem cX4_366 : xCV RX4 366 mX4_doesVote 2 := ⟨lw_V q1935 q1937 qs86 q127 q1938, rfl, ⟨by decide +kernel, by decide +kernel, by decide +kernel⟩, Nat.le_of_ble_eq_true rfl⟩
/-! votesOf -/
abbrev cX4_votesOf : ByteArray := prog_12_method_64_code
def yX4_votesOf : MethodName := ⟨RX4, "votesOf", "(II)I"⟩
def dkwX4_votesOf_2 : List UInt8 := [4, 167, 0, 4, 3, 96, 62, 132, 4, 1, 167, 255, 205, 29, 172]
abbrev dktX4_votesOf_2 : List UInt8 := dkwX4_votesOf_2 ++ []
def dkwX4_votesOf_1 : List UInt8 := [153, 0, 28, 42, 180, 0, 28, 42, 180, 0, 69, 27, 16, 61, 96, 21, 4, 96, 46, 46, 28, 160, 0, 7]
abbrev dktX4_votesOf_1 : List UInt8 := dkwX4_votesOf_1 ++ dktX4_votesOf_2
def dkwX4_votesOf_0 : List UInt8 := [3, 62, 3, 54, 4, 21, 4, 42, 182, 1, 65, 162, 0, 48, 29, 42, 27, 21, 4, 182, 1, 110]
abbrev dktX4_votesOf_0 : List UInt8 := dkwX4_votesOf_0 ++ dktX4_votesOf_1
theorem dksX4_votesOf_0 : cX4_votesOf.data.toList.drop 0 = dktX4_votesOf_0 := by decide +kernel
theorem dksX4_votesOf_1 : cX4_votesOf.data.toList.drop 22 = dktX4_votesOf_1 := dk_seg dksX4_votesOf_0 22 rfl rfl
theorem dksX4_votesOf_2 : cX4_votesOf.data.toList.drop 46 = dktX4_votesOf_2 := dk_seg dksX4_votesOf_1 24 rfl rfl
theorem dX4_votesOf_0 : decode cX4_votesOf 0 = .ok (.iconst 0, 1) := dk_3 (dk_at dksX4_votesOf_0 0 rfl rfl)
theorem dX4_votesOf_1 : decode cX4_votesOf 1 = .ok (.istore_n 3, 1) := dk_62 (dk_at dksX4_votesOf_0 1 rfl rfl)
theorem dX4_votesOf_2 : decode cX4_votesOf 2 = .ok (.iconst 0, 1) := dk_3 (dk_at dksX4_votesOf_0 2 rfl rfl)
theorem dX4_votesOf_3 : decode cX4_votesOf 3 = .ok (.istore 4, 2) := dk_54 4 (dk_at dksX4_votesOf_0 3 rfl rfl)
theorem dX4_votesOf_5 : decode cX4_votesOf 5 = .ok (.iload 4, 2) := dk_21 4 (dk_at dksX4_votesOf_0 5 rfl rfl)
theorem dX4_votesOf_7 : decode cX4_votesOf 7 = .ok (.aload_n 0, 1) := dk_42 (dk_at dksX4_votesOf_0 7 rfl rfl)
theorem dX4_votesOf_8 : decode cX4_votesOf 8 = .ok (.invokevirtual 321, 3) := dk_182 1 65 (dk_at dksX4_votesOf_0 8 rfl rfl)
theorem dX4_votesOf_11 : decode cX4_votesOf 11 = .ok (.if_icmp .ge 48, 3) := dk_162 0 48 (dk_at dksX4_votesOf_0 11 rfl rfl)
theorem dX4_votesOf_14 : decode cX4_votesOf 14 = .ok (.iload_n 3, 1) := dk_29 (dk_at dksX4_votesOf_0 14 rfl rfl)
theorem dX4_votesOf_15 : decode cX4_votesOf 15 = .ok (.aload_n 0, 1) := dk_42 (dk_at dksX4_votesOf_0 15 rfl rfl)
theorem dX4_votesOf_16 : decode cX4_votesOf 16 = .ok (.iload_n 1, 1) := dk_27 (dk_at dksX4_votesOf_0 16 rfl rfl)
theorem dX4_votesOf_17 : decode cX4_votesOf 17 = .ok (.iload 4, 2) := dk_21 4 (dk_at dksX4_votesOf_0 17 rfl rfl)
theorem dX4_votesOf_19 : decode cX4_votesOf 19 = .ok (.invokevirtual 366, 3) := dk_182 1 110 (dk_at dksX4_votesOf_0 19 rfl rfl)
theorem dX4_votesOf_22 : decode cX4_votesOf 22 = .ok (.ifCond .eq 28, 3) := dk_153 0 28 (dk_at dksX4_votesOf_1 0 rfl rfl)
theorem dX4_votesOf_25 : decode cX4_votesOf 25 = .ok (.aload_n 0, 1) := dk_42 (dk_at dksX4_votesOf_1 3 rfl rfl)
theorem dX4_votesOf_26 : decode cX4_votesOf 26 = .ok (.getfield 28, 3) := dk_180 0 28 (dk_at dksX4_votesOf_1 4 rfl rfl)
theorem dX4_votesOf_29 : decode cX4_votesOf 29 = .ok (.aload_n 0, 1) := dk_42 (dk_at dksX4_votesOf_1 7 rfl rfl)
theorem dX4_votesOf_30 : decode cX4_votesOf 30 = .ok (.getfield 69, 3) := dk_180 0 69 (dk_at dksX4_votesOf_1 8 rfl rfl)
theorem dX4_votesOf_33 : decode cX4_votesOf 33 = .ok (.iload_n 1, 1) := dk_27 (dk_at dksX4_votesOf_1 11 rfl rfl)
theorem dX4_votesOf_34 : decode cX4_votesOf 34 = .ok (.bipush 61, 2) := dk_16 61 (dk_at dksX4_votesOf_1 12 rfl rfl)
theorem dX4_votesOf_36 : decode cX4_votesOf 36 = .ok (.iadd, 1) := dk_96 (dk_at dksX4_votesOf_1 14 rfl rfl)
theorem dX4_votesOf_37 : decode cX4_votesOf 37 = .ok (.iload 4, 2) := dk_21 4 (dk_at dksX4_votesOf_1 15 rfl rfl)
theorem dX4_votesOf_39 : decode cX4_votesOf 39 = .ok (.iadd, 1) := dk_96 (dk_at dksX4_votesOf_1 17 rfl rfl)
theorem dX4_votesOf_40 : decode cX4_votesOf 40 = .ok (.iaload, 1) := dk_46 (dk_at dksX4_votesOf_1 18 rfl rfl)
theorem dX4_votesOf_41 : decode cX4_votesOf 41 = .ok (.iaload, 1) := dk_46 (dk_at dksX4_votesOf_1 19 rfl rfl)
theorem dX4_votesOf_42 : decode cX4_votesOf 42 = .ok (.iload_n 2, 1) := dk_28 (dk_at dksX4_votesOf_1 20 rfl rfl)
theorem dX4_votesOf_43 : decode cX4_votesOf 43 = .ok (.if_icmp .ne 7, 3) := dk_160 0 7 (dk_at dksX4_votesOf_1 21 rfl rfl)
theorem dX4_votesOf_46 : decode cX4_votesOf 46 = .ok (.iconst 1, 1) := dk_4 (dk_at dksX4_votesOf_2 0 rfl rfl)
theorem dX4_votesOf_47 : decode cX4_votesOf 47 = .ok (.goto 4, 3) := dk_167 0 4 (dk_at dksX4_votesOf_2 1 rfl rfl)
theorem dX4_votesOf_50 : decode cX4_votesOf 50 = .ok (.iconst 0, 1) := dk_3 (dk_at dksX4_votesOf_2 4 rfl rfl)
theorem dX4_votesOf_51 : decode cX4_votesOf 51 = .ok (.iadd, 1) := dk_96 (dk_at dksX4_votesOf_2 5 rfl rfl)
theorem dX4_votesOf_52 : decode cX4_votesOf 52 = .ok (.istore_n 3, 1) := dk_62 (dk_at dksX4_votesOf_2 6 rfl rfl)
theorem dX4_votesOf_53 : decode cX4_votesOf 53 = .ok (.iinc 4 1, 3) := dk_132 4 1 (dk_at dksX4_votesOf_2 7 rfl rfl)
theorem dX4_votesOf_56 : decode cX4_votesOf 56 = .ok (.goto (-51), 3) := dk_167 255 205 (dk_at dksX4_votesOf_2 10 rfl rfl)
theorem dX4_votesOf_59 : decode cX4_votesOf 59 = .ok (.iload_n 3, 1) := dk_29 (dk_at dksX4_votesOf_2 13 rfl rfl)
theorem dX4_votesOf_60 : decode cX4_votesOf 60 = .ok (.ireturn, 1) := dk_172 (dk_at dksX4_votesOf_2 14 rfl rfl)
abbrev mX4_votesOf : xM := (yX4_votesOf, cX4_votesOf, 5, (some .int), [])
def m_votesOf_51 (k5 : Int32 → Int32 → Int32 → Int32 → MS → Option Int32) (x1 : Int32) (x2 : Int32) (x4 : Int32) (y0 : Int32) (y1 : Int32) (S : MS) : Option Int32 :=
  k5 x1 x2 ((y1 + y0)) ((x4 + 1)) S
theorem m_votesOf_51_ok {G : xG} {m0 : Nat} {k5 : Int32 → Int32 → Int32 → Int32 → MS → Option Int32} (hk5 : ∀ (x1 : Int32) (x2 : Int32) (x3 : Int32) (x4 : Int32) (S : MS) (q : Int32), k5 x1 x2 x3 x4 S = some q → XM G m0 mX4_votesOf 2 S (some (.int q)) S 5 [(0, .ref m0), (1, .int x1), (2, .int x2), (3, .int x3), (4, .int x4)] [] S) (x1 : Int32) (x2 : Int32) (x4 : Int32) (y0 : Int32) (y1 : Int32) (S : MS) (q : Int32) (hf : m_votesOf_51 k5 x1 x2 x4 y0 y1 S = some q) : XM G m0 mX4_votesOf 2 S (some (.int q)) S 51 [(0, .ref m0), (1, .int x1), (2, .int x2), (4, .int x4)] [.int y0, .int y1] S := by
  intro h N Z
  unfold m_votesOf_51 at hf
  refine X.iadd dX4_votesOf_51 ?_
  refine X.istore_n (L' := [(3, .int (y1 + y0)), (0, .ref m0), (1, .int x1), (2, .int x2), (4, .int x4)]) dX4_votesOf_52 rfl (Nat.le_of_ble_eq_true rfl) rfl ?_
  refine X.iinc (v := (x4 + 1)) (L' := [(4, .int (x4 + 1)), (3, .int (y1 + y0)), (0, .ref m0), (1, .int x1), (2, .int x2)]) dX4_votesOf_53 4 rfl rfl (Nat.le_of_ble_eq_true rfl) rfl ?_
  refine X.goto (tgt := 5) dX4_votesOf_56 (by decide) ?_
  refine X.sub [2, 3, 4, 1, 0] (L' := [(0, .ref m0), (1, .int x1), (2, .int x2), (3, .int (y1 + y0)), (4, .int (x4 + 1))]) rfl ?_
  exact hk5 _ _ _ _ _ _ hf h N Z
def m_votesOf_50 (k5 : Int32 → Int32 → Int32 → Int32 → MS → Option Int32) (x1 : Int32) (x2 : Int32) (x4 : Int32) (y0 : Int32) (S : MS) : Option Int32 :=
  m_votesOf_51 k5 x1 x2 x4 ((0 : Int32)) y0 S
theorem m_votesOf_50_ok {G : xG} {m0 : Nat} {k5 : Int32 → Int32 → Int32 → Int32 → MS → Option Int32} (hk5 : ∀ (x1 : Int32) (x2 : Int32) (x3 : Int32) (x4 : Int32) (S : MS) (q : Int32), k5 x1 x2 x3 x4 S = some q → XM G m0 mX4_votesOf 2 S (some (.int q)) S 5 [(0, .ref m0), (1, .int x1), (2, .int x2), (3, .int x3), (4, .int x4)] [] S) (x1 : Int32) (x2 : Int32) (x4 : Int32) (y0 : Int32) (S : MS) (q : Int32) (hf : m_votesOf_50 k5 x1 x2 x4 y0 S = some q) : XM G m0 mX4_votesOf 2 S (some (.int q)) S 50 [(0, .ref m0), (1, .int x1), (2, .int x2), (4, .int x4)] [.int y0] S := by
  intro h N Z
  unfold m_votesOf_50 at hf
  refine X.iconst (v := 0) dX4_votesOf_50 (by decide) ?_
  refine X.sub [0, 1, 2, 3] (L' := [(0, .ref m0), (1, .int x1), (2, .int x2), (4, .int x4)]) rfl ?_
  exact m_votesOf_51_ok hk5 _ _ _ _ _ _ _ hf h N Z
def m_votesOf_5_b  (k5 : Int32 → Int32 → Int32 → Int32 → MS → Option Int32) (x1 : Int32) (x2 : Int32) (x3 : Int32) (x4 : Int32) (S : MS) : Option Int32 :=
  (m_cells S).bind fun q8 =>
  if q8 ≤ x4 then
    some x3
  else
    (m_doesVote x1 x4 S).bind fun q19 =>
    if q19 = 0 then
      m_votesOf_50 k5 x1 x2 x4 x3 S
    else
      (rdA S 13 ((x1 + (61 : Int32)) + x4)).bind fun v40 =>
      (rdA S 1 v40).bind fun v41 =>
      if v41 = x2 then
        m_votesOf_51 k5 x1 x2 x4 ((1 : Int32)) x3 S
      else
        m_votesOf_50 k5 x1 x2 x4 x3 S
def m_votesOf_5  : Nat → Int32 → Int32 → Int32 → Int32 → MS → Option Int32
  | 0 => fun _ _ _ _ _ => none
  | n + 1 => fun x1 x2 x3 x4 S => m_votesOf_5_b (m_votesOf_5 n) x1 x2 x3 x4 S
theorem m_votesOf_5_bok {G : xG} {m0 : Nat}  {k5 : Int32 → Int32 → Int32 → Int32 → MS → Option Int32}  (hk5 : ∀ (x1 : Int32) (x2 : Int32) (x3 : Int32) (x4 : Int32) (S : MS) (q : Int32), k5 x1 x2 x3 x4 S = some q → XM G m0 mX4_votesOf 2 S (some (.int q)) S 5 [(0, .ref m0), (1, .int x1), (2, .int x2), (3, .int x3), (4, .int x4)] [] S) (x1 : Int32) (x2 : Int32) (x3 : Int32) (x4 : Int32) (S : MS) (q : Int32) (hf : m_votesOf_5_b k5 x1 x2 x3 x4 S = some q) : XM G m0 mX4_votesOf 2 S (some (.int q)) S 5 [(0, .ref m0), (1, .int x1), (2, .int x2), (3, .int x3), (4, .int x4)] [] S := by
  intro h N Z
  unfold m_votesOf_5_b at hf
  refine X.iload dX4_votesOf_5 4 rfl ?_
  refine X.aload_n dX4_votesOf_7 rfl 0 rfl ?_
  obtain ⟨q8, h8, hf⟩ := ob hf
  refine X.callVi (As := []) (rest := [.int x4]) dX4_votesOf_8 (w_cells h8 h N Z) cX4_321 rfl rfl (Nat.le_of_ble_eq_true rfl) mh_0 rfl rfl (xD (Nat.le_of_ble_eq_true rfl)) xleN xleN ?_
  refine X.icmp_ge (tgt := 59) dX4_votesOf_11 (by decide) (fun c11 => ?_) (fun c11 => ?_)
  · have hf := if_t c11 hf
    refine X.iload_n dX4_votesOf_59 rfl 3 rfl ?_
    obtain rfl := Option.some.inj hf
    exact X.iret dX4_votesOf_60 rfl rfl rfl
  · have hf := if_f c11 hf
    refine X.iload_n dX4_votesOf_14 rfl 3 rfl ?_
    refine X.aload_n dX4_votesOf_15 rfl 0 rfl ?_
    refine X.iload_n dX4_votesOf_16 rfl 1 rfl ?_
    refine X.iload dX4_votesOf_17 4 rfl ?_
    obtain ⟨q19, h19, hf⟩ := ob hf
    refine X.callVi (As := [.int x1, .int x4]) (rest := [.int x3]) dX4_votesOf_19 (w_doesVote h19 h N Z) cX4_366 rfl rfl (Nat.le_of_ble_eq_true rfl) mh_0 rfl rfl (xD (Nat.le_of_ble_eq_true rfl)) xleN xleN ?_
    refine X.if_eq (tgt := 50) dX4_votesOf_22 (by decide) (fun c22 => ?_) (fun c22 => ?_)
    · have hf := if_t c22 hf
      refine X.sub [0, 1, 2, 4] (L' := [(0, .ref m0), (1, .int x1), (2, .int x2), (4, .int x4)]) rfl ?_
      exact m_votesOf_50_ok hk5 _ _ _ _ _ _ hf h N Z
    · have hf := if_f c22 hf
      refine X.aload_n dX4_votesOf_25 rfl 0 rfl ?_
      refine M.get (v := .ref (m0 + 1)) dX4_votesOf_26 fX4_28 (Nat.le_of_ble_eq_true rfl) rfl ?_
      refine X.aload_n dX4_votesOf_29 rfl 0 rfl ?_
      refine M.get (v := .ref (m0 + 13)) dX4_votesOf_30 fX4_69 (Nat.le_of_ble_eq_true rfl) rfl ?_
      refine X.iload_n dX4_votesOf_33 rfl 1 rfl ?_
      refine X.bipush (v := 61) dX4_votesOf_34 (by decide) ?_
      refine X.iadd dX4_votesOf_36 ?_
      refine X.iload dX4_votesOf_37 4 rfl ?_
      refine X.iadd dX4_votesOf_39 ?_
      obtain ⟨v40, h40, hf⟩ := ob hf
      refine M.iald dX4_votesOf_40 rfl h40 ?_
      obtain ⟨v41, h41, hf⟩ := ob hf
      refine M.iald dX4_votesOf_41 rfl h41 ?_
      refine X.iload_n dX4_votesOf_42 rfl 2 rfl ?_
      refine X.icmp_ne (tgt := 50) dX4_votesOf_43 (by decide) (fun c43 => ?_) (fun c43 => ?_)
      · have hf := if_f c43 hf
        refine X.sub [0, 1, 2, 4] (L' := [(0, .ref m0), (1, .int x1), (2, .int x2), (4, .int x4)]) rfl ?_
        exact m_votesOf_50_ok hk5 _ _ _ _ _ _ hf h N Z
      · have hf := if_t c43 hf
        refine X.iconst (v := 1) dX4_votesOf_46 (by decide) ?_
        refine X.goto (tgt := 51) dX4_votesOf_47 (by decide) ?_
        refine X.sub [0, 1, 2, 4] (L' := [(0, .ref m0), (1, .int x1), (2, .int x2), (4, .int x4)]) rfl ?_
        exact m_votesOf_51_ok hk5 _ _ _ _ _ _ _ hf h N Z
theorem m_votesOf_5_ok {G : xG} {m0 : Nat}   : ∀ (n : Nat) (x1 : Int32) (x2 : Int32) (x3 : Int32) (x4 : Int32) (S : MS) (q : Int32), m_votesOf_5 n x1 x2 x3 x4 S = some q → XM G m0 mX4_votesOf 2 S (some (.int q)) S 5 [(0, .ref m0), (1, .int x1), (2, .int x2), (3, .int x3), (4, .int x4)] [] S
  | 0, _, _, _, _, _, _, hf => by cases hf
  | n + 1, x1, x2, x3, x4, S, q, hf => m_votesOf_5_bok (m_votesOf_5_ok n) x1 x2 x3 x4 S q hf
def m_votesOf (x1 : Int32) (x2 : Int32) (S : MS) : Option Int32 :=
  m_votesOf_5 FU x1 x2 ((0 : Int32)) ((0 : Int32)) S
theorem w_votesOf {G : xG} {m0 : Nat} {x1 : Int32} {x2 : Int32} {S : MS} {q : Int32} (hf : m_votesOf x1 x2 S = some q) : CtM G m0 mX4_votesOf 2 S [.ref m0, .int x1, .int x2] (some (.int q)) S := by
  intro h N Z
  refine Ct.of (by decide +kernel) rfl (Nat.le_of_ble_eq_true rfl) (show Xr G _ 0 [(0, .ref m0), (1, .int x1), (2, .int x2)] [] _ from ?_)
  unfold m_votesOf at hf
  refine X.iconst (v := 0) dX4_votesOf_0 (by decide) ?_
  refine X.istore_n (L' := [(3, .int (0 : Int32)), (0, .ref m0), (1, .int x1), (2, .int x2)]) dX4_votesOf_1 rfl (Nat.le_of_ble_eq_true rfl) rfl ?_
  refine X.iconst (v := 0) dX4_votesOf_2 (by decide) ?_
  refine X.istore (L' := [(4, .int (0 : Int32)), (3, .int (0 : Int32)), (0, .ref m0), (1, .int x1), (2, .int x2)]) dX4_votesOf_3 (Nat.le_of_ble_eq_true rfl) rfl ?_
  refine X.sub [2, 3, 4, 1, 0] (L' := [(0, .ref m0), (1, .int x1), (2, .int x2), (3, .int (0 : Int32)), (4, .int (0 : Int32))]) rfl ?_
  exact m_votesOf_5_ok FU _ _ _ _ _ _ hf h N Z
theorem cX4_370 : xCV RX4 370 mX4_votesOf 2 := ⟨lw_V q1931 q1933 qs85 q127 q1934, rfl, ⟨by decide +kernel, by decide +kernel, by decide +kernel⟩, Nat.le_of_ble_eq_true rfl⟩
/-! winnerIn -/
abbrev cX4_winnerIn : ByteArray := prog_12_method_65_code
def yX4_winnerIn : MethodName := ⟨RX4, "winnerIn", "(I)I"⟩
def dkwX4_winnerIn_1 : List UInt8 := [29, 163, 0, 6, 167, 0, 9, 21, 4, 61, 21, 5, 62, 132, 4, 1, 167, 255, 223, 28, 172]
abbrev dktX4_winnerIn_1 : List UInt8 := dkwX4_winnerIn_1 ++ []
def dkwX4_winnerIn_0 : List UInt8 := [2, 61, 3, 62, 3, 54, 4, 21, 4, 7, 162, 0, 33, 42, 27, 21, 4, 182, 1, 114, 54, 5, 21, 5]
abbrev dktX4_winnerIn_0 : List UInt8 := dkwX4_winnerIn_0 ++ dktX4_winnerIn_1
theorem dksX4_winnerIn_0 : cX4_winnerIn.data.toList.drop 0 = dktX4_winnerIn_0 := by decide +kernel
theorem dksX4_winnerIn_1 : cX4_winnerIn.data.toList.drop 24 = dktX4_winnerIn_1 := dk_seg dksX4_winnerIn_0 24 rfl rfl
theorem dX4_winnerIn_0 : decode cX4_winnerIn 0 = .ok (.iconst (-1), 1) := dk_2 (dk_at dksX4_winnerIn_0 0 rfl rfl)
theorem dX4_winnerIn_1 : decode cX4_winnerIn 1 = .ok (.istore_n 2, 1) := dk_61 (dk_at dksX4_winnerIn_0 1 rfl rfl)
theorem dX4_winnerIn_2 : decode cX4_winnerIn 2 = .ok (.iconst 0, 1) := dk_3 (dk_at dksX4_winnerIn_0 2 rfl rfl)
theorem dX4_winnerIn_3 : decode cX4_winnerIn 3 = .ok (.istore_n 3, 1) := dk_62 (dk_at dksX4_winnerIn_0 3 rfl rfl)
theorem dX4_winnerIn_4 : decode cX4_winnerIn 4 = .ok (.iconst 0, 1) := dk_3 (dk_at dksX4_winnerIn_0 4 rfl rfl)
theorem dX4_winnerIn_5 : decode cX4_winnerIn 5 = .ok (.istore 4, 2) := dk_54 4 (dk_at dksX4_winnerIn_0 5 rfl rfl)
theorem dX4_winnerIn_7 : decode cX4_winnerIn 7 = .ok (.iload 4, 2) := dk_21 4 (dk_at dksX4_winnerIn_0 7 rfl rfl)
theorem dX4_winnerIn_9 : decode cX4_winnerIn 9 = .ok (.iconst 4, 1) := dk_7 (dk_at dksX4_winnerIn_0 9 rfl rfl)
theorem dX4_winnerIn_10 : decode cX4_winnerIn 10 = .ok (.if_icmp .ge 33, 3) := dk_162 0 33 (dk_at dksX4_winnerIn_0 10 rfl rfl)
theorem dX4_winnerIn_13 : decode cX4_winnerIn 13 = .ok (.aload_n 0, 1) := dk_42 (dk_at dksX4_winnerIn_0 13 rfl rfl)
theorem dX4_winnerIn_14 : decode cX4_winnerIn 14 = .ok (.iload_n 1, 1) := dk_27 (dk_at dksX4_winnerIn_0 14 rfl rfl)
theorem dX4_winnerIn_15 : decode cX4_winnerIn 15 = .ok (.iload 4, 2) := dk_21 4 (dk_at dksX4_winnerIn_0 15 rfl rfl)
theorem dX4_winnerIn_17 : decode cX4_winnerIn 17 = .ok (.invokevirtual 370, 3) := dk_182 1 114 (dk_at dksX4_winnerIn_0 17 rfl rfl)
theorem dX4_winnerIn_20 : decode cX4_winnerIn 20 = .ok (.istore 5, 2) := dk_54 5 (dk_at dksX4_winnerIn_0 20 rfl rfl)
theorem dX4_winnerIn_22 : decode cX4_winnerIn 22 = .ok (.iload 5, 2) := dk_21 5 (dk_at dksX4_winnerIn_0 22 rfl rfl)
theorem dX4_winnerIn_24 : decode cX4_winnerIn 24 = .ok (.iload_n 3, 1) := dk_29 (dk_at dksX4_winnerIn_1 0 rfl rfl)
theorem dX4_winnerIn_25 : decode cX4_winnerIn 25 = .ok (.if_icmp .gt 6, 3) := dk_163 0 6 (dk_at dksX4_winnerIn_1 1 rfl rfl)
theorem dX4_winnerIn_28 : decode cX4_winnerIn 28 = .ok (.goto 9, 3) := dk_167 0 9 (dk_at dksX4_winnerIn_1 4 rfl rfl)
theorem dX4_winnerIn_31 : decode cX4_winnerIn 31 = .ok (.iload 4, 2) := dk_21 4 (dk_at dksX4_winnerIn_1 7 rfl rfl)
theorem dX4_winnerIn_33 : decode cX4_winnerIn 33 = .ok (.istore_n 2, 1) := dk_61 (dk_at dksX4_winnerIn_1 9 rfl rfl)
theorem dX4_winnerIn_34 : decode cX4_winnerIn 34 = .ok (.iload 5, 2) := dk_21 5 (dk_at dksX4_winnerIn_1 10 rfl rfl)
theorem dX4_winnerIn_36 : decode cX4_winnerIn 36 = .ok (.istore_n 3, 1) := dk_62 (dk_at dksX4_winnerIn_1 12 rfl rfl)
theorem dX4_winnerIn_37 : decode cX4_winnerIn 37 = .ok (.iinc 4 1, 3) := dk_132 4 1 (dk_at dksX4_winnerIn_1 13 rfl rfl)
theorem dX4_winnerIn_40 : decode cX4_winnerIn 40 = .ok (.goto (-33), 3) := dk_167 255 223 (dk_at dksX4_winnerIn_1 16 rfl rfl)
theorem dX4_winnerIn_43 : decode cX4_winnerIn 43 = .ok (.iload_n 2, 1) := dk_28 (dk_at dksX4_winnerIn_1 19 rfl rfl)
theorem dX4_winnerIn_44 : decode cX4_winnerIn 44 = .ok (.ireturn, 1) := dk_172 (dk_at dksX4_winnerIn_1 20 rfl rfl)
abbrev mX4_winnerIn : xM := (yX4_winnerIn, cX4_winnerIn, 6, (some .int), [])
def m_winnerIn_37 (k7 : Int32 → Int32 → Int32 → Int32 → MS → Option Int32) (x1 : Int32) (x2 : Int32) (x3 : Int32) (x4 : Int32) (S : MS) : Option Int32 :=
  k7 x1 x2 x3 ((x4 + 1)) S
theorem m_winnerIn_37_ok {G : xG} {m0 : Nat} {k7 : Int32 → Int32 → Int32 → Int32 → MS → Option Int32} (hk7 : ∀ (x1 : Int32) (x2 : Int32) (x3 : Int32) (x4 : Int32) (S : MS) (q : Int32), k7 x1 x2 x3 x4 S = some q → XM G m0 mX4_winnerIn 3 S (some (.int q)) S 7 [(0, .ref m0), (1, .int x1), (2, .int x2), (3, .int x3), (4, .int x4)] [] S) (x1 : Int32) (x2 : Int32) (x3 : Int32) (x4 : Int32) (S : MS) (q : Int32) (hf : m_winnerIn_37 k7 x1 x2 x3 x4 S = some q) : XM G m0 mX4_winnerIn 3 S (some (.int q)) S 37 [(0, .ref m0), (1, .int x1), (2, .int x2), (3, .int x3), (4, .int x4)] [] S := by
  intro h N Z
  unfold m_winnerIn_37 at hf
  refine X.iinc (v := (x4 + 1)) (L' := [(4, .int (x4 + 1)), (0, .ref m0), (1, .int x1), (2, .int x2), (3, .int x3)]) dX4_winnerIn_37 4 rfl rfl (Nat.le_of_ble_eq_true rfl) rfl ?_
  refine X.goto (tgt := 7) dX4_winnerIn_40 (by decide) ?_
  refine X.sub [1, 2, 3, 4, 0] (L' := [(0, .ref m0), (1, .int x1), (2, .int x2), (3, .int x3), (4, .int (x4 + 1))]) rfl ?_
  exact hk7 _ _ _ _ _ _ hf h N Z
def m_winnerIn_7_b  (k7 : Int32 → Int32 → Int32 → Int32 → MS → Option Int32) (x1 : Int32) (x2 : Int32) (x3 : Int32) (x4 : Int32) (S : MS) : Option Int32 :=
  if (4 : Int32) ≤ x4 then
    some x2
  else
    (m_votesOf x1 x4 S).bind fun q17 =>
    if x3 < q17 then
      m_winnerIn_37 k7 x1 x4 q17 x4 S
    else
      m_winnerIn_37 k7 x1 x2 x3 x4 S
def m_winnerIn_7  : Nat → Int32 → Int32 → Int32 → Int32 → MS → Option Int32
  | 0 => fun _ _ _ _ _ => none
  | n + 1 => fun x1 x2 x3 x4 S => m_winnerIn_7_b (m_winnerIn_7 n) x1 x2 x3 x4 S
theorem m_winnerIn_7_bok {G : xG} {m0 : Nat}  {k7 : Int32 → Int32 → Int32 → Int32 → MS → Option Int32}  (hk7 : ∀ (x1 : Int32) (x2 : Int32) (x3 : Int32) (x4 : Int32) (S : MS) (q : Int32), k7 x1 x2 x3 x4 S = some q → XM G m0 mX4_winnerIn 3 S (some (.int q)) S 7 [(0, .ref m0), (1, .int x1), (2, .int x2), (3, .int x3), (4, .int x4)] [] S) (x1 : Int32) (x2 : Int32) (x3 : Int32) (x4 : Int32) (S : MS) (q : Int32) (hf : m_winnerIn_7_b k7 x1 x2 x3 x4 S = some q) : XM G m0 mX4_winnerIn 3 S (some (.int q)) S 7 [(0, .ref m0), (1, .int x1), (2, .int x2), (3, .int x3), (4, .int x4)] [] S := by
  intro h N Z
  unfold m_winnerIn_7_b at hf
  refine X.iload dX4_winnerIn_7 4 rfl ?_
  refine X.iconst (v := 4) dX4_winnerIn_9 (by decide) ?_
  refine X.icmp_ge (tgt := 43) dX4_winnerIn_10 (by decide) (fun c10 => ?_) (fun c10 => ?_)
  · have hf := if_t c10 hf
    refine X.iload_n dX4_winnerIn_43 rfl 2 rfl ?_
    obtain rfl := Option.some.inj hf
    exact X.iret dX4_winnerIn_44 rfl rfl rfl
  · have hf := if_f c10 hf
    refine X.aload_n dX4_winnerIn_13 rfl 0 rfl ?_
    refine X.iload_n dX4_winnerIn_14 rfl 1 rfl ?_
    refine X.iload dX4_winnerIn_15 4 rfl ?_
    obtain ⟨q17, h17, hf⟩ := ob hf
    refine X.callVi (As := [.int x1, .int x4]) (rest := []) dX4_winnerIn_17 (w_votesOf h17 h N Z) cX4_370 rfl rfl (Nat.le_of_ble_eq_true rfl) mh_0 rfl rfl (xD (Nat.le_of_ble_eq_true rfl)) xleN xleN ?_
    refine X.istore (L' := [(5, .int q17), (0, .ref m0), (1, .int x1), (2, .int x2), (3, .int x3), (4, .int x4)]) dX4_winnerIn_20 (Nat.le_of_ble_eq_true rfl) rfl ?_
    refine X.iload dX4_winnerIn_22 0 rfl ?_
    refine X.iload_n dX4_winnerIn_24 rfl 4 rfl ?_
    refine X.icmp_gt (tgt := 31) dX4_winnerIn_25 (by decide) (fun c25 => ?_) (fun c25 => ?_)
    · have hf := if_t c25 hf
      refine X.iload dX4_winnerIn_31 5 rfl ?_
      refine X.istore_n (L' := [(2, .int x4), (5, .int q17), (0, .ref m0), (1, .int x1), (3, .int x3), (4, .int x4)]) dX4_winnerIn_33 rfl (Nat.le_of_ble_eq_true rfl) rfl ?_
      refine X.iload dX4_winnerIn_34 1 rfl ?_
      refine X.istore_n (L' := [(3, .int q17), (2, .int x4), (5, .int q17), (0, .ref m0), (1, .int x1), (4, .int x4)]) dX4_winnerIn_36 rfl (Nat.le_of_ble_eq_true rfl) rfl ?_
      refine X.sub [3, 4, 1, 0, 5] (L' := [(0, .ref m0), (1, .int x1), (2, .int x4), (3, .int q17), (4, .int x4)]) rfl ?_
      exact m_winnerIn_37_ok hk7 _ _ _ _ _ _ hf h N Z
    · have hf := if_f c25 hf
      refine X.goto (tgt := 37) dX4_winnerIn_28 (by decide) ?_
      refine X.sub [1, 2, 3, 4, 5] (L' := [(0, .ref m0), (1, .int x1), (2, .int x2), (3, .int x3), (4, .int x4)]) rfl ?_
      exact m_winnerIn_37_ok hk7 _ _ _ _ _ _ hf h N Z
theorem m_winnerIn_7_ok {G : xG} {m0 : Nat}   : ∀ (n : Nat) (x1 : Int32) (x2 : Int32) (x3 : Int32) (x4 : Int32) (S : MS) (q : Int32), m_winnerIn_7 n x1 x2 x3 x4 S = some q → XM G m0 mX4_winnerIn 3 S (some (.int q)) S 7 [(0, .ref m0), (1, .int x1), (2, .int x2), (3, .int x3), (4, .int x4)] [] S
  | 0, _, _, _, _, _, _, hf => by cases hf
  | n + 1, x1, x2, x3, x4, S, q, hf => m_winnerIn_7_bok (m_winnerIn_7_ok n) x1 x2 x3 x4 S q hf
def m_winnerIn (x1 : Int32) (S : MS) : Option Int32 :=
  m_winnerIn_7 FU x1 ((-1 : Int32)) ((0 : Int32)) ((0 : Int32)) S
theorem w_winnerIn {G : xG} {m0 : Nat} {x1 : Int32} {S : MS} {q : Int32} (hf : m_winnerIn x1 S = some q) : CtM G m0 mX4_winnerIn 3 S [.ref m0, .int x1] (some (.int q)) S := by
  intro h N Z
  refine Ct.of (by decide +kernel) rfl (Nat.le_of_ble_eq_true rfl) (show Xr G _ 0 [(0, .ref m0), (1, .int x1)] [] _ from ?_)
  unfold m_winnerIn at hf
  refine X.iconst (v := -1) dX4_winnerIn_0 (by decide) ?_
  refine X.istore_n (L' := [(2, .int (-1 : Int32)), (0, .ref m0), (1, .int x1)]) dX4_winnerIn_1 rfl (Nat.le_of_ble_eq_true rfl) rfl ?_
  refine X.iconst (v := 0) dX4_winnerIn_2 (by decide) ?_
  refine X.istore_n (L' := [(3, .int (0 : Int32)), (2, .int (-1 : Int32)), (0, .ref m0), (1, .int x1)]) dX4_winnerIn_3 rfl (Nat.le_of_ble_eq_true rfl) rfl ?_
  refine X.iconst (v := 0) dX4_winnerIn_4 (by decide) ?_
  refine X.istore (L' := [(4, .int (0 : Int32)), (3, .int (0 : Int32)), (2, .int (-1 : Int32)), (0, .ref m0), (1, .int x1)]) dX4_winnerIn_5 (Nat.le_of_ble_eq_true rfl) rfl ?_
  refine X.sub [3, 4, 2, 1, 0] (L' := [(0, .ref m0), (1, .int x1), (2, .int (-1 : Int32)), (3, .int (0 : Int32)), (4, .int (0 : Int32))]) rfl ?_
  exact m_winnerIn_7_ok FU _ _ _ _ _ _ hf h N Z
theorem cX4_382 : xCV RX4 382 mX4_winnerIn 1 := ⟨lw_V q1939 q1941 qs87 q127 q1942, rfl, ⟨by decide +kernel, by decide +kernel, by decide +kernel⟩, Nat.le_of_ble_eq_true rfl⟩
/-! votesAll -/
abbrev cX4_votesAll : ByteArray := prog_12_method_66_code
def yX4_votesAll : MethodName := ⟨RX4, "votesAll", "(I)I"⟩
def dkwX4_votesAll_1 : List UInt8 := [28, 172]
abbrev dktX4_votesAll_1 : List UInt8 := dkwX4_votesAll_1 ++ []
def dkwX4_votesAll_0 : List UInt8 := [3, 61, 3, 62, 29, 7, 162, 0, 18, 28, 42, 27, 29, 182, 1, 114, 96, 61, 132, 3, 1, 167, 255, 239]
abbrev dktX4_votesAll_0 : List UInt8 := dkwX4_votesAll_0 ++ dktX4_votesAll_1
theorem dksX4_votesAll_0 : cX4_votesAll.data.toList.drop 0 = dktX4_votesAll_0 := by decide +kernel
theorem dksX4_votesAll_1 : cX4_votesAll.data.toList.drop 24 = dktX4_votesAll_1 := dk_seg dksX4_votesAll_0 24 rfl rfl
theorem dX4_votesAll_0 : decode cX4_votesAll 0 = .ok (.iconst 0, 1) := dk_3 (dk_at dksX4_votesAll_0 0 rfl rfl)
theorem dX4_votesAll_1 : decode cX4_votesAll 1 = .ok (.istore_n 2, 1) := dk_61 (dk_at dksX4_votesAll_0 1 rfl rfl)
theorem dX4_votesAll_2 : decode cX4_votesAll 2 = .ok (.iconst 0, 1) := dk_3 (dk_at dksX4_votesAll_0 2 rfl rfl)
theorem dX4_votesAll_3 : decode cX4_votesAll 3 = .ok (.istore_n 3, 1) := dk_62 (dk_at dksX4_votesAll_0 3 rfl rfl)
theorem dX4_votesAll_4 : decode cX4_votesAll 4 = .ok (.iload_n 3, 1) := dk_29 (dk_at dksX4_votesAll_0 4 rfl rfl)
theorem dX4_votesAll_5 : decode cX4_votesAll 5 = .ok (.iconst 4, 1) := dk_7 (dk_at dksX4_votesAll_0 5 rfl rfl)
theorem dX4_votesAll_6 : decode cX4_votesAll 6 = .ok (.if_icmp .ge 18, 3) := dk_162 0 18 (dk_at dksX4_votesAll_0 6 rfl rfl)
theorem dX4_votesAll_9 : decode cX4_votesAll 9 = .ok (.iload_n 2, 1) := dk_28 (dk_at dksX4_votesAll_0 9 rfl rfl)
theorem dX4_votesAll_10 : decode cX4_votesAll 10 = .ok (.aload_n 0, 1) := dk_42 (dk_at dksX4_votesAll_0 10 rfl rfl)
theorem dX4_votesAll_11 : decode cX4_votesAll 11 = .ok (.iload_n 1, 1) := dk_27 (dk_at dksX4_votesAll_0 11 rfl rfl)
theorem dX4_votesAll_12 : decode cX4_votesAll 12 = .ok (.iload_n 3, 1) := dk_29 (dk_at dksX4_votesAll_0 12 rfl rfl)
theorem dX4_votesAll_13 : decode cX4_votesAll 13 = .ok (.invokevirtual 370, 3) := dk_182 1 114 (dk_at dksX4_votesAll_0 13 rfl rfl)
theorem dX4_votesAll_16 : decode cX4_votesAll 16 = .ok (.iadd, 1) := dk_96 (dk_at dksX4_votesAll_0 16 rfl rfl)
theorem dX4_votesAll_17 : decode cX4_votesAll 17 = .ok (.istore_n 2, 1) := dk_61 (dk_at dksX4_votesAll_0 17 rfl rfl)
theorem dX4_votesAll_18 : decode cX4_votesAll 18 = .ok (.iinc 3 1, 3) := dk_132 3 1 (dk_at dksX4_votesAll_0 18 rfl rfl)
theorem dX4_votesAll_21 : decode cX4_votesAll 21 = .ok (.goto (-17), 3) := dk_167 255 239 (dk_at dksX4_votesAll_0 21 rfl rfl)
theorem dX4_votesAll_24 : decode cX4_votesAll 24 = .ok (.iload_n 2, 1) := dk_28 (dk_at dksX4_votesAll_1 0 rfl rfl)
theorem dX4_votesAll_25 : decode cX4_votesAll 25 = .ok (.ireturn, 1) := dk_172 (dk_at dksX4_votesAll_1 1 rfl rfl)
abbrev mX4_votesAll : xM := (yX4_votesAll, cX4_votesAll, 4, (some .int), [])
def m_votesAll_4_b  (k4 : Int32 → Int32 → Int32 → MS → Option Int32) (x1 : Int32) (x2 : Int32) (x3 : Int32) (S : MS) : Option Int32 :=
  if (4 : Int32) ≤ x3 then
    some x2
  else
    (m_votesOf x1 x3 S).bind fun q13 =>
    k4 x1 ((x2 + q13)) ((x3 + 1)) S
def m_votesAll_4  : Nat → Int32 → Int32 → Int32 → MS → Option Int32
  | 0 => fun _ _ _ _ => none
  | n + 1 => fun x1 x2 x3 S => m_votesAll_4_b (m_votesAll_4 n) x1 x2 x3 S
theorem m_votesAll_4_bok {G : xG} {m0 : Nat}  {k4 : Int32 → Int32 → Int32 → MS → Option Int32}  (hk4 : ∀ (x1 : Int32) (x2 : Int32) (x3 : Int32) (S : MS) (q : Int32), k4 x1 x2 x3 S = some q → XM G m0 mX4_votesAll 3 S (some (.int q)) S 4 [(0, .ref m0), (1, .int x1), (2, .int x2), (3, .int x3)] [] S) (x1 : Int32) (x2 : Int32) (x3 : Int32) (S : MS) (q : Int32) (hf : m_votesAll_4_b k4 x1 x2 x3 S = some q) : XM G m0 mX4_votesAll 3 S (some (.int q)) S 4 [(0, .ref m0), (1, .int x1), (2, .int x2), (3, .int x3)] [] S := by
  intro h N Z
  unfold m_votesAll_4_b at hf
  refine X.iload_n dX4_votesAll_4 rfl 3 rfl ?_
  refine X.iconst (v := 4) dX4_votesAll_5 (by decide) ?_
  refine X.icmp_ge (tgt := 24) dX4_votesAll_6 (by decide) (fun c6 => ?_) (fun c6 => ?_)
  · have hf := if_t c6 hf
    refine X.iload_n dX4_votesAll_24 rfl 2 rfl ?_
    obtain rfl := Option.some.inj hf
    exact X.iret dX4_votesAll_25 rfl rfl rfl
  · have hf := if_f c6 hf
    refine X.iload_n dX4_votesAll_9 rfl 2 rfl ?_
    refine X.aload_n dX4_votesAll_10 rfl 0 rfl ?_
    refine X.iload_n dX4_votesAll_11 rfl 1 rfl ?_
    refine X.iload_n dX4_votesAll_12 rfl 3 rfl ?_
    obtain ⟨q13, h13, hf⟩ := ob hf
    refine X.callVi (As := [.int x1, .int x3]) (rest := [.int x2]) dX4_votesAll_13 (w_votesOf h13 h N Z) cX4_370 rfl rfl (Nat.le_of_ble_eq_true rfl) mh_0 rfl rfl (xD (Nat.le_of_ble_eq_true rfl)) xleN xleN ?_
    refine X.iadd dX4_votesAll_16 ?_
    refine X.istore_n (L' := [(2, .int (x2 + q13)), (0, .ref m0), (1, .int x1), (3, .int x3)]) dX4_votesAll_17 rfl (Nat.le_of_ble_eq_true rfl) rfl ?_
    refine X.iinc (v := (x3 + 1)) (L' := [(3, .int (x3 + 1)), (2, .int (x2 + q13)), (0, .ref m0), (1, .int x1)]) dX4_votesAll_18 3 rfl rfl (Nat.le_of_ble_eq_true rfl) rfl ?_
    refine X.goto (tgt := 4) dX4_votesAll_21 (by decide) ?_
    refine X.sub [2, 3, 1, 0] (L' := [(0, .ref m0), (1, .int x1), (2, .int (x2 + q13)), (3, .int (x3 + 1))]) rfl ?_
    exact hk4 _ _ _ _ _ hf h N Z
theorem m_votesAll_4_ok {G : xG} {m0 : Nat}   : ∀ (n : Nat) (x1 : Int32) (x2 : Int32) (x3 : Int32) (S : MS) (q : Int32), m_votesAll_4 n x1 x2 x3 S = some q → XM G m0 mX4_votesAll 3 S (some (.int q)) S 4 [(0, .ref m0), (1, .int x1), (2, .int x2), (3, .int x3)] [] S
  | 0, _, _, _, _, _, hf => by cases hf
  | n + 1, x1, x2, x3, S, q, hf => m_votesAll_4_bok (m_votesAll_4_ok n) x1 x2 x3 S q hf
def m_votesAll (x1 : Int32) (S : MS) : Option Int32 :=
  m_votesAll_4 FU x1 ((0 : Int32)) ((0 : Int32)) S
theorem w_votesAll {G : xG} {m0 : Nat} {x1 : Int32} {S : MS} {q : Int32} (hf : m_votesAll x1 S = some q) : CtM G m0 mX4_votesAll 3 S [.ref m0, .int x1] (some (.int q)) S := by
  intro h N Z
  refine Ct.of (by decide +kernel) rfl (Nat.le_of_ble_eq_true rfl) (show Xr G _ 0 [(0, .ref m0), (1, .int x1)] [] _ from ?_)
  unfold m_votesAll at hf
  refine X.iconst (v := 0) dX4_votesAll_0 (by decide) ?_
  refine X.istore_n (L' := [(2, .int (0 : Int32)), (0, .ref m0), (1, .int x1)]) dX4_votesAll_1 rfl (Nat.le_of_ble_eq_true rfl) rfl ?_
  refine X.iconst (v := 0) dX4_votesAll_2 (by decide) ?_
  refine X.istore_n (L' := [(3, .int (0 : Int32)), (2, .int (0 : Int32)), (0, .ref m0), (1, .int x1)]) dX4_votesAll_3 rfl (Nat.le_of_ble_eq_true rfl) rfl ?_
  refine X.sub [2, 3, 1, 0] (L' := [(0, .ref m0), (1, .int x1), (2, .int (0 : Int32)), (3, .int (0 : Int32))]) rfl ?_
  exact m_votesAll_4_ok FU _ _ _ _ _ hf h N Z
theorem cX4_379 : xCV RX4 379 mX4_votesAll 1 := ⟨lw_V q1927 q1929 qs84 q127 q1930, rfl, ⟨by decide +kernel, by decide +kernel, by decide +kernel⟩, Nat.le_of_ble_eq_true rfl⟩
/-! mouldsNow -/
abbrev cX4_mouldsNow : ByteArray := prog_12_method_67_code
def yX4_mouldsNow : MethodName := ⟨RX4, "mouldsNow", "()I"⟩
def dkwX4_mouldsNow_1 : List UInt8 := [159, 0, 7, 4, 167, 0, 4, 3, 96, 60, 132, 2, 1, 167, 255, 224, 27, 172]
abbrev dktX4_mouldsNow_1 : List UInt8 := dkwX4_mouldsNow_1 ++ []
def dkwX4_mouldsNow_0 : List UInt8 := [3, 60, 3, 61, 28, 42, 182, 1, 65, 162, 0, 30, 27, 42, 180, 0, 69, 16, 61, 28, 96, 46, 2]
abbrev dktX4_mouldsNow_0 : List UInt8 := dkwX4_mouldsNow_0 ++ dktX4_mouldsNow_1
theorem dksX4_mouldsNow_0 : cX4_mouldsNow.data.toList.drop 0 = dktX4_mouldsNow_0 := by decide +kernel
theorem dksX4_mouldsNow_1 : cX4_mouldsNow.data.toList.drop 23 = dktX4_mouldsNow_1 := dk_seg dksX4_mouldsNow_0 23 rfl rfl
theorem dX4_mouldsNow_0 : decode cX4_mouldsNow 0 = .ok (.iconst 0, 1) := dk_3 (dk_at dksX4_mouldsNow_0 0 rfl rfl)
theorem dX4_mouldsNow_1 : decode cX4_mouldsNow 1 = .ok (.istore_n 1, 1) := dk_60 (dk_at dksX4_mouldsNow_0 1 rfl rfl)
theorem dX4_mouldsNow_2 : decode cX4_mouldsNow 2 = .ok (.iconst 0, 1) := dk_3 (dk_at dksX4_mouldsNow_0 2 rfl rfl)
theorem dX4_mouldsNow_3 : decode cX4_mouldsNow 3 = .ok (.istore_n 2, 1) := dk_61 (dk_at dksX4_mouldsNow_0 3 rfl rfl)
theorem dX4_mouldsNow_4 : decode cX4_mouldsNow 4 = .ok (.iload_n 2, 1) := dk_28 (dk_at dksX4_mouldsNow_0 4 rfl rfl)
theorem dX4_mouldsNow_5 : decode cX4_mouldsNow 5 = .ok (.aload_n 0, 1) := dk_42 (dk_at dksX4_mouldsNow_0 5 rfl rfl)
theorem dX4_mouldsNow_6 : decode cX4_mouldsNow 6 = .ok (.invokevirtual 321, 3) := dk_182 1 65 (dk_at dksX4_mouldsNow_0 6 rfl rfl)
theorem dX4_mouldsNow_9 : decode cX4_mouldsNow 9 = .ok (.if_icmp .ge 30, 3) := dk_162 0 30 (dk_at dksX4_mouldsNow_0 9 rfl rfl)
theorem dX4_mouldsNow_12 : decode cX4_mouldsNow 12 = .ok (.iload_n 1, 1) := dk_27 (dk_at dksX4_mouldsNow_0 12 rfl rfl)
theorem dX4_mouldsNow_13 : decode cX4_mouldsNow 13 = .ok (.aload_n 0, 1) := dk_42 (dk_at dksX4_mouldsNow_0 13 rfl rfl)
theorem dX4_mouldsNow_14 : decode cX4_mouldsNow 14 = .ok (.getfield 69, 3) := dk_180 0 69 (dk_at dksX4_mouldsNow_0 14 rfl rfl)
theorem dX4_mouldsNow_17 : decode cX4_mouldsNow 17 = .ok (.bipush 61, 2) := dk_16 61 (dk_at dksX4_mouldsNow_0 17 rfl rfl)
theorem dX4_mouldsNow_19 : decode cX4_mouldsNow 19 = .ok (.iload_n 2, 1) := dk_28 (dk_at dksX4_mouldsNow_0 19 rfl rfl)
theorem dX4_mouldsNow_20 : decode cX4_mouldsNow 20 = .ok (.iadd, 1) := dk_96 (dk_at dksX4_mouldsNow_0 20 rfl rfl)
theorem dX4_mouldsNow_21 : decode cX4_mouldsNow 21 = .ok (.iaload, 1) := dk_46 (dk_at dksX4_mouldsNow_0 21 rfl rfl)
theorem dX4_mouldsNow_22 : decode cX4_mouldsNow 22 = .ok (.iconst (-1), 1) := dk_2 (dk_at dksX4_mouldsNow_0 22 rfl rfl)
theorem dX4_mouldsNow_23 : decode cX4_mouldsNow 23 = .ok (.if_icmp .eq 7, 3) := dk_159 0 7 (dk_at dksX4_mouldsNow_1 0 rfl rfl)
theorem dX4_mouldsNow_26 : decode cX4_mouldsNow 26 = .ok (.iconst 1, 1) := dk_4 (dk_at dksX4_mouldsNow_1 3 rfl rfl)
theorem dX4_mouldsNow_27 : decode cX4_mouldsNow 27 = .ok (.goto 4, 3) := dk_167 0 4 (dk_at dksX4_mouldsNow_1 4 rfl rfl)
theorem dX4_mouldsNow_30 : decode cX4_mouldsNow 30 = .ok (.iconst 0, 1) := dk_3 (dk_at dksX4_mouldsNow_1 7 rfl rfl)
theorem dX4_mouldsNow_31 : decode cX4_mouldsNow 31 = .ok (.iadd, 1) := dk_96 (dk_at dksX4_mouldsNow_1 8 rfl rfl)
theorem dX4_mouldsNow_32 : decode cX4_mouldsNow 32 = .ok (.istore_n 1, 1) := dk_60 (dk_at dksX4_mouldsNow_1 9 rfl rfl)
theorem dX4_mouldsNow_33 : decode cX4_mouldsNow 33 = .ok (.iinc 2 1, 3) := dk_132 2 1 (dk_at dksX4_mouldsNow_1 10 rfl rfl)
theorem dX4_mouldsNow_36 : decode cX4_mouldsNow 36 = .ok (.goto (-32), 3) := dk_167 255 224 (dk_at dksX4_mouldsNow_1 13 rfl rfl)
theorem dX4_mouldsNow_39 : decode cX4_mouldsNow 39 = .ok (.iload_n 1, 1) := dk_27 (dk_at dksX4_mouldsNow_1 16 rfl rfl)
theorem dX4_mouldsNow_40 : decode cX4_mouldsNow 40 = .ok (.ireturn, 1) := dk_172 (dk_at dksX4_mouldsNow_1 17 rfl rfl)
abbrev mX4_mouldsNow : xM := (yX4_mouldsNow, cX4_mouldsNow, 3, (some .int), [])
def m_mouldsNow_31 (k4 : Int32 → Int32 → MS → Option Int32) (x2 : Int32) (y0 : Int32) (y1 : Int32) (S : MS) : Option Int32 :=
  k4 ((y1 + y0)) ((x2 + 1)) S
theorem m_mouldsNow_31_ok {G : xG} {m0 : Nat} {k4 : Int32 → Int32 → MS → Option Int32} (hk4 : ∀ (x1 : Int32) (x2 : Int32) (S : MS) (q : Int32), k4 x1 x2 S = some q → XM G m0 mX4_mouldsNow 2 S (some (.int q)) S 4 [(0, .ref m0), (1, .int x1), (2, .int x2)] [] S) (x2 : Int32) (y0 : Int32) (y1 : Int32) (S : MS) (q : Int32) (hf : m_mouldsNow_31 k4 x2 y0 y1 S = some q) : XM G m0 mX4_mouldsNow 2 S (some (.int q)) S 31 [(0, .ref m0), (2, .int x2)] [.int y0, .int y1] S := by
  intro h N Z
  unfold m_mouldsNow_31 at hf
  refine X.iadd dX4_mouldsNow_31 ?_
  refine X.istore_n (L' := [(1, .int (y1 + y0)), (0, .ref m0), (2, .int x2)]) dX4_mouldsNow_32 rfl (Nat.le_of_ble_eq_true rfl) rfl ?_
  refine X.iinc (v := (x2 + 1)) (L' := [(2, .int (x2 + 1)), (1, .int (y1 + y0)), (0, .ref m0)]) dX4_mouldsNow_33 2 rfl rfl (Nat.le_of_ble_eq_true rfl) rfl ?_
  refine X.goto (tgt := 4) dX4_mouldsNow_36 (by decide) ?_
  refine X.sub [2, 1, 0] (L' := [(0, .ref m0), (1, .int (y1 + y0)), (2, .int (x2 + 1))]) rfl ?_
  exact hk4 _ _ _ _ hf h N Z
def m_mouldsNow_4_b  (k4 : Int32 → Int32 → MS → Option Int32) (x1 : Int32) (x2 : Int32) (S : MS) : Option Int32 :=
  (m_cells S).bind fun q6 =>
  if q6 ≤ x2 then
    some x1
  else
    (rdA S 13 ((61 : Int32) + x2)).bind fun v21 =>
    if v21 = (-1 : Int32) then
      m_mouldsNow_31 k4 x2 ((0 : Int32)) x1 S
    else
      m_mouldsNow_31 k4 x2 ((1 : Int32)) x1 S
def m_mouldsNow_4  : Nat → Int32 → Int32 → MS → Option Int32
  | 0 => fun _ _ _ => none
  | n + 1 => fun x1 x2 S => m_mouldsNow_4_b (m_mouldsNow_4 n) x1 x2 S
theorem m_mouldsNow_4_bok {G : xG} {m0 : Nat}  {k4 : Int32 → Int32 → MS → Option Int32}  (hk4 : ∀ (x1 : Int32) (x2 : Int32) (S : MS) (q : Int32), k4 x1 x2 S = some q → XM G m0 mX4_mouldsNow 2 S (some (.int q)) S 4 [(0, .ref m0), (1, .int x1), (2, .int x2)] [] S) (x1 : Int32) (x2 : Int32) (S : MS) (q : Int32) (hf : m_mouldsNow_4_b k4 x1 x2 S = some q) : XM G m0 mX4_mouldsNow 2 S (some (.int q)) S 4 [(0, .ref m0), (1, .int x1), (2, .int x2)] [] S := by
  intro h N Z
  unfold m_mouldsNow_4_b at hf
  refine X.iload_n dX4_mouldsNow_4 rfl 2 rfl ?_
  refine X.aload_n dX4_mouldsNow_5 rfl 0 rfl ?_
  obtain ⟨q6, h6, hf⟩ := ob hf
  refine X.callVi (As := []) (rest := [.int x2]) dX4_mouldsNow_6 (w_cells h6 h N Z) cX4_321 rfl rfl (Nat.le_of_ble_eq_true rfl) mh_0 rfl rfl (xD (Nat.le_of_ble_eq_true rfl)) xleN xleN ?_
  refine X.icmp_ge (tgt := 39) dX4_mouldsNow_9 (by decide) (fun c9 => ?_) (fun c9 => ?_)
  · have hf := if_t c9 hf
    refine X.iload_n dX4_mouldsNow_39 rfl 1 rfl ?_
    obtain rfl := Option.some.inj hf
    exact X.iret dX4_mouldsNow_40 rfl rfl rfl
  · have hf := if_f c9 hf
    refine X.iload_n dX4_mouldsNow_12 rfl 1 rfl ?_
    refine X.aload_n dX4_mouldsNow_13 rfl 0 rfl ?_
    refine M.get (v := .ref (m0 + 13)) dX4_mouldsNow_14 fX4_69 (Nat.le_of_ble_eq_true rfl) rfl ?_
    refine X.bipush (v := 61) dX4_mouldsNow_17 (by decide) ?_
    refine X.iload_n dX4_mouldsNow_19 rfl 2 rfl ?_
    refine X.iadd dX4_mouldsNow_20 ?_
    obtain ⟨v21, h21, hf⟩ := ob hf
    refine M.iald dX4_mouldsNow_21 rfl h21 ?_
    refine X.iconst (v := -1) dX4_mouldsNow_22 (by decide) ?_
    refine X.icmp_eq (tgt := 30) dX4_mouldsNow_23 (by decide) (fun c23 => ?_) (fun c23 => ?_)
    · have hf := if_t c23 hf
      refine X.iconst (v := 0) dX4_mouldsNow_30 (by decide) ?_
      refine X.sub [0, 2] (L' := [(0, .ref m0), (2, .int x2)]) rfl ?_
      exact m_mouldsNow_31_ok hk4 _ _ _ _ _ hf h N Z
    · have hf := if_f c23 hf
      refine X.iconst (v := 1) dX4_mouldsNow_26 (by decide) ?_
      refine X.goto (tgt := 31) dX4_mouldsNow_27 (by decide) ?_
      refine X.sub [0, 2] (L' := [(0, .ref m0), (2, .int x2)]) rfl ?_
      exact m_mouldsNow_31_ok hk4 _ _ _ _ _ hf h N Z
theorem m_mouldsNow_4_ok {G : xG} {m0 : Nat}   : ∀ (n : Nat) (x1 : Int32) (x2 : Int32) (S : MS) (q : Int32), m_mouldsNow_4 n x1 x2 S = some q → XM G m0 mX4_mouldsNow 2 S (some (.int q)) S 4 [(0, .ref m0), (1, .int x1), (2, .int x2)] [] S
  | 0, _, _, _, _, hf => by cases hf
  | n + 1, x1, x2, S, q, hf => m_mouldsNow_4_bok (m_mouldsNow_4_ok n) x1 x2 S q hf
def m_mouldsNow  (S : MS) : Option Int32 :=
  m_mouldsNow_4 FU ((0 : Int32)) ((0 : Int32)) S
theorem w_mouldsNow {G : xG} {m0 : Nat}  {S : MS} {q : Int32} (hf : m_mouldsNow S = some q) : CtM G m0 mX4_mouldsNow 2 S [.ref m0] (some (.int q)) S := by
  intro h N Z
  refine Ct.of (by decide +kernel) rfl (Nat.le_of_ble_eq_true rfl) (show Xr G _ 0 [(0, .ref m0)] [] _ from ?_)
  unfold m_mouldsNow at hf
  refine X.iconst (v := 0) dX4_mouldsNow_0 (by decide) ?_
  refine X.istore_n (L' := [(1, .int (0 : Int32)), (0, .ref m0)]) dX4_mouldsNow_1 rfl (Nat.le_of_ble_eq_true rfl) rfl ?_
  refine X.iconst (v := 0) dX4_mouldsNow_2 (by decide) ?_
  refine X.istore_n (L' := [(2, .int (0 : Int32)), (1, .int (0 : Int32)), (0, .ref m0)]) dX4_mouldsNow_3 rfl (Nat.le_of_ble_eq_true rfl) rfl ?_
  refine X.sub [2, 1, 0] (L' := [(0, .ref m0), (1, .int (0 : Int32)), (2, .int (0 : Int32))]) rfl ?_
  exact m_mouldsNow_4_ok FU _ _ _ _ hf h N Z
theorem cX4_376 : xCV RX4 376 mX4_mouldsNow 0 := ⟨lw_V q1923 q1925 qs83 q127 q1926, rfl, ⟨by decide +kernel, by decide +kernel, by decide +kernel⟩, Nat.le_of_ble_eq_true rfl⟩
/-! count -/
abbrev cX4_count : ByteArray := prog_12_method_68_code
def yX4_count : MethodName := ⟨RX4, "count", "(I)I"⟩
def dkwX4_count_5 : List UInt8 := [180, 0, 118, 172, 42, 180, 0, 44, 27, 16, 13, 100, 46, 172]
abbrev dktX4_count_5 : List UInt8 := dkwX4_count_5 ++ []
def dkwX4_count_4 : List UInt8 := [42, 3, 182, 1, 123, 172, 42, 3, 182, 1, 126, 172, 42, 180, 1, 51, 172, 42, 180, 1, 54, 172, 42]
abbrev dktX4_count_4 : List UInt8 := dkwX4_count_4 ++ dktX4_count_5
def dkwX4_count_3 : List UInt8 := [180, 0, 69, 3, 46, 182, 1, 71, 172, 42, 180, 0, 16, 172, 42, 180, 0, 19, 172, 42, 182, 1, 120, 172]
abbrev dktX4_count_3 : List UInt8 := dkwX4_count_3 ++ dktX4_count_4
def dkwX4_count_2 : List UInt8 := [42, 182, 1, 65, 172, 42, 180, 0, 7, 172, 42, 180, 1, 41, 172, 42, 180, 0, 69, 3, 46, 172, 42, 42]
abbrev dktX4_count_2 : List UInt8 := dkwX4_count_2 ++ dktX4_count_3
def dkwX4_count_1 : List UInt8 := [170, 0, 0, 0, 140, 0, 0, 0, 0, 0, 0, 0, 12, 0, 0, 0, 65, 0, 0, 0, 70, 0, 0, 0, 75, 0, 0, 0, 80, 0, 0, 0, 87, 0, 0, 0, 98, 0, 0, 0, 103, 0, 0, 0, 108, 0, 0, 0, 113, 0, 0, 0, 119, 0, 0, 0, 125, 0, 0, 0, 130, 0, 0, 0, 135]
abbrev dktX4_count_1 : List UInt8 := dkwX4_count_1 ++ dktX4_count_2
def dkwX4_count_0 : List UInt8 := [42, 3, 181, 0, 115, 42, 27, 3, 16, 15, 184, 1, 117, 4, 182, 1, 34, 154, 0, 5, 3, 172, 27]
abbrev dktX4_count_0 : List UInt8 := dkwX4_count_0 ++ dktX4_count_1
theorem dksX4_count_0 : cX4_count.data.toList.drop 0 = dktX4_count_0 := by decide +kernel
theorem dksX4_count_1 : cX4_count.data.toList.drop 23 = dktX4_count_1 := dk_seg dksX4_count_0 23 rfl rfl
theorem dksX4_count_2 : cX4_count.data.toList.drop 88 = dktX4_count_2 := dk_seg dksX4_count_1 65 rfl rfl
theorem dksX4_count_3 : cX4_count.data.toList.drop 112 = dktX4_count_3 := dk_seg dksX4_count_2 24 rfl rfl
theorem dksX4_count_4 : cX4_count.data.toList.drop 136 = dktX4_count_4 := dk_seg dksX4_count_3 24 rfl rfl
theorem dksX4_count_5 : cX4_count.data.toList.drop 159 = dktX4_count_5 := dk_seg dksX4_count_4 23 rfl rfl
theorem dX4_count_0 : decode cX4_count 0 = .ok (.aload_n 0, 1) := dk_42 (dk_at dksX4_count_0 0 rfl rfl)
theorem dX4_count_1 : decode cX4_count 1 = .ok (.iconst 0, 1) := dk_3 (dk_at dksX4_count_0 1 rfl rfl)
theorem dX4_count_2 : decode cX4_count 2 = .ok (.putfield 115, 3) := dk_181 0 115 (dk_at dksX4_count_0 2 rfl rfl)
theorem dX4_count_5 : decode cX4_count 5 = .ok (.aload_n 0, 1) := dk_42 (dk_at dksX4_count_0 5 rfl rfl)
theorem dX4_count_6 : decode cX4_count 6 = .ok (.iload_n 1, 1) := dk_27 (dk_at dksX4_count_0 6 rfl rfl)
theorem dX4_count_7 : decode cX4_count 7 = .ok (.iconst 0, 1) := dk_3 (dk_at dksX4_count_0 7 rfl rfl)
theorem dX4_count_8 : decode cX4_count 8 = .ok (.bipush 15, 2) := dk_16 15 (dk_at dksX4_count_0 8 rfl rfl)
theorem dX4_count_10 : decode cX4_count 10 = .ok (.invokestatic 373, 3) := dk_184 1 117 (dk_at dksX4_count_0 10 rfl rfl)
theorem dX4_count_13 : decode cX4_count 13 = .ok (.iconst 1, 1) := dk_4 (dk_at dksX4_count_0 13 rfl rfl)
theorem dX4_count_14 : decode cX4_count 14 = .ok (.invokevirtual 290, 3) := dk_182 1 34 (dk_at dksX4_count_0 14 rfl rfl)
theorem dX4_count_17 : decode cX4_count 17 = .ok (.ifCond .ne 5, 3) := dk_154 0 5 (dk_at dksX4_count_0 17 rfl rfl)
theorem dX4_count_20 : decode cX4_count 20 = .ok (.iconst 0, 1) := dk_3 (dk_at dksX4_count_0 20 rfl rfl)
theorem dX4_count_21 : decode cX4_count 21 = .ok (.ireturn, 1) := dk_172 (dk_at dksX4_count_0 21 rfl rfl)
theorem dX4_count_22 : decode cX4_count 22 = .ok (.iload_n 1, 1) := dk_27 (dk_at dksX4_count_0 22 rfl rfl)
theorem dX4_count_23 : decode cX4_count 23 = .ok (.tableswitch 140 0 12 #[65, 70, 75, 80, 87, 98, 103, 108, 113, 119, 125, 130, 135], 65) := by decide +kernel
theorem dX4_count_88 : decode cX4_count 88 = .ok (.aload_n 0, 1) := dk_42 (dk_at dksX4_count_2 0 rfl rfl)
theorem dX4_count_89 : decode cX4_count 89 = .ok (.invokevirtual 321, 3) := dk_182 1 65 (dk_at dksX4_count_2 1 rfl rfl)
theorem dX4_count_92 : decode cX4_count 92 = .ok (.ireturn, 1) := dk_172 (dk_at dksX4_count_2 4 rfl rfl)
theorem dX4_count_93 : decode cX4_count 93 = .ok (.aload_n 0, 1) := dk_42 (dk_at dksX4_count_2 5 rfl rfl)
theorem dX4_count_94 : decode cX4_count 94 = .ok (.getfield 7, 3) := dk_180 0 7 (dk_at dksX4_count_2 6 rfl rfl)
theorem dX4_count_97 : decode cX4_count 97 = .ok (.ireturn, 1) := dk_172 (dk_at dksX4_count_2 9 rfl rfl)
theorem dX4_count_98 : decode cX4_count 98 = .ok (.aload_n 0, 1) := dk_42 (dk_at dksX4_count_2 10 rfl rfl)
theorem dX4_count_99 : decode cX4_count 99 = .ok (.getfield 297, 3) := dk_180 1 41 (dk_at dksX4_count_2 11 rfl rfl)
theorem dX4_count_102 : decode cX4_count 102 = .ok (.ireturn, 1) := dk_172 (dk_at dksX4_count_2 14 rfl rfl)
theorem dX4_count_103 : decode cX4_count 103 = .ok (.aload_n 0, 1) := dk_42 (dk_at dksX4_count_2 15 rfl rfl)
theorem dX4_count_104 : decode cX4_count 104 = .ok (.getfield 69, 3) := dk_180 0 69 (dk_at dksX4_count_2 16 rfl rfl)
theorem dX4_count_107 : decode cX4_count 107 = .ok (.iconst 0, 1) := dk_3 (dk_at dksX4_count_2 19 rfl rfl)
theorem dX4_count_108 : decode cX4_count 108 = .ok (.iaload, 1) := dk_46 (dk_at dksX4_count_2 20 rfl rfl)
theorem dX4_count_109 : decode cX4_count 109 = .ok (.ireturn, 1) := dk_172 (dk_at dksX4_count_2 21 rfl rfl)
theorem dX4_count_110 : decode cX4_count 110 = .ok (.aload_n 0, 1) := dk_42 (dk_at dksX4_count_2 22 rfl rfl)
theorem dX4_count_111 : decode cX4_count 111 = .ok (.aload_n 0, 1) := dk_42 (dk_at dksX4_count_2 23 rfl rfl)
theorem dX4_count_112 : decode cX4_count 112 = .ok (.getfield 69, 3) := dk_180 0 69 (dk_at dksX4_count_3 0 rfl rfl)
theorem dX4_count_115 : decode cX4_count 115 = .ok (.iconst 0, 1) := dk_3 (dk_at dksX4_count_3 3 rfl rfl)
theorem dX4_count_116 : decode cX4_count 116 = .ok (.iaload, 1) := dk_46 (dk_at dksX4_count_3 4 rfl rfl)
theorem dX4_count_117 : decode cX4_count 117 = .ok (.invokevirtual 327, 3) := dk_182 1 71 (dk_at dksX4_count_3 5 rfl rfl)
theorem dX4_count_120 : decode cX4_count 120 = .ok (.ireturn, 1) := dk_172 (dk_at dksX4_count_3 8 rfl rfl)
theorem dX4_count_121 : decode cX4_count 121 = .ok (.aload_n 0, 1) := dk_42 (dk_at dksX4_count_3 9 rfl rfl)
theorem dX4_count_122 : decode cX4_count 122 = .ok (.getfield 16, 3) := dk_180 0 16 (dk_at dksX4_count_3 10 rfl rfl)
theorem dX4_count_125 : decode cX4_count 125 = .ok (.ireturn, 1) := dk_172 (dk_at dksX4_count_3 13 rfl rfl)
theorem dX4_count_126 : decode cX4_count 126 = .ok (.aload_n 0, 1) := dk_42 (dk_at dksX4_count_3 14 rfl rfl)
theorem dX4_count_127 : decode cX4_count 127 = .ok (.getfield 19, 3) := dk_180 0 19 (dk_at dksX4_count_3 15 rfl rfl)
theorem dX4_count_130 : decode cX4_count 130 = .ok (.ireturn, 1) := dk_172 (dk_at dksX4_count_3 18 rfl rfl)
theorem dX4_count_131 : decode cX4_count 131 = .ok (.aload_n 0, 1) := dk_42 (dk_at dksX4_count_3 19 rfl rfl)
theorem dX4_count_132 : decode cX4_count 132 = .ok (.invokevirtual 376, 3) := dk_182 1 120 (dk_at dksX4_count_3 20 rfl rfl)
theorem dX4_count_135 : decode cX4_count 135 = .ok (.ireturn, 1) := dk_172 (dk_at dksX4_count_3 23 rfl rfl)
theorem dX4_count_136 : decode cX4_count 136 = .ok (.aload_n 0, 1) := dk_42 (dk_at dksX4_count_4 0 rfl rfl)
theorem dX4_count_137 : decode cX4_count 137 = .ok (.iconst 0, 1) := dk_3 (dk_at dksX4_count_4 1 rfl rfl)
theorem dX4_count_138 : decode cX4_count 138 = .ok (.invokevirtual 379, 3) := dk_182 1 123 (dk_at dksX4_count_4 2 rfl rfl)
theorem dX4_count_141 : decode cX4_count 141 = .ok (.ireturn, 1) := dk_172 (dk_at dksX4_count_4 5 rfl rfl)
theorem dX4_count_142 : decode cX4_count 142 = .ok (.aload_n 0, 1) := dk_42 (dk_at dksX4_count_4 6 rfl rfl)
theorem dX4_count_143 : decode cX4_count 143 = .ok (.iconst 0, 1) := dk_3 (dk_at dksX4_count_4 7 rfl rfl)
theorem dX4_count_144 : decode cX4_count 144 = .ok (.invokevirtual 382, 3) := dk_182 1 126 (dk_at dksX4_count_4 8 rfl rfl)
theorem dX4_count_147 : decode cX4_count 147 = .ok (.ireturn, 1) := dk_172 (dk_at dksX4_count_4 11 rfl rfl)
theorem dX4_count_148 : decode cX4_count 148 = .ok (.aload_n 0, 1) := dk_42 (dk_at dksX4_count_4 12 rfl rfl)
theorem dX4_count_149 : decode cX4_count 149 = .ok (.getfield 307, 3) := dk_180 1 51 (dk_at dksX4_count_4 13 rfl rfl)
theorem dX4_count_152 : decode cX4_count 152 = .ok (.ireturn, 1) := dk_172 (dk_at dksX4_count_4 16 rfl rfl)
theorem dX4_count_153 : decode cX4_count 153 = .ok (.aload_n 0, 1) := dk_42 (dk_at dksX4_count_4 17 rfl rfl)
theorem dX4_count_154 : decode cX4_count 154 = .ok (.getfield 310, 3) := dk_180 1 54 (dk_at dksX4_count_4 18 rfl rfl)
theorem dX4_count_157 : decode cX4_count 157 = .ok (.ireturn, 1) := dk_172 (dk_at dksX4_count_4 21 rfl rfl)
theorem dX4_count_158 : decode cX4_count 158 = .ok (.aload_n 0, 1) := dk_42 (dk_at dksX4_count_4 22 rfl rfl)
theorem dX4_count_159 : decode cX4_count 159 = .ok (.getfield 118, 3) := dk_180 0 118 (dk_at dksX4_count_5 0 rfl rfl)
theorem dX4_count_162 : decode cX4_count 162 = .ok (.ireturn, 1) := dk_172 (dk_at dksX4_count_5 3 rfl rfl)
theorem dX4_count_163 : decode cX4_count 163 = .ok (.aload_n 0, 1) := dk_42 (dk_at dksX4_count_5 4 rfl rfl)
theorem dX4_count_164 : decode cX4_count 164 = .ok (.getfield 44, 3) := dk_180 0 44 (dk_at dksX4_count_5 5 rfl rfl)
theorem dX4_count_167 : decode cX4_count 167 = .ok (.iload_n 1, 1) := dk_27 (dk_at dksX4_count_5 8 rfl rfl)
theorem dX4_count_168 : decode cX4_count 168 = .ok (.bipush 13, 2) := dk_16 13 (dk_at dksX4_count_5 9 rfl rfl)
theorem dX4_count_170 : decode cX4_count 170 = .ok (.isub, 1) := dk_100 (dk_at dksX4_count_5 11 rfl rfl)
theorem dX4_count_171 : decode cX4_count 171 = .ok (.iaload, 1) := dk_46 (dk_at dksX4_count_5 12 rfl rfl)
theorem dX4_count_172 : decode cX4_count 172 = .ok (.ireturn, 1) := dk_172 (dk_at dksX4_count_5 13 rfl rfl)
abbrev mX4_count : xM := (yX4_count, cX4_count, 2, (some .int), [])
def m_count (x1 : Int32) (S : MS) : Option (Int32 × MS) :=
  (m_within x1 ((0 : Int32)) ((15 : Int32))).bind fun q10 =>
  (m_right q10 ((1 : Int32)) ((sF S 0 (0 : Int32)))).bind fun q14 =>
  if q14.1 = 0 then
    some ((0 : Int32), q14.2)
  else
    if x1 = (0 : Int32) then
      (m_cells q14.2).bind fun q89 =>
      some (q89, q14.2)
    else
    if x1 = (1 : Int32) then
      some ((q14.2.1 1), q14.2)
    else
    if x1 = (2 : Int32) then
      some ((q14.2.1 3), q14.2)
    else
    if x1 = (3 : Int32) then
      (rdA q14.2 13 (0 : Int32)).bind fun v108 =>
      some (v108, q14.2)
    else
    if x1 = (4 : Int32) then
      (rdA q14.2 13 (0 : Int32)).bind fun v116 =>
      (m_weatherOf v116 q14.2).bind fun q117 =>
      some (q117, q14.2)
    else
    if x1 = (5 : Int32) then
      some ((q14.2.1 5), q14.2)
    else
    if x1 = (6 : Int32) then
      some ((q14.2.1 6), q14.2)
    else
    if x1 = (7 : Int32) then
      (m_mouldsNow q14.2).bind fun q132 =>
      some (q132, q14.2)
    else
    if x1 = (8 : Int32) then
      (m_votesAll ((0 : Int32)) q14.2).bind fun q138 =>
      some (q138, q14.2)
    else
    if x1 = (9 : Int32) then
      (m_winnerIn ((0 : Int32)) q14.2).bind fun q144 =>
      some (q144, q14.2)
    else
    if x1 = (10 : Int32) then
      some ((q14.2.1 46), q14.2)
    else
    if x1 = (11 : Int32) then
      some ((q14.2.1 53), q14.2)
    else
    if x1 = (12 : Int32) then
      some ((q14.2.1 13), q14.2)
    else
      (rdA q14.2 5 (x1 - (13 : Int32))).bind fun v171 =>
      some (v171, q14.2)
theorem w_count {G : xG} {m0 : Nat} {x1 : Int32} {S : MS} {q : (Int32 × MS)} (hf : m_count x1 S = some q) : CtM G m0 mX4_count 4 S [.ref m0, .int x1] (some (.int q.1)) q.2 := by
  intro h N Z
  refine Ct.of (by decide +kernel) rfl (Nat.le_of_ble_eq_true rfl) (show Xr G _ 0 [(0, .ref m0), (1, .int x1)] [] _ from ?_)
  unfold m_count at hf
  refine X.aload_n dX4_count_0 rfl 0 rfl ?_
  refine X.iconst (v := 0) dX4_count_1 (by decide) ?_
  refine M.putI dX4_count_2 fX4_115 (by decide) rfl rfl rfl ?_
  refine X.aload_n dX4_count_5 rfl 0 rfl ?_
  refine X.iload_n dX4_count_6 rfl 1 rfl ?_
  refine X.iconst (v := 0) dX4_count_7 (by decide) ?_
  refine X.bipush (v := 15) dX4_count_8 (by decide) ?_
  obtain ⟨q10, h10, hf⟩ := ob hf
  refine X.callSi (As := [.int x1, .int (0 : Int32), .int (15 : Int32)]) (rest := [.ref m0]) dX4_count_10 (w_within h10 _) cX4_373 rfl rfl (Nat.le_of_ble_eq_true rfl) (xD (Nat.le_of_ble_eq_true rfl)) xle.rf xleN ?_
  refine X.iconst (v := 1) dX4_count_13 (by decide) ?_
  obtain ⟨q14, h14, hf⟩ := ob hf
  refine X.callVi (As := [.int q10, .int (1 : Int32)]) (rest := []) (T2 := (mh m0 h q14.2, N, Z)) dX4_count_14 (w_right h14 h N Z) cX4_290 rfl rfl (Nat.le_of_ble_eq_true rfl) mh_0 rfl rfl (xD (Nat.le_of_ble_eq_true rfl)) xleN xleN ?_
  refine X.if_ne (tgt := 22) dX4_count_17 (by decide) (fun c17 => ?_) (fun c17 => ?_)
  · have hf := if_f c17 hf
    refine X.iload_n dX4_count_22 rfl 1 rfl ?_
    by_cases c23_0 : x1 = (0 : Int32)
    · have hf := if_t c23_0 hf
      refine X.tableC (tgt := 88) c23_0 dX4_count_23 (by decide) (by decide) rfl (by decide) ?_
      refine X.aload_n dX4_count_88 rfl 0 rfl ?_
      obtain ⟨q89, h89, hf⟩ := ob hf
      refine X.callVi (As := []) (rest := []) dX4_count_89 (w_cells h89 h N Z) cX4_321 rfl rfl (Nat.le_of_ble_eq_true rfl) mh_0 rfl rfl (xD (Nat.le_of_ble_eq_true rfl)) xleN xleN ?_
      obtain rfl := Option.some.inj hf
      exact X.iret dX4_count_92 rfl rfl rfl
    have hf := if_f c23_0 hf
    by_cases c23_1 : x1 = (1 : Int32)
    · have hf := if_t c23_1 hf
      refine X.tableC (tgt := 93) c23_1 dX4_count_23 (by decide) (by decide) rfl (by decide) ?_
      refine X.aload_n dX4_count_93 rfl 0 rfl ?_
      refine M.get (v := .int (q14.2.1 1)) dX4_count_94 fX4_7 (Nat.le_of_ble_eq_true rfl) rfl ?_
      obtain rfl := Option.some.inj hf
      exact X.iret dX4_count_97 rfl rfl rfl
    have hf := if_f c23_1 hf
    by_cases c23_2 : x1 = (2 : Int32)
    · have hf := if_t c23_2 hf
      refine X.tableC (tgt := 98) c23_2 dX4_count_23 (by decide) (by decide) rfl (by decide) ?_
      refine X.aload_n dX4_count_98 rfl 0 rfl ?_
      refine M.get (v := .int (q14.2.1 3)) dX4_count_99 fX4_297 (Nat.le_of_ble_eq_true rfl) rfl ?_
      obtain rfl := Option.some.inj hf
      exact X.iret dX4_count_102 rfl rfl rfl
    have hf := if_f c23_2 hf
    by_cases c23_3 : x1 = (3 : Int32)
    · have hf := if_t c23_3 hf
      refine X.tableC (tgt := 103) c23_3 dX4_count_23 (by decide) (by decide) rfl (by decide) ?_
      refine X.aload_n dX4_count_103 rfl 0 rfl ?_
      refine M.get (v := .ref (m0 + 13)) dX4_count_104 fX4_69 (Nat.le_of_ble_eq_true rfl) rfl ?_
      refine X.iconst (v := 0) dX4_count_107 (by decide) ?_
      obtain ⟨v108, h108, hf⟩ := ob hf
      refine M.iald dX4_count_108 rfl h108 ?_
      obtain rfl := Option.some.inj hf
      exact X.iret dX4_count_109 rfl rfl rfl
    have hf := if_f c23_3 hf
    by_cases c23_4 : x1 = (4 : Int32)
    · have hf := if_t c23_4 hf
      refine X.tableC (tgt := 110) c23_4 dX4_count_23 (by decide) (by decide) rfl (by decide) ?_
      refine X.aload_n dX4_count_110 rfl 0 rfl ?_
      refine X.aload_n dX4_count_111 rfl 0 rfl ?_
      refine M.get (v := .ref (m0 + 13)) dX4_count_112 fX4_69 (Nat.le_of_ble_eq_true rfl) rfl ?_
      refine X.iconst (v := 0) dX4_count_115 (by decide) ?_
      obtain ⟨v116, h116, hf⟩ := ob hf
      refine M.iald dX4_count_116 rfl h116 ?_
      obtain ⟨q117, h117, hf⟩ := ob hf
      refine X.callVi (As := [.int v116]) (rest := []) dX4_count_117 (w_weatherOf h117 h N Z) cX4_327 rfl rfl (Nat.le_of_ble_eq_true rfl) mh_0 rfl rfl (xD (Nat.le_of_ble_eq_true rfl)) xleN xleN ?_
      obtain rfl := Option.some.inj hf
      exact X.iret dX4_count_120 rfl rfl rfl
    have hf := if_f c23_4 hf
    by_cases c23_5 : x1 = (5 : Int32)
    · have hf := if_t c23_5 hf
      refine X.tableC (tgt := 121) c23_5 dX4_count_23 (by decide) (by decide) rfl (by decide) ?_
      refine X.aload_n dX4_count_121 rfl 0 rfl ?_
      refine M.get (v := .int (q14.2.1 5)) dX4_count_122 fX4_16 (Nat.le_of_ble_eq_true rfl) rfl ?_
      obtain rfl := Option.some.inj hf
      exact X.iret dX4_count_125 rfl rfl rfl
    have hf := if_f c23_5 hf
    by_cases c23_6 : x1 = (6 : Int32)
    · have hf := if_t c23_6 hf
      refine X.tableC (tgt := 126) c23_6 dX4_count_23 (by decide) (by decide) rfl (by decide) ?_
      refine X.aload_n dX4_count_126 rfl 0 rfl ?_
      refine M.get (v := .int (q14.2.1 6)) dX4_count_127 fX4_19 (Nat.le_of_ble_eq_true rfl) rfl ?_
      obtain rfl := Option.some.inj hf
      exact X.iret dX4_count_130 rfl rfl rfl
    have hf := if_f c23_6 hf
    by_cases c23_7 : x1 = (7 : Int32)
    · have hf := if_t c23_7 hf
      refine X.tableC (tgt := 131) c23_7 dX4_count_23 (by decide) (by decide) rfl (by decide) ?_
      refine X.aload_n dX4_count_131 rfl 0 rfl ?_
      obtain ⟨q132, h132, hf⟩ := ob hf
      refine X.callVi (As := []) (rest := []) dX4_count_132 (w_mouldsNow h132 h N Z) cX4_376 rfl rfl (Nat.le_of_ble_eq_true rfl) mh_0 rfl rfl (xD (Nat.le_of_ble_eq_true rfl)) xleN xleN ?_
      obtain rfl := Option.some.inj hf
      exact X.iret dX4_count_135 rfl rfl rfl
    have hf := if_f c23_7 hf
    by_cases c23_8 : x1 = (8 : Int32)
    · have hf := if_t c23_8 hf
      refine X.tableC (tgt := 136) c23_8 dX4_count_23 (by decide) (by decide) rfl (by decide) ?_
      refine X.aload_n dX4_count_136 rfl 0 rfl ?_
      refine X.iconst (v := 0) dX4_count_137 (by decide) ?_
      obtain ⟨q138, h138, hf⟩ := ob hf
      refine X.callVi (As := [.int (0 : Int32)]) (rest := []) dX4_count_138 (w_votesAll h138 h N Z) cX4_379 rfl rfl (Nat.le_of_ble_eq_true rfl) mh_0 rfl rfl (xD (Nat.le_of_ble_eq_true rfl)) xleN xleN ?_
      obtain rfl := Option.some.inj hf
      exact X.iret dX4_count_141 rfl rfl rfl
    have hf := if_f c23_8 hf
    by_cases c23_9 : x1 = (9 : Int32)
    · have hf := if_t c23_9 hf
      refine X.tableC (tgt := 142) c23_9 dX4_count_23 (by decide) (by decide) rfl (by decide) ?_
      refine X.aload_n dX4_count_142 rfl 0 rfl ?_
      refine X.iconst (v := 0) dX4_count_143 (by decide) ?_
      obtain ⟨q144, h144, hf⟩ := ob hf
      refine X.callVi (As := [.int (0 : Int32)]) (rest := []) dX4_count_144 (w_winnerIn h144 h N Z) cX4_382 rfl rfl (Nat.le_of_ble_eq_true rfl) mh_0 rfl rfl (xD (Nat.le_of_ble_eq_true rfl)) xleN xleN ?_
      obtain rfl := Option.some.inj hf
      exact X.iret dX4_count_147 rfl rfl rfl
    have hf := if_f c23_9 hf
    by_cases c23_10 : x1 = (10 : Int32)
    · have hf := if_t c23_10 hf
      refine X.tableC (tgt := 148) c23_10 dX4_count_23 (by decide) (by decide) rfl (by decide) ?_
      refine X.aload_n dX4_count_148 rfl 0 rfl ?_
      refine M.get (v := .int (q14.2.1 46)) dX4_count_149 fX4_307 (Nat.le_of_ble_eq_true rfl) rfl ?_
      obtain rfl := Option.some.inj hf
      exact X.iret dX4_count_152 rfl rfl rfl
    have hf := if_f c23_10 hf
    by_cases c23_11 : x1 = (11 : Int32)
    · have hf := if_t c23_11 hf
      refine X.tableC (tgt := 153) c23_11 dX4_count_23 (by decide) (by decide) rfl (by decide) ?_
      refine X.aload_n dX4_count_153 rfl 0 rfl ?_
      refine M.get (v := .int (q14.2.1 53)) dX4_count_154 fX4_310 (Nat.le_of_ble_eq_true rfl) rfl ?_
      obtain rfl := Option.some.inj hf
      exact X.iret dX4_count_157 rfl rfl rfl
    have hf := if_f c23_11 hf
    by_cases c23_12 : x1 = (12 : Int32)
    · have hf := if_t c23_12 hf
      refine X.tableC (tgt := 158) c23_12 dX4_count_23 (by decide) (by decide) rfl (by decide) ?_
      refine X.aload_n dX4_count_158 rfl 0 rfl ?_
      refine M.get (v := .int (q14.2.1 13)) dX4_count_159 fX4_118 (Nat.le_of_ble_eq_true rfl) rfl ?_
      obtain rfl := Option.some.inj hf
      exact X.iret dX4_count_162 rfl rfl rfl
    have hf := if_f c23_12 hf
    have t_c23_0 := lv_neT (a := 0) c23_0 rfl
    have t_c23_1 := lv_neT (a := 1) c23_1 rfl
    have t_c23_2 := lv_neT (a := 2) c23_2 rfl
    have t_c23_3 := lv_neT (a := 3) c23_3 rfl
    have t_c23_4 := lv_neT (a := 4) c23_4 rfl
    have t_c23_5 := lv_neT (a := 5) c23_5 rfl
    have t_c23_6 := lv_neT (a := 6) c23_6 rfl
    have t_c23_7 := lv_neT (a := 7) c23_7 rfl
    have t_c23_8 := lv_neT (a := 8) c23_8 rfl
    have t_c23_9 := lv_neT (a := 9) c23_9 rfl
    have t_c23_10 := lv_neT (a := 10) c23_10 rfl
    have t_c23_11 := lv_neT (a := 11) c23_11 rfl
    have t_c23_12 := lv_neT (a := 12) c23_12 rfl
    refine X.tableOut (tgt := 163) dX4_count_23 (by omega) (by decide) ?_
    refine X.aload_n dX4_count_163 rfl 0 rfl ?_
    refine M.get (v := .ref (m0 + 5)) dX4_count_164 fX4_44 (Nat.le_of_ble_eq_true rfl) rfl ?_
    refine X.iload_n dX4_count_167 rfl 1 rfl ?_
    refine X.bipush (v := 13) dX4_count_168 (by decide) ?_
    refine X.isub dX4_count_170 ?_
    obtain ⟨v171, h171, hf⟩ := ob hf
    refine M.iald dX4_count_171 rfl h171 ?_
    obtain rfl := Option.some.inj hf
    exact X.iret dX4_count_172 rfl rfl rfl
  · have hf := if_t c17 hf
    refine X.iconst (v := 0) dX4_count_20 (by decide) ?_
    obtain rfl := Option.some.inj hf
    exact X.iret dX4_count_21 rfl rfl rfl
/-! isTheCell -/
abbrev cX4_isTheCell : ByteArray := prog_12_method_69_code
def yX4_isTheCell : MethodName := ⟨RX4, "isTheCell", "(I)Z"⟩
def dkwX4_isTheCell_0 : List UInt8 := [42, 27, 155, 0, 15, 27, 42, 182, 1, 65, 162, 0, 7, 4, 167, 0, 4, 3, 4, 182, 1, 34, 172]
abbrev dktX4_isTheCell_0 : List UInt8 := dkwX4_isTheCell_0 ++ []
theorem dksX4_isTheCell_0 : cX4_isTheCell.data.toList.drop 0 = dktX4_isTheCell_0 := by decide +kernel
theorem dX4_isTheCell_0 : decode cX4_isTheCell 0 = .ok (.aload_n 0, 1) := dk_42 (dk_at dksX4_isTheCell_0 0 rfl rfl)
theorem dX4_isTheCell_1 : decode cX4_isTheCell 1 = .ok (.iload_n 1, 1) := dk_27 (dk_at dksX4_isTheCell_0 1 rfl rfl)
theorem dX4_isTheCell_2 : decode cX4_isTheCell 2 = .ok (.ifCond .lt 15, 3) := dk_155 0 15 (dk_at dksX4_isTheCell_0 2 rfl rfl)
theorem dX4_isTheCell_5 : decode cX4_isTheCell 5 = .ok (.iload_n 1, 1) := dk_27 (dk_at dksX4_isTheCell_0 5 rfl rfl)
theorem dX4_isTheCell_6 : decode cX4_isTheCell 6 = .ok (.aload_n 0, 1) := dk_42 (dk_at dksX4_isTheCell_0 6 rfl rfl)
theorem dX4_isTheCell_7 : decode cX4_isTheCell 7 = .ok (.invokevirtual 321, 3) := dk_182 1 65 (dk_at dksX4_isTheCell_0 7 rfl rfl)
theorem dX4_isTheCell_10 : decode cX4_isTheCell 10 = .ok (.if_icmp .ge 7, 3) := dk_162 0 7 (dk_at dksX4_isTheCell_0 10 rfl rfl)
theorem dX4_isTheCell_13 : decode cX4_isTheCell 13 = .ok (.iconst 1, 1) := dk_4 (dk_at dksX4_isTheCell_0 13 rfl rfl)
theorem dX4_isTheCell_14 : decode cX4_isTheCell 14 = .ok (.goto 4, 3) := dk_167 0 4 (dk_at dksX4_isTheCell_0 14 rfl rfl)
theorem dX4_isTheCell_17 : decode cX4_isTheCell 17 = .ok (.iconst 0, 1) := dk_3 (dk_at dksX4_isTheCell_0 17 rfl rfl)
theorem dX4_isTheCell_18 : decode cX4_isTheCell 18 = .ok (.iconst 1, 1) := dk_4 (dk_at dksX4_isTheCell_0 18 rfl rfl)
theorem dX4_isTheCell_19 : decode cX4_isTheCell 19 = .ok (.invokevirtual 290, 3) := dk_182 1 34 (dk_at dksX4_isTheCell_0 19 rfl rfl)
theorem dX4_isTheCell_22 : decode cX4_isTheCell 22 = .ok (.ireturn, 1) := dk_172 (dk_at dksX4_isTheCell_0 22 rfl rfl)
abbrev mX4_isTheCell : xM := (yX4_isTheCell, cX4_isTheCell, 2, (some .boolean), [])
def m_isTheCell_18  (y0 : Int32) (S : MS) : Option (Int32 × MS) :=
  (m_right y0 ((1 : Int32)) S).bind fun q19 =>
  if ¬ zok q19.1 = true then none else some (q19.1, q19.2)
theorem m_isTheCell_18_ok {G : xG} {m0 : Nat} {S0 : MS}   (y0 : Int32) (S : MS) (q : (Int32 × MS)) (hf : m_isTheCell_18 y0 S = some q) : XM G m0 mX4_isTheCell 2 S0 (some (.int q.1)) q.2 18 [] [.int y0, .ref m0] S := by
  intro h N Z
  unfold m_isTheCell_18 at hf
  refine X.iconst (v := 1) dX4_isTheCell_18 (by decide) ?_
  obtain ⟨q19, h19, hf⟩ := ob hf
  refine X.callVi (As := [.int y0, .int (1 : Int32)]) (rest := []) (T2 := (mh m0 h q19.2, N, Z)) dX4_isTheCell_19 (w_right h19 h N Z) cX4_290 rfl rfl (Nat.le_of_ble_eq_true rfl) mh_0 rfl rfl (xD (Nat.le_of_ble_eq_true rfl)) xleN xleN ?_
  obtain ⟨cz, hf⟩ := if_n hf
  obtain rfl := Option.some.inj hf
  exact X.iret dX4_isTheCell_22 rfl (zok_ok (Classical.not_not.mp cz)) rfl
def m_isTheCell_17  (S : MS) : Option (Int32 × MS) :=
  m_isTheCell_18 ((0 : Int32)) S
theorem m_isTheCell_17_ok {G : xG} {m0 : Nat} {S0 : MS}   (S : MS) (q : (Int32 × MS)) (hf : m_isTheCell_17 S = some q) : XM G m0 mX4_isTheCell 2 S0 (some (.int q.1)) q.2 17 [] [.ref m0] S := by
  intro h N Z
  unfold m_isTheCell_17 at hf
  refine X.iconst (v := 0) dX4_isTheCell_17 (by decide) ?_
  refine X.sub [] (L' := []) rfl ?_
  exact m_isTheCell_18_ok _ _ _ hf h N Z
def m_isTheCell (x1 : Int32) (S : MS) : Option (Int32 × MS) :=
  if x1 < 0 then
    m_isTheCell_17 S
  else
    (m_cells S).bind fun q7 =>
    if q7 ≤ x1 then
      m_isTheCell_17 S
    else
      m_isTheCell_18 ((1 : Int32)) S
theorem w_isTheCell {G : xG} {m0 : Nat} {x1 : Int32} {S : MS} {q : (Int32 × MS)} (hf : m_isTheCell x1 S = some q) : CtM G m0 mX4_isTheCell 2 S [.ref m0, .int x1] (some (.int q.1)) q.2 := by
  intro h N Z
  refine Ct.of (by decide +kernel) rfl (Nat.le_of_ble_eq_true rfl) (show Xr G _ 0 [(0, .ref m0), (1, .int x1)] [] _ from ?_)
  unfold m_isTheCell at hf
  refine X.aload_n dX4_isTheCell_0 rfl 0 rfl ?_
  refine X.iload_n dX4_isTheCell_1 rfl 1 rfl ?_
  refine X.if_lt (tgt := 17) dX4_isTheCell_2 (by decide) (fun c2 => ?_) (fun c2 => ?_)
  · have hf := if_t c2 hf
    refine X.sub [] (L' := []) rfl ?_
    exact m_isTheCell_17_ok _ _ hf h N Z
  · have hf := if_f c2 hf
    refine X.iload_n dX4_isTheCell_5 rfl 1 rfl ?_
    refine X.aload_n dX4_isTheCell_6 rfl 0 rfl ?_
    obtain ⟨q7, h7, hf⟩ := ob hf
    refine X.callVi (As := []) (rest := [.int x1, .ref m0]) dX4_isTheCell_7 (w_cells h7 h N Z) cX4_321 rfl rfl (Nat.le_of_ble_eq_true rfl) mh_0 rfl rfl (xD (Nat.le_of_ble_eq_true rfl)) xleN xleN ?_
    refine X.icmp_ge (tgt := 17) dX4_isTheCell_10 (by decide) (fun c10 => ?_) (fun c10 => ?_)
    · have hf := if_t c10 hf
      refine X.sub [] (L' := []) rfl ?_
      exact m_isTheCell_17_ok _ _ hf h N Z
    · have hf := if_f c10 hf
      refine X.iconst (v := 1) dX4_isTheCell_13 (by decide) ?_
      refine X.goto (tgt := 18) dX4_isTheCell_14 (by decide) ?_
      refine X.sub [] (L' := []) rfl ?_
      exact m_isTheCell_18_ok _ _ _ hf h N Z
theorem cX4_385 : xCV RX4 385 mX4_isTheCell 1 := ⟨lw_V q1947 q1949 qs88 q127 q1950, rfl, ⟨by decide +kernel, by decide +kernel, by decide +kernel⟩, Nat.le_of_ble_eq_true rfl⟩
/-! isKind -/
abbrev cX4_isKind : ByteArray := prog_12_method_70_code
def yX4_isKind : MethodName := ⟨RX4, "isKind", "(I)Z"⟩
def dkwX4_isKind_0 : List UInt8 := [42, 27, 155, 0, 15, 27, 42, 180, 1, 41, 162, 0, 7, 4, 167, 0, 4, 3, 4, 182, 1, 34, 172]
abbrev dktX4_isKind_0 : List UInt8 := dkwX4_isKind_0 ++ []
theorem dksX4_isKind_0 : cX4_isKind.data.toList.drop 0 = dktX4_isKind_0 := by decide +kernel
theorem dX4_isKind_0 : decode cX4_isKind 0 = .ok (.aload_n 0, 1) := dk_42 (dk_at dksX4_isKind_0 0 rfl rfl)
theorem dX4_isKind_1 : decode cX4_isKind 1 = .ok (.iload_n 1, 1) := dk_27 (dk_at dksX4_isKind_0 1 rfl rfl)
theorem dX4_isKind_2 : decode cX4_isKind 2 = .ok (.ifCond .lt 15, 3) := dk_155 0 15 (dk_at dksX4_isKind_0 2 rfl rfl)
theorem dX4_isKind_5 : decode cX4_isKind 5 = .ok (.iload_n 1, 1) := dk_27 (dk_at dksX4_isKind_0 5 rfl rfl)
theorem dX4_isKind_6 : decode cX4_isKind 6 = .ok (.aload_n 0, 1) := dk_42 (dk_at dksX4_isKind_0 6 rfl rfl)
theorem dX4_isKind_7 : decode cX4_isKind 7 = .ok (.getfield 297, 3) := dk_180 1 41 (dk_at dksX4_isKind_0 7 rfl rfl)
theorem dX4_isKind_10 : decode cX4_isKind 10 = .ok (.if_icmp .ge 7, 3) := dk_162 0 7 (dk_at dksX4_isKind_0 10 rfl rfl)
theorem dX4_isKind_13 : decode cX4_isKind 13 = .ok (.iconst 1, 1) := dk_4 (dk_at dksX4_isKind_0 13 rfl rfl)
theorem dX4_isKind_14 : decode cX4_isKind 14 = .ok (.goto 4, 3) := dk_167 0 4 (dk_at dksX4_isKind_0 14 rfl rfl)
theorem dX4_isKind_17 : decode cX4_isKind 17 = .ok (.iconst 0, 1) := dk_3 (dk_at dksX4_isKind_0 17 rfl rfl)
theorem dX4_isKind_18 : decode cX4_isKind 18 = .ok (.iconst 1, 1) := dk_4 (dk_at dksX4_isKind_0 18 rfl rfl)
theorem dX4_isKind_19 : decode cX4_isKind 19 = .ok (.invokevirtual 290, 3) := dk_182 1 34 (dk_at dksX4_isKind_0 19 rfl rfl)
theorem dX4_isKind_22 : decode cX4_isKind 22 = .ok (.ireturn, 1) := dk_172 (dk_at dksX4_isKind_0 22 rfl rfl)
abbrev mX4_isKind : xM := (yX4_isKind, cX4_isKind, 2, (some .boolean), [])
def m_isKind_18  (y0 : Int32) (S : MS) : Option (Int32 × MS) :=
  (m_right y0 ((1 : Int32)) S).bind fun q19 =>
  if ¬ zok q19.1 = true then none else some (q19.1, q19.2)
theorem m_isKind_18_ok {G : xG} {m0 : Nat} {S0 : MS}   (y0 : Int32) (S : MS) (q : (Int32 × MS)) (hf : m_isKind_18 y0 S = some q) : XM G m0 mX4_isKind 2 S0 (some (.int q.1)) q.2 18 [] [.int y0, .ref m0] S := by
  intro h N Z
  unfold m_isKind_18 at hf
  refine X.iconst (v := 1) dX4_isKind_18 (by decide) ?_
  obtain ⟨q19, h19, hf⟩ := ob hf
  refine X.callVi (As := [.int y0, .int (1 : Int32)]) (rest := []) (T2 := (mh m0 h q19.2, N, Z)) dX4_isKind_19 (w_right h19 h N Z) cX4_290 rfl rfl (Nat.le_of_ble_eq_true rfl) mh_0 rfl rfl (xD (Nat.le_of_ble_eq_true rfl)) xleN xleN ?_
  obtain ⟨cz, hf⟩ := if_n hf
  obtain rfl := Option.some.inj hf
  exact X.iret dX4_isKind_22 rfl (zok_ok (Classical.not_not.mp cz)) rfl
def m_isKind_17  (S : MS) : Option (Int32 × MS) :=
  m_isKind_18 ((0 : Int32)) S
theorem m_isKind_17_ok {G : xG} {m0 : Nat} {S0 : MS}   (S : MS) (q : (Int32 × MS)) (hf : m_isKind_17 S = some q) : XM G m0 mX4_isKind 2 S0 (some (.int q.1)) q.2 17 [] [.ref m0] S := by
  intro h N Z
  unfold m_isKind_17 at hf
  refine X.iconst (v := 0) dX4_isKind_17 (by decide) ?_
  refine X.sub [] (L' := []) rfl ?_
  exact m_isKind_18_ok _ _ _ hf h N Z
def m_isKind (x1 : Int32) (S : MS) : Option (Int32 × MS) :=
  if x1 < 0 then
    m_isKind_17 S
  else
    if (S.1 3) ≤ x1 then
      m_isKind_17 S
    else
      m_isKind_18 ((1 : Int32)) S
theorem w_isKind {G : xG} {m0 : Nat} {x1 : Int32} {S : MS} {q : (Int32 × MS)} (hf : m_isKind x1 S = some q) : CtM G m0 mX4_isKind 2 S [.ref m0, .int x1] (some (.int q.1)) q.2 := by
  intro h N Z
  refine Ct.of (by decide +kernel) rfl (Nat.le_of_ble_eq_true rfl) (show Xr G _ 0 [(0, .ref m0), (1, .int x1)] [] _ from ?_)
  unfold m_isKind at hf
  refine X.aload_n dX4_isKind_0 rfl 0 rfl ?_
  refine X.iload_n dX4_isKind_1 rfl 1 rfl ?_
  refine X.if_lt (tgt := 17) dX4_isKind_2 (by decide) (fun c2 => ?_) (fun c2 => ?_)
  · have hf := if_t c2 hf
    refine X.sub [] (L' := []) rfl ?_
    exact m_isKind_17_ok _ _ hf h N Z
  · have hf := if_f c2 hf
    refine X.iload_n dX4_isKind_5 rfl 1 rfl ?_
    refine X.aload_n dX4_isKind_6 rfl 0 rfl ?_
    refine M.get (v := .int (S.1 3)) dX4_isKind_7 fX4_297 (Nat.le_of_ble_eq_true rfl) rfl ?_
    refine X.icmp_ge (tgt := 17) dX4_isKind_10 (by decide) (fun c10 => ?_) (fun c10 => ?_)
    · have hf := if_t c10 hf
      refine X.sub [] (L' := []) rfl ?_
      exact m_isKind_17_ok _ _ hf h N Z
    · have hf := if_f c10 hf
      refine X.iconst (v := 1) dX4_isKind_13 (by decide) ?_
      refine X.goto (tgt := 18) dX4_isKind_14 (by decide) ?_
      refine X.sub [] (L' := []) rfl ?_
      exact m_isKind_18_ok _ _ _ hf h N Z
theorem cX4_391 : xCV RX4 391 mX4_isKind 1 := ⟨lw_V q1984 q1986 qs94 q127 q1987, rfl, ⟨by decide +kernel, by decide +kernel, by decide +kernel⟩, Nat.le_of_ble_eq_true rfl⟩
/-! isParty -/
abbrev cX4_isParty : ByteArray := prog_12_method_71_code
def yX4_isParty : MethodName := ⟨RX4, "isParty", "(I)Z"⟩
def dkwX4_isParty_0 : List UInt8 := [42, 27, 3, 6, 184, 1, 117, 4, 182, 1, 34, 172]
abbrev dktX4_isParty_0 : List UInt8 := dkwX4_isParty_0 ++ []
theorem dksX4_isParty_0 : cX4_isParty.data.toList.drop 0 = dktX4_isParty_0 := by decide +kernel
theorem dX4_isParty_0 : decode cX4_isParty 0 = .ok (.aload_n 0, 1) := dk_42 (dk_at dksX4_isParty_0 0 rfl rfl)
theorem dX4_isParty_1 : decode cX4_isParty 1 = .ok (.iload_n 1, 1) := dk_27 (dk_at dksX4_isParty_0 1 rfl rfl)
theorem dX4_isParty_2 : decode cX4_isParty 2 = .ok (.iconst 0, 1) := dk_3 (dk_at dksX4_isParty_0 2 rfl rfl)
theorem dX4_isParty_3 : decode cX4_isParty 3 = .ok (.iconst 3, 1) := dk_6 (dk_at dksX4_isParty_0 3 rfl rfl)
theorem dX4_isParty_4 : decode cX4_isParty 4 = .ok (.invokestatic 373, 3) := dk_184 1 117 (dk_at dksX4_isParty_0 4 rfl rfl)
theorem dX4_isParty_7 : decode cX4_isParty 7 = .ok (.iconst 1, 1) := dk_4 (dk_at dksX4_isParty_0 7 rfl rfl)
theorem dX4_isParty_8 : decode cX4_isParty 8 = .ok (.invokevirtual 290, 3) := dk_182 1 34 (dk_at dksX4_isParty_0 8 rfl rfl)
theorem dX4_isParty_11 : decode cX4_isParty 11 = .ok (.ireturn, 1) := dk_172 (dk_at dksX4_isParty_0 11 rfl rfl)
abbrev mX4_isParty : xM := (yX4_isParty, cX4_isParty, 2, (some .boolean), [])
def m_isParty (x1 : Int32) (S : MS) : Option (Int32 × MS) :=
  (m_within x1 ((0 : Int32)) ((3 : Int32))).bind fun q4 =>
  (m_right q4 ((1 : Int32)) S).bind fun q8 =>
  if ¬ zok q8.1 = true then none else some (q8.1, q8.2)
theorem w_isParty {G : xG} {m0 : Nat} {x1 : Int32} {S : MS} {q : (Int32 × MS)} (hf : m_isParty x1 S = some q) : CtM G m0 mX4_isParty 2 S [.ref m0, .int x1] (some (.int q.1)) q.2 := by
  intro h N Z
  refine Ct.of (by decide +kernel) rfl (Nat.le_of_ble_eq_true rfl) (show Xr G _ 0 [(0, .ref m0), (1, .int x1)] [] _ from ?_)
  unfold m_isParty at hf
  refine X.aload_n dX4_isParty_0 rfl 0 rfl ?_
  refine X.iload_n dX4_isParty_1 rfl 1 rfl ?_
  refine X.iconst (v := 0) dX4_isParty_2 (by decide) ?_
  refine X.iconst (v := 3) dX4_isParty_3 (by decide) ?_
  obtain ⟨q4, h4, hf⟩ := ob hf
  refine X.callSi (As := [.int x1, .int (0 : Int32), .int (3 : Int32)]) (rest := [.ref m0]) dX4_isParty_4 (w_within h4 _) cX4_373 rfl rfl (Nat.le_of_ble_eq_true rfl) (xD (Nat.le_of_ble_eq_true rfl)) xle.rf xleN ?_
  refine X.iconst (v := 1) dX4_isParty_7 (by decide) ?_
  obtain ⟨q8, h8, hf⟩ := ob hf
  refine X.callVi (As := [.int q4, .int (1 : Int32)]) (rest := []) (T2 := (mh m0 h q8.2, N, Z)) dX4_isParty_8 (w_right h8 h N Z) cX4_290 rfl rfl (Nat.le_of_ble_eq_true rfl) mh_0 rfl rfl (xD (Nat.le_of_ble_eq_true rfl)) xleN xleN ?_
  obtain ⟨cz, hf⟩ := if_n hf
  obtain rfl := Option.some.inj hf
  exact X.iret dX4_isParty_11 rfl (zok_ok (Classical.not_not.mp cz)) rfl
theorem cX4_394 : xCV RX4 394 mX4_isParty 1 := ⟨lw_V q1992 q1994 qs95 q127 q1995, rfl, ⟨by decide +kernel, by decide +kernel, by decide +kernel⟩, Nat.le_of_ble_eq_true rfl⟩
/-! isWhat -/
abbrev cX4_isWhat : ByteArray := prog_12_method_72_code
def yX4_isWhat : MethodName := ⟨RX4, "isWhat", "(II)Z"⟩
def dkwX4_isWhat_0 : List UInt8 := [42, 27, 3, 28, 184, 1, 117, 4, 182, 1, 34, 172]
abbrev dktX4_isWhat_0 : List UInt8 := dkwX4_isWhat_0 ++ []
theorem dksX4_isWhat_0 : cX4_isWhat.data.toList.drop 0 = dktX4_isWhat_0 := by decide +kernel
theorem dX4_isWhat_0 : decode cX4_isWhat 0 = .ok (.aload_n 0, 1) := dk_42 (dk_at dksX4_isWhat_0 0 rfl rfl)
theorem dX4_isWhat_1 : decode cX4_isWhat 1 = .ok (.iload_n 1, 1) := dk_27 (dk_at dksX4_isWhat_0 1 rfl rfl)
theorem dX4_isWhat_2 : decode cX4_isWhat 2 = .ok (.iconst 0, 1) := dk_3 (dk_at dksX4_isWhat_0 2 rfl rfl)
theorem dX4_isWhat_3 : decode cX4_isWhat 3 = .ok (.iload_n 2, 1) := dk_28 (dk_at dksX4_isWhat_0 3 rfl rfl)
theorem dX4_isWhat_4 : decode cX4_isWhat 4 = .ok (.invokestatic 373, 3) := dk_184 1 117 (dk_at dksX4_isWhat_0 4 rfl rfl)
theorem dX4_isWhat_7 : decode cX4_isWhat 7 = .ok (.iconst 1, 1) := dk_4 (dk_at dksX4_isWhat_0 7 rfl rfl)
theorem dX4_isWhat_8 : decode cX4_isWhat 8 = .ok (.invokevirtual 290, 3) := dk_182 1 34 (dk_at dksX4_isWhat_0 8 rfl rfl)
theorem dX4_isWhat_11 : decode cX4_isWhat 11 = .ok (.ireturn, 1) := dk_172 (dk_at dksX4_isWhat_0 11 rfl rfl)
abbrev mX4_isWhat : xM := (yX4_isWhat, cX4_isWhat, 3, (some .boolean), [])
def m_isWhat (x1 : Int32) (x2 : Int32) (S : MS) : Option (Int32 × MS) :=
  (m_within x1 ((0 : Int32)) x2).bind fun q4 =>
  (m_right q4 ((1 : Int32)) S).bind fun q8 =>
  if ¬ zok q8.1 = true then none else some (q8.1, q8.2)
theorem w_isWhat {G : xG} {m0 : Nat} {x1 : Int32} {x2 : Int32} {S : MS} {q : (Int32 × MS)} (hf : m_isWhat x1 x2 S = some q) : CtM G m0 mX4_isWhat 2 S [.ref m0, .int x1, .int x2] (some (.int q.1)) q.2 := by
  intro h N Z
  refine Ct.of (by decide +kernel) rfl (Nat.le_of_ble_eq_true rfl) (show Xr G _ 0 [(0, .ref m0), (1, .int x1), (2, .int x2)] [] _ from ?_)
  unfold m_isWhat at hf
  refine X.aload_n dX4_isWhat_0 rfl 0 rfl ?_
  refine X.iload_n dX4_isWhat_1 rfl 1 rfl ?_
  refine X.iconst (v := 0) dX4_isWhat_2 (by decide) ?_
  refine X.iload_n dX4_isWhat_3 rfl 2 rfl ?_
  obtain ⟨q4, h4, hf⟩ := ob hf
  refine X.callSi (As := [.int x1, .int (0 : Int32), .int x2]) (rest := [.ref m0]) dX4_isWhat_4 (w_within h4 _) cX4_373 rfl rfl (Nat.le_of_ble_eq_true rfl) (xD (Nat.le_of_ble_eq_true rfl)) xle.rf xleN ?_
  refine X.iconst (v := 1) dX4_isWhat_7 (by decide) ?_
  obtain ⟨q8, h8, hf⟩ := ob hf
  refine X.callVi (As := [.int q4, .int (1 : Int32)]) (rest := []) (T2 := (mh m0 h q8.2, N, Z)) dX4_isWhat_8 (w_right h8 h N Z) cX4_290 rfl rfl (Nat.le_of_ble_eq_true rfl) mh_0 rfl rfl (xD (Nat.le_of_ble_eq_true rfl)) xleN xleN ?_
  obtain ⟨cz, hf⟩ := if_n hf
  obtain rfl := Option.some.inj hf
  exact X.iret dX4_isWhat_11 rfl (zok_ok (Classical.not_not.mp cz)) rfl
theorem cX4_388 : xCV RX4 388 mX4_isWhat 2 := ⟨lw_V q1951 q1953 qs89 q127 q1954, rfl, ⟨by decide +kernel, by decide +kernel, by decide +kernel⟩, Nat.le_of_ble_eq_true rfl⟩
/-! cell -/
abbrev cX4_cell : ByteArray := prog_12_method_73_code
def yX4_cell : MethodName := ⟨RX4, "cell", "(II)I"⟩
def dkwX4_cell_7 : List UInt8 := [167, 0, 9, 42, 3, 27, 182, 1, 87, 172]
abbrev dktX4_cell_7 : List UInt8 := dkwX4_cell_7 ++ []
def dkwX4_cell_6 : List UInt8 := [62, 132, 4, 1, 167, 255, 225, 29, 172, 42, 180, 0, 69, 16, 61, 27, 96, 46, 2, 160, 0, 7, 3]
abbrev dktX4_cell_6 : List UInt8 := dkwX4_cell_6 ++ dktX4_cell_7
def dkwX4_cell_5 : List UInt8 := [182, 1, 65, 162, 0, 28, 29, 42, 27, 21, 4, 182, 1, 68, 4, 160, 0, 7, 4, 167, 0, 4, 3, 96]
abbrev dktX4_cell_5 : List UInt8 := dkwX4_cell_5 ++ dktX4_cell_6
def dkwX4_cell_4 : List UInt8 := [16, 61, 27, 96, 46, 172, 42, 180, 0, 69, 16, 91, 27, 96, 46, 172, 3, 54, 4, 21, 4, 42]
abbrev dktX4_cell_4 : List UInt8 := dkwX4_cell_4 ++ dktX4_cell_5
def dkwX4_cell_3 : List UInt8 := [42, 180, 0, 69, 4, 27, 96, 46, 172, 42, 180, 0, 69, 16, 31, 27, 96, 46, 172, 42, 180, 0, 69]
abbrev dktX4_cell_3 : List UInt8 := dkwX4_cell_3 ++ dktX4_cell_4
def dkwX4_cell_2 : List UInt8 := [170, 0, 0, 0, 111, 0, 0, 0, 0, 0, 0, 0, 4, 0, 0, 0, 33, 0, 0, 0, 42, 0, 0, 0, 52, 0, 0, 0, 62, 0, 0, 0, 72]
abbrev dktX4_cell_2 : List UInt8 := dkwX4_cell_2 ++ dktX4_cell_3
def dkwX4_cell_1 : List UInt8 := [3, 62, 28]
abbrev dktX4_cell_1 : List UInt8 := dkwX4_cell_1 ++ dktX4_cell_2
def dkwX4_cell_0 : List UInt8 := [42, 3, 181, 0, 115, 42, 27, 182, 1, 129, 153, 0, 12, 42, 28, 8, 182, 1, 132, 154, 0, 5, 3, 172]
abbrev dktX4_cell_0 : List UInt8 := dkwX4_cell_0 ++ dktX4_cell_1
theorem dksX4_cell_0 : cX4_cell.data.toList.drop 0 = dktX4_cell_0 := by decide +kernel
theorem dksX4_cell_1 : cX4_cell.data.toList.drop 24 = dktX4_cell_1 := dk_seg dksX4_cell_0 24 rfl rfl
theorem dksX4_cell_2 : cX4_cell.data.toList.drop 27 = dktX4_cell_2 := dk_seg dksX4_cell_1 3 rfl rfl
theorem dksX4_cell_3 : cX4_cell.data.toList.drop 60 = dktX4_cell_3 := dk_seg dksX4_cell_2 33 rfl rfl
theorem dksX4_cell_4 : cX4_cell.data.toList.drop 83 = dktX4_cell_4 := dk_seg dksX4_cell_3 23 rfl rfl
theorem dksX4_cell_5 : cX4_cell.data.toList.drop 105 = dktX4_cell_5 := dk_seg dksX4_cell_4 22 rfl rfl
theorem dksX4_cell_6 : cX4_cell.data.toList.drop 129 = dktX4_cell_6 := dk_seg dksX4_cell_5 24 rfl rfl
theorem dksX4_cell_7 : cX4_cell.data.toList.drop 152 = dktX4_cell_7 := dk_seg dksX4_cell_6 23 rfl rfl
theorem dX4_cell_0 : decode cX4_cell 0 = .ok (.aload_n 0, 1) := dk_42 (dk_at dksX4_cell_0 0 rfl rfl)
theorem dX4_cell_1 : decode cX4_cell 1 = .ok (.iconst 0, 1) := dk_3 (dk_at dksX4_cell_0 1 rfl rfl)
theorem dX4_cell_2 : decode cX4_cell 2 = .ok (.putfield 115, 3) := dk_181 0 115 (dk_at dksX4_cell_0 2 rfl rfl)
theorem dX4_cell_5 : decode cX4_cell 5 = .ok (.aload_n 0, 1) := dk_42 (dk_at dksX4_cell_0 5 rfl rfl)
theorem dX4_cell_6 : decode cX4_cell 6 = .ok (.iload_n 1, 1) := dk_27 (dk_at dksX4_cell_0 6 rfl rfl)
theorem dX4_cell_7 : decode cX4_cell 7 = .ok (.invokevirtual 385, 3) := dk_182 1 129 (dk_at dksX4_cell_0 7 rfl rfl)
theorem dX4_cell_10 : decode cX4_cell 10 = .ok (.ifCond .eq 12, 3) := dk_153 0 12 (dk_at dksX4_cell_0 10 rfl rfl)
theorem dX4_cell_13 : decode cX4_cell 13 = .ok (.aload_n 0, 1) := dk_42 (dk_at dksX4_cell_0 13 rfl rfl)
theorem dX4_cell_14 : decode cX4_cell 14 = .ok (.iload_n 2, 1) := dk_28 (dk_at dksX4_cell_0 14 rfl rfl)
theorem dX4_cell_15 : decode cX4_cell 15 = .ok (.iconst 5, 1) := dk_8 (dk_at dksX4_cell_0 15 rfl rfl)
theorem dX4_cell_16 : decode cX4_cell 16 = .ok (.invokevirtual 388, 3) := dk_182 1 132 (dk_at dksX4_cell_0 16 rfl rfl)
theorem dX4_cell_19 : decode cX4_cell 19 = .ok (.ifCond .ne 5, 3) := dk_154 0 5 (dk_at dksX4_cell_0 19 rfl rfl)
theorem dX4_cell_22 : decode cX4_cell 22 = .ok (.iconst 0, 1) := dk_3 (dk_at dksX4_cell_0 22 rfl rfl)
theorem dX4_cell_23 : decode cX4_cell 23 = .ok (.ireturn, 1) := dk_172 (dk_at dksX4_cell_0 23 rfl rfl)
theorem dX4_cell_24 : decode cX4_cell 24 = .ok (.iconst 0, 1) := dk_3 (dk_at dksX4_cell_1 0 rfl rfl)
theorem dX4_cell_25 : decode cX4_cell 25 = .ok (.istore_n 3, 1) := dk_62 (dk_at dksX4_cell_1 1 rfl rfl)
theorem dX4_cell_26 : decode cX4_cell 26 = .ok (.iload_n 2, 1) := dk_28 (dk_at dksX4_cell_1 2 rfl rfl)
theorem dX4_cell_27 : decode cX4_cell 27 = .ok (.tableswitch 111 0 4 #[33, 42, 52, 62, 72], 33) := by decide +kernel
theorem dX4_cell_60 : decode cX4_cell 60 = .ok (.aload_n 0, 1) := dk_42 (dk_at dksX4_cell_3 0 rfl rfl)
theorem dX4_cell_61 : decode cX4_cell 61 = .ok (.getfield 69, 3) := dk_180 0 69 (dk_at dksX4_cell_3 1 rfl rfl)
theorem dX4_cell_64 : decode cX4_cell 64 = .ok (.iconst 1, 1) := dk_4 (dk_at dksX4_cell_3 4 rfl rfl)
theorem dX4_cell_65 : decode cX4_cell 65 = .ok (.iload_n 1, 1) := dk_27 (dk_at dksX4_cell_3 5 rfl rfl)
theorem dX4_cell_66 : decode cX4_cell 66 = .ok (.iadd, 1) := dk_96 (dk_at dksX4_cell_3 6 rfl rfl)
theorem dX4_cell_67 : decode cX4_cell 67 = .ok (.iaload, 1) := dk_46 (dk_at dksX4_cell_3 7 rfl rfl)
theorem dX4_cell_68 : decode cX4_cell 68 = .ok (.ireturn, 1) := dk_172 (dk_at dksX4_cell_3 8 rfl rfl)
theorem dX4_cell_69 : decode cX4_cell 69 = .ok (.aload_n 0, 1) := dk_42 (dk_at dksX4_cell_3 9 rfl rfl)
theorem dX4_cell_70 : decode cX4_cell 70 = .ok (.getfield 69, 3) := dk_180 0 69 (dk_at dksX4_cell_3 10 rfl rfl)
theorem dX4_cell_73 : decode cX4_cell 73 = .ok (.bipush 31, 2) := dk_16 31 (dk_at dksX4_cell_3 13 rfl rfl)
theorem dX4_cell_75 : decode cX4_cell 75 = .ok (.iload_n 1, 1) := dk_27 (dk_at dksX4_cell_3 15 rfl rfl)
theorem dX4_cell_76 : decode cX4_cell 76 = .ok (.iadd, 1) := dk_96 (dk_at dksX4_cell_3 16 rfl rfl)
theorem dX4_cell_77 : decode cX4_cell 77 = .ok (.iaload, 1) := dk_46 (dk_at dksX4_cell_3 17 rfl rfl)
theorem dX4_cell_78 : decode cX4_cell 78 = .ok (.ireturn, 1) := dk_172 (dk_at dksX4_cell_3 18 rfl rfl)
theorem dX4_cell_79 : decode cX4_cell 79 = .ok (.aload_n 0, 1) := dk_42 (dk_at dksX4_cell_3 19 rfl rfl)
theorem dX4_cell_80 : decode cX4_cell 80 = .ok (.getfield 69, 3) := dk_180 0 69 (dk_at dksX4_cell_3 20 rfl rfl)
theorem dX4_cell_83 : decode cX4_cell 83 = .ok (.bipush 61, 2) := dk_16 61 (dk_at dksX4_cell_4 0 rfl rfl)
theorem dX4_cell_85 : decode cX4_cell 85 = .ok (.iload_n 1, 1) := dk_27 (dk_at dksX4_cell_4 2 rfl rfl)
theorem dX4_cell_86 : decode cX4_cell 86 = .ok (.iadd, 1) := dk_96 (dk_at dksX4_cell_4 3 rfl rfl)
theorem dX4_cell_87 : decode cX4_cell 87 = .ok (.iaload, 1) := dk_46 (dk_at dksX4_cell_4 4 rfl rfl)
theorem dX4_cell_88 : decode cX4_cell 88 = .ok (.ireturn, 1) := dk_172 (dk_at dksX4_cell_4 5 rfl rfl)
theorem dX4_cell_89 : decode cX4_cell 89 = .ok (.aload_n 0, 1) := dk_42 (dk_at dksX4_cell_4 6 rfl rfl)
theorem dX4_cell_90 : decode cX4_cell 90 = .ok (.getfield 69, 3) := dk_180 0 69 (dk_at dksX4_cell_4 7 rfl rfl)
theorem dX4_cell_93 : decode cX4_cell 93 = .ok (.bipush 91, 2) := dk_16 91 (dk_at dksX4_cell_4 10 rfl rfl)
theorem dX4_cell_95 : decode cX4_cell 95 = .ok (.iload_n 1, 1) := dk_27 (dk_at dksX4_cell_4 12 rfl rfl)
theorem dX4_cell_96 : decode cX4_cell 96 = .ok (.iadd, 1) := dk_96 (dk_at dksX4_cell_4 13 rfl rfl)
theorem dX4_cell_97 : decode cX4_cell 97 = .ok (.iaload, 1) := dk_46 (dk_at dksX4_cell_4 14 rfl rfl)
theorem dX4_cell_98 : decode cX4_cell 98 = .ok (.ireturn, 1) := dk_172 (dk_at dksX4_cell_4 15 rfl rfl)
theorem dX4_cell_99 : decode cX4_cell 99 = .ok (.iconst 0, 1) := dk_3 (dk_at dksX4_cell_4 16 rfl rfl)
theorem dX4_cell_100 : decode cX4_cell 100 = .ok (.istore 4, 2) := dk_54 4 (dk_at dksX4_cell_4 17 rfl rfl)
theorem dX4_cell_102 : decode cX4_cell 102 = .ok (.iload 4, 2) := dk_21 4 (dk_at dksX4_cell_4 19 rfl rfl)
theorem dX4_cell_104 : decode cX4_cell 104 = .ok (.aload_n 0, 1) := dk_42 (dk_at dksX4_cell_4 21 rfl rfl)
theorem dX4_cell_105 : decode cX4_cell 105 = .ok (.invokevirtual 321, 3) := dk_182 1 65 (dk_at dksX4_cell_5 0 rfl rfl)
theorem dX4_cell_108 : decode cX4_cell 108 = .ok (.if_icmp .ge 28, 3) := dk_162 0 28 (dk_at dksX4_cell_5 3 rfl rfl)
theorem dX4_cell_111 : decode cX4_cell 111 = .ok (.iload_n 3, 1) := dk_29 (dk_at dksX4_cell_5 6 rfl rfl)
theorem dX4_cell_112 : decode cX4_cell 112 = .ok (.aload_n 0, 1) := dk_42 (dk_at dksX4_cell_5 7 rfl rfl)
theorem dX4_cell_113 : decode cX4_cell 113 = .ok (.iload_n 1, 1) := dk_27 (dk_at dksX4_cell_5 8 rfl rfl)
theorem dX4_cell_114 : decode cX4_cell 114 = .ok (.iload 4, 2) := dk_21 4 (dk_at dksX4_cell_5 9 rfl rfl)
theorem dX4_cell_116 : decode cX4_cell 116 = .ok (.invokevirtual 324, 3) := dk_182 1 68 (dk_at dksX4_cell_5 11 rfl rfl)
theorem dX4_cell_119 : decode cX4_cell 119 = .ok (.iconst 1, 1) := dk_4 (dk_at dksX4_cell_5 14 rfl rfl)
theorem dX4_cell_120 : decode cX4_cell 120 = .ok (.if_icmp .ne 7, 3) := dk_160 0 7 (dk_at dksX4_cell_5 15 rfl rfl)
theorem dX4_cell_123 : decode cX4_cell 123 = .ok (.iconst 1, 1) := dk_4 (dk_at dksX4_cell_5 18 rfl rfl)
theorem dX4_cell_124 : decode cX4_cell 124 = .ok (.goto 4, 3) := dk_167 0 4 (dk_at dksX4_cell_5 19 rfl rfl)
theorem dX4_cell_127 : decode cX4_cell 127 = .ok (.iconst 0, 1) := dk_3 (dk_at dksX4_cell_5 22 rfl rfl)
theorem dX4_cell_128 : decode cX4_cell 128 = .ok (.iadd, 1) := dk_96 (dk_at dksX4_cell_5 23 rfl rfl)
theorem dX4_cell_129 : decode cX4_cell 129 = .ok (.istore_n 3, 1) := dk_62 (dk_at dksX4_cell_6 0 rfl rfl)
theorem dX4_cell_130 : decode cX4_cell 130 = .ok (.iinc 4 1, 3) := dk_132 4 1 (dk_at dksX4_cell_6 1 rfl rfl)
theorem dX4_cell_133 : decode cX4_cell 133 = .ok (.goto (-31), 3) := dk_167 255 225 (dk_at dksX4_cell_6 4 rfl rfl)
theorem dX4_cell_136 : decode cX4_cell 136 = .ok (.iload_n 3, 1) := dk_29 (dk_at dksX4_cell_6 7 rfl rfl)
theorem dX4_cell_137 : decode cX4_cell 137 = .ok (.ireturn, 1) := dk_172 (dk_at dksX4_cell_6 8 rfl rfl)
theorem dX4_cell_138 : decode cX4_cell 138 = .ok (.aload_n 0, 1) := dk_42 (dk_at dksX4_cell_6 9 rfl rfl)
theorem dX4_cell_139 : decode cX4_cell 139 = .ok (.getfield 69, 3) := dk_180 0 69 (dk_at dksX4_cell_6 10 rfl rfl)
theorem dX4_cell_142 : decode cX4_cell 142 = .ok (.bipush 61, 2) := dk_16 61 (dk_at dksX4_cell_6 13 rfl rfl)
theorem dX4_cell_144 : decode cX4_cell 144 = .ok (.iload_n 1, 1) := dk_27 (dk_at dksX4_cell_6 15 rfl rfl)
theorem dX4_cell_145 : decode cX4_cell 145 = .ok (.iadd, 1) := dk_96 (dk_at dksX4_cell_6 16 rfl rfl)
theorem dX4_cell_146 : decode cX4_cell 146 = .ok (.iaload, 1) := dk_46 (dk_at dksX4_cell_6 17 rfl rfl)
theorem dX4_cell_147 : decode cX4_cell 147 = .ok (.iconst (-1), 1) := dk_2 (dk_at dksX4_cell_6 18 rfl rfl)
theorem dX4_cell_148 : decode cX4_cell 148 = .ok (.if_icmp .ne 7, 3) := dk_160 0 7 (dk_at dksX4_cell_6 19 rfl rfl)
theorem dX4_cell_151 : decode cX4_cell 151 = .ok (.iconst 0, 1) := dk_3 (dk_at dksX4_cell_6 22 rfl rfl)
theorem dX4_cell_152 : decode cX4_cell 152 = .ok (.goto 9, 3) := dk_167 0 9 (dk_at dksX4_cell_7 0 rfl rfl)
theorem dX4_cell_155 : decode cX4_cell 155 = .ok (.aload_n 0, 1) := dk_42 (dk_at dksX4_cell_7 3 rfl rfl)
theorem dX4_cell_156 : decode cX4_cell 156 = .ok (.iconst 0, 1) := dk_3 (dk_at dksX4_cell_7 4 rfl rfl)
theorem dX4_cell_157 : decode cX4_cell 157 = .ok (.iload_n 1, 1) := dk_27 (dk_at dksX4_cell_7 5 rfl rfl)
theorem dX4_cell_158 : decode cX4_cell 158 = .ok (.invokevirtual 343, 3) := dk_182 1 87 (dk_at dksX4_cell_7 6 rfl rfl)
theorem dX4_cell_161 : decode cX4_cell 161 = .ok (.ireturn, 1) := dk_172 (dk_at dksX4_cell_7 9 rfl rfl)
abbrev mX4_cell : xM := (yX4_cell, cX4_cell, 5, (some .int), [])
def m_cell_128 (k102 : Int32 → Int32 → Int32 → MS → Option (Int32 × MS)) (x1 : Int32) (x4 : Int32) (y0 : Int32) (y1 : Int32) (S : MS) : Option (Int32 × MS) :=
  k102 x1 ((y1 + y0)) ((x4 + 1)) S
theorem m_cell_128_ok {G : xG} {m0 : Nat} {S0 : MS} {k102 : Int32 → Int32 → Int32 → MS → Option (Int32 × MS)} (hk102 : ∀ (x1 : Int32) (x3 : Int32) (x4 : Int32) (S : MS) (q : (Int32 × MS)), k102 x1 x3 x4 S = some q → XM G m0 mX4_cell 4 S0 (some (.int q.1)) q.2 102 [(0, .ref m0), (1, .int x1), (3, .int x3), (4, .int x4)] [] S) (x1 : Int32) (x4 : Int32) (y0 : Int32) (y1 : Int32) (S : MS) (q : (Int32 × MS)) (hf : m_cell_128 k102 x1 x4 y0 y1 S = some q) : XM G m0 mX4_cell 4 S0 (some (.int q.1)) q.2 128 [(0, .ref m0), (1, .int x1), (4, .int x4)] [.int y0, .int y1] S := by
  intro h N Z
  unfold m_cell_128 at hf
  refine X.iadd dX4_cell_128 ?_
  refine X.istore_n (L' := [(3, .int (y1 + y0)), (0, .ref m0), (1, .int x1), (4, .int x4)]) dX4_cell_129 rfl (Nat.le_of_ble_eq_true rfl) rfl ?_
  refine X.iinc (v := (x4 + 1)) (L' := [(4, .int (x4 + 1)), (3, .int (y1 + y0)), (0, .ref m0), (1, .int x1)]) dX4_cell_130 3 rfl rfl (Nat.le_of_ble_eq_true rfl) rfl ?_
  refine X.goto (tgt := 102) dX4_cell_133 (by decide) ?_
  refine X.sub [2, 3, 1, 0] (L' := [(0, .ref m0), (1, .int x1), (3, .int (y1 + y0)), (4, .int (x4 + 1))]) rfl ?_
  exact hk102 _ _ _ _ _ hf h N Z
def m_cell_102_b  (k102 : Int32 → Int32 → Int32 → MS → Option (Int32 × MS)) (x1 : Int32) (x3 : Int32) (x4 : Int32) (S : MS) : Option (Int32 × MS) :=
  (m_cells S).bind fun q105 =>
  if q105 ≤ x4 then
    some (x3, S)
  else
    (m_far x1 x4 S).bind fun q116 =>
    if q116 = (1 : Int32) then
      m_cell_128 k102 x1 x4 ((1 : Int32)) x3 S
    else
      m_cell_128 k102 x1 x4 ((0 : Int32)) x3 S
def m_cell_102  : Nat → Int32 → Int32 → Int32 → MS → Option (Int32 × MS)
  | 0 => fun _ _ _ _ => none
  | n + 1 => fun x1 x3 x4 S => m_cell_102_b (m_cell_102 n) x1 x3 x4 S
theorem m_cell_102_bok {G : xG} {m0 : Nat} {S0 : MS}  {k102 : Int32 → Int32 → Int32 → MS → Option (Int32 × MS)}  (hk102 : ∀ (x1 : Int32) (x3 : Int32) (x4 : Int32) (S : MS) (q : (Int32 × MS)), k102 x1 x3 x4 S = some q → XM G m0 mX4_cell 4 S0 (some (.int q.1)) q.2 102 [(0, .ref m0), (1, .int x1), (3, .int x3), (4, .int x4)] [] S) (x1 : Int32) (x3 : Int32) (x4 : Int32) (S : MS) (q : (Int32 × MS)) (hf : m_cell_102_b k102 x1 x3 x4 S = some q) : XM G m0 mX4_cell 4 S0 (some (.int q.1)) q.2 102 [(0, .ref m0), (1, .int x1), (3, .int x3), (4, .int x4)] [] S := by
  intro h N Z
  unfold m_cell_102_b at hf
  refine X.iload dX4_cell_102 3 rfl ?_
  refine X.aload_n dX4_cell_104 rfl 0 rfl ?_
  obtain ⟨q105, h105, hf⟩ := ob hf
  refine X.callVi (As := []) (rest := [.int x4]) dX4_cell_105 (w_cells h105 h N Z) cX4_321 rfl rfl (Nat.le_of_ble_eq_true rfl) mh_0 rfl rfl (xD (Nat.le_of_ble_eq_true rfl)) xleN xleN ?_
  refine X.icmp_ge (tgt := 136) dX4_cell_108 (by decide) (fun c108 => ?_) (fun c108 => ?_)
  · have hf := if_t c108 hf
    refine X.iload_n dX4_cell_136 rfl 2 rfl ?_
    obtain rfl := Option.some.inj hf
    exact X.iret dX4_cell_137 rfl rfl rfl
  · have hf := if_f c108 hf
    refine X.iload_n dX4_cell_111 rfl 2 rfl ?_
    refine X.aload_n dX4_cell_112 rfl 0 rfl ?_
    refine X.iload_n dX4_cell_113 rfl 1 rfl ?_
    refine X.iload dX4_cell_114 3 rfl ?_
    obtain ⟨q116, h116, hf⟩ := ob hf
    refine X.callVi (As := [.int x1, .int x4]) (rest := [.int x3]) dX4_cell_116 (w_far h116 h N Z) cX4_324 rfl rfl (Nat.le_of_ble_eq_true rfl) mh_0 rfl rfl (xD (Nat.le_of_ble_eq_true rfl)) xleN xleN ?_
    refine X.iconst (v := 1) dX4_cell_119 (by decide) ?_
    refine X.icmp_ne (tgt := 127) dX4_cell_120 (by decide) (fun c120 => ?_) (fun c120 => ?_)
    · have hf := if_f c120 hf
      refine X.iconst (v := 0) dX4_cell_127 (by decide) ?_
      refine X.sub [0, 1, 3] (L' := [(0, .ref m0), (1, .int x1), (4, .int x4)]) rfl ?_
      exact m_cell_128_ok hk102 _ _ _ _ _ _ hf h N Z
    · have hf := if_t c120 hf
      refine X.iconst (v := 1) dX4_cell_123 (by decide) ?_
      refine X.goto (tgt := 128) dX4_cell_124 (by decide) ?_
      refine X.sub [0, 1, 3] (L' := [(0, .ref m0), (1, .int x1), (4, .int x4)]) rfl ?_
      exact m_cell_128_ok hk102 _ _ _ _ _ _ hf h N Z
theorem m_cell_102_ok {G : xG} {m0 : Nat} {S0 : MS}   : ∀ (n : Nat) (x1 : Int32) (x3 : Int32) (x4 : Int32) (S : MS) (q : (Int32 × MS)), m_cell_102 n x1 x3 x4 S = some q → XM G m0 mX4_cell 4 S0 (some (.int q.1)) q.2 102 [(0, .ref m0), (1, .int x1), (3, .int x3), (4, .int x4)] [] S
  | 0, _, _, _, _, _, hf => by cases hf
  | n + 1, x1, x3, x4, S, q, hf => m_cell_102_bok (m_cell_102_ok n) x1 x3 x4 S q hf
def m_cell (x1 : Int32) (x2 : Int32) (S : MS) : Option (Int32 × MS) :=
  (m_isTheCell x1 ((sF S 0 (0 : Int32)))).bind fun q7 =>
  if q7.1 = 0 then
    some ((0 : Int32), q7.2)
  else
    (m_isWhat x2 ((5 : Int32)) q7.2).bind fun q16 =>
    if q16.1 = 0 then
      some ((0 : Int32), q16.2)
    else
      if x2 = (0 : Int32) then
        (rdA q16.2 13 ((1 : Int32) + x1)).bind fun v67 =>
        some (v67, q16.2)
      else
      if x2 = (1 : Int32) then
        (rdA q16.2 13 ((31 : Int32) + x1)).bind fun v77 =>
        some (v77, q16.2)
      else
      if x2 = (2 : Int32) then
        (rdA q16.2 13 ((61 : Int32) + x1)).bind fun v87 =>
        some (v87, q16.2)
      else
      if x2 = (3 : Int32) then
        (rdA q16.2 13 ((91 : Int32) + x1)).bind fun v97 =>
        some (v97, q16.2)
      else
      if x2 = (4 : Int32) then
        m_cell_102 FU x1 ((0 : Int32)) ((0 : Int32)) q16.2
      else
        (rdA q16.2 13 ((61 : Int32) + x1)).bind fun v146 =>
        if v146 = (-1 : Int32) then
          some ((0 : Int32), q16.2)
        else
          (m_growthOf ((0 : Int32)) x1 q16.2).bind fun q158 =>
          some (q158.1, q158.2)
theorem w_cell {G : xG} {m0 : Nat} {x1 : Int32} {x2 : Int32} {S : MS} {q : (Int32 × MS)} (hf : m_cell x1 x2 S = some q) : CtM G m0 mX4_cell 4 S [.ref m0, .int x1, .int x2] (some (.int q.1)) q.2 := by
  intro h N Z
  refine Ct.of (by decide +kernel) rfl (Nat.le_of_ble_eq_true rfl) (show Xr G _ 0 [(0, .ref m0), (1, .int x1), (2, .int x2)] [] _ from ?_)
  unfold m_cell at hf
  refine X.aload_n dX4_cell_0 rfl 0 rfl ?_
  refine X.iconst (v := 0) dX4_cell_1 (by decide) ?_
  refine M.putI dX4_cell_2 fX4_115 (by decide) rfl rfl rfl ?_
  refine X.aload_n dX4_cell_5 rfl 0 rfl ?_
  refine X.iload_n dX4_cell_6 rfl 1 rfl ?_
  obtain ⟨q7, h7, hf⟩ := ob hf
  refine X.callVi (As := [.int x1]) (rest := []) (T2 := (mh m0 h q7.2, N, Z)) dX4_cell_7 (w_isTheCell h7 h N Z) cX4_385 rfl rfl (Nat.le_of_ble_eq_true rfl) mh_0 rfl rfl (xD (Nat.le_of_ble_eq_true rfl)) xleN xleN ?_
  refine X.if_eq (tgt := 22) dX4_cell_10 (by decide) (fun c10 => ?_) (fun c10 => ?_)
  · have hf := if_t c10 hf
    refine X.iconst (v := 0) dX4_cell_22 (by decide) ?_
    obtain rfl := Option.some.inj hf
    exact X.iret dX4_cell_23 rfl rfl rfl
  · have hf := if_f c10 hf
    refine X.aload_n dX4_cell_13 rfl 0 rfl ?_
    refine X.iload_n dX4_cell_14 rfl 2 rfl ?_
    refine X.iconst (v := 5) dX4_cell_15 (by decide) ?_
    obtain ⟨q16, h16, hf⟩ := ob hf
    refine X.callVi (As := [.int x2, .int (5 : Int32)]) (rest := []) (T2 := (mh m0 h q16.2, N, Z)) dX4_cell_16 (w_isWhat h16 h N Z) cX4_388 rfl rfl (Nat.le_of_ble_eq_true rfl) mh_0 rfl rfl (xD (Nat.le_of_ble_eq_true rfl)) xleN xleN ?_
    refine X.if_ne (tgt := 24) dX4_cell_19 (by decide) (fun c19 => ?_) (fun c19 => ?_)
    · have hf := if_f c19 hf
      refine X.iconst (v := 0) dX4_cell_24 (by decide) ?_
      refine X.istore_n (L' := [(3, .int (0 : Int32)), (0, .ref m0), (1, .int x1), (2, .int x2)]) dX4_cell_25 rfl (Nat.le_of_ble_eq_true rfl) rfl ?_
      refine X.iload_n dX4_cell_26 rfl 3 rfl ?_
      by_cases c27_0 : x2 = (0 : Int32)
      · have hf := if_t c27_0 hf
        refine X.tableC (tgt := 60) c27_0 dX4_cell_27 (by decide) (by decide) rfl (by decide) ?_
        refine X.aload_n dX4_cell_60 rfl 1 rfl ?_
        refine M.get (v := .ref (m0 + 13)) dX4_cell_61 fX4_69 (Nat.le_of_ble_eq_true rfl) rfl ?_
        refine X.iconst (v := 1) dX4_cell_64 (by decide) ?_
        refine X.iload_n dX4_cell_65 rfl 2 rfl ?_
        refine X.iadd dX4_cell_66 ?_
        obtain ⟨v67, h67, hf⟩ := ob hf
        refine M.iald dX4_cell_67 rfl h67 ?_
        obtain rfl := Option.some.inj hf
        exact X.iret dX4_cell_68 rfl rfl rfl
      have hf := if_f c27_0 hf
      by_cases c27_1 : x2 = (1 : Int32)
      · have hf := if_t c27_1 hf
        refine X.tableC (tgt := 69) c27_1 dX4_cell_27 (by decide) (by decide) rfl (by decide) ?_
        refine X.aload_n dX4_cell_69 rfl 1 rfl ?_
        refine M.get (v := .ref (m0 + 13)) dX4_cell_70 fX4_69 (Nat.le_of_ble_eq_true rfl) rfl ?_
        refine X.bipush (v := 31) dX4_cell_73 (by decide) ?_
        refine X.iload_n dX4_cell_75 rfl 2 rfl ?_
        refine X.iadd dX4_cell_76 ?_
        obtain ⟨v77, h77, hf⟩ := ob hf
        refine M.iald dX4_cell_77 rfl h77 ?_
        obtain rfl := Option.some.inj hf
        exact X.iret dX4_cell_78 rfl rfl rfl
      have hf := if_f c27_1 hf
      by_cases c27_2 : x2 = (2 : Int32)
      · have hf := if_t c27_2 hf
        refine X.tableC (tgt := 79) c27_2 dX4_cell_27 (by decide) (by decide) rfl (by decide) ?_
        refine X.aload_n dX4_cell_79 rfl 1 rfl ?_
        refine M.get (v := .ref (m0 + 13)) dX4_cell_80 fX4_69 (Nat.le_of_ble_eq_true rfl) rfl ?_
        refine X.bipush (v := 61) dX4_cell_83 (by decide) ?_
        refine X.iload_n dX4_cell_85 rfl 2 rfl ?_
        refine X.iadd dX4_cell_86 ?_
        obtain ⟨v87, h87, hf⟩ := ob hf
        refine M.iald dX4_cell_87 rfl h87 ?_
        obtain rfl := Option.some.inj hf
        exact X.iret dX4_cell_88 rfl rfl rfl
      have hf := if_f c27_2 hf
      by_cases c27_3 : x2 = (3 : Int32)
      · have hf := if_t c27_3 hf
        refine X.tableC (tgt := 89) c27_3 dX4_cell_27 (by decide) (by decide) rfl (by decide) ?_
        refine X.aload_n dX4_cell_89 rfl 1 rfl ?_
        refine M.get (v := .ref (m0 + 13)) dX4_cell_90 fX4_69 (Nat.le_of_ble_eq_true rfl) rfl ?_
        refine X.bipush (v := 91) dX4_cell_93 (by decide) ?_
        refine X.iload_n dX4_cell_95 rfl 2 rfl ?_
        refine X.iadd dX4_cell_96 ?_
        obtain ⟨v97, h97, hf⟩ := ob hf
        refine M.iald dX4_cell_97 rfl h97 ?_
        obtain rfl := Option.some.inj hf
        exact X.iret dX4_cell_98 rfl rfl rfl
      have hf := if_f c27_3 hf
      by_cases c27_4 : x2 = (4 : Int32)
      · have hf := if_t c27_4 hf
        refine X.tableC (tgt := 99) c27_4 dX4_cell_27 (by decide) (by decide) rfl (by decide) ?_
        refine X.iconst (v := 0) dX4_cell_99 (by decide) ?_
        refine X.istore (L' := [(4, .int (0 : Int32)), (3, .int (0 : Int32)), (0, .ref m0), (1, .int x1), (2, .int x2)]) dX4_cell_100 (Nat.le_of_ble_eq_true rfl) rfl ?_
        refine X.sub [2, 3, 1, 0] (L' := [(0, .ref m0), (1, .int x1), (3, .int (0 : Int32)), (4, .int (0 : Int32))]) rfl ?_
        exact m_cell_102_ok FU _ _ _ _ _ hf h N Z
      have hf := if_f c27_4 hf
      have t_c27_0 := lv_neT (a := 0) c27_0 rfl
      have t_c27_1 := lv_neT (a := 1) c27_1 rfl
      have t_c27_2 := lv_neT (a := 2) c27_2 rfl
      have t_c27_3 := lv_neT (a := 3) c27_3 rfl
      have t_c27_4 := lv_neT (a := 4) c27_4 rfl
      refine X.tableOut (tgt := 138) dX4_cell_27 (by omega) (by decide) ?_
      refine X.aload_n dX4_cell_138 rfl 1 rfl ?_
      refine M.get (v := .ref (m0 + 13)) dX4_cell_139 fX4_69 (Nat.le_of_ble_eq_true rfl) rfl ?_
      refine X.bipush (v := 61) dX4_cell_142 (by decide) ?_
      refine X.iload_n dX4_cell_144 rfl 2 rfl ?_
      refine X.iadd dX4_cell_145 ?_
      obtain ⟨v146, h146, hf⟩ := ob hf
      refine M.iald dX4_cell_146 rfl h146 ?_
      refine X.iconst (v := -1) dX4_cell_147 (by decide) ?_
      refine X.icmp_ne (tgt := 155) dX4_cell_148 (by decide) (fun c148 => ?_) (fun c148 => ?_)
      · have hf := if_f c148 hf
        refine X.aload_n dX4_cell_155 rfl 1 rfl ?_
        refine X.iconst (v := 0) dX4_cell_156 (by decide) ?_
        refine X.iload_n dX4_cell_157 rfl 2 rfl ?_
        obtain ⟨q158, h158, hf⟩ := ob hf
        refine X.callVi (As := [.int (0 : Int32), .int x1]) (rest := []) (T2 := (mh m0 h q158.2, N, Z)) dX4_cell_158 (w_growthOf h158 h N Z) cX4_343 rfl rfl (Nat.le_of_ble_eq_true rfl) mh_0 rfl rfl (xD (Nat.le_of_ble_eq_true rfl)) xleN xleN ?_
        obtain rfl := Option.some.inj hf
        exact X.iret dX4_cell_161 rfl rfl rfl
      · have hf := if_t c148 hf
        refine X.iconst (v := 0) dX4_cell_151 (by decide) ?_
        refine X.goto (tgt := 161) dX4_cell_152 (by decide) ?_
        obtain rfl := Option.some.inj hf
        exact X.iret dX4_cell_161 rfl rfl rfl
    · have hf := if_t c19 hf
      refine X.iconst (v := 0) dX4_cell_22 (by decide) ?_
      obtain rfl := Option.some.inj hf
      exact X.iret dX4_cell_23 rfl rfl rfl
/-! party -/
abbrev cX4_party : ByteArray := prog_12_method_74_code
def yX4_party : MethodName := ⟨RX4, "party", "(I)I"⟩
def dkwX4_party_0 : List UInt8 := [42, 3, 181, 0, 115, 42, 27, 182, 1, 135, 153, 0, 12, 42, 180, 0, 28, 27, 46, 167, 0, 4, 3, 172]
abbrev dktX4_party_0 : List UInt8 := dkwX4_party_0 ++ []
theorem dksX4_party_0 : cX4_party.data.toList.drop 0 = dktX4_party_0 := by decide +kernel
theorem dX4_party_0 : decode cX4_party 0 = .ok (.aload_n 0, 1) := dk_42 (dk_at dksX4_party_0 0 rfl rfl)
theorem dX4_party_1 : decode cX4_party 1 = .ok (.iconst 0, 1) := dk_3 (dk_at dksX4_party_0 1 rfl rfl)
theorem dX4_party_2 : decode cX4_party 2 = .ok (.putfield 115, 3) := dk_181 0 115 (dk_at dksX4_party_0 2 rfl rfl)
theorem dX4_party_5 : decode cX4_party 5 = .ok (.aload_n 0, 1) := dk_42 (dk_at dksX4_party_0 5 rfl rfl)
theorem dX4_party_6 : decode cX4_party 6 = .ok (.iload_n 1, 1) := dk_27 (dk_at dksX4_party_0 6 rfl rfl)
theorem dX4_party_7 : decode cX4_party 7 = .ok (.invokevirtual 391, 3) := dk_182 1 135 (dk_at dksX4_party_0 7 rfl rfl)
theorem dX4_party_10 : decode cX4_party 10 = .ok (.ifCond .eq 12, 3) := dk_153 0 12 (dk_at dksX4_party_0 10 rfl rfl)
theorem dX4_party_13 : decode cX4_party 13 = .ok (.aload_n 0, 1) := dk_42 (dk_at dksX4_party_0 13 rfl rfl)
theorem dX4_party_14 : decode cX4_party 14 = .ok (.getfield 28, 3) := dk_180 0 28 (dk_at dksX4_party_0 14 rfl rfl)
theorem dX4_party_17 : decode cX4_party 17 = .ok (.iload_n 1, 1) := dk_27 (dk_at dksX4_party_0 17 rfl rfl)
theorem dX4_party_18 : decode cX4_party 18 = .ok (.iaload, 1) := dk_46 (dk_at dksX4_party_0 18 rfl rfl)
theorem dX4_party_19 : decode cX4_party 19 = .ok (.goto 4, 3) := dk_167 0 4 (dk_at dksX4_party_0 19 rfl rfl)
theorem dX4_party_22 : decode cX4_party 22 = .ok (.iconst 0, 1) := dk_3 (dk_at dksX4_party_0 22 rfl rfl)
theorem dX4_party_23 : decode cX4_party 23 = .ok (.ireturn, 1) := dk_172 (dk_at dksX4_party_0 23 rfl rfl)
abbrev mX4_party : xM := (yX4_party, cX4_party, 2, (some .int), [])
def m_party (x1 : Int32) (S : MS) : Option (Int32 × MS) :=
  (m_isKind x1 ((sF S 0 (0 : Int32)))).bind fun q7 =>
  if q7.1 = 0 then
    some ((0 : Int32), q7.2)
  else
    (rdA q7.2 1 x1).bind fun v18 =>
    some (v18, q7.2)
theorem w_party {G : xG} {m0 : Nat} {x1 : Int32} {S : MS} {q : (Int32 × MS)} (hf : m_party x1 S = some q) : CtM G m0 mX4_party 3 S [.ref m0, .int x1] (some (.int q.1)) q.2 := by
  intro h N Z
  refine Ct.of (by decide +kernel) rfl (Nat.le_of_ble_eq_true rfl) (show Xr G _ 0 [(0, .ref m0), (1, .int x1)] [] _ from ?_)
  unfold m_party at hf
  refine X.aload_n dX4_party_0 rfl 0 rfl ?_
  refine X.iconst (v := 0) dX4_party_1 (by decide) ?_
  refine M.putI dX4_party_2 fX4_115 (by decide) rfl rfl rfl ?_
  refine X.aload_n dX4_party_5 rfl 0 rfl ?_
  refine X.iload_n dX4_party_6 rfl 1 rfl ?_
  obtain ⟨q7, h7, hf⟩ := ob hf
  refine X.callVi (As := [.int x1]) (rest := []) (T2 := (mh m0 h q7.2, N, Z)) dX4_party_7 (w_isKind h7 h N Z) cX4_391 rfl rfl (Nat.le_of_ble_eq_true rfl) mh_0 rfl rfl (xD (Nat.le_of_ble_eq_true rfl)) xleN xleN ?_
  refine X.if_eq (tgt := 22) dX4_party_10 (by decide) (fun c10 => ?_) (fun c10 => ?_)
  · have hf := if_t c10 hf
    refine X.iconst (v := 0) dX4_party_22 (by decide) ?_
    obtain rfl := Option.some.inj hf
    exact X.iret dX4_party_23 rfl rfl rfl
  · have hf := if_f c10 hf
    refine X.aload_n dX4_party_13 rfl 0 rfl ?_
    refine M.get (v := .ref (m0 + 1)) dX4_party_14 fX4_28 (Nat.le_of_ble_eq_true rfl) rfl ?_
    refine X.iload_n dX4_party_17 rfl 1 rfl ?_
    obtain ⟨v18, h18, hf⟩ := ob hf
    refine M.iald dX4_party_18 rfl h18 ?_
    refine X.goto (tgt := 23) dX4_party_19 (by decide) ?_
    obtain rfl := Option.some.inj hf
    exact X.iret dX4_party_23 rfl rfl rfl
/-! votes -/
abbrev cX4_votes : ByteArray := prog_12_method_75_code
def yX4_votes : MethodName := ⟨RX4, "votes", "(I)I"⟩
def dkwX4_votes_0 : List UInt8 := [42, 3, 181, 0, 115, 42, 27, 182, 1, 138, 153, 0, 12, 42, 3, 27, 182, 1, 114, 167, 0, 4, 3, 172]
abbrev dktX4_votes_0 : List UInt8 := dkwX4_votes_0 ++ []
theorem dksX4_votes_0 : cX4_votes.data.toList.drop 0 = dktX4_votes_0 := by decide +kernel
theorem dX4_votes_0 : decode cX4_votes 0 = .ok (.aload_n 0, 1) := dk_42 (dk_at dksX4_votes_0 0 rfl rfl)
theorem dX4_votes_1 : decode cX4_votes 1 = .ok (.iconst 0, 1) := dk_3 (dk_at dksX4_votes_0 1 rfl rfl)
theorem dX4_votes_2 : decode cX4_votes 2 = .ok (.putfield 115, 3) := dk_181 0 115 (dk_at dksX4_votes_0 2 rfl rfl)
theorem dX4_votes_5 : decode cX4_votes 5 = .ok (.aload_n 0, 1) := dk_42 (dk_at dksX4_votes_0 5 rfl rfl)
theorem dX4_votes_6 : decode cX4_votes 6 = .ok (.iload_n 1, 1) := dk_27 (dk_at dksX4_votes_0 6 rfl rfl)
theorem dX4_votes_7 : decode cX4_votes 7 = .ok (.invokevirtual 394, 3) := dk_182 1 138 (dk_at dksX4_votes_0 7 rfl rfl)
theorem dX4_votes_10 : decode cX4_votes 10 = .ok (.ifCond .eq 12, 3) := dk_153 0 12 (dk_at dksX4_votes_0 10 rfl rfl)
theorem dX4_votes_13 : decode cX4_votes 13 = .ok (.aload_n 0, 1) := dk_42 (dk_at dksX4_votes_0 13 rfl rfl)
theorem dX4_votes_14 : decode cX4_votes 14 = .ok (.iconst 0, 1) := dk_3 (dk_at dksX4_votes_0 14 rfl rfl)
theorem dX4_votes_15 : decode cX4_votes 15 = .ok (.iload_n 1, 1) := dk_27 (dk_at dksX4_votes_0 15 rfl rfl)
theorem dX4_votes_16 : decode cX4_votes 16 = .ok (.invokevirtual 370, 3) := dk_182 1 114 (dk_at dksX4_votes_0 16 rfl rfl)
theorem dX4_votes_19 : decode cX4_votes 19 = .ok (.goto 4, 3) := dk_167 0 4 (dk_at dksX4_votes_0 19 rfl rfl)
theorem dX4_votes_22 : decode cX4_votes 22 = .ok (.iconst 0, 1) := dk_3 (dk_at dksX4_votes_0 22 rfl rfl)
theorem dX4_votes_23 : decode cX4_votes 23 = .ok (.ireturn, 1) := dk_172 (dk_at dksX4_votes_0 23 rfl rfl)
abbrev mX4_votes : xM := (yX4_votes, cX4_votes, 2, (some .int), [])
def m_votes (x1 : Int32) (S : MS) : Option (Int32 × MS) :=
  (m_isParty x1 ((sF S 0 (0 : Int32)))).bind fun q7 =>
  if q7.1 = 0 then
    some ((0 : Int32), q7.2)
  else
    (m_votesOf ((0 : Int32)) x1 q7.2).bind fun q16 =>
    some (q16, q7.2)
theorem w_votes {G : xG} {m0 : Nat} {x1 : Int32} {S : MS} {q : (Int32 × MS)} (hf : m_votes x1 S = some q) : CtM G m0 mX4_votes 3 S [.ref m0, .int x1] (some (.int q.1)) q.2 := by
  intro h N Z
  refine Ct.of (by decide +kernel) rfl (Nat.le_of_ble_eq_true rfl) (show Xr G _ 0 [(0, .ref m0), (1, .int x1)] [] _ from ?_)
  unfold m_votes at hf
  refine X.aload_n dX4_votes_0 rfl 0 rfl ?_
  refine X.iconst (v := 0) dX4_votes_1 (by decide) ?_
  refine M.putI dX4_votes_2 fX4_115 (by decide) rfl rfl rfl ?_
  refine X.aload_n dX4_votes_5 rfl 0 rfl ?_
  refine X.iload_n dX4_votes_6 rfl 1 rfl ?_
  obtain ⟨q7, h7, hf⟩ := ob hf
  refine X.callVi (As := [.int x1]) (rest := []) (T2 := (mh m0 h q7.2, N, Z)) dX4_votes_7 (w_isParty h7 h N Z) cX4_394 rfl rfl (Nat.le_of_ble_eq_true rfl) mh_0 rfl rfl (xD (Nat.le_of_ble_eq_true rfl)) xleN xleN ?_
  refine X.if_eq (tgt := 22) dX4_votes_10 (by decide) (fun c10 => ?_) (fun c10 => ?_)
  · have hf := if_t c10 hf
    refine X.iconst (v := 0) dX4_votes_22 (by decide) ?_
    obtain rfl := Option.some.inj hf
    exact X.iret dX4_votes_23 rfl rfl rfl
  · have hf := if_f c10 hf
    refine X.aload_n dX4_votes_13 rfl 0 rfl ?_
    refine X.iconst (v := 0) dX4_votes_14 (by decide) ?_
    refine X.iload_n dX4_votes_15 rfl 1 rfl ?_
    obtain ⟨q16, h16, hf⟩ := ob hf
    refine X.callVi (As := [.int (0 : Int32), .int x1]) (rest := []) dX4_votes_16 (w_votesOf h16 h N Z) cX4_370 rfl rfl (Nat.le_of_ble_eq_true rfl) mh_0 rfl rfl (xD (Nat.le_of_ble_eq_true rfl)) xleN xleN ?_
    refine X.goto (tgt := 23) dX4_votes_19 (by decide) ?_
    obtain rfl := Option.some.inj hf
    exact X.iret dX4_votes_23 rfl rfl rfl
/-! days -/
abbrev cX4_days : ByteArray := prog_12_method_76_code
def yX4_days : MethodName := ⟨RX4, "days", "(I)I"⟩
def dkwX4_days_2 : List UInt8 := [3, 182, 1, 107, 132, 2, 1, 167, 255, 243, 42, 180, 0, 69, 3, 46, 172]
abbrev dktX4_days_2 : List UInt8 := dkwX4_days_2 ++ []
def dkwX4_days_1 : List UInt8 := [17, 3, 231, 164, 0, 9, 42, 4, 182, 1, 141, 172, 42, 182, 1, 144, 3, 61, 28, 27, 162, 0, 14, 42]
abbrev dktX4_days_1 : List UInt8 := dkwX4_days_1 ++ dktX4_days_2
def dkwX4_days_0 : List UInt8 := [42, 3, 181, 0, 115, 27, 4, 16, 20, 184, 1, 117, 153, 0, 17, 42, 180, 0, 69, 3, 46, 27, 96]
abbrev dktX4_days_0 : List UInt8 := dkwX4_days_0 ++ dktX4_days_1
theorem dksX4_days_0 : cX4_days.data.toList.drop 0 = dktX4_days_0 := by decide +kernel
theorem dksX4_days_1 : cX4_days.data.toList.drop 23 = dktX4_days_1 := dk_seg dksX4_days_0 23 rfl rfl
theorem dksX4_days_2 : cX4_days.data.toList.drop 47 = dktX4_days_2 := dk_seg dksX4_days_1 24 rfl rfl
theorem dX4_days_0 : decode cX4_days 0 = .ok (.aload_n 0, 1) := dk_42 (dk_at dksX4_days_0 0 rfl rfl)
theorem dX4_days_1 : decode cX4_days 1 = .ok (.iconst 0, 1) := dk_3 (dk_at dksX4_days_0 1 rfl rfl)
theorem dX4_days_2 : decode cX4_days 2 = .ok (.putfield 115, 3) := dk_181 0 115 (dk_at dksX4_days_0 2 rfl rfl)
theorem dX4_days_5 : decode cX4_days 5 = .ok (.iload_n 1, 1) := dk_27 (dk_at dksX4_days_0 5 rfl rfl)
theorem dX4_days_6 : decode cX4_days 6 = .ok (.iconst 1, 1) := dk_4 (dk_at dksX4_days_0 6 rfl rfl)
theorem dX4_days_7 : decode cX4_days 7 = .ok (.bipush 20, 2) := dk_16 20 (dk_at dksX4_days_0 7 rfl rfl)
theorem dX4_days_9 : decode cX4_days 9 = .ok (.invokestatic 373, 3) := dk_184 1 117 (dk_at dksX4_days_0 9 rfl rfl)
theorem dX4_days_12 : decode cX4_days 12 = .ok (.ifCond .eq 17, 3) := dk_153 0 17 (dk_at dksX4_days_0 12 rfl rfl)
theorem dX4_days_15 : decode cX4_days 15 = .ok (.aload_n 0, 1) := dk_42 (dk_at dksX4_days_0 15 rfl rfl)
theorem dX4_days_16 : decode cX4_days 16 = .ok (.getfield 69, 3) := dk_180 0 69 (dk_at dksX4_days_0 16 rfl rfl)
theorem dX4_days_19 : decode cX4_days 19 = .ok (.iconst 0, 1) := dk_3 (dk_at dksX4_days_0 19 rfl rfl)
theorem dX4_days_20 : decode cX4_days 20 = .ok (.iaload, 1) := dk_46 (dk_at dksX4_days_0 20 rfl rfl)
theorem dX4_days_21 : decode cX4_days 21 = .ok (.iload_n 1, 1) := dk_27 (dk_at dksX4_days_0 21 rfl rfl)
theorem dX4_days_22 : decode cX4_days 22 = .ok (.iadd, 1) := dk_96 (dk_at dksX4_days_0 22 rfl rfl)
theorem dX4_days_23 : decode cX4_days 23 = .ok (.sipush 999, 3) := dk_17 3 231 (dk_at dksX4_days_1 0 rfl rfl)
theorem dX4_days_26 : decode cX4_days 26 = .ok (.if_icmp .le 9, 3) := dk_164 0 9 (dk_at dksX4_days_1 3 rfl rfl)
theorem dX4_days_29 : decode cX4_days 29 = .ok (.aload_n 0, 1) := dk_42 (dk_at dksX4_days_1 6 rfl rfl)
theorem dX4_days_30 : decode cX4_days 30 = .ok (.iconst 1, 1) := dk_4 (dk_at dksX4_days_1 7 rfl rfl)
theorem dX4_days_31 : decode cX4_days 31 = .ok (.invokevirtual 397, 3) := dk_182 1 141 (dk_at dksX4_days_1 8 rfl rfl)
theorem dX4_days_34 : decode cX4_days 34 = .ok (.ireturn, 1) := dk_172 (dk_at dksX4_days_1 11 rfl rfl)
theorem dX4_days_35 : decode cX4_days 35 = .ok (.aload_n 0, 1) := dk_42 (dk_at dksX4_days_1 12 rfl rfl)
theorem dX4_days_36 : decode cX4_days 36 = .ok (.invokevirtual 400, 3) := dk_182 1 144 (dk_at dksX4_days_1 13 rfl rfl)
theorem dX4_days_39 : decode cX4_days 39 = .ok (.iconst 0, 1) := dk_3 (dk_at dksX4_days_1 16 rfl rfl)
theorem dX4_days_40 : decode cX4_days 40 = .ok (.istore_n 2, 1) := dk_61 (dk_at dksX4_days_1 17 rfl rfl)
theorem dX4_days_41 : decode cX4_days 41 = .ok (.iload_n 2, 1) := dk_28 (dk_at dksX4_days_1 18 rfl rfl)
theorem dX4_days_42 : decode cX4_days 42 = .ok (.iload_n 1, 1) := dk_27 (dk_at dksX4_days_1 19 rfl rfl)
theorem dX4_days_43 : decode cX4_days 43 = .ok (.if_icmp .ge 14, 3) := dk_162 0 14 (dk_at dksX4_days_1 20 rfl rfl)
theorem dX4_days_46 : decode cX4_days 46 = .ok (.aload_n 0, 1) := dk_42 (dk_at dksX4_days_1 23 rfl rfl)
theorem dX4_days_47 : decode cX4_days 47 = .ok (.iconst 0, 1) := dk_3 (dk_at dksX4_days_2 0 rfl rfl)
theorem dX4_days_48 : decode cX4_days 48 = .ok (.invokevirtual 363, 3) := dk_182 1 107 (dk_at dksX4_days_2 1 rfl rfl)
theorem dX4_days_51 : decode cX4_days 51 = .ok (.iinc 2 1, 3) := dk_132 2 1 (dk_at dksX4_days_2 4 rfl rfl)
theorem dX4_days_54 : decode cX4_days 54 = .ok (.goto (-13), 3) := dk_167 255 243 (dk_at dksX4_days_2 7 rfl rfl)
theorem dX4_days_57 : decode cX4_days 57 = .ok (.aload_n 0, 1) := dk_42 (dk_at dksX4_days_2 10 rfl rfl)
theorem dX4_days_58 : decode cX4_days 58 = .ok (.getfield 69, 3) := dk_180 0 69 (dk_at dksX4_days_2 11 rfl rfl)
theorem dX4_days_61 : decode cX4_days 61 = .ok (.iconst 0, 1) := dk_3 (dk_at dksX4_days_2 14 rfl rfl)
theorem dX4_days_62 : decode cX4_days 62 = .ok (.iaload, 1) := dk_46 (dk_at dksX4_days_2 15 rfl rfl)
theorem dX4_days_63 : decode cX4_days 63 = .ok (.ireturn, 1) := dk_172 (dk_at dksX4_days_2 16 rfl rfl)
abbrev mX4_days : xM := (yX4_days, cX4_days, 3, (some .int), [])
def m_days_29  (S : MS) : Option (Int32 × MS) :=
  (m_refuses ((1 : Int32)) S).bind fun q31 =>
  some (q31.1, q31.2)
theorem m_days_29_ok {G : xG} {m0 : Nat} {S0 : MS}   (S : MS) (q : (Int32 × MS)) (hf : m_days_29 S = some q) : XM G m0 mX4_days 6 S0 (some (.int q.1)) q.2 29 [(0, .ref m0)] [] S := by
  intro h N Z
  unfold m_days_29 at hf
  refine X.aload_n dX4_days_29 rfl 0 rfl ?_
  refine X.iconst (v := 1) dX4_days_30 (by decide) ?_
  obtain ⟨q31, h31, hf⟩ := ob hf
  refine X.callVi (As := [.int (1 : Int32)]) (rest := []) (T2 := (mh m0 h q31.2, N, Z)) dX4_days_31 (w_refuses h31 h N Z) cX4_397 rfl rfl (Nat.le_of_ble_eq_true rfl) mh_0 rfl rfl (xD (Nat.le_of_ble_eq_true rfl)) xleN xleN ?_
  obtain rfl := Option.some.inj hf
  exact X.iret dX4_days_34 rfl rfl rfl
def m_days_41_b  (k41 : Int32 → Int32 → MS → Option (Int32 × MS)) (x1 : Int32) (x2 : Int32) (S : MS) : Option (Int32 × MS) :=
  if x1 ≤ x2 then
    (rdA S 13 (0 : Int32)).bind fun v62 =>
    some (v62, S)
  else
    (m_dayGoes ((0 : Int32)) S).bind fun q48 =>
    k41 x1 ((x2 + 1)) q48
def m_days_41  : Nat → Int32 → Int32 → MS → Option (Int32 × MS)
  | 0 => fun _ _ _ => none
  | n + 1 => fun x1 x2 S => m_days_41_b (m_days_41 n) x1 x2 S
theorem m_days_41_bok {G : xG} {m0 : Nat} {S0 : MS}  {k41 : Int32 → Int32 → MS → Option (Int32 × MS)}  (hk41 : ∀ (x1 : Int32) (x2 : Int32) (S : MS) (q : (Int32 × MS)), k41 x1 x2 S = some q → XM G m0 mX4_days 6 S0 (some (.int q.1)) q.2 41 [(0, .ref m0), (1, .int x1), (2, .int x2)] [] S) (x1 : Int32) (x2 : Int32) (S : MS) (q : (Int32 × MS)) (hf : m_days_41_b k41 x1 x2 S = some q) : XM G m0 mX4_days 6 S0 (some (.int q.1)) q.2 41 [(0, .ref m0), (1, .int x1), (2, .int x2)] [] S := by
  intro h N Z
  unfold m_days_41_b at hf
  refine X.iload_n dX4_days_41 rfl 2 rfl ?_
  refine X.iload_n dX4_days_42 rfl 1 rfl ?_
  refine X.icmp_ge (tgt := 57) dX4_days_43 (by decide) (fun c43 => ?_) (fun c43 => ?_)
  · have hf := if_t c43 hf
    refine X.aload_n dX4_days_57 rfl 0 rfl ?_
    refine M.get (v := .ref (m0 + 13)) dX4_days_58 fX4_69 (Nat.le_of_ble_eq_true rfl) rfl ?_
    refine X.iconst (v := 0) dX4_days_61 (by decide) ?_
    obtain ⟨v62, h62, hf⟩ := ob hf
    refine M.iald dX4_days_62 rfl h62 ?_
    obtain rfl := Option.some.inj hf
    exact X.iret dX4_days_63 rfl rfl rfl
  · have hf := if_f c43 hf
    refine X.aload_n dX4_days_46 rfl 0 rfl ?_
    refine X.iconst (v := 0) dX4_days_47 (by decide) ?_
    obtain ⟨q48, h48, hf⟩ := ob hf
    refine X.callVv (As := [.int (0 : Int32)]) (rest := []) (T2 := (mh m0 h q48, N, Z)) dX4_days_48 (w_dayGoes h48 h N Z) cX4_363 rfl rfl (Nat.le_of_ble_eq_true rfl) mh_0 rfl rfl (xD (Nat.le_of_ble_eq_true rfl)) xleN xleN ?_
    refine X.iinc (v := (x2 + 1)) (L' := [(2, .int (x2 + 1)), (0, .ref m0), (1, .int x1)]) dX4_days_51 2 rfl rfl (Nat.le_of_ble_eq_true rfl) rfl ?_
    refine X.goto (tgt := 41) dX4_days_54 (by decide) ?_
    refine X.sub [1, 2, 0] (L' := [(0, .ref m0), (1, .int x1), (2, .int (x2 + 1))]) rfl ?_
    exact hk41 _ _ _ _ hf h N Z
theorem m_days_41_ok {G : xG} {m0 : Nat} {S0 : MS}   : ∀ (n : Nat) (x1 : Int32) (x2 : Int32) (S : MS) (q : (Int32 × MS)), m_days_41 n x1 x2 S = some q → XM G m0 mX4_days 6 S0 (some (.int q.1)) q.2 41 [(0, .ref m0), (1, .int x1), (2, .int x2)] [] S
  | 0, _, _, _, _, hf => by cases hf
  | n + 1, x1, x2, S, q, hf => m_days_41_bok (m_days_41_ok n) x1 x2 S q hf
def m_days (x1 : Int32) (S : MS) : Option (Int32 × MS) :=
  (m_within x1 ((1 : Int32)) ((20 : Int32))).bind fun q9 =>
  if q9 = 0 then
    m_days_29 ((sF S 0 (0 : Int32)))
  else
    (rdA ((sF S 0 (0 : Int32))) 13 (0 : Int32)).bind fun v20 =>
    if (v20 + x1) ≤ (999 : Int32) then
      (m_keeps ((sF S 0 (0 : Int32)))).bind fun q36 =>
      m_days_41 FU x1 ((0 : Int32)) q36
    else
      m_days_29 ((sF S 0 (0 : Int32)))
theorem w_days {G : xG} {m0 : Nat} {x1 : Int32} {S : MS} {q : (Int32 × MS)} (hf : m_days x1 S = some q) : CtM G m0 mX4_days 6 S [.ref m0, .int x1] (some (.int q.1)) q.2 := by
  intro h N Z
  refine Ct.of (by decide +kernel) rfl (Nat.le_of_ble_eq_true rfl) (show Xr G _ 0 [(0, .ref m0), (1, .int x1)] [] _ from ?_)
  unfold m_days at hf
  refine X.aload_n dX4_days_0 rfl 0 rfl ?_
  refine X.iconst (v := 0) dX4_days_1 (by decide) ?_
  refine M.putI dX4_days_2 fX4_115 (by decide) rfl rfl rfl ?_
  refine X.iload_n dX4_days_5 rfl 1 rfl ?_
  refine X.iconst (v := 1) dX4_days_6 (by decide) ?_
  refine X.bipush (v := 20) dX4_days_7 (by decide) ?_
  obtain ⟨q9, h9, hf⟩ := ob hf
  refine X.callSi (As := [.int x1, .int (1 : Int32), .int (20 : Int32)]) (rest := []) dX4_days_9 (w_within h9 _) cX4_373 rfl rfl (Nat.le_of_ble_eq_true rfl) (xD (Nat.le_of_ble_eq_true rfl)) xle.rf xleN ?_
  refine X.if_eq (tgt := 29) dX4_days_12 (by decide) (fun c12 => ?_) (fun c12 => ?_)
  · have hf := if_t c12 hf
    refine X.sub [0] (L' := [(0, .ref m0)]) rfl ?_
    exact m_days_29_ok _ _ hf h N Z
  · have hf := if_f c12 hf
    refine X.aload_n dX4_days_15 rfl 0 rfl ?_
    refine M.get (v := .ref (m0 + 13)) dX4_days_16 fX4_69 (Nat.le_of_ble_eq_true rfl) rfl ?_
    refine X.iconst (v := 0) dX4_days_19 (by decide) ?_
    obtain ⟨v20, h20, hf⟩ := ob hf
    refine M.iald dX4_days_20 rfl h20 ?_
    refine X.iload_n dX4_days_21 rfl 1 rfl ?_
    refine X.iadd dX4_days_22 ?_
    refine X.sipush (v := 999) dX4_days_23 (by decide) ?_
    refine X.icmp_le (tgt := 35) dX4_days_26 (by decide) (fun c26 => ?_) (fun c26 => ?_)
    · have hf := if_t c26 hf
      refine X.aload_n dX4_days_35 rfl 0 rfl ?_
      obtain ⟨q36, h36, hf⟩ := ob hf
      refine X.callVv (As := []) (rest := []) (T2 := (mh m0 h q36, N, Z)) dX4_days_36 (w_keeps h36 h N Z) cX4_400 rfl rfl (Nat.le_of_ble_eq_true rfl) mh_0 rfl rfl (xD (Nat.le_of_ble_eq_true rfl)) xleN xleN ?_
      refine X.iconst (v := 0) dX4_days_39 (by decide) ?_
      refine X.istore_n (L' := [(2, .int (0 : Int32)), (0, .ref m0), (1, .int x1)]) dX4_days_40 rfl (Nat.le_of_ble_eq_true rfl) rfl ?_
      refine X.sub [1, 2, 0] (L' := [(0, .ref m0), (1, .int x1), (2, .int (0 : Int32))]) rfl ?_
      exact m_days_41_ok FU _ _ _ _ hf h N Z
    · have hf := if_f c26 hf
      refine X.sub [0] (L' := [(0, .ref m0)]) rfl ?_
      exact m_days_29_ok _ _ hf h N Z
/-! bread -/
abbrev cX4_bread : ByteArray := prog_12_method_77_code
def yX4_bread : MethodName := ⟨RX4, "bread", "(II)I"⟩
def dkwX4_bread_2 : List UInt8 := [180, 0, 69, 16, 31, 27, 96, 46, 28, 96, 184, 1, 84, 79, 42, 180, 0, 69, 16, 31, 27, 96, 46, 172]
abbrev dktX4_bread_2 : List UInt8 := dkwX4_bread_2 ++ []
def dkwX4_bread_1 : List UInt8 := [154, 0, 9, 42, 4, 182, 1, 141, 172, 42, 182, 1, 144, 42, 180, 0, 69, 16, 31, 27, 96, 16, 99, 42]
abbrev dktX4_bread_1 : List UInt8 := dkwX4_bread_1 ++ dktX4_bread_2
def dkwX4_bread_0 : List UInt8 := [42, 3, 181, 0, 115, 42, 27, 182, 1, 129, 154, 0, 5, 3, 172, 28, 4, 16, 50, 184, 1, 117]
abbrev dktX4_bread_0 : List UInt8 := dkwX4_bread_0 ++ dktX4_bread_1
theorem dksX4_bread_0 : cX4_bread.data.toList.drop 0 = dktX4_bread_0 := by decide +kernel
theorem dksX4_bread_1 : cX4_bread.data.toList.drop 22 = dktX4_bread_1 := dk_seg dksX4_bread_0 22 rfl rfl
theorem dksX4_bread_2 : cX4_bread.data.toList.drop 46 = dktX4_bread_2 := dk_seg dksX4_bread_1 24 rfl rfl
theorem dX4_bread_0 : decode cX4_bread 0 = .ok (.aload_n 0, 1) := dk_42 (dk_at dksX4_bread_0 0 rfl rfl)
theorem dX4_bread_1 : decode cX4_bread 1 = .ok (.iconst 0, 1) := dk_3 (dk_at dksX4_bread_0 1 rfl rfl)
theorem dX4_bread_2 : decode cX4_bread 2 = .ok (.putfield 115, 3) := dk_181 0 115 (dk_at dksX4_bread_0 2 rfl rfl)
theorem dX4_bread_5 : decode cX4_bread 5 = .ok (.aload_n 0, 1) := dk_42 (dk_at dksX4_bread_0 5 rfl rfl)
theorem dX4_bread_6 : decode cX4_bread 6 = .ok (.iload_n 1, 1) := dk_27 (dk_at dksX4_bread_0 6 rfl rfl)
theorem dX4_bread_7 : decode cX4_bread 7 = .ok (.invokevirtual 385, 3) := dk_182 1 129 (dk_at dksX4_bread_0 7 rfl rfl)
theorem dX4_bread_10 : decode cX4_bread 10 = .ok (.ifCond .ne 5, 3) := dk_154 0 5 (dk_at dksX4_bread_0 10 rfl rfl)
theorem dX4_bread_13 : decode cX4_bread 13 = .ok (.iconst 0, 1) := dk_3 (dk_at dksX4_bread_0 13 rfl rfl)
theorem dX4_bread_14 : decode cX4_bread 14 = .ok (.ireturn, 1) := dk_172 (dk_at dksX4_bread_0 14 rfl rfl)
theorem dX4_bread_15 : decode cX4_bread 15 = .ok (.iload_n 2, 1) := dk_28 (dk_at dksX4_bread_0 15 rfl rfl)
theorem dX4_bread_16 : decode cX4_bread 16 = .ok (.iconst 1, 1) := dk_4 (dk_at dksX4_bread_0 16 rfl rfl)
theorem dX4_bread_17 : decode cX4_bread 17 = .ok (.bipush 50, 2) := dk_16 50 (dk_at dksX4_bread_0 17 rfl rfl)
theorem dX4_bread_19 : decode cX4_bread 19 = .ok (.invokestatic 373, 3) := dk_184 1 117 (dk_at dksX4_bread_0 19 rfl rfl)
theorem dX4_bread_22 : decode cX4_bread 22 = .ok (.ifCond .ne 9, 3) := dk_154 0 9 (dk_at dksX4_bread_1 0 rfl rfl)
theorem dX4_bread_25 : decode cX4_bread 25 = .ok (.aload_n 0, 1) := dk_42 (dk_at dksX4_bread_1 3 rfl rfl)
theorem dX4_bread_26 : decode cX4_bread 26 = .ok (.iconst 1, 1) := dk_4 (dk_at dksX4_bread_1 4 rfl rfl)
theorem dX4_bread_27 : decode cX4_bread 27 = .ok (.invokevirtual 397, 3) := dk_182 1 141 (dk_at dksX4_bread_1 5 rfl rfl)
theorem dX4_bread_30 : decode cX4_bread 30 = .ok (.ireturn, 1) := dk_172 (dk_at dksX4_bread_1 8 rfl rfl)
theorem dX4_bread_31 : decode cX4_bread 31 = .ok (.aload_n 0, 1) := dk_42 (dk_at dksX4_bread_1 9 rfl rfl)
theorem dX4_bread_32 : decode cX4_bread 32 = .ok (.invokevirtual 400, 3) := dk_182 1 144 (dk_at dksX4_bread_1 10 rfl rfl)
theorem dX4_bread_35 : decode cX4_bread 35 = .ok (.aload_n 0, 1) := dk_42 (dk_at dksX4_bread_1 13 rfl rfl)
theorem dX4_bread_36 : decode cX4_bread 36 = .ok (.getfield 69, 3) := dk_180 0 69 (dk_at dksX4_bread_1 14 rfl rfl)
theorem dX4_bread_39 : decode cX4_bread 39 = .ok (.bipush 31, 2) := dk_16 31 (dk_at dksX4_bread_1 17 rfl rfl)
theorem dX4_bread_41 : decode cX4_bread 41 = .ok (.iload_n 1, 1) := dk_27 (dk_at dksX4_bread_1 19 rfl rfl)
theorem dX4_bread_42 : decode cX4_bread 42 = .ok (.iadd, 1) := dk_96 (dk_at dksX4_bread_1 20 rfl rfl)
theorem dX4_bread_43 : decode cX4_bread 43 = .ok (.bipush 99, 2) := dk_16 99 (dk_at dksX4_bread_1 21 rfl rfl)
theorem dX4_bread_45 : decode cX4_bread 45 = .ok (.aload_n 0, 1) := dk_42 (dk_at dksX4_bread_1 23 rfl rfl)
theorem dX4_bread_46 : decode cX4_bread 46 = .ok (.getfield 69, 3) := dk_180 0 69 (dk_at dksX4_bread_2 0 rfl rfl)
theorem dX4_bread_49 : decode cX4_bread 49 = .ok (.bipush 31, 2) := dk_16 31 (dk_at dksX4_bread_2 3 rfl rfl)
theorem dX4_bread_51 : decode cX4_bread 51 = .ok (.iload_n 1, 1) := dk_27 (dk_at dksX4_bread_2 5 rfl rfl)
theorem dX4_bread_52 : decode cX4_bread 52 = .ok (.iadd, 1) := dk_96 (dk_at dksX4_bread_2 6 rfl rfl)
theorem dX4_bread_53 : decode cX4_bread 53 = .ok (.iaload, 1) := dk_46 (dk_at dksX4_bread_2 7 rfl rfl)
theorem dX4_bread_54 : decode cX4_bread 54 = .ok (.iload_n 2, 1) := dk_28 (dk_at dksX4_bread_2 8 rfl rfl)
theorem dX4_bread_55 : decode cX4_bread 55 = .ok (.iadd, 1) := dk_96 (dk_at dksX4_bread_2 9 rfl rfl)
theorem dX4_bread_56 : decode cX4_bread 56 = .ok (.invokestatic 340, 3) := dk_184 1 84 (dk_at dksX4_bread_2 10 rfl rfl)
theorem dX4_bread_59 : decode cX4_bread 59 = .ok (.iastore, 1) := dk_79 (dk_at dksX4_bread_2 13 rfl rfl)
theorem dX4_bread_60 : decode cX4_bread 60 = .ok (.aload_n 0, 1) := dk_42 (dk_at dksX4_bread_2 14 rfl rfl)
theorem dX4_bread_61 : decode cX4_bread 61 = .ok (.getfield 69, 3) := dk_180 0 69 (dk_at dksX4_bread_2 15 rfl rfl)
theorem dX4_bread_64 : decode cX4_bread 64 = .ok (.bipush 31, 2) := dk_16 31 (dk_at dksX4_bread_2 18 rfl rfl)
theorem dX4_bread_66 : decode cX4_bread 66 = .ok (.iload_n 1, 1) := dk_27 (dk_at dksX4_bread_2 20 rfl rfl)
theorem dX4_bread_67 : decode cX4_bread 67 = .ok (.iadd, 1) := dk_96 (dk_at dksX4_bread_2 21 rfl rfl)
theorem dX4_bread_68 : decode cX4_bread 68 = .ok (.iaload, 1) := dk_46 (dk_at dksX4_bread_2 22 rfl rfl)
theorem dX4_bread_69 : decode cX4_bread 69 = .ok (.ireturn, 1) := dk_172 (dk_at dksX4_bread_2 23 rfl rfl)
abbrev mX4_bread : xM := (yX4_bread, cX4_bread, 3, (some .int), [])
def m_bread (x1 : Int32) (x2 : Int32) (S : MS) : Option (Int32 × MS) :=
  (m_isTheCell x1 ((sF S 0 (0 : Int32)))).bind fun q7 =>
  if q7.1 = 0 then
    some ((0 : Int32), q7.2)
  else
    (m_within x2 ((1 : Int32)) ((50 : Int32))).bind fun q19 =>
    if q19 = 0 then
      (m_refuses ((1 : Int32)) q7.2).bind fun q27 =>
      some (q27.1, q27.2)
    else
      (m_keeps q7.2).bind fun q32 =>
      (rdA q32 13 ((31 : Int32) + x1)).bind fun v53 =>
      (m_lesser ((99 : Int32)) ((v53 + x2))).bind fun q56 =>
      (wrA q32 13 ((31 : Int32) + x1) q56).bind fun S59 =>
      (rdA S59 13 ((31 : Int32) + x1)).bind fun v68 =>
      some (v68, S59)
theorem w_bread {G : xG} {m0 : Nat} {x1 : Int32} {x2 : Int32} {S : MS} {q : (Int32 × MS)} (hf : m_bread x1 x2 S = some q) : CtM G m0 mX4_bread 3 S [.ref m0, .int x1, .int x2] (some (.int q.1)) q.2 := by
  intro h N Z
  refine Ct.of (by decide +kernel) rfl (Nat.le_of_ble_eq_true rfl) (show Xr G _ 0 [(0, .ref m0), (1, .int x1), (2, .int x2)] [] _ from ?_)
  unfold m_bread at hf
  refine X.aload_n dX4_bread_0 rfl 0 rfl ?_
  refine X.iconst (v := 0) dX4_bread_1 (by decide) ?_
  refine M.putI dX4_bread_2 fX4_115 (by decide) rfl rfl rfl ?_
  refine X.aload_n dX4_bread_5 rfl 0 rfl ?_
  refine X.iload_n dX4_bread_6 rfl 1 rfl ?_
  obtain ⟨q7, h7, hf⟩ := ob hf
  refine X.callVi (As := [.int x1]) (rest := []) (T2 := (mh m0 h q7.2, N, Z)) dX4_bread_7 (w_isTheCell h7 h N Z) cX4_385 rfl rfl (Nat.le_of_ble_eq_true rfl) mh_0 rfl rfl (xD (Nat.le_of_ble_eq_true rfl)) xleN xleN ?_
  refine X.if_ne (tgt := 15) dX4_bread_10 (by decide) (fun c10 => ?_) (fun c10 => ?_)
  · have hf := if_f c10 hf
    refine X.iload_n dX4_bread_15 rfl 2 rfl ?_
    refine X.iconst (v := 1) dX4_bread_16 (by decide) ?_
    refine X.bipush (v := 50) dX4_bread_17 (by decide) ?_
    obtain ⟨q19, h19, hf⟩ := ob hf
    refine X.callSi (As := [.int x2, .int (1 : Int32), .int (50 : Int32)]) (rest := []) dX4_bread_19 (w_within h19 _) cX4_373 rfl rfl (Nat.le_of_ble_eq_true rfl) (xD (Nat.le_of_ble_eq_true rfl)) xle.rf xleN ?_
    refine X.if_ne (tgt := 31) dX4_bread_22 (by decide) (fun c22 => ?_) (fun c22 => ?_)
    · have hf := if_f c22 hf
      refine X.aload_n dX4_bread_31 rfl 0 rfl ?_
      obtain ⟨q32, h32, hf⟩ := ob hf
      refine X.callVv (As := []) (rest := []) (T2 := (mh m0 h q32, N, Z)) dX4_bread_32 (w_keeps h32 h N Z) cX4_400 rfl rfl (Nat.le_of_ble_eq_true rfl) mh_0 rfl rfl (xD (Nat.le_of_ble_eq_true rfl)) xleN xleN ?_
      refine X.aload_n dX4_bread_35 rfl 0 rfl ?_
      refine M.get (v := .ref (m0 + 13)) dX4_bread_36 fX4_69 (Nat.le_of_ble_eq_true rfl) rfl ?_
      refine X.bipush (v := 31) dX4_bread_39 (by decide) ?_
      refine X.iload_n dX4_bread_41 rfl 1 rfl ?_
      refine X.iadd dX4_bread_42 ?_
      refine X.bipush (v := 99) dX4_bread_43 (by decide) ?_
      refine X.aload_n dX4_bread_45 rfl 0 rfl ?_
      refine M.get (v := .ref (m0 + 13)) dX4_bread_46 fX4_69 (Nat.le_of_ble_eq_true rfl) rfl ?_
      refine X.bipush (v := 31) dX4_bread_49 (by decide) ?_
      refine X.iload_n dX4_bread_51 rfl 1 rfl ?_
      refine X.iadd dX4_bread_52 ?_
      obtain ⟨v53, h53, hf⟩ := ob hf
      refine M.iald dX4_bread_53 rfl h53 ?_
      refine X.iload_n dX4_bread_54 rfl 2 rfl ?_
      refine X.iadd dX4_bread_55 ?_
      obtain ⟨q56, h56, hf⟩ := ob hf
      refine X.callSi (As := [.int (99 : Int32), .int (v53 + x2)]) (rest := [.int ((31 : Int32) + x1), .ref (m0 + 13)]) dX4_bread_56 (w_lesser h56 _) cX4_340 rfl rfl (Nat.le_of_ble_eq_true rfl) (xD (Nat.le_of_ble_eq_true rfl)) xle.rf xleN ?_
      obtain ⟨S59, h59, hf⟩ := ob hf
      refine M.iast dX4_bread_59 rfl h59 ?_
      refine X.aload_n dX4_bread_60 rfl 0 rfl ?_
      refine M.get (v := .ref (m0 + 13)) dX4_bread_61 fX4_69 (Nat.le_of_ble_eq_true rfl) rfl ?_
      refine X.bipush (v := 31) dX4_bread_64 (by decide) ?_
      refine X.iload_n dX4_bread_66 rfl 1 rfl ?_
      refine X.iadd dX4_bread_67 ?_
      obtain ⟨v68, h68, hf⟩ := ob hf
      refine M.iald dX4_bread_68 rfl h68 ?_
      obtain rfl := Option.some.inj hf
      exact X.iret dX4_bread_69 rfl rfl rfl
    · have hf := if_t c22 hf
      refine X.aload_n dX4_bread_25 rfl 0 rfl ?_
      refine X.iconst (v := 1) dX4_bread_26 (by decide) ?_
      obtain ⟨q27, h27, hf⟩ := ob hf
      refine X.callVi (As := [.int (1 : Int32)]) (rest := []) (T2 := (mh m0 h q27.2, N, Z)) dX4_bread_27 (w_refuses h27 h N Z) cX4_397 rfl rfl (Nat.le_of_ble_eq_true rfl) mh_0 rfl rfl (xD (Nat.le_of_ble_eq_true rfl)) xleN xleN ?_
      obtain rfl := Option.some.inj hf
      exact X.iret dX4_bread_30 rfl rfl rfl
  · have hf := if_t c10 hf
    refine X.iconst (v := 0) dX4_bread_13 (by decide) ?_
    obtain rfl := Option.some.inj hf
    exact X.iret dX4_bread_14 rfl rfl rfl
/-! damp -/
abbrev cX4_damp : ByteArray := prog_12_method_78_code
def yX4_damp : MethodName := ⟨RX4, "damp", "(II)I"⟩
def dkwX4_damp_2 : List UInt8 := [180, 0, 69, 4, 27, 96, 28, 79, 29, 172]
abbrev dktX4_damp_2 : List UInt8 := dkwX4_damp_2 ++ []
def dkwX4_damp_1 : List UInt8 := [154, 0, 9, 42, 4, 182, 1, 141, 172, 42, 182, 1, 144, 42, 180, 0, 69, 4, 27, 96, 46, 62, 42]
abbrev dktX4_damp_1 : List UInt8 := dkwX4_damp_1 ++ dktX4_damp_2
def dkwX4_damp_0 : List UInt8 := [42, 3, 181, 0, 115, 42, 27, 182, 1, 129, 154, 0, 5, 3, 172, 28, 3, 16, 9, 184, 1, 117]
abbrev dktX4_damp_0 : List UInt8 := dkwX4_damp_0 ++ dktX4_damp_1
theorem dksX4_damp_0 : cX4_damp.data.toList.drop 0 = dktX4_damp_0 := by decide +kernel
theorem dksX4_damp_1 : cX4_damp.data.toList.drop 22 = dktX4_damp_1 := dk_seg dksX4_damp_0 22 rfl rfl
theorem dksX4_damp_2 : cX4_damp.data.toList.drop 45 = dktX4_damp_2 := dk_seg dksX4_damp_1 23 rfl rfl
theorem dX4_damp_0 : decode cX4_damp 0 = .ok (.aload_n 0, 1) := dk_42 (dk_at dksX4_damp_0 0 rfl rfl)
theorem dX4_damp_1 : decode cX4_damp 1 = .ok (.iconst 0, 1) := dk_3 (dk_at dksX4_damp_0 1 rfl rfl)
theorem dX4_damp_2 : decode cX4_damp 2 = .ok (.putfield 115, 3) := dk_181 0 115 (dk_at dksX4_damp_0 2 rfl rfl)
theorem dX4_damp_5 : decode cX4_damp 5 = .ok (.aload_n 0, 1) := dk_42 (dk_at dksX4_damp_0 5 rfl rfl)
theorem dX4_damp_6 : decode cX4_damp 6 = .ok (.iload_n 1, 1) := dk_27 (dk_at dksX4_damp_0 6 rfl rfl)
theorem dX4_damp_7 : decode cX4_damp 7 = .ok (.invokevirtual 385, 3) := dk_182 1 129 (dk_at dksX4_damp_0 7 rfl rfl)
theorem dX4_damp_10 : decode cX4_damp 10 = .ok (.ifCond .ne 5, 3) := dk_154 0 5 (dk_at dksX4_damp_0 10 rfl rfl)
theorem dX4_damp_13 : decode cX4_damp 13 = .ok (.iconst 0, 1) := dk_3 (dk_at dksX4_damp_0 13 rfl rfl)
theorem dX4_damp_14 : decode cX4_damp 14 = .ok (.ireturn, 1) := dk_172 (dk_at dksX4_damp_0 14 rfl rfl)
theorem dX4_damp_15 : decode cX4_damp 15 = .ok (.iload_n 2, 1) := dk_28 (dk_at dksX4_damp_0 15 rfl rfl)
theorem dX4_damp_16 : decode cX4_damp 16 = .ok (.iconst 0, 1) := dk_3 (dk_at dksX4_damp_0 16 rfl rfl)
theorem dX4_damp_17 : decode cX4_damp 17 = .ok (.bipush 9, 2) := dk_16 9 (dk_at dksX4_damp_0 17 rfl rfl)
theorem dX4_damp_19 : decode cX4_damp 19 = .ok (.invokestatic 373, 3) := dk_184 1 117 (dk_at dksX4_damp_0 19 rfl rfl)
theorem dX4_damp_22 : decode cX4_damp 22 = .ok (.ifCond .ne 9, 3) := dk_154 0 9 (dk_at dksX4_damp_1 0 rfl rfl)
theorem dX4_damp_25 : decode cX4_damp 25 = .ok (.aload_n 0, 1) := dk_42 (dk_at dksX4_damp_1 3 rfl rfl)
theorem dX4_damp_26 : decode cX4_damp 26 = .ok (.iconst 1, 1) := dk_4 (dk_at dksX4_damp_1 4 rfl rfl)
theorem dX4_damp_27 : decode cX4_damp 27 = .ok (.invokevirtual 397, 3) := dk_182 1 141 (dk_at dksX4_damp_1 5 rfl rfl)
theorem dX4_damp_30 : decode cX4_damp 30 = .ok (.ireturn, 1) := dk_172 (dk_at dksX4_damp_1 8 rfl rfl)
theorem dX4_damp_31 : decode cX4_damp 31 = .ok (.aload_n 0, 1) := dk_42 (dk_at dksX4_damp_1 9 rfl rfl)
theorem dX4_damp_32 : decode cX4_damp 32 = .ok (.invokevirtual 400, 3) := dk_182 1 144 (dk_at dksX4_damp_1 10 rfl rfl)
theorem dX4_damp_35 : decode cX4_damp 35 = .ok (.aload_n 0, 1) := dk_42 (dk_at dksX4_damp_1 13 rfl rfl)
theorem dX4_damp_36 : decode cX4_damp 36 = .ok (.getfield 69, 3) := dk_180 0 69 (dk_at dksX4_damp_1 14 rfl rfl)
theorem dX4_damp_39 : decode cX4_damp 39 = .ok (.iconst 1, 1) := dk_4 (dk_at dksX4_damp_1 17 rfl rfl)
theorem dX4_damp_40 : decode cX4_damp 40 = .ok (.iload_n 1, 1) := dk_27 (dk_at dksX4_damp_1 18 rfl rfl)
theorem dX4_damp_41 : decode cX4_damp 41 = .ok (.iadd, 1) := dk_96 (dk_at dksX4_damp_1 19 rfl rfl)
theorem dX4_damp_42 : decode cX4_damp 42 = .ok (.iaload, 1) := dk_46 (dk_at dksX4_damp_1 20 rfl rfl)
theorem dX4_damp_43 : decode cX4_damp 43 = .ok (.istore_n 3, 1) := dk_62 (dk_at dksX4_damp_1 21 rfl rfl)
theorem dX4_damp_44 : decode cX4_damp 44 = .ok (.aload_n 0, 1) := dk_42 (dk_at dksX4_damp_1 22 rfl rfl)
theorem dX4_damp_45 : decode cX4_damp 45 = .ok (.getfield 69, 3) := dk_180 0 69 (dk_at dksX4_damp_2 0 rfl rfl)
theorem dX4_damp_48 : decode cX4_damp 48 = .ok (.iconst 1, 1) := dk_4 (dk_at dksX4_damp_2 3 rfl rfl)
theorem dX4_damp_49 : decode cX4_damp 49 = .ok (.iload_n 1, 1) := dk_27 (dk_at dksX4_damp_2 4 rfl rfl)
theorem dX4_damp_50 : decode cX4_damp 50 = .ok (.iadd, 1) := dk_96 (dk_at dksX4_damp_2 5 rfl rfl)
theorem dX4_damp_51 : decode cX4_damp 51 = .ok (.iload_n 2, 1) := dk_28 (dk_at dksX4_damp_2 6 rfl rfl)
theorem dX4_damp_52 : decode cX4_damp 52 = .ok (.iastore, 1) := dk_79 (dk_at dksX4_damp_2 7 rfl rfl)
theorem dX4_damp_53 : decode cX4_damp 53 = .ok (.iload_n 3, 1) := dk_29 (dk_at dksX4_damp_2 8 rfl rfl)
theorem dX4_damp_54 : decode cX4_damp 54 = .ok (.ireturn, 1) := dk_172 (dk_at dksX4_damp_2 9 rfl rfl)
abbrev mX4_damp : xM := (yX4_damp, cX4_damp, 4, (some .int), [])
def m_damp (x1 : Int32) (x2 : Int32) (S : MS) : Option (Int32 × MS) :=
  (m_isTheCell x1 ((sF S 0 (0 : Int32)))).bind fun q7 =>
  if q7.1 = 0 then
    some ((0 : Int32), q7.2)
  else
    (m_within x2 ((0 : Int32)) ((9 : Int32))).bind fun q19 =>
    if q19 = 0 then
      (m_refuses ((1 : Int32)) q7.2).bind fun q27 =>
      some (q27.1, q27.2)
    else
      (m_keeps q7.2).bind fun q32 =>
      (rdA q32 13 ((1 : Int32) + x1)).bind fun v42 =>
      (wrA q32 13 ((1 : Int32) + x1) x2).bind fun S52 =>
      some (v42, S52)
theorem w_damp {G : xG} {m0 : Nat} {x1 : Int32} {x2 : Int32} {S : MS} {q : (Int32 × MS)} (hf : m_damp x1 x2 S = some q) : CtM G m0 mX4_damp 3 S [.ref m0, .int x1, .int x2] (some (.int q.1)) q.2 := by
  intro h N Z
  refine Ct.of (by decide +kernel) rfl (Nat.le_of_ble_eq_true rfl) (show Xr G _ 0 [(0, .ref m0), (1, .int x1), (2, .int x2)] [] _ from ?_)
  unfold m_damp at hf
  refine X.aload_n dX4_damp_0 rfl 0 rfl ?_
  refine X.iconst (v := 0) dX4_damp_1 (by decide) ?_
  refine M.putI dX4_damp_2 fX4_115 (by decide) rfl rfl rfl ?_
  refine X.aload_n dX4_damp_5 rfl 0 rfl ?_
  refine X.iload_n dX4_damp_6 rfl 1 rfl ?_
  obtain ⟨q7, h7, hf⟩ := ob hf
  refine X.callVi (As := [.int x1]) (rest := []) (T2 := (mh m0 h q7.2, N, Z)) dX4_damp_7 (w_isTheCell h7 h N Z) cX4_385 rfl rfl (Nat.le_of_ble_eq_true rfl) mh_0 rfl rfl (xD (Nat.le_of_ble_eq_true rfl)) xleN xleN ?_
  refine X.if_ne (tgt := 15) dX4_damp_10 (by decide) (fun c10 => ?_) (fun c10 => ?_)
  · have hf := if_f c10 hf
    refine X.iload_n dX4_damp_15 rfl 2 rfl ?_
    refine X.iconst (v := 0) dX4_damp_16 (by decide) ?_
    refine X.bipush (v := 9) dX4_damp_17 (by decide) ?_
    obtain ⟨q19, h19, hf⟩ := ob hf
    refine X.callSi (As := [.int x2, .int (0 : Int32), .int (9 : Int32)]) (rest := []) dX4_damp_19 (w_within h19 _) cX4_373 rfl rfl (Nat.le_of_ble_eq_true rfl) (xD (Nat.le_of_ble_eq_true rfl)) xle.rf xleN ?_
    refine X.if_ne (tgt := 31) dX4_damp_22 (by decide) (fun c22 => ?_) (fun c22 => ?_)
    · have hf := if_f c22 hf
      refine X.aload_n dX4_damp_31 rfl 0 rfl ?_
      obtain ⟨q32, h32, hf⟩ := ob hf
      refine X.callVv (As := []) (rest := []) (T2 := (mh m0 h q32, N, Z)) dX4_damp_32 (w_keeps h32 h N Z) cX4_400 rfl rfl (Nat.le_of_ble_eq_true rfl) mh_0 rfl rfl (xD (Nat.le_of_ble_eq_true rfl)) xleN xleN ?_
      refine X.aload_n dX4_damp_35 rfl 0 rfl ?_
      refine M.get (v := .ref (m0 + 13)) dX4_damp_36 fX4_69 (Nat.le_of_ble_eq_true rfl) rfl ?_
      refine X.iconst (v := 1) dX4_damp_39 (by decide) ?_
      refine X.iload_n dX4_damp_40 rfl 1 rfl ?_
      refine X.iadd dX4_damp_41 ?_
      obtain ⟨v42, h42, hf⟩ := ob hf
      refine M.iald dX4_damp_42 rfl h42 ?_
      refine X.istore_n (L' := [(3, .int v42), (0, .ref m0), (1, .int x1), (2, .int x2)]) dX4_damp_43 rfl (Nat.le_of_ble_eq_true rfl) rfl ?_
      refine X.aload_n dX4_damp_44 rfl 1 rfl ?_
      refine M.get (v := .ref (m0 + 13)) dX4_damp_45 fX4_69 (Nat.le_of_ble_eq_true rfl) rfl ?_
      refine X.iconst (v := 1) dX4_damp_48 (by decide) ?_
      refine X.iload_n dX4_damp_49 rfl 2 rfl ?_
      refine X.iadd dX4_damp_50 ?_
      refine X.iload_n dX4_damp_51 rfl 3 rfl ?_
      obtain ⟨S52, h52, hf⟩ := ob hf
      refine M.iast dX4_damp_52 rfl h52 ?_
      refine X.iload_n dX4_damp_53 rfl 0 rfl ?_
      obtain rfl := Option.some.inj hf
      exact X.iret dX4_damp_54 rfl rfl rfl
    · have hf := if_t c22 hf
      refine X.aload_n dX4_damp_25 rfl 0 rfl ?_
      refine X.iconst (v := 1) dX4_damp_26 (by decide) ?_
      obtain ⟨q27, h27, hf⟩ := ob hf
      refine X.callVi (As := [.int (1 : Int32)]) (rest := []) (T2 := (mh m0 h q27.2, N, Z)) dX4_damp_27 (w_refuses h27 h N Z) cX4_397 rfl rfl (Nat.le_of_ble_eq_true rfl) mh_0 rfl rfl (xD (Nat.le_of_ble_eq_true rfl)) xleN xleN ?_
      obtain rfl := Option.some.inj hf
      exact X.iret dX4_damp_30 rfl rfl rfl
  · have hf := if_t c10 hf
    refine X.iconst (v := 0) dX4_damp_13 (by decide) ?_
    obtain rfl := Option.some.inj hf
    exact X.iret dX4_damp_14 rfl rfl rfl
/-! sow -/
abbrev cX4_sow : ByteArray := prog_12_method_79_code
def yX4_sow : MethodName := ⟨RX4, "sow", "(II)Z"⟩
def dkwX4_sow_3 : List UInt8 := [4, 79, 4, 172]
abbrev dktX4_sow_3 : List UInt8 := dkwX4_sow_3 ++ []
def dkwX4_sow_2 : List UInt8 := [3, 172, 42, 182, 1, 144, 42, 180, 0, 69, 16, 61, 27, 96, 28, 79, 42, 180, 0, 69, 16, 91, 27, 96]
abbrev dktX4_sow_2 : List UInt8 := dkwX4_sow_2 ++ dktX4_sow_3
def dkwX4_sow_1 : List UInt8 := [180, 0, 69, 16, 61, 27, 96, 46, 2, 159, 0, 17, 42, 4, 182, 1, 141, 158, 0, 7, 4, 167, 0, 4]
abbrev dktX4_sow_1 : List UInt8 := dkwX4_sow_1 ++ dktX4_sow_2
def dkwX4_sow_0 : List UInt8 := [42, 3, 181, 0, 115, 42, 27, 182, 1, 129, 153, 0, 11, 42, 28, 182, 1, 135, 154, 0, 5, 3, 172, 42]
abbrev dktX4_sow_0 : List UInt8 := dkwX4_sow_0 ++ dktX4_sow_1
theorem dksX4_sow_0 : cX4_sow.data.toList.drop 0 = dktX4_sow_0 := by decide +kernel
theorem dksX4_sow_1 : cX4_sow.data.toList.drop 24 = dktX4_sow_1 := dk_seg dksX4_sow_0 24 rfl rfl
theorem dksX4_sow_2 : cX4_sow.data.toList.drop 48 = dktX4_sow_2 := dk_seg dksX4_sow_1 24 rfl rfl
theorem dksX4_sow_3 : cX4_sow.data.toList.drop 72 = dktX4_sow_3 := dk_seg dksX4_sow_2 24 rfl rfl
theorem dX4_sow_0 : decode cX4_sow 0 = .ok (.aload_n 0, 1) := dk_42 (dk_at dksX4_sow_0 0 rfl rfl)
theorem dX4_sow_1 : decode cX4_sow 1 = .ok (.iconst 0, 1) := dk_3 (dk_at dksX4_sow_0 1 rfl rfl)
theorem dX4_sow_2 : decode cX4_sow 2 = .ok (.putfield 115, 3) := dk_181 0 115 (dk_at dksX4_sow_0 2 rfl rfl)
theorem dX4_sow_5 : decode cX4_sow 5 = .ok (.aload_n 0, 1) := dk_42 (dk_at dksX4_sow_0 5 rfl rfl)
theorem dX4_sow_6 : decode cX4_sow 6 = .ok (.iload_n 1, 1) := dk_27 (dk_at dksX4_sow_0 6 rfl rfl)
theorem dX4_sow_7 : decode cX4_sow 7 = .ok (.invokevirtual 385, 3) := dk_182 1 129 (dk_at dksX4_sow_0 7 rfl rfl)
theorem dX4_sow_10 : decode cX4_sow 10 = .ok (.ifCond .eq 11, 3) := dk_153 0 11 (dk_at dksX4_sow_0 10 rfl rfl)
theorem dX4_sow_13 : decode cX4_sow 13 = .ok (.aload_n 0, 1) := dk_42 (dk_at dksX4_sow_0 13 rfl rfl)
theorem dX4_sow_14 : decode cX4_sow 14 = .ok (.iload_n 2, 1) := dk_28 (dk_at dksX4_sow_0 14 rfl rfl)
theorem dX4_sow_15 : decode cX4_sow 15 = .ok (.invokevirtual 391, 3) := dk_182 1 135 (dk_at dksX4_sow_0 15 rfl rfl)
theorem dX4_sow_18 : decode cX4_sow 18 = .ok (.ifCond .ne 5, 3) := dk_154 0 5 (dk_at dksX4_sow_0 18 rfl rfl)
theorem dX4_sow_21 : decode cX4_sow 21 = .ok (.iconst 0, 1) := dk_3 (dk_at dksX4_sow_0 21 rfl rfl)
theorem dX4_sow_22 : decode cX4_sow 22 = .ok (.ireturn, 1) := dk_172 (dk_at dksX4_sow_0 22 rfl rfl)
theorem dX4_sow_23 : decode cX4_sow 23 = .ok (.aload_n 0, 1) := dk_42 (dk_at dksX4_sow_0 23 rfl rfl)
theorem dX4_sow_24 : decode cX4_sow 24 = .ok (.getfield 69, 3) := dk_180 0 69 (dk_at dksX4_sow_1 0 rfl rfl)
theorem dX4_sow_27 : decode cX4_sow 27 = .ok (.bipush 61, 2) := dk_16 61 (dk_at dksX4_sow_1 3 rfl rfl)
theorem dX4_sow_29 : decode cX4_sow 29 = .ok (.iload_n 1, 1) := dk_27 (dk_at dksX4_sow_1 5 rfl rfl)
theorem dX4_sow_30 : decode cX4_sow 30 = .ok (.iadd, 1) := dk_96 (dk_at dksX4_sow_1 6 rfl rfl)
theorem dX4_sow_31 : decode cX4_sow 31 = .ok (.iaload, 1) := dk_46 (dk_at dksX4_sow_1 7 rfl rfl)
theorem dX4_sow_32 : decode cX4_sow 32 = .ok (.iconst (-1), 1) := dk_2 (dk_at dksX4_sow_1 8 rfl rfl)
theorem dX4_sow_33 : decode cX4_sow 33 = .ok (.if_icmp .eq 17, 3) := dk_159 0 17 (dk_at dksX4_sow_1 9 rfl rfl)
theorem dX4_sow_36 : decode cX4_sow 36 = .ok (.aload_n 0, 1) := dk_42 (dk_at dksX4_sow_1 12 rfl rfl)
theorem dX4_sow_37 : decode cX4_sow 37 = .ok (.iconst 1, 1) := dk_4 (dk_at dksX4_sow_1 13 rfl rfl)
theorem dX4_sow_38 : decode cX4_sow 38 = .ok (.invokevirtual 397, 3) := dk_182 1 141 (dk_at dksX4_sow_1 14 rfl rfl)
theorem dX4_sow_41 : decode cX4_sow 41 = .ok (.ifCond .le 7, 3) := dk_158 0 7 (dk_at dksX4_sow_1 17 rfl rfl)
theorem dX4_sow_44 : decode cX4_sow 44 = .ok (.iconst 1, 1) := dk_4 (dk_at dksX4_sow_1 20 rfl rfl)
theorem dX4_sow_45 : decode cX4_sow 45 = .ok (.goto 4, 3) := dk_167 0 4 (dk_at dksX4_sow_1 21 rfl rfl)
theorem dX4_sow_48 : decode cX4_sow 48 = .ok (.iconst 0, 1) := dk_3 (dk_at dksX4_sow_2 0 rfl rfl)
theorem dX4_sow_49 : decode cX4_sow 49 = .ok (.ireturn, 1) := dk_172 (dk_at dksX4_sow_2 1 rfl rfl)
theorem dX4_sow_50 : decode cX4_sow 50 = .ok (.aload_n 0, 1) := dk_42 (dk_at dksX4_sow_2 2 rfl rfl)
theorem dX4_sow_51 : decode cX4_sow 51 = .ok (.invokevirtual 400, 3) := dk_182 1 144 (dk_at dksX4_sow_2 3 rfl rfl)
theorem dX4_sow_54 : decode cX4_sow 54 = .ok (.aload_n 0, 1) := dk_42 (dk_at dksX4_sow_2 6 rfl rfl)
theorem dX4_sow_55 : decode cX4_sow 55 = .ok (.getfield 69, 3) := dk_180 0 69 (dk_at dksX4_sow_2 7 rfl rfl)
theorem dX4_sow_58 : decode cX4_sow 58 = .ok (.bipush 61, 2) := dk_16 61 (dk_at dksX4_sow_2 10 rfl rfl)
theorem dX4_sow_60 : decode cX4_sow 60 = .ok (.iload_n 1, 1) := dk_27 (dk_at dksX4_sow_2 12 rfl rfl)
theorem dX4_sow_61 : decode cX4_sow 61 = .ok (.iadd, 1) := dk_96 (dk_at dksX4_sow_2 13 rfl rfl)
theorem dX4_sow_62 : decode cX4_sow 62 = .ok (.iload_n 2, 1) := dk_28 (dk_at dksX4_sow_2 14 rfl rfl)
theorem dX4_sow_63 : decode cX4_sow 63 = .ok (.iastore, 1) := dk_79 (dk_at dksX4_sow_2 15 rfl rfl)
theorem dX4_sow_64 : decode cX4_sow 64 = .ok (.aload_n 0, 1) := dk_42 (dk_at dksX4_sow_2 16 rfl rfl)
theorem dX4_sow_65 : decode cX4_sow 65 = .ok (.getfield 69, 3) := dk_180 0 69 (dk_at dksX4_sow_2 17 rfl rfl)
theorem dX4_sow_68 : decode cX4_sow 68 = .ok (.bipush 91, 2) := dk_16 91 (dk_at dksX4_sow_2 20 rfl rfl)
theorem dX4_sow_70 : decode cX4_sow 70 = .ok (.iload_n 1, 1) := dk_27 (dk_at dksX4_sow_2 22 rfl rfl)
theorem dX4_sow_71 : decode cX4_sow 71 = .ok (.iadd, 1) := dk_96 (dk_at dksX4_sow_2 23 rfl rfl)
theorem dX4_sow_72 : decode cX4_sow 72 = .ok (.iconst 1, 1) := dk_4 (dk_at dksX4_sow_3 0 rfl rfl)
theorem dX4_sow_73 : decode cX4_sow 73 = .ok (.iastore, 1) := dk_79 (dk_at dksX4_sow_3 1 rfl rfl)
theorem dX4_sow_74 : decode cX4_sow 74 = .ok (.iconst 1, 1) := dk_4 (dk_at dksX4_sow_3 2 rfl rfl)
theorem dX4_sow_75 : decode cX4_sow 75 = .ok (.ireturn, 1) := dk_172 (dk_at dksX4_sow_3 3 rfl rfl)
abbrev mX4_sow : xM := (yX4_sow, cX4_sow, 3, (some .boolean), [])
def m_sow (x1 : Int32) (x2 : Int32) (S : MS) : Option (Int32 × MS) :=
  (m_isTheCell x1 ((sF S 0 (0 : Int32)))).bind fun q7 =>
  if q7.1 = 0 then
    some ((0 : Int32), q7.2)
  else
    (m_isKind x2 q7.2).bind fun q15 =>
    if q15.1 = 0 then
      some ((0 : Int32), q15.2)
    else
      (rdA q15.2 13 ((61 : Int32) + x1)).bind fun v31 =>
      if v31 = (-1 : Int32) then
        (m_keeps q15.2).bind fun q51 =>
        (wrA q51 13 ((61 : Int32) + x1) x2).bind fun S63 =>
        (wrA S63 13 ((91 : Int32) + x1) (1 : Int32)).bind fun S73 =>
        some ((1 : Int32), S73)
      else
        (m_refuses ((1 : Int32)) q15.2).bind fun q38 =>
        if q38.1 ≤ 0 then
          some ((0 : Int32), q38.2)
        else
          some ((1 : Int32), q38.2)
theorem w_sow {G : xG} {m0 : Nat} {x1 : Int32} {x2 : Int32} {S : MS} {q : (Int32 × MS)} (hf : m_sow x1 x2 S = some q) : CtM G m0 mX4_sow 3 S [.ref m0, .int x1, .int x2] (some (.int q.1)) q.2 := by
  intro h N Z
  refine Ct.of (by decide +kernel) rfl (Nat.le_of_ble_eq_true rfl) (show Xr G _ 0 [(0, .ref m0), (1, .int x1), (2, .int x2)] [] _ from ?_)
  unfold m_sow at hf
  refine X.aload_n dX4_sow_0 rfl 0 rfl ?_
  refine X.iconst (v := 0) dX4_sow_1 (by decide) ?_
  refine M.putI dX4_sow_2 fX4_115 (by decide) rfl rfl rfl ?_
  refine X.aload_n dX4_sow_5 rfl 0 rfl ?_
  refine X.iload_n dX4_sow_6 rfl 1 rfl ?_
  obtain ⟨q7, h7, hf⟩ := ob hf
  refine X.callVi (As := [.int x1]) (rest := []) (T2 := (mh m0 h q7.2, N, Z)) dX4_sow_7 (w_isTheCell h7 h N Z) cX4_385 rfl rfl (Nat.le_of_ble_eq_true rfl) mh_0 rfl rfl (xD (Nat.le_of_ble_eq_true rfl)) xleN xleN ?_
  refine X.if_eq (tgt := 21) dX4_sow_10 (by decide) (fun c10 => ?_) (fun c10 => ?_)
  · have hf := if_t c10 hf
    refine X.iconst (v := 0) dX4_sow_21 (by decide) ?_
    obtain rfl := Option.some.inj hf
    exact X.iret dX4_sow_22 rfl rfl rfl
  · have hf := if_f c10 hf
    refine X.aload_n dX4_sow_13 rfl 0 rfl ?_
    refine X.iload_n dX4_sow_14 rfl 2 rfl ?_
    obtain ⟨q15, h15, hf⟩ := ob hf
    refine X.callVi (As := [.int x2]) (rest := []) (T2 := (mh m0 h q15.2, N, Z)) dX4_sow_15 (w_isKind h15 h N Z) cX4_391 rfl rfl (Nat.le_of_ble_eq_true rfl) mh_0 rfl rfl (xD (Nat.le_of_ble_eq_true rfl)) xleN xleN ?_
    refine X.if_ne (tgt := 23) dX4_sow_18 (by decide) (fun c18 => ?_) (fun c18 => ?_)
    · have hf := if_f c18 hf
      refine X.aload_n dX4_sow_23 rfl 0 rfl ?_
      refine M.get (v := .ref (m0 + 13)) dX4_sow_24 fX4_69 (Nat.le_of_ble_eq_true rfl) rfl ?_
      refine X.bipush (v := 61) dX4_sow_27 (by decide) ?_
      refine X.iload_n dX4_sow_29 rfl 1 rfl ?_
      refine X.iadd dX4_sow_30 ?_
      obtain ⟨v31, h31, hf⟩ := ob hf
      refine M.iald dX4_sow_31 rfl h31 ?_
      refine X.iconst (v := -1) dX4_sow_32 (by decide) ?_
      refine X.icmp_eq (tgt := 50) dX4_sow_33 (by decide) (fun c33 => ?_) (fun c33 => ?_)
      · have hf := if_t c33 hf
        refine X.aload_n dX4_sow_50 rfl 0 rfl ?_
        obtain ⟨q51, h51, hf⟩ := ob hf
        refine X.callVv (As := []) (rest := []) (T2 := (mh m0 h q51, N, Z)) dX4_sow_51 (w_keeps h51 h N Z) cX4_400 rfl rfl (Nat.le_of_ble_eq_true rfl) mh_0 rfl rfl (xD (Nat.le_of_ble_eq_true rfl)) xleN xleN ?_
        refine X.aload_n dX4_sow_54 rfl 0 rfl ?_
        refine M.get (v := .ref (m0 + 13)) dX4_sow_55 fX4_69 (Nat.le_of_ble_eq_true rfl) rfl ?_
        refine X.bipush (v := 61) dX4_sow_58 (by decide) ?_
        refine X.iload_n dX4_sow_60 rfl 1 rfl ?_
        refine X.iadd dX4_sow_61 ?_
        refine X.iload_n dX4_sow_62 rfl 2 rfl ?_
        obtain ⟨S63, h63, hf⟩ := ob hf
        refine M.iast dX4_sow_63 rfl h63 ?_
        refine X.aload_n dX4_sow_64 rfl 0 rfl ?_
        refine M.get (v := .ref (m0 + 13)) dX4_sow_65 fX4_69 (Nat.le_of_ble_eq_true rfl) rfl ?_
        refine X.bipush (v := 91) dX4_sow_68 (by decide) ?_
        refine X.iload_n dX4_sow_70 rfl 1 rfl ?_
        refine X.iadd dX4_sow_71 ?_
        refine X.iconst (v := 1) dX4_sow_72 (by decide) ?_
        obtain ⟨S73, h73, hf⟩ := ob hf
        refine M.iast dX4_sow_73 rfl h73 ?_
        refine X.iconst (v := 1) dX4_sow_74 (by decide) ?_
        obtain rfl := Option.some.inj hf
        exact X.iret dX4_sow_75 rfl rfl rfl
      · have hf := if_f c33 hf
        refine X.aload_n dX4_sow_36 rfl 0 rfl ?_
        refine X.iconst (v := 1) dX4_sow_37 (by decide) ?_
        obtain ⟨q38, h38, hf⟩ := ob hf
        refine X.callVi (As := [.int (1 : Int32)]) (rest := []) (T2 := (mh m0 h q38.2, N, Z)) dX4_sow_38 (w_refuses h38 h N Z) cX4_397 rfl rfl (Nat.le_of_ble_eq_true rfl) mh_0 rfl rfl (xD (Nat.le_of_ble_eq_true rfl)) xleN xleN ?_
        refine X.if_le (tgt := 48) dX4_sow_41 (by decide) (fun c41 => ?_) (fun c41 => ?_)
        · have hf := if_t c41 hf
          refine X.iconst (v := 0) dX4_sow_48 (by decide) ?_
          obtain rfl := Option.some.inj hf
          exact X.iret dX4_sow_49 rfl rfl rfl
        · have hf := if_f c41 hf
          refine X.iconst (v := 1) dX4_sow_44 (by decide) ?_
          refine X.goto (tgt := 49) dX4_sow_45 (by decide) ?_
          obtain rfl := Option.some.inj hf
          exact X.iret dX4_sow_49 rfl rfl rfl
    · have hf := if_t c18 hf
      refine X.iconst (v := 0) dX4_sow_21 (by decide) ?_
      obtain rfl := Option.some.inj hf
      exact X.iret dX4_sow_22 rfl rfl rfl
