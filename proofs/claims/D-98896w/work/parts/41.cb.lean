set_option maxRecDepth 100000
/-! MouldVotes$Growth greatest -/
abbrev cX3_greatest : ByteArray := prog_4_method_9_code
def yX3_greatest : MethodName := ⟨RX3, "greatest", "(I)I"⟩
def dkwX3_greatest_5 : List UInt8 := [61, 132, 3, 1, 167, 255, 138, 28, 172]
abbrev dktX3_greatest_5 : List UInt8 := dkwX3_greatest_5 ++ []
def dkwX3_greatest_4 : List UInt8 := [153, 0, 25, 28, 2, 159, 0, 18, 42, 180, 0, 25, 29, 46, 42, 180, 0, 25, 28, 46, 164, 0, 5, 29]
abbrev dktX3_greatest_4 : List UInt8 := dkwX3_greatest_4 ++ dktX3_greatest_5
def dkwX3_greatest_3 : List UInt8 := [180, 0, 94, 161, 0, 7, 4, 167, 0, 13, 3, 167, 0, 9, 42, 29, 27, 182, 0, 97, 54, 4, 21, 4]
abbrev dktX3_greatest_3 : List UInt8 := dkwX3_greatest_3 ++ dktX3_greatest_4
def dkwX3_greatest_2 : List UInt8 := [180, 0, 22, 27, 46, 2, 160, 0, 30, 42, 180, 0, 25, 29, 46, 42, 180, 0, 3, 180, 0, 39]
abbrev dktX3_greatest_2 : List UInt8 := dkwX3_greatest_2 ++ dktX3_greatest_3
def dkwX3_greatest_1 : List UInt8 := [2, 159, 0, 94, 42, 180, 0, 3, 180, 0, 39, 29, 27, 182, 0, 49, 4, 159, 0, 6, 167, 0, 75, 42]
abbrev dktX3_greatest_1 : List UInt8 := dkwX3_greatest_1 ++ dktX3_greatest_2
def dkwX3_greatest_0 : List UInt8 := [2, 61, 3, 62, 29, 42, 180, 0, 3, 180, 0, 39, 182, 0, 43, 162, 0, 110, 42, 180, 0, 22, 29, 46]
abbrev dktX3_greatest_0 : List UInt8 := dkwX3_greatest_0 ++ dktX3_greatest_1
theorem dksX3_greatest_0 : cX3_greatest.data.toList.drop 0 = dktX3_greatest_0 := by decide +kernel
theorem dksX3_greatest_1 : cX3_greatest.data.toList.drop 24 = dktX3_greatest_1 := dk_seg dksX3_greatest_0 24 rfl rfl
theorem dksX3_greatest_2 : cX3_greatest.data.toList.drop 48 = dktX3_greatest_2 := dk_seg dksX3_greatest_1 24 rfl rfl
theorem dksX3_greatest_3 : cX3_greatest.data.toList.drop 70 = dktX3_greatest_3 := dk_seg dksX3_greatest_2 22 rfl rfl
theorem dksX3_greatest_4 : cX3_greatest.data.toList.drop 94 = dktX3_greatest_4 := dk_seg dksX3_greatest_3 24 rfl rfl
theorem dksX3_greatest_5 : cX3_greatest.data.toList.drop 118 = dktX3_greatest_5 := dk_seg dksX3_greatest_4 24 rfl rfl
theorem dX3_greatest_0 : decode cX3_greatest 0 = .ok (.iconst (-1), 1) := dk_2 (dk_at dksX3_greatest_0 0 rfl rfl)
theorem dX3_greatest_1 : decode cX3_greatest 1 = .ok (.istore_n 2, 1) := dk_61 (dk_at dksX3_greatest_0 1 rfl rfl)
theorem dX3_greatest_2 : decode cX3_greatest 2 = .ok (.iconst 0, 1) := dk_3 (dk_at dksX3_greatest_0 2 rfl rfl)
theorem dX3_greatest_3 : decode cX3_greatest 3 = .ok (.istore_n 3, 1) := dk_62 (dk_at dksX3_greatest_0 3 rfl rfl)
theorem dX3_greatest_4 : decode cX3_greatest 4 = .ok (.iload_n 3, 1) := dk_29 (dk_at dksX3_greatest_0 4 rfl rfl)
theorem dX3_greatest_5 : decode cX3_greatest 5 = .ok (.aload_n 0, 1) := dk_42 (dk_at dksX3_greatest_0 5 rfl rfl)
theorem dX3_greatest_6 : decode cX3_greatest 6 = .ok (.getfield 3, 3) := dk_180 0 3 (dk_at dksX3_greatest_0 6 rfl rfl)
theorem dX3_greatest_9 : decode cX3_greatest 9 = .ok (.getfield 39, 3) := dk_180 0 39 (dk_at dksX3_greatest_0 9 rfl rfl)
theorem dX3_greatest_12 : decode cX3_greatest 12 = .ok (.invokevirtual 43, 3) := dk_182 0 43 (dk_at dksX3_greatest_0 12 rfl rfl)
theorem dX3_greatest_15 : decode cX3_greatest 15 = .ok (.if_icmp .ge 110, 3) := dk_162 0 110 (dk_at dksX3_greatest_0 15 rfl rfl)
theorem dX3_greatest_18 : decode cX3_greatest 18 = .ok (.aload_n 0, 1) := dk_42 (dk_at dksX3_greatest_0 18 rfl rfl)
theorem dX3_greatest_19 : decode cX3_greatest 19 = .ok (.getfield 22, 3) := dk_180 0 22 (dk_at dksX3_greatest_0 19 rfl rfl)
theorem dX3_greatest_22 : decode cX3_greatest 22 = .ok (.iload_n 3, 1) := dk_29 (dk_at dksX3_greatest_0 22 rfl rfl)
theorem dX3_greatest_23 : decode cX3_greatest 23 = .ok (.iaload, 1) := dk_46 (dk_at dksX3_greatest_0 23 rfl rfl)
theorem dX3_greatest_24 : decode cX3_greatest 24 = .ok (.iconst (-1), 1) := dk_2 (dk_at dksX3_greatest_1 0 rfl rfl)
theorem dX3_greatest_25 : decode cX3_greatest 25 = .ok (.if_icmp .eq 94, 3) := dk_159 0 94 (dk_at dksX3_greatest_1 1 rfl rfl)
theorem dX3_greatest_28 : decode cX3_greatest 28 = .ok (.aload_n 0, 1) := dk_42 (dk_at dksX3_greatest_1 4 rfl rfl)
theorem dX3_greatest_29 : decode cX3_greatest 29 = .ok (.getfield 3, 3) := dk_180 0 3 (dk_at dksX3_greatest_1 5 rfl rfl)
theorem dX3_greatest_32 : decode cX3_greatest 32 = .ok (.getfield 39, 3) := dk_180 0 39 (dk_at dksX3_greatest_1 8 rfl rfl)
theorem dX3_greatest_35 : decode cX3_greatest 35 = .ok (.iload_n 3, 1) := dk_29 (dk_at dksX3_greatest_1 11 rfl rfl)
theorem dX3_greatest_36 : decode cX3_greatest 36 = .ok (.iload_n 1, 1) := dk_27 (dk_at dksX3_greatest_1 12 rfl rfl)
theorem dX3_greatest_37 : decode cX3_greatest 37 = .ok (.invokevirtual 49, 3) := dk_182 0 49 (dk_at dksX3_greatest_1 13 rfl rfl)
theorem dX3_greatest_40 : decode cX3_greatest 40 = .ok (.iconst 1, 1) := dk_4 (dk_at dksX3_greatest_1 16 rfl rfl)
theorem dX3_greatest_41 : decode cX3_greatest 41 = .ok (.if_icmp .eq 6, 3) := dk_159 0 6 (dk_at dksX3_greatest_1 17 rfl rfl)
theorem dX3_greatest_44 : decode cX3_greatest 44 = .ok (.goto 75, 3) := dk_167 0 75 (dk_at dksX3_greatest_1 20 rfl rfl)
theorem dX3_greatest_47 : decode cX3_greatest 47 = .ok (.aload_n 0, 1) := dk_42 (dk_at dksX3_greatest_1 23 rfl rfl)
theorem dX3_greatest_48 : decode cX3_greatest 48 = .ok (.getfield 22, 3) := dk_180 0 22 (dk_at dksX3_greatest_2 0 rfl rfl)
theorem dX3_greatest_51 : decode cX3_greatest 51 = .ok (.iload_n 1, 1) := dk_27 (dk_at dksX3_greatest_2 3 rfl rfl)
theorem dX3_greatest_52 : decode cX3_greatest 52 = .ok (.iaload, 1) := dk_46 (dk_at dksX3_greatest_2 4 rfl rfl)
theorem dX3_greatest_53 : decode cX3_greatest 53 = .ok (.iconst (-1), 1) := dk_2 (dk_at dksX3_greatest_2 5 rfl rfl)
theorem dX3_greatest_54 : decode cX3_greatest 54 = .ok (.if_icmp .ne 30, 3) := dk_160 0 30 (dk_at dksX3_greatest_2 6 rfl rfl)
theorem dX3_greatest_57 : decode cX3_greatest 57 = .ok (.aload_n 0, 1) := dk_42 (dk_at dksX3_greatest_2 9 rfl rfl)
theorem dX3_greatest_58 : decode cX3_greatest 58 = .ok (.getfield 25, 3) := dk_180 0 25 (dk_at dksX3_greatest_2 10 rfl rfl)
theorem dX3_greatest_61 : decode cX3_greatest 61 = .ok (.iload_n 3, 1) := dk_29 (dk_at dksX3_greatest_2 13 rfl rfl)
theorem dX3_greatest_62 : decode cX3_greatest 62 = .ok (.iaload, 1) := dk_46 (dk_at dksX3_greatest_2 14 rfl rfl)
theorem dX3_greatest_63 : decode cX3_greatest 63 = .ok (.aload_n 0, 1) := dk_42 (dk_at dksX3_greatest_2 15 rfl rfl)
theorem dX3_greatest_64 : decode cX3_greatest 64 = .ok (.getfield 3, 3) := dk_180 0 3 (dk_at dksX3_greatest_2 16 rfl rfl)
theorem dX3_greatest_67 : decode cX3_greatest 67 = .ok (.getfield 39, 3) := dk_180 0 39 (dk_at dksX3_greatest_2 19 rfl rfl)
theorem dX3_greatest_70 : decode cX3_greatest 70 = .ok (.getfield 94, 3) := dk_180 0 94 (dk_at dksX3_greatest_3 0 rfl rfl)
theorem dX3_greatest_73 : decode cX3_greatest 73 = .ok (.if_icmp .lt 7, 3) := dk_161 0 7 (dk_at dksX3_greatest_3 3 rfl rfl)
theorem dX3_greatest_76 : decode cX3_greatest 76 = .ok (.iconst 1, 1) := dk_4 (dk_at dksX3_greatest_3 6 rfl rfl)
theorem dX3_greatest_77 : decode cX3_greatest 77 = .ok (.goto 13, 3) := dk_167 0 13 (dk_at dksX3_greatest_3 7 rfl rfl)
theorem dX3_greatest_80 : decode cX3_greatest 80 = .ok (.iconst 0, 1) := dk_3 (dk_at dksX3_greatest_3 10 rfl rfl)
theorem dX3_greatest_81 : decode cX3_greatest 81 = .ok (.goto 9, 3) := dk_167 0 9 (dk_at dksX3_greatest_3 11 rfl rfl)
theorem dX3_greatest_84 : decode cX3_greatest 84 = .ok (.aload_n 0, 1) := dk_42 (dk_at dksX3_greatest_3 14 rfl rfl)
theorem dX3_greatest_85 : decode cX3_greatest 85 = .ok (.iload_n 3, 1) := dk_29 (dk_at dksX3_greatest_3 15 rfl rfl)
theorem dX3_greatest_86 : decode cX3_greatest 86 = .ok (.iload_n 1, 1) := dk_27 (dk_at dksX3_greatest_3 16 rfl rfl)
theorem dX3_greatest_87 : decode cX3_greatest 87 = .ok (.invokevirtual 97, 3) := dk_182 0 97 (dk_at dksX3_greatest_3 17 rfl rfl)
theorem dX3_greatest_90 : decode cX3_greatest 90 = .ok (.istore 4, 2) := dk_54 4 (dk_at dksX3_greatest_3 20 rfl rfl)
theorem dX3_greatest_92 : decode cX3_greatest 92 = .ok (.iload 4, 2) := dk_21 4 (dk_at dksX3_greatest_3 22 rfl rfl)
theorem dX3_greatest_94 : decode cX3_greatest 94 = .ok (.ifCond .eq 25, 3) := dk_153 0 25 (dk_at dksX3_greatest_4 0 rfl rfl)
theorem dX3_greatest_97 : decode cX3_greatest 97 = .ok (.iload_n 2, 1) := dk_28 (dk_at dksX3_greatest_4 3 rfl rfl)
theorem dX3_greatest_98 : decode cX3_greatest 98 = .ok (.iconst (-1), 1) := dk_2 (dk_at dksX3_greatest_4 4 rfl rfl)
theorem dX3_greatest_99 : decode cX3_greatest 99 = .ok (.if_icmp .eq 18, 3) := dk_159 0 18 (dk_at dksX3_greatest_4 5 rfl rfl)
theorem dX3_greatest_102 : decode cX3_greatest 102 = .ok (.aload_n 0, 1) := dk_42 (dk_at dksX3_greatest_4 8 rfl rfl)
theorem dX3_greatest_103 : decode cX3_greatest 103 = .ok (.getfield 25, 3) := dk_180 0 25 (dk_at dksX3_greatest_4 9 rfl rfl)
theorem dX3_greatest_106 : decode cX3_greatest 106 = .ok (.iload_n 3, 1) := dk_29 (dk_at dksX3_greatest_4 12 rfl rfl)
theorem dX3_greatest_107 : decode cX3_greatest 107 = .ok (.iaload, 1) := dk_46 (dk_at dksX3_greatest_4 13 rfl rfl)
theorem dX3_greatest_108 : decode cX3_greatest 108 = .ok (.aload_n 0, 1) := dk_42 (dk_at dksX3_greatest_4 14 rfl rfl)
theorem dX3_greatest_109 : decode cX3_greatest 109 = .ok (.getfield 25, 3) := dk_180 0 25 (dk_at dksX3_greatest_4 15 rfl rfl)
theorem dX3_greatest_112 : decode cX3_greatest 112 = .ok (.iload_n 2, 1) := dk_28 (dk_at dksX3_greatest_4 18 rfl rfl)
theorem dX3_greatest_113 : decode cX3_greatest 113 = .ok (.iaload, 1) := dk_46 (dk_at dksX3_greatest_4 19 rfl rfl)
theorem dX3_greatest_114 : decode cX3_greatest 114 = .ok (.if_icmp .le 5, 3) := dk_164 0 5 (dk_at dksX3_greatest_4 20 rfl rfl)
theorem dX3_greatest_117 : decode cX3_greatest 117 = .ok (.iload_n 3, 1) := dk_29 (dk_at dksX3_greatest_4 23 rfl rfl)
theorem dX3_greatest_118 : decode cX3_greatest 118 = .ok (.istore_n 2, 1) := dk_61 (dk_at dksX3_greatest_5 0 rfl rfl)
theorem dX3_greatest_119 : decode cX3_greatest 119 = .ok (.iinc 3 1, 3) := dk_132 3 1 (dk_at dksX3_greatest_5 1 rfl rfl)
theorem dX3_greatest_122 : decode cX3_greatest 122 = .ok (.goto (-118), 3) := dk_167 255 138 (dk_at dksX3_greatest_5 4 rfl rfl)
theorem dX3_greatest_125 : decode cX3_greatest 125 = .ok (.iload_n 2, 1) := dk_28 (dk_at dksX3_greatest_5 7 rfl rfl)
theorem dX3_greatest_126 : decode cX3_greatest 126 = .ok (.ireturn, 1) := dk_172 (dk_at dksX3_greatest_5 8 rfl rfl)
abbrev mX3_greatest : xM := (yX3_greatest, cX3_greatest, 5, (some .int), [])
def c_X3_greatest_119 (G : xG) (k4 : Option Nat → Int32 → Int32 → Int32 → xF → Option (Int32 × xF)) (x0 : Option Nat) (x1 : Int32) (x2 : Int32) (x3 : Int32) (T : xF) : Option (Int32 × xF) :=
  k4 x0 x1 x2 (x3 + 1) T
theorem c_X3_greatest_119_ok {G : xG}  {T0 : xF} {k4 : Option Nat → Int32 → Int32 → Int32 → xF → Option (Int32 × xF)} (hk4 : ∀ (x0 : Option Nat) (x1 : Int32) (x2 : Int32) (x3 : Int32) (T : xF) (q : (Int32 × xF)), k4 x0 x1 x2 x3 T = some q → Xr G (mX3_greatest, xrm (122) T0 q.2, T0, .inl (some (.int q.1)), q.2) 4 [(0, va_rf x0), (1, .int x1), (2, .int x2), (3, .int x3)] [] T) (x0 : Option Nat) (x1 : Int32) (x2 : Int32) (x3 : Int32) (T : xF) (q : (Int32 × xF)) (hf : c_X3_greatest_119 G k4 x0 x1 x2 x3 T = some q) : Xr G (mX3_greatest, xrm (122) T0 q.2, T0, .inl (some (.int q.1)), q.2) 119 [(0, va_rf x0), (1, .int x1), (2, .int x2), (3, .int x3)] [] T := by
  unfold c_X3_greatest_119 at hf
  refine C.iinc (v := (x3 + 1)) (L' := [(3, .int (x3 + 1)), (0, va_rf x0), (1, .int x1), (2, .int x2)]) dX3_greatest_119 3 rfl rfl (Nat.le_of_ble_eq_true rfl) (xcQ (xcI (xcI (xcI xcN)))) rfl ?_
  refine X.goto (tgt := 4) dX3_greatest_122 (by decide) ?_
  refine X.sub [1, 2, 3, 0] (L' := [(0, va_rf x0), (1, .int x1), (2, .int x2), (3, .int (x3 + 1))]) rfl ?_
  exact hk4 _ _ _ _ _ _ hf
def c_X3_greatest_117 (G : xG) (k4 : Option Nat → Int32 → Int32 → Int32 → xF → Option (Int32 × xF)) (x0 : Option Nat) (x1 : Int32) (x3 : Int32) (T : xF) : Option (Int32 × xF) :=
  c_X3_greatest_119 G k4 x0 x1 x3 x3 T
theorem c_X3_greatest_117_ok {G : xG}  {T0 : xF} {k4 : Option Nat → Int32 → Int32 → Int32 → xF → Option (Int32 × xF)} (hk4 : ∀ (x0 : Option Nat) (x1 : Int32) (x2 : Int32) (x3 : Int32) (T : xF) (q : (Int32 × xF)), k4 x0 x1 x2 x3 T = some q → Xr G (mX3_greatest, xrm (122) T0 q.2, T0, .inl (some (.int q.1)), q.2) 4 [(0, va_rf x0), (1, .int x1), (2, .int x2), (3, .int x3)] [] T) (x0 : Option Nat) (x1 : Int32) (x3 : Int32) (T : xF) (q : (Int32 × xF)) (hf : c_X3_greatest_117 G k4 x0 x1 x3 T = some q) : Xr G (mX3_greatest, xrm (122) T0 q.2, T0, .inl (some (.int q.1)), q.2) 117 [(0, va_rf x0), (1, .int x1), (3, .int x3)] [] T := by
  unfold c_X3_greatest_117 at hf
  refine X.iload_n dX3_greatest_117 rfl 2 rfl ?_
  refine C.ist_n (L' := [(2, .int x3), (0, va_rf x0), (1, .int x1), (3, .int x3)]) dX3_greatest_118 rfl (Nat.le_of_ble_eq_true rfl) (xcQ (xcI (xcI xcN))) rfl ?_
  refine X.sub [1, 2, 0, 3] (L' := [(0, va_rf x0), (1, .int x1), (2, .int x3), (3, .int x3)]) rfl ?_
  exact c_X3_greatest_119_ok hk4 _ _ _ _ _ _ hf
def c_X3_greatest_90 (G : xG) (k4 : Option Nat → Int32 → Int32 → Int32 → xF → Option (Int32 × xF)) (x0 : Option Nat) (x1 : Int32) (x2 : Int32) (x3 : Int32) (y0 : Int32) (T : xF) : Option (Int32 × xF) :=
  if y0 = 0 then
    c_X3_greatest_119 G k4 x0 x1 x2 x3 T
  else
    if x2 = (-1 : Int32) then
      c_X3_greatest_117 G k4 x0 x1 x3 T
    else
      (oQ T x0 2 3).bind fun v103 =>
      (ldA T v103 .int x3).bind fun v107 =>
      (oQ T x0 2 3).bind fun v109 =>
      (ldA T v109 .int x2).bind fun v113 =>
      if v107 ≤ v113 then
        c_X3_greatest_119 G k4 x0 x1 x2 x3 T
      else
        c_X3_greatest_117 G k4 x0 x1 x3 T
theorem c_X3_greatest_90_ok {G : xG}  {T0 : xF} {k4 : Option Nat → Int32 → Int32 → Int32 → xF → Option (Int32 × xF)} (hk4 : ∀ (x0 : Option Nat) (x1 : Int32) (x2 : Int32) (x3 : Int32) (T : xF) (q : (Int32 × xF)), k4 x0 x1 x2 x3 T = some q → Xr G (mX3_greatest, xrm (122) T0 q.2, T0, .inl (some (.int q.1)), q.2) 4 [(0, va_rf x0), (1, .int x1), (2, .int x2), (3, .int x3)] [] T) (x0 : Option Nat) (x1 : Int32) (x2 : Int32) (x3 : Int32) (y0 : Int32) (T : xF) (q : (Int32 × xF)) (hf : c_X3_greatest_90 G k4 x0 x1 x2 x3 y0 T = some q) : Xr G (mX3_greatest, xrm (122) T0 q.2, T0, .inl (some (.int q.1)), q.2) 90 [(0, va_rf x0), (1, .int x1), (2, .int x2), (3, .int x3)] [.int y0] T := by
  unfold c_X3_greatest_90 at hf
  refine C.ist (L' := [(4, .int y0), (0, va_rf x0), (1, .int x1), (2, .int x2), (3, .int x3)]) dX3_greatest_90 (Nat.le_of_ble_eq_true rfl) (xcQ (xcI (xcI (xcI xcN)))) rfl ?_
  refine X.iload dX3_greatest_92 0 rfl ?_
  refine X.if_eq (tgt := 119) dX3_greatest_94 (by decide) (fun c94 => ?_) (fun c94 => ?_)
  · have hf := if_t c94 hf
    refine X.sub [1, 2, 3, 4] (L' := [(0, va_rf x0), (1, .int x1), (2, .int x2), (3, .int x3)]) rfl ?_
    exact c_X3_greatest_119_ok hk4 _ _ _ _ _ _ hf
  · have hf := if_f c94 hf
    refine X.iload_n dX3_greatest_97 rfl 3 rfl ?_
    refine X.iconst (v := -1) dX3_greatest_98 (by decide) ?_
    refine X.icmp_eq (tgt := 117) dX3_greatest_99 (by decide) (fun c99 => ?_) (fun c99 => ?_)
    · have hf := if_t c99 hf
      refine X.sub [1, 2, 4] (L' := [(0, va_rf x0), (1, .int x1), (3, .int x3)]) rfl ?_
      exact c_X3_greatest_117_ok hk4 _ _ _ _ _ hf
    · have hf := if_f c99 hf
      refine C.aload_n dX3_greatest_102 rfl 1 rfl ?_
      obtain ⟨v103, h103, hf⟩ := ob hf
      refine C.getQ dX3_greatest_103 rX3_25 h103 ?_
      refine X.iload_n dX3_greatest_106 rfl 4 rfl ?_
      obtain ⟨v107, h107, hf⟩ := ob hf
      refine C.iald dX3_greatest_107 h107 ?_
      refine C.aload_n dX3_greatest_108 rfl 1 rfl ?_
      obtain ⟨v109, h109, hf⟩ := ob hf
      refine C.getQ dX3_greatest_109 rX3_25 h109 ?_
      refine X.iload_n dX3_greatest_112 rfl 3 rfl ?_
      obtain ⟨v113, h113, hf⟩ := ob hf
      refine C.iald dX3_greatest_113 h113 ?_
      refine X.icmp_le (tgt := 119) dX3_greatest_114 (by decide) (fun c114 => ?_) (fun c114 => ?_)
      · have hf := if_t c114 hf
        refine X.sub [1, 2, 3, 4] (L' := [(0, va_rf x0), (1, .int x1), (2, .int x2), (3, .int x3)]) rfl ?_
        exact c_X3_greatest_119_ok hk4 _ _ _ _ _ _ hf
      · have hf := if_f c114 hf
        refine X.sub [1, 2, 4] (L' := [(0, va_rf x0), (1, .int x1), (3, .int x3)]) rfl ?_
        exact c_X3_greatest_117_ok hk4 _ _ _ _ _ hf
def c_X3_greatest_4_b (G : xG) (k4 : Option Nat → Int32 → Int32 → Int32 → xF → Option (Int32 × xF)) (x0 : Option Nat) (x1 : Int32) (x2 : Int32) (x3 : Int32) (T : xF) : Option (Int32 × xF) :=
  (oQ T x0 2 5).bind fun v6 =>
  (oQ T v6 0 1).bind fun v9 =>
  if ¬ isO T v9 1 = true then none else
  (c_X2_cells T v9).bind fun v12 =>
  if v12 ≤ x3 then
    some (x2, T)
  else
    (oQ T x0 2 2).bind fun v19 =>
    (ldA T v19 .int x3).bind fun v23 =>
    if v23 = (-1 : Int32) then
      c_X3_greatest_119 G k4 x0 x1 x2 x3 T
    else
      (oQ T x0 2 5).bind fun v29 =>
      (oQ T v29 0 1).bind fun v32 =>
      if ¬ isO T v32 1 = true then none else
      (c_X2_steps T v32 x3 x1).bind fun v37 =>
      if v37 = (1 : Int32) then
        (oQ T x0 2 2).bind fun v48 =>
        (ldA T v48 .int x1).bind fun v52 =>
        if v52 = (-1 : Int32) then
          (oQ T x0 2 3).bind fun v58 =>
          (ldA T v58 .int x3).bind fun v62 =>
          (oQ T x0 2 5).bind fun v64 =>
          (oQ T v64 0 1).bind fun v67 =>
          (oI T v67 1 5).bind fun v70 =>
          if v62 < v70 then
            c_X3_greatest_90 G k4 x0 x1 x2 x3 (0 : Int32) T
          else
            c_X3_greatest_90 G k4 x0 x1 x2 x3 (1 : Int32) T
        else
          if ¬ isO T x0 2 = true then none else
          cl (c_X3_beats G x0 x3 x1 T) T fun v87 T87 =>
          c_X3_greatest_90 G k4 x0 x1 x2 x3 v87 T87
      else
        c_X3_greatest_119 G k4 x0 x1 x2 x3 T
def c_X3_greatest_4 (G : xG) : Nat → Option Nat → Int32 → Int32 → Int32 → xF → Option (Int32 × xF)
  | 0 => fun _ _ _ _ _ => none
  | n + 1 => fun x0 x1 x2 x3 T => c_X3_greatest_4_b G (c_X3_greatest_4 G n) x0 x1 x2 x3 T
theorem c_X3_greatest_4_bok {G : xG}  {T0 : xF}  {k4 : Option Nat → Int32 → Int32 → Int32 → xF → Option (Int32 × xF)}  (hk4 : ∀ (x0 : Option Nat) (x1 : Int32) (x2 : Int32) (x3 : Int32) (T : xF) (q : (Int32 × xF)), k4 x0 x1 x2 x3 T = some q → Xr G (mX3_greatest, xrm (122) T0 q.2, T0, .inl (some (.int q.1)), q.2) 4 [(0, va_rf x0), (1, .int x1), (2, .int x2), (3, .int x3)] [] T) (x0 : Option Nat) (x1 : Int32) (x2 : Int32) (x3 : Int32) (T : xF) (q : (Int32 × xF)) (hf : c_X3_greatest_4_b G k4 x0 x1 x2 x3 T = some q) : Xr G (mX3_greatest, xrm (122) T0 q.2, T0, .inl (some (.int q.1)), q.2) 4 [(0, va_rf x0), (1, .int x1), (2, .int x2), (3, .int x3)] [] T := by
  unfold c_X3_greatest_4_b at hf
  refine X.iload_n dX3_greatest_4 rfl 3 rfl ?_
  refine C.aload_n dX3_greatest_5 rfl 0 rfl ?_
  obtain ⟨v6, h6, hf⟩ := ob hf
  refine C.getQ dX3_greatest_6 rX3_3 h6 ?_
  obtain ⟨v9, h9, hf⟩ := ob hf
  refine C.getQ dX3_greatest_9 rX3_39 h9 ?_
  obtain ⟨c12, hf⟩ := if_n hf
  obtain ⟨v12, h12, hf⟩ := ob hf
  refine X.keep fun l12 => C.Vi (As := []) (rest := [.int x3]) dX3_greatest_12 (w_X2_cells h12) cX3_43 (Classical.not_not.mp c12) rfl rfl (xcs (xvI xvN) (Nat.le_of_ble_eq_true rfl)) rfl rfl (xD (Nat.le_of_ble_eq_true rfl)) xle.rf l12 ?_
  refine X.icmp_ge (tgt := 125) dX3_greatest_15 (by decide) (fun c15 => ?_) (fun c15 => ?_)
  · have hf := if_t c15 hf
    refine X.iload_n dX3_greatest_125 rfl 2 rfl ?_
    obtain rfl := Option.some.inj hf
    exact X.iret dX3_greatest_126 rfl rfl rfl
  · have hf := if_f c15 hf
    refine C.aload_n dX3_greatest_18 rfl 0 rfl ?_
    obtain ⟨v19, h19, hf⟩ := ob hf
    refine C.getQ dX3_greatest_19 rX3_22 h19 ?_
    refine X.iload_n dX3_greatest_22 rfl 3 rfl ?_
    obtain ⟨v23, h23, hf⟩ := ob hf
    refine C.iald dX3_greatest_23 h23 ?_
    refine X.iconst (v := -1) dX3_greatest_24 (by decide) ?_
    refine X.icmp_eq (tgt := 119) dX3_greatest_25 (by decide) (fun c25 => ?_) (fun c25 => ?_)
    · have hf := if_t c25 hf
      refine X.sub [0, 1, 2, 3] (L' := [(0, va_rf x0), (1, .int x1), (2, .int x2), (3, .int x3)]) rfl ?_
      exact c_X3_greatest_119_ok hk4 _ _ _ _ _ _ hf
    · have hf := if_f c25 hf
      refine C.aload_n dX3_greatest_28 rfl 0 rfl ?_
      obtain ⟨v29, h29, hf⟩ := ob hf
      refine C.getQ dX3_greatest_29 rX3_3 h29 ?_
      obtain ⟨v32, h32, hf⟩ := ob hf
      refine C.getQ dX3_greatest_32 rX3_39 h32 ?_
      refine X.iload_n dX3_greatest_35 rfl 3 rfl ?_
      refine X.iload_n dX3_greatest_36 rfl 1 rfl ?_
      obtain ⟨c37, hf⟩ := if_n hf
      obtain ⟨v37, h37, hf⟩ := ob hf
      refine X.keep fun l37 => C.Vi (As := [.int x3, .int x1]) (rest := []) dX3_greatest_37 (w_X2_steps h37) cX3_49 (Classical.not_not.mp c37) rfl rfl (xcs xvN (Nat.le_of_ble_eq_true rfl)) rfl rfl (xD (Nat.le_of_ble_eq_true rfl)) xle.rf l37 ?_
      refine X.iconst (v := 1) dX3_greatest_40 (by decide) ?_
      refine X.icmp_eq (tgt := 47) dX3_greatest_41 (by decide) (fun c41 => ?_) (fun c41 => ?_)
      · have hf := if_t c41 hf
        refine C.aload_n dX3_greatest_47 rfl 0 rfl ?_
        obtain ⟨v48, h48, hf⟩ := ob hf
        refine C.getQ dX3_greatest_48 rX3_22 h48 ?_
        refine X.iload_n dX3_greatest_51 rfl 1 rfl ?_
        obtain ⟨v52, h52, hf⟩ := ob hf
        refine C.iald dX3_greatest_52 h52 ?_
        refine X.iconst (v := -1) dX3_greatest_53 (by decide) ?_
        refine X.icmp_ne (tgt := 84) dX3_greatest_54 (by decide) (fun c54 => ?_) (fun c54 => ?_)
        · have hf := if_f c54 hf
          refine C.aload_n dX3_greatest_84 rfl 0 rfl ?_
          refine X.iload_n dX3_greatest_85 rfl 3 rfl ?_
          refine X.iload_n dX3_greatest_86 rfl 1 rfl ?_
          obtain ⟨c87, hf⟩ := if_n hf
          obtain ⟨v87, T87, h87, hf, l87, r87⟩ := cl_ok hf
          refine C.Vi (As := [.int x3, .int x1]) (rest := []) dX3_greatest_87 (w_X3_beats h87) cX3_97 (Classical.not_not.mp c87) rfl rfl (xcs xvN (Nat.le_of_ble_eq_true rfl)) rfl rfl (xD (Nat.le_of_ble_eq_true rfl)) l87 r87 ?_
          refine X.sub [0, 1, 2, 3] (L' := [(0, va_rf x0), (1, .int x1), (2, .int x2), (3, .int x3)]) rfl ?_
          exact c_X3_greatest_90_ok hk4 _ _ _ _ _ _ _ hf
        · have hf := if_t c54 hf
          refine C.aload_n dX3_greatest_57 rfl 0 rfl ?_
          obtain ⟨v58, h58, hf⟩ := ob hf
          refine C.getQ dX3_greatest_58 rX3_25 h58 ?_
          refine X.iload_n dX3_greatest_61 rfl 3 rfl ?_
          obtain ⟨v62, h62, hf⟩ := ob hf
          refine C.iald dX3_greatest_62 h62 ?_
          refine C.aload_n dX3_greatest_63 rfl 0 rfl ?_
          obtain ⟨v64, h64, hf⟩ := ob hf
          refine C.getQ dX3_greatest_64 rX3_3 h64 ?_
          obtain ⟨v67, h67, hf⟩ := ob hf
          refine C.getQ dX3_greatest_67 rX3_39 h67 ?_
          obtain ⟨v70, h70, hf⟩ := ob hf
          refine C.getI dX3_greatest_70 rX3_94 h70 ?_
          refine X.icmp_lt (tgt := 80) dX3_greatest_73 (by decide) (fun c73 => ?_) (fun c73 => ?_)
          · have hf := if_t c73 hf
            refine X.iconst (v := 0) dX3_greatest_80 (by decide) ?_
            refine X.goto (tgt := 90) dX3_greatest_81 (by decide) ?_
            refine X.sub [0, 1, 2, 3] (L' := [(0, va_rf x0), (1, .int x1), (2, .int x2), (3, .int x3)]) rfl ?_
            exact c_X3_greatest_90_ok hk4 _ _ _ _ _ _ _ hf
          · have hf := if_f c73 hf
            refine X.iconst (v := 1) dX3_greatest_76 (by decide) ?_
            refine X.goto (tgt := 90) dX3_greatest_77 (by decide) ?_
            refine X.sub [0, 1, 2, 3] (L' := [(0, va_rf x0), (1, .int x1), (2, .int x2), (3, .int x3)]) rfl ?_
            exact c_X3_greatest_90_ok hk4 _ _ _ _ _ _ _ hf
      · have hf := if_f c41 hf
        refine X.goto (tgt := 119) dX3_greatest_44 (by decide) ?_
        refine X.sub [0, 1, 2, 3] (L' := [(0, va_rf x0), (1, .int x1), (2, .int x2), (3, .int x3)]) rfl ?_
        exact c_X3_greatest_119_ok hk4 _ _ _ _ _ _ hf
theorem c_X3_greatest_4_ok {G : xG}  {T0 : xF}   : ∀ (n : Nat) (x0 : Option Nat) (x1 : Int32) (x2 : Int32) (x3 : Int32) (T : xF) (q : (Int32 × xF)), c_X3_greatest_4 G n x0 x1 x2 x3 T = some q → Xr G (mX3_greatest, xrm (122) T0 q.2, T0, .inl (some (.int q.1)), q.2) 4 [(0, va_rf x0), (1, .int x1), (2, .int x2), (3, .int x3)] [] T
  | 0, _, _, _, _, _, _, hf => by cases hf
  | n + 1, x0, x1, x2, x3, T, q, hf => c_X3_greatest_4_bok (c_X3_greatest_4_ok n) x0 x1 x2 x3 T q hf
def c_X3_greatest (G : xG) (x0 : Option Nat) (x1 : Int32) (T : xF) : Option (Int32 × xF) :=
  c_X3_greatest_4 G FU x0 x1 (-1 : Int32) (0 : Int32) T
theorem w_X3_greatest {G : xG}  {T : xF} {x0 : Option Nat} {x1 : Int32} {q : (Int32 × xF)} (hf : c_X3_greatest G x0 x1 T = some q) : Ct G mX3_greatest (122) T [va_rf x0, .int x1] (.inl (some (.int q.1))) q.2 := by
  refine Ct.ofc (plainFor_of_name (by decide +kernel)) rfl (xvQ (xvI xvN)) (Nat.le_of_ble_eq_true rfl) (show Xr G _ 0 [(0, va_rf x0), (1, .int x1)] [] _ from ?_)
  unfold c_X3_greatest at hf
  refine X.iconst (v := -1) dX3_greatest_0 (by decide) ?_
  refine C.ist_n (L' := [(2, .int (-1 : Int32)), (0, va_rf x0), (1, .int x1)]) dX3_greatest_1 rfl (Nat.le_of_ble_eq_true rfl) (xcQ (xcI xcN)) rfl ?_
  refine X.iconst (v := 0) dX3_greatest_2 (by decide) ?_
  refine C.ist_n (L' := [(3, .int (0 : Int32)), (2, .int (-1 : Int32)), (0, va_rf x0), (1, .int x1)]) dX3_greatest_3 rfl (Nat.le_of_ble_eq_true rfl) (xcI (xcQ (xcI xcN))) rfl ?_
  refine X.sub [2, 3, 1, 0] (L' := [(0, va_rf x0), (1, .int x1), (2, .int (-1 : Int32)), (3, .int (0 : Int32))]) rfl ?_
  exact c_X3_greatest_4_ok FU _ _ _ _ _ _ hf
theorem cX3_100 : xCV RX3 100 mX3_greatest 1 := ⟨lw_V q594 q596 qs9 q126 q597, rfl, ⟨by decide +kernel, by decide +kernel, by decide +kernel⟩, Nat.le_of_ble_eq_true rfl⟩
/-! MouldVotes$Growth fight -/
abbrev cX3_fight : ByteArray := prog_4_method_10_code
def yX3_fight : MethodName := ⟨RX3, "fight", "(LMouldVotes$Growth;)V"⟩
def dkwX3_fight_2 : List UInt8 := [180, 0, 22, 29, 46, 79, 132, 2, 1, 167, 255, 202, 177]
abbrev dktX3_fight_2 : List UInt8 := dkwX3_fight_2 ++ []
def dkwX3_fight_1 : List UInt8 := [160, 0, 7, 2, 167, 0, 8, 43, 28, 182, 0, 100, 62, 29, 2, 159, 0, 15, 42, 180, 0, 22, 28, 43]
abbrev dktX3_fight_1 : List UInt8 := dkwX3_fight_1 ++ dktX3_fight_2
def dkwX3_fight_0 : List UInt8 := [3, 61, 28, 42, 180, 0, 3, 180, 0, 39, 182, 0, 43, 162, 0, 46, 42, 180, 0, 22, 28, 46, 2]
abbrev dktX3_fight_0 : List UInt8 := dkwX3_fight_0 ++ dktX3_fight_1
theorem dksX3_fight_0 : cX3_fight.data.toList.drop 0 = dktX3_fight_0 := by decide +kernel
theorem dksX3_fight_1 : cX3_fight.data.toList.drop 23 = dktX3_fight_1 := dk_seg dksX3_fight_0 23 rfl rfl
theorem dksX3_fight_2 : cX3_fight.data.toList.drop 47 = dktX3_fight_2 := dk_seg dksX3_fight_1 24 rfl rfl
theorem dX3_fight_0 : decode cX3_fight 0 = .ok (.iconst 0, 1) := dk_3 (dk_at dksX3_fight_0 0 rfl rfl)
theorem dX3_fight_1 : decode cX3_fight 1 = .ok (.istore_n 2, 1) := dk_61 (dk_at dksX3_fight_0 1 rfl rfl)
theorem dX3_fight_2 : decode cX3_fight 2 = .ok (.iload_n 2, 1) := dk_28 (dk_at dksX3_fight_0 2 rfl rfl)
theorem dX3_fight_3 : decode cX3_fight 3 = .ok (.aload_n 0, 1) := dk_42 (dk_at dksX3_fight_0 3 rfl rfl)
theorem dX3_fight_4 : decode cX3_fight 4 = .ok (.getfield 3, 3) := dk_180 0 3 (dk_at dksX3_fight_0 4 rfl rfl)
theorem dX3_fight_7 : decode cX3_fight 7 = .ok (.getfield 39, 3) := dk_180 0 39 (dk_at dksX3_fight_0 7 rfl rfl)
theorem dX3_fight_10 : decode cX3_fight 10 = .ok (.invokevirtual 43, 3) := dk_182 0 43 (dk_at dksX3_fight_0 10 rfl rfl)
theorem dX3_fight_13 : decode cX3_fight 13 = .ok (.if_icmp .ge 46, 3) := dk_162 0 46 (dk_at dksX3_fight_0 13 rfl rfl)
theorem dX3_fight_16 : decode cX3_fight 16 = .ok (.aload_n 0, 1) := dk_42 (dk_at dksX3_fight_0 16 rfl rfl)
theorem dX3_fight_17 : decode cX3_fight 17 = .ok (.getfield 22, 3) := dk_180 0 22 (dk_at dksX3_fight_0 17 rfl rfl)
theorem dX3_fight_20 : decode cX3_fight 20 = .ok (.iload_n 2, 1) := dk_28 (dk_at dksX3_fight_0 20 rfl rfl)
theorem dX3_fight_21 : decode cX3_fight 21 = .ok (.iaload, 1) := dk_46 (dk_at dksX3_fight_0 21 rfl rfl)
theorem dX3_fight_22 : decode cX3_fight 22 = .ok (.iconst (-1), 1) := dk_2 (dk_at dksX3_fight_0 22 rfl rfl)
theorem dX3_fight_23 : decode cX3_fight 23 = .ok (.if_icmp .ne 7, 3) := dk_160 0 7 (dk_at dksX3_fight_1 0 rfl rfl)
theorem dX3_fight_26 : decode cX3_fight 26 = .ok (.iconst (-1), 1) := dk_2 (dk_at dksX3_fight_1 3 rfl rfl)
theorem dX3_fight_27 : decode cX3_fight 27 = .ok (.goto 8, 3) := dk_167 0 8 (dk_at dksX3_fight_1 4 rfl rfl)
theorem dX3_fight_30 : decode cX3_fight 30 = .ok (.aload_n 1, 1) := dk_43 (dk_at dksX3_fight_1 7 rfl rfl)
theorem dX3_fight_31 : decode cX3_fight 31 = .ok (.iload_n 2, 1) := dk_28 (dk_at dksX3_fight_1 8 rfl rfl)
theorem dX3_fight_32 : decode cX3_fight 32 = .ok (.invokevirtual 100, 3) := dk_182 0 100 (dk_at dksX3_fight_1 9 rfl rfl)
theorem dX3_fight_35 : decode cX3_fight 35 = .ok (.istore_n 3, 1) := dk_62 (dk_at dksX3_fight_1 12 rfl rfl)
theorem dX3_fight_36 : decode cX3_fight 36 = .ok (.iload_n 3, 1) := dk_29 (dk_at dksX3_fight_1 13 rfl rfl)
theorem dX3_fight_37 : decode cX3_fight 37 = .ok (.iconst (-1), 1) := dk_2 (dk_at dksX3_fight_1 14 rfl rfl)
theorem dX3_fight_38 : decode cX3_fight 38 = .ok (.if_icmp .eq 15, 3) := dk_159 0 15 (dk_at dksX3_fight_1 15 rfl rfl)
theorem dX3_fight_41 : decode cX3_fight 41 = .ok (.aload_n 0, 1) := dk_42 (dk_at dksX3_fight_1 18 rfl rfl)
theorem dX3_fight_42 : decode cX3_fight 42 = .ok (.getfield 22, 3) := dk_180 0 22 (dk_at dksX3_fight_1 19 rfl rfl)
theorem dX3_fight_45 : decode cX3_fight 45 = .ok (.iload_n 2, 1) := dk_28 (dk_at dksX3_fight_1 22 rfl rfl)
theorem dX3_fight_46 : decode cX3_fight 46 = .ok (.aload_n 1, 1) := dk_43 (dk_at dksX3_fight_1 23 rfl rfl)
theorem dX3_fight_47 : decode cX3_fight 47 = .ok (.getfield 22, 3) := dk_180 0 22 (dk_at dksX3_fight_2 0 rfl rfl)
theorem dX3_fight_50 : decode cX3_fight 50 = .ok (.iload_n 3, 1) := dk_29 (dk_at dksX3_fight_2 3 rfl rfl)
theorem dX3_fight_51 : decode cX3_fight 51 = .ok (.iaload, 1) := dk_46 (dk_at dksX3_fight_2 4 rfl rfl)
theorem dX3_fight_52 : decode cX3_fight 52 = .ok (.iastore, 1) := dk_79 (dk_at dksX3_fight_2 5 rfl rfl)
theorem dX3_fight_53 : decode cX3_fight 53 = .ok (.iinc 2 1, 3) := dk_132 2 1 (dk_at dksX3_fight_2 6 rfl rfl)
theorem dX3_fight_56 : decode cX3_fight 56 = .ok (.goto (-54), 3) := dk_167 255 202 (dk_at dksX3_fight_2 9 rfl rfl)
theorem dX3_fight_59 : decode cX3_fight 59 = .ok (.return_, 1) := dk_177 (dk_at dksX3_fight_2 12 rfl rfl)
abbrev mX3_fight : xM := (yX3_fight, cX3_fight, 4, none, [])
def c_X3_fight_53 (G : xG) (k2 : Option Nat → Option Nat → Int32 → xF → Option (Unit × xF)) (x0 : Option Nat) (x1 : Option Nat) (x2 : Int32) (T : xF) : Option (Unit × xF) :=
  k2 x0 x1 (x2 + 1) T
theorem c_X3_fight_53_ok {G : xG}  {T0 : xF} {k2 : Option Nat → Option Nat → Int32 → xF → Option (Unit × xF)} (hk2 : ∀ (x0 : Option Nat) (x1 : Option Nat) (x2 : Int32) (T : xF) (q : (Unit × xF)), k2 x0 x1 x2 T = some q → Xr G (mX3_fight, xrm (123) T0 q.2, T0, .inl none, q.2) 2 [(0, va_rf x0), (1, va_rf x1), (2, .int x2)] [] T) (x0 : Option Nat) (x1 : Option Nat) (x2 : Int32) (T : xF) (q : (Unit × xF)) (hf : c_X3_fight_53 G k2 x0 x1 x2 T = some q) : Xr G (mX3_fight, xrm (123) T0 q.2, T0, .inl none, q.2) 53 [(0, va_rf x0), (1, va_rf x1), (2, .int x2)] [] T := by
  unfold c_X3_fight_53 at hf
  refine C.iinc (v := (x2 + 1)) (L' := [(2, .int (x2 + 1)), (0, va_rf x0), (1, va_rf x1)]) dX3_fight_53 2 rfl rfl (Nat.le_of_ble_eq_true rfl) (xcQ (xcQ (xcI xcN))) rfl ?_
  refine X.goto (tgt := 2) dX3_fight_56 (by decide) ?_
  refine X.sub [1, 2, 0] (L' := [(0, va_rf x0), (1, va_rf x1), (2, .int (x2 + 1))]) rfl ?_
  exact hk2 _ _ _ _ _ hf
def c_X3_fight_35 (G : xG) (k2 : Option Nat → Option Nat → Int32 → xF → Option (Unit × xF)) (x0 : Option Nat) (x1 : Option Nat) (x2 : Int32) (y0 : Int32) (T : xF) : Option (Unit × xF) :=
  if y0 = (-1 : Int32) then
    c_X3_fight_53 G k2 x0 x1 x2 T
  else
    (oQ T x0 2 2).bind fun v42 =>
    (oQ T x1 2 2).bind fun v47 =>
    (ldA T v47 .int y0).bind fun v51 =>
    (stA T v42 .int x2 v51).bind fun T52 =>
    c_X3_fight_53 G k2 x0 x1 x2 T52
theorem c_X3_fight_35_ok {G : xG}  {T0 : xF} {k2 : Option Nat → Option Nat → Int32 → xF → Option (Unit × xF)} (hk2 : ∀ (x0 : Option Nat) (x1 : Option Nat) (x2 : Int32) (T : xF) (q : (Unit × xF)), k2 x0 x1 x2 T = some q → Xr G (mX3_fight, xrm (123) T0 q.2, T0, .inl none, q.2) 2 [(0, va_rf x0), (1, va_rf x1), (2, .int x2)] [] T) (x0 : Option Nat) (x1 : Option Nat) (x2 : Int32) (y0 : Int32) (T : xF) (q : (Unit × xF)) (hf : c_X3_fight_35 G k2 x0 x1 x2 y0 T = some q) : Xr G (mX3_fight, xrm (123) T0 q.2, T0, .inl none, q.2) 35 [(0, va_rf x0), (1, va_rf x1), (2, .int x2)] [.int y0] T := by
  unfold c_X3_fight_35 at hf
  refine C.ist_n (L' := [(3, .int y0), (0, va_rf x0), (1, va_rf x1), (2, .int x2)]) dX3_fight_35 rfl (Nat.le_of_ble_eq_true rfl) (xcQ (xcQ (xcI xcN))) rfl ?_
  refine X.iload_n dX3_fight_36 rfl 0 rfl ?_
  refine X.iconst (v := -1) dX3_fight_37 (by decide) ?_
  refine X.icmp_eq (tgt := 53) dX3_fight_38 (by decide) (fun c38 => ?_) (fun c38 => ?_)
  · have hf := if_t c38 hf
    refine X.sub [1, 2, 3] (L' := [(0, va_rf x0), (1, va_rf x1), (2, .int x2)]) rfl ?_
    exact c_X3_fight_53_ok hk2 _ _ _ _ _ hf
  · have hf := if_f c38 hf
    refine C.aload_n dX3_fight_41 rfl 1 rfl ?_
    obtain ⟨v42, h42, hf⟩ := ob hf
    refine C.getQ dX3_fight_42 rX3_22 h42 ?_
    refine X.iload_n dX3_fight_45 rfl 3 rfl ?_
    refine C.aload_n dX3_fight_46 rfl 2 rfl ?_
    obtain ⟨v47, h47, hf⟩ := ob hf
    refine C.getQ dX3_fight_47 rX3_22 h47 ?_
    refine X.iload_n dX3_fight_50 rfl 0 rfl ?_
    obtain ⟨v51, h51, hf⟩ := ob hf
    refine C.iald dX3_fight_51 h51 ?_
    obtain ⟨T52, h52, hf⟩ := ob hf
    refine C.iast dX3_fight_52 h52 ?_
    refine X.sub [1, 2, 3] (L' := [(0, va_rf x0), (1, va_rf x1), (2, .int x2)]) rfl ?_
    exact c_X3_fight_53_ok hk2 _ _ _ _ _ hf
def c_X3_fight_2_b (G : xG) (k2 : Option Nat → Option Nat → Int32 → xF → Option (Unit × xF)) (x0 : Option Nat) (x1 : Option Nat) (x2 : Int32) (T : xF) : Option (Unit × xF) :=
  (oQ T x0 2 5).bind fun v4 =>
  (oQ T v4 0 1).bind fun v7 =>
  if ¬ isO T v7 1 = true then none else
  (c_X2_cells T v7).bind fun v10 =>
  if v10 ≤ x2 then
    some ((), T)
  else
    (oQ T x0 2 2).bind fun v17 =>
    (ldA T v17 .int x2).bind fun v21 =>
    if v21 = (-1 : Int32) then
      c_X3_fight_35 G k2 x0 x1 x2 (-1 : Int32) T
    else
      if ¬ isO T x1 2 = true then none else
      cl (c_X3_greatest G x1 x2 T) T fun v32 T32 =>
      c_X3_fight_35 G k2 x0 x1 x2 v32 T32
def c_X3_fight_2 (G : xG) : Nat → Option Nat → Option Nat → Int32 → xF → Option (Unit × xF)
  | 0 => fun _ _ _ _ => none
  | n + 1 => fun x0 x1 x2 T => c_X3_fight_2_b G (c_X3_fight_2 G n) x0 x1 x2 T
theorem c_X3_fight_2_bok {G : xG}  {T0 : xF}  {k2 : Option Nat → Option Nat → Int32 → xF → Option (Unit × xF)}  (hk2 : ∀ (x0 : Option Nat) (x1 : Option Nat) (x2 : Int32) (T : xF) (q : (Unit × xF)), k2 x0 x1 x2 T = some q → Xr G (mX3_fight, xrm (123) T0 q.2, T0, .inl none, q.2) 2 [(0, va_rf x0), (1, va_rf x1), (2, .int x2)] [] T) (x0 : Option Nat) (x1 : Option Nat) (x2 : Int32) (T : xF) (q : (Unit × xF)) (hf : c_X3_fight_2_b G k2 x0 x1 x2 T = some q) : Xr G (mX3_fight, xrm (123) T0 q.2, T0, .inl none, q.2) 2 [(0, va_rf x0), (1, va_rf x1), (2, .int x2)] [] T := by
  unfold c_X3_fight_2_b at hf
  refine X.iload_n dX3_fight_2 rfl 2 rfl ?_
  refine C.aload_n dX3_fight_3 rfl 0 rfl ?_
  obtain ⟨v4, h4, hf⟩ := ob hf
  refine C.getQ dX3_fight_4 rX3_3 h4 ?_
  obtain ⟨v7, h7, hf⟩ := ob hf
  refine C.getQ dX3_fight_7 rX3_39 h7 ?_
  obtain ⟨c10, hf⟩ := if_n hf
  obtain ⟨v10, h10, hf⟩ := ob hf
  refine X.keep fun l10 => C.Vi (As := []) (rest := [.int x2]) dX3_fight_10 (w_X2_cells h10) cX3_43 (Classical.not_not.mp c10) rfl rfl (xcs (xvI xvN) (Nat.le_of_ble_eq_true rfl)) rfl rfl (xD (Nat.le_of_ble_eq_true rfl)) xle.rf l10 ?_
  refine X.icmp_ge (tgt := 59) dX3_fight_13 (by decide) (fun c13 => ?_) (fun c13 => ?_)
  · have hf := if_t c13 hf
    obtain rfl := Option.some.inj hf
    exact X.vret dX3_fight_59 rfl rfl
  · have hf := if_f c13 hf
    refine C.aload_n dX3_fight_16 rfl 0 rfl ?_
    obtain ⟨v17, h17, hf⟩ := ob hf
    refine C.getQ dX3_fight_17 rX3_22 h17 ?_
    refine X.iload_n dX3_fight_20 rfl 2 rfl ?_
    obtain ⟨v21, h21, hf⟩ := ob hf
    refine C.iald dX3_fight_21 h21 ?_
    refine X.iconst (v := -1) dX3_fight_22 (by decide) ?_
    refine X.icmp_ne (tgt := 30) dX3_fight_23 (by decide) (fun c23 => ?_) (fun c23 => ?_)
    · have hf := if_f c23 hf
      refine C.aload_n dX3_fight_30 rfl 1 rfl ?_
      refine X.iload_n dX3_fight_31 rfl 2 rfl ?_
      obtain ⟨c32, hf⟩ := if_n hf
      obtain ⟨v32, T32, h32, hf, l32, r32⟩ := cl_ok hf
      refine C.Vi (As := [.int x2]) (rest := []) dX3_fight_32 (w_X3_greatest h32) cX3_100 (Classical.not_not.mp c32) rfl rfl (xcs xvN (Nat.le_of_ble_eq_true rfl)) rfl rfl (xD (Nat.le_of_ble_eq_true rfl)) l32 r32 ?_
      refine X.sub [0, 1, 2] (L' := [(0, va_rf x0), (1, va_rf x1), (2, .int x2)]) rfl ?_
      exact c_X3_fight_35_ok hk2 _ _ _ _ _ _ hf
    · have hf := if_t c23 hf
      refine X.iconst (v := -1) dX3_fight_26 (by decide) ?_
      refine X.goto (tgt := 35) dX3_fight_27 (by decide) ?_
      refine X.sub [0, 1, 2] (L' := [(0, va_rf x0), (1, va_rf x1), (2, .int x2)]) rfl ?_
      exact c_X3_fight_35_ok hk2 _ _ _ _ _ _ hf
theorem c_X3_fight_2_ok {G : xG}  {T0 : xF}   : ∀ (n : Nat) (x0 : Option Nat) (x1 : Option Nat) (x2 : Int32) (T : xF) (q : (Unit × xF)), c_X3_fight_2 G n x0 x1 x2 T = some q → Xr G (mX3_fight, xrm (123) T0 q.2, T0, .inl none, q.2) 2 [(0, va_rf x0), (1, va_rf x1), (2, .int x2)] [] T
  | 0, _, _, _, _, _, hf => by cases hf
  | n + 1, x0, x1, x2, T, q, hf => c_X3_fight_2_bok (c_X3_fight_2_ok n) x0 x1 x2 T q hf
def c_X3_fight (G : xG) (x0 : Option Nat) (x1 : Option Nat) (T : xF) : Option (Unit × xF) :=
  c_X3_fight_2 G FU x0 x1 (0 : Int32) T
theorem w_X3_fight {G : xG}  {T : xF} {x0 : Option Nat} {x1 : Option Nat} {q : (Unit × xF)} (hf : c_X3_fight G x0 x1 T = some q) : Ct G mX3_fight (123) T [va_rf x0, va_rf x1] (.inl none) q.2 := by
  refine Ct.ofc (plainFor_of_name (by decide +kernel)) rfl (xvQ (xvQ xvN)) (Nat.le_of_ble_eq_true rfl) (show Xr G _ 0 [(0, va_rf x0), (1, va_rf x1)] [] _ from ?_)
  unfold c_X3_fight at hf
  refine X.iconst (v := 0) dX3_fight_0 (by decide) ?_
  refine C.ist_n (L' := [(2, .int (0 : Int32)), (0, va_rf x0), (1, va_rf x1)]) dX3_fight_1 rfl (Nat.le_of_ble_eq_true rfl) (xcQ (xcQ xcN)) rfl ?_
  refine X.sub [1, 2, 0] (L' := [(0, va_rf x0), (1, va_rf x1), (2, .int (0 : Int32))]) rfl ?_
  exact c_X3_fight_2_ok FU _ _ _ _ _ hf
theorem cX3_111 : xCV RX3 111 mX3_fight 1 := ⟨lw_V q590 q592 qs8 q126 q593, rfl, ⟨by decide +kernel, by decide +kernel, by decide +kernel⟩, Nat.le_of_ble_eq_true rfl⟩
/-! MouldVotes$Growth sow -/
abbrev cX3_sow : ByteArray := prog_4_method_11_code
def yX3_sow : MethodName := ⟨RX3, "sow", "(LMouldVotes$Growth;)V"⟩
def dkwX3_sow_3 : List UInt8 := [79, 132, 2, 1, 167, 255, 183, 177]
abbrev dktX3_sow_3 : List UInt8 := dkwX3_sow_3 ++ []
def dkwX3_sow_2 : List UInt8 := [160, 0, 6, 167, 0, 22, 42, 180, 0, 22, 28, 43, 180, 0, 22, 29, 46, 79, 42, 180, 0, 25, 28, 4]
abbrev dktX3_sow_2 : List UInt8 := dkwX3_sow_2 ++ dktX3_sow_3
def dkwX3_sow_1 : List UInt8 := [160, 0, 12, 42, 180, 0, 19, 28, 46, 154, 0, 7, 2, 167, 0, 8, 43, 28, 182, 0, 100, 62, 29, 2]
abbrev dktX3_sow_1 : List UInt8 := dkwX3_sow_1 ++ dktX3_sow_2
def dkwX3_sow_0 : List UInt8 := [3, 61, 28, 42, 180, 0, 3, 180, 0, 39, 182, 0, 43, 162, 0, 65, 43, 180, 0, 22, 28, 46, 2]
abbrev dktX3_sow_0 : List UInt8 := dkwX3_sow_0 ++ dktX3_sow_1
theorem dksX3_sow_0 : cX3_sow.data.toList.drop 0 = dktX3_sow_0 := by decide +kernel
theorem dksX3_sow_1 : cX3_sow.data.toList.drop 23 = dktX3_sow_1 := dk_seg dksX3_sow_0 23 rfl rfl
theorem dksX3_sow_2 : cX3_sow.data.toList.drop 47 = dktX3_sow_2 := dk_seg dksX3_sow_1 24 rfl rfl
theorem dksX3_sow_3 : cX3_sow.data.toList.drop 71 = dktX3_sow_3 := dk_seg dksX3_sow_2 24 rfl rfl
theorem dX3_sow_0 : decode cX3_sow 0 = .ok (.iconst 0, 1) := dk_3 (dk_at dksX3_sow_0 0 rfl rfl)
theorem dX3_sow_1 : decode cX3_sow 1 = .ok (.istore_n 2, 1) := dk_61 (dk_at dksX3_sow_0 1 rfl rfl)
theorem dX3_sow_2 : decode cX3_sow 2 = .ok (.iload_n 2, 1) := dk_28 (dk_at dksX3_sow_0 2 rfl rfl)
theorem dX3_sow_3 : decode cX3_sow 3 = .ok (.aload_n 0, 1) := dk_42 (dk_at dksX3_sow_0 3 rfl rfl)
theorem dX3_sow_4 : decode cX3_sow 4 = .ok (.getfield 3, 3) := dk_180 0 3 (dk_at dksX3_sow_0 4 rfl rfl)
theorem dX3_sow_7 : decode cX3_sow 7 = .ok (.getfield 39, 3) := dk_180 0 39 (dk_at dksX3_sow_0 7 rfl rfl)
theorem dX3_sow_10 : decode cX3_sow 10 = .ok (.invokevirtual 43, 3) := dk_182 0 43 (dk_at dksX3_sow_0 10 rfl rfl)
theorem dX3_sow_13 : decode cX3_sow 13 = .ok (.if_icmp .ge 65, 3) := dk_162 0 65 (dk_at dksX3_sow_0 13 rfl rfl)
theorem dX3_sow_16 : decode cX3_sow 16 = .ok (.aload_n 1, 1) := dk_43 (dk_at dksX3_sow_0 16 rfl rfl)
theorem dX3_sow_17 : decode cX3_sow 17 = .ok (.getfield 22, 3) := dk_180 0 22 (dk_at dksX3_sow_0 17 rfl rfl)
theorem dX3_sow_20 : decode cX3_sow 20 = .ok (.iload_n 2, 1) := dk_28 (dk_at dksX3_sow_0 20 rfl rfl)
theorem dX3_sow_21 : decode cX3_sow 21 = .ok (.iaload, 1) := dk_46 (dk_at dksX3_sow_0 21 rfl rfl)
theorem dX3_sow_22 : decode cX3_sow 22 = .ok (.iconst (-1), 1) := dk_2 (dk_at dksX3_sow_0 22 rfl rfl)
theorem dX3_sow_23 : decode cX3_sow 23 = .ok (.if_icmp .ne 12, 3) := dk_160 0 12 (dk_at dksX3_sow_1 0 rfl rfl)
theorem dX3_sow_26 : decode cX3_sow 26 = .ok (.aload_n 0, 1) := dk_42 (dk_at dksX3_sow_1 3 rfl rfl)
theorem dX3_sow_27 : decode cX3_sow 27 = .ok (.getfield 19, 3) := dk_180 0 19 (dk_at dksX3_sow_1 4 rfl rfl)
theorem dX3_sow_30 : decode cX3_sow 30 = .ok (.iload_n 2, 1) := dk_28 (dk_at dksX3_sow_1 7 rfl rfl)
theorem dX3_sow_31 : decode cX3_sow 31 = .ok (.iaload, 1) := dk_46 (dk_at dksX3_sow_1 8 rfl rfl)
theorem dX3_sow_32 : decode cX3_sow 32 = .ok (.ifCond .ne 7, 3) := dk_154 0 7 (dk_at dksX3_sow_1 9 rfl rfl)
theorem dX3_sow_35 : decode cX3_sow 35 = .ok (.iconst (-1), 1) := dk_2 (dk_at dksX3_sow_1 12 rfl rfl)
theorem dX3_sow_36 : decode cX3_sow 36 = .ok (.goto 8, 3) := dk_167 0 8 (dk_at dksX3_sow_1 13 rfl rfl)
theorem dX3_sow_39 : decode cX3_sow 39 = .ok (.aload_n 1, 1) := dk_43 (dk_at dksX3_sow_1 16 rfl rfl)
theorem dX3_sow_40 : decode cX3_sow 40 = .ok (.iload_n 2, 1) := dk_28 (dk_at dksX3_sow_1 17 rfl rfl)
theorem dX3_sow_41 : decode cX3_sow 41 = .ok (.invokevirtual 100, 3) := dk_182 0 100 (dk_at dksX3_sow_1 18 rfl rfl)
theorem dX3_sow_44 : decode cX3_sow 44 = .ok (.istore_n 3, 1) := dk_62 (dk_at dksX3_sow_1 21 rfl rfl)
theorem dX3_sow_45 : decode cX3_sow 45 = .ok (.iload_n 3, 1) := dk_29 (dk_at dksX3_sow_1 22 rfl rfl)
theorem dX3_sow_46 : decode cX3_sow 46 = .ok (.iconst (-1), 1) := dk_2 (dk_at dksX3_sow_1 23 rfl rfl)
theorem dX3_sow_47 : decode cX3_sow 47 = .ok (.if_icmp .ne 6, 3) := dk_160 0 6 (dk_at dksX3_sow_2 0 rfl rfl)
theorem dX3_sow_50 : decode cX3_sow 50 = .ok (.goto 22, 3) := dk_167 0 22 (dk_at dksX3_sow_2 3 rfl rfl)
theorem dX3_sow_53 : decode cX3_sow 53 = .ok (.aload_n 0, 1) := dk_42 (dk_at dksX3_sow_2 6 rfl rfl)
theorem dX3_sow_54 : decode cX3_sow 54 = .ok (.getfield 22, 3) := dk_180 0 22 (dk_at dksX3_sow_2 7 rfl rfl)
theorem dX3_sow_57 : decode cX3_sow 57 = .ok (.iload_n 2, 1) := dk_28 (dk_at dksX3_sow_2 10 rfl rfl)
theorem dX3_sow_58 : decode cX3_sow 58 = .ok (.aload_n 1, 1) := dk_43 (dk_at dksX3_sow_2 11 rfl rfl)
theorem dX3_sow_59 : decode cX3_sow 59 = .ok (.getfield 22, 3) := dk_180 0 22 (dk_at dksX3_sow_2 12 rfl rfl)
theorem dX3_sow_62 : decode cX3_sow 62 = .ok (.iload_n 3, 1) := dk_29 (dk_at dksX3_sow_2 15 rfl rfl)
theorem dX3_sow_63 : decode cX3_sow 63 = .ok (.iaload, 1) := dk_46 (dk_at dksX3_sow_2 16 rfl rfl)
theorem dX3_sow_64 : decode cX3_sow 64 = .ok (.iastore, 1) := dk_79 (dk_at dksX3_sow_2 17 rfl rfl)
theorem dX3_sow_65 : decode cX3_sow 65 = .ok (.aload_n 0, 1) := dk_42 (dk_at dksX3_sow_2 18 rfl rfl)
theorem dX3_sow_66 : decode cX3_sow 66 = .ok (.getfield 25, 3) := dk_180 0 25 (dk_at dksX3_sow_2 19 rfl rfl)
theorem dX3_sow_69 : decode cX3_sow 69 = .ok (.iload_n 2, 1) := dk_28 (dk_at dksX3_sow_2 22 rfl rfl)
theorem dX3_sow_70 : decode cX3_sow 70 = .ok (.iconst 1, 1) := dk_4 (dk_at dksX3_sow_2 23 rfl rfl)
theorem dX3_sow_71 : decode cX3_sow 71 = .ok (.iastore, 1) := dk_79 (dk_at dksX3_sow_3 0 rfl rfl)
theorem dX3_sow_72 : decode cX3_sow 72 = .ok (.iinc 2 1, 3) := dk_132 2 1 (dk_at dksX3_sow_3 1 rfl rfl)
theorem dX3_sow_75 : decode cX3_sow 75 = .ok (.goto (-73), 3) := dk_167 255 183 (dk_at dksX3_sow_3 4 rfl rfl)
theorem dX3_sow_78 : decode cX3_sow 78 = .ok (.return_, 1) := dk_177 (dk_at dksX3_sow_3 7 rfl rfl)
abbrev mX3_sow : xM := (yX3_sow, cX3_sow, 4, none, [])
def c_X3_sow_72 (G : xG) (k2 : Option Nat → Option Nat → Int32 → xF → Option (Unit × xF)) (x0 : Option Nat) (x1 : Option Nat) (x2 : Int32) (T : xF) : Option (Unit × xF) :=
  k2 x0 x1 (x2 + 1) T
theorem c_X3_sow_72_ok {G : xG}  {T0 : xF} {k2 : Option Nat → Option Nat → Int32 → xF → Option (Unit × xF)} (hk2 : ∀ (x0 : Option Nat) (x1 : Option Nat) (x2 : Int32) (T : xF) (q : (Unit × xF)), k2 x0 x1 x2 T = some q → Xr G (mX3_sow, xrm (123) T0 q.2, T0, .inl none, q.2) 2 [(0, va_rf x0), (1, va_rf x1), (2, .int x2)] [] T) (x0 : Option Nat) (x1 : Option Nat) (x2 : Int32) (T : xF) (q : (Unit × xF)) (hf : c_X3_sow_72 G k2 x0 x1 x2 T = some q) : Xr G (mX3_sow, xrm (123) T0 q.2, T0, .inl none, q.2) 72 [(0, va_rf x0), (1, va_rf x1), (2, .int x2)] [] T := by
  unfold c_X3_sow_72 at hf
  refine C.iinc (v := (x2 + 1)) (L' := [(2, .int (x2 + 1)), (0, va_rf x0), (1, va_rf x1)]) dX3_sow_72 2 rfl rfl (Nat.le_of_ble_eq_true rfl) (xcQ (xcQ (xcI xcN))) rfl ?_
  refine X.goto (tgt := 2) dX3_sow_75 (by decide) ?_
  refine X.sub [1, 2, 0] (L' := [(0, va_rf x0), (1, va_rf x1), (2, .int (x2 + 1))]) rfl ?_
  exact hk2 _ _ _ _ _ hf
def c_X3_sow_44 (G : xG) (k2 : Option Nat → Option Nat → Int32 → xF → Option (Unit × xF)) (x0 : Option Nat) (x1 : Option Nat) (x2 : Int32) (y0 : Int32) (T : xF) : Option (Unit × xF) :=
  if y0 = (-1 : Int32) then
    c_X3_sow_72 G k2 x0 x1 x2 T
  else
    (oQ T x0 2 2).bind fun v54 =>
    (oQ T x1 2 2).bind fun v59 =>
    (ldA T v59 .int y0).bind fun v63 =>
    (stA T v54 .int x2 v63).bind fun T64 =>
    (oQ T64 x0 2 3).bind fun v66 =>
    (stA T64 v66 .int x2 (1 : Int32)).bind fun T71 =>
    c_X3_sow_72 G k2 x0 x1 x2 T71
theorem c_X3_sow_44_ok {G : xG}  {T0 : xF} {k2 : Option Nat → Option Nat → Int32 → xF → Option (Unit × xF)} (hk2 : ∀ (x0 : Option Nat) (x1 : Option Nat) (x2 : Int32) (T : xF) (q : (Unit × xF)), k2 x0 x1 x2 T = some q → Xr G (mX3_sow, xrm (123) T0 q.2, T0, .inl none, q.2) 2 [(0, va_rf x0), (1, va_rf x1), (2, .int x2)] [] T) (x0 : Option Nat) (x1 : Option Nat) (x2 : Int32) (y0 : Int32) (T : xF) (q : (Unit × xF)) (hf : c_X3_sow_44 G k2 x0 x1 x2 y0 T = some q) : Xr G (mX3_sow, xrm (123) T0 q.2, T0, .inl none, q.2) 44 [(0, va_rf x0), (1, va_rf x1), (2, .int x2)] [.int y0] T := by
  unfold c_X3_sow_44 at hf
  refine C.ist_n (L' := [(3, .int y0), (0, va_rf x0), (1, va_rf x1), (2, .int x2)]) dX3_sow_44 rfl (Nat.le_of_ble_eq_true rfl) (xcQ (xcQ (xcI xcN))) rfl ?_
  refine X.iload_n dX3_sow_45 rfl 0 rfl ?_
  refine X.iconst (v := -1) dX3_sow_46 (by decide) ?_
  refine X.icmp_ne (tgt := 53) dX3_sow_47 (by decide) (fun c47 => ?_) (fun c47 => ?_)
  · have hf := if_f c47 hf
    refine C.aload_n dX3_sow_53 rfl 1 rfl ?_
    obtain ⟨v54, h54, hf⟩ := ob hf
    refine C.getQ dX3_sow_54 rX3_22 h54 ?_
    refine X.iload_n dX3_sow_57 rfl 3 rfl ?_
    refine C.aload_n dX3_sow_58 rfl 2 rfl ?_
    obtain ⟨v59, h59, hf⟩ := ob hf
    refine C.getQ dX3_sow_59 rX3_22 h59 ?_
    refine X.iload_n dX3_sow_62 rfl 0 rfl ?_
    obtain ⟨v63, h63, hf⟩ := ob hf
    refine C.iald dX3_sow_63 h63 ?_
    obtain ⟨T64, h64, hf⟩ := ob hf
    refine C.iast dX3_sow_64 h64 ?_
    refine C.aload_n dX3_sow_65 rfl 1 rfl ?_
    obtain ⟨v66, h66, hf⟩ := ob hf
    refine C.getQ dX3_sow_66 rX3_25 h66 ?_
    refine X.iload_n dX3_sow_69 rfl 3 rfl ?_
    refine X.iconst (v := 1) dX3_sow_70 (by decide) ?_
    obtain ⟨T71, h71, hf⟩ := ob hf
    refine C.iast dX3_sow_71 h71 ?_
    refine X.sub [1, 2, 3] (L' := [(0, va_rf x0), (1, va_rf x1), (2, .int x2)]) rfl ?_
    exact c_X3_sow_72_ok hk2 _ _ _ _ _ hf
  · have hf := if_t c47 hf
    refine X.goto (tgt := 72) dX3_sow_50 (by decide) ?_
    refine X.sub [1, 2, 3] (L' := [(0, va_rf x0), (1, va_rf x1), (2, .int x2)]) rfl ?_
    exact c_X3_sow_72_ok hk2 _ _ _ _ _ hf
def c_X3_sow_35 (G : xG) (k2 : Option Nat → Option Nat → Int32 → xF → Option (Unit × xF)) (x0 : Option Nat) (x1 : Option Nat) (x2 : Int32) (T : xF) : Option (Unit × xF) :=
  c_X3_sow_44 G k2 x0 x1 x2 (-1 : Int32) T
theorem c_X3_sow_35_ok {G : xG}  {T0 : xF} {k2 : Option Nat → Option Nat → Int32 → xF → Option (Unit × xF)} (hk2 : ∀ (x0 : Option Nat) (x1 : Option Nat) (x2 : Int32) (T : xF) (q : (Unit × xF)), k2 x0 x1 x2 T = some q → Xr G (mX3_sow, xrm (123) T0 q.2, T0, .inl none, q.2) 2 [(0, va_rf x0), (1, va_rf x1), (2, .int x2)] [] T) (x0 : Option Nat) (x1 : Option Nat) (x2 : Int32) (T : xF) (q : (Unit × xF)) (hf : c_X3_sow_35 G k2 x0 x1 x2 T = some q) : Xr G (mX3_sow, xrm (123) T0 q.2, T0, .inl none, q.2) 35 [(0, va_rf x0), (1, va_rf x1), (2, .int x2)] [] T := by
  unfold c_X3_sow_35 at hf
  refine X.iconst (v := -1) dX3_sow_35 (by decide) ?_
  refine X.goto (tgt := 44) dX3_sow_36 (by decide) ?_
  refine X.sub [0, 1, 2] (L' := [(0, va_rf x0), (1, va_rf x1), (2, .int x2)]) rfl ?_
  exact c_X3_sow_44_ok hk2 _ _ _ _ _ _ hf
def c_X3_sow_2_b (G : xG) (k2 : Option Nat → Option Nat → Int32 → xF → Option (Unit × xF)) (x0 : Option Nat) (x1 : Option Nat) (x2 : Int32) (T : xF) : Option (Unit × xF) :=
  (oQ T x0 2 5).bind fun v4 =>
  (oQ T v4 0 1).bind fun v7 =>
  if ¬ isO T v7 1 = true then none else
  (c_X2_cells T v7).bind fun v10 =>
  if v10 ≤ x2 then
    some ((), T)
  else
    (oQ T x1 2 2).bind fun v17 =>
    (ldA T v17 .int x2).bind fun v21 =>
    if v21 = (-1 : Int32) then
      (oQ T x0 2 1).bind fun v27 =>
      (ldA T v27 .int x2).bind fun v31 =>
      if v31 = 0 then
        c_X3_sow_35 G k2 x0 x1 x2 T
      else
        if ¬ isO T x1 2 = true then none else
        cl (c_X3_greatest G x1 x2 T) T fun v41 T41 =>
        c_X3_sow_44 G k2 x0 x1 x2 v41 T41
    else
      c_X3_sow_35 G k2 x0 x1 x2 T
def c_X3_sow_2 (G : xG) : Nat → Option Nat → Option Nat → Int32 → xF → Option (Unit × xF)
  | 0 => fun _ _ _ _ => none
  | n + 1 => fun x0 x1 x2 T => c_X3_sow_2_b G (c_X3_sow_2 G n) x0 x1 x2 T
theorem c_X3_sow_2_bok {G : xG}  {T0 : xF}  {k2 : Option Nat → Option Nat → Int32 → xF → Option (Unit × xF)}  (hk2 : ∀ (x0 : Option Nat) (x1 : Option Nat) (x2 : Int32) (T : xF) (q : (Unit × xF)), k2 x0 x1 x2 T = some q → Xr G (mX3_sow, xrm (123) T0 q.2, T0, .inl none, q.2) 2 [(0, va_rf x0), (1, va_rf x1), (2, .int x2)] [] T) (x0 : Option Nat) (x1 : Option Nat) (x2 : Int32) (T : xF) (q : (Unit × xF)) (hf : c_X3_sow_2_b G k2 x0 x1 x2 T = some q) : Xr G (mX3_sow, xrm (123) T0 q.2, T0, .inl none, q.2) 2 [(0, va_rf x0), (1, va_rf x1), (2, .int x2)] [] T := by
  unfold c_X3_sow_2_b at hf
  refine X.iload_n dX3_sow_2 rfl 2 rfl ?_
  refine C.aload_n dX3_sow_3 rfl 0 rfl ?_
  obtain ⟨v4, h4, hf⟩ := ob hf
  refine C.getQ dX3_sow_4 rX3_3 h4 ?_
  obtain ⟨v7, h7, hf⟩ := ob hf
  refine C.getQ dX3_sow_7 rX3_39 h7 ?_
  obtain ⟨c10, hf⟩ := if_n hf
  obtain ⟨v10, h10, hf⟩ := ob hf
  refine X.keep fun l10 => C.Vi (As := []) (rest := [.int x2]) dX3_sow_10 (w_X2_cells h10) cX3_43 (Classical.not_not.mp c10) rfl rfl (xcs (xvI xvN) (Nat.le_of_ble_eq_true rfl)) rfl rfl (xD (Nat.le_of_ble_eq_true rfl)) xle.rf l10 ?_
  refine X.icmp_ge (tgt := 78) dX3_sow_13 (by decide) (fun c13 => ?_) (fun c13 => ?_)
  · have hf := if_t c13 hf
    obtain rfl := Option.some.inj hf
    exact X.vret dX3_sow_78 rfl rfl
  · have hf := if_f c13 hf
    refine C.aload_n dX3_sow_16 rfl 1 rfl ?_
    obtain ⟨v17, h17, hf⟩ := ob hf
    refine C.getQ dX3_sow_17 rX3_22 h17 ?_
    refine X.iload_n dX3_sow_20 rfl 2 rfl ?_
    obtain ⟨v21, h21, hf⟩ := ob hf
    refine C.iald dX3_sow_21 h21 ?_
    refine X.iconst (v := -1) dX3_sow_22 (by decide) ?_
    refine X.icmp_ne (tgt := 35) dX3_sow_23 (by decide) (fun c23 => ?_) (fun c23 => ?_)
    · have hf := if_f c23 hf
      refine X.sub [0, 1, 2] (L' := [(0, va_rf x0), (1, va_rf x1), (2, .int x2)]) rfl ?_
      exact c_X3_sow_35_ok hk2 _ _ _ _ _ hf
    · have hf := if_t c23 hf
      refine C.aload_n dX3_sow_26 rfl 0 rfl ?_
      obtain ⟨v27, h27, hf⟩ := ob hf
      refine C.getQ dX3_sow_27 rX3_19 h27 ?_
      refine X.iload_n dX3_sow_30 rfl 2 rfl ?_
      obtain ⟨v31, h31, hf⟩ := ob hf
      refine C.iald dX3_sow_31 h31 ?_
      refine X.if_ne (tgt := 39) dX3_sow_32 (by decide) (fun c32 => ?_) (fun c32 => ?_)
      · have hf := if_f c32 hf
        refine C.aload_n dX3_sow_39 rfl 1 rfl ?_
        refine X.iload_n dX3_sow_40 rfl 2 rfl ?_
        obtain ⟨c41, hf⟩ := if_n hf
        obtain ⟨v41, T41, h41, hf, l41, r41⟩ := cl_ok hf
        refine C.Vi (As := [.int x2]) (rest := []) dX3_sow_41 (w_X3_greatest h41) cX3_100 (Classical.not_not.mp c41) rfl rfl (xcs xvN (Nat.le_of_ble_eq_true rfl)) rfl rfl (xD (Nat.le_of_ble_eq_true rfl)) l41 r41 ?_
        refine X.sub [0, 1, 2] (L' := [(0, va_rf x0), (1, va_rf x1), (2, .int x2)]) rfl ?_
        exact c_X3_sow_44_ok hk2 _ _ _ _ _ _ hf
      · have hf := if_t c32 hf
        refine X.sub [0, 1, 2] (L' := [(0, va_rf x0), (1, va_rf x1), (2, .int x2)]) rfl ?_
        exact c_X3_sow_35_ok hk2 _ _ _ _ _ hf
theorem c_X3_sow_2_ok {G : xG}  {T0 : xF}   : ∀ (n : Nat) (x0 : Option Nat) (x1 : Option Nat) (x2 : Int32) (T : xF) (q : (Unit × xF)), c_X3_sow_2 G n x0 x1 x2 T = some q → Xr G (mX3_sow, xrm (123) T0 q.2, T0, .inl none, q.2) 2 [(0, va_rf x0), (1, va_rf x1), (2, .int x2)] [] T
  | 0, _, _, _, _, _, hf => by cases hf
  | n + 1, x0, x1, x2, T, q, hf => c_X3_sow_2_bok (c_X3_sow_2_ok n) x0 x1 x2 T q hf
def c_X3_sow (G : xG) (x0 : Option Nat) (x1 : Option Nat) (T : xF) : Option (Unit × xF) :=
  c_X3_sow_2 G FU x0 x1 (0 : Int32) T
theorem w_X3_sow {G : xG}  {T : xF} {x0 : Option Nat} {x1 : Option Nat} {q : (Unit × xF)} (hf : c_X3_sow G x0 x1 T = some q) : Ct G mX3_sow (123) T [va_rf x0, va_rf x1] (.inl none) q.2 := by
  refine Ct.ofc (plainFor_of_name (by decide +kernel)) rfl (xvQ (xvQ xvN)) (Nat.le_of_ble_eq_true rfl) (show Xr G _ 0 [(0, va_rf x0), (1, va_rf x1)] [] _ from ?_)
  unfold c_X3_sow at hf
  refine X.iconst (v := 0) dX3_sow_0 (by decide) ?_
  refine C.ist_n (L' := [(2, .int (0 : Int32)), (0, va_rf x0), (1, va_rf x1)]) dX3_sow_1 rfl (Nat.le_of_ble_eq_true rfl) (xcQ (xcQ xcN)) rfl ?_
  refine X.sub [1, 2, 0] (L' := [(0, va_rf x0), (1, va_rf x1), (2, .int (0 : Int32))]) rfl ?_
  exact c_X3_sow_2_ok FU _ _ _ _ _ hf
theorem cX3_114 : xCV RX3 114 mX3_sow 1 := ⟨lw_V q602 q604 qs11 q126 q605, rfl, ⟨by decide +kernel, by decide +kernel, by decide +kernel⟩, Nat.le_of_ble_eq_true rfl⟩
/-! MouldVotes$Growth pass -/
abbrev cX3_pass : ByteArray := prog_4_method_12_code
def yX3_pass : MethodName := ⟨RX3, "pass", "()LMouldVotes$Growth;"⟩
def dkwX3_pass_2 : List UInt8 := [180, 0, 35, 4, 96, 181, 0, 35, 42, 176]
abbrev dktX3_pass_2 : List UInt8 := dkwX3_pass_2 ++ []
def dkwX3_pass_1 : List UInt8 := [182, 0, 31, 182, 0, 111, 42, 42, 180, 0, 3, 180, 0, 103, 42, 182, 0, 31, 182, 0, 114, 42, 89]
abbrev dktX3_pass_1 : List UInt8 := dkwX3_pass_1 ++ dktX3_pass_2
def dkwX3_pass_0 : List UInt8 := [42, 42, 180, 0, 3, 180, 0, 103, 42, 182, 0, 31, 182, 0, 107, 42, 42, 180, 0, 3, 180, 0, 103, 42]
abbrev dktX3_pass_0 : List UInt8 := dkwX3_pass_0 ++ dktX3_pass_1
theorem dksX3_pass_0 : cX3_pass.data.toList.drop 0 = dktX3_pass_0 := by decide +kernel
theorem dksX3_pass_1 : cX3_pass.data.toList.drop 24 = dktX3_pass_1 := dk_seg dksX3_pass_0 24 rfl rfl
theorem dksX3_pass_2 : cX3_pass.data.toList.drop 47 = dktX3_pass_2 := dk_seg dksX3_pass_1 23 rfl rfl
theorem dX3_pass_0 : decode cX3_pass 0 = .ok (.aload_n 0, 1) := dk_42 (dk_at dksX3_pass_0 0 rfl rfl)
theorem dX3_pass_1 : decode cX3_pass 1 = .ok (.aload_n 0, 1) := dk_42 (dk_at dksX3_pass_0 1 rfl rfl)
theorem dX3_pass_2 : decode cX3_pass 2 = .ok (.getfield 3, 3) := dk_180 0 3 (dk_at dksX3_pass_0 2 rfl rfl)
theorem dX3_pass_5 : decode cX3_pass 5 = .ok (.getfield 103, 3) := dk_180 0 103 (dk_at dksX3_pass_0 5 rfl rfl)
theorem dX3_pass_8 : decode cX3_pass 8 = .ok (.aload_n 0, 1) := dk_42 (dk_at dksX3_pass_0 8 rfl rfl)
theorem dX3_pass_9 : decode cX3_pass 9 = .ok (.invokevirtual 31, 3) := dk_182 0 31 (dk_at dksX3_pass_0 9 rfl rfl)
theorem dX3_pass_12 : decode cX3_pass 12 = .ok (.invokevirtual 107, 3) := dk_182 0 107 (dk_at dksX3_pass_0 12 rfl rfl)
theorem dX3_pass_15 : decode cX3_pass 15 = .ok (.aload_n 0, 1) := dk_42 (dk_at dksX3_pass_0 15 rfl rfl)
theorem dX3_pass_16 : decode cX3_pass 16 = .ok (.aload_n 0, 1) := dk_42 (dk_at dksX3_pass_0 16 rfl rfl)
theorem dX3_pass_17 : decode cX3_pass 17 = .ok (.getfield 3, 3) := dk_180 0 3 (dk_at dksX3_pass_0 17 rfl rfl)
theorem dX3_pass_20 : decode cX3_pass 20 = .ok (.getfield 103, 3) := dk_180 0 103 (dk_at dksX3_pass_0 20 rfl rfl)
theorem dX3_pass_23 : decode cX3_pass 23 = .ok (.aload_n 0, 1) := dk_42 (dk_at dksX3_pass_0 23 rfl rfl)
theorem dX3_pass_24 : decode cX3_pass 24 = .ok (.invokevirtual 31, 3) := dk_182 0 31 (dk_at dksX3_pass_1 0 rfl rfl)
theorem dX3_pass_27 : decode cX3_pass 27 = .ok (.invokevirtual 111, 3) := dk_182 0 111 (dk_at dksX3_pass_1 3 rfl rfl)
theorem dX3_pass_30 : decode cX3_pass 30 = .ok (.aload_n 0, 1) := dk_42 (dk_at dksX3_pass_1 6 rfl rfl)
theorem dX3_pass_31 : decode cX3_pass 31 = .ok (.aload_n 0, 1) := dk_42 (dk_at dksX3_pass_1 7 rfl rfl)
theorem dX3_pass_32 : decode cX3_pass 32 = .ok (.getfield 3, 3) := dk_180 0 3 (dk_at dksX3_pass_1 8 rfl rfl)
theorem dX3_pass_35 : decode cX3_pass 35 = .ok (.getfield 103, 3) := dk_180 0 103 (dk_at dksX3_pass_1 11 rfl rfl)
theorem dX3_pass_38 : decode cX3_pass 38 = .ok (.aload_n 0, 1) := dk_42 (dk_at dksX3_pass_1 14 rfl rfl)
theorem dX3_pass_39 : decode cX3_pass 39 = .ok (.invokevirtual 31, 3) := dk_182 0 31 (dk_at dksX3_pass_1 15 rfl rfl)
theorem dX3_pass_42 : decode cX3_pass 42 = .ok (.invokevirtual 114, 3) := dk_182 0 114 (dk_at dksX3_pass_1 18 rfl rfl)
theorem dX3_pass_45 : decode cX3_pass 45 = .ok (.aload_n 0, 1) := dk_42 (dk_at dksX3_pass_1 21 rfl rfl)
theorem dX3_pass_46 : decode cX3_pass 46 = .ok (.dup, 1) := dk_89 (dk_at dksX3_pass_1 22 rfl rfl)
theorem dX3_pass_47 : decode cX3_pass 47 = .ok (.getfield 35, 3) := dk_180 0 35 (dk_at dksX3_pass_2 0 rfl rfl)
theorem dX3_pass_50 : decode cX3_pass 50 = .ok (.iconst 1, 1) := dk_4 (dk_at dksX3_pass_2 3 rfl rfl)
theorem dX3_pass_51 : decode cX3_pass 51 = .ok (.iadd, 1) := dk_96 (dk_at dksX3_pass_2 4 rfl rfl)
theorem dX3_pass_52 : decode cX3_pass 52 = .ok (.putfield 35, 3) := dk_181 0 35 (dk_at dksX3_pass_2 5 rfl rfl)
theorem dX3_pass_55 : decode cX3_pass 55 = .ok (.aload_n 0, 1) := dk_42 (dk_at dksX3_pass_2 8 rfl rfl)
theorem dX3_pass_56 : decode cX3_pass 56 = .ok (.areturn, 1) := dk_176 (dk_at dksX3_pass_2 9 rfl rfl)
abbrev mX3_pass : xM := (yX3_pass, cX3_pass, 1, (some (.object "MouldVotes$Growth")), [])
def c_X3_pass (G : xG) (x0 : Option Nat) (T : xF) : Option (Option Nat × xF) :=
  (oQ T x0 2 5).bind fun v2 =>
  (oQ T v2 0 2).bind fun v5 =>
  if ¬ isO T v5 2 = true then none else
  cl (c_X3_be v5 x0 T) T fun v9 T9 =>
  if ¬ isO T9 x0 2 = true then none else
  cl (c_X3_grow G x0 v9 T9) T9 fun v12 T12 =>
  (oQ T12 x0 2 5).bind fun v17 =>
  (oQ T12 v17 0 2).bind fun v20 =>
  if ¬ isO T12 v20 2 = true then none else
  cl (c_X3_be v20 x0 T12) T12 fun v24 T24 =>
  if ¬ isO T24 x0 2 = true then none else
  cl (c_X3_fight G x0 v24 T24) T24 fun v27 T27 =>
  (oQ T27 x0 2 5).bind fun v32 =>
  (oQ T27 v32 0 2).bind fun v35 =>
  if ¬ isO T27 v35 2 = true then none else
  cl (c_X3_be v35 x0 T27) T27 fun v39 T39 =>
  if ¬ isO T39 x0 2 = true then none else
  cl (c_X3_sow G x0 v39 T39) T39 fun v42 T42 =>
  (oI T42 x0 2 4).bind fun v47 =>
  (pV T42 x0 2 4 (.int (v47 + (1 : Int32)))).bind fun T52 =>
  some (x0, T52)
theorem w_X3_pass {G : xG}  {T : xF} {x0 : Option Nat} {q : (Option Nat × xF)} (hf : c_X3_pass G x0 T = some q) : Ct G mX3_pass (124) T [va_rf x0] (.inl (some (va_rf q.1))) q.2 := by
  refine Ct.ofc (plainFor_of_name (by decide +kernel)) rfl (xvQ xvN) (Nat.le_of_ble_eq_true rfl) (show Xr G _ 0 [(0, va_rf x0)] [] _ from ?_)
  unfold c_X3_pass at hf
  refine C.aload_n dX3_pass_0 rfl 0 rfl ?_
  refine C.aload_n dX3_pass_1 rfl 0 rfl ?_
  obtain ⟨v2, h2, hf⟩ := ob hf
  refine C.getQ dX3_pass_2 rX3_3 h2 ?_
  obtain ⟨v5, h5, hf⟩ := ob hf
  refine C.getQ dX3_pass_5 rX3_103 h5 ?_
  refine C.aload_n dX3_pass_8 rfl 0 rfl ?_
  obtain ⟨c9, hf⟩ := if_n hf
  obtain ⟨v9, T9, h9, hf, l9, r9⟩ := cl_ok hf
  refine C.Vq (As := [va_rf x0]) (rest := [va_rf x0]) dX3_pass_9 (w_X3_be h9) cX3_31 (Classical.not_not.mp c9) rfl rfl (xcs (xvQ xvN) (Nat.le_of_ble_eq_true rfl)) rfl rfl (xD (Nat.le_of_ble_eq_true rfl)) l9 r9 ?_
  obtain ⟨c12, hf⟩ := if_n hf
  obtain ⟨v12, T12, h12, hf, l12, r12⟩ := cl_ok hf
  refine C.Vv (As := [va_rf v9]) (rest := []) dX3_pass_12 (w_X3_grow h12) cX3_107 (Classical.not_not.mp c12) rfl rfl (xcs xvN (Nat.le_of_ble_eq_true rfl)) rfl rfl (xD (Nat.le_of_ble_eq_true rfl)) l12 r12 ?_
  refine C.aload_n dX3_pass_15 rfl 0 rfl ?_
  refine C.aload_n dX3_pass_16 rfl 0 rfl ?_
  obtain ⟨v17, h17, hf⟩ := ob hf
  refine C.getQ dX3_pass_17 rX3_3 h17 ?_
  obtain ⟨v20, h20, hf⟩ := ob hf
  refine C.getQ dX3_pass_20 rX3_103 h20 ?_
  refine C.aload_n dX3_pass_23 rfl 0 rfl ?_
  obtain ⟨c24, hf⟩ := if_n hf
  obtain ⟨v24, T24, h24, hf, l24, r24⟩ := cl_ok hf
  refine C.Vq (As := [va_rf x0]) (rest := [va_rf x0]) dX3_pass_24 (w_X3_be h24) cX3_31 (Classical.not_not.mp c24) rfl rfl (xcs (xvQ xvN) (Nat.le_of_ble_eq_true rfl)) rfl rfl (xD (Nat.le_of_ble_eq_true rfl)) l24 r24 ?_
  obtain ⟨c27, hf⟩ := if_n hf
  obtain ⟨v27, T27, h27, hf, l27, r27⟩ := cl_ok hf
  refine C.Vv (As := [va_rf v24]) (rest := []) dX3_pass_27 (w_X3_fight h27) cX3_111 (Classical.not_not.mp c27) rfl rfl (xcs xvN (Nat.le_of_ble_eq_true rfl)) rfl rfl (xD (Nat.le_of_ble_eq_true rfl)) l27 r27 ?_
  refine C.aload_n dX3_pass_30 rfl 0 rfl ?_
  refine C.aload_n dX3_pass_31 rfl 0 rfl ?_
  obtain ⟨v32, h32, hf⟩ := ob hf
  refine C.getQ dX3_pass_32 rX3_3 h32 ?_
  obtain ⟨v35, h35, hf⟩ := ob hf
  refine C.getQ dX3_pass_35 rX3_103 h35 ?_
  refine C.aload_n dX3_pass_38 rfl 0 rfl ?_
  obtain ⟨c39, hf⟩ := if_n hf
  obtain ⟨v39, T39, h39, hf, l39, r39⟩ := cl_ok hf
  refine C.Vq (As := [va_rf x0]) (rest := [va_rf x0]) dX3_pass_39 (w_X3_be h39) cX3_31 (Classical.not_not.mp c39) rfl rfl (xcs (xvQ xvN) (Nat.le_of_ble_eq_true rfl)) rfl rfl (xD (Nat.le_of_ble_eq_true rfl)) l39 r39 ?_
  obtain ⟨c42, hf⟩ := if_n hf
  obtain ⟨v42, T42, h42, hf, l42, r42⟩ := cl_ok hf
  refine C.Vv (As := [va_rf v39]) (rest := []) dX3_pass_42 (w_X3_sow h42) cX3_114 (Classical.not_not.mp c42) rfl rfl (xcs xvN (Nat.le_of_ble_eq_true rfl)) rfl rfl (xD (Nat.le_of_ble_eq_true rfl)) l42 r42 ?_
  refine C.aload_n dX3_pass_45 rfl 0 rfl ?_
  refine X.dup dX3_pass_46 (cat1 _) ?_
  obtain ⟨v47, h47, hf⟩ := ob hf
  refine C.getI dX3_pass_47 rX3_35 h47 ?_
  refine X.iconst (v := 1) dX3_pass_50 (by decide) ?_
  refine X.iadd dX3_pass_51 ?_
  obtain ⟨T52, h52, hf⟩ := ob hf
  refine C.putI dX3_pass_52 fX3_35 (fun q => by cases q) rfl rfl h52 ?_
  refine C.aload_n dX3_pass_55 rfl 0 rfl ?_
  obtain rfl := Option.some.inj hf
  exact X.aret dX3_pass_56 rfl (Or.inl ⟨_, rfl⟩) rfl
theorem cX1_220 : xCV RX1 220 mX3_pass 0 := ⟨lw_V q618 q457 q458 q126 q459, rfl, ⟨by decide +kernel, by decide +kernel, by decide +kernel⟩, Nat.le_of_ble_eq_true rfl⟩
theorem cX3_117 : xCV RX3 117 mX3_pass 0 := ⟨lw_V q456 q457 q458 q126 q459, rfl, ⟨by decide +kernel, by decide +kernel, by decide +kernel⟩, Nat.le_of_ble_eq_true rfl⟩
/-! MouldVotes$Growth after -/
abbrev cX3_after : ByteArray := prog_4_method_13_code
def yX3_after : MethodName := ⟨RX3, "after", "(I)LMouldVotes$Growth;"⟩
def dkwX3_after_0 : List UInt8 := [3, 61, 28, 27, 162, 0, 14, 42, 182, 0, 117, 87, 132, 2, 1, 167, 255, 243, 42, 176]
abbrev dktX3_after_0 : List UInt8 := dkwX3_after_0 ++ []
theorem dksX3_after_0 : cX3_after.data.toList.drop 0 = dktX3_after_0 := by decide +kernel
theorem dX3_after_0 : decode cX3_after 0 = .ok (.iconst 0, 1) := dk_3 (dk_at dksX3_after_0 0 rfl rfl)
theorem dX3_after_1 : decode cX3_after 1 = .ok (.istore_n 2, 1) := dk_61 (dk_at dksX3_after_0 1 rfl rfl)
theorem dX3_after_2 : decode cX3_after 2 = .ok (.iload_n 2, 1) := dk_28 (dk_at dksX3_after_0 2 rfl rfl)
theorem dX3_after_3 : decode cX3_after 3 = .ok (.iload_n 1, 1) := dk_27 (dk_at dksX3_after_0 3 rfl rfl)
theorem dX3_after_4 : decode cX3_after 4 = .ok (.if_icmp .ge 14, 3) := dk_162 0 14 (dk_at dksX3_after_0 4 rfl rfl)
theorem dX3_after_7 : decode cX3_after 7 = .ok (.aload_n 0, 1) := dk_42 (dk_at dksX3_after_0 7 rfl rfl)
theorem dX3_after_8 : decode cX3_after 8 = .ok (.invokevirtual 117, 3) := dk_182 0 117 (dk_at dksX3_after_0 8 rfl rfl)
theorem dX3_after_11 : decode cX3_after 11 = .ok (.pop, 1) := dk_87 (dk_at dksX3_after_0 11 rfl rfl)
theorem dX3_after_12 : decode cX3_after 12 = .ok (.iinc 2 1, 3) := dk_132 2 1 (dk_at dksX3_after_0 12 rfl rfl)
theorem dX3_after_15 : decode cX3_after 15 = .ok (.goto (-13), 3) := dk_167 255 243 (dk_at dksX3_after_0 15 rfl rfl)
theorem dX3_after_18 : decode cX3_after 18 = .ok (.aload_n 0, 1) := dk_42 (dk_at dksX3_after_0 18 rfl rfl)
theorem dX3_after_19 : decode cX3_after 19 = .ok (.areturn, 1) := dk_176 (dk_at dksX3_after_0 19 rfl rfl)
abbrev mX3_after : xM := (yX3_after, cX3_after, 3, (some (.object "MouldVotes$Growth")), [])
def c_X3_after_2_b (G : xG) (k2 : Option Nat → Int32 → Int32 → xF → Option (Option Nat × xF)) (x0 : Option Nat) (x1 : Int32) (x2 : Int32) (T : xF) : Option (Option Nat × xF) :=
  if x1 ≤ x2 then
    some (x0, T)
  else
    if ¬ isO T x0 2 = true then none else
    cl (c_X3_pass G x0 T) T fun v8 T8 =>
    k2 x0 x1 (x2 + 1) T8
def c_X3_after_2 (G : xG) : Nat → Option Nat → Int32 → Int32 → xF → Option (Option Nat × xF)
  | 0 => fun _ _ _ _ => none
  | n + 1 => fun x0 x1 x2 T => c_X3_after_2_b G (c_X3_after_2 G n) x0 x1 x2 T
theorem c_X3_after_2_bok {G : xG}  {T0 : xF}  {k2 : Option Nat → Int32 → Int32 → xF → Option (Option Nat × xF)}  (hk2 : ∀ (x0 : Option Nat) (x1 : Int32) (x2 : Int32) (T : xF) (q : (Option Nat × xF)), k2 x0 x1 x2 T = some q → Xr G (mX3_after, xrm (125) T0 q.2, T0, .inl (some (va_rf q.1)), q.2) 2 [(0, va_rf x0), (1, .int x1), (2, .int x2)] [] T) (x0 : Option Nat) (x1 : Int32) (x2 : Int32) (T : xF) (q : (Option Nat × xF)) (hf : c_X3_after_2_b G k2 x0 x1 x2 T = some q) : Xr G (mX3_after, xrm (125) T0 q.2, T0, .inl (some (va_rf q.1)), q.2) 2 [(0, va_rf x0), (1, .int x1), (2, .int x2)] [] T := by
  unfold c_X3_after_2_b at hf
  refine X.iload_n dX3_after_2 rfl 2 rfl ?_
  refine X.iload_n dX3_after_3 rfl 1 rfl ?_
  refine X.icmp_ge (tgt := 18) dX3_after_4 (by decide) (fun c4 => ?_) (fun c4 => ?_)
  · have hf := if_t c4 hf
    refine C.aload_n dX3_after_18 rfl 0 rfl ?_
    obtain rfl := Option.some.inj hf
    exact X.aret dX3_after_19 rfl (Or.inl ⟨_, rfl⟩) rfl
  · have hf := if_f c4 hf
    refine C.aload_n dX3_after_7 rfl 0 rfl ?_
    obtain ⟨c8, hf⟩ := if_n hf
    obtain ⟨v8, T8, h8, hf, l8, r8⟩ := cl_ok hf
    refine C.Vq (As := []) (rest := []) dX3_after_8 (w_X3_pass h8) cX3_117 (Classical.not_not.mp c8) rfl rfl (xcs xvN (Nat.le_of_ble_eq_true rfl)) rfl rfl (xD (Nat.le_of_ble_eq_true rfl)) l8 r8 ?_
    refine X.pop dX3_after_11 (cat1 _) ?_
    refine C.iinc (v := (x2 + 1)) (L' := [(2, .int (x2 + 1)), (0, va_rf x0), (1, .int x1)]) dX3_after_12 2 rfl rfl (Nat.le_of_ble_eq_true rfl) (xcQ (xcI (xcI xcN))) rfl ?_
    refine X.goto (tgt := 2) dX3_after_15 (by decide) ?_
    refine X.sub [1, 2, 0] (L' := [(0, va_rf x0), (1, .int x1), (2, .int (x2 + 1))]) rfl ?_
    exact hk2 _ _ _ _ _ hf
theorem c_X3_after_2_ok {G : xG}  {T0 : xF}   : ∀ (n : Nat) (x0 : Option Nat) (x1 : Int32) (x2 : Int32) (T : xF) (q : (Option Nat × xF)), c_X3_after_2 G n x0 x1 x2 T = some q → Xr G (mX3_after, xrm (125) T0 q.2, T0, .inl (some (va_rf q.1)), q.2) 2 [(0, va_rf x0), (1, .int x1), (2, .int x2)] [] T
  | 0, _, _, _, _, _, hf => by cases hf
  | n + 1, x0, x1, x2, T, q, hf => c_X3_after_2_bok (c_X3_after_2_ok n) x0 x1 x2 T q hf
def c_X3_after (G : xG) (x0 : Option Nat) (x1 : Int32) (T : xF) : Option (Option Nat × xF) :=
  c_X3_after_2 G FU x0 x1 (0 : Int32) T
theorem w_X3_after {G : xG}  {T : xF} {x0 : Option Nat} {x1 : Int32} {q : (Option Nat × xF)} (hf : c_X3_after G x0 x1 T = some q) : Ct G mX3_after (125) T [va_rf x0, .int x1] (.inl (some (va_rf q.1))) q.2 := by
  refine Ct.ofc (plainFor_of_name (by decide +kernel)) rfl (xvQ (xvI xvN)) (Nat.le_of_ble_eq_true rfl) (show Xr G _ 0 [(0, va_rf x0), (1, .int x1)] [] _ from ?_)
  unfold c_X3_after at hf
  refine X.iconst (v := 0) dX3_after_0 (by decide) ?_
  refine C.ist_n (L' := [(2, .int (0 : Int32)), (0, va_rf x0), (1, .int x1)]) dX3_after_1 rfl (Nat.le_of_ble_eq_true rfl) (xcQ (xcI xcN)) rfl ?_
  refine X.sub [1, 2, 0] (L' := [(0, va_rf x0), (1, .int x1), (2, .int (0 : Int32))]) rfl ?_
  exact c_X3_after_2_ok FU _ _ _ _ _ hf
theorem cX1_199 : xCV RX1 199 mX3_after 1 := ⟨lw_V q452 q453 q454 q126 q455, rfl, ⟨by decide +kernel, by decide +kernel, by decide +kernel⟩, Nat.le_of_ble_eq_true rfl⟩
/-! MouldVotes later -/
abbrev cX1_later : ByteArray := prog_1_method_27_code
def yX1_later : MethodName := ⟨RX1, "later", "(I)LMouldVotes$Growth;"⟩
def dkwX1_later_0 : List UInt8 := [42, 180, 0, 35, 42, 180, 0, 38, 182, 0, 213, 27, 182, 0, 199, 176]
abbrev dktX1_later_0 : List UInt8 := dkwX1_later_0 ++ []
theorem dksX1_later_0 : cX1_later.data.toList.drop 0 = dktX1_later_0 := by decide +kernel
theorem dX1_later_0 : decode cX1_later 0 = .ok (.aload_n 0, 1) := dk_42 (dk_at dksX1_later_0 0 rfl rfl)
theorem dX1_later_1 : decode cX1_later 1 = .ok (.getfield 35, 3) := dk_180 0 35 (dk_at dksX1_later_0 1 rfl rfl)
theorem dX1_later_4 : decode cX1_later 4 = .ok (.aload_n 0, 1) := dk_42 (dk_at dksX1_later_0 4 rfl rfl)
theorem dX1_later_5 : decode cX1_later 5 = .ok (.getfield 38, 3) := dk_180 0 38 (dk_at dksX1_later_0 5 rfl rfl)
theorem dX1_later_8 : decode cX1_later 8 = .ok (.invokevirtual 213, 3) := dk_182 0 213 (dk_at dksX1_later_0 8 rfl rfl)
theorem dX1_later_11 : decode cX1_later 11 = .ok (.iload_n 1, 1) := dk_27 (dk_at dksX1_later_0 11 rfl rfl)
theorem dX1_later_12 : decode cX1_later 12 = .ok (.invokevirtual 199, 3) := dk_182 0 199 (dk_at dksX1_later_0 12 rfl rfl)
theorem dX1_later_15 : decode cX1_later 15 = .ok (.areturn, 1) := dk_176 (dk_at dksX1_later_0 15 rfl rfl)
abbrev mX1_later : xM := (yX1_later, cX1_later, 2, (some (.object "MouldVotes$Growth")), [])
def c_X1_later (G : xG) (x0 : Option Nat) (x1 : Int32) (T : xF) : Option (Option Nat × xF) :=
  (oQ T x0 0 3).bind fun v1 =>
  (oQ T x0 0 4).bind fun v5 =>
  if ¬ isO T v1 2 = true then none else
  cl (c_X3_be v1 v5 T) T fun v8 T8 =>
  if ¬ isO T8 v8 2 = true then none else
  cl (c_X3_after G v8 x1 T8) T8 fun v12 T12 =>
  some (v12, T12)
theorem w_X1_later {G : xG}  {T : xF} {x0 : Option Nat} {x1 : Int32} {q : (Option Nat × xF)} (hf : c_X1_later G x0 x1 T = some q) : Ct G mX1_later (126) T [va_rf x0, .int x1] (.inl (some (va_rf q.1))) q.2 := by
  refine Ct.ofc (plainFor_of_name (by decide +kernel)) rfl (xvQ (xvI xvN)) (Nat.le_of_ble_eq_true rfl) (show Xr G _ 0 [(0, va_rf x0), (1, .int x1)] [] _ from ?_)
  unfold c_X1_later at hf
  refine C.aload_n dX1_later_0 rfl 0 rfl ?_
  obtain ⟨v1, h1, hf⟩ := ob hf
  refine C.getQ dX1_later_1 rX1_35 h1 ?_
  refine C.aload_n dX1_later_4 rfl 0 rfl ?_
  obtain ⟨v5, h5, hf⟩ := ob hf
  refine C.getQ dX1_later_5 rX1_38 h5 ?_
  obtain ⟨c8, hf⟩ := if_n hf
  obtain ⟨v8, T8, h8, hf, l8, r8⟩ := cl_ok hf
  refine C.Vq (As := [va_rf v5]) (rest := []) dX1_later_8 (w_X3_be h8) cX1_213 (Classical.not_not.mp c8) rfl rfl (xcs xvN (Nat.le_of_ble_eq_true rfl)) rfl rfl (xD (Nat.le_of_ble_eq_true rfl)) l8 r8 ?_
  refine X.iload_n dX1_later_11 rfl 1 rfl ?_
  obtain ⟨c12, hf⟩ := if_n hf
  obtain ⟨v12, T12, h12, hf, l12, r12⟩ := cl_ok hf
  refine C.Vq (As := [.int x1]) (rest := []) dX1_later_12 (w_X3_after h12) cX1_199 (Classical.not_not.mp c12) rfl rfl (xcs xvN (Nat.le_of_ble_eq_true rfl)) rfl rfl (xD (Nat.le_of_ble_eq_true rfl)) l12 r12 ?_
  obtain rfl := Option.some.inj hf
  exact X.aret dX1_later_15 rfl (Or.inl ⟨_, rfl⟩) rfl
theorem cX1_217 : xCV RX1 217 mX1_later 1 := ⟨lw_V q1363 q1365 qs43 q121 q1366, rfl, ⟨by decide +kernel, by decide +kernel, by decide +kernel⟩, Nat.le_of_ble_eq_true rfl⟩
/-! MouldVotes$Growth isVoter -/
abbrev cX3_isVoter : ByteArray := prog_4_method_15_code
def yX3_isVoter : MethodName := ⟨RX3, "isVoter", "(I)Z"⟩
def dkwX3_isVoter_1 : List UInt8 := [180, 0, 121, 161, 0, 7, 4, 167, 0, 4, 3, 172]
abbrev dktX3_isVoter_1 : List UInt8 := dkwX3_isVoter_1 ++ []
def dkwX3_isVoter_0 : List UInt8 := [42, 180, 0, 22, 27, 46, 2, 159, 0, 26, 42, 180, 0, 25, 27, 46, 42, 180, 0, 3, 180, 0, 39]
abbrev dktX3_isVoter_0 : List UInt8 := dkwX3_isVoter_0 ++ dktX3_isVoter_1
theorem dksX3_isVoter_0 : cX3_isVoter.data.toList.drop 0 = dktX3_isVoter_0 := by decide +kernel
theorem dksX3_isVoter_1 : cX3_isVoter.data.toList.drop 23 = dktX3_isVoter_1 := dk_seg dksX3_isVoter_0 23 rfl rfl
theorem dX3_isVoter_0 : decode cX3_isVoter 0 = .ok (.aload_n 0, 1) := dk_42 (dk_at dksX3_isVoter_0 0 rfl rfl)
theorem dX3_isVoter_1 : decode cX3_isVoter 1 = .ok (.getfield 22, 3) := dk_180 0 22 (dk_at dksX3_isVoter_0 1 rfl rfl)
theorem dX3_isVoter_4 : decode cX3_isVoter 4 = .ok (.iload_n 1, 1) := dk_27 (dk_at dksX3_isVoter_0 4 rfl rfl)
theorem dX3_isVoter_5 : decode cX3_isVoter 5 = .ok (.iaload, 1) := dk_46 (dk_at dksX3_isVoter_0 5 rfl rfl)
theorem dX3_isVoter_6 : decode cX3_isVoter 6 = .ok (.iconst (-1), 1) := dk_2 (dk_at dksX3_isVoter_0 6 rfl rfl)
theorem dX3_isVoter_7 : decode cX3_isVoter 7 = .ok (.if_icmp .eq 26, 3) := dk_159 0 26 (dk_at dksX3_isVoter_0 7 rfl rfl)
theorem dX3_isVoter_10 : decode cX3_isVoter 10 = .ok (.aload_n 0, 1) := dk_42 (dk_at dksX3_isVoter_0 10 rfl rfl)
theorem dX3_isVoter_11 : decode cX3_isVoter 11 = .ok (.getfield 25, 3) := dk_180 0 25 (dk_at dksX3_isVoter_0 11 rfl rfl)
theorem dX3_isVoter_14 : decode cX3_isVoter 14 = .ok (.iload_n 1, 1) := dk_27 (dk_at dksX3_isVoter_0 14 rfl rfl)
theorem dX3_isVoter_15 : decode cX3_isVoter 15 = .ok (.iaload, 1) := dk_46 (dk_at dksX3_isVoter_0 15 rfl rfl)
theorem dX3_isVoter_16 : decode cX3_isVoter 16 = .ok (.aload_n 0, 1) := dk_42 (dk_at dksX3_isVoter_0 16 rfl rfl)
theorem dX3_isVoter_17 : decode cX3_isVoter 17 = .ok (.getfield 3, 3) := dk_180 0 3 (dk_at dksX3_isVoter_0 17 rfl rfl)
theorem dX3_isVoter_20 : decode cX3_isVoter 20 = .ok (.getfield 39, 3) := dk_180 0 39 (dk_at dksX3_isVoter_0 20 rfl rfl)
theorem dX3_isVoter_23 : decode cX3_isVoter 23 = .ok (.getfield 121, 3) := dk_180 0 121 (dk_at dksX3_isVoter_1 0 rfl rfl)
theorem dX3_isVoter_26 : decode cX3_isVoter 26 = .ok (.if_icmp .lt 7, 3) := dk_161 0 7 (dk_at dksX3_isVoter_1 3 rfl rfl)
theorem dX3_isVoter_29 : decode cX3_isVoter 29 = .ok (.iconst 1, 1) := dk_4 (dk_at dksX3_isVoter_1 6 rfl rfl)
theorem dX3_isVoter_30 : decode cX3_isVoter 30 = .ok (.goto 4, 3) := dk_167 0 4 (dk_at dksX3_isVoter_1 7 rfl rfl)
theorem dX3_isVoter_33 : decode cX3_isVoter 33 = .ok (.iconst 0, 1) := dk_3 (dk_at dksX3_isVoter_1 10 rfl rfl)
theorem dX3_isVoter_34 : decode cX3_isVoter 34 = .ok (.ireturn, 1) := dk_172 (dk_at dksX3_isVoter_1 11 rfl rfl)
abbrev mX3_isVoter : xM := (yX3_isVoter, cX3_isVoter, 2, (some .boolean), [])
def c_X3_isVoter (T : xF) (x0 : Option Nat) (x1 : Int32) : Option Int32 :=
  (oQ T x0 2 2).bind fun v1 =>
  (ldA T v1 .int x1).bind fun v5 =>
  if v5 = (-1 : Int32) then
    some (0 : Int32)
  else
    (oQ T x0 2 3).bind fun v11 =>
    (ldA T v11 .int x1).bind fun v15 =>
    (oQ T x0 2 5).bind fun v17 =>
    (oQ T v17 0 1).bind fun v20 =>
    (oI T v20 1 4).bind fun v23 =>
    if v15 < v23 then
      some (0 : Int32)
    else
      some (1 : Int32)
theorem w_X3_isVoter {G : xG}  {T : xF} {x0 : Option Nat} {x1 : Int32} {q : Int32} (hf : c_X3_isVoter T x0 x1 = some q) : Ct G mX3_isVoter (1) T [va_rf x0, .int x1] (.inl (some (.int q))) T := by
  refine Ct.ofc (plainFor_of_name (by decide +kernel)) rfl (xvQ (xvI xvN)) (Nat.le_of_ble_eq_true rfl) (show Xr G _ 0 [(0, va_rf x0), (1, .int x1)] [] _ from ?_)
  unfold c_X3_isVoter at hf
  refine C.aload_n dX3_isVoter_0 rfl 0 rfl ?_
  obtain ⟨v1, h1, hf⟩ := ob hf
  refine C.getQ dX3_isVoter_1 rX3_22 h1 ?_
  refine X.iload_n dX3_isVoter_4 rfl 1 rfl ?_
  obtain ⟨v5, h5, hf⟩ := ob hf
  refine C.iald dX3_isVoter_5 h5 ?_
  refine X.iconst (v := -1) dX3_isVoter_6 (by decide) ?_
  refine X.icmp_eq (tgt := 33) dX3_isVoter_7 (by decide) (fun c7 => ?_) (fun c7 => ?_)
  · have hf := if_t c7 hf
    refine X.iconst (v := 0) dX3_isVoter_33 (by decide) ?_
    obtain rfl := Option.some.inj hf
    exact X.iret dX3_isVoter_34 rfl rfl rfl
  · have hf := if_f c7 hf
    refine C.aload_n dX3_isVoter_10 rfl 0 rfl ?_
    obtain ⟨v11, h11, hf⟩ := ob hf
    refine C.getQ dX3_isVoter_11 rX3_25 h11 ?_
    refine X.iload_n dX3_isVoter_14 rfl 1 rfl ?_
    obtain ⟨v15, h15, hf⟩ := ob hf
    refine C.iald dX3_isVoter_15 h15 ?_
    refine C.aload_n dX3_isVoter_16 rfl 0 rfl ?_
    obtain ⟨v17, h17, hf⟩ := ob hf
    refine C.getQ dX3_isVoter_17 rX3_3 h17 ?_
    obtain ⟨v20, h20, hf⟩ := ob hf
    refine C.getQ dX3_isVoter_20 rX3_39 h20 ?_
    obtain ⟨v23, h23, hf⟩ := ob hf
    refine C.getI dX3_isVoter_23 rX3_121 h23 ?_
    refine X.icmp_lt (tgt := 33) dX3_isVoter_26 (by decide) (fun c26 => ?_) (fun c26 => ?_)
    · have hf := if_t c26 hf
      refine X.iconst (v := 0) dX3_isVoter_33 (by decide) ?_
      obtain rfl := Option.some.inj hf
      exact X.iret dX3_isVoter_34 rfl rfl rfl
    · have hf := if_f c26 hf
      refine X.iconst (v := 1) dX3_isVoter_29 (by decide) ?_
      refine X.goto (tgt := 34) dX3_isVoter_30 (by decide) ?_
      obtain rfl := Option.some.inj hf
      exact X.iret dX3_isVoter_34 rfl rfl rfl
theorem cX1_226 : xCV RX1 226 mX3_isVoter 1 := ⟨lw_V q627 q628 q629 q126 q630, rfl, ⟨by decide +kernel, by decide +kernel, by decide +kernel⟩, Nat.le_of_ble_eq_true rfl⟩
theorem cX3_124 : xCV RX3 124 mX3_isVoter 1 := ⟨lw_V q683 q628 q629 q126 q630, rfl, ⟨by decide +kernel, by decide +kernel, by decide +kernel⟩, Nat.le_of_ble_eq_true rfl⟩
/-! MouldVotes$Growth votes -/
abbrev cX3_votes : ByteArray := prog_4_method_16_code
def yX3_votes : MethodName := ⟨RX3, "votes", "(I)I"⟩
def dkwX3_votes_2 : List UInt8 := [192, 0, 138, 182, 0, 140, 27, 160, 0, 6, 132, 2, 1, 132, 3, 1, 167, 255, 197, 28, 172]
abbrev dktX3_votes_2 : List UInt8 := dkwX3_votes_2 ++ []
def dkwX3_votes_1 : List UInt8 := [153, 0, 37, 42, 180, 0, 3, 180, 0, 39, 180, 0, 128, 42, 180, 0, 22, 29, 46, 185, 0, 132, 2, 0]
abbrev dktX3_votes_1 : List UInt8 := dkwX3_votes_1 ++ dktX3_votes_2
def dkwX3_votes_0 : List UInt8 := [3, 61, 3, 62, 29, 42, 180, 0, 3, 180, 0, 39, 182, 0, 43, 162, 0, 51, 42, 29, 182, 0, 124]
abbrev dktX3_votes_0 : List UInt8 := dkwX3_votes_0 ++ dktX3_votes_1
theorem dksX3_votes_0 : cX3_votes.data.toList.drop 0 = dktX3_votes_0 := by decide +kernel
theorem dksX3_votes_1 : cX3_votes.data.toList.drop 23 = dktX3_votes_1 := dk_seg dksX3_votes_0 23 rfl rfl
theorem dksX3_votes_2 : cX3_votes.data.toList.drop 47 = dktX3_votes_2 := dk_seg dksX3_votes_1 24 rfl rfl
theorem dX3_votes_0 : decode cX3_votes 0 = .ok (.iconst 0, 1) := dk_3 (dk_at dksX3_votes_0 0 rfl rfl)
theorem dX3_votes_1 : decode cX3_votes 1 = .ok (.istore_n 2, 1) := dk_61 (dk_at dksX3_votes_0 1 rfl rfl)
theorem dX3_votes_2 : decode cX3_votes 2 = .ok (.iconst 0, 1) := dk_3 (dk_at dksX3_votes_0 2 rfl rfl)
theorem dX3_votes_3 : decode cX3_votes 3 = .ok (.istore_n 3, 1) := dk_62 (dk_at dksX3_votes_0 3 rfl rfl)
theorem dX3_votes_4 : decode cX3_votes 4 = .ok (.iload_n 3, 1) := dk_29 (dk_at dksX3_votes_0 4 rfl rfl)
theorem dX3_votes_5 : decode cX3_votes 5 = .ok (.aload_n 0, 1) := dk_42 (dk_at dksX3_votes_0 5 rfl rfl)
theorem dX3_votes_6 : decode cX3_votes 6 = .ok (.getfield 3, 3) := dk_180 0 3 (dk_at dksX3_votes_0 6 rfl rfl)
theorem dX3_votes_9 : decode cX3_votes 9 = .ok (.getfield 39, 3) := dk_180 0 39 (dk_at dksX3_votes_0 9 rfl rfl)
theorem dX3_votes_12 : decode cX3_votes 12 = .ok (.invokevirtual 43, 3) := dk_182 0 43 (dk_at dksX3_votes_0 12 rfl rfl)
theorem dX3_votes_15 : decode cX3_votes 15 = .ok (.if_icmp .ge 51, 3) := dk_162 0 51 (dk_at dksX3_votes_0 15 rfl rfl)
theorem dX3_votes_18 : decode cX3_votes 18 = .ok (.aload_n 0, 1) := dk_42 (dk_at dksX3_votes_0 18 rfl rfl)
theorem dX3_votes_19 : decode cX3_votes 19 = .ok (.iload_n 3, 1) := dk_29 (dk_at dksX3_votes_0 19 rfl rfl)
theorem dX3_votes_20 : decode cX3_votes 20 = .ok (.invokevirtual 124, 3) := dk_182 0 124 (dk_at dksX3_votes_0 20 rfl rfl)
theorem dX3_votes_23 : decode cX3_votes 23 = .ok (.ifCond .eq 37, 3) := dk_153 0 37 (dk_at dksX3_votes_1 0 rfl rfl)
theorem dX3_votes_26 : decode cX3_votes 26 = .ok (.aload_n 0, 1) := dk_42 (dk_at dksX3_votes_1 3 rfl rfl)
theorem dX3_votes_27 : decode cX3_votes 27 = .ok (.getfield 3, 3) := dk_180 0 3 (dk_at dksX3_votes_1 4 rfl rfl)
theorem dX3_votes_30 : decode cX3_votes 30 = .ok (.getfield 39, 3) := dk_180 0 39 (dk_at dksX3_votes_1 7 rfl rfl)
theorem dX3_votes_33 : decode cX3_votes 33 = .ok (.getfield 128, 3) := dk_180 0 128 (dk_at dksX3_votes_1 10 rfl rfl)
theorem dX3_votes_36 : decode cX3_votes 36 = .ok (.aload_n 0, 1) := dk_42 (dk_at dksX3_votes_1 13 rfl rfl)
theorem dX3_votes_37 : decode cX3_votes 37 = .ok (.getfield 22, 3) := dk_180 0 22 (dk_at dksX3_votes_1 14 rfl rfl)
theorem dX3_votes_40 : decode cX3_votes 40 = .ok (.iload_n 3, 1) := dk_29 (dk_at dksX3_votes_1 17 rfl rfl)
theorem dX3_votes_41 : decode cX3_votes 41 = .ok (.iaload, 1) := dk_46 (dk_at dksX3_votes_1 18 rfl rfl)
theorem dX3_votes_42 : decode cX3_votes 42 = .ok (.invokeinterface 132 2, 5) := by decide +kernel
theorem dX3_votes_47 : decode cX3_votes 47 = .ok (.checkcast 138, 3) := dk_192 0 138 (dk_at dksX3_votes_2 0 rfl rfl)
theorem dX3_votes_50 : decode cX3_votes 50 = .ok (.invokevirtual 140, 3) := dk_182 0 140 (dk_at dksX3_votes_2 3 rfl rfl)
theorem dX3_votes_53 : decode cX3_votes 53 = .ok (.iload_n 1, 1) := dk_27 (dk_at dksX3_votes_2 6 rfl rfl)
theorem dX3_votes_54 : decode cX3_votes 54 = .ok (.if_icmp .ne 6, 3) := dk_160 0 6 (dk_at dksX3_votes_2 7 rfl rfl)
theorem dX3_votes_57 : decode cX3_votes 57 = .ok (.iinc 2 1, 3) := dk_132 2 1 (dk_at dksX3_votes_2 10 rfl rfl)
theorem dX3_votes_60 : decode cX3_votes 60 = .ok (.iinc 3 1, 3) := dk_132 3 1 (dk_at dksX3_votes_2 13 rfl rfl)
theorem dX3_votes_63 : decode cX3_votes 63 = .ok (.goto (-59), 3) := dk_167 255 197 (dk_at dksX3_votes_2 16 rfl rfl)
theorem dX3_votes_66 : decode cX3_votes 66 = .ok (.iload_n 2, 1) := dk_28 (dk_at dksX3_votes_2 19 rfl rfl)
theorem dX3_votes_67 : decode cX3_votes 67 = .ok (.ireturn, 1) := dk_172 (dk_at dksX3_votes_2 20 rfl rfl)
abbrev mX3_votes : xM := (yX3_votes, cX3_votes, 4, (some .int), [])
def c_X3_votes_60 (T : xF) (k4 : Option Nat → Int32 → Int32 → Int32 → Option Int32) (x0 : Option Nat) (x1 : Int32) (x2 : Int32) (x3 : Int32) : Option Int32 :=
  k4 x0 x1 x2 (x3 + 1)
theorem c_X3_votes_60_ok {G : xG}  {T : xF} {k4 : Option Nat → Int32 → Int32 → Int32 → Option Int32} (hk4 : ∀ (x0 : Option Nat) (x1 : Int32) (x2 : Int32) (x3 : Int32) (q : Int32), k4 x0 x1 x2 x3 = some q → Xr G (mX3_votes, xrm (4) T T, T, .inl (some (.int q)), T) 4 [(0, va_rf x0), (1, .int x1), (2, .int x2), (3, .int x3)] [] T) (x0 : Option Nat) (x1 : Int32) (x2 : Int32) (x3 : Int32) (q : Int32) (hf : c_X3_votes_60 T k4 x0 x1 x2 x3 = some q) : Xr G (mX3_votes, xrm (4) T T, T, .inl (some (.int q)), T) 60 [(0, va_rf x0), (1, .int x1), (2, .int x2), (3, .int x3)] [] T := by
  unfold c_X3_votes_60 at hf
  refine C.iinc (v := (x3 + 1)) (L' := [(3, .int (x3 + 1)), (0, va_rf x0), (1, .int x1), (2, .int x2)]) dX3_votes_60 3 rfl rfl (Nat.le_of_ble_eq_true rfl) (xcQ (xcI (xcI (xcI xcN)))) rfl ?_
  refine X.goto (tgt := 4) dX3_votes_63 (by decide) ?_
  refine X.sub [1, 2, 3, 0] (L' := [(0, va_rf x0), (1, .int x1), (2, .int x2), (3, .int (x3 + 1))]) rfl ?_
  exact hk4 _ _ _ _ _ hf
def c_X3_votes_4_b (T : xF) (k4 : Option Nat → Int32 → Int32 → Int32 → Option Int32) (x0 : Option Nat) (x1 : Int32) (x2 : Int32) (x3 : Int32) : Option Int32 :=
  (oQ T x0 2 5).bind fun v6 =>
  (oQ T v6 0 1).bind fun v9 =>
  if ¬ isO T v9 1 = true then none else
  (c_X2_cells T v9).bind fun v12 =>
  if v12 ≤ x3 then
    some x2
  else
    if ¬ isO T x0 2 = true then none else
    (c_X3_isVoter T x0 x3).bind fun v20 =>
    if v20 = 0 then
      c_X3_votes_60 T k4 x0 x1 x2 x3
    else
      (oQ T x0 2 5).bind fun v27 =>
      (oQ T v27 0 1).bind fun v30 =>
      (oQ T v30 1 0).bind fun v33 =>
      (oQ T x0 2 2).bind fun v37 =>
      (ldA T v37 .int x3).bind fun v41 =>
      if ¬ isO T v33 10 = true then none else
      (c_J2_get T v33 v41).bind fun v42 =>
      if ¬ cst T v42 [11] = true then none else
      if ¬ isO T v42 11 = true then none else
      (c_J14_intValue T v42).bind fun v50 =>
      if v50 = x1 then
        c_X3_votes_60 T k4 x0 x1 (x2 + 1) x3
      else
        c_X3_votes_60 T k4 x0 x1 x2 x3
def c_X3_votes_4 (T : xF) : Nat → Option Nat → Int32 → Int32 → Int32 → Option Int32
  | 0 => fun _ _ _ _ => none
  | n + 1 => fun x0 x1 x2 x3 => c_X3_votes_4_b T (c_X3_votes_4 T n) x0 x1 x2 x3
theorem c_X3_votes_4_bok {G : xG}  {T : xF}  {k4 : Option Nat → Int32 → Int32 → Int32 → Option Int32}  (hk4 : ∀ (x0 : Option Nat) (x1 : Int32) (x2 : Int32) (x3 : Int32) (q : Int32), k4 x0 x1 x2 x3 = some q → Xr G (mX3_votes, xrm (4) T T, T, .inl (some (.int q)), T) 4 [(0, va_rf x0), (1, .int x1), (2, .int x2), (3, .int x3)] [] T) (x0 : Option Nat) (x1 : Int32) (x2 : Int32) (x3 : Int32) (q : Int32) (hf : c_X3_votes_4_b T k4 x0 x1 x2 x3 = some q) : Xr G (mX3_votes, xrm (4) T T, T, .inl (some (.int q)), T) 4 [(0, va_rf x0), (1, .int x1), (2, .int x2), (3, .int x3)] [] T := by
  unfold c_X3_votes_4_b at hf
  refine X.iload_n dX3_votes_4 rfl 3 rfl ?_
  refine C.aload_n dX3_votes_5 rfl 0 rfl ?_
  obtain ⟨v6, h6, hf⟩ := ob hf
  refine C.getQ dX3_votes_6 rX3_3 h6 ?_
  obtain ⟨v9, h9, hf⟩ := ob hf
  refine C.getQ dX3_votes_9 rX3_39 h9 ?_
  obtain ⟨c12, hf⟩ := if_n hf
  obtain ⟨v12, h12, hf⟩ := ob hf
  refine X.keep fun l12 => C.Vi (As := []) (rest := [.int x3]) dX3_votes_12 (w_X2_cells h12) cX3_43 (Classical.not_not.mp c12) rfl rfl (xcs (xvI xvN) (Nat.le_of_ble_eq_true rfl)) rfl rfl (xD (Nat.le_of_ble_eq_true rfl)) xle.rf l12 ?_
  refine X.icmp_ge (tgt := 66) dX3_votes_15 (by decide) (fun c15 => ?_) (fun c15 => ?_)
  · have hf := if_t c15 hf
    refine X.iload_n dX3_votes_66 rfl 2 rfl ?_
    obtain rfl := Option.some.inj hf
    exact X.iret dX3_votes_67 rfl rfl rfl
  · have hf := if_f c15 hf
    refine C.aload_n dX3_votes_18 rfl 0 rfl ?_
    refine X.iload_n dX3_votes_19 rfl 3 rfl ?_
    obtain ⟨c20, hf⟩ := if_n hf
    obtain ⟨v20, h20, hf⟩ := ob hf
    refine X.keep fun l20 => C.Vi (As := [.int x3]) (rest := []) dX3_votes_20 (w_X3_isVoter h20) cX3_124 (Classical.not_not.mp c20) rfl rfl (xcs xvN (Nat.le_of_ble_eq_true rfl)) rfl rfl (xD (Nat.le_of_ble_eq_true rfl)) xle.rf l20 ?_
    refine X.if_eq (tgt := 60) dX3_votes_23 (by decide) (fun c23 => ?_) (fun c23 => ?_)
    · have hf := if_t c23 hf
      refine X.sub [0, 1, 2, 3] (L' := [(0, va_rf x0), (1, .int x1), (2, .int x2), (3, .int x3)]) rfl ?_
      exact c_X3_votes_60_ok hk4 _ _ _ _ _ hf
    · have hf := if_f c23 hf
      refine C.aload_n dX3_votes_26 rfl 0 rfl ?_
      obtain ⟨v27, h27, hf⟩ := ob hf
      refine C.getQ dX3_votes_27 rX3_3 h27 ?_
      obtain ⟨v30, h30, hf⟩ := ob hf
      refine C.getQ dX3_votes_30 rX3_39 h30 ?_
      obtain ⟨v33, h33, hf⟩ := ob hf
      refine C.getQ dX3_votes_33 rX3_128 h33 ?_
      refine C.aload_n dX3_votes_36 rfl 0 rfl ?_
      obtain ⟨v37, h37, hf⟩ := ob hf
      refine C.getQ dX3_votes_37 rX3_22 h37 ?_
      refine X.iload_n dX3_votes_40 rfl 3 rfl ?_
      obtain ⟨v41, h41, hf⟩ := ob hf
      refine C.iald dX3_votes_41 h41 ?_
      obtain ⟨c42, hf⟩ := if_n hf
      obtain ⟨v42, h42, hf⟩ := ob hf
      refine X.keep fun l42 => C.Fq (As := [.int v41]) (rest := []) dX3_votes_42 (w_J2_get h42) cX3_132 (Classical.not_not.mp c42) rfl rfl (xcs xvN (Nat.le_of_ble_eq_true rfl)) rfl rfl (xD (Nat.le_of_ble_eq_true rfl)) xle.rf l42 ?_
      obtain ⟨c47, hf⟩ := if_n hf
      refine C.cast dX3_votes_47 q686 ca_Integer (Classical.not_not.mp c47) ?_
      obtain ⟨c50, hf⟩ := if_n hf
      obtain ⟨v50, h50, hf⟩ := ob hf
      refine X.keep fun l50 => C.Vi (As := []) (rest := []) dX3_votes_50 (w_J14_intValue h50) cX3_140 (Classical.not_not.mp c50) rfl rfl (xcs xvN (Nat.le_of_ble_eq_true rfl)) rfl rfl (xD (Nat.le_of_ble_eq_true rfl)) xle.rf l50 ?_
      refine X.iload_n dX3_votes_53 rfl 1 rfl ?_
      refine X.icmp_ne (tgt := 60) dX3_votes_54 (by decide) (fun c54 => ?_) (fun c54 => ?_)
      · have hf := if_f c54 hf
        refine X.sub [0, 1, 2, 3] (L' := [(0, va_rf x0), (1, .int x1), (2, .int x2), (3, .int x3)]) rfl ?_
        exact c_X3_votes_60_ok hk4 _ _ _ _ _ hf
      · have hf := if_t c54 hf
        refine C.iinc (v := (x2 + 1)) (L' := [(2, .int (x2 + 1)), (0, va_rf x0), (1, .int x1), (3, .int x3)]) dX3_votes_57 2 rfl rfl (Nat.le_of_ble_eq_true rfl) (xcQ (xcI (xcI (xcI xcN)))) rfl ?_
        refine X.sub [1, 2, 0, 3] (L' := [(0, va_rf x0), (1, .int x1), (2, .int (x2 + 1)), (3, .int x3)]) rfl ?_
        exact c_X3_votes_60_ok hk4 _ _ _ _ _ hf
theorem c_X3_votes_4_ok {G : xG}  {T : xF}   : ∀ (n : Nat) (x0 : Option Nat) (x1 : Int32) (x2 : Int32) (x3 : Int32) (q : Int32), c_X3_votes_4 T n x0 x1 x2 x3 = some q → Xr G (mX3_votes, xrm (4) T T, T, .inl (some (.int q)), T) 4 [(0, va_rf x0), (1, .int x1), (2, .int x2), (3, .int x3)] [] T
  | 0, _, _, _, _, _, hf => by cases hf
  | n + 1, x0, x1, x2, x3, q, hf => c_X3_votes_4_bok (c_X3_votes_4_ok n) x0 x1 x2 x3 q hf
def c_X3_votes (T : xF) (x0 : Option Nat) (x1 : Int32) : Option Int32 :=
  c_X3_votes_4 T FU x0 x1 (0 : Int32) (0 : Int32)
theorem w_X3_votes {G : xG}  {T : xF} {x0 : Option Nat} {x1 : Int32} {q : Int32} (hf : c_X3_votes T x0 x1 = some q) : Ct G mX3_votes (4) T [va_rf x0, .int x1] (.inl (some (.int q))) T := by
  refine Ct.ofc (plainFor_of_name (by decide +kernel)) rfl (xvQ (xvI xvN)) (Nat.le_of_ble_eq_true rfl) (show Xr G _ 0 [(0, va_rf x0), (1, .int x1)] [] _ from ?_)
  unfold c_X3_votes at hf
  refine X.iconst (v := 0) dX3_votes_0 (by decide) ?_
  refine C.ist_n (L' := [(2, .int (0 : Int32)), (0, va_rf x0), (1, .int x1)]) dX3_votes_1 rfl (Nat.le_of_ble_eq_true rfl) (xcQ (xcI xcN)) rfl ?_
  refine X.iconst (v := 0) dX3_votes_2 (by decide) ?_
  refine C.ist_n (L' := [(3, .int (0 : Int32)), (2, .int (0 : Int32)), (0, va_rf x0), (1, .int x1)]) dX3_votes_3 rfl (Nat.le_of_ble_eq_true rfl) (xcI (xcQ (xcI xcN))) rfl ?_
  refine X.sub [2, 3, 1, 0] (L' := [(0, va_rf x0), (1, .int x1), (2, .int (0 : Int32)), (3, .int (0 : Int32))]) rfl ?_
  exact c_X3_votes_4_ok FU _ _ _ _ _ hf
theorem cX1_179 : xCV RX1 179 mX3_votes 1 := ⟨lw_V q1322 q680 q681 q126 q682, rfl, ⟨by decide +kernel, by decide +kernel, by decide +kernel⟩, Nat.le_of_ble_eq_true rfl⟩
theorem cX3_143 : xCV RX3 143 mX3_votes 1 := ⟨lw_V q679 q680 q681 q126 q682, rfl, ⟨by decide +kernel, by decide +kernel, by decide +kernel⟩, Nat.le_of_ble_eq_true rfl⟩
/-! MouldVotes harm -/
abbrev cX1_harm : ByteArray := prog_1_method_63_code
def yX1_harm : MethodName := ⟨RX1, "harm", "(II)I"⟩
def dkwX1_harm_4 : List UInt8 := [161, 0, 6, 167, 0, 10, 21, 5, 62, 21, 6, 54, 4, 132, 5, 1, 167, 255, 177, 29, 172]
abbrev dktX1_harm_4 : List UInt8 := dkwX1_harm_4 ++ []
def dkwX1_harm_3 : List UInt8 := [21, 5, 182, 0, 206, 42, 180, 0, 35, 28, 182, 0, 199, 27, 182, 0, 179, 54, 6, 21, 6, 21, 4]
abbrev dktX1_harm_3 : List UInt8 := dkwX1_harm_3 ++ dktX1_harm_4
def dkwX1_harm_2 : List UInt8 := [180, 0, 96, 21, 5, 46, 2, 160, 0, 6, 167, 0, 50, 42, 180, 0, 35, 42, 180, 0, 38, 182, 0, 213]
abbrev dktX1_harm_2 : List UInt8 := dkwX1_harm_2 ++ dktX1_harm_3
def dkwX1_harm_1 : List UInt8 := [182, 0, 179, 54, 4, 3, 54, 5, 21, 5, 42, 180, 0, 22, 182, 0, 92, 162, 0, 73, 42, 180, 0, 38]
abbrev dktX1_harm_1 : List UInt8 := dkwX1_harm_1 ++ dktX1_harm_2
def dkwX1_harm_0 : List UInt8 := [27, 184, 0, 176, 28, 4, 16, 40, 184, 0, 134, 184, 0, 65, 2, 62, 42, 28, 182, 0, 217, 27]
abbrev dktX1_harm_0 : List UInt8 := dkwX1_harm_0 ++ dktX1_harm_1
theorem dksX1_harm_0 : cX1_harm.data.toList.drop 0 = dktX1_harm_0 := by decide +kernel
theorem dksX1_harm_1 : cX1_harm.data.toList.drop 22 = dktX1_harm_1 := dk_seg dksX1_harm_0 22 rfl rfl
theorem dksX1_harm_2 : cX1_harm.data.toList.drop 46 = dktX1_harm_2 := dk_seg dksX1_harm_1 24 rfl rfl
theorem dksX1_harm_3 : cX1_harm.data.toList.drop 70 = dktX1_harm_3 := dk_seg dksX1_harm_2 24 rfl rfl
theorem dksX1_harm_4 : cX1_harm.data.toList.drop 93 = dktX1_harm_4 := dk_seg dksX1_harm_3 23 rfl rfl
theorem dX1_harm_0 : decode cX1_harm 0 = .ok (.iload_n 1, 1) := dk_27 (dk_at dksX1_harm_0 0 rfl rfl)
theorem dX1_harm_1 : decode cX1_harm 1 = .ok (.invokestatic 176, 3) := dk_184 0 176 (dk_at dksX1_harm_0 1 rfl rfl)
theorem dX1_harm_4 : decode cX1_harm 4 = .ok (.iload_n 2, 1) := dk_28 (dk_at dksX1_harm_0 4 rfl rfl)
theorem dX1_harm_5 : decode cX1_harm 5 = .ok (.iconst 1, 1) := dk_4 (dk_at dksX1_harm_0 5 rfl rfl)
theorem dX1_harm_6 : decode cX1_harm 6 = .ok (.bipush 40, 2) := dk_16 40 (dk_at dksX1_harm_0 6 rfl rfl)
theorem dX1_harm_8 : decode cX1_harm 8 = .ok (.invokestatic 134, 3) := dk_184 0 134 (dk_at dksX1_harm_0 8 rfl rfl)
theorem dX1_harm_11 : decode cX1_harm 11 = .ok (.invokestatic 65, 3) := dk_184 0 65 (dk_at dksX1_harm_0 11 rfl rfl)
theorem dX1_harm_14 : decode cX1_harm 14 = .ok (.iconst (-1), 1) := dk_2 (dk_at dksX1_harm_0 14 rfl rfl)
theorem dX1_harm_15 : decode cX1_harm 15 = .ok (.istore_n 3, 1) := dk_62 (dk_at dksX1_harm_0 15 rfl rfl)
theorem dX1_harm_16 : decode cX1_harm 16 = .ok (.aload_n 0, 1) := dk_42 (dk_at dksX1_harm_0 16 rfl rfl)
theorem dX1_harm_17 : decode cX1_harm 17 = .ok (.iload_n 2, 1) := dk_28 (dk_at dksX1_harm_0 17 rfl rfl)
theorem dX1_harm_18 : decode cX1_harm 18 = .ok (.invokevirtual 217, 3) := dk_182 0 217 (dk_at dksX1_harm_0 18 rfl rfl)
theorem dX1_harm_21 : decode cX1_harm 21 = .ok (.iload_n 1, 1) := dk_27 (dk_at dksX1_harm_0 21 rfl rfl)
theorem dX1_harm_22 : decode cX1_harm 22 = .ok (.invokevirtual 179, 3) := dk_182 0 179 (dk_at dksX1_harm_1 0 rfl rfl)
theorem dX1_harm_25 : decode cX1_harm 25 = .ok (.istore 4, 2) := dk_54 4 (dk_at dksX1_harm_1 3 rfl rfl)
theorem dX1_harm_27 : decode cX1_harm 27 = .ok (.iconst 0, 1) := dk_3 (dk_at dksX1_harm_1 5 rfl rfl)
theorem dX1_harm_28 : decode cX1_harm 28 = .ok (.istore 5, 2) := dk_54 5 (dk_at dksX1_harm_1 6 rfl rfl)
theorem dX1_harm_30 : decode cX1_harm 30 = .ok (.iload 5, 2) := dk_21 5 (dk_at dksX1_harm_1 8 rfl rfl)
theorem dX1_harm_32 : decode cX1_harm 32 = .ok (.aload_n 0, 1) := dk_42 (dk_at dksX1_harm_1 10 rfl rfl)
theorem dX1_harm_33 : decode cX1_harm 33 = .ok (.getfield 22, 3) := dk_180 0 22 (dk_at dksX1_harm_1 11 rfl rfl)
theorem dX1_harm_36 : decode cX1_harm 36 = .ok (.invokevirtual 92, 3) := dk_182 0 92 (dk_at dksX1_harm_1 14 rfl rfl)
theorem dX1_harm_39 : decode cX1_harm 39 = .ok (.if_icmp .ge 73, 3) := dk_162 0 73 (dk_at dksX1_harm_1 17 rfl rfl)
theorem dX1_harm_42 : decode cX1_harm 42 = .ok (.aload_n 0, 1) := dk_42 (dk_at dksX1_harm_1 20 rfl rfl)
theorem dX1_harm_43 : decode cX1_harm 43 = .ok (.getfield 38, 3) := dk_180 0 38 (dk_at dksX1_harm_1 21 rfl rfl)
theorem dX1_harm_46 : decode cX1_harm 46 = .ok (.getfield 96, 3) := dk_180 0 96 (dk_at dksX1_harm_2 0 rfl rfl)
theorem dX1_harm_49 : decode cX1_harm 49 = .ok (.iload 5, 2) := dk_21 5 (dk_at dksX1_harm_2 3 rfl rfl)
theorem dX1_harm_51 : decode cX1_harm 51 = .ok (.iaload, 1) := dk_46 (dk_at dksX1_harm_2 5 rfl rfl)
theorem dX1_harm_52 : decode cX1_harm 52 = .ok (.iconst (-1), 1) := dk_2 (dk_at dksX1_harm_2 6 rfl rfl)
theorem dX1_harm_53 : decode cX1_harm 53 = .ok (.if_icmp .ne 6, 3) := dk_160 0 6 (dk_at dksX1_harm_2 7 rfl rfl)
theorem dX1_harm_56 : decode cX1_harm 56 = .ok (.goto 50, 3) := dk_167 0 50 (dk_at dksX1_harm_2 10 rfl rfl)
theorem dX1_harm_59 : decode cX1_harm 59 = .ok (.aload_n 0, 1) := dk_42 (dk_at dksX1_harm_2 13 rfl rfl)
theorem dX1_harm_60 : decode cX1_harm 60 = .ok (.getfield 35, 3) := dk_180 0 35 (dk_at dksX1_harm_2 14 rfl rfl)
theorem dX1_harm_63 : decode cX1_harm 63 = .ok (.aload_n 0, 1) := dk_42 (dk_at dksX1_harm_2 17 rfl rfl)
theorem dX1_harm_64 : decode cX1_harm 64 = .ok (.getfield 38, 3) := dk_180 0 38 (dk_at dksX1_harm_2 18 rfl rfl)
theorem dX1_harm_67 : decode cX1_harm 67 = .ok (.invokevirtual 213, 3) := dk_182 0 213 (dk_at dksX1_harm_2 21 rfl rfl)
theorem dX1_harm_70 : decode cX1_harm 70 = .ok (.iload 5, 2) := dk_21 5 (dk_at dksX1_harm_3 0 rfl rfl)
theorem dX1_harm_72 : decode cX1_harm 72 = .ok (.invokevirtual 206, 3) := dk_182 0 206 (dk_at dksX1_harm_3 2 rfl rfl)
theorem dX1_harm_75 : decode cX1_harm 75 = .ok (.aload_n 0, 1) := dk_42 (dk_at dksX1_harm_3 5 rfl rfl)
theorem dX1_harm_76 : decode cX1_harm 76 = .ok (.getfield 35, 3) := dk_180 0 35 (dk_at dksX1_harm_3 6 rfl rfl)
theorem dX1_harm_79 : decode cX1_harm 79 = .ok (.iload_n 2, 1) := dk_28 (dk_at dksX1_harm_3 9 rfl rfl)
theorem dX1_harm_80 : decode cX1_harm 80 = .ok (.invokevirtual 199, 3) := dk_182 0 199 (dk_at dksX1_harm_3 10 rfl rfl)
theorem dX1_harm_83 : decode cX1_harm 83 = .ok (.iload_n 1, 1) := dk_27 (dk_at dksX1_harm_3 13 rfl rfl)
theorem dX1_harm_84 : decode cX1_harm 84 = .ok (.invokevirtual 179, 3) := dk_182 0 179 (dk_at dksX1_harm_3 14 rfl rfl)
theorem dX1_harm_87 : decode cX1_harm 87 = .ok (.istore 6, 2) := dk_54 6 (dk_at dksX1_harm_3 17 rfl rfl)
theorem dX1_harm_89 : decode cX1_harm 89 = .ok (.iload 6, 2) := dk_21 6 (dk_at dksX1_harm_3 19 rfl rfl)
theorem dX1_harm_91 : decode cX1_harm 91 = .ok (.iload 4, 2) := dk_21 4 (dk_at dksX1_harm_3 21 rfl rfl)
theorem dX1_harm_93 : decode cX1_harm 93 = .ok (.if_icmp .lt 6, 3) := dk_161 0 6 (dk_at dksX1_harm_4 0 rfl rfl)
theorem dX1_harm_96 : decode cX1_harm 96 = .ok (.goto 10, 3) := dk_167 0 10 (dk_at dksX1_harm_4 3 rfl rfl)
theorem dX1_harm_99 : decode cX1_harm 99 = .ok (.iload 5, 2) := dk_21 5 (dk_at dksX1_harm_4 6 rfl rfl)
theorem dX1_harm_101 : decode cX1_harm 101 = .ok (.istore_n 3, 1) := dk_62 (dk_at dksX1_harm_4 8 rfl rfl)
theorem dX1_harm_102 : decode cX1_harm 102 = .ok (.iload 6, 2) := dk_21 6 (dk_at dksX1_harm_4 9 rfl rfl)
theorem dX1_harm_104 : decode cX1_harm 104 = .ok (.istore 4, 2) := dk_54 4 (dk_at dksX1_harm_4 11 rfl rfl)
theorem dX1_harm_106 : decode cX1_harm 106 = .ok (.iinc 5 1, 3) := dk_132 5 1 (dk_at dksX1_harm_4 13 rfl rfl)
theorem dX1_harm_109 : decode cX1_harm 109 = .ok (.goto (-79), 3) := dk_167 255 177 (dk_at dksX1_harm_4 16 rfl rfl)
theorem dX1_harm_112 : decode cX1_harm 112 = .ok (.iload_n 3, 1) := dk_29 (dk_at dksX1_harm_4 19 rfl rfl)
theorem dX1_harm_113 : decode cX1_harm 113 = .ok (.ireturn, 1) := dk_172 (dk_at dksX1_harm_4 20 rfl rfl)
abbrev mX1_harm : xM := (yX1_harm, cX1_harm, 7, (some .int), [])
def c_X1_harm_106 (G : xG) (k30 : Option Nat → Int32 → Int32 → Int32 → Int32 → Int32 → xF → Option ((Int32 ⊕ xE) × xF)) (x0 : Option Nat) (x1 : Int32) (x2 : Int32) (x3 : Int32) (x4 : Int32) (x5 : Int32) (T : xF) : Option ((Int32 ⊕ xE) × xF) :=
  k30 x0 x1 x2 x3 x4 (x5 + 1) T
theorem c_X1_harm_106_ok {G : xG}  {T0 : xF} {k30 : Option Nat → Int32 → Int32 → Int32 → Int32 → Int32 → xF → Option ((Int32 ⊕ xE) × xF)} (hk30 : ∀ (x0 : Option Nat) (x1 : Int32) (x2 : Int32) (x3 : Int32) (x4 : Int32) (x5 : Int32) (T : xF) (q : ((Int32 ⊕ xE) × xF)), k30 x0 x1 x2 x3 x4 x5 T = some q → Xr G (mX1_harm, xrm (127) T0 q.2, T0, xoI q.1, q.2) 30 [(0, va_rf x0), (1, .int x1), (2, .int x2), (3, .int x3), (4, .int x4), (5, .int x5)] [] T) (x0 : Option Nat) (x1 : Int32) (x2 : Int32) (x3 : Int32) (x4 : Int32) (x5 : Int32) (T : xF) (q : ((Int32 ⊕ xE) × xF)) (hf : c_X1_harm_106 G k30 x0 x1 x2 x3 x4 x5 T = some q) : Xr G (mX1_harm, xrm (127) T0 q.2, T0, xoI q.1, q.2) 106 [(0, va_rf x0), (1, .int x1), (2, .int x2), (3, .int x3), (4, .int x4), (5, .int x5)] [] T := by
  unfold c_X1_harm_106 at hf
  refine C.iinc (v := (x5 + 1)) (L' := [(5, .int (x5 + 1)), (0, va_rf x0), (1, .int x1), (2, .int x2), (3, .int x3), (4, .int x4)]) dX1_harm_106 5 rfl rfl (Nat.le_of_ble_eq_true rfl) (xcQ (xcI (xcI (xcI (xcI (xcI xcN)))))) rfl ?_
  refine X.goto (tgt := 30) dX1_harm_109 (by decide) ?_
  refine X.sub [1, 2, 3, 4, 5, 0] (L' := [(0, va_rf x0), (1, .int x1), (2, .int x2), (3, .int x3), (4, .int x4), (5, .int (x5 + 1))]) rfl ?_
  exact hk30 _ _ _ _ _ _ _ _ hf
def c_X1_harm_30_b (G : xG) (k30 : Option Nat → Int32 → Int32 → Int32 → Int32 → Int32 → xF → Option ((Int32 ⊕ xE) × xF)) (x0 : Option Nat) (x1 : Int32) (x2 : Int32) (x3 : Int32) (x4 : Int32) (x5 : Int32) (T : xF) : Option ((Int32 ⊕ xE) × xF) :=
  (oQ T x0 0 1).bind fun v33 =>
  if ¬ isO T v33 1 = true then none else
  (c_X2_cells T v33).bind fun v36 =>
  if v36 ≤ x5 then
    some (.inl x3, T)
  else
    (oQ T x0 0 4).bind fun v43 =>
    (oQ T v43 2 2).bind fun v46 =>
    (ldA T v46 .int x5).bind fun v51 =>
    if v51 = (-1 : Int32) then
      c_X1_harm_106 G k30 x0 x1 x2 x3 x4 x5 T
    else
      (oQ T x0 0 3).bind fun v60 =>
      (oQ T x0 0 4).bind fun v64 =>
      if ¬ isO T v60 2 = true then none else
      cl (c_X3_be v60 v64 T) T fun v67 T67 =>
      if ¬ isO T67 v67 2 = true then none else
      cl (c_X3_clear v67 x5 T67) T67 fun v72 T72 =>
      (oQ T72 x0 0 3).bind fun v76 =>
      if ¬ isO T72 v76 2 = true then none else
      cl (c_X3_after G v76 x2 T72) T72 fun v80 T80 =>
      if ¬ isO T80 v80 2 = true then none else
      (c_X3_votes T80 v80 x1).bind fun v84 =>
      if v84 < x4 then
        c_X1_harm_106 G k30 x0 x1 x2 x5 v84 x5 T80
      else
        c_X1_harm_106 G k30 x0 x1 x2 x3 x4 x5 T80
def c_X1_harm_30 (G : xG) : Nat → Option Nat → Int32 → Int32 → Int32 → Int32 → Int32 → xF → Option ((Int32 ⊕ xE) × xF)
  | 0 => fun _ _ _ _ _ _ _ => none
  | n + 1 => fun x0 x1 x2 x3 x4 x5 T => c_X1_harm_30_b G (c_X1_harm_30 G n) x0 x1 x2 x3 x4 x5 T
theorem c_X1_harm_30_bok {G : xG}  {T0 : xF}  {k30 : Option Nat → Int32 → Int32 → Int32 → Int32 → Int32 → xF → Option ((Int32 ⊕ xE) × xF)}  (hk30 : ∀ (x0 : Option Nat) (x1 : Int32) (x2 : Int32) (x3 : Int32) (x4 : Int32) (x5 : Int32) (T : xF) (q : ((Int32 ⊕ xE) × xF)), k30 x0 x1 x2 x3 x4 x5 T = some q → Xr G (mX1_harm, xrm (127) T0 q.2, T0, xoI q.1, q.2) 30 [(0, va_rf x0), (1, .int x1), (2, .int x2), (3, .int x3), (4, .int x4), (5, .int x5)] [] T) (x0 : Option Nat) (x1 : Int32) (x2 : Int32) (x3 : Int32) (x4 : Int32) (x5 : Int32) (T : xF) (q : ((Int32 ⊕ xE) × xF)) (hf : c_X1_harm_30_b G k30 x0 x1 x2 x3 x4 x5 T = some q) : Xr G (mX1_harm, xrm (127) T0 q.2, T0, xoI q.1, q.2) 30 [(0, va_rf x0), (1, .int x1), (2, .int x2), (3, .int x3), (4, .int x4), (5, .int x5)] [] T := by
  unfold c_X1_harm_30_b at hf
  refine X.iload dX1_harm_30 5 rfl ?_
  refine C.aload_n dX1_harm_32 rfl 0 rfl ?_
  obtain ⟨v33, h33, hf⟩ := ob hf
  refine C.getQ dX1_harm_33 rX1_22 h33 ?_
  obtain ⟨c36, hf⟩ := if_n hf
  obtain ⟨v36, h36, hf⟩ := ob hf
  refine X.keep fun l36 => C.Vi (As := []) (rest := [.int x5]) dX1_harm_36 (w_X2_cells h36) cX1_92 (Classical.not_not.mp c36) rfl rfl (xcs (xvI xvN) (Nat.le_of_ble_eq_true rfl)) rfl rfl (xD (Nat.le_of_ble_eq_true rfl)) xle.rf l36 ?_
  refine X.icmp_ge (tgt := 112) dX1_harm_39 (by decide) (fun c39 => ?_) (fun c39 => ?_)
  · have hf := if_t c39 hf
    refine X.iload_n dX1_harm_112 rfl 3 rfl ?_
    obtain rfl := Option.some.inj hf
    exact X.iret dX1_harm_113 rfl rfl rfl
  · have hf := if_f c39 hf
    refine C.aload_n dX1_harm_42 rfl 0 rfl ?_
    obtain ⟨v43, h43, hf⟩ := ob hf
    refine C.getQ dX1_harm_43 rX1_38 h43 ?_
    obtain ⟨v46, h46, hf⟩ := ob hf
    refine C.getQ dX1_harm_46 rX1_96 h46 ?_
    refine X.iload dX1_harm_49 5 rfl ?_
    obtain ⟨v51, h51, hf⟩ := ob hf
    refine C.iald dX1_harm_51 h51 ?_
    refine X.iconst (v := -1) dX1_harm_52 (by decide) ?_
    refine X.icmp_ne (tgt := 59) dX1_harm_53 (by decide) (fun c53 => ?_) (fun c53 => ?_)
    · have hf := if_f c53 hf
      refine C.aload_n dX1_harm_59 rfl 0 rfl ?_
      obtain ⟨v60, h60, hf⟩ := ob hf
      refine C.getQ dX1_harm_60 rX1_35 h60 ?_
      refine C.aload_n dX1_harm_63 rfl 0 rfl ?_
      obtain ⟨v64, h64, hf⟩ := ob hf
      refine C.getQ dX1_harm_64 rX1_38 h64 ?_
      obtain ⟨c67, hf⟩ := if_n hf
      obtain ⟨v67, T67, h67, hf, l67, r67⟩ := cl_ok hf
      refine C.Vq (As := [va_rf v64]) (rest := []) dX1_harm_67 (w_X3_be h67) cX1_213 (Classical.not_not.mp c67) rfl rfl (xcs xvN (Nat.le_of_ble_eq_true rfl)) rfl rfl (xD (Nat.le_of_ble_eq_true rfl)) l67 r67 ?_
      refine X.iload dX1_harm_70 5 rfl ?_
      obtain ⟨c72, hf⟩ := if_n hf
      obtain ⟨v72, T72, h72, hf, l72, r72⟩ := cl_ok hf
      refine C.Vv (As := [.int x5]) (rest := []) dX1_harm_72 (w_X3_clear h72) cX1_206 (Classical.not_not.mp c72) rfl rfl (xcs xvN (Nat.le_of_ble_eq_true rfl)) rfl rfl (xD (Nat.le_of_ble_eq_true rfl)) l72 r72 ?_
      refine C.aload_n dX1_harm_75 rfl 0 rfl ?_
      obtain ⟨v76, h76, hf⟩ := ob hf
      refine C.getQ dX1_harm_76 rX1_35 h76 ?_
      refine X.iload_n dX1_harm_79 rfl 2 rfl ?_
      obtain ⟨c80, hf⟩ := if_n hf
      obtain ⟨v80, T80, h80, hf, l80, r80⟩ := cl_ok hf
      refine C.Vq (As := [.int x2]) (rest := []) dX1_harm_80 (w_X3_after h80) cX1_199 (Classical.not_not.mp c80) rfl rfl (xcs xvN (Nat.le_of_ble_eq_true rfl)) rfl rfl (xD (Nat.le_of_ble_eq_true rfl)) l80 r80 ?_
      refine X.iload_n dX1_harm_83 rfl 1 rfl ?_
      obtain ⟨c84, hf⟩ := if_n hf
      obtain ⟨v84, h84, hf⟩ := ob hf
      refine X.keep fun l84 => C.Vi (As := [.int x1]) (rest := []) dX1_harm_84 (w_X3_votes h84) cX1_179 (Classical.not_not.mp c84) rfl rfl (xcs xvN (Nat.le_of_ble_eq_true rfl)) rfl rfl (xD (Nat.le_of_ble_eq_true rfl)) xle.rf l84 ?_
      refine C.ist (L' := [(6, .int v84), (0, va_rf x0), (1, .int x1), (2, .int x2), (3, .int x3), (4, .int x4), (5, .int x5)]) dX1_harm_87 (Nat.le_of_ble_eq_true rfl) (xcQ (xcI (xcI (xcI (xcI (xcI xcN)))))) rfl ?_
      refine X.iload dX1_harm_89 0 rfl ?_
      refine X.iload dX1_harm_91 5 rfl ?_
      refine X.icmp_lt (tgt := 99) dX1_harm_93 (by decide) (fun c93 => ?_) (fun c93 => ?_)
      · have hf := if_t c93 hf
        refine X.iload dX1_harm_99 6 rfl ?_
        refine C.ist_n (L' := [(3, .int x5), (6, .int v84), (0, va_rf x0), (1, .int x1), (2, .int x2), (4, .int x4), (5, .int x5)]) dX1_harm_101 rfl (Nat.le_of_ble_eq_true rfl) (xcI (xcQ (xcI (xcI (xcI (xcI (xcI xcN))))))) rfl ?_
        refine X.iload dX1_harm_102 1 rfl ?_
        refine C.ist (L' := [(4, .int v84), (3, .int x5), (6, .int v84), (0, va_rf x0), (1, .int x1), (2, .int x2), (5, .int x5)]) dX1_harm_104 (Nat.le_of_ble_eq_true rfl) (xcI (xcI (xcQ (xcI (xcI (xcI (xcI xcN))))))) rfl ?_
        refine X.sub [3, 4, 5, 1, 0, 6] (L' := [(0, va_rf x0), (1, .int x1), (2, .int x2), (3, .int x5), (4, .int v84), (5, .int x5)]) rfl ?_
        exact c_X1_harm_106_ok hk30 _ _ _ _ _ _ _ _ hf
      · have hf := if_f c93 hf
        refine X.goto (tgt := 106) dX1_harm_96 (by decide) ?_
        refine X.sub [1, 2, 3, 4, 5, 6] (L' := [(0, va_rf x0), (1, .int x1), (2, .int x2), (3, .int x3), (4, .int x4), (5, .int x5)]) rfl ?_
        exact c_X1_harm_106_ok hk30 _ _ _ _ _ _ _ _ hf
    · have hf := if_t c53 hf
      refine X.goto (tgt := 106) dX1_harm_56 (by decide) ?_
      refine X.sub [0, 1, 2, 3, 4, 5] (L' := [(0, va_rf x0), (1, .int x1), (2, .int x2), (3, .int x3), (4, .int x4), (5, .int x5)]) rfl ?_
      exact c_X1_harm_106_ok hk30 _ _ _ _ _ _ _ _ hf
theorem c_X1_harm_30_ok {G : xG}  {T0 : xF}   : ∀ (n : Nat) (x0 : Option Nat) (x1 : Int32) (x2 : Int32) (x3 : Int32) (x4 : Int32) (x5 : Int32) (T : xF) (q : ((Int32 ⊕ xE) × xF)), c_X1_harm_30 G n x0 x1 x2 x3 x4 x5 T = some q → Xr G (mX1_harm, xrm (127) T0 q.2, T0, xoI q.1, q.2) 30 [(0, va_rf x0), (1, .int x1), (2, .int x2), (3, .int x3), (4, .int x4), (5, .int x5)] [] T
  | 0, _, _, _, _, _, _, _, _, hf => by cases hf
  | n + 1, x0, x1, x2, x3, x4, x5, T, q, hf => c_X1_harm_30_bok (c_X1_harm_30_ok n) x0 x1 x2 x3 x4 x5 T q hf
def c_X1_harm (G : xG) (x0 : Option Nat) (x1 : Int32) (x2 : Int32) (T : xF) : Option ((Int32 ⊕ xE) × xF) :=
  clX (c_X1_aParty x1 T) T fun v1 T1 =>
  (c_X1_in x2 (1 : Int32) (40 : Int32)).bind fun v8 =>
  clX (c_X1_right v8 T1) T1 fun v11 T11 =>
  if ¬ isO T11 x0 0 = true then none else
  cl (c_X1_later G x0 x2 T11) T11 fun v18 T18 =>
  if ¬ isO T18 v18 2 = true then none else
  (c_X3_votes T18 v18 x1).bind fun v22 =>
  c_X1_harm_30 G FU x0 x1 x2 (-1 : Int32) v22 (0 : Int32) T18
theorem w_X1_harm {G : xG}  {T : xF} {x0 : Option Nat} {x1 : Int32} {x2 : Int32} {q : ((Int32 ⊕ xE) × xF)} (hf : c_X1_harm G x0 x1 x2 T = some q) : Ct G mX1_harm (127) T [va_rf x0, .int x1, .int x2] (xoI q.1) q.2 := by
  refine Ct.ofc (plainFor_of_name (by decide +kernel)) rfl (xvQ (xvI (xvI xvN))) (Nat.le_of_ble_eq_true rfl) (show Xr G _ 0 [(0, va_rf x0), (1, .int x1), (2, .int x2)] [] _ from ?_)
  unfold c_X1_harm at hf
  refine X.iload_n dX1_harm_0 rfl 1 rfl ?_
  rcases clX_ok hf with ⟨v1, T1, h1, hf, l1, r1⟩ | ⟨e1, T1, h1, rfl, l1⟩
  rotate_left
  · exact C.Sx (As := [.int x1]) (rest := []) dX1_harm_1 (w_X1_aParty h1) cX1_176 rfl rfl (xcs xvN (Nat.le_of_ble_eq_true rfl)) (xD (Nat.le_of_ble_eq_true rfl)) l1 xle.rf (xnoh rfl) rfl
  refine C.Sv (As := [.int x1]) (rest := []) dX1_harm_1 (w_X1_aParty h1) cX1_176 rfl rfl (xcs xvN (Nat.le_of_ble_eq_true rfl)) (xD (Nat.le_of_ble_eq_true rfl)) l1 r1 ?_
  refine X.iload_n dX1_harm_4 rfl 2 rfl ?_
  refine X.iconst (v := 1) dX1_harm_5 (by decide) ?_
  refine X.bipush (v := 40) dX1_harm_6 (by decide) ?_
  obtain ⟨v8, h8, hf⟩ := ob hf
  refine X.keep fun l8 => C.Si (As := [.int x2, .int (1 : Int32), .int (40 : Int32)]) (rest := []) dX1_harm_8 (w_X1_in h8) cX1_134 rfl rfl (xcs xvN (Nat.le_of_ble_eq_true rfl)) (xD (Nat.le_of_ble_eq_true rfl)) xle.rf l8 ?_
  rcases clX_ok hf with ⟨v11, T11, h11, hf, l11, r11⟩ | ⟨e11, T11, h11, rfl, l11⟩
  rotate_left
  · exact C.Sx (As := [.int v8]) (rest := []) dX1_harm_11 (w_X1_right h11) cX1_65 rfl rfl (xcs xvN (Nat.le_of_ble_eq_true rfl)) (xD (Nat.le_of_ble_eq_true rfl)) l11 xle.rf (xnoh rfl) rfl
  refine C.Sv (As := [.int v8]) (rest := []) dX1_harm_11 (w_X1_right h11) cX1_65 rfl rfl (xcs xvN (Nat.le_of_ble_eq_true rfl)) (xD (Nat.le_of_ble_eq_true rfl)) l11 r11 ?_
  refine X.iconst (v := -1) dX1_harm_14 (by decide) ?_
  refine C.ist_n (L' := [(3, .int (-1 : Int32)), (0, va_rf x0), (1, .int x1), (2, .int x2)]) dX1_harm_15 rfl (Nat.le_of_ble_eq_true rfl) (xcQ (xcI (xcI xcN))) rfl ?_
  refine C.aload_n dX1_harm_16 rfl 1 rfl ?_
  refine X.iload_n dX1_harm_17 rfl 3 rfl ?_
  obtain ⟨c18, hf⟩ := if_n hf
  obtain ⟨v18, T18, h18, hf, l18, r18⟩ := cl_ok hf
  refine C.Vq (As := [.int x2]) (rest := []) dX1_harm_18 (w_X1_later h18) cX1_217 (Classical.not_not.mp c18) rfl rfl (xcs xvN (Nat.le_of_ble_eq_true rfl)) rfl rfl (xD (Nat.le_of_ble_eq_true rfl)) l18 r18 ?_
  refine X.iload_n dX1_harm_21 rfl 2 rfl ?_
  obtain ⟨c22, hf⟩ := if_n hf
  obtain ⟨v22, h22, hf⟩ := ob hf
  refine X.keep fun l22 => C.Vi (As := [.int x1]) (rest := []) dX1_harm_22 (w_X3_votes h22) cX1_179 (Classical.not_not.mp c22) rfl rfl (xcs xvN (Nat.le_of_ble_eq_true rfl)) rfl rfl (xD (Nat.le_of_ble_eq_true rfl)) xle.rf l22 ?_
  refine C.ist (L' := [(4, .int v22), (3, .int (-1 : Int32)), (0, va_rf x0), (1, .int x1), (2, .int x2)]) dX1_harm_25 (Nat.le_of_ble_eq_true rfl) (xcI (xcQ (xcI (xcI xcN)))) rfl ?_
  refine X.iconst (v := 0) dX1_harm_27 (by decide) ?_
  refine C.ist (L' := [(5, .int (0 : Int32)), (4, .int v22), (3, .int (-1 : Int32)), (0, va_rf x0), (1, .int x1), (2, .int x2)]) dX1_harm_28 (Nat.le_of_ble_eq_true rfl) (xcI (xcI (xcQ (xcI (xcI xcN))))) rfl ?_
  refine X.sub [3, 4, 5, 2, 1, 0] (L' := [(0, va_rf x0), (1, .int x1), (2, .int x2), (3, .int (-1 : Int32)), (4, .int v22), (5, .int (0 : Int32))]) rfl ?_
  exact c_X1_harm_30_ok FU _ _ _ _ _ _ _ _ hf
/-! MouldVotes aCell -/
abbrev cX1_aCell : ByteArray := prog_1_method_12_code
def yX1_aCell : MethodName := ⟨RX1, "aCell", "(I)V"⟩
def dkwX1_aCell_0 : List UInt8 := [27, 3, 42, 180, 0, 22, 182, 0, 92, 4, 100, 184, 0, 134, 184, 0, 138, 177]
abbrev dktX1_aCell_0 : List UInt8 := dkwX1_aCell_0 ++ []
theorem dksX1_aCell_0 : cX1_aCell.data.toList.drop 0 = dktX1_aCell_0 := by decide +kernel
theorem dX1_aCell_0 : decode cX1_aCell 0 = .ok (.iload_n 1, 1) := dk_27 (dk_at dksX1_aCell_0 0 rfl rfl)
theorem dX1_aCell_1 : decode cX1_aCell 1 = .ok (.iconst 0, 1) := dk_3 (dk_at dksX1_aCell_0 1 rfl rfl)
theorem dX1_aCell_2 : decode cX1_aCell 2 = .ok (.aload_n 0, 1) := dk_42 (dk_at dksX1_aCell_0 2 rfl rfl)
theorem dX1_aCell_3 : decode cX1_aCell 3 = .ok (.getfield 22, 3) := dk_180 0 22 (dk_at dksX1_aCell_0 3 rfl rfl)
theorem dX1_aCell_6 : decode cX1_aCell 6 = .ok (.invokevirtual 92, 3) := dk_182 0 92 (dk_at dksX1_aCell_0 6 rfl rfl)
theorem dX1_aCell_9 : decode cX1_aCell 9 = .ok (.iconst 1, 1) := dk_4 (dk_at dksX1_aCell_0 9 rfl rfl)
theorem dX1_aCell_10 : decode cX1_aCell 10 = .ok (.isub, 1) := dk_100 (dk_at dksX1_aCell_0 10 rfl rfl)
theorem dX1_aCell_11 : decode cX1_aCell 11 = .ok (.invokestatic 134, 3) := dk_184 0 134 (dk_at dksX1_aCell_0 11 rfl rfl)
theorem dX1_aCell_14 : decode cX1_aCell 14 = .ok (.invokestatic 138, 3) := dk_184 0 138 (dk_at dksX1_aCell_0 14 rfl rfl)
theorem dX1_aCell_17 : decode cX1_aCell 17 = .ok (.return_, 1) := dk_177 (dk_at dksX1_aCell_0 17 rfl rfl)
abbrev mX1_aCell : xM := (yX1_aCell, cX1_aCell, 2, none, [])
def c_X1_aCell (x0 : Option Nat) (x1 : Int32) (T : xF) : Option ((Unit ⊕ xE) × xF) :=
  (oQ T x0 0 1).bind fun v3 =>
  if ¬ isO T v3 1 = true then none else
  (c_X2_cells T v3).bind fun v6 =>
  (c_X1_in x1 (0 : Int32) (v6 - (1 : Int32))).bind fun v11 =>
  clX (c_X1_found v11 T) T fun v14 T14 =>
  some (.inl (), T14)
theorem w_X1_aCell {G : xG}  {T : xF} {x0 : Option Nat} {x1 : Int32} {q : ((Unit ⊕ xE) × xF)} (hf : c_X1_aCell x0 x1 T = some q) : Ct G mX1_aCell (8) T [va_rf x0, .int x1] (xoV q.1) q.2 := by
  refine Ct.ofc (plainFor_of_name (by decide +kernel)) rfl (xvQ (xvI xvN)) (Nat.le_of_ble_eq_true rfl) (show Xr G _ 0 [(0, va_rf x0), (1, .int x1)] [] _ from ?_)
  unfold c_X1_aCell at hf
  refine X.iload_n dX1_aCell_0 rfl 1 rfl ?_
  refine X.iconst (v := 0) dX1_aCell_1 (by decide) ?_
  refine C.aload_n dX1_aCell_2 rfl 0 rfl ?_
  obtain ⟨v3, h3, hf⟩ := ob hf
  refine C.getQ dX1_aCell_3 rX1_22 h3 ?_
  obtain ⟨c6, hf⟩ := if_n hf
  obtain ⟨v6, h6, hf⟩ := ob hf
  refine X.keep fun l6 => C.Vi (As := []) (rest := [.int (0 : Int32), .int x1]) dX1_aCell_6 (w_X2_cells h6) cX1_92 (Classical.not_not.mp c6) rfl rfl (xcs (xvI (xvI xvN)) (Nat.le_of_ble_eq_true rfl)) rfl rfl (xD (Nat.le_of_ble_eq_true rfl)) xle.rf l6 ?_
  refine X.iconst (v := 1) dX1_aCell_9 (by decide) ?_
  refine X.isub dX1_aCell_10 ?_
  obtain ⟨v11, h11, hf⟩ := ob hf
  refine X.keep fun l11 => C.Si (As := [.int x1, .int (0 : Int32), .int (v6 - (1 : Int32))]) (rest := []) dX1_aCell_11 (w_X1_in h11) cX1_134 rfl rfl (xcs xvN (Nat.le_of_ble_eq_true rfl)) (xD (Nat.le_of_ble_eq_true rfl)) xle.rf l11 ?_
  rcases clX_ok hf with ⟨v14, T14, h14, hf, l14, r14⟩ | ⟨e14, T14, h14, rfl, l14⟩
  rotate_left
  · exact C.Sx (As := [.int v11]) (rest := []) dX1_aCell_14 (w_X1_found h14) cX1_138 rfl rfl (xcs xvN (Nat.le_of_ble_eq_true rfl)) (xD (Nat.le_of_ble_eq_true rfl)) l14 xle.rf (xnoh rfl) rfl
  refine C.Sv (As := [.int v11]) (rest := []) dX1_aCell_14 (w_X1_found h14) cX1_138 rfl rfl (xcs xvN (Nat.le_of_ble_eq_true rfl)) (xD (Nat.le_of_ble_eq_true rfl)) l14 r14 ?_
  obtain rfl := Option.some.inj hf
  exact X.vret dX1_aCell_17 rfl rfl
theorem cX1_145 : xCV RX1 145 mX1_aCell 1 := ⟨lw_V q1293 q1295 qs41 q121 q1296, rfl, ⟨by decide +kernel, by decide +kernel, by decide +kernel⟩, Nat.le_of_ble_eq_true rfl⟩
/-! MouldVotes keep -/
abbrev cX1_keep : ByteArray := prog_1_method_62_code
def yX1_keep : MethodName := ⟨RX1, "keep", "(I)I"⟩
def dkwX1_keep_2 : List UInt8 := [28, 79, 42, 180, 0, 35, 27, 182, 0, 160, 155, 0, 5, 28, 172, 132, 2, 1, 167, 255, 224, 2, 172]
abbrev dktX1_keep_2 : List UInt8 := dkwX1_keep_2 ++ []
def dkwX1_keep_1 : List UInt8 := [42, 180, 0, 38, 182, 0, 213, 87, 3, 61, 28, 16, 9, 163, 0, 32, 42, 180, 0, 35, 180, 0, 149, 27]
abbrev dktX1_keep_1 : List UInt8 := dkwX1_keep_1 ++ dktX1_keep_2
def dkwX1_keep_0 : List UInt8 := [42, 27, 182, 0, 145, 42, 180, 0, 38, 180, 0, 96, 27, 46, 2, 160, 0, 5, 2, 172, 42, 180, 0, 35]
abbrev dktX1_keep_0 : List UInt8 := dkwX1_keep_0 ++ dktX1_keep_1
theorem dksX1_keep_0 : cX1_keep.data.toList.drop 0 = dktX1_keep_0 := by decide +kernel
theorem dksX1_keep_1 : cX1_keep.data.toList.drop 24 = dktX1_keep_1 := dk_seg dksX1_keep_0 24 rfl rfl
theorem dksX1_keep_2 : cX1_keep.data.toList.drop 48 = dktX1_keep_2 := dk_seg dksX1_keep_1 24 rfl rfl
theorem dX1_keep_0 : decode cX1_keep 0 = .ok (.aload_n 0, 1) := dk_42 (dk_at dksX1_keep_0 0 rfl rfl)
theorem dX1_keep_1 : decode cX1_keep 1 = .ok (.iload_n 1, 1) := dk_27 (dk_at dksX1_keep_0 1 rfl rfl)
theorem dX1_keep_2 : decode cX1_keep 2 = .ok (.invokevirtual 145, 3) := dk_182 0 145 (dk_at dksX1_keep_0 2 rfl rfl)
theorem dX1_keep_5 : decode cX1_keep 5 = .ok (.aload_n 0, 1) := dk_42 (dk_at dksX1_keep_0 5 rfl rfl)
theorem dX1_keep_6 : decode cX1_keep 6 = .ok (.getfield 38, 3) := dk_180 0 38 (dk_at dksX1_keep_0 6 rfl rfl)
theorem dX1_keep_9 : decode cX1_keep 9 = .ok (.getfield 96, 3) := dk_180 0 96 (dk_at dksX1_keep_0 9 rfl rfl)
theorem dX1_keep_12 : decode cX1_keep 12 = .ok (.iload_n 1, 1) := dk_27 (dk_at dksX1_keep_0 12 rfl rfl)
theorem dX1_keep_13 : decode cX1_keep 13 = .ok (.iaload, 1) := dk_46 (dk_at dksX1_keep_0 13 rfl rfl)
theorem dX1_keep_14 : decode cX1_keep 14 = .ok (.iconst (-1), 1) := dk_2 (dk_at dksX1_keep_0 14 rfl rfl)
theorem dX1_keep_15 : decode cX1_keep 15 = .ok (.if_icmp .ne 5, 3) := dk_160 0 5 (dk_at dksX1_keep_0 15 rfl rfl)
theorem dX1_keep_18 : decode cX1_keep 18 = .ok (.iconst (-1), 1) := dk_2 (dk_at dksX1_keep_0 18 rfl rfl)
theorem dX1_keep_19 : decode cX1_keep 19 = .ok (.ireturn, 1) := dk_172 (dk_at dksX1_keep_0 19 rfl rfl)
theorem dX1_keep_20 : decode cX1_keep 20 = .ok (.aload_n 0, 1) := dk_42 (dk_at dksX1_keep_0 20 rfl rfl)
theorem dX1_keep_21 : decode cX1_keep 21 = .ok (.getfield 35, 3) := dk_180 0 35 (dk_at dksX1_keep_0 21 rfl rfl)
theorem dX1_keep_24 : decode cX1_keep 24 = .ok (.aload_n 0, 1) := dk_42 (dk_at dksX1_keep_1 0 rfl rfl)
theorem dX1_keep_25 : decode cX1_keep 25 = .ok (.getfield 38, 3) := dk_180 0 38 (dk_at dksX1_keep_1 1 rfl rfl)
theorem dX1_keep_28 : decode cX1_keep 28 = .ok (.invokevirtual 213, 3) := dk_182 0 213 (dk_at dksX1_keep_1 4 rfl rfl)
theorem dX1_keep_31 : decode cX1_keep 31 = .ok (.pop, 1) := dk_87 (dk_at dksX1_keep_1 7 rfl rfl)
theorem dX1_keep_32 : decode cX1_keep 32 = .ok (.iconst 0, 1) := dk_3 (dk_at dksX1_keep_1 8 rfl rfl)
theorem dX1_keep_33 : decode cX1_keep 33 = .ok (.istore_n 2, 1) := dk_61 (dk_at dksX1_keep_1 9 rfl rfl)
theorem dX1_keep_34 : decode cX1_keep 34 = .ok (.iload_n 2, 1) := dk_28 (dk_at dksX1_keep_1 10 rfl rfl)
theorem dX1_keep_35 : decode cX1_keep 35 = .ok (.bipush 9, 2) := dk_16 9 (dk_at dksX1_keep_1 11 rfl rfl)
theorem dX1_keep_37 : decode cX1_keep 37 = .ok (.if_icmp .gt 32, 3) := dk_163 0 32 (dk_at dksX1_keep_1 13 rfl rfl)
theorem dX1_keep_40 : decode cX1_keep 40 = .ok (.aload_n 0, 1) := dk_42 (dk_at dksX1_keep_1 16 rfl rfl)
theorem dX1_keep_41 : decode cX1_keep 41 = .ok (.getfield 35, 3) := dk_180 0 35 (dk_at dksX1_keep_1 17 rfl rfl)
theorem dX1_keep_44 : decode cX1_keep 44 = .ok (.getfield 149, 3) := dk_180 0 149 (dk_at dksX1_keep_1 20 rfl rfl)
theorem dX1_keep_47 : decode cX1_keep 47 = .ok (.iload_n 1, 1) := dk_27 (dk_at dksX1_keep_1 23 rfl rfl)
theorem dX1_keep_48 : decode cX1_keep 48 = .ok (.iload_n 2, 1) := dk_28 (dk_at dksX1_keep_2 0 rfl rfl)
theorem dX1_keep_49 : decode cX1_keep 49 = .ok (.iastore, 1) := dk_79 (dk_at dksX1_keep_2 1 rfl rfl)
theorem dX1_keep_50 : decode cX1_keep 50 = .ok (.aload_n 0, 1) := dk_42 (dk_at dksX1_keep_2 2 rfl rfl)
theorem dX1_keep_51 : decode cX1_keep 51 = .ok (.getfield 35, 3) := dk_180 0 35 (dk_at dksX1_keep_2 3 rfl rfl)
theorem dX1_keep_54 : decode cX1_keep 54 = .ok (.iload_n 1, 1) := dk_27 (dk_at dksX1_keep_2 6 rfl rfl)
theorem dX1_keep_55 : decode cX1_keep 55 = .ok (.invokevirtual 160, 3) := dk_182 0 160 (dk_at dksX1_keep_2 7 rfl rfl)
theorem dX1_keep_58 : decode cX1_keep 58 = .ok (.ifCond .lt 5, 3) := dk_155 0 5 (dk_at dksX1_keep_2 10 rfl rfl)
theorem dX1_keep_61 : decode cX1_keep 61 = .ok (.iload_n 2, 1) := dk_28 (dk_at dksX1_keep_2 13 rfl rfl)
theorem dX1_keep_62 : decode cX1_keep 62 = .ok (.ireturn, 1) := dk_172 (dk_at dksX1_keep_2 14 rfl rfl)
theorem dX1_keep_63 : decode cX1_keep 63 = .ok (.iinc 2 1, 3) := dk_132 2 1 (dk_at dksX1_keep_2 15 rfl rfl)
theorem dX1_keep_66 : decode cX1_keep 66 = .ok (.goto (-32), 3) := dk_167 255 224 (dk_at dksX1_keep_2 18 rfl rfl)
theorem dX1_keep_69 : decode cX1_keep 69 = .ok (.iconst (-1), 1) := dk_2 (dk_at dksX1_keep_2 21 rfl rfl)
theorem dX1_keep_70 : decode cX1_keep 70 = .ok (.ireturn, 1) := dk_172 (dk_at dksX1_keep_2 22 rfl rfl)
abbrev mX1_keep : xM := (yX1_keep, cX1_keep, 3, (some .int), [])
def c_X1_keep_34_b (G : xG) (k34 : Option Nat → Int32 → Int32 → xF → Option ((Int32 ⊕ xE) × xF)) (x0 : Option Nat) (x1 : Int32) (x2 : Int32) (T : xF) : Option ((Int32 ⊕ xE) × xF) :=
  if (9 : Int32) < x2 then
    some (.inl (-1 : Int32), T)
  else
    (oQ T x0 0 3).bind fun v41 =>
    (oQ T v41 2 0).bind fun v44 =>
    (stA T v44 .int x1 x2).bind fun T49 =>
    (oQ T49 x0 0 3).bind fun v51 =>
    if ¬ isO T49 v51 2 = true then none else
    cl (c_X3_grows G v51 x1 T49) T49 fun v55 T55 =>
    if v55 < 0 then
      k34 x0 x1 (x2 + 1) T55
    else
      some (.inl x2, T55)
def c_X1_keep_34 (G : xG) : Nat → Option Nat → Int32 → Int32 → xF → Option ((Int32 ⊕ xE) × xF)
  | 0 => fun _ _ _ _ => none
  | n + 1 => fun x0 x1 x2 T => c_X1_keep_34_b G (c_X1_keep_34 G n) x0 x1 x2 T
theorem c_X1_keep_34_bok {G : xG}  {T0 : xF}  {k34 : Option Nat → Int32 → Int32 → xF → Option ((Int32 ⊕ xE) × xF)}  (hk34 : ∀ (x0 : Option Nat) (x1 : Int32) (x2 : Int32) (T : xF) (q : ((Int32 ⊕ xE) × xF)), k34 x0 x1 x2 T = some q → Xr G (mX1_keep, xrm (122) T0 q.2, T0, xoI q.1, q.2) 34 [(0, va_rf x0), (1, .int x1), (2, .int x2)] [] T) (x0 : Option Nat) (x1 : Int32) (x2 : Int32) (T : xF) (q : ((Int32 ⊕ xE) × xF)) (hf : c_X1_keep_34_b G k34 x0 x1 x2 T = some q) : Xr G (mX1_keep, xrm (122) T0 q.2, T0, xoI q.1, q.2) 34 [(0, va_rf x0), (1, .int x1), (2, .int x2)] [] T := by
  unfold c_X1_keep_34_b at hf
  refine X.iload_n dX1_keep_34 rfl 2 rfl ?_
  refine X.bipush (v := 9) dX1_keep_35 (by decide) ?_
  refine X.icmp_gt (tgt := 69) dX1_keep_37 (by decide) (fun c37 => ?_) (fun c37 => ?_)
  · have hf := if_t c37 hf
    refine X.iconst (v := -1) dX1_keep_69 (by decide) ?_
    obtain rfl := Option.some.inj hf
    exact X.iret dX1_keep_70 rfl rfl rfl
  · have hf := if_f c37 hf
    refine C.aload_n dX1_keep_40 rfl 0 rfl ?_
    obtain ⟨v41, h41, hf⟩ := ob hf
    refine C.getQ dX1_keep_41 rX1_35 h41 ?_
    obtain ⟨v44, h44, hf⟩ := ob hf
    refine C.getQ dX1_keep_44 rX1_149 h44 ?_
    refine X.iload_n dX1_keep_47 rfl 1 rfl ?_
    refine X.iload_n dX1_keep_48 rfl 2 rfl ?_
    obtain ⟨T49, h49, hf⟩ := ob hf
    refine C.iast dX1_keep_49 h49 ?_
    refine C.aload_n dX1_keep_50 rfl 0 rfl ?_
    obtain ⟨v51, h51, hf⟩ := ob hf
    refine C.getQ dX1_keep_51 rX1_35 h51 ?_
    refine X.iload_n dX1_keep_54 rfl 1 rfl ?_
    obtain ⟨c55, hf⟩ := if_n hf
    obtain ⟨v55, T55, h55, hf, l55, r55⟩ := cl_ok hf
    refine C.Vi (As := [.int x1]) (rest := []) dX1_keep_55 (w_X3_grows h55) cX1_160 (Classical.not_not.mp c55) rfl rfl (xcs xvN (Nat.le_of_ble_eq_true rfl)) rfl rfl (xD (Nat.le_of_ble_eq_true rfl)) l55 r55 ?_
    refine X.if_lt (tgt := 63) dX1_keep_58 (by decide) (fun c58 => ?_) (fun c58 => ?_)
    · have hf := if_t c58 hf
      refine C.iinc (v := (x2 + 1)) (L' := [(2, .int (x2 + 1)), (0, va_rf x0), (1, .int x1)]) dX1_keep_63 2 rfl rfl (Nat.le_of_ble_eq_true rfl) (xcQ (xcI (xcI xcN))) rfl ?_
      refine X.goto (tgt := 34) dX1_keep_66 (by decide) ?_
      refine X.sub [1, 2, 0] (L' := [(0, va_rf x0), (1, .int x1), (2, .int (x2 + 1))]) rfl ?_
      exact hk34 _ _ _ _ _ hf
    · have hf := if_f c58 hf
      refine X.iload_n dX1_keep_61 rfl 2 rfl ?_
      obtain rfl := Option.some.inj hf
      exact X.iret dX1_keep_62 rfl rfl rfl
theorem c_X1_keep_34_ok {G : xG}  {T0 : xF}   : ∀ (n : Nat) (x0 : Option Nat) (x1 : Int32) (x2 : Int32) (T : xF) (q : ((Int32 ⊕ xE) × xF)), c_X1_keep_34 G n x0 x1 x2 T = some q → Xr G (mX1_keep, xrm (122) T0 q.2, T0, xoI q.1, q.2) 34 [(0, va_rf x0), (1, .int x1), (2, .int x2)] [] T
  | 0, _, _, _, _, _, hf => by cases hf
  | n + 1, x0, x1, x2, T, q, hf => c_X1_keep_34_bok (c_X1_keep_34_ok n) x0 x1 x2 T q hf
def c_X1_keep (G : xG) (x0 : Option Nat) (x1 : Int32) (T : xF) : Option ((Int32 ⊕ xE) × xF) :=
  if ¬ isO T x0 0 = true then none else
  clX (c_X1_aCell x0 x1 T) T fun v2 T2 =>
  (oQ T2 x0 0 4).bind fun v6 =>
  (oQ T2 v6 2 2).bind fun v9 =>
  (ldA T2 v9 .int x1).bind fun v13 =>
  if v13 = (-1 : Int32) then
    some (.inl (-1 : Int32), T2)
  else
    (oQ T2 x0 0 3).bind fun v21 =>
    (oQ T2 x0 0 4).bind fun v25 =>
    if ¬ isO T2 v21 2 = true then none else
    cl (c_X3_be v21 v25 T2) T2 fun v28 T28 =>
    c_X1_keep_34 G FU x0 x1 (0 : Int32) T28
theorem w_X1_keep {G : xG}  {T : xF} {x0 : Option Nat} {x1 : Int32} {q : ((Int32 ⊕ xE) × xF)} (hf : c_X1_keep G x0 x1 T = some q) : Ct G mX1_keep (122) T [va_rf x0, .int x1] (xoI q.1) q.2 := by
  refine Ct.ofc (plainFor_of_name (by decide +kernel)) rfl (xvQ (xvI xvN)) (Nat.le_of_ble_eq_true rfl) (show Xr G _ 0 [(0, va_rf x0), (1, .int x1)] [] _ from ?_)
  unfold c_X1_keep at hf
  refine C.aload_n dX1_keep_0 rfl 0 rfl ?_
  refine X.iload_n dX1_keep_1 rfl 1 rfl ?_
  obtain ⟨c2, hf⟩ := if_n hf
  rcases clX_ok hf with ⟨v2, T2, h2, hf, l2, r2⟩ | ⟨e2, T2, h2, rfl, l2⟩
  rotate_left
  · exact C.Vx (As := [.int x1]) (rest := []) dX1_keep_2 (w_X1_aCell h2) cX1_145 (Classical.not_not.mp c2) rfl rfl (xcs xvN (Nat.le_of_ble_eq_true rfl)) rfl rfl (xD (Nat.le_of_ble_eq_true rfl)) l2 xle.rf (xnoh rfl) rfl
  refine C.Vv (As := [.int x1]) (rest := []) dX1_keep_2 (w_X1_aCell h2) cX1_145 (Classical.not_not.mp c2) rfl rfl (xcs xvN (Nat.le_of_ble_eq_true rfl)) rfl rfl (xD (Nat.le_of_ble_eq_true rfl)) l2 r2 ?_
  refine C.aload_n dX1_keep_5 rfl 0 rfl ?_
  obtain ⟨v6, h6, hf⟩ := ob hf
  refine C.getQ dX1_keep_6 rX1_38 h6 ?_
  obtain ⟨v9, h9, hf⟩ := ob hf
  refine C.getQ dX1_keep_9 rX1_96 h9 ?_
  refine X.iload_n dX1_keep_12 rfl 1 rfl ?_
  obtain ⟨v13, h13, hf⟩ := ob hf
  refine C.iald dX1_keep_13 h13 ?_
  refine X.iconst (v := -1) dX1_keep_14 (by decide) ?_
  refine X.icmp_ne (tgt := 20) dX1_keep_15 (by decide) (fun c15 => ?_) (fun c15 => ?_)
  · have hf := if_f c15 hf
    refine C.aload_n dX1_keep_20 rfl 0 rfl ?_
    obtain ⟨v21, h21, hf⟩ := ob hf
    refine C.getQ dX1_keep_21 rX1_35 h21 ?_
    refine C.aload_n dX1_keep_24 rfl 0 rfl ?_
    obtain ⟨v25, h25, hf⟩ := ob hf
    refine C.getQ dX1_keep_25 rX1_38 h25 ?_
    obtain ⟨c28, hf⟩ := if_n hf
    obtain ⟨v28, T28, h28, hf, l28, r28⟩ := cl_ok hf
    refine C.Vq (As := [va_rf v25]) (rest := []) dX1_keep_28 (w_X3_be h28) cX1_213 (Classical.not_not.mp c28) rfl rfl (xcs xvN (Nat.le_of_ble_eq_true rfl)) rfl rfl (xD (Nat.le_of_ble_eq_true rfl)) l28 r28 ?_
    refine X.pop dX1_keep_31 (cat1 _) ?_
    refine X.iconst (v := 0) dX1_keep_32 (by decide) ?_
    refine C.ist_n (L' := [(2, .int (0 : Int32)), (0, va_rf x0), (1, .int x1)]) dX1_keep_33 rfl (Nat.le_of_ble_eq_true rfl) (xcQ (xcI xcN)) rfl ?_
    refine X.sub [1, 2, 0] (L' := [(0, va_rf x0), (1, .int x1), (2, .int (0 : Int32))]) rfl ?_
    exact c_X1_keep_34_ok FU _ _ _ _ _ hf
  · have hf := if_t c15 hf
    refine X.iconst (v := -1) dX1_keep_18 (by decide) ?_
    obtain rfl := Option.some.inj hf
    exact X.iret dX1_keep_19 rfl rfl rfl
/-! MouldVotes isOf -/
abbrev cX1_isOf : ByteArray := prog_1_method_4_code
def yX1_isOf : MethodName := ⟨RX1, "isOf", "(II)Z"⟩
def dkwX1_isOf_0 : List UInt8 := [26, 27, 122, 4, 126, 4, 160, 0, 7, 4, 167, 0, 4, 3, 172]
abbrev dktX1_isOf_0 : List UInt8 := dkwX1_isOf_0 ++ []
theorem dksX1_isOf_0 : cX1_isOf.data.toList.drop 0 = dktX1_isOf_0 := by decide +kernel
theorem dX1_isOf_0 : decode cX1_isOf 0 = .ok (.iload_n 0, 1) := dk_26 (dk_at dksX1_isOf_0 0 rfl rfl)
theorem dX1_isOf_1 : decode cX1_isOf 1 = .ok (.iload_n 1, 1) := dk_27 (dk_at dksX1_isOf_0 1 rfl rfl)
theorem dX1_isOf_2 : decode cX1_isOf 2 = .ok (.ishr, 1) := dk_122 (dk_at dksX1_isOf_0 2 rfl rfl)
theorem dX1_isOf_3 : decode cX1_isOf 3 = .ok (.iconst 1, 1) := dk_4 (dk_at dksX1_isOf_0 3 rfl rfl)
theorem dX1_isOf_4 : decode cX1_isOf 4 = .ok (.iand, 1) := dk_126 (dk_at dksX1_isOf_0 4 rfl rfl)
theorem dX1_isOf_5 : decode cX1_isOf 5 = .ok (.iconst 1, 1) := dk_4 (dk_at dksX1_isOf_0 5 rfl rfl)
theorem dX1_isOf_6 : decode cX1_isOf 6 = .ok (.if_icmp .ne 7, 3) := dk_160 0 7 (dk_at dksX1_isOf_0 6 rfl rfl)
theorem dX1_isOf_9 : decode cX1_isOf 9 = .ok (.iconst 1, 1) := dk_4 (dk_at dksX1_isOf_0 9 rfl rfl)
theorem dX1_isOf_10 : decode cX1_isOf 10 = .ok (.goto 4, 3) := dk_167 0 4 (dk_at dksX1_isOf_0 10 rfl rfl)
theorem dX1_isOf_13 : decode cX1_isOf 13 = .ok (.iconst 0, 1) := dk_3 (dk_at dksX1_isOf_0 13 rfl rfl)
theorem dX1_isOf_14 : decode cX1_isOf 14 = .ok (.ireturn, 1) := dk_172 (dk_at dksX1_isOf_0 14 rfl rfl)
abbrev mX1_isOf : xM := (yX1_isOf, cX1_isOf, 2, (some .boolean), [])
def c_X1_isOf (x0 : Int32) (x1 : Int32) : Option Int32 :=
  if ((x0 >>> (x1 &&& 31)) &&& (1 : Int32)) = (1 : Int32) then
    some (1 : Int32)
  else
    some (0 : Int32)
theorem w_X1_isOf {G : xG}  {T : xF} {x0 : Int32} {x1 : Int32} {q : Int32} (hf : c_X1_isOf x0 x1 = some q) : Ct G mX1_isOf (1) T [.int x0, .int x1] (.inl (some (.int q))) T := by
  refine Ct.ofc (plainFor_of_name (by decide +kernel)) rfl (xvI (xvI xvN)) (Nat.le_of_ble_eq_true rfl) (show Xr G _ 0 [(0, .int x0), (1, .int x1)] [] _ from ?_)
  unfold c_X1_isOf at hf
  refine X.iload_n dX1_isOf_0 rfl 0 rfl ?_
  refine X.iload_n dX1_isOf_1 rfl 1 rfl ?_
  refine X.ishr dX1_isOf_2 ?_
  refine X.iconst (v := 1) dX1_isOf_3 (by decide) ?_
  refine X.iand dX1_isOf_4 ?_
  refine X.iconst (v := 1) dX1_isOf_5 (by decide) ?_
  refine X.icmp_ne (tgt := 13) dX1_isOf_6 (by decide) (fun c6 => ?_) (fun c6 => ?_)
  · have hf := if_f c6 hf
    refine X.iconst (v := 0) dX1_isOf_13 (by decide) ?_
    obtain rfl := Option.some.inj hf
    exact X.iret dX1_isOf_14 rfl rfl rfl
  · have hf := if_t c6 hf
    refine X.iconst (v := 1) dX1_isOf_9 (by decide) ?_
    refine X.goto (tgt := 14) dX1_isOf_10 (by decide) ?_
    obtain rfl := Option.some.inj hf
    exact X.iret dX1_isOf_14 rfl rfl rfl
theorem cX1_241 : xCS RX1 241 mX1_isOf 2 := ⟨lw_S q654 q655 q121 q656, rfl, ⟨by decide +kernel, by decide +kernel, by decide +kernel⟩, Nat.le_of_ble_eq_true rfl⟩
theorem cX3_146 : xCSN RX3 146 mX1_isOf 2 := ⟨⟨lw_meth q656, ⟨_, q678⟩, q121, q655⟩, rfl, ⟨by decide +kernel, by decide +kernel, by decide +kernel⟩, Nat.le_of_ble_eq_true rfl⟩
theorem cX5_219 : xCSN RX5 219 mX1_isOf 2 := ⟨⟨lw_meth q656, ⟨_, q1036⟩, q121, q655⟩, rfl, ⟨by decide +kernel, by decide +kernel, by decide +kernel⟩, Nat.le_of_ble_eq_true rfl⟩
/-! MouldVotes spread -/
abbrev cX1_spread : ByteArray := prog_1_method_60_code
def yX1_spread : MethodName := ⟨RX1, "spread", "(II)I"⟩
def dkwX1_spread_3 : List UInt8 := [182, 1, 31, 62, 132, 4, 1, 167, 255, 188, 29, 172]
abbrev dktX1_spread_3 : List UInt8 := dkwX1_spread_3 ++ []
def dkwX1_spread_2 : List UInt8 := [180, 0, 96, 21, 4, 46, 42, 180, 0, 38, 180, 0, 96, 27, 46, 160, 0, 11, 42, 21, 4, 29]
abbrev dktX1_spread_2 : List UInt8 := dkwX1_spread_2 ++ dktX1_spread_3
def dkwX1_spread_1 : List UInt8 := [184, 0, 241, 154, 0, 47, 42, 180, 0, 22, 21, 4, 27, 182, 0, 141, 4, 160, 0, 33, 42, 180, 0, 38]
abbrev dktX1_spread_1 : List UInt8 := dkwX1_spread_1 ++ dktX1_spread_2
def dkwX1_spread_0 : List UInt8 := [28, 4, 27, 120, 128, 62, 3, 54, 4, 21, 4, 42, 180, 0, 22, 182, 0, 92, 162, 0, 62, 29, 21, 4]
abbrev dktX1_spread_0 : List UInt8 := dkwX1_spread_0 ++ dktX1_spread_1
theorem dksX1_spread_0 : cX1_spread.data.toList.drop 0 = dktX1_spread_0 := by decide +kernel
theorem dksX1_spread_1 : cX1_spread.data.toList.drop 24 = dktX1_spread_1 := dk_seg dksX1_spread_0 24 rfl rfl
theorem dksX1_spread_2 : cX1_spread.data.toList.drop 48 = dktX1_spread_2 := dk_seg dksX1_spread_1 24 rfl rfl
theorem dksX1_spread_3 : cX1_spread.data.toList.drop 70 = dktX1_spread_3 := dk_seg dksX1_spread_2 22 rfl rfl
theorem dX1_spread_0 : decode cX1_spread 0 = .ok (.iload_n 2, 1) := dk_28 (dk_at dksX1_spread_0 0 rfl rfl)
theorem dX1_spread_1 : decode cX1_spread 1 = .ok (.iconst 1, 1) := dk_4 (dk_at dksX1_spread_0 1 rfl rfl)
theorem dX1_spread_2 : decode cX1_spread 2 = .ok (.iload_n 1, 1) := dk_27 (dk_at dksX1_spread_0 2 rfl rfl)
theorem dX1_spread_3 : decode cX1_spread 3 = .ok (.ishl, 1) := dk_120 (dk_at dksX1_spread_0 3 rfl rfl)
theorem dX1_spread_4 : decode cX1_spread 4 = .ok (.ior, 1) := dk_128 (dk_at dksX1_spread_0 4 rfl rfl)
theorem dX1_spread_5 : decode cX1_spread 5 = .ok (.istore_n 3, 1) := dk_62 (dk_at dksX1_spread_0 5 rfl rfl)
theorem dX1_spread_6 : decode cX1_spread 6 = .ok (.iconst 0, 1) := dk_3 (dk_at dksX1_spread_0 6 rfl rfl)
theorem dX1_spread_7 : decode cX1_spread 7 = .ok (.istore 4, 2) := dk_54 4 (dk_at dksX1_spread_0 7 rfl rfl)
theorem dX1_spread_9 : decode cX1_spread 9 = .ok (.iload 4, 2) := dk_21 4 (dk_at dksX1_spread_0 9 rfl rfl)
theorem dX1_spread_11 : decode cX1_spread 11 = .ok (.aload_n 0, 1) := dk_42 (dk_at dksX1_spread_0 11 rfl rfl)
theorem dX1_spread_12 : decode cX1_spread 12 = .ok (.getfield 22, 3) := dk_180 0 22 (dk_at dksX1_spread_0 12 rfl rfl)
theorem dX1_spread_15 : decode cX1_spread 15 = .ok (.invokevirtual 92, 3) := dk_182 0 92 (dk_at dksX1_spread_0 15 rfl rfl)
theorem dX1_spread_18 : decode cX1_spread 18 = .ok (.if_icmp .ge 62, 3) := dk_162 0 62 (dk_at dksX1_spread_0 18 rfl rfl)
theorem dX1_spread_21 : decode cX1_spread 21 = .ok (.iload_n 3, 1) := dk_29 (dk_at dksX1_spread_0 21 rfl rfl)
theorem dX1_spread_22 : decode cX1_spread 22 = .ok (.iload 4, 2) := dk_21 4 (dk_at dksX1_spread_0 22 rfl rfl)
theorem dX1_spread_24 : decode cX1_spread 24 = .ok (.invokestatic 241, 3) := dk_184 0 241 (dk_at dksX1_spread_1 0 rfl rfl)
theorem dX1_spread_27 : decode cX1_spread 27 = .ok (.ifCond .ne 47, 3) := dk_154 0 47 (dk_at dksX1_spread_1 3 rfl rfl)
theorem dX1_spread_30 : decode cX1_spread 30 = .ok (.aload_n 0, 1) := dk_42 (dk_at dksX1_spread_1 6 rfl rfl)
theorem dX1_spread_31 : decode cX1_spread 31 = .ok (.getfield 22, 3) := dk_180 0 22 (dk_at dksX1_spread_1 7 rfl rfl)
theorem dX1_spread_34 : decode cX1_spread 34 = .ok (.iload 4, 2) := dk_21 4 (dk_at dksX1_spread_1 10 rfl rfl)
theorem dX1_spread_36 : decode cX1_spread 36 = .ok (.iload_n 1, 1) := dk_27 (dk_at dksX1_spread_1 12 rfl rfl)
theorem dX1_spread_37 : decode cX1_spread 37 = .ok (.invokevirtual 141, 3) := dk_182 0 141 (dk_at dksX1_spread_1 13 rfl rfl)
theorem dX1_spread_40 : decode cX1_spread 40 = .ok (.iconst 1, 1) := dk_4 (dk_at dksX1_spread_1 16 rfl rfl)
theorem dX1_spread_41 : decode cX1_spread 41 = .ok (.if_icmp .ne 33, 3) := dk_160 0 33 (dk_at dksX1_spread_1 17 rfl rfl)
theorem dX1_spread_44 : decode cX1_spread 44 = .ok (.aload_n 0, 1) := dk_42 (dk_at dksX1_spread_1 20 rfl rfl)
theorem dX1_spread_45 : decode cX1_spread 45 = .ok (.getfield 38, 3) := dk_180 0 38 (dk_at dksX1_spread_1 21 rfl rfl)
theorem dX1_spread_48 : decode cX1_spread 48 = .ok (.getfield 96, 3) := dk_180 0 96 (dk_at dksX1_spread_2 0 rfl rfl)
theorem dX1_spread_51 : decode cX1_spread 51 = .ok (.iload 4, 2) := dk_21 4 (dk_at dksX1_spread_2 3 rfl rfl)
theorem dX1_spread_53 : decode cX1_spread 53 = .ok (.iaload, 1) := dk_46 (dk_at dksX1_spread_2 5 rfl rfl)
theorem dX1_spread_54 : decode cX1_spread 54 = .ok (.aload_n 0, 1) := dk_42 (dk_at dksX1_spread_2 6 rfl rfl)
theorem dX1_spread_55 : decode cX1_spread 55 = .ok (.getfield 38, 3) := dk_180 0 38 (dk_at dksX1_spread_2 7 rfl rfl)
theorem dX1_spread_58 : decode cX1_spread 58 = .ok (.getfield 96, 3) := dk_180 0 96 (dk_at dksX1_spread_2 10 rfl rfl)
theorem dX1_spread_61 : decode cX1_spread 61 = .ok (.iload_n 1, 1) := dk_27 (dk_at dksX1_spread_2 13 rfl rfl)
theorem dX1_spread_62 : decode cX1_spread 62 = .ok (.iaload, 1) := dk_46 (dk_at dksX1_spread_2 14 rfl rfl)
theorem dX1_spread_63 : decode cX1_spread 63 = .ok (.if_icmp .ne 11, 3) := dk_160 0 11 (dk_at dksX1_spread_2 15 rfl rfl)
theorem dX1_spread_66 : decode cX1_spread 66 = .ok (.aload_n 0, 1) := dk_42 (dk_at dksX1_spread_2 18 rfl rfl)
theorem dX1_spread_67 : decode cX1_spread 67 = .ok (.iload 4, 2) := dk_21 4 (dk_at dksX1_spread_2 19 rfl rfl)
theorem dX1_spread_69 : decode cX1_spread 69 = .ok (.iload_n 3, 1) := dk_29 (dk_at dksX1_spread_2 21 rfl rfl)
theorem dX1_spread_70 : decode cX1_spread 70 = .ok (.invokevirtual 287, 3) := dk_182 1 31 (dk_at dksX1_spread_3 0 rfl rfl)
theorem dX1_spread_73 : decode cX1_spread 73 = .ok (.istore_n 3, 1) := dk_62 (dk_at dksX1_spread_3 3 rfl rfl)
theorem dX1_spread_74 : decode cX1_spread 74 = .ok (.iinc 4 1, 3) := dk_132 4 1 (dk_at dksX1_spread_3 4 rfl rfl)
theorem dX1_spread_77 : decode cX1_spread 77 = .ok (.goto (-68), 3) := dk_167 255 188 (dk_at dksX1_spread_3 7 rfl rfl)
theorem dX1_spread_80 : decode cX1_spread 80 = .ok (.iload_n 3, 1) := dk_29 (dk_at dksX1_spread_3 10 rfl rfl)
theorem dX1_spread_81 : decode cX1_spread 81 = .ok (.ireturn, 1) := dk_172 (dk_at dksX1_spread_3 11 rfl rfl)
abbrev mX1_spread : xM := (yX1_spread, cX1_spread, 5, (some .int), [])
theorem cX1_287 : xCV RX1 287 mX1_spread 2 := ⟨lw_V q1528 q1530 qs51 q121 q1531, rfl, ⟨by decide +kernel, by decide +kernel, by decide +kernel⟩, Nat.le_of_ble_eq_true rfl⟩
def c_X1_spread_74 (kS : Option Nat → Int32 → Int32 → Option Int32) (T : xF) (k9 : Option Nat → Int32 → Int32 → Int32 → Option Int32) (x0 : Option Nat) (x1 : Int32) (x3 : Int32) (x4 : Int32) : Option Int32 :=
  k9 x0 x1 x3 (x4 + 1)
theorem c_X1_spread_74_ok {G : xG} {De : Nat} {kS : Option Nat → Int32 → Int32 → Option Int32} {T : xF} (hDS : 20 ≤ De) (hkS : ∀ (r : Option Nat) (x y : Int32) (q : Int32), kS r x y = some q → Ct G mX1_spread De T [va_rf r, .int x, .int y] (.inl (some (.int q))) T) {k9 : Option Nat → Int32 → Int32 → Int32 → Option Int32} (hk9 : ∀ (x0 : Option Nat) (x1 : Int32) (x3 : Int32) (x4 : Int32) (q : Int32), k9 x0 x1 x3 x4 = some q → Xr G (mX1_spread, xrm (De + 1) T T, T, .inl (some (.int q)), T) 9 [(0, va_rf x0), (1, .int x1), (3, .int x3), (4, .int x4)] [] T) (x0 : Option Nat) (x1 : Int32) (x3 : Int32) (x4 : Int32) (q : Int32) (hf : c_X1_spread_74 kS T k9 x0 x1 x3 x4 = some q) : Xr G (mX1_spread, xrm (De + 1) T T, T, .inl (some (.int q)), T) 74 [(0, va_rf x0), (1, .int x1), (3, .int x3), (4, .int x4)] [] T := by
  unfold c_X1_spread_74 at hf
  refine C.iinc (v := (x4 + 1)) (L' := [(4, .int (x4 + 1)), (0, va_rf x0), (1, .int x1), (3, .int x3)]) dX1_spread_74 3 rfl rfl (Nat.le_of_ble_eq_true rfl) (xcQ (xcI (xcI (xcI xcN)))) rfl ?_
  refine X.goto (tgt := 9) dX1_spread_77 (by decide) ?_
  refine X.sub [1, 2, 3, 0] (L' := [(0, va_rf x0), (1, .int x1), (3, .int x3), (4, .int (x4 + 1))]) rfl ?_
  exact hk9 _ _ _ _ _ hf
def c_X1_spread_9_b (kS : Option Nat → Int32 → Int32 → Option Int32) (T : xF) (k9 : Option Nat → Int32 → Int32 → Int32 → Option Int32) (x0 : Option Nat) (x1 : Int32) (x3 : Int32) (x4 : Int32) : Option Int32 :=
  (oQ T x0 0 1).bind fun v12 =>
  if ¬ isO T v12 1 = true then none else
  (c_X2_cells T v12).bind fun v15 =>
  if v15 ≤ x4 then
    some x3
  else
    (c_X1_isOf x3 x4).bind fun v24 =>
    if v24 = 0 then
      (oQ T x0 0 1).bind fun v31 =>
      if ¬ isO T v31 1 = true then none else
      (c_X2_steps T v31 x4 x1).bind fun v37 =>
      if v37 = (1 : Int32) then
        (oQ T x0 0 4).bind fun v45 =>
        (oQ T v45 2 2).bind fun v48 =>
        (ldA T v48 .int x4).bind fun v53 =>
        (oQ T x0 0 4).bind fun v55 =>
        (oQ T v55 2 2).bind fun v58 =>
        (ldA T v58 .int x1).bind fun v62 =>
        if v53 = v62 then
          if ¬ isO T x0 0 = true then none else
          (kS x0 x4 x3).bind fun v70 =>
          c_X1_spread_74 kS T k9 x0 x1 v70 x4
        else
          c_X1_spread_74 kS T k9 x0 x1 x3 x4
      else
        c_X1_spread_74 kS T k9 x0 x1 x3 x4
    else
      c_X1_spread_74 kS T k9 x0 x1 x3 x4
def c_X1_spread_9 (kS : Option Nat → Int32 → Int32 → Option Int32) (T : xF) : Nat → Option Nat → Int32 → Int32 → Int32 → Option Int32
  | 0 => fun _ _ _ _ => none
  | n + 1 => fun x0 x1 x3 x4 => c_X1_spread_9_b kS T (c_X1_spread_9 kS T n) x0 x1 x3 x4
theorem c_X1_spread_9_bok {G : xG} {De : Nat} {kS : Option Nat → Int32 → Int32 → Option Int32} {T : xF} (hDS : 20 ≤ De) (hkS : ∀ (r : Option Nat) (x y : Int32) (q : Int32), kS r x y = some q → Ct G mX1_spread De T [va_rf r, .int x, .int y] (.inl (some (.int q))) T)  {k9 : Option Nat → Int32 → Int32 → Int32 → Option Int32}  (hk9 : ∀ (x0 : Option Nat) (x1 : Int32) (x3 : Int32) (x4 : Int32) (q : Int32), k9 x0 x1 x3 x4 = some q → Xr G (mX1_spread, xrm (De + 1) T T, T, .inl (some (.int q)), T) 9 [(0, va_rf x0), (1, .int x1), (3, .int x3), (4, .int x4)] [] T) (x0 : Option Nat) (x1 : Int32) (x3 : Int32) (x4 : Int32) (q : Int32) (hf : c_X1_spread_9_b kS T k9 x0 x1 x3 x4 = some q) : Xr G (mX1_spread, xrm (De + 1) T T, T, .inl (some (.int q)), T) 9 [(0, va_rf x0), (1, .int x1), (3, .int x3), (4, .int x4)] [] T := by
  unfold c_X1_spread_9_b at hf
  refine X.iload dX1_spread_9 3 rfl ?_
  refine C.aload_n dX1_spread_11 rfl 0 rfl ?_
  obtain ⟨v12, h12, hf⟩ := ob hf
  refine C.getQ dX1_spread_12 rX1_22 h12 ?_
  obtain ⟨c15, hf⟩ := if_n hf
  obtain ⟨v15, h15, hf⟩ := ob hf
  refine X.keep fun l15 => C.Vi (As := []) (rest := [.int x4]) dX1_spread_15 (w_X2_cells h15) cX1_92 (Classical.not_not.mp c15) rfl rfl (xcs (xvI xvN) (Nat.le_of_ble_eq_true rfl)) rfl rfl (xD (by omega)) xle.rf l15 ?_
  refine X.icmp_ge (tgt := 80) dX1_spread_18 (by decide) (fun c18 => ?_) (fun c18 => ?_)
  · have hf := if_t c18 hf
    refine X.iload_n dX1_spread_80 rfl 2 rfl ?_
    obtain rfl := Option.some.inj hf
    exact X.iret dX1_spread_81 rfl rfl rfl
  · have hf := if_f c18 hf
    refine X.iload_n dX1_spread_21 rfl 2 rfl ?_
    refine X.iload dX1_spread_22 3 rfl ?_
    obtain ⟨v24, h24, hf⟩ := ob hf
    refine X.keep fun l24 => C.Si (As := [.int x3, .int x4]) (rest := []) dX1_spread_24 (w_X1_isOf h24) cX1_241 rfl rfl (xcs xvN (Nat.le_of_ble_eq_true rfl)) (xD (by omega)) xle.rf l24 ?_
    refine X.if_ne (tgt := 74) dX1_spread_27 (by decide) (fun c27 => ?_) (fun c27 => ?_)
    · have hf := if_f c27 hf
      refine X.sub [0, 1, 2, 3] (L' := [(0, va_rf x0), (1, .int x1), (3, .int x3), (4, .int x4)]) rfl ?_
      exact c_X1_spread_74_ok hDS hkS hk9 _ _ _ _ _ hf
    · have hf := if_t c27 hf
      refine C.aload_n dX1_spread_30 rfl 0 rfl ?_
      obtain ⟨v31, h31, hf⟩ := ob hf
      refine C.getQ dX1_spread_31 rX1_22 h31 ?_
      refine X.iload dX1_spread_34 3 rfl ?_
      refine X.iload_n dX1_spread_36 rfl 1 rfl ?_
      obtain ⟨c37, hf⟩ := if_n hf
      obtain ⟨v37, h37, hf⟩ := ob hf
      refine X.keep fun l37 => C.Vi (As := [.int x4, .int x1]) (rest := []) dX1_spread_37 (w_X2_steps h37) cX1_141 (Classical.not_not.mp c37) rfl rfl (xcs xvN (Nat.le_of_ble_eq_true rfl)) rfl rfl (xD (by omega)) xle.rf l37 ?_
      refine X.iconst (v := 1) dX1_spread_40 (by decide) ?_
      refine X.icmp_ne (tgt := 74) dX1_spread_41 (by decide) (fun c41 => ?_) (fun c41 => ?_)
      · have hf := if_f c41 hf
        refine X.sub [0, 1, 2, 3] (L' := [(0, va_rf x0), (1, .int x1), (3, .int x3), (4, .int x4)]) rfl ?_
        exact c_X1_spread_74_ok hDS hkS hk9 _ _ _ _ _ hf
      · have hf := if_t c41 hf
        refine C.aload_n dX1_spread_44 rfl 0 rfl ?_
        obtain ⟨v45, h45, hf⟩ := ob hf
        refine C.getQ dX1_spread_45 rX1_38 h45 ?_
        obtain ⟨v48, h48, hf⟩ := ob hf
        refine C.getQ dX1_spread_48 rX1_96 h48 ?_
        refine X.iload dX1_spread_51 3 rfl ?_
        obtain ⟨v53, h53, hf⟩ := ob hf
        refine C.iald dX1_spread_53 h53 ?_
        refine C.aload_n dX1_spread_54 rfl 0 rfl ?_
        obtain ⟨v55, h55, hf⟩ := ob hf
        refine C.getQ dX1_spread_55 rX1_38 h55 ?_
        obtain ⟨v58, h58, hf⟩ := ob hf
        refine C.getQ dX1_spread_58 rX1_96 h58 ?_
        refine X.iload_n dX1_spread_61 rfl 1 rfl ?_
        obtain ⟨v62, h62, hf⟩ := ob hf
        refine C.iald dX1_spread_62 h62 ?_
        refine X.icmp_ne (tgt := 74) dX1_spread_63 (by decide) (fun c63 => ?_) (fun c63 => ?_)
        · have hf := if_f c63 hf
          refine X.sub [0, 1, 2, 3] (L' := [(0, va_rf x0), (1, .int x1), (3, .int x3), (4, .int x4)]) rfl ?_
          exact c_X1_spread_74_ok hDS hkS hk9 _ _ _ _ _ hf
        · have hf := if_t c63 hf
          refine C.aload_n dX1_spread_66 rfl 0 rfl ?_
          refine X.iload dX1_spread_67 3 rfl ?_
          refine X.iload_n dX1_spread_69 rfl 2 rfl ?_
          obtain ⟨c70, hf⟩ := if_n hf
          obtain ⟨v70, h70, hf⟩ := ob hf
          refine X.keep fun l70 => C.Vi (As := [.int x4, .int x3]) (rest := []) dX1_spread_70 (hkS _ _ _ _ h70) cX1_287 (Classical.not_not.mp c70) rfl rfl (xcs xvN (Nat.le_of_ble_eq_true rfl)) rfl rfl (xD (by omega)) xle.rf l70 ?_
          refine C.ist_n (L' := [(3, .int v70), (0, va_rf x0), (1, .int x1), (4, .int x4)]) dX1_spread_73 rfl (Nat.le_of_ble_eq_true rfl) (xcQ (xcI (xcI (xcI xcN)))) rfl ?_
          refine X.sub [1, 2, 0, 3] (L' := [(0, va_rf x0), (1, .int x1), (3, .int v70), (4, .int x4)]) rfl ?_
          exact c_X1_spread_74_ok hDS hkS hk9 _ _ _ _ _ hf
theorem c_X1_spread_9_ok {G : xG} {De : Nat} {kS : Option Nat → Int32 → Int32 → Option Int32} {T : xF} (hDS : 20 ≤ De) (hkS : ∀ (r : Option Nat) (x y : Int32) (q : Int32), kS r x y = some q → Ct G mX1_spread De T [va_rf r, .int x, .int y] (.inl (some (.int q))) T)   : ∀ (n : Nat) (x0 : Option Nat) (x1 : Int32) (x3 : Int32) (x4 : Int32) (q : Int32), c_X1_spread_9 kS T n x0 x1 x3 x4 = some q → Xr G (mX1_spread, xrm (De + 1) T T, T, .inl (some (.int q)), T) 9 [(0, va_rf x0), (1, .int x1), (3, .int x3), (4, .int x4)] [] T
  | 0, _, _, _, _, _, hf => by cases hf
  | n + 1, x0, x1, x3, x4, q, hf => c_X1_spread_9_bok hDS hkS (c_X1_spread_9_ok hDS hkS n) x0 x1 x3 x4 q hf
def c_X1_spread (kS : Option Nat → Int32 → Int32 → Option Int32) (T : xF) (x0 : Option Nat) (x1 : Int32) (x2 : Int32) : Option Int32 :=
  c_X1_spread_9 kS T FU x0 x1 (x2 ||| ((1 : Int32) <<< (x1 &&& 31))) (0 : Int32)
theorem w_X1_spread {G : xG} {De : Nat} {kS : Option Nat → Int32 → Int32 → Option Int32} {T : xF} (hDS : 20 ≤ De) (hkS : ∀ (r : Option Nat) (x y : Int32) (q : Int32), kS r x y = some q → Ct G mX1_spread De T [va_rf r, .int x, .int y] (.inl (some (.int q))) T) {x0 : Option Nat} {x1 : Int32} {x2 : Int32} {q : Int32} (hf : c_X1_spread kS T x0 x1 x2 = some q) : Ct G mX1_spread (De + 1) T [va_rf x0, .int x1, .int x2] (.inl (some (.int q))) T := by
  refine Ct.ofc (plainFor_of_name (by decide +kernel)) rfl (xvQ (xvI (xvI xvN))) (Nat.le_of_ble_eq_true rfl) (show Xr G _ 0 [(0, va_rf x0), (1, .int x1), (2, .int x2)] [] _ from ?_)
  unfold c_X1_spread at hf
  refine X.iload_n dX1_spread_0 rfl 2 rfl ?_
  refine X.iconst (v := 1) dX1_spread_1 (by decide) ?_
  refine X.iload_n dX1_spread_2 rfl 1 rfl ?_
  refine X.ishl dX1_spread_3 ?_
  refine X.ior dX1_spread_4 ?_
  refine C.ist_n (L' := [(3, .int (x2 ||| ((1 : Int32) <<< (x1 &&& 31)))), (0, va_rf x0), (1, .int x1), (2, .int x2)]) dX1_spread_5 rfl (Nat.le_of_ble_eq_true rfl) (xcQ (xcI (xcI xcN))) rfl ?_
  refine X.iconst (v := 0) dX1_spread_6 (by decide) ?_
  refine C.ist (L' := [(4, .int (0 : Int32)), (3, .int (x2 ||| ((1 : Int32) <<< (x1 &&& 31)))), (0, va_rf x0), (1, .int x1), (2, .int x2)]) dX1_spread_7 (Nat.le_of_ble_eq_true rfl) (xcI (xcQ (xcI (xcI xcN)))) rfl ?_
  refine X.sub [2, 3, 1, 0] (L' := [(0, va_rf x0), (1, .int x1), (3, .int (x2 ||| ((1 : Int32) <<< (x1 &&& 31)))), (4, .int (0 : Int32))]) rfl ?_
  exact c_X1_spread_9_ok hDS hkS FU _ _ _ _ _ hf
def cS (T : xF) : Nat → Option Nat → Int32 → Int32 → Option Int32
  | 0, _, _, _ => none
  | n + 1, r, x, y => c_X1_spread (cS T n) T r x y
theorem wS {G : xG} {T : xF} : ∀ (n : Nat) (r : Option Nat) (x y : Int32) (q : Int32), cS T n r x y = some q → Ct G mX1_spread (20 + n) T [va_rf r, .int x, .int y] (.inl (some (.int q))) T
  | 0, _, _, _, _, h => by cases h
  | n + 1, r, x, y, q, h => w_X1_spread (De := 20 + n) (by omega) (wS n) h
abbrev SFU : Nat := 40
/-! java/lang/Integer bitCount -/
abbrev cJ14_bitCount : ByteArray := prog_22_method_49_code
def yJ14_bitCount : MethodName := ⟨RJ14, "bitCount", "(I)I"⟩
def dkwJ14_bitCount_2 : List UInt8 := [26, 16, 63, 126, 172]
abbrev dktJ14_bitCount_2 : List UInt8 := dkwJ14_bitCount_2 ++ []
def dkwJ14_bitCount_1 : List UInt8 := [26, 26, 7, 124, 96, 19, 1, 11, 126, 59, 26, 26, 16, 8, 124, 96, 59, 26, 26, 16, 16, 124, 96, 59]
abbrev dktJ14_bitCount_1 : List UInt8 := dkwJ14_bitCount_1 ++ dktJ14_bitCount_2
def dkwJ14_bitCount_0 : List UInt8 := [26, 26, 4, 124, 19, 1, 9, 126, 100, 59, 26, 19, 1, 10, 126, 26, 5, 124, 19, 1, 10, 126, 96, 59]
abbrev dktJ14_bitCount_0 : List UInt8 := dkwJ14_bitCount_0 ++ dktJ14_bitCount_1
theorem dksJ14_bitCount_0 : cJ14_bitCount.data.toList.drop 0 = dktJ14_bitCount_0 := by decide +kernel
theorem dksJ14_bitCount_1 : cJ14_bitCount.data.toList.drop 24 = dktJ14_bitCount_1 := dk_seg dksJ14_bitCount_0 24 rfl rfl
theorem dksJ14_bitCount_2 : cJ14_bitCount.data.toList.drop 48 = dktJ14_bitCount_2 := dk_seg dksJ14_bitCount_1 24 rfl rfl
theorem dJ14_bitCount_0 : decode cJ14_bitCount 0 = .ok (.iload_n 0, 1) := dk_26 (dk_at dksJ14_bitCount_0 0 rfl rfl)
theorem dJ14_bitCount_1 : decode cJ14_bitCount 1 = .ok (.iload_n 0, 1) := dk_26 (dk_at dksJ14_bitCount_0 1 rfl rfl)
theorem dJ14_bitCount_2 : decode cJ14_bitCount 2 = .ok (.iconst 1, 1) := dk_4 (dk_at dksJ14_bitCount_0 2 rfl rfl)
theorem dJ14_bitCount_3 : decode cJ14_bitCount 3 = .ok (.iushr, 1) := dk_124 (dk_at dksJ14_bitCount_0 3 rfl rfl)
theorem dJ14_bitCount_4 : decode cJ14_bitCount 4 = .ok (.ldc_w 265, 3) := dk_19 1 9 (dk_at dksJ14_bitCount_0 4 rfl rfl)
theorem dJ14_bitCount_7 : decode cJ14_bitCount 7 = .ok (.iand, 1) := dk_126 (dk_at dksJ14_bitCount_0 7 rfl rfl)
theorem dJ14_bitCount_8 : decode cJ14_bitCount 8 = .ok (.isub, 1) := dk_100 (dk_at dksJ14_bitCount_0 8 rfl rfl)
theorem dJ14_bitCount_9 : decode cJ14_bitCount 9 = .ok (.istore_n 0, 1) := dk_59 (dk_at dksJ14_bitCount_0 9 rfl rfl)
theorem dJ14_bitCount_10 : decode cJ14_bitCount 10 = .ok (.iload_n 0, 1) := dk_26 (dk_at dksJ14_bitCount_0 10 rfl rfl)
theorem dJ14_bitCount_11 : decode cJ14_bitCount 11 = .ok (.ldc_w 266, 3) := dk_19 1 10 (dk_at dksJ14_bitCount_0 11 rfl rfl)
theorem dJ14_bitCount_14 : decode cJ14_bitCount 14 = .ok (.iand, 1) := dk_126 (dk_at dksJ14_bitCount_0 14 rfl rfl)
theorem dJ14_bitCount_15 : decode cJ14_bitCount 15 = .ok (.iload_n 0, 1) := dk_26 (dk_at dksJ14_bitCount_0 15 rfl rfl)
theorem dJ14_bitCount_16 : decode cJ14_bitCount 16 = .ok (.iconst 2, 1) := dk_5 (dk_at dksJ14_bitCount_0 16 rfl rfl)
theorem dJ14_bitCount_17 : decode cJ14_bitCount 17 = .ok (.iushr, 1) := dk_124 (dk_at dksJ14_bitCount_0 17 rfl rfl)
theorem dJ14_bitCount_18 : decode cJ14_bitCount 18 = .ok (.ldc_w 266, 3) := dk_19 1 10 (dk_at dksJ14_bitCount_0 18 rfl rfl)
theorem dJ14_bitCount_21 : decode cJ14_bitCount 21 = .ok (.iand, 1) := dk_126 (dk_at dksJ14_bitCount_0 21 rfl rfl)
theorem dJ14_bitCount_22 : decode cJ14_bitCount 22 = .ok (.iadd, 1) := dk_96 (dk_at dksJ14_bitCount_0 22 rfl rfl)
theorem dJ14_bitCount_23 : decode cJ14_bitCount 23 = .ok (.istore_n 0, 1) := dk_59 (dk_at dksJ14_bitCount_0 23 rfl rfl)
theorem dJ14_bitCount_24 : decode cJ14_bitCount 24 = .ok (.iload_n 0, 1) := dk_26 (dk_at dksJ14_bitCount_1 0 rfl rfl)
theorem dJ14_bitCount_25 : decode cJ14_bitCount 25 = .ok (.iload_n 0, 1) := dk_26 (dk_at dksJ14_bitCount_1 1 rfl rfl)
theorem dJ14_bitCount_26 : decode cJ14_bitCount 26 = .ok (.iconst 4, 1) := dk_7 (dk_at dksJ14_bitCount_1 2 rfl rfl)
theorem dJ14_bitCount_27 : decode cJ14_bitCount 27 = .ok (.iushr, 1) := dk_124 (dk_at dksJ14_bitCount_1 3 rfl rfl)
theorem dJ14_bitCount_28 : decode cJ14_bitCount 28 = .ok (.iadd, 1) := dk_96 (dk_at dksJ14_bitCount_1 4 rfl rfl)
theorem dJ14_bitCount_29 : decode cJ14_bitCount 29 = .ok (.ldc_w 267, 3) := dk_19 1 11 (dk_at dksJ14_bitCount_1 5 rfl rfl)
theorem dJ14_bitCount_32 : decode cJ14_bitCount 32 = .ok (.iand, 1) := dk_126 (dk_at dksJ14_bitCount_1 8 rfl rfl)
theorem dJ14_bitCount_33 : decode cJ14_bitCount 33 = .ok (.istore_n 0, 1) := dk_59 (dk_at dksJ14_bitCount_1 9 rfl rfl)
theorem dJ14_bitCount_34 : decode cJ14_bitCount 34 = .ok (.iload_n 0, 1) := dk_26 (dk_at dksJ14_bitCount_1 10 rfl rfl)
theorem dJ14_bitCount_35 : decode cJ14_bitCount 35 = .ok (.iload_n 0, 1) := dk_26 (dk_at dksJ14_bitCount_1 11 rfl rfl)
theorem dJ14_bitCount_36 : decode cJ14_bitCount 36 = .ok (.bipush 8, 2) := dk_16 8 (dk_at dksJ14_bitCount_1 12 rfl rfl)
theorem dJ14_bitCount_38 : decode cJ14_bitCount 38 = .ok (.iushr, 1) := dk_124 (dk_at dksJ14_bitCount_1 14 rfl rfl)
theorem dJ14_bitCount_39 : decode cJ14_bitCount 39 = .ok (.iadd, 1) := dk_96 (dk_at dksJ14_bitCount_1 15 rfl rfl)
theorem dJ14_bitCount_40 : decode cJ14_bitCount 40 = .ok (.istore_n 0, 1) := dk_59 (dk_at dksJ14_bitCount_1 16 rfl rfl)
theorem dJ14_bitCount_41 : decode cJ14_bitCount 41 = .ok (.iload_n 0, 1) := dk_26 (dk_at dksJ14_bitCount_1 17 rfl rfl)
theorem dJ14_bitCount_42 : decode cJ14_bitCount 42 = .ok (.iload_n 0, 1) := dk_26 (dk_at dksJ14_bitCount_1 18 rfl rfl)
theorem dJ14_bitCount_43 : decode cJ14_bitCount 43 = .ok (.bipush 16, 2) := dk_16 16 (dk_at dksJ14_bitCount_1 19 rfl rfl)
theorem dJ14_bitCount_45 : decode cJ14_bitCount 45 = .ok (.iushr, 1) := dk_124 (dk_at dksJ14_bitCount_1 21 rfl rfl)
theorem dJ14_bitCount_46 : decode cJ14_bitCount 46 = .ok (.iadd, 1) := dk_96 (dk_at dksJ14_bitCount_1 22 rfl rfl)
theorem dJ14_bitCount_47 : decode cJ14_bitCount 47 = .ok (.istore_n 0, 1) := dk_59 (dk_at dksJ14_bitCount_1 23 rfl rfl)
theorem dJ14_bitCount_48 : decode cJ14_bitCount 48 = .ok (.iload_n 0, 1) := dk_26 (dk_at dksJ14_bitCount_2 0 rfl rfl)
theorem dJ14_bitCount_49 : decode cJ14_bitCount 49 = .ok (.bipush 63, 2) := dk_16 63 (dk_at dksJ14_bitCount_2 1 rfl rfl)
theorem dJ14_bitCount_51 : decode cJ14_bitCount 51 = .ok (.iand, 1) := dk_126 (dk_at dksJ14_bitCount_2 3 rfl rfl)
theorem dJ14_bitCount_52 : decode cJ14_bitCount 52 = .ok (.ireturn, 1) := dk_172 (dk_at dksJ14_bitCount_2 4 rfl rfl)
abbrev mJ14_bitCount : xM := (yJ14_bitCount, cJ14_bitCount, 1, (some .int), [])
def c_J14_bitCount (x0 : Int32) : Option Int32 :=
  some ((((((((x0 - (((x0.toUInt32 >>> ((1 : Int32).toUInt32 &&& Int32.toUInt32 31)).toInt32) &&& (1431655765 : Int32))) &&& (858993459 : Int32)) + ((((x0 - (((x0.toUInt32 >>> ((1 : Int32).toUInt32 &&& Int32.toUInt32 31)).toInt32) &&& (1431655765 : Int32))).toUInt32 >>> ((2 : Int32).toUInt32 &&& Int32.toUInt32 31)).toInt32) &&& (858993459 : Int32))) + (((((x0 - (((x0.toUInt32 >>> ((1 : Int32).toUInt32 &&& Int32.toUInt32 31)).toInt32) &&& (1431655765 : Int32))) &&& (858993459 : Int32)) + ((((x0 - (((x0.toUInt32 >>> ((1 : Int32).toUInt32 &&& Int32.toUInt32 31)).toInt32) &&& (1431655765 : Int32))).toUInt32 >>> ((2 : Int32).toUInt32 &&& Int32.toUInt32 31)).toInt32) &&& (858993459 : Int32))).toUInt32 >>> ((4 : Int32).toUInt32 &&& Int32.toUInt32 31)).toInt32)) &&& (252645135 : Int32)) + (((((((x0 - (((x0.toUInt32 >>> ((1 : Int32).toUInt32 &&& Int32.toUInt32 31)).toInt32) &&& (1431655765 : Int32))) &&& (858993459 : Int32)) + ((((x0 - (((x0.toUInt32 >>> ((1 : Int32).toUInt32 &&& Int32.toUInt32 31)).toInt32) &&& (1431655765 : Int32))).toUInt32 >>> ((2 : Int32).toUInt32 &&& Int32.toUInt32 31)).toInt32) &&& (858993459 : Int32))) + (((((x0 - (((x0.toUInt32 >>> ((1 : Int32).toUInt32 &&& Int32.toUInt32 31)).toInt32) &&& (1431655765 : Int32))) &&& (858993459 : Int32)) + ((((x0 - (((x0.toUInt32 >>> ((1 : Int32).toUInt32 &&& Int32.toUInt32 31)).toInt32) &&& (1431655765 : Int32))).toUInt32 >>> ((2 : Int32).toUInt32 &&& Int32.toUInt32 31)).toInt32) &&& (858993459 : Int32))).toUInt32 >>> ((4 : Int32).toUInt32 &&& Int32.toUInt32 31)).toInt32)) &&& (252645135 : Int32)).toUInt32 >>> ((8 : Int32).toUInt32 &&& Int32.toUInt32 31)).toInt32)) + ((((((((x0 - (((x0.toUInt32 >>> ((1 : Int32).toUInt32 &&& Int32.toUInt32 31)).toInt32) &&& (1431655765 : Int32))) &&& (858993459 : Int32)) + ((((x0 - (((x0.toUInt32 >>> ((1 : Int32).toUInt32 &&& Int32.toUInt32 31)).toInt32) &&& (1431655765 : Int32))).toUInt32 >>> ((2 : Int32).toUInt32 &&& Int32.toUInt32 31)).toInt32) &&& (858993459 : Int32))) + (((((x0 - (((x0.toUInt32 >>> ((1 : Int32).toUInt32 &&& Int32.toUInt32 31)).toInt32) &&& (1431655765 : Int32))) &&& (858993459 : Int32)) + ((((x0 - (((x0.toUInt32 >>> ((1 : Int32).toUInt32 &&& Int32.toUInt32 31)).toInt32) &&& (1431655765 : Int32))).toUInt32 >>> ((2 : Int32).toUInt32 &&& Int32.toUInt32 31)).toInt32) &&& (858993459 : Int32))).toUInt32 >>> ((4 : Int32).toUInt32 &&& Int32.toUInt32 31)).toInt32)) &&& (252645135 : Int32)) + (((((((x0 - (((x0.toUInt32 >>> ((1 : Int32).toUInt32 &&& Int32.toUInt32 31)).toInt32) &&& (1431655765 : Int32))) &&& (858993459 : Int32)) + ((((x0 - (((x0.toUInt32 >>> ((1 : Int32).toUInt32 &&& Int32.toUInt32 31)).toInt32) &&& (1431655765 : Int32))).toUInt32 >>> ((2 : Int32).toUInt32 &&& Int32.toUInt32 31)).toInt32) &&& (858993459 : Int32))) + (((((x0 - (((x0.toUInt32 >>> ((1 : Int32).toUInt32 &&& Int32.toUInt32 31)).toInt32) &&& (1431655765 : Int32))) &&& (858993459 : Int32)) + ((((x0 - (((x0.toUInt32 >>> ((1 : Int32).toUInt32 &&& Int32.toUInt32 31)).toInt32) &&& (1431655765 : Int32))).toUInt32 >>> ((2 : Int32).toUInt32 &&& Int32.toUInt32 31)).toInt32) &&& (858993459 : Int32))).toUInt32 >>> ((4 : Int32).toUInt32 &&& Int32.toUInt32 31)).toInt32)) &&& (252645135 : Int32)).toUInt32 >>> ((8 : Int32).toUInt32 &&& Int32.toUInt32 31)).toInt32)).toUInt32 >>> ((16 : Int32).toUInt32 &&& Int32.toUInt32 31)).toInt32)) &&& (63 : Int32))
theorem w_J14_bitCount {G : xG}  {T : xF} {x0 : Int32} {q : Int32} (hf : c_J14_bitCount x0 = some q) : Ct G mJ14_bitCount (1) T [.int x0] (.inl (some (.int q))) T := by
  refine Ct.ofc (plainFor_of_name (by decide +kernel)) rfl (xvI xvN) (Nat.le_of_ble_eq_true rfl) (show Xr G _ 0 [(0, .int x0)] [] _ from ?_)
  unfold c_J14_bitCount at hf
  refine X.iload_n dJ14_bitCount_0 rfl 0 rfl ?_
  refine X.iload_n dJ14_bitCount_1 rfl 0 rfl ?_
  refine X.iconst (v := 1) dJ14_bitCount_2 (by decide) ?_
  refine X.iushr dJ14_bitCount_3 rfl ?_
  refine X.ldcwI (v := 1431655765) dJ14_bitCount_4 q691 ?_
  refine X.iand dJ14_bitCount_7 ?_
  refine X.isub dJ14_bitCount_8 ?_
  refine C.ist_n (L' := [(0, .int (x0 - (((x0.toUInt32 >>> ((1 : Int32).toUInt32 &&& Int32.toUInt32 31)).toInt32) &&& (1431655765 : Int32))))]) dJ14_bitCount_9 rfl (Nat.le_of_ble_eq_true rfl) (xcI xcN) rfl ?_
  refine X.iload_n dJ14_bitCount_10 rfl 0 rfl ?_
  refine X.ldcwI (v := 858993459) dJ14_bitCount_11 q692 ?_
  refine X.iand dJ14_bitCount_14 ?_
  refine X.iload_n dJ14_bitCount_15 rfl 0 rfl ?_
  refine X.iconst (v := 2) dJ14_bitCount_16 (by decide) ?_
  refine X.iushr dJ14_bitCount_17 rfl ?_
  refine X.ldcwI (v := 858993459) dJ14_bitCount_18 q692 ?_
  refine X.iand dJ14_bitCount_21 ?_
  refine X.iadd dJ14_bitCount_22 ?_
  refine C.ist_n (L' := [(0, .int (((x0 - (((x0.toUInt32 >>> ((1 : Int32).toUInt32 &&& Int32.toUInt32 31)).toInt32) &&& (1431655765 : Int32))) &&& (858993459 : Int32)) + ((((x0 - (((x0.toUInt32 >>> ((1 : Int32).toUInt32 &&& Int32.toUInt32 31)).toInt32) &&& (1431655765 : Int32))).toUInt32 >>> ((2 : Int32).toUInt32 &&& Int32.toUInt32 31)).toInt32) &&& (858993459 : Int32))))]) dJ14_bitCount_23 rfl (Nat.le_of_ble_eq_true rfl) (xcI xcN) rfl ?_
  refine X.iload_n dJ14_bitCount_24 rfl 0 rfl ?_
  refine X.iload_n dJ14_bitCount_25 rfl 0 rfl ?_
  refine X.iconst (v := 4) dJ14_bitCount_26 (by decide) ?_
  refine X.iushr dJ14_bitCount_27 rfl ?_
  refine X.iadd dJ14_bitCount_28 ?_
  refine X.ldcwI (v := 252645135) dJ14_bitCount_29 q693 ?_
  refine X.iand dJ14_bitCount_32 ?_
  refine C.ist_n (L' := [(0, .int (((((x0 - (((x0.toUInt32 >>> ((1 : Int32).toUInt32 &&& Int32.toUInt32 31)).toInt32) &&& (1431655765 : Int32))) &&& (858993459 : Int32)) + ((((x0 - (((x0.toUInt32 >>> ((1 : Int32).toUInt32 &&& Int32.toUInt32 31)).toInt32) &&& (1431655765 : Int32))).toUInt32 >>> ((2 : Int32).toUInt32 &&& Int32.toUInt32 31)).toInt32) &&& (858993459 : Int32))) + (((((x0 - (((x0.toUInt32 >>> ((1 : Int32).toUInt32 &&& Int32.toUInt32 31)).toInt32) &&& (1431655765 : Int32))) &&& (858993459 : Int32)) + ((((x0 - (((x0.toUInt32 >>> ((1 : Int32).toUInt32 &&& Int32.toUInt32 31)).toInt32) &&& (1431655765 : Int32))).toUInt32 >>> ((2 : Int32).toUInt32 &&& Int32.toUInt32 31)).toInt32) &&& (858993459 : Int32))).toUInt32 >>> ((4 : Int32).toUInt32 &&& Int32.toUInt32 31)).toInt32)) &&& (252645135 : Int32)))]) dJ14_bitCount_33 rfl (Nat.le_of_ble_eq_true rfl) (xcI xcN) rfl ?_
  refine X.iload_n dJ14_bitCount_34 rfl 0 rfl ?_
  refine X.iload_n dJ14_bitCount_35 rfl 0 rfl ?_
  refine X.bipush (v := 8) dJ14_bitCount_36 (by decide) ?_
  refine X.iushr dJ14_bitCount_38 rfl ?_
  refine X.iadd dJ14_bitCount_39 ?_
  refine C.ist_n (L' := [(0, .int ((((((x0 - (((x0.toUInt32 >>> ((1 : Int32).toUInt32 &&& Int32.toUInt32 31)).toInt32) &&& (1431655765 : Int32))) &&& (858993459 : Int32)) + ((((x0 - (((x0.toUInt32 >>> ((1 : Int32).toUInt32 &&& Int32.toUInt32 31)).toInt32) &&& (1431655765 : Int32))).toUInt32 >>> ((2 : Int32).toUInt32 &&& Int32.toUInt32 31)).toInt32) &&& (858993459 : Int32))) + (((((x0 - (((x0.toUInt32 >>> ((1 : Int32).toUInt32 &&& Int32.toUInt32 31)).toInt32) &&& (1431655765 : Int32))) &&& (858993459 : Int32)) + ((((x0 - (((x0.toUInt32 >>> ((1 : Int32).toUInt32 &&& Int32.toUInt32 31)).toInt32) &&& (1431655765 : Int32))).toUInt32 >>> ((2 : Int32).toUInt32 &&& Int32.toUInt32 31)).toInt32) &&& (858993459 : Int32))).toUInt32 >>> ((4 : Int32).toUInt32 &&& Int32.toUInt32 31)).toInt32)) &&& (252645135 : Int32)) + (((((((x0 - (((x0.toUInt32 >>> ((1 : Int32).toUInt32 &&& Int32.toUInt32 31)).toInt32) &&& (1431655765 : Int32))) &&& (858993459 : Int32)) + ((((x0 - (((x0.toUInt32 >>> ((1 : Int32).toUInt32 &&& Int32.toUInt32 31)).toInt32) &&& (1431655765 : Int32))).toUInt32 >>> ((2 : Int32).toUInt32 &&& Int32.toUInt32 31)).toInt32) &&& (858993459 : Int32))) + (((((x0 - (((x0.toUInt32 >>> ((1 : Int32).toUInt32 &&& Int32.toUInt32 31)).toInt32) &&& (1431655765 : Int32))) &&& (858993459 : Int32)) + ((((x0 - (((x0.toUInt32 >>> ((1 : Int32).toUInt32 &&& Int32.toUInt32 31)).toInt32) &&& (1431655765 : Int32))).toUInt32 >>> ((2 : Int32).toUInt32 &&& Int32.toUInt32 31)).toInt32) &&& (858993459 : Int32))).toUInt32 >>> ((4 : Int32).toUInt32 &&& Int32.toUInt32 31)).toInt32)) &&& (252645135 : Int32)).toUInt32 >>> ((8 : Int32).toUInt32 &&& Int32.toUInt32 31)).toInt32)))]) dJ14_bitCount_40 rfl (Nat.le_of_ble_eq_true rfl) (xcI xcN) rfl ?_
  refine X.iload_n dJ14_bitCount_41 rfl 0 rfl ?_
  refine X.iload_n dJ14_bitCount_42 rfl 0 rfl ?_
  refine X.bipush (v := 16) dJ14_bitCount_43 (by decide) ?_
  refine X.iushr dJ14_bitCount_45 rfl ?_
  refine X.iadd dJ14_bitCount_46 ?_
  refine C.ist_n (L' := [(0, .int (((((((x0 - (((x0.toUInt32 >>> ((1 : Int32).toUInt32 &&& Int32.toUInt32 31)).toInt32) &&& (1431655765 : Int32))) &&& (858993459 : Int32)) + ((((x0 - (((x0.toUInt32 >>> ((1 : Int32).toUInt32 &&& Int32.toUInt32 31)).toInt32) &&& (1431655765 : Int32))).toUInt32 >>> ((2 : Int32).toUInt32 &&& Int32.toUInt32 31)).toInt32) &&& (858993459 : Int32))) + (((((x0 - (((x0.toUInt32 >>> ((1 : Int32).toUInt32 &&& Int32.toUInt32 31)).toInt32) &&& (1431655765 : Int32))) &&& (858993459 : Int32)) + ((((x0 - (((x0.toUInt32 >>> ((1 : Int32).toUInt32 &&& Int32.toUInt32 31)).toInt32) &&& (1431655765 : Int32))).toUInt32 >>> ((2 : Int32).toUInt32 &&& Int32.toUInt32 31)).toInt32) &&& (858993459 : Int32))).toUInt32 >>> ((4 : Int32).toUInt32 &&& Int32.toUInt32 31)).toInt32)) &&& (252645135 : Int32)) + (((((((x0 - (((x0.toUInt32 >>> ((1 : Int32).toUInt32 &&& Int32.toUInt32 31)).toInt32) &&& (1431655765 : Int32))) &&& (858993459 : Int32)) + ((((x0 - (((x0.toUInt32 >>> ((1 : Int32).toUInt32 &&& Int32.toUInt32 31)).toInt32) &&& (1431655765 : Int32))).toUInt32 >>> ((2 : Int32).toUInt32 &&& Int32.toUInt32 31)).toInt32) &&& (858993459 : Int32))) + (((((x0 - (((x0.toUInt32 >>> ((1 : Int32).toUInt32 &&& Int32.toUInt32 31)).toInt32) &&& (1431655765 : Int32))) &&& (858993459 : Int32)) + ((((x0 - (((x0.toUInt32 >>> ((1 : Int32).toUInt32 &&& Int32.toUInt32 31)).toInt32) &&& (1431655765 : Int32))).toUInt32 >>> ((2 : Int32).toUInt32 &&& Int32.toUInt32 31)).toInt32) &&& (858993459 : Int32))).toUInt32 >>> ((4 : Int32).toUInt32 &&& Int32.toUInt32 31)).toInt32)) &&& (252645135 : Int32)).toUInt32 >>> ((8 : Int32).toUInt32 &&& Int32.toUInt32 31)).toInt32)) + ((((((((x0 - (((x0.toUInt32 >>> ((1 : Int32).toUInt32 &&& Int32.toUInt32 31)).toInt32) &&& (1431655765 : Int32))) &&& (858993459 : Int32)) + ((((x0 - (((x0.toUInt32 >>> ((1 : Int32).toUInt32 &&& Int32.toUInt32 31)).toInt32) &&& (1431655765 : Int32))).toUInt32 >>> ((2 : Int32).toUInt32 &&& Int32.toUInt32 31)).toInt32) &&& (858993459 : Int32))) + (((((x0 - (((x0.toUInt32 >>> ((1 : Int32).toUInt32 &&& Int32.toUInt32 31)).toInt32) &&& (1431655765 : Int32))) &&& (858993459 : Int32)) + ((((x0 - (((x0.toUInt32 >>> ((1 : Int32).toUInt32 &&& Int32.toUInt32 31)).toInt32) &&& (1431655765 : Int32))).toUInt32 >>> ((2 : Int32).toUInt32 &&& Int32.toUInt32 31)).toInt32) &&& (858993459 : Int32))).toUInt32 >>> ((4 : Int32).toUInt32 &&& Int32.toUInt32 31)).toInt32)) &&& (252645135 : Int32)) + (((((((x0 - (((x0.toUInt32 >>> ((1 : Int32).toUInt32 &&& Int32.toUInt32 31)).toInt32) &&& (1431655765 : Int32))) &&& (858993459 : Int32)) + ((((x0 - (((x0.toUInt32 >>> ((1 : Int32).toUInt32 &&& Int32.toUInt32 31)).toInt32) &&& (1431655765 : Int32))).toUInt32 >>> ((2 : Int32).toUInt32 &&& Int32.toUInt32 31)).toInt32) &&& (858993459 : Int32))) + (((((x0 - (((x0.toUInt32 >>> ((1 : Int32).toUInt32 &&& Int32.toUInt32 31)).toInt32) &&& (1431655765 : Int32))) &&& (858993459 : Int32)) + ((((x0 - (((x0.toUInt32 >>> ((1 : Int32).toUInt32 &&& Int32.toUInt32 31)).toInt32) &&& (1431655765 : Int32))).toUInt32 >>> ((2 : Int32).toUInt32 &&& Int32.toUInt32 31)).toInt32) &&& (858993459 : Int32))).toUInt32 >>> ((4 : Int32).toUInt32 &&& Int32.toUInt32 31)).toInt32)) &&& (252645135 : Int32)).toUInt32 >>> ((8 : Int32).toUInt32 &&& Int32.toUInt32 31)).toInt32)).toUInt32 >>> ((16 : Int32).toUInt32 &&& Int32.toUInt32 31)).toInt32)))]) dJ14_bitCount_47 rfl (Nat.le_of_ble_eq_true rfl) (xcI xcN) rfl ?_
  refine X.iload_n dJ14_bitCount_48 rfl 0 rfl ?_
  refine X.bipush (v := 63) dJ14_bitCount_49 (by decide) ?_
  refine X.iand dJ14_bitCount_51 ?_
  obtain rfl := Option.some.inj hf
  exact X.iret dJ14_bitCount_52 rfl rfl rfl
theorem cX1_253 : xCS RX1 253 mJ14_bitCount 1 := ⟨lw_S q688 q689 q141 q690, rfl, ⟨by decide +kernel, by decide +kernel, by decide +kernel⟩, Nat.le_of_ble_eq_true rfl⟩
/-! MouldVotes greatest -/
abbrev cX1_greatest : ByteArray := prog_1_method_61_code
def yX1_greatest : MethodName := ⟨RX1, "greatest", "(II)I"⟩
def dkwX1_greatest_4 : List UInt8 := [167, 255, 194, 28, 154, 0, 8, 21, 4, 167, 0, 4, 29, 172]
abbrev dktX1_greatest_4 : List UInt8 := dkwX1_greatest_4 ++ []
def dkwX1_greatest_3 : List UInt8 := [54, 6, 21, 6, 21, 4, 163, 0, 6, 167, 0, 10, 21, 5, 62, 21, 6, 54, 4, 132, 5, 1]
abbrev dktX1_greatest_3 : List UInt8 := dkwX1_greatest_3 ++ dktX1_greatest_4
def dkwX1_greatest_2 : List UInt8 := [180, 0, 96, 21, 5, 46, 27, 160, 0, 16, 42, 21, 5, 3, 182, 1, 31, 184, 0, 253, 167, 0, 4, 3]
abbrev dktX1_greatest_2 : List UInt8 := dkwX1_greatest_2 ++ dktX1_greatest_3
def dkwX1_greatest_1 : List UInt8 := [62, 3, 54, 4, 3, 54, 5, 21, 5, 42, 180, 0, 22, 182, 0, 92, 162, 0, 56, 42, 180, 0, 38]
abbrev dktX1_greatest_1 : List UInt8 := dkwX1_greatest_1 ++ dktX1_greatest_2
def dkwX1_greatest_0 : List UInt8 := [27, 42, 180, 0, 22, 180, 0, 101, 185, 0, 104, 1, 0, 4, 100, 184, 0, 163, 28, 4, 184, 0, 163, 2]
abbrev dktX1_greatest_0 : List UInt8 := dkwX1_greatest_0 ++ dktX1_greatest_1
theorem dksX1_greatest_0 : cX1_greatest.data.toList.drop 0 = dktX1_greatest_0 := by decide +kernel
theorem dksX1_greatest_1 : cX1_greatest.data.toList.drop 24 = dktX1_greatest_1 := dk_seg dksX1_greatest_0 24 rfl rfl
theorem dksX1_greatest_2 : cX1_greatest.data.toList.drop 47 = dktX1_greatest_2 := dk_seg dksX1_greatest_1 23 rfl rfl
theorem dksX1_greatest_3 : cX1_greatest.data.toList.drop 71 = dktX1_greatest_3 := dk_seg dksX1_greatest_2 24 rfl rfl
theorem dksX1_greatest_4 : cX1_greatest.data.toList.drop 93 = dktX1_greatest_4 := dk_seg dksX1_greatest_3 22 rfl rfl
theorem dX1_greatest_0 : decode cX1_greatest 0 = .ok (.iload_n 1, 1) := dk_27 (dk_at dksX1_greatest_0 0 rfl rfl)
theorem dX1_greatest_1 : decode cX1_greatest 1 = .ok (.aload_n 0, 1) := dk_42 (dk_at dksX1_greatest_0 1 rfl rfl)
theorem dX1_greatest_2 : decode cX1_greatest 2 = .ok (.getfield 22, 3) := dk_180 0 22 (dk_at dksX1_greatest_0 2 rfl rfl)
theorem dX1_greatest_5 : decode cX1_greatest 5 = .ok (.getfield 101, 3) := dk_180 0 101 (dk_at dksX1_greatest_0 5 rfl rfl)
theorem dX1_greatest_8 : decode cX1_greatest 8 = .ok (.invokeinterface 104 1, 5) := by decide +kernel
theorem dX1_greatest_13 : decode cX1_greatest 13 = .ok (.iconst 1, 1) := dk_4 (dk_at dksX1_greatest_0 13 rfl rfl)
theorem dX1_greatest_14 : decode cX1_greatest 14 = .ok (.isub, 1) := dk_100 (dk_at dksX1_greatest_0 14 rfl rfl)
theorem dX1_greatest_15 : decode cX1_greatest 15 = .ok (.invokestatic 163, 3) := dk_184 0 163 (dk_at dksX1_greatest_0 15 rfl rfl)
theorem dX1_greatest_18 : decode cX1_greatest 18 = .ok (.iload_n 2, 1) := dk_28 (dk_at dksX1_greatest_0 18 rfl rfl)
theorem dX1_greatest_19 : decode cX1_greatest 19 = .ok (.iconst 1, 1) := dk_4 (dk_at dksX1_greatest_0 19 rfl rfl)
theorem dX1_greatest_20 : decode cX1_greatest 20 = .ok (.invokestatic 163, 3) := dk_184 0 163 (dk_at dksX1_greatest_0 20 rfl rfl)
theorem dX1_greatest_23 : decode cX1_greatest 23 = .ok (.iconst (-1), 1) := dk_2 (dk_at dksX1_greatest_0 23 rfl rfl)
theorem dX1_greatest_24 : decode cX1_greatest 24 = .ok (.istore_n 3, 1) := dk_62 (dk_at dksX1_greatest_1 0 rfl rfl)
theorem dX1_greatest_25 : decode cX1_greatest 25 = .ok (.iconst 0, 1) := dk_3 (dk_at dksX1_greatest_1 1 rfl rfl)
theorem dX1_greatest_26 : decode cX1_greatest 26 = .ok (.istore 4, 2) := dk_54 4 (dk_at dksX1_greatest_1 2 rfl rfl)
theorem dX1_greatest_28 : decode cX1_greatest 28 = .ok (.iconst 0, 1) := dk_3 (dk_at dksX1_greatest_1 4 rfl rfl)
theorem dX1_greatest_29 : decode cX1_greatest 29 = .ok (.istore 5, 2) := dk_54 5 (dk_at dksX1_greatest_1 5 rfl rfl)
theorem dX1_greatest_31 : decode cX1_greatest 31 = .ok (.iload 5, 2) := dk_21 5 (dk_at dksX1_greatest_1 7 rfl rfl)
theorem dX1_greatest_33 : decode cX1_greatest 33 = .ok (.aload_n 0, 1) := dk_42 (dk_at dksX1_greatest_1 9 rfl rfl)
theorem dX1_greatest_34 : decode cX1_greatest 34 = .ok (.getfield 22, 3) := dk_180 0 22 (dk_at dksX1_greatest_1 10 rfl rfl)
theorem dX1_greatest_37 : decode cX1_greatest 37 = .ok (.invokevirtual 92, 3) := dk_182 0 92 (dk_at dksX1_greatest_1 13 rfl rfl)
theorem dX1_greatest_40 : decode cX1_greatest 40 = .ok (.if_icmp .ge 56, 3) := dk_162 0 56 (dk_at dksX1_greatest_1 16 rfl rfl)
theorem dX1_greatest_43 : decode cX1_greatest 43 = .ok (.aload_n 0, 1) := dk_42 (dk_at dksX1_greatest_1 19 rfl rfl)
theorem dX1_greatest_44 : decode cX1_greatest 44 = .ok (.getfield 38, 3) := dk_180 0 38 (dk_at dksX1_greatest_1 20 rfl rfl)
theorem dX1_greatest_47 : decode cX1_greatest 47 = .ok (.getfield 96, 3) := dk_180 0 96 (dk_at dksX1_greatest_2 0 rfl rfl)
theorem dX1_greatest_50 : decode cX1_greatest 50 = .ok (.iload 5, 2) := dk_21 5 (dk_at dksX1_greatest_2 3 rfl rfl)
theorem dX1_greatest_52 : decode cX1_greatest 52 = .ok (.iaload, 1) := dk_46 (dk_at dksX1_greatest_2 5 rfl rfl)
theorem dX1_greatest_53 : decode cX1_greatest 53 = .ok (.iload_n 1, 1) := dk_27 (dk_at dksX1_greatest_2 6 rfl rfl)
theorem dX1_greatest_54 : decode cX1_greatest 54 = .ok (.if_icmp .ne 16, 3) := dk_160 0 16 (dk_at dksX1_greatest_2 7 rfl rfl)
theorem dX1_greatest_57 : decode cX1_greatest 57 = .ok (.aload_n 0, 1) := dk_42 (dk_at dksX1_greatest_2 10 rfl rfl)
theorem dX1_greatest_58 : decode cX1_greatest 58 = .ok (.iload 5, 2) := dk_21 5 (dk_at dksX1_greatest_2 11 rfl rfl)
theorem dX1_greatest_60 : decode cX1_greatest 60 = .ok (.iconst 0, 1) := dk_3 (dk_at dksX1_greatest_2 13 rfl rfl)
theorem dX1_greatest_61 : decode cX1_greatest 61 = .ok (.invokevirtual 287, 3) := dk_182 1 31 (dk_at dksX1_greatest_2 14 rfl rfl)
theorem dX1_greatest_64 : decode cX1_greatest 64 = .ok (.invokestatic 253, 3) := dk_184 0 253 (dk_at dksX1_greatest_2 17 rfl rfl)
theorem dX1_greatest_67 : decode cX1_greatest 67 = .ok (.goto 4, 3) := dk_167 0 4 (dk_at dksX1_greatest_2 20 rfl rfl)
theorem dX1_greatest_70 : decode cX1_greatest 70 = .ok (.iconst 0, 1) := dk_3 (dk_at dksX1_greatest_2 23 rfl rfl)
theorem dX1_greatest_71 : decode cX1_greatest 71 = .ok (.istore 6, 2) := dk_54 6 (dk_at dksX1_greatest_3 0 rfl rfl)
theorem dX1_greatest_73 : decode cX1_greatest 73 = .ok (.iload 6, 2) := dk_21 6 (dk_at dksX1_greatest_3 2 rfl rfl)
theorem dX1_greatest_75 : decode cX1_greatest 75 = .ok (.iload 4, 2) := dk_21 4 (dk_at dksX1_greatest_3 4 rfl rfl)
theorem dX1_greatest_77 : decode cX1_greatest 77 = .ok (.if_icmp .gt 6, 3) := dk_163 0 6 (dk_at dksX1_greatest_3 6 rfl rfl)
theorem dX1_greatest_80 : decode cX1_greatest 80 = .ok (.goto 10, 3) := dk_167 0 10 (dk_at dksX1_greatest_3 9 rfl rfl)
theorem dX1_greatest_83 : decode cX1_greatest 83 = .ok (.iload 5, 2) := dk_21 5 (dk_at dksX1_greatest_3 12 rfl rfl)
theorem dX1_greatest_85 : decode cX1_greatest 85 = .ok (.istore_n 3, 1) := dk_62 (dk_at dksX1_greatest_3 14 rfl rfl)
theorem dX1_greatest_86 : decode cX1_greatest 86 = .ok (.iload 6, 2) := dk_21 6 (dk_at dksX1_greatest_3 15 rfl rfl)
theorem dX1_greatest_88 : decode cX1_greatest 88 = .ok (.istore 4, 2) := dk_54 4 (dk_at dksX1_greatest_3 17 rfl rfl)
theorem dX1_greatest_90 : decode cX1_greatest 90 = .ok (.iinc 5 1, 3) := dk_132 5 1 (dk_at dksX1_greatest_3 19 rfl rfl)
theorem dX1_greatest_93 : decode cX1_greatest 93 = .ok (.goto (-62), 3) := dk_167 255 194 (dk_at dksX1_greatest_4 0 rfl rfl)
theorem dX1_greatest_96 : decode cX1_greatest 96 = .ok (.iload_n 2, 1) := dk_28 (dk_at dksX1_greatest_4 3 rfl rfl)
theorem dX1_greatest_97 : decode cX1_greatest 97 = .ok (.ifCond .ne 8, 3) := dk_154 0 8 (dk_at dksX1_greatest_4 4 rfl rfl)
theorem dX1_greatest_100 : decode cX1_greatest 100 = .ok (.iload 4, 2) := dk_21 4 (dk_at dksX1_greatest_4 7 rfl rfl)
theorem dX1_greatest_102 : decode cX1_greatest 102 = .ok (.goto 4, 3) := dk_167 0 4 (dk_at dksX1_greatest_4 9 rfl rfl)
theorem dX1_greatest_105 : decode cX1_greatest 105 = .ok (.iload_n 3, 1) := dk_29 (dk_at dksX1_greatest_4 12 rfl rfl)
theorem dX1_greatest_106 : decode cX1_greatest 106 = .ok (.ireturn, 1) := dk_172 (dk_at dksX1_greatest_4 13 rfl rfl)
abbrev mX1_greatest : xM := (yX1_greatest, cX1_greatest, 7, (some .int), [])
def c_X1_greatest_90 (k31 : Option Nat → Int32 → Int32 → Int32 → Int32 → Int32 → xF → Option ((Int32 ⊕ xE) × xF)) (x0 : Option Nat) (x1 : Int32) (x2 : Int32) (x3 : Int32) (x4 : Int32) (x5 : Int32) (T : xF) : Option ((Int32 ⊕ xE) × xF) :=
  k31 x0 x1 x2 x3 x4 (x5 + 1) T
theorem c_X1_greatest_90_ok {G : xG}  {T0 : xF} {k31 : Option Nat → Int32 → Int32 → Int32 → Int32 → Int32 → xF → Option ((Int32 ⊕ xE) × xF)} (hk31 : ∀ (x0 : Option Nat) (x1 : Int32) (x2 : Int32) (x3 : Int32) (x4 : Int32) (x5 : Int32) (T : xF) (q : ((Int32 ⊕ xE) × xF)), k31 x0 x1 x2 x3 x4 x5 T = some q → Xr G (mX1_greatest, xrm (61) T0 q.2, T0, xoI q.1, q.2) 31 [(0, va_rf x0), (1, .int x1), (2, .int x2), (3, .int x3), (4, .int x4), (5, .int x5)] [] T) (x0 : Option Nat) (x1 : Int32) (x2 : Int32) (x3 : Int32) (x4 : Int32) (x5 : Int32) (T : xF) (q : ((Int32 ⊕ xE) × xF)) (hf : c_X1_greatest_90 k31 x0 x1 x2 x3 x4 x5 T = some q) : Xr G (mX1_greatest, xrm (61) T0 q.2, T0, xoI q.1, q.2) 90 [(0, va_rf x0), (1, .int x1), (2, .int x2), (3, .int x3), (4, .int x4), (5, .int x5)] [] T := by
  unfold c_X1_greatest_90 at hf
  refine C.iinc (v := (x5 + 1)) (L' := [(5, .int (x5 + 1)), (0, va_rf x0), (1, .int x1), (2, .int x2), (3, .int x3), (4, .int x4)]) dX1_greatest_90 5 rfl rfl (Nat.le_of_ble_eq_true rfl) (xcQ (xcI (xcI (xcI (xcI (xcI xcN)))))) rfl ?_
  refine X.goto (tgt := 31) dX1_greatest_93 (by decide) ?_
  refine X.sub [1, 2, 3, 4, 5, 0] (L' := [(0, va_rf x0), (1, .int x1), (2, .int x2), (3, .int x3), (4, .int x4), (5, .int (x5 + 1))]) rfl ?_
  exact hk31 _ _ _ _ _ _ _ _ hf
def c_X1_greatest_71 (k31 : Option Nat → Int32 → Int32 → Int32 → Int32 → Int32 → xF → Option ((Int32 ⊕ xE) × xF)) (x0 : Option Nat) (x1 : Int32) (x2 : Int32) (x3 : Int32) (x4 : Int32) (x5 : Int32) (y0 : Int32) (T : xF) : Option ((Int32 ⊕ xE) × xF) :=
  if x4 < y0 then
    c_X1_greatest_90 k31 x0 x1 x2 x5 y0 x5 T
  else
    c_X1_greatest_90 k31 x0 x1 x2 x3 x4 x5 T
theorem c_X1_greatest_71_ok {G : xG}  {T0 : xF} {k31 : Option Nat → Int32 → Int32 → Int32 → Int32 → Int32 → xF → Option ((Int32 ⊕ xE) × xF)} (hk31 : ∀ (x0 : Option Nat) (x1 : Int32) (x2 : Int32) (x3 : Int32) (x4 : Int32) (x5 : Int32) (T : xF) (q : ((Int32 ⊕ xE) × xF)), k31 x0 x1 x2 x3 x4 x5 T = some q → Xr G (mX1_greatest, xrm (61) T0 q.2, T0, xoI q.1, q.2) 31 [(0, va_rf x0), (1, .int x1), (2, .int x2), (3, .int x3), (4, .int x4), (5, .int x5)] [] T) (x0 : Option Nat) (x1 : Int32) (x2 : Int32) (x3 : Int32) (x4 : Int32) (x5 : Int32) (y0 : Int32) (T : xF) (q : ((Int32 ⊕ xE) × xF)) (hf : c_X1_greatest_71 k31 x0 x1 x2 x3 x4 x5 y0 T = some q) : Xr G (mX1_greatest, xrm (61) T0 q.2, T0, xoI q.1, q.2) 71 [(0, va_rf x0), (1, .int x1), (2, .int x2), (3, .int x3), (4, .int x4), (5, .int x5)] [.int y0] T := by
  unfold c_X1_greatest_71 at hf
  refine C.ist (L' := [(6, .int y0), (0, va_rf x0), (1, .int x1), (2, .int x2), (3, .int x3), (4, .int x4), (5, .int x5)]) dX1_greatest_71 (Nat.le_of_ble_eq_true rfl) (xcQ (xcI (xcI (xcI (xcI (xcI xcN)))))) rfl ?_
  refine X.iload dX1_greatest_73 0 rfl ?_
  refine X.iload dX1_greatest_75 5 rfl ?_
  refine X.icmp_gt (tgt := 83) dX1_greatest_77 (by decide) (fun c77 => ?_) (fun c77 => ?_)
  · have hf := if_t c77 hf
    refine X.iload dX1_greatest_83 6 rfl ?_
    refine C.ist_n (L' := [(3, .int x5), (6, .int y0), (0, va_rf x0), (1, .int x1), (2, .int x2), (4, .int x4), (5, .int x5)]) dX1_greatest_85 rfl (Nat.le_of_ble_eq_true rfl) (xcI (xcQ (xcI (xcI (xcI (xcI (xcI xcN))))))) rfl ?_
    refine X.iload dX1_greatest_86 1 rfl ?_
    refine C.ist (L' := [(4, .int y0), (3, .int x5), (6, .int y0), (0, va_rf x0), (1, .int x1), (2, .int x2), (5, .int x5)]) dX1_greatest_88 (Nat.le_of_ble_eq_true rfl) (xcI (xcI (xcQ (xcI (xcI (xcI (xcI xcN))))))) rfl ?_
    refine X.sub [3, 4, 5, 1, 0, 6] (L' := [(0, va_rf x0), (1, .int x1), (2, .int x2), (3, .int x5), (4, .int y0), (5, .int x5)]) rfl ?_
    exact c_X1_greatest_90_ok hk31 _ _ _ _ _ _ _ _ hf
  · have hf := if_f c77 hf
    refine X.goto (tgt := 90) dX1_greatest_80 (by decide) ?_
    refine X.sub [1, 2, 3, 4, 5, 6] (L' := [(0, va_rf x0), (1, .int x1), (2, .int x2), (3, .int x3), (4, .int x4), (5, .int x5)]) rfl ?_
    exact c_X1_greatest_90_ok hk31 _ _ _ _ _ _ _ _ hf
def c_X1_greatest_31_b (k31 : Option Nat → Int32 → Int32 → Int32 → Int32 → Int32 → xF → Option ((Int32 ⊕ xE) × xF)) (x0 : Option Nat) (x1 : Int32) (x2 : Int32) (x3 : Int32) (x4 : Int32) (x5 : Int32) (T : xF) : Option ((Int32 ⊕ xE) × xF) :=
  (oQ T x0 0 1).bind fun v34 =>
  if ¬ isO T v34 1 = true then none else
  (c_X2_cells T v34).bind fun v37 =>
  if v37 ≤ x5 then
    if x2 = 0 then
      some (.inl x4, T)
    else
      some (.inl x3, T)
  else
    (oQ T x0 0 4).bind fun v44 =>
    (oQ T v44 2 2).bind fun v47 =>
    (ldA T v47 .int x5).bind fun v52 =>
    if v52 = x1 then
      if ¬ isO T x0 0 = true then none else
      (cS T SFU x0 x5 (0 : Int32)).bind fun v61 =>
      (c_J14_bitCount v61).bind fun v64 =>
      c_X1_greatest_71 k31 x0 x1 x2 x3 x4 x5 v64 T
    else
      c_X1_greatest_71 k31 x0 x1 x2 x3 x4 x5 (0 : Int32) T
def c_X1_greatest_31 : Nat → Option Nat → Int32 → Int32 → Int32 → Int32 → Int32 → xF → Option ((Int32 ⊕ xE) × xF)
  | 0 => fun _ _ _ _ _ _ _ => none
  | n + 1 => fun x0 x1 x2 x3 x4 x5 T => c_X1_greatest_31_b (c_X1_greatest_31 n) x0 x1 x2 x3 x4 x5 T
theorem c_X1_greatest_31_bok {G : xG}  {T0 : xF}  {k31 : Option Nat → Int32 → Int32 → Int32 → Int32 → Int32 → xF → Option ((Int32 ⊕ xE) × xF)}  (hk31 : ∀ (x0 : Option Nat) (x1 : Int32) (x2 : Int32) (x3 : Int32) (x4 : Int32) (x5 : Int32) (T : xF) (q : ((Int32 ⊕ xE) × xF)), k31 x0 x1 x2 x3 x4 x5 T = some q → Xr G (mX1_greatest, xrm (61) T0 q.2, T0, xoI q.1, q.2) 31 [(0, va_rf x0), (1, .int x1), (2, .int x2), (3, .int x3), (4, .int x4), (5, .int x5)] [] T) (x0 : Option Nat) (x1 : Int32) (x2 : Int32) (x3 : Int32) (x4 : Int32) (x5 : Int32) (T : xF) (q : ((Int32 ⊕ xE) × xF)) (hf : c_X1_greatest_31_b k31 x0 x1 x2 x3 x4 x5 T = some q) : Xr G (mX1_greatest, xrm (61) T0 q.2, T0, xoI q.1, q.2) 31 [(0, va_rf x0), (1, .int x1), (2, .int x2), (3, .int x3), (4, .int x4), (5, .int x5)] [] T := by
  unfold c_X1_greatest_31_b at hf
  refine X.iload dX1_greatest_31 5 rfl ?_
  refine C.aload_n dX1_greatest_33 rfl 0 rfl ?_
  obtain ⟨v34, h34, hf⟩ := ob hf
  refine C.getQ dX1_greatest_34 rX1_22 h34 ?_
  obtain ⟨c37, hf⟩ := if_n hf
  obtain ⟨v37, h37, hf⟩ := ob hf
  refine X.keep fun l37 => C.Vi (As := []) (rest := [.int x5]) dX1_greatest_37 (w_X2_cells h37) cX1_92 (Classical.not_not.mp c37) rfl rfl (xcs (xvI xvN) (Nat.le_of_ble_eq_true rfl)) rfl rfl (xD (Nat.le_of_ble_eq_true rfl)) xle.rf l37 ?_
  refine X.icmp_ge (tgt := 96) dX1_greatest_40 (by decide) (fun c40 => ?_) (fun c40 => ?_)
  · have hf := if_t c40 hf
    refine X.iload_n dX1_greatest_96 rfl 2 rfl ?_
    refine X.if_ne (tgt := 105) dX1_greatest_97 (by decide) (fun c97 => ?_) (fun c97 => ?_)
    · have hf := if_f c97 hf
      refine X.iload_n dX1_greatest_105 rfl 3 rfl ?_
      obtain rfl := Option.some.inj hf
      exact X.iret dX1_greatest_106 rfl rfl rfl
    · have hf := if_t c97 hf
      refine X.iload dX1_greatest_100 4 rfl ?_
      refine X.goto (tgt := 106) dX1_greatest_102 (by decide) ?_
      obtain rfl := Option.some.inj hf
      exact X.iret dX1_greatest_106 rfl rfl rfl
  · have hf := if_f c40 hf
    refine C.aload_n dX1_greatest_43 rfl 0 rfl ?_
    obtain ⟨v44, h44, hf⟩ := ob hf
    refine C.getQ dX1_greatest_44 rX1_38 h44 ?_
    obtain ⟨v47, h47, hf⟩ := ob hf
    refine C.getQ dX1_greatest_47 rX1_96 h47 ?_
    refine X.iload dX1_greatest_50 5 rfl ?_
    obtain ⟨v52, h52, hf⟩ := ob hf
    refine C.iald dX1_greatest_52 h52 ?_
    refine X.iload_n dX1_greatest_53 rfl 1 rfl ?_
    refine X.icmp_ne (tgt := 70) dX1_greatest_54 (by decide) (fun c54 => ?_) (fun c54 => ?_)
    · have hf := if_f c54 hf
      refine X.iconst (v := 0) dX1_greatest_70 (by decide) ?_
      refine X.sub [0, 1, 2, 3, 4, 5] (L' := [(0, va_rf x0), (1, .int x1), (2, .int x2), (3, .int x3), (4, .int x4), (5, .int x5)]) rfl ?_
      exact c_X1_greatest_71_ok hk31 _ _ _ _ _ _ _ _ _ hf
    · have hf := if_t c54 hf
      refine C.aload_n dX1_greatest_57 rfl 0 rfl ?_
      refine X.iload dX1_greatest_58 5 rfl ?_
      refine X.iconst (v := 0) dX1_greatest_60 (by decide) ?_
      obtain ⟨c61, hf⟩ := if_n hf
      obtain ⟨v61, h61, hf⟩ := ob hf
      refine X.keep fun l61 => C.Vi (As := [.int x5, .int (0 : Int32)]) (rest := []) dX1_greatest_61 (wS SFU _ _ _ _ h61) cX1_287 (Classical.not_not.mp c61) rfl rfl (xcs xvN (Nat.le_of_ble_eq_true rfl)) rfl rfl (xD (Nat.le_of_ble_eq_true rfl)) xle.rf l61 ?_
      obtain ⟨v64, h64, hf⟩ := ob hf
      refine X.keep fun l64 => C.Si (As := [.int v61]) (rest := []) dX1_greatest_64 (w_J14_bitCount h64) cX1_253 rfl rfl (xcs xvN (Nat.le_of_ble_eq_true rfl)) (xD (Nat.le_of_ble_eq_true rfl)) xle.rf l64 ?_
      refine X.goto (tgt := 71) dX1_greatest_67 (by decide) ?_
      refine X.sub [0, 1, 2, 3, 4, 5] (L' := [(0, va_rf x0), (1, .int x1), (2, .int x2), (3, .int x3), (4, .int x4), (5, .int x5)]) rfl ?_
      exact c_X1_greatest_71_ok hk31 _ _ _ _ _ _ _ _ _ hf
theorem c_X1_greatest_31_ok {G : xG}  {T0 : xF}   : ∀ (n : Nat) (x0 : Option Nat) (x1 : Int32) (x2 : Int32) (x3 : Int32) (x4 : Int32) (x5 : Int32) (T : xF) (q : ((Int32 ⊕ xE) × xF)), c_X1_greatest_31 n x0 x1 x2 x3 x4 x5 T = some q → Xr G (mX1_greatest, xrm (61) T0 q.2, T0, xoI q.1, q.2) 31 [(0, va_rf x0), (1, .int x1), (2, .int x2), (3, .int x3), (4, .int x4), (5, .int x5)] [] T
  | 0, _, _, _, _, _, _, _, _, hf => by cases hf
  | n + 1, x0, x1, x2, x3, x4, x5, T, q, hf => c_X1_greatest_31_bok (c_X1_greatest_31_ok n) x0 x1 x2 x3 x4 x5 T q hf
def c_X1_greatest (x0 : Option Nat) (x1 : Int32) (x2 : Int32) (T : xF) : Option ((Int32 ⊕ xE) × xF) :=
  (oQ T x0 0 1).bind fun v2 =>
  (oQ T v2 1 0).bind fun v5 =>
  if ¬ isO T v5 10 = true then none else
  (c_J2_size T v5).bind fun v8 =>
  clX (c_X1_oneOf x1 (v8 - (1 : Int32)) T) T fun v15 T15 =>
  clX (c_X1_oneOf x2 (1 : Int32) T15) T15 fun v20 T20 =>
  c_X1_greatest_31 FU x0 x1 x2 (-1 : Int32) (0 : Int32) (0 : Int32) T20
theorem w_X1_greatest {G : xG}  {T : xF} {x0 : Option Nat} {x1 : Int32} {x2 : Int32} {q : ((Int32 ⊕ xE) × xF)} (hf : c_X1_greatest x0 x1 x2 T = some q) : Ct G mX1_greatest (61) T [va_rf x0, .int x1, .int x2] (xoI q.1) q.2 := by
  refine Ct.ofc (plainFor_of_name (by decide +kernel)) rfl (xvQ (xvI (xvI xvN))) (Nat.le_of_ble_eq_true rfl) (show Xr G _ 0 [(0, va_rf x0), (1, .int x1), (2, .int x2)] [] _ from ?_)
  unfold c_X1_greatest at hf
  refine X.iload_n dX1_greatest_0 rfl 1 rfl ?_
  refine C.aload_n dX1_greatest_1 rfl 0 rfl ?_
  obtain ⟨v2, h2, hf⟩ := ob hf
  refine C.getQ dX1_greatest_2 rX1_22 h2 ?_
  obtain ⟨v5, h5, hf⟩ := ob hf
  refine C.getQ dX1_greatest_5 rX1_101 h5 ?_
  obtain ⟨c8, hf⟩ := if_n hf
  obtain ⟨v8, h8, hf⟩ := ob hf
  refine X.keep fun l8 => C.Fi (As := []) (rest := [.int x1]) dX1_greatest_8 (w_J2_size h8) cX1_104 (Classical.not_not.mp c8) rfl rfl (xcs (xvI xvN) (Nat.le_of_ble_eq_true rfl)) rfl rfl (xD (Nat.le_of_ble_eq_true rfl)) xle.rf l8 ?_
  refine X.iconst (v := 1) dX1_greatest_13 (by decide) ?_
  refine X.isub dX1_greatest_14 ?_
  rcases clX_ok hf with ⟨v15, T15, h15, hf, l15, r15⟩ | ⟨e15, T15, h15, rfl, l15⟩
  rotate_left
  · exact C.Sx (As := [.int x1, .int (v8 - (1 : Int32))]) (rest := []) dX1_greatest_15 (w_X1_oneOf h15) cX1_163 rfl rfl (xcs xvN (Nat.le_of_ble_eq_true rfl)) (xD (Nat.le_of_ble_eq_true rfl)) l15 xle.rf (xnoh rfl) rfl
  refine C.Sv (As := [.int x1, .int (v8 - (1 : Int32))]) (rest := []) dX1_greatest_15 (w_X1_oneOf h15) cX1_163 rfl rfl (xcs xvN (Nat.le_of_ble_eq_true rfl)) (xD (Nat.le_of_ble_eq_true rfl)) l15 r15 ?_
  refine X.iload_n dX1_greatest_18 rfl 2 rfl ?_
  refine X.iconst (v := 1) dX1_greatest_19 (by decide) ?_
  rcases clX_ok hf with ⟨v20, T20, h20, hf, l20, r20⟩ | ⟨e20, T20, h20, rfl, l20⟩
  rotate_left
  · exact C.Sx (As := [.int x2, .int (1 : Int32)]) (rest := []) dX1_greatest_20 (w_X1_oneOf h20) cX1_163 rfl rfl (xcs xvN (Nat.le_of_ble_eq_true rfl)) (xD (Nat.le_of_ble_eq_true rfl)) l20 xle.rf (xnoh rfl) rfl
  refine C.Sv (As := [.int x2, .int (1 : Int32)]) (rest := []) dX1_greatest_20 (w_X1_oneOf h20) cX1_163 rfl rfl (xcs xvN (Nat.le_of_ble_eq_true rfl)) (xD (Nat.le_of_ble_eq_true rfl)) l20 r20 ?_
  refine X.iconst (v := -1) dX1_greatest_23 (by decide) ?_
  refine C.ist_n (L' := [(3, .int (-1 : Int32)), (0, va_rf x0), (1, .int x1), (2, .int x2)]) dX1_greatest_24 rfl (Nat.le_of_ble_eq_true rfl) (xcQ (xcI (xcI xcN))) rfl ?_
  refine X.iconst (v := 0) dX1_greatest_25 (by decide) ?_
  refine C.ist (L' := [(4, .int (0 : Int32)), (3, .int (-1 : Int32)), (0, va_rf x0), (1, .int x1), (2, .int x2)]) dX1_greatest_26 (Nat.le_of_ble_eq_true rfl) (xcI (xcQ (xcI (xcI xcN)))) rfl ?_
  refine X.iconst (v := 0) dX1_greatest_28 (by decide) ?_
  refine C.ist (L' := [(5, .int (0 : Int32)), (4, .int (0 : Int32)), (3, .int (-1 : Int32)), (0, va_rf x0), (1, .int x1), (2, .int x2)]) dX1_greatest_29 (Nat.le_of_ble_eq_true rfl) (xcI (xcI (xcQ (xcI (xcI xcN))))) rfl ?_
  refine X.sub [3, 4, 5, 2, 1, 0] (L' := [(0, va_rf x0), (1, .int x1), (2, .int x2), (3, .int (-1 : Int32)), (4, .int (0 : Int32)), (5, .int (0 : Int32))]) rfl ?_
  exact c_X1_greatest_31_ok FU _ _ _ _ _ _ _ _ hf
