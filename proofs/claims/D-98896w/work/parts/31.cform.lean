set_option maxRecDepth 100000
abbrev cX7_of : ByteArray := prog_2_method_4_code
def yX7_of : MethodName := ⟨RX7, "of", "([I)I"⟩
def dkwX7_of_3 : List UInt8 := [132, 3, 1, 167, 255, 206, 28, 172]
abbrev dktX7_of_3 : List UInt8 := dkwX7_of_3 ++ []
def dkwX7_of_2 : List UInt8 := [180, 0, 10, 29, 185, 0, 37, 2, 0, 192, 0, 41, 43, 185, 0, 43, 2, 0, 184, 0, 51, 61]
abbrev dktX7_of_2 : List UInt8 := dkwX7_of_2 ++ dktX7_of_3
def dkwX7_of_1 : List UInt8 := [180, 0, 10, 185, 0, 33, 1, 0, 162, 0, 43, 42, 180, 0, 19, 29, 4, 100, 182, 0, 47, 28, 42]
abbrev dktX7_of_1 : List UInt8 := dkwX7_of_1 ++ dktX7_of_2
def dkwX7_of_0 : List UInt8 := [42, 180, 0, 10, 3, 185, 0, 37, 2, 0, 192, 0, 41, 43, 185, 0, 43, 2, 0, 61, 4, 62, 29, 42]
abbrev dktX7_of_0 : List UInt8 := dkwX7_of_0 ++ dktX7_of_1
theorem dksX7_of_0 : cX7_of.data.toList.drop 0 = dktX7_of_0 := by decide +kernel
theorem dksX7_of_1 : cX7_of.data.toList.drop 24 = dktX7_of_1 := dk_seg dksX7_of_0 24 rfl rfl
theorem dksX7_of_2 : cX7_of.data.toList.drop 47 = dktX7_of_2 := dk_seg dksX7_of_1 23 rfl rfl
theorem dksX7_of_3 : cX7_of.data.toList.drop 69 = dktX7_of_3 := dk_seg dksX7_of_2 22 rfl rfl
theorem dX7_of_0 : decode cX7_of 0 = .ok (.aload_n 0, 1) := dk_42 (dk_at dksX7_of_0 0 rfl rfl)
theorem dX7_of_1 : decode cX7_of 1 = .ok (.getfield 10, 3) := dk_180 0 10 (dk_at dksX7_of_0 1 rfl rfl)
theorem dX7_of_4 : decode cX7_of 4 = .ok (.iconst 0, 1) := dk_3 (dk_at dksX7_of_0 4 rfl rfl)
theorem dX7_of_5 : decode cX7_of 5 = .ok (.invokeinterface 37 2, 5) := by decide +kernel
theorem dX7_of_10 : decode cX7_of 10 = .ok (.checkcast 41, 3) := dk_192 0 41 (dk_at dksX7_of_0 10 rfl rfl)
theorem dX7_of_13 : decode cX7_of 13 = .ok (.aload_n 1, 1) := dk_43 (dk_at dksX7_of_0 13 rfl rfl)
theorem dX7_of_14 : decode cX7_of 14 = .ok (.invokeinterface 43 2, 5) := by decide +kernel
theorem dX7_of_19 : decode cX7_of 19 = .ok (.istore_n 2, 1) := dk_61 (dk_at dksX7_of_0 19 rfl rfl)
theorem dX7_of_20 : decode cX7_of 20 = .ok (.iconst 1, 1) := dk_4 (dk_at dksX7_of_0 20 rfl rfl)
theorem dX7_of_21 : decode cX7_of 21 = .ok (.istore_n 3, 1) := dk_62 (dk_at dksX7_of_0 21 rfl rfl)
theorem dX7_of_22 : decode cX7_of 22 = .ok (.iload_n 3, 1) := dk_29 (dk_at dksX7_of_0 22 rfl rfl)
theorem dX7_of_23 : decode cX7_of 23 = .ok (.aload_n 0, 1) := dk_42 (dk_at dksX7_of_0 23 rfl rfl)
theorem dX7_of_24 : decode cX7_of 24 = .ok (.getfield 10, 3) := dk_180 0 10 (dk_at dksX7_of_1 0 rfl rfl)
theorem dX7_of_27 : decode cX7_of 27 = .ok (.invokeinterface 33 1, 5) := by decide +kernel
theorem dX7_of_32 : decode cX7_of 32 = .ok (.if_icmp .ge 43, 3) := dk_162 0 43 (dk_at dksX7_of_1 8 rfl rfl)
theorem dX7_of_35 : decode cX7_of 35 = .ok (.aload_n 0, 1) := dk_42 (dk_at dksX7_of_1 11 rfl rfl)
theorem dX7_of_36 : decode cX7_of 36 = .ok (.getfield 19, 3) := dk_180 0 19 (dk_at dksX7_of_1 12 rfl rfl)
theorem dX7_of_39 : decode cX7_of 39 = .ok (.iload_n 3, 1) := dk_29 (dk_at dksX7_of_1 15 rfl rfl)
theorem dX7_of_40 : decode cX7_of 40 = .ok (.iconst 1, 1) := dk_4 (dk_at dksX7_of_1 16 rfl rfl)
theorem dX7_of_41 : decode cX7_of 41 = .ok (.isub, 1) := dk_100 (dk_at dksX7_of_1 17 rfl rfl)
theorem dX7_of_42 : decode cX7_of 42 = .ok (.invokevirtual 47, 3) := dk_182 0 47 (dk_at dksX7_of_1 18 rfl rfl)
theorem dX7_of_45 : decode cX7_of 45 = .ok (.iload_n 2, 1) := dk_28 (dk_at dksX7_of_1 21 rfl rfl)
theorem dX7_of_46 : decode cX7_of 46 = .ok (.aload_n 0, 1) := dk_42 (dk_at dksX7_of_1 22 rfl rfl)
theorem dX7_of_47 : decode cX7_of 47 = .ok (.getfield 10, 3) := dk_180 0 10 (dk_at dksX7_of_2 0 rfl rfl)
theorem dX7_of_50 : decode cX7_of 50 = .ok (.iload_n 3, 1) := dk_29 (dk_at dksX7_of_2 3 rfl rfl)
theorem dX7_of_51 : decode cX7_of 51 = .ok (.invokeinterface 37 2, 5) := by decide +kernel
theorem dX7_of_56 : decode cX7_of 56 = .ok (.checkcast 41, 3) := dk_192 0 41 (dk_at dksX7_of_2 9 rfl rfl)
theorem dX7_of_59 : decode cX7_of 59 = .ok (.aload_n 1, 1) := dk_43 (dk_at dksX7_of_2 12 rfl rfl)
theorem dX7_of_60 : decode cX7_of 60 = .ok (.invokeinterface 43 2, 5) := by decide +kernel
theorem dX7_of_65 : decode cX7_of 65 = .ok (.invokestatic 51, 3) := dk_184 0 51 (dk_at dksX7_of_2 18 rfl rfl)
theorem dX7_of_68 : decode cX7_of 68 = .ok (.istore_n 2, 1) := dk_61 (dk_at dksX7_of_2 21 rfl rfl)
theorem dX7_of_69 : decode cX7_of 69 = .ok (.iinc 3 1, 3) := dk_132 3 1 (dk_at dksX7_of_3 0 rfl rfl)
theorem dX7_of_72 : decode cX7_of 72 = .ok (.goto (-50), 3) := dk_167 255 206 (dk_at dksX7_of_3 3 rfl rfl)
theorem dX7_of_75 : decode cX7_of 75 = .ok (.iload_n 2, 1) := dk_28 (dk_at dksX7_of_3 6 rfl rfl)
theorem dX7_of_76 : decode cX7_of 76 = .ok (.ireturn, 1) := dk_172 (dk_at dksX7_of_3 7 rfl rfl)
abbrev mX7_of : xM := (yX7_of, cX7_of, 4, (some .int), [])
abbrev cX8_of : ByteArray := prog_6_method_2_code
def yX8_of : MethodName := ⟨RX8, "of", "([I)I"⟩
theorem dX8_of_0 : decode cX8_of 0 = .ok (.aload_n 0, 1) := by decide +kernel
theorem dX8_of_1 : decode cX8_of 1 = .ok (.getfield 7, 3) := by decide +kernel
theorem dX8_of_4 : decode cX8_of 4 = .ok (.ireturn, 1) := by decide +kernel
abbrev mX8_of : xM := (yX8_of, cX8_of, 2, (some .int), [])
abbrev cX9_of : ByteArray := prog_9_method_2_code
def yX9_of : MethodName := ⟨RX9, "of", "([I)I"⟩
def dkwX9_of_0 : List UInt8 := [43, 42, 180, 0, 7, 46, 172]
abbrev dktX9_of_0 : List UInt8 := dkwX9_of_0 ++ []
theorem dksX9_of_0 : cX9_of.data.toList.drop 0 = dktX9_of_0 := by decide +kernel
theorem dX9_of_0 : decode cX9_of 0 = .ok (.aload_n 1, 1) := dk_43 (dk_at dksX9_of_0 0 rfl rfl)
theorem dX9_of_1 : decode cX9_of 1 = .ok (.aload_n 0, 1) := dk_42 (dk_at dksX9_of_0 1 rfl rfl)
theorem dX9_of_2 : decode cX9_of 2 = .ok (.getfield 7, 3) := dk_180 0 7 (dk_at dksX9_of_0 2 rfl rfl)
theorem dX9_of_5 : decode cX9_of 5 = .ok (.iaload, 1) := dk_46 (dk_at dksX9_of_0 5 rfl rfl)
theorem dX9_of_6 : decode cX9_of 6 = .ok (.ireturn, 1) := dk_172 (dk_at dksX9_of_0 6 rfl rfl)
abbrev mX9_of : xM := (yX9_of, cX9_of, 2, (some .int), [])
abbrev cX10_of : ByteArray := prog_5_method_2_code
def yX10_of : MethodName := ⟨RX10, "of", "([I)I"⟩
def dkwX10_of_0 : List UInt8 := [42, 180, 0, 7, 43, 185, 0, 13, 2, 0, 154, 0, 7, 4, 167, 0, 4, 3, 172]
abbrev dktX10_of_0 : List UInt8 := dkwX10_of_0 ++ []
theorem dksX10_of_0 : cX10_of.data.toList.drop 0 = dktX10_of_0 := by decide +kernel
theorem dX10_of_0 : decode cX10_of 0 = .ok (.aload_n 0, 1) := dk_42 (dk_at dksX10_of_0 0 rfl rfl)
theorem dX10_of_1 : decode cX10_of 1 = .ok (.getfield 7, 3) := dk_180 0 7 (dk_at dksX10_of_0 1 rfl rfl)
theorem dX10_of_4 : decode cX10_of 4 = .ok (.aload_n 1, 1) := dk_43 (dk_at dksX10_of_0 4 rfl rfl)
theorem dX10_of_5 : decode cX10_of 5 = .ok (.invokeinterface 13 2, 5) := by decide +kernel
theorem dX10_of_10 : decode cX10_of 10 = .ok (.ifCond .ne 7, 3) := dk_154 0 7 (dk_at dksX10_of_0 10 rfl rfl)
theorem dX10_of_13 : decode cX10_of 13 = .ok (.iconst 1, 1) := dk_4 (dk_at dksX10_of_0 13 rfl rfl)
theorem dX10_of_14 : decode cX10_of 14 = .ok (.goto 4, 3) := dk_167 0 4 (dk_at dksX10_of_0 14 rfl rfl)
theorem dX10_of_17 : decode cX10_of 17 = .ok (.iconst 0, 1) := dk_3 (dk_at dksX10_of_0 17 rfl rfl)
theorem dX10_of_18 : decode cX10_of 18 = .ok (.ireturn, 1) := dk_172 (dk_at dksX10_of_0 18 rfl rfl)
abbrev mX10_of : xM := (yX10_of, cX10_of, 2, (some .int), [])
def ofM : List (xM × Nat) := [(mX7_of, 6), (mX8_of, 7), (mX9_of, 8), (mX10_of, 9)]
/-- a rule answers: by one of its four kinds -/
def OfOK (G : xG) (D : Nat) (r v : Option Nat) (T : xF) (y : Int32) : Prop := ∃ (M : xM) (ci Dc : Nat), (M, ci) ∈ ofM ∧ Dc ≤ D ∧ isO T r ci = true ∧ Ct G M Dc T [va_rf r, va_rf v] (.inl (some (.int y))) T
def xForm (own : String) (index : Nat) : Prop := ∀ (M : xM) (ci : Nat), (M, ci) ∈ ofM → ∃ rr : vw_C, xCl[ci]? = some rr ∧ xCF own index rr.1 ⟨"MouldVotes$Form", "of", "([I)I"⟩ M 1
theorem C.form {G : xG} {Y : xR} {pc : Nat} {L : List (Nat × Value)} {rest : List Value} {T : xF} {index cnt Do : Nat} {r v : Option Nat} {y : Int32} {st : List Value} (d : decode Y.1.2.1 pc = .ok (.invokeinterface index cnt, 5)) (hct : OfOK G Do r v T y) (hq : xForm Y.1.1.cls index) (hst : st = va_rf v :: va_rf r :: rest) (hrs : (rest.map fun v => v.category).sum ≤ 8) (hD : Do + 1 ≤ Y.2.1.frames ∧ 64 * Do + 64 ≤ Y.2.1.locals) (h3 : xle T Y.2.2.2.2) (k : Xr G Y (pc + 5) L (.int y :: rest) T) : Xr G Y pc L st T := by
  obtain ⟨M, ci, Dc, h1, h2, h4, h5⟩ := hct
  obtain ⟨rr, h6, h7⟩ := hq M ci h1
  exact C.Fi (As := [va_rf v]) (rest := rest) d h5 h7 h4 rfl hst hrs h6 rfl ⟨by omega, by omega⟩ xle.rf h3 k
theorem cFX7_43 : xForm RX7 43 := by
  intro M ci h
  simp only [ofM, List.mem_cons, List.not_mem_nil, or_false, Prod.mk.injEq] at h
  rcases h with ⟨rfl, rfl⟩ | ⟨rfl, rfl⟩ | ⟨rfl, rfl⟩ | ⟨rfl, rfl⟩
  · exact ⟨_, rfl, ⟨lw_F q531 q522 q524 q146 q526, rfl, ⟨by decide +kernel, by decide +kernel, by decide +kernel⟩, Nat.le_of_ble_eq_true rfl, by decide⟩⟩
  · exact ⟨_, rfl, ⟨lw_F q531 q541 q543 q147 q545, rfl, ⟨by decide +kernel, by decide +kernel, by decide +kernel⟩, Nat.le_of_ble_eq_true rfl, by decide⟩⟩
  · exact ⟨_, rfl, ⟨lw_F q531 q547 q549 q148 q551, rfl, ⟨by decide +kernel, by decide +kernel, by decide +kernel⟩, Nat.le_of_ble_eq_true rfl, by decide⟩⟩
  · exact ⟨_, rfl, ⟨lw_F q531 q533 q535 q152 q537, rfl, ⟨by decide +kernel, by decide +kernel, by decide +kernel⟩, Nat.le_of_ble_eq_true rfl, by decide⟩⟩
theorem cFX3_73 : xForm RX3 73 := by
  intro M ci h
  simp only [ofM, List.mem_cons, List.not_mem_nil, or_false, Prod.mk.injEq] at h
  rcases h with ⟨rfl, rfl⟩ | ⟨rfl, rfl⟩ | ⟨rfl, rfl⟩ | ⟨rfl, rfl⟩
  · exact ⟨_, rfl, ⟨lw_F q518 q522 q524 q146 q526, rfl, ⟨by decide +kernel, by decide +kernel, by decide +kernel⟩, Nat.le_of_ble_eq_true rfl, by decide⟩⟩
  · exact ⟨_, rfl, ⟨lw_F q518 q541 q543 q147 q545, rfl, ⟨by decide +kernel, by decide +kernel, by decide +kernel⟩, Nat.le_of_ble_eq_true rfl, by decide⟩⟩
  · exact ⟨_, rfl, ⟨lw_F q518 q547 q549 q148 q551, rfl, ⟨by decide +kernel, by decide +kernel, by decide +kernel⟩, Nat.le_of_ble_eq_true rfl, by decide⟩⟩
  · exact ⟨_, rfl, ⟨lw_F q518 q533 q535 q152 q537, rfl, ⟨by decide +kernel, by decide +kernel, by decide +kernel⟩, Nat.le_of_ble_eq_true rfl, by decide⟩⟩
theorem cFX10_13 : xForm RX10 13 := by
  intro M ci h
  simp only [ofM, List.mem_cons, List.not_mem_nil, or_false, Prod.mk.injEq] at h
  rcases h with ⟨rfl, rfl⟩ | ⟨rfl, rfl⟩ | ⟨rfl, rfl⟩ | ⟨rfl, rfl⟩
  · exact ⟨_, rfl, ⟨lw_F q539 q522 q524 q146 q526, rfl, ⟨by decide +kernel, by decide +kernel, by decide +kernel⟩, Nat.le_of_ble_eq_true rfl, by decide⟩⟩
  · exact ⟨_, rfl, ⟨lw_F q539 q541 q543 q147 q545, rfl, ⟨by decide +kernel, by decide +kernel, by decide +kernel⟩, Nat.le_of_ble_eq_true rfl, by decide⟩⟩
  · exact ⟨_, rfl, ⟨lw_F q539 q547 q549 q148 q551, rfl, ⟨by decide +kernel, by decide +kernel, by decide +kernel⟩, Nat.le_of_ble_eq_true rfl, by decide⟩⟩
  · exact ⟨_, rfl, ⟨lw_F q539 q533 q535 q152 q537, rfl, ⟨by decide +kernel, by decide +kernel, by decide +kernel⟩, Nat.le_of_ble_eq_true rfl, by decide⟩⟩
