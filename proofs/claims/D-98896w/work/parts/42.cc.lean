set_option maxRecDepth 100000
/-! MouldVotes patch -/
abbrev cX1_patch : ByteArray := prog_1_method_59_code
def yX1_patch : MethodName := ⟨RX1, "patch", "(I)I"⟩
def dkwX1_patch_1 : List UInt8 := [3, 182, 1, 31, 172]
abbrev dktX1_patch_1 : List UInt8 := dkwX1_patch_1 ++ []
def dkwX1_patch_0 : List UInt8 := [42, 27, 182, 0, 145, 42, 180, 0, 38, 180, 0, 96, 27, 46, 2, 160, 0, 7, 3, 167, 0, 9, 42, 27]
abbrev dktX1_patch_0 : List UInt8 := dkwX1_patch_0 ++ dktX1_patch_1
theorem dksX1_patch_0 : cX1_patch.data.toList.drop 0 = dktX1_patch_0 := by decide +kernel
theorem dksX1_patch_1 : cX1_patch.data.toList.drop 24 = dktX1_patch_1 := dk_seg dksX1_patch_0 24 rfl rfl
theorem dX1_patch_0 : decode cX1_patch 0 = .ok (.aload_n 0, 1) := dk_42 (dk_at dksX1_patch_0 0 rfl rfl)
theorem dX1_patch_1 : decode cX1_patch 1 = .ok (.iload_n 1, 1) := dk_27 (dk_at dksX1_patch_0 1 rfl rfl)
theorem dX1_patch_2 : decode cX1_patch 2 = .ok (.invokevirtual 145, 3) := dk_182 0 145 (dk_at dksX1_patch_0 2 rfl rfl)
theorem dX1_patch_5 : decode cX1_patch 5 = .ok (.aload_n 0, 1) := dk_42 (dk_at dksX1_patch_0 5 rfl rfl)
theorem dX1_patch_6 : decode cX1_patch 6 = .ok (.getfield 38, 3) := dk_180 0 38 (dk_at dksX1_patch_0 6 rfl rfl)
theorem dX1_patch_9 : decode cX1_patch 9 = .ok (.getfield 96, 3) := dk_180 0 96 (dk_at dksX1_patch_0 9 rfl rfl)
theorem dX1_patch_12 : decode cX1_patch 12 = .ok (.iload_n 1, 1) := dk_27 (dk_at dksX1_patch_0 12 rfl rfl)
theorem dX1_patch_13 : decode cX1_patch 13 = .ok (.iaload, 1) := dk_46 (dk_at dksX1_patch_0 13 rfl rfl)
theorem dX1_patch_14 : decode cX1_patch 14 = .ok (.iconst (-1), 1) := dk_2 (dk_at dksX1_patch_0 14 rfl rfl)
theorem dX1_patch_15 : decode cX1_patch 15 = .ok (.if_icmp .ne 7, 3) := dk_160 0 7 (dk_at dksX1_patch_0 15 rfl rfl)
theorem dX1_patch_18 : decode cX1_patch 18 = .ok (.iconst 0, 1) := dk_3 (dk_at dksX1_patch_0 18 rfl rfl)
theorem dX1_patch_19 : decode cX1_patch 19 = .ok (.goto 9, 3) := dk_167 0 9 (dk_at dksX1_patch_0 19 rfl rfl)
theorem dX1_patch_22 : decode cX1_patch 22 = .ok (.aload_n 0, 1) := dk_42 (dk_at dksX1_patch_0 22 rfl rfl)
theorem dX1_patch_23 : decode cX1_patch 23 = .ok (.iload_n 1, 1) := dk_27 (dk_at dksX1_patch_0 23 rfl rfl)
theorem dX1_patch_24 : decode cX1_patch 24 = .ok (.iconst 0, 1) := dk_3 (dk_at dksX1_patch_1 0 rfl rfl)
theorem dX1_patch_25 : decode cX1_patch 25 = .ok (.invokevirtual 287, 3) := dk_182 1 31 (dk_at dksX1_patch_1 1 rfl rfl)
theorem dX1_patch_28 : decode cX1_patch 28 = .ok (.ireturn, 1) := dk_172 (dk_at dksX1_patch_1 4 rfl rfl)
abbrev mX1_patch : xM := (yX1_patch, cX1_patch, 2, (some .int), [])
def c_X1_patch (x0 : Option Nat) (x1 : Int32) (T : xF) : Option ((Int32 ⊕ xE) × xF) :=
  if ¬ isO T x0 0 = true then none else
  clX (c_X1_aCell x0 x1 T) T fun v2 T2 =>
  (oQ T2 x0 0 4).bind fun v6 =>
  (oQ T2 v6 2 2).bind fun v9 =>
  (ldA T2 v9 .int x1).bind fun v13 =>
  if v13 = (-1 : Int32) then
    some (.inl (0 : Int32), T2)
  else
    if ¬ isO T2 x0 0 = true then none else
    (cS T2 SFU x0 x1 (0 : Int32)).bind fun v25 =>
    some (.inl v25, T2)
theorem w_X1_patch {G : xG}  {T : xF} {x0 : Option Nat} {x1 : Int32} {q : ((Int32 ⊕ xE) × xF)} (hf : c_X1_patch x0 x1 T = some q) : Ct G mX1_patch (61) T [va_rf x0, .int x1] (xoI q.1) q.2 := by
  refine Ct.ofc (plainFor_of_name (by decide +kernel)) rfl (xvQ (xvI xvN)) (Nat.le_of_ble_eq_true rfl) (show Xr G _ 0 [(0, va_rf x0), (1, .int x1)] [] _ from ?_)
  unfold c_X1_patch at hf
  refine C.aload_n dX1_patch_0 rfl 0 rfl ?_
  refine X.iload_n dX1_patch_1 rfl 1 rfl ?_
  obtain ⟨c2, hf⟩ := if_n hf
  rcases clX_ok hf with ⟨v2, T2, h2, hf, l2, r2⟩ | ⟨e2, T2, h2, rfl, l2⟩
  rotate_left
  · exact C.Vx (As := [.int x1]) (rest := []) dX1_patch_2 (w_X1_aCell h2) cX1_145 (Classical.not_not.mp c2) rfl rfl (xcs xvN (Nat.le_of_ble_eq_true rfl)) rfl rfl (xD (Nat.le_of_ble_eq_true rfl)) l2 xle.rf (xnoh rfl) rfl
  refine C.Vv (As := [.int x1]) (rest := []) dX1_patch_2 (w_X1_aCell h2) cX1_145 (Classical.not_not.mp c2) rfl rfl (xcs xvN (Nat.le_of_ble_eq_true rfl)) rfl rfl (xD (Nat.le_of_ble_eq_true rfl)) l2 r2 ?_
  refine C.aload_n dX1_patch_5 rfl 0 rfl ?_
  obtain ⟨v6, h6, hf⟩ := ob hf
  refine C.getQ dX1_patch_6 rX1_38 h6 ?_
  obtain ⟨v9, h9, hf⟩ := ob hf
  refine C.getQ dX1_patch_9 rX1_96 h9 ?_
  refine X.iload_n dX1_patch_12 rfl 1 rfl ?_
  obtain ⟨v13, h13, hf⟩ := ob hf
  refine C.iald dX1_patch_13 h13 ?_
  refine X.iconst (v := -1) dX1_patch_14 (by decide) ?_
  refine X.icmp_ne (tgt := 22) dX1_patch_15 (by decide) (fun c15 => ?_) (fun c15 => ?_)
  · have hf := if_f c15 hf
    refine C.aload_n dX1_patch_22 rfl 0 rfl ?_
    refine X.iload_n dX1_patch_23 rfl 1 rfl ?_
    refine X.iconst (v := 0) dX1_patch_24 (by decide) ?_
    obtain ⟨c25, hf⟩ := if_n hf
    obtain ⟨v25, h25, hf⟩ := ob hf
    refine X.keep fun l25 => C.Vi (As := [.int x1, .int (0 : Int32)]) (rest := []) dX1_patch_25 (wS SFU _ _ _ _ h25) cX1_287 (Classical.not_not.mp c25) rfl rfl (xcs xvN (Nat.le_of_ble_eq_true rfl)) rfl rfl (xD (Nat.le_of_ble_eq_true rfl)) xle.rf l25 ?_
    obtain rfl := Option.some.inj hf
    exact X.iret dX1_patch_28 rfl rfl rfl
  · have hf := if_t c15 hf
    refine X.iconst (v := 0) dX1_patch_18 (by decide) ?_
    refine X.goto (tgt := 28) dX1_patch_19 (by decide) ?_
    obtain rfl := Option.some.inj hf
    exact X.iret dX1_patch_28 rfl rfl rfl
/-! MouldVotes$Growth winner -/
abbrev cX3_winner : ByteArray := prog_4_method_17_code
def yX3_winner : MethodName := ⟨RX3, "winner", "()I"⟩
def dkwX3_winner_1 : List UInt8 := [60, 42, 29, 182, 0, 143, 61, 132, 3, 1, 167, 255, 228, 27, 172]
abbrev dktX3_winner_1 : List UInt8 := dkwX3_winner_1 ++ []
def dkwX3_winner_0 : List UInt8 := [2, 60, 3, 61, 3, 62, 29, 7, 162, 0, 29, 42, 29, 182, 0, 143, 28, 163, 0, 6, 167, 0, 11, 29]
abbrev dktX3_winner_0 : List UInt8 := dkwX3_winner_0 ++ dktX3_winner_1
theorem dksX3_winner_0 : cX3_winner.data.toList.drop 0 = dktX3_winner_0 := by decide +kernel
theorem dksX3_winner_1 : cX3_winner.data.toList.drop 24 = dktX3_winner_1 := dk_seg dksX3_winner_0 24 rfl rfl
theorem dX3_winner_0 : decode cX3_winner 0 = .ok (.iconst (-1), 1) := dk_2 (dk_at dksX3_winner_0 0 rfl rfl)
theorem dX3_winner_1 : decode cX3_winner 1 = .ok (.istore_n 1, 1) := dk_60 (dk_at dksX3_winner_0 1 rfl rfl)
theorem dX3_winner_2 : decode cX3_winner 2 = .ok (.iconst 0, 1) := dk_3 (dk_at dksX3_winner_0 2 rfl rfl)
theorem dX3_winner_3 : decode cX3_winner 3 = .ok (.istore_n 2, 1) := dk_61 (dk_at dksX3_winner_0 3 rfl rfl)
theorem dX3_winner_4 : decode cX3_winner 4 = .ok (.iconst 0, 1) := dk_3 (dk_at dksX3_winner_0 4 rfl rfl)
theorem dX3_winner_5 : decode cX3_winner 5 = .ok (.istore_n 3, 1) := dk_62 (dk_at dksX3_winner_0 5 rfl rfl)
theorem dX3_winner_6 : decode cX3_winner 6 = .ok (.iload_n 3, 1) := dk_29 (dk_at dksX3_winner_0 6 rfl rfl)
theorem dX3_winner_7 : decode cX3_winner 7 = .ok (.iconst 4, 1) := dk_7 (dk_at dksX3_winner_0 7 rfl rfl)
theorem dX3_winner_8 : decode cX3_winner 8 = .ok (.if_icmp .ge 29, 3) := dk_162 0 29 (dk_at dksX3_winner_0 8 rfl rfl)
theorem dX3_winner_11 : decode cX3_winner 11 = .ok (.aload_n 0, 1) := dk_42 (dk_at dksX3_winner_0 11 rfl rfl)
theorem dX3_winner_12 : decode cX3_winner 12 = .ok (.iload_n 3, 1) := dk_29 (dk_at dksX3_winner_0 12 rfl rfl)
theorem dX3_winner_13 : decode cX3_winner 13 = .ok (.invokevirtual 143, 3) := dk_182 0 143 (dk_at dksX3_winner_0 13 rfl rfl)
theorem dX3_winner_16 : decode cX3_winner 16 = .ok (.iload_n 2, 1) := dk_28 (dk_at dksX3_winner_0 16 rfl rfl)
theorem dX3_winner_17 : decode cX3_winner 17 = .ok (.if_icmp .gt 6, 3) := dk_163 0 6 (dk_at dksX3_winner_0 17 rfl rfl)
theorem dX3_winner_20 : decode cX3_winner 20 = .ok (.goto 11, 3) := dk_167 0 11 (dk_at dksX3_winner_0 20 rfl rfl)
theorem dX3_winner_23 : decode cX3_winner 23 = .ok (.iload_n 3, 1) := dk_29 (dk_at dksX3_winner_0 23 rfl rfl)
theorem dX3_winner_24 : decode cX3_winner 24 = .ok (.istore_n 1, 1) := dk_60 (dk_at dksX3_winner_1 0 rfl rfl)
theorem dX3_winner_25 : decode cX3_winner 25 = .ok (.aload_n 0, 1) := dk_42 (dk_at dksX3_winner_1 1 rfl rfl)
theorem dX3_winner_26 : decode cX3_winner 26 = .ok (.iload_n 3, 1) := dk_29 (dk_at dksX3_winner_1 2 rfl rfl)
theorem dX3_winner_27 : decode cX3_winner 27 = .ok (.invokevirtual 143, 3) := dk_182 0 143 (dk_at dksX3_winner_1 3 rfl rfl)
theorem dX3_winner_30 : decode cX3_winner 30 = .ok (.istore_n 2, 1) := dk_61 (dk_at dksX3_winner_1 6 rfl rfl)
theorem dX3_winner_31 : decode cX3_winner 31 = .ok (.iinc 3 1, 3) := dk_132 3 1 (dk_at dksX3_winner_1 7 rfl rfl)
theorem dX3_winner_34 : decode cX3_winner 34 = .ok (.goto (-28), 3) := dk_167 255 228 (dk_at dksX3_winner_1 10 rfl rfl)
theorem dX3_winner_37 : decode cX3_winner 37 = .ok (.iload_n 1, 1) := dk_27 (dk_at dksX3_winner_1 13 rfl rfl)
theorem dX3_winner_38 : decode cX3_winner 38 = .ok (.ireturn, 1) := dk_172 (dk_at dksX3_winner_1 14 rfl rfl)
abbrev mX3_winner : xM := (yX3_winner, cX3_winner, 4, (some .int), [])
def c_X3_winner_31 (T : xF) (k6 : Option Nat → Int32 → Int32 → Int32 → Option Int32) (x0 : Option Nat) (x1 : Int32) (x2 : Int32) (x3 : Int32) : Option Int32 :=
  k6 x0 x1 x2 (x3 + 1)
theorem c_X3_winner_31_ok {G : xG}  {T : xF} {k6 : Option Nat → Int32 → Int32 → Int32 → Option Int32} (hk6 : ∀ (x0 : Option Nat) (x1 : Int32) (x2 : Int32) (x3 : Int32) (q : Int32), k6 x0 x1 x2 x3 = some q → Xr G (mX3_winner, xrm (5) T T, T, .inl (some (.int q)), T) 6 [(0, va_rf x0), (1, .int x1), (2, .int x2), (3, .int x3)] [] T) (x0 : Option Nat) (x1 : Int32) (x2 : Int32) (x3 : Int32) (q : Int32) (hf : c_X3_winner_31 T k6 x0 x1 x2 x3 = some q) : Xr G (mX3_winner, xrm (5) T T, T, .inl (some (.int q)), T) 31 [(0, va_rf x0), (1, .int x1), (2, .int x2), (3, .int x3)] [] T := by
  unfold c_X3_winner_31 at hf
  refine C.iinc (v := (x3 + 1)) (L' := [(3, .int (x3 + 1)), (0, va_rf x0), (1, .int x1), (2, .int x2)]) dX3_winner_31 3 rfl rfl (Nat.le_of_ble_eq_true rfl) (xcQ (xcI (xcI (xcI xcN)))) rfl ?_
  refine X.goto (tgt := 6) dX3_winner_34 (by decide) ?_
  refine X.sub [1, 2, 3, 0] (L' := [(0, va_rf x0), (1, .int x1), (2, .int x2), (3, .int (x3 + 1))]) rfl ?_
  exact hk6 _ _ _ _ _ hf
def c_X3_winner_6_b (T : xF) (k6 : Option Nat → Int32 → Int32 → Int32 → Option Int32) (x0 : Option Nat) (x1 : Int32) (x2 : Int32) (x3 : Int32) : Option Int32 :=
  if (4 : Int32) ≤ x3 then
    some x1
  else
    if ¬ isO T x0 2 = true then none else
    (c_X3_votes T x0 x3).bind fun v13 =>
    if x2 < v13 then
      if ¬ isO T x0 2 = true then none else
      (c_X3_votes T x0 x3).bind fun v27 =>
      c_X3_winner_31 T k6 x0 x3 v27 x3
    else
      c_X3_winner_31 T k6 x0 x1 x2 x3
def c_X3_winner_6 (T : xF) : Nat → Option Nat → Int32 → Int32 → Int32 → Option Int32
  | 0 => fun _ _ _ _ => none
  | n + 1 => fun x0 x1 x2 x3 => c_X3_winner_6_b T (c_X3_winner_6 T n) x0 x1 x2 x3
theorem c_X3_winner_6_bok {G : xG}  {T : xF}  {k6 : Option Nat → Int32 → Int32 → Int32 → Option Int32}  (hk6 : ∀ (x0 : Option Nat) (x1 : Int32) (x2 : Int32) (x3 : Int32) (q : Int32), k6 x0 x1 x2 x3 = some q → Xr G (mX3_winner, xrm (5) T T, T, .inl (some (.int q)), T) 6 [(0, va_rf x0), (1, .int x1), (2, .int x2), (3, .int x3)] [] T) (x0 : Option Nat) (x1 : Int32) (x2 : Int32) (x3 : Int32) (q : Int32) (hf : c_X3_winner_6_b T k6 x0 x1 x2 x3 = some q) : Xr G (mX3_winner, xrm (5) T T, T, .inl (some (.int q)), T) 6 [(0, va_rf x0), (1, .int x1), (2, .int x2), (3, .int x3)] [] T := by
  unfold c_X3_winner_6_b at hf
  refine X.iload_n dX3_winner_6 rfl 3 rfl ?_
  refine X.iconst (v := 4) dX3_winner_7 (by decide) ?_
  refine X.icmp_ge (tgt := 37) dX3_winner_8 (by decide) (fun c8 => ?_) (fun c8 => ?_)
  · have hf := if_t c8 hf
    refine X.iload_n dX3_winner_37 rfl 1 rfl ?_
    obtain rfl := Option.some.inj hf
    exact X.iret dX3_winner_38 rfl rfl rfl
  · have hf := if_f c8 hf
    refine C.aload_n dX3_winner_11 rfl 0 rfl ?_
    refine X.iload_n dX3_winner_12 rfl 3 rfl ?_
    obtain ⟨c13, hf⟩ := if_n hf
    obtain ⟨v13, h13, hf⟩ := ob hf
    refine X.keep fun l13 => C.Vi (As := [.int x3]) (rest := []) dX3_winner_13 (w_X3_votes h13) cX3_143 (Classical.not_not.mp c13) rfl rfl (xcs xvN (Nat.le_of_ble_eq_true rfl)) rfl rfl (xD (Nat.le_of_ble_eq_true rfl)) xle.rf l13 ?_
    refine X.iload_n dX3_winner_16 rfl 2 rfl ?_
    refine X.icmp_gt (tgt := 23) dX3_winner_17 (by decide) (fun c17 => ?_) (fun c17 => ?_)
    · have hf := if_t c17 hf
      refine X.iload_n dX3_winner_23 rfl 3 rfl ?_
      refine C.ist_n (L' := [(1, .int x3), (0, va_rf x0), (2, .int x2), (3, .int x3)]) dX3_winner_24 rfl (Nat.le_of_ble_eq_true rfl) (xcQ (xcI (xcI (xcI xcN)))) rfl ?_
      refine C.aload_n dX3_winner_25 rfl 1 rfl ?_
      refine X.iload_n dX3_winner_26 rfl 3 rfl ?_
      obtain ⟨c27, hf⟩ := if_n hf
      obtain ⟨v27, h27, hf⟩ := ob hf
      refine X.keep fun l27 => C.Vi (As := [.int x3]) (rest := []) dX3_winner_27 (w_X3_votes h27) cX3_143 (Classical.not_not.mp c27) rfl rfl (xcs xvN (Nat.le_of_ble_eq_true rfl)) rfl rfl (xD (Nat.le_of_ble_eq_true rfl)) xle.rf l27 ?_
      refine C.ist_n (L' := [(2, .int v27), (1, .int x3), (0, va_rf x0), (3, .int x3)]) dX3_winner_30 rfl (Nat.le_of_ble_eq_true rfl) (xcI (xcQ (xcI (xcI xcN)))) rfl ?_
      refine X.sub [2, 1, 0, 3] (L' := [(0, va_rf x0), (1, .int x3), (2, .int v27), (3, .int x3)]) rfl ?_
      exact c_X3_winner_31_ok hk6 _ _ _ _ _ hf
    · have hf := if_f c17 hf
      refine X.goto (tgt := 31) dX3_winner_20 (by decide) ?_
      refine X.sub [0, 1, 2, 3] (L' := [(0, va_rf x0), (1, .int x1), (2, .int x2), (3, .int x3)]) rfl ?_
      exact c_X3_winner_31_ok hk6 _ _ _ _ _ hf
theorem c_X3_winner_6_ok {G : xG}  {T : xF}   : ∀ (n : Nat) (x0 : Option Nat) (x1 : Int32) (x2 : Int32) (x3 : Int32) (q : Int32), c_X3_winner_6 T n x0 x1 x2 x3 = some q → Xr G (mX3_winner, xrm (5) T T, T, .inl (some (.int q)), T) 6 [(0, va_rf x0), (1, .int x1), (2, .int x2), (3, .int x3)] [] T
  | 0, _, _, _, _, _, hf => by cases hf
  | n + 1, x0, x1, x2, x3, q, hf => c_X3_winner_6_bok (c_X3_winner_6_ok n) x0 x1 x2 x3 q hf
def c_X3_winner (T : xF) (x0 : Option Nat) : Option Int32 :=
  c_X3_winner_6 T FU x0 (-1 : Int32) (0 : Int32) (0 : Int32)
theorem w_X3_winner {G : xG}  {T : xF} {x0 : Option Nat} {q : Int32} (hf : c_X3_winner T x0 = some q) : Ct G mX3_winner (5) T [va_rf x0] (.inl (some (.int q))) T := by
  refine Ct.ofc (plainFor_of_name (by decide +kernel)) rfl (xvQ xvN) (Nat.le_of_ble_eq_true rfl) (show Xr G _ 0 [(0, va_rf x0)] [] _ from ?_)
  unfold c_X3_winner at hf
  refine X.iconst (v := -1) dX3_winner_0 (by decide) ?_
  refine C.ist_n (L' := [(1, .int (-1 : Int32)), (0, va_rf x0)]) dX3_winner_1 rfl (Nat.le_of_ble_eq_true rfl) (xcQ xcN) rfl ?_
  refine X.iconst (v := 0) dX3_winner_2 (by decide) ?_
  refine C.ist_n (L' := [(2, .int (0 : Int32)), (1, .int (-1 : Int32)), (0, va_rf x0)]) dX3_winner_3 rfl (Nat.le_of_ble_eq_true rfl) (xcI (xcQ xcN)) rfl ?_
  refine X.iconst (v := 0) dX3_winner_4 (by decide) ?_
  refine C.ist_n (L' := [(3, .int (0 : Int32)), (2, .int (0 : Int32)), (1, .int (-1 : Int32)), (0, va_rf x0)]) dX3_winner_5 rfl (Nat.le_of_ble_eq_true rfl) (xcI (xcI (xcQ xcN))) rfl ?_
  refine X.sub [3, 2, 1, 0] (L' := [(0, va_rf x0), (1, .int (-1 : Int32)), (2, .int (0 : Int32)), (3, .int (0 : Int32))]) rfl ?_
  exact c_X3_winner_6_ok FU _ _ _ _ _ hf
theorem cX1_131 : xCV RX1 131 mX3_winner 0 := ⟨lw_V q1264 q1265 q1266 q126 q1267, rfl, ⟨by decide +kernel, by decide +kernel, by decide +kernel⟩, Nat.le_of_ble_eq_true rfl⟩
/-! MouldVotes margin -/
abbrev cX1_margin : ByteArray := prog_1_method_58_code
def yX1_margin : MethodName := ⟨RX1, "margin", "(I)I"⟩
def dkwX1_margin_3 : List UInt8 := [182, 0, 179, 21, 4, 100, 172]
abbrev dktX1_margin_3 : List UInt8 := dkwX1_margin_3 ++ []
def dkwX1_margin_2 : List UInt8 := [184, 1, 1, 54, 4, 132, 5, 1, 167, 255, 228, 29, 2, 160, 0, 7, 2, 167, 0, 11, 44, 29]
abbrev dktX1_margin_2 : List UInt8 := dkwX1_margin_2 ++ dktX1_margin_3
def dkwX1_margin_1 : List UInt8 := [3, 54, 5, 21, 5, 7, 162, 0, 28, 21, 5, 29, 159, 0, 16, 21, 4, 44, 21, 5, 182, 0, 179]
abbrev dktX1_margin_1 : List UInt8 := dkwX1_margin_1 ++ dktX1_margin_2
def dkwX1_margin_0 : List UInt8 := [27, 3, 16, 40, 184, 0, 134, 184, 0, 65, 42, 27, 182, 0, 217, 77, 44, 182, 0, 131, 62, 3, 54, 4]
abbrev dktX1_margin_0 : List UInt8 := dkwX1_margin_0 ++ dktX1_margin_1
theorem dksX1_margin_0 : cX1_margin.data.toList.drop 0 = dktX1_margin_0 := by decide +kernel
theorem dksX1_margin_1 : cX1_margin.data.toList.drop 24 = dktX1_margin_1 := dk_seg dksX1_margin_0 24 rfl rfl
theorem dksX1_margin_2 : cX1_margin.data.toList.drop 47 = dktX1_margin_2 := dk_seg dksX1_margin_1 23 rfl rfl
theorem dksX1_margin_3 : cX1_margin.data.toList.drop 69 = dktX1_margin_3 := dk_seg dksX1_margin_2 22 rfl rfl
theorem dX1_margin_0 : decode cX1_margin 0 = .ok (.iload_n 1, 1) := dk_27 (dk_at dksX1_margin_0 0 rfl rfl)
theorem dX1_margin_1 : decode cX1_margin 1 = .ok (.iconst 0, 1) := dk_3 (dk_at dksX1_margin_0 1 rfl rfl)
theorem dX1_margin_2 : decode cX1_margin 2 = .ok (.bipush 40, 2) := dk_16 40 (dk_at dksX1_margin_0 2 rfl rfl)
theorem dX1_margin_4 : decode cX1_margin 4 = .ok (.invokestatic 134, 3) := dk_184 0 134 (dk_at dksX1_margin_0 4 rfl rfl)
theorem dX1_margin_7 : decode cX1_margin 7 = .ok (.invokestatic 65, 3) := dk_184 0 65 (dk_at dksX1_margin_0 7 rfl rfl)
theorem dX1_margin_10 : decode cX1_margin 10 = .ok (.aload_n 0, 1) := dk_42 (dk_at dksX1_margin_0 10 rfl rfl)
theorem dX1_margin_11 : decode cX1_margin 11 = .ok (.iload_n 1, 1) := dk_27 (dk_at dksX1_margin_0 11 rfl rfl)
theorem dX1_margin_12 : decode cX1_margin 12 = .ok (.invokevirtual 217, 3) := dk_182 0 217 (dk_at dksX1_margin_0 12 rfl rfl)
theorem dX1_margin_15 : decode cX1_margin 15 = .ok (.astore_n 2, 1) := dk_77 (dk_at dksX1_margin_0 15 rfl rfl)
theorem dX1_margin_16 : decode cX1_margin 16 = .ok (.aload_n 2, 1) := dk_44 (dk_at dksX1_margin_0 16 rfl rfl)
theorem dX1_margin_17 : decode cX1_margin 17 = .ok (.invokevirtual 131, 3) := dk_182 0 131 (dk_at dksX1_margin_0 17 rfl rfl)
theorem dX1_margin_20 : decode cX1_margin 20 = .ok (.istore_n 3, 1) := dk_62 (dk_at dksX1_margin_0 20 rfl rfl)
theorem dX1_margin_21 : decode cX1_margin 21 = .ok (.iconst 0, 1) := dk_3 (dk_at dksX1_margin_0 21 rfl rfl)
theorem dX1_margin_22 : decode cX1_margin 22 = .ok (.istore 4, 2) := dk_54 4 (dk_at dksX1_margin_0 22 rfl rfl)
theorem dX1_margin_24 : decode cX1_margin 24 = .ok (.iconst 0, 1) := dk_3 (dk_at dksX1_margin_1 0 rfl rfl)
theorem dX1_margin_25 : decode cX1_margin 25 = .ok (.istore 5, 2) := dk_54 5 (dk_at dksX1_margin_1 1 rfl rfl)
theorem dX1_margin_27 : decode cX1_margin 27 = .ok (.iload 5, 2) := dk_21 5 (dk_at dksX1_margin_1 3 rfl rfl)
theorem dX1_margin_29 : decode cX1_margin 29 = .ok (.iconst 4, 1) := dk_7 (dk_at dksX1_margin_1 5 rfl rfl)
theorem dX1_margin_30 : decode cX1_margin 30 = .ok (.if_icmp .ge 28, 3) := dk_162 0 28 (dk_at dksX1_margin_1 6 rfl rfl)
theorem dX1_margin_33 : decode cX1_margin 33 = .ok (.iload 5, 2) := dk_21 5 (dk_at dksX1_margin_1 9 rfl rfl)
theorem dX1_margin_35 : decode cX1_margin 35 = .ok (.iload_n 3, 1) := dk_29 (dk_at dksX1_margin_1 11 rfl rfl)
theorem dX1_margin_36 : decode cX1_margin 36 = .ok (.if_icmp .eq 16, 3) := dk_159 0 16 (dk_at dksX1_margin_1 12 rfl rfl)
theorem dX1_margin_39 : decode cX1_margin 39 = .ok (.iload 4, 2) := dk_21 4 (dk_at dksX1_margin_1 15 rfl rfl)
theorem dX1_margin_41 : decode cX1_margin 41 = .ok (.aload_n 2, 1) := dk_44 (dk_at dksX1_margin_1 17 rfl rfl)
theorem dX1_margin_42 : decode cX1_margin 42 = .ok (.iload 5, 2) := dk_21 5 (dk_at dksX1_margin_1 18 rfl rfl)
theorem dX1_margin_44 : decode cX1_margin 44 = .ok (.invokevirtual 179, 3) := dk_182 0 179 (dk_at dksX1_margin_1 20 rfl rfl)
theorem dX1_margin_47 : decode cX1_margin 47 = .ok (.invokestatic 257, 3) := dk_184 1 1 (dk_at dksX1_margin_2 0 rfl rfl)
theorem dX1_margin_50 : decode cX1_margin 50 = .ok (.istore 4, 2) := dk_54 4 (dk_at dksX1_margin_2 3 rfl rfl)
theorem dX1_margin_52 : decode cX1_margin 52 = .ok (.iinc 5 1, 3) := dk_132 5 1 (dk_at dksX1_margin_2 5 rfl rfl)
theorem dX1_margin_55 : decode cX1_margin 55 = .ok (.goto (-28), 3) := dk_167 255 228 (dk_at dksX1_margin_2 8 rfl rfl)
theorem dX1_margin_58 : decode cX1_margin 58 = .ok (.iload_n 3, 1) := dk_29 (dk_at dksX1_margin_2 11 rfl rfl)
theorem dX1_margin_59 : decode cX1_margin 59 = .ok (.iconst (-1), 1) := dk_2 (dk_at dksX1_margin_2 12 rfl rfl)
theorem dX1_margin_60 : decode cX1_margin 60 = .ok (.if_icmp .ne 7, 3) := dk_160 0 7 (dk_at dksX1_margin_2 13 rfl rfl)
theorem dX1_margin_63 : decode cX1_margin 63 = .ok (.iconst (-1), 1) := dk_2 (dk_at dksX1_margin_2 16 rfl rfl)
theorem dX1_margin_64 : decode cX1_margin 64 = .ok (.goto 11, 3) := dk_167 0 11 (dk_at dksX1_margin_2 17 rfl rfl)
theorem dX1_margin_67 : decode cX1_margin 67 = .ok (.aload_n 2, 1) := dk_44 (dk_at dksX1_margin_2 20 rfl rfl)
theorem dX1_margin_68 : decode cX1_margin 68 = .ok (.iload_n 3, 1) := dk_29 (dk_at dksX1_margin_2 21 rfl rfl)
theorem dX1_margin_69 : decode cX1_margin 69 = .ok (.invokevirtual 179, 3) := dk_182 0 179 (dk_at dksX1_margin_3 0 rfl rfl)
theorem dX1_margin_72 : decode cX1_margin 72 = .ok (.iload 4, 2) := dk_21 4 (dk_at dksX1_margin_3 3 rfl rfl)
theorem dX1_margin_74 : decode cX1_margin 74 = .ok (.isub, 1) := dk_100 (dk_at dksX1_margin_3 5 rfl rfl)
theorem dX1_margin_75 : decode cX1_margin 75 = .ok (.ireturn, 1) := dk_172 (dk_at dksX1_margin_3 6 rfl rfl)
abbrev mX1_margin : xM := (yX1_margin, cX1_margin, 6, (some .int), [])
def c_X1_margin_52 (G : xG) (k27 : Option Nat → Int32 → Int32 → Int32 → xF → Option ((Int32 ⊕ xE) × xF)) (x2 : Option Nat) (x3 : Int32) (x4 : Int32) (x5 : Int32) (T : xF) : Option ((Int32 ⊕ xE) × xF) :=
  k27 x2 x3 x4 (x5 + 1) T
theorem c_X1_margin_52_ok {G : xG}  {T0 : xF} {k27 : Option Nat → Int32 → Int32 → Int32 → xF → Option ((Int32 ⊕ xE) × xF)} (hk27 : ∀ (x2 : Option Nat) (x3 : Int32) (x4 : Int32) (x5 : Int32) (T : xF) (q : ((Int32 ⊕ xE) × xF)), k27 x2 x3 x4 x5 T = some q → Xr G (mX1_margin, xrm (127) T0 q.2, T0, xoI q.1, q.2) 27 [(2, va_rf x2), (3, .int x3), (4, .int x4), (5, .int x5)] [] T) (x2 : Option Nat) (x3 : Int32) (x4 : Int32) (x5 : Int32) (T : xF) (q : ((Int32 ⊕ xE) × xF)) (hf : c_X1_margin_52 G k27 x2 x3 x4 x5 T = some q) : Xr G (mX1_margin, xrm (127) T0 q.2, T0, xoI q.1, q.2) 52 [(2, va_rf x2), (3, .int x3), (4, .int x4), (5, .int x5)] [] T := by
  unfold c_X1_margin_52 at hf
  refine C.iinc (v := (x5 + 1)) (L' := [(5, .int (x5 + 1)), (2, va_rf x2), (3, .int x3), (4, .int x4)]) dX1_margin_52 3 rfl rfl (Nat.le_of_ble_eq_true rfl) (xcQ (xcI (xcI (xcI xcN)))) rfl ?_
  refine X.goto (tgt := 27) dX1_margin_55 (by decide) ?_
  refine X.sub [1, 2, 3, 0] (L' := [(2, va_rf x2), (3, .int x3), (4, .int x4), (5, .int (x5 + 1))]) rfl ?_
  exact hk27 _ _ _ _ _ _ hf
def c_X1_margin_27_b (G : xG) (k27 : Option Nat → Int32 → Int32 → Int32 → xF → Option ((Int32 ⊕ xE) × xF)) (x2 : Option Nat) (x3 : Int32) (x4 : Int32) (x5 : Int32) (T : xF) : Option ((Int32 ⊕ xE) × xF) :=
  if (4 : Int32) ≤ x5 then
    if x3 = (-1 : Int32) then
      some (.inl (-1 : Int32), T)
    else
      if ¬ isO T x2 2 = true then none else
      (c_X3_votes T x2 x3).bind fun v69 =>
      some (.inl (v69 - x4), T)
  else
    if x5 = x3 then
      c_X1_margin_52 G k27 x2 x3 x4 x5 T
    else
      if ¬ isO T x2 2 = true then none else
      (c_X3_votes T x2 x5).bind fun v44 =>
      (c_J7_max x4 v44).bind fun v47 =>
      c_X1_margin_52 G k27 x2 x3 v47 x5 T
def c_X1_margin_27 (G : xG) : Nat → Option Nat → Int32 → Int32 → Int32 → xF → Option ((Int32 ⊕ xE) × xF)
  | 0 => fun _ _ _ _ _ => none
  | n + 1 => fun x2 x3 x4 x5 T => c_X1_margin_27_b G (c_X1_margin_27 G n) x2 x3 x4 x5 T
theorem c_X1_margin_27_bok {G : xG}  {T0 : xF}  {k27 : Option Nat → Int32 → Int32 → Int32 → xF → Option ((Int32 ⊕ xE) × xF)}  (hk27 : ∀ (x2 : Option Nat) (x3 : Int32) (x4 : Int32) (x5 : Int32) (T : xF) (q : ((Int32 ⊕ xE) × xF)), k27 x2 x3 x4 x5 T = some q → Xr G (mX1_margin, xrm (127) T0 q.2, T0, xoI q.1, q.2) 27 [(2, va_rf x2), (3, .int x3), (4, .int x4), (5, .int x5)] [] T) (x2 : Option Nat) (x3 : Int32) (x4 : Int32) (x5 : Int32) (T : xF) (q : ((Int32 ⊕ xE) × xF)) (hf : c_X1_margin_27_b G k27 x2 x3 x4 x5 T = some q) : Xr G (mX1_margin, xrm (127) T0 q.2, T0, xoI q.1, q.2) 27 [(2, va_rf x2), (3, .int x3), (4, .int x4), (5, .int x5)] [] T := by
  unfold c_X1_margin_27_b at hf
  refine X.iload dX1_margin_27 3 rfl ?_
  refine X.iconst (v := 4) dX1_margin_29 (by decide) ?_
  refine X.icmp_ge (tgt := 58) dX1_margin_30 (by decide) (fun c30 => ?_) (fun c30 => ?_)
  · have hf := if_t c30 hf
    refine X.iload_n dX1_margin_58 rfl 1 rfl ?_
    refine X.iconst (v := -1) dX1_margin_59 (by decide) ?_
    refine X.icmp_ne (tgt := 67) dX1_margin_60 (by decide) (fun c60 => ?_) (fun c60 => ?_)
    · have hf := if_f c60 hf
      refine C.aload_n dX1_margin_67 rfl 0 rfl ?_
      refine X.iload_n dX1_margin_68 rfl 1 rfl ?_
      obtain ⟨c69, hf⟩ := if_n hf
      obtain ⟨v69, h69, hf⟩ := ob hf
      refine X.keep fun l69 => C.Vi (As := [.int x3]) (rest := []) dX1_margin_69 (w_X3_votes h69) cX1_179 (Classical.not_not.mp c69) rfl rfl (xcs xvN (Nat.le_of_ble_eq_true rfl)) rfl rfl (xD (Nat.le_of_ble_eq_true rfl)) xle.rf l69 ?_
      refine X.iload dX1_margin_72 2 rfl ?_
      refine X.isub dX1_margin_74 ?_
      obtain rfl := Option.some.inj hf
      exact X.iret dX1_margin_75 rfl rfl rfl
    · have hf := if_t c60 hf
      refine X.iconst (v := -1) dX1_margin_63 (by decide) ?_
      refine X.goto (tgt := 75) dX1_margin_64 (by decide) ?_
      obtain rfl := Option.some.inj hf
      exact X.iret dX1_margin_75 rfl rfl rfl
  · have hf := if_f c30 hf
    refine X.iload dX1_margin_33 3 rfl ?_
    refine X.iload_n dX1_margin_35 rfl 1 rfl ?_
    refine X.icmp_eq (tgt := 52) dX1_margin_36 (by decide) (fun c36 => ?_) (fun c36 => ?_)
    · have hf := if_t c36 hf
      refine X.sub [0, 1, 2, 3] (L' := [(2, va_rf x2), (3, .int x3), (4, .int x4), (5, .int x5)]) rfl ?_
      exact c_X1_margin_52_ok hk27 _ _ _ _ _ _ hf
    · have hf := if_f c36 hf
      refine X.iload dX1_margin_39 2 rfl ?_
      refine C.aload_n dX1_margin_41 rfl 0 rfl ?_
      refine X.iload dX1_margin_42 3 rfl ?_
      obtain ⟨c44, hf⟩ := if_n hf
      obtain ⟨v44, h44, hf⟩ := ob hf
      refine X.keep fun l44 => C.Vi (As := [.int x5]) (rest := [.int x4]) dX1_margin_44 (w_X3_votes h44) cX1_179 (Classical.not_not.mp c44) rfl rfl (xcs (xvI xvN) (Nat.le_of_ble_eq_true rfl)) rfl rfl (xD (Nat.le_of_ble_eq_true rfl)) xle.rf l44 ?_
      obtain ⟨v47, h47, hf⟩ := ob hf
      refine X.keep fun l47 => C.Si (As := [.int x4, .int v44]) (rest := []) dX1_margin_47 (w_J7_max h47) cX1_257 rfl rfl (xcs xvN (Nat.le_of_ble_eq_true rfl)) (xD (Nat.le_of_ble_eq_true rfl)) xle.rf l47 ?_
      refine C.ist (L' := [(4, .int v47), (2, va_rf x2), (3, .int x3), (5, .int x5)]) dX1_margin_50 (Nat.le_of_ble_eq_true rfl) (xcQ (xcI (xcI (xcI xcN)))) rfl ?_
      refine X.sub [1, 2, 0, 3] (L' := [(2, va_rf x2), (3, .int x3), (4, .int v47), (5, .int x5)]) rfl ?_
      exact c_X1_margin_52_ok hk27 _ _ _ _ _ _ hf
theorem c_X1_margin_27_ok {G : xG}  {T0 : xF}   : ∀ (n : Nat) (x2 : Option Nat) (x3 : Int32) (x4 : Int32) (x5 : Int32) (T : xF) (q : ((Int32 ⊕ xE) × xF)), c_X1_margin_27 G n x2 x3 x4 x5 T = some q → Xr G (mX1_margin, xrm (127) T0 q.2, T0, xoI q.1, q.2) 27 [(2, va_rf x2), (3, .int x3), (4, .int x4), (5, .int x5)] [] T
  | 0, _, _, _, _, _, _, hf => by cases hf
  | n + 1, x2, x3, x4, x5, T, q, hf => c_X1_margin_27_bok (c_X1_margin_27_ok n) x2 x3 x4 x5 T q hf
def c_X1_margin (G : xG) (x0 : Option Nat) (x1 : Int32) (T : xF) : Option ((Int32 ⊕ xE) × xF) :=
  (c_X1_in x1 (0 : Int32) (40 : Int32)).bind fun v4 =>
  clX (c_X1_right v4 T) T fun v7 T7 =>
  if ¬ isO T7 x0 0 = true then none else
  cl (c_X1_later G x0 x1 T7) T7 fun v12 T12 =>
  if ¬ isO T12 v12 2 = true then none else
  (c_X3_winner T12 v12).bind fun v17 =>
  c_X1_margin_27 G FU v12 v17 (0 : Int32) (0 : Int32) T12
theorem w_X1_margin {G : xG}  {T : xF} {x0 : Option Nat} {x1 : Int32} {q : ((Int32 ⊕ xE) × xF)} (hf : c_X1_margin G x0 x1 T = some q) : Ct G mX1_margin (127) T [va_rf x0, .int x1] (xoI q.1) q.2 := by
  refine Ct.ofc (plainFor_of_name (by decide +kernel)) rfl (xvQ (xvI xvN)) (Nat.le_of_ble_eq_true rfl) (show Xr G _ 0 [(0, va_rf x0), (1, .int x1)] [] _ from ?_)
  unfold c_X1_margin at hf
  refine X.iload_n dX1_margin_0 rfl 1 rfl ?_
  refine X.iconst (v := 0) dX1_margin_1 (by decide) ?_
  refine X.bipush (v := 40) dX1_margin_2 (by decide) ?_
  obtain ⟨v4, h4, hf⟩ := ob hf
  refine X.keep fun l4 => C.Si (As := [.int x1, .int (0 : Int32), .int (40 : Int32)]) (rest := []) dX1_margin_4 (w_X1_in h4) cX1_134 rfl rfl (xcs xvN (Nat.le_of_ble_eq_true rfl)) (xD (Nat.le_of_ble_eq_true rfl)) xle.rf l4 ?_
  rcases clX_ok hf with ⟨v7, T7, h7, hf, l7, r7⟩ | ⟨e7, T7, h7, rfl, l7⟩
  rotate_left
  · exact C.Sx (As := [.int v4]) (rest := []) dX1_margin_7 (w_X1_right h7) cX1_65 rfl rfl (xcs xvN (Nat.le_of_ble_eq_true rfl)) (xD (Nat.le_of_ble_eq_true rfl)) l7 xle.rf (xnoh rfl) rfl
  refine C.Sv (As := [.int v4]) (rest := []) dX1_margin_7 (w_X1_right h7) cX1_65 rfl rfl (xcs xvN (Nat.le_of_ble_eq_true rfl)) (xD (Nat.le_of_ble_eq_true rfl)) l7 r7 ?_
  refine C.aload_n dX1_margin_10 rfl 0 rfl ?_
  refine X.iload_n dX1_margin_11 rfl 1 rfl ?_
  obtain ⟨c12, hf⟩ := if_n hf
  obtain ⟨v12, T12, h12, hf, l12, r12⟩ := cl_ok hf
  refine C.Vq (As := [.int x1]) (rest := []) dX1_margin_12 (w_X1_later h12) cX1_217 (Classical.not_not.mp c12) rfl rfl (xcs xvN (Nat.le_of_ble_eq_true rfl)) rfl rfl (xD (Nat.le_of_ble_eq_true rfl)) l12 r12 ?_
  refine C.ast_n (L' := [(2, va_rf v12), (0, va_rf x0), (1, .int x1)]) dX1_margin_15 rfl (Nat.le_of_ble_eq_true rfl) (xcQ (xcI xcN)) rfl ?_
  refine C.aload_n dX1_margin_16 rfl 0 rfl ?_
  obtain ⟨c17, hf⟩ := if_n hf
  obtain ⟨v17, h17, hf⟩ := ob hf
  refine X.keep fun l17 => C.Vi (As := []) (rest := []) dX1_margin_17 (w_X3_winner h17) cX1_131 (Classical.not_not.mp c17) rfl rfl (xcs xvN (Nat.le_of_ble_eq_true rfl)) rfl rfl (xD (Nat.le_of_ble_eq_true rfl)) xle.rf l17 ?_
  refine C.ist_n (L' := [(3, .int v17), (2, va_rf v12), (0, va_rf x0), (1, .int x1)]) dX1_margin_20 rfl (Nat.le_of_ble_eq_true rfl) (xcQ (xcQ (xcI xcN))) rfl ?_
  refine X.iconst (v := 0) dX1_margin_21 (by decide) ?_
  refine C.ist (L' := [(4, .int (0 : Int32)), (3, .int v17), (2, va_rf v12), (0, va_rf x0), (1, .int x1)]) dX1_margin_22 (Nat.le_of_ble_eq_true rfl) (xcI (xcQ (xcQ (xcI xcN)))) rfl ?_
  refine X.iconst (v := 0) dX1_margin_24 (by decide) ?_
  refine C.ist (L' := [(5, .int (0 : Int32)), (4, .int (0 : Int32)), (3, .int v17), (2, va_rf v12), (0, va_rf x0), (1, .int x1)]) dX1_margin_25 (Nat.le_of_ble_eq_true rfl) (xcI (xcI (xcQ (xcQ (xcI xcN))))) rfl ?_
  refine X.sub [3, 2, 1, 0] (L' := [(2, va_rf v12), (3, .int v17), (4, .int (0 : Int32)), (5, .int (0 : Int32))]) rfl ?_
  exact c_X1_margin_27_ok FU _ _ _ _ _ _ hf
/-! MouldVotes starved -/
abbrev cX1_starved : ByteArray := prog_1_method_57_code
def yX1_starved : MethodName := ⟨RX1, "starved", "(I)I"⟩
def dkwX1_starved_2 : List UInt8 := [128, 62, 132, 4, 1, 167, 255, 224, 29, 172]
abbrev dktX1_starved_2 : List UInt8 := dkwX1_starved_2 ++ []
def dkwX1_starved_1 : List UInt8 := [180, 0, 22, 182, 0, 92, 162, 0, 26, 44, 180, 0, 152, 21, 4, 46, 154, 0, 10, 29, 4, 21, 4, 120]
abbrev dktX1_starved_1 : List UInt8 := dkwX1_starved_1 ++ dktX1_starved_2
def dkwX1_starved_0 : List UInt8 := [27, 3, 16, 40, 184, 0, 134, 184, 0, 65, 42, 27, 182, 0, 217, 77, 3, 62, 3, 54, 4, 21, 4, 42]
abbrev dktX1_starved_0 : List UInt8 := dkwX1_starved_0 ++ dktX1_starved_1
theorem dksX1_starved_0 : cX1_starved.data.toList.drop 0 = dktX1_starved_0 := by decide +kernel
theorem dksX1_starved_1 : cX1_starved.data.toList.drop 24 = dktX1_starved_1 := dk_seg dksX1_starved_0 24 rfl rfl
theorem dksX1_starved_2 : cX1_starved.data.toList.drop 48 = dktX1_starved_2 := dk_seg dksX1_starved_1 24 rfl rfl
theorem dX1_starved_0 : decode cX1_starved 0 = .ok (.iload_n 1, 1) := dk_27 (dk_at dksX1_starved_0 0 rfl rfl)
theorem dX1_starved_1 : decode cX1_starved 1 = .ok (.iconst 0, 1) := dk_3 (dk_at dksX1_starved_0 1 rfl rfl)
theorem dX1_starved_2 : decode cX1_starved 2 = .ok (.bipush 40, 2) := dk_16 40 (dk_at dksX1_starved_0 2 rfl rfl)
theorem dX1_starved_4 : decode cX1_starved 4 = .ok (.invokestatic 134, 3) := dk_184 0 134 (dk_at dksX1_starved_0 4 rfl rfl)
theorem dX1_starved_7 : decode cX1_starved 7 = .ok (.invokestatic 65, 3) := dk_184 0 65 (dk_at dksX1_starved_0 7 rfl rfl)
theorem dX1_starved_10 : decode cX1_starved 10 = .ok (.aload_n 0, 1) := dk_42 (dk_at dksX1_starved_0 10 rfl rfl)
theorem dX1_starved_11 : decode cX1_starved 11 = .ok (.iload_n 1, 1) := dk_27 (dk_at dksX1_starved_0 11 rfl rfl)
theorem dX1_starved_12 : decode cX1_starved 12 = .ok (.invokevirtual 217, 3) := dk_182 0 217 (dk_at dksX1_starved_0 12 rfl rfl)
theorem dX1_starved_15 : decode cX1_starved 15 = .ok (.astore_n 2, 1) := dk_77 (dk_at dksX1_starved_0 15 rfl rfl)
theorem dX1_starved_16 : decode cX1_starved 16 = .ok (.iconst 0, 1) := dk_3 (dk_at dksX1_starved_0 16 rfl rfl)
theorem dX1_starved_17 : decode cX1_starved 17 = .ok (.istore_n 3, 1) := dk_62 (dk_at dksX1_starved_0 17 rfl rfl)
theorem dX1_starved_18 : decode cX1_starved 18 = .ok (.iconst 0, 1) := dk_3 (dk_at dksX1_starved_0 18 rfl rfl)
theorem dX1_starved_19 : decode cX1_starved 19 = .ok (.istore 4, 2) := dk_54 4 (dk_at dksX1_starved_0 19 rfl rfl)
theorem dX1_starved_21 : decode cX1_starved 21 = .ok (.iload 4, 2) := dk_21 4 (dk_at dksX1_starved_0 21 rfl rfl)
theorem dX1_starved_23 : decode cX1_starved 23 = .ok (.aload_n 0, 1) := dk_42 (dk_at dksX1_starved_0 23 rfl rfl)
theorem dX1_starved_24 : decode cX1_starved 24 = .ok (.getfield 22, 3) := dk_180 0 22 (dk_at dksX1_starved_1 0 rfl rfl)
theorem dX1_starved_27 : decode cX1_starved 27 = .ok (.invokevirtual 92, 3) := dk_182 0 92 (dk_at dksX1_starved_1 3 rfl rfl)
theorem dX1_starved_30 : decode cX1_starved 30 = .ok (.if_icmp .ge 26, 3) := dk_162 0 26 (dk_at dksX1_starved_1 6 rfl rfl)
theorem dX1_starved_33 : decode cX1_starved 33 = .ok (.aload_n 2, 1) := dk_44 (dk_at dksX1_starved_1 9 rfl rfl)
theorem dX1_starved_34 : decode cX1_starved 34 = .ok (.getfield 152, 3) := dk_180 0 152 (dk_at dksX1_starved_1 10 rfl rfl)
theorem dX1_starved_37 : decode cX1_starved 37 = .ok (.iload 4, 2) := dk_21 4 (dk_at dksX1_starved_1 13 rfl rfl)
theorem dX1_starved_39 : decode cX1_starved 39 = .ok (.iaload, 1) := dk_46 (dk_at dksX1_starved_1 15 rfl rfl)
theorem dX1_starved_40 : decode cX1_starved 40 = .ok (.ifCond .ne 10, 3) := dk_154 0 10 (dk_at dksX1_starved_1 16 rfl rfl)
theorem dX1_starved_43 : decode cX1_starved 43 = .ok (.iload_n 3, 1) := dk_29 (dk_at dksX1_starved_1 19 rfl rfl)
theorem dX1_starved_44 : decode cX1_starved 44 = .ok (.iconst 1, 1) := dk_4 (dk_at dksX1_starved_1 20 rfl rfl)
theorem dX1_starved_45 : decode cX1_starved 45 = .ok (.iload 4, 2) := dk_21 4 (dk_at dksX1_starved_1 21 rfl rfl)
theorem dX1_starved_47 : decode cX1_starved 47 = .ok (.ishl, 1) := dk_120 (dk_at dksX1_starved_1 23 rfl rfl)
theorem dX1_starved_48 : decode cX1_starved 48 = .ok (.ior, 1) := dk_128 (dk_at dksX1_starved_2 0 rfl rfl)
theorem dX1_starved_49 : decode cX1_starved 49 = .ok (.istore_n 3, 1) := dk_62 (dk_at dksX1_starved_2 1 rfl rfl)
theorem dX1_starved_50 : decode cX1_starved 50 = .ok (.iinc 4 1, 3) := dk_132 4 1 (dk_at dksX1_starved_2 2 rfl rfl)
theorem dX1_starved_53 : decode cX1_starved 53 = .ok (.goto (-32), 3) := dk_167 255 224 (dk_at dksX1_starved_2 5 rfl rfl)
theorem dX1_starved_56 : decode cX1_starved 56 = .ok (.iload_n 3, 1) := dk_29 (dk_at dksX1_starved_2 8 rfl rfl)
theorem dX1_starved_57 : decode cX1_starved 57 = .ok (.ireturn, 1) := dk_172 (dk_at dksX1_starved_2 9 rfl rfl)
abbrev mX1_starved : xM := (yX1_starved, cX1_starved, 5, (some .int), [])
def c_X1_starved_50 (G : xG) (k21 : Option Nat → Option Nat → Int32 → Int32 → xF → Option ((Int32 ⊕ xE) × xF)) (x0 : Option Nat) (x2 : Option Nat) (x3 : Int32) (x4 : Int32) (T : xF) : Option ((Int32 ⊕ xE) × xF) :=
  k21 x0 x2 x3 (x4 + 1) T
theorem c_X1_starved_50_ok {G : xG}  {T0 : xF} {k21 : Option Nat → Option Nat → Int32 → Int32 → xF → Option ((Int32 ⊕ xE) × xF)} (hk21 : ∀ (x0 : Option Nat) (x2 : Option Nat) (x3 : Int32) (x4 : Int32) (T : xF) (q : ((Int32 ⊕ xE) × xF)), k21 x0 x2 x3 x4 T = some q → Xr G (mX1_starved, xrm (127) T0 q.2, T0, xoI q.1, q.2) 21 [(0, va_rf x0), (2, va_rf x2), (3, .int x3), (4, .int x4)] [] T) (x0 : Option Nat) (x2 : Option Nat) (x3 : Int32) (x4 : Int32) (T : xF) (q : ((Int32 ⊕ xE) × xF)) (hf : c_X1_starved_50 G k21 x0 x2 x3 x4 T = some q) : Xr G (mX1_starved, xrm (127) T0 q.2, T0, xoI q.1, q.2) 50 [(0, va_rf x0), (2, va_rf x2), (3, .int x3), (4, .int x4)] [] T := by
  unfold c_X1_starved_50 at hf
  refine C.iinc (v := (x4 + 1)) (L' := [(4, .int (x4 + 1)), (0, va_rf x0), (2, va_rf x2), (3, .int x3)]) dX1_starved_50 3 rfl rfl (Nat.le_of_ble_eq_true rfl) (xcQ (xcQ (xcI (xcI xcN)))) rfl ?_
  refine X.goto (tgt := 21) dX1_starved_53 (by decide) ?_
  refine X.sub [1, 2, 3, 0] (L' := [(0, va_rf x0), (2, va_rf x2), (3, .int x3), (4, .int (x4 + 1))]) rfl ?_
  exact hk21 _ _ _ _ _ _ hf
def c_X1_starved_21_b (G : xG) (k21 : Option Nat → Option Nat → Int32 → Int32 → xF → Option ((Int32 ⊕ xE) × xF)) (x0 : Option Nat) (x2 : Option Nat) (x3 : Int32) (x4 : Int32) (T : xF) : Option ((Int32 ⊕ xE) × xF) :=
  (oQ T x0 0 1).bind fun v24 =>
  if ¬ isO T v24 1 = true then none else
  (c_X2_cells T v24).bind fun v27 =>
  if v27 ≤ x4 then
    some (.inl x3, T)
  else
    (oQ T x2 2 1).bind fun v34 =>
    (ldA T v34 .int x4).bind fun v39 =>
    if v39 = 0 then
      c_X1_starved_50 G k21 x0 x2 (x3 ||| ((1 : Int32) <<< (x4 &&& 31))) x4 T
    else
      c_X1_starved_50 G k21 x0 x2 x3 x4 T
def c_X1_starved_21 (G : xG) : Nat → Option Nat → Option Nat → Int32 → Int32 → xF → Option ((Int32 ⊕ xE) × xF)
  | 0 => fun _ _ _ _ _ => none
  | n + 1 => fun x0 x2 x3 x4 T => c_X1_starved_21_b G (c_X1_starved_21 G n) x0 x2 x3 x4 T
theorem c_X1_starved_21_bok {G : xG}  {T0 : xF}  {k21 : Option Nat → Option Nat → Int32 → Int32 → xF → Option ((Int32 ⊕ xE) × xF)}  (hk21 : ∀ (x0 : Option Nat) (x2 : Option Nat) (x3 : Int32) (x4 : Int32) (T : xF) (q : ((Int32 ⊕ xE) × xF)), k21 x0 x2 x3 x4 T = some q → Xr G (mX1_starved, xrm (127) T0 q.2, T0, xoI q.1, q.2) 21 [(0, va_rf x0), (2, va_rf x2), (3, .int x3), (4, .int x4)] [] T) (x0 : Option Nat) (x2 : Option Nat) (x3 : Int32) (x4 : Int32) (T : xF) (q : ((Int32 ⊕ xE) × xF)) (hf : c_X1_starved_21_b G k21 x0 x2 x3 x4 T = some q) : Xr G (mX1_starved, xrm (127) T0 q.2, T0, xoI q.1, q.2) 21 [(0, va_rf x0), (2, va_rf x2), (3, .int x3), (4, .int x4)] [] T := by
  unfold c_X1_starved_21_b at hf
  refine X.iload dX1_starved_21 3 rfl ?_
  refine C.aload_n dX1_starved_23 rfl 0 rfl ?_
  obtain ⟨v24, h24, hf⟩ := ob hf
  refine C.getQ dX1_starved_24 rX1_22 h24 ?_
  obtain ⟨c27, hf⟩ := if_n hf
  obtain ⟨v27, h27, hf⟩ := ob hf
  refine X.keep fun l27 => C.Vi (As := []) (rest := [.int x4]) dX1_starved_27 (w_X2_cells h27) cX1_92 (Classical.not_not.mp c27) rfl rfl (xcs (xvI xvN) (Nat.le_of_ble_eq_true rfl)) rfl rfl (xD (Nat.le_of_ble_eq_true rfl)) xle.rf l27 ?_
  refine X.icmp_ge (tgt := 56) dX1_starved_30 (by decide) (fun c30 => ?_) (fun c30 => ?_)
  · have hf := if_t c30 hf
    refine X.iload_n dX1_starved_56 rfl 2 rfl ?_
    obtain rfl := Option.some.inj hf
    exact X.iret dX1_starved_57 rfl rfl rfl
  · have hf := if_f c30 hf
    refine C.aload_n dX1_starved_33 rfl 1 rfl ?_
    obtain ⟨v34, h34, hf⟩ := ob hf
    refine C.getQ dX1_starved_34 rX1_152 h34 ?_
    refine X.iload dX1_starved_37 3 rfl ?_
    obtain ⟨v39, h39, hf⟩ := ob hf
    refine C.iald dX1_starved_39 h39 ?_
    refine X.if_ne (tgt := 50) dX1_starved_40 (by decide) (fun c40 => ?_) (fun c40 => ?_)
    · have hf := if_f c40 hf
      refine X.sub [0, 1, 2, 3] (L' := [(0, va_rf x0), (2, va_rf x2), (3, .int x3), (4, .int x4)]) rfl ?_
      exact c_X1_starved_50_ok hk21 _ _ _ _ _ _ hf
    · have hf := if_t c40 hf
      refine X.iload_n dX1_starved_43 rfl 2 rfl ?_
      refine X.iconst (v := 1) dX1_starved_44 (by decide) ?_
      refine X.iload dX1_starved_45 3 rfl ?_
      refine X.ishl dX1_starved_47 ?_
      refine X.ior dX1_starved_48 ?_
      refine C.ist_n (L' := [(3, .int (x3 ||| ((1 : Int32) <<< (x4 &&& 31)))), (0, va_rf x0), (2, va_rf x2), (4, .int x4)]) dX1_starved_49 rfl (Nat.le_of_ble_eq_true rfl) (xcQ (xcQ (xcI (xcI xcN)))) rfl ?_
      refine X.sub [1, 2, 0, 3] (L' := [(0, va_rf x0), (2, va_rf x2), (3, .int (x3 ||| ((1 : Int32) <<< (x4 &&& 31)))), (4, .int x4)]) rfl ?_
      exact c_X1_starved_50_ok hk21 _ _ _ _ _ _ hf
theorem c_X1_starved_21_ok {G : xG}  {T0 : xF}   : ∀ (n : Nat) (x0 : Option Nat) (x2 : Option Nat) (x3 : Int32) (x4 : Int32) (T : xF) (q : ((Int32 ⊕ xE) × xF)), c_X1_starved_21 G n x0 x2 x3 x4 T = some q → Xr G (mX1_starved, xrm (127) T0 q.2, T0, xoI q.1, q.2) 21 [(0, va_rf x0), (2, va_rf x2), (3, .int x3), (4, .int x4)] [] T
  | 0, _, _, _, _, _, _, hf => by cases hf
  | n + 1, x0, x2, x3, x4, T, q, hf => c_X1_starved_21_bok (c_X1_starved_21_ok n) x0 x2 x3 x4 T q hf
def c_X1_starved (G : xG) (x0 : Option Nat) (x1 : Int32) (T : xF) : Option ((Int32 ⊕ xE) × xF) :=
  (c_X1_in x1 (0 : Int32) (40 : Int32)).bind fun v4 =>
  clX (c_X1_right v4 T) T fun v7 T7 =>
  if ¬ isO T7 x0 0 = true then none else
  cl (c_X1_later G x0 x1 T7) T7 fun v12 T12 =>
  c_X1_starved_21 G FU x0 v12 (0 : Int32) (0 : Int32) T12
theorem w_X1_starved {G : xG}  {T : xF} {x0 : Option Nat} {x1 : Int32} {q : ((Int32 ⊕ xE) × xF)} (hf : c_X1_starved G x0 x1 T = some q) : Ct G mX1_starved (127) T [va_rf x0, .int x1] (xoI q.1) q.2 := by
  refine Ct.ofc (plainFor_of_name (by decide +kernel)) rfl (xvQ (xvI xvN)) (Nat.le_of_ble_eq_true rfl) (show Xr G _ 0 [(0, va_rf x0), (1, .int x1)] [] _ from ?_)
  unfold c_X1_starved at hf
  refine X.iload_n dX1_starved_0 rfl 1 rfl ?_
  refine X.iconst (v := 0) dX1_starved_1 (by decide) ?_
  refine X.bipush (v := 40) dX1_starved_2 (by decide) ?_
  obtain ⟨v4, h4, hf⟩ := ob hf
  refine X.keep fun l4 => C.Si (As := [.int x1, .int (0 : Int32), .int (40 : Int32)]) (rest := []) dX1_starved_4 (w_X1_in h4) cX1_134 rfl rfl (xcs xvN (Nat.le_of_ble_eq_true rfl)) (xD (Nat.le_of_ble_eq_true rfl)) xle.rf l4 ?_
  rcases clX_ok hf with ⟨v7, T7, h7, hf, l7, r7⟩ | ⟨e7, T7, h7, rfl, l7⟩
  rotate_left
  · exact C.Sx (As := [.int v4]) (rest := []) dX1_starved_7 (w_X1_right h7) cX1_65 rfl rfl (xcs xvN (Nat.le_of_ble_eq_true rfl)) (xD (Nat.le_of_ble_eq_true rfl)) l7 xle.rf (xnoh rfl) rfl
  refine C.Sv (As := [.int v4]) (rest := []) dX1_starved_7 (w_X1_right h7) cX1_65 rfl rfl (xcs xvN (Nat.le_of_ble_eq_true rfl)) (xD (Nat.le_of_ble_eq_true rfl)) l7 r7 ?_
  refine C.aload_n dX1_starved_10 rfl 0 rfl ?_
  refine X.iload_n dX1_starved_11 rfl 1 rfl ?_
  obtain ⟨c12, hf⟩ := if_n hf
  obtain ⟨v12, T12, h12, hf, l12, r12⟩ := cl_ok hf
  refine C.Vq (As := [.int x1]) (rest := []) dX1_starved_12 (w_X1_later h12) cX1_217 (Classical.not_not.mp c12) rfl rfl (xcs xvN (Nat.le_of_ble_eq_true rfl)) rfl rfl (xD (Nat.le_of_ble_eq_true rfl)) l12 r12 ?_
  refine C.ast_n (L' := [(2, va_rf v12), (0, va_rf x0), (1, .int x1)]) dX1_starved_15 rfl (Nat.le_of_ble_eq_true rfl) (xcQ (xcI xcN)) rfl ?_
  refine X.iconst (v := 0) dX1_starved_16 (by decide) ?_
  refine C.ist_n (L' := [(3, .int (0 : Int32)), (2, va_rf v12), (0, va_rf x0), (1, .int x1)]) dX1_starved_17 rfl (Nat.le_of_ble_eq_true rfl) (xcQ (xcQ (xcI xcN))) rfl ?_
  refine X.iconst (v := 0) dX1_starved_18 (by decide) ?_
  refine C.ist (L' := [(4, .int (0 : Int32)), (3, .int (0 : Int32)), (2, va_rf v12), (0, va_rf x0), (1, .int x1)]) dX1_starved_19 (Nat.le_of_ble_eq_true rfl) (xcI (xcQ (xcQ (xcI xcN)))) rfl ?_
  refine X.sub [3, 2, 1, 0] (L' := [(0, va_rf x0), (2, va_rf v12), (3, .int (0 : Int32)), (4, .int (0 : Int32))]) rfl ?_
  exact c_X1_starved_21_ok FU _ _ _ _ _ _ hf
/-! MouldVotes lost -/
abbrev cX1_lost : ByteArray := prog_1_method_56_code
def yX1_lost : MethodName := ⟨RX1, "lost", "(I)I"⟩
def dkwX1_lost_3 : List UInt8 := [128, 62, 132, 4, 1, 167, 255, 200, 29, 172]
abbrev dktX1_lost_3 : List UInt8 := dkwX1_lost_3 ++ []
def dkwX1_lost_2 : List UInt8 := [180, 0, 96, 21, 4, 46, 42, 180, 0, 38, 180, 0, 96, 21, 4, 46, 159, 0, 10, 29, 4, 21, 4, 120]
abbrev dktX1_lost_2 : List UInt8 := dkwX1_lost_2 ++ dktX1_lost_3
def dkwX1_lost_1 : List UInt8 := [180, 0, 22, 182, 0, 92, 162, 0, 50, 42, 180, 0, 38, 180, 0, 96, 21, 4, 46, 2, 159, 0, 30, 44]
abbrev dktX1_lost_1 : List UInt8 := dkwX1_lost_1 ++ dktX1_lost_2
def dkwX1_lost_0 : List UInt8 := [27, 3, 16, 40, 184, 0, 134, 184, 0, 65, 42, 27, 182, 0, 217, 77, 3, 62, 3, 54, 4, 21, 4, 42]
abbrev dktX1_lost_0 : List UInt8 := dkwX1_lost_0 ++ dktX1_lost_1
theorem dksX1_lost_0 : cX1_lost.data.toList.drop 0 = dktX1_lost_0 := by decide +kernel
theorem dksX1_lost_1 : cX1_lost.data.toList.drop 24 = dktX1_lost_1 := dk_seg dksX1_lost_0 24 rfl rfl
theorem dksX1_lost_2 : cX1_lost.data.toList.drop 48 = dktX1_lost_2 := dk_seg dksX1_lost_1 24 rfl rfl
theorem dksX1_lost_3 : cX1_lost.data.toList.drop 72 = dktX1_lost_3 := dk_seg dksX1_lost_2 24 rfl rfl
theorem dX1_lost_0 : decode cX1_lost 0 = .ok (.iload_n 1, 1) := dk_27 (dk_at dksX1_lost_0 0 rfl rfl)
theorem dX1_lost_1 : decode cX1_lost 1 = .ok (.iconst 0, 1) := dk_3 (dk_at dksX1_lost_0 1 rfl rfl)
theorem dX1_lost_2 : decode cX1_lost 2 = .ok (.bipush 40, 2) := dk_16 40 (dk_at dksX1_lost_0 2 rfl rfl)
theorem dX1_lost_4 : decode cX1_lost 4 = .ok (.invokestatic 134, 3) := dk_184 0 134 (dk_at dksX1_lost_0 4 rfl rfl)
theorem dX1_lost_7 : decode cX1_lost 7 = .ok (.invokestatic 65, 3) := dk_184 0 65 (dk_at dksX1_lost_0 7 rfl rfl)
theorem dX1_lost_10 : decode cX1_lost 10 = .ok (.aload_n 0, 1) := dk_42 (dk_at dksX1_lost_0 10 rfl rfl)
theorem dX1_lost_11 : decode cX1_lost 11 = .ok (.iload_n 1, 1) := dk_27 (dk_at dksX1_lost_0 11 rfl rfl)
theorem dX1_lost_12 : decode cX1_lost 12 = .ok (.invokevirtual 217, 3) := dk_182 0 217 (dk_at dksX1_lost_0 12 rfl rfl)
theorem dX1_lost_15 : decode cX1_lost 15 = .ok (.astore_n 2, 1) := dk_77 (dk_at dksX1_lost_0 15 rfl rfl)
theorem dX1_lost_16 : decode cX1_lost 16 = .ok (.iconst 0, 1) := dk_3 (dk_at dksX1_lost_0 16 rfl rfl)
theorem dX1_lost_17 : decode cX1_lost 17 = .ok (.istore_n 3, 1) := dk_62 (dk_at dksX1_lost_0 17 rfl rfl)
theorem dX1_lost_18 : decode cX1_lost 18 = .ok (.iconst 0, 1) := dk_3 (dk_at dksX1_lost_0 18 rfl rfl)
theorem dX1_lost_19 : decode cX1_lost 19 = .ok (.istore 4, 2) := dk_54 4 (dk_at dksX1_lost_0 19 rfl rfl)
theorem dX1_lost_21 : decode cX1_lost 21 = .ok (.iload 4, 2) := dk_21 4 (dk_at dksX1_lost_0 21 rfl rfl)
theorem dX1_lost_23 : decode cX1_lost 23 = .ok (.aload_n 0, 1) := dk_42 (dk_at dksX1_lost_0 23 rfl rfl)
theorem dX1_lost_24 : decode cX1_lost 24 = .ok (.getfield 22, 3) := dk_180 0 22 (dk_at dksX1_lost_1 0 rfl rfl)
theorem dX1_lost_27 : decode cX1_lost 27 = .ok (.invokevirtual 92, 3) := dk_182 0 92 (dk_at dksX1_lost_1 3 rfl rfl)
theorem dX1_lost_30 : decode cX1_lost 30 = .ok (.if_icmp .ge 50, 3) := dk_162 0 50 (dk_at dksX1_lost_1 6 rfl rfl)
theorem dX1_lost_33 : decode cX1_lost 33 = .ok (.aload_n 0, 1) := dk_42 (dk_at dksX1_lost_1 9 rfl rfl)
theorem dX1_lost_34 : decode cX1_lost 34 = .ok (.getfield 38, 3) := dk_180 0 38 (dk_at dksX1_lost_1 10 rfl rfl)
theorem dX1_lost_37 : decode cX1_lost 37 = .ok (.getfield 96, 3) := dk_180 0 96 (dk_at dksX1_lost_1 13 rfl rfl)
theorem dX1_lost_40 : decode cX1_lost 40 = .ok (.iload 4, 2) := dk_21 4 (dk_at dksX1_lost_1 16 rfl rfl)
theorem dX1_lost_42 : decode cX1_lost 42 = .ok (.iaload, 1) := dk_46 (dk_at dksX1_lost_1 18 rfl rfl)
theorem dX1_lost_43 : decode cX1_lost 43 = .ok (.iconst (-1), 1) := dk_2 (dk_at dksX1_lost_1 19 rfl rfl)
theorem dX1_lost_44 : decode cX1_lost 44 = .ok (.if_icmp .eq 30, 3) := dk_159 0 30 (dk_at dksX1_lost_1 20 rfl rfl)
theorem dX1_lost_47 : decode cX1_lost 47 = .ok (.aload_n 2, 1) := dk_44 (dk_at dksX1_lost_1 23 rfl rfl)
theorem dX1_lost_48 : decode cX1_lost 48 = .ok (.getfield 96, 3) := dk_180 0 96 (dk_at dksX1_lost_2 0 rfl rfl)
theorem dX1_lost_51 : decode cX1_lost 51 = .ok (.iload 4, 2) := dk_21 4 (dk_at dksX1_lost_2 3 rfl rfl)
theorem dX1_lost_53 : decode cX1_lost 53 = .ok (.iaload, 1) := dk_46 (dk_at dksX1_lost_2 5 rfl rfl)
theorem dX1_lost_54 : decode cX1_lost 54 = .ok (.aload_n 0, 1) := dk_42 (dk_at dksX1_lost_2 6 rfl rfl)
theorem dX1_lost_55 : decode cX1_lost 55 = .ok (.getfield 38, 3) := dk_180 0 38 (dk_at dksX1_lost_2 7 rfl rfl)
theorem dX1_lost_58 : decode cX1_lost 58 = .ok (.getfield 96, 3) := dk_180 0 96 (dk_at dksX1_lost_2 10 rfl rfl)
theorem dX1_lost_61 : decode cX1_lost 61 = .ok (.iload 4, 2) := dk_21 4 (dk_at dksX1_lost_2 13 rfl rfl)
theorem dX1_lost_63 : decode cX1_lost 63 = .ok (.iaload, 1) := dk_46 (dk_at dksX1_lost_2 15 rfl rfl)
theorem dX1_lost_64 : decode cX1_lost 64 = .ok (.if_icmp .eq 10, 3) := dk_159 0 10 (dk_at dksX1_lost_2 16 rfl rfl)
theorem dX1_lost_67 : decode cX1_lost 67 = .ok (.iload_n 3, 1) := dk_29 (dk_at dksX1_lost_2 19 rfl rfl)
theorem dX1_lost_68 : decode cX1_lost 68 = .ok (.iconst 1, 1) := dk_4 (dk_at dksX1_lost_2 20 rfl rfl)
theorem dX1_lost_69 : decode cX1_lost 69 = .ok (.iload 4, 2) := dk_21 4 (dk_at dksX1_lost_2 21 rfl rfl)
theorem dX1_lost_71 : decode cX1_lost 71 = .ok (.ishl, 1) := dk_120 (dk_at dksX1_lost_2 23 rfl rfl)
theorem dX1_lost_72 : decode cX1_lost 72 = .ok (.ior, 1) := dk_128 (dk_at dksX1_lost_3 0 rfl rfl)
theorem dX1_lost_73 : decode cX1_lost 73 = .ok (.istore_n 3, 1) := dk_62 (dk_at dksX1_lost_3 1 rfl rfl)
theorem dX1_lost_74 : decode cX1_lost 74 = .ok (.iinc 4 1, 3) := dk_132 4 1 (dk_at dksX1_lost_3 2 rfl rfl)
theorem dX1_lost_77 : decode cX1_lost 77 = .ok (.goto (-56), 3) := dk_167 255 200 (dk_at dksX1_lost_3 5 rfl rfl)
theorem dX1_lost_80 : decode cX1_lost 80 = .ok (.iload_n 3, 1) := dk_29 (dk_at dksX1_lost_3 8 rfl rfl)
theorem dX1_lost_81 : decode cX1_lost 81 = .ok (.ireturn, 1) := dk_172 (dk_at dksX1_lost_3 9 rfl rfl)
abbrev mX1_lost : xM := (yX1_lost, cX1_lost, 5, (some .int), [])
def c_X1_lost_74 (G : xG) (k21 : Option Nat → Option Nat → Int32 → Int32 → xF → Option ((Int32 ⊕ xE) × xF)) (x0 : Option Nat) (x2 : Option Nat) (x3 : Int32) (x4 : Int32) (T : xF) : Option ((Int32 ⊕ xE) × xF) :=
  k21 x0 x2 x3 (x4 + 1) T
theorem c_X1_lost_74_ok {G : xG}  {T0 : xF} {k21 : Option Nat → Option Nat → Int32 → Int32 → xF → Option ((Int32 ⊕ xE) × xF)} (hk21 : ∀ (x0 : Option Nat) (x2 : Option Nat) (x3 : Int32) (x4 : Int32) (T : xF) (q : ((Int32 ⊕ xE) × xF)), k21 x0 x2 x3 x4 T = some q → Xr G (mX1_lost, xrm (127) T0 q.2, T0, xoI q.1, q.2) 21 [(0, va_rf x0), (2, va_rf x2), (3, .int x3), (4, .int x4)] [] T) (x0 : Option Nat) (x2 : Option Nat) (x3 : Int32) (x4 : Int32) (T : xF) (q : ((Int32 ⊕ xE) × xF)) (hf : c_X1_lost_74 G k21 x0 x2 x3 x4 T = some q) : Xr G (mX1_lost, xrm (127) T0 q.2, T0, xoI q.1, q.2) 74 [(0, va_rf x0), (2, va_rf x2), (3, .int x3), (4, .int x4)] [] T := by
  unfold c_X1_lost_74 at hf
  refine C.iinc (v := (x4 + 1)) (L' := [(4, .int (x4 + 1)), (0, va_rf x0), (2, va_rf x2), (3, .int x3)]) dX1_lost_74 3 rfl rfl (Nat.le_of_ble_eq_true rfl) (xcQ (xcQ (xcI (xcI xcN)))) rfl ?_
  refine X.goto (tgt := 21) dX1_lost_77 (by decide) ?_
  refine X.sub [1, 2, 3, 0] (L' := [(0, va_rf x0), (2, va_rf x2), (3, .int x3), (4, .int (x4 + 1))]) rfl ?_
  exact hk21 _ _ _ _ _ _ hf
def c_X1_lost_21_b (G : xG) (k21 : Option Nat → Option Nat → Int32 → Int32 → xF → Option ((Int32 ⊕ xE) × xF)) (x0 : Option Nat) (x2 : Option Nat) (x3 : Int32) (x4 : Int32) (T : xF) : Option ((Int32 ⊕ xE) × xF) :=
  (oQ T x0 0 1).bind fun v24 =>
  if ¬ isO T v24 1 = true then none else
  (c_X2_cells T v24).bind fun v27 =>
  if v27 ≤ x4 then
    some (.inl x3, T)
  else
    (oQ T x0 0 4).bind fun v34 =>
    (oQ T v34 2 2).bind fun v37 =>
    (ldA T v37 .int x4).bind fun v42 =>
    if v42 = (-1 : Int32) then
      c_X1_lost_74 G k21 x0 x2 x3 x4 T
    else
      (oQ T x2 2 2).bind fun v48 =>
      (ldA T v48 .int x4).bind fun v53 =>
      (oQ T x0 0 4).bind fun v55 =>
      (oQ T v55 2 2).bind fun v58 =>
      (ldA T v58 .int x4).bind fun v63 =>
      if v53 = v63 then
        c_X1_lost_74 G k21 x0 x2 x3 x4 T
      else
        c_X1_lost_74 G k21 x0 x2 (x3 ||| ((1 : Int32) <<< (x4 &&& 31))) x4 T
def c_X1_lost_21 (G : xG) : Nat → Option Nat → Option Nat → Int32 → Int32 → xF → Option ((Int32 ⊕ xE) × xF)
  | 0 => fun _ _ _ _ _ => none
  | n + 1 => fun x0 x2 x3 x4 T => c_X1_lost_21_b G (c_X1_lost_21 G n) x0 x2 x3 x4 T
theorem c_X1_lost_21_bok {G : xG}  {T0 : xF}  {k21 : Option Nat → Option Nat → Int32 → Int32 → xF → Option ((Int32 ⊕ xE) × xF)}  (hk21 : ∀ (x0 : Option Nat) (x2 : Option Nat) (x3 : Int32) (x4 : Int32) (T : xF) (q : ((Int32 ⊕ xE) × xF)), k21 x0 x2 x3 x4 T = some q → Xr G (mX1_lost, xrm (127) T0 q.2, T0, xoI q.1, q.2) 21 [(0, va_rf x0), (2, va_rf x2), (3, .int x3), (4, .int x4)] [] T) (x0 : Option Nat) (x2 : Option Nat) (x3 : Int32) (x4 : Int32) (T : xF) (q : ((Int32 ⊕ xE) × xF)) (hf : c_X1_lost_21_b G k21 x0 x2 x3 x4 T = some q) : Xr G (mX1_lost, xrm (127) T0 q.2, T0, xoI q.1, q.2) 21 [(0, va_rf x0), (2, va_rf x2), (3, .int x3), (4, .int x4)] [] T := by
  unfold c_X1_lost_21_b at hf
  refine X.iload dX1_lost_21 3 rfl ?_
  refine C.aload_n dX1_lost_23 rfl 0 rfl ?_
  obtain ⟨v24, h24, hf⟩ := ob hf
  refine C.getQ dX1_lost_24 rX1_22 h24 ?_
  obtain ⟨c27, hf⟩ := if_n hf
  obtain ⟨v27, h27, hf⟩ := ob hf
  refine X.keep fun l27 => C.Vi (As := []) (rest := [.int x4]) dX1_lost_27 (w_X2_cells h27) cX1_92 (Classical.not_not.mp c27) rfl rfl (xcs (xvI xvN) (Nat.le_of_ble_eq_true rfl)) rfl rfl (xD (Nat.le_of_ble_eq_true rfl)) xle.rf l27 ?_
  refine X.icmp_ge (tgt := 80) dX1_lost_30 (by decide) (fun c30 => ?_) (fun c30 => ?_)
  · have hf := if_t c30 hf
    refine X.iload_n dX1_lost_80 rfl 2 rfl ?_
    obtain rfl := Option.some.inj hf
    exact X.iret dX1_lost_81 rfl rfl rfl
  · have hf := if_f c30 hf
    refine C.aload_n dX1_lost_33 rfl 0 rfl ?_
    obtain ⟨v34, h34, hf⟩ := ob hf
    refine C.getQ dX1_lost_34 rX1_38 h34 ?_
    obtain ⟨v37, h37, hf⟩ := ob hf
    refine C.getQ dX1_lost_37 rX1_96 h37 ?_
    refine X.iload dX1_lost_40 3 rfl ?_
    obtain ⟨v42, h42, hf⟩ := ob hf
    refine C.iald dX1_lost_42 h42 ?_
    refine X.iconst (v := -1) dX1_lost_43 (by decide) ?_
    refine X.icmp_eq (tgt := 74) dX1_lost_44 (by decide) (fun c44 => ?_) (fun c44 => ?_)
    · have hf := if_t c44 hf
      refine X.sub [0, 1, 2, 3] (L' := [(0, va_rf x0), (2, va_rf x2), (3, .int x3), (4, .int x4)]) rfl ?_
      exact c_X1_lost_74_ok hk21 _ _ _ _ _ _ hf
    · have hf := if_f c44 hf
      refine C.aload_n dX1_lost_47 rfl 1 rfl ?_
      obtain ⟨v48, h48, hf⟩ := ob hf
      refine C.getQ dX1_lost_48 rX1_96 h48 ?_
      refine X.iload dX1_lost_51 3 rfl ?_
      obtain ⟨v53, h53, hf⟩ := ob hf
      refine C.iald dX1_lost_53 h53 ?_
      refine C.aload_n dX1_lost_54 rfl 0 rfl ?_
      obtain ⟨v55, h55, hf⟩ := ob hf
      refine C.getQ dX1_lost_55 rX1_38 h55 ?_
      obtain ⟨v58, h58, hf⟩ := ob hf
      refine C.getQ dX1_lost_58 rX1_96 h58 ?_
      refine X.iload dX1_lost_61 3 rfl ?_
      obtain ⟨v63, h63, hf⟩ := ob hf
      refine C.iald dX1_lost_63 h63 ?_
      refine X.icmp_eq (tgt := 74) dX1_lost_64 (by decide) (fun c64 => ?_) (fun c64 => ?_)
      · have hf := if_t c64 hf
        refine X.sub [0, 1, 2, 3] (L' := [(0, va_rf x0), (2, va_rf x2), (3, .int x3), (4, .int x4)]) rfl ?_
        exact c_X1_lost_74_ok hk21 _ _ _ _ _ _ hf
      · have hf := if_f c64 hf
        refine X.iload_n dX1_lost_67 rfl 2 rfl ?_
        refine X.iconst (v := 1) dX1_lost_68 (by decide) ?_
        refine X.iload dX1_lost_69 3 rfl ?_
        refine X.ishl dX1_lost_71 ?_
        refine X.ior dX1_lost_72 ?_
        refine C.ist_n (L' := [(3, .int (x3 ||| ((1 : Int32) <<< (x4 &&& 31)))), (0, va_rf x0), (2, va_rf x2), (4, .int x4)]) dX1_lost_73 rfl (Nat.le_of_ble_eq_true rfl) (xcQ (xcQ (xcI (xcI xcN)))) rfl ?_
        refine X.sub [1, 2, 0, 3] (L' := [(0, va_rf x0), (2, va_rf x2), (3, .int (x3 ||| ((1 : Int32) <<< (x4 &&& 31)))), (4, .int x4)]) rfl ?_
        exact c_X1_lost_74_ok hk21 _ _ _ _ _ _ hf
theorem c_X1_lost_21_ok {G : xG}  {T0 : xF}   : ∀ (n : Nat) (x0 : Option Nat) (x2 : Option Nat) (x3 : Int32) (x4 : Int32) (T : xF) (q : ((Int32 ⊕ xE) × xF)), c_X1_lost_21 G n x0 x2 x3 x4 T = some q → Xr G (mX1_lost, xrm (127) T0 q.2, T0, xoI q.1, q.2) 21 [(0, va_rf x0), (2, va_rf x2), (3, .int x3), (4, .int x4)] [] T
  | 0, _, _, _, _, _, _, hf => by cases hf
  | n + 1, x0, x2, x3, x4, T, q, hf => c_X1_lost_21_bok (c_X1_lost_21_ok n) x0 x2 x3 x4 T q hf
def c_X1_lost (G : xG) (x0 : Option Nat) (x1 : Int32) (T : xF) : Option ((Int32 ⊕ xE) × xF) :=
  (c_X1_in x1 (0 : Int32) (40 : Int32)).bind fun v4 =>
  clX (c_X1_right v4 T) T fun v7 T7 =>
  if ¬ isO T7 x0 0 = true then none else
  cl (c_X1_later G x0 x1 T7) T7 fun v12 T12 =>
  c_X1_lost_21 G FU x0 v12 (0 : Int32) (0 : Int32) T12
theorem w_X1_lost {G : xG}  {T : xF} {x0 : Option Nat} {x1 : Int32} {q : ((Int32 ⊕ xE) × xF)} (hf : c_X1_lost G x0 x1 T = some q) : Ct G mX1_lost (127) T [va_rf x0, .int x1] (xoI q.1) q.2 := by
  refine Ct.ofc (plainFor_of_name (by decide +kernel)) rfl (xvQ (xvI xvN)) (Nat.le_of_ble_eq_true rfl) (show Xr G _ 0 [(0, va_rf x0), (1, .int x1)] [] _ from ?_)
  unfold c_X1_lost at hf
  refine X.iload_n dX1_lost_0 rfl 1 rfl ?_
  refine X.iconst (v := 0) dX1_lost_1 (by decide) ?_
  refine X.bipush (v := 40) dX1_lost_2 (by decide) ?_
  obtain ⟨v4, h4, hf⟩ := ob hf
  refine X.keep fun l4 => C.Si (As := [.int x1, .int (0 : Int32), .int (40 : Int32)]) (rest := []) dX1_lost_4 (w_X1_in h4) cX1_134 rfl rfl (xcs xvN (Nat.le_of_ble_eq_true rfl)) (xD (Nat.le_of_ble_eq_true rfl)) xle.rf l4 ?_
  rcases clX_ok hf with ⟨v7, T7, h7, hf, l7, r7⟩ | ⟨e7, T7, h7, rfl, l7⟩
  rotate_left
  · exact C.Sx (As := [.int v4]) (rest := []) dX1_lost_7 (w_X1_right h7) cX1_65 rfl rfl (xcs xvN (Nat.le_of_ble_eq_true rfl)) (xD (Nat.le_of_ble_eq_true rfl)) l7 xle.rf (xnoh rfl) rfl
  refine C.Sv (As := [.int v4]) (rest := []) dX1_lost_7 (w_X1_right h7) cX1_65 rfl rfl (xcs xvN (Nat.le_of_ble_eq_true rfl)) (xD (Nat.le_of_ble_eq_true rfl)) l7 r7 ?_
  refine C.aload_n dX1_lost_10 rfl 0 rfl ?_
  refine X.iload_n dX1_lost_11 rfl 1 rfl ?_
  obtain ⟨c12, hf⟩ := if_n hf
  obtain ⟨v12, T12, h12, hf, l12, r12⟩ := cl_ok hf
  refine C.Vq (As := [.int x1]) (rest := []) dX1_lost_12 (w_X1_later h12) cX1_217 (Classical.not_not.mp c12) rfl rfl (xcs xvN (Nat.le_of_ble_eq_true rfl)) rfl rfl (xD (Nat.le_of_ble_eq_true rfl)) l12 r12 ?_
  refine C.ast_n (L' := [(2, va_rf v12), (0, va_rf x0), (1, .int x1)]) dX1_lost_15 rfl (Nat.le_of_ble_eq_true rfl) (xcQ (xcI xcN)) rfl ?_
  refine X.iconst (v := 0) dX1_lost_16 (by decide) ?_
  refine C.ist_n (L' := [(3, .int (0 : Int32)), (2, va_rf v12), (0, va_rf x0), (1, .int x1)]) dX1_lost_17 rfl (Nat.le_of_ble_eq_true rfl) (xcQ (xcQ (xcI xcN))) rfl ?_
  refine X.iconst (v := 0) dX1_lost_18 (by decide) ?_
  refine C.ist (L' := [(4, .int (0 : Int32)), (3, .int (0 : Int32)), (2, va_rf v12), (0, va_rf x0), (1, .int x1)]) dX1_lost_19 (Nat.le_of_ble_eq_true rfl) (xcI (xcQ (xcQ (xcI xcN)))) rfl ?_
  refine X.sub [3, 2, 1, 0] (L' := [(0, va_rf x0), (2, va_rf v12), (3, .int (0 : Int32)), (4, .int (0 : Int32))]) rfl ?_
  exact c_X1_lost_21_ok FU _ _ _ _ _ _ hf
/-! MouldVotes fronts -/
abbrev cX1_fronts : ByteArray := prog_1_method_55_code
def yX1_fronts : MethodName := ⟨RX1, "fronts", "(I)I"⟩
def dkwX1_fronts_4 : List UInt8 := [159, 0, 6, 132, 3, 1, 132, 5, 1, 167, 255, 189, 132, 4, 1, 167, 255, 168, 29, 172]
abbrev dktX1_fronts_4 : List UInt8 := dkwX1_fronts_4 ++ []
def dkwX1_fronts_3 : List UInt8 := [180, 0, 96, 21, 5, 46, 2, 159, 0, 23, 44, 180, 0, 96, 21, 4, 46, 44, 180, 0, 96, 21, 5, 46]
abbrev dktX1_fronts_3 : List UInt8 := dkwX1_fronts_3 ++ dktX1_fronts_4
def dkwX1_fronts_2 : List UInt8 := [21, 4, 21, 5, 182, 0, 141, 4, 160, 0, 45, 44, 180, 0, 96, 21, 4, 46, 2, 159, 0, 34, 44]
abbrev dktX1_fronts_2 : List UInt8 := dkwX1_fronts_2 ++ dktX1_fronts_3
def dkwX1_fronts_1 : List UInt8 := [180, 0, 22, 182, 0, 92, 162, 0, 82, 3, 54, 5, 21, 5, 21, 4, 162, 0, 66, 42, 180, 0, 22]
abbrev dktX1_fronts_1 : List UInt8 := dkwX1_fronts_1 ++ dktX1_fronts_2
def dkwX1_fronts_0 : List UInt8 := [27, 3, 16, 40, 184, 0, 134, 184, 0, 65, 42, 27, 182, 0, 217, 77, 3, 62, 3, 54, 4, 21, 4, 42]
abbrev dktX1_fronts_0 : List UInt8 := dkwX1_fronts_0 ++ dktX1_fronts_1
theorem dksX1_fronts_0 : cX1_fronts.data.toList.drop 0 = dktX1_fronts_0 := by decide +kernel
theorem dksX1_fronts_1 : cX1_fronts.data.toList.drop 24 = dktX1_fronts_1 := dk_seg dksX1_fronts_0 24 rfl rfl
theorem dksX1_fronts_2 : cX1_fronts.data.toList.drop 47 = dktX1_fronts_2 := dk_seg dksX1_fronts_1 23 rfl rfl
theorem dksX1_fronts_3 : cX1_fronts.data.toList.drop 70 = dktX1_fronts_3 := dk_seg dksX1_fronts_2 23 rfl rfl
theorem dksX1_fronts_4 : cX1_fronts.data.toList.drop 94 = dktX1_fronts_4 := dk_seg dksX1_fronts_3 24 rfl rfl
theorem dX1_fronts_0 : decode cX1_fronts 0 = .ok (.iload_n 1, 1) := dk_27 (dk_at dksX1_fronts_0 0 rfl rfl)
theorem dX1_fronts_1 : decode cX1_fronts 1 = .ok (.iconst 0, 1) := dk_3 (dk_at dksX1_fronts_0 1 rfl rfl)
theorem dX1_fronts_2 : decode cX1_fronts 2 = .ok (.bipush 40, 2) := dk_16 40 (dk_at dksX1_fronts_0 2 rfl rfl)
theorem dX1_fronts_4 : decode cX1_fronts 4 = .ok (.invokestatic 134, 3) := dk_184 0 134 (dk_at dksX1_fronts_0 4 rfl rfl)
theorem dX1_fronts_7 : decode cX1_fronts 7 = .ok (.invokestatic 65, 3) := dk_184 0 65 (dk_at dksX1_fronts_0 7 rfl rfl)
theorem dX1_fronts_10 : decode cX1_fronts 10 = .ok (.aload_n 0, 1) := dk_42 (dk_at dksX1_fronts_0 10 rfl rfl)
theorem dX1_fronts_11 : decode cX1_fronts 11 = .ok (.iload_n 1, 1) := dk_27 (dk_at dksX1_fronts_0 11 rfl rfl)
theorem dX1_fronts_12 : decode cX1_fronts 12 = .ok (.invokevirtual 217, 3) := dk_182 0 217 (dk_at dksX1_fronts_0 12 rfl rfl)
theorem dX1_fronts_15 : decode cX1_fronts 15 = .ok (.astore_n 2, 1) := dk_77 (dk_at dksX1_fronts_0 15 rfl rfl)
theorem dX1_fronts_16 : decode cX1_fronts 16 = .ok (.iconst 0, 1) := dk_3 (dk_at dksX1_fronts_0 16 rfl rfl)
theorem dX1_fronts_17 : decode cX1_fronts 17 = .ok (.istore_n 3, 1) := dk_62 (dk_at dksX1_fronts_0 17 rfl rfl)
theorem dX1_fronts_18 : decode cX1_fronts 18 = .ok (.iconst 0, 1) := dk_3 (dk_at dksX1_fronts_0 18 rfl rfl)
theorem dX1_fronts_19 : decode cX1_fronts 19 = .ok (.istore 4, 2) := dk_54 4 (dk_at dksX1_fronts_0 19 rfl rfl)
theorem dX1_fronts_21 : decode cX1_fronts 21 = .ok (.iload 4, 2) := dk_21 4 (dk_at dksX1_fronts_0 21 rfl rfl)
theorem dX1_fronts_23 : decode cX1_fronts 23 = .ok (.aload_n 0, 1) := dk_42 (dk_at dksX1_fronts_0 23 rfl rfl)
theorem dX1_fronts_24 : decode cX1_fronts 24 = .ok (.getfield 22, 3) := dk_180 0 22 (dk_at dksX1_fronts_1 0 rfl rfl)
theorem dX1_fronts_27 : decode cX1_fronts 27 = .ok (.invokevirtual 92, 3) := dk_182 0 92 (dk_at dksX1_fronts_1 3 rfl rfl)
theorem dX1_fronts_30 : decode cX1_fronts 30 = .ok (.if_icmp .ge 82, 3) := dk_162 0 82 (dk_at dksX1_fronts_1 6 rfl rfl)
theorem dX1_fronts_33 : decode cX1_fronts 33 = .ok (.iconst 0, 1) := dk_3 (dk_at dksX1_fronts_1 9 rfl rfl)
theorem dX1_fronts_34 : decode cX1_fronts 34 = .ok (.istore 5, 2) := dk_54 5 (dk_at dksX1_fronts_1 10 rfl rfl)
theorem dX1_fronts_36 : decode cX1_fronts 36 = .ok (.iload 5, 2) := dk_21 5 (dk_at dksX1_fronts_1 12 rfl rfl)
theorem dX1_fronts_38 : decode cX1_fronts 38 = .ok (.iload 4, 2) := dk_21 4 (dk_at dksX1_fronts_1 14 rfl rfl)
theorem dX1_fronts_40 : decode cX1_fronts 40 = .ok (.if_icmp .ge 66, 3) := dk_162 0 66 (dk_at dksX1_fronts_1 16 rfl rfl)
theorem dX1_fronts_43 : decode cX1_fronts 43 = .ok (.aload_n 0, 1) := dk_42 (dk_at dksX1_fronts_1 19 rfl rfl)
theorem dX1_fronts_44 : decode cX1_fronts 44 = .ok (.getfield 22, 3) := dk_180 0 22 (dk_at dksX1_fronts_1 20 rfl rfl)
theorem dX1_fronts_47 : decode cX1_fronts 47 = .ok (.iload 4, 2) := dk_21 4 (dk_at dksX1_fronts_2 0 rfl rfl)
theorem dX1_fronts_49 : decode cX1_fronts 49 = .ok (.iload 5, 2) := dk_21 5 (dk_at dksX1_fronts_2 2 rfl rfl)
theorem dX1_fronts_51 : decode cX1_fronts 51 = .ok (.invokevirtual 141, 3) := dk_182 0 141 (dk_at dksX1_fronts_2 4 rfl rfl)
theorem dX1_fronts_54 : decode cX1_fronts 54 = .ok (.iconst 1, 1) := dk_4 (dk_at dksX1_fronts_2 7 rfl rfl)
theorem dX1_fronts_55 : decode cX1_fronts 55 = .ok (.if_icmp .ne 45, 3) := dk_160 0 45 (dk_at dksX1_fronts_2 8 rfl rfl)
theorem dX1_fronts_58 : decode cX1_fronts 58 = .ok (.aload_n 2, 1) := dk_44 (dk_at dksX1_fronts_2 11 rfl rfl)
theorem dX1_fronts_59 : decode cX1_fronts 59 = .ok (.getfield 96, 3) := dk_180 0 96 (dk_at dksX1_fronts_2 12 rfl rfl)
theorem dX1_fronts_62 : decode cX1_fronts 62 = .ok (.iload 4, 2) := dk_21 4 (dk_at dksX1_fronts_2 15 rfl rfl)
theorem dX1_fronts_64 : decode cX1_fronts 64 = .ok (.iaload, 1) := dk_46 (dk_at dksX1_fronts_2 17 rfl rfl)
theorem dX1_fronts_65 : decode cX1_fronts 65 = .ok (.iconst (-1), 1) := dk_2 (dk_at dksX1_fronts_2 18 rfl rfl)
theorem dX1_fronts_66 : decode cX1_fronts 66 = .ok (.if_icmp .eq 34, 3) := dk_159 0 34 (dk_at dksX1_fronts_2 19 rfl rfl)
theorem dX1_fronts_69 : decode cX1_fronts 69 = .ok (.aload_n 2, 1) := dk_44 (dk_at dksX1_fronts_2 22 rfl rfl)
theorem dX1_fronts_70 : decode cX1_fronts 70 = .ok (.getfield 96, 3) := dk_180 0 96 (dk_at dksX1_fronts_3 0 rfl rfl)
theorem dX1_fronts_73 : decode cX1_fronts 73 = .ok (.iload 5, 2) := dk_21 5 (dk_at dksX1_fronts_3 3 rfl rfl)
theorem dX1_fronts_75 : decode cX1_fronts 75 = .ok (.iaload, 1) := dk_46 (dk_at dksX1_fronts_3 5 rfl rfl)
theorem dX1_fronts_76 : decode cX1_fronts 76 = .ok (.iconst (-1), 1) := dk_2 (dk_at dksX1_fronts_3 6 rfl rfl)
theorem dX1_fronts_77 : decode cX1_fronts 77 = .ok (.if_icmp .eq 23, 3) := dk_159 0 23 (dk_at dksX1_fronts_3 7 rfl rfl)
theorem dX1_fronts_80 : decode cX1_fronts 80 = .ok (.aload_n 2, 1) := dk_44 (dk_at dksX1_fronts_3 10 rfl rfl)
theorem dX1_fronts_81 : decode cX1_fronts 81 = .ok (.getfield 96, 3) := dk_180 0 96 (dk_at dksX1_fronts_3 11 rfl rfl)
theorem dX1_fronts_84 : decode cX1_fronts 84 = .ok (.iload 4, 2) := dk_21 4 (dk_at dksX1_fronts_3 14 rfl rfl)
theorem dX1_fronts_86 : decode cX1_fronts 86 = .ok (.iaload, 1) := dk_46 (dk_at dksX1_fronts_3 16 rfl rfl)
theorem dX1_fronts_87 : decode cX1_fronts 87 = .ok (.aload_n 2, 1) := dk_44 (dk_at dksX1_fronts_3 17 rfl rfl)
theorem dX1_fronts_88 : decode cX1_fronts 88 = .ok (.getfield 96, 3) := dk_180 0 96 (dk_at dksX1_fronts_3 18 rfl rfl)
theorem dX1_fronts_91 : decode cX1_fronts 91 = .ok (.iload 5, 2) := dk_21 5 (dk_at dksX1_fronts_3 21 rfl rfl)
theorem dX1_fronts_93 : decode cX1_fronts 93 = .ok (.iaload, 1) := dk_46 (dk_at dksX1_fronts_3 23 rfl rfl)
theorem dX1_fronts_94 : decode cX1_fronts 94 = .ok (.if_icmp .eq 6, 3) := dk_159 0 6 (dk_at dksX1_fronts_4 0 rfl rfl)
theorem dX1_fronts_97 : decode cX1_fronts 97 = .ok (.iinc 3 1, 3) := dk_132 3 1 (dk_at dksX1_fronts_4 3 rfl rfl)
theorem dX1_fronts_100 : decode cX1_fronts 100 = .ok (.iinc 5 1, 3) := dk_132 5 1 (dk_at dksX1_fronts_4 6 rfl rfl)
theorem dX1_fronts_103 : decode cX1_fronts 103 = .ok (.goto (-67), 3) := dk_167 255 189 (dk_at dksX1_fronts_4 9 rfl rfl)
theorem dX1_fronts_106 : decode cX1_fronts 106 = .ok (.iinc 4 1, 3) := dk_132 4 1 (dk_at dksX1_fronts_4 12 rfl rfl)
theorem dX1_fronts_109 : decode cX1_fronts 109 = .ok (.goto (-88), 3) := dk_167 255 168 (dk_at dksX1_fronts_4 15 rfl rfl)
theorem dX1_fronts_112 : decode cX1_fronts 112 = .ok (.iload_n 3, 1) := dk_29 (dk_at dksX1_fronts_4 18 rfl rfl)
theorem dX1_fronts_113 : decode cX1_fronts 113 = .ok (.ireturn, 1) := dk_172 (dk_at dksX1_fronts_4 19 rfl rfl)
abbrev mX1_fronts : xM := (yX1_fronts, cX1_fronts, 6, (some .int), [])
def c_X1_fronts_100 (G : xG) (k21 : Option Nat → Option Nat → Int32 → Int32 → xF → Option ((Int32 ⊕ xE) × xF)) (k36 : Option Nat → Option Nat → Int32 → Int32 → Int32 → xF → Option ((Int32 ⊕ xE) × xF)) (x0 : Option Nat) (x2 : Option Nat) (x3 : Int32) (x4 : Int32) (x5 : Int32) (T : xF) : Option ((Int32 ⊕ xE) × xF) :=
  k36 x0 x2 x3 x4 (x5 + 1) T
theorem c_X1_fronts_100_ok {G : xG}  {T0 : xF} {k21 : Option Nat → Option Nat → Int32 → Int32 → xF → Option ((Int32 ⊕ xE) × xF)} {k36 : Option Nat → Option Nat → Int32 → Int32 → Int32 → xF → Option ((Int32 ⊕ xE) × xF)} (hk21 : ∀ (x0 : Option Nat) (x2 : Option Nat) (x3 : Int32) (x4 : Int32) (T : xF) (q : ((Int32 ⊕ xE) × xF)), k21 x0 x2 x3 x4 T = some q → Xr G (mX1_fronts, xrm (127) T0 q.2, T0, xoI q.1, q.2) 21 [(0, va_rf x0), (2, va_rf x2), (3, .int x3), (4, .int x4)] [] T) (hk36 : ∀ (x0 : Option Nat) (x2 : Option Nat) (x3 : Int32) (x4 : Int32) (x5 : Int32) (T : xF) (q : ((Int32 ⊕ xE) × xF)), k36 x0 x2 x3 x4 x5 T = some q → Xr G (mX1_fronts, xrm (127) T0 q.2, T0, xoI q.1, q.2) 36 [(0, va_rf x0), (2, va_rf x2), (3, .int x3), (4, .int x4), (5, .int x5)] [] T) (x0 : Option Nat) (x2 : Option Nat) (x3 : Int32) (x4 : Int32) (x5 : Int32) (T : xF) (q : ((Int32 ⊕ xE) × xF)) (hf : c_X1_fronts_100 G k21 k36 x0 x2 x3 x4 x5 T = some q) : Xr G (mX1_fronts, xrm (127) T0 q.2, T0, xoI q.1, q.2) 100 [(0, va_rf x0), (2, va_rf x2), (3, .int x3), (4, .int x4), (5, .int x5)] [] T := by
  unfold c_X1_fronts_100 at hf
  refine C.iinc (v := (x5 + 1)) (L' := [(5, .int (x5 + 1)), (0, va_rf x0), (2, va_rf x2), (3, .int x3), (4, .int x4)]) dX1_fronts_100 4 rfl rfl (Nat.le_of_ble_eq_true rfl) (xcQ (xcQ (xcI (xcI (xcI xcN))))) rfl ?_
  refine X.goto (tgt := 36) dX1_fronts_103 (by decide) ?_
  refine X.sub [1, 2, 3, 4, 0] (L' := [(0, va_rf x0), (2, va_rf x2), (3, .int x3), (4, .int x4), (5, .int (x5 + 1))]) rfl ?_
  exact hk36 _ _ _ _ _ _ _ hf
def c_X1_fronts_36_b (G : xG) (k21 : Option Nat → Option Nat → Int32 → Int32 → xF → Option ((Int32 ⊕ xE) × xF)) (k36 : Option Nat → Option Nat → Int32 → Int32 → Int32 → xF → Option ((Int32 ⊕ xE) × xF)) (x0 : Option Nat) (x2 : Option Nat) (x3 : Int32) (x4 : Int32) (x5 : Int32) (T : xF) : Option ((Int32 ⊕ xE) × xF) :=
  if x4 ≤ x5 then
    k21 x0 x2 x3 (x4 + 1) T
  else
    (oQ T x0 0 1).bind fun v44 =>
    if ¬ isO T v44 1 = true then none else
    (c_X2_steps T v44 x4 x5).bind fun v51 =>
    if v51 = (1 : Int32) then
      (oQ T x2 2 2).bind fun v59 =>
      (ldA T v59 .int x4).bind fun v64 =>
      if v64 = (-1 : Int32) then
        c_X1_fronts_100 G k21 k36 x0 x2 x3 x4 x5 T
      else
        (oQ T x2 2 2).bind fun v70 =>
        (ldA T v70 .int x5).bind fun v75 =>
        if v75 = (-1 : Int32) then
          c_X1_fronts_100 G k21 k36 x0 x2 x3 x4 x5 T
        else
          (oQ T x2 2 2).bind fun v81 =>
          (ldA T v81 .int x4).bind fun v86 =>
          (oQ T x2 2 2).bind fun v88 =>
          (ldA T v88 .int x5).bind fun v93 =>
          if v86 = v93 then
            c_X1_fronts_100 G k21 k36 x0 x2 x3 x4 x5 T
          else
            c_X1_fronts_100 G k21 k36 x0 x2 (x3 + 1) x4 x5 T
    else
      c_X1_fronts_100 G k21 k36 x0 x2 x3 x4 x5 T
def c_X1_fronts_36 (G : xG) (k21 : Option Nat → Option Nat → Int32 → Int32 → xF → Option ((Int32 ⊕ xE) × xF)) : Nat → Option Nat → Option Nat → Int32 → Int32 → Int32 → xF → Option ((Int32 ⊕ xE) × xF)
  | 0 => fun _ _ _ _ _ _ => none
  | n + 1 => fun x0 x2 x3 x4 x5 T => c_X1_fronts_36_b G k21 (c_X1_fronts_36 G k21 n) x0 x2 x3 x4 x5 T
theorem c_X1_fronts_36_bok {G : xG}  {T0 : xF} {k21 : Option Nat → Option Nat → Int32 → Int32 → xF → Option ((Int32 ⊕ xE) × xF)} {k36 : Option Nat → Option Nat → Int32 → Int32 → Int32 → xF → Option ((Int32 ⊕ xE) × xF)} (hk21 : ∀ (x0 : Option Nat) (x2 : Option Nat) (x3 : Int32) (x4 : Int32) (T : xF) (q : ((Int32 ⊕ xE) × xF)), k21 x0 x2 x3 x4 T = some q → Xr G (mX1_fronts, xrm (127) T0 q.2, T0, xoI q.1, q.2) 21 [(0, va_rf x0), (2, va_rf x2), (3, .int x3), (4, .int x4)] [] T) (hk36 : ∀ (x0 : Option Nat) (x2 : Option Nat) (x3 : Int32) (x4 : Int32) (x5 : Int32) (T : xF) (q : ((Int32 ⊕ xE) × xF)), k36 x0 x2 x3 x4 x5 T = some q → Xr G (mX1_fronts, xrm (127) T0 q.2, T0, xoI q.1, q.2) 36 [(0, va_rf x0), (2, va_rf x2), (3, .int x3), (4, .int x4), (5, .int x5)] [] T) (x0 : Option Nat) (x2 : Option Nat) (x3 : Int32) (x4 : Int32) (x5 : Int32) (T : xF) (q : ((Int32 ⊕ xE) × xF)) (hf : c_X1_fronts_36_b G k21 k36 x0 x2 x3 x4 x5 T = some q) : Xr G (mX1_fronts, xrm (127) T0 q.2, T0, xoI q.1, q.2) 36 [(0, va_rf x0), (2, va_rf x2), (3, .int x3), (4, .int x4), (5, .int x5)] [] T := by
  unfold c_X1_fronts_36_b at hf
  refine X.iload dX1_fronts_36 4 rfl ?_
  refine X.iload dX1_fronts_38 3 rfl ?_
  refine X.icmp_ge (tgt := 106) dX1_fronts_40 (by decide) (fun c40 => ?_) (fun c40 => ?_)
  · have hf := if_t c40 hf
    refine C.iinc (v := (x4 + 1)) (L' := [(4, .int (x4 + 1)), (0, va_rf x0), (2, va_rf x2), (3, .int x3), (5, .int x5)]) dX1_fronts_106 3 rfl rfl (Nat.le_of_ble_eq_true rfl) (xcQ (xcQ (xcI (xcI (xcI xcN))))) rfl ?_
    refine X.goto (tgt := 21) dX1_fronts_109 (by decide) ?_
    refine X.sub [1, 2, 3, 0] (L' := [(0, va_rf x0), (2, va_rf x2), (3, .int x3), (4, .int (x4 + 1))]) rfl ?_
    exact hk21 _ _ _ _ _ _ hf
  · have hf := if_f c40 hf
    refine C.aload_n dX1_fronts_43 rfl 0 rfl ?_
    obtain ⟨v44, h44, hf⟩ := ob hf
    refine C.getQ dX1_fronts_44 rX1_22 h44 ?_
    refine X.iload dX1_fronts_47 3 rfl ?_
    refine X.iload dX1_fronts_49 4 rfl ?_
    obtain ⟨c51, hf⟩ := if_n hf
    obtain ⟨v51, h51, hf⟩ := ob hf
    refine X.keep fun l51 => C.Vi (As := [.int x4, .int x5]) (rest := []) dX1_fronts_51 (w_X2_steps h51) cX1_141 (Classical.not_not.mp c51) rfl rfl (xcs xvN (Nat.le_of_ble_eq_true rfl)) rfl rfl (xD (Nat.le_of_ble_eq_true rfl)) xle.rf l51 ?_
    refine X.iconst (v := 1) dX1_fronts_54 (by decide) ?_
    refine X.icmp_ne (tgt := 100) dX1_fronts_55 (by decide) (fun c55 => ?_) (fun c55 => ?_)
    · have hf := if_f c55 hf
      refine X.sub [0, 1, 2, 3, 4] (L' := [(0, va_rf x0), (2, va_rf x2), (3, .int x3), (4, .int x4), (5, .int x5)]) rfl ?_
      exact c_X1_fronts_100_ok hk21 hk36 _ _ _ _ _ _ _ hf
    · have hf := if_t c55 hf
      refine C.aload_n dX1_fronts_58 rfl 1 rfl ?_
      obtain ⟨v59, h59, hf⟩ := ob hf
      refine C.getQ dX1_fronts_59 rX1_96 h59 ?_
      refine X.iload dX1_fronts_62 3 rfl ?_
      obtain ⟨v64, h64, hf⟩ := ob hf
      refine C.iald dX1_fronts_64 h64 ?_
      refine X.iconst (v := -1) dX1_fronts_65 (by decide) ?_
      refine X.icmp_eq (tgt := 100) dX1_fronts_66 (by decide) (fun c66 => ?_) (fun c66 => ?_)
      · have hf := if_t c66 hf
        refine X.sub [0, 1, 2, 3, 4] (L' := [(0, va_rf x0), (2, va_rf x2), (3, .int x3), (4, .int x4), (5, .int x5)]) rfl ?_
        exact c_X1_fronts_100_ok hk21 hk36 _ _ _ _ _ _ _ hf
      · have hf := if_f c66 hf
        refine C.aload_n dX1_fronts_69 rfl 1 rfl ?_
        obtain ⟨v70, h70, hf⟩ := ob hf
        refine C.getQ dX1_fronts_70 rX1_96 h70 ?_
        refine X.iload dX1_fronts_73 4 rfl ?_
        obtain ⟨v75, h75, hf⟩ := ob hf
        refine C.iald dX1_fronts_75 h75 ?_
        refine X.iconst (v := -1) dX1_fronts_76 (by decide) ?_
        refine X.icmp_eq (tgt := 100) dX1_fronts_77 (by decide) (fun c77 => ?_) (fun c77 => ?_)
        · have hf := if_t c77 hf
          refine X.sub [0, 1, 2, 3, 4] (L' := [(0, va_rf x0), (2, va_rf x2), (3, .int x3), (4, .int x4), (5, .int x5)]) rfl ?_
          exact c_X1_fronts_100_ok hk21 hk36 _ _ _ _ _ _ _ hf
        · have hf := if_f c77 hf
          refine C.aload_n dX1_fronts_80 rfl 1 rfl ?_
          obtain ⟨v81, h81, hf⟩ := ob hf
          refine C.getQ dX1_fronts_81 rX1_96 h81 ?_
          refine X.iload dX1_fronts_84 3 rfl ?_
          obtain ⟨v86, h86, hf⟩ := ob hf
          refine C.iald dX1_fronts_86 h86 ?_
          refine C.aload_n dX1_fronts_87 rfl 1 rfl ?_
          obtain ⟨v88, h88, hf⟩ := ob hf
          refine C.getQ dX1_fronts_88 rX1_96 h88 ?_
          refine X.iload dX1_fronts_91 4 rfl ?_
          obtain ⟨v93, h93, hf⟩ := ob hf
          refine C.iald dX1_fronts_93 h93 ?_
          refine X.icmp_eq (tgt := 100) dX1_fronts_94 (by decide) (fun c94 => ?_) (fun c94 => ?_)
          · have hf := if_t c94 hf
            refine X.sub [0, 1, 2, 3, 4] (L' := [(0, va_rf x0), (2, va_rf x2), (3, .int x3), (4, .int x4), (5, .int x5)]) rfl ?_
            exact c_X1_fronts_100_ok hk21 hk36 _ _ _ _ _ _ _ hf
          · have hf := if_f c94 hf
            refine C.iinc (v := (x3 + 1)) (L' := [(3, .int (x3 + 1)), (0, va_rf x0), (2, va_rf x2), (4, .int x4), (5, .int x5)]) dX1_fronts_97 2 rfl rfl (Nat.le_of_ble_eq_true rfl) (xcQ (xcQ (xcI (xcI (xcI xcN))))) rfl ?_
            refine X.sub [1, 2, 0, 3, 4] (L' := [(0, va_rf x0), (2, va_rf x2), (3, .int (x3 + 1)), (4, .int x4), (5, .int x5)]) rfl ?_
            exact c_X1_fronts_100_ok hk21 hk36 _ _ _ _ _ _ _ hf
theorem c_X1_fronts_36_ok {G : xG}  {T0 : xF} {k21 : Option Nat → Option Nat → Int32 → Int32 → xF → Option ((Int32 ⊕ xE) × xF)} (hk21 : ∀ (x0 : Option Nat) (x2 : Option Nat) (x3 : Int32) (x4 : Int32) (T : xF) (q : ((Int32 ⊕ xE) × xF)), k21 x0 x2 x3 x4 T = some q → Xr G (mX1_fronts, xrm (127) T0 q.2, T0, xoI q.1, q.2) 21 [(0, va_rf x0), (2, va_rf x2), (3, .int x3), (4, .int x4)] [] T) : ∀ (n : Nat) (x0 : Option Nat) (x2 : Option Nat) (x3 : Int32) (x4 : Int32) (x5 : Int32) (T : xF) (q : ((Int32 ⊕ xE) × xF)), c_X1_fronts_36 G k21 n x0 x2 x3 x4 x5 T = some q → Xr G (mX1_fronts, xrm (127) T0 q.2, T0, xoI q.1, q.2) 36 [(0, va_rf x0), (2, va_rf x2), (3, .int x3), (4, .int x4), (5, .int x5)] [] T
  | 0, _, _, _, _, _, _, _, hf => by cases hf
  | n + 1, x0, x2, x3, x4, x5, T, q, hf => c_X1_fronts_36_bok hk21 (c_X1_fronts_36_ok hk21 n) x0 x2 x3 x4 x5 T q hf
def c_X1_fronts_21_b (G : xG) (k21 : Option Nat → Option Nat → Int32 → Int32 → xF → Option ((Int32 ⊕ xE) × xF)) (x0 : Option Nat) (x2 : Option Nat) (x3 : Int32) (x4 : Int32) (T : xF) : Option ((Int32 ⊕ xE) × xF) :=
  (oQ T x0 0 1).bind fun v24 =>
  if ¬ isO T v24 1 = true then none else
  (c_X2_cells T v24).bind fun v27 =>
  if v27 ≤ x4 then
    some (.inl x3, T)
  else
    c_X1_fronts_36 G k21 FU x0 x2 x3 x4 (0 : Int32) T
def c_X1_fronts_21 (G : xG) : Nat → Option Nat → Option Nat → Int32 → Int32 → xF → Option ((Int32 ⊕ xE) × xF)
  | 0 => fun _ _ _ _ _ => none
  | n + 1 => fun x0 x2 x3 x4 T => c_X1_fronts_21_b G (c_X1_fronts_21 G n) x0 x2 x3 x4 T
theorem c_X1_fronts_21_bok {G : xG}  {T0 : xF}  {k21 : Option Nat → Option Nat → Int32 → Int32 → xF → Option ((Int32 ⊕ xE) × xF)}  (hk21 : ∀ (x0 : Option Nat) (x2 : Option Nat) (x3 : Int32) (x4 : Int32) (T : xF) (q : ((Int32 ⊕ xE) × xF)), k21 x0 x2 x3 x4 T = some q → Xr G (mX1_fronts, xrm (127) T0 q.2, T0, xoI q.1, q.2) 21 [(0, va_rf x0), (2, va_rf x2), (3, .int x3), (4, .int x4)] [] T) (x0 : Option Nat) (x2 : Option Nat) (x3 : Int32) (x4 : Int32) (T : xF) (q : ((Int32 ⊕ xE) × xF)) (hf : c_X1_fronts_21_b G k21 x0 x2 x3 x4 T = some q) : Xr G (mX1_fronts, xrm (127) T0 q.2, T0, xoI q.1, q.2) 21 [(0, va_rf x0), (2, va_rf x2), (3, .int x3), (4, .int x4)] [] T := by
  unfold c_X1_fronts_21_b at hf
  refine X.iload dX1_fronts_21 3 rfl ?_
  refine C.aload_n dX1_fronts_23 rfl 0 rfl ?_
  obtain ⟨v24, h24, hf⟩ := ob hf
  refine C.getQ dX1_fronts_24 rX1_22 h24 ?_
  obtain ⟨c27, hf⟩ := if_n hf
  obtain ⟨v27, h27, hf⟩ := ob hf
  refine X.keep fun l27 => C.Vi (As := []) (rest := [.int x4]) dX1_fronts_27 (w_X2_cells h27) cX1_92 (Classical.not_not.mp c27) rfl rfl (xcs (xvI xvN) (Nat.le_of_ble_eq_true rfl)) rfl rfl (xD (Nat.le_of_ble_eq_true rfl)) xle.rf l27 ?_
  refine X.icmp_ge (tgt := 112) dX1_fronts_30 (by decide) (fun c30 => ?_) (fun c30 => ?_)
  · have hf := if_t c30 hf
    refine X.iload_n dX1_fronts_112 rfl 2 rfl ?_
    obtain rfl := Option.some.inj hf
    exact X.iret dX1_fronts_113 rfl rfl rfl
  · have hf := if_f c30 hf
    refine X.iconst (v := 0) dX1_fronts_33 (by decide) ?_
    refine C.ist (L' := [(5, .int (0 : Int32)), (0, va_rf x0), (2, va_rf x2), (3, .int x3), (4, .int x4)]) dX1_fronts_34 (Nat.le_of_ble_eq_true rfl) (xcQ (xcQ (xcI (xcI xcN)))) rfl ?_
    refine X.sub [1, 2, 3, 4, 0] (L' := [(0, va_rf x0), (2, va_rf x2), (3, .int x3), (4, .int x4), (5, .int (0 : Int32))]) rfl ?_
    exact c_X1_fronts_36_ok hk21 FU _ _ _ _ _ _ _ hf
theorem c_X1_fronts_21_ok {G : xG}  {T0 : xF}   : ∀ (n : Nat) (x0 : Option Nat) (x2 : Option Nat) (x3 : Int32) (x4 : Int32) (T : xF) (q : ((Int32 ⊕ xE) × xF)), c_X1_fronts_21 G n x0 x2 x3 x4 T = some q → Xr G (mX1_fronts, xrm (127) T0 q.2, T0, xoI q.1, q.2) 21 [(0, va_rf x0), (2, va_rf x2), (3, .int x3), (4, .int x4)] [] T
  | 0, _, _, _, _, _, _, hf => by cases hf
  | n + 1, x0, x2, x3, x4, T, q, hf => c_X1_fronts_21_bok (c_X1_fronts_21_ok n) x0 x2 x3 x4 T q hf
def c_X1_fronts (G : xG) (x0 : Option Nat) (x1 : Int32) (T : xF) : Option ((Int32 ⊕ xE) × xF) :=
  (c_X1_in x1 (0 : Int32) (40 : Int32)).bind fun v4 =>
  clX (c_X1_right v4 T) T fun v7 T7 =>
  if ¬ isO T7 x0 0 = true then none else
  cl (c_X1_later G x0 x1 T7) T7 fun v12 T12 =>
  c_X1_fronts_21 G FU x0 v12 (0 : Int32) (0 : Int32) T12
theorem w_X1_fronts {G : xG}  {T : xF} {x0 : Option Nat} {x1 : Int32} {q : ((Int32 ⊕ xE) × xF)} (hf : c_X1_fronts G x0 x1 T = some q) : Ct G mX1_fronts (127) T [va_rf x0, .int x1] (xoI q.1) q.2 := by
  refine Ct.ofc (plainFor_of_name (by decide +kernel)) rfl (xvQ (xvI xvN)) (Nat.le_of_ble_eq_true rfl) (show Xr G _ 0 [(0, va_rf x0), (1, .int x1)] [] _ from ?_)
  unfold c_X1_fronts at hf
  refine X.iload_n dX1_fronts_0 rfl 1 rfl ?_
  refine X.iconst (v := 0) dX1_fronts_1 (by decide) ?_
  refine X.bipush (v := 40) dX1_fronts_2 (by decide) ?_
  obtain ⟨v4, h4, hf⟩ := ob hf
  refine X.keep fun l4 => C.Si (As := [.int x1, .int (0 : Int32), .int (40 : Int32)]) (rest := []) dX1_fronts_4 (w_X1_in h4) cX1_134 rfl rfl (xcs xvN (Nat.le_of_ble_eq_true rfl)) (xD (Nat.le_of_ble_eq_true rfl)) xle.rf l4 ?_
  rcases clX_ok hf with ⟨v7, T7, h7, hf, l7, r7⟩ | ⟨e7, T7, h7, rfl, l7⟩
  rotate_left
  · exact C.Sx (As := [.int v4]) (rest := []) dX1_fronts_7 (w_X1_right h7) cX1_65 rfl rfl (xcs xvN (Nat.le_of_ble_eq_true rfl)) (xD (Nat.le_of_ble_eq_true rfl)) l7 xle.rf (xnoh rfl) rfl
  refine C.Sv (As := [.int v4]) (rest := []) dX1_fronts_7 (w_X1_right h7) cX1_65 rfl rfl (xcs xvN (Nat.le_of_ble_eq_true rfl)) (xD (Nat.le_of_ble_eq_true rfl)) l7 r7 ?_
  refine C.aload_n dX1_fronts_10 rfl 0 rfl ?_
  refine X.iload_n dX1_fronts_11 rfl 1 rfl ?_
  obtain ⟨c12, hf⟩ := if_n hf
  obtain ⟨v12, T12, h12, hf, l12, r12⟩ := cl_ok hf
  refine C.Vq (As := [.int x1]) (rest := []) dX1_fronts_12 (w_X1_later h12) cX1_217 (Classical.not_not.mp c12) rfl rfl (xcs xvN (Nat.le_of_ble_eq_true rfl)) rfl rfl (xD (Nat.le_of_ble_eq_true rfl)) l12 r12 ?_
  refine C.ast_n (L' := [(2, va_rf v12), (0, va_rf x0), (1, .int x1)]) dX1_fronts_15 rfl (Nat.le_of_ble_eq_true rfl) (xcQ (xcI xcN)) rfl ?_
  refine X.iconst (v := 0) dX1_fronts_16 (by decide) ?_
  refine C.ist_n (L' := [(3, .int (0 : Int32)), (2, va_rf v12), (0, va_rf x0), (1, .int x1)]) dX1_fronts_17 rfl (Nat.le_of_ble_eq_true rfl) (xcQ (xcQ (xcI xcN))) rfl ?_
  refine X.iconst (v := 0) dX1_fronts_18 (by decide) ?_
  refine C.ist (L' := [(4, .int (0 : Int32)), (3, .int (0 : Int32)), (2, va_rf v12), (0, va_rf x0), (1, .int x1)]) dX1_fronts_19 (Nat.le_of_ble_eq_true rfl) (xcI (xcQ (xcQ (xcI xcN)))) rfl ?_
  refine X.sub [3, 2, 1, 0] (L' := [(0, va_rf x0), (2, va_rf v12), (3, .int (0 : Int32)), (4, .int (0 : Int32))]) rfl ?_
  exact c_X1_fronts_21_ok FU _ _ _ _ _ _ hf
/-! MouldVotes draw -/
abbrev cX1_draw : ByteArray := prog_1_method_52_code
def yX1_draw : MethodName := ⟨RX1, "draw", "(I)I"⟩
def dkwX1_draw_1 : List UInt8 := [17, 127, 255, 126, 27, 112, 172]
abbrev dktX1_draw_1 : List UInt8 := dkwX1_draw_1 ++ []
def dkwX1_draw_0 : List UInt8 := [42, 42, 180, 1, 20, 19, 1, 23, 104, 17, 48, 57, 96, 181, 1, 20, 42, 180, 1, 20, 16, 16, 122]
abbrev dktX1_draw_0 : List UInt8 := dkwX1_draw_0 ++ dktX1_draw_1
theorem dksX1_draw_0 : cX1_draw.data.toList.drop 0 = dktX1_draw_0 := by decide +kernel
theorem dksX1_draw_1 : cX1_draw.data.toList.drop 23 = dktX1_draw_1 := dk_seg dksX1_draw_0 23 rfl rfl
theorem dX1_draw_0 : decode cX1_draw 0 = .ok (.aload_n 0, 1) := dk_42 (dk_at dksX1_draw_0 0 rfl rfl)
theorem dX1_draw_1 : decode cX1_draw 1 = .ok (.aload_n 0, 1) := dk_42 (dk_at dksX1_draw_0 1 rfl rfl)
theorem dX1_draw_2 : decode cX1_draw 2 = .ok (.getfield 276, 3) := dk_180 1 20 (dk_at dksX1_draw_0 2 rfl rfl)
theorem dX1_draw_5 : decode cX1_draw 5 = .ok (.ldc_w 279, 3) := dk_19 1 23 (dk_at dksX1_draw_0 5 rfl rfl)
theorem dX1_draw_8 : decode cX1_draw 8 = .ok (.imul, 1) := dk_104 (dk_at dksX1_draw_0 8 rfl rfl)
theorem dX1_draw_9 : decode cX1_draw 9 = .ok (.sipush 12345, 3) := dk_17 48 57 (dk_at dksX1_draw_0 9 rfl rfl)
theorem dX1_draw_12 : decode cX1_draw 12 = .ok (.iadd, 1) := dk_96 (dk_at dksX1_draw_0 12 rfl rfl)
theorem dX1_draw_13 : decode cX1_draw 13 = .ok (.putfield 276, 3) := dk_181 1 20 (dk_at dksX1_draw_0 13 rfl rfl)
theorem dX1_draw_16 : decode cX1_draw 16 = .ok (.aload_n 0, 1) := dk_42 (dk_at dksX1_draw_0 16 rfl rfl)
theorem dX1_draw_17 : decode cX1_draw 17 = .ok (.getfield 276, 3) := dk_180 1 20 (dk_at dksX1_draw_0 17 rfl rfl)
theorem dX1_draw_20 : decode cX1_draw 20 = .ok (.bipush 16, 2) := dk_16 16 (dk_at dksX1_draw_0 20 rfl rfl)
theorem dX1_draw_22 : decode cX1_draw 22 = .ok (.ishr, 1) := dk_122 (dk_at dksX1_draw_0 22 rfl rfl)
theorem dX1_draw_23 : decode cX1_draw 23 = .ok (.sipush 32767, 3) := dk_17 127 255 (dk_at dksX1_draw_1 0 rfl rfl)
theorem dX1_draw_26 : decode cX1_draw 26 = .ok (.iand, 1) := dk_126 (dk_at dksX1_draw_1 3 rfl rfl)
theorem dX1_draw_27 : decode cX1_draw 27 = .ok (.iload_n 1, 1) := dk_27 (dk_at dksX1_draw_1 4 rfl rfl)
theorem dX1_draw_28 : decode cX1_draw 28 = .ok (.irem, 1) := dk_112 (dk_at dksX1_draw_1 5 rfl rfl)
theorem dX1_draw_29 : decode cX1_draw 29 = .ok (.ireturn, 1) := dk_172 (dk_at dksX1_draw_1 6 rfl rfl)
abbrev mX1_draw : xM := (yX1_draw, cX1_draw, 2, (some .int), [])
def c_X1_draw (x0 : Option Nat) (x1 : Int32) (T : xF) : Option (Int32 × xF) :=
  (oI T x0 0 14).bind fun v2 =>
  (pV T x0 0 14 (.int ((v2 * (1103515245 : Int32)) + (12345 : Int32)))).bind fun T13 =>
  (oI T13 x0 0 14).bind fun v17 =>
  if x1 = 0 then none else
  some ((((v17 >>> ((16 : Int32) &&& 31)) &&& (32767 : Int32)) - ((v17 >>> ((16 : Int32) &&& 31)) &&& (32767 : Int32)) / x1 * x1), T13)
theorem w_X1_draw {G : xG}  {T : xF} {x0 : Option Nat} {x1 : Int32} {q : (Int32 × xF)} (hf : c_X1_draw x0 x1 T = some q) : Ct G mX1_draw (1) T [va_rf x0, .int x1] (.inl (some (.int q.1))) q.2 := by
  refine Ct.ofc (plainFor_of_name (by decide +kernel)) rfl (xvQ (xvI xvN)) (Nat.le_of_ble_eq_true rfl) (show Xr G _ 0 [(0, va_rf x0), (1, .int x1)] [] _ from ?_)
  unfold c_X1_draw at hf
  refine C.aload_n dX1_draw_0 rfl 0 rfl ?_
  refine C.aload_n dX1_draw_1 rfl 0 rfl ?_
  obtain ⟨v2, h2, hf⟩ := ob hf
  refine C.getI dX1_draw_2 rX1_276 h2 ?_
  refine X.ldcwI (v := 1103515245) dX1_draw_5 q1492 ?_
  refine X.imul dX1_draw_8 ?_
  refine X.sipush (v := 12345) dX1_draw_9 (by decide) ?_
  refine X.iadd dX1_draw_12 ?_
  obtain ⟨T13, h13, hf⟩ := ob hf
  refine C.putI dX1_draw_13 fX1_276 (fun q => by cases q) rfl rfl h13 ?_
  refine C.aload_n dX1_draw_16 rfl 0 rfl ?_
  obtain ⟨v17, h17, hf⟩ := ob hf
  refine C.getI dX1_draw_17 rX1_276 h17 ?_
  refine X.bipush (v := 16) dX1_draw_20 (by decide) ?_
  refine X.ishr dX1_draw_22 ?_
  refine X.sipush (v := 32767) dX1_draw_23 (by decide) ?_
  refine X.iand dX1_draw_26 ?_
  refine X.iload_n dX1_draw_27 rfl 1 rfl ?_
  obtain ⟨c28, hf⟩ := if_n hf
  refine X.irem dX1_draw_28 c28 ?_
  obtain rfl := Option.some.inj hf
  exact X.iret dX1_draw_29 rfl rfl rfl
theorem cX1_280 : xCV RX1 280 mX1_draw 1 := ⟨lw_V q1488 q1490 qs50 q121 q1491, rfl, ⟨by decide +kernel, by decide +kernel, by decide +kernel⟩, Nat.le_of_ble_eq_true rfl⟩
/-! MouldVotes$Growth feed -/
abbrev cX3_feed : ByteArray := prog_4_method_19_code
def yX3_feed : MethodName := ⟨RX3, "feed", "(II)V"⟩
def dkwX3_feed_0 : List UInt8 := [42, 180, 0, 19, 27, 16, 99, 42, 180, 0, 19, 27, 46, 28, 96, 184, 0, 79, 79, 177]
abbrev dktX3_feed_0 : List UInt8 := dkwX3_feed_0 ++ []
theorem dksX3_feed_0 : cX3_feed.data.toList.drop 0 = dktX3_feed_0 := by decide +kernel
theorem dX3_feed_0 : decode cX3_feed 0 = .ok (.aload_n 0, 1) := dk_42 (dk_at dksX3_feed_0 0 rfl rfl)
theorem dX3_feed_1 : decode cX3_feed 1 = .ok (.getfield 19, 3) := dk_180 0 19 (dk_at dksX3_feed_0 1 rfl rfl)
theorem dX3_feed_4 : decode cX3_feed 4 = .ok (.iload_n 1, 1) := dk_27 (dk_at dksX3_feed_0 4 rfl rfl)
theorem dX3_feed_5 : decode cX3_feed 5 = .ok (.bipush 99, 2) := dk_16 99 (dk_at dksX3_feed_0 5 rfl rfl)
theorem dX3_feed_7 : decode cX3_feed 7 = .ok (.aload_n 0, 1) := dk_42 (dk_at dksX3_feed_0 7 rfl rfl)
theorem dX3_feed_8 : decode cX3_feed 8 = .ok (.getfield 19, 3) := dk_180 0 19 (dk_at dksX3_feed_0 8 rfl rfl)
theorem dX3_feed_11 : decode cX3_feed 11 = .ok (.iload_n 1, 1) := dk_27 (dk_at dksX3_feed_0 11 rfl rfl)
theorem dX3_feed_12 : decode cX3_feed 12 = .ok (.iaload, 1) := dk_46 (dk_at dksX3_feed_0 12 rfl rfl)
theorem dX3_feed_13 : decode cX3_feed 13 = .ok (.iload_n 2, 1) := dk_28 (dk_at dksX3_feed_0 13 rfl rfl)
theorem dX3_feed_14 : decode cX3_feed 14 = .ok (.iadd, 1) := dk_96 (dk_at dksX3_feed_0 14 rfl rfl)
theorem dX3_feed_15 : decode cX3_feed 15 = .ok (.invokestatic 79, 3) := dk_184 0 79 (dk_at dksX3_feed_0 15 rfl rfl)
theorem dX3_feed_18 : decode cX3_feed 18 = .ok (.iastore, 1) := dk_79 (dk_at dksX3_feed_0 18 rfl rfl)
theorem dX3_feed_19 : decode cX3_feed 19 = .ok (.return_, 1) := dk_177 (dk_at dksX3_feed_0 19 rfl rfl)
abbrev mX3_feed : xM := (yX3_feed, cX3_feed, 3, none, [])
def c_X3_feed (x0 : Option Nat) (x1 : Int32) (x2 : Int32) (T : xF) : Option (Unit × xF) :=
  (oQ T x0 2 1).bind fun v1 =>
  (oQ T x0 2 1).bind fun v8 =>
  (ldA T v8 .int x1).bind fun v12 =>
  (c_J7_min (99 : Int32) (v12 + x2)).bind fun v15 =>
  (stA T v1 .int x1 v15).bind fun T18 =>
  some ((), T18)
theorem w_X3_feed {G : xG}  {T : xF} {x0 : Option Nat} {x1 : Int32} {x2 : Int32} {q : (Unit × xF)} (hf : c_X3_feed x0 x1 x2 T = some q) : Ct G mX3_feed (2) T [va_rf x0, .int x1, .int x2] (.inl none) q.2 := by
  refine Ct.ofc (plainFor_of_name (by decide +kernel)) rfl (xvQ (xvI (xvI xvN))) (Nat.le_of_ble_eq_true rfl) (show Xr G _ 0 [(0, va_rf x0), (1, .int x1), (2, .int x2)] [] _ from ?_)
  unfold c_X3_feed at hf
  refine C.aload_n dX3_feed_0 rfl 0 rfl ?_
  obtain ⟨v1, h1, hf⟩ := ob hf
  refine C.getQ dX3_feed_1 rX3_19 h1 ?_
  refine X.iload_n dX3_feed_4 rfl 1 rfl ?_
  refine X.bipush (v := 99) dX3_feed_5 (by decide) ?_
  refine C.aload_n dX3_feed_7 rfl 0 rfl ?_
  obtain ⟨v8, h8, hf⟩ := ob hf
  refine C.getQ dX3_feed_8 rX3_19 h8 ?_
  refine X.iload_n dX3_feed_11 rfl 1 rfl ?_
  obtain ⟨v12, h12, hf⟩ := ob hf
  refine C.iald dX3_feed_12 h12 ?_
  refine X.iload_n dX3_feed_13 rfl 2 rfl ?_
  refine X.iadd dX3_feed_14 ?_
  obtain ⟨v15, h15, hf⟩ := ob hf
  refine X.keep fun l15 => C.Si (As := [.int (99 : Int32), .int (v12 + x2)]) (rest := [.int x1, va_rf v1]) dX3_feed_15 (w_J7_min h15) cX3_79 rfl rfl (xcs (xvI (xvQ xvN)) (Nat.le_of_ble_eq_true rfl)) (xD (Nat.le_of_ble_eq_true rfl)) xle.rf l15 ?_
  obtain ⟨T18, h18, hf⟩ := ob hf
  refine C.iast dX3_feed_18 h18 ?_
  obtain rfl := Option.some.inj hf
  exact X.vret dX3_feed_19 rfl rfl
theorem cX1_203 : xCV RX1 203 mX3_feed 2 := ⟨lw_V q1330 q1331 q1332 q126 q1333, rfl, ⟨by decide +kernel, by decide +kernel, by decide +kernel⟩, Nat.le_of_ble_eq_true rfl⟩
/-! MouldVotes befalls -/
abbrev cX1_befalls : ByteArray := prog_1_method_53_code
def yX1_befalls : MethodName := ⟨RX1, "befalls", "(LMouldVotes$Growth;)V"⟩
def dkwX1_befalls_4 : List UInt8 := [29, 5, 160, 0, 8, 43, 28, 182, 0, 206, 177]
abbrev dktX1_befalls_4 : List UInt8 := dkwX1_befalls_4 ++ []
def dkwX1_befalls_3 : List UInt8 := [180, 0, 96, 28, 46, 2, 160, 0, 18, 43, 180, 0, 96, 28, 21, 4, 79, 43, 180, 0, 155, 28, 4, 79]
abbrev dktX1_befalls_3 : List UInt8 := dkwX1_befalls_3 ++ dktX1_befalls_4
def dkwX1_befalls_2 : List UInt8 := [154, 0, 46, 42, 42, 180, 0, 22, 180, 0, 101, 185, 0, 104, 1, 0, 182, 1, 24, 54, 4, 43]
abbrev dktX1_befalls_2 : List UInt8 := dkwX1_befalls_2 ++ dktX1_befalls_3
def dkwX1_befalls_1 : List UInt8 := [16, 9, 182, 0, 203, 29, 4, 160, 0, 61, 42, 180, 0, 22, 180, 0, 101, 185, 0, 209, 1, 0]
abbrev dktX1_befalls_1 : List UInt8 := dkwX1_befalls_1 ++ dktX1_befalls_2
def dkwX1_befalls_0 : List UInt8 := [42, 42, 180, 0, 22, 182, 0, 92, 182, 1, 24, 61, 42, 7, 182, 1, 24, 62, 29, 154, 0, 10, 43, 28]
abbrev dktX1_befalls_0 : List UInt8 := dkwX1_befalls_0 ++ dktX1_befalls_1
theorem dksX1_befalls_0 : cX1_befalls.data.toList.drop 0 = dktX1_befalls_0 := by decide +kernel
theorem dksX1_befalls_1 : cX1_befalls.data.toList.drop 24 = dktX1_befalls_1 := dk_seg dksX1_befalls_0 24 rfl rfl
theorem dksX1_befalls_2 : cX1_befalls.data.toList.drop 46 = dktX1_befalls_2 := dk_seg dksX1_befalls_1 22 rfl rfl
theorem dksX1_befalls_3 : cX1_befalls.data.toList.drop 68 = dktX1_befalls_3 := dk_seg dksX1_befalls_2 22 rfl rfl
theorem dksX1_befalls_4 : cX1_befalls.data.toList.drop 92 = dktX1_befalls_4 := dk_seg dksX1_befalls_3 24 rfl rfl
theorem dX1_befalls_0 : decode cX1_befalls 0 = .ok (.aload_n 0, 1) := dk_42 (dk_at dksX1_befalls_0 0 rfl rfl)
theorem dX1_befalls_1 : decode cX1_befalls 1 = .ok (.aload_n 0, 1) := dk_42 (dk_at dksX1_befalls_0 1 rfl rfl)
theorem dX1_befalls_2 : decode cX1_befalls 2 = .ok (.getfield 22, 3) := dk_180 0 22 (dk_at dksX1_befalls_0 2 rfl rfl)
theorem dX1_befalls_5 : decode cX1_befalls 5 = .ok (.invokevirtual 92, 3) := dk_182 0 92 (dk_at dksX1_befalls_0 5 rfl rfl)
theorem dX1_befalls_8 : decode cX1_befalls 8 = .ok (.invokevirtual 280, 3) := dk_182 1 24 (dk_at dksX1_befalls_0 8 rfl rfl)
theorem dX1_befalls_11 : decode cX1_befalls 11 = .ok (.istore_n 2, 1) := dk_61 (dk_at dksX1_befalls_0 11 rfl rfl)
theorem dX1_befalls_12 : decode cX1_befalls 12 = .ok (.aload_n 0, 1) := dk_42 (dk_at dksX1_befalls_0 12 rfl rfl)
theorem dX1_befalls_13 : decode cX1_befalls 13 = .ok (.iconst 4, 1) := dk_7 (dk_at dksX1_befalls_0 13 rfl rfl)
theorem dX1_befalls_14 : decode cX1_befalls 14 = .ok (.invokevirtual 280, 3) := dk_182 1 24 (dk_at dksX1_befalls_0 14 rfl rfl)
theorem dX1_befalls_17 : decode cX1_befalls 17 = .ok (.istore_n 3, 1) := dk_62 (dk_at dksX1_befalls_0 17 rfl rfl)
theorem dX1_befalls_18 : decode cX1_befalls 18 = .ok (.iload_n 3, 1) := dk_29 (dk_at dksX1_befalls_0 18 rfl rfl)
theorem dX1_befalls_19 : decode cX1_befalls 19 = .ok (.ifCond .ne 10, 3) := dk_154 0 10 (dk_at dksX1_befalls_0 19 rfl rfl)
theorem dX1_befalls_22 : decode cX1_befalls 22 = .ok (.aload_n 1, 1) := dk_43 (dk_at dksX1_befalls_0 22 rfl rfl)
theorem dX1_befalls_23 : decode cX1_befalls 23 = .ok (.iload_n 2, 1) := dk_28 (dk_at dksX1_befalls_0 23 rfl rfl)
theorem dX1_befalls_24 : decode cX1_befalls 24 = .ok (.bipush 9, 2) := dk_16 9 (dk_at dksX1_befalls_1 0 rfl rfl)
theorem dX1_befalls_26 : decode cX1_befalls 26 = .ok (.invokevirtual 203, 3) := dk_182 0 203 (dk_at dksX1_befalls_1 2 rfl rfl)
theorem dX1_befalls_29 : decode cX1_befalls 29 = .ok (.iload_n 3, 1) := dk_29 (dk_at dksX1_befalls_1 5 rfl rfl)
theorem dX1_befalls_30 : decode cX1_befalls 30 = .ok (.iconst 1, 1) := dk_4 (dk_at dksX1_befalls_1 6 rfl rfl)
theorem dX1_befalls_31 : decode cX1_befalls 31 = .ok (.if_icmp .ne 61, 3) := dk_160 0 61 (dk_at dksX1_befalls_1 7 rfl rfl)
theorem dX1_befalls_34 : decode cX1_befalls 34 = .ok (.aload_n 0, 1) := dk_42 (dk_at dksX1_befalls_1 10 rfl rfl)
theorem dX1_befalls_35 : decode cX1_befalls 35 = .ok (.getfield 22, 3) := dk_180 0 22 (dk_at dksX1_befalls_1 11 rfl rfl)
theorem dX1_befalls_38 : decode cX1_befalls 38 = .ok (.getfield 101, 3) := dk_180 0 101 (dk_at dksX1_befalls_1 14 rfl rfl)
theorem dX1_befalls_41 : decode cX1_befalls 41 = .ok (.invokeinterface 209 1, 5) := by decide +kernel
theorem dX1_befalls_46 : decode cX1_befalls 46 = .ok (.ifCond .ne 46, 3) := dk_154 0 46 (dk_at dksX1_befalls_2 0 rfl rfl)
theorem dX1_befalls_49 : decode cX1_befalls 49 = .ok (.aload_n 0, 1) := dk_42 (dk_at dksX1_befalls_2 3 rfl rfl)
theorem dX1_befalls_50 : decode cX1_befalls 50 = .ok (.aload_n 0, 1) := dk_42 (dk_at dksX1_befalls_2 4 rfl rfl)
theorem dX1_befalls_51 : decode cX1_befalls 51 = .ok (.getfield 22, 3) := dk_180 0 22 (dk_at dksX1_befalls_2 5 rfl rfl)
theorem dX1_befalls_54 : decode cX1_befalls 54 = .ok (.getfield 101, 3) := dk_180 0 101 (dk_at dksX1_befalls_2 8 rfl rfl)
theorem dX1_befalls_57 : decode cX1_befalls 57 = .ok (.invokeinterface 104 1, 5) := by decide +kernel
theorem dX1_befalls_62 : decode cX1_befalls 62 = .ok (.invokevirtual 280, 3) := dk_182 1 24 (dk_at dksX1_befalls_2 16 rfl rfl)
theorem dX1_befalls_65 : decode cX1_befalls 65 = .ok (.istore 4, 2) := dk_54 4 (dk_at dksX1_befalls_2 19 rfl rfl)
theorem dX1_befalls_67 : decode cX1_befalls 67 = .ok (.aload_n 1, 1) := dk_43 (dk_at dksX1_befalls_2 21 rfl rfl)
theorem dX1_befalls_68 : decode cX1_befalls 68 = .ok (.getfield 96, 3) := dk_180 0 96 (dk_at dksX1_befalls_3 0 rfl rfl)
theorem dX1_befalls_71 : decode cX1_befalls 71 = .ok (.iload_n 2, 1) := dk_28 (dk_at dksX1_befalls_3 3 rfl rfl)
theorem dX1_befalls_72 : decode cX1_befalls 72 = .ok (.iaload, 1) := dk_46 (dk_at dksX1_befalls_3 4 rfl rfl)
theorem dX1_befalls_73 : decode cX1_befalls 73 = .ok (.iconst (-1), 1) := dk_2 (dk_at dksX1_befalls_3 5 rfl rfl)
theorem dX1_befalls_74 : decode cX1_befalls 74 = .ok (.if_icmp .ne 18, 3) := dk_160 0 18 (dk_at dksX1_befalls_3 6 rfl rfl)
theorem dX1_befalls_77 : decode cX1_befalls 77 = .ok (.aload_n 1, 1) := dk_43 (dk_at dksX1_befalls_3 9 rfl rfl)
theorem dX1_befalls_78 : decode cX1_befalls 78 = .ok (.getfield 96, 3) := dk_180 0 96 (dk_at dksX1_befalls_3 10 rfl rfl)
theorem dX1_befalls_81 : decode cX1_befalls 81 = .ok (.iload_n 2, 1) := dk_28 (dk_at dksX1_befalls_3 13 rfl rfl)
theorem dX1_befalls_82 : decode cX1_befalls 82 = .ok (.iload 4, 2) := dk_21 4 (dk_at dksX1_befalls_3 14 rfl rfl)
theorem dX1_befalls_84 : decode cX1_befalls 84 = .ok (.iastore, 1) := dk_79 (dk_at dksX1_befalls_3 16 rfl rfl)
theorem dX1_befalls_85 : decode cX1_befalls 85 = .ok (.aload_n 1, 1) := dk_43 (dk_at dksX1_befalls_3 17 rfl rfl)
theorem dX1_befalls_86 : decode cX1_befalls 86 = .ok (.getfield 155, 3) := dk_180 0 155 (dk_at dksX1_befalls_3 18 rfl rfl)
theorem dX1_befalls_89 : decode cX1_befalls 89 = .ok (.iload_n 2, 1) := dk_28 (dk_at dksX1_befalls_3 21 rfl rfl)
theorem dX1_befalls_90 : decode cX1_befalls 90 = .ok (.iconst 1, 1) := dk_4 (dk_at dksX1_befalls_3 22 rfl rfl)
theorem dX1_befalls_91 : decode cX1_befalls 91 = .ok (.iastore, 1) := dk_79 (dk_at dksX1_befalls_3 23 rfl rfl)
theorem dX1_befalls_92 : decode cX1_befalls 92 = .ok (.iload_n 3, 1) := dk_29 (dk_at dksX1_befalls_4 0 rfl rfl)
theorem dX1_befalls_93 : decode cX1_befalls 93 = .ok (.iconst 2, 1) := dk_5 (dk_at dksX1_befalls_4 1 rfl rfl)
theorem dX1_befalls_94 : decode cX1_befalls 94 = .ok (.if_icmp .ne 8, 3) := dk_160 0 8 (dk_at dksX1_befalls_4 2 rfl rfl)
theorem dX1_befalls_97 : decode cX1_befalls 97 = .ok (.aload_n 1, 1) := dk_43 (dk_at dksX1_befalls_4 5 rfl rfl)
theorem dX1_befalls_98 : decode cX1_befalls 98 = .ok (.iload_n 2, 1) := dk_28 (dk_at dksX1_befalls_4 6 rfl rfl)
theorem dX1_befalls_99 : decode cX1_befalls 99 = .ok (.invokevirtual 206, 3) := dk_182 0 206 (dk_at dksX1_befalls_4 7 rfl rfl)
theorem dX1_befalls_102 : decode cX1_befalls 102 = .ok (.return_, 1) := dk_177 (dk_at dksX1_befalls_4 10 rfl rfl)
abbrev mX1_befalls : xM := (yX1_befalls, cX1_befalls, 5, none, [])
def c_X1_befalls_92 (x1 : Option Nat) (x2 : Int32) (x3 : Int32) (T : xF) : Option (Unit × xF) :=
  if x3 = (2 : Int32) then
    if ¬ isO T x1 2 = true then none else
    cl (c_X3_clear x1 x2 T) T fun v99 T99 =>
    some ((), T99)
  else
    some ((), T)
theorem c_X1_befalls_92_ok {G : xG}  {T0 : xF}   (x1 : Option Nat) (x2 : Int32) (x3 : Int32) (T : xF) (q : (Unit × xF)) (hf : c_X1_befalls_92 x1 x2 x3 T = some q) : Xr G (mX1_befalls, xrm (3) T0 q.2, T0, .inl none, q.2) 92 [(1, va_rf x1), (2, .int x2), (3, .int x3)] [] T := by
  unfold c_X1_befalls_92 at hf
  refine X.iload_n dX1_befalls_92 rfl 2 rfl ?_
  refine X.iconst (v := 2) dX1_befalls_93 (by decide) ?_
  refine X.icmp_ne (tgt := 102) dX1_befalls_94 (by decide) (fun c94 => ?_) (fun c94 => ?_)
  · have hf := if_f c94 hf
    obtain rfl := Option.some.inj hf
    exact X.vret dX1_befalls_102 rfl rfl
  · have hf := if_t c94 hf
    refine C.aload_n dX1_befalls_97 rfl 0 rfl ?_
    refine X.iload_n dX1_befalls_98 rfl 1 rfl ?_
    obtain ⟨c99, hf⟩ := if_n hf
    obtain ⟨v99, T99, h99, hf, l99, r99⟩ := cl_ok hf
    refine C.Vv (As := [.int x2]) (rest := []) dX1_befalls_99 (w_X3_clear h99) cX1_206 (Classical.not_not.mp c99) rfl rfl (xcs xvN (Nat.le_of_ble_eq_true rfl)) rfl rfl (xD (Nat.le_of_ble_eq_true rfl)) l99 r99 ?_
    obtain rfl := Option.some.inj hf
    exact X.vret dX1_befalls_102 rfl rfl
def c_X1_befalls_29 (x0 : Option Nat) (x1 : Option Nat) (x2 : Int32) (x3 : Int32) (T : xF) : Option (Unit × xF) :=
  if x3 = (1 : Int32) then
    (oQ T x0 0 1).bind fun v35 =>
    (oQ T v35 1 0).bind fun v38 =>
    if ¬ isO T v38 10 = true then none else
    (c_J2_isEmpty T v38).bind fun v41 =>
    if v41 = 0 then
      (oQ T x0 0 1).bind fun v51 =>
      (oQ T v51 1 0).bind fun v54 =>
      if ¬ isO T v54 10 = true then none else
      (c_J2_size T v54).bind fun v57 =>
      if ¬ isO T x0 0 = true then none else
      cl (c_X1_draw x0 v57 T) T fun v62 T62 =>
      (oQ T62 x1 2 2).bind fun v68 =>
      (ldA T62 v68 .int x2).bind fun v72 =>
      if v72 = (-1 : Int32) then
        (oQ T62 x1 2 2).bind fun v78 =>
        (stA T62 v78 .int x2 v62).bind fun T84 =>
        (oQ T84 x1 2 3).bind fun v86 =>
        (stA T84 v86 .int x2 (1 : Int32)).bind fun T91 =>
        c_X1_befalls_92 x1 x2 x3 T91
      else
        c_X1_befalls_92 x1 x2 x3 T62
    else
      c_X1_befalls_92 x1 x2 x3 T
  else
    c_X1_befalls_92 x1 x2 x3 T
theorem c_X1_befalls_29_ok {G : xG}  {T0 : xF}   (x0 : Option Nat) (x1 : Option Nat) (x2 : Int32) (x3 : Int32) (T : xF) (q : (Unit × xF)) (hf : c_X1_befalls_29 x0 x1 x2 x3 T = some q) : Xr G (mX1_befalls, xrm (3) T0 q.2, T0, .inl none, q.2) 29 [(0, va_rf x0), (1, va_rf x1), (2, .int x2), (3, .int x3)] [] T := by
  unfold c_X1_befalls_29 at hf
  refine X.iload_n dX1_befalls_29 rfl 3 rfl ?_
  refine X.iconst (v := 1) dX1_befalls_30 (by decide) ?_
  refine X.icmp_ne (tgt := 92) dX1_befalls_31 (by decide) (fun c31 => ?_) (fun c31 => ?_)
  · have hf := if_f c31 hf
    refine X.sub [1, 2, 3] (L' := [(1, va_rf x1), (2, .int x2), (3, .int x3)]) rfl ?_
    exact c_X1_befalls_92_ok _ _ _ _ _ hf
  · have hf := if_t c31 hf
    refine C.aload_n dX1_befalls_34 rfl 0 rfl ?_
    obtain ⟨v35, h35, hf⟩ := ob hf
    refine C.getQ dX1_befalls_35 rX1_22 h35 ?_
    obtain ⟨v38, h38, hf⟩ := ob hf
    refine C.getQ dX1_befalls_38 rX1_101 h38 ?_
    obtain ⟨c41, hf⟩ := if_n hf
    obtain ⟨v41, h41, hf⟩ := ob hf
    refine X.keep fun l41 => C.Fi (As := []) (rest := []) dX1_befalls_41 (w_J2_isEmpty h41) cX1_209 (Classical.not_not.mp c41) rfl rfl (xcs xvN (Nat.le_of_ble_eq_true rfl)) rfl rfl (xD (Nat.le_of_ble_eq_true rfl)) xle.rf l41 ?_
    refine X.if_ne (tgt := 92) dX1_befalls_46 (by decide) (fun c46 => ?_) (fun c46 => ?_)
    · have hf := if_f c46 hf
      refine X.sub [1, 2, 3] (L' := [(1, va_rf x1), (2, .int x2), (3, .int x3)]) rfl ?_
      exact c_X1_befalls_92_ok _ _ _ _ _ hf
    · have hf := if_t c46 hf
      refine C.aload_n dX1_befalls_49 rfl 0 rfl ?_
      refine C.aload_n dX1_befalls_50 rfl 0 rfl ?_
      obtain ⟨v51, h51, hf⟩ := ob hf
      refine C.getQ dX1_befalls_51 rX1_22 h51 ?_
      obtain ⟨v54, h54, hf⟩ := ob hf
      refine C.getQ dX1_befalls_54 rX1_101 h54 ?_
      obtain ⟨c57, hf⟩ := if_n hf
      obtain ⟨v57, h57, hf⟩ := ob hf
      refine X.keep fun l57 => C.Fi (As := []) (rest := [va_rf x0]) dX1_befalls_57 (w_J2_size h57) cX1_104 (Classical.not_not.mp c57) rfl rfl (xcs (xvQ xvN) (Nat.le_of_ble_eq_true rfl)) rfl rfl (xD (Nat.le_of_ble_eq_true rfl)) xle.rf l57 ?_
      obtain ⟨c62, hf⟩ := if_n hf
      obtain ⟨v62, T62, h62, hf, l62, r62⟩ := cl_ok hf
      refine C.Vi (As := [.int v57]) (rest := []) dX1_befalls_62 (w_X1_draw h62) cX1_280 (Classical.not_not.mp c62) rfl rfl (xcs xvN (Nat.le_of_ble_eq_true rfl)) rfl rfl (xD (Nat.le_of_ble_eq_true rfl)) l62 r62 ?_
      refine C.ist (L' := [(4, .int v62), (0, va_rf x0), (1, va_rf x1), (2, .int x2), (3, .int x3)]) dX1_befalls_65 (Nat.le_of_ble_eq_true rfl) (xcQ (xcQ (xcI (xcI xcN)))) rfl ?_
      refine C.aload_n dX1_befalls_67 rfl 2 rfl ?_
      obtain ⟨v68, h68, hf⟩ := ob hf
      refine C.getQ dX1_befalls_68 rX1_96 h68 ?_
      refine X.iload_n dX1_befalls_71 rfl 3 rfl ?_
      obtain ⟨v72, h72, hf⟩ := ob hf
      refine C.iald dX1_befalls_72 h72 ?_
      refine X.iconst (v := -1) dX1_befalls_73 (by decide) ?_
      refine X.icmp_ne (tgt := 92) dX1_befalls_74 (by decide) (fun c74 => ?_) (fun c74 => ?_)
      · have hf := if_f c74 hf
        refine X.sub [2, 3, 4] (L' := [(1, va_rf x1), (2, .int x2), (3, .int x3)]) rfl ?_
        exact c_X1_befalls_92_ok _ _ _ _ _ hf
      · have hf := if_t c74 hf
        refine C.aload_n dX1_befalls_77 rfl 2 rfl ?_
        obtain ⟨v78, h78, hf⟩ := ob hf
        refine C.getQ dX1_befalls_78 rX1_96 h78 ?_
        refine X.iload_n dX1_befalls_81 rfl 3 rfl ?_
        refine X.iload dX1_befalls_82 0 rfl ?_
        obtain ⟨T84, h84, hf⟩ := ob hf
        refine C.iast dX1_befalls_84 h84 ?_
        refine C.aload_n dX1_befalls_85 rfl 2 rfl ?_
        obtain ⟨v86, h86, hf⟩ := ob hf
        refine C.getQ dX1_befalls_86 rX1_155 h86 ?_
        refine X.iload_n dX1_befalls_89 rfl 3 rfl ?_
        refine X.iconst (v := 1) dX1_befalls_90 (by decide) ?_
        obtain ⟨T91, h91, hf⟩ := ob hf
        refine C.iast dX1_befalls_91 h91 ?_
        refine X.sub [2, 3, 4] (L' := [(1, va_rf x1), (2, .int x2), (3, .int x3)]) rfl ?_
        exact c_X1_befalls_92_ok _ _ _ _ _ hf
def c_X1_befalls (x0 : Option Nat) (x1 : Option Nat) (T : xF) : Option (Unit × xF) :=
  (oQ T x0 0 1).bind fun v2 =>
  if ¬ isO T v2 1 = true then none else
  (c_X2_cells T v2).bind fun v5 =>
  if ¬ isO T x0 0 = true then none else
  cl (c_X1_draw x0 v5 T) T fun v8 T8 =>
  if ¬ isO T8 x0 0 = true then none else
  cl (c_X1_draw x0 (4 : Int32) T8) T8 fun v14 T14 =>
  if v14 = 0 then
    if ¬ isO T14 x1 2 = true then none else
    cl (c_X3_feed x1 v8 (9 : Int32) T14) T14 fun v26 T26 =>
    c_X1_befalls_29 x0 x1 v8 v14 T26
  else
    c_X1_befalls_29 x0 x1 v8 v14 T14
theorem w_X1_befalls {G : xG}  {T : xF} {x0 : Option Nat} {x1 : Option Nat} {q : (Unit × xF)} (hf : c_X1_befalls x0 x1 T = some q) : Ct G mX1_befalls (3) T [va_rf x0, va_rf x1] (.inl none) q.2 := by
  refine Ct.ofc (plainFor_of_name (by decide +kernel)) rfl (xvQ (xvQ xvN)) (Nat.le_of_ble_eq_true rfl) (show Xr G _ 0 [(0, va_rf x0), (1, va_rf x1)] [] _ from ?_)
  unfold c_X1_befalls at hf
  refine C.aload_n dX1_befalls_0 rfl 0 rfl ?_
  refine C.aload_n dX1_befalls_1 rfl 0 rfl ?_
  obtain ⟨v2, h2, hf⟩ := ob hf
  refine C.getQ dX1_befalls_2 rX1_22 h2 ?_
  obtain ⟨c5, hf⟩ := if_n hf
  obtain ⟨v5, h5, hf⟩ := ob hf
  refine X.keep fun l5 => C.Vi (As := []) (rest := [va_rf x0]) dX1_befalls_5 (w_X2_cells h5) cX1_92 (Classical.not_not.mp c5) rfl rfl (xcs (xvQ xvN) (Nat.le_of_ble_eq_true rfl)) rfl rfl (xD (Nat.le_of_ble_eq_true rfl)) xle.rf l5 ?_
  obtain ⟨c8, hf⟩ := if_n hf
  obtain ⟨v8, T8, h8, hf, l8, r8⟩ := cl_ok hf
  refine C.Vi (As := [.int v5]) (rest := []) dX1_befalls_8 (w_X1_draw h8) cX1_280 (Classical.not_not.mp c8) rfl rfl (xcs xvN (Nat.le_of_ble_eq_true rfl)) rfl rfl (xD (Nat.le_of_ble_eq_true rfl)) l8 r8 ?_
  refine C.ist_n (L' := [(2, .int v8), (0, va_rf x0), (1, va_rf x1)]) dX1_befalls_11 rfl (Nat.le_of_ble_eq_true rfl) (xcQ (xcQ xcN)) rfl ?_
  refine C.aload_n dX1_befalls_12 rfl 1 rfl ?_
  refine X.iconst (v := 4) dX1_befalls_13 (by decide) ?_
  obtain ⟨c14, hf⟩ := if_n hf
  obtain ⟨v14, T14, h14, hf, l14, r14⟩ := cl_ok hf
  refine C.Vi (As := [.int (4 : Int32)]) (rest := []) dX1_befalls_14 (w_X1_draw h14) cX1_280 (Classical.not_not.mp c14) rfl rfl (xcs xvN (Nat.le_of_ble_eq_true rfl)) rfl rfl (xD (Nat.le_of_ble_eq_true rfl)) l14 r14 ?_
  refine C.ist_n (L' := [(3, .int v14), (2, .int v8), (0, va_rf x0), (1, va_rf x1)]) dX1_befalls_17 rfl (Nat.le_of_ble_eq_true rfl) (xcI (xcQ (xcQ xcN))) rfl ?_
  refine X.iload_n dX1_befalls_18 rfl 0 rfl ?_
  refine X.if_ne (tgt := 29) dX1_befalls_19 (by decide) (fun c19 => ?_) (fun c19 => ?_)
  · have hf := if_f c19 hf
    refine X.sub [2, 3, 1, 0] (L' := [(0, va_rf x0), (1, va_rf x1), (2, .int v8), (3, .int v14)]) rfl ?_
    exact c_X1_befalls_29_ok _ _ _ _ _ _ hf
  · have hf := if_t c19 hf
    refine C.aload_n dX1_befalls_22 rfl 3 rfl ?_
    refine X.iload_n dX1_befalls_23 rfl 1 rfl ?_
    refine X.bipush (v := 9) dX1_befalls_24 (by decide) ?_
    obtain ⟨c26, hf⟩ := if_n hf
    obtain ⟨v26, T26, h26, hf, l26, r26⟩ := cl_ok hf
    refine C.Vv (As := [.int v8, .int (9 : Int32)]) (rest := []) dX1_befalls_26 (w_X3_feed h26) cX1_203 (Classical.not_not.mp c26) rfl rfl (xcs xvN (Nat.le_of_ble_eq_true rfl)) rfl rfl (xD (Nat.le_of_ble_eq_true rfl)) l26 r26 ?_
    refine X.sub [2, 3, 1, 0] (L' := [(0, va_rf x0), (1, va_rf x1), (2, .int v8), (3, .int v14)]) rfl ?_
    exact c_X1_befalls_29_ok _ _ _ _ _ _ hf
theorem cX1_283 : xCV RX1 283 mX1_befalls 1 := ⟨lw_V q1484 q1486 qs49 q121 q1487, rfl, ⟨by decide +kernel, by decide +kernel, by decide +kernel⟩, Nat.le_of_ble_eq_true rfl⟩
/-! MouldVotes allParties -/
abbrev cX1_allParties : ByteArray := prog_1_method_10_code
def yX1_allParties : MethodName := ⟨RX1, "allParties", "()I"⟩
theorem dX1_allParties_0 : decode cX1_allParties 0 = .ok (.bipush 15, 2) := by decide +kernel
theorem dX1_allParties_2 : decode cX1_allParties 2 = .ok (.ireturn, 1) := by decide +kernel
abbrev mX1_allParties : xM := (yX1_allParties, cX1_allParties, 0, (some .int), [])
def c_X1_allParties  : Option Int32 :=
  some (15 : Int32)
theorem w_X1_allParties {G : xG}  {T : xF}  {q : Int32} (hf : c_X1_allParties  = some q) : Ct G mX1_allParties (1) T [] (.inl (some (.int q))) T := by
  refine Ct.ofc (plainFor_of_name (by decide +kernel)) rfl xvN (Nat.le_of_ble_eq_true rfl) (show Xr G _ 0 [] [] _ from ?_)
  unfold c_X1_allParties at hf
  refine X.bipush (v := 15) dX1_allParties_0 (by decide) ?_
  obtain rfl := Option.some.inj hf
  exact X.iret dX1_allParties_2 rfl rfl rfl
theorem cX1_125 : xCS RX1 125 mX1_allParties 0 := ⟨lw_S q667 q668 q121 q669, rfl, ⟨by decide +kernel, by decide +kernel, by decide +kernel⟩, Nat.le_of_ble_eq_true rfl⟩
/-! MouldVotes$Growth votesOf -/
abbrev cX3_votesOf : ByteArray := prog_4_method_18_code
def yX3_votesOf : MethodName := ⟨RX3, "votesOf", "(I)I"⟩
def dkwX3_votesOf_1 : List UInt8 := [61, 132, 3, 1, 167, 255, 232, 28, 172]
abbrev dktX3_votesOf_1 : List UInt8 := dkwX3_votesOf_1 ++ []
def dkwX3_votesOf_0 : List UInt8 := [3, 61, 3, 62, 29, 7, 162, 0, 25, 27, 29, 184, 0, 146, 153, 0, 11, 28, 42, 29, 182, 0, 143, 96]
abbrev dktX3_votesOf_0 : List UInt8 := dkwX3_votesOf_0 ++ dktX3_votesOf_1
theorem dksX3_votesOf_0 : cX3_votesOf.data.toList.drop 0 = dktX3_votesOf_0 := by decide +kernel
theorem dksX3_votesOf_1 : cX3_votesOf.data.toList.drop 24 = dktX3_votesOf_1 := dk_seg dksX3_votesOf_0 24 rfl rfl
theorem dX3_votesOf_0 : decode cX3_votesOf 0 = .ok (.iconst 0, 1) := dk_3 (dk_at dksX3_votesOf_0 0 rfl rfl)
theorem dX3_votesOf_1 : decode cX3_votesOf 1 = .ok (.istore_n 2, 1) := dk_61 (dk_at dksX3_votesOf_0 1 rfl rfl)
theorem dX3_votesOf_2 : decode cX3_votesOf 2 = .ok (.iconst 0, 1) := dk_3 (dk_at dksX3_votesOf_0 2 rfl rfl)
theorem dX3_votesOf_3 : decode cX3_votesOf 3 = .ok (.istore_n 3, 1) := dk_62 (dk_at dksX3_votesOf_0 3 rfl rfl)
theorem dX3_votesOf_4 : decode cX3_votesOf 4 = .ok (.iload_n 3, 1) := dk_29 (dk_at dksX3_votesOf_0 4 rfl rfl)
theorem dX3_votesOf_5 : decode cX3_votesOf 5 = .ok (.iconst 4, 1) := dk_7 (dk_at dksX3_votesOf_0 5 rfl rfl)
theorem dX3_votesOf_6 : decode cX3_votesOf 6 = .ok (.if_icmp .ge 25, 3) := dk_162 0 25 (dk_at dksX3_votesOf_0 6 rfl rfl)
theorem dX3_votesOf_9 : decode cX3_votesOf 9 = .ok (.iload_n 1, 1) := dk_27 (dk_at dksX3_votesOf_0 9 rfl rfl)
theorem dX3_votesOf_10 : decode cX3_votesOf 10 = .ok (.iload_n 3, 1) := dk_29 (dk_at dksX3_votesOf_0 10 rfl rfl)
theorem dX3_votesOf_11 : decode cX3_votesOf 11 = .ok (.invokestatic 146, 3) := dk_184 0 146 (dk_at dksX3_votesOf_0 11 rfl rfl)
theorem dX3_votesOf_14 : decode cX3_votesOf 14 = .ok (.ifCond .eq 11, 3) := dk_153 0 11 (dk_at dksX3_votesOf_0 14 rfl rfl)
theorem dX3_votesOf_17 : decode cX3_votesOf 17 = .ok (.iload_n 2, 1) := dk_28 (dk_at dksX3_votesOf_0 17 rfl rfl)
theorem dX3_votesOf_18 : decode cX3_votesOf 18 = .ok (.aload_n 0, 1) := dk_42 (dk_at dksX3_votesOf_0 18 rfl rfl)
theorem dX3_votesOf_19 : decode cX3_votesOf 19 = .ok (.iload_n 3, 1) := dk_29 (dk_at dksX3_votesOf_0 19 rfl rfl)
theorem dX3_votesOf_20 : decode cX3_votesOf 20 = .ok (.invokevirtual 143, 3) := dk_182 0 143 (dk_at dksX3_votesOf_0 20 rfl rfl)
theorem dX3_votesOf_23 : decode cX3_votesOf 23 = .ok (.iadd, 1) := dk_96 (dk_at dksX3_votesOf_0 23 rfl rfl)
theorem dX3_votesOf_24 : decode cX3_votesOf 24 = .ok (.istore_n 2, 1) := dk_61 (dk_at dksX3_votesOf_1 0 rfl rfl)
theorem dX3_votesOf_25 : decode cX3_votesOf 25 = .ok (.iinc 3 1, 3) := dk_132 3 1 (dk_at dksX3_votesOf_1 1 rfl rfl)
theorem dX3_votesOf_28 : decode cX3_votesOf 28 = .ok (.goto (-24), 3) := dk_167 255 232 (dk_at dksX3_votesOf_1 4 rfl rfl)
theorem dX3_votesOf_31 : decode cX3_votesOf 31 = .ok (.iload_n 2, 1) := dk_28 (dk_at dksX3_votesOf_1 7 rfl rfl)
theorem dX3_votesOf_32 : decode cX3_votesOf 32 = .ok (.ireturn, 1) := dk_172 (dk_at dksX3_votesOf_1 8 rfl rfl)
abbrev mX3_votesOf : xM := (yX3_votesOf, cX3_votesOf, 4, (some .int), [])
def c_X3_votesOf_25 (T : xF) (k4 : Option Nat → Int32 → Int32 → Int32 → Option Int32) (x0 : Option Nat) (x1 : Int32) (x2 : Int32) (x3 : Int32) : Option Int32 :=
  k4 x0 x1 x2 (x3 + 1)
theorem c_X3_votesOf_25_ok {G : xG}  {T : xF} {k4 : Option Nat → Int32 → Int32 → Int32 → Option Int32} (hk4 : ∀ (x0 : Option Nat) (x1 : Int32) (x2 : Int32) (x3 : Int32) (q : Int32), k4 x0 x1 x2 x3 = some q → Xr G (mX3_votesOf, xrm (5) T T, T, .inl (some (.int q)), T) 4 [(0, va_rf x0), (1, .int x1), (2, .int x2), (3, .int x3)] [] T) (x0 : Option Nat) (x1 : Int32) (x2 : Int32) (x3 : Int32) (q : Int32) (hf : c_X3_votesOf_25 T k4 x0 x1 x2 x3 = some q) : Xr G (mX3_votesOf, xrm (5) T T, T, .inl (some (.int q)), T) 25 [(0, va_rf x0), (1, .int x1), (2, .int x2), (3, .int x3)] [] T := by
  unfold c_X3_votesOf_25 at hf
  refine C.iinc (v := (x3 + 1)) (L' := [(3, .int (x3 + 1)), (0, va_rf x0), (1, .int x1), (2, .int x2)]) dX3_votesOf_25 3 rfl rfl (Nat.le_of_ble_eq_true rfl) (xcQ (xcI (xcI (xcI xcN)))) rfl ?_
  refine X.goto (tgt := 4) dX3_votesOf_28 (by decide) ?_
  refine X.sub [1, 2, 3, 0] (L' := [(0, va_rf x0), (1, .int x1), (2, .int x2), (3, .int (x3 + 1))]) rfl ?_
  exact hk4 _ _ _ _ _ hf
def c_X3_votesOf_4_b (T : xF) (k4 : Option Nat → Int32 → Int32 → Int32 → Option Int32) (x0 : Option Nat) (x1 : Int32) (x2 : Int32) (x3 : Int32) : Option Int32 :=
  if (4 : Int32) ≤ x3 then
    some x2
  else
    (c_X1_isOf x1 x3).bind fun v11 =>
    if v11 = 0 then
      c_X3_votesOf_25 T k4 x0 x1 x2 x3
    else
      if ¬ isO T x0 2 = true then none else
      (c_X3_votes T x0 x3).bind fun v20 =>
      c_X3_votesOf_25 T k4 x0 x1 (x2 + v20) x3
def c_X3_votesOf_4 (T : xF) : Nat → Option Nat → Int32 → Int32 → Int32 → Option Int32
  | 0 => fun _ _ _ _ => none
  | n + 1 => fun x0 x1 x2 x3 => c_X3_votesOf_4_b T (c_X3_votesOf_4 T n) x0 x1 x2 x3
theorem c_X3_votesOf_4_bok {G : xG}  {T : xF}  {k4 : Option Nat → Int32 → Int32 → Int32 → Option Int32}  (hk4 : ∀ (x0 : Option Nat) (x1 : Int32) (x2 : Int32) (x3 : Int32) (q : Int32), k4 x0 x1 x2 x3 = some q → Xr G (mX3_votesOf, xrm (5) T T, T, .inl (some (.int q)), T) 4 [(0, va_rf x0), (1, .int x1), (2, .int x2), (3, .int x3)] [] T) (x0 : Option Nat) (x1 : Int32) (x2 : Int32) (x3 : Int32) (q : Int32) (hf : c_X3_votesOf_4_b T k4 x0 x1 x2 x3 = some q) : Xr G (mX3_votesOf, xrm (5) T T, T, .inl (some (.int q)), T) 4 [(0, va_rf x0), (1, .int x1), (2, .int x2), (3, .int x3)] [] T := by
  unfold c_X3_votesOf_4_b at hf
  refine X.iload_n dX3_votesOf_4 rfl 3 rfl ?_
  refine X.iconst (v := 4) dX3_votesOf_5 (by decide) ?_
  refine X.icmp_ge (tgt := 31) dX3_votesOf_6 (by decide) (fun c6 => ?_) (fun c6 => ?_)
  · have hf := if_t c6 hf
    refine X.iload_n dX3_votesOf_31 rfl 2 rfl ?_
    obtain rfl := Option.some.inj hf
    exact X.iret dX3_votesOf_32 rfl rfl rfl
  · have hf := if_f c6 hf
    refine X.iload_n dX3_votesOf_9 rfl 1 rfl ?_
    refine X.iload_n dX3_votesOf_10 rfl 3 rfl ?_
    obtain ⟨v11, h11, hf⟩ := ob hf
    refine X.keep fun l11 => C.SNi (As := [.int x1, .int x3]) (rest := []) dX3_votesOf_11 (w_X1_isOf h11) cX3_146 rfl rfl (xcs xvN (Nat.le_of_ble_eq_true rfl)) (xD (Nat.le_of_ble_eq_true rfl)) xle.rf l11 ?_
    refine X.if_eq (tgt := 25) dX3_votesOf_14 (by decide) (fun c14 => ?_) (fun c14 => ?_)
    · have hf := if_t c14 hf
      refine X.sub [0, 1, 2, 3] (L' := [(0, va_rf x0), (1, .int x1), (2, .int x2), (3, .int x3)]) rfl ?_
      exact c_X3_votesOf_25_ok hk4 _ _ _ _ _ hf
    · have hf := if_f c14 hf
      refine X.iload_n dX3_votesOf_17 rfl 2 rfl ?_
      refine C.aload_n dX3_votesOf_18 rfl 0 rfl ?_
      refine X.iload_n dX3_votesOf_19 rfl 3 rfl ?_
      obtain ⟨c20, hf⟩ := if_n hf
      obtain ⟨v20, h20, hf⟩ := ob hf
      refine X.keep fun l20 => C.Vi (As := [.int x3]) (rest := [.int x2]) dX3_votesOf_20 (w_X3_votes h20) cX3_143 (Classical.not_not.mp c20) rfl rfl (xcs (xvI xvN) (Nat.le_of_ble_eq_true rfl)) rfl rfl (xD (Nat.le_of_ble_eq_true rfl)) xle.rf l20 ?_
      refine X.iadd dX3_votesOf_23 ?_
      refine C.ist_n (L' := [(2, .int (x2 + v20)), (0, va_rf x0), (1, .int x1), (3, .int x3)]) dX3_votesOf_24 rfl (Nat.le_of_ble_eq_true rfl) (xcQ (xcI (xcI (xcI xcN)))) rfl ?_
      refine X.sub [1, 2, 0, 3] (L' := [(0, va_rf x0), (1, .int x1), (2, .int (x2 + v20)), (3, .int x3)]) rfl ?_
      exact c_X3_votesOf_25_ok hk4 _ _ _ _ _ hf
theorem c_X3_votesOf_4_ok {G : xG}  {T : xF}   : ∀ (n : Nat) (x0 : Option Nat) (x1 : Int32) (x2 : Int32) (x3 : Int32) (q : Int32), c_X3_votesOf_4 T n x0 x1 x2 x3 = some q → Xr G (mX3_votesOf, xrm (5) T T, T, .inl (some (.int q)), T) 4 [(0, va_rf x0), (1, .int x1), (2, .int x2), (3, .int x3)] [] T
  | 0, _, _, _, _, _, hf => by cases hf
  | n + 1, x0, x1, x2, x3, q, hf => c_X3_votesOf_4_bok (c_X3_votesOf_4_ok n) x0 x1 x2 x3 q hf
def c_X3_votesOf (T : xF) (x0 : Option Nat) (x1 : Int32) : Option Int32 :=
  c_X3_votesOf_4 T FU x0 x1 (0 : Int32) (0 : Int32)
theorem w_X3_votesOf {G : xG}  {T : xF} {x0 : Option Nat} {x1 : Int32} {q : Int32} (hf : c_X3_votesOf T x0 x1 = some q) : Ct G mX3_votesOf (5) T [va_rf x0, .int x1] (.inl (some (.int q))) T := by
  refine Ct.ofc (plainFor_of_name (by decide +kernel)) rfl (xvQ (xvI xvN)) (Nat.le_of_ble_eq_true rfl) (show Xr G _ 0 [(0, va_rf x0), (1, .int x1)] [] _ from ?_)
  unfold c_X3_votesOf at hf
  refine X.iconst (v := 0) dX3_votesOf_0 (by decide) ?_
  refine C.ist_n (L' := [(2, .int (0 : Int32)), (0, va_rf x0), (1, .int x1)]) dX3_votesOf_1 rfl (Nat.le_of_ble_eq_true rfl) (xcQ (xcI xcN)) rfl ?_
  refine X.iconst (v := 0) dX3_votesOf_2 (by decide) ?_
  refine C.ist_n (L' := [(3, .int (0 : Int32)), (2, .int (0 : Int32)), (0, va_rf x0), (1, .int x1)]) dX3_votesOf_3 rfl (Nat.le_of_ble_eq_true rfl) (xcI (xcQ (xcI xcN))) rfl ?_
  refine X.sub [2, 3, 1, 0] (L' := [(0, va_rf x0), (1, .int x1), (2, .int (0 : Int32)), (3, .int (0 : Int32))]) rfl ?_
  exact c_X3_votesOf_4_ok FU _ _ _ _ _ hf
theorem cX1_128 : xCV RX1 128 mX3_votesOf 1 := ⟨lw_V q674 q675 q676 q126 q677, rfl, ⟨by decide +kernel, by decide +kernel, by decide +kernel⟩, Nat.le_of_ble_eq_true rfl⟩
/-! MouldVotes drawn -/
abbrev cX1_drawn : ByteArray := prog_1_method_54_code
def yX1_drawn : MethodName := ⟨RX1, "drawn", "(III)I"⟩
def dkwX1_drawn_5 : List UInt8 := [180, 0, 155, 21, 5, 46, 96, 54, 4, 132, 5, 1, 167, 255, 226, 21, 4, 172]
abbrev dktX1_drawn_5 : List UInt8 := dkwX1_drawn_5 ++ []
def dkwX1_drawn_4 : List UInt8 := [3, 54, 4, 3, 54, 5, 21, 5, 42, 180, 0, 22, 182, 0, 92, 162, 0, 24, 21, 4, 42, 180, 0, 35]
abbrev dktX1_drawn_4 : List UInt8 := dkwX1_drawn_4 ++ dktX1_drawn_5
def dkwX1_drawn_3 : List UInt8 := [154, 0, 16, 42, 180, 0, 35, 184, 0, 125, 182, 0, 128, 167, 0, 10, 42, 180, 0, 35, 182, 0, 131, 172]
abbrev dktX1_drawn_3 : List UInt8 := dkwX1_drawn_3 ++ dktX1_drawn_4
def dkwX1_drawn_2 : List UInt8 := [182, 1, 27, 42, 180, 0, 35, 182, 0, 220, 87, 132, 4, 1, 167, 255, 231, 29, 4, 159, 0, 28, 29]
abbrev dktX1_drawn_2 : List UInt8 := dkwX1_drawn_2 ++ dktX1_drawn_3
def dkwX1_drawn_1 : List UInt8 := [42, 180, 0, 38, 182, 0, 213, 87, 3, 54, 4, 21, 4, 28, 162, 0, 25, 42, 42, 180, 0, 35]
abbrev dktX1_drawn_1 : List UInt8 := dkwX1_drawn_1 ++ dktX1_drawn_2
def dkwX1_drawn_0 : List UInt8 := [29, 5, 184, 0, 163, 28, 3, 16, 40, 184, 0, 134, 184, 0, 65, 42, 27, 181, 1, 20, 42, 180, 0, 35]
abbrev dktX1_drawn_0 : List UInt8 := dkwX1_drawn_0 ++ dktX1_drawn_1
theorem dksX1_drawn_0 : cX1_drawn.data.toList.drop 0 = dktX1_drawn_0 := by decide +kernel
theorem dksX1_drawn_1 : cX1_drawn.data.toList.drop 24 = dktX1_drawn_1 := dk_seg dksX1_drawn_0 24 rfl rfl
theorem dksX1_drawn_2 : cX1_drawn.data.toList.drop 46 = dktX1_drawn_2 := dk_seg dksX1_drawn_1 22 rfl rfl
theorem dksX1_drawn_3 : cX1_drawn.data.toList.drop 69 = dktX1_drawn_3 := dk_seg dksX1_drawn_2 23 rfl rfl
theorem dksX1_drawn_4 : cX1_drawn.data.toList.drop 93 = dktX1_drawn_4 := dk_seg dksX1_drawn_3 24 rfl rfl
theorem dksX1_drawn_5 : cX1_drawn.data.toList.drop 117 = dktX1_drawn_5 := dk_seg dksX1_drawn_4 24 rfl rfl
theorem dX1_drawn_0 : decode cX1_drawn 0 = .ok (.iload_n 3, 1) := dk_29 (dk_at dksX1_drawn_0 0 rfl rfl)
theorem dX1_drawn_1 : decode cX1_drawn 1 = .ok (.iconst 2, 1) := dk_5 (dk_at dksX1_drawn_0 1 rfl rfl)
theorem dX1_drawn_2 : decode cX1_drawn 2 = .ok (.invokestatic 163, 3) := dk_184 0 163 (dk_at dksX1_drawn_0 2 rfl rfl)
theorem dX1_drawn_5 : decode cX1_drawn 5 = .ok (.iload_n 2, 1) := dk_28 (dk_at dksX1_drawn_0 5 rfl rfl)
theorem dX1_drawn_6 : decode cX1_drawn 6 = .ok (.iconst 0, 1) := dk_3 (dk_at dksX1_drawn_0 6 rfl rfl)
theorem dX1_drawn_7 : decode cX1_drawn 7 = .ok (.bipush 40, 2) := dk_16 40 (dk_at dksX1_drawn_0 7 rfl rfl)
theorem dX1_drawn_9 : decode cX1_drawn 9 = .ok (.invokestatic 134, 3) := dk_184 0 134 (dk_at dksX1_drawn_0 9 rfl rfl)
theorem dX1_drawn_12 : decode cX1_drawn 12 = .ok (.invokestatic 65, 3) := dk_184 0 65 (dk_at dksX1_drawn_0 12 rfl rfl)
theorem dX1_drawn_15 : decode cX1_drawn 15 = .ok (.aload_n 0, 1) := dk_42 (dk_at dksX1_drawn_0 15 rfl rfl)
theorem dX1_drawn_16 : decode cX1_drawn 16 = .ok (.iload_n 1, 1) := dk_27 (dk_at dksX1_drawn_0 16 rfl rfl)
theorem dX1_drawn_17 : decode cX1_drawn 17 = .ok (.putfield 276, 3) := dk_181 1 20 (dk_at dksX1_drawn_0 17 rfl rfl)
theorem dX1_drawn_20 : decode cX1_drawn 20 = .ok (.aload_n 0, 1) := dk_42 (dk_at dksX1_drawn_0 20 rfl rfl)
theorem dX1_drawn_21 : decode cX1_drawn 21 = .ok (.getfield 35, 3) := dk_180 0 35 (dk_at dksX1_drawn_0 21 rfl rfl)
theorem dX1_drawn_24 : decode cX1_drawn 24 = .ok (.aload_n 0, 1) := dk_42 (dk_at dksX1_drawn_1 0 rfl rfl)
theorem dX1_drawn_25 : decode cX1_drawn 25 = .ok (.getfield 38, 3) := dk_180 0 38 (dk_at dksX1_drawn_1 1 rfl rfl)
theorem dX1_drawn_28 : decode cX1_drawn 28 = .ok (.invokevirtual 213, 3) := dk_182 0 213 (dk_at dksX1_drawn_1 4 rfl rfl)
theorem dX1_drawn_31 : decode cX1_drawn 31 = .ok (.pop, 1) := dk_87 (dk_at dksX1_drawn_1 7 rfl rfl)
theorem dX1_drawn_32 : decode cX1_drawn 32 = .ok (.iconst 0, 1) := dk_3 (dk_at dksX1_drawn_1 8 rfl rfl)
theorem dX1_drawn_33 : decode cX1_drawn 33 = .ok (.istore 4, 2) := dk_54 4 (dk_at dksX1_drawn_1 9 rfl rfl)
theorem dX1_drawn_35 : decode cX1_drawn 35 = .ok (.iload 4, 2) := dk_21 4 (dk_at dksX1_drawn_1 11 rfl rfl)
theorem dX1_drawn_37 : decode cX1_drawn 37 = .ok (.iload_n 2, 1) := dk_28 (dk_at dksX1_drawn_1 13 rfl rfl)
theorem dX1_drawn_38 : decode cX1_drawn 38 = .ok (.if_icmp .ge 25, 3) := dk_162 0 25 (dk_at dksX1_drawn_1 14 rfl rfl)
theorem dX1_drawn_41 : decode cX1_drawn 41 = .ok (.aload_n 0, 1) := dk_42 (dk_at dksX1_drawn_1 17 rfl rfl)
theorem dX1_drawn_42 : decode cX1_drawn 42 = .ok (.aload_n 0, 1) := dk_42 (dk_at dksX1_drawn_1 18 rfl rfl)
theorem dX1_drawn_43 : decode cX1_drawn 43 = .ok (.getfield 35, 3) := dk_180 0 35 (dk_at dksX1_drawn_1 19 rfl rfl)
theorem dX1_drawn_46 : decode cX1_drawn 46 = .ok (.invokevirtual 283, 3) := dk_182 1 27 (dk_at dksX1_drawn_2 0 rfl rfl)
theorem dX1_drawn_49 : decode cX1_drawn 49 = .ok (.aload_n 0, 1) := dk_42 (dk_at dksX1_drawn_2 3 rfl rfl)
theorem dX1_drawn_50 : decode cX1_drawn 50 = .ok (.getfield 35, 3) := dk_180 0 35 (dk_at dksX1_drawn_2 4 rfl rfl)
theorem dX1_drawn_53 : decode cX1_drawn 53 = .ok (.invokevirtual 220, 3) := dk_182 0 220 (dk_at dksX1_drawn_2 7 rfl rfl)
theorem dX1_drawn_56 : decode cX1_drawn 56 = .ok (.pop, 1) := dk_87 (dk_at dksX1_drawn_2 10 rfl rfl)
theorem dX1_drawn_57 : decode cX1_drawn 57 = .ok (.iinc 4 1, 3) := dk_132 4 1 (dk_at dksX1_drawn_2 11 rfl rfl)
theorem dX1_drawn_60 : decode cX1_drawn 60 = .ok (.goto (-25), 3) := dk_167 255 231 (dk_at dksX1_drawn_2 14 rfl rfl)
theorem dX1_drawn_63 : decode cX1_drawn 63 = .ok (.iload_n 3, 1) := dk_29 (dk_at dksX1_drawn_2 17 rfl rfl)
theorem dX1_drawn_64 : decode cX1_drawn 64 = .ok (.iconst 1, 1) := dk_4 (dk_at dksX1_drawn_2 18 rfl rfl)
theorem dX1_drawn_65 : decode cX1_drawn 65 = .ok (.if_icmp .eq 28, 3) := dk_159 0 28 (dk_at dksX1_drawn_2 19 rfl rfl)
theorem dX1_drawn_68 : decode cX1_drawn 68 = .ok (.iload_n 3, 1) := dk_29 (dk_at dksX1_drawn_2 22 rfl rfl)
theorem dX1_drawn_69 : decode cX1_drawn 69 = .ok (.ifCond .ne 16, 3) := dk_154 0 16 (dk_at dksX1_drawn_3 0 rfl rfl)
theorem dX1_drawn_72 : decode cX1_drawn 72 = .ok (.aload_n 0, 1) := dk_42 (dk_at dksX1_drawn_3 3 rfl rfl)
theorem dX1_drawn_73 : decode cX1_drawn 73 = .ok (.getfield 35, 3) := dk_180 0 35 (dk_at dksX1_drawn_3 4 rfl rfl)
theorem dX1_drawn_76 : decode cX1_drawn 76 = .ok (.invokestatic 125, 3) := dk_184 0 125 (dk_at dksX1_drawn_3 7 rfl rfl)
theorem dX1_drawn_79 : decode cX1_drawn 79 = .ok (.invokevirtual 128, 3) := dk_182 0 128 (dk_at dksX1_drawn_3 10 rfl rfl)
theorem dX1_drawn_82 : decode cX1_drawn 82 = .ok (.goto 10, 3) := dk_167 0 10 (dk_at dksX1_drawn_3 13 rfl rfl)
theorem dX1_drawn_85 : decode cX1_drawn 85 = .ok (.aload_n 0, 1) := dk_42 (dk_at dksX1_drawn_3 16 rfl rfl)
theorem dX1_drawn_86 : decode cX1_drawn 86 = .ok (.getfield 35, 3) := dk_180 0 35 (dk_at dksX1_drawn_3 17 rfl rfl)
theorem dX1_drawn_89 : decode cX1_drawn 89 = .ok (.invokevirtual 131, 3) := dk_182 0 131 (dk_at dksX1_drawn_3 20 rfl rfl)
theorem dX1_drawn_92 : decode cX1_drawn 92 = .ok (.ireturn, 1) := dk_172 (dk_at dksX1_drawn_3 23 rfl rfl)
theorem dX1_drawn_93 : decode cX1_drawn 93 = .ok (.iconst 0, 1) := dk_3 (dk_at dksX1_drawn_4 0 rfl rfl)
theorem dX1_drawn_94 : decode cX1_drawn 94 = .ok (.istore 4, 2) := dk_54 4 (dk_at dksX1_drawn_4 1 rfl rfl)
theorem dX1_drawn_96 : decode cX1_drawn 96 = .ok (.iconst 0, 1) := dk_3 (dk_at dksX1_drawn_4 3 rfl rfl)
theorem dX1_drawn_97 : decode cX1_drawn 97 = .ok (.istore 5, 2) := dk_54 5 (dk_at dksX1_drawn_4 4 rfl rfl)
theorem dX1_drawn_99 : decode cX1_drawn 99 = .ok (.iload 5, 2) := dk_21 5 (dk_at dksX1_drawn_4 6 rfl rfl)
theorem dX1_drawn_101 : decode cX1_drawn 101 = .ok (.aload_n 0, 1) := dk_42 (dk_at dksX1_drawn_4 8 rfl rfl)
theorem dX1_drawn_102 : decode cX1_drawn 102 = .ok (.getfield 22, 3) := dk_180 0 22 (dk_at dksX1_drawn_4 9 rfl rfl)
theorem dX1_drawn_105 : decode cX1_drawn 105 = .ok (.invokevirtual 92, 3) := dk_182 0 92 (dk_at dksX1_drawn_4 12 rfl rfl)
theorem dX1_drawn_108 : decode cX1_drawn 108 = .ok (.if_icmp .ge 24, 3) := dk_162 0 24 (dk_at dksX1_drawn_4 15 rfl rfl)
theorem dX1_drawn_111 : decode cX1_drawn 111 = .ok (.iload 4, 2) := dk_21 4 (dk_at dksX1_drawn_4 18 rfl rfl)
theorem dX1_drawn_113 : decode cX1_drawn 113 = .ok (.aload_n 0, 1) := dk_42 (dk_at dksX1_drawn_4 20 rfl rfl)
theorem dX1_drawn_114 : decode cX1_drawn 114 = .ok (.getfield 35, 3) := dk_180 0 35 (dk_at dksX1_drawn_4 21 rfl rfl)
theorem dX1_drawn_117 : decode cX1_drawn 117 = .ok (.getfield 155, 3) := dk_180 0 155 (dk_at dksX1_drawn_5 0 rfl rfl)
theorem dX1_drawn_120 : decode cX1_drawn 120 = .ok (.iload 5, 2) := dk_21 5 (dk_at dksX1_drawn_5 3 rfl rfl)
theorem dX1_drawn_122 : decode cX1_drawn 122 = .ok (.iaload, 1) := dk_46 (dk_at dksX1_drawn_5 5 rfl rfl)
theorem dX1_drawn_123 : decode cX1_drawn 123 = .ok (.iadd, 1) := dk_96 (dk_at dksX1_drawn_5 6 rfl rfl)
theorem dX1_drawn_124 : decode cX1_drawn 124 = .ok (.istore 4, 2) := dk_54 4 (dk_at dksX1_drawn_5 7 rfl rfl)
theorem dX1_drawn_126 : decode cX1_drawn 126 = .ok (.iinc 5 1, 3) := dk_132 5 1 (dk_at dksX1_drawn_5 9 rfl rfl)
theorem dX1_drawn_129 : decode cX1_drawn 129 = .ok (.goto (-30), 3) := dk_167 255 226 (dk_at dksX1_drawn_5 12 rfl rfl)
theorem dX1_drawn_132 : decode cX1_drawn 132 = .ok (.iload 4, 2) := dk_21 4 (dk_at dksX1_drawn_5 15 rfl rfl)
theorem dX1_drawn_134 : decode cX1_drawn 134 = .ok (.ireturn, 1) := dk_172 (dk_at dksX1_drawn_5 17 rfl rfl)
abbrev mX1_drawn : xM := (yX1_drawn, cX1_drawn, 6, (some .int), [])
def c_X1_drawn_99_b (G : xG) (k99 : Option Nat → Int32 → Int32 → xF → Option ((Int32 ⊕ xE) × xF)) (x0 : Option Nat) (x4 : Int32) (x5 : Int32) (T : xF) : Option ((Int32 ⊕ xE) × xF) :=
  (oQ T x0 0 1).bind fun v102 =>
  if ¬ isO T v102 1 = true then none else
  (c_X2_cells T v102).bind fun v105 =>
  if v105 ≤ x5 then
    some (.inl x4, T)
  else
    (oQ T x0 0 3).bind fun v114 =>
    (oQ T v114 2 3).bind fun v117 =>
    (ldA T v117 .int x5).bind fun v122 =>
    k99 x0 (x4 + v122) (x5 + 1) T
def c_X1_drawn_99 (G : xG) : Nat → Option Nat → Int32 → Int32 → xF → Option ((Int32 ⊕ xE) × xF)
  | 0 => fun _ _ _ _ => none
  | n + 1 => fun x0 x4 x5 T => c_X1_drawn_99_b G (c_X1_drawn_99 G n) x0 x4 x5 T
theorem c_X1_drawn_99_bok {G : xG}  {T0 : xF}  {k99 : Option Nat → Int32 → Int32 → xF → Option ((Int32 ⊕ xE) × xF)}  (hk99 : ∀ (x0 : Option Nat) (x4 : Int32) (x5 : Int32) (T : xF) (q : ((Int32 ⊕ xE) × xF)), k99 x0 x4 x5 T = some q → Xr G (mX1_drawn, xrm (125) T0 q.2, T0, xoI q.1, q.2) 99 [(0, va_rf x0), (4, .int x4), (5, .int x5)] [] T) (x0 : Option Nat) (x4 : Int32) (x5 : Int32) (T : xF) (q : ((Int32 ⊕ xE) × xF)) (hf : c_X1_drawn_99_b G k99 x0 x4 x5 T = some q) : Xr G (mX1_drawn, xrm (125) T0 q.2, T0, xoI q.1, q.2) 99 [(0, va_rf x0), (4, .int x4), (5, .int x5)] [] T := by
  unfold c_X1_drawn_99_b at hf
  refine X.iload dX1_drawn_99 2 rfl ?_
  refine C.aload_n dX1_drawn_101 rfl 0 rfl ?_
  obtain ⟨v102, h102, hf⟩ := ob hf
  refine C.getQ dX1_drawn_102 rX1_22 h102 ?_
  obtain ⟨c105, hf⟩ := if_n hf
  obtain ⟨v105, h105, hf⟩ := ob hf
  refine X.keep fun l105 => C.Vi (As := []) (rest := [.int x5]) dX1_drawn_105 (w_X2_cells h105) cX1_92 (Classical.not_not.mp c105) rfl rfl (xcs (xvI xvN) (Nat.le_of_ble_eq_true rfl)) rfl rfl (xD (Nat.le_of_ble_eq_true rfl)) xle.rf l105 ?_
  refine X.icmp_ge (tgt := 132) dX1_drawn_108 (by decide) (fun c108 => ?_) (fun c108 => ?_)
  · have hf := if_t c108 hf
    refine X.iload dX1_drawn_132 1 rfl ?_
    obtain rfl := Option.some.inj hf
    exact X.iret dX1_drawn_134 rfl rfl rfl
  · have hf := if_f c108 hf
    refine X.iload dX1_drawn_111 1 rfl ?_
    refine C.aload_n dX1_drawn_113 rfl 0 rfl ?_
    obtain ⟨v114, h114, hf⟩ := ob hf
    refine C.getQ dX1_drawn_114 rX1_35 h114 ?_
    obtain ⟨v117, h117, hf⟩ := ob hf
    refine C.getQ dX1_drawn_117 rX1_155 h117 ?_
    refine X.iload dX1_drawn_120 2 rfl ?_
    obtain ⟨v122, h122, hf⟩ := ob hf
    refine C.iald dX1_drawn_122 h122 ?_
    refine X.iadd dX1_drawn_123 ?_
    refine C.ist (L' := [(4, .int (x4 + v122)), (0, va_rf x0), (5, .int x5)]) dX1_drawn_124 (Nat.le_of_ble_eq_true rfl) (xcQ (xcI (xcI xcN))) rfl ?_
    refine C.iinc (v := (x5 + 1)) (L' := [(5, .int (x5 + 1)), (4, .int (x4 + v122)), (0, va_rf x0)]) dX1_drawn_126 2 rfl rfl (Nat.le_of_ble_eq_true rfl) (xcI (xcQ (xcI xcN))) rfl ?_
    refine X.goto (tgt := 99) dX1_drawn_129 (by decide) ?_
    refine X.sub [2, 1, 0] (L' := [(0, va_rf x0), (4, .int (x4 + v122)), (5, .int (x5 + 1))]) rfl ?_
    exact hk99 _ _ _ _ _ hf
theorem c_X1_drawn_99_ok {G : xG}  {T0 : xF}   : ∀ (n : Nat) (x0 : Option Nat) (x4 : Int32) (x5 : Int32) (T : xF) (q : ((Int32 ⊕ xE) × xF)), c_X1_drawn_99 G n x0 x4 x5 T = some q → Xr G (mX1_drawn, xrm (125) T0 q.2, T0, xoI q.1, q.2) 99 [(0, va_rf x0), (4, .int x4), (5, .int x5)] [] T
  | 0, _, _, _, _, _, hf => by cases hf
  | n + 1, x0, x4, x5, T, q, hf => c_X1_drawn_99_bok (c_X1_drawn_99_ok n) x0 x4 x5 T q hf
def c_X1_drawn_35_b (G : xG) (k35 : Option Nat → Int32 → Int32 → Int32 → xF → Option ((Int32 ⊕ xE) × xF)) (x0 : Option Nat) (x2 : Int32) (x3 : Int32) (x4 : Int32) (T : xF) : Option ((Int32 ⊕ xE) × xF) :=
  if x2 ≤ x4 then
    if x3 = (1 : Int32) then
      c_X1_drawn_99 G FU x0 (0 : Int32) (0 : Int32) T
    else
      if x3 = 0 then
        (oQ T x0 0 3).bind fun v73 =>
        (c_X1_allParties).bind fun v76 =>
        if ¬ isO T v73 2 = true then none else
        (c_X3_votesOf T v73 v76).bind fun v79 =>
        some (.inl v79, T)
      else
        (oQ T x0 0 3).bind fun v86 =>
        if ¬ isO T v86 2 = true then none else
        (c_X3_winner T v86).bind fun v89 =>
        some (.inl v89, T)
  else
    (oQ T x0 0 3).bind fun v43 =>
    if ¬ isO T x0 0 = true then none else
    cl (c_X1_befalls x0 v43 T) T fun v46 T46 =>
    (oQ T46 x0 0 3).bind fun v50 =>
    if ¬ isO T46 v50 2 = true then none else
    cl (c_X3_pass G v50 T46) T46 fun v53 T53 =>
    k35 x0 x2 x3 (x4 + 1) T53
def c_X1_drawn_35 (G : xG) : Nat → Option Nat → Int32 → Int32 → Int32 → xF → Option ((Int32 ⊕ xE) × xF)
  | 0 => fun _ _ _ _ _ => none
  | n + 1 => fun x0 x2 x3 x4 T => c_X1_drawn_35_b G (c_X1_drawn_35 G n) x0 x2 x3 x4 T
theorem c_X1_drawn_35_bok {G : xG}  {T0 : xF}  {k35 : Option Nat → Int32 → Int32 → Int32 → xF → Option ((Int32 ⊕ xE) × xF)}  (hk35 : ∀ (x0 : Option Nat) (x2 : Int32) (x3 : Int32) (x4 : Int32) (T : xF) (q : ((Int32 ⊕ xE) × xF)), k35 x0 x2 x3 x4 T = some q → Xr G (mX1_drawn, xrm (125) T0 q.2, T0, xoI q.1, q.2) 35 [(0, va_rf x0), (2, .int x2), (3, .int x3), (4, .int x4)] [] T) (x0 : Option Nat) (x2 : Int32) (x3 : Int32) (x4 : Int32) (T : xF) (q : ((Int32 ⊕ xE) × xF)) (hf : c_X1_drawn_35_b G k35 x0 x2 x3 x4 T = some q) : Xr G (mX1_drawn, xrm (125) T0 q.2, T0, xoI q.1, q.2) 35 [(0, va_rf x0), (2, .int x2), (3, .int x3), (4, .int x4)] [] T := by
  unfold c_X1_drawn_35_b at hf
  refine X.iload dX1_drawn_35 3 rfl ?_
  refine X.iload_n dX1_drawn_37 rfl 1 rfl ?_
  refine X.icmp_ge (tgt := 63) dX1_drawn_38 (by decide) (fun c38 => ?_) (fun c38 => ?_)
  · have hf := if_t c38 hf
    refine X.iload_n dX1_drawn_63 rfl 2 rfl ?_
    refine X.iconst (v := 1) dX1_drawn_64 (by decide) ?_
    refine X.icmp_eq (tgt := 93) dX1_drawn_65 (by decide) (fun c65 => ?_) (fun c65 => ?_)
    · have hf := if_t c65 hf
      refine X.iconst (v := 0) dX1_drawn_93 (by decide) ?_
      refine C.ist (L' := [(4, .int (0 : Int32)), (0, va_rf x0), (2, .int x2), (3, .int x3)]) dX1_drawn_94 (Nat.le_of_ble_eq_true rfl) (xcQ (xcI (xcI (xcI xcN)))) rfl ?_
      refine X.iconst (v := 0) dX1_drawn_96 (by decide) ?_
      refine C.ist (L' := [(5, .int (0 : Int32)), (4, .int (0 : Int32)), (0, va_rf x0), (2, .int x2), (3, .int x3)]) dX1_drawn_97 (Nat.le_of_ble_eq_true rfl) (xcI (xcQ (xcI (xcI xcN)))) rfl ?_
      refine X.sub [2, 1, 0] (L' := [(0, va_rf x0), (4, .int (0 : Int32)), (5, .int (0 : Int32))]) rfl ?_
      exact c_X1_drawn_99_ok FU _ _ _ _ _ hf
    · have hf := if_f c65 hf
      refine X.iload_n dX1_drawn_68 rfl 2 rfl ?_
      refine X.if_ne (tgt := 85) dX1_drawn_69 (by decide) (fun c69 => ?_) (fun c69 => ?_)
      · have hf := if_f c69 hf
        refine C.aload_n dX1_drawn_85 rfl 0 rfl ?_
        obtain ⟨v86, h86, hf⟩ := ob hf
        refine C.getQ dX1_drawn_86 rX1_35 h86 ?_
        obtain ⟨c89, hf⟩ := if_n hf
        obtain ⟨v89, h89, hf⟩ := ob hf
        refine X.keep fun l89 => C.Vi (As := []) (rest := []) dX1_drawn_89 (w_X3_winner h89) cX1_131 (Classical.not_not.mp c89) rfl rfl (xcs xvN (Nat.le_of_ble_eq_true rfl)) rfl rfl (xD (Nat.le_of_ble_eq_true rfl)) xle.rf l89 ?_
        obtain rfl := Option.some.inj hf
        exact X.iret dX1_drawn_92 rfl rfl rfl
      · have hf := if_t c69 hf
        refine C.aload_n dX1_drawn_72 rfl 0 rfl ?_
        obtain ⟨v73, h73, hf⟩ := ob hf
        refine C.getQ dX1_drawn_73 rX1_35 h73 ?_
        obtain ⟨v76, h76, hf⟩ := ob hf
        refine X.keep fun l76 => C.Si (As := []) (rest := [va_rf v73]) dX1_drawn_76 (w_X1_allParties h76) cX1_125 rfl rfl (xcs (xvQ xvN) (Nat.le_of_ble_eq_true rfl)) (xD (Nat.le_of_ble_eq_true rfl)) xle.rf l76 ?_
        obtain ⟨c79, hf⟩ := if_n hf
        obtain ⟨v79, h79, hf⟩ := ob hf
        refine X.keep fun l79 => C.Vi (As := [.int v76]) (rest := []) dX1_drawn_79 (w_X3_votesOf h79) cX1_128 (Classical.not_not.mp c79) rfl rfl (xcs xvN (Nat.le_of_ble_eq_true rfl)) rfl rfl (xD (Nat.le_of_ble_eq_true rfl)) xle.rf l79 ?_
        refine X.goto (tgt := 92) dX1_drawn_82 (by decide) ?_
        obtain rfl := Option.some.inj hf
        exact X.iret dX1_drawn_92 rfl rfl rfl
  · have hf := if_f c38 hf
    refine C.aload_n dX1_drawn_41 rfl 0 rfl ?_
    refine C.aload_n dX1_drawn_42 rfl 0 rfl ?_
    obtain ⟨v43, h43, hf⟩ := ob hf
    refine C.getQ dX1_drawn_43 rX1_35 h43 ?_
    obtain ⟨c46, hf⟩ := if_n hf
    obtain ⟨v46, T46, h46, hf, l46, r46⟩ := cl_ok hf
    refine C.Vv (As := [va_rf v43]) (rest := []) dX1_drawn_46 (w_X1_befalls h46) cX1_283 (Classical.not_not.mp c46) rfl rfl (xcs xvN (Nat.le_of_ble_eq_true rfl)) rfl rfl (xD (Nat.le_of_ble_eq_true rfl)) l46 r46 ?_
    refine C.aload_n dX1_drawn_49 rfl 0 rfl ?_
    obtain ⟨v50, h50, hf⟩ := ob hf
    refine C.getQ dX1_drawn_50 rX1_35 h50 ?_
    obtain ⟨c53, hf⟩ := if_n hf
    obtain ⟨v53, T53, h53, hf, l53, r53⟩ := cl_ok hf
    refine C.Vq (As := []) (rest := []) dX1_drawn_53 (w_X3_pass h53) cX1_220 (Classical.not_not.mp c53) rfl rfl (xcs xvN (Nat.le_of_ble_eq_true rfl)) rfl rfl (xD (Nat.le_of_ble_eq_true rfl)) l53 r53 ?_
    refine X.pop dX1_drawn_56 (cat1 _) ?_
    refine C.iinc (v := (x4 + 1)) (L' := [(4, .int (x4 + 1)), (0, va_rf x0), (2, .int x2), (3, .int x3)]) dX1_drawn_57 3 rfl rfl (Nat.le_of_ble_eq_true rfl) (xcQ (xcI (xcI (xcI xcN)))) rfl ?_
    refine X.goto (tgt := 35) dX1_drawn_60 (by decide) ?_
    refine X.sub [1, 2, 3, 0] (L' := [(0, va_rf x0), (2, .int x2), (3, .int x3), (4, .int (x4 + 1))]) rfl ?_
    exact hk35 _ _ _ _ _ _ hf
theorem c_X1_drawn_35_ok {G : xG}  {T0 : xF}   : ∀ (n : Nat) (x0 : Option Nat) (x2 : Int32) (x3 : Int32) (x4 : Int32) (T : xF) (q : ((Int32 ⊕ xE) × xF)), c_X1_drawn_35 G n x0 x2 x3 x4 T = some q → Xr G (mX1_drawn, xrm (125) T0 q.2, T0, xoI q.1, q.2) 35 [(0, va_rf x0), (2, .int x2), (3, .int x3), (4, .int x4)] [] T
  | 0, _, _, _, _, _, _, hf => by cases hf
  | n + 1, x0, x2, x3, x4, T, q, hf => c_X1_drawn_35_bok (c_X1_drawn_35_ok n) x0 x2 x3 x4 T q hf
def c_X1_drawn (G : xG) (x0 : Option Nat) (x1 : Int32) (x2 : Int32) (x3 : Int32) (T : xF) : Option ((Int32 ⊕ xE) × xF) :=
  clX (c_X1_oneOf x3 (2 : Int32) T) T fun v2 T2 =>
  (c_X1_in x2 (0 : Int32) (40 : Int32)).bind fun v9 =>
  clX (c_X1_right v9 T2) T2 fun v12 T12 =>
  (pV T12 x0 0 14 (.int x1)).bind fun T17 =>
  (oQ T17 x0 0 3).bind fun v21 =>
  (oQ T17 x0 0 4).bind fun v25 =>
  if ¬ isO T17 v21 2 = true then none else
  cl (c_X3_be v21 v25 T17) T17 fun v28 T28 =>
  c_X1_drawn_35 G FU x0 x2 x3 (0 : Int32) T28
theorem w_X1_drawn {G : xG}  {T : xF} {x0 : Option Nat} {x1 : Int32} {x2 : Int32} {x3 : Int32} {q : ((Int32 ⊕ xE) × xF)} (hf : c_X1_drawn G x0 x1 x2 x3 T = some q) : Ct G mX1_drawn (125) T [va_rf x0, .int x1, .int x2, .int x3] (xoI q.1) q.2 := by
  refine Ct.ofc (plainFor_of_name (by decide +kernel)) rfl (xvQ (xvI (xvI (xvI xvN)))) (Nat.le_of_ble_eq_true rfl) (show Xr G _ 0 [(0, va_rf x0), (1, .int x1), (2, .int x2), (3, .int x3)] [] _ from ?_)
  unfold c_X1_drawn at hf
  refine X.iload_n dX1_drawn_0 rfl 3 rfl ?_
  refine X.iconst (v := 2) dX1_drawn_1 (by decide) ?_
  rcases clX_ok hf with ⟨v2, T2, h2, hf, l2, r2⟩ | ⟨e2, T2, h2, rfl, l2⟩
  rotate_left
  · exact C.Sx (As := [.int x3, .int (2 : Int32)]) (rest := []) dX1_drawn_2 (w_X1_oneOf h2) cX1_163 rfl rfl (xcs xvN (Nat.le_of_ble_eq_true rfl)) (xD (Nat.le_of_ble_eq_true rfl)) l2 xle.rf (xnoh rfl) rfl
  refine C.Sv (As := [.int x3, .int (2 : Int32)]) (rest := []) dX1_drawn_2 (w_X1_oneOf h2) cX1_163 rfl rfl (xcs xvN (Nat.le_of_ble_eq_true rfl)) (xD (Nat.le_of_ble_eq_true rfl)) l2 r2 ?_
  refine X.iload_n dX1_drawn_5 rfl 2 rfl ?_
  refine X.iconst (v := 0) dX1_drawn_6 (by decide) ?_
  refine X.bipush (v := 40) dX1_drawn_7 (by decide) ?_
  obtain ⟨v9, h9, hf⟩ := ob hf
  refine X.keep fun l9 => C.Si (As := [.int x2, .int (0 : Int32), .int (40 : Int32)]) (rest := []) dX1_drawn_9 (w_X1_in h9) cX1_134 rfl rfl (xcs xvN (Nat.le_of_ble_eq_true rfl)) (xD (Nat.le_of_ble_eq_true rfl)) xle.rf l9 ?_
  rcases clX_ok hf with ⟨v12, T12, h12, hf, l12, r12⟩ | ⟨e12, T12, h12, rfl, l12⟩
  rotate_left
  · exact C.Sx (As := [.int v9]) (rest := []) dX1_drawn_12 (w_X1_right h12) cX1_65 rfl rfl (xcs xvN (Nat.le_of_ble_eq_true rfl)) (xD (Nat.le_of_ble_eq_true rfl)) l12 xle.rf (xnoh rfl) rfl
  refine C.Sv (As := [.int v9]) (rest := []) dX1_drawn_12 (w_X1_right h12) cX1_65 rfl rfl (xcs xvN (Nat.le_of_ble_eq_true rfl)) (xD (Nat.le_of_ble_eq_true rfl)) l12 r12 ?_
  refine C.aload_n dX1_drawn_15 rfl 0 rfl ?_
  refine X.iload_n dX1_drawn_16 rfl 1 rfl ?_
  obtain ⟨T17, h17, hf⟩ := ob hf
  refine C.putI dX1_drawn_17 fX1_276 (fun q => by cases q) rfl rfl h17 ?_
  refine C.aload_n dX1_drawn_20 rfl 0 rfl ?_
  obtain ⟨v21, h21, hf⟩ := ob hf
  refine C.getQ dX1_drawn_21 rX1_35 h21 ?_
  refine C.aload_n dX1_drawn_24 rfl 0 rfl ?_
  obtain ⟨v25, h25, hf⟩ := ob hf
  refine C.getQ dX1_drawn_25 rX1_38 h25 ?_
  obtain ⟨c28, hf⟩ := if_n hf
  obtain ⟨v28, T28, h28, hf, l28, r28⟩ := cl_ok hf
  refine C.Vq (As := [va_rf v25]) (rest := []) dX1_drawn_28 (w_X3_be h28) cX1_213 (Classical.not_not.mp c28) rfl rfl (xcs xvN (Nat.le_of_ble_eq_true rfl)) rfl rfl (xD (Nat.le_of_ble_eq_true rfl)) l28 r28 ?_
  refine X.pop dX1_drawn_31 (cat1 _) ?_
  refine X.iconst (v := 0) dX1_drawn_32 (by decide) ?_
  refine C.ist (L' := [(4, .int (0 : Int32)), (0, va_rf x0), (1, .int x1), (2, .int x2), (3, .int x3)]) dX1_drawn_33 (Nat.le_of_ble_eq_true rfl) (xcQ (xcI (xcI (xcI xcN)))) rfl ?_
  refine X.sub [1, 3, 4, 0] (L' := [(0, va_rf x0), (2, .int x2), (3, .int x3), (4, .int (0 : Int32))]) rfl ?_
  exact c_X1_drawn_35_ok FU _ _ _ _ _ _ hf
/-! MouldVotes gives -/
abbrev cX1_gives : ByteArray := prog_1_method_49_code
def yX1_gives : MethodName := ⟨RX1, "gives", "(II)V"⟩
def dkwX1_gives_5 : List UInt8 := [182, 0, 203, 177]
abbrev dktX1_gives_5 : List UInt8 := dkwX1_gives_5 ++ []
def dkwX1_gives_4 : List UInt8 := [132, 4, 1, 167, 255, 162, 28, 4, 160, 0, 18, 29, 2, 159, 0, 13, 42, 180, 0, 35, 29, 16, 10]
abbrev dktX1_gives_4 : List UInt8 := dkwX1_gives_4 ++ dktX1_gives_5
def dkwX1_gives_3 : List UInt8 := [180, 0, 38, 180, 0, 155, 21, 4, 46, 42, 180, 0, 38, 180, 0, 155, 29, 46, 164, 0, 6, 21, 4, 62]
abbrev dktX1_gives_3 : List UInt8 := dkwX1_gives_3 ++ dktX1_gives_4
def dkwX1_gives_2 : List UInt8 := [185, 0, 167, 2, 0, 192, 0, 171, 182, 0, 173, 27, 159, 0, 6, 167, 0, 33, 29, 2, 159, 0, 25, 42]
abbrev dktX1_gives_2 : List UInt8 := dkwX1_gives_2 ++ dktX1_gives_3
def dkwX1_gives_1 : List UInt8 := [21, 4, 46, 2, 159, 0, 68, 42, 180, 0, 22, 180, 0, 101, 42, 180, 0, 38, 180, 0, 96, 21, 4, 46]
abbrev dktX1_gives_1 : List UInt8 := dkwX1_gives_1 ++ dktX1_gives_2
def dkwX1_gives_0 : List UInt8 := [2, 62, 3, 54, 4, 21, 4, 42, 180, 0, 22, 182, 0, 92, 162, 0, 88, 42, 180, 0, 38, 180, 0, 96]
abbrev dktX1_gives_0 : List UInt8 := dkwX1_gives_0 ++ dktX1_gives_1
theorem dksX1_gives_0 : cX1_gives.data.toList.drop 0 = dktX1_gives_0 := by decide +kernel
theorem dksX1_gives_1 : cX1_gives.data.toList.drop 24 = dktX1_gives_1 := dk_seg dksX1_gives_0 24 rfl rfl
theorem dksX1_gives_2 : cX1_gives.data.toList.drop 48 = dktX1_gives_2 := dk_seg dksX1_gives_1 24 rfl rfl
theorem dksX1_gives_3 : cX1_gives.data.toList.drop 72 = dktX1_gives_3 := dk_seg dksX1_gives_2 24 rfl rfl
theorem dksX1_gives_4 : cX1_gives.data.toList.drop 96 = dktX1_gives_4 := dk_seg dksX1_gives_3 24 rfl rfl
theorem dksX1_gives_5 : cX1_gives.data.toList.drop 119 = dktX1_gives_5 := dk_seg dksX1_gives_4 23 rfl rfl
theorem dX1_gives_0 : decode cX1_gives 0 = .ok (.iconst (-1), 1) := dk_2 (dk_at dksX1_gives_0 0 rfl rfl)
theorem dX1_gives_1 : decode cX1_gives 1 = .ok (.istore_n 3, 1) := dk_62 (dk_at dksX1_gives_0 1 rfl rfl)
theorem dX1_gives_2 : decode cX1_gives 2 = .ok (.iconst 0, 1) := dk_3 (dk_at dksX1_gives_0 2 rfl rfl)
theorem dX1_gives_3 : decode cX1_gives 3 = .ok (.istore 4, 2) := dk_54 4 (dk_at dksX1_gives_0 3 rfl rfl)
theorem dX1_gives_5 : decode cX1_gives 5 = .ok (.iload 4, 2) := dk_21 4 (dk_at dksX1_gives_0 5 rfl rfl)
theorem dX1_gives_7 : decode cX1_gives 7 = .ok (.aload_n 0, 1) := dk_42 (dk_at dksX1_gives_0 7 rfl rfl)
theorem dX1_gives_8 : decode cX1_gives 8 = .ok (.getfield 22, 3) := dk_180 0 22 (dk_at dksX1_gives_0 8 rfl rfl)
theorem dX1_gives_11 : decode cX1_gives 11 = .ok (.invokevirtual 92, 3) := dk_182 0 92 (dk_at dksX1_gives_0 11 rfl rfl)
theorem dX1_gives_14 : decode cX1_gives 14 = .ok (.if_icmp .ge 88, 3) := dk_162 0 88 (dk_at dksX1_gives_0 14 rfl rfl)
theorem dX1_gives_17 : decode cX1_gives 17 = .ok (.aload_n 0, 1) := dk_42 (dk_at dksX1_gives_0 17 rfl rfl)
theorem dX1_gives_18 : decode cX1_gives 18 = .ok (.getfield 38, 3) := dk_180 0 38 (dk_at dksX1_gives_0 18 rfl rfl)
theorem dX1_gives_21 : decode cX1_gives 21 = .ok (.getfield 96, 3) := dk_180 0 96 (dk_at dksX1_gives_0 21 rfl rfl)
theorem dX1_gives_24 : decode cX1_gives 24 = .ok (.iload 4, 2) := dk_21 4 (dk_at dksX1_gives_1 0 rfl rfl)
theorem dX1_gives_26 : decode cX1_gives 26 = .ok (.iaload, 1) := dk_46 (dk_at dksX1_gives_1 2 rfl rfl)
theorem dX1_gives_27 : decode cX1_gives 27 = .ok (.iconst (-1), 1) := dk_2 (dk_at dksX1_gives_1 3 rfl rfl)
theorem dX1_gives_28 : decode cX1_gives 28 = .ok (.if_icmp .eq 68, 3) := dk_159 0 68 (dk_at dksX1_gives_1 4 rfl rfl)
theorem dX1_gives_31 : decode cX1_gives 31 = .ok (.aload_n 0, 1) := dk_42 (dk_at dksX1_gives_1 7 rfl rfl)
theorem dX1_gives_32 : decode cX1_gives 32 = .ok (.getfield 22, 3) := dk_180 0 22 (dk_at dksX1_gives_1 8 rfl rfl)
theorem dX1_gives_35 : decode cX1_gives 35 = .ok (.getfield 101, 3) := dk_180 0 101 (dk_at dksX1_gives_1 11 rfl rfl)
theorem dX1_gives_38 : decode cX1_gives 38 = .ok (.aload_n 0, 1) := dk_42 (dk_at dksX1_gives_1 14 rfl rfl)
theorem dX1_gives_39 : decode cX1_gives 39 = .ok (.getfield 38, 3) := dk_180 0 38 (dk_at dksX1_gives_1 15 rfl rfl)
theorem dX1_gives_42 : decode cX1_gives 42 = .ok (.getfield 96, 3) := dk_180 0 96 (dk_at dksX1_gives_1 18 rfl rfl)
theorem dX1_gives_45 : decode cX1_gives 45 = .ok (.iload 4, 2) := dk_21 4 (dk_at dksX1_gives_1 21 rfl rfl)
theorem dX1_gives_47 : decode cX1_gives 47 = .ok (.iaload, 1) := dk_46 (dk_at dksX1_gives_1 23 rfl rfl)
theorem dX1_gives_48 : decode cX1_gives 48 = .ok (.invokeinterface 167 2, 5) := by decide +kernel
theorem dX1_gives_53 : decode cX1_gives 53 = .ok (.checkcast 171, 3) := dk_192 0 171 (dk_at dksX1_gives_2 5 rfl rfl)
theorem dX1_gives_56 : decode cX1_gives 56 = .ok (.invokevirtual 173, 3) := dk_182 0 173 (dk_at dksX1_gives_2 8 rfl rfl)
theorem dX1_gives_59 : decode cX1_gives 59 = .ok (.iload_n 1, 1) := dk_27 (dk_at dksX1_gives_2 11 rfl rfl)
theorem dX1_gives_60 : decode cX1_gives 60 = .ok (.if_icmp .eq 6, 3) := dk_159 0 6 (dk_at dksX1_gives_2 12 rfl rfl)
theorem dX1_gives_63 : decode cX1_gives 63 = .ok (.goto 33, 3) := dk_167 0 33 (dk_at dksX1_gives_2 15 rfl rfl)
theorem dX1_gives_66 : decode cX1_gives 66 = .ok (.iload_n 3, 1) := dk_29 (dk_at dksX1_gives_2 18 rfl rfl)
theorem dX1_gives_67 : decode cX1_gives 67 = .ok (.iconst (-1), 1) := dk_2 (dk_at dksX1_gives_2 19 rfl rfl)
theorem dX1_gives_68 : decode cX1_gives 68 = .ok (.if_icmp .eq 25, 3) := dk_159 0 25 (dk_at dksX1_gives_2 20 rfl rfl)
theorem dX1_gives_71 : decode cX1_gives 71 = .ok (.aload_n 0, 1) := dk_42 (dk_at dksX1_gives_2 23 rfl rfl)
theorem dX1_gives_72 : decode cX1_gives 72 = .ok (.getfield 38, 3) := dk_180 0 38 (dk_at dksX1_gives_3 0 rfl rfl)
theorem dX1_gives_75 : decode cX1_gives 75 = .ok (.getfield 155, 3) := dk_180 0 155 (dk_at dksX1_gives_3 3 rfl rfl)
theorem dX1_gives_78 : decode cX1_gives 78 = .ok (.iload 4, 2) := dk_21 4 (dk_at dksX1_gives_3 6 rfl rfl)
theorem dX1_gives_80 : decode cX1_gives 80 = .ok (.iaload, 1) := dk_46 (dk_at dksX1_gives_3 8 rfl rfl)
theorem dX1_gives_81 : decode cX1_gives 81 = .ok (.aload_n 0, 1) := dk_42 (dk_at dksX1_gives_3 9 rfl rfl)
theorem dX1_gives_82 : decode cX1_gives 82 = .ok (.getfield 38, 3) := dk_180 0 38 (dk_at dksX1_gives_3 10 rfl rfl)
theorem dX1_gives_85 : decode cX1_gives 85 = .ok (.getfield 155, 3) := dk_180 0 155 (dk_at dksX1_gives_3 13 rfl rfl)
theorem dX1_gives_88 : decode cX1_gives 88 = .ok (.iload_n 3, 1) := dk_29 (dk_at dksX1_gives_3 16 rfl rfl)
theorem dX1_gives_89 : decode cX1_gives 89 = .ok (.iaload, 1) := dk_46 (dk_at dksX1_gives_3 17 rfl rfl)
theorem dX1_gives_90 : decode cX1_gives 90 = .ok (.if_icmp .le 6, 3) := dk_164 0 6 (dk_at dksX1_gives_3 18 rfl rfl)
theorem dX1_gives_93 : decode cX1_gives 93 = .ok (.iload 4, 2) := dk_21 4 (dk_at dksX1_gives_3 21 rfl rfl)
theorem dX1_gives_95 : decode cX1_gives 95 = .ok (.istore_n 3, 1) := dk_62 (dk_at dksX1_gives_3 23 rfl rfl)
theorem dX1_gives_96 : decode cX1_gives 96 = .ok (.iinc 4 1, 3) := dk_132 4 1 (dk_at dksX1_gives_4 0 rfl rfl)
theorem dX1_gives_99 : decode cX1_gives 99 = .ok (.goto (-94), 3) := dk_167 255 162 (dk_at dksX1_gives_4 3 rfl rfl)
theorem dX1_gives_102 : decode cX1_gives 102 = .ok (.iload_n 2, 1) := dk_28 (dk_at dksX1_gives_4 6 rfl rfl)
theorem dX1_gives_103 : decode cX1_gives 103 = .ok (.iconst 1, 1) := dk_4 (dk_at dksX1_gives_4 7 rfl rfl)
theorem dX1_gives_104 : decode cX1_gives 104 = .ok (.if_icmp .ne 18, 3) := dk_160 0 18 (dk_at dksX1_gives_4 8 rfl rfl)
theorem dX1_gives_107 : decode cX1_gives 107 = .ok (.iload_n 3, 1) := dk_29 (dk_at dksX1_gives_4 11 rfl rfl)
theorem dX1_gives_108 : decode cX1_gives 108 = .ok (.iconst (-1), 1) := dk_2 (dk_at dksX1_gives_4 12 rfl rfl)
theorem dX1_gives_109 : decode cX1_gives 109 = .ok (.if_icmp .eq 13, 3) := dk_159 0 13 (dk_at dksX1_gives_4 13 rfl rfl)
theorem dX1_gives_112 : decode cX1_gives 112 = .ok (.aload_n 0, 1) := dk_42 (dk_at dksX1_gives_4 16 rfl rfl)
theorem dX1_gives_113 : decode cX1_gives 113 = .ok (.getfield 35, 3) := dk_180 0 35 (dk_at dksX1_gives_4 17 rfl rfl)
theorem dX1_gives_116 : decode cX1_gives 116 = .ok (.iload_n 3, 1) := dk_29 (dk_at dksX1_gives_4 20 rfl rfl)
theorem dX1_gives_117 : decode cX1_gives 117 = .ok (.bipush 10, 2) := dk_16 10 (dk_at dksX1_gives_4 21 rfl rfl)
theorem dX1_gives_119 : decode cX1_gives 119 = .ok (.invokevirtual 203, 3) := dk_182 0 203 (dk_at dksX1_gives_5 0 rfl rfl)
theorem dX1_gives_122 : decode cX1_gives 122 = .ok (.return_, 1) := dk_177 (dk_at dksX1_gives_5 3 rfl rfl)
abbrev mX1_gives : xM := (yX1_gives, cX1_gives, 5, none, [])
def c_X1_gives_96 (k5 : Option Nat → Int32 → Int32 → Int32 → Int32 → xF → Option (Unit × xF)) (x0 : Option Nat) (x1 : Int32) (x2 : Int32) (x3 : Int32) (x4 : Int32) (T : xF) : Option (Unit × xF) :=
  k5 x0 x1 x2 x3 (x4 + 1) T
theorem c_X1_gives_96_ok {G : xG}  {T0 : xF} {k5 : Option Nat → Int32 → Int32 → Int32 → Int32 → xF → Option (Unit × xF)} (hk5 : ∀ (x0 : Option Nat) (x1 : Int32) (x2 : Int32) (x3 : Int32) (x4 : Int32) (T : xF) (q : (Unit × xF)), k5 x0 x1 x2 x3 x4 T = some q → Xr G (mX1_gives, xrm (4) T0 q.2, T0, .inl none, q.2) 5 [(0, va_rf x0), (1, .int x1), (2, .int x2), (3, .int x3), (4, .int x4)] [] T) (x0 : Option Nat) (x1 : Int32) (x2 : Int32) (x3 : Int32) (x4 : Int32) (T : xF) (q : (Unit × xF)) (hf : c_X1_gives_96 k5 x0 x1 x2 x3 x4 T = some q) : Xr G (mX1_gives, xrm (4) T0 q.2, T0, .inl none, q.2) 96 [(0, va_rf x0), (1, .int x1), (2, .int x2), (3, .int x3), (4, .int x4)] [] T := by
  unfold c_X1_gives_96 at hf
  refine C.iinc (v := (x4 + 1)) (L' := [(4, .int (x4 + 1)), (0, va_rf x0), (1, .int x1), (2, .int x2), (3, .int x3)]) dX1_gives_96 4 rfl rfl (Nat.le_of_ble_eq_true rfl) (xcQ (xcI (xcI (xcI (xcI xcN))))) rfl ?_
  refine X.goto (tgt := 5) dX1_gives_99 (by decide) ?_
  refine X.sub [1, 2, 3, 4, 0] (L' := [(0, va_rf x0), (1, .int x1), (2, .int x2), (3, .int x3), (4, .int (x4 + 1))]) rfl ?_
  exact hk5 _ _ _ _ _ _ _ hf
def c_X1_gives_93 (k5 : Option Nat → Int32 → Int32 → Int32 → Int32 → xF → Option (Unit × xF)) (x0 : Option Nat) (x1 : Int32) (x2 : Int32) (x4 : Int32) (T : xF) : Option (Unit × xF) :=
  c_X1_gives_96 k5 x0 x1 x2 x4 x4 T
theorem c_X1_gives_93_ok {G : xG}  {T0 : xF} {k5 : Option Nat → Int32 → Int32 → Int32 → Int32 → xF → Option (Unit × xF)} (hk5 : ∀ (x0 : Option Nat) (x1 : Int32) (x2 : Int32) (x3 : Int32) (x4 : Int32) (T : xF) (q : (Unit × xF)), k5 x0 x1 x2 x3 x4 T = some q → Xr G (mX1_gives, xrm (4) T0 q.2, T0, .inl none, q.2) 5 [(0, va_rf x0), (1, .int x1), (2, .int x2), (3, .int x3), (4, .int x4)] [] T) (x0 : Option Nat) (x1 : Int32) (x2 : Int32) (x4 : Int32) (T : xF) (q : (Unit × xF)) (hf : c_X1_gives_93 k5 x0 x1 x2 x4 T = some q) : Xr G (mX1_gives, xrm (4) T0 q.2, T0, .inl none, q.2) 93 [(0, va_rf x0), (1, .int x1), (2, .int x2), (4, .int x4)] [] T := by
  unfold c_X1_gives_93 at hf
  refine X.iload dX1_gives_93 3 rfl ?_
  refine C.ist_n (L' := [(3, .int x4), (0, va_rf x0), (1, .int x1), (2, .int x2), (4, .int x4)]) dX1_gives_95 rfl (Nat.le_of_ble_eq_true rfl) (xcQ (xcI (xcI (xcI xcN)))) rfl ?_
  refine X.sub [1, 2, 3, 0, 4] (L' := [(0, va_rf x0), (1, .int x1), (2, .int x2), (3, .int x4), (4, .int x4)]) rfl ?_
  exact c_X1_gives_96_ok hk5 _ _ _ _ _ _ _ hf
def c_X1_gives_5_b (k5 : Option Nat → Int32 → Int32 → Int32 → Int32 → xF → Option (Unit × xF)) (x0 : Option Nat) (x1 : Int32) (x2 : Int32) (x3 : Int32) (x4 : Int32) (T : xF) : Option (Unit × xF) :=
  (oQ T x0 0 1).bind fun v8 =>
  if ¬ isO T v8 1 = true then none else
  (c_X2_cells T v8).bind fun v11 =>
  if v11 ≤ x4 then
    if x2 = (1 : Int32) then
      if x3 = (-1 : Int32) then
        some ((), T)
      else
        (oQ T x0 0 3).bind fun v113 =>
        if ¬ isO T v113 2 = true then none else
        cl (c_X3_feed v113 x3 (10 : Int32) T) T fun v119 T119 =>
        some ((), T119)
    else
      some ((), T)
  else
    (oQ T x0 0 4).bind fun v18 =>
    (oQ T v18 2 2).bind fun v21 =>
    (ldA T v21 .int x4).bind fun v26 =>
    if v26 = (-1 : Int32) then
      c_X1_gives_96 k5 x0 x1 x2 x3 x4 T
    else
      (oQ T x0 0 1).bind fun v32 =>
      (oQ T v32 1 0).bind fun v35 =>
      (oQ T x0 0 4).bind fun v39 =>
      (oQ T v39 2 2).bind fun v42 =>
      (ldA T v42 .int x4).bind fun v47 =>
      if ¬ isO T v35 10 = true then none else
      (c_J2_get T v35 v47).bind fun v48 =>
      if ¬ cst T v48 [11] = true then none else
      if ¬ isO T v48 11 = true then none else
      (c_J14_intValue T v48).bind fun v56 =>
      if v56 = x1 then
        if x3 = (-1 : Int32) then
          c_X1_gives_93 k5 x0 x1 x2 x4 T
        else
          (oQ T x0 0 4).bind fun v72 =>
          (oQ T v72 2 3).bind fun v75 =>
          (ldA T v75 .int x4).bind fun v80 =>
          (oQ T x0 0 4).bind fun v82 =>
          (oQ T v82 2 3).bind fun v85 =>
          (ldA T v85 .int x3).bind fun v89 =>
          if v80 ≤ v89 then
            c_X1_gives_96 k5 x0 x1 x2 x3 x4 T
          else
            c_X1_gives_93 k5 x0 x1 x2 x4 T
      else
        c_X1_gives_96 k5 x0 x1 x2 x3 x4 T
def c_X1_gives_5 : Nat → Option Nat → Int32 → Int32 → Int32 → Int32 → xF → Option (Unit × xF)
  | 0 => fun _ _ _ _ _ _ => none
  | n + 1 => fun x0 x1 x2 x3 x4 T => c_X1_gives_5_b (c_X1_gives_5 n) x0 x1 x2 x3 x4 T
theorem c_X1_gives_5_bok {G : xG}  {T0 : xF}  {k5 : Option Nat → Int32 → Int32 → Int32 → Int32 → xF → Option (Unit × xF)}  (hk5 : ∀ (x0 : Option Nat) (x1 : Int32) (x2 : Int32) (x3 : Int32) (x4 : Int32) (T : xF) (q : (Unit × xF)), k5 x0 x1 x2 x3 x4 T = some q → Xr G (mX1_gives, xrm (4) T0 q.2, T0, .inl none, q.2) 5 [(0, va_rf x0), (1, .int x1), (2, .int x2), (3, .int x3), (4, .int x4)] [] T) (x0 : Option Nat) (x1 : Int32) (x2 : Int32) (x3 : Int32) (x4 : Int32) (T : xF) (q : (Unit × xF)) (hf : c_X1_gives_5_b k5 x0 x1 x2 x3 x4 T = some q) : Xr G (mX1_gives, xrm (4) T0 q.2, T0, .inl none, q.2) 5 [(0, va_rf x0), (1, .int x1), (2, .int x2), (3, .int x3), (4, .int x4)] [] T := by
  unfold c_X1_gives_5_b at hf
  refine X.iload dX1_gives_5 4 rfl ?_
  refine C.aload_n dX1_gives_7 rfl 0 rfl ?_
  obtain ⟨v8, h8, hf⟩ := ob hf
  refine C.getQ dX1_gives_8 rX1_22 h8 ?_
  obtain ⟨c11, hf⟩ := if_n hf
  obtain ⟨v11, h11, hf⟩ := ob hf
  refine X.keep fun l11 => C.Vi (As := []) (rest := [.int x4]) dX1_gives_11 (w_X2_cells h11) cX1_92 (Classical.not_not.mp c11) rfl rfl (xcs (xvI xvN) (Nat.le_of_ble_eq_true rfl)) rfl rfl (xD (Nat.le_of_ble_eq_true rfl)) xle.rf l11 ?_
  refine X.icmp_ge (tgt := 102) dX1_gives_14 (by decide) (fun c14 => ?_) (fun c14 => ?_)
  · have hf := if_t c14 hf
    refine X.iload_n dX1_gives_102 rfl 2 rfl ?_
    refine X.iconst (v := 1) dX1_gives_103 (by decide) ?_
    refine X.icmp_ne (tgt := 122) dX1_gives_104 (by decide) (fun c104 => ?_) (fun c104 => ?_)
    · have hf := if_f c104 hf
      obtain rfl := Option.some.inj hf
      exact X.vret dX1_gives_122 rfl rfl
    · have hf := if_t c104 hf
      refine X.iload_n dX1_gives_107 rfl 3 rfl ?_
      refine X.iconst (v := -1) dX1_gives_108 (by decide) ?_
      refine X.icmp_eq (tgt := 122) dX1_gives_109 (by decide) (fun c109 => ?_) (fun c109 => ?_)
      · have hf := if_t c109 hf
        obtain rfl := Option.some.inj hf
        exact X.vret dX1_gives_122 rfl rfl
      · have hf := if_f c109 hf
        refine C.aload_n dX1_gives_112 rfl 0 rfl ?_
        obtain ⟨v113, h113, hf⟩ := ob hf
        refine C.getQ dX1_gives_113 rX1_35 h113 ?_
        refine X.iload_n dX1_gives_116 rfl 3 rfl ?_
        refine X.bipush (v := 10) dX1_gives_117 (by decide) ?_
        obtain ⟨c119, hf⟩ := if_n hf
        obtain ⟨v119, T119, h119, hf, l119, r119⟩ := cl_ok hf
        refine C.Vv (As := [.int x3, .int (10 : Int32)]) (rest := []) dX1_gives_119 (w_X3_feed h119) cX1_203 (Classical.not_not.mp c119) rfl rfl (xcs xvN (Nat.le_of_ble_eq_true rfl)) rfl rfl (xD (Nat.le_of_ble_eq_true rfl)) l119 r119 ?_
        obtain rfl := Option.some.inj hf
        exact X.vret dX1_gives_122 rfl rfl
  · have hf := if_f c14 hf
    refine C.aload_n dX1_gives_17 rfl 0 rfl ?_
    obtain ⟨v18, h18, hf⟩ := ob hf
    refine C.getQ dX1_gives_18 rX1_38 h18 ?_
    obtain ⟨v21, h21, hf⟩ := ob hf
    refine C.getQ dX1_gives_21 rX1_96 h21 ?_
    refine X.iload dX1_gives_24 4 rfl ?_
    obtain ⟨v26, h26, hf⟩ := ob hf
    refine C.iald dX1_gives_26 h26 ?_
    refine X.iconst (v := -1) dX1_gives_27 (by decide) ?_
    refine X.icmp_eq (tgt := 96) dX1_gives_28 (by decide) (fun c28 => ?_) (fun c28 => ?_)
    · have hf := if_t c28 hf
      refine X.sub [0, 1, 2, 3, 4] (L' := [(0, va_rf x0), (1, .int x1), (2, .int x2), (3, .int x3), (4, .int x4)]) rfl ?_
      exact c_X1_gives_96_ok hk5 _ _ _ _ _ _ _ hf
    · have hf := if_f c28 hf
      refine C.aload_n dX1_gives_31 rfl 0 rfl ?_
      obtain ⟨v32, h32, hf⟩ := ob hf
      refine C.getQ dX1_gives_32 rX1_22 h32 ?_
      obtain ⟨v35, h35, hf⟩ := ob hf
      refine C.getQ dX1_gives_35 rX1_101 h35 ?_
      refine C.aload_n dX1_gives_38 rfl 0 rfl ?_
      obtain ⟨v39, h39, hf⟩ := ob hf
      refine C.getQ dX1_gives_39 rX1_38 h39 ?_
      obtain ⟨v42, h42, hf⟩ := ob hf
      refine C.getQ dX1_gives_42 rX1_96 h42 ?_
      refine X.iload dX1_gives_45 4 rfl ?_
      obtain ⟨v47, h47, hf⟩ := ob hf
      refine C.iald dX1_gives_47 h47 ?_
      obtain ⟨c48, hf⟩ := if_n hf
      obtain ⟨v48, h48, hf⟩ := ob hf
      refine X.keep fun l48 => C.Fq (As := [.int v47]) (rest := []) dX1_gives_48 (w_J2_get h48) cX1_167 (Classical.not_not.mp c48) rfl rfl (xcs xvN (Nat.le_of_ble_eq_true rfl)) rfl rfl (xD (Nat.le_of_ble_eq_true rfl)) xle.rf l48 ?_
      obtain ⟨c53, hf⟩ := if_n hf
      refine C.cast dX1_gives_53 q659 ca_Integer (Classical.not_not.mp c53) ?_
      obtain ⟨c56, hf⟩ := if_n hf
      obtain ⟨v56, h56, hf⟩ := ob hf
      refine X.keep fun l56 => C.Vi (As := []) (rest := []) dX1_gives_56 (w_J14_intValue h56) cX1_173 (Classical.not_not.mp c56) rfl rfl (xcs xvN (Nat.le_of_ble_eq_true rfl)) rfl rfl (xD (Nat.le_of_ble_eq_true rfl)) xle.rf l56 ?_
      refine X.iload_n dX1_gives_59 rfl 1 rfl ?_
      refine X.icmp_eq (tgt := 66) dX1_gives_60 (by decide) (fun c60 => ?_) (fun c60 => ?_)
      · have hf := if_t c60 hf
        refine X.iload_n dX1_gives_66 rfl 3 rfl ?_
        refine X.iconst (v := -1) dX1_gives_67 (by decide) ?_
        refine X.icmp_eq (tgt := 93) dX1_gives_68 (by decide) (fun c68 => ?_) (fun c68 => ?_)
        · have hf := if_t c68 hf
          refine X.sub [0, 1, 2, 4] (L' := [(0, va_rf x0), (1, .int x1), (2, .int x2), (4, .int x4)]) rfl ?_
          exact c_X1_gives_93_ok hk5 _ _ _ _ _ _ hf
        · have hf := if_f c68 hf
          refine C.aload_n dX1_gives_71 rfl 0 rfl ?_
          obtain ⟨v72, h72, hf⟩ := ob hf
          refine C.getQ dX1_gives_72 rX1_38 h72 ?_
          obtain ⟨v75, h75, hf⟩ := ob hf
          refine C.getQ dX1_gives_75 rX1_155 h75 ?_
          refine X.iload dX1_gives_78 4 rfl ?_
          obtain ⟨v80, h80, hf⟩ := ob hf
          refine C.iald dX1_gives_80 h80 ?_
          refine C.aload_n dX1_gives_81 rfl 0 rfl ?_
          obtain ⟨v82, h82, hf⟩ := ob hf
          refine C.getQ dX1_gives_82 rX1_38 h82 ?_
          obtain ⟨v85, h85, hf⟩ := ob hf
          refine C.getQ dX1_gives_85 rX1_155 h85 ?_
          refine X.iload_n dX1_gives_88 rfl 3 rfl ?_
          obtain ⟨v89, h89, hf⟩ := ob hf
          refine C.iald dX1_gives_89 h89 ?_
          refine X.icmp_le (tgt := 96) dX1_gives_90 (by decide) (fun c90 => ?_) (fun c90 => ?_)
          · have hf := if_t c90 hf
            refine X.sub [0, 1, 2, 3, 4] (L' := [(0, va_rf x0), (1, .int x1), (2, .int x2), (3, .int x3), (4, .int x4)]) rfl ?_
            exact c_X1_gives_96_ok hk5 _ _ _ _ _ _ _ hf
          · have hf := if_f c90 hf
            refine X.sub [0, 1, 2, 4] (L' := [(0, va_rf x0), (1, .int x1), (2, .int x2), (4, .int x4)]) rfl ?_
            exact c_X1_gives_93_ok hk5 _ _ _ _ _ _ hf
      · have hf := if_f c60 hf
        refine X.goto (tgt := 96) dX1_gives_63 (by decide) ?_
        refine X.sub [0, 1, 2, 3, 4] (L' := [(0, va_rf x0), (1, .int x1), (2, .int x2), (3, .int x3), (4, .int x4)]) rfl ?_
        exact c_X1_gives_96_ok hk5 _ _ _ _ _ _ _ hf
theorem c_X1_gives_5_ok {G : xG}  {T0 : xF}   : ∀ (n : Nat) (x0 : Option Nat) (x1 : Int32) (x2 : Int32) (x3 : Int32) (x4 : Int32) (T : xF) (q : (Unit × xF)), c_X1_gives_5 n x0 x1 x2 x3 x4 T = some q → Xr G (mX1_gives, xrm (4) T0 q.2, T0, .inl none, q.2) 5 [(0, va_rf x0), (1, .int x1), (2, .int x2), (3, .int x3), (4, .int x4)] [] T
  | 0, _, _, _, _, _, _, _, hf => by cases hf
  | n + 1, x0, x1, x2, x3, x4, T, q, hf => c_X1_gives_5_bok (c_X1_gives_5_ok n) x0 x1 x2 x3 x4 T q hf
def c_X1_gives (x0 : Option Nat) (x1 : Int32) (x2 : Int32) (T : xF) : Option (Unit × xF) :=
  c_X1_gives_5 FU x0 x1 x2 (-1 : Int32) (0 : Int32) T
theorem w_X1_gives {G : xG}  {T : xF} {x0 : Option Nat} {x1 : Int32} {x2 : Int32} {q : (Unit × xF)} (hf : c_X1_gives x0 x1 x2 T = some q) : Ct G mX1_gives (4) T [va_rf x0, .int x1, .int x2] (.inl none) q.2 := by
  refine Ct.ofc (plainFor_of_name (by decide +kernel)) rfl (xvQ (xvI (xvI xvN))) (Nat.le_of_ble_eq_true rfl) (show Xr G _ 0 [(0, va_rf x0), (1, .int x1), (2, .int x2)] [] _ from ?_)
  unfold c_X1_gives at hf
  refine X.iconst (v := -1) dX1_gives_0 (by decide) ?_
  refine C.ist_n (L' := [(3, .int (-1 : Int32)), (0, va_rf x0), (1, .int x1), (2, .int x2)]) dX1_gives_1 rfl (Nat.le_of_ble_eq_true rfl) (xcQ (xcI (xcI xcN))) rfl ?_
  refine X.iconst (v := 0) dX1_gives_2 (by decide) ?_
  refine C.ist (L' := [(4, .int (0 : Int32)), (3, .int (-1 : Int32)), (0, va_rf x0), (1, .int x1), (2, .int x2)]) dX1_gives_3 (Nat.le_of_ble_eq_true rfl) (xcI (xcQ (xcI (xcI xcN)))) rfl ?_
  refine X.sub [2, 3, 4, 1, 0] (L' := [(0, va_rf x0), (1, .int x1), (2, .int x2), (3, .int (-1 : Int32)), (4, .int (0 : Int32))]) rfl ?_
  exact c_X1_gives_5_ok FU _ _ _ _ _ _ _ hf
theorem cX1_269 : xCV RX1 269 mX1_gives 2 := ⟨lw_V q1473 q1475 qs48 q121 q1476, rfl, ⟨by decide +kernel, by decide +kernel, by decide +kernel⟩, Nat.le_of_ble_eq_true rfl⟩
/-! MouldVotes gains -/
abbrev cX1_gains : ByteArray := prog_1_method_50_code
def yX1_gains : MethodName := ⟨RX1, "gains", "(IIII)[I"⟩
def dkwX1_gains_2 : List UInt8 := [182, 0, 179, 29, 100, 79, 89, 4, 42, 180, 0, 35, 28, 182, 0, 179, 21, 4, 100, 79, 176]
abbrev dktX1_gains_2 : List UInt8 := dkwX1_gains_2 ++ []
def dkwX1_gains_1 : List UInt8 := [182, 1, 13, 42, 180, 0, 35, 16, 10, 182, 0, 199, 87, 5, 188, 10, 89, 3, 42, 180, 0, 35, 27]
abbrev dktX1_gains_1 : List UInt8 := dkwX1_gains_1 ++ dktX1_gains_2
def dkwX1_gains_0 : List UInt8 := [42, 180, 0, 35, 42, 180, 0, 38, 182, 0, 213, 87, 42, 27, 29, 182, 1, 13, 42, 28, 21, 4]
abbrev dktX1_gains_0 : List UInt8 := dkwX1_gains_0 ++ dktX1_gains_1
theorem dksX1_gains_0 : cX1_gains.data.toList.drop 0 = dktX1_gains_0 := by decide +kernel
theorem dksX1_gains_1 : cX1_gains.data.toList.drop 22 = dktX1_gains_1 := dk_seg dksX1_gains_0 22 rfl rfl
theorem dksX1_gains_2 : cX1_gains.data.toList.drop 45 = dktX1_gains_2 := dk_seg dksX1_gains_1 23 rfl rfl
theorem dX1_gains_0 : decode cX1_gains 0 = .ok (.aload_n 0, 1) := dk_42 (dk_at dksX1_gains_0 0 rfl rfl)
theorem dX1_gains_1 : decode cX1_gains 1 = .ok (.getfield 35, 3) := dk_180 0 35 (dk_at dksX1_gains_0 1 rfl rfl)
theorem dX1_gains_4 : decode cX1_gains 4 = .ok (.aload_n 0, 1) := dk_42 (dk_at dksX1_gains_0 4 rfl rfl)
theorem dX1_gains_5 : decode cX1_gains 5 = .ok (.getfield 38, 3) := dk_180 0 38 (dk_at dksX1_gains_0 5 rfl rfl)
theorem dX1_gains_8 : decode cX1_gains 8 = .ok (.invokevirtual 213, 3) := dk_182 0 213 (dk_at dksX1_gains_0 8 rfl rfl)
theorem dX1_gains_11 : decode cX1_gains 11 = .ok (.pop, 1) := dk_87 (dk_at dksX1_gains_0 11 rfl rfl)
theorem dX1_gains_12 : decode cX1_gains 12 = .ok (.aload_n 0, 1) := dk_42 (dk_at dksX1_gains_0 12 rfl rfl)
theorem dX1_gains_13 : decode cX1_gains 13 = .ok (.iload_n 1, 1) := dk_27 (dk_at dksX1_gains_0 13 rfl rfl)
theorem dX1_gains_14 : decode cX1_gains 14 = .ok (.iload_n 3, 1) := dk_29 (dk_at dksX1_gains_0 14 rfl rfl)
theorem dX1_gains_15 : decode cX1_gains 15 = .ok (.invokevirtual 269, 3) := dk_182 1 13 (dk_at dksX1_gains_0 15 rfl rfl)
theorem dX1_gains_18 : decode cX1_gains 18 = .ok (.aload_n 0, 1) := dk_42 (dk_at dksX1_gains_0 18 rfl rfl)
theorem dX1_gains_19 : decode cX1_gains 19 = .ok (.iload_n 2, 1) := dk_28 (dk_at dksX1_gains_0 19 rfl rfl)
theorem dX1_gains_20 : decode cX1_gains 20 = .ok (.iload 4, 2) := dk_21 4 (dk_at dksX1_gains_0 20 rfl rfl)
theorem dX1_gains_22 : decode cX1_gains 22 = .ok (.invokevirtual 269, 3) := dk_182 1 13 (dk_at dksX1_gains_1 0 rfl rfl)
theorem dX1_gains_25 : decode cX1_gains 25 = .ok (.aload_n 0, 1) := dk_42 (dk_at dksX1_gains_1 3 rfl rfl)
theorem dX1_gains_26 : decode cX1_gains 26 = .ok (.getfield 35, 3) := dk_180 0 35 (dk_at dksX1_gains_1 4 rfl rfl)
theorem dX1_gains_29 : decode cX1_gains 29 = .ok (.bipush 10, 2) := dk_16 10 (dk_at dksX1_gains_1 7 rfl rfl)
theorem dX1_gains_31 : decode cX1_gains 31 = .ok (.invokevirtual 199, 3) := dk_182 0 199 (dk_at dksX1_gains_1 9 rfl rfl)
theorem dX1_gains_34 : decode cX1_gains 34 = .ok (.pop, 1) := dk_87 (dk_at dksX1_gains_1 12 rfl rfl)
theorem dX1_gains_35 : decode cX1_gains 35 = .ok (.iconst 2, 1) := dk_5 (dk_at dksX1_gains_1 13 rfl rfl)
theorem dX1_gains_36 : decode cX1_gains 36 = .ok (.newarray .int, 2) := dk_188_10 (dk_at dksX1_gains_1 14 rfl rfl)
theorem dX1_gains_38 : decode cX1_gains 38 = .ok (.dup, 1) := dk_89 (dk_at dksX1_gains_1 16 rfl rfl)
theorem dX1_gains_39 : decode cX1_gains 39 = .ok (.iconst 0, 1) := dk_3 (dk_at dksX1_gains_1 17 rfl rfl)
theorem dX1_gains_40 : decode cX1_gains 40 = .ok (.aload_n 0, 1) := dk_42 (dk_at dksX1_gains_1 18 rfl rfl)
theorem dX1_gains_41 : decode cX1_gains 41 = .ok (.getfield 35, 3) := dk_180 0 35 (dk_at dksX1_gains_1 19 rfl rfl)
theorem dX1_gains_44 : decode cX1_gains 44 = .ok (.iload_n 1, 1) := dk_27 (dk_at dksX1_gains_1 22 rfl rfl)
theorem dX1_gains_45 : decode cX1_gains 45 = .ok (.invokevirtual 179, 3) := dk_182 0 179 (dk_at dksX1_gains_2 0 rfl rfl)
theorem dX1_gains_48 : decode cX1_gains 48 = .ok (.iload_n 3, 1) := dk_29 (dk_at dksX1_gains_2 3 rfl rfl)
theorem dX1_gains_49 : decode cX1_gains 49 = .ok (.isub, 1) := dk_100 (dk_at dksX1_gains_2 4 rfl rfl)
theorem dX1_gains_50 : decode cX1_gains 50 = .ok (.iastore, 1) := dk_79 (dk_at dksX1_gains_2 5 rfl rfl)
theorem dX1_gains_51 : decode cX1_gains 51 = .ok (.dup, 1) := dk_89 (dk_at dksX1_gains_2 6 rfl rfl)
theorem dX1_gains_52 : decode cX1_gains 52 = .ok (.iconst 1, 1) := dk_4 (dk_at dksX1_gains_2 7 rfl rfl)
theorem dX1_gains_53 : decode cX1_gains 53 = .ok (.aload_n 0, 1) := dk_42 (dk_at dksX1_gains_2 8 rfl rfl)
theorem dX1_gains_54 : decode cX1_gains 54 = .ok (.getfield 35, 3) := dk_180 0 35 (dk_at dksX1_gains_2 9 rfl rfl)
theorem dX1_gains_57 : decode cX1_gains 57 = .ok (.iload_n 2, 1) := dk_28 (dk_at dksX1_gains_2 12 rfl rfl)
theorem dX1_gains_58 : decode cX1_gains 58 = .ok (.invokevirtual 179, 3) := dk_182 0 179 (dk_at dksX1_gains_2 13 rfl rfl)
theorem dX1_gains_61 : decode cX1_gains 61 = .ok (.iload 4, 2) := dk_21 4 (dk_at dksX1_gains_2 16 rfl rfl)
theorem dX1_gains_63 : decode cX1_gains 63 = .ok (.isub, 1) := dk_100 (dk_at dksX1_gains_2 18 rfl rfl)
theorem dX1_gains_64 : decode cX1_gains 64 = .ok (.iastore, 1) := dk_79 (dk_at dksX1_gains_2 19 rfl rfl)
theorem dX1_gains_65 : decode cX1_gains 65 = .ok (.areturn, 1) := dk_176 (dk_at dksX1_gains_2 20 rfl rfl)
abbrev mX1_gains : xM := (yX1_gains, cX1_gains, 5, (some (.array .int)), [])
def c_X1_gains (G : xG) (x0 : Option Nat) (x1 : Int32) (x2 : Int32) (x3 : Int32) (x4 : Int32) (T : xF) : Option (Option Nat × xF) :=
  (oQ T x0 0 3).bind fun v1 =>
  (oQ T x0 0 4).bind fun v5 =>
  if ¬ isO T v1 2 = true then none else
  cl (c_X3_be v1 v5 T) T fun v8 T8 =>
  if ¬ isO T8 x0 0 = true then none else
  cl (c_X1_gives x0 x1 x3 T8) T8 fun v15 T15 =>
  if ¬ isO T15 x0 0 = true then none else
  cl (c_X1_gives x0 x2 x4 T15) T15 fun v22 T22 =>
  (oQ T22 x0 0 3).bind fun v26 =>
  if ¬ isO T22 v26 2 = true then none else
  cl (c_X3_after G v26 (10 : Int32) T22) T22 fun v31 T31 =>
  if (2 : Int32) < 0 ∨ 100000000 ≤ (2 : Int32).toNatClampNeg then none else
  al (nA T31 .int (2 : Int32).toNatClampNeg) fun T36 =>
  (oQ T36 x0 0 3).bind fun v41 =>
  if ¬ isO T36 v41 2 = true then none else
  (c_X3_votes T36 v41 x1).bind fun v45 =>
  (stA T36 (some T31.2.1) .int (0 : Int32) (v45 - x3)).bind fun T50 =>
  (oQ T50 x0 0 3).bind fun v54 =>
  if ¬ isO T50 v54 2 = true then none else
  (c_X3_votes T50 v54 x2).bind fun v58 =>
  (stA T50 (some T31.2.1) .int (1 : Int32) (v58 - x4)).bind fun T64 =>
  some ((some T31.2.1), T64)
theorem w_X1_gains {G : xG}  {T : xF} {x0 : Option Nat} {x1 : Int32} {x2 : Int32} {x3 : Int32} {x4 : Int32} {q : (Option Nat × xF)} (hf : c_X1_gains G x0 x1 x2 x3 x4 T = some q) : Ct G mX1_gains (126) T [va_rf x0, .int x1, .int x2, .int x3, .int x4] (.inl (some (va_rf q.1))) q.2 := by
  refine Ct.ofc (plainFor_of_name (by decide +kernel)) rfl (xvQ (xvI (xvI (xvI (xvI xvN))))) (Nat.le_of_ble_eq_true rfl) (show Xr G _ 0 [(0, va_rf x0), (1, .int x1), (2, .int x2), (3, .int x3), (4, .int x4)] [] _ from ?_)
  unfold c_X1_gains at hf
  refine C.aload_n dX1_gains_0 rfl 0 rfl ?_
  obtain ⟨v1, h1, hf⟩ := ob hf
  refine C.getQ dX1_gains_1 rX1_35 h1 ?_
  refine C.aload_n dX1_gains_4 rfl 0 rfl ?_
  obtain ⟨v5, h5, hf⟩ := ob hf
  refine C.getQ dX1_gains_5 rX1_38 h5 ?_
  obtain ⟨c8, hf⟩ := if_n hf
  obtain ⟨v8, T8, h8, hf, l8, r8⟩ := cl_ok hf
  refine C.Vq (As := [va_rf v5]) (rest := []) dX1_gains_8 (w_X3_be h8) cX1_213 (Classical.not_not.mp c8) rfl rfl (xcs xvN (Nat.le_of_ble_eq_true rfl)) rfl rfl (xD (Nat.le_of_ble_eq_true rfl)) l8 r8 ?_
  refine X.pop dX1_gains_11 (cat1 _) ?_
  refine C.aload_n dX1_gains_12 rfl 0 rfl ?_
  refine X.iload_n dX1_gains_13 rfl 1 rfl ?_
  refine X.iload_n dX1_gains_14 rfl 3 rfl ?_
  obtain ⟨c15, hf⟩ := if_n hf
  obtain ⟨v15, T15, h15, hf, l15, r15⟩ := cl_ok hf
  refine C.Vv (As := [.int x1, .int x3]) (rest := []) dX1_gains_15 (w_X1_gives h15) cX1_269 (Classical.not_not.mp c15) rfl rfl (xcs xvN (Nat.le_of_ble_eq_true rfl)) rfl rfl (xD (Nat.le_of_ble_eq_true rfl)) l15 r15 ?_
  refine C.aload_n dX1_gains_18 rfl 0 rfl ?_
  refine X.iload_n dX1_gains_19 rfl 2 rfl ?_
  refine X.iload dX1_gains_20 4 rfl ?_
  obtain ⟨c22, hf⟩ := if_n hf
  obtain ⟨v22, T22, h22, hf, l22, r22⟩ := cl_ok hf
  refine C.Vv (As := [.int x2, .int x4]) (rest := []) dX1_gains_22 (w_X1_gives h22) cX1_269 (Classical.not_not.mp c22) rfl rfl (xcs xvN (Nat.le_of_ble_eq_true rfl)) rfl rfl (xD (Nat.le_of_ble_eq_true rfl)) l22 r22 ?_
  refine C.aload_n dX1_gains_25 rfl 0 rfl ?_
  obtain ⟨v26, h26, hf⟩ := ob hf
  refine C.getQ dX1_gains_26 rX1_35 h26 ?_
  refine X.bipush (v := 10) dX1_gains_29 (by decide) ?_
  obtain ⟨c31, hf⟩ := if_n hf
  obtain ⟨v31, T31, h31, hf, l31, r31⟩ := cl_ok hf
  refine C.Vq (As := [.int (10 : Int32)]) (rest := []) dX1_gains_31 (w_X3_after h31) cX1_199 (Classical.not_not.mp c31) rfl rfl (xcs xvN (Nat.le_of_ble_eq_true rfl)) rfl rfl (xD (Nat.le_of_ble_eq_true rfl)) l31 r31 ?_
  refine X.pop dX1_gains_34 (cat1 _) ?_
  refine X.iconst (v := 2) dX1_gains_35 (by decide) ?_
  obtain ⟨c36, hf⟩ := if_n hf
  obtain ⟨T36, e36, hf, l36⟩ := al_ok hf
  refine C.newaE e36 dX1_gains_36 rfl (by decide) rfl q194 rfl (by decide) c36 l36 ?_
  refine X.dup dX1_gains_38 (cat1 _) ?_
  refine X.iconst (v := 0) dX1_gains_39 (by decide) ?_
  refine C.aload_n dX1_gains_40 rfl 0 rfl ?_
  obtain ⟨v41, h41, hf⟩ := ob hf
  refine C.getQ dX1_gains_41 rX1_35 h41 ?_
  refine X.iload_n dX1_gains_44 rfl 1 rfl ?_
  obtain ⟨c45, hf⟩ := if_n hf
  obtain ⟨v45, h45, hf⟩ := ob hf
  refine X.keep fun l45 => C.Vi (As := [.int x1]) (rest := [.int (0 : Int32), va_rf (some T31.2.1), va_rf (some T31.2.1)]) dX1_gains_45 (w_X3_votes h45) cX1_179 (Classical.not_not.mp c45) rfl rfl (xcs (xvI (xvQ (xvQ xvN))) (Nat.le_of_ble_eq_true rfl)) rfl rfl (xD (Nat.le_of_ble_eq_true rfl)) xle.rf l45 ?_
  refine X.iload_n dX1_gains_48 rfl 3 rfl ?_
  refine X.isub dX1_gains_49 ?_
  obtain ⟨T50, h50, hf⟩ := ob hf
  refine C.iast dX1_gains_50 h50 ?_
  refine X.dup dX1_gains_51 (cat1 _) ?_
  refine X.iconst (v := 1) dX1_gains_52 (by decide) ?_
  refine C.aload_n dX1_gains_53 rfl 0 rfl ?_
  obtain ⟨v54, h54, hf⟩ := ob hf
  refine C.getQ dX1_gains_54 rX1_35 h54 ?_
  refine X.iload_n dX1_gains_57 rfl 2 rfl ?_
  obtain ⟨c58, hf⟩ := if_n hf
  obtain ⟨v58, h58, hf⟩ := ob hf
  refine X.keep fun l58 => C.Vi (As := [.int x2]) (rest := [.int (1 : Int32), va_rf (some T31.2.1), va_rf (some T31.2.1)]) dX1_gains_58 (w_X3_votes h58) cX1_179 (Classical.not_not.mp c58) rfl rfl (xcs (xvI (xvQ (xvQ xvN))) (Nat.le_of_ble_eq_true rfl)) rfl rfl (xD (Nat.le_of_ble_eq_true rfl)) xle.rf l58 ?_
  refine X.iload dX1_gains_61 4 rfl ?_
  refine X.isub dX1_gains_63 ?_
  obtain ⟨T64, h64, hf⟩ := ob hf
  refine C.iast dX1_gains_64 h64 ?_
  obtain rfl := Option.some.inj hf
  exact X.aret dX1_gains_65 rfl (Or.inr ⟨_, rfl⟩) rfl
theorem cX1_272 : xCV RX1 272 mX1_gains 4 := ⟨lw_V q1469 q1471 qs47 q121 q1472, rfl, ⟨by decide +kernel, by decide +kernel, by decide +kernel⟩, Nat.le_of_ble_eq_true rfl⟩
/-! MouldVotes game -/
abbrev cX1_game : ByteArray := prog_1_method_51_code
def yX1_game : MethodName := ⟨RX1, "game", "(III)I"⟩
def dkwX1_game_6 : List UInt8 := [167, 0, 5, 21, 5, 172]
abbrev dktX1_game_6 : List UInt8 := dkwX1_game_6 ++ []
def dkwX1_game_5 : List UInt8 := [96, 54, 5, 132, 4, 1, 132, 7, 1, 167, 255, 172, 132, 6, 1, 167, 255, 157, 29, 154, 0, 8, 21, 4]
abbrev dktX1_game_5 : List UInt8 := dkwX1_game_5 ++ dktX1_game_6
def dkwX1_game_4 : List UInt8 := [4, 46, 25, 8, 4, 46, 164, 0, 6, 167, 0, 21, 21, 4, 154, 0, 13, 16, 10, 21, 6, 104, 21, 7]
abbrev dktX1_game_4 : List UInt8 := dkwX1_game_4 ++ dktX1_game_5
def dkwX1_game_3 : List UInt8 := [182, 1, 16, 3, 46, 25, 8, 3, 46, 163, 0, 45, 42, 27, 28, 21, 6, 4, 21, 7, 100, 182, 1, 16]
abbrev dktX1_game_3 : List UInt8 := dkwX1_game_3 ++ dktX1_game_4
def dkwX1_game_2 : List UInt8 := [162, 0, 84, 42, 27, 28, 21, 6, 21, 7, 182, 1, 16, 58, 8, 42, 27, 28, 4, 21, 6, 100, 21, 7]
abbrev dktX1_game_2 : List UInt8 := dkwX1_game_2 ++ dktX1_game_3
def dkwX1_game_1 : List UInt8 := [184, 0, 65, 3, 54, 4, 2, 54, 5, 3, 54, 6, 21, 6, 5, 162, 0, 99, 3, 54, 7, 21, 7, 5]
abbrev dktX1_game_1 : List UInt8 := dkwX1_game_1 ++ dktX1_game_2
def dkwX1_game_0 : List UInt8 := [27, 184, 0, 176, 28, 184, 0, 176, 29, 4, 184, 0, 163, 27, 28, 159, 0, 7, 4, 167, 0, 4, 3]
abbrev dktX1_game_0 : List UInt8 := dkwX1_game_0 ++ dktX1_game_1
theorem dksX1_game_0 : cX1_game.data.toList.drop 0 = dktX1_game_0 := by decide +kernel
theorem dksX1_game_1 : cX1_game.data.toList.drop 23 = dktX1_game_1 := dk_seg dksX1_game_0 23 rfl rfl
theorem dksX1_game_2 : cX1_game.data.toList.drop 47 = dktX1_game_2 := dk_seg dksX1_game_1 24 rfl rfl
theorem dksX1_game_3 : cX1_game.data.toList.drop 71 = dktX1_game_3 := dk_seg dksX1_game_2 24 rfl rfl
theorem dksX1_game_4 : cX1_game.data.toList.drop 95 = dktX1_game_4 := dk_seg dksX1_game_3 24 rfl rfl
theorem dksX1_game_5 : cX1_game.data.toList.drop 119 = dktX1_game_5 := dk_seg dksX1_game_4 24 rfl rfl
theorem dksX1_game_6 : cX1_game.data.toList.drop 143 = dktX1_game_6 := dk_seg dksX1_game_5 24 rfl rfl
theorem dX1_game_0 : decode cX1_game 0 = .ok (.iload_n 1, 1) := dk_27 (dk_at dksX1_game_0 0 rfl rfl)
theorem dX1_game_1 : decode cX1_game 1 = .ok (.invokestatic 176, 3) := dk_184 0 176 (dk_at dksX1_game_0 1 rfl rfl)
theorem dX1_game_4 : decode cX1_game 4 = .ok (.iload_n 2, 1) := dk_28 (dk_at dksX1_game_0 4 rfl rfl)
theorem dX1_game_5 : decode cX1_game 5 = .ok (.invokestatic 176, 3) := dk_184 0 176 (dk_at dksX1_game_0 5 rfl rfl)
theorem dX1_game_8 : decode cX1_game 8 = .ok (.iload_n 3, 1) := dk_29 (dk_at dksX1_game_0 8 rfl rfl)
theorem dX1_game_9 : decode cX1_game 9 = .ok (.iconst 1, 1) := dk_4 (dk_at dksX1_game_0 9 rfl rfl)
theorem dX1_game_10 : decode cX1_game 10 = .ok (.invokestatic 163, 3) := dk_184 0 163 (dk_at dksX1_game_0 10 rfl rfl)
theorem dX1_game_13 : decode cX1_game 13 = .ok (.iload_n 1, 1) := dk_27 (dk_at dksX1_game_0 13 rfl rfl)
theorem dX1_game_14 : decode cX1_game 14 = .ok (.iload_n 2, 1) := dk_28 (dk_at dksX1_game_0 14 rfl rfl)
theorem dX1_game_15 : decode cX1_game 15 = .ok (.if_icmp .eq 7, 3) := dk_159 0 7 (dk_at dksX1_game_0 15 rfl rfl)
theorem dX1_game_18 : decode cX1_game 18 = .ok (.iconst 1, 1) := dk_4 (dk_at dksX1_game_0 18 rfl rfl)
theorem dX1_game_19 : decode cX1_game 19 = .ok (.goto 4, 3) := dk_167 0 4 (dk_at dksX1_game_0 19 rfl rfl)
theorem dX1_game_22 : decode cX1_game 22 = .ok (.iconst 0, 1) := dk_3 (dk_at dksX1_game_0 22 rfl rfl)
theorem dX1_game_23 : decode cX1_game 23 = .ok (.invokestatic 65, 3) := dk_184 0 65 (dk_at dksX1_game_1 0 rfl rfl)
theorem dX1_game_26 : decode cX1_game 26 = .ok (.iconst 0, 1) := dk_3 (dk_at dksX1_game_1 3 rfl rfl)
theorem dX1_game_27 : decode cX1_game 27 = .ok (.istore 4, 2) := dk_54 4 (dk_at dksX1_game_1 4 rfl rfl)
theorem dX1_game_29 : decode cX1_game 29 = .ok (.iconst (-1), 1) := dk_2 (dk_at dksX1_game_1 6 rfl rfl)
theorem dX1_game_30 : decode cX1_game 30 = .ok (.istore 5, 2) := dk_54 5 (dk_at dksX1_game_1 7 rfl rfl)
theorem dX1_game_32 : decode cX1_game 32 = .ok (.iconst 0, 1) := dk_3 (dk_at dksX1_game_1 9 rfl rfl)
theorem dX1_game_33 : decode cX1_game 33 = .ok (.istore 6, 2) := dk_54 6 (dk_at dksX1_game_1 10 rfl rfl)
theorem dX1_game_35 : decode cX1_game 35 = .ok (.iload 6, 2) := dk_21 6 (dk_at dksX1_game_1 12 rfl rfl)
theorem dX1_game_37 : decode cX1_game 37 = .ok (.iconst 2, 1) := dk_5 (dk_at dksX1_game_1 14 rfl rfl)
theorem dX1_game_38 : decode cX1_game 38 = .ok (.if_icmp .ge 99, 3) := dk_162 0 99 (dk_at dksX1_game_1 15 rfl rfl)
theorem dX1_game_41 : decode cX1_game 41 = .ok (.iconst 0, 1) := dk_3 (dk_at dksX1_game_1 18 rfl rfl)
theorem dX1_game_42 : decode cX1_game 42 = .ok (.istore 7, 2) := dk_54 7 (dk_at dksX1_game_1 19 rfl rfl)
theorem dX1_game_44 : decode cX1_game 44 = .ok (.iload 7, 2) := dk_21 7 (dk_at dksX1_game_1 21 rfl rfl)
theorem dX1_game_46 : decode cX1_game 46 = .ok (.iconst 2, 1) := dk_5 (dk_at dksX1_game_1 23 rfl rfl)
theorem dX1_game_47 : decode cX1_game 47 = .ok (.if_icmp .ge 84, 3) := dk_162 0 84 (dk_at dksX1_game_2 0 rfl rfl)
theorem dX1_game_50 : decode cX1_game 50 = .ok (.aload_n 0, 1) := dk_42 (dk_at dksX1_game_2 3 rfl rfl)
theorem dX1_game_51 : decode cX1_game 51 = .ok (.iload_n 1, 1) := dk_27 (dk_at dksX1_game_2 4 rfl rfl)
theorem dX1_game_52 : decode cX1_game 52 = .ok (.iload_n 2, 1) := dk_28 (dk_at dksX1_game_2 5 rfl rfl)
theorem dX1_game_53 : decode cX1_game 53 = .ok (.iload 6, 2) := dk_21 6 (dk_at dksX1_game_2 6 rfl rfl)
theorem dX1_game_55 : decode cX1_game 55 = .ok (.iload 7, 2) := dk_21 7 (dk_at dksX1_game_2 8 rfl rfl)
theorem dX1_game_57 : decode cX1_game 57 = .ok (.invokevirtual 272, 3) := dk_182 1 16 (dk_at dksX1_game_2 10 rfl rfl)
theorem dX1_game_60 : decode cX1_game 60 = .ok (.astore 8, 2) := dk_58 8 (dk_at dksX1_game_2 13 rfl rfl)
theorem dX1_game_62 : decode cX1_game 62 = .ok (.aload_n 0, 1) := dk_42 (dk_at dksX1_game_2 15 rfl rfl)
theorem dX1_game_63 : decode cX1_game 63 = .ok (.iload_n 1, 1) := dk_27 (dk_at dksX1_game_2 16 rfl rfl)
theorem dX1_game_64 : decode cX1_game 64 = .ok (.iload_n 2, 1) := dk_28 (dk_at dksX1_game_2 17 rfl rfl)
theorem dX1_game_65 : decode cX1_game 65 = .ok (.iconst 1, 1) := dk_4 (dk_at dksX1_game_2 18 rfl rfl)
theorem dX1_game_66 : decode cX1_game 66 = .ok (.iload 6, 2) := dk_21 6 (dk_at dksX1_game_2 19 rfl rfl)
theorem dX1_game_68 : decode cX1_game 68 = .ok (.isub, 1) := dk_100 (dk_at dksX1_game_2 21 rfl rfl)
theorem dX1_game_69 : decode cX1_game 69 = .ok (.iload 7, 2) := dk_21 7 (dk_at dksX1_game_2 22 rfl rfl)
theorem dX1_game_71 : decode cX1_game 71 = .ok (.invokevirtual 272, 3) := dk_182 1 16 (dk_at dksX1_game_3 0 rfl rfl)
theorem dX1_game_74 : decode cX1_game 74 = .ok (.iconst 0, 1) := dk_3 (dk_at dksX1_game_3 3 rfl rfl)
theorem dX1_game_75 : decode cX1_game 75 = .ok (.iaload, 1) := dk_46 (dk_at dksX1_game_3 4 rfl rfl)
theorem dX1_game_76 : decode cX1_game 76 = .ok (.aload 8, 2) := dk_25 8 (dk_at dksX1_game_3 5 rfl rfl)
theorem dX1_game_78 : decode cX1_game 78 = .ok (.iconst 0, 1) := dk_3 (dk_at dksX1_game_3 7 rfl rfl)
theorem dX1_game_79 : decode cX1_game 79 = .ok (.iaload, 1) := dk_46 (dk_at dksX1_game_3 8 rfl rfl)
theorem dX1_game_80 : decode cX1_game 80 = .ok (.if_icmp .gt 45, 3) := dk_163 0 45 (dk_at dksX1_game_3 9 rfl rfl)
theorem dX1_game_83 : decode cX1_game 83 = .ok (.aload_n 0, 1) := dk_42 (dk_at dksX1_game_3 12 rfl rfl)
theorem dX1_game_84 : decode cX1_game 84 = .ok (.iload_n 1, 1) := dk_27 (dk_at dksX1_game_3 13 rfl rfl)
theorem dX1_game_85 : decode cX1_game 85 = .ok (.iload_n 2, 1) := dk_28 (dk_at dksX1_game_3 14 rfl rfl)
theorem dX1_game_86 : decode cX1_game 86 = .ok (.iload 6, 2) := dk_21 6 (dk_at dksX1_game_3 15 rfl rfl)
theorem dX1_game_88 : decode cX1_game 88 = .ok (.iconst 1, 1) := dk_4 (dk_at dksX1_game_3 17 rfl rfl)
theorem dX1_game_89 : decode cX1_game 89 = .ok (.iload 7, 2) := dk_21 7 (dk_at dksX1_game_3 18 rfl rfl)
theorem dX1_game_91 : decode cX1_game 91 = .ok (.isub, 1) := dk_100 (dk_at dksX1_game_3 20 rfl rfl)
theorem dX1_game_92 : decode cX1_game 92 = .ok (.invokevirtual 272, 3) := dk_182 1 16 (dk_at dksX1_game_3 21 rfl rfl)
theorem dX1_game_95 : decode cX1_game 95 = .ok (.iconst 1, 1) := dk_4 (dk_at dksX1_game_4 0 rfl rfl)
theorem dX1_game_96 : decode cX1_game 96 = .ok (.iaload, 1) := dk_46 (dk_at dksX1_game_4 1 rfl rfl)
theorem dX1_game_97 : decode cX1_game 97 = .ok (.aload 8, 2) := dk_25 8 (dk_at dksX1_game_4 2 rfl rfl)
theorem dX1_game_99 : decode cX1_game 99 = .ok (.iconst 1, 1) := dk_4 (dk_at dksX1_game_4 4 rfl rfl)
theorem dX1_game_100 : decode cX1_game 100 = .ok (.iaload, 1) := dk_46 (dk_at dksX1_game_4 5 rfl rfl)
theorem dX1_game_101 : decode cX1_game 101 = .ok (.if_icmp .le 6, 3) := dk_164 0 6 (dk_at dksX1_game_4 6 rfl rfl)
theorem dX1_game_104 : decode cX1_game 104 = .ok (.goto 21, 3) := dk_167 0 21 (dk_at dksX1_game_4 9 rfl rfl)
theorem dX1_game_107 : decode cX1_game 107 = .ok (.iload 4, 2) := dk_21 4 (dk_at dksX1_game_4 12 rfl rfl)
theorem dX1_game_109 : decode cX1_game 109 = .ok (.ifCond .ne 13, 3) := dk_154 0 13 (dk_at dksX1_game_4 14 rfl rfl)
theorem dX1_game_112 : decode cX1_game 112 = .ok (.bipush 10, 2) := dk_16 10 (dk_at dksX1_game_4 17 rfl rfl)
theorem dX1_game_114 : decode cX1_game 114 = .ok (.iload 6, 2) := dk_21 6 (dk_at dksX1_game_4 19 rfl rfl)
theorem dX1_game_116 : decode cX1_game 116 = .ok (.imul, 1) := dk_104 (dk_at dksX1_game_4 21 rfl rfl)
theorem dX1_game_117 : decode cX1_game 117 = .ok (.iload 7, 2) := dk_21 7 (dk_at dksX1_game_4 22 rfl rfl)
theorem dX1_game_119 : decode cX1_game 119 = .ok (.iadd, 1) := dk_96 (dk_at dksX1_game_5 0 rfl rfl)
theorem dX1_game_120 : decode cX1_game 120 = .ok (.istore 5, 2) := dk_54 5 (dk_at dksX1_game_5 1 rfl rfl)
theorem dX1_game_122 : decode cX1_game 122 = .ok (.iinc 4 1, 3) := dk_132 4 1 (dk_at dksX1_game_5 3 rfl rfl)
theorem dX1_game_125 : decode cX1_game 125 = .ok (.iinc 7 1, 3) := dk_132 7 1 (dk_at dksX1_game_5 6 rfl rfl)
theorem dX1_game_128 : decode cX1_game 128 = .ok (.goto (-84), 3) := dk_167 255 172 (dk_at dksX1_game_5 9 rfl rfl)
theorem dX1_game_131 : decode cX1_game 131 = .ok (.iinc 6 1, 3) := dk_132 6 1 (dk_at dksX1_game_5 12 rfl rfl)
theorem dX1_game_134 : decode cX1_game 134 = .ok (.goto (-99), 3) := dk_167 255 157 (dk_at dksX1_game_5 15 rfl rfl)
theorem dX1_game_137 : decode cX1_game 137 = .ok (.iload_n 3, 1) := dk_29 (dk_at dksX1_game_5 18 rfl rfl)
theorem dX1_game_138 : decode cX1_game 138 = .ok (.ifCond .ne 8, 3) := dk_154 0 8 (dk_at dksX1_game_5 19 rfl rfl)
theorem dX1_game_141 : decode cX1_game 141 = .ok (.iload 4, 2) := dk_21 4 (dk_at dksX1_game_5 22 rfl rfl)
theorem dX1_game_143 : decode cX1_game 143 = .ok (.goto 5, 3) := dk_167 0 5 (dk_at dksX1_game_6 0 rfl rfl)
theorem dX1_game_146 : decode cX1_game 146 = .ok (.iload 5, 2) := dk_21 5 (dk_at dksX1_game_6 3 rfl rfl)
theorem dX1_game_148 : decode cX1_game 148 = .ok (.ireturn, 1) := dk_172 (dk_at dksX1_game_6 5 rfl rfl)
abbrev mX1_game : xM := (yX1_game, cX1_game, 9, (some .int), [])
def c_X1_game_125 (G : xG) (k35 : Option Nat → Int32 → Int32 → Int32 → Int32 → Int32 → Int32 → xF → Option ((Int32 ⊕ xE) × xF)) (k44 : Option Nat → Int32 → Int32 → Int32 → Int32 → Int32 → Int32 → Int32 → xF → Option ((Int32 ⊕ xE) × xF)) (x0 : Option Nat) (x1 : Int32) (x2 : Int32) (x3 : Int32) (x4 : Int32) (x5 : Int32) (x6 : Int32) (x7 : Int32) (T : xF) : Option ((Int32 ⊕ xE) × xF) :=
  k44 x0 x1 x2 x3 x4 x5 x6 (x7 + 1) T
theorem c_X1_game_125_ok {G : xG}  {T0 : xF} {k35 : Option Nat → Int32 → Int32 → Int32 → Int32 → Int32 → Int32 → xF → Option ((Int32 ⊕ xE) × xF)} {k44 : Option Nat → Int32 → Int32 → Int32 → Int32 → Int32 → Int32 → Int32 → xF → Option ((Int32 ⊕ xE) × xF)} (hk35 : ∀ (x0 : Option Nat) (x1 : Int32) (x2 : Int32) (x3 : Int32) (x4 : Int32) (x5 : Int32) (x6 : Int32) (T : xF) (q : ((Int32 ⊕ xE) × xF)), k35 x0 x1 x2 x3 x4 x5 x6 T = some q → Xr G (mX1_game, xrm (127) T0 q.2, T0, xoI q.1, q.2) 35 [(0, va_rf x0), (1, .int x1), (2, .int x2), (3, .int x3), (4, .int x4), (5, .int x5), (6, .int x6)] [] T) (hk44 : ∀ (x0 : Option Nat) (x1 : Int32) (x2 : Int32) (x3 : Int32) (x4 : Int32) (x5 : Int32) (x6 : Int32) (x7 : Int32) (T : xF) (q : ((Int32 ⊕ xE) × xF)), k44 x0 x1 x2 x3 x4 x5 x6 x7 T = some q → Xr G (mX1_game, xrm (127) T0 q.2, T0, xoI q.1, q.2) 44 [(0, va_rf x0), (1, .int x1), (2, .int x2), (3, .int x3), (4, .int x4), (5, .int x5), (6, .int x6), (7, .int x7)] [] T) (x0 : Option Nat) (x1 : Int32) (x2 : Int32) (x3 : Int32) (x4 : Int32) (x5 : Int32) (x6 : Int32) (x7 : Int32) (T : xF) (q : ((Int32 ⊕ xE) × xF)) (hf : c_X1_game_125 G k35 k44 x0 x1 x2 x3 x4 x5 x6 x7 T = some q) : Xr G (mX1_game, xrm (127) T0 q.2, T0, xoI q.1, q.2) 125 [(0, va_rf x0), (1, .int x1), (2, .int x2), (3, .int x3), (4, .int x4), (5, .int x5), (6, .int x6), (7, .int x7)] [] T := by
  unfold c_X1_game_125 at hf
  refine C.iinc (v := (x7 + 1)) (L' := [(7, .int (x7 + 1)), (0, va_rf x0), (1, .int x1), (2, .int x2), (3, .int x3), (4, .int x4), (5, .int x5), (6, .int x6)]) dX1_game_125 7 rfl rfl (Nat.le_of_ble_eq_true rfl) (xcQ (xcI (xcI (xcI (xcI (xcI (xcI (xcI xcN)))))))) rfl ?_
  refine X.goto (tgt := 44) dX1_game_128 (by decide) ?_
  refine X.sub [1, 2, 3, 4, 5, 6, 7, 0] (L' := [(0, va_rf x0), (1, .int x1), (2, .int x2), (3, .int x3), (4, .int x4), (5, .int x5), (6, .int x6), (7, .int (x7 + 1))]) rfl ?_
  exact hk44 _ _ _ _ _ _ _ _ _ _ hf
def c_X1_game_122 (G : xG) (k35 : Option Nat → Int32 → Int32 → Int32 → Int32 → Int32 → Int32 → xF → Option ((Int32 ⊕ xE) × xF)) (k44 : Option Nat → Int32 → Int32 → Int32 → Int32 → Int32 → Int32 → Int32 → xF → Option ((Int32 ⊕ xE) × xF)) (x0 : Option Nat) (x1 : Int32) (x2 : Int32) (x3 : Int32) (x4 : Int32) (x5 : Int32) (x6 : Int32) (x7 : Int32) (T : xF) : Option ((Int32 ⊕ xE) × xF) :=
  c_X1_game_125 G k35 k44 x0 x1 x2 x3 (x4 + 1) x5 x6 x7 T
theorem c_X1_game_122_ok {G : xG}  {T0 : xF} {k35 : Option Nat → Int32 → Int32 → Int32 → Int32 → Int32 → Int32 → xF → Option ((Int32 ⊕ xE) × xF)} {k44 : Option Nat → Int32 → Int32 → Int32 → Int32 → Int32 → Int32 → Int32 → xF → Option ((Int32 ⊕ xE) × xF)} (hk35 : ∀ (x0 : Option Nat) (x1 : Int32) (x2 : Int32) (x3 : Int32) (x4 : Int32) (x5 : Int32) (x6 : Int32) (T : xF) (q : ((Int32 ⊕ xE) × xF)), k35 x0 x1 x2 x3 x4 x5 x6 T = some q → Xr G (mX1_game, xrm (127) T0 q.2, T0, xoI q.1, q.2) 35 [(0, va_rf x0), (1, .int x1), (2, .int x2), (3, .int x3), (4, .int x4), (5, .int x5), (6, .int x6)] [] T) (hk44 : ∀ (x0 : Option Nat) (x1 : Int32) (x2 : Int32) (x3 : Int32) (x4 : Int32) (x5 : Int32) (x6 : Int32) (x7 : Int32) (T : xF) (q : ((Int32 ⊕ xE) × xF)), k44 x0 x1 x2 x3 x4 x5 x6 x7 T = some q → Xr G (mX1_game, xrm (127) T0 q.2, T0, xoI q.1, q.2) 44 [(0, va_rf x0), (1, .int x1), (2, .int x2), (3, .int x3), (4, .int x4), (5, .int x5), (6, .int x6), (7, .int x7)] [] T) (x0 : Option Nat) (x1 : Int32) (x2 : Int32) (x3 : Int32) (x4 : Int32) (x5 : Int32) (x6 : Int32) (x7 : Int32) (T : xF) (q : ((Int32 ⊕ xE) × xF)) (hf : c_X1_game_122 G k35 k44 x0 x1 x2 x3 x4 x5 x6 x7 T = some q) : Xr G (mX1_game, xrm (127) T0 q.2, T0, xoI q.1, q.2) 122 [(0, va_rf x0), (1, .int x1), (2, .int x2), (3, .int x3), (4, .int x4), (5, .int x5), (6, .int x6), (7, .int x7)] [] T := by
  unfold c_X1_game_122 at hf
  refine C.iinc (v := (x4 + 1)) (L' := [(4, .int (x4 + 1)), (0, va_rf x0), (1, .int x1), (2, .int x2), (3, .int x3), (5, .int x5), (6, .int x6), (7, .int x7)]) dX1_game_122 4 rfl rfl (Nat.le_of_ble_eq_true rfl) (xcQ (xcI (xcI (xcI (xcI (xcI (xcI (xcI xcN)))))))) rfl ?_
  refine X.sub [1, 2, 3, 4, 0, 5, 6, 7] (L' := [(0, va_rf x0), (1, .int x1), (2, .int x2), (3, .int x3), (4, .int (x4 + 1)), (5, .int x5), (6, .int x6), (7, .int x7)]) rfl ?_
  exact c_X1_game_125_ok hk35 hk44 _ _ _ _ _ _ _ _ _ _ hf
def c_X1_game_44_b (G : xG) (k35 : Option Nat → Int32 → Int32 → Int32 → Int32 → Int32 → Int32 → xF → Option ((Int32 ⊕ xE) × xF)) (k44 : Option Nat → Int32 → Int32 → Int32 → Int32 → Int32 → Int32 → Int32 → xF → Option ((Int32 ⊕ xE) × xF)) (x0 : Option Nat) (x1 : Int32) (x2 : Int32) (x3 : Int32) (x4 : Int32) (x5 : Int32) (x6 : Int32) (x7 : Int32) (T : xF) : Option ((Int32 ⊕ xE) × xF) :=
  if (2 : Int32) ≤ x7 then
    k35 x0 x1 x2 x3 x4 x5 (x6 + 1) T
  else
    if ¬ isO T x0 0 = true then none else
    cl (c_X1_gains G x0 x1 x2 x6 x7 T) T fun v57 T57 =>
    if ¬ isO T57 x0 0 = true then none else
    cl (c_X1_gains G x0 x1 x2 ((1 : Int32) - x6) x7 T57) T57 fun v71 T71 =>
    (ldA T71 v71 .int (0 : Int32)).bind fun v75 =>
    (ldA T71 v57 .int (0 : Int32)).bind fun v79 =>
    if v79 < v75 then
      c_X1_game_125 G k35 k44 x0 x1 x2 x3 x4 x5 x6 x7 T71
    else
      if ¬ isO T71 x0 0 = true then none else
      cl (c_X1_gains G x0 x1 x2 x6 ((1 : Int32) - x7) T71) T71 fun v92 T92 =>
      (ldA T92 v92 .int (1 : Int32)).bind fun v96 =>
      (ldA T92 v57 .int (1 : Int32)).bind fun v100 =>
      if v96 ≤ v100 then
        if x4 = 0 then
          c_X1_game_122 G k35 k44 x0 x1 x2 x3 x4 (((10 : Int32) * x6) + x7) x6 x7 T92
        else
          c_X1_game_122 G k35 k44 x0 x1 x2 x3 x4 x5 x6 x7 T92
      else
        c_X1_game_125 G k35 k44 x0 x1 x2 x3 x4 x5 x6 x7 T92
def c_X1_game_44 (G : xG) (k35 : Option Nat → Int32 → Int32 → Int32 → Int32 → Int32 → Int32 → xF → Option ((Int32 ⊕ xE) × xF)) : Nat → Option Nat → Int32 → Int32 → Int32 → Int32 → Int32 → Int32 → Int32 → xF → Option ((Int32 ⊕ xE) × xF)
  | 0 => fun _ _ _ _ _ _ _ _ _ => none
  | n + 1 => fun x0 x1 x2 x3 x4 x5 x6 x7 T => c_X1_game_44_b G k35 (c_X1_game_44 G k35 n) x0 x1 x2 x3 x4 x5 x6 x7 T
theorem c_X1_game_44_bok {G : xG}  {T0 : xF} {k35 : Option Nat → Int32 → Int32 → Int32 → Int32 → Int32 → Int32 → xF → Option ((Int32 ⊕ xE) × xF)} {k44 : Option Nat → Int32 → Int32 → Int32 → Int32 → Int32 → Int32 → Int32 → xF → Option ((Int32 ⊕ xE) × xF)} (hk35 : ∀ (x0 : Option Nat) (x1 : Int32) (x2 : Int32) (x3 : Int32) (x4 : Int32) (x5 : Int32) (x6 : Int32) (T : xF) (q : ((Int32 ⊕ xE) × xF)), k35 x0 x1 x2 x3 x4 x5 x6 T = some q → Xr G (mX1_game, xrm (127) T0 q.2, T0, xoI q.1, q.2) 35 [(0, va_rf x0), (1, .int x1), (2, .int x2), (3, .int x3), (4, .int x4), (5, .int x5), (6, .int x6)] [] T) (hk44 : ∀ (x0 : Option Nat) (x1 : Int32) (x2 : Int32) (x3 : Int32) (x4 : Int32) (x5 : Int32) (x6 : Int32) (x7 : Int32) (T : xF) (q : ((Int32 ⊕ xE) × xF)), k44 x0 x1 x2 x3 x4 x5 x6 x7 T = some q → Xr G (mX1_game, xrm (127) T0 q.2, T0, xoI q.1, q.2) 44 [(0, va_rf x0), (1, .int x1), (2, .int x2), (3, .int x3), (4, .int x4), (5, .int x5), (6, .int x6), (7, .int x7)] [] T) (x0 : Option Nat) (x1 : Int32) (x2 : Int32) (x3 : Int32) (x4 : Int32) (x5 : Int32) (x6 : Int32) (x7 : Int32) (T : xF) (q : ((Int32 ⊕ xE) × xF)) (hf : c_X1_game_44_b G k35 k44 x0 x1 x2 x3 x4 x5 x6 x7 T = some q) : Xr G (mX1_game, xrm (127) T0 q.2, T0, xoI q.1, q.2) 44 [(0, va_rf x0), (1, .int x1), (2, .int x2), (3, .int x3), (4, .int x4), (5, .int x5), (6, .int x6), (7, .int x7)] [] T := by
  unfold c_X1_game_44_b at hf
  refine X.iload dX1_game_44 7 rfl ?_
  refine X.iconst (v := 2) dX1_game_46 (by decide) ?_
  refine X.icmp_ge (tgt := 131) dX1_game_47 (by decide) (fun c47 => ?_) (fun c47 => ?_)
  · have hf := if_t c47 hf
    refine C.iinc (v := (x6 + 1)) (L' := [(6, .int (x6 + 1)), (0, va_rf x0), (1, .int x1), (2, .int x2), (3, .int x3), (4, .int x4), (5, .int x5), (7, .int x7)]) dX1_game_131 6 rfl rfl (Nat.le_of_ble_eq_true rfl) (xcQ (xcI (xcI (xcI (xcI (xcI (xcI (xcI xcN)))))))) rfl ?_
    refine X.goto (tgt := 35) dX1_game_134 (by decide) ?_
    refine X.sub [1, 2, 3, 4, 5, 6, 0] (L' := [(0, va_rf x0), (1, .int x1), (2, .int x2), (3, .int x3), (4, .int x4), (5, .int x5), (6, .int (x6 + 1))]) rfl ?_
    exact hk35 _ _ _ _ _ _ _ _ _ hf
  · have hf := if_f c47 hf
    refine C.aload_n dX1_game_50 rfl 0 rfl ?_
    refine X.iload_n dX1_game_51 rfl 1 rfl ?_
    refine X.iload_n dX1_game_52 rfl 2 rfl ?_
    refine X.iload dX1_game_53 6 rfl ?_
    refine X.iload dX1_game_55 7 rfl ?_
    obtain ⟨c57, hf⟩ := if_n hf
    obtain ⟨v57, T57, h57, hf, l57, r57⟩ := cl_ok hf
    refine C.Vq (As := [.int x1, .int x2, .int x6, .int x7]) (rest := []) dX1_game_57 (w_X1_gains h57) cX1_272 (Classical.not_not.mp c57) rfl rfl (xcs xvN (Nat.le_of_ble_eq_true rfl)) rfl rfl (xD (Nat.le_of_ble_eq_true rfl)) l57 r57 ?_
    refine C.ast (L' := [(8, va_rf v57), (0, va_rf x0), (1, .int x1), (2, .int x2), (3, .int x3), (4, .int x4), (5, .int x5), (6, .int x6), (7, .int x7)]) dX1_game_60 (Nat.le_of_ble_eq_true rfl) (xcQ (xcI (xcI (xcI (xcI (xcI (xcI (xcI xcN)))))))) rfl ?_
    refine C.aload_n dX1_game_62 rfl 1 rfl ?_
    refine X.iload_n dX1_game_63 rfl 2 rfl ?_
    refine X.iload_n dX1_game_64 rfl 3 rfl ?_
    refine X.iconst (v := 1) dX1_game_65 (by decide) ?_
    refine X.iload dX1_game_66 7 rfl ?_
    refine X.isub dX1_game_68 ?_
    refine X.iload dX1_game_69 8 rfl ?_
    obtain ⟨c71, hf⟩ := if_n hf
    obtain ⟨v71, T71, h71, hf, l71, r71⟩ := cl_ok hf
    refine C.Vq (As := [.int x1, .int x2, .int ((1 : Int32) - x6), .int x7]) (rest := []) dX1_game_71 (w_X1_gains h71) cX1_272 (Classical.not_not.mp c71) rfl rfl (xcs xvN (Nat.le_of_ble_eq_true rfl)) rfl rfl (xD (Nat.le_of_ble_eq_true rfl)) l71 r71 ?_
    refine X.iconst (v := 0) dX1_game_74 (by decide) ?_
    obtain ⟨v75, h75, hf⟩ := ob hf
    refine C.iald dX1_game_75 h75 ?_
    refine C.aload dX1_game_76 0 rfl ?_
    refine X.iconst (v := 0) dX1_game_78 (by decide) ?_
    obtain ⟨v79, h79, hf⟩ := ob hf
    refine C.iald dX1_game_79 h79 ?_
    refine X.icmp_gt (tgt := 125) dX1_game_80 (by decide) (fun c80 => ?_) (fun c80 => ?_)
    · have hf := if_t c80 hf
      refine X.sub [1, 2, 3, 4, 5, 6, 7, 8] (L' := [(0, va_rf x0), (1, .int x1), (2, .int x2), (3, .int x3), (4, .int x4), (5, .int x5), (6, .int x6), (7, .int x7)]) rfl ?_
      exact c_X1_game_125_ok hk35 hk44 _ _ _ _ _ _ _ _ _ _ hf
    · have hf := if_f c80 hf
      refine C.aload_n dX1_game_83 rfl 1 rfl ?_
      refine X.iload_n dX1_game_84 rfl 2 rfl ?_
      refine X.iload_n dX1_game_85 rfl 3 rfl ?_
      refine X.iload dX1_game_86 7 rfl ?_
      refine X.iconst (v := 1) dX1_game_88 (by decide) ?_
      refine X.iload dX1_game_89 8 rfl ?_
      refine X.isub dX1_game_91 ?_
      obtain ⟨c92, hf⟩ := if_n hf
      obtain ⟨v92, T92, h92, hf, l92, r92⟩ := cl_ok hf
      refine C.Vq (As := [.int x1, .int x2, .int x6, .int ((1 : Int32) - x7)]) (rest := []) dX1_game_92 (w_X1_gains h92) cX1_272 (Classical.not_not.mp c92) rfl rfl (xcs xvN (Nat.le_of_ble_eq_true rfl)) rfl rfl (xD (Nat.le_of_ble_eq_true rfl)) l92 r92 ?_
      refine X.iconst (v := 1) dX1_game_95 (by decide) ?_
      obtain ⟨v96, h96, hf⟩ := ob hf
      refine C.iald dX1_game_96 h96 ?_
      refine C.aload dX1_game_97 0 rfl ?_
      refine X.iconst (v := 1) dX1_game_99 (by decide) ?_
      obtain ⟨v100, h100, hf⟩ := ob hf
      refine C.iald dX1_game_100 h100 ?_
      refine X.icmp_le (tgt := 107) dX1_game_101 (by decide) (fun c101 => ?_) (fun c101 => ?_)
      · have hf := if_t c101 hf
        refine X.iload dX1_game_107 5 rfl ?_
        refine X.if_ne (tgt := 122) dX1_game_109 (by decide) (fun c109 => ?_) (fun c109 => ?_)
        · have hf := if_f c109 hf
          refine X.sub [1, 2, 3, 4, 5, 6, 7, 8] (L' := [(0, va_rf x0), (1, .int x1), (2, .int x2), (3, .int x3), (4, .int x4), (5, .int x5), (6, .int x6), (7, .int x7)]) rfl ?_
          exact c_X1_game_122_ok hk35 hk44 _ _ _ _ _ _ _ _ _ _ hf
        · have hf := if_t c109 hf
          refine X.bipush (v := 10) dX1_game_112 (by decide) ?_
          refine X.iload dX1_game_114 7 rfl ?_
          refine X.imul dX1_game_116 ?_
          refine X.iload dX1_game_117 8 rfl ?_
          refine X.iadd dX1_game_119 ?_
          refine C.ist (L' := [(5, .int (((10 : Int32) * x6) + x7)), (8, va_rf v57), (0, va_rf x0), (1, .int x1), (2, .int x2), (3, .int x3), (4, .int x4), (6, .int x6), (7, .int x7)]) dX1_game_120 (Nat.le_of_ble_eq_true rfl) (xcQ (xcQ (xcI (xcI (xcI (xcI (xcI (xcI (xcI xcN))))))))) rfl ?_
          refine X.sub [2, 3, 4, 5, 6, 0, 7, 8] (L' := [(0, va_rf x0), (1, .int x1), (2, .int x2), (3, .int x3), (4, .int x4), (5, .int (((10 : Int32) * x6) + x7)), (6, .int x6), (7, .int x7)]) rfl ?_
          exact c_X1_game_122_ok hk35 hk44 _ _ _ _ _ _ _ _ _ _ hf
      · have hf := if_f c101 hf
        refine X.goto (tgt := 125) dX1_game_104 (by decide) ?_
        refine X.sub [1, 2, 3, 4, 5, 6, 7, 8] (L' := [(0, va_rf x0), (1, .int x1), (2, .int x2), (3, .int x3), (4, .int x4), (5, .int x5), (6, .int x6), (7, .int x7)]) rfl ?_
        exact c_X1_game_125_ok hk35 hk44 _ _ _ _ _ _ _ _ _ _ hf
theorem c_X1_game_44_ok {G : xG}  {T0 : xF} {k35 : Option Nat → Int32 → Int32 → Int32 → Int32 → Int32 → Int32 → xF → Option ((Int32 ⊕ xE) × xF)} (hk35 : ∀ (x0 : Option Nat) (x1 : Int32) (x2 : Int32) (x3 : Int32) (x4 : Int32) (x5 : Int32) (x6 : Int32) (T : xF) (q : ((Int32 ⊕ xE) × xF)), k35 x0 x1 x2 x3 x4 x5 x6 T = some q → Xr G (mX1_game, xrm (127) T0 q.2, T0, xoI q.1, q.2) 35 [(0, va_rf x0), (1, .int x1), (2, .int x2), (3, .int x3), (4, .int x4), (5, .int x5), (6, .int x6)] [] T) : ∀ (n : Nat) (x0 : Option Nat) (x1 : Int32) (x2 : Int32) (x3 : Int32) (x4 : Int32) (x5 : Int32) (x6 : Int32) (x7 : Int32) (T : xF) (q : ((Int32 ⊕ xE) × xF)), c_X1_game_44 G k35 n x0 x1 x2 x3 x4 x5 x6 x7 T = some q → Xr G (mX1_game, xrm (127) T0 q.2, T0, xoI q.1, q.2) 44 [(0, va_rf x0), (1, .int x1), (2, .int x2), (3, .int x3), (4, .int x4), (5, .int x5), (6, .int x6), (7, .int x7)] [] T
  | 0, _, _, _, _, _, _, _, _, _, _, hf => by cases hf
  | n + 1, x0, x1, x2, x3, x4, x5, x6, x7, T, q, hf => c_X1_game_44_bok hk35 (c_X1_game_44_ok hk35 n) x0 x1 x2 x3 x4 x5 x6 x7 T q hf
def c_X1_game_35_b (G : xG) (k35 : Option Nat → Int32 → Int32 → Int32 → Int32 → Int32 → Int32 → xF → Option ((Int32 ⊕ xE) × xF)) (x0 : Option Nat) (x1 : Int32) (x2 : Int32) (x3 : Int32) (x4 : Int32) (x5 : Int32) (x6 : Int32) (T : xF) : Option ((Int32 ⊕ xE) × xF) :=
  if (2 : Int32) ≤ x6 then
    if x3 = 0 then
      some (.inl x4, T)
    else
      some (.inl x5, T)
  else
    c_X1_game_44 G k35 FU x0 x1 x2 x3 x4 x5 x6 (0 : Int32) T
def c_X1_game_35 (G : xG) : Nat → Option Nat → Int32 → Int32 → Int32 → Int32 → Int32 → Int32 → xF → Option ((Int32 ⊕ xE) × xF)
  | 0 => fun _ _ _ _ _ _ _ _ => none
  | n + 1 => fun x0 x1 x2 x3 x4 x5 x6 T => c_X1_game_35_b G (c_X1_game_35 G n) x0 x1 x2 x3 x4 x5 x6 T
theorem c_X1_game_35_bok {G : xG}  {T0 : xF}  {k35 : Option Nat → Int32 → Int32 → Int32 → Int32 → Int32 → Int32 → xF → Option ((Int32 ⊕ xE) × xF)}  (hk35 : ∀ (x0 : Option Nat) (x1 : Int32) (x2 : Int32) (x3 : Int32) (x4 : Int32) (x5 : Int32) (x6 : Int32) (T : xF) (q : ((Int32 ⊕ xE) × xF)), k35 x0 x1 x2 x3 x4 x5 x6 T = some q → Xr G (mX1_game, xrm (127) T0 q.2, T0, xoI q.1, q.2) 35 [(0, va_rf x0), (1, .int x1), (2, .int x2), (3, .int x3), (4, .int x4), (5, .int x5), (6, .int x6)] [] T) (x0 : Option Nat) (x1 : Int32) (x2 : Int32) (x3 : Int32) (x4 : Int32) (x5 : Int32) (x6 : Int32) (T : xF) (q : ((Int32 ⊕ xE) × xF)) (hf : c_X1_game_35_b G k35 x0 x1 x2 x3 x4 x5 x6 T = some q) : Xr G (mX1_game, xrm (127) T0 q.2, T0, xoI q.1, q.2) 35 [(0, va_rf x0), (1, .int x1), (2, .int x2), (3, .int x3), (4, .int x4), (5, .int x5), (6, .int x6)] [] T := by
  unfold c_X1_game_35_b at hf
  refine X.iload dX1_game_35 6 rfl ?_
  refine X.iconst (v := 2) dX1_game_37 (by decide) ?_
  refine X.icmp_ge (tgt := 137) dX1_game_38 (by decide) (fun c38 => ?_) (fun c38 => ?_)
  · have hf := if_t c38 hf
    refine X.iload_n dX1_game_137 rfl 3 rfl ?_
    refine X.if_ne (tgt := 146) dX1_game_138 (by decide) (fun c138 => ?_) (fun c138 => ?_)
    · have hf := if_f c138 hf
      refine X.iload dX1_game_146 5 rfl ?_
      obtain rfl := Option.some.inj hf
      exact X.iret dX1_game_148 rfl rfl rfl
    · have hf := if_t c138 hf
      refine X.iload dX1_game_141 4 rfl ?_
      refine X.goto (tgt := 148) dX1_game_143 (by decide) ?_
      obtain rfl := Option.some.inj hf
      exact X.iret dX1_game_148 rfl rfl rfl
  · have hf := if_f c38 hf
    refine X.iconst (v := 0) dX1_game_41 (by decide) ?_
    refine C.ist (L' := [(7, .int (0 : Int32)), (0, va_rf x0), (1, .int x1), (2, .int x2), (3, .int x3), (4, .int x4), (5, .int x5), (6, .int x6)]) dX1_game_42 (Nat.le_of_ble_eq_true rfl) (xcQ (xcI (xcI (xcI (xcI (xcI (xcI xcN))))))) rfl ?_
    refine X.sub [1, 2, 3, 4, 5, 6, 7, 0] (L' := [(0, va_rf x0), (1, .int x1), (2, .int x2), (3, .int x3), (4, .int x4), (5, .int x5), (6, .int x6), (7, .int (0 : Int32))]) rfl ?_
    exact c_X1_game_44_ok hk35 FU _ _ _ _ _ _ _ _ _ _ hf
theorem c_X1_game_35_ok {G : xG}  {T0 : xF}   : ∀ (n : Nat) (x0 : Option Nat) (x1 : Int32) (x2 : Int32) (x3 : Int32) (x4 : Int32) (x5 : Int32) (x6 : Int32) (T : xF) (q : ((Int32 ⊕ xE) × xF)), c_X1_game_35 G n x0 x1 x2 x3 x4 x5 x6 T = some q → Xr G (mX1_game, xrm (127) T0 q.2, T0, xoI q.1, q.2) 35 [(0, va_rf x0), (1, .int x1), (2, .int x2), (3, .int x3), (4, .int x4), (5, .int x5), (6, .int x6)] [] T
  | 0, _, _, _, _, _, _, _, _, _, hf => by cases hf
  | n + 1, x0, x1, x2, x3, x4, x5, x6, T, q, hf => c_X1_game_35_bok (c_X1_game_35_ok n) x0 x1 x2 x3 x4 x5 x6 T q hf
def c_X1_game_23 (G : xG) (x0 : Option Nat) (x1 : Int32) (x2 : Int32) (x3 : Int32) (y0 : Int32) (T : xF) : Option ((Int32 ⊕ xE) × xF) :=
  clX (c_X1_right y0 T) T fun v23 T23 =>
  c_X1_game_35 G FU x0 x1 x2 x3 (0 : Int32) (-1 : Int32) (0 : Int32) T23
theorem c_X1_game_23_ok {G : xG}  {T0 : xF}   (x0 : Option Nat) (x1 : Int32) (x2 : Int32) (x3 : Int32) (y0 : Int32) (T : xF) (q : ((Int32 ⊕ xE) × xF)) (hf : c_X1_game_23 G x0 x1 x2 x3 y0 T = some q) : Xr G (mX1_game, xrm (127) T0 q.2, T0, xoI q.1, q.2) 23 [(0, va_rf x0), (1, .int x1), (2, .int x2), (3, .int x3)] [.int y0] T := by
  unfold c_X1_game_23 at hf
  rcases clX_ok hf with ⟨v23, T23, h23, hf, l23, r23⟩ | ⟨e23, T23, h23, rfl, l23⟩
  rotate_left
  · exact C.Sx (As := [.int y0]) (rest := []) dX1_game_23 (w_X1_right h23) cX1_65 rfl rfl (xcs xvN (Nat.le_of_ble_eq_true rfl)) (xD (Nat.le_of_ble_eq_true rfl)) l23 xle.rf (xnoh rfl) rfl
  refine C.Sv (As := [.int y0]) (rest := []) dX1_game_23 (w_X1_right h23) cX1_65 rfl rfl (xcs xvN (Nat.le_of_ble_eq_true rfl)) (xD (Nat.le_of_ble_eq_true rfl)) l23 r23 ?_
  refine X.iconst (v := 0) dX1_game_26 (by decide) ?_
  refine C.ist (L' := [(4, .int (0 : Int32)), (0, va_rf x0), (1, .int x1), (2, .int x2), (3, .int x3)]) dX1_game_27 (Nat.le_of_ble_eq_true rfl) (xcQ (xcI (xcI (xcI xcN)))) rfl ?_
  refine X.iconst (v := -1) dX1_game_29 (by decide) ?_
  refine C.ist (L' := [(5, .int (-1 : Int32)), (4, .int (0 : Int32)), (0, va_rf x0), (1, .int x1), (2, .int x2), (3, .int x3)]) dX1_game_30 (Nat.le_of_ble_eq_true rfl) (xcI (xcQ (xcI (xcI (xcI xcN))))) rfl ?_
  refine X.iconst (v := 0) dX1_game_32 (by decide) ?_
  refine C.ist (L' := [(6, .int (0 : Int32)), (5, .int (-1 : Int32)), (4, .int (0 : Int32)), (0, va_rf x0), (1, .int x1), (2, .int x2), (3, .int x3)]) dX1_game_33 (Nat.le_of_ble_eq_true rfl) (xcI (xcI (xcQ (xcI (xcI (xcI xcN)))))) rfl ?_
  refine X.sub [3, 4, 5, 6, 2, 1, 0] (L' := [(0, va_rf x0), (1, .int x1), (2, .int x2), (3, .int x3), (4, .int (0 : Int32)), (5, .int (-1 : Int32)), (6, .int (0 : Int32))]) rfl ?_
  exact c_X1_game_35_ok FU _ _ _ _ _ _ _ _ _ hf
def c_X1_game (G : xG) (x0 : Option Nat) (x1 : Int32) (x2 : Int32) (x3 : Int32) (T : xF) : Option ((Int32 ⊕ xE) × xF) :=
  clX (c_X1_aParty x1 T) T fun v1 T1 =>
  clX (c_X1_aParty x2 T1) T1 fun v5 T5 =>
  clX (c_X1_oneOf x3 (1 : Int32) T5) T5 fun v10 T10 =>
  if x1 = x2 then
    c_X1_game_23 G x0 x1 x2 x3 (0 : Int32) T10
  else
    c_X1_game_23 G x0 x1 x2 x3 (1 : Int32) T10
theorem w_X1_game {G : xG}  {T : xF} {x0 : Option Nat} {x1 : Int32} {x2 : Int32} {x3 : Int32} {q : ((Int32 ⊕ xE) × xF)} (hf : c_X1_game G x0 x1 x2 x3 T = some q) : Ct G mX1_game (127) T [va_rf x0, .int x1, .int x2, .int x3] (xoI q.1) q.2 := by
  refine Ct.ofc (plainFor_of_name (by decide +kernel)) rfl (xvQ (xvI (xvI (xvI xvN)))) (Nat.le_of_ble_eq_true rfl) (show Xr G _ 0 [(0, va_rf x0), (1, .int x1), (2, .int x2), (3, .int x3)] [] _ from ?_)
  unfold c_X1_game at hf
  refine X.iload_n dX1_game_0 rfl 1 rfl ?_
  rcases clX_ok hf with ⟨v1, T1, h1, hf, l1, r1⟩ | ⟨e1, T1, h1, rfl, l1⟩
  rotate_left
  · exact C.Sx (As := [.int x1]) (rest := []) dX1_game_1 (w_X1_aParty h1) cX1_176 rfl rfl (xcs xvN (Nat.le_of_ble_eq_true rfl)) (xD (Nat.le_of_ble_eq_true rfl)) l1 xle.rf (xnoh rfl) rfl
  refine C.Sv (As := [.int x1]) (rest := []) dX1_game_1 (w_X1_aParty h1) cX1_176 rfl rfl (xcs xvN (Nat.le_of_ble_eq_true rfl)) (xD (Nat.le_of_ble_eq_true rfl)) l1 r1 ?_
  refine X.iload_n dX1_game_4 rfl 2 rfl ?_
  rcases clX_ok hf with ⟨v5, T5, h5, hf, l5, r5⟩ | ⟨e5, T5, h5, rfl, l5⟩
  rotate_left
  · exact C.Sx (As := [.int x2]) (rest := []) dX1_game_5 (w_X1_aParty h5) cX1_176 rfl rfl (xcs xvN (Nat.le_of_ble_eq_true rfl)) (xD (Nat.le_of_ble_eq_true rfl)) l5 xle.rf (xnoh rfl) rfl
  refine C.Sv (As := [.int x2]) (rest := []) dX1_game_5 (w_X1_aParty h5) cX1_176 rfl rfl (xcs xvN (Nat.le_of_ble_eq_true rfl)) (xD (Nat.le_of_ble_eq_true rfl)) l5 r5 ?_
  refine X.iload_n dX1_game_8 rfl 3 rfl ?_
  refine X.iconst (v := 1) dX1_game_9 (by decide) ?_
  rcases clX_ok hf with ⟨v10, T10, h10, hf, l10, r10⟩ | ⟨e10, T10, h10, rfl, l10⟩
  rotate_left
  · exact C.Sx (As := [.int x3, .int (1 : Int32)]) (rest := []) dX1_game_10 (w_X1_oneOf h10) cX1_163 rfl rfl (xcs xvN (Nat.le_of_ble_eq_true rfl)) (xD (Nat.le_of_ble_eq_true rfl)) l10 xle.rf (xnoh rfl) rfl
  refine C.Sv (As := [.int x3, .int (1 : Int32)]) (rest := []) dX1_game_10 (w_X1_oneOf h10) cX1_163 rfl rfl (xcs xvN (Nat.le_of_ble_eq_true rfl)) (xD (Nat.le_of_ble_eq_true rfl)) l10 r10 ?_
  refine X.iload_n dX1_game_13 rfl 1 rfl ?_
  refine X.iload_n dX1_game_14 rfl 2 rfl ?_
  refine X.icmp_eq (tgt := 22) dX1_game_15 (by decide) (fun c15 => ?_) (fun c15 => ?_)
  · have hf := if_t c15 hf
    refine X.iconst (v := 0) dX1_game_22 (by decide) ?_
    refine X.sub [0, 1, 2, 3] (L' := [(0, va_rf x0), (1, .int x1), (2, .int x2), (3, .int x3)]) rfl ?_
    exact c_X1_game_23_ok _ _ _ _ _ _ _ hf
  · have hf := if_f c15 hf
    refine X.iconst (v := 1) dX1_game_18 (by decide) ?_
    refine X.goto (tgt := 23) dX1_game_19 (by decide) ?_
    refine X.sub [0, 1, 2, 3] (L' := [(0, va_rf x0), (1, .int x1), (2, .int x2), (3, .int x3)]) rfl ?_
    exact c_X1_game_23_ok _ _ _ _ _ _ _ hf
