/-! plain law: a row of forms is made -/
set_option maxRecDepth 100000
/-- bytes with a sign behind each other -/
def SbC (T : xF) (sb ba n bn : Nat) (os : Nat → Nat) : Prop := (∃ x2, T.1 sb = some (true, .inr (12, [va_rf (some ba), .int 0, .int x2, .int (Int32.ofNat n)]))) ∧ (∃ B : Nat → Int32, T.1 ba = some (true, .inl (.byte, bn, .inl B)) ∧ ∀ k, k < n → B k = Int32.ofNat (sgb (os k))) ∧ n ≤ bn ∧ bn ≤ 1500 ∧ 16 ≤ bn
theorem shl0 : ∀ n, n < 2000 → Int32.ofNat n <<< ((0 : Int32) &&& 31) = Int32.ofNat n ∧ Int32.ofNat n >>> ((0 : Int32) &&& 31) = Int32.ofNat n := by decide +kernel
theorem fit_b : ∀ c, c < 128 → fits .byte (.int (Int32.ofNat c)) = true := by decide +kernel
theorem by_nar : ∀ c, c < 128 → vp_nar .byte ((Int32.ofNat c).toInt8.toInt32) = Int32.ofNat c := by decide +kernel
section SB
variable {G : xG} {T : xF} {sb ba n bn : Nat} {os : Nat → Nat}
theorem SbC.is (h : SbC T sb ba n bn os) : isO T (some sb) 12 = true := by
  obtain ⟨⟨x2, h⟩, -⟩ := h
  rw [isO.eq_1]; unfold oF; simp [h]
theorem SbC.i1 (h : SbC T sb ba n bn os) : oI T (some sb) 12 1 = some 0 := by
  obtain ⟨⟨x2, h⟩, -⟩ := h
  unfold oI oF; simp [h, vI]
theorem SbC.i3 (h : SbC T sb ba n bn os) : oI T (some sb) 12 3 = some (Int32.ofNat n) := by
  obtain ⟨⟨x2, h⟩, -⟩ := h
  unfold oI oF; simp [h, vI]
theorem SbC.q0 (h : SbC T sb ba n bn os) : oQ T (some sb) 12 0 = some (some ba) := by
  obtain ⟨⟨x2, h⟩, -⟩ := h
  unfold oQ oF; simp [h, vQ, va_rf]
theorem SbC.ln (h : SbC T sb ba n bn os) : len T (some ba) = some (Int32.ofNat bn) := by
  obtain ⟨-, ⟨B, h, -⟩, -⟩ := h
  rw [len.eq_2]; simp -implicitDefEqProofs only [h]
theorem SbC.lat (h : SbC T sb ba n bn os) : c_J17_isLatin1 T (some sb) = some 1 := by
  unfold c_J17_isLatin1
  rw [if_neg (show ¬ (1 : Int32) = 0 by decide), h.i1, Option.bind_some, if_pos rfl]
/-- there is room for one more -/
theorem e_room (h : SbC T sb ba n bn os) (hn : n < 700) (hb : ba < T.2.1) (hs : sb < T.2.1) : Rn T (c_J17_ensureCapacityInternal (some sb) (Int32.ofNat (n + 1)) T) fun _ T' => ∃ ba' bn', SbC T' sb ba' n bn' os ∧ n < bn' ∧ (ba' = ba ∨ T.2.1 ≤ ba') ∧ ba' < T'.2.1 ∧ (∀ x, x < T.2.1 → x ≠ sb → x ≠ ba → T'.1 x = T.1 x) ∧ T.2.1 ≤ T'.2.1 ∧ T'.2.1 ≤ T.2.1 + 1 ∧ T'.2.2 ≤ T.2.2 + 1500 := by
  obtain ⟨⟨x2, g1⟩, ⟨B, g2, g3⟩, g4, g5, g6⟩ := h
  have h : SbC T sb ba n bn os := ⟨⟨x2, g1⟩, ⟨B, g2, g3⟩, g4, g5, g6⟩
  unfold c_J17_ensureCapacityInternal
  rw [h.q0, Option.bind_some, h.ln, Option.bind_some, h.i1, Option.bind_some, (shl0 bn (by omega)).2]
  by_cases c : n + 1 ≤ bn
  · have e : Int32.ofNat (n + 1) - Int32.ofNat bn ≤ 0 := by
      rw [i32le, tI_sub (by rw [tIo (by omega), tIo (by omega)]; omega) (by rw [tIo (by omega), tIo (by omega)]; omega), tIo (by omega), tIo (by omega), i0]; omega
    rw [if_pos e]
    exact Rn.ret ⟨ba, bn, h, by omega, Or.inl rfl, hb, fun _ _ _ _ => rfl, Nat.le_refl _, by omega, by omega⟩
  · have nb : n = bn := by omega
    have e : Int32.ofNat (n + 1) - Int32.ofNat bn = 1 := by
      rw [nb]; exact (osub (by omega) (by omega)).trans (by rw [show bn + 1 - bn = 1 by omega]; rfl)
    have nc : c_J17_newCapacity T (some sb) (Int32.ofNat (n + 1)) = some (Int32.ofNat (2 * bn + 2)) := by
      unfold c_J17_newCapacity c_J15_newLength
      have two : (2 : Int32) <<< ((0 : Int32) &&& 31) = Int32.ofNat 2 := by decide
      rw [h.q0, Option.bind_some, h.ln, Option.bind_some, h.i1, Option.bind_some, Option.bind_some, (shl0 (n + 1) (by omega)).1, e, two, oadd]
      have mx : c_J7_max 1 (Int32.ofNat (bn + 2)) = some (Int32.ofNat (bn + 2)) := by
        unfold c_J7_max
        rw [if_pos (show (1 : Int32) < Int32.ofNat (bn + 2) from (olt (n := 1) (by omega) (by omega)).mpr (by omega))]
      have n0 : ¬ Int32.ofNat (bn + (bn + 2)) ≤ 0 := fun q => by have := (ole (m := 0) (by omega) (by omega)).mp q; omega
      have n1 : ¬ (2147483639 : Int32) < Int32.ofNat (bn + (bn + 2)) := fun q => by
        rw [i32lt, tIo (by omega), show (2147483639 : Int32).toInt = 2147483639 by decide] at q; omega
      have n2 : ¬ Int32.ofNat (bn + (bn + 2)) = 2147483647 := fun q => by
        have := congrArg Int32.toInt q
        rw [tIo (by omega), show (2147483647 : Int32).toInt = 2147483647 by decide] at this; omega
      rw [mx, Option.bind_some, oadd, if_neg n0, if_neg n1, Option.bind_some, if_neg n2, Option.bind_some, (shl0 _ (by omega)).2, show bn + (bn + 2) = 2 * bn + 2 by omega]
    rw [e, if_neg (show ¬ (1 : Int32) ≤ 0 by decide), Option.bind_some, if_neg (not_not_intro h.is), nc, Option.bind_some, Option.bind_some, (shl0 _ (by omega)).1]
    -- the copy
    have nn : ∀ x, x ≠ T.2.1 → (nA T .byte (2 * bn + 2)).1 x = T.1 x := fun x q => xset_no q
    have cp : Rn T (c_J16_copyOf_3 (some ba) (Int32.ofNat (2 * bn + 2)) T) fun v T' => v = some T.2.1 ∧ (∀ x, x ≠ T.2.1 → T'.1 x = T.1 x) ∧ T'.2.1 = T.2.1 + 1 ∧ T'.2.2 = T.2.2 + (2 * bn + 2) ∧ ∃ B' : Nat → Int32, T'.1 T.2.1 = some (true, .inl (.byte, 2 * bn + 2, .inl B')) ∧ ∀ k, k < bn → B' k = B k := by
      unfold c_J16_copyOf_3
      rw [h.ln, Option.bind_some, if_neg (fun q => by have := (oeq (by omega) (by omega)).mp q; omega), if_neg (fun q => q.elim (fun q => on0 (by omega) q) (fun q => by rw [ocl (by omega)] at q; omega)), ocl (by omega)]
      refine Rn.al ⟨Nat.le_succ _, Nat.le_add_right _ _⟩ ?_
      have hl2 : len (nA T .byte (2 * bn + 2)) (some ba) = some (Int32.ofNat bn) := by
        rw [len.eq_2]; simp -implicitDefEqProofs only [nn ba (by omega), g2]
      have mn : c_J7_min (Int32.ofNat bn) (Int32.ofNat (2 * bn + 2)) = some (Int32.ofNat bn) := by
        unfold c_J7_min
        rw [if_neg (fun q => by have := (olt (by omega) (by omega)).mp q; omega)]
      have cb : cpB (nA T .byte (2 * bn + 2)) (some ba) 0 (some T.2.1) 0 (Int32.ofNat bn) = some (xset (nA T .byte (2 * bn + 2)).1 T.2.1 (true, .inl (.byte, 2 * bn + 2, .inl (va_cpy B (fun _ => 0) 0 0 bn))), (nA T .byte (2 * bn + 2)).2) := by
        have ea : aA (nA T .byte (2 * bn + 2)) (some ba) .byte = some (bn, B) := by
          unfold aA
          simp -implicitDefEqProofs only [nn ba (by omega), g2]
          rfl
        have et : (nA T .byte (2 * bn + 2)).1 T.2.1 = some (true, .inl (.byte, 2 * bn + 2, .inl (fun _ => 0))) := xset_eq
        unfold cpB
        rw [ea, Option.bind_some]
        simp -implicitDefEqProofs only [et]
        rw [ocl (by omega), show (0 : Int32).toNatClampNeg = 0 by decide, if_pos]
        refine ⟨⟨by decide, by decide, on0 (by omega)⟩, by omega, by omega, ?_⟩
        rw [List.all_eq_true]
        intro i hi
        rw [List.mem_range] at hi
        show fits .byte (.int (B (0 + i))) = true
        rw [Nat.zero_add, g3 i (by omega)]
        exact fit_b _ (sgb_l _)
      rw [hl2, Option.bind_some, mn, Option.bind_some]
      refine Rn.st cb ⟨Nat.le_refl _, Nat.le_refl _⟩ (Rn.ret ⟨rfl, fun x q => (xset_no q).trans (nn x q), rfl, rfl, _, xset_eq, fun k hk => ?_⟩)
      unfold va_cpy
      rw [if_pos ⟨Nat.zero_le _, by omega⟩, Nat.zero_add, Nat.sub_zero]
    refine Rn.cl cp fun v T1 _ ⟨a1, a2, a3, a4, B', a5, a6⟩ => ?_
    subst a1
    obtain ⟨T2, e2, c2, f2, o2⟩ := pv_any (ci := 12) (k := 0) (v := va_rf (some T.2.1)) ((a2 sb (by omega)).trans g1)
    refine Rn.st e2 ⟨by rw [c2]; exact Nat.le_refl _, by rw [c2]; exact Nat.le_refl _⟩ (Rn.ret ⟨T.2.1, 2 * bn + 2, ⟨⟨x2, o2⟩, ⟨B', (f2 _ (by omega)).trans a5, fun k hk => (a6 k (by omega)).trans (g3 k hk)⟩, by omega, by omega, by omega⟩, by omega, Or.inr (Nat.le_refl _), by rw [c2]; omega, fun x q1 q2 q3 => (f2 x q2).trans (a2 x (by omega)), by rw [c2]; omega, by rw [c2]; omega, by rw [c2]; omega⟩)
theorem e_sbadd (h : SbC T sb ba n bn os) (hn : n < 700) (hb : ba < T.2.1) (hs : sb < T.2.1) {o : Nat} (ho : os n = o) : Rn T (c_J18_append (some sb) (Int32.ofNat (sgb o)) T) fun _ T' => ∃ ba' bn', SbC T' sb ba' (n + 1) bn' os ∧ (ba' = ba ∨ T.2.1 ≤ ba') ∧ ba' < T'.2.1 ∧ (∀ x, x < T.2.1 → x ≠ sb → x ≠ ba → T'.1 x = T.1 x) ∧ T.2.1 ≤ T'.2.1 ∧ T'.2.1 ≤ T.2.1 + 1 ∧ T'.2.2 ≤ T.2.2 + 1500 := by
  unfold c_J18_append
  rw [if_neg (not_not_intro h.is)]
  refine Rn.cl (P := fun _ T' => ∃ ba' bn', SbC T' sb ba' (n + 1) bn' os ∧ (ba' = ba ∨ T.2.1 ≤ ba') ∧ ba' < T'.2.1 ∧ (∀ x, x < T.2.1 → x ≠ sb → x ≠ ba → T'.1 x = T.1 x) ∧ T.2.1 ≤ T'.2.1 ∧ T'.2.1 ≤ T.2.1 + 1 ∧ T'.2.2 ≤ T.2.2 + 1500) ?_ fun _ T' _ q => Rn.ret q
  unfold c_J17_append
  rw [h.i3, Option.bind_some, if_neg (not_not_intro h.is), ofn1 n (by omega)]
  refine Rn.cl (e_room h hn hb hs) fun _ T1 _ ⟨ba', bn', h1, h2, h3, h4, h5, h6, h7, h8⟩ => ?_
  have cl := sgb_l o
  have ce : c_J9_canEncode_2 (Int32.ofNat (sgb o)) = some 1 := by
    unfold c_J9_canEncode_2
    rw [if_neg (show ¬ (255 : Int32) < Int32.ofNat (sgb o) from fun q => by have := (olt (n := 255) (by omega) (by omega)).mp q; omega)]
  rw [if_neg (not_not_intro h1.is), h1.lat, Option.bind_some, if_neg (show ¬ (1 : Int32) = 0 by decide), ce, Option.bind_some, if_neg (show ¬ (1 : Int32) = 0 by decide), h1.q0, Option.bind_some, h1.i3, Option.bind_some, ofn1 n (by omega), by_nar _ cl]
  obtain ⟨⟨x2, g1⟩, ⟨B, g2, g3⟩, g4, g5, g6⟩ := h1
  have nsb : sb ≠ ba' := fun q => by rw [q, g2] at g1; cases g1
  obtain ⟨T2, e2, c2, f2, o2⟩ := pv_any (ci := 12) (k := 3) (v := .int (Int32.ofNat (n + 1))) g1
  have g2' := (f2 ba' (fun q => nsb q.symm)).trans g2
  have e3 : stA T2 (some ba') .byte (Int32.ofNat n) (Int32.ofNat (sgb o)) = some (xset T2.1 ba' (true, .inl (.byte, bn', .inl (upd B n (Int32.ofNat (sgb o))))), T2.2) := by
    unfold stA
    simp -implicitDefEqProofs only [g2']
    rw [if_pos ⟨trivial, inb_o h2 (by omega)⟩, ocl (by omega)]
  refine Rn.st e2 ⟨by rw [c2]; exact Nat.le_refl _, by rw [c2]; exact Nat.le_refl _⟩ (Rn.st e3 ⟨Nat.le_refl _, Nat.le_refl _⟩ (Rn.ret ⟨ba', bn', ⟨⟨x2, (xset_no nsb).trans o2⟩, ⟨_, xset_eq, fun k hk => ?_⟩, h2, g5, g6⟩, h3, by show ba' < T2.2.1; rw [c2]; exact h4, fun x q1 q2 q3 => (xset_no (fun q => ?_)).trans ((f2 x q2).trans (h5 x q1 q2 q3)), by show _ ≤ T2.2.1; rw [c2]; exact h6, by show T2.2.1 ≤ _; rw [c2]; exact h7, by show T2.2.2 ≤ _; rw [c2]; exact h8⟩))
  · unfold upd
    by_cases q : k = n
    · rw [if_pos q, q, ho]
    · rw [if_neg q]; exact g3 k (by omega)
  · rcases h3 with h3 | h3
    · exact q3 (q.trans h3)
    · omega
end SB
