/-! plain law: a reader is made, all of it -/
set_option maxRecDepth 100000
/-- tags of what is made for a reader whose first cell is N -/
def own0 (N : Nat) (x : Nat) : Nat := if x = N then 20 else if x = N + 1 then 21 else if x = N + 2 then 23 else if x = N + 3 then 25 else if x < N + 9 then 22 else 27
/-- the names are made -/
def initB (G : xG) (x0 : Option Nat) (x2 : Int32) (T : xF) : Option (Unit × xF) :=
  if (6 : Int32) < 0 ∨ 100000000 ≤ (6 : Int32).toNatClampNeg then none else
  al (nR T "java/lang/String" (6 : Int32).toNatClampNeg) fun T38 =>
  (stR T38 (some T.2.1) (0 : Int32) (some (gT G 0))).bind fun T45 =>
  (stR T45 (some T.2.1) (1 : Int32) (some (gT G 1))).bind fun T50 =>
  (stR T50 (some T.2.1) (2 : Int32) (some (gT G 2))).bind fun T55 =>
  (stR T55 (some T.2.1) (3 : Int32) (some (gT G 3))).bind fun T60 =>
  (stR T60 (some T.2.1) (4 : Int32) (some (gT G 4))).bind fun T65 =>
  (stR T65 (some T.2.1) (5 : Int32) (some (gT G 5))).bind fun T70 =>
  (pV T70 x0 4 3 (va_rf (some T.2.1))).bind fun T71 =>
  if (7 : Int32) < 0 ∨ 100000000 ≤ (7 : Int32).toNatClampNeg then none else
  al (nR T71 "java/lang/String" (7 : Int32).toNatClampNeg) fun T77 =>
  (stR T77 (some T71.2.1) (0 : Int32) (some (gT G 6))).bind fun T84 =>
  (stR T84 (some T71.2.1) (1 : Int32) (some (gT G 7))).bind fun T89 =>
  (stR T89 (some T71.2.1) (2 : Int32) (some (gT G 8))).bind fun T94 =>
  (stR T94 (some T71.2.1) (3 : Int32) (some (gT G 1))).bind fun T99 =>
  (stR T99 (some T71.2.1) (4 : Int32) (some (gT G 9))).bind fun T104 =>
  (stR T104 (some T71.2.1) (5 : Int32) (some (gT G 10))).bind fun T109 =>
  (stR T109 (some T71.2.1) (6 : Int32) (some (gT G 11))).bind fun T115 =>
  (pV T115 x0 4 4 (va_rf (some T71.2.1))).bind fun T116 =>
  if (5 : Int32) < 0 ∨ 100000000 ≤ (5 : Int32).toNatClampNeg then none else
  al (nR T116 "java/lang/String" (5 : Int32).toNatClampNeg) fun T121 =>
  (stR T121 (some T116.2.1) (0 : Int32) (some (gT G 6))).bind fun T128 =>
  (stR T128 (some T116.2.1) (1 : Int32) (some (gT G 12))).bind fun T133 =>
  (stR T133 (some T116.2.1) (2 : Int32) (some (gT G 9))).bind fun T138 =>
  (stR T138 (some T116.2.1) (3 : Int32) (some (gT G 10))).bind fun T143 =>
  (stR T143 (some T116.2.1) (4 : Int32) (some (gT G 7))).bind fun T148 =>
  (pV T148 x0 4 5 (va_rf (some T116.2.1))).bind fun T149 =>
  (oQ T149 x0 4 4).bind fun v154 =>
  (pV T149 x0 4 6 (va_rf v154)).bind fun T157 =>
  (pV T157 x0 4 0 (.int x2)).bind fun T162 =>
  some ((), T162)
section IN
variable {G : xG} {t : Tpe} {tp o : Nat} {Tb : xF}
theorem e_rinitA (hst : StA G Tb) {N : Nat} (eN : N = Tb.2.1) (ho : o < N) {x2 : Int32} {Q : Unit → xF → Prop} (hk : ∀ T32, (T32.2.1 = N + 9 ∧ T32.2.2 = Tb.2.2 + 155 ∧ (∀ x, x < N → T32.1 x = Tb.1 x) ∧ T32.1 N = some (true, .inr (4, [.int 0, va_rf (some (N + 1)), va_rf (some (N + 4)), .null, .null, .null, .null, .int 0, .int 0, .int 0, .int 0, .int 0, .int 0, .int 0, va_rf (some o)])) ∧ RO T32 (N + 1) (N + 2) (N + 3) 3 3 9 6 none none ∧ (∃ d w w', (gS G 0 = some d ∧ d < N) ∧ LsAt T32 (N + 2) d 0 (fun _ => 0) w 0 ∧ LsAt T32 (N + 3) d 0 (fun _ => 0) w' 0) ∧ GrAt T32 (N + 4) o g00) → Rn T32 (initB G (some N) x2 T32) Q) : Rn (nO Tb 4 15 [.int 0, .null, .null, .null, .null, .null, .null, .int 0, .int 0, .int 0, .int 0, .int 0, .int 0, .int 0, .null]) (c_X5_init G (some N) (some o) x2 (nO Tb 4 15 [.int 0, .null, .null, .null, .null, .null, .null, .int 0, .int 0, .int 0, .int 0, .int 0, .int 0, .int 0, .null])) Q := by
  obtain ⟨T0, e0⟩ : ∃ T0, T0 = nO Tb 4 15 [.int 0, .null, .null, .null, .null, .null, .null, .int 0, .int 0, .int 0, .int 0, .int 0, .int 0, .int 0, .null] := ⟨_, rfl⟩
  rw [← e0]
  have l0 : T0.2.1 = N + 1 := by rw [e0, eN]; rfl
  have m0 : T0.2.2 = Tb.2.2 + 15 := by rw [e0]; rfl
  have k0 : ∀ x, x < N → T0.1 x = Tb.1 x := fun x q => by rw [e0]; exact xset_no (by omega)
  have o0 : T0.1 N = some (true, .inr (4, [.int 0, .null, .null, .null, .null, .null, .null, .int 0, .int 0, .int 0, .int 0, .int 0, .int 0, .int 0, .null])) := by rw [e0, eN]; exact xset_eq
  clear e0
  unfold c_X5_init
  obtain ⟨T2, e2, c2, f2, o2⟩ := pv_any (ci := 4) (k := 14) (v := va_rf (some o)) o0
  refine Rn.st e2 (x2_le c2) ?_
  rw [if_neg (show ¬ ¬ (some N).isSome = true from fun q => q rfl)]
  have l2 : T2.2.1 = N + 1 := by rw [c2]; exact l0
  have m2 : T2.2.2 = Tb.2.2 + 15 := by rw [c2]; exact m0
  refine Rn.al ⟨Nat.le_succ _, Nat.le_add_right _ _⟩ ?_
  rw [l2]
  obtain ⟨T10, e10⟩ : ∃ T10, T10 = nO T2 1 8 [.null, .null, .int 0, .int 0, .int 0, .int 0, .null, .null] := ⟨_, rfl⟩
  rw [← e10]
  have l10 : T10.2.1 = N + 2 := by rw [e10]; show T2.2.1 + 1 = _; omega
  have m10 : T10.2.2 = Tb.2.2 + 23 := by rw [e10]; show T2.2.2 + 8 = _; omega
  have n10 : ∀ x, x ≠ N + 1 → T10.1 x = T2.1 x := fun x q => by rw [e10]; exact xset_no (by omega)
  have o10 : T10.1 (N + 1) = some (true, .inr (1, [.null, .null, .int 0, .int 0, .int 0, .int 0, .null, .null])) := by rw [e10, ← l2]; exact xset_eq
  have k10 : ∀ x, x < N → T10.1 x = Tb.1 x := fun x q => (n10 x (by omega)).trans ((f2 x (by omega)).trans (k0 x q))
  have r10 : T10.1 N = _ := (n10 N (by omega)).trans o2
  have st10 : StA G T10 := hst.mono (by omega) fun x q _ => k10 x (by omega)
  refine Rn.cl (e_x2init o10 (by omega) st10) fun _ T14 _ ⟨a1, ⟨d, w, w', s1, s2, s3, a2, a3⟩, a4, a5, a6⟩ => ?_
  have dN : d < N := by
    obtain ⟨d0, d1, wd0, wd1, F0, F1, z1, z2, z3, z4, z5, z6⟩ := hst
    have := Option.some.inj (s1.symm.trans z1)
    omega
  have r14 : T14.1 N = _ := (a4 N (by omega)).trans r10
  obtain ⟨T17, e17, c17, f17, o17⟩ := pv_any (ci := 4) (k := 1) (v := va_rf (some (N + 1))) r14
  refine Rn.st e17 (x2_le c17) ?_
  have l17 : T17.2.1 = N + 4 := by rw [c17]; omega
  have m17 : T17.2.2 = Tb.2.2 + 29 := by rw [c17]; omega
  refine Rn.al ⟨Nat.le_succ _, Nat.le_add_right _ _⟩ ?_
  rw [l17]
  obtain ⟨T21, e21⟩ : ∃ T21, T21 = nO T17 2 6 [.null, .null, .null, .null, .int 0, .null] := ⟨_, rfl⟩
  rw [← e21]
  have l21 : T21.2.1 = N + 5 := by rw [e21]; show T17.2.1 + 1 = _; omega
  have m21 : T21.2.2 = Tb.2.2 + 35 := by rw [e21]; show T17.2.2 + 6 = _; omega
  have n21 : ∀ x, x ≠ N + 4 → T21.1 x = T17.1 x := fun x q => by rw [e21]; exact xset_no (by omega)
  have o21 : T21.1 (N + 4) = some (true, .inr (2, [.null, .null, .null, .null, .int 0, .null])) := by rw [e21, ← l17]; exact xset_eq
  have r21 : T21.1 N = _ := (n21 N (by omega)).trans o17
  have q14 : oQ T21 (some N) 4 14 = some (some o) := by unfold oQ oF; simp [r21, vQ, va_rf]
  rw [q14, Option.bind_some]
  refine Rn.cl (e_xinit (o := o) o21 (by omega)) fun _ T29 _ ⟨b1, b2, b3, b4⟩ => ?_
  have r29 : T29.1 N = _ := (b1 N (by omega)).trans r21
  obtain ⟨T32, e32, c32, f32, o32⟩ := pv_any (ci := 4) (k := 2) (v := va_rf (some (N + 4))) r29
  refine Rn.st e32 (x2_le c32) ?_
  have l32 : T32.2.1 = N + 9 := by rw [c32]; omega
  have m32 : T32.2.2 = Tb.2.2 + 155 := by rw [c32]; omega
  have k32 : ∀ x, x < N → T32.1 x = Tb.1 x := fun x q => (f32 x (by omega)).trans ((b1 x (by omega)).trans ((n21 x (by omega)).trans ((f17 x (by omega)).trans ((a4 x (by omega)).trans (k10 x q)))))
  have w32 : T32.1 N = some (true, .inr (4, [.int 0, va_rf (some (N + 1)), va_rf (some (N + 4)), .null, .null, .null, .null, .int 0, .int 0, .int 0, .int 0, .int 0, .int 0, .int 0, va_rf (some o)])) := o32
  refine hk T32 ⟨l32, m32, k32, w32, (f32 _ (by omega)).trans ((b1 _ (by omega)).trans ((n21 _ (by omega)).trans ((f17 _ (by omega)).trans a1))), ⟨d, w, w', ⟨s1, dN⟩, a2.fr ?_ ?_, a3.fr ?_ ?_⟩, b4.lo fun x q => f32 x (by simp -implicitDefEqProofs only [bk] at q; omega)⟩
  · rw [f32 _ (by omega), b1 _ (by omega), n21 _ (by omega), f17 _ (by omega)]
  · rw [f32 _ (by omega), b1 _ (by omega), n21 _ (by omega), f17 _ (by omega)]
  · rw [f32 _ (by omega), b1 _ (by omega), n21 _ (by omega), f17 _ (by omega)]
  · rw [f32 _ (by omega), b1 _ (by omega), n21 _ (by omega), f17 _ (by omega)]
/-- all is made; the reader has yet to look at its first token -/
theorem e_rinit (hst : StA G Tb) (hx : StrA G Tb) (ho : o < Tb.2.1) : Rn (nO Tb 4 15 [.int 0, .null, .null, .null, .null, .null, .null, .int 0, .int 0, .int 0, .int 0, .int 0, .int 0, .int 0, .null]) (c_X5_init G (some Tb.2.1) (some o) (Int32.ofNat t.2) (nO Tb 4 15 [.int 0, .null, .null, .null, .null, .null, .null, .int 0, .int 0, .int 0, .int 0, .int 0, .int 0, .int 0, .null])) fun _ T => frc (fun _ => False) Tb T ∧ T.2.1 = Tb.2.1 + 12 ∧ T.2.2 = Tb.2.2 + 173 ∧ Rd0 T Tb.2.1 t (Tb.2.1 + 1, Tb.2.1 + 4, Tb.2.1 + 9, Tb.2.1 + 10, Tb.2.1 + 11, o) (Tb.2.1 + 10) 0 0 0 0 0 0 0 ∧ RO T (Tb.2.1 + 1) (Tb.2.1 + 2) (Tb.2.1 + 3) 3 3 9 6 none none ∧ (∃ d w w', (gS G 0 = some d ∧ d < Tb.2.1) ∧ LsAt T (Tb.2.1 + 2) d 0 (fun _ => 0) w 0 ∧ LsAt T (Tb.2.1 + 3) d 0 (fun _ => 0) w' 0) ∧ GrAt T (Tb.2.1 + 4) o g00 ∧ NmA G T (Tb.2.1 + 9) orIs ∧ NmA G T (Tb.2.1 + 10) grIs ∧ NmA G T (Tb.2.1 + 11) beIs := by
  obtain ⟨N, eN⟩ : ∃ N, N = Tb.2.1 := ⟨_, rfl⟩
  rw [← eN]
  rw [← eN] at ho
  refine e_rinitA hst eN ho fun T32 ⟨l32, m32, k32, o32, aR, ⟨d, w, w', dN, a2, a3⟩, b4⟩ => ?_
  have dN' := dN.2
  unfold initB
  have sx : ∀ {T : xF} {a : Nat}, N ≤ a → (∀ x, x < N → T.1 x = Tb.1 x) → ∀ i, i < 19 → StC G T a i := fun {T a} ha hk i hi => by
    obtain ⟨g1, va, w1, w2, rest, f, g2, g3, g4, g5⟩ := hx i hi
    exact ⟨by omega, w1, _, (hk _ (by omega)).trans g3⟩
  -- the names
  rw [if_neg (by decide), show (6 : Int32).toNatClampNeg = 6 by decide]
  refine Rn.al ⟨Nat.le_succ _, Nat.le_add_right _ _⟩ ?_
  rw [l32]
  obtain ⟨T38, e38⟩ : ∃ T38, T38 = nR T32 "java/lang/String" 6 := ⟨_, rfl⟩
  rw [← e38]
  have l38 : T38.2.1 = N + 10 := by rw [e38]; show T32.2.1 + 1 = _; omega
  have m38 : T38.2.2 = Tb.2.2 + 161 := by rw [e38]; show T32.2.2 + 6 = _; omega
  have n38 : ∀ x, x ≠ N + 9 → T38.1 x = T32.1 x := fun x q => by rw [e38]; exact xset_no (by omega)
  have o38 : NmP G T38 (N + 9) orIs 0 := ⟨_, by rw [e38, ← l32]; exact xset_eq, fun i hi => absurd hi (Nat.not_lt_zero i)⟩
  refine e_nm6 o38 (sx (by omega) fun x q => (n38 x (by omega)).trans (k32 x q)) fun T70 nm70 f70 => ?_
  have r70 : T70.1 N = _ := (f70.2 N (by omega)).trans ((n38 N (by omega)).trans o32)
  obtain ⟨T71, e71, c71, f71, o71⟩ := pv_any (ci := 4) (k := 3) (v := va_rf (some (N + 9))) r70
  refine Rn.st e71 (x2_le c71) ?_
  have l71 : T71.2.1 = N + 10 := by rw [c71, f70.1]; exact l38
  have m71 : T71.2.2 = Tb.2.2 + 161 := by rw [c71, f70.1]; exact m38
  have k71 : ∀ x, x ≠ N → x ≠ N + 9 → T71.1 x = T32.1 x := fun x q1 q2 => (f71 x q1).trans ((f70.2 x q2).trans (n38 x q2))
  rw [if_neg (by decide), show (7 : Int32).toNatClampNeg = 7 by decide]
  refine Rn.al ⟨Nat.le_succ _, Nat.le_add_right _ _⟩ ?_
  rw [l71]
  obtain ⟨T77, e77⟩ : ∃ T77, T77 = nR T71 "java/lang/String" 7 := ⟨_, rfl⟩
  rw [← e77]
  have l77 : T77.2.1 = N + 11 := by rw [e77]; show T71.2.1 + 1 = _; omega
  have m77 : T77.2.2 = Tb.2.2 + 168 := by rw [e77]; show T71.2.2 + 7 = _; omega
  have n77 : ∀ x, x ≠ N + 10 → T77.1 x = T71.1 x := fun x q => by rw [e77]; exact xset_no (by omega)
  have o77 : NmP G T77 (N + 10) grIs 0 := ⟨_, by rw [e77, ← l71]; exact xset_eq, fun i hi => absurd hi (Nat.not_lt_zero i)⟩
  refine e_nm7 o77 (sx (by omega) fun x q => (n77 x (by omega)).trans ((k71 x (by omega) (by omega)).trans (k32 x q))) fun T115 nm115 f115 => ?_
  have r115 : T115.1 N = _ := (f115.2 N (by omega)).trans ((n77 N (by omega)).trans o71)
  obtain ⟨T116, e116, c116, f116, o116⟩ := pv_any (ci := 4) (k := 4) (v := va_rf (some (N + 10))) r115
  refine Rn.st e116 (x2_le c116) ?_
  have l116 : T116.2.1 = N + 11 := by rw [c116, f115.1]; exact l77
  have m116 : T116.2.2 = Tb.2.2 + 168 := by rw [c116, f115.1]; exact m77
  have k116 : ∀ x, x ≠ N → x ≠ N + 10 → T116.1 x = T71.1 x := fun x q1 q2 => (f116 x q1).trans ((f115.2 x q2).trans (n77 x q2))
  rw [if_neg (by decide), show (5 : Int32).toNatClampNeg = 5 by decide]
  refine Rn.al ⟨Nat.le_succ _, Nat.le_add_right _ _⟩ ?_
  rw [l116]
  obtain ⟨T121, e121⟩ : ∃ T121, T121 = nR T116 "java/lang/String" 5 := ⟨_, rfl⟩
  rw [← e121]
  have l121 : T121.2.1 = N + 12 := by rw [e121]; show T116.2.1 + 1 = _; omega
  have m121 : T121.2.2 = Tb.2.2 + 173 := by rw [e121]; show T116.2.2 + 5 = _; omega
  have n121 : ∀ x, x ≠ N + 11 → T121.1 x = T116.1 x := fun x q => by rw [e121]; exact xset_no (by omega)
  have o121 : NmP G T121 (N + 11) beIs 0 := ⟨_, by rw [e121, ← l116]; exact xset_eq, fun i hi => absurd hi (Nat.not_lt_zero i)⟩
  refine e_nm5 o121 (sx (by omega) fun x q => (n121 x (by omega)).trans ((k116 x (by omega) (by omega)).trans ((k71 x (by omega) (by omega)).trans (k32 x q)))) fun T148 nm148 f148 => ?_
  have r148 : T148.1 N = _ := (f148.2 N (by omega)).trans ((n121 N (by omega)).trans o116)
  obtain ⟨T149, e149, c149, f149, o149⟩ := pv_any (ci := 4) (k := 5) (v := va_rf (some (N + 11))) r148
  refine Rn.st e149 (x2_le c149) ?_
  have q4 : oQ T149 (some N) 4 4 = some (some (N + 10)) := by unfold oQ oF; simp [o149, vQ, va_rf]
  rw [q4, Option.bind_some]
  obtain ⟨T157, e157, c157, f157, o157⟩ := pv_any (ci := 4) (k := 6) (v := va_rf (some (N + 10))) o149
  refine Rn.st e157 (x2_le c157) ?_
  obtain ⟨T162, e162, c162, f162, o162⟩ := pv_any (ci := 4) (k := 0) (v := .int (Int32.ofNat t.2)) o157
  refine Rn.st e162 (x2_le c162) (Rn.ret ?_)
  have rr : T162.1 N = some (true, .inr (4, rdW t (N + 1, N + 4, N + 9, N + 10, N + 11, o) (N + 10) 0 0 0 0 0 0 0)) := by
    rw [o162]
    simp -implicitDefEqProofs only [List.set_cons_zero, List.set_cons_succ]
    rfl
  have hc : T162.2 = T121.2 := by rw [c162, c157, c149, f148.1]
  have kA : ∀ x, x ≠ N → T162.1 x = T148.1 x := fun x q => (f162 x q).trans ((f157 x q).trans (f149 x q))
  have kB : ∀ x, x ≠ N → x ≠ N + 11 → T162.1 x = T116.1 x := fun x q1 q2 => (kA x q1).trans ((f148.2 x q2).trans (n121 x q2))
  have kC : ∀ x, x ≠ N → x < N + 9 → T162.1 x = T32.1 x := fun x q1 q2 => (kB x q1 (by omega)).trans ((k116 x q1 (by omega)).trans (k71 x q1 (by omega)))
  have kD : ∀ x, x ≠ N → x < N + 4 → T162.1 x = T32.1 x := fun x q1 q2 => kC x q1 (by omega)
  have kE : ∀ x, x < N → T162.1 x = Tb.1 x := fun x q => (kC x (by omega) (by omega)).trans (k32 x q)
  refine ⟨⟨by rw [hc]; omega, fun x q _ => kE x (by omega)⟩, by rw [hc]; omega, by rw [hc]; omega, rr, (kD _ (by omega) (by omega)).trans aR, ⟨d, w, w', dN, a2.fr (kD _ (by omega) (by omega)) (kD _ (by omega) (by omega)), a3.fr (kD _ (by omega) (by omega)) (kD _ (by omega) (by omega))⟩, b4.lo fun x q => kC x (by simp -implicitDefEqProofs only [bk] at q; omega) (by simp -implicitDefEqProofs only [bk] at q; omega), ?_, ?_, ?_⟩
  · obtain ⟨w9, FF, z1, z2⟩ := nm70
    exact ⟨w9, FF, ((kB _ (by omega) (by omega)).trans ((k116 _ (by omega) (by omega)).trans (f71 _ (by omega)))).trans z1, z2⟩
  · obtain ⟨w9, FF, z1, z2⟩ := nm115
    exact ⟨w9, FF, ((kB _ (by omega) (by omega)).trans (f116 _ (by omega))).trans z1, z2⟩
  · obtain ⟨w9, FF, z1, z2⟩ := nm148
    exact ⟨w9, FF, (kA _ (by omega)).trans z1, z2⟩
end IN
