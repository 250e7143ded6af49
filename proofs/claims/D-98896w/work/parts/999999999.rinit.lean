/-! plain law: a reader is made -/
set_option maxRecDepth 100000
section IN
variable {G : xG}
def NmP (G : xG) (T : xF) (a : Nat) (is : List Nat) (k : Nat) : Prop := ∃ F : Nat → Option Nat, T.1 a = some (true, .inl (.object "java/lang/String", is.length, .inr (.inr (.inr (.inr F))))) ∧ ∀ i, i < k → F i = some (gT G (is.getD i 0))
theorem NmP.all {T : xF} {a : Nat} {is : List Nat} (h : NmP G T a is is.length) : NmA G T a is := by
  obtain ⟨F, h1, h2⟩ := h
  exact ⟨true, F, h1, h2⟩
/-- a text that isn't at a -/
def StC (G : xG) (T : xF) (a i : Nat) : Prop := gT G i ≠ a ∧ ∃ w fs, T.1 (gT G i) = some (w, .inr (15, fs))
theorem StC.fr {T T' : xF} {a i : Nat} (h : StC G T a i) (f : frm (fun x => x = a) T T') : StC G T' a i := by
  obtain ⟨h1, w, fs, h2⟩ := h
  exact ⟨h1, w, fs, (f.2 _ h1).trans h2⟩
theorem nm_st {T : xF} {a k : Nat} {is : List Nat} (h : NmP G T a is k) (hk : k < is.length) (hl : is.length < 20) (hs : StC G T a (is.getD k 0)) : ∃ T', stR T (some a) (Int32.ofNat k) (some (gT G (is.getD k 0))) = some T' ∧ frm (fun x => x = a) T T' ∧ NmP G T' a is (k + 1) := by
  obtain ⟨F, h1, h2⟩ := h
  obtain ⟨-, w, fs, h3⟩ := hs
  refine ⟨(xset T.1 a (true, .inl (.object "java/lang/String", is.length, .inr (.inr (.inr (.inr (va_up F k (some (gT G (is.getD k 0))))))))), T.2), ?_, ⟨rfl, fun x q => xset_no q⟩, _, xset_eq, fun i hi => ?_⟩
  · rw [stR.eq_2]
    simp -implicitDefEqProofs only [h1]
    rw [if_pos ⟨inb_o hk (by omega), asg_s h3⟩, ocl (by omega)]
  · unfold va_up
    by_cases q : i = k
    · rw [if_pos q, q]
    · rw [if_neg q]; exact h2 i (by omega)
theorem e_nm6 {T0 : xF} {a : Nat} (n0 : NmP G T0 a orIs 0) (hs : ∀ i, i < 19 → StC G T0 a i) {K : xF → Option (Unit × xF)} {Q : Unit → xF → Prop} (hk : ∀ T', NmA G T' a orIs → frm (fun x => x = a) T0 T' → Rn T' (K T') Q) : Rn T0 (
  (stR T0 (some a) (0 : Int32) (some (gT G 0))).bind fun T1 =>
  (stR T1 (some a) (1 : Int32) (some (gT G 1))).bind fun T2 =>
  (stR T2 (some a) (2 : Int32) (some (gT G 2))).bind fun T3 =>
  (stR T3 (some a) (3 : Int32) (some (gT G 3))).bind fun T4 =>
  (stR T4 (some a) (4 : Int32) (some (gT G 4))).bind fun T5 =>
  (stR T5 (some a) (5 : Int32) (some (gT G 5))).bind fun T6 =>
  K T6) Q := by
  obtain ⟨T1, e1, f1, n1⟩ := nm_st n0 (show 0 < 6 by decide) (by decide) ((hs 0 (by decide)).fr frm.rf)
  refine Rn.st e1 f1.le ?_
  obtain ⟨T2, e2, f2, n2⟩ := nm_st n1 (show 1 < 6 by decide) (by decide) ((hs 1 (by decide)).fr f1)
  refine Rn.st e2 f2.le ?_
  have F2 : frm (fun x => x = a) T0 T2 := f1.tr f2
  obtain ⟨T3, e3, f3, n3⟩ := nm_st n2 (show 2 < 6 by decide) (by decide) ((hs 2 (by decide)).fr F2)
  refine Rn.st e3 f3.le ?_
  have F3 : frm (fun x => x = a) T0 T3 := F2.tr f3
  obtain ⟨T4, e4, f4, n4⟩ := nm_st n3 (show 3 < 6 by decide) (by decide) ((hs 3 (by decide)).fr F3)
  refine Rn.st e4 f4.le ?_
  have F4 : frm (fun x => x = a) T0 T4 := F3.tr f4
  obtain ⟨T5, e5, f5, n5⟩ := nm_st n4 (show 4 < 6 by decide) (by decide) ((hs 4 (by decide)).fr F4)
  refine Rn.st e5 f5.le ?_
  have F5 : frm (fun x => x = a) T0 T5 := F4.tr f5
  obtain ⟨T6, e6, f6, n6⟩ := nm_st n5 (show 5 < 6 by decide) (by decide) ((hs 5 (by decide)).fr F5)
  refine Rn.st e6 f6.le ?_
  have F6 : frm (fun x => x = a) T0 T6 := F5.tr f6
  exact hk T6 n6.all F6
theorem e_nm7 {T0 : xF} {a : Nat} (n0 : NmP G T0 a grIs 0) (hs : ∀ i, i < 19 → StC G T0 a i) {K : xF → Option (Unit × xF)} {Q : Unit → xF → Prop} (hk : ∀ T', NmA G T' a grIs → frm (fun x => x = a) T0 T' → Rn T' (K T') Q) : Rn T0 (
  (stR T0 (some a) (0 : Int32) (some (gT G 6))).bind fun T1 =>
  (stR T1 (some a) (1 : Int32) (some (gT G 7))).bind fun T2 =>
  (stR T2 (some a) (2 : Int32) (some (gT G 8))).bind fun T3 =>
  (stR T3 (some a) (3 : Int32) (some (gT G 1))).bind fun T4 =>
  (stR T4 (some a) (4 : Int32) (some (gT G 9))).bind fun T5 =>
  (stR T5 (some a) (5 : Int32) (some (gT G 10))).bind fun T6 =>
  (stR T6 (some a) (6 : Int32) (some (gT G 11))).bind fun T7 =>
  K T7) Q := by
  obtain ⟨T1, e1, f1, n1⟩ := nm_st n0 (show 0 < 7 by decide) (by decide) ((hs 6 (by decide)).fr frm.rf)
  refine Rn.st e1 f1.le ?_
  obtain ⟨T2, e2, f2, n2⟩ := nm_st n1 (show 1 < 7 by decide) (by decide) ((hs 7 (by decide)).fr f1)
  refine Rn.st e2 f2.le ?_
  have F2 : frm (fun x => x = a) T0 T2 := f1.tr f2
  obtain ⟨T3, e3, f3, n3⟩ := nm_st n2 (show 2 < 7 by decide) (by decide) ((hs 8 (by decide)).fr F2)
  refine Rn.st e3 f3.le ?_
  have F3 : frm (fun x => x = a) T0 T3 := F2.tr f3
  obtain ⟨T4, e4, f4, n4⟩ := nm_st n3 (show 3 < 7 by decide) (by decide) ((hs 1 (by decide)).fr F3)
  refine Rn.st e4 f4.le ?_
  have F4 : frm (fun x => x = a) T0 T4 := F3.tr f4
  obtain ⟨T5, e5, f5, n5⟩ := nm_st n4 (show 4 < 7 by decide) (by decide) ((hs 9 (by decide)).fr F4)
  refine Rn.st e5 f5.le ?_
  have F5 : frm (fun x => x = a) T0 T5 := F4.tr f5
  obtain ⟨T6, e6, f6, n6⟩ := nm_st n5 (show 5 < 7 by decide) (by decide) ((hs 10 (by decide)).fr F5)
  refine Rn.st e6 f6.le ?_
  have F6 : frm (fun x => x = a) T0 T6 := F5.tr f6
  obtain ⟨T7, e7, f7, n7⟩ := nm_st n6 (show 6 < 7 by decide) (by decide) ((hs 11 (by decide)).fr F6)
  refine Rn.st e7 f7.le ?_
  have F7 : frm (fun x => x = a) T0 T7 := F6.tr f7
  exact hk T7 n7.all F7
theorem e_nm5 {T0 : xF} {a : Nat} (n0 : NmP G T0 a beIs 0) (hs : ∀ i, i < 19 → StC G T0 a i) {K : xF → Option (Unit × xF)} {Q : Unit → xF → Prop} (hk : ∀ T', NmA G T' a beIs → frm (fun x => x = a) T0 T' → Rn T' (K T') Q) : Rn T0 (
  (stR T0 (some a) (0 : Int32) (some (gT G 6))).bind fun T1 =>
  (stR T1 (some a) (1 : Int32) (some (gT G 12))).bind fun T2 =>
  (stR T2 (some a) (2 : Int32) (some (gT G 9))).bind fun T3 =>
  (stR T3 (some a) (3 : Int32) (some (gT G 10))).bind fun T4 =>
  (stR T4 (some a) (4 : Int32) (some (gT G 7))).bind fun T5 =>
  K T5) Q := by
  obtain ⟨T1, e1, f1, n1⟩ := nm_st n0 (show 0 < 5 by decide) (by decide) ((hs 6 (by decide)).fr frm.rf)
  refine Rn.st e1 f1.le ?_
  obtain ⟨T2, e2, f2, n2⟩ := nm_st n1 (show 1 < 5 by decide) (by decide) ((hs 12 (by decide)).fr f1)
  refine Rn.st e2 f2.le ?_
  have F2 : frm (fun x => x = a) T0 T2 := f1.tr f2
  obtain ⟨T3, e3, f3, n3⟩ := nm_st n2 (show 2 < 5 by decide) (by decide) ((hs 9 (by decide)).fr F2)
  refine Rn.st e3 f3.le ?_
  have F3 : frm (fun x => x = a) T0 T3 := F2.tr f3
  obtain ⟨T4, e4, f4, n4⟩ := nm_st n3 (show 3 < 5 by decide) (by decide) ((hs 10 (by decide)).fr F3)
  refine Rn.st e4 f4.le ?_
  have F4 : frm (fun x => x = a) T0 T4 := F3.tr f4
  obtain ⟨T5, e5, f5, n5⟩ := nm_st n4 (show 4 < 5 by decide) (by decide) ((hs 7 (by decide)).fr F4)
  refine Rn.st e5 f5.le ?_
  have F5 : frm (fun x => x = a) T0 T5 := F4.tr f5
  exact hk T5 n5.all F5
/-- an empty roll -/
theorem e_x2init {T : xF} {a : Nat} (h : T.1 a = some (true, .inr (1, [.null, .null, .int 0, .int 0, .int 0, .int 0, .null, .null]))) (ha : a + 1 = T.2.1) (hst : StA G T) : Rn T (c_X2_init G (some a) T) fun _ T' => RO T' a (a + 1) (a + 2) 3 3 9 6 none none ∧ (∃ d w w', gS G 0 = some d ∧ d < T.2.1 ∧ d ≠ a ∧ LsAt T' (a + 1) d 0 (fun _ => 0) w 0 ∧ LsAt T' (a + 2) d 0 (fun _ => 0) w' 0) ∧ (∀ x, x < a → T'.1 x = T.1 x) ∧ T'.2.1 = T.2.1 + 2 ∧ T'.2.2 = T.2.2 + 6 := by
  obtain ⟨d, d1, wd0, wd1, F0, F1, s1, s2, s3, s4, s5, s6⟩ := hst
  have hst : StA G T := ⟨d, d1, wd0, wd1, F0, F1, s1, s2, s3, s4, s5, s6⟩
  have nda : d ≠ a := fun q => by rw [q, h] at s5; cases s5
  unfold c_X2_init
  rw [if_neg (show ¬ ¬ (some a).isSome = true from fun q => q rfl)]
  refine Rn.al ⟨Nat.le_succ _, Nat.le_add_right _ _⟩ ?_
  obtain ⟨T5, e5⟩ : ∃ T5, T5 = nO T 10 3 [.int 0, .null, .int 0] := ⟨_, rfl⟩
  rw [← e5]
  have l5 : T5.2.1 = T.2.1 + 1 := by rw [e5]; rfl
  have m5 : T5.2.2 = T.2.2 + 3 := by rw [e5]; rfl
  have n5 : ∀ x, x ≠ T.2.1 → T5.1 x = T.1 x := fun x q => by rw [e5]; exact xset_no q
  have o5 : T5.1 T.2.1 = some (true, .inr (10, [.int 0, .null, .int 0])) := by rw [e5]; exact xset_eq
  have st5 : StA G T5 := hst.mono (by omega) fun x q _ => n5 x (by omega)
  refine Rn.cl (e_linit o5 st5 (by rw [s1]; exact fun q => by have := Option.some.inj q; omega)) fun _ T9 _ ⟨d0, w0, g1, L9, f9⟩ => ?_
  have d0e : d = d0 := Option.some.inj (s1.symm.trans g1)
  subst d0e
  have l9 : T9.2 = T5.2 := f9.1
  have o9 : T9.1 a = _ := (f9.2 a (by omega)).trans ((n5 a (by omega)).trans h)
  obtain ⟨T12, e12, c12, f12, o12⟩ := pv_any (ci := 1) (k := 0) (v := va_rf (some T.2.1)) o9
  refine Rn.st e12 (x2_le c12) ?_
  have l12 : T12.2.1 = T.2.1 + 1 := by rw [c12, l9]; exact l5
  have m12 : T12.2.2 = T.2.2 + 3 := by rw [c12, l9]; exact m5
  have k12 : ∀ x, x < T.2.1 → x ≠ a → T12.1 x = T.1 x := fun x q1 q2 => (f12 x q2).trans ((f9.2 x (by omega)).trans (n5 x (by omega)))
  refine Rn.al ⟨Nat.le_succ _, Nat.le_add_right _ _⟩ ?_
  obtain ⟨T16, e16⟩ : ∃ T16, T16 = nO T12 10 3 [.int 0, .null, .int 0] := ⟨_, rfl⟩
  rw [← e16]
  have l16 : T16.2.1 = T12.2.1 + 1 := by rw [e16]; rfl
  have m16 : T16.2.2 = T12.2.2 + 3 := by rw [e16]; rfl
  have n16 : ∀ x, x ≠ T12.2.1 → T16.1 x = T12.1 x := fun x q => by rw [e16]; exact xset_no q
  have o16 : T16.1 T12.2.1 = some (true, .inr (10, [.int 0, .null, .int 0])) := by rw [e16]; exact xset_eq
  have st16 : StA G T16 := hst.mono (by omega) fun x q z => by
    have nxa : x ≠ a := fun r => by
      rcases z with z | z
      · rw [s1] at z; exact nda ((Option.some.inj z).trans r)
      · rw [s2] at z
        have := Option.some.inj z
        rw [this, r, h] at s6; cases s6
    exact (n16 x (by omega)).trans (k12 x q nxa)
  refine Rn.cl (e_linit o16 st16 (by rw [s1]; exact fun q => by have := Option.some.inj q; omega)) fun _ T20 _ ⟨d0, w1, g2, L20, f20⟩ => ?_
  have d0e : d = d0 := Option.some.inj (s1.symm.trans g2)
  subst d0e
  have l20 : T20.2 = T16.2 := f20.1
  have o20 : T20.1 a = _ := (f20.2 a (by omega)).trans ((n16 a (by omega)).trans o12)
  obtain ⟨T23, e23, c23, f23, o23⟩ := pv_any (ci := 1) (k := 1) (v := va_rf (some T12.2.1)) o20
  refine Rn.st e23 (x2_le c23) ?_
  obtain ⟨T28, e28, c28, f28, o28⟩ := pv_any (ci := 1) (k := 2) (v := .int 3) o23
  refine Rn.st e28 (x2_le c28) ?_
  obtain ⟨T33, e33, c33, f33, o33⟩ := pv_any (ci := 1) (k := 3) (v := .int 3) o28
  refine Rn.st e33 (x2_le c33) ?_
  obtain ⟨T39, e39, c39, f39, o39⟩ := pv_any (ci := 1) (k := 4) (v := .int 9) o33
  refine Rn.st e39 (x2_le c39) ?_
  obtain ⟨T45, e45, c45, f45, o45⟩ := pv_any (ci := 1) (k := 5) (v := .int 6) o39
  refine Rn.st e45 (x2_le c45) (Rn.ret ?_)
  have hc : T45.2 = T16.2 := by rw [c45, c39, c33, c28, c23, l20]
  have kk : ∀ x, x ≠ a → T45.1 x = T20.1 x := fun x q => (f45 x q).trans ((f39 x q).trans ((f33 x q).trans ((f28 x q).trans (f23 x q))))
  have la : T.2.1 = a + 1 := ha.symm
  have lb : T12.2.1 = a + 2 := by omega
  have dl : T45.1 d = T.1 d := (kk d nda).trans ((f20.2 d (by omega)).trans ((n16 d (by omega)).trans (k12 d s3 nda)))
  have dl9 : T9.1 d = T.1 d := (f9.2 d (by omega)).trans (n5 d (by omega))
  refine ⟨?_, ⟨d, w0, w1, s1, s3, nda, ?_, ?_⟩, fun x q => ?_, by rw [hc]; omega, by rw [hc]; omega⟩
  · rw [la, lb] at o45
    exact o45
  · rw [la] at L9
    refine L9.fr ?_ (dl.trans dl9.symm)
    rw [kk _ (by omega), f20.2 _ (by omega), n16 _ (by omega), f12 _ (by omega)]
  · rw [lb] at L20
    exact L20.fr (kk _ (by omega)) (kk d nda)
  · exact (kk x (by omega)).trans ((f20.2 x (by omega)).trans ((n16 x (by omega)).trans (k12 x (by omega) (by omega))))
end IN
