/-! plain law: how much a mould grows, on the system's side -/
set_option maxRecDepth 100000
section GS
variable {E : Nat → Prop} {G : xG} {T T0 : xF} {o rl va bb a c d : Nat} {e : En} {g : Gw} {f : Nat → Int32}
theorem Ev.beside (hE : Ev E G T o rl va bb e) (ok : EnOK e) (hA : GrAt T a o g) (hc : c < 30) (fr : Int32) : c_X3_beside T (some a) (Int32.ofNat c) fr = some (bes e g c fr) := e_beside hA hE.rol hE.isr hE.w hE.h ok.w0 ok.mul ok.n30 hc
theorem e_grows (ok : EnOK e) (hE0 : Ev (fun x => x = va) G T0 o rl va bb e) (hA0 : GrAt T0 a o g) (hV0 : VaAt T0 va f) (hva : ¬ bk a va) (hc : c < 30) (hg : GK e g) : Rn T0 (c_X3_grows G (some a) (Int32.ofNat c) T0) fun v T' => v = (if gK g c = -1 then 0 else grw e g c) ∧ frm (fun x => x = va) T0 T' ∧ ∃ f', VaAt T' va f' := by
  obtain ⟨⟨d, hd, hy⟩, -⟩ := hg
  have hdt : gT_ g = d := by
    show (gY g).toNatClampNeg = d
    rw [hy]
    exact ofn2 d hd
  unfold c_X3_grows
  by_cases hk : gK g c = -1
  · simp -implicitDefEqProofs only [hA0.o2, hA0.ldK hc, Option.bind_some, not_true_eq_false, if_false, if_true, hk]
    exact Rn.ret ⟨rfl, frm.rf, f, hV0⟩
  · obtain ⟨fo, q1, q2⟩ := hE0.rg
    have w0 := hE0.wm d hd
    simp -implicitDefEqProofs only [hA0.o0, hA0.o1, hA0.o2, hA0.o3, hA0.o4, hA0.o5, hA0.is, hA0.ldD hc, hA0.ldF hc, hA0.ldK hc, hA0.ldZ hc, hE0.val, hE0.rol, hE0.bef, hE0.isr, hE0.w, hE0.h, hE0.a, hE0.s, hE0.iso, hE0.cells ok, hE0.steps ok, Option.bind_some, not_true_eq_false, if_false, if_true, hk, hy, w0, e_abs, q1]
    cases er : eRg e with
    | none =>
      rw [er] at q2
      rw [if_pos q2]
      unfold c_X3_grows_199
      simp -implicitDefEqProofs only [hA0.o0, hA0.o1, hA0.o2, hA0.o3, hA0.o4, hA0.o5, hA0.is, hA0.ldD hc, hA0.ldF hc, hA0.ldK hc, hA0.ldZ hc, Option.bind_some, not_true_eq_false, if_false, if_true, e_min]
      refine Rn.ret ⟨?_, frm.rf, f, hV0⟩
      unfold grw
      rw [er, hdt]
    | some r =>
    rw [er] at q2
    rw [if_neg q2.1]
    obtain ⟨T1, e1, f1, hV1⟩ := hV0.st (k := 0) (by decide) (gZ g c)
    have hA1 := hA0.fr f1 (fun x q1 q2 => hva (q2 ▸ q1))
    have hE1 := hE0.mono f1
    refine Rn.st e1 f1.le ?_
    simp -implicitDefEqProofs only [hA1.o0, hA1.o1, hA1.o2, hA1.o3, hA1.o4, hA1.o5, hA1.is, hA1.ldD hc, hA1.ldF hc, hA1.ldK hc, hA1.ldZ hc, hE1.val, hE1.rol, hE1.bef, hE1.isr, hE1.w, hE1.h, hE1.a, hE1.s, hE1.iso, hE1.cells ok, hE1.steps ok, Option.bind_some, not_true_eq_false, if_false, if_true]
    obtain ⟨T2, e2, f2, hV2⟩ := hV1.st (k := 1) (by decide) (gD g c)
    have hA2 := hA1.fr f2 (fun x q1 q2 => hva (q2 ▸ q1))
    have hE2 := hE1.mono f2
    refine Rn.st e2 f2.le ?_
    simp -implicitDefEqProofs only [hA2.o0, hA2.o1, hA2.o2, hA2.o3, hA2.o4, hA2.o5, hA2.is, hA2.ldD hc, hA2.ldF hc, hA2.ldK hc, hA2.ldZ hc, hE2.val, hE2.rol, hE2.bef, hE2.isr, hE2.w, hE2.h, hE2.a, hE2.s, hE2.iso, hE2.cells ok, hE2.steps ok, Option.bind_some, not_true_eq_false, if_false, if_true]
    obtain ⟨T3, e3, f3, hV3⟩ := hV2.st (k := 2) (by decide) (gF g c)
    have hA3 := hA2.fr f3 (fun x q1 q2 => hva (q2 ▸ q1))
    have hE3 := hE2.mono f3
    refine Rn.st e3 f3.le ?_
    simp -implicitDefEqProofs only [hA3.o0, hA3.o1, hA3.o2, hA3.o3, hA3.o4, hA3.o5, hA3.is, hA3.ldD hc, hA3.ldF hc, hA3.ldK hc, hA3.ldZ hc, hE3.val, hE3.rol, hE3.bef, hE3.isr, hE3.w, hE3.h, hE3.a, hE3.s, hE3.iso, hE3.cells ok, hE3.steps ok, Option.bind_some, not_true_eq_false, if_false, if_true, hy, hE3.wm d hd]
    obtain ⟨T4, e4, f4, hV4⟩ := hV3.st (k := 3) (by decide) (eWm e d)
    have hA4 := hA3.fr f4 (fun x q1 q2 => hva (q2 ▸ q1))
    have hE4 := hE3.mono f4
    refine Rn.st e4 f4.le ?_
    simp -implicitDefEqProofs only [hA4.o0, hA4.o1, hA4.o2, hA4.o3, hA4.o4, hA4.o5, hA4.is, hA4.ldD hc, hA4.ldF hc, hA4.ldK hc, hA4.ldZ hc, hE4.val, hE4.rol, hE4.bef, hE4.isr, hE4.w, hE4.h, hE4.a, hE4.s, hE4.iso, hE4.cells ok, hE4.steps ok, Option.bind_some, not_true_eq_false, if_false, if_true, hE4.beside ok hA4 hc]
    obtain ⟨T5, e5, f5, hV5⟩ := hV4.st (k := 4) (by decide) (bes e g c 1)
    have hA5 := hA4.fr f5 (fun x q1 q2 => hva (q2 ▸ q1))
    have hE5 := hE4.mono f5
    refine Rn.st e5 f5.le ?_
    simp -implicitDefEqProofs only [hA5.o0, hA5.o1, hA5.o2, hA5.o3, hA5.o4, hA5.o5, hA5.is, hA5.ldD hc, hA5.ldF hc, hA5.ldK hc, hA5.ldZ hc, hE5.val, hE5.rol, hE5.bef, hE5.isr, hE5.w, hE5.h, hE5.a, hE5.s, hE5.iso, hE5.cells ok, hE5.steps ok, Option.bind_some, not_true_eq_false, if_false, if_true, hE5.beside ok hA5 hc]
    obtain ⟨T6, e6, f6, hV6⟩ := hV5.st (k := 5) (by decide) (bes e g c 0)
    have hA6 := hA5.fr f6 (fun x q1 q2 => hva (q2 ▸ q1))
    have hE6 := hE5.mono f6
    refine Rn.st e6 f6.le ?_
    simp -implicitDefEqProofs only [hA6.o0, hA6.o1, hA6.o2, hA6.o3, hA6.o4, hA6.o5, hA6.is, hA6.ldD hc, hA6.ldF hc, hA6.ldK hc, hA6.ldZ hc, hE6.val, hE6.rol, hE6.bef, hE6.isr, hE6.w, hE6.h, hE6.a, hE6.s, hE6.iso, hE6.cells ok, hE6.steps ok, Option.bind_some, not_true_eq_false, if_false, if_true]
    obtain ⟨fo7, q17, q27⟩ := (hE6.mono (T' := T6) frm.rf).rg
    obtain ⟨T7, e7, f7, hV7⟩ := hV6.st (k := 6) (by decide) (gK g c)
    have hA7 := hA6.fr f7 (fun x q1 q2 => hva (q2 ▸ q1))
    have hE7 := hE6.mono f7
    refine Rn.st e7 f7.le ?_
    obtain ⟨fo7, q17, q27⟩ := hE7.rg
    rw [er] at q27
    simp -implicitDefEqProofs only [hA7.o0, hA7.o1, hA7.o2, hA7.o3, hA7.o4, hA7.o5, hA7.is, hA7.ldD hc, hA7.ldF hc, hA7.ldK hc, hA7.ldZ hc, hE7.val, hE7.rol, hE7.bef, hE7.isr, hE7.w, hE7.h, hE7.a, hE7.s, hE7.iso, hE7.cells ok, hE7.steps ok, Option.bind_some, not_true_eq_false, if_false, if_true, q17, q27.2 _ hV7, e_min, e_max]
    unfold c_X3_grows_199
    simp -implicitDefEqProofs only [hA7.o0, hA7.o1, hA7.o2, hA7.o3, hA7.o4, hA7.o5, hA7.is, hA7.ldD hc, hA7.ldF hc, hA7.ldK hc, hA7.ldZ hc, Option.bind_some, not_true_eq_false, if_false, if_true, e_min]
    refine Rn.ret ⟨?_, ((((((f1.tr f2).tr f3).tr f4).tr f5).tr f6).tr f7), _, hV7⟩
    unfold grw
    rw [er]
    show imin (imax (-20) (imin 20 (r _))) _ = imin (imax (-20) (imin 20 (r _))) _
    rw [ok.2.2.2.2.1 r er _ (gvals e g c) (fun k hk => ?_)]
    have : k = 0 ∨ k = 1 ∨ k = 2 ∨ k = 3 ∨ k = 4 ∨ k = 5 ∨ k = 6 := by omega
    rcases this with rfl | rfl | rfl | rfl | rfl | rfl | rfl <;> simp [upd, gvals, hdt]
end GS
