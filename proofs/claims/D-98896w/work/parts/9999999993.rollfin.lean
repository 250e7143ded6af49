/-! plain law: the system's roll, its two ends -/
set_option maxRecDepth 100000
section RF
variable {G : xG} {T Tb : xF} {o : Nat} {s : St} {A : Ad}
/-- a fault: what is held then -/
theorem e_rollF (h : CIa G T o s A) {v11 v12 v13 : Option Nat} {sd : Int32} (hO : ObA T o A s v11 v12 v13 sd) {T27 : xF} (o27 : T27.1 o = some (true, .inr (0, [va_rf (some (aVa A)), va_rf (some (aRl A)), va_rf (some (aBb A)), va_rf (some (aTt A)), va_rf (some (aCc A)), va_rf (some (aTp A)), .int 0, .int (-1), va_rf (some (aRf A)), va_rf (some (aAl A)), va_rf (some (aSl A)), va_rf v11, va_rf v12, va_rf v13, .int sd]))) (f27 : ∀ x, x ≠ o → T27.1 x = T.1 x) (c27 : T27.2 = T.2) {T42 : xF} (F : frc (fun _ => False) T27 T42) {ex : xE} {k b rd : Nat} (th : Th T42 ex rd k b) : Rn T42 (if ¬ ex.1 = "MouldVotes$Wrong" then none else
    (oI T42 (some rd) 4 9).bind fun v54 =>
    (pV T42 (some o) 0 7 (.int v54)).bind fun T57 =>
    (oQ T57 (some o) 0 8).bind fun v61 =>
    (ldA T57 v61 .int (0 : Int32)).bind fun v66 =>
    (stA T57 v61 .int (0 : Int32) (v66 + (1 : Int32))).bind fun T69 =>
    (oI T69 (some ex.2) 5 6).bind fun v71 =>
    some ((.inl v71 : Int32 ⊕ xE), T69)) fun v T' => v = .inl (Int32.ofNat k) ∧ CIa G T' o (failS s b) A ∧ T'.2 = T42.2 := by
  obtain ⟨w, e1, e2, e3, e4, e5⟩ := th
  subst e1
  obtain ⟨ha0, ea, wa, ws, ca, cs, w11, w12, w13, sd0, a1, a2, a3, ⟨f4, a4⟩, ⟨g5, a5⟩, ⟨g6, a6⟩, a7, a8, a9, a10, a11, a12, a13, a14, a15, a16, a17⟩ := h
  obtain ⟨t1, t2, t3, t4, t5, t6, t7, t8, t9, t10, t11⟩ := a2
  obtain ⟨b1, b2, b3, b4, b5, b6, b7, b8, b9, b10, b11⟩ := a3
  have lT : T.2.1 ≤ T42.2.1 := by have := F.1; rw [c27] at this; exact this
  have e11 : v11 = w11 ∧ v12 = w12 ∧ v13 = w13 ∧ sd = sd0 := by
    unfold ObA at hO a1
    rw [hO] at a1
    have := Option.some.inj a1
    have := congrArg (fun z : Bool × xC => match z.2 with
      | .inr (_, l) => l
      | _ => []) this
    dsimp only at this
    have q1 := congrArg (fun l : List Value => l[11]?) this
    have q2 := congrArg (fun l : List Value => l[12]?) this
    have q3 := congrArg (fun l : List Value => l[13]?) this
    have q4 := congrArg (fun l : List Value => l[14]?) this
    have rf : ∀ a b : Option Nat, some (va_rf a) = some (va_rf b) → a = b := fun a b q => by
      cases a <;> cases b
      · rfl
      · cases q
      · cases q
      · have := Option.some.inj q
        injection this with this
        rw [this]
    refine ⟨rf _ _ q1, rf _ _ q2, rf _ _ q3, ?_⟩
    have := Option.some.inj q4
    injection this
  obtain ⟨rfl, rfl, rfl, rfl⟩ := e11
  have o42 : T42.1 o = _ := (F.2 o (by rw [c27]; exact b1) fun z => z).trans o27
  have k42 : ∀ x, x < T.2.1 → x ≠ o → T42.1 x = T.1 x := fun x q1 q2 => (F.2 x (by rw [c27]; exact q1) fun z => z).trans (f27 x q2)
  rw [if_neg (not_not_intro rfl), e3, Option.bind_some]
  obtain ⟨T57, x57, c57, f57, o57⟩ := pv_any (ci := 0) (k := 7) (v := .int (Int32.ofNat b)) o42
  have q8 : oQ T57 (some o) 0 8 = some (some (aRf A)) := by unfold oQ oF; simp [o57, vQ, va_rf]
  obtain ⟨f9, r1, r2⟩ := a9
  have nro : aRf A ≠ o := fun q => by rw [q, t1] at t7; cases t7
  have r57 : T57.1 (aRf A) = some (true, .inl (.int, 3, .inl f9)) := (f57 _ nro).trans ((k42 _ b7 nro).trans r1)
  have ld : ldA T57 (some (aRf A)) .int 0 = some (f9 0) := by
    unfold ldA aA
    simp -implicitDefEqProofs only [r57, if_true, Option.bind_some]
    rfl
  have st : stA T57 (some (aRf A)) .int 0 (f9 0 + 1) = some (xset T57.1 (aRf A) (true, .inl (.int, 3, .inl (upd f9 0 (f9 0 + 1)))), T57.2) := by
    unfold stA
    simp -implicitDefEqProofs only [r57]
    rfl
  refine Rn.st x57 (x2_le c57) ?_
  rw [q8, Option.bind_some, ld, Option.bind_some]
  refine Rn.st st ⟨Nat.le_refl _, Nat.le_refl _⟩ ?_
  have nwo : w ≠ o := fun q => by
    unfold oI oF at e2
    rw [q] at e2
    simp -implicitDefEqProofs only [o42] at e2
    rw [if_neg (by decide)] at e2
    cases e2
  have nwr : w ≠ aRf A := fun q => by
    unfold oI oF at e2
    rw [q] at e2
    simp -implicitDefEqProofs only [k42 _ b7 nro, r1] at e2
    cases e2
  obtain ⟨T9, e9⟩ : ∃ T9 : xF, T9 = (xset T57.1 (aRf A) (true, .inl (.int, 3, .inl (upd f9 0 (f9 0 + 1)))), T57.2) := ⟨_, rfl⟩
  rw [← e9]
  have ew : T9.1 w = T42.1 w := by
    rw [e9]
    exact (xset_no nwr).trans (f57 w nwo)
  have i5 : oI T9 (some w) 5 6 = some (Int32.ofNat k) := by
    rw [← e2]
    unfold oI oF
    simp -implicitDefEqProofs only [ew]
  rw [i5, Option.bind_some]
  have c9 : T9.2 = T42.2 := by rw [e9]; exact c57
  refine Rn.ret ⟨rfl, ?_, c9⟩
  have l9 : T9.2.1 = T42.2.1 := by rw [e9]; show T57.2.1 = _; rw [c57]
  have k9 : ∀ x, x < T.2.1 → x ≠ o → x ≠ aRf A → T9.1 x = T.1 x := fun x q1 q2 q3 => by
    rw [e9]
    exact (xset_no q3).trans ((f57 x q2).trans (k42 x q1 q2))
  have o9 := (show T9.1 o = T57.1 o by rw [e9]; exact xset_no (fun q => nro q.symm)).trans o57
  have r9 : T9.1 (aRf A) = some (true, .inl (.int, 3, .inl (upd f9 0 (f9 0 + 1)))) := by rw [e9]; exact xset_eq
  clear e9
  have F' : ∀ x, x < T.2.1 → aO A x ≠ 0 → aO A x ≠ 6 → T9.1 x = T.1 x := fun x q1 q2 q3 => k9 x q1 (fun r => q2 (r ▸ t1)) (fun r => q3 (r ▸ t7))
  have fz : ∀ x, x < T.2.1 → aO A x = 11 → T9.1 x = T.1 x ∧ aO A x = 11 := fun x q1 q2 => ⟨F' x q1 (by omega) (by omega), q2⟩
  have hl : T.2.1 ≤ T9.2.1 := by omega
  refine ⟨ha0, ea, wa, ws, ca, cs, v11, v12, v13, sd, o9, ⟨t1, t2, t3, t4, t5, t6, t7, t8, t9, t10, t11⟩, ⟨by omega, by omega, by omega, by omega, by omega, by omega, by omega, by omega, by omega, by omega, by omega⟩, ⟨f4, a4.lo (F' _ b2 (by omega) (by omega))⟩, ⟨g5, a5.lo fun x q => F' x (by simp -implicitDefEqProofs only [bk] at q; omega) (by have := t3 x q; omega) (by have := t3 x q; omega)⟩, ⟨g6, a6.lo fun x q => F' x (by simp -implicitDefEqProofs only [bk] at q; omega) (by have := t4 x q; omega) (by have := t4 x q; omega)⟩, a7.lo fun x q => F' x (by simp -implicitDefEqProofs only [bk] at q; omega) (by have := t5 x q; omega) (by have := t5 x q; omega), ?_, ⟨_, r9, fun j hj => ?_⟩, a10.fr (F' _ b8 (by omega) (by omega)) (F' _ b9 (by rcases t9 with q | q <;> omega) (by rcases t9 with q | q <;> omega)), a11.fr (F' _ b10 (by omega) (by omega)) (F' _ b11 (by rcases t11 with q | q <;> omega) (by rcases t11 with q | q <;> omega)), a12.mv hl fz, a13.mv hl fz, a14.mv hl fz, a15.mv hl fz, a16.mv hl fz, a17.mv hl fz⟩
  · obtain ⟨f, r1, r2⟩ := a8
    exact ⟨f, (F' _ b6 (by omega) (by omega)).trans r1, fun j hj => absurd hj (Nat.not_lt_zero j)⟩
  · show upd f9 0 (f9 0 + 1) j = upd (sR s) 0 (sR s 0 + 1) j
    unfold upd
    by_cases z : j = 0
    · rw [if_pos z, if_pos z, r2 0 (by decide)]
    · rw [if_neg z, if_neg z]; exact r2 j hj
end RF
theorem RO.i4 {T : xF} {rl l0 l1 w h a s : Nat} {fg fb : Option Nat} (k : RO T rl l0 l1 w h a s fg fb) : oI T (some rl) 1 4 = some (Int32.ofNat a) ∧ oI T (some rl) 1 5 = some (Int32.ofNat s) ∧ oQ T (some rl) 1 6 = some fg ∧ oQ T (some rl) 1 7 = some fb := by
  unfold RO at k
  refine ⟨?_, ?_, ?_, ?_⟩
  · unfold oI oF; simp [k, vI]
  · unfold oI oF; simp [k, vI]
  · unfold oQ oF; cases fg <;> simp [k, vQ, va_rf]
  · unfold oQ oF; cases fb <;> simp [k, vQ, va_rf]
section EV
variable {own : Nat → Nat} {G : xG} {t : Tpe} {fx : Fx} {tp rd l0 l1 : Nat} {Tb T : xF} {ow : Nat → Nat} {Y : Yx} {p : Nat}
/-- what the roll's readers ask, as long as its cells stay -/
theorem ya_evr (h : YA own G t fx tp rd Tb l0 l1 ow T Y p) (hw : YW Y) (hv : YV Y) {va : Nat} {T2 : xF} (hl : T.2.1 ≤ T2.2.1) (k : ∀ x, x < T.2.1 → (x < Tb.2.1 ∧ own x = 11 ∨ Tb.2.1 ≤ x ∧ 21 ≤ ow x ∧ ow x ≠ 22) → T2.1 x = T.1 x) : EvR G fx.1 va (enY Y) T2 := by
  obtain ⟨h1, h2, ⟨h3, h4, h5⟩, ⟨h6, h7, h8⟩, ⟨fg, fb, h9, h10, h11⟩, ⟨h12, h13, h14⟩, ⟨h15, h16, h17, h18⟩, h19, h20⟩ := h
  obtain ⟨⟨w1, w2, w3, w4, w5⟩, ⟨w6, w7⟩, w8, ⟨w9, w10⟩, ⟨w11, w12⟩, w13⟩ := hw
  obtain ⟨v1, v2, v3, v4, v5, v6, v7, v8, v9, v10, v11, v12⟩ := hv
  have ro : RO T2 fx.1 l0 l1 (yW Y) (yH Y) (yA Y) (yS Y) fg fb := (k _ h12 (Or.inr ⟨h14, by omega, by omega⟩)).trans h9
  obtain ⟨r4, r5, r6, r7⟩ := ro.i4
  -- a list, whatever comes
  have lst : ∀ {tl ta l : Nat} {v : Nat × (Nat → Nat)}, LB own Tb.2.1 ow tl ta T l v → 21 ≤ tl → tl ≠ 22 → 21 ≤ ta → ta ≠ 22 → ∃ a f w cap, LsAt T2 l a v.1 f w cap ∧ ∀ j, j < v.1 → BoxdAt T2 (f j) (Int32.ofNat (v.2 j)) := fun {tl ta l v} hL q1 q2 q3 q4 => by
    obtain ⟨a, f, w, cap, g1, g2, g3, g4, g5, g6, g7⟩ := hL
    refine ⟨a, f, w, cap, g1.fr (k _ g5 (Or.inr ⟨g3, by omega, by omega⟩)) (k _ g6 ?_), fun j hj => ?_⟩
    · rcases g4 with ⟨z1, z2⟩ | ⟨z1, z2, z3⟩
      · exact Or.inr ⟨z2, by omega, by omega⟩
      · exact Or.inl ⟨z2, z3⟩
    · obtain ⟨z1, z2, z3⟩ := g7 j hj
      refine z2.fr (k _ z1 ?_)
      rcases z3 with ⟨z4, z5⟩ | ⟨z4, z5⟩
      · exact Or.inr ⟨z5, by omega, by omega⟩
      · exact Or.inl ⟨z4, z5⟩
  have fr : ∀ {ms : List Nat} {fo : Option Nat} {e : Option Ex}, FR G Tb.2.1 ow T ms fo e → match e.map (fun e => sv ms e.2) with
      | none => fo = none
      | some r => fo ≠ none ∧ ∀ f, VaAt T2 va f → c_of G OFU T2 fo (some va) = some (r f) := fun {ms fo e} hF => by
    cases e with
    | none => exact hF
    | some e =>
      obtain ⟨f, lo, hi, g1, g2, g3, g4⟩ := hF
      subst g1
      have hh := g2.2.2.1
      refine ⟨fun z => (by cases z), fun f' hf => ?_⟩
      obtain ⟨-, ev⟩ := g2.2.2.2 T2 fun x a b => k x (by omega) (Or.inr ⟨by omega, by rw [g4 x a b]; decide, by rw [g4 x a b]; decide⟩)
      exact ev f' va hf OFU (by decide)
  obtain ⟨a0, f0, q0, cap0, L0, B0⟩ := lst h19 (by decide) (by decide) (by decide) (by decide)
  obtain ⟨a1, f1, q1, cap1, L1, B1⟩ := lst h20 (by decide) (by decide) (by decide) (by decide)
  refine ⟨ro.is, ro.i2, ro.i3, r4, r5, fun d hd => ?_, ⟨l0, ro.q0, L0.is, L0.size, L0.emp, fun j hj => ⟨some (f0 j), L0.get hj, (B0 j hj).cst, (B0 j hj).is, (B0 j hj).iv⟩⟩, ⟨fg, r6, fr h10⟩, ⟨fb, r7, fr h11⟩⟩
  unfold c_X2_warmth
  rw [ro.q1, Option.bind_some, if_neg (not_not_intro L1.is), L1.emp, Option.bind_some]
  show _ = some (if (yT Y).1 = 0 then (5 : Int32) else if d < 2000 then Int32.ofNat ((yT Y).2 (d % (yT Y).1)) else 0)
  by_cases z : (yT Y).1 = 0
  · rw [if_pos z, show ((yT Y).1 == 0) = true by rw [z]; rfl]
    rw [if_neg (by decide)]
  · have nz : ¬ Int32.ofNat (yT Y).1 = 0 := fun r => z ((oeq (n := (yT Y).1) (m := 0) (by omega) (by omega)).mp r)
    have ml := Nat.mod_lt d (show (yT Y).1 > 0 by omega)
    rw [if_neg z, if_pos hd, show ((yT Y).1 == 0) = false from beq_false_of_ne z]
    rw [if_pos (by rfl), L1.size]
    rw [Option.bind_some, if_neg nz, if_neg (not_not_intro L1.is), mod_n hd (by omega) (by omega), L1.get ml, Option.bind_some, if_neg (not_not_intro (B1 _ ml).cst), if_neg (not_not_intro (B1 _ ml).is), (B1 _ ml).iv, Option.bind_some]
end EV
