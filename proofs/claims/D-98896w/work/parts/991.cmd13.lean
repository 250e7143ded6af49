/-! plain law: image, restore, on both sides -/
set_option maxRecDepth 100000
section RB
variable {G : xG} {T T' : xF} {o : Nat} {s : St} {A : Ad} {S : MS}
/-- a list that is copied out of a frozen or a known one, into the next cell -/
theorem e_newlist (hst : StA G T) {l0 a0 n cap0 : Nat} {f : Nat → Nat} {w0 : Bool} (hL : LsAt T l0 a0 n f w0 cap0) (hl0 : l0 < T.2.1) (ha0 : a0 < T.2.1) (ho : ∀ k, k < n → f k < T.2.1 ∧ AO T (f k)) : Rn (nO T 10 3 [.int 0, .null, .int 0]) (c_J2_init_2 G (some T.2.1) (some l0) (nO T 10 3 [.int 0, .null, .int 0])) fun _ T' => ∃ a1 w1 cap1, (T.2.1 < a1 ∧ a1 < T'.2.1 ∨ cap1 = 0 ∧ gS G 1 = some a1) ∧ LsAt T' T.2.1 a1 n f w1 cap1 ∧ (∀ x, x < T.2.1 → T'.1 x = T.1 x) ∧ T'.2.1 = T.2.1 + 2 ∧ T'.2.2 = T.2.2 + 3 + n := by
  have lo : ∀ x, x < T.2.1 → (nO T 10 3 [.int 0, .null, .int 0]).1 x = T.1 x := fun x q => xset_no (by omega)
  have st1 : StA G (nO T 10 3 [.int 0, .null, .int 0]) := hst.mono (Nat.le_succ _) fun x q _ => lo x q
  obtain ⟨d0, d1, w0', w1', F0, F1, h1, h2, h3, h4, h5, h6⟩ := hst
  refine (e_lcopy (T := nO T 10 3 [.int 0, .null, .int 0]) (l := T.2.1) xset_eq st1 (Nat.lt_succ_self _) (hL.fr (lo _ hl0) (lo _ ha0)) (by omega) (Nat.lt_succ_of_lt ha0) (by omega) (Nat.lt_succ_of_lt hl0) (fun k hk => ⟨Nat.lt_succ_of_lt (ho k hk).1, (ho k hk).2.mono (lo _ (ho k hk).1), by have := (ho k hk).1; omega⟩) (by rw [h2]; exact fun q => by cases q; omega)).mono fun _ T' _ ⟨a1, w1, cap1, q1, q2, q3, q4, q5⟩ => ?_
  have e1 : (nO T 10 3 [.int 0, .null, .int 0]).2.1 = T.2.1 + 1 := rfl
  have e2 : (nO T 10 3 [.int 0, .null, .int 0]).2.2 = T.2.2 + 3 := rfl
  rw [e1] at q1 q4
  rw [e2] at q5
  refine ⟨a1, w1, cap1, ?_, q2, fun x hx => (q3.2 x (by rw [e1]; omega) (by omega)).trans (lo x hx), q4, q5⟩
  rcases q1 with q | q
  · exact Or.inl ⟨by omega, by omega⟩
  · exact Or.inr q
theorem pv_any {T : xF} {o ci k : Nat} {fs : List Value} {v : Value} (h : T.1 o = some (true, .inr (ci, fs))) : ∃ T', pV T (some o) ci k v = some T' ∧ T'.2 = T.2 ∧ (∀ x, x ≠ o → T'.1 x = T.1 x) ∧ T'.1 o = some (true, .inr (ci, fs.set k v)) := ⟨_, pV_o h, rfl, fun x q => xset_no q, xset_eq⟩
theorem k_image (ok : StOK s) (h : CIa G T o s A) (m : MI S s) : Jn T (c_X1_image G (some o) T) (m_image S) fun _ T' S' => Nx G o T s T' S' := by
  obtain ⟨S9, x1, x2⟩ := v_image ok m
  have h' := h
  obtain ⟨ha0, ea, wa, ws, ca, cs, v11, v12, v13, sd, a1, a2, a3, a4, a5, a6, a7, a8, a9, a10, a11, a12, a13, a14, a15, a16, a17⟩ := h'
  obtain ⟨t1, t2, t3, t4, t5, t6, t7, t8, t9, t10, t11⟩ := a2
  obtain ⟨b1, b2, b3, b4, b5, b6, b7, b8, b9, b10, b11⟩ := a3
  obtain ⟨ea', ws', cs', LS, HS, _, se⟩ := h.sels
  obtain ⟨ha', wa', ca', LA, HA, _, he⟩ := h.elems
  obtain ⟨d0, d1, g0, g1, l0, l1, o0, o1⟩ := sta_own h.sta
  have hn40 : (sH s).1 ≤ 40 := ok.2.2.1.1
  have hs8 : (sS s).1 ≤ 8 := ok.2.2.2.1.1
  have no : ∀ x, aO A x ≠ 0 → x ≠ o := fun x q r => q (r ▸ t1)
  unfold c_X1_image
  simp -implicitDefEqProofs only [h.q4, h.cc.is, Option.bind_some, not_true_eq_false, if_false, if_true]
  refine Jn.cl (e_copy h.cc b5) fun v T1 _ ⟨p1, p2, p3, p4, p5⟩ => ?_
  subst p1
  obtain ⟨T2, e2, c2, f2, o2⟩ := (ObA.fr (T' := T1) a1 (p2 o b1)).pv 11 (va_rf (some T.2.1))
  refine Jn.st e2 (x2_le c2) ?_
  have n2 : T2.2.1 = T.2.1 + 5 := by rw [c2, p3]
  have lo2 : ∀ x, x < T.2.1 → x ≠ o → T2.1 x = T.1 x := fun x q1 q2 => (f2 x q2).trans (p2 x q1)
  have s2 : StA G T2 := h.sta T2 (by omega) fun x q1 q2 => lo2 x q1 (no x (by omega))
  have LA2 := LA.fr (T' := T2) (lo2 _ b8 (no _ (by omega))) (lo2 _ b9 (no _ (by rcases t9 with q | q <;> omega)))
  refine Jn.al ⟨Nat.le_succ _, Nat.le_add_right _ _⟩ ?_
  have q9 : oQ (nO T2 10 3 [.int 0, .null, .int 0]) (some o) 0 9 = some (some (aAl A)) := by
    have : (nO T2 10 3 [.int 0, .null, .int 0]).1 o = _ := (xset_no (show o ≠ T2.2.1 by omega)).trans o2
    unfold oQ oF; simp [this, vQ, va_rf]
  rw [q9, Option.bind_some]
  have ao : ∀ (Tx : xF) (x : Nat), AO T x → x < T.2.1 → x ≠ o → (∀ y, y < T.2.1 → y ≠ o → Tx.1 y = T.1 y) → AO Tx x := fun Tx x q1 q2 q3 q4 => q1.mono (q4 x q2 q3)
  have heo : ∀ k, k < (sH s).1 → ha' k ≠ o := fun k hk => (HA k hk).1.ne (by omega) fun _ q => q.nn
  have seo : ∀ k, k < (sS s).1 → ea' k ≠ o := fun k hk => (HS k hk).1.ne (by omega) fun _ q => q.nn
  refine Jn.cl (e_newlist s2 LA2 (by omega) (by omega) fun k hk => ⟨by have := (he k hk).1; omega, ao T2 _ (he k hk).2.1 (he k hk).1 (heo k hk) lo2⟩) fun v T4 _ ⟨aa, w4, cap4, r1, r2, r3, r4, r5⟩ => ?_
  have lo4 : ∀ x, x < T.2.1 → x ≠ o → T4.1 x = T.1 x := fun x q1 q2 => (r3 x (by omega)).trans (lo2 x q1 q2)
  have o4 : T4.1 o = _ := (r3 o (by omega)).trans o2
  obtain ⟨T5, e5, c5, f5, o5⟩ := pv_any (k := 12) (v := va_rf (some T2.2.1)) o4
  refine Jn.st e5 (x2_le c5) ?_
  have lo5 : ∀ x, x < T.2.1 → x ≠ o → T5.1 x = T.1 x := fun x q1 q2 => (f5 x q2).trans (lo4 x q1 q2)
  have n5 : T5.2.1 = T.2.1 + 7 := by rw [c5, r4, n2]
  have s5 : StA G T5 := h.sta T5 (by omega) fun x q1 q2 => lo5 x q1 (no x (by omega))
  have LS5 := LS.fr (T' := T5) (lo5 _ b10 (no _ (by omega))) (lo5 _ b11 (no _ (by rcases t11 with q | q <;> omega)))
  refine Jn.al ⟨Nat.le_succ _, Nat.le_add_right _ _⟩ ?_
  have q10 : oQ (nO T5 10 3 [.int 0, .null, .int 0]) (some o) 0 10 = some (some (aSl A)) := by
    have : (nO T5 10 3 [.int 0, .null, .int 0]).1 o = _ := (xset_no (show o ≠ T5.2.1 by omega)).trans o5
    unfold oQ oF; simp [this, vQ, va_rf]
  rw [q10, Option.bind_some]
  refine Jn.cl (e_newlist s5 LS5 (by omega) (by omega) fun k hk => ⟨by have := (se k hk).1; omega, ao T5 _ (se k hk).2.1 (se k hk).1 (seo k hk) lo5⟩) fun v T7 _ ⟨ab, w7, cap7, u1, u2, u3, u4, u5⟩ => ?_
  have o7 : T7.1 o = _ := (u3 o (by omega)).trans o5
  obtain ⟨T8, e8, c8, f8, o8⟩ := pv_any (k := 13) (v := va_rf (some T5.2.1)) o7
  refine Jn.st e8 (x2_le c8) ?_
  have lo8 : ∀ x, x < T.2.1 → x ≠ o → T8.1 x = T.1 x := fun x q1 q2 => (f8 x q2).trans ((u3 x (by omega)).trans (lo5 x q1 q2))
  have n8 : T8.2.1 = T.2.1 + 9 := by rw [c8, u4, n5]
  have l8 : T.2.1 ≤ T8.2.1 := by omega
  have ow : ∀ x, x < T.2.1 → (if x < T.2.1 then aO A x else 11) = aO A x := fun x q => if_pos q
  have fz : ∀ x, x < T.2.1 → aO A x = 11 → T8.1 x = T.1 x ∧ (if x < T.2.1 then aO A x else 11) = 11 := fun x q1 q2 => ⟨lo8 x q1 (no x (by omega)), (ow x q1).trans q2⟩
  have g8 : GrAt T8 T.2.1 o (sG s) := p5.lo fun x q => by
    simp -implicitDefEqProofs only [bk] at q
    rw [f8 x (by omega), u3 x (by omega), f5 x (by omega), r3 x (by omega), f2 x (by omega)]
  have aal : aa < T8.2.1 ∧ aa ≠ o ∧ (T.2.1 ≤ aa ∨ aO A aa = 11) ∧ T8.1 aa = T4.1 aa := by
    rcases r1 with q | ⟨q, q'⟩
    · exact ⟨by omega, by omega, Or.inl (by omega), by rw [f8 aa (by omega), u3 aa (by omega), f5 aa (by omega)]⟩
    · rw [g1] at q'; cases q'
      exact ⟨by omega, no _ (by omega), Or.inr o1, by rw [f8 _ (no _ (by omega)), u3 _ (by omega), f5 _ (no _ (by omega))]⟩
  have abl : ab < T8.2.1 ∧ ab ≠ o ∧ (T.2.1 ≤ ab ∨ aO A ab = 11) ∧ T8.1 ab = T7.1 ab := by
    rcases u1 with q | ⟨q, q'⟩
    · exact ⟨by omega, by omega, Or.inl (by omega), f8 _ (by omega)⟩
    · rw [g1] at q'; cases q'
      exact ⟨by omega, no _ (by omega), Or.inr o1, f8 _ (no _ (by omega))⟩
  have A8 : LsAt T8 T2.2.1 aa (sH s).1 ha' w4 cap4 := r2.fr (by rw [f8 _ (by omega), u3 _ (by omega), f5 _ (by omega)]) aal.2.2.2
  have B8 : LsAt T8 T5.2.1 ab (sS s).1 ea' w7 cap7 := u2.fr (f8 _ (by omega)) abl.2.2.2
  have fzz : ∀ (P : xF → Prop), (∀ T' : xF, T8.2.1 ≤ T'.2.1 → (∀ x, x < T8.2.1 → (T.2.1 ≤ x ∨ aO A x = 11) → T'.1 x = T8.1 x) → P T') → Fz (fun x => if x < T.2.1 then aO A x else 11) T8 P := by
    intro P k T' q1 q2
    refine k T' q1 fun x hx hq => q2 x hx ?_
    show (if x < T.2.1 then aO A x else 11) = 11
    rcases hq with hq | hq
    · rw [if_neg (by omega)]
    · by_cases c : x < T.2.1
      · rw [if_pos c]; exact hq
      · rw [if_neg c]
  have fin : CIa G T8 o (sE s, sG s, sH s, sS s, some (sG s, sH s, sS s), sB s, sT s, sF_ s, sR s) (fun x => if x < T.2.1 then aO A x else 11, aRl A, aVa A, aBb A, aTt A, aCc A, aTp A, aRf A, aAl A, aAa A, aSl A, aSa A) := by
    refine h.re (own' := fun x => if x < T.2.1 then aO A x else 11) (cc' := aCc A) (al' := aAl A) (aa' := aAa A) (sl' := aSl A) (sa' := aSa A) (g' := sG s) (h' := sH s) (s' := sS s) (i' := some (sG s, sH s, sS s)) (v11 := some T.2.1) (v12 := some T2.2.1) (v13 := some T5.2.1) (sd := sd) l8 lo8 ow o8 ⟨a7.lo fun x q => lo8 x (by simp -implicitDefEqProofs only [bk] at q; omega) (no x (by have := t5 x q; omega)), fun x q => (ow x (by simp -implicitDefEqProofs only [bk] at q; omega)).trans (t5 x q), by omega⟩ ⟨a10.fr (lo8 _ b8 (no _ (by omega))) (lo8 _ b9 (no _ (by rcases t9 with q | q <;> omega))), (ow _ b8).trans t8, ?_, by omega, by omega⟩ ⟨a11.fr (lo8 _ b10 (no _ (by omega))) (lo8 _ b11 (no _ (by rcases t11 with q | q <;> omega))), (ow _ b10).trans t10, ?_, by omega, by omega⟩ (a15.mv l8 fz) (a16.mv l8 fz) ?_
    · rcases t9 with q | q
      · exact Or.inl ((ow _ b9).trans q)
      · exact Or.inr ⟨(ow _ b9).trans q.1, q.2⟩
    · rcases t11 with q | q
      · exact Or.inl ((ow _ b11).trans q)
      · exact Or.inr ⟨(ow _ b11).trans q.1, q.2⟩
    · refine ⟨T.2.1, T2.2.1, aa, T5.2.1, ab, ha', ea', w4, w7, cap4, cap7, rfl, rfl, rfl, fzz _ fun T' q1 q2 => g8.lo fun x q => q2 x (by simp -implicitDefEqProofs only [bk] at q; omega) (Or.inl (by simp -implicitDefEqProofs only [bk] at q; omega)), by omega, fzz _ fun T' q1 q2 => A8.fr (q2 _ (by omega) (Or.inl (by omega))) (q2 _ aal.1 aal.2.2.1), fzz _ fun T' q1 q2 => B8.fr (q2 _ (by omega) (Or.inl (by omega))) (q2 _ abl.1 abl.2.2.1), by omega, aal.1, by omega, abl.1, HA.mv l8 fz, HS.mv l8 fz⟩
  rw [x1]
  refine Jn.ret ⟨_, ?_, ⟨_, fin⟩, x2, ?_⟩
  · exact ⟨ok.1, ok.2.1, ok.2.2.1, ok.2.2.2.1, fun g h x q => by cases q; exact ⟨ok.2.1, ok.2.2.1, ok.2.2.2.1⟩, ok.2.2.2.2.2⟩
  · unfold Bud
    have z1 : T8.2.2 = T.2.2 + 126 + 3 + (sH s).1 + 3 + (sS s).1 := by rw [c8, u5, c5, r5, c2, p4]
    show T8.2.1 + 500 * sT s ≤ _ ∧ T8.2.2 + 4000 * sT s ≤ _
    omega
theorem k_restore (ok : StOK s) (h : CIa G T o s A) (m : MI S s) : Jn T (c_X1_restore G (some o) T) (m_restore S) fun r T' q => r = q.1 ∧ Nx G o T s T' q.2 := by
  obtain ⟨v11, v12, v13, sd, ob, im⟩ := h.img
  have q11 : oQ T (some o) 0 11 = some v11 := by unfold oQ oF; cases v11 <;> simp [show T.1 o = _ from ob, vQ, va_rf]
  unfold c_X1_restore
  rw [q11, Option.bind_some]
  cases hi : sI s with
  | none =>
    rw [hi] at im
    rw [if_pos (show v11 = none from im)]
    have m0 := m.th 0
    have a7 := m0.2.2.2.2.2.2.1
    rw [hi] at a7
    unfold m_restore
    rw [if_pos a7]
    exact Jnum ok h m0 (by omega) (by omega) rfl
  | some q =>
    obtain ⟨g, h2, x2⟩ := q
    rw [hi] at im
    obtain ⟨gi, hl_, hb, sl, sb, ha, ea, wa, ws, c1, c2, i1, i2, i3, i4, i5, i6, i7, i8, i9, i10, i11, i12, i13⟩ := im
    subst i1
    rw [if_neg (fun q => by cases q)]
    obtain ⟨r9, y1, y2, y3⟩ := v_restore ok m hi
    have okI := ok.2.2.2.2.1 g h2 x2 hi
    have gg := i4.now
    simp -implicitDefEqProofs only [q11, gg.is, Option.bind_some, not_true_eq_false, if_false, if_true]
    refine Jn.cl (e_copy gg i5) fun v T1 _ ⟨p1, p2, p3, p4, p5⟩ => ?_
    subst p1
    obtain ⟨T3, e3, ⟨A3, h3⟩, c3⟩ := h.newcc p2 p3 p5
    refine Jn.st e3 (x2_le c3) ?_
    obtain ⟨b1, b2, b3, b4, b5, b6, b7, b8, b9, b10, b11⟩ := h.bn
    obtain ⟨w11, w12, w13, sd3, ob3, im3⟩ := h3.img
    rw [show sI (grown s g) = some (g, h2, x2) from hi] at im3
    obtain ⟨gi3, hl3, hb3, sl3, sb3, ha3, ea3, wa3, ws3, c13, c23, j1, j2, j3, j4, j5, j6, j7, j8, j9, j10, j11, j12, j13⟩ := im3
    subst j1 j2 j3
    obtain ⟨_, _, tg3⟩ := h3.tg
    have heo : ∀ k, k < h2.1 → ha3 k + 5 ≤ T3.2.1 ∧ AO T3 (ha3 k) := fun k hk => ⟨(j12 k hk).2, (j12 k hk).1.now.ao⟩
    have seo : ∀ k, k < x2.1 → ea3 k < T3.2.1 ∧ AO T3 (ea3 k) := fun k hk => ⟨(j13 k hk).2, fun T' e => by
      obtain ⟨f, r1, -⟩ := (j13 k hk).1.now
      exact asg_i (e.trans r1)⟩
    refine Jn.al ⟨Nat.le_succ _, Nat.le_add_right _ _⟩ ?_
    have o3 : T3.1 o = _ := ob3
    obtain ⟨d1, d2, d3, d4, d5, d6, d7, d8, d9, d10, d11⟩ := h3.bn
    have q12 : oQ (nO T3 10 3 [.int 0, .null, .int 0]) (some o) 0 12 = some (some hl3) := by
      have : (nO T3 10 3 [.int 0, .null, .int 0]).1 o = _ := (xset_no (show o ≠ T3.2.1 by omega)).trans o3
      unfold oQ oF; simp [this, vQ, va_rf]
    rw [q12, Option.bind_some]
    refine Jn.cl (e_newlist (h3.sta.now) j6.now j8 j9 fun k hk => ⟨by have := (heo k hk).1; omega, (heo k hk).2⟩) fun v T4 _ ⟨aa, w4, cap4, r1, r2, r3, r4, r5⟩ => ?_
    obtain ⟨e0, e1, g0, g1, l0, l1, o0, o1⟩ := sta_own h3.sta
    obtain ⟨T5, x5, ⟨A5, h5⟩, c5⟩ := h3.newal (h2 := h2) (by omega) r3 r2 ⟨Nat.le_refl _, by omega⟩ (by
      rcases r1 with q | ⟨q, q'⟩
      · exact Or.inl ⟨by omega, q.2⟩
      · rw [g1] at q'; cases q'
        exact Or.inr ⟨l1, o1, q⟩) j12
    refine Jn.st x5 (x2_le c5) ?_
    obtain ⟨z11, z12, z13, sd5, ob5, im5⟩ := h5.img
    rw [show sI (sE (grown s g), sG (grown s g), h2, sS (grown s g), sI (grown s g), sB (grown s g), sT (grown s g), sF_ (grown s g), sR (grown s g)) = some (g, h2, x2) from hi] at im5
    obtain ⟨gi5, hl5, hb5, sl5, sb5, ha5, ea5, wa5, ws5, c15, c25, m1, m2, m3, m4, m5, m6, m7, m8, m9, m10, m11, m12, m13⟩ := im5
    subst m1 m2 m3
    have seo5 : ∀ k, k < x2.1 → ea5 k < T5.2.1 ∧ AO T5 (ea5 k) := fun k hk => ⟨(m13 k hk).2, fun T' e => by
      obtain ⟨f, r1, -⟩ := (m13 k hk).1.now
      exact asg_i (e.trans r1)⟩
    obtain ⟨n1, n2, n3, n4, n5, n6, n7, n8, n9, n10, n11⟩ := h5.bn
    refine Jn.al ⟨Nat.le_succ _, Nat.le_add_right _ _⟩ ?_
    have o5 : T5.1 o = _ := ob5
    have q13 : oQ (nO T5 10 3 [.int 0, .null, .int 0]) (some o) 0 13 = some (some sl5) := by
      have : (nO T5 10 3 [.int 0, .null, .int 0]).1 o = _ := (xset_no (show o ≠ T5.2.1 by omega)).trans o5
      unfold oQ oF; simp [this, vQ, va_rf]
    rw [q13, Option.bind_some]
    refine Jn.cl (e_newlist (h5.sta.now) m7.now m10 m11 seo5) fun v T6 _ ⟨ab, w6, cap6, u1, u2, u3, u4, u5⟩ => ?_
    obtain ⟨e0', e1', g0', g1', l0', l1', o0', o1'⟩ := sta_own h5.sta
    obtain ⟨T7, x7, ⟨A7, h7⟩, c7⟩ := h5.newsl (s' := x2) (by omega) u3 u2 ⟨Nat.le_refl _, by omega⟩ (by
      rcases u1 with q | ⟨q, q'⟩
      · exact Or.inl ⟨by omega, q.2⟩
      · rw [g1'] at q'; cases q'
        exact Or.inr ⟨l1', o1', q⟩) m13
    refine Jn.st x7 (x2_le c7) ?_
    rw [y1]
    obtain ⟨r9a, r9b⟩ := r9
    dsimp only at y2 y3
    subst y2
    have k40 : h2.1 ≤ 40 := okI.2.1.1
    have k8 : x2.1 ≤ 8 := okI.2.2.1
    refine Jn.ret ⟨rfl, _, ?_, ⟨_, h7⟩, y3, ?_⟩
    · exact ⟨ok.1, okI.1, okI.2.1, okI.2.2, ok.2.2.2.2⟩
    · unfold Bud
      have z1 : T7.2.1 = T.2.1 + 9 := by rw [c7, u4, c5, r4, c3, p3]
      have z2 : T7.2.2 = T.2.2 + 126 + 3 + h2.1 + 3 + x2.1 := by rw [c7, u5, c5, r5, c3, p4]
      show T7.2.1 + 500 * sT s ≤ _ ∧ T7.2.2 + 4000 * sT s ≤ _
      omega
end RB
