/-! plain law: what was sown, tried one by one -/
set_option maxRecDepth 100000
abbrev sow1 (g : Gw) (c k : Nat) : Gw := (gD g, gF g, upd (gK g) c (Int32.ofNat k), upd (gZ g) c 1, gY g)
abbrev gss (s : St) (c k : Nat) : Prop := gK (sG s) c = -1 ∧ k < eP (sE s) ∧ so s (sow1 (sG s) c k)
/-- the guesses below x that are so: how many, and which -/
def gcv (s : St) : Nat → Nat × (Nat → Nat)
  | 0 => (0, fun _ => 0)
  | x + 1 => if gss s (x / 4) (x % 4) then ((gcv s x).1 + 1, va_up (gcv s x).2 (gcv s x).1 (10 * (x / 4) + x % 4)) else gcv s x
theorem gcv_t {s : St} {c k : Nat} (hk : k < 4) (h : gss s c k) : gcv s (4 * c + k + 1) = ((gcv s (4 * c + k)).1 + 1, va_up (gcv s (4 * c + k)).2 (gcv s (4 * c + k)).1 (10 * c + k)) := by
  show (if gss s ((4 * c + k) / 4) ((4 * c + k) % 4) then _ else _) = _
  rw [show (4 * c + k) / 4 = c by omega, show (4 * c + k) % 4 = k by omega, if_pos h]
theorem gcv_f {s : St} {c k : Nat} (hk : k < 4) (h : ¬ gss s c k) : gcv s (4 * c + k + 1) = gcv s (4 * c + k) := by
  show (if gss s ((4 * c + k) / 4) ((4 * c + k) % 4) then _ else _) = _
  rw [show (4 * c + k) / 4 = c by omega, show (4 * c + k) % 4 = k by omega, if_neg h]
theorem gcv_end {s : St} {c : Nat} (hp : eP (sE s) ≤ 4) : gcv s (4 * c + eP (sE s)) = gcv s (4 * (c + 1)) := by
  have : ∀ d, eP (sE s) + d ≤ 4 → gcv s (4 * c + (eP (sE s) + d)) = gcv s (4 * c + eP (sE s)) := by
    intro d
    induction d with
    | zero => intro _; rfl
    | succ d ih =>
      intro h
      rw [← ih (by omega)]
      exact gcv_f (k := eP (sE s) + d) (by omega) (fun q => by have := q.2.1; omega)
  rw [← this (4 - eP (sE s)) (by omega)]
  exact congrArg _ (by omega)
theorem gcv_le {s : St} : ∀ x, (gcv s x).1 ≤ x := by
  intro x
  induction x with
  | zero => exact Nat.le_refl _
  | succ x ih =>
    show (if gss s (x / 4) (x % 4) then _ else _ : Nat × (Nat → Nat)).1 ≤ _
    split
    · exact Nat.succ_le_succ ih
    · omega
theorem gcv_val {s : St} : ∀ x i, i < (gcv s x).1 → ∃ c k, (gcv s x).2 i = 10 * c + k ∧ k < 4 ∧ 4 * c + k < x ∧ gss s c k := by
  intro x
  induction x with
  | zero => intro i hi; exact absurd hi (Nat.not_lt_zero i)
  | succ x ih =>
    intro i hi
    by_cases h : gss s (x / 4) (x % 4)
    · have e : gcv s (x + 1) = ((gcv s x).1 + 1, va_up (gcv s x).2 (gcv s x).1 (10 * (x / 4) + x % 4)) := if_pos h
      rw [e] at hi ⊢
      have hi : i < (gcv s x).1 + 1 := hi
      show ∃ c k, va_up (gcv s x).2 (gcv s x).1 (10 * (x / 4) + x % 4) i = _ ∧ _
      by_cases q : i = (gcv s x).1
      · rw [q, vup_at]
        exact ⟨_, _, rfl, by omega, by omega, h⟩
      · rw [vup_no q]
        obtain ⟨c, k, h1, h2, h3, h4⟩ := ih i (by omega)
        exact ⟨c, k, h1, h2, by omega, h4⟩
    · have e : gcv s (x + 1) = gcv s x := if_neg h
      rw [e] at hi ⊢
      obtain ⟨c, k, h1, h2, h3, h4⟩ := ih i hi
      exact ⟨c, k, h1, h2, by omega, h4⟩
section CM
variable {G : xG} {T T1 : xF} {o : Nat} {s s' : St} {A A' : Ad} {S S1 : MS} {g : Gw}
theorem Tr.sow (h : Tr G T o s A g) {c k : Nat} (hc : c < 30) : ∃ T1 T2, stA T (some (aTt A + 3)) .int (Int32.ofNat c) (Int32.ofNat k) = some T1 ∧ xle T T1 ∧ Tr G T1 o s A (gD g, gF g, upd (gK g) c (Int32.ofNat k), gZ g, gY g) ∧ stA T1 (some (aTt A + 4)) .int (Int32.ofNat c) 1 = some T2 ∧ xle T1 T2 ∧ Tr G T2 o s A (sow1 g c k) ∧ T2.2 = T.2 ∧ frm (bk (aTt A)) T T2 := by
  obtain ⟨T1, e1, f1, h1⟩ := h.2.stK hc (Int32.ofNat k)
  obtain ⟨T2, e2, f2, h2⟩ := h1.stZ hc 1
  have f1' := f1.up (F := bk (aTt A)) fun x q => by simp -implicitDefEqProofs only [bk]; omega
  have f2' := f2.up (F := bk (aTt A)) fun x q => by simp -implicitDefEqProofs only [bk]; omega
  have t1 := h.1.trb f1' h1
  exact ⟨T1, T2, e1, f1.le, t1, e2, f2.le, t1.1.trb f2' h2, f2.1.trans f1.1, f1'.tr f2'⟩
theorem t_sowing (h : CIa G T o s A) {c k : Nat} (hc : c < 30) : Rn T (c_X1_trySowing (some o) (Int32.ofNat c) (Int32.ofNat k) T) fun _ T' => Tr G T' o s A (sow1 (sG s) c k) ∧ T'.2 = T.2 ∧ frm (bk (aTt A)) T T' := by
  obtain ⟨g0, h0⟩ := h.tt
  unfold c_X1_trySowing
  simp -implicitDefEqProofs only [h.q3, h.q4, h0.is, Option.bind_some, not_true_eq_false, if_false, if_true]
  refine Rn.cl (t_bef h) fun v T1 _ ⟨k1, k2, k3, k4⟩ => ?_
  subst k1
  obtain ⟨T2, T3, e2, l2, h2, e3, l3, h3, c3, f3⟩ := k2.sow (k := k) hc
  simp -implicitDefEqProofs only [k2.1.q3, k2.2.o2, Option.bind_some, not_true_eq_false, if_false, if_true]
  refine Rn.st e2 l2 ?_
  simp -implicitDefEqProofs only [h2.1.q3, h2.2.o3, Option.bind_some, not_true_eq_false, if_false, if_true]
  refine Rn.st e3 l3 ?_
  exact Rn.ret ⟨h3, c3.trans k3, k4.tr f3⟩
/-- what is tried leaves the rest -/
theorem CIa.ep_own (h : CIa G T o s A) : ∀ x, ep (aTt A) (aBb A) (aVa A) x → aO A x = 1 ∨ aO A x = 2 ∨ aO A x = 3 := fun x q => by
  obtain ⟨_, _, t1, t2, t3, t4, t5, -⟩ := h.tg
  rcases q with q | q | q
  · have := t4 x q; omega
  · have := t3 x q; omega
  · rw [q, t2]; omega
theorem rtg_ge {N x : Nat} (h : N ≤ x) : aO (rtg A N) x = 12 := if_neg (by omega)
theorem CIa.ilk {N : Nat} (h : CIa G T o s (rtg A N)) (F : frm (ep (aTt A) (aBb A) (aVa A)) T T1) {l n : Nat} {val : Nat → Nat} (i : IL (rtg A N) T N l n val) : IL (rtg A N) T1 N l n val := i.keep (by rw [F.1]; exact Nat.le_refl _) fun x _ q2 => F.2 x fun r => by
  have := h.ep_own x r
  rcases q2 with q2 | q2
  · omega
  · rw [rtg_ge q2] at this; omega
theorem e_guess (ok : StOK s) (h : CIa G T o s A) {c k : Nat} (hc : c < 30) (hk : k < eP (sE s)) : Rn T (c_X1_trySowing (some o) (Int32.ofNat c) (Int32.ofNat k) T) fun _ T' => isO T' (some o) 0 = true ∧ T'.2 = T.2 ∧ Rn T' (c_X1_isSo G (some o) T') fun v T2 => v = (if so s (sow1 (sG s) c k) then 1 else 0) ∧ CIa G T2 o s A ∧ T2.2 = T.2 ∧ frm (ep (aTt A) (aBb A) (aVa A)) T T2 := by
  refine (t_sowing h hc).mono fun v T1 _ ⟨h1, h2, h3⟩ => ⟨h1.1.iso, h2, ?_⟩
  refine (e_isSo ok h1 ((ok.2.1.sow hk (by have := ok.1.2.1; omega)).le (by omega))).mono fun v T2 _ ⟨q1, ⟨g', q2⟩, q3⟩ => ⟨q1, q2.1, q3.1.trans h2, (h3.up fun x q => Or.inl q).tr q3⟩
theorem e_sowings (ok : StOK s) (h : CIa G T o s A) : Rn T (c_X1_sowings G (some o) T) fun v T' => v = some T.2.1 ∧ CIa G T' o s (rtg A T.2.1) ∧ IL (rtg A T.2.1) T' T.2.1 T.2.1 (gcv s (4 * eN (sE s))).1 (gcv s (4 * eN (sE s))).2 ∧ T'.2.1 ≤ T.2.1 + 241 ∧ T'.2.2 ≤ T.2.2 + 36003 := by
  have hn := ok.1.n30
  have hp4 : eP (sE s) ≤ 4 := ok.1.2.1
  unfold c_X1_sowings
  refine Rn.al ⟨Nat.le_succ _, Nat.le_add_right _ _⟩ ?_
  have lo : ∀ x, x < T.2.1 → (nO T 10 3 [.int 0, .null, .int 0]).1 x = T.1 x := fun x q => xset_no (by omega)
  have st1 : StA G (nO T 10 3 [.int 0, .null, .int 0]) := h.sta _ (Nat.le_succ _) fun x q _ => lo x q
  obtain ⟨d0, d1, g0, g1, l0, l1, o0, o1⟩ := sta_own h.sta
  refine Rn.cl (e_linit (l := T.2.1) xset_eq st1 (by rw [g0]; exact fun q => by cases q; omega)) fun v T2 _ ⟨e0, w0, q1, q2, q3⟩ => ?_
  rw [g0] at q1
  cases q1
  have h2 : CIa G T2 o s (rtg A T.2.1) := h.fresh (by rw [q3.1]; exact Nat.le_succ _) fun x q => (q3.2 x (by omega)).trans (lo x q)
  have n2 : T2.2.1 = T.2.1 + 1 := by rw [q3.1]; rfl
  have z2 : T2.2.2 = T.2.2 + 3 := by rw [q3.1]; rfl
  have i2 : IL (rtg A T.2.1) T2 T.2.1 T.2.1 0 (fun _ => 0) := ⟨d0, _, _, _, q2, Nat.le_refl _, by omega, by omega, Or.inl ⟨(if_pos l0).trans o0, rfl⟩, fun k hk => absurd hk (Nat.not_lt_zero k)⟩
  let Iv : Nat → xF → Prop := fun x T' => CIa G T' o s (rtg A T.2.1) ∧ IL (rtg A T.2.1) T' T.2.1 T.2.1 (gcv s x).1 (gcv s x).2 ∧ T'.2.1 ≤ T.2.1 + 1 + 2 * (gcv s x).1 ∧ T'.2.2 ≤ T.2.2 + 3 + 300 * (gcv s x).1
  refine loop_rule (σ := xF) (N := eN (sE s)) (fun c T' => Iv (4 * c) T') (fun k c T' => Rn T' (c_X1_sowings_10 G k (some o) (some T.2.1) (Int32.ofNat c) T') _) ?_ ?_ FU (by show eN (sE s) < 6000; omega) T2 ⟨h2, i2, by show T2.2.1 ≤ T.2.1 + 1 + 2 * 0; omega, by show T2.2.2 ≤ T.2.2 + 3 + 300 * 0; omega⟩
  · rintro f c T3 hc ⟨h3, i3, b3, b4⟩ K
    have c3 : c < 30 := by omega
    show Rn T3 (c_X1_sowings_10_b G (c_X1_sowings_10 G f) (some o) (some T.2.1) (Int32.ofNat c) T3) _
    unfold c_X1_sowings_10_b
    simp -implicitDefEqProofs only [h3.q1, h3.isr, h3.cells ok, leN hc hn, Option.bind_some, not_true_eq_false, if_false, if_true]
    refine loop_rule (σ := xF) (N := eP (sE s)) (fun k T' => Iv (4 * c + k) T') (fun f2 k T' => Rn T' (c_X1_sowings_23 G (c_X1_sowings_10 G f) f2 (some o) (some T.2.1) (Int32.ofNat c) (Int32.ofNat k) T') _) ?_ ?_ FU (by show eP (sE s) < 6000; omega) T3 ⟨h3, i3, b3, b4⟩
    · rintro f2 k T4 hk ⟨h4, i4, d3, d4⟩ K2
      have hk4 : k < 4 := by omega
      have cle := gcv_le (s := s) (4 * c + k)
      show Rn T4 (c_X1_sowings_23_b G (c_X1_sowings_10 G f) (c_X1_sowings_23 G (c_X1_sowings_10 G f) f2) (some o) (some T.2.1) (Int32.ofNat c) (Int32.ofNat k) T4) _
      unfold c_X1_sowings_23_b
      obtain ⟨lp, p1, p2, p3, p4, p5⟩ := h4.evt.pa
      have nle : ¬ Int32.ofNat (eP (sE s)) ≤ Int32.ofNat k := fun q => by have := (ole (n := eP (sE s)) (m := k) (by omega) (by omega)).mp q; omega
      simp -implicitDefEqProofs only [h4.q1, p1, p2, p3, nle, h4.q4, h4.cc.o2, h4.cc.ldK c3, h4.iso, c_X1_sowings_84, ofn1 k (by omega), Option.bind_some, not_true_eq_false, if_false, if_true]
      by_cases hkc : gK (sG s) c = -1
      · rw [if_pos hkc]
        refine Rn.cl (e_guess ok h4 c3 hk) fun v T5 _ ⟨r1, r2, r3⟩ => ?_
        rw [if_neg (not_not_intro r1)]
        refine Rn.cl r3 fun v T6 _ ⟨v1, h6, c6, f6⟩ => ?_
        have i6 := h4.ilk f6 i4
        have n6 : T6.2.1 = T4.2.1 := by rw [c6]
        have z6 : T6.2.2 = T4.2.2 := by rw [c6]
        by_cases hso : so s (sow1 (sG s) c k)
        · rw [if_pos hso] at v1
          subst v1
          have gt := gcv_t (s := s) hk4 ⟨hkc, hk, hso⟩
          rw [if_neg (by decide), show (10 : Int32) * Int32.ofNat c = Int32.ofNat (10 * c) from omul 10 c, oadd]
          refine Rn.cl (e_box h6.bxx (v := 10 * c + k) (by omega)) fun v T7 _ ⟨q, w1, w2, w3, w4, w5, w6, w7, w8⟩ => ?_
          subst w1
          have N4 : T.2.1 < T4.2.1 := by obtain ⟨_, _, _, _, _, _, r, _⟩ := i4; exact r
          have h7 : CIa G T7 o s (rtg A T.2.1) := h6.junk (E := fun _ => False) ⟨w6, fun x q1 _ => w4 x q1⟩ fun _ _ q => q.elim
          have i7 : IL (rtg A T.2.1) T7 T.2.1 T.2.1 _ _ := i6.keep w6 fun x q1 _ => w4 x q1
          rw [if_neg (not_not_intro i7.is)]
          refine Rn.cl (i7.add (by omega) w2 w3 (w5.imp (fun r => r.1) fun r => by omega)) fun v T8 hl8 ⟨i8, y1, y2, y3⟩ => ?_
          have h8 : CIa G T8 o s (rtg A T.2.1) := h7.junk (E := fun x => T.2.1 ≤ x) ⟨hl8.1, fun x q1 q2 => y1 x (by omega) q1⟩ fun x _ q => rtg_ge q
          refine K2 T8 ⟨h8, ?_, ?_, ?_⟩
          · show IL _ _ _ _ (gcv s (4 * c + k + 1)).1 (gcv s (4 * c + k + 1)).2
            rw [gt]; exact i8
          · show T8.2.1 ≤ T.2.1 + 1 + 2 * (gcv s (4 * c + k + 1)).1
            rw [gt]; show _ ≤ T.2.1 + 1 + 2 * ((gcv s (4 * c + k)).1 + 1); omega
          · show T8.2.2 ≤ T.2.2 + 3 + 300 * (gcv s (4 * c + k + 1)).1
            rw [gt]; show _ ≤ T.2.2 + 3 + 300 * ((gcv s (4 * c + k)).1 + 1); omega
        · rw [if_neg hso] at v1
          subst v1
          rw [if_pos rfl]
          have gf := gcv_f (s := s) hk4 (fun q : gss s c k => hso q.2.2)
          refine K2 T6 ?_
          show Iv (4 * c + k + 1) T6
          unfold Iv
          rw [gf]
          exact ⟨h6, i6, by omega, by omega⟩
      · rw [if_neg hkc]
        have gf := gcv_f (s := s) hk4 (fun q : gss s c k => hkc q.1)
        refine K2 T4 ?_
        show Iv (4 * c + k + 1) T4
        unfold Iv
        rw [gf]
        exact ⟨h4, i4, d3, d4⟩
    · rintro f2 T4 hh
      show Rn T4 (c_X1_sowings_23_b G (c_X1_sowings_10 G f) (c_X1_sowings_23 G (c_X1_sowings_10 G f) f2) (some o) (some T.2.1) (Int32.ofNat c) (Int32.ofNat (eP (sE s))) T4) _
      unfold c_X1_sowings_23_b
      obtain ⟨lp, p1, p2, p3, p4, p5⟩ := hh.1.evt.pa
      simp -implicitDefEqProofs only [hh.1.q1, p1, p2, p3, Int32.le_refl, ofn1 c (by omega), Option.bind_some, not_true_eq_false, if_false, if_true]
      refine K T4 ?_
      show Iv (4 * (c + 1)) T4
      unfold Iv
      rw [← gcv_end hp4]
      exact hh
  · rintro f T3 ⟨h3, i3, b3, b4⟩
    show Rn T3 (c_X1_sowings_10_b G (c_X1_sowings_10 G f) (some o) (some T.2.1) (Int32.ofNat (eN (sE s))) T3) _
    unfold c_X1_sowings_10_b
    have cle := gcv_le (s := s) (4 * eN (sE s))
    simp -implicitDefEqProofs only [h3.q1, h3.isr, h3.cells ok, Int32.le_refl, Option.bind_some, not_true_eq_false, if_false, if_true]
    exact Rn.ret ⟨rfl, h3, i3, by omega, by omega⟩
end CM
