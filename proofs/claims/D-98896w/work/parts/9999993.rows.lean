/-! plain law: a row of forms, from its first to its end -/
set_option maxRecDepth 100000
/-- a row in the making: all of it between s0 and b -/
def ChI (G : xG) (T : xF) (ch s0 b n : Nat) (rs : Nat → Sem) (os : Nat → Nat) (nd : Nat) : Prop :=
  ∃ l a sb ba cap bn fa, ∃ lo hi : Nat → Nat, ChC T ch l a sb ba n cap bn fa os ∧ b ≤ T.2.1 ∧ (∀ y, (y = ch ∨ y = l ∨ y = a ∨ y = sb ∨ y = ba) → s0 ≤ y ∧ y < b ∧ ∀ k, k < n → ¬ (lo k ≤ y ∧ y < hi k)) ∧ ∀ k, k < n → FmOK G T (fa k) (lo k) (hi k) (rs k) nd ∧ s0 ≤ lo k ∧ hi k ≤ b
theorem ChC.sb_ {T : xF} {ch l a sb ba n cap bn : Nat} {fa os : Nat → Nat} (h : ChC T ch l a sb ba n cap bn fa os) : SbC T sb ba (n - 1) bn os := ⟨h.2.2.1, h.2.2.2.1, by have := h.2.2.2.2.1; omega, h.2.2.2.2.2.1, h.2.2.2.2.2.2.1⟩
section CI
variable {G : xG} {T T' : xF} {ch s0 b n nd : Nat} {rs : Nat → Sem} {os : Nat → Nat}
theorem ChI.fr (h : ChI G T ch s0 b n rs os nd) (hl : T.2.1 ≤ T'.2.1) (k : ∀ x, s0 ≤ x → x < T.2.1 → T'.1 x = T.1 x) : ChI G T' ch s0 b n rs os nd := by
  obtain ⟨l, a, sb, ba, cap, bn, fa, lo, hi, h1, h2, h3, h4⟩ := h
  refine ⟨l, a, sb, ba, cap, bn, fa, lo, hi, h1.fr fun y hy => k y (h3 y hy).1 (by have := (h3 y hy).2.1; omega), by omega, h3, fun j hj => ?_⟩
  obtain ⟨g1, g2, g3⟩ := h4 j hj
  exact ⟨g1.mv hl fun x x1 x2 => k x (by omega) (by omega), g2, g3⟩
theorem ChI.is (h : ChI G T ch s0 b n rs os nd) : isO T (some ch) 6 = true := by
  obtain ⟨l, a, sb, ba, cap, bn, fa, lo, hi, h1, -⟩ := h
  exact h1.is
theorem ChI.end_ (h : ChI G T ch s0 b n rs os nd) (hn : n ≤ 700) (h0 : 0 < n) : ∃ fo, c_X7_plain T (some ch) = some (some fo) ∧ FmOK G T fo s0 T.2.1 (chk rs os (n - 1)) (nd + 1) := by
  obtain ⟨l, a, sb, ba, cap, bn, fa, lo, hi, h1, h2, h3, h4⟩ := h
  have hc : cst T (some (fa 0)) [6, 7, 8, 9] = true := by
    obtain ⟨w, c, fs, e, hc⟩ := (h4 0 h0).1.now
    exact fm_cst e hc
  have e0 : c_J2_get T (some l) 0 = some (some (fa 0)) := h1.2.1.get (k := 0) h0
  unfold c_X7_plain
  rw [h1.q0, Option.bind_some, if_neg (not_not_intro h1.2.1.is), h1.2.1.size, Option.bind_some]
  by_cases c : n = 1
  · subst c
    obtain ⟨g1, g2, g3⟩ := h4 0 h0
    refine ⟨fa 0, ?_, g1.up g2 (by omega) (Nat.le_refl _) (Nat.le_succ _)⟩
    rw [if_pos (show Int32.ofNat 1 = 1 from rfl), Option.bind_some, if_neg (not_not_intro h1.2.1.is), e0, Option.bind_some, if_neg (not_not_intro hc)]
  · refine ⟨ch, ?_, (h3 ch (Or.inl rfl)).1, by have := (h3 ch (Or.inl rfl)).2.1; omega, Nat.le_refl _, fun T2 q => ⟨?_, fun f va hv m hm => ?_⟩⟩
    · rw [if_neg (show ¬ Int32.ofNat n = 1 from fun q => c ((oeq (n := n) (m := 1) (by omega) (by omega)).mp q))]
    · exact ⟨_, _, _, (q ch (h3 ch (Or.inl rfl)).1 (by have := (h3 ch (Or.inl rfl)).2.1; omega)).trans h1.1, Or.inl rfl⟩
    · obtain ⟨m, rfl⟩ : ∃ k, m = k + 1 := ⟨m - 1, by omega⟩
      have h1' := h1.fr (T' := T2) fun y hy => q y (h3 y hy).1 (by have := (h3 y hy).2.1; omega)
      refine h1'.of_ hn h0 (rs := rs) (f := f) fun k hk => ?_
      obtain ⟨g1, g2, g3⟩ := h4 k hk
      obtain ⟨a1, a2⟩ := g1.2.2.2 T2 fun x x1 x2 => q x (by omega) (by omega)
      exact ⟨a1, a2 f va hv m (by omega)⟩
/-- the first of a row -/
theorem e_cinit (hc : T.1 ch = some (true, .inr (6, [.null, .null]))) (hc1 : s0 ≤ ch) (hst : StA G T) {fo lo hi : Nat} {r : Sem} (hf : FmOK G T fo lo hi r nd) (h1 : ch < lo) (hr : rs 0 = r) : Rn T (c_X7_init G (some ch) (some fo) T) fun _ T' => ChI G T' ch s0 T'.2.1 1 rs os nd ∧ (∀ x, x < T.2.1 → x ≠ ch → T'.1 x = T.1 x) ∧ T.2.1 ≤ T'.2.1 ∧ T'.2.1 ≤ T.2.1 + 4 ∧ T'.2.2 ≤ T.2.2 + 40 := by
  have hlo := hf.1
  have hlh := hf.2.1
  have hhi := hf.2.2.1
  obtain ⟨d0', d1, wd0, wd1, F0, F1, s1, s2, s3, s4, s5, s6⟩ := hst
  have hst : StA G T := ⟨d0', d1, wd0, wd1, F0, F1, s1, s2, s3, s4, s5, s6⟩
  unfold c_X7_init
  rw [if_neg (show ¬ ¬ (some ch).isSome = true from fun q => q rfl)]
  refine Rn.al ⟨Nat.le_succ _, Nat.le_add_right _ _⟩ ?_
  obtain ⟨T5, e5⟩ : ∃ T5, T5 = nO T 10 3 [.int 0, .null, .int 0] := ⟨_, rfl⟩
  rw [← e5]
  have l5 : T5.2.1 = T.2.1 + 1 := by rw [e5]; rfl
  have m5 : T5.2.2 = T.2.2 + 3 := by rw [e5]; rfl
  have n5 : ∀ x, x ≠ T.2.1 → T5.1 x = T.1 x := fun x q => by rw [e5]; exact xset_no q
  have o5 : T5.1 T.2.1 = some (true, .inr (10, [.int 0, .null, .int 0])) := by rw [e5]; exact xset_eq
  have st5 : StA G T5 := hst.mono (by omega) fun x q _ => n5 x (by omega)
  refine Rn.cl (e_linit o5 st5 (by rw [s1]; exact fun q => by have := Option.some.inj q; omega)) fun _ T9 _ ⟨d0, w0, g1, L9, f9⟩ => ?_
  have d0e : d0' = d0 := Option.some.inj (s1.symm.trans g1)
  subst d0e
  have l9 : T9.2.1 = T.2.1 + 1 := by rw [f9.1]; exact l5
  have m9 : T9.2.2 = T.2.2 + 3 := by rw [f9.1]; exact m5
  have n9 : ∀ x, x ≠ T.2.1 → T9.1 x = T.1 x := fun x q => (f9.2 x q).trans (n5 x q)
  obtain ⟨T12, e12, c12, f12, o12⟩ := pv_any (ci := 6) (k := 0) (v := va_rf (some T.2.1)) ((n9 ch (by omega)).trans hc)
  refine Rn.st e12 ⟨by rw [c12]; exact Nat.le_refl _, by rw [c12]; exact Nat.le_refl _⟩ ?_
  have l12 : T12.2.1 = T.2.1 + 1 := by rw [c12]; exact l9
  have m12 : T12.2.2 = T.2.2 + 3 := by rw [c12]; exact m9
  refine Rn.al ⟨Nat.le_succ _, Nat.le_add_right _ _⟩ ?_
  obtain ⟨T16, e16⟩ : ∃ T16, T16 = nO T12 12 4 [.null, .int 0, .int 0, .int 0] := ⟨_, rfl⟩
  rw [← e16]
  have l16 : T16.2.1 = T.2.1 + 2 := by rw [e16]; show T12.2.1 + 1 = _; omega
  have m16 : T16.2.2 = T.2.2 + 7 := by rw [e16]; show T12.2.2 + 4 = _; omega
  have n16 : ∀ x, x ≠ T12.2.1 → T16.1 x = T12.1 x := fun x q => by rw [e16]; exact xset_no q
  have o16 : T16.1 T12.2.1 = some (true, .inr (12, [.null, .int 0, .int 0, .int 0])) := by rw [e16]; exact xset_eq
  -- the bytes
  refine Rn.cl (P := fun _ T20 => (∀ x, x < T16.2.1 → x ≠ T12.2.1 → T20.1 x = T16.1 x) ∧ T20.2.1 = T16.2.1 + 1 ∧ T20.2.2 = T16.2.2 + 16 ∧ T20.1 T12.2.1 = some (true, .inr (12, [va_rf (some T16.2.1), .int 0, .int 0, .int 0])) ∧ T20.1 T16.2.1 = some (true, .inl (.byte, 16, .inl fun _ => 0))) ?_ fun _ T20 _ ⟨a1, a2, a3, a4, a5⟩ => ?_
  · unfold c_J18_init
    rw [if_neg (show ¬ ¬ (some T12.2.1).isSome = true from fun q => q rfl)]
    refine Rn.cl ?_ fun _ T6 _ q => Rn.ret q
    unfold c_J17_init
    rw [if_neg (show ¬ ¬ (some T12.2.1).isSome = true from fun q => q rfl), if_neg (show ¬ (1 : Int32) = 0 by decide), if_neg (by decide), show (16 : Int32).toNatClampNeg = 16 by decide]
    refine Rn.al ⟨Nat.le_succ _, Nat.le_add_right _ _⟩ ?_
    have na : ∀ x, x ≠ T16.2.1 → (nA T16 .byte 16).1 x = T16.1 x := fun x q => xset_no q
    obtain ⟨Ta, ea, ca, fa, oa⟩ := pv_any (ci := 12) (k := 0) (v := va_rf (some T16.2.1)) ((na T12.2.1 (by omega)).trans o16)
    refine Rn.st ea ⟨by rw [ca]; exact Nat.le_refl _, by rw [ca]; exact Nat.le_refl _⟩ ?_
    obtain ⟨Tb, eb, cb, fb, ob⟩ := pv_any (ci := 12) (k := 1) (v := .int 0) oa
    refine Rn.st eb ⟨by rw [cb]; exact Nat.le_refl _, by rw [cb]; exact Nat.le_refl _⟩ (Rn.ret ⟨fun x q1 q2 => (fb x q2).trans ((fa x q2).trans (na x (by omega))), by rw [cb, ca]; rfl, by rw [cb, ca]; rfl, ob, ?_⟩)
    exact (fb _ (by omega)).trans ((fa _ (by omega)).trans xset_eq)
  have o20 : T20.1 ch = some (true, .inr (6, [va_rf (some T.2.1), .null])) := (a1 ch (by omega) (by omega)).trans ((n16 ch (by omega)).trans o12)
  obtain ⟨T23, e23, c23, f23, o23⟩ := pv_any (ci := 6) (k := 1) (v := va_rf (some T12.2.1)) o20
  refine Rn.st e23 ⟨by rw [c23]; exact Nat.le_refl _, by rw [c23]; exact Nat.le_refl _⟩ ?_
  have l23 : T23.2.1 = T.2.1 + 3 := by rw [c23]; omega
  have m23 : T23.2.2 = T.2.2 + 23 := by rw [c23]; omega
  have q23 : oQ T23 (some ch) 6 0 = some (some T.2.1) := by unfold oQ oF; simp [o23, vQ, va_rf]
  have n23 : ∀ x, x < T.2.1 → x ≠ ch → T23.1 x = T.1 x := fun x q1 q2 => (f23 x q2).trans ((a1 x (by omega) (by omega)).trans ((n16 x (by omega)).trans ((f12 x q2).trans (n9 x (by omega)))))
  have n23l : T23.1 T.2.1 = T9.1 T.2.1 := (f23 _ (by omega)).trans ((a1 _ (by omega) (by omega)).trans ((n16 _ (by omega)).trans (f12 _ (by omega))))
  have nd0 : d0' ≠ ch := fun q => by rw [q, hc] at s5; cases s5
  have L23 : LsAt T23 T.2.1 d0' 0 (fun _ => 0) w0 0 := L9.fr n23l ((n23 d0' s3 nd0).trans (n9 d0' (by omega)).symm)
  rw [q23, Option.bind_some, if_neg (not_not_intro L23.is)]
  have hf23 : FmOK G T23 fo lo hi r nd := hf.mv (by omega) fun x x1 x2 => n23 x (by omega) (by omega)
  have nfd : fo ≠ d0' := fun q => by
    obtain ⟨w, c, fs, e, -⟩ := hf.now
    rw [q, s5] at e; cases e
  refine Rn.cl (e_add L23 (by decide) (by omega) (by omega) hf23.ao (by omega) (by omega) nfd fun k hk => absurd hk (Nat.not_lt_zero k)) fun _ T' hx ⟨_, a', cap', L, ha, fr, la, lt, ms⟩ => Rn.ret ?_
  have hcap : 1 ≤ cap' := L.2.2.1
  have ha' : a' = T23.2.1 ∧ T'.1 d0' = T23.1 d0' := by
    rcases ha with ⟨_, h0⟩ | h
    · omega
    · exact h
  obtain ⟨ha', hd⟩ := ha'
  have le' : T23.2.1 ≤ T'.2.1 := hx.1
  have frx : ∀ x, x < T23.2.1 → x ≠ T.2.1 → T'.1 x = T23.1 x := fun x q1 q2 => by
    by_cases z : x = d0'
    · rw [z]; exact hd
    · exact fr x q1 q2 z
  have hsb : T'.1 T12.2.1 = some (true, .inr (12, [va_rf (some T16.2.1), .int 0, .int 0, .int 0])) := (frx _ (by omega) (by omega)).trans ((f23 _ (by omega)).trans a4)
  have hba : T'.1 T16.2.1 = some (true, .inl (.byte, 16, .inl fun _ => 0)) := (frx _ (by omega) (by omega)).trans ((f23 _ (by omega)).trans a5)
  refine ⟨⟨T.2.1, a', T12.2.1, T16.2.1, cap', 16, va_up (fun _ => 0) 0 fo, fun _ => lo, fun _ => hi, ⟨(frx ch (by omega) (by omega)).trans o23, L, ⟨0, hsb⟩, ⟨fun _ => 0, hba, fun k hk => absurd hk (by omega)⟩, by omega, by omega, by omega, fun k hk => absurd hk (by omega)⟩, Nat.le_refl _, fun y hy => ?_, fun k hk => ?_⟩, fun x q1 q2 => (frx x (by omega) (by omega)).trans (n23 x q1 q2), by omega, by omega, ?_⟩
  · rcases hy with rfl | rfl | rfl | rfl | rfl
    · exact ⟨hc1, by omega, fun k _ (z : lo ≤ _ ∧ _ < hi) => by omega⟩
    · exact ⟨by omega, by omega, fun k _ (z : lo ≤ _ ∧ _ < hi) => by omega⟩
    · exact ⟨by omega, la, fun k _ (z : lo ≤ _ ∧ _ < hi) => by omega⟩
    · exact ⟨by omega, by omega, fun k _ (z : lo ≤ _ ∧ _ < hi) => by omega⟩
    · exact ⟨by omega, by omega, fun k _ (z : lo ≤ _ ∧ _ < hi) => by omega⟩
  · have k0 : k = 0 := by omega
    subst k0
    refine ⟨?_, by show s0 ≤ lo; omega, by show hi ≤ _; omega⟩
    rw [hr, show va_up (fun _ => 0) 0 fo 0 = fo from if_pos rfl]
    exact hf23.mv (by omega) fun x x1 x2 => frx x (by omega) (by omega)
  · have : min 1100 (2 * 0 + 11) = 11 := by decide
    omega
/-- one more -/
theorem e_cadd (h : ChI G T ch s0 b n rs os nd) (hn : n < 700) (h0 : 0 < n) {fo lo hi o : Nat} {r : Sem} (hf : FmOK G T fo lo hi r nd) (h1 : b ≤ lo) (hr : rs n = r) (ho : os (n - 1) = o) (ho2 : 4 ≤ o ∧ o ≤ 11) : Rn T (c_X7_add G (some ch) (Int32.ofNat (sgb o)) (some fo) T) fun _ T' => ChI G T' ch s0 T'.2.1 (n + 1) rs os nd ∧ (∀ x, x < s0 → x < T.2.1 → T'.1 x = T.1 x) ∧ T.2.1 ≤ T'.2.1 ∧ T'.2.1 ≤ T.2.1 + 2 ∧ T'.2.2 ≤ T.2.2 + 2600 := by
  have hlo := hf.1
  have hlh := hf.2.1
  have hhi := hf.2.2.1
  obtain ⟨l, a, sb, ba, cap, bn, fa, lo', hi', g1, g2, g3, g4⟩ := h
  have cch := g3 ch (Or.inl rfl)
  have cl := g3 l (Or.inr (Or.inl rfl))
  have ca := g3 a (Or.inr (Or.inr (Or.inl rfl)))
  have csb := g3 sb (Or.inr (Or.inr (Or.inr (Or.inl rfl))))
  have cba := g3 ba (Or.inr (Or.inr (Or.inr (Or.inr rfl))))
  obtain ⟨c1, c2, ⟨x2, c3⟩, ⟨B, c4, c5⟩, c6⟩ := g1
  have g1 : ChC T ch l a sb ba n cap bn fa os := ⟨c1, c2, ⟨x2, c3⟩, ⟨B, c4, c5⟩, c6⟩
  -- all of it is apart
  have n1 : ch ≠ sb ∧ ch ≠ ba ∧ l ≠ sb ∧ l ≠ ba ∧ a ≠ sb ∧ a ≠ ba := by
    obtain ⟨⟨m, L1⟩, ⟨F, L2, -⟩, -⟩ := c2
    refine ⟨fun q => ?_, fun q => ?_, fun q => ?_, fun q => ?_, fun q => ?_, fun q => ?_⟩
    · rw [← q, c1] at c3; cases c3
    · rw [← q, c1] at c4; cases c4
    · rw [← q, L1] at c3; cases c3
    · rw [← q, L1] at c4; cases c4
    · rw [← q, L2] at c3; cases c3
    · rw [← q, L2] at c4; cases c4
  have n2 : ch ≠ l ∧ ch ≠ a := by
    obtain ⟨⟨m, L1⟩, ⟨F, L2, -⟩, -⟩ := c2
    refine ⟨fun q => ?_, fun q => ?_⟩
    · rw [← q, c1] at L1; cases L1
    · rw [← q, c1] at L2; cases L2
  unfold c_X7_add
  rw [g1.q1, Option.bind_some, if_neg (not_not_intro g1.sb_.is)]
  refine Rn.cl (e_sbadd g1.sb_ (by omega) (by omega) (by omega) ho) fun _ T5 _ ⟨ba', bn', S5, hb5, hb6, f5, l5, l6, m5⟩ => ?_
  have L5 : LsAt T5 l a n fa true cap := c2.fr (f5 l (by omega) n1.2.2.1 n1.2.2.2.1) (f5 a (by omega) n1.2.2.2.2.1 n1.2.2.2.2.2)
  have o5 : T5.1 ch = some (true, .inr (6, [va_rf (some l), va_rf (some sb)])) := (f5 ch (by omega) n1.1 n1.2.1).trans c1
  have q5 : oQ T5 (some ch) 6 0 = some (some l) := by unfold oQ oF; simp [o5, vQ, va_rf]
  have fel : ∀ k, k < n → FmOK G T5 (fa k) (lo' k) (hi' k) (rs k) nd := fun k hk => (g4 k hk).1.mv l5 fun x x1 x2 => by
    have e1 := csb.2.2 k hk
    have e2 := cba.2.2 k hk
    have := (g4 k hk).2.2
    exact f5 x (by omega) (fun q => e1 (q ▸ ⟨x1, x2⟩)) (fun q => e2 (q ▸ ⟨x1, x2⟩))
  have hf5 : FmOK G T5 fo lo hi r nd := hf.mv l5 fun x x1 x2 => f5 x (by omega) (by omega) (by omega)
  rw [q5, Option.bind_some, if_neg (not_not_intro L5.is)]
  refine Rn.cl (e_add L5 hn (by omega) (by omega) hf5.ao (by omega) (by omega) (by omega) fun k hk => ⟨?_, (fel k hk).ao, fun q => ?_⟩) fun _ T' hx ⟨_, a', cap', L, ha, fr, la, lt, ms⟩ => Rn.ret ?_
  · have := (fel k hk).2.1
    have := (g4 k hk).2.2
    omega
  · exact cl.2.2 k hk (q ▸ ⟨(fel k hk).1, (fel k hk).2.1⟩)
  have le2 : T5.2.1 ≤ T'.2.1 := hx.1
  have frx : ∀ x, x < T5.2.1 → x ≠ l → x ≠ a → T'.1 x = T5.1 x := fr
  have nl : T5.2.1 ≤ a' ∨ a' = a := by
    rcases ha with ⟨h, _⟩ | ⟨h, _⟩
    · exact Or.inr h
    · exact Or.inl (by omega)
  obtain ⟨⟨y2, d3⟩, ⟨B', d4, d5⟩, d6, d7, d8⟩ := S5
  have nba : ba' ≠ l ∧ ba' ≠ a := by
    rcases hb5 with h | h
    · rw [h]; exact ⟨fun q => n1.2.2.2.1 q.symm, fun q => n1.2.2.2.2.2 q.symm⟩
    · exact ⟨by omega, by omega⟩
  have b5 : b ≤ T5.2.1 := by omega
  refine ⟨⟨l, a', sb, ba', cap', bn', va_up fa n fo, fun k => if k = n then lo else lo' k, fun k => if k = n then hi else hi' k, ⟨(frx ch (by omega) n2.1 n2.2).trans o5, L, ⟨y2, ?_⟩, ⟨B', (frx ba' hb6 nba.1 nba.2).trans d4, fun k hk => d5 k (by omega)⟩, by omega, d7, d8, fun k hk => ?_⟩, Nat.le_refl _, fun y hy => ?_, fun k hk => ?_⟩, fun x q1 q2 => (frx x (by omega) (by omega) (by omega)).trans (f5 x q2 (by omega) (by omega)), by omega, by omega, by have : min 1100 (2 * n + 11) ≤ 1100 := Nat.min_le_left _ _; omega⟩
  · rw [(frx sb (by omega) (fun q => n1.2.2.1 q.symm) (fun q => n1.2.2.2.2.1 q.symm)).trans d3, show n - 1 + 1 = n + 1 - 1 by omega]
  · by_cases q : k = n - 1
    · rw [q, ho]; exact ho2
    · exact c6.2.2.2 k (by omega)
  · have old : s0 ≤ y → y < b → (∀ k, k < n → ¬ (lo' k ≤ y ∧ y < hi' k)) → s0 ≤ y ∧ y < T'.2.1 ∧ ∀ k, k < n + 1 → ¬ ((if k = n then lo else lo' k) ≤ y ∧ y < (if k = n then hi else hi' k)) := fun a1 a2 a3 => ⟨a1, by omega, fun k hk => by
      by_cases q : k = n
      · rw [if_pos q, if_pos q]; omega
      · rw [if_neg q, if_neg q]; exact a3 k (by omega)⟩
    have new : T.2.1 ≤ y → y < T'.2.1 → s0 ≤ y ∧ y < T'.2.1 ∧ ∀ k, k < n + 1 → ¬ ((if k = n then lo else lo' k) ≤ y ∧ y < (if k = n then hi else hi' k)) := fun a1 a2 => ⟨by omega, a2, fun k hk => by
      by_cases q : k = n
      · rw [if_pos q, if_pos q]; omega
      · rw [if_neg q, if_neg q]
        have := (g4 k (by omega)).2.2
        omega⟩
    rcases hy with rfl | rfl | rfl | rfl | rfl
    · exact old cch.1 cch.2.1 cch.2.2
    · exact old cl.1 cl.2.1 cl.2.2
    · rcases nl with q | q
      · exact new (by omega) la
      · subst q; exact old ca.1 ca.2.1 ca.2.2
    · exact old csb.1 csb.2.1 csb.2.2
    · rcases hb5 with q | q
      · subst q; exact old cba.1 cba.2.1 cba.2.2
      · exact new q (by omega)
  · dsimp only
    by_cases q : k = n
    · subst q
      rw [if_pos rfl, if_pos rfl, hr, show va_up fa k fo k = fo from if_pos rfl]
      exact ⟨hf5.mv le2 fun x x1 x2 => frx x (by omega) (by omega) (by omega), by omega, by omega⟩
    · rw [if_neg q, if_neg q, show va_up fa n fo k = fa k from if_neg q]
      have hk' : k < n := by omega
      obtain ⟨z1, z2, z3⟩ := g4 k hk'
      refine ⟨(fel k hk').mv le2 fun x x1 x2 => frx x (by omega) (fun q => cl.2.2 k hk' (q ▸ ⟨x1, x2⟩)) (fun q => ca.2.2 k hk' (q ▸ ⟨x1, x2⟩)), z2, by omega⟩
end CI
