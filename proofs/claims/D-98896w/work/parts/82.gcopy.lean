/-! plain law: growths that are made, lists that are made -/
set_option maxRecDepth 100000
section LS
variable {G : xG} {T T0 : xF} {l a o o2 n cap q b : Nat} {f : Nat → Nat} {w : Bool} {g : Gw}
/-- one more cell, as wanted by what writes to a fresh object -/
theorem pV_o {T : xF} {a ci k : Nat} {fs : List Value} {v : Value} (h : T.1 a = some (true, .inr (ci, fs))) : pV T (some a) ci k v = some (xset T.1 a (true, .inr (ci, fs.set k v)), T.2) := by
  unfold pV
  simp -implicitDefEqProofs only [h, if_true]
/-- a growth as it is made -/
def g00 : Gw := (fun _ => 3, fun _ => 20, fun _ => -1, fun _ => 0, 0)
theorem e_xinit43 (hA : GrAt T0 a o ((fun _ => 0), (fun _ => 0), (fun _ => 0), (fun _ => 0), 0)) : Rn T0 (c_X3_init_43 FU (some a) 0 T0) fun _ T' => frm (bk a) T0 T' ∧ GrAt T' a o g00 := by
  refine loop_rule (σ := xF) (N := 30) (fun i s => frm (bk a) T0 s ∧ GrAt s a o (mixf i (fun _ => 3) (fun _ => 0), mixf i (fun _ => 20) (fun _ => 0), mixf i (fun _ => -1) (fun _ => 0), (fun _ => 0), 0)) (fun m i s => Rn s (c_X3_init_43 m (some a) (Int32.ofNat i) s) _) ?_ ?_ FU (by decide) T0 ⟨frm.rf, by simp -implicitDefEqProofs only [mixf_0]; exact hA⟩
  · rintro m i T1 hi ⟨hf, hA1⟩ K
    have hle : ¬ (30 : Int32) ≤ Int32.ofNat i := fun q => by have := (ofn_le 30 (by omega) i (by omega)).mp q; omega
    show Rn T1 (c_X3_init_43_b (c_X3_init_43 m) (some a) (Int32.ofNat i) T1) _
    unfold c_X3_init_43_b
    simp -implicitDefEqProofs only [hle, hA1.o0, hA1.o1, hA1.o2, hA1.o3, hA1.o4, hA1.o5, hA1.is, Option.bind_some, not_true_eq_false, if_false, if_true, (ofn i (by omega)).2.2]
    obtain ⟨T2, e2, f2, hA2⟩ := hA1.stD hi (3); refine Rn.st e2 f2.le ?_
    simp -implicitDefEqProofs only [hA2.o0, hA2.o1, hA2.o2, hA2.o3, hA2.o4, hA2.o5, hA2.is, Option.bind_some, not_true_eq_false, if_false, if_true]
    obtain ⟨T3, e3, f3, hA3⟩ := hA2.stF hi (20); refine Rn.st e3 f3.le ?_
    simp -implicitDefEqProofs only [hA3.o0, hA3.o1, hA3.o2, hA3.o3, hA3.o4, hA3.o5, hA3.is, Option.bind_some, not_true_eq_false, if_false, if_true]
    obtain ⟨T4, e4, f4, hA4⟩ := hA3.stK hi (-1); refine Rn.st e4 f4.le ?_
    refine K T4 ⟨hf.tr (((f2.up ?_).tr (f3.up ?_)).tr (f4.up ?_)), hA4.of (mixf_upd rfl) (mixf_upd rfl) (mixf_upd rfl) rfl rfl⟩
    all_goals (intro x q; simp -implicitDefEqProofs only [bk]; omega)
  · rintro m T1 ⟨hf, hA1⟩
    show Rn T1 (c_X3_init_43_b (c_X3_init_43 m) (some a) (Int32.ofNat 30) T1) _
    unfold c_X3_init_43_b
    rw [if_pos (by decide)]
    refine Rn.ret ⟨hf, hA1.cg ?_ ?_ ?_ ?_ rfl⟩
    all_goals first | exact (fun _ _ => rfl) | (intro c hc; show (if c < 30 then _ else _) = _; rw [if_pos hc]; rfl)
theorem xi {β : Type} {T : xF} {a k : Nat} {fs : List Value} {K : xF → Option (β × xF)} {Q : β → xF → Prop} (h : T.1 a = some (true, .inr (2, fs))) (ha : a < T.2.1) {n0 : Nat} (hn0 : n0 = T.2.1) (hk : ∀ T3 : xF, T3.1 a = some (true, .inr (2, fs.set k (va_rf (some T.2.1)))) → T3.1 T.2.1 = some (true, .inl (.int, 30, .inl fun _ => 0)) → (∀ x, x ≠ a → x ≠ T.2.1 → T3.1 x = T.1 x) → T3.2 = (T.2.1 + 1, T.2.2 + 30) → Rn T3 (K T3) Q) : Rn T (al (nA T .int 30) fun T12 => (pV T12 (some a) 2 k (va_rf (some n0))).bind K) Q := by
  subst hn0
  refine Rn.al ⟨Nat.le_succ _, Nat.le_add_right _ _⟩ ?_
  have h1 : (nA T .int 30).1 a = some (true, .inr (2, fs)) := (xset_no (by omega)).trans h
  refine Rn.st (pV_o h1) ⟨Nat.le_refl _, Nat.le_refl _⟩ (hk _ xset_eq ?_ ?_ rfl)
  · exact (xset_no (by omega)).trans xset_eq
  · exact fun x q1 q2 => (xset_no q1).trans (xset_no q2)
/-- the world in which a growth has been made at the next address -/
theorem e_xinit (h : T0.1 a = some (true, .inr (2, [.null, .null, .null, .null, .int 0, .null]))) (ha : a + 1 = T0.2.1) : Rn T0 (c_X3_init (some a) (some o) T0) fun _ T' => (∀ x, x < a → T'.1 x = T0.1 x) ∧ T'.2.1 = T0.2.1 + 4 ∧ T'.2.2 = T0.2.2 + 120 ∧ GrAt T' a o g00 := by
  unfold c_X3_init
  refine Rn.st (pV_o h) ⟨Nat.le_refl _, Nat.le_refl _⟩ ?_
  simp -implicitDefEqProofs only [Option.bind_some, not_true_eq_false, if_false, if_true, Option.isSome_some, show ¬ ((30 : Int32) < 0 ∨ 100000000 ≤ (30 : Nat)) by decide, show (30 : Int32).toNatClampNeg = 30 by decide]
  generalize hT1 : ((xset T0.1 a (true, .inr (2, [Value.null, .null, .null, .null, .int 0, .null].set 5 (va_rf (some o)))), T0.2) : xF) = T1
  have a1 : T1.1 a = some (true, .inr (2, [.null, .null, .null, .null, .int 0, va_rf (some o)])) := by rw [← hT1]; exact xset_eq
  have b1 : ∀ x, x ≠ a → T1.1 x = T0.1 x := fun x q => by rw [← hT1]; exact xset_no q
  have c1 : T1.2 = T0.2 := by rw [← hT1]
  refine xi a1 (by rw [c1]; omega) (by rw [c1]) fun T2 a2 z2 b2 c2 => ?_
  refine xi a2 (by rw [c2, c1]; dsimp only; omega) rfl fun T3 a3 z3 b3 c3 => ?_
  refine xi a3 (by rw [c3, c2, c1]; dsimp only; omega) rfl fun T4 a4 z4 b4 c4 => ?_
  refine xi a4 (by rw [c4, c3, c2, c1]; dsimp only; omega) rfl fun T5 a5 z5 b5 c5 => ?_
  have n1 : T1.2.1 = a + 1 := by rw [c1]; omega
  have n2 : T2.2.1 = a + 2 := by rw [c2]; dsimp only; omega
  have n3 : T3.2.1 = a + 3 := by rw [c3]; dsimp only; omega
  have n4 : T4.2.1 = a + 4 := by rw [c4]; dsimp only; omega
  have n5 : T5.2.1 = a + 5 := by rw [c5]; dsimp only; omega
  rw [n1, n2, n3, n4] at a5
  rw [n1] at z2 b2
  rw [n2] at z3 b3
  rw [n3] at z4 b4
  rw [n4] at z5 b5
  have hA : GrAt T5 a o ((fun _ => 0), (fun _ => 0), (fun _ => 0), (fun _ => 0), 0) := by
    refine ⟨a5, ⟨_, ?_, fun _ _ => rfl⟩, ⟨_, ?_, fun _ _ => rfl⟩, ⟨_, ?_, fun _ _ => rfl⟩, ⟨_, ?_, fun _ _ => rfl⟩⟩
    · rw [b5 _ (by omega) (by omega), b4 _ (by omega) (by omega), b3 _ (by omega) (by omega)]; exact z2
    · rw [b5 _ (by omega) (by omega), b4 _ (by omega) (by omega)]; exact z3
    · rw [b5 _ (by omega) (by omega)]; exact z4
    · exact z5
  refine Rn.mono (e_xinit43 hA) fun _ T6 _ ⟨f6, hA6⟩ => ⟨fun x hx => ?_, ?_, ?_, hA6⟩
  · rw [f6.2 x (fun q => by simp -implicitDefEqProofs only [bk] at q; omega), b5 x (by omega) (by omega), b4 x (by omega) (by omega), b3 x (by omega) (by omega), b2 x (by omega) (by omega)]
    exact b1 x (by omega)
  · rw [f6.1, n5]; omega
  · rw [f6.1, c5, c4, c3, c2, c1]
theorem GrAt.lo {T' : xF} (h : GrAt T a o g) (k : ∀ x, bk a x → T'.1 x = T.1 x) : GrAt T' a o g := by
  obtain ⟨h0, h1, h2, h3, h4⟩ := h
  have q : ∀ j, j < 5 → T'.1 (a + j) = T.1 (a + j) := fun j hj => k _ ⟨by omega, by omega⟩
  have ar : ∀ {b f}, T'.1 b = T.1 b → arr30 T b f → arr30 T' b f := fun e h => by
    obtain ⟨f0, r1, r2⟩ := h
    exact ⟨f0, e.trans r1, r2⟩
  exact ⟨(q 0 (by omega)).trans h0, ar (q 1 (by omega)) h1, ar (q 2 (by omega)) h2, ar (q 3 (by omega)) h3, ar (q 4 (by omega)) h4⟩
theorem e_copy (hB : GrAt T b o g) (hb : b + 5 ≤ T.2.1) : Rn T (c_X3_copy (some b) T) fun v T' => v = some T.2.1 ∧ (∀ x, x < T.2.1 → T'.1 x = T.1 x) ∧ T'.2.1 = T.2.1 + 5 ∧ T'.2.2 = T.2.2 + 126 ∧ GrAt T' T.2.1 o g := by
  unfold c_X3_copy
  refine Rn.al ⟨Nat.le_succ _, Nat.le_add_right _ _⟩ ?_
  have x0 : ∀ x, x < T.2.1 → (nO T 2 6 [.null, .null, .null, .null, .int 0, .null]).1 x = T.1 x := fun x q => xset_no (by omega)
  have hB0 : GrAt (nO T 2 6 [.null, .null, .null, .null, .int 0, .null]) b o g := hB.lo fun x q => x0 x (by simp -implicitDefEqProofs only [bk] at q; omega)
  rw [hB0.o5, Option.bind_some]
  refine Rn.cl (e_xinit (a := T.2.1) (o := o) xset_eq rfl) fun v T1 _ ⟨h1, h2, h3, hA1⟩ => ?_
  simp -implicitDefEqProofs only [hA1.is, Option.bind_some, not_true_eq_false, if_false, if_true]
  have hB1 : GrAt T1 b o g := hB0.lo fun x q => h1 x (by simp -implicitDefEqProofs only [bk] at q; omega)
  refine Rn.cl (e_be hA1 hB1 (by omega)) fun v T2 _ ⟨k1, k2, k3⟩ => ?_
  subst k1
  refine Rn.ret ⟨rfl, fun x hx => ?_, ?_, ?_, k3⟩
  · rw [k2.2 x (fun q => by simp -implicitDefEqProofs only [bk] at q; omega), h1 x hx]
    exact x0 x hx
  · rw [k2.1, h2]; show T.2.1 + 1 + 4 = _; omega
  · rw [k2.1, h3]; show T.2.2 + 6 + 120 = _; omega
theorem StA.mono {T' : xF} (h : StA G T) (hl : T.2.1 ≤ T'.2.1) (k : ∀ x, x < T.2.1 → gS G 0 = some x ∨ gS G 1 = some x → T'.1 x = T.1 x) : StA G T' := by
  obtain ⟨d0, d1, w0, w1, F0, F1, h1, h2, h3, h4, h5, h6⟩ := h
  exact ⟨d0, d1, w0, w1, F0, F1, h1, h2, by omega, by omega, (k d0 h3 (Or.inl h1)).trans h5, (k d1 h4 (Or.inr h2)).trans h6⟩
/-- an empty list that has just been made at l -/
theorem e_linit (h : T.1 l = some (true, .inr (10, [.int 0, .null, .int 0]))) (hst : StA G T) (hl : gS G 0 ≠ some l) : Rn T (c_J2_init G (some l) T) fun _ T' => ∃ d0 w0, gS G 0 = some d0 ∧ LsAt T' l d0 0 (fun _ => 0) w0 0 ∧ frm (fun x => x = l) T T' := by
  obtain ⟨d0, d1, w0, w1, F0, F1, h1, h2, h3, h4, h5, h6⟩ := hst
  have hne : d0 ≠ l := fun q => hl (q ▸ h1)
  unfold c_J2_init c_J1_init c_J0_init
  simp -implicitDefEqProofs only [Option.bind_some, not_true_eq_false, if_false, if_true, Option.isSome_some]
  rw [pV_o h, Option.bind_some]
  have f1 : frm (fun x => x = l) T (xset T.1 l (true, .inr (10, [Value.int 0, .null, .int 0].set 0 (.int 0))), T.2) := ⟨rfl, fun x q => xset_no q⟩
  refine Rn.cl (P := fun _ T' => T' = (xset T.1 l (true, .inr (10, [Value.int 0, .null, .int 0].set 0 (.int 0))), T.2)) ⟨(), _, rfl, f1.le, rfl⟩ fun v T1 _ e1 => ?_
  subst e1
  rw [h1]
  have e2 := pV_o (T := (xset T.1 l (true, .inr (10, [Value.int 0, .null, .int 0].set 0 (.int 0))), T.2)) (a := l) (k := 1) (v := va_rf (some d0)) xset_eq
  have f2 : frm (fun x => x = l) (xset T.1 l (true, .inr (10, [Value.int 0, .null, .int 0].set 0 (.int 0))), T.2) (xset (xset T.1 l (true, .inr (10, [Value.int 0, .null, .int 0].set 0 (.int 0)))) l (true, .inr (10, ([Value.int 0, .null, .int 0].set 0 (.int 0)).set 1 (va_rf (some d0)))), T.2) := ⟨rfl, fun x q => xset_no q⟩
  refine Rn.st e2 f2.le (Rn.ret ⟨d0, w0, rfl, ⟨⟨0, xset_eq⟩, ⟨F0, ?_, fun k hk => absurd hk (Nat.not_lt_zero k)⟩, Nat.le_refl _, by omega, fun q => absurd q (Nat.lt_irrefl 0)⟩, f1.tr f2⟩)
  exact (xset_no hne).trans ((xset_no hne).trans h5)
/-- a copy of a list -/
theorem e_lcopy (h : T.1 l = some (true, .inr (10, [.int 0, .null, .int 0]))) (hst : StA G T) (hl2 : l < T.2.1) {l0 a0 cap0 : Nat} {w0 : Bool} (hL : LsAt T l0 a0 n f w0 cap0) (hll : l0 ≠ l) (ha0 : a0 < T.2.1) (hal : a0 ≠ l) (hl0 : l0 < T.2.1) (ho : ∀ k, k < n → f k < T.2.1 ∧ AO T (f k) ∧ f k ≠ l) (hl : gS G 1 ≠ some l) : Rn T (c_J2_init_2 G (some l) (some l0) T) fun _ T' => ∃ a1 w1 cap1, (a1 = T.2.1 ∨ cap1 = 0 ∧ gS G 1 = some a1) ∧ LsAt T' l a1 n f w1 cap1 ∧ frc (fun x => x = l) T T' ∧ T'.2.1 = T.2.1 + 1 ∧ T'.2.2 = T.2.2 + n := by
  obtain ⟨d0, d1, wd0, wd1, F0, F1, h1, h2, h3, h4, h5, h6⟩ := hst
  have hn15 := hL.n1500
  have hne : d1 ≠ l := fun q => hl (q ▸ h2)
  unfold c_J2_init_2 c_J1_init c_J0_init
  simp -implicitDefEqProofs only [Option.bind_some, not_true_eq_false, if_false, if_true, Option.isSome_some]
  rw [pV_o h, Option.bind_some]
  have f1 : frm (fun x => x = l) T (xset T.1 l (true, .inr (10, [Value.int 0, .null, .int 0].set 0 (.int 0))), T.2) := ⟨rfl, fun x q => xset_no q⟩
  refine Rn.cl (P := fun _ T' => T' = (xset T.1 l (true, .inr (10, [Value.int 0, .null, .int 0].set 0 (.int 0))), T.2)) ⟨(), _, rfl, f1.le, rfl⟩ fun v T1 _ e1 => ?_
  have f1 : frm (fun x => x = l) T T1 := by rw [e1]; exact f1
  have g1 : T1.1 l = some (true, .inr (10, [.int 0, .null, .int 0])) := by rw [e1]; exact xset_eq
  clear e1
  have L1 : LsAt T1 l0 a0 n f w0 cap0 := hL.fr (f1.2 _ hll) (f1.2 _ hal)
  have c1 : T1.2 = T.2 := f1.1
  simp -implicitDefEqProofs only [L1.is, Option.bind_some, not_true_eq_false, if_false, if_true]
  unfold c_J2_toArray
  simp -implicitDefEqProofs only [L1.o1, L1.o2, Option.bind_some, not_true_eq_false, if_false, if_true]
  obtain ⟨F, k2, k3⟩ := L1.2.1
  have k4 := L1.2.2.1
  refine Rn.cl (Rn.cl (e_copyOf (n := n) k2 (by rw [c1]; exact ha0) L1.2.2.2.1 (by omega) (by omega) (fun k hk => Or.inr ⟨f k, k3 k hk, by rw [c1]; exact (ho k hk).1, (ho k hk).2.1.mono (f1.2 _ (ho k hk).2.2)⟩)) fun v T2 _ q => Rn.ret q) fun v T2 _ ⟨v1, v2, v3, v4, F', v5, v6⟩ => ?_
  subst v1
  rw [c1] at v2 v3 v4 v5
  have hlen : len T2 (some T1.2.1) = some (Int32.ofNat n) := by
    rw [len.eq_2, c1]
    simp -implicitDefEqProofs only [v5]
  rw [hlen, Option.bind_some]
  have g2 : T2.1 l = some (true, .inr (10, [.int 0, .null, .int 0])) := (v2 l (by omega)).trans g1
  refine Rn.st (pV_o g2) ⟨Nat.le_refl _, Nat.le_refl _⟩ ?_
  generalize hT3 : ((xset T2.1 l (true, .inr (10, [Value.int 0, .null, .int 0].set 2 (.int (Int32.ofNat n)))), T2.2) : xF) = T3
  have g3 : T3.1 l = some (true, .inr (10, [.int 0, .null, .int (Int32.ofNat n)])) := by rw [← hT3]; exact xset_eq
  have b3 : ∀ x, x ≠ l → T3.1 x = T2.1 x := fun x q => by rw [← hT3]; exact xset_no q
  have c3 : T3.2 = T2.2 := by rw [← hT3]
  have lo : ∀ x, x < T.2.1 → x ≠ l → T3.1 x = T.1 x := fun x q1 q2 => (b3 x q2).trans ((v2 x (by omega)).trans (f1.2 x q2))
  by_cases hn : n = 0
  · rw [if_pos (show Int32.ofNat n = 0 by rw [hn]; rfl)]
    rw [h2]
    refine Rn.st (pV_o g3) ⟨Nat.le_refl _, Nat.le_refl _⟩ (Rn.ret ⟨d1, wd1, 0, Or.inr ⟨rfl, rfl⟩, ⟨⟨0, xset_eq⟩, ⟨F1, (xset_no hne).trans ((lo d1 h4 hne).trans h6), fun k hk => by omega⟩, by omega, by omega, fun q => absurd q (Nat.lt_irrefl 0)⟩, ⟨?_, fun x q1 q2 => (xset_no q2).trans (lo x q1 q2)⟩, ?_, ?_⟩)
    · show T.2.1 ≤ T3.2.1; rw [c3]; omega
    · show T3.2.1 = _; rw [c3]; exact v3
    · show T3.2.2 = _; rw [c3]; exact v4
  · rw [if_neg (show ¬ Int32.ofNat n = 0 from fun q => hn ((oeq (n := n) (m := 0) (by omega) (by omega)).mp q))]
    have l3 : isO T3 (some l0) 10 = true := by
      have : LsAt T3 l0 a0 n f w0 cap0 := hL.fr (lo l0 hl0 hll) (lo a0 ha0 hal)
      exact this.is
    simp -implicitDefEqProofs only [l3, Option.bind_some, not_true_eq_false, if_false, if_true]
    rw [c1]
    refine Rn.st (pV_o g3) ⟨Nat.le_refl _, Nat.le_refl _⟩ (Rn.ret ⟨T.2.1, true, n, Or.inl rfl, ⟨⟨0, xset_eq⟩, ⟨F', (xset_no (by omega)).trans ((b3 _ (by omega)).trans v5), fun k hk => (v6 k hk).trans (k3 k hk)⟩, Nat.le_refl _, by omega, fun _ => rfl⟩, ⟨?_, fun x q1 q2 => (xset_no q2).trans (lo x q1 q2)⟩, ?_, ?_⟩)
    · show T.2.1 ≤ T3.2.1; rw [c3]; omega
    · show T3.2.1 = _; rw [c3]; exact v3
    · show T3.2.2 = _; rw [c3]; exact v4
end LS
