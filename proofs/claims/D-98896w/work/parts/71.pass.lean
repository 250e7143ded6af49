/-! plain law: a day, on the system's side -/
set_option maxRecDepth 100000
theorem upd_at {f : Nat → Int32} {i : Nat} {v : Int32} : upd f i v i = v := by unfold upd; rw [if_pos rfl]
theorem GrAt.of {T : xF} {a o : Nat} {d f k z d' f' k' z' : Nat → Int32} {y y' : Int32} (h : GrAt T a o (d, f, k, z, y)) (hd : d = d') (hf : f = f') (hk : k = k') (hz : z = z') (hy : y = y') : GrAt T a o (d', f', k', z', y') := by
  subst hd; subst hf; subst hk; subst hz; subst hy
  exact h
theorem mixf_n {i n : Nat} {f g h : Nat → Int32} (hn : i = n) : mixf i f g = h → mixf n f g = h := by
  subst hn
  exact id
theorem enc_eq {b : Option Nat} : enc b = -1 → (∀ k, b = some k → k < 30) → b = none := by
  intro h k
  cases b with
  | none => rfl
  | some x => exact absurd h (enc_ne x (k x rfl))
section GS
variable {E : Nat → Prop} {G : xG} {T T0 : xF} {o o2 rl va bb a b c d : Nat} {e : En} {g g0 : Gw} {f : Nat → Int32}
theorem e_be (hA0 : GrAt T0 a o g0) (hB0 : GrAt T0 b o2 g) (ap : a + 5 ≤ b ∨ b + 5 ≤ a) : Rn T0 (c_X3_be (some a) (some b) T0) fun v T' => v = some a ∧ frm (bk a) T0 T' ∧ GrAt T' a o g := by
  unfold c_X3_be
  refine loop_rule (σ := xF) (N := 30) (fun i s => frm (bk a) T0 s ∧ GrAt s a o (mixf i (gD g) (gD g0), mixf i (gF g) (gF g0), mixf i (gK g) (gK g0), mixf i (gZ g) (gZ g0), gY g0)) (fun m i s => Rn s (c_X3_be_2 m (some a) (some b) (Int32.ofNat i) s) _) ?_ ?_ FU (by decide) T0 ⟨frm.rf, by simp -implicitDefEqProofs only [mixf_0]; exact hA0⟩
  · rintro m i T1 hi ⟨hf, hA1⟩ K
    have hB1 := hB0.fr hf (by intro x q1 q2; simp -implicitDefEqProofs only [bk] at q1 q2; omega)
    have hle : ¬ (30 : Int32) ≤ Int32.ofNat i := fun q => by have := (ofn_le 30 (by omega) i (by omega)).mp q; omega
    show Rn T1 (c_X3_be_2_b (c_X3_be_2 m) (some a) (some b) (Int32.ofNat i) T1) _
    unfold c_X3_be_2_b
    simp -implicitDefEqProofs only [hle, hA1.o0, hA1.o1, hA1.o2, hA1.o3, hA1.o4, hA1.o5, hA1.is, hB1.o0, hB1.ldD hi, Option.bind_some, not_true_eq_false, if_false, if_true]
    obtain ⟨T2, e2, f2, hA2⟩ := hA1.stD hi (gD g i); refine Rn.st e2 f2.le ?_
    have hB2 := hB1.fr f2 (by intro x q1 q2; simp -implicitDefEqProofs only [bk] at q1 q2; omega)
    simp -implicitDefEqProofs only [hA2.o0, hA2.o1, hA2.o2, hA2.o3, hA2.o4, hA2.o5, hA2.is, hB2.o1, hB2.ldF hi, Option.bind_some, not_true_eq_false, if_false, if_true]
    obtain ⟨T3, e3, f3, hA3⟩ := hA2.stF hi (gF g i); refine Rn.st e3 f3.le ?_
    have hB3 := hB2.fr f3 (by intro x q1 q2; simp -implicitDefEqProofs only [bk] at q1 q2; omega)
    simp -implicitDefEqProofs only [hA3.o0, hA3.o1, hA3.o2, hA3.o3, hA3.o4, hA3.o5, hA3.is, hB3.o2, hB3.ldK hi, Option.bind_some, not_true_eq_false, if_false, if_true]
    obtain ⟨T4, e4, f4, hA4⟩ := hA3.stK hi (gK g i); refine Rn.st e4 f4.le ?_
    have hB4 := hB3.fr f4 (by intro x q1 q2; simp -implicitDefEqProofs only [bk] at q1 q2; omega)
    simp -implicitDefEqProofs only [hA4.o0, hA4.o1, hA4.o2, hA4.o3, hA4.o4, hA4.o5, hA4.is, hB4.o3, hB4.ldZ hi, Option.bind_some, not_true_eq_false, if_false, if_true]
    obtain ⟨T5, e5, f5, hA5⟩ := hA4.stZ hi (gZ g i); refine Rn.st e5 f5.le ?_
    rw [(ofn i (by omega)).2.2]
    refine K T5 ⟨hf.tr ((((f2.up ?_).tr (f3.up ?_)).tr (f4.up ?_)).tr (f5.up ?_)), hA5.of (mixf_upd rfl) (mixf_upd rfl) (mixf_upd rfl) (mixf_upd rfl) rfl⟩
    all_goals (intro x q; simp -implicitDefEqProofs only [bk]; omega)
  · rintro m T1 ⟨hf, hA1⟩
    have hB1 := hB0.fr hf (by intro x q1 q2; simp -implicitDefEqProofs only [bk] at q1 q2; omega)
    show Rn T1 (c_X3_be_2_b (c_X3_be_2 m) (some a) (some b) (Int32.ofNat 30) T1) _
    unfold c_X3_be_2_b
    rw [if_pos (by decide)]
    simp -implicitDefEqProofs only [hB1.o4, Option.bind_some, not_true_eq_false, if_false, if_true]
    obtain ⟨T2, e2, f2, hA2⟩ := hA1.stY (gY g)
    refine Rn.st e2 f2.le (Rn.ret ⟨rfl, hf.tr (f2.up fun x q => ?_), hA2.cg ?_ ?_ ?_ ?_ rfl⟩)
    · simp -implicitDefEqProofs only [bk]; omega
    all_goals (intro c hc; show (if c < 30 then _ else _) = _; rw [if_pos hc])
theorem e_clear (hA0 : GrAt T0 a o g) (hc : c < 30) : Rn T0 (c_X3_clear (some a) (Int32.ofNat c) T0) fun _ T' => frm (bk a) T0 T' ∧ GrAt T' a o (gclr g c) := by
  unfold c_X3_clear
  simp -implicitDefEqProofs only [hA0.o0, hA0.o1, hA0.o2, hA0.o3, hA0.o4, hA0.o5, hA0.is, Option.bind_some, not_true_eq_false, if_false, if_true]
  obtain ⟨T1, e1, f1, hA1⟩ := hA0.stK hc (-1); refine Rn.st e1 f1.le ?_
  simp -implicitDefEqProofs only [hA1.o0, hA1.o1, hA1.o2, hA1.o3, hA1.o4, hA1.o5, hA1.is, Option.bind_some, not_true_eq_false, if_false, if_true]
  obtain ⟨T2, e2, f2, hA2⟩ := hA1.stZ hc (0); refine Rn.st e2 f2.le ?_
  refine Rn.ret ⟨(f1.up ?_).tr (f2.up ?_), hA2⟩
  all_goals (intro x q; simp -implicitDefEqProofs only [bk]; omega)
theorem e_feed (hA0 : GrAt T0 a o g) (hc : c < 30) (m : Int32) : Rn T0 (c_X3_feed (some a) (Int32.ofNat c) m T0) fun _ T' => frm (bk a) T0 T' ∧ GrAt T' a o (gfeed g c m) := by
  unfold c_X3_feed
  simp -implicitDefEqProofs only [hA0.o0, hA0.o1, hA0.o2, hA0.o3, hA0.o4, hA0.o5, hA0.is, hA0.ldD hc, hA0.ldF hc, hA0.ldK hc, hA0.ldZ hc, Option.bind_some, not_true_eq_false, if_false, if_true, e_min]
  obtain ⟨T1, e1, f1, hA1⟩ := hA0.stF hc (imin 99 (gF g c + m)); refine Rn.st e1 f1.le ?_
  refine Rn.ret ⟨f1.up ?_, hA1⟩
  intro x q; simp -implicitDefEqProofs only [bk]; omega
theorem e_frost (ok : EnOK e) (hE : Ev (bk a) G T0 o rl va bb e) (hA : GrAt T0 a o g) : Rn T0 (c_X3_frost (some a) T0) fun _ T' => frm (bk a) T0 T' ∧ GrAt T' a o (gfrost e g) := by
  have hn := ok.n30
  unfold c_X3_frost
  refine loop_rule (σ := xF) (N := eN e) (fun i s => frm (bk a) T0 s ∧ GrAt s a o (gD g, gF g, mixf i (zK g) (gK g), mixf i (fun c => gZ g c / 2) (gZ g), gY g)) (fun m i s => Rn s (c_X3_frost_2 m (some a) (Int32.ofNat i) s) _) ?_ ?_ FU (by show eN e < 6000; omega) T0 ⟨frm.rf, by simp -implicitDefEqProofs only [mixf_0]; exact hA⟩
  · rintro m i T1 hi ⟨hf, hA1⟩ K
    have hi3 : i < 30 := by omega
    have hE1 := hE.mono hf
    have hle : ¬ Int32.ofNat (eN e) ≤ Int32.ofNat i := fun q => by have := (ofn_le (eN e) (by omega) i (by omega)).mp q; omega
    show Rn T1 (c_X3_frost_2_b (c_X3_frost_2 m) (some a) (Int32.ofNat i) T1) _
    unfold c_X3_frost_2_b
    simp -implicitDefEqProofs only [hle, hA1.o0, hA1.o1, hA1.o2, hA1.o3, hA1.o4, hA1.o5, hA1.is, hA1.ldD hi3, hA1.ldF hi3, hA1.ldK hi3, hA1.ldZ hi3, hE1.val, hE1.rol, hE1.bef, hE1.isr, hE1.w, hE1.h, hE1.a, hE1.s, hE1.iso, hE1.cells ok, hE1.steps ok, Option.bind_some, not_true_eq_false, if_false, if_true, c_X3_frost_40, (ofn i (by omega)).2.2, gD_mk, gF_mk, gK_mk, gZ_mk, gY_mk, mixf_at, upd_at, show ¬ (2 : Int32) = 0 by decide]
    obtain ⟨T2, e2, f2, hA2⟩ := hA1.stZ hi3 (gZ g i / 2); refine Rn.st e2 f2.le ?_
    simp -implicitDefEqProofs only [hA2.o0, hA2.o1, hA2.o2, hA2.o3, hA2.o4, hA2.o5, hA2.is, hA2.ldD hi3, hA2.ldF hi3, hA2.ldK hi3, hA2.ldZ hi3, Option.bind_some, not_true_eq_false, if_false, if_true, gD_mk, gF_mk, gK_mk, gZ_mk, gY_mk, mixf_at, upd_at]
    by_cases hz : gZ g i / 2 = 0
    · rw [if_pos hz]
      refine Rn.cl (e_clear hA2 hi3) fun v T3 _ ⟨f3, hA3⟩ => ?_
      refine K T3 ⟨(hf.tr (f2.up ?_)).tr f3, hA3.of rfl rfl ?_ ?_ rfl⟩
      · intro x q; simp -implicitDefEqProofs only [bk]; omega
      · exact mixf_upd (by unfold zK; rw [if_pos hz])
      · show upd (upd _ _ _) _ _ = _
        have : ∀ (f : Nat → Int32) x y, upd (upd f i x) i y = upd f i y := fun f x y => by
          funext j
          unfold upd
          split <;> rfl
        simp -implicitDefEqProofs only [gD_mk, gF_mk, gK_mk, gZ_mk, gY_mk, mixf_at, upd_at]
        rw [this]
        exact mixf_upd hz.symm
    · rw [if_neg hz]
      refine K T2 ⟨hf.tr (f2.up ?_), hA2.of rfl rfl ?_ ?_ rfl⟩
      · intro x q; simp -implicitDefEqProofs only [bk]; omega
      · exact mixf_same (by unfold zK; rw [if_neg hz])
      · exact mixf_upd rfl
  · rintro m T1 ⟨hf, hA1⟩
    have hE1 := hE.mono hf
    show Rn T1 (c_X3_frost_2_b (c_X3_frost_2 m) (some a) (Int32.ofNat (eN e)) T1) _
    unfold c_X3_frost_2_b
    simp -implicitDefEqProofs only [hA1.o0, hA1.o1, hA1.o2, hA1.o3, hA1.o4, hA1.o5, hA1.is, hE1.val, hE1.rol, hE1.bef, hE1.isr, hE1.w, hE1.h, hE1.a, hE1.s, hE1.iso, hE1.cells ok, hE1.steps ok, Option.bind_some, not_true_eq_false, if_false, if_true, Int32.le_refl]
    exact Rn.ret ⟨hf, hA1⟩
end GS
