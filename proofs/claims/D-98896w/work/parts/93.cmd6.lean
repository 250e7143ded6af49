/-! plain law: counts, a cell -/
set_option maxRecDepth 100000
section CM
variable {G : xG} {T T1 : xF} {o : Nat} {s : St} {A : Ad} {S S1 : MS} {g : Gw}
theorem CIa.lal (h : CIa G T o s A) : ∃ ha wa ca, LsAt T (aAl A) (aAa A) (sH s).1 ha wa ca := by
  obtain ⟨ha, ea, wa, ws, ca, cs, v11, v12, v13, sd, a1, a2, a3, a4, a5, a6, a7, a8, a9, a10, -⟩ := h
  exact ⟨_, _, _, a10⟩
theorem CIa.lsl (h : CIa G T o s A) : ∃ ea ws cs, LsAt T (aSl A) (aSa A) (sS s).1 ea ws cs := by
  obtain ⟨ha, ea, wa, ws, ca, cs, v11, v12, v13, sd, a1, a2, a3, a4, a5, a6, a7, a8, a9, a10, a11, -⟩ := h
  exact ⟨_, _, _, a11⟩
theorem CIa.rfa (h : CIa G T o s A) : RfA T A s := by
  obtain ⟨ha, ea, wa, ws, ca, cs, v11, v12, v13, sd, a1, a2, a3, a4, a5, a6, a7, a8, a9, -⟩ := h
  exact a9
theorem CIa.tpa (h : CIa G T o s A) : TpA T A s := by
  obtain ⟨ha, ea, wa, ws, ca, cs, v11, v12, v13, sd, a1, a2, a3, a4, a5, a6, a7, a8, -⟩ := h
  exact a8
theorem RfA.ld (h : RfA T A s) {k : Nat} (hk : k < 3) : ldA T (some (aRf A)) .int (Int32.ofNat k) = some (sR s k) := by
  obtain ⟨f, h1, h2⟩ := h
  rw [ldA.eq_1, aA.eq_2]
  simp -implicitDefEqProofs only [h1, if_true, Option.bind_some, not_true_eq_false, if_false, if_true]
  rw [if_pos (inb_o (by show k < 3; omega) (by omega)), ocl (by omega), h2 k hk]
theorem rd5 (m : MI S s) {k : Nat} (hk : k < 3) : rdA S 5 (Int32.ofNat k) = some (sR s k) := by
  rw [rdA_n (k := k) (ocl (by omega)) (on0 (by omega)) (by show k < 3; omega), m.2.2.2.2.2.2.2.2.2.2 k hk]
theorem k_moulds (ok : StOK s) (h : CIa G T o s A) (m : MI S s) : ∃ v, c_X1_moulds T (some o) = some v ∧ m_mouldsNow S = some v := by
  have hn := ok.1.n30
  unfold c_X1_moulds m_mouldsNow
  refine loop_rule (σ := Int32) (N := eN (sE s)) (fun _ _ => True) (fun n i x => ∃ v, c_X1_moulds_4 T n (some o) x (Int32.ofNat i) = some v ∧ m_mouldsNow_4 n x (Int32.ofNat i) S = some v) ?_ ?_ FU (by show eN (sE s) < 6000; omega) 0 trivial
  · rintro n i x hi - K
    have x3 : i < 30 := by omega
    show ∃ v, c_X1_moulds_4_b T (c_X1_moulds_4 T n) (some o) x (Int32.ofNat i) = some v ∧ m_mouldsNow_4_b (m_mouldsNow_4 n) x (Int32.ofNat i) S = some v
    unfold c_X1_moulds_4_b m_mouldsNow_4_b
    simp -implicitDefEqProofs only [leN hi hn, h.q1, h.isr, h.cells ok, v_cells ok m, h.q4, h.cc.o2, h.cc.ldK x3, m.row.lK0 x3, c_X1_moulds_31, m_mouldsNow_31, ofn1 i (by omega), Option.bind_some, not_true_eq_false, if_false, if_true, Int32.add_zero]
    by_cases hk : gK (sG s) i = -1
    · rw [if_pos hk, if_pos hk]
      exact K _ trivial
    · rw [if_neg hk, if_neg hk]
      exact K _ trivial
  · rintro n x -
    show ∃ v, c_X1_moulds_4_b T (c_X1_moulds_4 T n) (some o) x (Int32.ofNat (eN (sE s))) = some v ∧ m_mouldsNow_4_b (m_mouldsNow_4 n) x (Int32.ofNat (eN (sE s))) S = some v
    unfold c_X1_moulds_4_b m_mouldsNow_4_b
    simp -implicitDefEqProofs only [h.q1, h.isr, h.cells ok, v_cells ok m, Int32.le_refl, Option.bind_some, not_true_eq_false, if_false, if_true]
    exact ⟨x, rfl, rfl⟩
theorem k_count (ok : StOK s) (h : CIa G T o s A) (m : MI S s) (a : Int32) : Jn T (c_X1_count (some o) a T) (m_count a S) fun r T' q => AG NS "" r q.1 q.2 ∧ Nx G o T s T' q.2 := by
  have m0 := m.th 0
  have z : (sF S 0 0).1 0 = 0 := sF_0
  obtain ⟨lp, q1, q2, q3, q4, q5⟩ := h.evt.pa
  obtain ⟨v, v1, v2⟩ := k_moulds ok h m0
  obtain ⟨ha, wa, ca, hal⟩ := h.lal
  obtain ⟨ea, ws, cs, hsl⟩ := h.lsl
  obtain ⟨⟨d, d1, d2⟩, -⟩ := ok.2.1.1
  have e0 := m0.mv (E := eb 0) eb_own
  unfold c_X1_count m_count
  simp -implicitDefEqProofs only [e_within]
  have fin : ∀ v : Int32, Jn T (some ((.inl v : Int32 ⊕ xE), T)) (some (v, sF S 0 0)) fun r T' q => AG NS "" r q.1 q.2 ∧ Nx G o T s T' q.2 := fun v => Jfin ok h m0 z rfl
  rcases (rng 0 15 (by decide) (by decide) a).symm with hv | ⟨k, -, hk, rfl⟩
  · have e1 : iin a 0 15 = false := iin_f hv
    have e2 : iin a 13 15 = false := by
      refine iin_f ?_
      rcases hv with q | q
      · exact Or.inl (Int32.lt_trans q (by decide))
      · exact Or.inr q
    have ne : ∀ k, k ≤ 15 → ¬ a = Int32.ofNat k := by
      intro k hk q
      subst q
      rcases hv with q | q
      · exact on0 (by omega) q
      · have := (olt (n := 15) (m := k) (by omega) (by omega)).mp q
        omega
    have n0 : ¬ a = (0 : Int32) := ne 0 (by omega)
    have n1 : ¬ a = (1 : Int32) := ne 1 (by omega)
    have n2 : ¬ a = (2 : Int32) := ne 2 (by omega)
    have n3 : ¬ a = (3 : Int32) := ne 3 (by omega)
    have n4 : ¬ a = (4 : Int32) := ne 4 (by omega)
    have n5 : ¬ a = (5 : Int32) := ne 5 (by omega)
    have n6 : ¬ a = (6 : Int32) := ne 6 (by omega)
    have n7 : ¬ a = (7 : Int32) := ne 7 (by omega)
    have n8 : ¬ a = (8 : Int32) := ne 8 (by omega)
    have n9 : ¬ a = (9 : Int32) := ne 9 (by omega)
    have n10 : ¬ a = (10 : Int32) := ne 10 (by omega)
    have n11 : ¬ a = (11 : Int32) := ne 11 (by omega)
    have n12 : ¬ a = (12 : Int32) := ne 12 (by omega)
    simp -implicitDefEqProofs only [e1, e_in, e2, n0, n1, n2, n3, n4, n5, n6, n7, n8, n9, n10, n11, n12, Option.bind_some, not_true_eq_false, if_false, if_true]
    have hr : m_right 0 1 (sF S 0 0) = some (0, sF (sF S 0 0) 0 1) := r_right_f z (by decide)
    exact Jn.thX e_found_f thr_le (r := (0, sF (sF S 0 0) 0 1)) (by rw [show b01 false = 0 from rfl]; simp -implicitDefEqProofs only [hr, Option.bind_some, not_true_eq_false, if_false, if_true]) ⟨Or.inl ⟨rfl, sF_0⟩, Nx.same ok h.tw (m0.th 1) (by show T.2.1 + 1 ≤ _; omega) (by show T.2.2 + 6 ≤ _; omega)⟩
  · have e1 : iin (Int32.ofNat k) 0 15 = true := iin_t (a := 0) (Nat.zero_le _) hk (by decide)
    have hr : m_right 1 1 (sF S 0 0) = some (1, sF S 0 0) := r_right_t z
    have hk16 : k < 16 := by omega
    simp -implicitDefEqProofs only [e1, show b01 true = 1 from rfl, hr, i10, Option.bind_some, not_true_eq_false, if_false, if_true]
    have lY0 := m0.row.lY0
    rcases (by omega : k = 0 ∨ k = 1 ∨ k = 2 ∨ k = 3 ∨ k = 4 ∨ k = 5 ∨ k = 6 ∨ k = 7 ∨ k = 8 ∨ k = 9 ∨ k = 10 ∨ k = 11 ∨ k = 12 ∨ k = 13 ∨ k = 14 ∨ k = 15) with rfl | rfl | rfl | rfl | rfl | rfl | rfl | rfl | rfl | rfl | rfl | rfl | rfl | rfl | rfl | rfl
    · simp -implicitDefEqProofs (decide := true) only [h.q1, h.isr, h.cells ok, v_cells ok m0, Option.bind_some, not_true_eq_false, if_false, if_true]
      exact fin _
    · simp -implicitDefEqProofs (decide := true) only [h.q1, h.evt.w, e0.w, Option.bind_some, not_true_eq_false, if_false, if_true]
      exact fin _
    · simp -implicitDefEqProofs (decide := true) only [h.q1, q1, q2, q3, e0.p, Option.bind_some, not_true_eq_false, if_false, if_true]
      exact fin _
    · simp -implicitDefEqProofs (decide := true) only [h.q4, h.cc.o4, lY0, Option.bind_some, not_true_eq_false, if_false, if_true]
      exact fin _
    · simp -implicitDefEqProofs (decide := true) only [h.q1, h.q4, h.cc.o4, h.isr, lY0, d2, h.evt.wm d (by omega), e0.wm d (by omega), Option.bind_some, not_true_eq_false, if_false, if_true]
      exact fin _
    · simp -implicitDefEqProofs (decide := true) only [h.q1, h.evt.a, e0.a, Option.bind_some, not_true_eq_false, if_false, if_true]
      exact fin _
    · simp -implicitDefEqProofs (decide := true) only [h.q1, h.evt.s, e0.s, Option.bind_some, not_true_eq_false, if_false, if_true]
      exact fin _
    · simp -implicitDefEqProofs (decide := true) only [h.iso, v1, v2, Option.bind_some, not_true_eq_false, if_false, if_true]
      exact fin _
    · simp -implicitDefEqProofs (decide := true) only [h.q4, h.cc.is, c_X1_allParties, n_votesOf ok h, v_votesAll ok m0, vof_all, Option.bind_some, not_true_eq_false, if_false, if_true]
      exact fin _
    · simp -implicitDefEqProofs (decide := true) only [h.q4, h.cc.is, n_winner ok h, v_winner ok m0, Option.bind_some, not_true_eq_false, if_false, if_true]
      exact fin _
    · simp -implicitDefEqProofs (decide := true) only [h.q9, hal.is, hal.size, m0.2.2.1, Option.bind_some, not_true_eq_false, if_false, if_true]
      exact fin _
    · simp -implicitDefEqProofs (decide := true) only [h.q10, hsl.is, hsl.size, m0.2.2.2.2.1, Option.bind_some, not_true_eq_false, if_false, if_true]
      exact fin _
    · simp -implicitDefEqProofs (decide := true) only [h.i6, m0.2.2.2.2.2.2.2.1, Option.bind_some, not_true_eq_false, if_false, if_true]
      exact fin _
    · simp -implicitDefEqProofs (decide := true) only [h.q8, e_in, Option.bind_some, not_true_eq_false, if_false, if_true]
      rw [show b01 (iin (Int32.ofNat 13) 13 15) = b01 true by decide]
      refine Jn.okX e_found_t ?_
      have l1 : ldA T (some (aRf A)) .int (Int32.ofNat 13 - 13) = some (sR s 0) := h.rfa.ld (k := 0) (by omega)
      have l2 : rdA (sF S 0 0) 5 (Int32.ofNat 13 - 13) = some (sR s 0) := rd5 m0 (k := 0) (by omega)
      simp -implicitDefEqProofs only [h.q8, l1, l2, Option.bind_some, not_true_eq_false, if_false, if_true]
      exact fin _
    · simp -implicitDefEqProofs (decide := true) only [h.q8, e_in, Option.bind_some, not_true_eq_false, if_false, if_true]
      rw [show b01 (iin (Int32.ofNat 14) 13 15) = b01 true by decide]
      refine Jn.okX e_found_t ?_
      have l1 : ldA T (some (aRf A)) .int (Int32.ofNat 14 - 13) = some (sR s 1) := h.rfa.ld (k := 1) (by omega)
      have l2 : rdA (sF S 0 0) 5 (Int32.ofNat 14 - 13) = some (sR s 1) := rd5 m0 (k := 1) (by omega)
      simp -implicitDefEqProofs only [h.q8, l1, l2, Option.bind_some, not_true_eq_false, if_false, if_true]
      exact fin _
    · simp -implicitDefEqProofs (decide := true) only [h.q8, e_in, Option.bind_some, not_true_eq_false, if_false, if_true]
      rw [show b01 (iin (Int32.ofNat 15) 13 15) = b01 true by decide]
      refine Jn.okX e_found_t ?_
      have l1 : ldA T (some (aRf A)) .int (Int32.ofNat 15 - 13) = some (sR s 2) := h.rfa.ld (k := 2) (by omega)
      have l2 : rdA (sF S 0 0) 5 (Int32.ofNat 15 - 13) = some (sR s 2) := rd5 m0 (k := 2) (by omega)
      simp -implicitDefEqProofs only [h.q8, l1, l2, Option.bind_some, not_true_eq_false, if_false, if_true]
      exact fin _
end CM
