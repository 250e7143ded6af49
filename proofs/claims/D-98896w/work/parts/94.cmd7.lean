/-! plain law: a cell -/
set_option maxRecDepth 100000
section CM
variable {G : xG} {T T1 : xF} {o : Nat} {s : St} {A : Ad} {S S1 : MS} {g : Gw}
theorem n_grows {c : Nat} (ok : StOK s) (h : CIa G T o s A) (hc : c < 30) : Rn T (c_X3_grows G (some (aCc A)) (Int32.ofNat c) T) fun v T' => v = (if gK (sG s) c = -1 then 0 else grw (sE s) (sG s) c) ∧ CIa G T' o s A ∧ T'.2 = T.2 := by
  obtain ⟨f, hv⟩ := h.va
  obtain ⟨gb, hb⟩ := h.bb
  obtain ⟨gt, ht⟩ := h.tt
  have gk : GK (sE s) (sG s) := (ok.2.1.le (m := 0 + 1) (by omega)).1.gk
  exact (e_grows ok.1 (h.evc.sub fun x q => Or.inr (Or.inr q)) h.cc hv h.vc hc gk).mono fun v T' _ ⟨k1, k2, k3⟩ => ⟨k1, h.fr k2.c (fun x _ q => by
    obtain ⟨_, _, t1, t2, -⟩ := h.tg
    left
    have q' : x = aVa A := q
    rw [q', t2]) k3 ⟨gb, hb.fr k2 fun x q r => h.vb (r ▸ q)⟩ ⟨gt, ht.fr k2 fun x q r => h.vt (r ▸ q)⟩, k2.1⟩
theorem v_grows {c : Nat} (ok : StOK s) (h : MI S s) (hc : c < 30) : Mn (m_growthOf 0 (Int32.ofNat c) S) fun r => r.1 = grw (sE s) (sG s) c ∧ MI r.2 s ∧ r.2.1 = S.1 := (r_grows (b := 0) ok.1 (h.mv (E := et) fun j i q => by rcases q with q | q <;> omega) h.row (by decide) hc (ok.2.1.le (m := 0 + 1) (by omega)).1.gk).mono fun r ⟨k1, w⟩ => ⟨k1, h.fr w (fun j i q => by unfold mfree; rcases q with q | q <;> omega), w.1⟩
theorem k_cell (ok : StOK s) (h : CIa G T o s A) (m : MI S s) (a b : Int32) : Jn T (c_X1_cell G (some o) a b T) (m_cell a b S) fun r T' q => AG NS "" r q.1 q.2 ∧ Nx G o T s T' q.2 := by
  have m0 := m.th 0
  have z : (sF S 0 0).1 0 = 0 := sF_0
  have hn := ok.1.n30
  unfold c_X1_cell m_cell
  simp -implicitDefEqProofs only [h.iso, Option.bind_some, not_true_eq_false, if_false, if_true]
  rcases (cell_rng ok a).symm with hv | ⟨x, hx, rfl⟩
  · exact Jn.thX (e_cell_f h ok hv) thr_le (r := (0, sF (sF S 0 0) 0 1)) (by simp -implicitDefEqProofs only [r_cell_f m0 ok z hv, Option.bind_some, not_true_eq_false, if_false, if_true]) ⟨Or.inl ⟨rfl, sF_0⟩, Nx.same ok h.tw (m0.th 1) (by show T.2.1 + 1 ≤ _; omega) (by show T.2.2 + 6 ≤ _; omega)⟩
  refine Jn.okX (e_cell_t h ok hx) ?_
  simp -implicitDefEqProofs only [r_cell_t m0 ok z hx, Option.bind_some, not_true_eq_false, if_false, if_true, i10]
  have x3 : x < 30 := by omega
  rcases (rng 0 5 (by decide) (by decide) b).symm with hv | ⟨k, -, hk, rfl⟩
  · have e1 : iin b 0 5 = false := iin_f hv
    have ne : ∀ k, k ≤ 5 → ¬ b = Int32.ofNat k := by
      intro k hk q
      subst q
      rcases hv with q | q
      · exact on0 (by omega) q
      · have := (olt (n := 5) (m := k) (by omega) (by omega)).mp q
        omega
    have n0 : ¬ b = (0 : Int32) := ne 0 (by omega)
    have n1 : ¬ b = (1 : Int32) := ne 1 (by omega)
    have n2 : ¬ b = (2 : Int32) := ne 2 (by omega)
    have n3 : ¬ b = (3 : Int32) := ne 3 (by omega)
    have n4 : ¬ b = (4 : Int32) := ne 4 (by omega)
    have n5 : ¬ b = (5 : Int32) := ne 5 (by omega)
    simp -implicitDefEqProofs only [n0, n1, n2, n3, n4, n5, Option.bind_some, not_true_eq_false, if_false, if_true, c_X1_cell_96]
    exact Jn.thX e_found_f thr_le (r := (0, sF (sF S 0 0) 0 1)) (by simp -implicitDefEqProofs only [r_what_f z e1, Option.bind_some, not_true_eq_false, if_false, if_true]) ⟨Or.inl ⟨rfl, sF_0⟩, Nx.same ok h.tw (m0.th 1) (by show T.2.1 + 1 ≤ _; omega) (by show T.2.2 + 6 ≤ _; omega)⟩
  · have e1 : iin (Int32.ofNat k) 0 5 = true := iin_t (a := 0) (Nat.zero_le _) hk (by decide)
    simp -implicitDefEqProofs only [r_what_t z e1, Option.bind_some, not_true_eq_false, if_false, if_true, i10]
    have fin : ∀ v : Int32, Jn T (some ((.inl v : Int32 ⊕ xE), T)) (some (v, sF S 0 0)) fun r T' q => AG NS "" r q.1 q.2 ∧ Nx G o T s T' q.2 := fun v => Jfin ok h m0 z rfl
    rcases (by omega : k = 0 ∨ k = 1 ∨ k = 2 ∨ k = 3 ∨ k = 4 ∨ k = 5) with rfl | rfl | rfl | rfl | rfl | rfl
    · simp -implicitDefEqProofs (decide := true) only [h.q4, h.cc.o0, h.cc.ldD x3, m0.row.lD0 x3, Option.bind_some, not_true_eq_false, if_false, if_true]
      exact fin _
    · simp -implicitDefEqProofs (decide := true) only [h.q4, h.cc.o1, h.cc.ldF x3, m0.row.lF0 x3, Option.bind_some, not_true_eq_false, if_false, if_true]
      exact fin _
    · simp -implicitDefEqProofs (decide := true) only [h.q4, h.cc.o2, h.cc.ldK x3, m0.row.lK0 x3, Option.bind_some, not_true_eq_false, if_false, if_true]
      exact fin _
    · simp -implicitDefEqProofs (decide := true) only [h.q4, h.cc.o3, h.cc.ldZ x3, m0.row.lZ0 x3, Option.bind_some, not_true_eq_false, if_false, if_true]
      exact fin _
    · simp -implicitDefEqProofs (decide := true) only [h.iso, Option.bind_some, not_true_eq_false, if_false, if_true]
      unfold c_X1_beside
      have key : ∃ v, c_X1_beside_4 T FU (some o) (Int32.ofNat x) 0 0 = some v ∧ m_cell_102 FU (Int32.ofNat x) 0 0 (sF S 0 0) = some (v, sF S 0 0) := by
        refine loop_rule (σ := Int32) (N := eN (sE s)) (fun _ _ => True) (fun n i y => ∃ v, c_X1_beside_4 T n (some o) (Int32.ofNat x) y (Int32.ofNat i) = some v ∧ m_cell_102 n (Int32.ofNat x) y (Int32.ofNat i) (sF S 0 0) = some (v, sF S 0 0)) ?_ ?_ FU (by show eN (sE s) < 6000; omega) 0 trivial
        · rintro n i y hi - K
          have i3 : i < 30 := by omega
          show ∃ v, c_X1_beside_4_b T (c_X1_beside_4 T n) (some o) (Int32.ofNat x) y (Int32.ofNat i) = some v ∧ m_cell_102_b (m_cell_102 n) (Int32.ofNat x) y (Int32.ofNat i) (sF S 0 0) = some (v, sF S 0 0)
          unfold c_X1_beside_4_b m_cell_102_b
          simp -implicitDefEqProofs only [leN hi hn, h.q1, h.isr, h.cells ok, v_cells ok m0, h.evt.steps ok.1, v_far ok m0 x3 i3, c_X1_beside_31, m_cell_128, ofn1 i (by omega), Option.bind_some, not_true_eq_false, if_false, if_true, Int32.add_zero]
          split
          · exact K _ trivial
          · exact K _ trivial
        · rintro n y -
          show ∃ v, c_X1_beside_4_b T (c_X1_beside_4 T n) (some o) (Int32.ofNat x) y (Int32.ofNat (eN (sE s))) = some v ∧ m_cell_102_b (m_cell_102 n) (Int32.ofNat x) y (Int32.ofNat (eN (sE s))) (sF S 0 0) = some (v, sF S 0 0)
          unfold c_X1_beside_4_b m_cell_102_b
          simp -implicitDefEqProofs only [h.q1, h.isr, h.cells ok, v_cells ok m0, Int32.le_refl, Option.bind_some, not_true_eq_false, if_false, if_true]
          exact ⟨y, rfl, rfl⟩
      obtain ⟨v, k1, k2⟩ := key
      rw [k1, k2, Option.bind_some]
      exact fin v
    · simp -implicitDefEqProofs (decide := true) only [c_X1_cell_96, Option.bind_some, not_true_eq_false, if_false, if_true]
      refine Jn.okX (show c_X1_found 1 T = _ from e_found_t) ?_
      simp -implicitDefEqProofs only [h.q4, h.cc.is, m0.row.lK0 x3, Option.bind_some, not_true_eq_false, if_false, if_true]
      refine Jn.cl (n_grows ok h x3) fun v T1 _ ⟨k1, k2, k3⟩ => ?_
      by_cases hk : gK (sG s) x = -1
      · rw [if_pos hk] at k1
        rw [if_pos hk, k1]
        exact Jfin ok k2 m0 z k3
      · rw [if_neg hk] at k1
        rw [if_neg hk, k1]
        refine Jn.mb (v_grows ok m0 x3) fun r ⟨j1, j2, j3⟩ => ?_
        rw [j1]
        exact Jfin ok k2 j2 (by rw [j3]; exact z) k3
end CM
