/-! plain law: lost, starved, margin, votes, party -/
set_option maxRecDepth 100000
section CM
variable {G : xG} {T T1 : xF} {o : Nat} {s : St} {A : Ad} {S S1 : MS} {g : Gw}
theorem k_lost (ok : StOK s) (h : CIa G T o s A) (m : MI S s) (b : Int32) : Jn T (c_X1_lost G (some o) b T) (m_lost b S) fun r T' q => AG IA "" r q.1 q.2 ∧ Nx G o T s T' q.2 := by
  have m0 := m.th 0
  have z : (sF S 0 0).1 0 = 0 := sF_0
  have hn := ok.1.n30
  unfold c_X1_lost m_lost
  rcases (rng 0 40 (by decide) (by decide) b).symm with hv | ⟨d, hda, hd, rfl⟩
  · have e1 : iin b 0 40 = false := iin_f hv
    simp -implicitDefEqProofs only [e_in, e1, Option.bind_some, not_true_eq_false, if_false, if_true]
    exact Jn.thX e_right_f thr_le (r := (0, sF (sF S 0 0) 0 1)) (by simp -implicitDefEqProofs only [r_days_f (w := 1) z (by decide) e1, Option.bind_some, not_true_eq_false, if_false, if_true]) ⟨Or.inl ⟨rfl, sF_0⟩, Nx.same ok h.tw (m0.th 1) (by show T.2.1 + 1 ≤ _; omega) (by show T.2.2 + 6 ≤ _; omega)⟩
  have ed : iin (Int32.ofNat d) 0 40 = true := iin_t hda hd (by decide)
  simp -implicitDefEqProofs only [e_in, ed, Option.bind_some, not_true_eq_false, if_false, if_true]
  refine Jn.okX e_right_t ?_
  simp -implicitDefEqProofs only [r_days_t (w := 1) z ed, Option.bind_some, not_true_eq_false, if_false, if_true, i10]
  simp -implicitDefEqProofs only [h.iso, Option.bind_some, not_true_eq_false, if_false, if_true]
  refine Jn.cl (t_later ok h (show d < 100 by omega)) fun v T1 _ ⟨k1, k2, k3⟩ => ?_
  subst k1
  refine Jn.mb (u_goes ok m0 (show d < 100 by omega)) fun S1 ⟨j1, j2⟩ => ?_
  refine loop_rule (σ := Int32) (N := eN (sE s)) (fun _ _ => True) (fun m i x => Jn T1 (c_X1_lost_21 G m (some o) (some (aTt A)) x (Int32.ofNat i) T1) (m_lost_26 m x (Int32.ofNat i) S1) _) ?_ ?_ FU (by show eN (sE s) < 6000; omega) 0 trivial
  · rintro m i x hi - K
    have x3 : i < 30 := by omega
    show Jn T1 (c_X1_lost_21_b G (c_X1_lost_21 G m) (some o) (some (aTt A)) x (Int32.ofNat i) T1) (m_lost_26_b (m_lost_26 m) x (Int32.ofNat i) S1) _
    unfold c_X1_lost_21_b m_lost_26_b
    simp -implicitDefEqProofs only [leN hi hn, k2.1.q1, k2.1.isr, k2.1.cells ok, v_cells ok j1.1, k2.1.q4, k2.1.cc.o2, k2.1.cc.ldK x3, k2.2.o2, k2.2.ldK x3, j1.1.row.lK0 x3, j1.2.lK1 x3, c_X1_lost_74, m_lost_76, m_lost_77, ofn1 i (by omega), Option.bind_some, not_true_eq_false, if_false, if_true, Int32.or_zero]
    by_cases hk : gK (sG s) i = -1
    · rw [if_pos hk, if_pos hk]
      exact K _ trivial
    rw [if_neg hk, if_neg hk]
    by_cases hk2 : gK (gafter (sE s) d (sG s)) i = gK (sG s) i
    · rw [if_pos hk2, if_pos hk2]
      exact K _ trivial
    · rw [if_neg hk2, if_neg hk2]
      exact K _ trivial
  · rintro m x -
    show Jn T1 (c_X1_lost_21_b G (c_X1_lost_21 G m) (some o) (some (aTt A)) x (Int32.ofNat (eN (sE s))) T1) (m_lost_26_b (m_lost_26 m) x (Int32.ofNat (eN (sE s))) S1) _
    unfold c_X1_lost_21_b m_lost_26_b
    simp -implicitDefEqProofs only [k2.1.q1, k2.1.isr, k2.1.cells ok, v_cells ok j1.1, Int32.le_refl, Option.bind_some, not_true_eq_false, if_false, if_true]
    exact Jfin ok k2.1 j1.1 (by rw [j2]; exact z) k3
theorem k_starved (ok : StOK s) (h : CIa G T o s A) (m : MI S s) (b : Int32) : Jn T (c_X1_starved G (some o) b T) (m_starved b S) fun r T' q => AG IA "" r q.1 q.2 ∧ Nx G o T s T' q.2 := by
  have m0 := m.th 0
  have z : (sF S 0 0).1 0 = 0 := sF_0
  have hn := ok.1.n30
  unfold c_X1_starved m_starved
  rcases (rng 0 40 (by decide) (by decide) b).symm with hv | ⟨d, hda, hd, rfl⟩
  · have e1 : iin b 0 40 = false := iin_f hv
    simp -implicitDefEqProofs only [e_in, e1, Option.bind_some, not_true_eq_false, if_false, if_true]
    exact Jn.thX e_right_f thr_le (r := (0, sF (sF S 0 0) 0 1)) (by simp -implicitDefEqProofs only [r_days_f (w := 1) z (by decide) e1, Option.bind_some, not_true_eq_false, if_false, if_true]) ⟨Or.inl ⟨rfl, sF_0⟩, Nx.same ok h.tw (m0.th 1) (by show T.2.1 + 1 ≤ _; omega) (by show T.2.2 + 6 ≤ _; omega)⟩
  have ed : iin (Int32.ofNat d) 0 40 = true := iin_t hda hd (by decide)
  simp -implicitDefEqProofs only [e_in, ed, Option.bind_some, not_true_eq_false, if_false, if_true]
  refine Jn.okX e_right_t ?_
  simp -implicitDefEqProofs only [r_days_t (w := 1) z ed, Option.bind_some, not_true_eq_false, if_false, if_true, i10]
  simp -implicitDefEqProofs only [h.iso, Option.bind_some, not_true_eq_false, if_false, if_true]
  refine Jn.cl (t_later ok h (show d < 100 by omega)) fun v T1 _ ⟨k1, k2, k3⟩ => ?_
  subst k1
  refine Jn.mb (u_goes ok m0 (show d < 100 by omega)) fun S1 ⟨j1, j2⟩ => ?_
  refine loop_rule (σ := Int32) (N := eN (sE s)) (fun _ _ => True) (fun m i x => Jn T1 (c_X1_starved_21 G m (some o) (some (aTt A)) x (Int32.ofNat i) T1) (m_starved_26 m x (Int32.ofNat i) S1) _) ?_ ?_ FU (by show eN (sE s) < 6000; omega) 0 trivial
  · rintro m i x hi - K
    have x3 : i < 30 := by omega
    show Jn T1 (c_X1_starved_21_b G (c_X1_starved_21 G m) (some o) (some (aTt A)) x (Int32.ofNat i) T1) (m_starved_26_b (m_starved_26 m) x (Int32.ofNat i) S1) _
    unfold c_X1_starved_21_b m_starved_26_b
    simp -implicitDefEqProofs only [leN hi hn, k2.1.q1, k2.1.isr, k2.1.cells ok, v_cells ok j1.1, k2.2.o1, k2.2.ldF x3, j1.2.lF1 x3, c_X1_starved_50, m_starved_55, ofn1 i (by omega), Option.bind_some, not_true_eq_false, if_false, if_true, Int32.or_zero]
    by_cases hk : gF (gafter (sE s) d (sG s)) i = 0
    · rw [if_pos hk, if_pos hk]
      exact K _ trivial
    · rw [if_neg hk, if_neg hk]
      exact K _ trivial
  · rintro m x -
    show Jn T1 (c_X1_starved_21_b G (c_X1_starved_21 G m) (some o) (some (aTt A)) x (Int32.ofNat (eN (sE s))) T1) (m_starved_26_b (m_starved_26 m) x (Int32.ofNat (eN (sE s))) S1) _
    unfold c_X1_starved_21_b m_starved_26_b
    simp -implicitDefEqProofs only [k2.1.q1, k2.1.isr, k2.1.cells ok, v_cells ok j1.1, Int32.le_refl, Option.bind_some, not_true_eq_false, if_false, if_true]
    exact Jfin ok k2.1 j1.1 (by rw [j2]; exact z) k3
theorem le4 {i : Nat} (hi : i < 4) : ¬ (4 : Int32) ≤ Int32.ofNat i := fun q => by
  have := (ole (n := 4) (m := i) (by omega) (by omega)).mp q
  omega
theorem k_margin (ok : StOK s) (h : CIa G T o s A) (m : MI S s) (b : Int32) : Jn T (c_X1_margin G (some o) b T) (m_margin b S) fun r T' q => AG IA "" r q.1 q.2 ∧ Nx G o T s T' q.2 := by
  have m0 := m.th 0
  have z : (sF S 0 0).1 0 = 0 := sF_0
  unfold c_X1_margin m_margin
  rcases (rng 0 40 (by decide) (by decide) b).symm with hv | ⟨d, hda, hd, rfl⟩
  · have e1 : iin b 0 40 = false := iin_f hv
    simp -implicitDefEqProofs only [e_in, e1, Option.bind_some, not_true_eq_false, if_false, if_true]
    exact Jn.thX e_right_f thr_le (r := (0, sF (sF S 0 0) 0 1)) (by simp -implicitDefEqProofs only [r_days_f (w := 1) z (by decide) e1, Option.bind_some, not_true_eq_false, if_false, if_true]) ⟨Or.inl ⟨rfl, sF_0⟩, Nx.same ok h.tw (m0.th 1) (by show T.2.1 + 1 ≤ _; omega) (by show T.2.2 + 6 ≤ _; omega)⟩
  have ed : iin (Int32.ofNat d) 0 40 = true := iin_t hda hd (by decide)
  simp -implicitDefEqProofs only [e_in, ed, Option.bind_some, not_true_eq_false, if_false, if_true]
  refine Jn.okX e_right_t ?_
  simp -implicitDefEqProofs only [r_days_t (w := 1) z ed, Option.bind_some, not_true_eq_false, if_false, if_true, i10]
  simp -implicitDefEqProofs only [h.iso, Option.bind_some, not_true_eq_false, if_false, if_true]
  refine Jn.cl (t_later ok h (show d < 100 by omega)) fun v T1 _ ⟨k1, k2, k3⟩ => ?_
  subst k1
  refine Jn.mb (u_goes ok m0 (show d < 100 by omega)) fun S1 ⟨j1, j2⟩ => ?_
  have gi := GIa (s := s) (k := d) ok (by omega)
  simp -implicitDefEqProofs only [k2.2.is, t_winner ok k2 gi, u_winner ok j1 gi, Option.bind_some, not_true_eq_false, if_false, if_true]
  generalize hw : win (sE s) (gafter (sE s) d (sG s)) = w
  by_cases hw1 : w = -1
  · rw [if_pos hw1]
    subst hw1
    have hc : Rn T1 (c_X1_margin_27 G FU (some (aTt A)) (-1) 0 0 T1) fun v T' => v = .inl (-1) ∧ T' = T1 := by
      refine loop_rule (σ := Int32) (N := 4) (fun _ _ => True) (fun m i x => Rn T1 (c_X1_margin_27 G m (some (aTt A)) (-1) x (Int32.ofNat i) T1) _) ?_ ?_ FU (by decide) 0 trivial
      · rintro m i x hi - K
        show Rn T1 (c_X1_margin_27_b G (c_X1_margin_27 G m) (some (aTt A)) (-1) x (Int32.ofNat i) T1) _
        unfold c_X1_margin_27_b
        simp -implicitDefEqProofs only [le4 hi, k2.2.is, t_votes ok k2 gi, e_max, c_X1_margin_52, ofn1 i (by omega), Option.bind_some, not_true_eq_false, if_false, if_true]
        split
        · exact K _ trivial
        · exact K _ trivial
      · rintro m x -
        show Rn T1 (c_X1_margin_27_b G (c_X1_margin_27 G m) (some (aTt A)) (-1) x (Int32.ofNat 4) T1) _
        unfold c_X1_margin_27_b
        rw [if_pos (by decide), if_pos rfl]
        exact Rn.ret ⟨rfl, rfl⟩
    obtain ⟨v, T2, e1, e2, rfl, rfl⟩ := hc
    rw [e1]
    exact Jfin ok k2.1 j1.1 (by rw [j2]; exact z) k3
  · rw [if_neg hw1]
    refine loop_rule (σ := Int32) (N := 4) (fun _ _ => True) (fun m i x => Jn T1 (c_X1_margin_27 G m (some (aTt A)) w x (Int32.ofNat i) T1) (m_margin_41 m w x (Int32.ofNat i) S1) _) ?_ ?_ FU (by decide) 0 trivial
    · rintro m i x hi - K
      show Jn T1 (c_X1_margin_27_b G (c_X1_margin_27 G m) (some (aTt A)) w x (Int32.ofNat i) T1) (m_margin_41_b (m_margin_41 m) w x (Int32.ofNat i) S1) _
      unfold c_X1_margin_27_b m_margin_41_b
      simp -implicitDefEqProofs only [le4 hi, k2.2.is, t_votes ok k2 gi, u_votes ok j1 gi, e_max, c_X1_margin_52, m_margin_76, m_margin_77, ofn1 i (by omega), Option.bind_some, not_true_eq_false, if_false, if_true]
      by_cases hp : Int32.ofNat i = w
      · rw [if_pos hp, if_pos hp]
        exact K _ trivial
      · rw [if_neg hp, if_neg hp]
        unfold imax
        by_cases hv : x < vts (sE s) (gafter (sE s) d (sG s)) (Int32.ofNat i)
        · rw [if_pos hv, if_neg (Int32.not_le.mpr hv)]
          exact K _ trivial
        · rw [if_neg hv, if_pos (i32_le.mp hv)]
          exact K _ trivial
    · rintro m x -
      show Jn T1 (c_X1_margin_27_b G (c_X1_margin_27 G m) (some (aTt A)) w x (Int32.ofNat 4) T1) (m_margin_41_b (m_margin_41 m) w x (Int32.ofNat 4) S1) _
      unfold c_X1_margin_27_b m_margin_41_b
      have c4 : (4 : Int32) ≤ Int32.ofNat 4 := by decide
      simp -implicitDefEqProofs only [c4, hw1, k2.2.is, t_votes ok k2 gi, u_votes ok j1 gi, Option.bind_some, not_true_eq_false, if_false, if_true]
      exact Jfin ok k2.1 j1.1 (by rw [j2]; exact z) k3
theorem k_votes (ok : StOK s) (h : CIa G T o s A) (m : MI S s) (a : Int32) : Jn T (c_X1_votes (some o) a T) (m_votes a S) fun r T' q => AG NS "" r q.1 q.2 ∧ Nx G o T s T' q.2 := by
  have m0 := m.th 0
  have z : (sF S 0 0).1 0 = 0 := sF_0
  unfold c_X1_votes m_votes
  rcases (rng 0 3 (by decide) (by decide) a).symm with hv | ⟨p, -, hp, rfl⟩
  · exact Jn.thX (e_party_f (iin_f hv)) thr_le (r := (0, sF (sF S 0 0) 0 1)) (by simp -implicitDefEqProofs only [r_party_f z (iin_f hv), Option.bind_some, not_true_eq_false, if_false, if_true]) ⟨Or.inl ⟨rfl, sF_0⟩, Nx.same ok h.tw (m0.th 1) (by show T.2.1 + 1 ≤ _; omega) (by show T.2.2 + 6 ≤ _; omega)⟩
  have ep : iin (Int32.ofNat p) 0 3 = true := iin_t (a := 0) (Nat.zero_le _) hp (by decide)
  refine Jn.okX (e_party_t ep) ?_
  simp -implicitDefEqProofs only [r_party_t z ep, Option.bind_some, not_true_eq_false, if_false, if_true, i10]
  simp -implicitDefEqProofs only [h.q4, h.cc.is, n_votes ok h, v_votes ok m0, Option.bind_some, not_true_eq_false, if_false, if_true]
  exact Jfin ok h m0 z rfl
theorem i1 : (1 : Int32).toInt = 1 := by decide
theorem kind_rng (ok : StOK s) (v : Int32) : (∃ k, k < eP (sE s) ∧ v = Int32.ofNat k) ∨ (v < 0 ∨ Int32.ofNat (eP (sE s)) - 1 < v) ∧ (v < 0 ∨ Int32.ofNat (eP (sE s)) ≤ v) := by
  have h4 := ok.1.2.1
  by_cases h1 : v < 0
  · exact Or.inr ⟨Or.inl h1, Or.inl h1⟩
  by_cases h2 : Int32.ofNat (eP (sE s)) ≤ v
  · refine Or.inr ⟨Or.inr ?_, Or.inr h2⟩
    rw [i32le, tIo (by omega)] at h2
    rw [i32lt, tI_sub (by rw [tIo (by omega), i1]; omega) (by rw [tIo (by omega), i1]; omega), tIo (by omega), i1]
    omega
  · have h3 := onat (i32_le.mp h1)
    rw [Int32.not_le, i32lt, tIo (by omega)] at h2
    have h5 : v.toNatClampNeg = v.toInt.toNat := rfl
    have h6 := i32_le.mp h1
    rw [i32le, i0] at h6
    exact Or.inl ⟨v.toNatClampNeg, by omega, h3⟩
theorem e_kind_t (ok : StOK s) {k : Nat} (hk : k < eP (sE s)) : iin (Int32.ofNat k) 0 (Int32.ofNat (eP (sE s)) - 1) = true := by
  have h4 := ok.1.2.1
  rw [show Int32.ofNat (eP (sE s)) - 1 = Int32.ofNat (eP (sE s) - 1) from osub (b := 1) (by omega) (by omega)]
  exact iin_t (a := 0) (Nat.zero_le _) (by omega) (by omega)
theorem r_kind_t (ok : StOK s) (m : MI S s) (z : S.1 0 = 0) {k : Nat} (hk : k < eP (sE s)) : m_isKind (Int32.ofNat k) S = some (1, S) := by
  have h4 := ok.1.2.1
  unfold m_isKind m_isKind_18
  rw [if_neg (on0 (by omega)), (m.mv (E := eb 0) eb_own).p, if_neg (fun q => by have := (ole (by omega) (by omega)).mp q; omega), r_right_t z, Option.bind_some, zok1, if_neg (by simp)]
theorem r_kind_f (m : MI S s) (z : S.1 0 = 0) {v : Int32} (hv : v < 0 ∨ Int32.ofNat (eP (sE s)) ≤ v) : m_isKind v S = some (0, sF S 0 1) := by
  unfold m_isKind m_isKind_17 m_isKind_18
  have hr : m_right 0 1 S = some (0, sF S 0 1) := r_right_f z (by decide)
  by_cases h1 : v < 0
  · rw [if_pos h1, hr, Option.bind_some, zok0, if_neg (by simp)]
  · rw [if_neg h1, (m.mv (E := eb 0) eb_own).p, if_pos (hv.resolve_left h1), hr, Option.bind_some, zok0, if_neg (by simp)]
theorem k_party (ok : StOK s) (h : CIa G T o s A) (m : MI S s) (a : Int32) : Jn T (c_X1_party (some o) a T) (m_party a S) fun r T' q => AG NS "" r q.1 q.2 ∧ Nx G o T s T' q.2 := by
  have m0 := m.th 0
  have z : (sF S 0 0).1 0 = 0 := sF_0
  obtain ⟨lp, q1, q2, q3, q4, q5⟩ := h.evt.pa
  unfold c_X1_party m_party
  simp -implicitDefEqProofs only [h.q1, q1, q2, q3, Option.bind_some, not_true_eq_false, if_false, if_true]
  rcases (kind_rng ok a).symm with ⟨hv, hw⟩ | ⟨k, hk, rfl⟩
  · exact Jn.thX (e_oneOf_f (iin_f hv)) thr_le (r := (0, sF (sF S 0 0) 0 1)) (by simp -implicitDefEqProofs only [r_kind_f m0 z hw, Option.bind_some, not_true_eq_false, if_false, if_true]) ⟨Or.inl ⟨rfl, sF_0⟩, Nx.same ok h.tw (m0.th 1) (by show T.2.1 + 1 ≤ _; omega) (by show T.2.2 + 6 ≤ _; omega)⟩
  · refine Jn.okX (e_oneOf_t (e_kind_t ok hk)) ?_
    obtain ⟨q, r1, r2, r3, r4⟩ := q5 k hk
    have h4 := ok.1.2.1
    simp -implicitDefEqProofs only [h.q1, q1, q2, r1, r2, r3, r4, r_kind_t ok m0 z hk, rd1 (S := sF S 0 0) (show k < 4 by omega), (m0.mv (E := eb 0) eb_own).py k hk, Option.bind_some, not_true_eq_false, if_false, if_true, i10]
    exact Jfin ok h m0 z rfl
theorem k_fault (h : CIa G T o s A) (m : MI S s) : c_X1_fault T (some o) = some (sF_ s) ∧ m_fault S = some (sF_ s, sF S 0 0) := by
  unfold c_X1_fault m_fault
  rw [h.i7, Option.bind_some, (m.th 0).2.2.2.2.2.2.2.2.2.1]
  exact ⟨rfl, rfl⟩
end CM
