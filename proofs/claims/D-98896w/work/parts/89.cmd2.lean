/-! plain law: commands that try in rounds -/
set_option maxRecDepth 100000
section CM
variable {G : xG} {T T1 : xF} {o : Nat} {s : St} {A : Ad} {S S1 : MS}
theorem gt40 {i : Nat} (hi : i < 41) : ¬ (40 : Int32) < Int32.ofNat i := fun q => by
  have := (olt (n := 40) (m := i) (by omega) (by omega)).mp q
  omega
theorem gt50 {i : Nat} (hi : i < 51) : ¬ (50 : Int32) < Int32.ofNat i := fun q => by
  have := (olt (n := 50) (m := i) (by omega) (by omega)).mp q
  omega
theorem leN {n i : Nat} (hi : i < n) (hn : n ≤ 30) : ¬ Int32.ofNat n ≤ Int32.ofNat i := fun q => by
  have := (ole (n := n) (m := i) (by omega) (by omega)).mp q
  omega
theorem k_frost (ok : StOK s) (h : CIa G T o s A) (m : MI S s) (a b : Int32) : Jn T (c_X1_frost G (some o) a b T) (m_frost a b S) fun r T' q => AG NS IA r q.1 q.2 ∧ Nx G o T s T' q.2 := by
  have m0 := m.th 0
  have z : (sF S 0 0).1 0 = 0 := sF_0
  obtain ⟨g0, h0⟩ := h.tt
  unfold c_X1_frost m_frost
  rcases (rng 0 3 (by decide) (by decide) a).symm with hv | ⟨p, -, hp, rfl⟩
  · exact Jn.thX (e_party_f (iin_f hv)) thr_le (r := (0, sF (sF S 0 0) 0 1)) (by simp -implicitDefEqProofs only [r_party_f z (iin_f hv), Option.bind_some, not_true_eq_false, if_false, if_true]) ⟨Or.inl ⟨rfl, sF_0⟩, Nx.same ok h.tw (m0.th 1) (by show T.2.1 + 1 ≤ _; omega) (by show T.2.2 + 6 ≤ _; omega)⟩
  have ep : iin (Int32.ofNat p) 0 3 = true := iin_t (a := 0) (Nat.zero_le _) hp (by decide)
  refine Jn.okX (e_party_t ep) ?_
  simp -implicitDefEqProofs only [r_party_t z ep, Option.bind_some, not_true_eq_false, if_false, if_true, i10]
  rcases (rng 0 40 (by decide) (by decide) b).symm with hv | ⟨d, hda, hd, rfl⟩
  · have e1 : iin b 0 40 = false := iin_f hv
    simp -implicitDefEqProofs only [e_in, e1, Option.bind_some, not_true_eq_false, if_false, if_true]
    exact Jn.thX e_right_f thr_le (r := (0, sF (sF S 0 0) 0 2)) (by simp -implicitDefEqProofs only [r_days_f (w := 2) z (by decide) e1, Option.bind_some, not_true_eq_false, if_false, if_true]) ⟨Or.inr ⟨rfl, sF_0⟩, Nx.same ok h.tw (m0.th 2) (by show T.2.1 + 1 ≤ _; omega) (by show T.2.2 + 6 ≤ _; omega)⟩
  have ed : iin (Int32.ofNat d) 0 40 = true := iin_t hda hd (by decide)
  simp -implicitDefEqProofs only [e_in, ed, Option.bind_some, not_true_eq_false, if_false, if_true]
  refine Jn.okX e_right_t ?_
  simp -implicitDefEqProofs only [r_days_t (w := 2) z ed, Option.bind_some, not_true_eq_false, if_false, if_true, i10]
  simp -implicitDefEqProofs only [h.q3, h.q4, h0.is, Option.bind_some, not_true_eq_false, if_false, if_true]
  refine Jn.cl (t_be h) fun v T1 _ ⟨k1, k2, k3⟩ => ?_
  subst k1
  refine Jn.mb (u_tries m0) fun S1 ⟨j1, j2⟩ => ?_
  simp -implicitDefEqProofs only [k2.2.is, Option.bind_some, not_true_eq_false, if_false, if_true]
  refine Jn.cl (t_frost ok k2) fun v T2 _ ⟨k4, k5⟩ => ?_
  refine Jn.mb (u_freezes ok j1) fun S2 ⟨j3, j4⟩ => ?_
  have gz : GI (sE s) (gfrost (sE s) (sG s)) 1001 := GI.frost ok.1 ok.2.1
  simp -implicitDefEqProofs only [k4.1.q3, k4.2.is, Option.bind_some, not_true_eq_false, if_false, if_true]
  refine Jn.cl (t_after (n := 0) ok k4 (show d < 100 by omega) (gz.le (by omega))) fun v T3 _ ⟨k6, k7, k8⟩ => ?_
  subst k6
  refine Jn.mb (u_after (n := 0) ok j3 (show d < 100 by omega) (gz.le (by omega))) fun S3 ⟨j5, j6⟩ => ?_
  have g3 : GI (sE s) (gafter (sE s) d (gfrost (sE s) (sG s))) 1 := GI.after ok.1 d (gz.le (by omega))
  simp -implicitDefEqProofs only [k7.2.is, t_votes ok k7 g3, u_votes ok j5 g3, Option.bind_some, not_true_eq_false, if_false, if_true]
  exact Jfin ok k7.1 j5.1 (by rw [j6, j4, j2]; exact z) (k8.trans (k5.trans k3))
theorem k_first (ok : StOK s) (h : CIa G T o s A) (m : MI S s) (a : Int32) : Jn T (c_X1_first G (some o) a T) (m_first a S) fun r T' q => AG NS "" r q.1 q.2 ∧ Nx G o T s T' q.2 := by
  have m0 := m.th 0
  have z : (sF S 0 0).1 0 = 0 := sF_0
  obtain ⟨g0, h0⟩ := h.tt
  unfold c_X1_first m_first
  rcases (rng 0 3 (by decide) (by decide) a).symm with hv | ⟨p, -, hp, rfl⟩
  · exact Jn.thX (e_party_f (iin_f hv)) thr_le (r := (0, sF (sF S 0 0) 0 1)) (by simp -implicitDefEqProofs only [r_party_f z (iin_f hv), Option.bind_some, not_true_eq_false, if_false, if_true]) ⟨Or.inl ⟨rfl, sF_0⟩, Nx.same ok h.tw (m0.th 1) (by show T.2.1 + 1 ≤ _; omega) (by show T.2.2 + 6 ≤ _; omega)⟩
  have ep : iin (Int32.ofNat p) 0 3 = true := iin_t (a := 0) (Nat.zero_le _) hp (by decide)
  refine Jn.okX (e_party_t ep) ?_
  simp -implicitDefEqProofs only [r_party_t z ep, Option.bind_some, not_true_eq_false, if_false, if_true, i10]
  simp -implicitDefEqProofs only [h.q3, h.q4, h0.is, Option.bind_some, not_true_eq_false, if_false, if_true]
  refine Jn.cl (t_be h) fun v T1 _ ⟨k1, k2, k3⟩ => ?_
  refine Jn.mb (u_tries m0) fun S1 ⟨j1, j2⟩ => ?_
  refine loop_rule (σ := xF × MS) (N := 41) (fun i s1 => Tr G s1.1 o s A (gafter (sE s) i (sG s)) ∧ Mt s1.2 s (gafter (sE s) i (sG s)) ∧ s1.1.2 = T.2 ∧ s1.2.1 0 = 0) (fun m i s1 => Jn s1.1 (c_X1_first_18 G m (some o) (Int32.ofNat p) (Int32.ofNat i) s1.1) (m_first_21 m (Int32.ofNat p) (Int32.ofNat i) s1.2) _) ?_ ?_ FU (by decide) (T1, S1) ⟨k2, j1, k3, by rw [j2]; exact z⟩
  · rintro m i ⟨T2, S2⟩ hi ⟨h1, h2, h3, h4⟩ K
    dsimp only at h1 h2 h3 h4 ⊢
    have gi := GIa (s := s) (k := i) ok (by omega)
    show Jn T2 (c_X1_first_18_b G (c_X1_first_18 G m) (some o) (Int32.ofNat p) (Int32.ofNat i) T2) (m_first_21_b (m_first_21 m) (Int32.ofNat p) (Int32.ofNat i) S2) _
    unfold c_X1_first_18_b m_first_21_b
    simp -implicitDefEqProofs only [gt40 hi, h1.1.q3, h1.2.is, t_winner ok h1 gi, u_winner ok h2 gi, ofn1 i (by omega), Option.bind_some, not_true_eq_false, if_false, if_true]
    split
    · exact Jfin ok h1.1 h2.1 h4 h3
    · refine Jn.cl (t_pass (n := 0) ok h1 (gi.le (by omega))) fun v T3 _ ⟨_, q2, q3⟩ => ?_
      refine Jn.mb (u_pass (n := 0) ok h2 (gi.le (by omega))) fun S3 ⟨r1, r2⟩ => ?_
      exact K (T3, S3) ⟨q2, r1, q3.trans h3, by rw [r2]; exact h4⟩
  · rintro m ⟨T2, S2⟩ ⟨h1, h2, h3, h4⟩
    show Jn T2 (c_X1_first_18_b G (c_X1_first_18 G m) (some o) (Int32.ofNat p) (Int32.ofNat 41) T2) (m_first_21_b (m_first_21 m) (Int32.ofNat p) (Int32.ofNat 41) S2) _
    unfold c_X1_first_18_b m_first_21_b
    rw [if_pos (by decide), if_pos (by decide)]
    exact Jfin ok h1.1 h2.1 h4 h3
theorem k_least (ok : StOK s) (h : CIa G T o s A) (m : MI S s) (a b c : Int32) : Jn T (c_X1_least G (some o) a b c T) (m_least a b c S) fun r T' q => AG NS IA r q.1 q.2 ∧ Nx G o T s T' q.2 := by
  have m0 := m.th 0
  have z : (sF S 0 0).1 0 = 0 := sF_0
  have hn := ok.1.n30
  unfold c_X1_least m_least
  simp -implicitDefEqProofs only [h.iso, Option.bind_some, not_true_eq_false, if_false, if_true]
  rcases (cell_rng ok a).symm with hv | ⟨x, hx, rfl⟩
  · exact Jn.thX (e_cell_f h ok hv) thr_le (r := (0, sF (sF S 0 0) 0 1)) (by simp -implicitDefEqProofs only [r_cell_f m0 ok z hv, Option.bind_some, not_true_eq_false, if_false, if_true]) ⟨Or.inl ⟨rfl, sF_0⟩, Nx.same ok h.tw (m0.th 1) (by show T.2.1 + 1 ≤ _; omega) (by show T.2.2 + 6 ≤ _; omega)⟩
  refine Jn.okX (e_cell_t h ok hx) ?_
  simp -implicitDefEqProofs only [r_cell_t m0 ok z hx, Option.bind_some, not_true_eq_false, if_false, if_true, i10]
  rcases (rng 0 3 (by decide) (by decide) b).symm with hv | ⟨p, -, hp, rfl⟩
  · exact Jn.thX (e_party_f (iin_f hv)) thr_le (r := (0, sF (sF S 0 0) 0 1)) (by simp -implicitDefEqProofs only [r_party_f z (iin_f hv), Option.bind_some, not_true_eq_false, if_false, if_true]) ⟨Or.inl ⟨rfl, sF_0⟩, Nx.same ok h.tw (m0.th 1) (by show T.2.1 + 1 ≤ _; omega) (by show T.2.2 + 6 ≤ _; omega)⟩
  have ep : iin (Int32.ofNat p) 0 3 = true := iin_t (a := 0) (Nat.zero_le _) hp (by decide)
  refine Jn.okX (e_party_t ep) ?_
  simp -implicitDefEqProofs only [r_party_t z ep, Option.bind_some, not_true_eq_false, if_false, if_true, i10]
  rcases (rng 1 40 (by decide) (by decide) c).symm with hv | ⟨d, hda, hd, rfl⟩
  · have e1 : iin c 1 40 = false := iin_f hv
    simp -implicitDefEqProofs only [e_in, e1, Option.bind_some, not_true_eq_false, if_false, if_true]
    exact Jn.thX e_right_f thr_le (r := (0, sF (sF S 0 0) 0 2)) (by simp -implicitDefEqProofs only [r_days_f (w := 2) z (by decide) e1, Option.bind_some, not_true_eq_false, if_false, if_true]) ⟨Or.inr ⟨rfl, sF_0⟩, Nx.same ok h.tw (m0.th 2) (by show T.2.1 + 1 ≤ _; omega) (by show T.2.2 + 6 ≤ _; omega)⟩
  have ed : iin (Int32.ofNat d) 1 40 = true := iin_t hda hd (by decide)
  simp -implicitDefEqProofs only [e_in, ed, Option.bind_some, not_true_eq_false, if_false, if_true]
  refine Jn.okX e_right_t ?_
  simp -implicitDefEqProofs only [r_days_t (w := 2) z ed, Option.bind_some, not_true_eq_false, if_false, if_true, i10]
  have x3 : x < 30 := by omega
  refine loop_rule (σ := xF × MS) (N := 51) (fun i s1 => CIa G s1.1 o s A ∧ MI s1.2 s ∧ s1.1.2 = T.2 ∧ s1.2.1 0 = 0) (fun m i s1 => Jn s1.1 (c_X1_least_22 G m (some o) (Int32.ofNat x) (Int32.ofNat p) (Int32.ofNat d) (Int32.ofNat i) s1.1) (m_least_36 m (Int32.ofNat x) (Int32.ofNat p) (Int32.ofNat d) (Int32.ofNat i) s1.2) _) ?_ ?_ FU (by decide) (T, sF S 0 0) ⟨h, m0, rfl, z⟩
  · rintro m i ⟨T2, S2⟩ hi ⟨h1, h2, h3, h4⟩ K
    dsimp only at h1 h2 h3 h4 ⊢
    obtain ⟨g1, h01⟩ := h1.tt
    show Jn T2 (c_X1_least_22_b G (c_X1_least_22 G m) (some o) (Int32.ofNat x) (Int32.ofNat p) (Int32.ofNat d) (Int32.ofNat i) T2) (m_least_36_b (m_least_36 m) (Int32.ofNat x) (Int32.ofNat p) (Int32.ofNat d) (Int32.ofNat i) S2) _
    unfold c_X1_least_22_b m_least_36_b
    simp -implicitDefEqProofs only [gt50 hi, h1.q3, h1.q4, h01.is, ofn1 i (by omega), Option.bind_some, not_true_eq_false, if_false, if_true]
    have gz : GI (sE s) (gfeed (sG s) x (Int32.ofNat i)) 1001 := GI.feed ok.2.1 x3 (by omega)
    refine Jn.cl (t_be h1) fun v T3 _ ⟨k1, k2, k3⟩ => ?_
    subst k1
    refine Jn.mb (u_breads h2 x3 (Int32.ofNat i)) fun S3 ⟨j1, j2⟩ => ?_
    simp -implicitDefEqProofs only [k2.2.is, Option.bind_some, not_true_eq_false, if_false, if_true]
    refine Jn.cl (t_feed k2 x3 (Int32.ofNat i)) fun v T4 _ ⟨k4, k5⟩ => ?_
    simp -implicitDefEqProofs only [k4.1.q3, k4.2.is, Option.bind_some, not_true_eq_false, if_false, if_true]
    refine Jn.cl (t_after (n := 0) ok k4 (show d < 100 by omega) (gz.le (by omega))) fun v T5 _ ⟨k6, k7, k8⟩ => ?_
    subst k6
    refine Jn.mb (u_after (n := 0) ok j1 (show d < 100 by omega) (gz.le (by omega))) fun S5 ⟨j5, j6⟩ => ?_
    have g3 : GI (sE s) (gafter (sE s) d (gfeed (sG s) x (Int32.ofNat i))) 1 := GI.after ok.1 d (gz.le (by omega))
    simp -implicitDefEqProofs only [k7.2.is, t_winner ok k7 g3, u_winner ok j5 g3, Option.bind_some, not_true_eq_false, if_false, if_true]
    split
    · exact Jfin ok k7.1 j5.1 (by rw [j6, j2]; exact h4) (k8.trans (k5.trans (k3.trans h3)))
    · exact K (T5, S5) ⟨k7.1, j5.1, k8.trans (k5.trans (k3.trans h3)), by rw [j6, j2]; exact h4⟩
  · rintro m ⟨T2, S2⟩ ⟨h1, h2, h3, h4⟩
    show Jn T2 (c_X1_least_22_b G (c_X1_least_22 G m) (some o) (Int32.ofNat x) (Int32.ofNat p) (Int32.ofNat d) (Int32.ofNat 51) T2) (m_least_36_b (m_least_36 m) (Int32.ofNat x) (Int32.ofNat p) (Int32.ofNat d) (Int32.ofNat 51) S2) _
    unfold c_X1_least_22_b m_least_36_b
    rw [if_pos (by decide), if_pos (by decide)]
    exact Jfin ok h1 h2 h4 h3
theorem k_best (ok : StOK s) (h : CIa G T o s A) (m : MI S s) (a b : Int32) : Jn T (c_X1_best G (some o) a b T) (m_best a b S) fun r T' q => AG NS IA r q.1 q.2 ∧ Nx G o T s T' q.2 := by
  have m0 := m.th 0
  have z : (sF S 0 0).1 0 = 0 := sF_0
  have hn := ok.1.n30
  unfold c_X1_best m_best
  rcases (rng 0 3 (by decide) (by decide) a).symm with hv | ⟨p, -, hp, rfl⟩
  · exact Jn.thX (e_party_f (iin_f hv)) thr_le (r := (0, sF (sF S 0 0) 0 1)) (by simp -implicitDefEqProofs only [r_party_f z (iin_f hv), Option.bind_some, not_true_eq_false, if_false, if_true]) ⟨Or.inl ⟨rfl, sF_0⟩, Nx.same ok h.tw (m0.th 1) (by show T.2.1 + 1 ≤ _; omega) (by show T.2.2 + 6 ≤ _; omega)⟩
  have ep : iin (Int32.ofNat p) 0 3 = true := iin_t (a := 0) (Nat.zero_le _) hp (by decide)
  refine Jn.okX (e_party_t ep) ?_
  simp -implicitDefEqProofs only [r_party_t z ep, Option.bind_some, not_true_eq_false, if_false, if_true, i10]
  rcases (rng 1 40 (by decide) (by decide) b).symm with hv | ⟨d, hda, hd, rfl⟩
  · have e1 : iin b 1 40 = false := iin_f hv
    simp -implicitDefEqProofs only [e_in, e1, Option.bind_some, not_true_eq_false, if_false, if_true]
    exact Jn.thX e_right_f thr_le (r := (0, sF (sF S 0 0) 0 2)) (by simp -implicitDefEqProofs only [r_days_f (w := 2) z (by decide) e1, Option.bind_some, not_true_eq_false, if_false, if_true]) ⟨Or.inr ⟨rfl, sF_0⟩, Nx.same ok h.tw (m0.th 2) (by show T.2.1 + 1 ≤ _; omega) (by show T.2.2 + 6 ≤ _; omega)⟩
  have ed : iin (Int32.ofNat d) 1 40 = true := iin_t hda hd (by decide)
  simp -implicitDefEqProofs only [e_in, ed, Option.bind_some, not_true_eq_false, if_false, if_true]
  refine Jn.okX e_right_t ?_
  simp -implicitDefEqProofs only [r_days_t (w := 2) z ed, Option.bind_some, not_true_eq_false, if_false, if_true, i10]
  simp -implicitDefEqProofs only [h.iso, Option.bind_some, not_true_eq_false, if_false, if_true]
  refine Jn.cl (t_later ok h (show d < 100 by omega)) fun v T1 _ ⟨k1, k2, k3⟩ => ?_
  subst k1
  refine Jn.mb (u_goes ok m0 (show d < 100 by omega)) fun S1 ⟨j1, j2⟩ => ?_
  have gi := GIa (s := s) (k := d) ok (by omega)
  simp -implicitDefEqProofs only [k2.2.is, t_votes ok k2 gi, u_votes ok j1 gi, Option.bind_some, not_true_eq_false, if_false, if_true]
  refine loop_rule (σ := (xF × MS) × Int32 × Int32) (N := eN (sE s)) (fun i s1 => CIa G s1.1.1 o s A ∧ MI s1.1.2 s ∧ s1.1.1.2 = T.2 ∧ s1.1.2.1 0 = 0) (fun m i s1 => Jn s1.1.1 (c_X1_best_30 G m (some o) (Int32.ofNat p) (Int32.ofNat d) s1.2.1 s1.2.2 (Int32.ofNat i) s1.1.1) (m_best_44 m (Int32.ofNat p) (Int32.ofNat d) s1.2.2 s1.2.1 (Int32.ofNat i) s1.1.2) _) ?_ ?_ FU (by show eN (sE s) < 6000; omega) ((T1, S1), -1, _) ⟨k2.1, j1.1, k3, by rw [j2]; exact z⟩
  · rintro m i ⟨⟨T2, S2⟩, be, mo⟩ hi ⟨h1, h2, h3, h4⟩ K
    dsimp only at h1 h2 h3 h4 ⊢
    obtain ⟨g1, h01⟩ := h1.tt
    have x3 : i < 30 := by omega
    show Jn T2 (c_X1_best_30_b G (c_X1_best_30 G m) (some o) (Int32.ofNat p) (Int32.ofNat d) be mo (Int32.ofNat i) T2) (m_best_44_b (m_best_44 m) (Int32.ofNat p) (Int32.ofNat d) mo be (Int32.ofNat i) S2) _
    unfold c_X1_best_30_b m_best_44_b
    simp -implicitDefEqProofs only [leN hi hn, h1.q1, h1.isr, h1.cells ok, v_cells ok h2, h1.q3, h1.q4, h01.is, ofn1 i (by omega), Option.bind_some, not_true_eq_false, if_false, if_true]
    have gz : GI (sE s) (gfeed (sG s) i (Int32.ofNat 20)) 1001 := GI.feed ok.2.1 x3 (by omega)
    refine Jn.cl (t_be h1) fun v T3 _ ⟨k1, k2, k3⟩ => ?_
    subst k1
    refine Jn.mb (u_breads h2 x3 20) fun S3 ⟨j1, j2⟩ => ?_
    simp -implicitDefEqProofs only [k2.2.is, Option.bind_some, not_true_eq_false, if_false, if_true]
    refine Jn.cl (t_feed k2 x3 20) fun v T4 _ ⟨k4, k5⟩ => ?_
    simp -implicitDefEqProofs only [k4.1.q3, k4.2.is, Option.bind_some, not_true_eq_false, if_false, if_true]
    refine Jn.cl (t_after (n := 0) ok k4 (show d < 100 by omega) (gz.le (by omega))) fun v T5 _ ⟨k6, k7, k8⟩ => ?_
    subst k6
    refine Jn.mb (u_after (n := 0) ok j1 (show d < 100 by omega) (gz.le (by omega))) fun S5 ⟨j5, j6⟩ => ?_
    have g3 : GI (sE s) (gafter (sE s) d (gfeed (sG s) i 20)) 1 := GI.after ok.1 d (gz.le (by omega))
    simp -implicitDefEqProofs only [k7.2.is, t_votes ok k7 g3, u_votes ok j5 g3, c_X1_best_91, m_best_91, ofn1 i (by omega), Option.bind_some, not_true_eq_false, if_false, if_true]
    have key : ∀ be mo, Jn T5 (c_X1_best_30 G m (some o) (Int32.ofNat p) (Int32.ofNat d) be mo (Int32.ofNat (i + 1)) T5) (m_best_44 m (Int32.ofNat p) (Int32.ofNat d) mo be (Int32.ofNat (i + 1)) S5) _ := fun be mo => K ((T5, S5), be, mo) ⟨k7.1, j5.1, k8.trans (k5.trans (k3.trans h3)), by rw [j6, j2]; exact h4⟩
    by_cases hv : mo < vts (sE s) (gafter (sE s) d (gfeed (sG s) i 20)) (Int32.ofNat p)
    · rw [if_pos hv]
      first | rw [if_pos hv] | rw [if_neg (Int32.not_le.mpr hv)]
      exact key _ _
    · rw [if_neg hv]
      first | rw [if_neg hv] | rw [if_pos (i32_le.mp hv)]
      exact key _ _
  · rintro m ⟨⟨T2, S2⟩, be, mo⟩ ⟨h1, h2, h3, h4⟩
    dsimp only at h1 h2 h3 h4 ⊢
    show Jn T2 (c_X1_best_30_b G (c_X1_best_30 G m) (some o) (Int32.ofNat p) (Int32.ofNat d) be mo (Int32.ofNat (eN (sE s))) T2) (m_best_44_b (m_best_44 m) (Int32.ofNat p) (Int32.ofNat d) mo be (Int32.ofNat (eN (sE s))) S2) _
    unfold c_X1_best_30_b m_best_44_b
    simp -implicitDefEqProofs only [h1.q1, h1.isr, h1.cells ok, v_cells ok h2, Int32.le_refl, Option.bind_some, not_true_eq_false, if_false, if_true]
    exact Jfin ok h1 h2 h4 h3
end CM
