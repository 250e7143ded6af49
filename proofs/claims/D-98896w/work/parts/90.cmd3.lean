/-! plain law: harm, keep, frosts -/
set_option maxRecDepth 100000
section CM
variable {G : xG} {T T1 : xF} {o : Nat} {s : St} {A : Ad} {S S1 : MS} {g : Gw}
theorem t_stD {c : Nat} (h : Tr G T o s A g) (hc : c < 30) (v : Int32) : ∃ T', stA T (some (aTt A + 1)) .int (Int32.ofNat c) v = some T' ∧ Tr G T' o s A (upd (gD g) c v, gF g, gK g, gZ g, gY g) ∧ T'.2 = T.2 := by
  obtain ⟨T', e, f, k⟩ := h.2.stD hc v
  exact ⟨T', e, h.1.trb (f.up fun x q => by simp -implicitDefEqProofs only [bk]; omega) k, f.1⟩
theorem t_stK {c : Nat} (h : Tr G T o s A g) (hc : c < 30) (v : Int32) : ∃ T', stA T (some (aTt A + 3)) .int (Int32.ofNat c) v = some T' ∧ Tr G T' o s A (gD g, gF g, upd (gK g) c v, gZ g, gY g) ∧ T'.2 = T.2 := by
  obtain ⟨T', e, f, k⟩ := h.2.stK hc v
  exact ⟨T', e, h.1.trb (f.up fun x q => by simp -implicitDefEqProofs only [bk]; omega) k, f.1⟩
theorem t_stZ {c : Nat} (h : Tr G T o s A g) (hc : c < 30) (v : Int32) : ∃ T', stA T (some (aTt A + 4)) .int (Int32.ofNat c) v = some T' ∧ Tr G T' o s A (gD g, gF g, gK g, upd (gZ g) c v, gY g) ∧ T'.2 = T.2 := by
  obtain ⟨T', e, f, k⟩ := h.2.stZ hc v
  exact ⟨T', e, h.1.trb (f.up fun x q => by simp -implicitDefEqProofs only [bk]; omega) k, f.1⟩
theorem x2_le {T T' : xF} (h : T'.2 = T.2) : xle T T' := by
  unfold xle
  rw [h]
  exact ⟨Nat.le_refl _, Nat.le_refl _⟩
theorem k_harm (ok : StOK s) (h : CIa G T o s A) (m : MI S s) (a b : Int32) : Jn T (c_X1_harm G (some o) a b T) (m_harm a b S) fun r T' q => AG NS IA r q.1 q.2 ∧ Nx G o T s T' q.2 := by
  have m0 := m.th 0
  have z : (sF S 0 0).1 0 = 0 := sF_0
  have hn := ok.1.n30
  unfold c_X1_harm m_harm
  rcases (rng 0 3 (by decide) (by decide) a).symm with hv | ⟨p, -, hp, rfl⟩
  · exact Jn.thX (e_party_f (iin_f hv)) thr_le (r := (0, sF (sF S 0 0) 0 1)) (by simp -implicitDefEqProofs only [r_party_f z (iin_f hv), Option.bind_some, not_true_eq_false, if_false, if_true]) ⟨Or.inl ⟨rfl, sF_0⟩, Nx.same ok h.tw (m0.th 1) (by show T.2.1 + 1 ≤ _; omega) (by show T.2.2 + 6 ≤ _; omega)⟩
  have ep : iin (Int32.ofNat p) 0 3 = true := iin_t (a := 0) (Nat.zero_le _) hp (by decide)
  refine Jn.okX (e_party_t ep) ?_
  simp -implicitDefEqProofs only [r_party_t z ep, Option.bind_some, not_true_eq_false, if_false, if_true, i10]
  rcases (rng 1 40 (by decide) (by decide) b).symm with hv | ⟨d, hda, hd, rfl⟩
  · have e1 : iin b 1 40 = false := iin_f hv
    simp -implicitDefEqProofs only [e_in, e1, Option.bind_some, not_true_eq_false, if_false, if_true]
    exact Jn.thX e_right_f thr_le (r := (0, sF (sF S 0 0) 0 2)) (by simp -implicitDefEqProofs only [r_days_f (w := 2) z (by decide) e1, Option.bind_some, not_true_eq_false, if_false, if_true]) ⟨Or.inr ⟨rfl, sF_0⟩, Nx.same ok h.tw (m0.th 2) (by show T.2.1 + 1 ≤ _; omega) (by show T.2.2 + 6 ≤ _; omega)⟩
  have ed : iin (Int32.ofNat d) 1 40 = true := iin_t hda hd (by decide)
  simp -implicitDefEqProofs only [e_in, ed, Option.bind_some, not_true_eq_false, if_false, if_true]
  refine Jn.okX e_right_t ?_
  simp -implicitDefEqProofs only [r_days_t (w := 2) z ed, Option.bind_some, not_true_eq_false, if_false, if_true, i10]
  simp -implicitDefEqProofs only [h.iso, Option.bind_some, not_true_eq_false, if_false, if_true]
  refine Jn.cl (t_later ok h (show d < 100 by omega)) fun v T1 _ ⟨k1, k2, k3⟩ => ?_
  subst k1
  refine Jn.mb (u_goes ok m0 (show d < 100 by omega)) fun S1 ⟨j1, j2⟩ => ?_
  have gi := GIa (s := s) (k := d) ok (by omega)
  simp -implicitDefEqProofs only [k2.2.is, t_votes ok k2 gi, u_votes ok j1 gi, Option.bind_some, not_true_eq_false, if_false, if_true]
  refine loop_rule (σ := (xF × MS) × Int32 × Int32) (N := eN (sE s)) (fun i s1 => CIa G s1.1.1 o s A ∧ MI s1.1.2 s ∧ s1.1.1.2 = T.2 ∧ s1.1.2.1 0 = 0) (fun m i s1 => Jn s1.1.1 (c_X1_harm_30 G m (some o) (Int32.ofNat p) (Int32.ofNat d) s1.2.1 s1.2.2 (Int32.ofNat i) s1.1.1) (m_harm_44 m (Int32.ofNat p) (Int32.ofNat d) s1.2.2 s1.2.1 (Int32.ofNat i) s1.1.2) _) ?_ ?_ FU (by show eN (sE s) < 6000; omega) ((T1, S1), -1, _) ⟨k2.1, j1.1, k3, by rw [j2]; exact z⟩
  · rintro m i ⟨⟨T2, S2⟩, be, mo⟩ hi ⟨h1, h2, h3, h4⟩ K
    dsimp only at h1 h2 h3 h4 ⊢
    obtain ⟨g1, h01⟩ := h1.tt
    have x3 : i < 30 := by omega
    show Jn T2 (c_X1_harm_30_b G (c_X1_harm_30 G m) (some o) (Int32.ofNat p) (Int32.ofNat d) be mo (Int32.ofNat i) T2) (m_harm_44_b (m_harm_44 m) (Int32.ofNat p) (Int32.ofNat d) mo be (Int32.ofNat i) S2) _
    unfold c_X1_harm_30_b m_harm_44_b
    simp -implicitDefEqProofs only [leN hi hn, h1.q1, h1.isr, h1.cells ok, v_cells ok h2, h1.q3, h1.q4, h1.cc.o2, h1.cc.ldK x3, h2.row.lK0 x3, h01.is, c_X1_harm_106, m_harm_112, ofn1 i (by omega), Option.bind_some, not_true_eq_false, if_false, if_true]
    by_cases hk : gK (sG s) i = -1
    · rw [if_pos hk, if_pos hk]
      exact K ((T2, S2), be, mo) ⟨h1, h2, h3, h4⟩
    rw [if_neg hk, if_neg hk]
    have gz : GI (sE s) (gclr (sG s) i) 1001 := ok.2.1.clr
    refine Jn.cl (t_be h1) fun v T3 _ ⟨k1, k2, k3⟩ => ?_
    subst k1
    refine Jn.mb (u_tries h2) fun S3 ⟨j1, j2⟩ => ?_
    simp -implicitDefEqProofs only [k2.2.is, Option.bind_some, not_true_eq_false, if_false, if_true]
    refine Jn.cl (t_clear k2 x3) fun v T4 _ ⟨k4, k5⟩ => ?_
    refine Jn.mb (u_clears j1 x3) fun S4 ⟨j3, j4⟩ => ?_
    simp -implicitDefEqProofs only [k4.1.q3, k4.2.is, Option.bind_some, not_true_eq_false, if_false, if_true]
    refine Jn.cl (t_after (n := 0) ok k4 (show d < 100 by omega) (gz.le (by omega))) fun v T5 _ ⟨k6, k7, k8⟩ => ?_
    subst k6
    refine Jn.mb (u_after (n := 0) ok j3 (show d < 100 by omega) (gz.le (by omega))) fun S5 ⟨j5, j6⟩ => ?_
    have g3 : GI (sE s) (gafter (sE s) d (gclr (sG s) i)) 1 := GI.after ok.1 d (gz.le (by omega))
    simp -implicitDefEqProofs only [k7.2.is, t_votes ok k7 g3, u_votes ok j5 g3, Option.bind_some, not_true_eq_false, if_false, if_true]
    have key : ∀ be mo, Jn T5 (c_X1_harm_30 G m (some o) (Int32.ofNat p) (Int32.ofNat d) be mo (Int32.ofNat (i + 1)) T5) (m_harm_44 m (Int32.ofNat p) (Int32.ofNat d) mo be (Int32.ofNat (i + 1)) S5) _ := fun be mo => K ((T5, S5), be, mo) ⟨k7.1, j5.1, k8.trans (k5.trans (k3.trans h3)), by rw [j6, j4, j2]; exact h4⟩
    by_cases hv : vts (sE s) (gafter (sE s) d (gclr (sG s) i)) (Int32.ofNat p) < mo
    · rw [if_pos hv, if_pos hv]
      exact key _ _
    · rw [if_neg hv, if_neg hv]
      exact key _ _
  · rintro m ⟨⟨T2, S2⟩, be, mo⟩ ⟨h1, h2, h3, h4⟩
    dsimp only at h1 h2 h3 h4 ⊢
    show Jn T2 (c_X1_harm_30_b G (c_X1_harm_30 G m) (some o) (Int32.ofNat p) (Int32.ofNat d) be mo (Int32.ofNat (eN (sE s))) T2) (m_harm_44_b (m_harm_44 m) (Int32.ofNat p) (Int32.ofNat d) mo be (Int32.ofNat (eN (sE s))) S2) _
    unfold c_X1_harm_30_b m_harm_44_b
    simp -implicitDefEqProofs only [h1.q1, h1.isr, h1.cells ok, v_cells ok h2, Int32.le_refl, Option.bind_some, not_true_eq_false, if_false, if_true]
    exact Jfin ok h1 h2 h4 h3
theorem gt9 {i : Nat} (hi : i < 10) : ¬ (9 : Int32) < Int32.ofNat i := fun q => by
  have := (olt (n := 9) (m := i) (by omega) (by omega)).mp q
  omega
theorem k_keep (ok : StOK s) (h : CIa G T o s A) (m : MI S s) (a : Int32) : Jn T (c_X1_keep G (some o) a T) (m_keep a S) fun r T' q => AG NS "" r q.1 q.2 ∧ Nx G o T s T' q.2 := by
  have m0 := m.th 0
  have z : (sF S 0 0).1 0 = 0 := sF_0
  have hn := ok.1.n30
  obtain ⟨g0, h0⟩ := h.tt
  unfold c_X1_keep m_keep
  simp -implicitDefEqProofs only [h.iso, Option.bind_some, not_true_eq_false, if_false, if_true]
  rcases (cell_rng ok a).symm with hv | ⟨x, hx, rfl⟩
  · exact Jn.thX (e_cell_f h ok hv) thr_le (r := (0, sF (sF S 0 0) 0 1)) (by simp -implicitDefEqProofs only [r_cell_f m0 ok z hv, Option.bind_some, not_true_eq_false, if_false, if_true]) ⟨Or.inl ⟨rfl, sF_0⟩, Nx.same ok h.tw (m0.th 1) (by show T.2.1 + 1 ≤ _; omega) (by show T.2.2 + 6 ≤ _; omega)⟩
  refine Jn.okX (e_cell_t h ok hx) ?_
  simp -implicitDefEqProofs only [r_cell_t m0 ok z hx, Option.bind_some, not_true_eq_false, if_false, if_true, i10]
  have x3 : x < 30 := by omega
  simp -implicitDefEqProofs only [h.q3, h.q4, h.cc.o2, h.cc.ldK x3, m0.row.lK0 x3, h0.is, Option.bind_some, not_true_eq_false, if_false, if_true]
  by_cases hk : gK (sG s) x = -1
  · rw [if_pos hk, if_pos hk]
    exact Jfin ok h m0 z rfl
  rw [if_neg hk, if_neg hk]
  refine Jn.cl (t_be h) fun v T1 _ ⟨k1, k2, k3⟩ => ?_
  refine Jn.mb (u_tries m0) fun S1 ⟨j1, j2⟩ => ?_
  refine loop_rule (σ := (xF × MS) × Gw) (N := 10) (fun i s1 => Tr G s1.1.1 o s A s1.2 ∧ Mt s1.1.2 s s1.2 ∧ s1.1.1.2 = T.2 ∧ s1.1.2.1 0 = 0 ∧ gK s1.2 x ≠ -1 ∧ GI (sE s) s1.2 1) (fun m i s1 => Jn s1.1.1 (c_X1_keep_34 G m (some o) (Int32.ofNat x) (Int32.ofNat i) s1.1.1) (m_keep_36 m (Int32.ofNat x) (Int32.ofNat i) s1.1.2) _) ?_ ?_ FU (by decide) ((T1, S1), sG s) ⟨k2, j1, k3, by rw [j2]; exact z, hk, ok.2.1.le (by omega)⟩
  · rintro m i ⟨⟨T2, S2⟩, g⟩ hi ⟨h1, h2, h3, h4, h5, h6⟩ K
    dsimp only at h1 h2 h3 h4 h5 h6 ⊢
    show Jn T2 (c_X1_keep_34_b G (c_X1_keep_34 G m) (some o) (Int32.ofNat x) (Int32.ofNat i) T2) (m_keep_36_b (m_keep_36 m) (Int32.ofNat x) (Int32.ofNat i) S2) _
    unfold c_X1_keep_34_b m_keep_36_b
    simp -implicitDefEqProofs only [gt9 hi, h1.1.q3, h1.2.o0, ofn1 i (by omega), Option.bind_some, not_true_eq_false, if_false, if_true]
    obtain ⟨T3, e3, q3, r3⟩ := t_stD h1 x3 (Int32.ofNat i)
    refine Jn.st e3 (x2_le r3) ?_
    obtain ⟨S3, e4, w4, q4⟩ := h2.2.sD1 x3 (Int32.ofNat i)
    refine Jn.md e4 ?_
    have q5 : Mt S3 s _ := h2.1.mt w4 rk_free q4
    have gz : GI (sE s) (upd (gD g) x (Int32.ofNat i), gF g, gK g, gZ g, gY g) 1 := h6.damp
    simp -implicitDefEqProofs only [q3.1.q3, q3.2.is, Option.bind_some, not_true_eq_false, if_false, if_true]
    refine Jn.cl (t_grows (n := 0) ok q3 x3 gz) fun v T4 _ ⟨k1, k2, k3⟩ => ?_
    refine Jn.mb (u_grows (n := 0) ok q5 x3 gz) fun r ⟨j1, j2, j3⟩ => ?_
    rw [gK_mk, if_neg h5] at k1
    rw [k1, j1]
    split
    · exact K ((T4, r.2), _) ⟨k2, j2, k3.trans (r3.trans h3), by rw [j3, w4.1]; exact h4, h5, gz⟩
    · exact Jfin ok k2.1 j2.1 (by rw [j3, w4.1]; exact h4) (k3.trans (r3.trans h3))
  · rintro m ⟨⟨T2, S2⟩, g⟩ ⟨h1, h2, h3, h4, h5, h6⟩
    show Jn T2 (c_X1_keep_34_b G (c_X1_keep_34 G m) (some o) (Int32.ofNat x) (Int32.ofNat 10) T2) (m_keep_36_b (m_keep_36 m) (Int32.ofNat x) (Int32.ofNat 10) S2) _
    unfold c_X1_keep_34_b m_keep_36_b
    rw [if_pos (by decide), if_pos (by decide)]
    exact Jfin ok h1.1 h2.1 h4 h3
theorem shl5 : ∀ d, d < 6 → (1 : Int32) <<< (Int32.ofNat d &&& 31) = Int32.ofNat (2 ^ d) := by decide
theorem p32 : ∀ d, d < 6 → 2 ^ d ≤ 32 := by decide
theorem k_frosts (ok : StOK s) (h : CIa G T o s A) (m : MI S s) (a b c : Int32) : Jn T (c_X1_frosts G (some o) a b c T) (m_frosts a b c S) fun r T' q => AG NS IA r q.1 q.2 ∧ Nx G o T s T' q.2 := by
  have m0 := m.th 0
  have z : (sF S 0 0).1 0 = 0 := sF_0
  unfold c_X1_frosts m_frosts
  rcases (rng 0 3 (by decide) (by decide) a).symm with hv | ⟨p, -, hp, rfl⟩
  · exact Jn.thX (e_party_f (iin_f hv)) thr_le (r := (0, sF (sF S 0 0) 0 1)) (by simp -implicitDefEqProofs only [r_party_f z (iin_f hv), Option.bind_some, not_true_eq_false, if_false, if_true]) ⟨Or.inl ⟨rfl, sF_0⟩, Nx.same ok h.tw (m0.th 1) (by show T.2.1 + 1 ≤ _; omega) (by show T.2.2 + 6 ≤ _; omega)⟩
  have ep : iin (Int32.ofNat p) 0 3 = true := iin_t (a := 0) (Nat.zero_le _) hp (by decide)
  refine Jn.okX (e_party_t ep) ?_
  simp -implicitDefEqProofs only [r_party_t z ep, Option.bind_some, not_true_eq_false, if_false, if_true, i10]
  simp -implicitDefEqProofs only [e_in, e_within, Option.bind_some, not_true_eq_false, if_false, if_true]
  have bad : Jn T (c_X1_frosts_27 G (some o) (Int32.ofNat p) b c T) (m_frosts_37 (Int32.ofNat p) b c (sF S 0 0)) fun r T' q => AG NS IA r q.1 q.2 ∧ Nx G o T s T' q.2 := by
    unfold c_X1_frosts_27 c_X1_frosts_28 m_frosts_37 m_frosts_38
    have hr : m_right 0 2 (sF S 0 0) = some (0, sF (sF S 0 0) 0 2) := r_right_f z (by decide)
    exact Jn.thX e_right_f thr_le (r := (0, sF (sF S 0 0) 0 2)) (by simp -implicitDefEqProofs only [hr, Option.bind_some, not_true_eq_false, if_false, if_true]) ⟨Or.inr ⟨rfl, sF_0⟩, Nx.same ok h.tw (m0.th 2) (by show T.2.1 + 1 ≤ _; omega) (by show T.2.2 + 6 ≤ _; omega)⟩
  cases h1 : iin b 1 5 with
  | false =>
    rw [if_pos (show b01 false = 0 from rfl), if_pos (show b01 false = 0 from rfl)]
    exact bad
  | true =>
  rw [if_neg (show ¬ b01 true = 0 by decide), if_neg (show ¬ b01 true = 0 by decide)]
  cases h2 : iin c 0 10 with
  | false =>
    rw [if_pos (show b01 false = 0 from rfl), if_pos (show b01 false = 0 from rfl)]
    exact bad
  | true =>
  rw [if_neg (show ¬ b01 true = 0 by decide), if_neg (show ¬ b01 true = 0 by decide)]
  rcases (rng 1 5 (by decide) (by decide) b).symm with hv | ⟨d, d1, d5, rfl⟩
  · rw [show iin b 1 5 = false from iin_f hv] at h1
    cases h1
  have hr : m_right 1 2 (sF S 0 0) = some (1, sF S 0 0) := r_right_t z
  unfold c_X1_frosts_28 m_frosts_38
  refine Jn.okX e_right_t ?_
  simp -implicitDefEqProofs only [hr, Option.bind_some, not_true_eq_false, if_false, if_true, i10]
  have hp := p32 d (by omega)
  refine loop_rule (σ := (xF × MS) × Int32) (N := 2 ^ d) (fun i s1 => CIa G s1.1.1 o s A ∧ MI s1.1.2 s ∧ s1.1.1.2 = T.2 ∧ s1.1.2.1 0 = 0) (fun m i s1 => Jn s1.1.1 (c_X1_frosts_37 G m (some o) (Int32.ofNat p) (Int32.ofNat d) c s1.2 (Int32.ofNat i) s1.1.1) (m_frosts_53 m (Int32.ofNat p) (Int32.ofNat d) c s1.2 (Int32.ofNat i) s1.1.2) _) ?_ ?_ FU (by show 2 ^ d < 6000; omega) ((T, sF S 0 0), 0) ⟨h, m0, rfl, z⟩
  · rintro m i ⟨⟨T2, S2⟩, su⟩ hi ⟨h1, h2, h3, h4⟩ K
    dsimp only at h1 h2 h3 h4 ⊢
    obtain ⟨g1, h01⟩ := h1.tt
    show Jn T2 (c_X1_frosts_37_b G (c_X1_frosts_37 G m) (some o) (Int32.ofNat p) (Int32.ofNat d) c su (Int32.ofNat i) T2) (m_frosts_53_b (m_frosts_53 m) (Int32.ofNat p) (Int32.ofNat d) c su (Int32.ofNat i) S2) _
    unfold c_X1_frosts_37_b m_frosts_53_b
    have hle : ¬ Int32.ofNat (2 ^ d) ≤ Int32.ofNat i := fun q => by have := (ole (n := 2 ^ d) (m := i) (by omega) (by omega)).mp q; omega
    simp -implicitDefEqProofs only [shl5 d (by omega), hle, h1.q3, h1.q4, h01.is, Option.bind_some, not_true_eq_false, if_false, if_true]
    refine Jn.cl (t_be h1) fun v T3 _ ⟨k1, k2, k3⟩ => ?_
    refine Jn.mb (u_tries h2) fun S3 ⟨j1, j2⟩ => ?_
    refine loop_rule (σ := ((xF × MS) × Gw) × Int32) (N := d) (fun k s1 => Tr G s1.1.1.1 o s A s1.1.2 ∧ Mt s1.1.1.2 s s1.1.2 ∧ s1.1.1.1.2 = T.2 ∧ s1.1.1.2.1 0 = 0 ∧ GI (sE s) s1.1.2 (100 - k)) (fun n k s1 => Jn s1.1.1.1 (c_X1_frosts_63 G (c_X1_frosts_37 G m) n (some o) (Int32.ofNat p) (Int32.ofNat d) c su (Int32.ofNat i) s1.2 (Int32.ofNat k) s1.1.1.1) (m_frosts_71 (m_frosts_53 m) n (Int32.ofNat p) (Int32.ofNat d) c su (Int32.ofNat i) s1.2 (Int32.ofNat k) s1.1.1.2) _) ?_ ?_ FU (by show d < 6000; omega) (((T3, S3), sG s), 1) ⟨k2, j1, k3.trans h3, by rw [j2]; exact h4, ok.2.1.le (by omega)⟩
    · rintro n k ⟨⟨⟨T4, S4⟩, g⟩, pa⟩ hk ⟨a1, a2, a3, a4, a5⟩ K2
      dsimp only at a1 a2 a3 a4 a5 ⊢
      have hle2 : ¬ Int32.ofNat d ≤ Int32.ofNat k := fun q => by have := (ole (n := d) (m := k) (by omega) (by omega)).mp q; omega
      show Jn T4 (c_X1_frosts_63_b G (c_X1_frosts_37 G m) (c_X1_frosts_63 G (c_X1_frosts_37 G m) n) (some o) (Int32.ofNat p) (Int32.ofNat d) c su (Int32.ofNat i) pa (Int32.ofNat k) T4) (m_frosts_71_b (m_frosts_53 m) (m_frosts_71 (m_frosts_53 m) n) (Int32.ofNat p) (Int32.ofNat d) c su (Int32.ofNat i) pa (Int32.ofNat k) S4) _
      unfold c_X1_frosts_63_b m_frosts_71_b
      rw [if_neg hle2, if_neg hle2]
      have pass : ∀ T5 S5 g5 y, Tr G T5 o s A g5 → Mt S5 s g5 → T5.2 = T.2 → S5.1 0 = 0 → GI (sE s) g5 (100 - k) → Jn T5 (c_X1_frosts_106 G (c_X1_frosts_37 G m) (c_X1_frosts_63 G (c_X1_frosts_37 G m) n) (some o) (Int32.ofNat p) (Int32.ofNat d) c su (Int32.ofNat i) (Int32.ofNat k) y pa T5) (m_frosts_116 (m_frosts_53 m) (m_frosts_71 (m_frosts_53 m) n) (Int32.ofNat p) (Int32.ofNat d) c su (Int32.ofNat i) (pa * y) (Int32.ofNat k) S5) fun r T' q => AG NS IA r q.1 q.2 ∧ Nx G o T s T' q.2 := by
        intro T5 S5 g5 y b1 b2 b3 b4 b5
        unfold c_X1_frosts_106 m_frosts_116
        simp -implicitDefEqProofs only [b1.1.q3, b1.2.is, ofn1 k (by omega), Option.bind_some, not_true_eq_false, if_false, if_true]
        have b6 : GI (sE s) g5 ((100 - (k + 1)) + 1) := b5.le (by omega)
        refine Jn.cl (t_pass ok b1 b6) fun v T6 _ ⟨c1, c2, c3⟩ => ?_
        refine Jn.mb (u_pass ok b2 b6) fun S6 ⟨d1, d2⟩ => ?_
        exact K2 (((T6, S6), _), _) ⟨c2, d1, c3.trans b3, by rw [d2]; exact b4, b6.pass ok.1⟩
      unfold c_X1_isOf m_frosts_98
      by_cases hb : ((Int32.ofNat i >>> (Int32.ofNat k &&& 31)) &&& (1 : Int32)) = (1 : Int32)
      · simp -implicitDefEqProofs only [hb, Option.bind_some, not_true_eq_false, if_false, if_true, i10]
        simp -implicitDefEqProofs only [a1.1.q3, a1.2.is, Option.bind_some, not_true_eq_false, if_false, if_true]
        refine Jn.cl (t_frost ok a1) fun v T5 _ ⟨c1, c2⟩ => ?_
        refine Jn.mb (u_freezes ok a2) fun S5 ⟨d1, d2⟩ => ?_
        unfold c_X1_frosts_86 c_X1_isOf
        simp -implicitDefEqProofs only [hb, Option.bind_some, not_true_eq_false, if_false, if_true, i10]
        exact pass T5 S5 _ _ c1 d1 (c2.trans a3) (by rw [d2]; exact a4) (GI.frost ok.1 a5)
      · simp -implicitDefEqProofs only [hb, Option.bind_some, not_true_eq_false, if_false, if_true]
        unfold c_X1_frosts_86 c_X1_isOf
        simp -implicitDefEqProofs only [hb, Option.bind_some, not_true_eq_false, if_false, if_true]
        exact pass T4 S4 _ _ a1 a2 a3 a4 a5
    · rintro n ⟨⟨⟨T4, S4⟩, g⟩, pa⟩ ⟨a1, a2, a3, a4, a5⟩
      dsimp only at a1 a2 a3 a4 a5 ⊢
      show Jn T4 (c_X1_frosts_63_b G (c_X1_frosts_37 G m) (c_X1_frosts_63 G (c_X1_frosts_37 G m) n) (some o) (Int32.ofNat p) (Int32.ofNat d) c su (Int32.ofNat i) pa (Int32.ofNat d) T4) (m_frosts_71_b (m_frosts_53 m) (m_frosts_71 (m_frosts_53 m) n) (Int32.ofNat p) (Int32.ofNat d) c su (Int32.ofNat i) pa (Int32.ofNat d) S4) _
      unfold c_X1_frosts_63_b m_frosts_71_b
      rw [if_pos (Int32.le_refl _), if_pos (Int32.le_refl _)]
      simp -implicitDefEqProofs only [a1.1.q3, a1.2.is, t_winner ok a1 a5, u_winner ok a2 a5, c_X1_frosts_141, m_frosts_146, ofn1 i (by omega), Option.bind_some, not_true_eq_false, if_false, if_true, Int32.add_zero]
      split
      · exact K ((T4, S4), _) ⟨a1.1, a2.1, a3, a4⟩
      · exact K ((T4, S4), _) ⟨a1.1, a2.1, a3, a4⟩
  · rintro m ⟨⟨T2, S2⟩, su⟩ ⟨h1, h2, h3, h4⟩
    dsimp only at h1 h2 h3 h4 ⊢
    show Jn T2 (c_X1_frosts_37_b G (c_X1_frosts_37 G m) (some o) (Int32.ofNat p) (Int32.ofNat d) c su (Int32.ofNat (2 ^ d)) T2) (m_frosts_53_b (m_frosts_53 m) (Int32.ofNat p) (Int32.ofNat d) c su (Int32.ofNat (2 ^ d)) S2) _
    unfold c_X1_frosts_37_b m_frosts_53_b
    simp -implicitDefEqProofs only [shl5 d (by omega), Int32.le_refl, Option.bind_some, not_true_eq_false, if_false, if_true]
    exact Jfin ok h1 h2 h4 h3
end CM
