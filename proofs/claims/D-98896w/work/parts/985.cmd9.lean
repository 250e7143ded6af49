/-! plain law: days, bread, damp, sow, scrape -/
set_option maxRecDepth 100000
section CM
variable {G : xG} {T T1 : xF} {o : Nat} {s s' : St} {A A' : Ad} {S S1 : MS}
theorem Nx.new (ok : StOK s') (h : CIa G T1 o s' A') (m : MI S1 s') (b1 : T1.2.1 ≤ T.2.1 + 12000) (b2 : T1.2.2 ≤ T.2.2 + 90000) (ht : sT s' = sT s) : Nx G o T s T1 S1 := ⟨s', ok, ⟨A', h⟩, m, by unfold Bud; rw [ht]; omega⟩
theorem Jnew {c1 c2 : String} {v : Int32} (ok : StOK s') (h : CIa G T1 o s' A') (m : MI S1 s') (z1 : S1.1 0 = 0) (b1 : T1.2.1 ≤ T.2.1 + 12000) (b2 : T1.2.2 ≤ T.2.2 + 90000) (ht : sT s' = sT s) : Jn T1 (some ((.inl v : Int32 ⊕ xE), T1)) (some (v, S1)) fun r T' q => AG c1 c2 r q.1 q.2 ∧ Nx G o T s T' q.2 := Jn.ret ⟨⟨z1, rfl⟩, Nx.new ok h m b1 b2 ht⟩
theorem Jnum {v : Int32} (ok : StOK s') (h : CIa G T1 o s' A') (m : MI S1 s') (b1 : T1.2.1 ≤ T.2.1 + 12000) (b2 : T1.2.2 ≤ T.2.2 + 90000) (ht : sT s' = sT s) : Jn T1 (some (v, T1)) (some (v, S1)) fun r T' q => r = q.1 ∧ Nx G o T s T' q.2 := Jn.ret ⟨rfl, Nx.new ok h m b1 b2 ht⟩
theorem gaf_y (e : En) (g : Gw) : ∀ k d, d + k < 2900 → gY g = Int32.ofNat d → gY (gafter e k g) = Int32.ofNat (d + k) := by
  intro k
  induction k with
  | zero => intro d _ h; exact h
  | succ k ih =>
    intro d hd h
    show gY (gpass e (gafter e k g)) = _
    rw [gpass_y, ih d (by omega) h, ofn1 _ (by omega)]
    rfl
theorem gaf_GI {e : En} {g : Gw} (ok : EnOK e) {k : Nat} (hk : k ≤ 20) (h : GI e g 1001) (h9 : ∃ d, d + k ≤ 999 ∧ gY g = Int32.ofNat d) : GI e (gafter e k g) 1001 := by
  have h1 : GI e (gafter e k g) 981 := GI.after ok k (h.le (by omega))
  obtain ⟨d, hd, hy⟩ := h9
  exact ⟨⟨⟨d + k, by omega, gaf_y e g k d (by omega) hy⟩, h1.1.2⟩, h1.2⟩
theorem k_days (ok : StOK s) (h : CIa G T o s A) (m : MI S s) (a : Int32) : Jn T (c_X1_days G (some o) a T) (m_days a S) fun r T' q => r = q.1 ∧ Nx G o T s T' q.2 := by
  have m0 := m.th 0
  unfold c_X1_days m_days
  have bad : Jn T (c_X1_days_25 G (some o) T) (m_days_29 (sF S 0 0)) fun r T' q => r = q.1 ∧ Nx G o T s T' q.2 := by
    unfold c_X1_days_25 m_days_29
    simp -implicitDefEqProofs only [h.iso, Option.bind_some, not_true_eq_false, if_false, if_true]
    refine Jn.cl (e_refuse h (k := 1) (by decide)) fun v T1 _ ⟨k1, k2, k3⟩ => ?_
    refine Jn.mb (v_refuses m0 (k := 1) (by decide)) fun r ⟨j1, j2, j3⟩ => ?_
    rw [k1, j1]
    exact Jnum (refd_ok ok) k2 j2 (by rw [k3]; omega) (by rw [k3]; omega) rfl
  simp -implicitDefEqProofs only [e_in, e_within, Option.bind_some, not_true_eq_false, if_false, if_true]
  rcases (rng 1 20 (by decide) (by decide) a).symm with hv | ⟨k, hk1, hk, rfl⟩
  · rw [show iin a 1 20 = false from iin_f hv, if_pos (show b01 false = 0 from rfl), if_pos (show b01 false = 0 from rfl)]
    exact bad
  rw [show iin (Int32.ofNat k) 1 20 = true from iin_t (a := 1) hk1 hk (by decide), if_neg (show ¬ b01 true = 0 by decide), if_neg (show ¬ b01 true = 0 by decide)]
  obtain ⟨⟨⟨d, hd, hy⟩, -⟩, -⟩ := ok.2.1
  simp -implicitDefEqProofs only [h.q4, h.cc.o4, m0.row.lY0, h.iso, Option.bind_some, not_true_eq_false, if_false, if_true]
  by_cases h9 : gY (sG s) + Int32.ofNat k ≤ 999
  · rw [if_pos h9, if_pos h9]
    have h99 : d + k ≤ 999 := by
      rw [hy, oadd] at h9
      exact (ole (n := d + k) (m := 999) (by omega) (by omega)).mp h9
    refine Jn.cl (e_keepAct ok h) fun v T1 _ ⟨A', k1, k2, k3⟩ => ?_
    refine Jn.mb (v_keeps ok m0) fun S1 ⟨j1, j2⟩ => ?_
    have ok1 := kept_ok ok
    have gi : GI (sE (kept s)) (sG (kept s)) (900 + k + 1) := ok1.2.1.le (by omega)
    have gz : GI (sE s) (gafter (sE s) k (sG s)) 1001 := gaf_GI ok.1 (by omega) ok.2.1 ⟨d, h99, hy⟩
    simp -implicitDefEqProofs only [k1.q4, k1.cc.is, Option.bind_some, not_true_eq_false, if_false, if_true]
    refine Jn.cl (n_after ok1 k1 (show k < 100 by omega) gi) fun v T2 _ ⟨q1, q2, q3⟩ => ?_
    subst q1
    have y2 : oI T2 (some (aCc A')) 2 4 = some (gY (gafter (sE s) k (sG s))) := q2.cc.o4
    simp -implicitDefEqProofs only [y2, Option.bind_some, not_true_eq_false, if_false, if_true]
    have key : Mn (m_days_41 FU (Int32.ofNat k) 0 S1) fun r => r.1 = gY (gafter (sE s) k (sG s)) ∧ MI r.2 (grown (kept s) (gafter (sE s) k (sG s))) := by
      refine loop_rule (σ := MS) (N := k) (fun i s1 => MI s1 (grown (kept s) (gafter (sE s) i (sG s)))) (fun n i s1 => Mn (m_days_41 n (Int32.ofNat k) (Int32.ofNat i) s1) _) ?_ ?_ FU (by show k < 6000; omega) S1 j1
      · rintro n i S2 hi h2 K
        have hle : ¬ Int32.ofNat k ≤ Int32.ofNat i := fun q => by have := (ole (n := k) (m := i) (by omega) (by omega)).mp q; omega
        show Mn (m_days_41_b (m_days_41 n) (Int32.ofNat k) (Int32.ofNat i) S2) _
        unfold m_days_41_b
        rw [if_neg hle, ofn1 i (by omega)]
        have g2 : GI (sE s) (gafter (sE s) i (sG s)) (900 + 1) := GI.after ok.1 i (ok.2.1.le (by omega))
        have g3 : GI (sE s) (gafter (sE s) i (sG s)) 1001 := gaf_GI ok.1 (by omega) ok.2.1 ⟨d, by omega, hy⟩
        exact Mn.bw (v_pass (grown_ok ok1 g3) h2 g2) fun S3 ⟨r1, _⟩ => K S3 r1
      · rintro n S2 h2
        show Mn (m_days_41_b (m_days_41 n) (Int32.ofNat k) (Int32.ofNat k) S2) _
        unfold m_days_41_b
        rw [if_pos (Int32.le_refl _), h2.row.lY0, Option.bind_some]
        exact Mn.ret ⟨rfl, h2⟩
    obtain ⟨r, e1, e2, e3⟩ := key
    rw [e1]
    obtain ⟨r1, r2⟩ := r
    dsimp only at e2 e3
    subst e2
    exact Jnum (grown_ok ok1 gz) q2 e3 (by rw [q3]; omega) (by rw [q3]; omega) rfl
  · rw [if_neg h9, if_neg h9]
    exact bad
theorem k_bread (ok : StOK s) (h : CIa G T o s A) (m : MI S s) (a b : Int32) : Jn T (c_X1_bread G (some o) a b T) (m_bread a b S) fun r T' q => AG NS "" r q.1 q.2 ∧ Nx G o T s T' q.2 := by
  have m0 := m.th 0
  have z : (sF S 0 0).1 0 = 0 := sF_0
  have hn := ok.1.n30
  unfold c_X1_bread m_bread
  simp -implicitDefEqProofs only [h.iso, Option.bind_some, not_true_eq_false, if_false, if_true]
  rcases (cell_rng ok a).symm with hv | ⟨x, hx, rfl⟩
  · exact Jn.thX (e_cell_f h ok hv) thr_le (r := (0, sF (sF S 0 0) 0 1)) (by simp -implicitDefEqProofs only [r_cell_f m0 ok z hv, Option.bind_some, not_true_eq_false, if_false, if_true]) ⟨Or.inl ⟨rfl, sF_0⟩, Nx.same ok h.tw (m0.th 1) (by show T.2.1 + 1 ≤ _; omega) (by show T.2.2 + 6 ≤ _; omega)⟩
  refine Jn.okX (e_cell_t h ok hx) ?_
  simp -implicitDefEqProofs only [r_cell_t m0 ok z hx, Option.bind_some, not_true_eq_false, if_false, if_true, i10]
  have x3 : x < 30 := by omega
  simp -implicitDefEqProofs only [e_in, e_within, h.iso, Option.bind_some, not_true_eq_false, if_false, if_true]
  rcases (rng 1 50 (by decide) (by decide) b).symm with hv | ⟨k, hk1, hk, rfl⟩
  · rw [show iin b 1 50 = false from iin_f hv, if_pos (show b01 false = 0 from rfl), if_pos (show b01 false = 0 from rfl)]
    refine Jn.cl (e_refuse h (k := 1) (by decide)) fun v T1 _ ⟨k1, k2, k3⟩ => ?_
    refine Jn.mb (v_refuses m0 (k := 1) (by decide)) fun r ⟨j1, j2, j3⟩ => ?_
    rw [k1, j1]
    exact Jnew (refd_ok ok) k2 j2 (by rw [j3]; exact z) (by rw [k3]; omega) (by rw [k3]; omega) rfl
  rw [show iin (Int32.ofNat k) 1 50 = true from iin_t (a := 1) hk1 hk (by decide), if_neg (show ¬ b01 true = 0 by decide), if_neg (show ¬ b01 true = 0 by decide)]
  refine Jn.cl (e_keepAct ok h) fun v T1 _ ⟨A', k1, k2, k3⟩ => ?_
  refine Jn.mb (v_keeps ok m0) fun S1 ⟨j1, j2⟩ => ?_
  have ok1 := kept_ok ok
  simp -implicitDefEqProofs only [k1.q4, k1.cc.is, Option.bind_some, not_true_eq_false, if_false, if_true]
  refine Jn.cl (n_feed k1 x3 (Int32.ofNat k)) fun v T2 _ ⟨q2, q3⟩ => ?_
  have gz : GI (sE s) (gfeed (sG s) x (Int32.ofNat k)) 1001 := ok.2.1.feed x3 (by omega)
  have l2 : ldA T2 (some (aCc A' + 2)) .int (Int32.ofNat x) = some (gF (gfeed (sG s) x (Int32.ofNat k)) x) := q2.cc.ldF x3
  have l3 : gF (gfeed (sG s) x (Int32.ofNat k)) x = imin 99 (gF (sG s) x + Int32.ofNat k) := upd_at
  have l4 : rdA S1 13 ((31 : Int32) + Int32.ofNat x) = some (gF (sG s) x) := j1.row.lF0 x3
  simp -implicitDefEqProofs only [q2.q4, q2.cc.o1, l2, l4, e_lesser, Option.bind_some, not_true_eq_false, if_false, if_true]
  obtain ⟨S2, e2, w2, r2⟩ := j1.row.sF0 x3 (imin 99 (gF (sG s) x + Int32.ofNat k))
  refine Jn.md e2 ?_
  have r3 : RwAt S2 0 (gfeed (sG s) x (Int32.ofNat k)) := r2
  simp -implicitDefEqProofs only [r3.lF0 x3, Option.bind_some, not_true_eq_false, if_false, if_true]
  exact Jnew (grown_ok ok1 gz) q2 (j1.grown w2 r3) (by rw [w2.1, j2]; exact z) (by rw [q3]; omega) (by rw [q3]; omega) rfl
theorem k_damp (ok : StOK s) (h : CIa G T o s A) (m : MI S s) (a b : Int32) : Jn T (c_X1_damp G (some o) a b T) (m_damp a b S) fun r T' q => AG NS "" r q.1 q.2 ∧ Nx G o T s T' q.2 := by
  have m0 := m.th 0
  have z : (sF S 0 0).1 0 = 0 := sF_0
  have hn := ok.1.n30
  unfold c_X1_damp m_damp
  simp -implicitDefEqProofs only [h.iso, Option.bind_some, not_true_eq_false, if_false, if_true]
  rcases (cell_rng ok a).symm with hv | ⟨x, hx, rfl⟩
  · exact Jn.thX (e_cell_f h ok hv) thr_le (r := (0, sF (sF S 0 0) 0 1)) (by simp -implicitDefEqProofs only [r_cell_f m0 ok z hv, Option.bind_some, not_true_eq_false, if_false, if_true]) ⟨Or.inl ⟨rfl, sF_0⟩, Nx.same ok h.tw (m0.th 1) (by show T.2.1 + 1 ≤ _; omega) (by show T.2.2 + 6 ≤ _; omega)⟩
  refine Jn.okX (e_cell_t h ok hx) ?_
  simp -implicitDefEqProofs only [r_cell_t m0 ok z hx, Option.bind_some, not_true_eq_false, if_false, if_true, i10]
  have x3 : x < 30 := by omega
  simp -implicitDefEqProofs only [e_in, e_within, h.iso, Option.bind_some, not_true_eq_false, if_false, if_true]
  cases hv : iin b 0 9 with
  | false =>
    rw [if_pos (show b01 false = 0 from rfl), if_pos (show b01 false = 0 from rfl)]
    refine Jn.cl (e_refuse h (k := 1) (by decide)) fun v T1 _ ⟨k1, k2, k3⟩ => ?_
    refine Jn.mb (v_refuses m0 (k := 1) (by decide)) fun r ⟨j1, j2, j3⟩ => ?_
    rw [k1, j1]
    exact Jnew (refd_ok ok) k2 j2 (by rw [j3]; exact z) (by rw [k3]; omega) (by rw [k3]; omega) rfl
  | true =>
  rw [if_neg (show ¬ b01 true = 0 by decide), if_neg (show ¬ b01 true = 0 by decide)]
  refine Jn.cl (e_keepAct ok h) fun v T1 _ ⟨A', k1, k2, k3⟩ => ?_
  refine Jn.mb (v_keeps ok m0) fun S1 ⟨j1, j2⟩ => ?_
  have ok1 := kept_ok ok
  have c1 : GrAt T1 (aCc A') o (sG s) := k1.cc
  have d1 : RwAt S1 0 (sG s) := j1.row
  simp -implicitDefEqProofs only [k1.q4, c1.o0, c1.ldD x3, d1.lD0 x3, Option.bind_some, not_true_eq_false, if_false, if_true]
  obtain ⟨T2, e1, f1, c2⟩ := c1.stD x3 b
  refine Jn.st e1 f1.le ?_
  obtain ⟨S2, e2, w2, r2⟩ := d1.sD0 x3 b
  refine Jn.md e2 ?_
  have q2 := k1.grb (f1.up fun x q => by simp -implicitDefEqProofs only [bk]; omega) c2
  have gz : GI (sE s) (upd (gD (sG s)) x b, gF (sG s), gK (sG s), gZ (sG s), gY (sG s)) 1001 := ok.2.1.damp
  exact Jnew (grown_ok ok1 gz) q2 (j1.grown w2 r2) (by rw [w2.1, j2]; exact z) (by rw [f1.1]; omega) (by rw [f1.1]; omega) rfl
theorem k_scrape (ok : StOK s) (h : CIa G T o s A) (m : MI S s) (a : Int32) : Jn T (c_X1_scrape G (some o) a T) (m_scrape a S) fun r T' q => AG NS "" r q.1 q.2 ∧ Nx G o T s T' q.2 := by
  have m0 := m.th 0
  have z : (sF S 0 0).1 0 = 0 := sF_0
  have hn := ok.1.n30
  unfold c_X1_scrape m_scrape
  simp -implicitDefEqProofs only [h.iso, Option.bind_some, not_true_eq_false, if_false, if_true]
  rcases (cell_rng ok a).symm with hv | ⟨x, hx, rfl⟩
  · exact Jn.thX (e_cell_f h ok hv) thr_le (r := (0, sF (sF S 0 0) 0 1)) (by simp -implicitDefEqProofs only [r_cell_f m0 ok z hv, Option.bind_some, not_true_eq_false, if_false, if_true]) ⟨Or.inl ⟨rfl, sF_0⟩, Nx.same ok h.tw (m0.th 1) (by show T.2.1 + 1 ≤ _; omega) (by show T.2.2 + 6 ≤ _; omega)⟩
  refine Jn.okX (e_cell_t h ok hx) ?_
  simp -implicitDefEqProofs only [r_cell_t m0 ok z hx, Option.bind_some, not_true_eq_false, if_false, if_true, i10]
  have x3 : x < 30 := by omega
  simp -implicitDefEqProofs only [h.q4, h.cc.o2, h.cc.ldK x3, m0.row.lK0 x3, h.iso, Option.bind_some, not_true_eq_false, if_false, if_true]
  by_cases hk : gK (sG s) x = -1
  · rw [if_pos hk, if_pos hk]
    refine Jn.cl (e_refuse h (k := 1) (by decide)) fun v T1 _ ⟨k1, k2, k3⟩ => ?_
    refine Jn.mb (v_refuses m0 (k := 1) (by decide)) fun r ⟨j1, j2, j3⟩ => ?_
    rw [k1, j1]
    exact Jnew (refd_ok ok) k2 j2 (by rw [j3]; exact z) (by rw [k3]; omega) (by rw [k3]; omega) rfl
  rw [if_neg hk, if_neg hk]
  refine Jn.cl (e_keepAct ok h) fun v T1 _ ⟨A', k1, k2, k3⟩ => ?_
  refine Jn.mb (v_keeps ok m0) fun S1 ⟨j1, j2⟩ => ?_
  have ok1 := kept_ok ok
  have c1 : GrAt T1 (aCc A') o (sG s) := k1.cc
  have d1 : RwAt S1 0 (sG s) := j1.row
  simp -implicitDefEqProofs only [k1.q4, c1.o3, c1.ldZ x3, d1.lZ0 x3, c1.is, Option.bind_some, not_true_eq_false, if_false, if_true]
  refine Jn.cl (n_clear k1 x3) fun v T2 _ ⟨q2, q3⟩ => ?_
  refine Jn.mb (r_clear (b := 0) d1 (by decide) x3) fun S2 ⟨w2, r2⟩ => ?_
  have gz : GI (sE s) (gclr (sG s) x) 1001 := ok.2.1.clr
  exact Jnew (grown_ok ok1 gz) q2 (j1.grown w2 r2) (by rw [w2.1, j2]; exact z) (by rw [q3]; omega) (by rw [q3]; omega) rfl
theorem k_sow (ok : StOK s) (h : CIa G T o s A) (m : MI S s) (a b : Int32) : Jn T (c_X1_sow G (some o) a b T) (m_sow a b S) fun r T' q => AG NS "" r q.1 q.2 ∧ Nx G o T s T' q.2 := by
  have m0 := m.th 0
  have z : (sF S 0 0).1 0 = 0 := sF_0
  have hn := ok.1.n30
  obtain ⟨lp, q1, q2, q3, q4, q5⟩ := h.evt.pa
  unfold c_X1_sow m_sow
  simp -implicitDefEqProofs only [h.iso, Option.bind_some, not_true_eq_false, if_false, if_true]
  rcases (cell_rng ok a).symm with hv | ⟨x, hx, rfl⟩
  · exact Jn.thX (e_cell_f h ok hv) thr_le (r := (0, sF (sF S 0 0) 0 1)) (by simp -implicitDefEqProofs only [r_cell_f m0 ok z hv, Option.bind_some, not_true_eq_false, if_false, if_true]) ⟨Or.inl ⟨rfl, sF_0⟩, Nx.same ok h.tw (m0.th 1) (by show T.2.1 + 1 ≤ _; omega) (by show T.2.2 + 6 ≤ _; omega)⟩
  refine Jn.okX (e_cell_t h ok hx) ?_
  simp -implicitDefEqProofs only [r_cell_t m0 ok z hx, Option.bind_some, not_true_eq_false, if_false, if_true, i10]
  have x3 : x < 30 := by omega
  simp -implicitDefEqProofs only [h.q1, q1, q2, q3, Option.bind_some, not_true_eq_false, if_false, if_true]
  rcases (kind_rng ok b).symm with ⟨hv, hw⟩ | ⟨k, hk, rfl⟩
  · exact Jn.thX (e_oneOf_f (iin_f hv)) thr_le (r := (0, sF (sF S 0 0) 0 1)) (by simp -implicitDefEqProofs only [r_kind_f m0 z hw, Option.bind_some, not_true_eq_false, if_false, if_true]) ⟨Or.inl ⟨rfl, sF_0⟩, Nx.same ok h.tw (m0.th 1) (by show T.2.1 + 1 ≤ _; omega) (by show T.2.2 + 6 ≤ _; omega)⟩
  refine Jn.okX (e_oneOf_t (e_kind_t ok hk)) ?_
  have h4 := ok.1.2.1
  simp -implicitDefEqProofs only [r_kind_t ok m0 z hk, h.q4, h.cc.o2, h.cc.ldK x3, m0.row.lK0 x3, h.iso, Option.bind_some, not_true_eq_false, if_false, if_true, i10]
  by_cases hkc : gK (sG s) x = -1
  · rw [if_pos hkc, if_pos hkc]
    refine Jn.cl (e_keepAct ok h) fun v T1 _ ⟨A', k1, k2, k3⟩ => ?_
    refine Jn.mb (v_keeps ok m0) fun S1 ⟨j1, j2⟩ => ?_
    have ok1 := kept_ok ok
    have c1 : GrAt T1 (aCc A') o (sG s) := k1.cc
    have d1 : RwAt S1 0 (sG s) := j1.row
    simp -implicitDefEqProofs only [k1.q4, c1.o2, Option.bind_some, not_true_eq_false, if_false, if_true]
    obtain ⟨T2, e1, f1, c2⟩ := c1.stK x3 (Int32.ofNat k)
    refine Jn.st e1 f1.le ?_
    have K2 := k1.grb (f1.up fun x q => by simp -implicitDefEqProofs only [bk]; omega) c2
    obtain ⟨S2, e2, w2, r2⟩ := d1.sK0 x3 (Int32.ofNat k)
    refine Jn.md e2 ?_
    simp -implicitDefEqProofs only [K2.q4, c2.o3, Option.bind_some, not_true_eq_false, if_false, if_true]
    obtain ⟨T3, e3, f3, c3⟩ := c2.stZ x3 1
    refine Jn.st e3 f3.le ?_
    have K3 := K2.grb (f3.up fun x q => by simp -implicitDefEqProofs only [bk]; omega) c3
    obtain ⟨S3, e4, w4, r4⟩ := r2.sZ0 x3 1
    refine Jn.md e4 ?_
    have gz : GI (sE s) (gD (sG s), gF (sG s), upd (gK (sG s)) x (Int32.ofNat k), upd (gZ (sG s)) x 1, gY (sG s)) 1001 := ok.2.1.sow hk (by omega)
    exact Jnew (s' := grown (kept s) _) (grown_ok ok1 gz) K3 (j1.grown (w2.tr w4) r4) (by rw [w4.1, w2.1, j2]; exact z) (by rw [f3.1, f1.1]; omega) (by rw [f3.1, f1.1]; omega) rfl
  · rw [if_neg hkc, if_neg hkc]
    obtain ⟨e0, T1, e1, k2, k3⟩ := e_ref1 h (k := 1) (by decide)
    have e0' : ldA T (some (aRf A)) .int (1 : Int32) = some (sR s 1) := e0
    simp -implicitDefEqProofs only [h.q8, e0', Option.bind_some, not_true_eq_false, if_false, if_true]
    refine Jn.st e1 (x2_le k3) ?_
    refine Jn.mb (v_refuses m0 (k := 1) (by decide)) fun r ⟨j1, j2, j3⟩ => ?_
    rw [j1, if_pos (by decide)]
    exact Jnew (refd_ok ok) k2 j2 (by rw [j3]; exact z) (by rw [k3]; omega) (by rw [k3]; omega) rfl
end CM
