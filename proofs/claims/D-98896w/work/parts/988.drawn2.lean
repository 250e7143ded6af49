/-! plain law: drawn -/
set_option maxRecDepth 100000
section CM
variable {G : xG} {T T1 : xF} {o : Nat} {s s' : St} {A A' : Ad} {S S1 : MS} {g : Gw}
theorem k_drawn (ok : StOK s) (h : CIa G T o s A) (m : MI S s) (a b c : Int32) : Jn T (c_X1_drawn G (some o) a b c T) (m_drawn a b c S) fun r T' q => AG NS IA r q.1 q.2 ∧ Nx G o T s T' q.2 := by
  have m0 := m.th 0
  have z : (sF S 0 0).1 0 = 0 := sF_0
  have hn := ok.1.n30
  unfold c_X1_drawn m_drawn
  rcases (rng 0 2 (by decide) (by decide) c).symm with hv | ⟨w, -, hw, rfl⟩
  · exact Jn.thX (e_oneOf_f (b := 2) (iin_f hv)) thr_le (r := (0, sF (sF S 0 0) 0 1)) (by simp -implicitDefEqProofs only [r_what_f (b := 2) z (iin_f hv), Option.bind_some, not_true_eq_false, if_false, if_true]) ⟨Or.inl ⟨rfl, sF_0⟩, Nx.same ok h.tw (m0.th 1) (by show T.2.1 + 1 ≤ _; omega) (by show T.2.2 + 6 ≤ _; omega)⟩
  have ew : iin (Int32.ofNat w) 0 2 = true := iin_t (a := 0) (Nat.zero_le _) hw (by decide)
  refine Jn.okX (e_oneOf_t ew) ?_
  simp -implicitDefEqProofs only [r_what_t z ew, Option.bind_some, not_true_eq_false, if_false, if_true, i10]
  rcases (rng 0 40 (by decide) (by decide) b).symm with hv | ⟨d, hda, hd, rfl⟩
  · have e1 : iin b 0 40 = false := iin_f hv
    simp -implicitDefEqProofs only [e_in, e1, Option.bind_some, not_true_eq_false, if_false, if_true]
    exact Jn.thX e_right_f thr_le (r := (0, sF (sF S 0 0) 0 2)) (by simp -implicitDefEqProofs only [r_days_f (w := 2) z (by decide) e1, Option.bind_some, not_true_eq_false, if_false, if_true]) ⟨Or.inr ⟨rfl, sF_0⟩, Nx.same ok h.tw (m0.th 2) (by show T.2.1 + 1 ≤ _; omega) (by show T.2.2 + 6 ≤ _; omega)⟩
  have ed : iin (Int32.ofNat d) 0 40 = true := iin_t hda hd (by decide)
  simp -implicitDefEqProofs only [e_in, ed, Option.bind_some, not_true_eq_false, if_false, if_true]
  refine Jn.okX e_right_t ?_
  simp -implicitDefEqProofs only [r_days_t (w := 2) z ed, Option.bind_some, not_true_eq_false, if_false, if_true, i10]
  obtain ⟨T0, e0, h0, f0, s0⟩ := h.seed a
  refine Jn.st e0 f0.le ?_
  obtain ⟨gt, ht⟩ := h0.tt
  simp -implicitDefEqProofs only [h0.q3, h0.q4, ht.is, Option.bind_some, not_true_eq_false, if_false, if_true]
  refine Jn.cl (t_bef h0) fun v T1 _ ⟨k1, k2, k3, k4⟩ => ?_
  refine Jn.mb (u_tries m0) fun S1 ⟨j1, j2⟩ => ?_
  have s1 : oI T1 (some o) 0 14 = some a := by
    obtain ⟨gg, hgg⟩ := h0.tt
    exact Tr.seed (g := gg) ⟨h0, hgg⟩ s0 (k4.up fun x q => Or.inl q)
  have m1 := j1.its a
  have z1 : (sF S1 57 a).1 0 = 0 := (sF_ne (by decide)).trans (by rw [j2]; exact z)
  refine loop_rule (σ := (xF × MS) × Gw × Int32) (N := d) (fun i s1 => Tr G s1.1.1 o s A s1.2.1 ∧ Mt s1.1.2 s s1.2.1 ∧ GI (sE s) s1.2.1 (100 - i) ∧ oI s1.1.1 (some o) 0 14 = some s1.2.2 ∧ s1.1.2.1 57 = s1.2.2 ∧ s1.1.1.2 = T.2 ∧ s1.1.2.1 0 = 0) (fun n i s1 => Jn s1.1.1 (c_X1_drawn_35 G n (some o) (Int32.ofNat d) (Int32.ofNat w) (Int32.ofNat i) s1.1.1) (m_drawn_38 n (Int32.ofNat d) (Int32.ofNat w) (Int32.ofNat i) s1.1.2) _) ?_ ?_ FU (by show d < 6000; omega) ((T1, sF S1 57 a), sG s, a) ⟨k2, m1, ok.2.1.le (by omega), s1, sF_at, k3.trans f0.1, z1⟩
  · rintro n i ⟨⟨T2, S2⟩, g2, sd⟩ hi ⟨a1, a2, a3, a4, a5, a6, a7⟩ K
    dsimp only at a1 a2 a3 a4 a5 a6 a7 ⊢
    have hle : ¬ Int32.ofNat d ≤ Int32.ofNat i := fun q => by have := (ole (n := d) (m := i) (by omega) (by omega)).mp q; omega
    show Jn T2 (c_X1_drawn_35_b G (c_X1_drawn_35 G n) (some o) (Int32.ofNat d) (Int32.ofNat w) (Int32.ofNat i) T2) (m_drawn_38_b (m_drawn_38 n) (Int32.ofNat d) (Int32.ofNat w) (Int32.ofNat i) S2) _
    unfold c_X1_drawn_35_b m_drawn_38_b
    simp -implicitDefEqProofs only [hle, a1.1.q3, a1.1.iso, ofn1 i (by omega), Option.bind_some, not_true_eq_false, if_false, if_true]
    obtain ⟨v, T3, S3, e1, e2, e3, g3, sd3, b1, b2, b3, b4, b5, b6, b7⟩ := j_befalls ok a1 a2 a3 a4 a5
    refine Jn.cl (P := fun _ T' => T' = T3) ⟨v, T3, e1, e3, rfl⟩ fun _ T' _ eT => ?_
    subst eT
    rw [e2, Option.bind_some]
    simp -implicitDefEqProofs only [b1.1.q3, b1.2.is, Option.bind_some, not_true_eq_false, if_false, if_true]
    have b8 : GI (sE s) g3 ((100 - (i + 1)) + 1) := b3.le (by omega)
    refine Jn.cl (t_passf ok b1 b8) fun _ T4 _ ⟨c1, c2, c3, c4⟩ => ?_
    refine Jn.mb (u_passf ok b2 b8) fun S4 ⟨⟨d1, d2⟩, d3⟩ => ?_
    exact K ((T4, S4), _, sd3) ⟨c2, d1, b8.pass ok.1, b1.seed b4 c4, by rw [d2]; exact b5, c3.trans (b6.trans a6), by rw [d2, b7]; exact a7⟩
  · rintro n ⟨⟨T2, S2⟩, g2, sd⟩ ⟨a1, a2, a3, a4, a5, a6, a7⟩
    dsimp only at a1 a2 a3 a4 a5 a6 a7 ⊢
    show Jn T2 (c_X1_drawn_35_b G (c_X1_drawn_35 G n) (some o) (Int32.ofNat d) (Int32.ofNat w) (Int32.ofNat d) T2) (m_drawn_38_b (m_drawn_38 n) (Int32.ofNat d) (Int32.ofNat w) (Int32.ofNat d) S2) _
    unfold c_X1_drawn_35_b m_drawn_38_b
    rw [if_pos (Int32.le_refl _), if_pos (Int32.le_refl _)]
    -- the sum runs in any case
    have run : ∀ (W V : Int32), (∀ x, (if W = 0 then (m_votesAll 121 S2).bind fun q104 => some (q104, S2) else if W = 1 then some (x, S2) else (m_winnerIn 121 S2).bind fun q123 => some (q123, S2)) = some (V, S2)) → m_drawn_66 FU W 0 0 S2 = some (V, S2) := by
      intro W V hW
      refine loop_rule (σ := Int32) (N := eN (sE s)) (fun _ _ => True) (fun k i x => m_drawn_66 k W x (Int32.ofNat i) S2 = some (V, S2)) ?_ ?_ FU (by show eN (sE s) < 6000; omega) 0 trivial
      · rintro k i x hi - K
        have i3 : i < 30 := by omega
        show m_drawn_66_b (m_drawn_66 k) W x (Int32.ofNat i) S2 = _
        unfold m_drawn_66_b
        simp -implicitDefEqProofs only [v_cells ok a2.1, leN hi hn, a2.2.lZ1 i3, ofn1 i (by omega), Option.bind_some, not_true_eq_false, if_false, if_true]
        exact K _ trivial
      · rintro k x -
        show m_drawn_66_b (m_drawn_66 k) W x (Int32.ofNat (eN (sE s))) S2 = _
        unfold m_drawn_66_b
        rw [v_cells ok a2.1, Option.bind_some, if_pos (Int32.le_refl _)]
        exact hW x
    rcases (by omega : w = 0 ∨ w = 1 ∨ w = 2) with rfl | rfl | rfl
    · rw [run _ (vall (sE s) g2) (fun x => by rw [if_pos (show Int32.ofNat 0 = 0 from rfl), u_votesAll ok a2 a3, Option.bind_some])]
      simp -implicitDefEqProofs (decide := true) only [a1.1.q3, a1.2.is, c_X1_allParties, t_votesOf ok a1 a3, vof_all, Option.bind_some, not_true_eq_false, if_false, if_true]
      exact Jfin ok a1.1 a2.1 a7 a6
    · rw [if_pos (show Int32.ofNat 1 = 1 from rfl)]
      refine loop_rule (σ := Int32) (N := eN (sE s)) (fun _ _ => True) (fun k i x => Jn T2 (c_X1_drawn_99 G k (some o) x (Int32.ofNat i) T2) (m_drawn_66 k (Int32.ofNat 1) x (Int32.ofNat i) S2) _) ?_ ?_ FU (by show eN (sE s) < 6000; omega) 0 trivial
      · rintro k i x hi - K
        have i3 : i < 30 := by omega
        show Jn T2 (c_X1_drawn_99_b G (c_X1_drawn_99 G k) (some o) x (Int32.ofNat i) T2) (m_drawn_66_b (m_drawn_66 k) (Int32.ofNat 1) x (Int32.ofNat i) S2) _
        unfold c_X1_drawn_99_b m_drawn_66_b
        simp -implicitDefEqProofs only [a1.1.q1, a1.1.isr, a1.1.cells ok, v_cells ok a2.1, leN hi hn, a1.1.q3, a1.2.o3, a1.2.ldZ i3, a2.2.lZ1 i3, ofn1 i (by omega), Option.bind_some, not_true_eq_false, if_false, if_true]
        exact K _ trivial
      · rintro k x -
        show Jn T2 (c_X1_drawn_99_b G (c_X1_drawn_99 G k) (some o) x (Int32.ofNat (eN (sE s))) T2) (m_drawn_66_b (m_drawn_66 k) (Int32.ofNat 1) x (Int32.ofNat (eN (sE s))) S2) _
        unfold c_X1_drawn_99_b m_drawn_66_b
        simp -implicitDefEqProofs (decide := true) only [a1.1.q1, a1.1.isr, a1.1.cells ok, v_cells ok a2.1, Int32.le_refl, Option.bind_some, not_true_eq_false, if_false, if_true]
        exact Jfin ok a1.1 a2.1 a7 a6
    · rw [run _ (win (sE s) g2) (fun x => by rw [if_neg (show ¬ Int32.ofNat 2 = 0 by decide), if_neg (show ¬ Int32.ofNat 2 = 1 by decide), u_winner ok a2 a3, Option.bind_some])]
      simp -implicitDefEqProofs (decide := true) only [a1.1.q3, a1.2.is, t_winner ok a1 a3, Option.bind_some, not_true_eq_false, if_false, if_true]
      exact Jfin ok a1.1 a2.1 a7 a6
end CM
