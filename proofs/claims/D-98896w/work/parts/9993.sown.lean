/-! plain law: sown -/
set_option maxRecDepth 100000
theorem ipos_ne {n : Nat} (hn : n < 2000000) : ¬ Int32.ofNat n = (-1 : Int32) := fun q => by
  have e : (Int32.ofNat n).toInt = (-1 : Int32).toInt := by rw [q]
  rw [tIo (by omega), show (-1 : Int32).toInt = -1 by decide] at e
  omega
section CM
variable {G : xG} {T T1 : xF} {o : Nat} {s s' : St} {A A' : Ad} {S S1 : MS} {g : Gw}
theorem u_tries3 (h : MI S s) : Mn (m_tries S) fun S' => Mt S' s (sG s) ∧ S'.1 = S.1 ∧ S'.2.2 23 = S.2.2 23 := r_tries.mono fun S' ⟨w, k⟩ => ⟨h.mt w (fun j i q => Or.inl q) (AtJ.cp h.row k), w.1, funext fun i => w.2.2 23 i fun q => by have := q.1; omega⟩
theorem rk23 (w : mfr (rk 121) S S1) : S1.2.2 23 = S.2.2 23 := funext fun i => w.2.2 23 i fun q => by have := q.1; omega
theorem r_guess (ok : StOK s) (m : MI S s) {x : Nat} (hx : x < 4 * eN (sE s)) : Mn (m_isGuess (Int32.ofNat x) S) fun r => r.1 = (if gss s (x / 4) (x % 4) then 1 else 0) ∧ MI r.2 s ∧ r.2.1 = S.1 ∧ r.2.2.2 23 = S.2.2 23 ∧ (gss s (x / 4) (x % 4) → ∀ c, c < eN (sE s) → r.2.2.2 22 c = gZ (gafter (sE s) 5 (sow1 (sG s) (x / 4) (x % 4))) c) := by
  have hn := ok.1.n30
  have hp4 : eP (sE s) ≤ 4 := ok.1.2.1
  have n4 : ¬ (4 : Int32) = 0 := by decide
  have d4 : Int32.ofNat x / (4 : Int32) = Int32.ofNat (x / 4) := odiv (by omega) (n := 4) (by omega) (by omega)
  have r4 : Int32.ofNat x - Int32.ofNat (x / 4) * (4 : Int32) = Int32.ofNat (x % 4) := by rw [← d4]; exact orem (by omega) (n := 4) (by omega) (by omega)
  have x3 : x / 4 < 30 := by omega
  have m4 : x % 4 < 4 := Nat.mod_lt _ (by decide)
  unfold m_isGuess
  rw [if_neg n4]
  simp -implicitDefEqProofs only [d4, r4, m.row.lK0 x3, (m.mv (E := eb 0) eb_own).p, n4, Option.bind_some, not_true_eq_false, if_false, if_true]
  by_cases h1 : gK (sG s) (x / 4) = -1
  · rw [if_pos h1]
    by_cases h2 : x % 4 < eP (sE s)
    · rw [if_pos ((olt (by omega) (by omega)).mpr h2)]
      refine Mn.bw (u_tries3 m) fun S1 ⟨k1, k2, k3⟩ => ?_
      obtain ⟨S2, e2, w2, q2⟩ := k1.2.sK1 x3 (Int32.ofNat (x % 4))
      refine Mn.bd e2 ?_
      obtain ⟨S3, e3, w3, q3⟩ := q2.sZ1 x3 1
      refine Mn.bd e3 ?_
      have M3 : Mt S3 s (sow1 (sG s) (x / 4) (x % 4)) := (k1.1.mt w2 rk_free q2).1.mt w3 rk_free q3
      refine Mn.bw (r_isSeen ok M3 ((ok.2.1.sow h2 (by omega)).le (by omega))) fun r ⟨j1, j2, j3, j4, j5⟩ => ?_
      have hz : zok r.1 = true := by
        rw [j1]; split
        · exact zok1
        · exact zok0
      rw [if_neg (not_not_intro hz)]
      refine Mn.ret ⟨?_, j2, j3.trans (w3.1.trans (w2.1.trans k2)), j4.trans ((rk23 w3).trans ((rk23 w2).trans k3)), fun q => j5 q.2.2⟩
      show r.1 = _
      rw [j1]
      by_cases q : so s (sow1 (sG s) (x / 4) (x % 4))
      · rw [if_pos q, if_pos ⟨h1, h2, q⟩]
      · rw [if_neg q, if_neg (fun r => q r.2.2)]
    · rw [if_neg (fun q => h2 ((olt (by omega) (by omega)).mp q))]
      exact Mn.ret ⟨(if_neg (fun q : gss s (x / 4) (x % 4) => h2 q.2.1)).symm, m, rfl, rfl, fun q => absurd q.2.1 h2⟩
  · rw [if_neg h1]
    exact Mn.ret ⟨(if_neg (fun q : gss s (x / 4) (x % 4) => h1 q.1)).symm, m, rfl, rfl, fun q => absurd q.1 h1⟩
abbrev g1st (s : St) (x : Nat) : Int32 := if (gcv s x).1 = 0 then -1 else Int32.ofNat ((gcv s x).2 0)
theorem r_sown45 (ok : StOK s) (m : MI S s) (w : Int32) : Mn (m_sown_45 FU w 0 (-1) 0 S) fun r => r.1 = (if w = 0 then Int32.ofNat (gcv s (4 * eN (sE s))).1 else g1st s (4 * eN (sE s))) ∧ MI r.2 s ∧ r.2.1 = S.1 := by
  have hn := ok.1.n30
  refine loop_rule (σ := Int32 × Int32 × MS) (N := 4 * eN (sE s)) (fun x t => t.1 = Int32.ofNat (gcv s x).1 ∧ t.2.1 = g1st s x ∧ MI t.2.2 s ∧ t.2.2.1 = S.1) (fun f x t => Mn (m_sown_45 f w t.1 t.2.1 (Int32.ofNat x) t.2.2) _) ?_ ?_ FU (by show 4 * eN (sE s) < 6000; omega) (0, -1, S) ⟨rfl, rfl, m, rfl⟩
  · rintro f x ⟨n, fi, S1⟩ hx ⟨h1, h2, h3, h4⟩ K
    dsimp only at h1 h2 h3 h4
    subst h1 h2
    have c4 : (4 : Int32) * Int32.ofNat (eN (sE s)) = Int32.ofNat (4 * eN (sE s)) := omul 4 _
    have nle : ¬ Int32.ofNat (4 * eN (sE s)) ≤ Int32.ofNat x := fun q => by have := (ole (n := 4 * eN (sE s)) (m := x) (by omega) (by omega)).mp q; omega
    have n4 : ¬ (4 : Int32) = 0 := by decide
    have d4 : Int32.ofNat x / (4 : Int32) = Int32.ofNat (x / 4) := odiv (by omega) (n := 4) (by omega) (by omega)
    have r4 : Int32.ofNat x - Int32.ofNat (x / 4) * (4 : Int32) = Int32.ofNat (x % 4) := by rw [← d4]; exact orem (by omega) (n := 4) (by omega) (by omega)
    have cle := gcv_le (s := s) x
    show Mn (m_sown_45_b (m_sown_45 f) w (Int32.ofNat (gcv s x).1) (g1st s x) (Int32.ofNat x) S1) _
    unfold m_sown_45_b
    simp -implicitDefEqProofs only [v_cells ok h3, c4, nle, Option.bind_some, not_true_eq_false, if_false, if_true]
    refine Mn.bw (r_guess ok h3 hx) fun r ⟨j1, j2, j3, j4, j5⟩ => ?_
    simp -implicitDefEqProofs only [m_sown_89, ofn1 x (by omega)]
    by_cases hg : gss s (x / 4) (x % 4)
    · rw [if_pos hg] at j1
      have e : gcv s (x + 1) = ((gcv s x).1 + 1, va_up (gcv s x).2 (gcv s x).1 (10 * (x / 4) + x % 4)) := if_pos hg
      have fz : g1st s (x + 1) = if (gcv s x).1 = 0 then Int32.ofNat (10 * (x / 4) + x % 4) else Int32.ofNat ((gcv s x).2 0) := by
        unfold g1st
        rw [e, if_neg (Nat.succ_ne_zero _)]
        by_cases q : (gcv s x).1 = 0
        · rw [if_pos q]
          show Int32.ofNat (va_up _ (gcv s x).1 _ 0) = _
          rw [q, vup_at]
        · rw [if_neg q]
          show Int32.ofNat (va_up _ (gcv s x).1 _ 0) = _
          rw [vup_no (fun z => q z.symm)]
      rw [j1, if_neg (by decide)]
      by_cases q : (gcv s x).1 = 0
      · rw [show g1st s x = -1 from if_pos q, if_pos rfl, if_neg n4]
        rw [d4, r4, ofn1 _ (by omega), show Int32.ofNat (x / 4) * (10 : Int32) = Int32.ofNat (x / 4 * 10) from omul _ 10, oadd]
        refine K (_, _, r.2) ⟨(congrArg (fun (z : Nat × (Nat → Nat)) => Int32.ofNat z.1) e).symm, ?_, j2, j3.trans h4⟩
        rw [fz, if_pos q, Nat.mul_comm]
        rfl
      · rw [show g1st s x = Int32.ofNat ((gcv s x).2 0) from if_neg q, if_neg (by
          obtain ⟨c, k, v1, v2, v3, -⟩ := gcv_val (s := s) x 0 (by omega)
          exact ipos_ne (by omega)), ofn1 _ (by omega)]
        refine K (_, _, r.2) ⟨(congrArg (fun (z : Nat × (Nat → Nat)) => Int32.ofNat z.1) e).symm, ?_, j2, j3.trans h4⟩
        rw [fz, if_neg q]
        rfl
    · rw [if_neg hg] at j1
      have e : gcv s (x + 1) = gcv s x := if_neg hg
      rw [j1, if_pos rfl]
      refine K (_, _, r.2) ⟨(congrArg (fun (z : Nat × (Nat → Nat)) => Int32.ofNat z.1) e).symm, ?_, j2, j3.trans h4⟩
      show _ = g1st s (x + 1)
      unfold g1st
      rw [e]
      rfl
  · rintro f ⟨n, fi, S1⟩ ⟨h1, h2, h3, h4⟩
    dsimp only at h1 h2 h3 h4
    subst h1 h2
    have c4 : (4 : Int32) * Int32.ofNat (eN (sE s)) = Int32.ofNat (4 * eN (sE s)) := omul 4 _
    show Mn (m_sown_45_b (m_sown_45 f) w (Int32.ofNat (gcv s (4 * eN (sE s))).1) (g1st s (4 * eN (sE s))) (Int32.ofNat (4 * eN (sE s))) S1) _
    unfold m_sown_45_b
    simp -implicitDefEqProofs only [v_cells ok h3, c4, Int32.le_refl, Option.bind_some, not_true_eq_false, if_false, if_true]
    by_cases hw : w = 0
    · rw [if_pos hw, if_pos hw]; exact Mn.ret ⟨rfl, h3, h4⟩
    · rw [if_neg hw, if_neg hw]; exact Mn.ret ⟨rfl, h3, h4⟩
theorem k_sown (ok : StOK s) (h : CIa G T o s A) (m : MI S s) (a : Int32) : Jn T (c_X1_sown G (some o) a T) (m_sown a S) fun r T' q => AG NS "" r q.1 q.2 ∧ Nx G o T s T' q.2 := by
  have m0 := m.th 0
  have z : (sF S 0 0).1 0 = 0 := sF_0
  have hn := ok.1.n30
  unfold c_X1_sown m_sown
  rcases (rng 0 2 (by decide) (by decide) a).symm with hv | ⟨x, -, hx, rfl⟩
  · exact Jn.thX (e_oneOf_f (b := 2) (iin_f hv)) thr_le (r := (0, sF (sF S 0 0) 0 1)) (by simp -implicitDefEqProofs only [r_what_f (b := 2) z (iin_f hv), Option.bind_some, not_true_eq_false, if_false, if_true]) ⟨Or.inl ⟨rfl, sF_0⟩, Nx.same ok h.tw (m0.th 1) (by show T.2.1 + 1 ≤ _; omega) (by show T.2.2 + 6 ≤ _; omega)⟩
  have ex : iin (Int32.ofNat x) 0 2 = true := iin_t (a := 0) (Nat.zero_le _) hx (by decide)
  refine Jn.okX (e_oneOf_t ex) ?_
  simp -implicitDefEqProofs only [r_what_t z ex, Option.bind_some, not_true_eq_false, if_false, if_true, i10]
  by_cases h2 : Int32.ofNat x = 2
  · rw [if_pos h2, if_pos h2]
    obtain ⟨g0, h0⟩ := h.tt
    simp -implicitDefEqProofs only [h.q3, h.q4, h0.is, Option.bind_some, not_true_eq_false, if_false, if_true]
    refine Jn.cl (t_be h) fun v T1 _ ⟨k1, k2, k3⟩ => ?_
    rw [if_neg (not_not_intro k2.1.iso)]
    refine Jn.cl (e_isSo ok k2 (ok.2.1.le (by omega))) fun v T2 _ ⟨q1, ⟨g', q2⟩, q3⟩ => ?_
    refine Jn.mb (u_tries3 m0) fun S1 ⟨u1, u2, u3⟩ => ?_
    refine Jn.mb (r_isSeen ok u1 (ok.2.1.le (by omega))) fun r ⟨j1, j2, j3, j4, j5⟩ => ?_
    have zz : r.2.1 0 = 0 := by rw [j3, u2]; exact z
    have b1 : T2.2 = T.2 := q3.1.trans k3
    rw [q1, j1]
    by_cases hs : so s (sG s)
    · rw [if_pos hs, if_neg (by decide), if_neg (by decide)]
      exact Jnew ok q2.1 j2 zz (by rw [b1]; omega) (by rw [b1]; omega) rfl
    · rw [if_neg hs, if_pos rfl, if_pos rfl]
      exact Jnew ok q2.1 j2 zz (by rw [b1]; omega) (by rw [b1]; omega) rfl
  · rw [if_neg h2, if_neg h2, if_neg (not_not_intro h.iso)]
    refine Jn.cl (e_sowings ok h) fun v T1 _ ⟨k1, k2, k3, k4, k5⟩ => ?_
    subst k1
    have hm := r_sown45 ok m0 (Int32.ofNat x)
    obtain ⟨r, e, j1, j2, j3⟩ := hm
    refine Jn.mono (P := fun v T' q => AG NS "" v q.1 q.2 ∧ Nx G o T s T' q.2) ?_ fun _ _ _ _ q => q
    have zz : r.2.1 0 = 0 := by rw [j3]; exact z
    by_cases h3 : Int32.ofNat x = 0
    · rw [if_pos h3] at j1
      rw [if_pos h3, if_neg (not_not_intro k3.is), k3.size, e, Option.bind_some, show r = (r.1, r.2) from rfl, j1]
      exact Jnew ok k2 j2 zz (by omega) (by omega) rfl
    · rw [if_neg h3] at j1
      rw [if_neg h3, if_neg (not_not_intro k3.is), k3.emp, Option.bind_some, e, show r = (r.1, r.2) from rfl, j1]
      by_cases h4 : (gcv s (4 * eN (sE s))).1 = 0
      · rw [show b01 ((gcv s (4 * eN (sE s))).1 == 0) = 1 by rw [h4]; rfl, if_neg (by decide), show g1st s (4 * eN (sE s)) = -1 from if_pos h4]
        exact Jnew ok k2 j2 zz (by omega) (by omega) rfl
      · obtain ⟨q, p1, p2⟩ := k3.get (k := 0) (by omega)
        have p1' : c_J2_get T1 (some T.2.1) 0 = some (some q) := p1
        rw [show b01 ((gcv s (4 * eN (sE s))).1 == 0) = 0 by rw [beq_false_of_ne h4]; rfl, if_pos rfl, if_neg (not_not_intro k3.is), p1', Option.bind_some, if_neg (not_not_intro p2.cst), if_neg (not_not_intro p2.is), p2.iv, Option.bind_some, show g1st s (4 * eN (sE s)) = _ from if_neg h4]
        exact Jnew ok k2 j2 zz (by omega) (by omega) rfl
end CM
