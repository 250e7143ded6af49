/-! plain law: next, both sides -/
set_option maxRecDepth 100000
abbrev gnx (s : St) (x : Nat) : Nat → Nat → Int32 := fun i c => gZ (gafter (sE s) 5 (sow1 (sG s) ((gcv s x).2 i / 10) ((gcv s x).2 i % 10))) c
/-- a list stays if only rows of numbers change -/
theorem IL.keepi {T T' : xF} {A : Ad} {N0 l n : Nat} {val : Nat → Nat} (h : IL A T N0 l n val) (hl : T.2.1 ≤ T'.2.1) (k : ∀ x, (∀ n f, ¬ IaAt T x n f) → T'.1 x = T.1 x) : IL A T' N0 l n val := by
  obtain ⟨a, f, w, cap, h1, h2, h3, h4, h5, h6⟩ := h
  have nl : T'.1 l = T.1 l := k l fun n f q => by
    obtain ⟨m, r⟩ := h1.1
    unfold IaAt at q; rw [r] at q; cases q
  have na : T'.1 a = T.1 a := k a fun n f q => by
    obtain ⟨F, r, -⟩ := h1.2.1
    unfold IaAt at q; rw [r] at q; cases q
  refine ⟨a, f, w, cap, h1.fr nl na, h2, by omega, by omega, h5, fun j hj => ?_⟩
  obtain ⟨q1, q2, q3⟩ := h6 j hj
  refine ⟨by omega, q2.fr (k _ fun n f q => ?_), q3⟩
  obtain ⟨w, r⟩ := q2
  unfold IaAt at q; rw [r] at q; cases q
section CM
variable {G : xG} {T T1 : xF} {o : Nat} {s s' : St} {A A' : Ad} {S S1 : MS} {g : Gw} {Q : Nat → Nat → Int32} {M N0 N1 : Nat}
theorem t_afterf {k n : Nat} (ok : StOK s) (h : Tr G T o s A g) (hk : k < 100) (hg : GI (sE s) g (n + k + 1)) : Rn T (c_X3_after G (some (aTt A)) (Int32.ofNat k) T) fun v T' => v = some (aTt A) ∧ Tr G T' o s A (gafter (sE s) k g) ∧ T'.2 = T.2 ∧ frm (ep (aTt A) (aBb A) (aVa A)) T T' := by
  obtain ⟨f, hv⟩ := h.1.va
  obtain ⟨gb, hb⟩ := h.1.bb
  exact (e_after ok.1 h.1.evt h.2 hb hv h.1.tb h.1.vt h.1.vb hk hg.1).mono fun v T' _ ⟨k1, k2, k3, k4, k5⟩ => ⟨k1, h.1.trf k2.c k5 k4 k3, k2.1, k2⟩
theorem CIa.mxk (h : CIa G T o s (rtg A N0)) (F : frm (ep (aTt A) (aBb A) (aVa A)) T T1) {n k : Nat} (hN : N0 ≤ N1) (i : MxAt T N1 n k Q) : MxAt T1 N1 n k Q := i.fr fun x q1 _ => F.2 x fun r => by
  have := h.ep_own x r
  rw [rtg_ge (by omega)] at this; omega
theorem e_nx26 (ok : StOK s) (h : CIa G T o s (rtg A N0)) (hi : IL (rtg A N0) T N0 N0 (gcv s (4 * eN (sE s))).1 (gcv s (4 * eN (sE s))).2) (hN : N0 < N1) (hm : MxAt T N1 (gcv s (4 * eN (sE s))).1 30 Q) (w : Int32) : Rn T (c_X1_next_26 G FU (some o) w (some N0) (some N1) 0 T) fun v T' => v = .inl (if w = 0 then (bmc (gnx s (4 * eN (sE s))) (gcv s (4 * eN (sE s))).1 (eN (sE s))).1 else Int32.ofNat (bmc (gnx s (4 * eN (sE s))) (gcv s (4 * eN (sE s))).1 (eN (sE s))).2) ∧ CIa G T' o s (rtg A N0) ∧ T'.2 = T.2 := by
  have hn := ok.1.n30
  have hp4 : eP (sE s) ≤ 4 := ok.1.2.1
  have cle := gcv_le (s := s) (4 * eN (sE s))
  generalize hM : (gcv s (4 * eN (sE s))).1 = M at *
  have n10 : ¬ (10 : Int32) = 0 := by decide
  refine loop_rule (σ := xF) (N := M) (fun i T' => CIa G T' o s (rtg A N0) ∧ IL (rtg A N0) T' N0 N0 M (gcv s (4 * eN (sE s))).2 ∧ T'.2 = T.2 ∧ ∃ Q', MxAt T' N1 M 30 Q' ∧ ∀ j c, j < i → c < 30 → Q' j c = gnx s (4 * eN (sE s)) j c) (fun f i T' => Rn T' (c_X1_next_26 G f (some o) w (some N0) (some N1) (Int32.ofNat i) T') _) ?_ ?_ FU (by show M < 6000; omega) T ⟨h, hi, rfl, Q, hm, fun j c hj => absurd hj (Nat.not_lt_zero j)⟩
  · rintro f i T1 hi1 ⟨h1, i1, c1, Q1, m1, g1⟩ K
    obtain ⟨c, k, v1, v2, v3, v4⟩ := gcv_val (s := s) (4 * eN (sE s)) i (by omega)
    obtain ⟨q, p1, p2⟩ := i1.get hi1
    rw [v1] at p2
    have d10 : Int32.ofNat (10 * c + k) / (10 : Int32) = Int32.ofNat c := by
      rw [show Int32.ofNat (10 * c + k) / (10 : Int32) = Int32.ofNat ((10 * c + k) / 10) from odiv (by omega) (n := 10) (by omega) (by omega), show (10 * c + k) / 10 = c by omega]
    have r10 : Int32.ofNat (10 * c + k) - Int32.ofNat c * (10 : Int32) = Int32.ofNat k := by
      rw [← d10, show Int32.ofNat (10 * c + k) - Int32.ofNat (10 * c + k) / (10 : Int32) * (10 : Int32) = Int32.ofNat ((10 * c + k) % 10) from orem (by omega) (n := 10) (by omega) (by omega), show (10 * c + k) % 10 = k by omega]
    have c3 : c < 30 := by omega
    show Rn T1 (c_X1_next_26_b G (c_X1_next_26 G f) (some o) w (some N0) (some N1) (Int32.ofNat i) T1) _
    unfold c_X1_next_26_b
    have nle : ¬ Int32.ofNat M ≤ Int32.ofNat i := fun q => by have := (ole (n := M) (m := i) (by omega) (by omega)).mp q; omega
    simp -implicitDefEqProofs only [m1.len, nle, i1.is, p1, p2.cst, p2.is, p2.iv, n10, h1.iso, d10, r10, Option.bind_some, not_true_eq_false, if_false, if_true]
    refine Rn.cl (t_sowing h1 (k := k) c3) fun _ T2 _ ⟨h2, c2, f2⟩ => ?_
    have f2' : frm (ep (aTt A) (aBb A) (aVa A)) T1 T2 := f2.up fun x q => Or.inl q
    simp -implicitDefEqProofs only [h2.1.q3, h2.2.is, Option.bind_some, not_true_eq_false, if_false, if_true]
    have gi : GI (sE s) (sow1 (sG s) c k) 1001 := ok.2.1.sow v4.2.1 (by omega)
    refine Rn.cl (t_afterf (k := 5) (n := 0) ok h2 (by decide) (gi.le (by omega))) fun _ T3 _ ⟨_, h3, c3', f3⟩ => ?_
    have f13 : frm (ep (aTt A) (aBb A) (aVa A)) T1 T3 := f2'.tr f3
    have i3 := h1.ilk f13 i1
    have m3 := h1.mxk f13 (by omega) m1
    have e13 : T3.2 = T1.2 := c3'.trans c2
    refine loop_rule (σ := xF) (N := 30) (fun d T' => Tr G T' o s (rtg A N0) (gafter (sE s) 5 (sow1 (sG s) c k)) ∧ IL (rtg A N0) T' N0 N0 M (gcv s (4 * eN (sE s))).2 ∧ T'.2 = T.2 ∧ ∃ Q', MxAt T' N1 M 30 Q' ∧ (∀ j c, j < i → c < 30 → Q' j c = gnx s (4 * eN (sE s)) j c) ∧ ∀ e, e < d → Q' i e = gnx s (4 * eN (sE s)) i e) (fun f2 d T' => Rn T' (c_X1_next_83 G (c_X1_next_26 G f) f2 (some o) w (some N0) (some N1) (Int32.ofNat i) (Int32.ofNat d) T') _) ?_ ?_ FU (by decide) T3 ⟨h3, i3, e13.trans c1, Q1, m3, g1, fun e he => absurd he (Nat.not_lt_zero e)⟩
    · rintro f2 d T4 hd ⟨h4, i4, c4, Q4, m4, g4, g5⟩ K2
      show Rn T4 (c_X1_next_83_b G (c_X1_next_26 G f) (c_X1_next_83 G (c_X1_next_26 G f) f2) (some o) w (some N0) (some N1) (Int32.ofNat i) (Int32.ofNat d) T4) _
      unfold c_X1_next_83_b
      have nle : ¬ (30 : Int32) ≤ Int32.ofNat d := fun q => by have := (ole (n := 30) (m := d) (by omega) (by omega)).mp q; omega
      simp -implicitDefEqProofs only [nle, m4.ldR hi1 (by omega), h4.1.q3, h4.2.o3, h4.2.ldZ hd, ofn1 d (by omega), Option.bind_some, not_true_eq_false, if_false, if_true]
      obtain ⟨T5, e5, f5, m5⟩ := m4.st hi1 hd (by decide) (gZ (gafter (sE s) 5 (sow1 (sG s) c k)) d)
      refine Rn.st e5 f5.le ?_
      have H5 : CIa G T5 o s (rtg A N0) := h4.1.junk f5.c fun x _ q => by
        have q' : x = N1 + 1 + i := q
        rw [q']; exact rtg_ge (by omega)
      have tt5 : GrAt T5 (aTt A) o (gafter (sE s) 5 (sow1 (sG s) c k)) := h4.2.fr f5 fun x q r => by
        have q' : x = N1 + 1 + i := r
        have := h4.1.ep_own x (Or.inl q)
        rw [q', rtg_ge (by omega)] at this
        omega
      have i5 : IL (rtg A N0) T5 N0 N0 M (gcv s (4 * eN (sE s))).2 := i4.keepi (by rw [f5.1]; exact Nat.le_refl _) fun x q1 => f5.2 x fun r => ?_
      · refine K2 T5 ⟨⟨H5, tt5⟩, i5, f5.1.trans c4, _, m5, fun j e hj he => ?_, fun e he => ?_⟩
        · unfold upd2
          rw [if_neg (by omega)]
          exact g4 j e hj he
        · unfold upd2
          by_cases q : e = d
          · subst q
            rw [if_pos ⟨rfl, rfl⟩]
            show _ = gZ (gafter (sE s) 5 (sow1 (sG s) ((gcv s (4 * eN (sE s))).2 i / 10) ((gcv s (4 * eN (sE s))).2 i % 10))) e
            rw [v1, show (10 * c + k) / 10 = c by omega, show (10 * c + k) % 10 = k by omega]
          · rw [if_neg (fun z => q z.2)]; exact g5 e (by omega)
      · have r' : x = N1 + 1 + i := r
        obtain ⟨fz, z1, z2⟩ := m4.2 i hi1
        exact q1 _ _ (r' ▸ z1)
    · rintro f2 T4 ⟨h4, i4, c4, Q4, m4, g4, g5⟩
      show Rn T4 (c_X1_next_83_b G (c_X1_next_26 G f) (c_X1_next_83 G (c_X1_next_26 G f) f2) (some o) w (some N0) (some N1) (Int32.ofNat i) (Int32.ofNat 30) T4) _
      unfold c_X1_next_83_b
      rw [if_pos (by decide), ofn1 i (by omega)]
      refine K T4 ⟨h4.1, i4, c4, Q4, m4, fun j e hj he => ?_⟩
      by_cases q : j = i
      · rw [q]; exact g5 e he
      · exact g4 j e (by omega) he
  · rintro f T1 ⟨h1, i1, c1, Q1, m1, g1⟩
    show Rn T1 (c_X1_next_26_b G (c_X1_next_26 G f) (some o) w (some N0) (some N1) (Int32.ofNat M) T1) _
    unfold c_X1_next_26_b
    rw [m1.len, Option.bind_some, if_pos (Int32.le_refl _), e_nx128 ok h1 (m1.imp fun i c hi hc => (g1 i c hi hc).symm) (by omega) w]
    exact Rn.ret ⟨rfl, h1, c1⟩
theorem r_nx20 (ok : StOK s) (m : MI S s) (w : Int32) : Mn (m_next_20 FU w 0 0 S) fun r => r.1 = (if w = 0 then (bmc (gnx s (4 * eN (sE s))) (gcv s (4 * eN (sE s))).1 (eN (sE s))).1 else Int32.ofNat (bmc (gnx s (4 * eN (sE s))) (gcv s (4 * eN (sE s))).1 (eN (sE s))).2) ∧ MI r.2 s ∧ r.2.1 = S.1 := by
  have hn := ok.1.n30
  refine loop_rule (σ := MS) (N := 4 * eN (sE s)) (fun x S' => MI S' s ∧ S'.1 = S.1 ∧ M23 S' (gcv s x).1 (gnx s x) (eN (sE s))) (fun f x S' => Mn (m_next_20 f w (Int32.ofNat (gcv s x).1) (Int32.ofNat x) S') _) ?_ ?_ FU (by show 4 * eN (sE s) < 6000; omega) S ⟨m, rfl, fun a c ha => absurd ha (Nat.not_lt_zero a)⟩
  · rintro f x S1 hx ⟨h1, h2, h3⟩ K
    have c4 : (4 : Int32) * Int32.ofNat (eN (sE s)) = Int32.ofNat (4 * eN (sE s)) := omul 4 _
    have nle : ¬ Int32.ofNat (4 * eN (sE s)) ≤ Int32.ofNat x := fun q => by have := (ole (n := 4 * eN (sE s)) (m := x) (by omega) (by omega)).mp q; omega
    have cle := gcv_le (s := s) x
    show Mn (m_next_20_b (m_next_20 f) w (Int32.ofNat (gcv s x).1) (Int32.ofNat x) S1) _
    unfold m_next_20_b
    simp -implicitDefEqProofs only [v_cells ok h1, c4, nle, Option.bind_some, not_true_eq_false, if_false, if_true]
    refine Mn.bw (r_guess ok h1 hx) fun r ⟨j1, j2, j3, j4, j5⟩ => ?_
    by_cases hg : gss s (x / 4) (x % 4)
    · have e : gcv s (x + 1) = ((gcv s x).1 + 1, va_up (gcv s x).2 (gcv s x).1 (10 * (x / 4) + x % 4)) := if_pos hg
      rw [if_pos hg] at j1
      rw [j1, if_neg (by decide)]
      have j5 := j5 hg
      generalize hM : (gcv s x).1 = M at *
      refine loop_rule (σ := MS) (N := eN (sE s)) (fun d S' => MI S' s ∧ S'.1 = S.1 ∧ S'.2.2 22 = r.2.2.2 22 ∧ M23 S' M (gnx s x) (eN (sE s)) ∧ ∀ c, c < d → S'.2.2 23 (30 * M + c) = r.2.2.2 22 c) (fun f2 d S' => Mn (m_next_44 (m_next_20 f) f2 w (Int32.ofNat M) (Int32.ofNat x) (Int32.ofNat d) S') _) ?_ ?_ FU (by show eN (sE s) < 6000; omega) r.2 ⟨j2, j3.trans h2, rfl, fun a c ha hc => by rw [j4]; exact h3 a c ha hc, fun c hc => absurd hc (Nat.not_lt_zero c)⟩
      · rintro f2 d S2 hd ⟨a1, a2, a3, a4, a5⟩ K2
        show Mn (m_next_44_b (m_next_20 f) (m_next_44 (m_next_20 f) f2) w (Int32.ofNat M) (Int32.ofNat x) (Int32.ofNat d) S2) _
        unfold m_next_44_b
        simp -implicitDefEqProofs only [v_cells ok a1, leN hd hn, rd22 (S := S2) (show d < 30 by omega), i23, wr23 (S := S2) (show 30 * M + d < 3600 by omega), ofn1 d (by omega), Option.bind_some, not_true_eq_false, if_false, if_true]
        refine K2 _ ⟨a1.fr (sA_fr.up fun _ _ q => q.1) (fun j i (q : j = 23) => by unfold mfree; omega), a2, (sA_ne (by decide)).trans a3, fun a c ha hc => ?_, fun c hc => ?_⟩
        · rw [sA_at]; unfold upd
          rw [if_neg (by omega)]; exact a4 a c ha hc
        · rw [sA_at]; unfold upd
          by_cases q : c = d
          · rw [q, if_pos rfl, a3]
          · rw [if_neg (by omega)]; exact a5 c (by omega)
      · rintro f2 S2 ⟨a1, a2, a3, a4, a5⟩
        show Mn (m_next_44_b (m_next_20 f) (m_next_44 (m_next_20 f) f2) w (Int32.ofNat M) (Int32.ofNat x) (Int32.ofNat (eN (sE s))) S2) _
        unfold m_next_44_b m_next_81
        rw [v_cells ok a1, Option.bind_some, if_pos (Int32.le_refl _), ofn1 x (by omega), ofn1 M (by omega)]
        have k := K S2 ⟨a1, a2, ?_⟩
        · rw [e] at k; exact k
        · intro a c ha hc
          rw [e] at ha
          have ha : a < M + 1 := ha
          unfold gnx
          rw [e]
          show _ = gZ (gafter (sE s) 5 (sow1 (sG s) (va_up (gcv s x).2 M (10 * (x / 4) + x % 4) a / 10) (va_up (gcv s x).2 M (10 * (x / 4) + x % 4) a % 10))) c
          by_cases q : a = M
          · rw [q, vup_at, a5 c hc, j5 c hc, show (10 * (x / 4) + x % 4) / 10 = x / 4 by omega, show (10 * (x / 4) + x % 4) % 10 = x % 4 by omega]
          · rw [vup_no q]; exact a4 a c (by omega) hc
    · rw [if_neg hg] at j1
      have e : gcv s (x + 1) = gcv s x := if_neg hg
      rw [j1, if_pos rfl]
      unfold m_next_81
      rw [ofn1 x (by omega)]
      have k := K r.2 ⟨j2, j3.trans h2, ?_⟩
      · rw [e] at k; exact k
      · unfold gnx
        rw [e]
        exact fun a c ha hc => by rw [j4]; exact h3 a c ha hc
  · rintro f S1 ⟨h1, h2, h3⟩
    have c4 : (4 : Int32) * Int32.ofNat (eN (sE s)) = Int32.ofNat (4 * eN (sE s)) := omul 4 _
    have cle := gcv_le (s := s) (4 * eN (sE s))
    show Mn (m_next_20_b (m_next_20 f) w (Int32.ofNat (gcv s (4 * eN (sE s))).1) (Int32.ofNat (4 * eN (sE s))) S1) _
    unfold m_next_20_b
    rw [v_cells ok h1, Option.bind_some, c4, if_pos (Int32.le_refl _), r_nx95 ok h1 h3 (by omega) w]
    exact Mn.ret ⟨rfl, h1, h2⟩
theorem k_next (ok : StOK s) (h : CIa G T o s A) (m : MI S s) (a : Int32) : Jn T (c_X1_next G (some o) a T) (m_next a S) fun r T' q => AG NS "" r q.1 q.2 ∧ Nx G o T s T' q.2 := by
  have m0 := m.th 0
  have z : (sF S 0 0).1 0 = 0 := sF_0
  have hn := ok.1.n30
  unfold c_X1_next m_next
  rcases (rng 0 1 (by decide) (by decide) a).symm with hv | ⟨x, -, hx, rfl⟩
  · exact Jn.thX (e_oneOf_f (b := 1) (iin_f hv)) thr_le (r := (0, sF (sF S 0 0) 0 1)) (by simp -implicitDefEqProofs only [r_what_f (b := 1) z (iin_f hv), Option.bind_some, not_true_eq_false, if_false, if_true]) ⟨Or.inl ⟨rfl, sF_0⟩, Nx.same ok h.tw (m0.th 1) (by show T.2.1 + 1 ≤ _; omega) (by show T.2.2 + 6 ≤ _; omega)⟩
  have ex : iin (Int32.ofNat x) 0 1 = true := iin_t (a := 0) (Nat.zero_le _) hx (by decide)
  refine Jn.okX (e_oneOf_t ex) ?_
  simp -implicitDefEqProofs only [r_what_t z ex, Option.bind_some, not_true_eq_false, if_false, if_true, i10]
  rw [if_neg (not_not_intro h.iso)]
  refine Jn.cl (e_sowings ok h) fun v T1 _ ⟨k1, k2, k3, k4, k5⟩ => ?_
  subst k1
  have cle := gcv_le (s := s) (4 * eN (sE s))
  have nn : ¬ (Int32.ofNat (gcv s (4 * eN (sE s))).1 < 0 ∨ 100000000 ≤ (Int32.ofNat (gcv s (4 * eN (sE s))).1).toNatClampNeg) := by
    rw [ocl (by omega)]
    exact fun q => q.elim (on0 (by omega)) (by omega)
  have n30 : ¬ ((30 : Int32) < 0 ∨ 100000000 ≤ (30 : Int32).toNatClampNeg) := by decide
  rw [if_neg (not_not_intro k3.is), k3.size, Option.bind_some, if_neg nn, if_neg n30, ocl (by omega), show (30 : Int32).toNatClampNeg = 30 by decide]
  have N0 : T.2.1 < T1.2.1 := by obtain ⟨_, _, _, _, _, _, r, _⟩ := k3; exact r
  have l18 : xle T1 (nII T1 (gcv s (4 * eN (sE s))).1 30) := ⟨by show T1.2.1 ≤ T1.2.1 + 1 + _; omega, by show T1.2.2 ≤ T1.2.2 + _ + _; omega⟩
  refine Jn.al l18 ?_
  have h18 : CIa G (nII T1 (gcv s (4 * eN (sE s))).1 30) o s (rtg A T.2.1) := k2.junk (E := fun _ => False) ⟨l18.1, fun x q1 _ => nII_no q1⟩ fun _ _ q => q.elim
  have i18 : IL (rtg A T.2.1) (nII T1 (gcv s (4 * eN (sE s))).1 30) T.2.1 T.2.1 _ _ := k3.keep l18.1 fun x q1 _ => nII_no q1
  have key := e_nx26 ok h18 i18 N0 MxAt.new (Int32.ofNat x)
  refine Jn.of key (r_nx20 ok m0 (Int32.ofNat x)) fun v T' r ⟨q1, q2, q3⟩ ⟨j1, j2, j3⟩ => ?_
  have zz : r.2.1 0 = 0 := by rw [j3]; exact z
  rw [q1]
  refine ⟨⟨zz, j1⟩, Nx.new ok q2 j2 ?_ ?_ rfl⟩
  · rw [q3]; show T1.2.1 + 1 + _ ≤ _; omega
  · rw [q3]; show T1.2.2 + _ + _ * 30 ≤ _; omega
end CM
