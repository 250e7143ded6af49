/-! plain law: rest, drawn -/
set_option maxRecDepth 100000
section CM
variable {G : xG} {T T1 : xF} {o : Nat} {s s' : St} {A A' : Ad} {S S1 : MS} {g : Gw}
theorem t_bef (h : CIa G T o s A) : Rn T (c_X3_be (some (aTt A)) (some (aCc A)) T) fun v T' => v = some (aTt A) ∧ Tr G T' o s A (sG s) ∧ T'.2 = T.2 ∧ frm (bk (aTt A)) T T' := by
  obtain ⟨g0, h0⟩ := h.tt
  exact (e_be h0 h.cc h.tc).mono fun v T' _ ⟨k1, k2, k3⟩ => ⟨k1, h.trb k2 k3, k2.1, k2⟩
theorem t_passf {n : Nat} (ok : StOK s) (h : Tr G T o s A g) (hg : GI (sE s) g (n + 1)) : Rn T (c_X3_pass G (some (aTt A)) T) fun v T' => v = some (aTt A) ∧ Tr G T' o s A (gpass (sE s) g) ∧ T'.2 = T.2 ∧ frm (ep (aTt A) (aBb A) (aVa A)) T T' := by
  obtain ⟨f, hv⟩ := h.1.va
  obtain ⟨gb, hb⟩ := h.1.bb
  exact (e_pass ok.1 h.1.evt h.2 hb hv h.1.tb h.1.vt h.1.vb hg.1.gk).mono fun v T' _ ⟨k1, k2, k3, k4, k5⟩ => ⟨k1, h.1.trf k2.c k5 k4 k3, k2.1, k2⟩
/-- cells from n on are nobody's -/
abbrev rtg (A : Ad) (n : Nat) : Ad := (fun x => if x < n then aO A x else 12, aRl A, aVa A, aBb A, aTt A, aCc A, aTp A, aRf A, aAl A, aAa A, aSl A, aSa A)
theorem CIa.fresh (h : CIa G T o s A) {T' : xF} (hl : T.2.1 ≤ T'.2.1) (F : ∀ x, x < T.2.1 → T'.1 x = T.1 x) : CIa G T' o s (rtg A T.2.1) := by
  obtain ⟨ha0, ea, wa, ws, ca, cs, v11, v12, v13, sd, a1, a2, a3, ⟨f4, a4⟩, ⟨g5, a5⟩, ⟨g6, a6⟩, a7, a8, a9, a10, a11, a12, a13, a14, a15, a16, a17⟩ := h
  obtain ⟨t1, t2, t3, t4, t5, t6, t7, t8, t9, t10, t11⟩ := a2
  obtain ⟨b1, b2, b3, b4, b5, b6, b7, b8, b9, b10, b11⟩ := a3
  have ow : ∀ x, x < T.2.1 → aO (rtg A T.2.1) x = aO A x := fun x q => if_pos q
  have fz : ∀ x, x < T.2.1 → aO A x = 11 → T'.1 x = T.1 x ∧ aO (rtg A T.2.1) x = 11 := fun x q1 q2 => ⟨F x q1, (ow x q1).trans q2⟩
  have bkw : ∀ {b k}, b + 5 ≤ T.2.1 → (∀ x, bk b x → aO A x = k) → ∀ x, bk b x → aO (rtg A T.2.1) x = k := fun hb hk x q => (ow x (by simp -implicitDefEqProofs only [bk] at q; omega)).trans (hk x q)
  refine ⟨ha0, ea, wa, ws, ca, cs, v11, v12, v13, sd, ObA.fr (A := A) (s := s) a1 (F o b1), ⟨(ow o b1).trans t1, (ow _ b2).trans t2, bkw b3 t3, bkw b4 t4, bkw b5 t5, (ow _ b6).trans t6, (ow _ b7).trans t7, (ow _ b8).trans t8, ?_, (ow _ b10).trans t10, ?_⟩, BnA.fr (A := A) ⟨b1, b2, b3, b4, b5, b6, b7, b8, b9, b10, b11⟩ hl, ⟨f4, a4.lo (F _ b2)⟩, ⟨g5, a5.lo fun x q => F x (by simp -implicitDefEqProofs only [bk] at q; omega)⟩, ⟨g6, a6.lo fun x q => F x (by simp -implicitDefEqProofs only [bk] at q; omega)⟩, a7.lo fun x q => F x (by simp -implicitDefEqProofs only [bk] at q; omega), TpA.fr (A := A) (s := s) a8 (F _ b6), RfA.fr (A := A) (s := s) a9 (F _ b7), a10.fr (F _ b8) (F _ b9), a11.fr (F _ b10) (F _ b11), a12.mv hl fz, a13.mv hl fz, a14.mv hl fz, a15.mv hl fz, a16.mv hl fz, a17.mv hl fz⟩
  · rcases t9 with q | q
    · exact Or.inl ((ow _ b9).trans q)
    · exact Or.inr ⟨(ow _ b9).trans q.1, q.2⟩
  · rcases t11 with q | q
    · exact Or.inl ((ow _ b11).trans q)
    · exact Or.inr ⟨(ow _ b11).trans q.1, q.2⟩
/-- what is nobody's may change -/
theorem CIa.junk (h : CIa G T o s A) {E : Nat → Prop} {T' : xF} (F : frc E T T') (hE : ∀ x, x < T.2.1 → E x → aO A x = 12) : CIa G T' o s A := by
  obtain ⟨ha0, ea, wa, ws, ca, cs, v11, v12, v13, sd, a1, a2, a3, ⟨f4, a4⟩, ⟨g5, a5⟩, ⟨g6, a6⟩, a7, a8, a9, a10, a11, a12, a13, a14, a15, a16, a17⟩ := h
  obtain ⟨t1, t2, t3, t4, t5, t6, t7, t8, t9, t10, t11⟩ := a2
  obtain ⟨b1, b2, b3, b4, b5, b6, b7, b8, b9, b10, b11⟩ := a3
  have kp : ∀ x, x < T.2.1 → aO A x ≠ 12 → T'.1 x = T.1 x := fun x q1 q2 => F.2 x q1 fun r => q2 (hE x q1 r)
  have fz : ∀ x, x < T.2.1 → aO A x = 11 → T'.1 x = T.1 x ∧ aO A x = 11 := fun x q1 q2 => ⟨kp x q1 (by omega), q2⟩
  exact ⟨ha0, ea, wa, ws, ca, cs, v11, v12, v13, sd, a1.fr (kp o b1 (by omega)), ⟨t1, t2, t3, t4, t5, t6, t7, t8, t9, t10, t11⟩, BnA.fr ⟨b1, b2, b3, b4, b5, b6, b7, b8, b9, b10, b11⟩ F.1, ⟨f4, a4.lo (kp _ b2 (by omega))⟩, ⟨g5, a5.lo fun x q => kp x (by simp -implicitDefEqProofs only [bk] at q; omega) (by have := t3 x q; omega)⟩, ⟨g6, a6.lo fun x q => kp x (by simp -implicitDefEqProofs only [bk] at q; omega) (by have := t4 x q; omega)⟩, a7.lo fun x q => kp x (by simp -implicitDefEqProofs only [bk] at q; omega) (by have := t5 x q; omega), a8.fr (kp _ b6 (by omega)), a9.fr (kp _ b7 (by omega)), a10.fr (kp _ b8 (by omega)) (kp _ b9 (by omega)), a11.fr (kp _ b10 (by omega)) (kp _ b11 (by omega)), a12.mv F.1 fz, a13.mv F.1 fz, a14.mv F.1 fz, a15.mv F.1 fz, a16.mv F.1 fz, a17.mv F.1 fz⟩
theorem u_passf {n : Nat} (ok : StOK s) (h : Mt S s g) (hg : GI (sE s) g (n + 1)) : Mn (m_dayGoes 121 S) fun S' => (Mt S' s (gpass (sE s) g) ∧ S'.1 = S.1) ∧ mfr (eb 121) S S' := (r_pass (b := 121) ok.1 (h.1.mv eb_own) h.2 (by decide) hg).mono fun S' ⟨w, k⟩ => ⟨⟨h.1.mt w eb_free k, w.1⟩, w⟩
theorem rd18 {k : Nat} (hk : k < 30) : rdA S 18 (Int32.ofNat k) = some (S.2.2 18 k) := rdA_o (by omega) hk
theorem wr18 {k : Nat} (hk : k < 30) (v : Int32) : wrA S 18 (Int32.ofNat k) v = some (sA S 18 k v) := wrA_o (by omega) hk
theorem mt18 (h : Mt S s g) {k : Nat} {v : Int32} : Mt (sA S 18 k v) s g := by
  have w : mfr (fun j _ => j = 18) S (sA S 18 k v) := sA_fr.up fun _ _ q => q.1
  exact h.1.mt w (fun j i q => by unfold mfree; omega) (h.2.fr w fun _ _ _ q => by cases q)
theorem ld30 {a i : Nat} {f : Nat → Int32} (h : arr30 T a f) (hi : i < 30) : ldA T (some a) .int (Int32.ofNat i) = some (f i) := arr30_ld h hi (ofn i (by omega)).1 (ofn i (by omega)).2.1
/-- the kinds as they were -/
def Ks (T : xF) (a : Nat) (S : MS) (n i k : Nat) : Prop := ∃ f, arr30 T a f ∧ ∀ c, c < n → c < i ∨ 0 < k → S.2.2 18 c = f c
theorem k_rest (ok : StOK s) (h : CIa G T o s A) (m : MI S s) : Jn T (c_X1_rest G (some o) T) (m_rest S) fun r T' q => r = q.1 ∧ Nx G o T s T' q.2 := by
  have m0 := m.th 0
  have hn := ok.1.n30
  unfold c_X1_rest m_rest
  rw [if_neg (by decide), show (30 : Int32).toNatClampNeg = 30 by decide]
  refine Jn.al ⟨Nat.le_succ _, Nat.le_add_right _ _⟩ ?_
  have h0 : CIa G (nA T .int 30) o s (rtg A T.2.1) := h.fresh (Nat.le_succ _) fun x q => xset_no (by omega)
  have a0 : arr30 (nA T .int 30) T.2.1 (fun _ => 0) := ⟨fun _ => 0, xset_eq, fun _ _ => rfl⟩
  have own0 : aO (rtg A T.2.1) T.2.1 = 12 := if_neg (Nat.lt_irrefl _)
  obtain ⟨b1, b2, b3, b4, b5, -⟩ := h.bn
  have nep : ¬ ep (aTt A) (aBb A) (aVa A) T.2.1 := fun q => by
    rcases q with q | q | q
    · simp -implicitDefEqProofs only [bk] at q; omega
    · simp -implicitDefEqProofs only [bk] at q; omega
    · omega
  generalize hA : rtg A T.2.1 = A1 at h0 own0
  have e1 : aTt A1 = aTt A := by rw [← hA]
  have e2 : aBb A1 = aBb A := by rw [← hA]
  have e3 : aVa A1 = aVa A := by rw [← hA]
  rw [← e1, ← e2, ← e3] at nep
  have ntt : ¬ bk (aTt A1) T.2.1 := fun q => nep (Or.inl q)
  obtain ⟨gt, ht⟩ := h0.tt
  simp -implicitDefEqProofs only [h0.q3, h0.q4, ht.is, Option.bind_some, not_true_eq_false, if_false, if_true]
  refine Jn.cl (t_bef h0) fun v T1 _ ⟨k1, k2, k3, k4⟩ => ?_
  refine Jn.mb (u_tries m0) fun S1 ⟨j1, j2⟩ => ?_
  have a1 : arr30 T1 T.2.1 (fun _ => 0) := a0.fr k4 ntt
  refine loop_rule (σ := (xF × MS) × Int32) (N := 41) (fun i s1 => Tr G s1.1.1 o s A1 (gafter (sE s) i (sG s)) ∧ Mt s1.1.2 s (gafter (sE s) i (sG s)) ∧ s1.1.1.2 = (nA T .int 30).2 ∧ Ks s1.1.1 T.2.1 s1.1.2 (eN (sE s)) 0 i) (fun m i s1 => Jn s1.1.1 (c_X1_rest_21 G m (some o) (some T.2.1) s1.2 (Int32.ofNat i) s1.1.1) (m_rest_13 m s1.2 (Int32.ofNat i) s1.1.2) _) ?_ ?_ FU (by decide) ((T1, S1), 0) ⟨k2, j1, k3, _, a1, fun c _ q => by omega⟩
  · rintro m i ⟨⟨T2, S2⟩, si⟩ hi ⟨h1, h2, h3, h4⟩ K
    dsimp only at h1 h2 h3 h4 ⊢
    have gi := GIa (s := s) (k := i) ok (by omega)
    show Jn T2 (c_X1_rest_21_b G (c_X1_rest_21 G m) (some o) (some T.2.1) si (Int32.ofNat i) T2) (m_rest_13_b (m_rest_13 m) si (Int32.ofNat i) S2) _
    unfold c_X1_rest_21_b m_rest_13_b
    rw [if_neg (gt40 hi), if_neg (gt40 hi)]
    refine loop_rule (σ := (xF × MS) × Int32 × Int32) (N := eN (sE s)) (fun j s1 => Tr G s1.1.1 o s A1 (gafter (sE s) i (sG s)) ∧ Mt s1.1.2 s (gafter (sE s) i (sG s)) ∧ s1.1.1.2 = (nA T .int 30).2 ∧ Ks s1.1.1 T.2.1 s1.1.2 (eN (sE s)) j i ∧ (s1.2.1 = 0 ∨ s1.2.1 = 1) ∧ (0 < i → s1.2.1 = s1.2.2) ∧ (i = 0 → s1.2.2 = 1)) (fun n j s1 => Jn s1.1.1 (c_X1_rest_33 G (c_X1_rest_21 G m) n (some o) (some T.2.1) si (Int32.ofNat i) s1.2.1 (Int32.ofNat j) s1.1.1) (m_rest_24 (m_rest_13 m) n si (Int32.ofNat i) s1.2.2 (Int32.ofNat j) s1.1.2) _) ?_ ?_ FU (by show eN (sE s) < 6000; omega) ((T2, S2), 1, 1) ⟨h1, h2, h3, h4, Or.inr rfl, fun _ => rfl, fun _ => rfl⟩
    · rintro n j ⟨⟨T3, S3⟩, x, y⟩ hj ⟨c1, c2, c3, ⟨f, c4, c5⟩, c6, c7, c8⟩ K2
      dsimp only at c1 c2 c3 c4 c5 c6 c7 c8 ⊢
      have j3 : j < 30 := by omega
      show Jn T3 (c_X1_rest_33_b G (c_X1_rest_21 G m) (c_X1_rest_33 G (c_X1_rest_21 G m) n) (some o) (some T.2.1) si (Int32.ofNat i) x (Int32.ofNat j) T3) (m_rest_24_b (m_rest_13 m) (m_rest_24 (m_rest_13 m) n) si (Int32.ofNat i) y (Int32.ofNat j) S3) _
      unfold c_X1_rest_33_b m_rest_24_b
      simp -implicitDefEqProofs only [leN hj hn, c1.1.q1, c1.1.isr, c1.1.cells ok, v_cells ok c2.1, c1.1.q3, c1.2.o2, c1.2.ldK j3, ld30 c4 j3, c2.2.lK1 j3, rd18 j3, Option.bind_some, not_true_eq_false, if_false, if_true]
      -- storing the kind on both sides
      have sto : ∀ b x' y', (x' = 0 ∨ x' = 1) → (0 < i → x' = y') → (i = 0 → y' = 1) → x' = (x &&& b) → Jn T3 (c_X1_rest_69 G (c_X1_rest_21 G m) (c_X1_rest_33 G (c_X1_rest_21 G m) n) (some o) (some T.2.1) si (Int32.ofNat i) (Int32.ofNat j) b x T3) (m_rest_67 (m_rest_13 m) (m_rest_24 (m_rest_13 m) n) si (Int32.ofNat i) (Int32.ofNat j) y' S3) fun r T' q => r = q.1 ∧ Nx G o T s T' q.2 := by
        intro b x' y' d1 d2 d3 d4
        unfold c_X1_rest_69 m_rest_67
        simp -implicitDefEqProofs only [c1.1.q3, c1.2.o2, c1.2.ldK j3, c2.2.lK1 j3, wr18 j3, ofn1 j (by omega), Option.bind_some, not_true_eq_false, if_false, if_true]
        obtain ⟨T4, e4, f4, r4⟩ := c4.st j3 (gK (gafter (sE s) i (sG s)) j)
        refine Jn.st e4 f4.le ?_
        rw [← d4]
        have C4 : CIa G T4 o s A1 := c1.1.junk f4.c fun x _ q => by
          have q' : x = T.2.1 := q
          rw [q']; exact own0
        have t4 : GrAt T4 (aTt A1) o (gafter (sE s) i (sG s)) := c1.2.fr f4 fun x q r => ntt (r ▸ q)
        refine K2 ((T4, sA S3 18 j _), x', y') ⟨⟨C4, t4⟩, mt18 c2, f4.1.trans c3, ⟨_, r4, fun c hc hq => ?_⟩, d1, d2, d3⟩
        rw [sA_at]
        unfold upd
        by_cases q : c = j
        · rw [if_pos q, if_pos q]
        · rw [if_neg q, if_neg q]; exact c5 c hc (by omega)
      have x0 : ∀ x : Int32, x = 0 ∨ x = 1 → x &&& 1 = x := fun x q => by rcases q with rfl | rfl <;> decide
      have x1 : ∀ x : Int32, x = 0 ∨ x = 1 → x &&& 0 = 0 := fun x q => by rcases q with rfl | rfl <;> decide
      have y1 : y = 0 ∨ y = 1 := by
        rcases Nat.eq_zero_or_pos i with q | q
        · exact Or.inr (c8 q)
        · rw [← c7 q]; exact c6
      unfold m_rest_62 m_rest_66
      rcases Nat.eq_zero_or_pos i with hi0 | hi0
      · have yy := c8 hi0
        subst hi0
        rw [yy, if_neg (show ¬ (1 : Int32) = 0 by decide), if_pos (show Int32.ofNat 0 = 0 from rfl)]
        split
        · exact sto 1 x 1 c6 (fun q => absurd q (Nat.lt_irrefl 0)) (fun _ => rfl) (x0 x c6).symm
        · exact sto 0 0 1 (Or.inl rfl) (fun q => absurd q (Nat.lt_irrefl 0)) (fun _ => rfl) (x1 x c6).symm
      · have xy := c7 hi0
        subst xy
        have i0' : ¬ Int32.ofNat i = 0 := fun q => by have := (oeq (n := i) (m := 0) (by omega) (by omega)).mp q; omega
        have hne : ∀ q : i = 0, False := fun q => by omega
        by_cases hx : x = 0
        · rw [if_pos hx]
          subst hx
          split
          · exact sto 1 0 0 (Or.inl rfl) (fun _ => rfl) (fun q => (hne q).elim) (by decide)
          · exact sto 0 0 0 (Or.inl rfl) (fun _ => rfl) (fun q => (hne q).elim) (by decide)
        · rw [if_neg hx, if_neg i0', c5 j hj (Or.inr hi0)]
          have hx1 := c6.resolve_left hx
          subst hx1
          by_cases hk : gK (gafter (sE s) i (sG s)) j = f j
          · rw [if_pos hk, if_pos hk]
            exact sto 1 1 1 (Or.inr rfl) (fun _ => rfl) (fun q => (hne q).elim) (by decide)
          · rw [if_neg hk, if_neg hk]
            exact sto 0 0 0 (Or.inl rfl) (fun _ => rfl) (fun q => (hne q).elim) (by decide)
    · rintro n ⟨⟨T3, S3⟩, x, y⟩ ⟨c1, c2, c3, ⟨f, c4, c5⟩, c6, c7, c8⟩
      dsimp only at c1 c2 c3 c4 c5 c6 c7 c8 ⊢
      show Jn T3 (c_X1_rest_33_b G (c_X1_rest_21 G m) (c_X1_rest_33 G (c_X1_rest_21 G m) n) (some o) (some T.2.1) si (Int32.ofNat i) x (Int32.ofNat (eN (sE s))) T3) (m_rest_24_b (m_rest_13 m) (m_rest_24 (m_rest_13 m) n) si (Int32.ofNat i) y (Int32.ofNat (eN (sE s))) S3) _
      unfold c_X1_rest_33_b m_rest_24_b
      simp -implicitDefEqProofs only [c1.1.q1, c1.1.isr, c1.1.cells ok, v_cells ok c2.1, Int32.le_refl, Option.bind_some, not_true_eq_false, if_false, if_true]
      have fin : ∀ si', Jn T3 (c_X1_rest_103 G (c_X1_rest_21 G m) (some o) (some T.2.1) si' (Int32.ofNat i) T3) (m_rest_101 (m_rest_13 m) (Int32.ofNat i) si' S3) fun r T' q => r = q.1 ∧ Nx G o T s T' q.2 := by
        intro si'
        unfold c_X1_rest_103 m_rest_101
        simp -implicitDefEqProofs only [c1.1.q3, c1.2.is, ofn1 i (by omega), Option.bind_some, not_true_eq_false, if_false, if_true]
        refine Jn.cl (t_passf (n := 0) ok c1 (gi.le (by omega))) fun v T4 _ ⟨_, q2, q3, q4⟩ => ?_
        refine Jn.mb (u_passf (n := 0) ok c2 (gi.le (by omega))) fun S4 ⟨⟨r1, r2⟩, r3⟩ => ?_
        refine K ((T4, S4), si') ⟨q2, r1, q3.trans c3, f, c4.fr q4 nep, fun c hc hq => ?_⟩
        have e : S4.2.2 18 c = S3.2.2 18 c := r3.2.2 18 c fun q => q.elim (fun q => by omega) (fun q => by cases q.1)
        exact e.trans (c5 c hc (Or.inl hc))
      rcases Nat.eq_zero_or_pos i with hi0 | hi0
      · have yy := c8 hi0
        subst hi0
        rw [yy, if_pos (show Int32.ofNat 0 ≤ 0 by decide), if_neg (show ¬ (1 : Int32) = 0 by decide)]
        exact fin si
      · have xy := c7 hi0
        subst xy
        have i0' : ¬ Int32.ofNat i ≤ 0 := fun q => by have := (ole (n := i) (m := 0) (by omega) (by omega)).mp q; omega
        rw [if_neg i0']
        split
        · exact fin _
        · exact fin _
  · rintro m ⟨⟨T2, S2⟩, si⟩ ⟨h1, h2, h3, h4⟩
    dsimp only at h1 h2 h3 h4 ⊢
    show Jn T2 (c_X1_rest_21_b G (c_X1_rest_21 G m) (some o) (some T.2.1) si (Int32.ofNat 41) T2) (m_rest_13_b (m_rest_13 m) si (Int32.ofNat 41) S2) _
    unfold c_X1_rest_21_b m_rest_13_b
    rw [if_pos (by decide), if_pos (by decide)]
    exact Jnum ok h1.1 h2.1 (by rw [h3]; show T.2.1 + 1 ≤ _; omega) (by rw [h3]; show T.2.2 + 30 ≤ _; omega) rfl
end CM
