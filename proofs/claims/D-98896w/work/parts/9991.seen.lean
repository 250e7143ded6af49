/-! plain law: whether all is as seen -/
set_option maxRecDepth 100000
abbrev snD (s : St) (i : Nat) : Nat := ((sS s).2 i).2.1.toNatClampNeg
abbrev snC (s : St) (i : Nat) : Nat := ((sS s).2 i).1.toNatClampNeg
abbrev snZ (s : St) (i : Nat) : Int32 := ((sS s).2 i).2.2
/-- one sight is so -/
abbrev s1o (s : St) (g : Gw) (i : Nat) : Prop := gZ (gafter (sE s) (snD s i) g) (snC s i) = snZ s i
abbrev so (s : St) (g : Gw) : Prop := ∀ i, i < (sS s).1 → s1o s g i
theorem sn_ok {s : St} (ok : StOK s) {i : Nat} (hi : i < (sS s).1) : snC s i < eN (sE s) ∧ ((sS s).2 i).1 = Int32.ofNat (snC s i) ∧ snD s i ≤ 20 ∧ ((sS s).2 i).2.1 = Int32.ofNat (snD s i) := by
  obtain ⟨⟨c, h1, h2⟩, ⟨d, h3, h4⟩⟩ := ok.2.2.2.1.2 i hi
  have hn := ok.1.n30
  have e1 : snC s i = c := by show ((sS s).2 i).1.toNatClampNeg = c; rw [h2, ocl (by omega)]
  have e2 : snD s i = d := by show ((sS s).2 i).2.1.toNatClampNeg = d; rw [h4, ocl (by omega)]
  rw [e1, e2]
  exact ⟨h1, h2, h3, h4⟩
theorem SnC.ld {T : xF} {a : Nat} {x : Sn} (h : SnC T a x) : ldA T (some a) .int 0 = some x.1 ∧ ldA T (some a) .int 1 = some x.2.1 ∧ ldA T (some a) .int 2 = some x.2.2 ∧ cstI T (some a) = true := by
  obtain ⟨f, h1, h2, h3, h4⟩ := h
  have i : IaAt T a 3 f := h1
  refine ⟨?_, ?_, ?_, ?_⟩
  · rw [← h2]; exact i.ld (k := 0) (by decide) (by decide)
  · rw [← h3]; exact i.ld (k := 1) (by decide) (by decide)
  · rw [← h4]; exact i.ld (k := 2) (by decide) (by decide)
  · rw [cstI.eq_2]; simp -implicitDefEqProofs only [h1]
section CM
variable {G : xG} {T T1 : xF} {o : Nat} {s s' : St} {A A' : Ad} {S S1 : MS} {g : Gw}
theorem CIa.sget (h : CIa G T o s A) {i : Nat} (hi : i < (sS s).1) : ∃ q, c_J2_get T (some (aSl A)) (Int32.ofNat i) = some (some q) ∧ SnC T q ((sS s).2 i) := by
  obtain ⟨ea, ws, cs, L, H, -⟩ := h.sels
  exact ⟨ea i, L.get hi, (H i hi).1.now⟩
theorem CIa.ssize (h : CIa G T o s A) : isO T (some (aSl A)) 10 = true ∧ c_J2_size T (some (aSl A)) = some (Int32.ofNat (sS s).1) := by
  obtain ⟨ea, ws, cs, L, -⟩ := h.sels
  exact ⟨L.is, L.size⟩
theorem e_isSo (ok : StOK s) (h : Tr G T o s A g) (hg : GI (sE s) g 60) : Rn T (c_X1_isSo G (some o) T) fun v T' => v = (if so s g then 1 else 0) ∧ (∃ g', Tr G T' o s A g') ∧ frm (ep (aTt A) (aBb A) (aVa A)) T T' := by
  have hs8 : (sS s).1 ≤ 8 := ok.2.2.2.1.1
  have hn := ok.1.n30
  have sec : ∀ M, M ≤ 20 → (∀ i, i < (sS s).1 → snD s i ≤ M) → Rn T (c_X1_isSo_45 G FU (some o) (Int32.ofNat M) 0 T) fun v T' => v = (if so s g then 1 else 0) ∧ (∃ g', Tr G T' o s A g') ∧ frm (ep (aTt A) (aBb A) (aVa A)) T T' := by
    intro M hM hall
    refine loop_rule (σ := xF) (N := M + 1) (fun n T1 => Tr G T1 o s A (gafter (sE s) n g) ∧ frm (ep (aTt A) (aBb A) (aVa A)) T T1 ∧ ∀ i, i < (sS s).1 → snD s i < n → s1o s g i) (fun k n T1 => Rn T1 (c_X1_isSo_45 G k (some o) (Int32.ofNat M) (Int32.ofNat n) T1) _) ?_ ?_ FU (by show M + 1 < 6000; omega) T ⟨h, frm.rf, fun i _ q => absurd q (Nat.not_lt_zero _)⟩
    · rintro k n T1 hn1 ⟨h1, h2, h3⟩ K
      have c1 : ¬ Int32.ofNat M < Int32.ofNat n := fun q => by have := (olt (n := M) (m := n) (by omega) (by omega)).mp q; omega
      have gn : GI (sE s) (gafter (sE s) n g) 1 := GI.after ok.1 n (hg.le (by omega))
      show Rn T1 (c_X1_isSo_45_b G (c_X1_isSo_45 G k) (some o) (Int32.ofNat M) (Int32.ofNat n) T1) _
      unfold c_X1_isSo_45_b
      rw [if_neg c1]
      refine loop_rule (σ := Unit) (N := (sS s).1) (fun i _ => ∀ j, j < i → snD s j = n → s1o s g j) (fun f i _ => Rn T1 (c_X1_isSo_52 G (c_X1_isSo_45 G k) f (some o) (Int32.ofNat M) (Int32.ofNat n) (Int32.ofNat i) T1) _) ?_ ?_ FU (by show (sS s).1 < 6000; omega) () (fun j hj => absurd hj (Nat.not_lt_zero j))
      · rintro f i - hi hj K2
        have c2 : ¬ Int32.ofNat (sS s).1 ≤ Int32.ofNat i := fun q => by have := (ole (n := (sS s).1) (m := i) (by omega) (by omega)).mp q; omega
        obtain ⟨z1, z2⟩ := h1.1.ssize
        obtain ⟨q, g1, g2⟩ := h1.1.sget hi
        obtain ⟨l0, l1, l2, l3⟩ := g2.ld
        obtain ⟨p1, p2, p3, p4⟩ := sn_ok ok hi
        show Rn T1 (c_X1_isSo_52_b G (c_X1_isSo_45 G k) (c_X1_isSo_52 G (c_X1_isSo_45 G k) f) (some o) (Int32.ofNat M) (Int32.ofNat n) (Int32.ofNat i) T1) _
        unfold c_X1_isSo_52_b
        simp -implicitDefEqProofs only [h1.1.q10, z1, z2, c2, g1, l0, l1, l2, l3, p2, p4, h1.1.q3, h1.2.o3, h1.2.ldZ (show snC s i < 30 by omega), c_X1_isSo_109, ofn1 i (by omega), Option.bind_some, not_true_eq_false, if_false, if_true]
        by_cases hd : snD s i = n
        · rw [if_pos (show Int32.ofNat (snD s i) = Int32.ofNat n by rw [hd])]
          by_cases hz : gZ (gafter (sE s) n g) (snC s i) = snZ s i
          · rw [if_pos hz]
            refine K2 () fun j hj2 q => ?_
            by_cases e : j = i
            · subst e
              show gZ (gafter (sE s) (snD s j) g) _ = _
              rw [hd]; exact hz
            · exact hj j (by omega) q
          · rw [if_neg hz]
            refine Rn.ret ⟨?_, ⟨_, h1⟩, h2⟩
            rw [if_neg]
            intro q
            have := q i hi
            have this : gZ (gafter (sE s) (snD s i) g) (snC s i) = snZ s i := this
            rw [hd] at this
            exact hz this
        · rw [if_neg (fun q => hd ((oeq (by omega) (by omega)).mp q))]
          refine K2 () fun j hj2 q => ?_
          by_cases e : j = i
          · subst e; exact absurd q hd
          · exact hj j (by omega) q
      · rintro f - hj
        obtain ⟨z1, z2⟩ := h1.1.ssize
        show Rn T1 (c_X1_isSo_52_b G (c_X1_isSo_45 G k) (c_X1_isSo_52 G (c_X1_isSo_45 G k) f) (some o) (Int32.ofNat M) (Int32.ofNat n) (Int32.ofNat (sS s).1) T1) _
        unfold c_X1_isSo_52_b
        simp -implicitDefEqProofs only [h1.1.q10, z1, z2, Int32.le_refl, h1.1.q3, h1.2.is, ofn1 n (by omega), Option.bind_some, not_true_eq_false, if_false, if_true]
        refine Rn.cl (t_passf (n := 0) ok h1 gn) fun v T2 _ ⟨_, q2, q3, q4⟩ => ?_
        refine K T2 ⟨q2, h2.tr q4, fun i hi hd => ?_⟩
        by_cases e : snD s i = n
        · exact hj i hi e
        · exact h3 i hi (by omega)
    · rintro k T1 ⟨h1, h2, h3⟩
      show Rn T1 (c_X1_isSo_45_b G (c_X1_isSo_45 G k) (some o) (Int32.ofNat M) (Int32.ofNat (M + 1)) T1) _
      unfold c_X1_isSo_45_b
      rw [if_pos ((olt (n := M) (m := M + 1) (by omega) (by omega)).mpr (by omega))]
      refine Rn.ret ⟨?_, ⟨_, h1⟩, h2⟩
      rw [if_pos]
      exact fun i hi => h3 i hi (by have := hall i hi; omega)
  unfold c_X1_isSo
  refine loop_rule (σ := Int32) (N := (sS s).1) (fun i x => ∃ M, M ≤ 20 ∧ x = Int32.ofNat M ∧ ∀ j, j < i → snD s j ≤ M) (fun f i x => Rn T (c_X1_isSo_4 G f (some o) x (Int32.ofNat i) T) _) ?_ ?_ FU (by show (sS s).1 < 6000; omega) 0 ⟨0, by omega, rfl, fun j hj => absurd hj (Nat.not_lt_zero j)⟩
  · rintro f i x hi ⟨M, m1, m2, m3⟩ K
    have c2 : ¬ Int32.ofNat (sS s).1 ≤ Int32.ofNat i := fun q => by have := (ole (n := (sS s).1) (m := i) (by omega) (by omega)).mp q; omega
    obtain ⟨z1, z2⟩ := h.1.ssize
    obtain ⟨q, g1, g2⟩ := h.1.sget hi
    obtain ⟨l0, l1, l2, l3⟩ := g2.ld
    obtain ⟨p1, p2, p3, p4⟩ := sn_ok ok hi
    show Rn T (c_X1_isSo_4_b G (c_X1_isSo_4 G f) (some o) x (Int32.ofNat i) T) _
    unfold c_X1_isSo_4_b
    simp -implicitDefEqProofs only [h.1.q10, z1, z2, c2, g1, l1, l3, p4, e_max, ofn1 i (by omega), Option.bind_some, not_true_eq_false, if_false, if_true]
    refine K _ ⟨max M (snD s i), by omega, ?_, fun j hj => ?_⟩
    · rw [m2, ← Int32.toInt_inj, imax_tI, tIo (by omega), tIo (by omega), tIo (by omega)]
      omega
    · by_cases e : j = i
      · subst e; omega
      · have := m3 j (by omega); omega
  · rintro f x ⟨M, m1, m2, m3⟩
    obtain ⟨z1, z2⟩ := h.1.ssize
    show Rn T (c_X1_isSo_4_b G (c_X1_isSo_4 G f) (some o) x (Int32.ofNat (sS s).1) T) _
    unfold c_X1_isSo_4_b
    simp -implicitDefEqProofs only [h.1.q10, z1, z2, Int32.le_refl, Option.bind_some, not_true_eq_false, if_false, if_true]
    rw [m2]
    exact sec M m1 m3
theorem wr22 {k : Nat} (hk : k < 30) (v : Int32) : wrA S 22 (Int32.ofNat k) v = some (sA S 22 k v) := wrA_o (by omega) hk
theorem rd22 {k : Nat} (hk : k < 30) : rdA S 22 (Int32.ofNat k) = some (S.2.2 22 k) := rdA_o (by omega) hk
/-- what lies beside rows and soon stays -/
def e23 : Nat → Nat → Prop := fun j _ => j ≠ 23
theorem r_isSeen (ok : StOK s) (h : Mt S s g) (hg : GI (sE s) g 60) : Mn (m_isSeen S) fun r => r.1 = (if so s g then 1 else 0) ∧ MI r.2 s ∧ r.2.1 = S.1 ∧ r.2.2.2 23 = S.2.2 23 ∧ (so s g → ∀ c, c < eN (sE s) → r.2.2.2 22 c = gZ (gafter (sE s) 5 g) c) := by
  have hs8 : (sS s).1 ≤ 8 := ok.2.2.2.1.1
  have hn := ok.1.n30
  unfold m_isSeen
  refine loop_rule (σ := MS) (N := 21) (fun n S1 => Mt S1 s (gafter (sE s) n g) ∧ S1.1 = S.1 ∧ S1.2.2 23 = S.2.2 23 ∧ (∀ i, i < (sS s).1 → snD s i < n → s1o s g i) ∧ (5 < n → ∀ c, c < eN (sE s) → S1.2.2 22 c = gZ (gafter (sE s) 5 g) c)) (fun k n S1 => Mn (m_isSeen_2 k (Int32.ofNat n) S1) _) ?_ ?_ FU (by decide) S ⟨h, rfl, rfl, fun i _ q => absurd q (Nat.not_lt_zero _), fun q => absurd q (by omega)⟩
  · rintro k n S1 hn1 ⟨h1, h2, h3, h4, h5⟩ K
    have c1 : ¬ (20 : Int32) < Int32.ofNat n := fun q => by have := (olt (n := 20) (m := n) (by omega) (by omega)).mp q; omega
    have gn : GI (sE s) (gafter (sE s) n g) 1 := GI.after ok.1 n (hg.le (by omega))
    have h53 := h1.1.2.2.2.2.1
    show Mn (m_isSeen_2_b (m_isSeen_2 k) (Int32.ofNat n) S1) _
    unfold m_isSeen_2_b
    rw [if_neg c1]
    -- the day goes
    have day : ∀ S2, Mt S2 s (gafter (sE s) n g) → S2.1 = S.1 → S2.2.2 23 = S.2.2 23 → (∀ i, i < (sS s).1 → snD s i = n → s1o s g i) → (5 ≤ n → ∀ c, c < eN (sE s) → S2.2.2 22 c = gZ (gafter (sE s) 5 g) c) → Mn (m_isSeen_107 (m_isSeen_2 k) (Int32.ofNat n) S2) fun r => r.1 = (if so s g then 1 else 0) ∧ MI r.2 s ∧ r.2.1 = S.1 ∧ r.2.2.2 23 = S.2.2 23 ∧ (so s g → ∀ c, c < eN (sE s) → r.2.2.2 22 c = gZ (gafter (sE s) 5 g) c) := by
      intro S2 a1 a2 a3 a4 a5
      unfold m_isSeen_107
      rw [ofn1 n (by omega)]
      refine Mn.bw (u_passf (n := 0) ok a1 gn) fun S3 ⟨⟨q1, q2⟩, q3⟩ => ?_
      have e22 : ∀ j, j = 22 ∨ j = 23 → S3.2.2 j = S2.2.2 j := fun j hj => funext fun i => q3.2.2 j i fun q => by
        rcases q with q | q
        · omega
        · have := q.1; omega
      refine K S3 ⟨q1, q2.trans a2, (e22 23 (Or.inr rfl)).trans a3, fun i hi hd => ?_, fun hh c hc => by rw [e22 22 (Or.inl rfl)]; exact a5 (by omega) c hc⟩
      by_cases e : snD s i = n
      · exact a4 i hi e
      · exact h4 i hi (by omega)
    refine loop_rule (σ := Unit) (N := (sS s).1) (fun i _ => ∀ j, j < i → snD s j = n → s1o s g j) (fun f i _ => Mn (m_isSeen_10 (m_isSeen_2 k) f (Int32.ofNat n) (Int32.ofNat i) S1) _) ?_ ?_ FU (by show (sS s).1 < 6000; omega) () (fun j hj => absurd hj (Nat.not_lt_zero j))
    · rintro f i - hi hj K2
      have c2 : ¬ Int32.ofNat (sS s).1 ≤ Int32.ofNat i := fun q => by have := (ole (n := (sS s).1) (m := i) (by omega) (by omega)).mp q; omega
      obtain ⟨p1, p2, p3, p4⟩ := sn_ok ok hi
      obtain ⟨s1, s2, s3⟩ := h1.1.2.2.2.2.2.1 i hi
      have w0 : (3 : Int32) * Int32.ofNat i = Int32.ofNat (3 * i) := omul 3 _
      have w1 : Int32.ofNat (3 * i) + 1 = Int32.ofNat (3 * i + 1) := oadd _ 1
      have w2 : Int32.ofNat (3 * i) + 2 = Int32.ofNat (3 * i + 2) := oadd _ 2
      show Mn (m_isSeen_10_b (m_isSeen_2 k) (m_isSeen_10 (m_isSeen_2 k) f) (Int32.ofNat n) (Int32.ofNat i) S1) _
      unfold m_isSeen_10_b
      simp -implicitDefEqProofs only [h53, c2, w0, w1, w2, rd21 (S := S1) (show 3 * i < 24 by omega), rd21 (S := S1) (show 3 * i + 1 < 24 by omega), rd21 (S := S1) (show 3 * i + 2 < 24 by omega), s1, s2, s3, p2, p4, h1.2.lZ1 (show snC s i < 30 by omega), m_isSeen_64, ofn1 i (by omega), Option.bind_some, not_true_eq_false, if_false, if_true]
      by_cases hd : snD s i = n
      · rw [if_pos (show Int32.ofNat (snD s i) = Int32.ofNat n by rw [hd])]
        by_cases hz : gZ (gafter (sE s) n g) (snC s i) = snZ s i
        · rw [if_pos hz]
          refine K2 () fun j hj2 q => ?_
          by_cases e : j = i
          · subst e
            show gZ (gafter (sE s) (snD s j) g) _ = _
            rw [hd]; exact hz
          · exact hj j (by omega) q
        · rw [if_neg hz]
          have no : ¬ so s g := fun q => by
            have this : gZ (gafter (sE s) (snD s i) g) (snC s i) = snZ s i := q i hi
            rw [hd] at this
            exact hz this
          exact Mn.ret ⟨by rw [if_neg no], h1.1, h2, h3, fun q => absurd q no⟩
      · rw [if_neg (fun q => hd ((oeq (by omega) (by omega)).mp q))]
        refine K2 () fun j hj2 q => ?_
        by_cases e : j = i
        · subst e; exact absurd q hd
        · exact hj j (by omega) q
    · rintro f - hj
      show Mn (m_isSeen_10_b (m_isSeen_2 k) (m_isSeen_10 (m_isSeen_2 k) f) (Int32.ofNat n) (Int32.ofNat (sS s).1) S1) _
      unfold m_isSeen_10_b
      rw [h53, if_pos (Int32.le_refl _)]
      by_cases h5n : n = 5
      · rw [if_pos (show Int32.ofNat n = 5 by rw [h5n]; rfl)]
        refine loop_rule (σ := MS) (N := eN (sE s)) (fun j S2 => Mt S2 s (gafter (sE s) n g) ∧ S2.1 = S.1 ∧ S2.2.2 23 = S.2.2 23 ∧ ∀ c, c < j → S2.2.2 22 c = gZ (gafter (sE s) 5 g) c) (fun f2 j S2 => Mn (m_isSeen_77 (m_isSeen_2 k) f2 (Int32.ofNat n) (Int32.ofNat j) S2) _) ?_ ?_ FU (by show eN (sE s) < 6000; omega) S1 ⟨h1, h2, h3, fun c hc => absurd hc (Nat.not_lt_zero c)⟩
        · rintro f2 j S2 hj2 ⟨a1, a2, a3, a4⟩ K3
          have j3 : j < 30 := by omega
          show Mn (m_isSeen_77_b (m_isSeen_2 k) (m_isSeen_77 (m_isSeen_2 k) f2) (Int32.ofNat n) (Int32.ofNat j) S2) _
          unfold m_isSeen_77_b
          simp -implicitDefEqProofs only [v_cells ok a1.1, leN hj2 hn, a1.2.lZ1 j3, wr22 j3, ofn1 j (by omega), Option.bind_some, not_true_eq_false, if_false, if_true]
          have w : mfr (fun j _ => j = 22) S2 (sA S2 22 j (gZ (gafter (sE s) n g) j)) := sA_fr.up fun _ _ q => q.1
          refine K3 _ ⟨a1.1.mt w (fun j i q => by unfold mfree; omega) (a1.2.fr w fun _ _ _ q => by cases q), a2, (sA_ne (by decide)).trans a3, fun c hc => ?_⟩
          rw [sA_at]
          unfold upd
          by_cases e : c = j
          · rw [if_pos e, h5n, e]
          · rw [if_neg e]; exact a4 c (by omega)
        · rintro f2 S2 ⟨a1, a2, a3, a4⟩
          show Mn (m_isSeen_77_b (m_isSeen_2 k) (m_isSeen_77 (m_isSeen_2 k) f2) (Int32.ofNat n) (Int32.ofNat (eN (sE s))) S2) _
          unfold m_isSeen_77_b
          rw [v_cells ok a1.1, Option.bind_some, if_pos (Int32.le_refl _)]
          exact day S2 a1 a2 a3 (fun i hi hd => hj i hi hd) (fun _ c hc => a4 c hc)
      · rw [if_neg (show ¬ Int32.ofNat n = 5 from fun q => h5n ((oeq (n := n) (m := 5) (by omega) (by omega)).mp q))]
        exact day S1 h1 h2 h3 (fun i hi hd => hj i hi hd) (fun q c hc => h5 (by omega) c hc)
  · rintro k S1 ⟨h1, h2, h3, h4, h5⟩
    show Mn (m_isSeen_2_b (m_isSeen_2 k) (Int32.ofNat 21) S1) _
    unfold m_isSeen_2_b
    rw [if_pos (by decide)]
    have yes : so s g := fun i hi => h4 i hi (by have := (sn_ok ok hi).2.2.1; omega)
    exact Mn.ret ⟨by rw [if_pos yes], h1.1, h2, h3, fun _ => h5 (by decide)⟩
end CM
