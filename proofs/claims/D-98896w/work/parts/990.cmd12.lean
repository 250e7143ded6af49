/-! plain law: forget, image, restore -/
set_option maxRecDepth 100000
theorem r_copies {S : MS} {a b L : Nat} (ha : mI a = true) (hb : mI b = true) (hla : mL a = L) (hlb : mL b = L) (hL : L < 5000) (hab : a ≠ b) : Mn (m_copies a b S) fun S' => S'.1 = S.1 ∧ (∀ j, j ≠ b → S'.2.2 j = S.2.2 j) ∧ ∀ i, i < L → S'.2.2 b i = S.2.2 a i := by
  unfold m_copies
  refine loop_rule (σ := MS) (N := L) (fun i s => s.1 = S.1 ∧ (∀ j, j ≠ b → s.2.2 j = S.2.2 j) ∧ ∀ k, k < i → s.2.2 b k = S.2.2 a k) (fun m i s => Mn (m_copies_2 m a b (Int32.ofNat i) s) _) ?_ ?_ FU (by show L < 6000; omega) S ⟨rfl, fun _ _ => rfl, fun k hk => absurd hk (Nat.not_lt_zero k)⟩
  · rintro m i S1 hi ⟨h1, h2, h3⟩ K
    show Mn (m_copies_2_b (m_copies_2 m) a b (Int32.ofNat i) S1) _
    unfold m_copies_2_b
    have hle : ¬ Int32.ofNat (mL a) ≤ Int32.ofNat i := fun q => by rw [hla] at q; have := (ole (n := L) (by omega) (by omega)).mp q; omega
    rw [if_neg (by rw [ha]; simp), if_neg hle]
    have e1 : rdV S1 a (Int32.ofNat i) = some (S1.2.2 a i) := by
      unfold rdV
      rw [if_pos ha, rdA_n (ocl (by omega)) (on0 (by omega)) (by rw [hla]; exact hi)]
    have e2 : ∀ v, wrV S1 b (Int32.ofNat i) v = some (sA S1 b i v) := fun v => by
      unfold wrV
      rw [if_pos hb, wrA_n (ocl (by omega)) (on0 (by omega)) (by rw [hlb]; exact hi)]
    rw [e1, Option.bind_some, e2, Option.bind_some, show Int32.ofNat i + 1 = Int32.ofNat (i + 1) from oadd i 1]
    refine K _ ⟨h1, fun j hj => (sA_ne hj).trans (h2 j hj), fun k hk => ?_⟩
    rw [sA_at]
    unfold upd
    by_cases q : k = i
    · subst q; rw [if_pos rfl, h2 a hab]
    · rw [if_neg q]; exact h3 k (by omega)
  · rintro m S1 ⟨h1, h2, h3⟩
    show Mn (m_copies_2_b (m_copies_2 m) a b (Int32.ofNat L) S1) _
    unfold m_copies_2_b
    rw [if_neg (by rw [ha]; simp), if_pos (by rw [hla]; exact Int32.le_refl _)]
    exact Mn.ret ⟨h1, h2, h3⟩
theorem rd24 {S : MS} {k : Nat} (hk : k < 121) : rdA S 24 (Int32.ofNat k) = some (S.2.2 24 k) := rdA_n (ocl (by omega)) (on0 (by omega)) hk
theorem wr24 {S : MS} {k : Nat} (hk : k < 121) (v : Int32) : wrA S 24 (Int32.ofNat k) v = some (sA S 24 k v) := wrA_n (ocl (by omega)) (on0 (by omega)) hk
section RB
variable {G : xG} {T T' : xF} {o : Nat} {s : St} {A : Ad} {S : MS}
theorem CIa.sta (h : CIa G T o s A) : Fz (aO A) T (StA G) := by
  obtain ⟨ha, ea, wa, ws, ca, cs, v11, v12, v13, sd, a1, a2, a3, a4, a5, a6, a7, a8, a9, a10, a11, a12, a13, -⟩ := h
  exact a13
theorem CIa.bxx (h : CIa G T o s A) : Fz (aO A) T (Bx G) := by
  obtain ⟨ha, ea, wa, ws, ca, cs, v11, v12, v13, sd, a1, a2, a3, a4, a5, a6, a7, a8, a9, a10, a11, a12, a13, a14, -⟩ := h
  exact a14
theorem CIa.img (h : CIa G T o s A) : ∃ v11 v12 v13 sd, ObA T o A s v11 v12 v13 sd ∧ ImAt T (aO A) o (sI s) v11 v12 v13 := by
  obtain ⟨ha, ea, wa, ws, ca, cs, v11, v12, v13, sd, a1, a2, a3, a4, a5, a6, a7, a8, a9, a10, a11, a12, a13, a14, a15, a16, a17⟩ := h
  exact ⟨_, _, _, _, a1, a17⟩
theorem CIa.sels (h : CIa G T o s A) : ∃ ea ws cs, LsAt T (aSl A) (aSa A) (sS s).1 ea ws cs ∧ SsAt T (aO A) (sS s) ea ∧ (aO A (aSa A) = 10 ∨ aO A (aSa A) = 11 ∧ cs = 0) ∧ ∀ k, k < (sS s).1 → ea k < T.2.1 ∧ AO T (ea k) ∧ ea k ≠ aSl A ∧ SnC T (ea k) ((sS s).2 k) := by
  obtain ⟨ha, ea, wa, ws, ca, cs, v11, v12, v13, sd, a1, a2, a3, a4, a5, a6, a7, a8, a9, a10, a11, a12, a13, a14, a15, a16, -⟩ := h
  obtain ⟨t1, t2, t3, t4, t5, t6, t7, t8, t9, t10, t11⟩ := a2
  refine ⟨ea, ws, cs, a11, a16, t11, fun k hk => ?_⟩
  obtain ⟨q1, q2⟩ := a16 k hk
  have q3 := q1.now
  refine ⟨q2, fun T' e => ?_, q1.ne (by omega) fun _ q => q.nn, q3⟩
  obtain ⟨f, r1, -⟩ := q3
  exact asg_i (e.trans r1)
/-- the shared empty array is frozen -/
theorem sta_own {own : Nat → Nat} (h : Fz own T (StA G)) : ∃ d0 d1, gS G 0 = some d0 ∧ gS G 1 = some d1 ∧ d0 < T.2.1 ∧ d1 < T.2.1 ∧ own d0 = 11 ∧ own d1 = 11 := by
  obtain ⟨d0, d1, w0, w1, F0, F1, h1, h2, h3, h4, h5, h6⟩ := h.now
  refine ⟨d0, d1, h1, h2, h3, h4, h.own fun T' q => ?_, h.own fun T' q => ?_⟩
  · obtain ⟨e0, e1, w0, w1, F0, F1, k1, k2, k3, k4, k5, k6⟩ := q
    rw [h1] at k1
    cases k1
    rw [k5]; exact fun q => by cases q
  · obtain ⟨e0, e1, w0, w1, F0, F1, k1, k2, k3, k4, k5, k6⟩ := q
    rw [h2] at k2
    cases k2
    rw [k6]; exact fun q => by cases q
theorem k_forget (ok : StOK s) (h : CIa G T o s A) (m : MI S s) : Jn T (c_X1_forget G (some o) T) (m_forget S) fun _ T' S' => Nx G o T s T' S' := by
  have m0 := m.th 0
  unfold c_X1_forget m_forget
  refine Jn.al ⟨Nat.le_succ _, Nat.le_add_right _ _⟩ ?_
  have lo : ∀ x, x < T.2.1 → (nO T 10 3 [.int 0, .null, .int 0]).1 x = T.1 x := fun x q => xset_no (by omega)
  have st1 : StA G (nO T 10 3 [.int 0, .null, .int 0]) := h.sta _ (Nat.le_succ _) fun x q _ => lo x q
  obtain ⟨d0, d1, g0, g1, l0, l1, o0, o1⟩ := sta_own h.sta
  refine Jn.cl (e_linit (l := T.2.1) xset_eq st1 (by rw [g0]; exact fun q => by cases q; omega)) fun v T2 _ ⟨e0, w0, q1, q2, q3⟩ => ?_
  rw [g0] at q1
  cases q1
  obtain ⟨T3, e3, ⟨A3, h3⟩, c3⟩ := h.newsl (s' := (0, (sS s).2)) (by rw [q3.1]; exact Nat.le_succ _) (fun x q => (q3.2 x (by omega)).trans (lo x q)) q2 ⟨Nat.le_refl _, by rw [q3.1]; exact Nat.lt_succ_self _⟩ (Or.inr ⟨l0, o0, rfl⟩) (fun k hk => absurd hk (Nat.not_lt_zero k))
  refine Jn.st e3 (x2_le c3) (Jn.ret ?_)
  refine ⟨_, ?_, ⟨A3, h3⟩, ?_, ?_⟩
  · exact ⟨ok.1, ok.2.1, ok.2.2.1, ⟨Nat.zero_le _, fun k hk => absurd hk (Nat.not_lt_zero k)⟩, ok.2.2.2.2⟩
  · obtain ⟨a1, a2, a3, a4, a5, a6, a7, a8, a9, a10, a11⟩ := m0
    have f : ∀ k, k ≠ 53 → (sF (sF S 0 0) 53 0).1 k = (sF S 0 0).1 k := fun k q => sF_ne q
    refine ⟨a1.mono (fun k q1 q2 => f k (by omega)) (fun _ _ => rfl), a2, (f 46 (by decide)).trans a3, a4, sF_at, fun k hk => absurd hk (Nat.not_lt_zero k), ?_, (f 13 (by decide)).trans a8, a9, (f 15 (by decide)).trans a10, a11⟩
    show match sI s with
      | none => _
      | some (g, h, x) => _
    cases hi : sI s with
    | none => rw [hi] at a7; exact (f 58 (by decide)).trans a7
    | some x =>
      rw [hi] at a7
      obtain ⟨b1, b2, b3, b4, b5, b6⟩ := a7
      exact ⟨(f 58 (by decide)).trans b1, b2, (f 59 (by decide)).trans b3, b4, (f 60 (by decide)).trans b5, b6⟩
  · unfold Bud
    rw [c3, q3.1]
    show T.2.1 + 1 + 500 * sT s ≤ _ ∧ T.2.2 + 3 + 4000 * sT s ≤ _
    omega
/-- the reference's image -/
theorem v_image (ok : StOK s) (m : MI S s) : Mn (m_image S) fun S' => MI S' (sE s, sG s, sH s, sS s, some (sG s, sH s, sS s), sB s, sT s, sF_ s, sR s) := by
  have m0 := m.th 0
  unfold m_image
  generalize hS0 : sF (sF (sF (sF S 0 0) 58 1) 59 ((sF (sF S 0 0) 58 1).1 46)) 60 ((sF (sF (sF S 0 0) 58 1) 59 ((sF (sF S 0 0) 58 1).1 46)).1 53) = S0
  obtain ⟨a1, a2, a3, a4, a5, a6, a7, a8, a9, a10, a11⟩ := m0
  have r0 : S0.2 = (sF S 0 0).2 := by rw [← hS0]; rfl
  have f0 : ∀ k, k ≠ 58 → k ≠ 59 → k ≠ 60 → S0.1 k = (sF S 0 0).1 k := fun k q1 q2 q3 => by rw [← hS0, sF_ne q3, sF_ne q2, sF_ne q1]
  have f58 : S0.1 58 = 1 := by rw [← hS0, sF_ne (by decide), sF_ne (by decide), sF_at]
  have f59 : S0.1 59 = Int32.ofNat (sH s).1 := by rw [← hS0, sF_ne (by decide), sF_at, sF_ne (by decide)]; exact a3
  have f60 : S0.1 60 = Int32.ofNat (sS s).1 := by rw [← hS0, sF_at, sF_ne (by decide), sF_ne (by decide)]; exact a5
  have key : Mn (m_image_28 FU 0 S0) fun S' => S'.1 = S0.1 ∧ (∀ j, j ≠ 24 → j ≠ 25 → j ≠ 26 → S'.2.2 j = S0.2.2 j) ∧ (∀ k, k < 121 → S'.2.2 24 (0 + k) = S0.2.2 13 (0 + k)) ∧ (∀ k, k < 4840 → S'.2.2 25 k = S0.2.2 14 k) ∧ ∀ k, k < 24 → S'.2.2 26 k = S0.2.2 21 k := by
    refine loop_rule (σ := MS) (N := 121) (fun i s1 => mfr (fun j _ => j = 24) S0 s1 ∧ ∀ k, k < i → s1.2.2 24 (0 + k) = S0.2.2 13 (0 + k)) (fun m i s1 => Mn (m_image_28 m (Int32.ofNat i) s1) _) ?_ ?_ FU (by decide) S0 ⟨mfr.rf, fun k hk => absurd hk (Nat.not_lt_zero k)⟩
    · rintro m i S1 hi ⟨q1, q2⟩ K
      have hle : ¬ (121 : Int32) ≤ Int32.ofNat i := fun q => by have := (ole (n := 121) (by omega) (by omega)).mp q; omega
      show Mn (m_image_28_b (m_image_28 m) (Int32.ofNat i) S1) _
      unfold m_image_28_b
      simp -implicitDefEqProofs only [hle, Option.bind_some, not_true_eq_false, if_false, if_true, rd13 (show i < 242 by omega), wr24 hi, ofn1 i (by omega)]
      refine K _ ⟨q1.tr (sA_fr.up fun j k q => q.1), fun k hk => ?_⟩
      rw [sA_at]
      unfold upd
      by_cases q : k = i
      · subst q; rw [if_pos (by omega), q1.2.2 13 _ (show ¬ (13 : Nat) = 24 by decide), Nat.zero_add]
      · rw [if_neg (by omega)]; exact q2 k (by omega)
    · rintro m S1 ⟨q1, q2⟩
      show Mn (m_image_28_b (m_image_28 m) (Int32.ofNat 121) S1) _
      unfold m_image_28_b
      rw [if_pos (by decide)]
      refine Mn.bw (r_copies (S := S1) (a := 14) (b := 25) (L := 4840) (by decide) (by decide) rfl rfl (by decide) (by decide)) fun S2 ⟨c1, c2, c3⟩ => ?_
      refine Mn.bw (r_copies (S := S2) (a := 21) (b := 26) (L := 24) (by decide) (by decide) rfl rfl (by decide) (by decide)) fun S3 ⟨d1, d2, d3⟩ => ?_
      have z : ∀ j, j ≠ 24 → S1.2.2 j = S0.2.2 j := fun j q => funext fun i => q1.2.2 j i q
      refine Mn.ret ⟨d1.trans (c1.trans q1.1), fun j j1 j2 j3 => (d2 j j3).trans ((c2 j j2).trans (z j j1)), fun k hk => by rw [d2 24 (by decide), c2 24 (by decide)]; exact q2 k hk, fun k hk => by rw [d2 25 (by decide), c3 k hk, z 14 (by decide)], fun k hk => by rw [d3 k hk, c2 21 (by decide), z 21 (by decide)]⟩
  refine key.mono fun S' ⟨p1, p2, p3, p4, p5⟩ => ?_
  have ar : ∀ j, j ≠ 24 → j ≠ 25 → j ≠ 26 → S'.2.2 j = (sF S 0 0).2.2 j := fun j q1 q2 q3 => by rw [p2 j q1 q2 q3, r0]
  have fl : ∀ k, k ≠ 58 → k ≠ 59 → k ≠ 60 → S'.1 k = (sF S 0 0).1 k := fun k q1 q2 q3 => by rw [p1]; exact f0 k q1 q2 q3
  have hn40 : (sH s).1 ≤ 40 := ok.2.2.1.1
  have hs8 : (sS s).1 ≤ 8 := ok.2.2.2.1.1
  refine ⟨a1.mono (fun k q1 q2 => fl k (by omega) (by omega) (by omega)) (fun j hj => ar j (by omega) (by omega) (by omega)), by rw [ar 13 (by decide) (by decide) (by decide)]; exact a2, (fl 46 (by decide) (by decide) (by decide)).trans a3, fun k hk => by rw [ar 14 (by decide) (by decide) (by decide)]; exact a4 k hk, (fl 53 (by decide) (by decide) (by decide)).trans a5, fun k hk => by rw [ar 21 (by decide) (by decide) (by decide)]; exact a6 k hk, ⟨by rw [p1]; exact f58, AtJ.cp a2 fun i hi => by rw [p3 i hi, r0], by rw [p1]; exact f59, fun k hk => ?_, by rw [p1]; exact f60, fun k hk => ?_⟩, (fl 13 (by decide) (by decide) (by decide)).trans a8, fun k hk => by rw [ar 4 (by decide) (by decide) (by decide)]; exact a9 k hk, (fl 15 (by decide) (by decide) (by decide)).trans a10, fun k hk => by rw [ar 5 (by decide) (by decide) (by decide)]; exact a11 k hk⟩
  · have hk : k < (sH s).1 := hk
    exact AtJ.cp (a4 k hk) fun i hi => by rw [p4 _ (by omega), r0]
  · have hk : k < (sS s).1 := hk
    obtain ⟨b1, b2, b3⟩ := a6 k hk
    exact ⟨by rw [p5 _ (by omega), r0]; exact b1, by rw [p5 _ (by omega), r0]; exact b2, by rw [p5 _ (by omega), r0]; exact b3⟩
theorem v_restore (ok : StOK s) (m : MI S s) {g : Gw} {h2 : Hs} {x2 : Ss} (hi : sI s = some (g, h2, x2)) : Mn (m_restore S) fun r => r.1 = 1 ∧ MI r.2 (sE s, g, h2, x2, sI s, sB s, sT s, sF_ s, sR s) := by
  have m0 := m.th 0
  unfold m_restore
  obtain ⟨a1, a2, a3, a4, a5, a6, a7, a8, a9, a10, a11⟩ := m0
  rw [hi] at a7
  obtain ⟨b1, b2, b3, b4, b5, b6⟩ := a7
  rw [if_neg (show ¬ (sF S 0 0).1 58 = 0 by rw [b1]; decide)]
  generalize hS0 : sF (sF (sF S 0 0) 46 ((sF S 0 0).1 59)) 53 ((sF (sF S 0 0) 46 ((sF S 0 0).1 59)).1 60) = S0
  have r0 : S0.2 = (sF S 0 0).2 := by rw [← hS0]; rfl
  have f0 : ∀ k, k ≠ 46 → k ≠ 53 → S0.1 k = (sF S 0 0).1 k := fun k q1 q2 => by rw [← hS0, sF_ne q2, sF_ne q1]
  have f46 : S0.1 46 = Int32.ofNat h2.1 := by rw [← hS0, sF_ne (by decide), sF_at]; exact b3
  have f53 : S0.1 53 = Int32.ofNat x2.1 := by rw [← hS0, sF_at, sF_ne (by decide)]; exact b5
  have key : Mn (m_restore_32 FU 0 S0) fun r => r.1 = 1 ∧ r.2.1 = S0.1 ∧ (∀ j, j ≠ 13 → j ≠ 14 → j ≠ 21 → r.2.2.2 j = S0.2.2 j) ∧ (∀ k, k < 121 → r.2.2.2 13 (0 + k) = S0.2.2 24 (0 + k)) ∧ (∀ k, k < 4840 → r.2.2.2 14 k = S0.2.2 25 k) ∧ ∀ k, k < 24 → r.2.2.2 21 k = S0.2.2 26 k := by
    refine loop_rule (σ := MS) (N := 121) (fun i s1 => mfr (fun j _ => j = 13) S0 s1 ∧ ∀ k, k < i → s1.2.2 13 (0 + k) = S0.2.2 24 (0 + k)) (fun m i s1 => Mn (m_restore_32 m (Int32.ofNat i) s1) _) ?_ ?_ FU (by decide) S0 ⟨mfr.rf, fun k hk => absurd hk (Nat.not_lt_zero k)⟩
    · rintro m i S1 hi ⟨q1, q2⟩ K
      have hle : ¬ (121 : Int32) ≤ Int32.ofNat i := fun q => by have := (ole (n := 121) (by omega) (by omega)).mp q; omega
      show Mn (m_restore_32_b (m_restore_32 m) (Int32.ofNat i) S1) _
      unfold m_restore_32_b
      simp -implicitDefEqProofs only [hle, Option.bind_some, not_true_eq_false, if_false, if_true, rd24 hi, wr13 (show i < 242 by omega), ofn1 i (by omega)]
      refine K _ ⟨q1.tr (sA_fr.up fun j k q => q.1), fun k hk => ?_⟩
      rw [sA_at]
      unfold upd
      by_cases q : k = i
      · subst q; rw [if_pos (by omega), q1.2.2 24 _ (show ¬ (24 : Nat) = 13 by decide), Nat.zero_add]
      · rw [if_neg (by omega)]; exact q2 k (by omega)
    · rintro m S1 ⟨q1, q2⟩
      show Mn (m_restore_32_b (m_restore_32 m) (Int32.ofNat 121) S1) _
      unfold m_restore_32_b
      rw [if_pos (by decide)]
      refine Mn.bw (r_copies (S := S1) (a := 25) (b := 14) (L := 4840) (by decide) (by decide) rfl rfl (by decide) (by decide)) fun S2 ⟨c1, c2, c3⟩ => ?_
      refine Mn.bw (r_copies (S := S2) (a := 26) (b := 21) (L := 24) (by decide) (by decide) rfl rfl (by decide) (by decide)) fun S3 ⟨d1, d2, d3⟩ => ?_
      have z : ∀ j, j ≠ 13 → S1.2.2 j = S0.2.2 j := fun j q => funext fun i => q1.2.2 j i q
      refine Mn.ret ⟨rfl, d1.trans (c1.trans q1.1), fun j j1 j2 j3 => (d2 j j3).trans ((c2 j j2).trans (z j j1)), fun k hk => by show S3.2.2 13 _ = _; rw [d2 13 (by decide), c2 13 (by decide)]; exact q2 k hk, fun k hk => by show S3.2.2 14 _ = _; rw [d2 14 (by decide), c3 k hk, z 25 (by decide)], fun k hk => by show S3.2.2 21 _ = _; rw [d3 k hk, c2 26 (by decide), z 26 (by decide)]⟩
  refine key.mono fun r ⟨p0, p1, p2, p3, p4, p5⟩ => ⟨p0, ?_⟩
  have ar : ∀ j, j ≠ 13 → j ≠ 14 → j ≠ 21 → r.2.2.2 j = (sF S 0 0).2.2 j := fun j q1 q2 q3 => by rw [p2 j q1 q2 q3, r0]
  have fl : ∀ k, k ≠ 46 → k ≠ 53 → r.2.1 k = (sF S 0 0).1 k := fun k q1 q2 => by rw [p1]; exact f0 k q1 q2
  have hn40 : h2.1 ≤ 40 := (ok.2.2.2.2.1 g h2 x2 hi).2.1.1
  have hs8 : x2.1 ≤ 8 := (ok.2.2.2.2.1 g h2 x2 hi).2.2.1
  refine ⟨a1.mono (fun k q1 q2 => fl k (by omega) (by omega)) (fun j hj => ar j (by omega) (by omega) (by omega)), AtJ.cp b2 fun i hi => by rw [p3 i hi, r0], by rw [p1]; exact f46, fun k hk => ?_, by rw [p1]; exact f53, fun k hk => ?_, ?_, (fl 13 (by decide) (by decide)).trans a8, fun k hk => by rw [ar 4 (by decide) (by decide) (by decide)]; exact a9 k hk, (fl 15 (by decide) (by decide)).trans a10, fun k hk => by rw [ar 5 (by decide) (by decide) (by decide)]; exact a11 k hk⟩
  · have hk : k < h2.1 := hk
    exact AtJ.cp (b4 k hk) fun i hi => by rw [p4 _ (by omega), r0]
  · have hk : k < x2.1 := hk
    obtain ⟨c1, c2, c3⟩ := b6 k hk
    exact ⟨by rw [p5 _ (by omega), r0]; exact c1, by rw [p5 _ (by omega), r0]; exact c2, by rw [p5 _ (by omega), r0]; exact c3⟩
  · show match sI s with
      | none => _
      | some (g, h, x) => _
    rw [hi]
    exact ⟨(fl 58 (by decide) (by decide)).trans b1, by rw [ar 24 (by decide) (by decide) (by decide)]; exact b2, (fl 59 (by decide) (by decide)).trans b3, fun k hk => by rw [ar 25 (by decide) (by decide) (by decide)]; exact b4 k hk, (fl 60 (by decide) (by decide)).trans b5, fun k hk => by rw [ar 26 (by decide) (by decide) (by decide)]; exact b6 k hk⟩
end RB
