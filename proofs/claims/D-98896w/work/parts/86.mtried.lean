/-! plain law: the reference's rows by plain places, and what is tried there -/
set_option maxRecDepth 100000
section RW
variable {S S0 : MS} {g : Gw} {i : Nat}
theorem RwAt.lD0 (h : RwAt S 0 g) (hi : i < 30) : rdA S 13 ((1 : Int32) + Int32.ofNat i) = some (gD g i) := h.ldD (b := 0) (by decide) hi
theorem RwAt.sD0 (h : RwAt S 0 g) (hi : i < 30) (v : Int32) : ∃ S', wrA S 13 ((1 : Int32) + Int32.ofNat i) v = some S' ∧ mfr (rk 0) S S' ∧ RwAt S' 0 (upd (gD g) i v, gF g, gK g, gZ g, gY g) := h.stD (b := 0) (by decide) hi v
theorem RwAt.lF0 (h : RwAt S 0 g) (hi : i < 30) : rdA S 13 ((31 : Int32) + Int32.ofNat i) = some (gF g i) := h.ldF (b := 0) (by decide) hi
theorem RwAt.sF0 (h : RwAt S 0 g) (hi : i < 30) (v : Int32) : ∃ S', wrA S 13 ((31 : Int32) + Int32.ofNat i) v = some S' ∧ mfr (rk 0) S S' ∧ RwAt S' 0 (gD g, upd (gF g) i v, gK g, gZ g, gY g) := h.stF (b := 0) (by decide) hi v
theorem RwAt.lK0 (h : RwAt S 0 g) (hi : i < 30) : rdA S 13 ((61 : Int32) + Int32.ofNat i) = some (gK g i) := h.ldK (b := 0) (by decide) hi
theorem RwAt.sK0 (h : RwAt S 0 g) (hi : i < 30) (v : Int32) : ∃ S', wrA S 13 ((61 : Int32) + Int32.ofNat i) v = some S' ∧ mfr (rk 0) S S' ∧ RwAt S' 0 (gD g, gF g, upd (gK g) i v, gZ g, gY g) := h.stK (b := 0) (by decide) hi v
theorem RwAt.lZ0 (h : RwAt S 0 g) (hi : i < 30) : rdA S 13 ((91 : Int32) + Int32.ofNat i) = some (gZ g i) := h.ldZ (b := 0) (by decide) hi
theorem RwAt.sZ0 (h : RwAt S 0 g) (hi : i < 30) (v : Int32) : ∃ S', wrA S 13 ((91 : Int32) + Int32.ofNat i) v = some S' ∧ mfr (rk 0) S S' ∧ RwAt S' 0 (gD g, gF g, gK g, upd (gZ g) i v, gY g) := h.stZ (b := 0) (by decide) hi v
theorem RwAt.lY0 (h : RwAt S 0 g) : rdA S 13 (0 : Int32) = some (gY g) := h.ldY (b := 0) (by decide)
theorem RwAt.lD1 (h : RwAt S 121 g) (hi : i < 30) : rdA S 13 ((122 : Int32) + Int32.ofNat i) = some (gD g i) := h.ldD (b := 121) (by decide) hi
theorem RwAt.sD1 (h : RwAt S 121 g) (hi : i < 30) (v : Int32) : ∃ S', wrA S 13 ((122 : Int32) + Int32.ofNat i) v = some S' ∧ mfr (rk 121) S S' ∧ RwAt S' 121 (upd (gD g) i v, gF g, gK g, gZ g, gY g) := h.stD (b := 121) (by decide) hi v
theorem RwAt.lF1 (h : RwAt S 121 g) (hi : i < 30) : rdA S 13 ((152 : Int32) + Int32.ofNat i) = some (gF g i) := h.ldF (b := 121) (by decide) hi
theorem RwAt.sF1 (h : RwAt S 121 g) (hi : i < 30) (v : Int32) : ∃ S', wrA S 13 ((152 : Int32) + Int32.ofNat i) v = some S' ∧ mfr (rk 121) S S' ∧ RwAt S' 121 (gD g, upd (gF g) i v, gK g, gZ g, gY g) := h.stF (b := 121) (by decide) hi v
theorem RwAt.lK1 (h : RwAt S 121 g) (hi : i < 30) : rdA S 13 ((182 : Int32) + Int32.ofNat i) = some (gK g i) := h.ldK (b := 121) (by decide) hi
theorem RwAt.sK1 (h : RwAt S 121 g) (hi : i < 30) (v : Int32) : ∃ S', wrA S 13 ((182 : Int32) + Int32.ofNat i) v = some S' ∧ mfr (rk 121) S S' ∧ RwAt S' 121 (gD g, gF g, upd (gK g) i v, gZ g, gY g) := h.stK (b := 121) (by decide) hi v
theorem RwAt.lZ1 (h : RwAt S 121 g) (hi : i < 30) : rdA S 13 ((212 : Int32) + Int32.ofNat i) = some (gZ g i) := h.ldZ (b := 121) (by decide) hi
theorem RwAt.sZ1 (h : RwAt S 121 g) (hi : i < 30) (v : Int32) : ∃ S', wrA S 13 ((212 : Int32) + Int32.ofNat i) v = some S' ∧ mfr (rk 121) S S' ∧ RwAt S' 121 (gD g, gF g, gK g, upd (gZ g) i v, gY g) := h.stZ (b := 121) (by decide) hi v
theorem RwAt.lY1 (h : RwAt S 121 g) : rdA S 13 (121 : Int32) = some (gY g) := h.ldY (b := 121) (by decide)
end RW
theorem rd13 {S : MS} {k : Nat} (hk : k < 242) : rdA S 13 (Int32.ofNat k) = some (S.2.2 13 k) := rdA_n (ocl (by omega)) (on0 (by omega)) hk
theorem wr13 {S : MS} {k : Nat} (hk : k < 242) (v : Int32) : wrA S 13 (Int32.ofNat k) v = some (sA S 13 k v) := wrA_n (ocl (by omega)) (on0 (by omega)) hk
/-- rows behind the first -/
def r2 : Nat → Nat → Prop := fun j i => j = 13 ∧ 121 ≤ i
theorem AtJ.cp {A B : Nat → Int32} {a b : Nat} {g : Gw} (h : AtJ A a g) (k : ∀ i, i < 121 → B (b + i) = A (a + i)) : AtJ B b g := by
  refine ⟨(k 0 (by omega)).trans h.1, fun c hc => ?_⟩
  obtain ⟨h1, h2, h3, h4⟩ := h.2 c hc
  have k1 := k (1 + c) (by omega)
  have k2 := k (31 + c) (by omega)
  have k3 := k (61 + c) (by omega)
  have k4 := k (91 + c) (by omega)
  simp -implicitDefEqProofs only [← Nat.add_assoc] at k1 k2 k3 k4
  exact ⟨k1.trans h1, k2.trans h2, k3.trans h3, k4.trans h4⟩
theorem r_tries {S0 : MS} : Mn (m_tries S0) fun S' => mfr r2 S0 S' ∧ ∀ i, i < 121 → S'.2.2 13 (121 + i) = S0.2.2 13 (0 + i) := by
  unfold m_tries
  refine loop_rule (σ := MS) (N := 121) (fun i s => mfr r2 S0 s ∧ ∀ k, k < i → s.2.2 13 (121 + k) = S0.2.2 13 (0 + k)) (fun m i s => Mn (m_tries_2 m (Int32.ofNat i) s) _) ?_ ?_ FU (by decide) S0 ⟨mfr.rf, fun k hk => absurd hk (Nat.not_lt_zero k)⟩
  · rintro m i S1 hi ⟨hf, hB⟩ K
    have hle : ¬ (121 : Int32) ≤ Int32.ofNat i := fun q => by have := (ole (n := 121) (by omega) (by omega)).mp q; omega
    show Mn (m_tries_2_b (m_tries_2 m) (Int32.ofNat i) S1) _
    unfold m_tries_2_b
    have e1 : (121 : Int32) + Int32.ofNat i = Int32.ofNat (121 + i) := oadd 121 i
    simp -implicitDefEqProofs only [hle, Option.bind_some, not_true_eq_false, if_false, if_true, rd13 (show i < 242 by omega), e1, wr13 (show 121 + i < 242 by omega), ofn1 i (by omega)]
    have h0 : S1.2.2 13 i = S0.2.2 13 (0 + i) := by rw [Nat.zero_add]; exact hf.2.2 13 i fun q => by have := q.2; omega
    refine K _ ⟨hf.tr (sA_fr.up fun j k q => ⟨q.1, by omega⟩), fun k hk => ?_⟩
    rw [sA_at]
    unfold upd
    by_cases q : k = i
    · subst q; rw [if_pos rfl, h0]
    · rw [if_neg (by omega)]; exact hB k (by omega)
  · rintro m S1 ⟨hf, hB⟩
    show Mn (m_tries_2_b (m_tries_2 m) (Int32.ofNat 121) S1) _
    unfold m_tries_2_b
    rw [if_pos (by decide)]
    exact Mn.ret ⟨hf, hB⟩
/-- the reference, with what is tried -/
def Mt (S : MS) (s : St) (g : Gw) : Prop := MI S s ∧ RwAt S 121 g
section MT
variable {S : MS} {s : St} {g : Gw}
theorem MI.mv (h : MI S s) {E : Nat → Nat → Prop} (k : ∀ j i, E j i → ¬ (j = 1 ∨ j = 2 ∨ j = 3)) : Mv E S (sE s) := h.1.mv k
theorem MI.row (h : MI S s) : RwAt S 0 (sG s) := h.2.1
theorem eb_free : ∀ j i, eb 121 j i → mfree j i := fun j i q => by
  unfold mfree
  rcases q with q | q
  · omega
  · simp -implicitDefEqProofs only [rk] at q; omega
theorem rk_free : ∀ j i, rk 121 j i → mfree j i := fun j i q => eb_free j i (Or.inr q)
theorem eb_own {b : Nat} : ∀ j i, eb b j i → ¬ (j = 1 ∨ j = 2 ∨ j = 3) := fun j i q => by
  rcases q with q | q
  · omega
  · simp -implicitDefEqProofs only [rk] at q; omega
theorem MI.mt (h : MI S s) {S' : MS} {E : Nat → Nat → Prop} (w : mfr E S S') (k : ∀ j i, E j i → mfree j i) (r : RwAt S' 121 g) : Mt S' s g := ⟨h.fr w k, r⟩
theorem u_tries (h : MI S s) : Mn (m_tries S) fun S' => Mt S' s (sG s) ∧ S'.1 = S.1 := r_tries.mono fun S' ⟨w, k⟩ => ⟨h.mt w (fun j i q => Or.inl q) (AtJ.cp h.row k), w.1⟩
theorem u_pass {n : Nat} (ok : StOK s) (h : Mt S s g) (hg : GI (sE s) g (n + 1)) : Mn (m_dayGoes 121 S) fun S' => Mt S' s (gpass (sE s) g) ∧ S'.1 = S.1 := (r_pass (b := 121) ok.1 (h.1.mv eb_own) h.2 (by decide) hg).mono fun S' ⟨w, k⟩ => ⟨h.1.mt w eb_free k, w.1⟩
theorem u_after {k n : Nat} (ok : StOK s) (h : Mt S s g) (hk : k < 100) (hg : GI (sE s) g (n + k + 1)) : Mn (m_daysGo (Int32.ofNat k) S) fun S' => Mt S' s (gafter (sE s) k g) ∧ S'.1 = S.1 := (r_after ok.1 (h.1.mv eb_own) h.2 hk hg).mono fun S' ⟨w, k⟩ => ⟨h.1.mt w eb_free k, w.1⟩
theorem u_goes {k : Nat} (ok : StOK s) (h : MI S s) (hk : k < 100) : Mn (m_goesTo (Int32.ofNat k) S) fun S' => Mt S' s (gafter (sE s) k (sG s)) ∧ S'.1 = S.1 := by
  unfold m_goesTo
  refine Mn.bw (u_tries h) fun S1 ⟨k1, k2⟩ => Mn.bw (u_after (n := 0) ok k1 hk (ok.2.1.le (by omega))) fun S2 ⟨j1, j2⟩ => Mn.ret ⟨j1, j2.trans k2⟩
theorem u_votes (ok : StOK s) (h : Mt S s g) {n : Nat} (hg : GI (sE s) g n) (p : Int32) : m_votesOf 121 p S = some (vts (sE s) g p) := r_votes (b := 121) ok.1 (h.1.mv (E := eb 121) eb_own) h.2 (by decide) hg.1.2 p
theorem u_winner (ok : StOK s) (h : Mt S s g) {n : Nat} (hg : GI (sE s) g n) : m_winnerIn 121 S = some (win (sE s) g) := r_winner (b := 121) ok.1 (h.1.mv (E := eb 121) eb_own) h.2 (by decide) hg.1.2
theorem u_votesAll (ok : StOK s) (h : Mt S s g) {n : Nat} (hg : GI (sE s) g n) : m_votesAll 121 S = some (vall (sE s) g) := r_votesAll (b := 121) ok.1 (h.1.mv (E := eb 121) eb_own) h.2 (by decide) hg.1.2
theorem v_votes (ok : StOK s) (h : MI S s) (p : Int32) : m_votesOf 0 p S = some (vts (sE s) (sG s) p) := r_votes (b := 0) ok.1 (h.mv (E := eb 0) eb_own) h.row (by decide) ok.2.1.1.2 p
theorem v_winner (ok : StOK s) (h : MI S s) : m_winnerIn 0 S = some (win (sE s) (sG s)) := r_winner (b := 0) ok.1 (h.mv (E := eb 0) eb_own) h.row (by decide) ok.2.1.1.2
theorem v_votesAll (ok : StOK s) (h : MI S s) : m_votesAll 0 S = some (vall (sE s) (sG s)) := r_votesAll (b := 0) ok.1 (h.mv (E := eb 0) eb_own) h.row (by decide) ok.2.1.1.2
theorem v_isVoter {c : Nat} (h : MI S s) (hc : c < 30) : m_doesVote 0 (Int32.ofNat c) S = some (b01 (vtr (sE s) (sG s) c)) := r_isVoter (b := 0) (h.mv (E := eb 0) eb_own) h.row (by decide) hc
theorem v_cells (ok : StOK s) (h : MI S s) : m_cells S = some (Int32.ofNat (eN (sE s))) := (h.mv (E := eb 0) eb_own).cells ok.1
theorem v_far (ok : StOK s) (h : MI S s) {a b : Nat} (ha : a < 30) (hb : b < 30) : m_far (Int32.ofNat a) (Int32.ofNat b) S = some (stp (eW (sE s)) (Int32.ofNat b) (Int32.ofNat a)) := by
  rw [(h.mv (E := eb 0) eb_own).fa ok.1, ok.1.st b hb a ha]
/-- fed, in the reference -/
theorem u_breads {c : Nat} (h : MI S s) (hc : c < 30) (m : Int32) : Mn (m_breads (Int32.ofNat c) m S) fun S' => Mt S' s (gfeed (sG s) c m) ∧ S'.1 = S.1 := by
  unfold m_breads
  refine Mn.bw (u_tries h) fun S1 ⟨k1, k2⟩ => ?_
  simp -implicitDefEqProofs only [k1.2.lF1 hc, Option.bind_some, not_true_eq_false, if_false, if_true, e_lesser]
  obtain ⟨S2, e2, w2, h2⟩ := k1.2.sF1 hc (imin 99 (gF (sG s) c + m))
  refine Mn.bd e2 (Mn.ret ⟨k1.1.mt w2 rk_free h2, w2.1.trans k2⟩)
theorem u_clears {c : Nat} (h : Mt S s g) (hc : c < 30) : Mn (m_clears 121 (Int32.ofNat c) S) fun S' => Mt S' s (gclr g c) ∧ S'.1 = S.1 := (r_clear (b := 121) h.2 (by decide) hc).mono fun S' ⟨w, k⟩ => ⟨h.1.mt w rk_free k, w.1⟩
theorem u_grows {c n : Nat} (ok : StOK s) (h : Mt S s g) (hc : c < 30) (hg : GI (sE s) g (n + 1)) : Mn (m_growthOf 121 (Int32.ofNat c) S) fun r => r.1 = grw (sE s) g c ∧ Mt r.2 s g ∧ r.2.1 = S.1 := (r_grows (b := 121) ok.1 (h.1.mv (E := et) fun j i q => by rcases q with q | q <;> omega) h.2 (by decide) hc hg.1.gk).mono fun r ⟨k1, w⟩ => ⟨k1, h.1.mt w (fun j i q => by unfold mfree; rcases q with q | q <;> omega) (mv_row (b := 121) (by decide) h.2 w), w.1⟩
theorem u_freezes (ok : StOK s) (h : Mt S s g) : Mn (m_freezes S) fun S' => Mt S' s (gfrost (sE s) g) ∧ S'.1 = S.1 := by
  have hn := ok.1.n30
  unfold m_freezes
  refine loop_rule (σ := MS) (N := eN (sE s)) (fun i S1 => Mt S1 s (gD g, gF g, mixf i (zK g) (gK g), mixf i (fun c => gZ g c / 2) (gZ g), gY g) ∧ S1.1 = S.1) (fun m i S1 => Mn (m_freezes_2 m (Int32.ofNat i) S1) _) ?_ ?_ FU (by show eN (sE s) < 6000; omega) S ⟨by simp -implicitDefEqProofs only [mixf_0]; exact h, rfl⟩
  · rintro m i S1 hi ⟨h1, e1⟩ K
    have hi3 : i < 30 := by omega
    have hle : ¬ Int32.ofNat (eN (sE s)) ≤ Int32.ofNat i := fun q => by have := (ofn_le (eN (sE s)) (by omega) i (by omega)).mp q; omega
    show Mn (m_freezes_2_b (m_freezes_2 m) (Int32.ofNat i) S1) _
    unfold m_freezes_2_b
    simp -implicitDefEqProofs only [v_cells ok h1.1, hle, Option.bind_some, not_true_eq_false, if_false, if_true, h1.2.lZ1 hi3, gD_mk, gF_mk, gK_mk, gZ_mk, gY_mk, mixf_at, upd_at, m_freezes_52, (ofn i (by omega)).2.2, show ¬ (2 : Int32) = 0 by decide]
    obtain ⟨S2, e2, w2, h2⟩ := h1.2.sZ1 hi3 (gZ g i / 2)
    refine Mn.bd e2 ?_
    have H2 := h1.1.mt w2 rk_free h2
    simp -implicitDefEqProofs only [H2.2.lZ1 hi3, Option.bind_some, not_true_eq_false, if_false, if_true, gD_mk, gF_mk, gK_mk, gZ_mk, gY_mk, mixf_at, upd_at]
    by_cases hz : gZ g i / 2 = 0
    · rw [if_pos hz]
      refine Mn.bw (u_clears H2 hi3) fun S3 ⟨h3, e3⟩ => ?_
      refine K S3 ⟨⟨h3.1, h3.2.of rfl rfl ?_ ?_ rfl⟩, e3.trans (w2.1.trans e1)⟩
      · exact mixf_upd (by unfold zK; rw [if_pos hz])
      · simp -implicitDefEqProofs only [gD_mk, gF_mk, gK_mk, gZ_mk, gY_mk]
        rw [upd_upd]
        exact mixf_upd hz.symm
    · rw [if_neg hz]
      refine K S2 ⟨⟨H2.1, H2.2.of rfl rfl ?_ ?_ rfl⟩, w2.1.trans e1⟩
      · exact mixf_same (by unfold zK; rw [if_neg hz])
      · exact mixf_upd rfl
  · rintro m S1 ⟨h1, e1⟩
    show Mn (m_freezes_2_b (m_freezes_2 m) (Int32.ofNat (eN (sE s))) S1) _
    unfold m_freezes_2_b
    simp -implicitDefEqProofs only [v_cells ok h1.1, Option.bind_some, not_true_eq_false, if_false, if_true, Int32.le_refl]
    exact Mn.ret ⟨h1, e1⟩
end MT
