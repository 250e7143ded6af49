/-! plain law: a day in the reference -/
set_option maxRecDepth 100000
/-- told, pile, becomes -/
def em : Nat → Nat → Prop := fun j _ => j = 15 ∨ j = 16 ∨ j = 17
/-- these and one row -/
def eb (b : Nat) : Nat → Nat → Prop := fun j i => (j = 15 ∨ j = 16 ∨ j = 17) ∨ rk b j i
theorem et_em : ∀ j i, et j i → em j i := fun j i q => q.elim Or.inl fun q => Or.inr (Or.inl q)
theorem em_eb {b : Nat} : ∀ j i, em j i → eb b j i := fun j i q => Or.inl q
theorem rk_eb {b : Nat} : ∀ j i, rk b j i → eb b j i := fun j i q => Or.inr q
/-- what becomes of cells -/
def BeAt (S : MS) (n : Nat) (f : Nat → Int32) : Prop := ∀ c, c < n → S.2.2 17 c = f c
theorem BeAt.up {S : MS} {i : Nat} {f : Nat → Int32} {v : Int32} (h : BeAt S i f) (hv : v = f i) : BeAt (sA S 17 i v) (i + 1) f := fun c hc => by
  rw [sA_at]
  unfold upd
  by_cases q : c = i
  · subst q; rw [if_pos rfl, hv]
  · rw [if_neg q]; exact h c (by omega)
theorem BeAt.fr {S S' : MS} {n : Nat} {f : Nat → Int32} {E : Nat → Nat → Prop} (h : BeAt S n f) (k : mfr E S S') (hn : ∀ i, ¬ E 17 i) : BeAt S' n f := fun c hc => by
  rw [k.2.2 17 c (hn c)]
  exact h c hc
section GS
variable {E : Nat → Nat → Prop} {S S0 : MS} {b c d : Nat} {e : En} {g g0 : Gw}
theorem r_clear (hR0 : RwAt S0 b g) (hb : b ∈ ([0, 121] : List Nat)) (hc : c < 30) : Mn (m_clears (Int32.ofNat b) (Int32.ofNat c) S0) fun S' => mfr (rk b) S0 S' ∧ RwAt S' b (gclr g c) := by
  unfold m_clears
  obtain ⟨S1, e1, w1, hR1⟩ := hR0.stK hb hc (-1); refine Mn.bd e1 ?_
  obtain ⟨S2, e2, w2, hR2⟩ := hR1.stZ hb hc (0); refine Mn.bd e2 ?_
  exact Mn.ret ⟨w1.tr w2, hR2⟩
theorem em_row (hb : b ∈ ([0, 121] : List Nat)) {S' : MS} (hR : RwAt S b g) (w : mfr em S S') : RwAt S' b g := hR.fr w (fun _ _ _ q => by rcases q with q | q | q <;> cases q)
theorem wr17 {i : Nat} (hi : i < 30) (v : Int32) : wrA S 17 (Int32.ofNat i) v = some (sA S 17 i v) := wrA_o (by omega) hi
theorem rd17 {i : Nat} (hi : i < 30) : rdA S 17 (Int32.ofNat i) = some (S.2.2 17 i) := rdA_o (by omega) hi
theorem sA17 {i : Nat} {v : Int32} : mfr em S (sA S 17 i v) := sA_fr.up fun _ _ q => Or.inr (Or.inr q.1)
theorem imax0 (v : Int32) : (if v ≤ 0 then (0 : Int32) else v) = imax 0 v := by
  unfold imax
  by_cases h : v ≤ 0
  · rw [if_pos h, if_neg (i32_le.mpr h)]
  · rw [if_neg h, if_pos (Int32.not_le.mp h)]
def bg (e : En) (g : Gw) (c : Nat) : Int32 := if gK g c = -1 then 0 else grw e g c
theorem r_grow49 (ok : EnOK e) (hM : Mv (eb b) S0 e) (hR : RwAt S0 b g) (hb : b ∈ ([0, 121] : List Nat)) (hB : BeAt S0 (eN e) (bg e g)) : Mn (m_grow_49 FU (Int32.ofNat b) 0 S0) fun S' => mfr (rk b) S0 S' ∧ RwAt S' b (ggrow e g) := by
  have hn := ok.n30
  refine loop_rule (σ := MS) (N := eN e) (fun i s => mfr (rk b) S0 s ∧ RwAt s b (gD g, mixf i (nF e g) (gF g), mixf i (nK e g) (gK g), mixf i (nZ e g) (gZ g), gY g)) (fun m i s => Mn (m_grow_49 m (Int32.ofNat b) (Int32.ofNat i) s) _) ?_ ?_ FU (by show eN e < 6000; omega) S0 ⟨mfr.rf, by simp -implicitDefEqProofs only [mixf_0]; exact hR⟩
  · rintro m i S1 hi ⟨hf, hR1⟩ K
    have hi3 : i < 30 := by omega
    have hM1 := hM.mono (hf.up rk_eb)
    have hB1 := hB.fr hf (fun _ q => by cases q.1)
    have hle : ¬ Int32.ofNat (eN e) ≤ Int32.ofNat i := fun q => by have := (ofn_le (eN e) (by omega) i (by omega)).mp q; omega
    show Mn (m_grow_49_b (m_grow_49 m) (Int32.ofNat b) (Int32.ofNat i) S1) _
    unfold m_grow_49_b
    simp -implicitDefEqProofs only [hR1.ldY hb, hR1.ldD hb hi3, hR1.ldF hb hi3, hR1.ldK hb hi3, hR1.ldZ hb hi3, hM1.w, hM1.h, hM1.a, hM1.s, hM1.p, hM1.cells ok, hM1.fa ok, Option.bind_some, not_true_eq_false, if_false, if_true, hle, m_grow_162, (ofn i (by omega)).2.2, gD_mk, gF_mk, gK_mk, gZ_mk, gY_mk, mixf_at, upd_at, rd17 hi3, hB1 i hi]
    by_cases hk : gK g i = -1
    · rw [if_pos hk]
      exact K S1 ⟨hf, hR1.of rfl (mixf_same (by unfold nF; rw [if_pos hk])) (mixf_same (by unfold nK; rw [if_pos hk])) (mixf_same (by unfold nZ; rw [if_pos hk])) rfl⟩
    rw [if_neg hk]
    have hbg : bg e g i = grw e g i := by unfold bg; rw [if_neg hk]
    simp -implicitDefEqProofs only [e_lesser, hbg, Option.bind_some, not_true_eq_false, if_false, if_true]
    obtain ⟨S2, e2, w2, hR2⟩ := hR1.stZ hb hi3 (imin 99 (gZ g i + grw e g i)); refine Mn.bd e2 ?_
    have hB2 := hB1.fr w2 (fun _ q => by cases q.1)
    simp -implicitDefEqProofs only [hR2.ldY hb, hR2.ldD hb hi3, hR2.ldF hb hi3, hR2.ldK hb hi3, hR2.ldZ hb hi3, Option.bind_some, not_true_eq_false, if_false, if_true, rd17 hi3, hB2 i hi, hbg, gD_mk, gF_mk, gK_mk, gZ_mk, gY_mk, mixf_at, upd_at]
    have h140 : ∀ y, y = imax 0 (grw e g i) → Mn (m_grow_140 (m_grow_49 m) (Int32.ofNat b) (Int32.ofNat i) y (gF g i) ((Int32.ofNat b + (31 : Int32)) + Int32.ofNat i) S2) fun S' => mfr (rk b) S0 S' ∧ RwAt S' b (ggrow e g) := by
      intro y hy
      subst hy
      unfold m_grow_140
      obtain ⟨S3, e3, w3, hR3⟩ := hR2.stF hb hi3 (gF g i - imax 0 (grw e g i)); refine Mn.bd e3 ?_
      simp -implicitDefEqProofs only [hR3.ldY hb, hR3.ldD hb hi3, hR3.ldF hb hi3, hR3.ldK hb hi3, hR3.ldZ hb hi3, Option.bind_some, not_true_eq_false, if_false, if_true, gD_mk, gF_mk, gK_mk, gZ_mk, gY_mk, mixf_at, upd_at, m_grow_162, (ofn i (by omega)).2.2]
      have F := hf.tr (w2.tr w3)
      by_cases hz : 0 < imin 99 (gZ g i + grw e g i)
      · rw [if_pos hz]
        refine K S3 ⟨F, hR3.of rfl (mixf_upd ?_) (mixf_same ?_) (mixf_upd ?_) rfl⟩
        · unfold nF; rw [if_neg hk]
        · unfold nK zz; rw [if_neg hk, if_pos hz]
        · unfold nZ zz; rw [if_neg hk, if_pos hz]
      · rw [if_neg hz]
        refine Mn.bw (r_clear hR3 hb hi3) fun S4 ⟨w4, hR4⟩ => ?_
        refine K S4 ⟨F.tr w4, hR4.of rfl (mixf_upd ?_) (mixf_upd ?_) ?_ rfl⟩
        · unfold nF; rw [if_neg hk]
        · unfold nK zz; rw [if_neg hk, if_neg hz]
        · simp -implicitDefEqProofs only [gD_mk, gF_mk, gK_mk, gZ_mk, gY_mk]
          rw [upd_upd]
          refine mixf_upd ?_
          unfold nZ zz; rw [if_neg hk, if_neg hz]
    have h0 := imax0 (grw e g i)
    split
    · rename_i q; rw [if_pos q] at h0; exact h140 0 h0
    · rename_i q; rw [if_neg q] at h0; exact h140 _ h0
  · rintro m S1 ⟨hf, hR1⟩
    have hM1 := hM.mono (hf.up rk_eb)
    show Mn (m_grow_49_b (m_grow_49 m) (Int32.ofNat b) (Int32.ofNat (eN e)) S1) _
    unfold m_grow_49_b
    simp -implicitDefEqProofs only [hM1.w, hM1.h, hM1.a, hM1.s, hM1.p, hM1.cells ok, hM1.fa ok, Option.bind_some, not_true_eq_false, if_false, if_true, Int32.le_refl]
    exact Mn.ret ⟨hf, hR1⟩
theorem r_grow (ok : EnOK e) (hM : Mv (eb b) S0 e) (hR : RwAt S0 b g) (hb : b ∈ ([0, 121] : List Nat)) (hg : GK e g) : Mn (m_grow (Int32.ofNat b) S0) fun S' => mfr (eb b) S0 S' ∧ RwAt S' b (ggrow e g) := by
  have hn := ok.n30
  unfold m_grow
  refine loop_rule (σ := MS) (N := eN e) (fun i s => mfr em S0 s ∧ BeAt s i (bg e g)) (fun m i s => Mn (m_grow_2 m (Int32.ofNat b) (Int32.ofNat i) s) _) ?_ ?_ FU (by show eN e < 6000; omega) S0 ⟨mfr.rf, fun c hc => absurd hc (Nat.not_lt_zero c)⟩
  · rintro m i S1 hi ⟨hf, hB1⟩ K
    have hi3 : i < 30 := by omega
    have hM1 := hM.mono (hf.up em_eb)
    have hR1 := em_row hb hR hf
    have hle : ¬ Int32.ofNat (eN e) ≤ Int32.ofNat i := fun q => by have := (ofn_le (eN e) (by omega) i (by omega)).mp q; omega
    show Mn (m_grow_2_b (m_grow_2 m) (Int32.ofNat b) (Int32.ofNat i) S1) _
    unfold m_grow_2_b
    simp -implicitDefEqProofs only [hR1.ldY hb, hR1.ldD hb hi3, hR1.ldF hb hi3, hR1.ldK hb hi3, hR1.ldZ hb hi3, hM1.w, hM1.h, hM1.a, hM1.s, hM1.p, hM1.cells ok, hM1.fa ok, Option.bind_some, not_true_eq_false, if_false, if_true, hle, m_grow_40, (ofn i (by omega)).2.2, wr17 hi3]
    by_cases hk : gK g i = -1
    · rw [if_pos hk]
      exact K _ ⟨hf.tr sA17, hB1.up (by unfold bg; rw [if_pos hk])⟩
    · rw [if_neg hk]
      refine Mn.bw (r_grows ok (hM1.sub fun j i q => em_eb j i (et_em j i q)) hR1 hb hi3 hg) fun r ⟨h1, h2⟩ => ?_
      exact K _ ⟨(hf.tr (h2.up et_em)).tr sA17, BeAt.up (hB1.fr h2 (fun _ q => q.elim (fun q => by cases q) (fun q => by cases q))) (by unfold bg; rw [if_neg hk, h1])⟩
  · rintro m S1 ⟨hf, hB1⟩
    have hM1 := hM.mono (hf.up em_eb)
    show Mn (m_grow_2_b (m_grow_2 m) (Int32.ofNat b) (Int32.ofNat (eN e)) S1) _
    unfold m_grow_2_b
    simp -implicitDefEqProofs only [hM1.w, hM1.h, hM1.a, hM1.s, hM1.p, hM1.cells ok, hM1.fa ok, Option.bind_some, not_true_eq_false, if_false, if_true, Int32.le_refl]
    exact (r_grow49 ok hM1 (em_row hb hR hf) hb hB1).mono fun S' ⟨h1, h2⟩ => ⟨(hf.up em_eb).tr (h1.up rk_eb), h2⟩
def bs (e : En) (g : Gw) (c : Nat) : Int32 := if gK g c = -1 then (if gF g c ≤ 0 then -1 else match gst e g c with
  | none => -1
  | some k => gK g k) else -1
theorem r_day148 (ok : EnOK e) (hM : Mv (eb b) S0 e) (hR : RwAt S0 b g) (hb : b ∈ ([0, 121] : List Nat)) (hB : BeAt S0 (eN e) (bs e g)) (hf0 : fOK g) : Mn (m_dayGoes_148 FU (Int32.ofNat b) 0 S0) fun S' => mfr (rk b) S0 S' ∧ RwAt S' b (gday (gsow e g)) := by
  have hn := ok.n30
  have hbs : ∀ c, c < 30 → bs e g c = -1 → sBy e g c = none := by
    intro c hc hq
    unfold bs at hq
    unfold sBy
    by_cases hk : gK g c = -1
    · rw [if_pos hk] at hq ⊢
      by_cases hF : gF g c = 0
      · rw [if_pos hF]
      · rw [if_neg hF]
        rw [if_neg (fun q => hF (Int32.le_antisymm q (hf0 c hc)))] at hq
        cases hx : gst e g c with
        | none => rfl
        | some k =>
          rw [hx] at hq
          exact absurd hq (gst_k _ _ hx)
    · rw [if_neg hk]
  have hbs2 : ∀ c, c < 30 → ¬ bs e g c = -1 → sK e g c = bs e g c ∧ sZ e g c = 1 := by
    intro c hc hq
    unfold bs at hq ⊢
    unfold sK sZ sBy
    by_cases hk : gK g c = -1
    · rw [if_pos hk] at hq
      rw [if_pos hk, if_pos hk]
      by_cases hF : gF g c ≤ 0
      · rw [if_pos hF] at hq; exact absurd rfl hq
      · rw [if_neg hF] at hq
        rw [if_neg hF, if_neg (fun (q : gF g c = 0) => hF (by rw [q]; decide))]
        cases hx : gst e g c with
        | none => rw [hx] at hq; exact absurd rfl hq
        | some k => exact ⟨rfl, rfl⟩
    · rw [if_neg hk] at hq; exact absurd rfl hq
  refine loop_rule (σ := MS) (N := eN e) (fun i s => mfr (rk b) S0 s ∧ RwAt s b (gD g, gF g, mixf i (sK e g) (gK g), mixf i (sZ e g) (gZ g), gY g)) (fun m i s => Mn (m_dayGoes_148 m (Int32.ofNat b) (Int32.ofNat i) s) _) ?_ ?_ FU (by show eN e < 6000; omega) S0 ⟨mfr.rf, by simp -implicitDefEqProofs only [mixf_0]; exact hR⟩
  · rintro m i S1 hi ⟨hf, hR1⟩ K
    have hi3 : i < 30 := by omega
    have hM1 := hM.mono (hf.up rk_eb)
    have hB1 := hB.fr hf (fun _ q => by cases q.1)
    have hle : ¬ Int32.ofNat (eN e) ≤ Int32.ofNat i := fun q => by have := (ofn_le (eN e) (by omega) i (by omega)).mp q; omega
    show Mn (m_dayGoes_148_b (m_dayGoes_148 m) (Int32.ofNat b) (Int32.ofNat i) S1) _
    unfold m_dayGoes_148_b
    simp -implicitDefEqProofs only [hM1.w, hM1.h, hM1.a, hM1.s, hM1.p, hM1.cells ok, hM1.fa ok, Option.bind_some, not_true_eq_false, if_false, if_true, hle, m_dayGoes_198, (ofn i (by omega)).2.2, rd17 hi3, hB1 i hi]
    by_cases hk : bs e g i = -1
    · rw [if_pos hk]
      have h1 := hbs i hi3 hk
      exact K S1 ⟨hf, hR1.of rfl rfl (mixf_same (by unfold sK; rw [h1])) (mixf_same (by unfold sZ; rw [h1])) rfl⟩
    · rw [if_neg hk]
      obtain ⟨h1, h2⟩ := hbs2 i hi3 hk
      obtain ⟨S2, e2, w2, hR2⟩ := hR1.stK hb hi3 (bs e g i); refine Mn.bd e2 ?_
      obtain ⟨S3, e3, w3, hR3⟩ := hR2.stZ hb hi3 (1); refine Mn.bd e3 ?_
      exact K S3 ⟨hf.tr (w2.tr w3), hR3.of rfl rfl (mixf_upd h1.symm) (mixf_upd h2.symm) rfl⟩
  · rintro m S1 ⟨hf, hR1⟩
    have hM1 := hM.mono (hf.up rk_eb)
    show Mn (m_dayGoes_148_b (m_dayGoes_148 m) (Int32.ofNat b) (Int32.ofNat (eN e)) S1) _
    unfold m_dayGoes_148_b
    simp -implicitDefEqProofs only [hM1.w, hM1.h, hM1.a, hM1.s, hM1.p, hM1.cells ok, hM1.fa ok, Option.bind_some, not_true_eq_false, if_false, if_true, Int32.le_refl, hR1.ldY hb, gD_mk, gF_mk, gK_mk, gZ_mk, gY_mk, mixf_at, upd_at]
    obtain ⟨S2, e2, w2, hR2⟩ := hR1.stY hb (gY g + 1)
    refine Mn.bd e2 (Mn.ret ⟨hf.tr w2, hR2⟩)
theorem r_day87 (ok : EnOK e) (hM : Mv (eb b) S0 e) (hR : RwAt S0 b g) (hb : b ∈ ([0, 121] : List Nat)) (hz : zOK g) (hf0 : fOK g) : Mn (m_dayGoes_87 FU (Int32.ofNat b) 0 S0) fun S' => mfr (eb b) S0 S' ∧ RwAt S' b (gday (gsow e g)) := by
  have hn := ok.n30
  refine loop_rule (σ := MS) (N := eN e) (fun i s => mfr em S0 s ∧ BeAt s i (bs e g)) (fun m i s => Mn (m_dayGoes_87 m (Int32.ofNat b) (Int32.ofNat i) s) _) ?_ ?_ FU (by show eN e < 6000; omega) S0 ⟨mfr.rf, fun c hc => absurd hc (Nat.not_lt_zero c)⟩
  · rintro m i S1 hi ⟨hf, hB1⟩ K
    have hi3 : i < 30 := by omega
    have hM1 := hM.mono (hf.up em_eb)
    have hR1 := em_row hb hR hf
    have hle : ¬ Int32.ofNat (eN e) ≤ Int32.ofNat i := fun q => by have := (ofn_le (eN e) (by omega) i (by omega)).mp q; omega
    show Mn (m_dayGoes_87_b (m_dayGoes_87 m) (Int32.ofNat b) (Int32.ofNat i) S1) _
    unfold m_dayGoes_87_b
    simp -implicitDefEqProofs only [hR1.ldY hb, hR1.ldD hb hi3, hR1.ldF hb hi3, hR1.ldK hb hi3, hR1.ldZ hb hi3, hM1.w, hM1.h, hM1.a, hM1.s, hM1.p, hM1.cells ok, hM1.fa ok, Option.bind_some, not_true_eq_false, if_false, if_true, hle, m_dayGoes_138, m_dayGoes_139, (ofn i (by omega)).2.2, wr17 hi3]
    by_cases hk : gK g i = -1
    · rw [if_pos hk]
      by_cases hF : gF g i ≤ 0
      · rw [if_pos hF]
        exact K _ ⟨hf.tr sA17, hB1.up (by unfold bs; rw [if_pos hk, if_pos hF])⟩
      · rw [if_neg hF]
        simp -implicitDefEqProofs only [r_sown ok hM1 hR1 hb hi3 hk hz, Option.bind_some, not_true_eq_false, if_false, if_true]
        exact K _ ⟨hf.tr sA17, hB1.up (by unfold bs; rw [if_pos hk, if_neg hF]; rfl)⟩
    · rw [if_neg hk]
      exact K _ ⟨hf.tr sA17, hB1.up (by unfold bs; rw [if_neg hk])⟩
  · rintro m S1 ⟨hf, hB1⟩
    have hM1 := hM.mono (hf.up em_eb)
    show Mn (m_dayGoes_87_b (m_dayGoes_87 m) (Int32.ofNat b) (Int32.ofNat (eN e)) S1) _
    unfold m_dayGoes_87_b
    simp -implicitDefEqProofs only [hM1.w, hM1.h, hM1.a, hM1.s, hM1.p, hM1.cells ok, hM1.fa ok, Option.bind_some, not_true_eq_false, if_false, if_true, Int32.le_refl]
    exact (r_day148 ok hM1 (em_row hb hR hf) hb hB1 hf0).mono fun S' ⟨h1, h2⟩ => ⟨(hf.up em_eb).tr (h1.up rk_eb), h2⟩
theorem r_day54 (ok : EnOK e) (hM : Mv (eb b) S0 e) (hR : RwAt S0 b g) (hb : b ∈ ([0, 121] : List Nat)) (hB : BeAt S0 (eN e) (fK e g)) (hz : zOK (gfight e g)) (hf0 : fOK g) : Mn (m_dayGoes_54 FU (Int32.ofNat b) 0 S0) fun S' => mfr (eb b) S0 S' ∧ RwAt S' b (gday (gsow e (gfight e g))) := by
  have hn := ok.n30
  refine loop_rule (σ := MS) (N := eN e) (fun i s => mfr (rk b) S0 s ∧ RwAt s b (gD g, gF g, mixf i (fK e g) (gK g), gZ g, gY g)) (fun m i s => Mn (m_dayGoes_54 m (Int32.ofNat b) (Int32.ofNat i) s) _) ?_ ?_ FU (by show eN e < 6000; omega) S0 ⟨mfr.rf, by simp -implicitDefEqProofs only [mixf_0]; exact hR⟩
  · rintro m i S1 hi ⟨hf, hR1⟩ K
    have hi3 : i < 30 := by omega
    have hM1 := hM.mono (hf.up rk_eb)
    have hB1 := hB.fr hf (fun _ q => by cases q.1)
    have hle : ¬ Int32.ofNat (eN e) ≤ Int32.ofNat i := fun q => by have := (ofn_le (eN e) (by omega) i (by omega)).mp q; omega
    show Mn (m_dayGoes_54_b (m_dayGoes_54 m) (Int32.ofNat b) (Int32.ofNat i) S1) _
    unfold m_dayGoes_54_b
    simp -implicitDefEqProofs only [hM1.w, hM1.h, hM1.a, hM1.s, hM1.p, hM1.cells ok, hM1.fa ok, Option.bind_some, not_true_eq_false, if_false, if_true, hle, (ofn i (by omega)).2.2, rd17 hi3, hB1 i hi]
    obtain ⟨S2, e2, w2, hR2⟩ := hR1.stK hb hi3 (fK e g i); refine Mn.bd e2 ?_
    exact K S2 ⟨hf.tr w2, hR2.of rfl rfl (mixf_upd rfl) rfl rfl⟩
  · rintro m S1 ⟨hf, hR1⟩
    have hM1 := hM.mono (hf.up rk_eb)
    show Mn (m_dayGoes_54_b (m_dayGoes_54 m) (Int32.ofNat b) (Int32.ofNat (eN e)) S1) _
    unfold m_dayGoes_54_b
    simp -implicitDefEqProofs only [hM1.w, hM1.h, hM1.a, hM1.s, hM1.p, hM1.cells ok, hM1.fa ok, Option.bind_some, not_true_eq_false, if_false, if_true, Int32.le_refl]
    exact (r_day87 ok hM1 hR1 hb hz hf0).mono fun S' ⟨h1, h2⟩ => ⟨(hf.up rk_eb).tr h1, h2⟩
theorem r_day7 (ok : EnOK e) (hM : Mv (eb b) S0 e) (hR : RwAt S0 b g) (hb : b ∈ ([0, 121] : List Nat)) (hz : zOK (gfight e g)) (hf0 : fOK g) : Mn (m_dayGoes_7 FU (Int32.ofNat b) 0 S0) fun S' => mfr (eb b) S0 S' ∧ RwAt S' b (gday (gsow e (gfight e g))) := by
  have hn := ok.n30
  refine loop_rule (σ := MS) (N := eN e) (fun i s => mfr em S0 s ∧ BeAt s i (fK e g)) (fun m i s => Mn (m_dayGoes_7 m (Int32.ofNat b) (Int32.ofNat i) s) _) ?_ ?_ FU (by show eN e < 6000; omega) S0 ⟨mfr.rf, fun c hc => absurd hc (Nat.not_lt_zero c)⟩
  · rintro m i S1 hi ⟨hf, hB1⟩ K
    have hi3 : i < 30 := by omega
    have hM1 := hM.mono (hf.up em_eb)
    have hR1 := em_row hb hR hf
    have hle : ¬ Int32.ofNat (eN e) ≤ Int32.ofNat i := fun q => by have := (ofn_le (eN e) (by omega) i (by omega)).mp q; omega
    show Mn (m_dayGoes_7_b (m_dayGoes_7 m) (Int32.ofNat b) (Int32.ofNat i) S1) _
    unfold m_dayGoes_7_b
    simp -implicitDefEqProofs only [hR1.ldY hb, hR1.ldD hb hi3, hR1.ldF hb hi3, hR1.ldK hb hi3, hR1.ldZ hb hi3, hM1.w, hM1.h, hM1.a, hM1.s, hM1.p, hM1.cells ok, hM1.fa ok, Option.bind_some, not_true_eq_false, if_false, if_true, hle, m_dayGoes_45, (ofn i (by omega)).2.2, wr17 hi3]
    by_cases hk : gK g i = -1
    · rw [if_pos hk]
      exact K _ ⟨hf.tr sA17, hB1.up (by unfold fK; rw [if_pos hk, hk])⟩
    · rw [if_neg hk]
      refine Mn.bw (r_beaten ok (hM1.sub fun j i q => em_eb j i (et_em j i q)) hR1 hb hi3 hk) fun r ⟨h1, h2⟩ => ?_
      exact K _ ⟨(hf.tr (h2.up et_em)).tr sA17, BeAt.up (hB1.fr h2 (fun _ q => q.elim (fun q => by cases q) (fun q => by cases q))) h1⟩
  · rintro m S1 ⟨hf, hB1⟩
    have hM1 := hM.mono (hf.up em_eb)
    show Mn (m_dayGoes_7_b (m_dayGoes_7 m) (Int32.ofNat b) (Int32.ofNat (eN e)) S1) _
    unfold m_dayGoes_7_b
    simp -implicitDefEqProofs only [hM1.w, hM1.h, hM1.a, hM1.s, hM1.p, hM1.cells ok, hM1.fa ok, Option.bind_some, not_true_eq_false, if_false, if_true, Int32.le_refl]
    exact (r_day54 ok hM1 (em_row hb hR hf) hb hB1 hz hf0).mono fun S' ⟨h1, h2⟩ => ⟨(hf.up em_eb).tr h1, h2⟩
end GS
