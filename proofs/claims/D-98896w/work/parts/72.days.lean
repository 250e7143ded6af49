/-! plain law: the parts of a day, on the system's side -/
set_option maxRecDepth 100000
theorem upd_upd {f : Nat → Int32} {i : Nat} {x y : Int32} : upd (upd f i x) i y = upd f i y := by
  funext j
  unfold upd
  split <;> rfl
/-- the places of a part of a day -/
def ea (a va : Nat) : Nat → Prop := fun x => bk a x ∨ x = va
def ep (a b va : Nat) : Nat → Prop := fun x => bk a x ∨ bk b x ∨ x = va
section GS
variable {E : Nat → Prop} {G : xG} {T T0 : xF} {o rl va bb a b c d : Nat} {e : En} {g g0 : Gw} {f : Nat → Int32}
theorem e_grow (ok : EnOK e) (hE : Ev (ea a va) G T0 o rl va bb e) (hA : GrAt T0 a o g) (hB : GrAt T0 b o g) (hV : VaAt T0 va f) (ap : a + 5 ≤ b ∨ b + 5 ≤ a) (hva : ¬ bk a va) (hvb : ¬ bk b va) (hg : GK e g) : Rn T0 (c_X3_grow G (some a) (some b) T0) fun _ T' => frm (ea a va) T0 T' ∧ GrAt T' a o (ggrow e g) ∧ ∃ f', VaAt T' va f' := by
  have hn := ok.n30
  have nb : ∀ x, bk b x → ¬ ea a va x := fun x q1 q2 => q2.elim (fun q => by simp -implicitDefEqProofs only [bk] at q q1; omega) (fun q => hvb (q ▸ q1))
  unfold c_X3_grow
  refine loop_rule (σ := xF) (N := eN e) (fun i s => frm (ea a va) T0 s ∧ GrAt s a o (gD g, mixf i (nF e g) (gF g), mixf i (nK e g) (gK g), mixf i (nZ e g) (gZ g), gY g) ∧ ∃ f', VaAt s va f') (fun m i s => Rn s (c_X3_grow_2 G m (some a) (some b) (Int32.ofNat i) s) _) ?_ ?_ FU (by show eN e < 6000; omega) T0 ⟨frm.rf, by simp -implicitDefEqProofs only [mixf_0]; exact hA, f, hV⟩
  · rintro m i T1 hi ⟨hf, hA1, f1, hV1⟩ K
    have hi3 : i < 30 := by omega
    have hE1 := hE.mono hf
    have hB1 := hB.fr hf nb
    have hle : ¬ Int32.ofNat (eN e) ≤ Int32.ofNat i := fun q => by have := (ofn_le (eN e) (by omega) i (by omega)).mp q; omega
    show Rn T1 (c_X3_grow_2_b G (c_X3_grow_2 G m) (some a) (some b) (Int32.ofNat i) T1) _
    unfold c_X3_grow_2_b
    simp -implicitDefEqProofs only [hle, hA1.o0, hA1.o1, hA1.o2, hA1.o3, hA1.o4, hA1.o5, hA1.is, hB1.is, hA1.ldD hi3, hA1.ldF hi3, hA1.ldK hi3, hA1.ldZ hi3, hE1.val, hE1.rol, hE1.bef, hE1.isr, hE1.w, hE1.h, hE1.a, hE1.s, hE1.iso, hE1.cells ok, hE1.steps ok, Option.bind_some, not_true_eq_false, if_false, if_true, c_X3_grow_82, (ofn i (by omega)).2.2, gD_mk, gF_mk, gK_mk, gZ_mk, gY_mk, mixf_at, upd_at]
    by_cases hk : gK g i = -1
    · rw [if_pos hk]
      exact K T1 ⟨hf, hA1.of rfl (mixf_same (by unfold nF; rw [if_pos hk])) (mixf_same (by unfold nK; rw [if_pos hk])) (mixf_same (by unfold nZ; rw [if_pos hk])) rfl, f1, hV1⟩
    rw [if_neg hk]
    refine Rn.cl (e_grows ok (hE1.sub fun x q => Or.inr q) hB1 hV1 hvb hi3 hg) fun v T2 _ ⟨h1, h2, f2, hV2⟩ => ?_
    rw [if_neg hk] at h1
    have hA2 := hA1.fr h2 (fun x q1 q2 => hva (q2 ▸ q1))
    have hE2 := hE1.mono (h2.up fun x q => Or.inr q)
    simp -implicitDefEqProofs only [hA2.o0, hA2.o1, hA2.o2, hA2.o3, hA2.o4, hA2.o5, hA2.is, hA2.ldD hi3, hA2.ldF hi3, hA2.ldK hi3, hA2.ldZ hi3, Option.bind_some, not_true_eq_false, if_false, if_true, gD_mk, gF_mk, gK_mk, gZ_mk, gY_mk, mixf_at, upd_at, e_min]
    obtain ⟨T3, e3, f3, hA3⟩ := hA2.stZ hi3 (imin 99 (gZ g i + v)); refine Rn.st e3 f3.le ?_
    simp -implicitDefEqProofs only [hA3.o0, hA3.o1, hA3.o2, hA3.o3, hA3.o4, hA3.o5, hA3.is, hA3.ldD hi3, hA3.ldF hi3, hA3.ldK hi3, hA3.ldZ hi3, Option.bind_some, not_true_eq_false, if_false, if_true, gD_mk, gF_mk, gK_mk, gZ_mk, gY_mk, mixf_at, upd_at, e_max]
    obtain ⟨T4, e4, f4, hA4⟩ := hA3.stF hi3 (gF g i - imax 0 v); refine Rn.st e4 f4.le ?_
    have hV4 := (hV2.fr f3 (fun q => hva (by simp -implicitDefEqProofs only [bk]; omega))).fr f4 (fun q => hva (by simp -implicitDefEqProofs only [bk]; omega))
    simp -implicitDefEqProofs only [hA4.o0, hA4.o1, hA4.o2, hA4.o3, hA4.o4, hA4.o5, hA4.is, hA4.ldD hi3, hA4.ldF hi3, hA4.ldK hi3, hA4.ldZ hi3, Option.bind_some, not_true_eq_false, if_false, if_true, gD_mk, gF_mk, gK_mk, gZ_mk, gY_mk, mixf_at, upd_at]
    have F : frm (ea a va) T0 T4 := hf.tr (((h2.up ?_).tr (f3.up ?_)).tr (f4.up ?_))
    by_cases hz : 0 < imin 99 (gZ g i + v)
    · rw [if_pos hz]
      refine K T4 ⟨F, hA4.of rfl (mixf_upd ?_) (mixf_same ?_) (mixf_upd ?_) rfl, _, hV4⟩
      · unfold nF; rw [if_neg hk, h1]
      · unfold nK zz; rw [if_neg hk, ← h1, if_pos hz]
      · unfold nZ zz; rw [if_neg hk, ← h1, if_pos hz]
    · rw [if_neg hz]
      refine Rn.cl (e_clear hA4 hi3) fun _ T5 _ ⟨f5, hA5⟩ => ?_
      have hV5 := hV4.fr f5 hva
      refine K T5 ⟨F.tr (f5.up fun x q => Or.inl q), hA5.of rfl (mixf_upd ?_) (mixf_upd ?_) ?_ rfl, _, hV5⟩
      · unfold nF; rw [if_neg hk, h1]
      · unfold nK zz; rw [if_neg hk, ← h1, if_neg hz]
      · simp -implicitDefEqProofs only [gD_mk, gF_mk, gK_mk, gZ_mk, gY_mk]
        rw [upd_upd]
        refine mixf_upd ?_
        unfold nZ zz; rw [if_neg hk, ← h1, if_neg hz]
    all_goals (intro x q; simp -implicitDefEqProofs only [ea, bk]; omega)
  · rintro m T1 ⟨hf, hA1, f1, hV1⟩
    have hE1 := hE.mono hf
    show Rn T1 (c_X3_grow_2_b G (c_X3_grow_2 G m) (some a) (some b) (Int32.ofNat (eN e)) T1) _
    unfold c_X3_grow_2_b
    simp -implicitDefEqProofs only [hA1.o0, hA1.o1, hA1.o2, hA1.o3, hA1.o4, hA1.o5, hA1.is, hE1.val, hE1.rol, hE1.bef, hE1.isr, hE1.w, hE1.h, hE1.a, hE1.s, hE1.iso, hE1.cells ok, hE1.steps ok, Option.bind_some, not_true_eq_false, if_false, if_true, Int32.le_refl]
    exact Rn.ret ⟨hf, hA1, f1, hV1⟩
theorem gst_30 (ok : EnOK e) {k : Nat} (h : gst e g c = some k) : k < 30 := by
  have := gst_lt _ _ h
  have := ok.n30
  omega
theorem e_fight (ok : EnOK e) (hE : Ev (ea a va) G T0 o rl va bb e) (hA : GrAt T0 a o g) (hB : GrAt T0 b o g) (hV : VaAt T0 va f) (ap : a + 5 ≤ b ∨ b + 5 ≤ a) (hva : ¬ bk a va) (hvb : ¬ bk b va) : Rn T0 (c_X3_fight G (some a) (some b) T0) fun _ T' => frm (ea a va) T0 T' ∧ GrAt T' a o (gfight e g) ∧ ∃ f', VaAt T' va f' := by
  have hn := ok.n30
  have nb : ∀ x, bk b x → ¬ ea a va x := fun x q1 q2 => q2.elim (fun q => by simp -implicitDefEqProofs only [bk] at q q1; omega) (fun q => hvb (q ▸ q1))
  unfold c_X3_fight
  refine loop_rule (σ := xF) (N := eN e) (fun i s => frm (ea a va) T0 s ∧ GrAt s a o (gD g, gF g, mixf i (fK e g) (gK g), gZ g, gY g) ∧ ∃ f', VaAt s va f') (fun m i s => Rn s (c_X3_fight_2 G m (some a) (some b) (Int32.ofNat i) s) _) ?_ ?_ FU (by show eN e < 6000; omega) T0 ⟨frm.rf, by simp -implicitDefEqProofs only [mixf_0]; exact hA, f, hV⟩
  · rintro m i T1 hi ⟨hf, hA1, f1, hV1⟩ K
    have hi3 : i < 30 := by omega
    have hE1 := hE.mono hf
    have hB1 := hB.fr hf nb
    have hle : ¬ Int32.ofNat (eN e) ≤ Int32.ofNat i := fun q => by have := (ofn_le (eN e) (by omega) i (by omega)).mp q; omega
    show Rn T1 (c_X3_fight_2_b G (c_X3_fight_2 G m) (some a) (some b) (Int32.ofNat i) T1) _
    unfold c_X3_fight_2_b
    simp -implicitDefEqProofs only [hle, hA1.o0, hA1.o1, hA1.o2, hA1.o3, hA1.o4, hA1.o5, hA1.is, hB1.is, hA1.ldD hi3, hA1.ldF hi3, hA1.ldK hi3, hA1.ldZ hi3, hE1.val, hE1.rol, hE1.bef, hE1.isr, hE1.w, hE1.h, hE1.a, hE1.s, hE1.iso, hE1.cells ok, hE1.steps ok, Option.bind_some, not_true_eq_false, if_false, if_true, c_X3_fight_53, (ofn i (by omega)).2.2, gD_mk, gF_mk, gK_mk, gZ_mk, gY_mk, mixf_at, upd_at]
    by_cases hk : gK g i = -1
    · rw [if_pos hk]
      unfold c_X3_fight_35
      rw [if_pos rfl]
      simp -implicitDefEqProofs only [c_X3_fight_53, (ofn i (by omega)).2.2]
      exact K T1 ⟨hf, hA1.of rfl rfl (mixf_same (by unfold fK; rw [if_pos hk])) rfl rfl, f1, hV1⟩
    rw [if_neg hk]
    refine Rn.cl (e_greatest ok (hE1.sub fun x q => Or.inr q) hB1 hV1 hvb hi3) fun v T2 _ ⟨h1, h2, f2, hV2⟩ => ?_
    have hA2 := hA1.fr h2 (fun x q1 q2 => hva (q2 ▸ q1))
    have hB2 := hB1.fr h2 (fun x q1 q2 => hvb (q2 ▸ q1))
    have F2 := hf.tr (h2.up (F := ea a va) fun x q => Or.inr q)
    unfold c_X3_fight_35
    simp -implicitDefEqProofs only [c_X3_fight_53, (ofn i (by omega)).2.2]
    subst h1
    cases hb : gst e g i with
    | none =>
      rw [if_pos (show enc none = -1 from rfl)]
      exact K T2 ⟨F2, hA2.of rfl rfl (mixf_same (by unfold fK; rw [if_neg hk, hb])) rfl rfl, f2, hV2⟩
    | some k =>
      have hk3 := gst_30 ok hb
      rw [if_neg (enc_ne k hk3)]
      have l1 : ldA T2 (some (b + 3)) .int (enc (some k)) = some (gK g k) := hB2.ldK hk3
      simp -implicitDefEqProofs only [hA2.o0, hA2.o1, hA2.o2, hA2.o3, hA2.o4, hA2.o5, hA2.is, hB2.o2, l1, Option.bind_some, not_true_eq_false, if_false, if_true]
      obtain ⟨T3, e3, f3, hA3⟩ := hA2.stK hi3 (gK g k); refine Rn.st e3 f3.le ?_
      refine K T3 ⟨F2.tr (f3.up fun x q => Or.inl (by simp -implicitDefEqProofs only [bk]; omega)), hA3.of rfl rfl (mixf_upd (by unfold fK; rw [if_neg hk, hb])) rfl rfl, f2, hV2.fr f3 (fun q => hva (by simp -implicitDefEqProofs only [bk]; omega))⟩
  · rintro m T1 ⟨hf, hA1, f1, hV1⟩
    have hE1 := hE.mono hf
    show Rn T1 (c_X3_fight_2_b G (c_X3_fight_2 G m) (some a) (some b) (Int32.ofNat (eN e)) T1) _
    unfold c_X3_fight_2_b
    simp -implicitDefEqProofs only [hA1.o0, hA1.o1, hA1.o2, hA1.o3, hA1.o4, hA1.o5, hA1.is, hE1.val, hE1.rol, hE1.bef, hE1.isr, hE1.w, hE1.h, hE1.a, hE1.s, hE1.iso, hE1.cells ok, hE1.steps ok, Option.bind_some, not_true_eq_false, if_false, if_true, Int32.le_refl]
    exact Rn.ret ⟨hf, hA1, f1, hV1⟩
theorem e_xsow (ok : EnOK e) (hE : Ev (ea a va) G T0 o rl va bb e) (hA : GrAt T0 a o g) (hB : GrAt T0 b o g) (hV : VaAt T0 va f) (ap : a + 5 ≤ b ∨ b + 5 ≤ a) (hva : ¬ bk a va) (hvb : ¬ bk b va) : Rn T0 (c_X3_sow G (some a) (some b) T0) fun _ T' => frm (ea a va) T0 T' ∧ GrAt T' a o (gsow e g) ∧ ∃ f', VaAt T' va f' := by
  have hn := ok.n30
  have nb : ∀ x, bk b x → ¬ ea a va x := fun x q1 q2 => q2.elim (fun q => by simp -implicitDefEqProofs only [bk] at q q1; omega) (fun q => hvb (q ▸ q1))
  unfold c_X3_sow
  refine loop_rule (σ := xF) (N := eN e) (fun i s => frm (ea a va) T0 s ∧ GrAt s a o (gD g, gF g, mixf i (sK e g) (gK g), mixf i (sZ e g) (gZ g), gY g) ∧ ∃ f', VaAt s va f') (fun m i s => Rn s (c_X3_sow_2 G m (some a) (some b) (Int32.ofNat i) s) _) ?_ ?_ FU (by show eN e < 6000; omega) T0 ⟨frm.rf, by simp -implicitDefEqProofs only [mixf_0]; exact hA, f, hV⟩
  · rintro m i T1 hi ⟨hf, hA1, f1, hV1⟩ K
    have hi3 : i < 30 := by omega
    have hE1 := hE.mono hf
    have hB1 := hB.fr hf nb
    have hle : ¬ Int32.ofNat (eN e) ≤ Int32.ofNat i := fun q => by have := (ofn_le (eN e) (by omega) i (by omega)).mp q; omega
    show Rn T1 (c_X3_sow_2_b G (c_X3_sow_2 G m) (some a) (some b) (Int32.ofNat i) T1) _
    unfold c_X3_sow_2_b
    simp -implicitDefEqProofs only [hle, hA1.o0, hA1.o1, hA1.o2, hA1.o3, hA1.o4, hA1.o5, hA1.is, hB1.is, hB1.o2, hB1.ldK hi3, hA1.ldD hi3, hA1.ldF hi3, hA1.ldK hi3, hA1.ldZ hi3, hE1.val, hE1.rol, hE1.bef, hE1.isr, hE1.w, hE1.h, hE1.a, hE1.s, hE1.iso, hE1.cells ok, hE1.steps ok, Option.bind_some, not_true_eq_false, if_false, if_true, c_X3_sow_35, (ofn i (by omega)).2.2, gD_mk, gF_mk, gK_mk, gZ_mk, gY_mk, mixf_at, upd_at]
    have none1 : ∀ T2 f2, frm (ea a va) T0 T2 → GrAt T2 a o (gD g, gF g, mixf i (sK e g) (gK g), mixf i (sZ e g) (gZ g), gY g) → VaAt T2 va f2 → sBy e g i = none → Rn T2 (c_X3_sow_44 G (c_X3_sow_2 G m) (some a) (some b) (Int32.ofNat i) (-1) T2) fun _ T' => frm (ea a va) T0 T' ∧ GrAt T' a o (gsow e g) ∧ ∃ f', VaAt T' va f' := by
      intro T2 f2 h1 h2 h3 h4
      unfold c_X3_sow_44
      rw [if_pos rfl]
      simp -implicitDefEqProofs only [c_X3_sow_72, (ofn i (by omega)).2.2]
      exact K T2 ⟨h1, h2.of rfl rfl (mixf_same (by unfold sK; rw [h4])) (mixf_same (by unfold sZ; rw [h4])) rfl, f2, h3⟩
    by_cases hk : gK g i = -1
    · rw [if_pos hk]
      by_cases hF : gF g i = 0
      · rw [if_pos hF]
        exact none1 T1 f1 hf hA1 hV1 (by unfold sBy; rw [if_pos hk, if_pos hF])
      rw [if_neg hF]
      refine Rn.cl (e_greatest ok (hE1.sub fun x q => Or.inr q) hB1 hV1 hvb hi3) fun v T2 _ ⟨h1, h2, f2, hV2⟩ => ?_
      have hA2 := hA1.fr h2 (fun x q1 q2 => hva (q2 ▸ q1))
      have hB2 := hB1.fr h2 (fun x q1 q2 => hvb (q2 ▸ q1))
      have F2 := hf.tr (h2.up (F := ea a va) fun x q => Or.inr q)
      subst h1
      have hsb : sBy e g i = gst e g i := by unfold sBy; rw [if_pos hk, if_neg hF]
      cases hb : gst e g i with
      | none => exact none1 T2 f2 F2 hA2 hV2 (by rw [hsb, hb])
      | some k =>
        have hk3 := gst_30 ok hb
        unfold c_X3_sow_44
        rw [if_neg (enc_ne k hk3)]
        have l1 : ldA T2 (some (b + 3)) .int (enc (some k)) = some (gK g k) := hB2.ldK hk3
        simp -implicitDefEqProofs only [hA2.o0, hA2.o1, hA2.o2, hA2.o3, hA2.o4, hA2.o5, hA2.is, hB2.o2, l1, Option.bind_some, not_true_eq_false, if_false, if_true, c_X3_sow_72, (ofn i (by omega)).2.2]
        obtain ⟨T3, e3, f3, hA3⟩ := hA2.stK hi3 (gK g k); refine Rn.st e3 f3.le ?_
        simp -implicitDefEqProofs only [hA3.o0, hA3.o1, hA3.o2, hA3.o3, hA3.o4, hA3.o5, hA3.is, Option.bind_some, not_true_eq_false, if_false, if_true]
        obtain ⟨T4, e4, f4, hA4⟩ := hA3.stZ hi3 (1); refine Rn.st e4 f4.le ?_
        refine K T4 ⟨F2.tr ((f3.up fun x q => Or.inl (by simp -implicitDefEqProofs only [bk]; omega)).tr (f4.up fun x q => Or.inl (by simp -implicitDefEqProofs only [bk]; omega))), hA4.of rfl rfl (mixf_upd (by unfold sK; rw [hsb, hb])) (mixf_upd (by unfold sZ; rw [hsb, hb])) rfl, f2, (hV2.fr f3 (fun q => hva (by simp -implicitDefEqProofs only [bk]; omega))).fr f4 (fun q => hva (by simp -implicitDefEqProofs only [bk]; omega))⟩
    · rw [if_neg hk]
      exact none1 T1 f1 hf hA1 hV1 (by unfold sBy; rw [if_neg hk])
  · rintro m T1 ⟨hf, hA1, f1, hV1⟩
    have hE1 := hE.mono hf
    show Rn T1 (c_X3_sow_2_b G (c_X3_sow_2 G m) (some a) (some b) (Int32.ofNat (eN e)) T1) _
    unfold c_X3_sow_2_b
    simp -implicitDefEqProofs only [hA1.o0, hA1.o1, hA1.o2, hA1.o3, hA1.o4, hA1.o5, hA1.is, hE1.val, hE1.rol, hE1.bef, hE1.isr, hE1.w, hE1.h, hE1.a, hE1.s, hE1.iso, hE1.cells ok, hE1.steps ok, Option.bind_some, not_true_eq_false, if_false, if_true, Int32.le_refl]
    exact Rn.ret ⟨hf, hA1, f1, hV1⟩
end GS
