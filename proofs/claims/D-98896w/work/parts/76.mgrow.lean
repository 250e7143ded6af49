/-! plain law: how much a mould grows and which beats another, in the reference -/
set_option maxRecDepth 100000
theorem e_lesser (a b : Int32) : m_lesser a b = some (imin a b) := by
  unfold m_lesser imin
  by_cases h : b < a
  · rw [if_pos h, if_pos (Int32.le_of_lt h)]
  · rw [if_neg h]
    by_cases h2 : b ≤ a
    · rw [if_pos h2, Int32.le_antisymm h2 (i32_le.mp h)]
    · rw [if_neg h2]
theorem i20 (v : Int32) : imax (-20) (imin 20 v) = if (-20 : Int32) ≤ v then (if v ≤ 20 then v else 20) else -20 := by
  unfold imax imin
  by_cases h1 : v < 20
  · rw [if_pos h1, if_pos (Int32.le_of_lt h1)]
    by_cases h2 : (-20 : Int32) < v
    · rw [if_pos h2, if_pos (Int32.le_of_lt h2)]
    · rw [if_neg h2]
      by_cases h3 : (-20 : Int32) ≤ v
      · rw [if_pos h3, Int32.le_antisymm h3 (i32_le.mp h2)]
      · rw [if_neg h3]
  · rw [if_neg h1, if_pos (by decide)]
    have h2 := i32_le.mp h1
    rw [if_pos (Int32.le_trans (by decide) h2)]
    by_cases h3 : v ≤ 20
    · rw [if_pos h3, Int32.le_antisymm h3 h2]
    · rw [if_neg h3]
theorem e_kept (v : Int32) : m_kept v (-20) 20 = some (imax (-20) (imin 20 v)) := by
  rw [i20]
  unfold m_kept
  split
  · split <;> rfl
  · rfl
theorem wm_abs : ∀ k, k < 10 → (if (5 : Int32) ≤ Int32.ofNat k then Int32.ofNat k - 5 else 5 - Int32.ofNat k) = iabs (Int32.ofNat k - 5) := by decide +kernel
/-- told and pile -/
def et : Nat → Nat → Prop := fun j _ => j = 15 ∨ j = 16
section GS
variable {E : Nat → Nat → Prop} {S S0 : MS} {b c d : Nat} {e : En} {g g0 : Gw}
theorem Mv.beside (hM : Mv E S e) (ok : EnOK e) (hR : RwAt S b g) (hb : b ∈ ([0, 121] : List Nat)) (hc : c < 30) (fr : Int32) : m_besideOf (Int32.ofNat b) (Int32.ofNat c) fr S = some (bes e g c fr) := e_mbeside hR hb hM.w hM.h ok.w0 ok.mul ok.n30 hc ok.st
theorem r_grows37 (ok : EnOK e) (hM0 : Mv et S0 e) (hR0 : RwAt S0 b g) (hb : b ∈ ([0, 121] : List Nat)) (hc : c < 30) {d : Nat} (hdt : gT_ g = d) : Mn (m_growthOf_37 (Int32.ofNat b) (Int32.ofNat c) (eWm e d) (iabs (eWm e d - 5)) (gD g c) S0) fun r => r.1 = grw e g c ∧ mfr et S0 r.2 := by
  unfold m_growthOf_37
  have q := hM0.rg
  cases er : eRg e with
  | none =>
    rw [er] at q
    rw [if_pos q]
    unfold m_growthOf_166
    simp -implicitDefEqProofs only [hR0.ldY hb, hR0.ldD hb hc, hR0.ldF hb hc, hR0.ldK hb hc, hR0.ldZ hb hc, Option.bind_some, not_true_eq_false, if_false, if_true, e_lesser]
    refine Mn.ret ⟨?_, mfr.rf⟩
    unfold grw
    rw [er, hdt]
  | some r =>
  rw [er] at q
  rw [if_neg q.1]
  simp -implicitDefEqProofs only [hR0.ldY hb, hR0.ldD hb hc, hR0.ldF hb hc, hR0.ldK hb hc, hR0.ldZ hb hc, Option.bind_some, not_true_eq_false, if_false, if_true]
  obtain ⟨S1, e1, w1, t1⟩ : ∃ S', wrA S0 15 (0 : Int32) (gZ g c) = some S' ∧ mfr (fun j _ => j = 15) S0 S' ∧ S'.2.2 15 = upd (S0.2.2 15) 0 (gZ g c) := ⟨_, wrA_n (k := 0) (by decide) (by decide) (by decide), sA_fr.up (fun _ _ q => q.1), sA_at⟩
  have hR1 := hR0.fr w1 (fun _ _ _ q => by cases q)
  have hM1 := hM0.mono (w1.up (F := et) (fun _ _ q => Or.inl q))
  refine Mn.bd e1 ?_
  simp -implicitDefEqProofs only [hR1.ldY hb, hR1.ldD hb hc, hR1.ldF hb hc, hR1.ldK hb hc, hR1.ldZ hb hc, hM1.w, hM1.h, hM1.a, hM1.s, hM1.p, hM1.cells ok, hM1.fa ok, Option.bind_some, not_true_eq_false, if_false, if_true]
  obtain ⟨S2, e2, w2, t2⟩ : ∃ S', wrA S1 15 (1 : Int32) (gD g c) = some S' ∧ mfr (fun j _ => j = 15) S1 S' ∧ S'.2.2 15 = upd (S1.2.2 15) 1 (gD g c) := ⟨_, wrA_n (k := 1) (by decide) (by decide) (by decide), sA_fr.up (fun _ _ q => q.1), sA_at⟩
  have hR2 := hR1.fr w2 (fun _ _ _ q => by cases q)
  have hM2 := hM1.mono (w2.up (F := et) (fun _ _ q => Or.inl q))
  refine Mn.bd e2 ?_
  simp -implicitDefEqProofs only [hR2.ldY hb, hR2.ldD hb hc, hR2.ldF hb hc, hR2.ldK hb hc, hR2.ldZ hb hc, hM2.w, hM2.h, hM2.a, hM2.s, hM2.p, hM2.cells ok, hM2.fa ok, Option.bind_some, not_true_eq_false, if_false, if_true]
  obtain ⟨S3, e3, w3, t3⟩ : ∃ S', wrA S2 15 (2 : Int32) (gF g c) = some S' ∧ mfr (fun j _ => j = 15) S2 S' ∧ S'.2.2 15 = upd (S2.2.2 15) 2 (gF g c) := ⟨_, wrA_n (k := 2) (by decide) (by decide) (by decide), sA_fr.up (fun _ _ q => q.1), sA_at⟩
  have hR3 := hR2.fr w3 (fun _ _ _ q => by cases q)
  have hM3 := hM2.mono (w3.up (F := et) (fun _ _ q => Or.inl q))
  refine Mn.bd e3 ?_
  obtain ⟨S4, e4, w4, t4⟩ : ∃ S', wrA S3 15 (3 : Int32) (eWm e d) = some S' ∧ mfr (fun j _ => j = 15) S3 S' ∧ S'.2.2 15 = upd (S3.2.2 15) 3 (eWm e d) := ⟨_, wrA_n (k := 3) (by decide) (by decide) (by decide), sA_fr.up (fun _ _ q => q.1), sA_at⟩
  have hR4 := hR3.fr w4 (fun _ _ _ q => by cases q)
  have hM4 := hM3.mono (w4.up (F := et) (fun _ _ q => Or.inl q))
  refine Mn.bd e4 ?_
  simp -implicitDefEqProofs only [hR4.ldY hb, hR4.ldD hb hc, hR4.ldF hb hc, hR4.ldK hb hc, hR4.ldZ hb hc, hM4.w, hM4.h, hM4.a, hM4.s, hM4.p, hM4.cells ok, hM4.fa ok, Option.bind_some, not_true_eq_false, if_false, if_true, hM4.beside ok hR4 hb hc]
  obtain ⟨S5, e5, w5, t5⟩ : ∃ S', wrA S4 15 (4 : Int32) (bes e g c 1) = some S' ∧ mfr (fun j _ => j = 15) S4 S' ∧ S'.2.2 15 = upd (S4.2.2 15) 4 (bes e g c 1) := ⟨_, wrA_n (k := 4) (by decide) (by decide) (by decide), sA_fr.up (fun _ _ q => q.1), sA_at⟩
  have hR5 := hR4.fr w5 (fun _ _ _ q => by cases q)
  have hM5 := hM4.mono (w5.up (F := et) (fun _ _ q => Or.inl q))
  refine Mn.bd e5 ?_
  simp -implicitDefEqProofs only [hR5.ldY hb, hR5.ldD hb hc, hR5.ldF hb hc, hR5.ldK hb hc, hR5.ldZ hb hc, hM5.w, hM5.h, hM5.a, hM5.s, hM5.p, hM5.cells ok, hM5.fa ok, Option.bind_some, not_true_eq_false, if_false, if_true, hM5.beside ok hR5 hb hc]
  obtain ⟨S6, e6, w6, t6⟩ : ∃ S', wrA S5 15 (5 : Int32) (bes e g c 0) = some S' ∧ mfr (fun j _ => j = 15) S5 S' ∧ S'.2.2 15 = upd (S5.2.2 15) 5 (bes e g c 0) := ⟨_, wrA_n (k := 5) (by decide) (by decide) (by decide), sA_fr.up (fun _ _ q => q.1), sA_at⟩
  have hR6 := hR5.fr w6 (fun _ _ _ q => by cases q)
  have hM6 := hM5.mono (w6.up (F := et) (fun _ _ q => Or.inl q))
  refine Mn.bd e6 ?_
  simp -implicitDefEqProofs only [hR6.ldY hb, hR6.ldD hb hc, hR6.ldF hb hc, hR6.ldK hb hc, hR6.ldZ hb hc, hM6.w, hM6.h, hM6.a, hM6.s, hM6.p, hM6.cells ok, hM6.fa ok, Option.bind_some, not_true_eq_false, if_false, if_true]
  obtain ⟨S7, e7, w7, t7⟩ : ∃ S', wrA S6 15 (6 : Int32) (gK g c) = some S' ∧ mfr (fun j _ => j = 15) S6 S' ∧ S'.2.2 15 = upd (S6.2.2 15) 6 (gK g c) := ⟨_, wrA_n (k := 6) (by decide) (by decide) (by decide), sA_fr.up (fun _ _ q => q.1), sA_at⟩
  have hR7 := hR6.fr w7 (fun _ _ _ q => by cases q)
  have hM7 := hM6.mono (w7.up (F := et) (fun _ _ q => Or.inl q))
  refine Mn.bd e7 ?_
  have q7 := hM7.rg
  rw [er] at q7
  obtain ⟨q71, S8, q72, q73⟩ := q7
  simp -implicitDefEqProofs only [q72, Option.bind_some, not_true_eq_false, if_false, if_true, e_kept]
  unfold m_growthOf_166
  have hR8 := hR7.fr q73 (fun _ _ _ q => by cases q)
  simp -implicitDefEqProofs only [hR8.ldY hb, hR8.ldD hb hc, hR8.ldF hb hc, hR8.ldK hb hc, hR8.ldZ hb hc, Option.bind_some, not_true_eq_false, if_false, if_true, e_lesser]
  refine Mn.ret ⟨?_, (((((((w1.tr w2).tr w3).tr w4).tr w5).tr w6).tr w7).up (fun _ _ q => Or.inl q)).tr (q73.up fun _ _ q => Or.inr q)⟩
  unfold grw
  rw [er]
  show imin (imax (-20) (imin 20 (r _))) _ = imin (imax (-20) (imin 20 (r _))) _
  rw [ok.2.2.2.2.1 r er _ (gvals e g c) (fun k hk => ?_)]
  rw [t7, t6, t5, t4, t3, t2, t1]
  have : k = 0 ∨ k = 1 ∨ k = 2 ∨ k = 3 ∨ k = 4 ∨ k = 5 ∨ k = 6 := by omega
  rcases this with rfl | rfl | rfl | rfl | rfl | rfl | rfl <;> simp [upd, gvals, hdt]
theorem r_grows (ok : EnOK e) (hM0 : Mv et S0 e) (hR0 : RwAt S0 b g) (hb : b ∈ ([0, 121] : List Nat)) (hc : c < 30) (hg : GK e g) : Mn (m_growthOf (Int32.ofNat b) (Int32.ofNat c) S0) fun r => r.1 = grw e g c ∧ mfr et S0 r.2 := by
  obtain ⟨⟨d, hd, hy⟩, -⟩ := hg
  have hdt : gT_ g = d := by
    show (gY g).toNatClampNeg = d
    rw [hy]
    exact ofn2 d hd
  obtain ⟨k, hk1, hk2⟩ := ok.2.2.2.2.2.2 d
  have main := r_grows37 ok hM0 hR0 hb hc hdt
  unfold m_growthOf
  simp -implicitDefEqProofs only [hR0.ldY hb, hR0.ldD hb hc, hR0.ldF hb hc, hR0.ldK hb hc, hR0.ldZ hb hc, Option.bind_some, not_true_eq_false, if_false, if_true, hy, hM0.wm d hd]
  have habs : (if (5 : Int32) ≤ eWm e d then eWm e d - 5 else 5 - eWm e d) = iabs (eWm e d - 5) := by rw [hk2]; exact wm_abs k hk1
  rw [← habs] at main
  split
  · rename_i h5
    rw [if_pos h5] at main
    exact main
  · rename_i h5
    rw [if_neg h5] at main
    exact main
theorem r_beats (ok : EnOK e) (hM0 : Mv et S0 e) (hR0 : RwAt S0 b g) (hb : b ∈ ([0, 121] : List Nat)) (hc : c < 30) (hd : d < 30) (hk1 : ¬ gK g c = -1) (hk2 : ¬ gK g c = gK g d) : Mn (m_doesBeat (Int32.ofNat b) (Int32.ofNat c) (Int32.ofNat d) S0) fun r => r.1 = bts e g c d ∧ mfr et S0 r.2 := by
  unfold m_doesBeat bts
  rw [if_neg hk1, if_neg hk2]
  have q := hM0.rb
  cases er : eRb e with
  | none =>
    rw [er] at q
    rw [if_pos q]
    simp -implicitDefEqProofs only [hR0.ldY hb, hR0.ldD hb hc, hR0.ldF hb hc, hR0.ldK hb hc, hR0.ldZ hb hc, hR0.ldZ hb hd, Option.bind_some, not_true_eq_false, if_false, if_true]
    split
    · exact Mn.ret ⟨rfl, mfr.rf⟩
    · exact Mn.ret ⟨rfl, mfr.rf⟩
  | some r =>
    rw [er] at q
    rw [if_neg q.1]
    simp -implicitDefEqProofs only [hR0.ldY hb, hR0.ldD hb hc, hR0.ldF hb hc, hR0.ldK hb hc, hR0.ldZ hb hc, Option.bind_some, not_true_eq_false, if_false, if_true]
    obtain ⟨S1, e1, w1, t1⟩ : ∃ S', wrA S0 15 (0 : Int32) (gZ g c) = some S' ∧ mfr (fun j _ => j = 15) S0 S' ∧ S'.2.2 15 = upd (S0.2.2 15) 0 (gZ g c) := ⟨_, wrA_n (k := 0) (by decide) (by decide) (by decide), sA_fr.up (fun _ _ q => q.1), sA_at⟩
    have hR1 := hR0.fr w1 (fun _ _ _ q => by cases q)
    have hM1 := hM0.mono (w1.up (F := et) (fun _ _ q => Or.inl q))
    refine Mn.bd e1 ?_
    simp -implicitDefEqProofs only [hR1.ldY hb, hR1.ldD hb hc, hR1.ldF hb hc, hR1.ldK hb hc, hR1.ldZ hb hc, hM1.w, hM1.h, hM1.a, hM1.s, hM1.p, hM1.cells ok, hM1.fa ok, Option.bind_some, not_true_eq_false, if_false, if_true, hR1.ldZ hb hd]
    obtain ⟨S2, e2, w2, t2⟩ : ∃ S', wrA S1 15 (7 : Int32) (gZ g d) = some S' ∧ mfr (fun j _ => j = 15) S1 S' ∧ S'.2.2 15 = upd (S1.2.2 15) 7 (gZ g d) := ⟨_, wrA_n (k := 7) (by decide) (by decide) (by decide), sA_fr.up (fun _ _ q => q.1), sA_at⟩
    have hR2 := hR1.fr w2 (fun _ _ _ q => by cases q)
    have hM2 := hM1.mono (w2.up (F := et) (fun _ _ q => Or.inl q))
    refine Mn.bd e2 ?_
    simp -implicitDefEqProofs only [hR2.ldY hb, hR2.ldD hb hc, hR2.ldF hb hc, hR2.ldK hb hc, hR2.ldZ hb hc, hM2.w, hM2.h, hM2.a, hM2.s, hM2.p, hM2.cells ok, hM2.fa ok, Option.bind_some, not_true_eq_false, if_false, if_true, hM2.beside ok hR2 hb hc]
    obtain ⟨S3, e3, w3, t3⟩ : ∃ S', wrA S2 15 (4 : Int32) (bes e g c 1) = some S' ∧ mfr (fun j _ => j = 15) S2 S' ∧ S'.2.2 15 = upd (S2.2.2 15) 4 (bes e g c 1) := ⟨_, wrA_n (k := 4) (by decide) (by decide) (by decide), sA_fr.up (fun _ _ q => q.1), sA_at⟩
    have hR3 := hR2.fr w3 (fun _ _ _ q => by cases q)
    have hM3 := hM2.mono (w3.up (F := et) (fun _ _ q => Or.inl q))
    refine Mn.bd e3 ?_
    simp -implicitDefEqProofs only [hR3.ldY hb, hR3.ldD hb hc, hR3.ldF hb hc, hR3.ldK hb hc, hR3.ldZ hb hc, hM3.w, hM3.h, hM3.a, hM3.s, hM3.p, hM3.cells ok, hM3.fa ok, Option.bind_some, not_true_eq_false, if_false, if_true, hM3.beside ok hR3 hb hc]
    obtain ⟨S4, e4, w4, t4⟩ : ∃ S', wrA S3 15 (5 : Int32) (bes e g c 0) = some S' ∧ mfr (fun j _ => j = 15) S3 S' ∧ S'.2.2 15 = upd (S3.2.2 15) 5 (bes e g c 0) := ⟨_, wrA_n (k := 5) (by decide) (by decide) (by decide), sA_fr.up (fun _ _ q => q.1), sA_at⟩
    have hR4 := hR3.fr w4 (fun _ _ _ q => by cases q)
    have hM4 := hM3.mono (w4.up (F := et) (fun _ _ q => Or.inl q))
    refine Mn.bd e4 ?_
    simp -implicitDefEqProofs only [hR4.ldY hb, hR4.ldD hb hc, hR4.ldF hb hc, hR4.ldK hb hc, hR4.ldZ hb hc, hM4.w, hM4.h, hM4.a, hM4.s, hM4.p, hM4.cells ok, hM4.fa ok, Option.bind_some, not_true_eq_false, if_false, if_true, hR4.ldD hb hd]
    obtain ⟨S5, e5, w5, t5⟩ : ∃ S', wrA S4 15 (1 : Int32) (gD g d) = some S' ∧ mfr (fun j _ => j = 15) S4 S' ∧ S'.2.2 15 = upd (S4.2.2 15) 1 (gD g d) := ⟨_, wrA_n (k := 1) (by decide) (by decide) (by decide), sA_fr.up (fun _ _ q => q.1), sA_at⟩
    have hR5 := hR4.fr w5 (fun _ _ _ q => by cases q)
    have hM5 := hM4.mono (w5.up (F := et) (fun _ _ q => Or.inl q))
    refine Mn.bd e5 ?_
    have q7 := hM5.rb
    rw [er] at q7
    obtain ⟨q71, S8, q72, q73⟩ := q7
    have hr : r (fun k => S5.2.2 15 (bmap k)) = r (bvals e g c d) := by
      refine ok.2.2.2.2.2.1 r er _ _ (fun k hk => ?_)
      rw [t5, t4, t3, t2, t1]
      have : k = 0 ∨ k = 1 ∨ k = 2 ∨ k = 3 ∨ k = 4 := by omega
      rcases this with rfl | rfl | rfl | rfl | rfl <;> simp [upd, bvals, bmap]
    have F := ((((((w1.tr w2).tr w3).tr w4).tr w5).up (F := et) (fun _ _ q => Or.inl q)).tr (q73.up fun _ _ q => Or.inr q))
    simp -implicitDefEqProofs only [q72, Option.bind_some, not_true_eq_false, if_false, if_true, hr]
    split
    · exact Mn.ret ⟨rfl, F⟩
    · exact Mn.ret ⟨rfl, F⟩
end GS
