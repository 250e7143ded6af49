/-! plain law: which mould takes a cell, in the reference -/
set_option maxRecDepth 100000
theorem gst_k {e : En} {g : Gw} {c : Nat} : ∀ i b, itr (gstF e g c) i none = some b → gK g b ≠ -1 := by
  intro i
  induction i with
  | zero => intro b h; cases h
  | succ i ih =>
    intro b h
    have h2 : gstF e g c i (itr (gstF e g c) i none) = some b := h
    by_cases hk : gK g i = -1
    · unfold gstF at h2
      rw [if_pos hk] at h2
      exact ih b h2
    · rcases gstF_or (e := e) (g := g) (c := c) (i := i) (itr (gstF e g c) i none) with k | k
      · rw [k] at h2
        exact ih b h2
      · rw [k] at h2
        cases h2
        exact hk
/-- no mould has no size -/
def zOK (g : Gw) : Prop := ∀ c, c < 30 → gK g c = -1 → gZ g c = 0
/-- food isn't below none -/
def fOK (g : Gw) : Prop := ∀ c, c < 30 → 0 ≤ gF g c
section GS
variable {E : Nat → Nat → Prop} {S S0 : MS} {b c d : Nat} {e : En} {g g0 : Gw}
theorem mv_row (hb : b ∈ ([0, 121] : List Nat)) {S' : MS} (hR : RwAt S b g) (w : mfr et S S') : RwAt S' b g := hR.fr w (fun _ _ _ q => q.elim (fun q => by cases q) (fun q => by cases q))
theorem r_beaten (ok : EnOK e) (hM : Mv et S0 e) (hR : RwAt S0 b g) (hb : b ∈ ([0, 121] : List Nat)) (hc : c < 30) (hkc : ¬ gK g c = -1) : Mn (m_beatenBy (Int32.ofNat b) (Int32.ofNat c) S0) fun r => r.1 = fK e g c ∧ mfr et S0 r.2 := by
  unfold m_beatenBy
  have hn := ok.n30
  refine loop_rule (σ := Option Nat × MS) (N := eN e) (fun i s => s.1 = itr (gstF e g c) i none ∧ mfr et S0 s.2) (fun m i s => Mn (m_beatenBy_5 m (Int32.ofNat b) (Int32.ofNat c) (enc s.1) (Int32.ofNat i) s.2) _) ?_ ?_ FU (by show eN e < 6000; omega) (none, S0) ⟨rfl, mfr.rf⟩
  · rintro m i ⟨x, S1⟩ hi ⟨hx, hf⟩ K
    dsimp only at hx hf ⊢
    have hi3 : i < 30 := by omega
    have hR1 := mv_row hb hR hf
    have hM1 := hM.mono hf
    have hle : ¬ Int32.ofNat (eN e) ≤ Int32.ofNat i := fun q => by have := (ofn_le (eN e) (by omega) i (by omega)).mp q; omega
    show Mn (m_beatenBy_5_b (m_beatenBy_5 m) (Int32.ofNat b) (Int32.ofNat c) (enc x) (Int32.ofNat i) S1) _
    unfold m_beatenBy_5_b
    have fin : ∀ S2 x2, mfr et S0 S2 → x2 = gstF e g c i x → Mn (m_beatenBy_5 m (Int32.ofNat b) (Int32.ofNat c) (enc x2) (Int32.ofNat (i + 1)) S2) fun r => r.1 = fK e g c ∧ mfr et S0 r.2 := fun S2 x2 h1 h3 => K (x2, S2) ⟨by rw [h3, hx]; rfl, h1⟩
    have st := ok.st i hi3 c hc
    simp -implicitDefEqProofs only [hR1.ldY hb, hR1.ldD hb hc, hR1.ldF hb hc, hR1.ldK hb hc, hR1.ldZ hb hc, hR1.ldY hb, hR1.ldD hb hi3, hR1.ldF hb hi3, hR1.ldK hb hi3, hR1.ldZ hb hi3, hM1.w, hM1.h, hM1.a, hM1.s, hM1.p, hM1.cells ok, hM1.fa ok, Option.bind_some, not_true_eq_false, if_false, if_true, hle, ← st, m_beatenBy_115, (ofn i (by omega)).2.2]
    by_cases hs : stp (eW e) (Int32.ofNat i) (Int32.ofNat c) = 1
    · rw [if_pos hs]
      by_cases hk : gK g i = -1
      · rw [if_pos hk]
        exact fin S1 x hf (by unfold gstF; rw [if_pos hk])
      rw [if_neg hk]
      have hgd : gdoes e g c i = bts e g i c := by unfold gdoes; rw [if_neg hkc]
      by_cases hk2 : gK g i = gK g c
      · rw [if_pos hk2]
        refine fin S1 x hf ?_
        unfold gstF
        rw [if_neg hk, if_pos hs, hgd]
        unfold bts
        rw [if_neg hk, if_pos hk2, if_pos rfl]
      rw [if_neg hk2]
      have h101 : (∀ y, gstF e g c i x = (if bts e g i c = 0 then x else some i) ∨ y = 0) → Mn (m_beatenBy_101 (m_beatenBy_5 m) (Int32.ofNat b) (Int32.ofNat c) (enc x) (Int32.ofNat i) S1) fun r => r.1 = fK e g c ∧ mfr et S0 r.2 := by
        intro hy
        have hy := (hy 1).resolve_right (by decide)
        unfold m_beatenBy_101
        refine Mn.bw (r_beats ok hM1 hR1 hb hi3 hc hk hk2) fun r ⟨h1, h2⟩ => ?_
        simp -implicitDefEqProofs only [m_beatenBy_115, (ofn i (by omega)).2.2, h1]
        by_cases h0 : bts e g i c = 0
        · rw [if_pos h0]
          exact fin r.2 x (hf.tr h2) (by rw [hy, if_pos h0])
        · rw [if_neg h0]
          exact fin r.2 (some i) (hf.tr h2) (by rw [hy, if_neg h0])
      cases x with
      | none =>
        rw [if_pos (show enc none = -1 from rfl)]
        exact h101 fun y => Or.inl (by unfold gstF; rw [if_neg hk, if_pos hs, hgd])
      | some b1 =>
        have hb1 : b1 < 30 := by have := gst_lt i b1 hx.symm; omega
        rw [if_neg (enc_ne b1 hb1)]
        have l1 : rdA S1 13 ((Int32.ofNat b + (91 : Int32)) + enc (some b1)) = some (gZ g b1) := hR1.ldZ hb hb1
        simp -implicitDefEqProofs only [l1, Option.bind_some, not_true_eq_false, if_false, if_true]
        by_cases hz : gZ g i ≤ gZ g b1
        · rw [if_pos hz]
          refine fin S1 (some b1) hf ?_
          unfold gstF
          rw [if_neg hk, if_pos hs]
          dsimp only
          rw [if_pos hz, ite_self]
        · rw [if_neg hz]
          exact h101 fun y => Or.inl (by unfold gstF; rw [if_neg hk, if_pos hs, hgd]; dsimp only; rw [if_neg hz])
    · rw [if_neg hs]
      exact fin S1 x hf (by unfold gstF; rw [if_neg hs, ite_self])
  · rintro m ⟨x, S1⟩ ⟨hx, hf⟩
    dsimp only at hx hf ⊢
    have hR1 := mv_row hb hR hf
    have hM1 := hM.mono hf
    show Mn (m_beatenBy_5_b (m_beatenBy_5 m) (Int32.ofNat b) (Int32.ofNat c) (enc x) (Int32.ofNat (eN e)) S1) _
    unfold m_beatenBy_5_b
    simp -implicitDefEqProofs only [hR1.ldY hb, hR1.ldD hb hc, hR1.ldF hb hc, hR1.ldK hb hc, hR1.ldZ hb hc, hM1.w, hM1.h, hM1.a, hM1.s, hM1.p, hM1.cells ok, hM1.fa ok, Option.bind_some, not_true_eq_false, if_false, if_true, Int32.le_refl]
    have hx2 : gst e g c = x := hx.symm
    cases x with
    | none =>
      rw [if_pos (show enc none = -1 from rfl)]
      exact Mn.ret ⟨by unfold fK; rw [if_neg hkc, hx2], hf⟩
    | some b1 =>
      have hb1 : b1 < 30 := gst_30 ok hx2
      rw [if_neg (enc_ne b1 hb1)]
      have l1 : rdA S1 13 ((Int32.ofNat b + (61 : Int32)) + enc (some b1)) = some (gK g b1) := hR1.ldK hb hb1
      simp -implicitDefEqProofs only [l1, Option.bind_some, not_true_eq_false, if_false, if_true]
      exact Mn.ret ⟨by unfold fK; rw [if_neg hkc, hx2], hf⟩
theorem r_sown (ok : EnOK e) (hM1 : Mv E S0 e) (hR1 : RwAt S0 b g) (hb : b ∈ ([0, 121] : List Nat)) (hc : c < 30) (hkc : gK g c = -1) (hz : zOK g) : m_sownBy (Int32.ofNat b) (Int32.ofNat c) S0 = some (match gst e g c with
    | none => -1
    | some k => gK g k) := by
  unfold m_sownBy
  have hn := ok.n30
  refine loop_rule (σ := Option Nat) (N := eN e) (fun i s => s = itr (gstF e g c) i none) (fun m i s => m_sownBy_5 m (Int32.ofNat b) (Int32.ofNat c) (enc s) (Int32.ofNat i) S0 = _) ?_ ?_ FU (by show eN e < 6000; omega) none rfl
  · rintro m i x hi hx K
    have hi3 : i < 30 := by omega
    have hle : ¬ Int32.ofNat (eN e) ≤ Int32.ofNat i := fun q => by have := (ofn_le (eN e) (by omega) i (by omega)).mp q; omega
    show m_sownBy_5_b (m_sownBy_5 m) (Int32.ofNat b) (Int32.ofNat c) (enc x) (Int32.ofNat i) S0 = _
    unfold m_sownBy_5_b
    have K2 := K (gstF e g c i x) (by rw [hx]; rfl)
    rw [← K2]
    have st := ok.st i hi3 c hc
    simp -implicitDefEqProofs only [hR1.ldY hb, hR1.ldD hb hc, hR1.ldF hb hc, hR1.ldK hb hc, hR1.ldZ hb hc, hR1.ldY hb, hR1.ldD hb hi3, hR1.ldF hb hi3, hR1.ldK hb hi3, hR1.ldZ hb hi3, hM1.w, hM1.h, hM1.a, hM1.s, hM1.p, hM1.cells ok, hM1.fa ok, Option.bind_some, not_true_eq_false, if_false, if_true, hle, ← st, m_sownBy_81, m_sownBy_78, (ofn i (by omega)).2.2]
    have hgd : gdoes e g c i = if gZ g i < eS e then 0 else 1 := by unfold gdoes; rw [if_pos hkc]
    by_cases hs : stp (eW e) (Int32.ofNat i) (Int32.ofNat c) = 1
    · rw [if_pos hs]
      by_cases hsp : eS e ≤ gZ g i
      · rw [if_pos hsp]
        have hk : ¬ gK g i = -1 := fun q => by
          have := hz i hi3 q
          rw [this] at hsp
          exact absurd ok.2.2.1 (i32_le.mpr hsp)
        have hd1 : gdoes e g c i = 1 := by rw [hgd, if_neg (i32_le.mpr hsp)]
        cases x with
        | none =>
          rw [if_pos (show enc none = -1 from rfl)]
          unfold gstF
          rw [if_neg hk, if_pos hs, hd1, if_neg (show ¬ (1 : Int32) = 0 by decide)]
          rfl
        | some b1 =>
          have hb1 : b1 < 30 := by have := gst_lt i b1 hx.symm; omega
          rw [if_neg (enc_ne b1 hb1)]
          have l1 : rdA S0 13 ((Int32.ofNat b + (91 : Int32)) + enc (some b1)) = some (gZ g b1) := hR1.ldZ hb hb1
          simp -implicitDefEqProofs only [l1, Option.bind_some, not_true_eq_false, if_false, if_true]
          unfold gstF
          rw [if_neg hk, if_pos hs, hd1, if_neg (show ¬ (1 : Int32) = 0 by decide)]
          dsimp only
          by_cases hz2 : gZ g i ≤ gZ g b1
          · rw [if_pos hz2, if_pos hz2]
          · rw [if_neg hz2, if_neg hz2]; rfl
      · rw [if_neg hsp]
        have hd0 : gdoes e g c i = 0 := by rw [hgd, if_pos (Int32.not_le.mp hsp)]
        unfold gstF
        rw [if_pos hs, hd0, if_pos rfl, ite_self]
    · rw [if_neg hs]
      unfold gstF
      rw [if_neg hs, ite_self]
  · rintro m x hx
    show m_sownBy_5_b (m_sownBy_5 m) (Int32.ofNat b) (Int32.ofNat c) (enc x) (Int32.ofNat (eN e)) S0 = _
    unfold m_sownBy_5_b
    simp -implicitDefEqProofs only [hM1.w, hM1.h, hM1.a, hM1.s, hM1.p, hM1.cells ok, hM1.fa ok, Option.bind_some, not_true_eq_false, if_false, if_true, Int32.le_refl]
    have hx2 : gst e g c = x := hx.symm
    rw [hx2]
    cases x with
    | none => rw [if_pos (show enc none = -1 from rfl)]
    | some b1 =>
      have hb1 : b1 < 30 := gst_30 ok hx2
      rw [if_neg (enc_ne b1 hb1)]
      have l1 : rdA S0 13 ((Int32.ofNat b + (61 : Int32)) + enc (some b1)) = some (gK g b1) := hR1.ldK hb hb1
      simp -implicitDefEqProofs only [l1, Option.bind_some, not_true_eq_false, if_false, if_true]
end GS
