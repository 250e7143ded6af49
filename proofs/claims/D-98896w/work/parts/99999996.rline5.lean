/-! plain law: the reference reads rules, cells, moulds, anything else -/
set_option maxRecDepth 100000
theorem fw_no : ∀ (ms : List Nat) i x, (∀ m ∈ ms, x ≠ m) → fw ms i x = i + ms.length := by
  intro ms
  induction ms with
  | nil => intro i x _; rfl
  | cons m ms ih =>
    intro i x h
    show (if x = m then i else fw ms (i + 1) x) = i + (ms.length + 1)
    rw [if_neg (h m (List.mem_cons_self ..)), ih (i + 1) x fun m' q => h m' (List.mem_cons_of_mem _ q)]
    omega
/-! the kinds of fault -/
def Kd (r : PR) : Prop := ∀ k b, r = .inl (k, b) → 0 < k ∧ k < 10
theorem pCh_k {t : Tpe} {op : Nat → Option Nat} {sub : Nat → PR} (hop : OpF t op) (hfw : Fwd t sub) (hs : ∀ p, p ≤ t.2 → Kd (sub p)) (h7 : t.2 ≤ 700) : ∀ p, p ≤ t.2 → Kd (pCh t op sub p) := by
  have lp : ∀ d e p, p ≤ t.2 → t.2 < p + d → Kd (pLoop t op sub d e p) := by
    intro d
    induction d with
    | zero => intro e p h1 h2; omega
    | succ d ih =>
      intro e p h1 h2 k b h
      unfold pLoop at h
      cases h3 : op p with
      | none => rw [h3] at h; cases h
      | some o =>
        rw [h3] at h
        have f := tE_fw h1 (hop p o h3)
        cases h4 : sub (tE t p) with
        | inl z =>
          simp -implicitDefEqProofs only [h4] at h
          have := hs _ f.2 z.1 z.2 h4
          have e1 : z = (k, b) := Sum.inl.inj h
          rw [e1] at this
          exact this
        | inr z =>
          obtain ⟨e3, q3⟩ := z
          simp -implicitDefEqProofs only [h4] at h
          have f2 := hfw _ _ _ f.2 h4
          exact ih _ _ f2.2 (by omega) k b h
  intro p hp k b h
  unfold pCh at h
  cases h2 : sub p with
  | inl z =>
    simp -implicitDefEqProofs only [h2] at h
    have := hs _ hp z.1 z.2 h2
    have e1 : z = (k, b) := Sum.inl.inj h
    rw [e1] at this
    exact this
  | inr z =>
    obtain ⟨e3, q3⟩ := z
    simp -implicitDefEqProofs only [h2] at h
    have f2 := hfw _ _ _ hp h2
    exact lp _ _ _ f2.2 (by omega) k b h
theorem pE_k0 {t : Tpe} {ms : List Nat} (h7 : t.2 ≤ 700) : ∀ r p, p ≤ t.2 → Kd (pE t ms r p) := by
  have one : ∀ {a b c : Nat}, 0 < a → a < 10 → ∀ k d, (Sum.inl (a, b) : PR) = .inl (k, d) → 0 < k ∧ k < 10 := fun h1 h2 k d q => by
    have q1 := congrArg Prod.fst (Sum.inl.inj q)
    dsimp only at q1
    omega
  intro r
  induction r with
  | zero =>
    intro p hp k b h
    unfold pE at h
    split at h
    · exact one (c := 0) (by decide) (by decide) k b h
    · exact one (c := 0) (by decide) (by decide) k b h
  | succ r ih =>
    have fw := pE_fw (t := t) (ms := ms) r
    have hpart : ∀ p, p ≤ t.2 → Kd (pPart t ms (pE t ms r) p) := by
      intro p hp k b h
      unfold pPart at h
      split at h
      · split at h
        · cases h
        · exact one (c := 0) (by decide) (by decide) k b h
      · split at h
        · rename_i c4
          have f := tE_fw hp (sgn_0 c4)
          cases hq : pE t ms r (tE t p) with
          | inl z =>
            rw [hq] at h
            have := ih _ f.2 z.1 z.2 hq
            have e1 : z = (k, b) := Sum.inl.inj h
            rw [e1] at this
            exact this
          | inr z =>
            obtain ⟨e2, q2⟩ := z
            rw [hq] at h
            have h : (if sgi t q2 41 then (.inr (e2, tE t q2) : PR) else .inl (1, tB t q2)) = .inl (k, b) := h
            split at h
            · cases h
            · exact one (c := 0) (by decide) (by decide) k b h
        · split at h
          · split at h
            · cases h
            · exact one (c := 0) (by decide) (by decide) k b h
          · exact one (c := 0) (by decide) (by decide) k b h
    have hprod := pCh_k opM_f (pPart_fw fw) hpart h7
    have hsum := pCh_k (t := t) opS_f (pProd_fw (ms := ms) fw) hprod h7
    have hcmp : ∀ p, p ≤ t.2 → Kd (pCmp t ms (pE t ms r) p) := by
      intro p hp k b h
      unfold pCmp at h
      cases h2 : pSum t ms (pE t ms r) p with
      | inl z =>
        simp -implicitDefEqProofs only [h2] at h
        have := hsum _ hp z.1 z.2 h2
        have e1 : z = (k, b) := Sum.inl.inj h
        rw [e1] at this
        exact this
      | inr z =>
        obtain ⟨e3, q3⟩ := z
        simp -implicitDefEqProofs only [h2] at h
        have f2 := pSum_fw fw _ _ _ hp h2
        cases h3 : opC t q3 with
        | none => simp -implicitDefEqProofs only [h3] at h; cases h
        | some o =>
          simp -implicitDefEqProofs only [h3] at h
          have f := tE_fw f2.2 (opC_f _ _ h3)
          cases h5 : pSum t ms (pE t ms r) (tE t q3) with
          | inl z =>
            simp -implicitDefEqProofs only [h5] at h
            have := hsum _ f.2 z.1 z.2 h5
            have e1 : z = (k, b) := Sum.inl.inj h
            rw [e1] at this
            exact this
          | inr z =>
            simp -implicitDefEqProofs only [h5] at h
            cases h
    have hnot : ∀ j p, p ≤ t.2 → Kd (pNot t ms (pE t ms r) j p) := by
      intro j
      induction j with
      | zero =>
        intro p hp k b h
        unfold pNot at h
        split at h
        · exact one (c := 0) (by decide) (by decide) k b h
        · exact hcmp p hp k b h
      | succ j ihj =>
        intro p hp k b h
        unfold pNot at h
        split at h
        · rename_i c
          have f := tE_fw hp (kw_0 (by decide) c)
          cases h2 : pNot t ms (pE t ms r) j (tE t p) with
          | inl z =>
            simp -implicitDefEqProofs only [h2] at h
            have := ihj _ f.2 z.1 z.2 h2
            have e1 : z = (k, b) := Sum.inl.inj h
            rw [e1] at this
            exact this
          | inr z => simp -implicitDefEqProofs only [h2] at h; cases h
        · exact hcmp p hp k b h
    intro p hp k b h
    unfold pE at h
    split at h
    · exact pCh_k opO_f (pAnd_fw fw) (pCh_k opA_f (pNot_fw fw 6) (hnot 6) h7) h7 p hp k b h
    · exact one (c := 0) (by decide) (by decide) k b h
section RL
variable {t : Tpe} (h7 : t.2 ≤ 700) (hc : ∀ k, t.1 k < 256) {S0 S : MS} {p : Nat} {Y : Yx}
theorem pE_k (h7 : t.2 ≤ 700) (hc : ∀ k, t.1 k < 256) {ms : List Nat} (r p k b : Nat) (hp : p ≤ t.2) (h : pE t ms r p = .inl (k, b)) : 0 < k ∧ k < 10 := pE_k0 h7 r p hp k b h
theorem l_gr (h7 : t.2 ≤ 700) (hc : ∀ k, t.1 k < 256) (h : YB S0 S t Y p) (hw : YW Y) (hk : kw t p = 13) : Mn (m_line S) (LR S0 t (pLine t Y p)) := by
  have wl := hw.2.2.2.2.1
  have body : pBody t Y p = once t Y p 4 (sbd (pE t grMs 6 (tE t p)) fun e => .inr (sGr Y e.1, e.2)) := by
    unfold pBody
    rw [if_neg (by omega), if_neg (by omega), if_neg (by omega), if_neg (by omega), if_pos hk]
  unfold m_line pLine
  rw [e_kw h h7 hk (by decide), Option.bind_some, if_neg (show ¬ Int32.ofNat 13 = 8 by decide), if_neg (show ¬ Int32.ofNat 13 = 6 by decide), if_neg (show ¬ Int32.ofNat 13 = 9 by decide), if_neg (show ¬ Int32.ofNat 13 = 10 by decide), if_neg (show ¬ Int32.ofNat 13 = 3 by decide), if_neg (show ¬ Int32.ofNat 13 = 11 by decide), if_neg (show ¬ Int32.ofNat 13 = 12 by decide), if_pos (show Int32.ofNat 13 = 13 from rfl), body]
  have go : ∀ d : Int32, (d = 0 ↔ dup Y 4 = false) → Mn (m_line_310 d 0 0 S) (LQ S0 t (once t Y p 4 (sbd (pE t grMs 6 (tE t p)) fun e => .inr (sGr Y e.1, e.2)))) := fun d hd => by
    unfold m_line_310
    refine r_once h7 hc h (k := fun S' => (m_expression 127 (sF S' 31 (S'.1 33))).bind fun q => m_line_384 q) hd fun S1 y1 => ?_
    have hp := h.1.2.2.1
    obtain ⟨hf1, hf2⟩ := tE_fw hp (kw_0 (by decide) hk)
    obtain ⟨f1, f2, f3, f4, f5, f6, f7, f8, f9, f10, f11, f12, f13⟩ := y1.2.2.2.1
    have e33 : S1.1 33 = Int32.ofNat (yL Y).length := f11.1
    have r1 := y1.1.f (i := 31) (v := S1.1 33) (by decide)
    have hm : mayOK (sF (sF S1 31 (S1.1 33)) 36 127) grMs := by
      unfold mayOK
      rw [sF_at]
      refine ⟨by decide +kernel, fun k hk => ?_⟩
      rw [fw_no _ 0 k (by
        intro m hm
        have : ∀ m ∈ grMs, m < 8 := by decide
        have := this m hm
        omega)]
      omega
    refine Mn.bw (r_expr h7 hc hm hf2 (by omega) r1.1 r1.2.1 r1.2.2.2 (C := yL Y) ⟨(sF_ne (by decide)).trans f11.1, f11.2⟩ (by have := h.2.2.2.2; omega)) fun R ⟨g1, g2, g3, g4⟩ => ?_
    have lf : LF S0 R := ⟨fun k q => by
      by_cases k36 : k = 36
      · omega
      · exact (g1 k (by omega)).trans ((sF_ne (by omega)).trans (y1.2.2.1.1 k q)), fun j q => (g2 j (by omega) (by omega) (by omega)).trans (y1.2.2.1.2 j q)⟩
    cases e1 : pE t grMs 6 (tE t p) with
    | inl z =>
      obtain ⟨k, b⟩ := z
      obtain ⟨b1, b2⟩ := g3 k b e1
      rw [sbd_l]
      have kk := pE_k h7 hc (ms := grMs) 6 (tE t p) k b hf2 e1
      exact r_384 h7 hc (LR.er ⟨b1, b2, kk.1, kk.2, lf⟩)
    | inr z =>
      obtain ⟨e, q⟩ := z
      obtain ⟨b1, b2, b3, b4, b5⟩ := g4 e q e1
      rw [sbd_r]
      dsimp only
      have fr : ∀ k, 24 ≤ k ∧ k < 33 → R.1 k = (sF S1 31 (S1.1 33)).1 k := fun k q => g1 k (by omega)
      have dy : dup (sGr Y e) 4 = true := dup_y (i := 4) rfl
      have dn : ∀ j, 4 ≠ j → dup (sGr Y e) j = dup Y j := fun j q => dup_n (i := 4) rfl q
      have fq := pE_fw 6 _ _ _ hf2 e1
      refine r_384 h7 hc (LR.ok ⟨⟨b1, ⟨(g1 17 (by decide)).trans r1.2.1.1, by rw [g2 4 (by decide) (by decide) (by decide)]; exact r1.2.1.2⟩, fq.2, b2⟩, b3.trans ((sF_ne (by decide)).trans y1.2.1), lf, ?_, ?_⟩)
      · exact ⟨by rw [fr 25 (by decide), sF_ne (by decide), dn 0 (by decide)]; exact f1, by rw [fr 26 (by decide), sF_ne (by decide), dn 0 (by decide)]; exact f2, (fr 27 (by decide)).trans ((sF_ne (by decide)).trans f3), by rw [g2 6 (by decide) (by decide) (by decide)]; exact f4, (fr 28 (by decide)).trans ((sF_ne (by decide)).trans f5), by rw [g2 7 (by decide) (by decide) (by decide)]; exact f6, by rw [fr 29 (by decide), sF_ne (by decide), dn 2 (by decide)]; exact f7, by rw [fr 30 (by decide), sF_ne (by decide), dn 3 (by decide)]; exact f8, by rw [fr 31 (by decide), sF_at, e33, opt_t dy], by rw [fr 32 (by decide), sF_ne (by decide), dn 5 (by decide)]; exact f10, b4, by rw [g2 12 (by decide) (by decide) (by decide)]; exact f12, by rw [g2 8 (by decide) (by decide) (by decide)]; exact f13⟩
      · show (yL Y ++ e.1 ++ [0]).length ≤ 2 * q
        rw [List.length_append, List.length_append, List.length_singleton]
        omega
  have e : S.1 31 = opt (dup Y 4) (yg Y) := h.2.2.2.1.2.2.2.2.2.2.2.2.1
  by_cases q : S.1 31 = -1
  · rw [if_pos q]
    rw [e] at q
    exact go 0 ⟨fun _ => (opt_n (by omega)).mp q, fun _ => rfl⟩
  · rw [if_neg q]
    exact go 1 ⟨fun z => absurd z (by decide), fun z => absurd (e.trans ((opt_n (by omega)).mpr z)) q⟩
theorem l_be (h7 : t.2 ≤ 700) (hc : ∀ k, t.1 k < 256) (h : YB S0 S t Y p) (hw : YW Y) (hk : kw t p = 14) : Mn (m_line S) (LR S0 t (pLine t Y p)) := by
  have wl := hw.2.2.2.2.1
  have body : pBody t Y p = once t Y p 5 (sbd (pE t beMs 6 (tE t p)) fun e => .inr (sBe Y e.1, e.2)) := by
    unfold pBody
    rw [if_neg (by omega), if_neg (by omega), if_neg (by omega), if_neg (by omega), if_neg (by omega), if_pos hk]
  unfold m_line pLine
  rw [e_kw h h7 hk (by decide), Option.bind_some, if_neg (show ¬ Int32.ofNat 14 = 8 by decide), if_neg (show ¬ Int32.ofNat 14 = 6 by decide), if_neg (show ¬ Int32.ofNat 14 = 9 by decide), if_neg (show ¬ Int32.ofNat 14 = 10 by decide), if_neg (show ¬ Int32.ofNat 14 = 3 by decide), if_neg (show ¬ Int32.ofNat 14 = 11 by decide), if_neg (show ¬ Int32.ofNat 14 = 12 by decide), if_neg (show ¬ Int32.ofNat 14 = 13 by decide), if_pos (show Int32.ofNat 14 = 14 from rfl), body]
  have go : ∀ d : Int32, (d = 0 ↔ dup Y 5 = false) → Mn (m_line_355 d 0 0 S) (LQ S0 t (once t Y p 5 (sbd (pE t beMs 6 (tE t p)) fun e => .inr (sBe Y e.1, e.2)))) := fun d hd => by
    unfold m_line_355
    refine r_once h7 hc h (k := fun S' => (m_expression 179 (sF S' 32 (S'.1 33))).bind fun q => m_line_384 q) hd fun S1 y1 => ?_
    have hp := h.1.2.2.1
    obtain ⟨hf1, hf2⟩ := tE_fw hp (kw_0 (by decide) hk)
    obtain ⟨f1, f2, f3, f4, f5, f6, f7, f8, f9, f10, f11, f12, f13⟩ := y1.2.2.2.1
    have e33 : S1.1 33 = Int32.ofNat (yL Y).length := f11.1
    have r1 := y1.1.f (i := 32) (v := S1.1 33) (by decide)
    have hm : mayOK (sF (sF S1 32 (S1.1 33)) 36 179) beMs := by
      unfold mayOK
      rw [sF_at]
      refine ⟨by decide +kernel, fun k hk => ?_⟩
      rw [fw_no _ 0 k (by
        intro m hm
        have : ∀ m ∈ beMs, m < 8 := by decide
        have := this m hm
        omega)]
      omega
    refine Mn.bw (r_expr h7 hc hm hf2 (by omega) r1.1 r1.2.1 r1.2.2.2 (C := yL Y) ⟨(sF_ne (by decide)).trans f11.1, f11.2⟩ (by have := h.2.2.2.2; omega)) fun R ⟨g1, g2, g3, g4⟩ => ?_
    have lf : LF S0 R := ⟨fun k q => by
      by_cases k36 : k = 36
      · omega
      · exact (g1 k (by omega)).trans ((sF_ne (by omega)).trans (y1.2.2.1.1 k q)), fun j q => (g2 j (by omega) (by omega) (by omega)).trans (y1.2.2.1.2 j q)⟩
    cases e1 : pE t beMs 6 (tE t p) with
    | inl z =>
      obtain ⟨k, b⟩ := z
      obtain ⟨b1, b2⟩ := g3 k b e1
      rw [sbd_l]
      have kk := pE_k h7 hc (ms := beMs) 6 (tE t p) k b hf2 e1
      exact r_384 h7 hc (LR.er ⟨b1, b2, kk.1, kk.2, lf⟩)
    | inr z =>
      obtain ⟨e, q⟩ := z
      obtain ⟨b1, b2, b3, b4, b5⟩ := g4 e q e1
      rw [sbd_r]
      dsimp only
      have fr : ∀ k, 24 ≤ k ∧ k < 33 → R.1 k = (sF S1 32 (S1.1 33)).1 k := fun k q => g1 k (by omega)
      have dy : dup (sBe Y e) 5 = true := dup_y (i := 5) rfl
      have dn : ∀ j, 5 ≠ j → dup (sBe Y e) j = dup Y j := fun j q => dup_n (i := 5) rfl q
      have fq := pE_fw 6 _ _ _ hf2 e1
      refine r_384 h7 hc (LR.ok ⟨⟨b1, ⟨(g1 17 (by decide)).trans r1.2.1.1, by rw [g2 4 (by decide) (by decide) (by decide)]; exact r1.2.1.2⟩, fq.2, b2⟩, b3.trans ((sF_ne (by decide)).trans y1.2.1), lf, ?_, ?_⟩)
      · exact ⟨by rw [fr 25 (by decide), sF_ne (by decide), dn 0 (by decide)]; exact f1, by rw [fr 26 (by decide), sF_ne (by decide), dn 0 (by decide)]; exact f2, (fr 27 (by decide)).trans ((sF_ne (by decide)).trans f3), by rw [g2 6 (by decide) (by decide) (by decide)]; exact f4, (fr 28 (by decide)).trans ((sF_ne (by decide)).trans f5), by rw [g2 7 (by decide) (by decide) (by decide)]; exact f6, by rw [fr 29 (by decide), sF_ne (by decide), dn 2 (by decide)]; exact f7, by rw [fr 30 (by decide), sF_ne (by decide), dn 3 (by decide)]; exact f8, by rw [fr 31 (by decide), sF_ne (by decide), dn 4 (by decide)]; exact f9, by rw [fr 32 (by decide), sF_at, e33, opt_t dy], b4, by rw [g2 12 (by decide) (by decide) (by decide)]; exact f12, by rw [g2 8 (by decide) (by decide) (by decide)]; exact f13⟩
      · show (yL Y ++ e.1 ++ [0]).length ≤ 2 * q
        rw [List.length_append, List.length_append, List.length_singleton]
        omega
  have e : S.1 32 = opt (dup Y 5) (yb Y) := h.2.2.2.1.2.2.2.2.2.2.2.2.2.1
  by_cases q : S.1 32 = -1
  · rw [if_pos q]
    rw [e] at q
    exact go 0 ⟨fun _ => (opt_n (by omega)).mp q, fun _ => rfl⟩
  · rw [if_neg q]
    exact go 1 ⟨fun z => absurd z (by decide), fun z => absurd (e.trans ((opt_n (by omega)).mpr z)) q⟩
end RL
