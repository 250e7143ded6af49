/-! plain law: the reference's way through brackets, rows of operators, words before -/
set_option maxRecDepth 100000
theorem Low.nil {s : Nat} : Low s [] := Or.inl rfl
theorem Low.op {s w : Nat} {W : List Nat} (h : w < 15) (k : w = 14 ∨ stg w < s) : Low s (W ++ [w]) := Or.inr ⟨W, w, rfl, h, k⟩
theorem Low.mono {s s' : Nat} {W : List Nat} (h : Low s W) (k : s ≤ s') : Low s' W := by
  rcases h with h | ⟨W0, w, e, h1, h2⟩
  · exact Or.inl h
  · exact Or.inr ⟨W0, w, e, h1, h2.elim Or.inl fun q => Or.inr (by omega)⟩
section RE
variable {t : Tpe} (h7 : t.2 ≤ 700) (hc : ∀ k, t.1 k < 256) {S0 S : MS} {p d s : Nat} {F : Nat → Int32} {W C V : List Nat}
theorem RY.out (h : RY S0 S t (d + 1) F (W ++ [14]) C) (hl : W.length < 950) (hd : d ≤ 6) : RY S0 (sF (sF S 34 (S.1 34 - 1)) 35 ((sF S 34 (S.1 34 - 1)).1 35 - 1)) t d F W C := by
  obtain ⟨h1, h2, h3, h4, h5, h6, h7, h8, h9⟩ := h
  obtain ⟨a1, a2, a3⟩ := h6.pop hl
  refine ⟨⟨by rw [sF_ne (by decide), sF_ne (by decide)]; exact h1.1, h1.2⟩, by rw [sF_ne (by decide), sF_ne (by decide)]; exact h2, by rw [sF_ne (by decide), sF_ne (by decide)]; exact h3, ?_, fun i hi => h5 i (by omega), ⟨?_, fun i hi => ?_⟩, ⟨by rw [sF_ne (by decide), sF_ne (by decide)]; exact h7.1, h7.2⟩, fun w hw => h8 w (List.mem_append_left _ hw), fun k q => ?_, h9.2⟩
  · rw [sF_at, sF_ne (by decide), h4]
    exact osub (b := 1) (by omega) (by omega)
  · rw [sF_ne (by decide), sF_at, a2]
  · show S.2.2 10 i = _
    rw [h6.2 i (by rw [List.length_append]; omega), gD_l hi]
  · rw [sF_ne (by omega), sF_ne (by omega)]; exact h9.1 k q
theorem e_330B (h : ¬ S.1 14 = 0) : m_expression_330 S = m_expression_350 S := by
  unfold m_expression_330
  rw [r_bad h, Option.bind_some, if_pos rfl]
theorem r_part (h7 : t.2 ≤ 700) (hc : ∀ k, t.1 k < 256) {ms : List Nat} (hm : mayOK S0 ms) {kE : Nat → PR} (hk : Fwd t kE) (hd : 1 ≤ d) (hd6 : d ≤ 6)
    (hE : ∀ p S F C W Q, RX S0 S t p d F (W ++ [14]) C → Kon S0 t (d + 1) (upd F (d + 1) 0) (W ++ [14]) C 1 (StO t) Q (kE p) → d < 6 → OE t p S Q)
    (hE6 : d = 6 → ∀ p S F C W Q, RX S0 S t p d F (W ++ [14]) C → (∀ k b, kE p = .inl (k, b) → ∀ S', BX S0 k b S' → Q S') → OE t p S Q) (hn6 : d = 6 → ∀ p e q, kE p ≠ .inr (e, q))
    (h : RX S0 S t p d F W C) {Q : MS → Prop} (K : Kon S0 t d F W C s (fun _ f => f = F d) Q (pPart t ms kE p)) (x2 : Int32) : O75 t p x2 S Q := by
  have hp := h.2.2.1
  by_cases h40 : sgi t p 40
  · have hs := h40.1
    have hpe : pPart t ms kE p = pBr t (kE (tE t p)) := by
      unfold pPart
      rw [if_neg (by omega), if_pos h40]
    rw [hpe] at K
    obtain ⟨hf1, hf2⟩ := tE_fw h.2.2.1 (sgn_0 h40)
    obtain ⟨b1, b2⟩ := h.2.2.2
    obtain ⟨S1, e1, y1, k1⟩ := h.1.kz34 (x := 14) (by decide) (by omega)
    obtain ⟨S2, e2, x2'⟩ := y1.go h7 hc (p := tE t p) (h.2.1.kz k1 (fun i q => by omega)).1 hf2 ⟨by rw [List.length_append, List.length_singleton]; omega, by rw [List.length_append, List.length_singleton]; omega⟩
    have oe : OE t (tE t p) S2 Q := by
      by_cases d6 : d = 6
      · refine hE6 d6 _ _ _ _ _ _ x2' fun k b q => K.1 k b ?_
        rw [q]; rfl
      refine hE _ _ _ _ _ _ x2' ⟨fun k b q => K.1 k b ?_, fun e q r S' F' V C' hx hcv hv hF hst => ?_⟩ (by omega)
      · rw [q]; rfl
      rw [r] at K
      have K : Kon S0 t d F W C s (fun _ f => f = F d) Q (if sgi t q 41 then .inr (e, tE t q) else .inl (1, tB t q)) := K
      have fq := hk _ _ _ hf2 r
      have b1' := hx.2.2.2
      rw [show (W ++ [14] ++ V.reverse) = (W ++ [14]) ++ V.reverse from rfl] at b1'
      unfold Bd at b1'
      rw [List.length_append, List.length_append, List.length_singleton, List.length_reverse] at b1'
      by_cases c41 : sgi t q 41
      · rw [if_pos c41] at K
        obtain ⟨hg1, hg2⟩ := tE_fw hx.2.2.1 (sgn_0 c41)
        obtain ⟨S3, e3, y3, k3⟩ := hx.1.dr (s := 0) (by decide) (Low.op (by decide) (Or.inl rfl)) (by omega) (by rw [List.length_append, List.length_singleton]; omega) (fun v q => ⟨(hv v q).1, Nat.zero_le _⟩)
        have y4 := y3.out (by omega) hd6
        have t3 := hx.2.1.kz k3 (fun i q => by omega)
        rw [hcv] at y4
        have cl : (C ++ e.1).length = C'.length + V.length := by rw [← hcv, List.length_append]
        obtain ⟨S4, e4, x4⟩ := y4.go h7 hc (p := tE t q) (by rw [sF_ne (by decide), sF_ne (by decide)]; exact t3.1) hg2 ⟨by omega, by omega⟩
        obtain ⟨R, hR, eR⟩ := K.2 e (tE t q) rfl S4 F' [] (C ++ e.1) (by rw [List.reverse_nil, List.append_nil]; exact x4) (List.append_nil _) (fun v q => by cases q) (fun i hi => by rw [hF i (by omega)]; unfold upd; rw [if_neg (by omega)]) (by
          show F' d = F d
          rw [hF d (by omega)]; unfold upd; rw [if_neg (by omega)])
        refine ⟨R, hR, fun m hm => ?_⟩
        obtain ⟨m, rfl⟩ : ∃ k, m = k + 1 := ⟨m - 1, by omega⟩
        have opn : m_isOpened S' = some 1 := by
          have := r_isOpened V (W ++ [14]) hx.1.2.2.2.2.2.1.2 (by rw [List.length_append, List.length_singleton]; omega) (fun v q => (hv v q).1) (Or.inr ⟨W, rfl⟩) FU (by show _ < 6000; omega)
          rw [if_neg (fun q => by have := congrArg List.length q; rw [List.length_append, List.length_singleton] at this; exact absurd this (by simp))] at this
          unfold m_isOpened
          rw [hx.1.2.2.2.2.2.1.1, List.length_append, List.length_reverse]
          exact this
        have e3 : m_drops 0 S' = some S3 := e3
        rw [lp_stop h7 hc hx (by omega) hst, if_pos c41, opn, Option.bind_some, if_neg (show ¬ (1 : Int32) = 0 by decide)]
        unfold m_closes
        rw [e3, Option.bind_some, e4, Option.bind_some, Option.bind_some]
        exact eR m (by omega)
      · rw [if_neg c41] at K
        obtain ⟨S3, e3, r3⟩ := hx.rb (k := 1) (by decide) (by decide) h7
        obtain ⟨R, bR, eR⟩ := r3.end_
        rw [e_330B r3.nb] at eR
        have e3 : m_wrong 1 S' = some S3 := e3
        refine ⟨R, K.1 1 (tB t q) rfl R bR, fun m hm => ?_⟩
        have hq := hx.2.2.1
        obtain ⟨m, rfl⟩ : ∃ k, m = k + 1 + 1 := ⟨m - 2, by omega⟩
        rw [lp_stop h7 hc hx (by omega) hst, if_neg c41]
        show m_expression_34_b (m_expression_34 m) 0 S' = _
        unfold m_expression_34_b
        rw [if_pos rfl]
        unfold m_expression_330
        rw [hx.good, Option.bind_some, if_neg (show ¬ (1 : Int32) = 0 by decide), hx.1.2.2.2.1, if_neg (fun q => by have := (ole (m := 1) (by omega) (by omega)).mp q; omega), e3, Option.bind_some, eR]
    obtain ⟨R, hR, eR⟩ := oe
    have e1 : m_waitsFor 14 S = some S1 := e1
    have s40 : m_isSign 40 S = some (if sgi t p 40 then 1 else 0) := h.sg hc (c := 40) (by decide)
    refine ⟨R, hR, fun m1 m2 q1 q2 => ?_⟩
    rw [← eR m1 m2 (by omega) (by omega)]
    unfold m_operand_75 m_operand_96 m_operand_117
    rw [h.good, Option.bind_some, if_neg (show ¬ (1 : Int32) = 0 by decide), s40, if_pos h40, Option.bind_some, if_neg (show ¬ (1 : Int32) = 0 by decide), if_neg (show ¬ (1 : Int32) = 0 by decide), e1, Option.bind_some, e2, Option.bind_some]
  · obtain ⟨S', e1, r1, r2⟩ := r_part0 h7 hc h hm kE h40
    cases hr : pPart t ms kE p with
    | inl z =>
      obtain ⟨k, b⟩ := z
      obtain ⟨R, hR, eR⟩ := (r1 k b hr).lp (K.1 k b hr)
      refine ⟨R, hR, fun m1 m2 q1 q2 => ?_⟩
      rw [e_75n h7 hc h h40 (by omega), e1, Option.bind_some, eR m2 (by omega)]
    | inr z =>
      obtain ⟨e, q⟩ := z
      have fq := pPart_fw hk _ _ _ hp hr
      obtain ⟨R, hR, eR⟩ := K.2 e q hr S' F [] (C ++ e.1) (by rw [List.reverse_nil, List.append_nil]; exact r2 e q hr) (List.append_nil _) (fun v q => by cases q) (fun i hi => rfl) rfl
      refine ⟨R, hR, fun m1 m2 q1 q2 => ?_⟩
      rw [e_75n h7 hc h h40 (by omega), e1, Option.bind_some, eR m2 (by omega)]
/-- a row of operators of one strength -/
theorem r_loop {op : Nat → Option Nat} {sub : Nat → PR} {s' : Nat} {fl : (Nat → Int32) → Nat → Int32} {st : (Nat → Int32) → Nat → Int32 → Prop} {G : (Nat → Int32) → Prop} {EntS Ent : Nat → MS → (MS → Prop) → Prop}
    (hop : OpF t op) (hfw : Fwd t sub) (hfl : ∀ F i, i < d → fl F i = F i) (ho : ∀ p o, op p = some o → o < 14 ∧ stg o = s) (hs : s < s') (hG : ∀ F, G F → G (fl F))
    (hch : ∀ F0 F' p q f, st F0 p (F' d) → st (fl F') q f → st F0 q f)
    (step : ∀ p S F W C V o Q, RX S0 S t p d F (W ++ V.reverse) C → Low s W → (∀ v ∈ V, v < 14 ∧ s ≤ stg v) → op p = some o → (∀ S1, RX S0 S1 t (tE t p) d (fl F) (W ++ [o]) (C ++ V) → Ent (tE t p) S1 Q) → Lp t p S Q)
    (ent : ∀ p S F W C Q, RX S0 S t p d F W C → EntS p S Q → Ent p S Q)
    (hGs : ∀ F0 F' p, st F0 p (F' d) → G (fl F'))
    (lev : ∀ p S F W C Q, RX S0 S t p d F W C → Low s' W → G F → Kon S0 t d F W C s' (st F) Q (sub p) → EntS p S Q) :
    ∀ n (e : Ex) p S F0 F W V C' C Q, t.2 < p + n → RX S0 S t p d F (W ++ V.reverse) C' → C' ++ V = C ++ e.1 → (∀ v ∈ V, v < 14 ∧ s ≤ stg v) → Low s W → (∀ i, i < d → F i = F0 i) → st F0 p (F d) → Kon S0 t d F0 W C s (fun q f => st F0 q f ∧ op q = none) Q (pLoop t op sub n e p) → Lp t p S Q := by
  intro n
  induction n with
  | zero =>
    intro e p S F0 F W V C' C Q hn h
    have := h.2.2.1
    omega
  | succ n ih =>
    intro e p S F0 F W V C' C Q hn h hcv hv hW hF hst K
    unfold pLoop at K
    cases h1 : op p with
    | none =>
      rw [h1] at K
      exact K.2 e p rfl S F V C' h hcv hv hF ⟨hst, h1⟩
    | some o =>
      rw [h1] at K
      obtain ⟨o1, o2⟩ := ho p o h1
      obtain ⟨hf1, hf2⟩ := tE_fw h.2.2.1 (hop p o h1)
      refine step p S F W C' V o Q h hW hv h1 fun S1 x1 => ent _ _ _ _ _ _ x1 (lev _ _ _ _ _ _ x1 (Low.op (by omega) (Or.inr (by omega))) (hGs F0 F p hst) ⟨fun k b q => K.1 k b ?_, fun e2 q2 r S2 F2 V2 C2 hx2 hcv2 hv2 hF2 hst2 => ?_⟩)
      · simp -implicitDefEqProofs only [q]
      · simp -implicitDefEqProofs only [r] at K
        have f2 := hfw _ _ _ hf2 r
        refine ih (xbin o e e2) q2 S2 F0 F2 W (V2 ++ [o]) C2 C Q (by omega) ?_ ?_ ?_ hW (fun i hi => by rw [hF2 i hi, hfl F i hi, hF i hi]) (hch F0 F p q2 (F2 d) hst hst2) K
        · rw [List.reverse_append]
          show RX S0 S2 t q2 d F2 (W ++ ([o] ++ V2.reverse)) C2
          rw [← List.append_assoc]
          exact hx2
        · rw [← List.append_assoc, hcv2, hcv]
          show C ++ e.1 ++ e2.1 ++ [o] = C ++ (e.1 ++ e2.1 ++ [o])
          simp -implicitDefEqProofs only [List.append_assoc]
        · intro v hv'
          rw [List.mem_append, List.mem_singleton] at hv'
          rcases hv' with hv' | rfl
          · have := hv2 v hv'
            exact ⟨this.1, by omega⟩
          · exact ⟨o1, by omega⟩
theorem r_ch {op : Nat → Option Nat} {sub : Nat → PR} {s' : Nat} {fl : (Nat → Int32) → Nat → Int32} {st : (Nat → Int32) → Nat → Int32 → Prop} {G : (Nat → Int32) → Prop} {EntS Ent : Nat → MS → (MS → Prop) → Prop}
    (h7 : t.2 ≤ 700) (hop : OpF t op) (hfw : Fwd t sub) (hfl : ∀ F i, i < d → fl F i = F i) (ho : ∀ p o, op p = some o → o < 14 ∧ stg o = s) (hs : s < s') (hG : ∀ F, G F → G (fl F))
    (hch : ∀ F0 F' p q f, st F0 p (F' d) → st (fl F') q f → st F0 q f)
    (step : ∀ p S F W C V o Q, RX S0 S t p d F (W ++ V.reverse) C → Low s W → (∀ v ∈ V, v < 14 ∧ s ≤ stg v) → op p = some o → (∀ S1, RX S0 S1 t (tE t p) d (fl F) (W ++ [o]) (C ++ V) → Ent (tE t p) S1 Q) → Lp t p S Q)
    (ent : ∀ p S F W C Q, RX S0 S t p d F W C → EntS p S Q → Ent p S Q)
    (hGs : ∀ F0 F' p, st F0 p (F' d) → G (fl F'))
    (lev : ∀ p S F W C Q, RX S0 S t p d F W C → Low s' W → G F → Kon S0 t d F W C s' (st F) Q (sub p) → EntS p S Q)
    (p : Nat) (S : MS) (F : Nat → Int32) (W C : List Nat) (Q : MS → Prop) (h : RX S0 S t p d F W C) (hW : Low s W) (g : G F) (K : Kon S0 t d F W C s (fun q f => st F q f ∧ op q = none) Q (pCh t op sub p)) : EntS p S Q := by
  refine lev p S F W C Q h (hW.mono (by omega)) g ⟨fun k b q => K.1 k b (by unfold pCh; simp -implicitDefEqProofs only [q]), fun e q r S' F' V C' hx hcv hv hF hst => ?_⟩
  have hq := hx.2.2.1
  refine r_loop hop hfw hfl ho hs hG hch step ent hGs lev 701 e q S' F F' W V C' C Q (by omega) hx hcv (fun v q => ⟨(hv v q).1, by have := (hv v q).2; omega⟩) hW hF hst ?_
  unfold pCh at K
  simp -implicitDefEqProofs only [r] at K
  exact K
end RE
