/-! plain law: the reference's way through a whole expression -/
set_option maxRecDepth 100000
def stN (t : Tpe) (q : Nat) (f : Int32) : Prop := opM t q = none ∧ opS t q = none ∧ (f = 1 ∨ (f = 0 ∧ opC t q = none))
theorem opM_s {t : Tpe} {p o : Nat} (h : opM t p = some o) : o < 14 ∧ stg o = 6 := by
  rcases opM_i h with ⟨-, rfl⟩ | ⟨-, rfl⟩ <;> decide
theorem opS_s {t : Tpe} {p o : Nat} (h : opS t p = some o) : o < 14 ∧ stg o = 5 := by
  rcases opS_i h with ⟨-, rfl⟩ | ⟨-, rfl⟩ <;> decide
theorem opC_s {t : Tpe} {p o : Nat} (h : opC t p = some o) : o < 14 ∧ stg o = 4 := by
  rcases opC_i h with ⟨-, rfl⟩ | ⟨-, rfl⟩ <;> decide
theorem opA_s {t : Tpe} {p o : Nat} (h : opA t p = some o) : kw t p = 15 ∧ o = 4 := by
  unfold opA at h
  split at h
  · exact ⟨by assumption, (Option.some.inj h).symm⟩
  · cases h
theorem opO_s {t : Tpe} {p o : Nat} (h : opO t p = some o) : kw t p = 16 ∧ o = 5 := by
  unfold opO at h
  split at h
  · exact ⟨by assumption, (Option.some.inj h).symm⟩
  · cases h
section RE
variable {t : Tpe} (h7 : t.2 ≤ 700) (hc : ∀ k, t.1 k < 256) {S0 : MS} {d : Nat} (hd6 : d ≤ 6) {ms : List Nat} {kE : Nat → PR} (hk : Fwd t kE)
  (hP : ∀ p S F W C Q s x2, RX S0 S t p d F W C → Kon S0 t d F W C s (fun _ f => f = F d) Q (pPart t ms kE p) → O75 t p x2 S Q)
theorem r_prod (h7 : t.2 ≤ 700) (hc : ∀ k, t.1 k < 256) (hk : Fwd t kE) (hP : ∀ p S F W C Q s x2, RX S0 S t p d F W C → Kon S0 t d F W C s (fun _ f => f = F d) Q (pPart t ms kE p) → O75 t p x2 S Q) (p : Nat) (S : MS) (F : Nat → Int32) (W C : List Nat) (Q : MS → Prop) (h : RX S0 S t p d F W C) (hW : Low 6 W) (K : Kon S0 t d F W C 6 (fun q f => f = F d ∧ opM t q = none) Q (pProd t ms kE p)) : ∀ x2, O75 t p x2 S Q := by
  refine r_ch (s := 6) (s' := 7) (fl := fun F => F) (st := fun F _ f => f = F d) (G := fun _ => True) (EntS := fun p S Q => ∀ x2, O75 t p x2 S Q) (Ent := fun p S Q => Op t p 0 S Q) h7 opM_f (pPart_fw hk) (fun _ _ _ => rfl) (fun _ _ q => opM_s q) (by decide) (fun _ _ => trivial) (fun F0 F' p q f h1 h2 => h2.trans h1) ?_ ?_ (fun _ _ _ _ => trivial) ?_ p S F W C Q h hW trivial K
  · exact fun p S F W C V o Q hx hW hv ho k => step_M h7 hc hx hW hv ho k
  · exact fun p S F W C Q hx k => Op.z h7 hc hx k
  · exact fun p S F W C Q hx _ _ k x2 => hP p S F W C Q 7 x2 hx k
theorem r_sum (h7 : t.2 ≤ 700) (hc : ∀ k, t.1 k < 256) (hk : Fwd t kE) (hP : ∀ p S F W C Q s x2, RX S0 S t p d F W C → Kon S0 t d F W C s (fun _ f => f = F d) Q (pPart t ms kE p) → O75 t p x2 S Q) (p : Nat) (S : MS) (F : Nat → Int32) (W C : List Nat) (Q : MS → Prop) (h : RX S0 S t p d F W C) (hW : Low 5 W) (K : Kon S0 t d F W C 5 (fun q f => (f = F d ∧ opM t q = none) ∧ opS t q = none) Q (pSum t ms kE p)) : ∀ x2, O75 t p x2 S Q := by
  refine r_ch (s := 5) (s' := 6) (fl := fun F => F) (st := fun F q f => f = F d ∧ opM t q = none) (G := fun _ => True) (EntS := fun p S Q => ∀ x2, O75 t p x2 S Q) (Ent := fun p S Q => Op t p 0 S Q) h7 opS_f (pProd_fw hk) (fun _ _ _ => rfl) (fun _ _ q => opS_s q) (by decide) (fun _ _ => trivial) (fun F0 F' p q f h1 h2 => ⟨h2.1.trans h1.1, h2.2⟩) ?_ ?_ (fun _ _ _ _ => trivial) ?_ p S F W C Q h hW trivial K
  · exact fun p S F W C V o Q hx hW hv ho k => step_S h7 hc hx hW hv ho k
  · exact fun p S F W C Q hx k => Op.z h7 hc hx k
  · exact fun p S F W C Q hx hW _ k => r_prod h7 hc hk hP p S F W C Q hx hW k
theorem r_cmp (h7 : t.2 ≤ 700) (hc : ∀ k, t.1 k < 256) (hd6 : d ≤ 6) (hk : Fwd t kE) (hP : ∀ p S F W C Q s x2, RX S0 S t p d F W C → Kon S0 t d F W C s (fun _ f => f = F d) Q (pPart t ms kE p) → O75 t p x2 S Q) (p : Nat) (S : MS) (F : Nat → Int32) (W C : List Nat) (Q : MS → Prop) (h : RX S0 S t p d F W C) (hW : Low 4 W) (hF : F d = 0) (K : Kon S0 t d F W C 4 (stN t) Q (pCmp t ms kE p)) : ∀ x2, O75 t p x2 S Q := by
  refine r_sum h7 hc hk hP p S F W C Q h (hW.mono (by decide)) ⟨fun k b q => K.1 k b (by unfold pCmp; simp -implicitDefEqProofs only [q]), fun e q r S' F' V C' hx hcv hv hF' hst => ?_⟩
  unfold pCmp at K
  simp -implicitDefEqProofs only [r] at K
  obtain ⟨⟨f0, m0⟩, s0⟩ := hst
  cases h1 : opC t q with
  | none =>
    simp -implicitDefEqProofs only [h1] at K
    exact K.2 e q rfl S' F' V C' hx hcv (fun v q => ⟨(hv v q).1, by have := (hv v q).2; omega⟩) hF' ⟨m0, s0, Or.inr ⟨f0.trans hF, h1⟩⟩
  | some o =>
    simp -implicitDefEqProofs only [h1] at K
    obtain ⟨o1, o2⟩ := opC_s h1
    obtain ⟨hf1, hf2⟩ := tE_fw hx.2.2.1 (opC_f _ _ h1)
    refine step_C h7 hc hx hd6 (f0.trans hF) hW (fun v q => ⟨(hv v q).1, by have := (hv v q).2; omega⟩) h1 fun S1 x1 => Op.z h7 hc x1 (r_sum h7 hc hk hP _ _ _ _ _ _ x1 (Low.op (by omega) (Or.inr (by omega))) ⟨fun k b q => K.1 k b (by simp -implicitDefEqProofs only [q]), fun e2 q2 r2 S2 F2 V2 C2 hx2 hcv2 hv2 hF2 hst2 => ?_⟩)
    simp -implicitDefEqProofs only [r2] at K
    obtain ⟨⟨f2, m2⟩, s2⟩ := hst2
    refine K.2 (xbin o e e2) q2 rfl S2 F2 (V2 ++ [o]) C2 ?_ ?_ (fun v hv' => ?_) (fun i hi => ?_) ⟨m2, s2, Or.inl (f2.trans upd_at)⟩
    · rw [List.reverse_append]
      show RX S0 S2 t q2 d F2 (W ++ ([o] ++ V2.reverse)) C2
      rw [← List.append_assoc]
      exact hx2
    · rw [← List.append_assoc, hcv2, hcv]
      show C ++ e.1 ++ e2.1 ++ [o] = C ++ (e.1 ++ e2.1 ++ [o])
      simp -implicitDefEqProofs only [List.append_assoc]
    · rw [List.mem_append, List.mem_singleton] at hv'
      rcases hv' with hv' | rfl
      · have := hv2 v hv'
        exact ⟨this.1, by omega⟩
      · exact ⟨o1, by omega⟩
    · rw [hF2 i hi]
      unfold upd
      rw [if_neg (by omega)]
      exact hF' i hi
theorem r_not (h7 : t.2 ≤ 700) (hc : ∀ k, t.1 k < 256) (hd6 : d ≤ 6) (hk : Fwd t kE) (hP : ∀ p S F W C Q s x2, RX S0 S t p d F W C → Kon S0 t d F W C s (fun _ f => f = F d) Q (pPart t ms kE p) → O75 t p x2 S Q) : ∀ r x4, r + x4 = 6 → ∀ (p : Nat) (S : MS) (F : Nat → Int32) (W C : List Nat) (Q : MS → Prop), RX S0 S t p d F W C → Low 4 W → F d = 0 → Kon S0 t d F W C 3 (stN t) Q (pNot t ms kE r p) → On t p x4 S Q := by
  have base : ∀ r x4, r + x4 = 6 → ∀ (p : Nat) (S : MS) (F : Nat → Int32) (W C : List Nat) (Q : MS → Prop), ¬ kw t p = 17 → RX S0 S t p d F W C → Low 4 W → F d = 0 → Kon S0 t d F W C 3 (stN t) Q (pCmp t ms kE p) → On t p x4 S Q := by
    intro r x4 hr p S F W C Q hkw h hW hF K
    exact On.n h7 hc h hkw (by omega) (r_cmp h7 hc hd6 hk hP p S F W C Q h hW hF ⟨K.1, fun e q r S' F' V C' a b c => K.2 e q r S' F' V C' a b fun v q => ⟨(c v q).1, by have := (c v q).2; omega⟩⟩)
  intro r
  induction r with
  | zero =>
    intro x4 hr p S F W C Q h hW hF K
    unfold pNot at K
    by_cases hkw : kw t p = 17
    · rw [if_pos hkw] at K
      obtain ⟨S1, e1, r1⟩ := h.rb (k := 2) (by decide) (by decide) h7
      have e1 : m_wrong 2 S = some S1 := e1
      obtain ⟨R, hR, eR⟩ := r1.lp (K.1 2 (tB t p) rfl)
      refine ⟨R, hR, fun m1 m2 m3 q1 q2 q3 => ?_⟩
      obtain ⟨m3, rfl⟩ : ∃ k, m3 = k + 1 := ⟨m3 - 1, by omega⟩
      show (m_operand_18_b (m_operand_4 m1) (m_operand_18 (m_operand_4 m1) m3) 1 (Int32.ofNat x4) S).bind _ = _
      unfold m_operand_18_b
      have k17 : (if kw t p = 18 then (-1 : Int32) else Int32.ofNat (kw t p)) = 17 := (kwv (j := 17) (by decide)).mpr hkw
      have x6 : Int32.ofNat x4 = 6 := by rw [show x4 = 6 by omega]; rfl
      rw [h.good, Option.bind_some, if_neg (show ¬ (1 : Int32) = 0 by decide), if_neg (show ¬ (1 : Int32) = 0 by decide), h.kn h7, Option.bind_some, if_pos k17, if_pos x6, e1, Option.bind_some]
      unfold m_operand_50
      rw [r_bad r1.nb, Option.bind_some, if_pos rfl, e_op18B r1.nb (by omega) (by omega), Option.bind_some]
      exact eR m2 (by omega)
    · rw [if_neg hkw] at K
      exact base 0 x4 hr p S F W C Q hkw h hW hF K
  | succ r ih =>
    intro x4 hr p S F W C Q h hW hF K
    unfold pNot at K
    by_cases hkw : kw t p = 17
    · rw [if_pos hkw] at K
      obtain ⟨hf1, hf2⟩ := tE_fw h.2.2.1 (kw_0 (by decide) hkw)
      obtain ⟨b1, b2⟩ := h.2.2.2
      have hp := h.2.2.1
      obtain ⟨S1, e1, y1, k1⟩ := h.1.kz34 (x := 3) (by decide) (by omega)
      obtain ⟨S2, e2, x2'⟩ := y1.go h7 hc (p := tE t p) (h.2.1.kz k1 (fun i q => by omega)).1 hf2 ⟨by rw [List.length_append, List.length_singleton]; omega, by rw [List.length_append, List.length_singleton]; omega⟩
      have on1 : On t (tE t p) (x4 + 1) S2 Q := by
        refine ih (x4 + 1) (by omega) (tE t p) S2 F (W ++ [3]) C Q x2' (Low.op (by decide) (Or.inr (by decide))) hF ⟨fun k b q => K.1 k b (by simp -implicitDefEqProofs only [q]), fun e q r2 S' F' V C' hx hcv hv hF' hst => ?_⟩
        simp -implicitDefEqProofs only [r2] at K
        refine K.2 (xnot e) q rfl S' F' (V ++ [3]) C' ?_ ?_ (fun v hv' => ?_) hF' hst
        · rw [List.reverse_append]
          show RX S0 S' t q d F' (W ++ ([3] ++ V.reverse)) C'
          rw [← List.append_assoc]
          exact hx
        · rw [← List.append_assoc, hcv]
          show C ++ e.1 ++ [3] = C ++ (e.1 ++ [3])
          rw [List.append_assoc]
        · rw [List.mem_append, List.mem_singleton] at hv'
          rcases hv' with hv' | rfl
          · exact hv v hv'
          · decide
      obtain ⟨R, hR, eR⟩ := on1
      have e1 : m_waitsFor 3 S = some S1 := e1
      refine ⟨R, hR, fun m1 m2 m3 q1 q2 q3 => ?_⟩
      obtain ⟨m3, rfl⟩ : ∃ k, m3 = k + 1 := ⟨m3 - 1, by omega⟩
      rw [← eR m1 m2 m3 (by omega) (by omega) (by omega)]
      show (m_operand_18_b (m_operand_4 m1) (m_operand_18 (m_operand_4 m1) m3) 1 (Int32.ofNat x4) S).bind _ = _
      unfold m_operand_18_b
      have k17 : (if kw t p = 18 then (-1 : Int32) else Int32.ofNat (kw t p)) = 17 := (kwv (j := 17) (by decide)).mpr hkw
      have x6 : ¬ Int32.ofNat x4 = 6 := fun q => by have := (oeq (n := x4) (m := 6) (by omega) (by omega)).mp q; omega
      rw [h.good, Option.bind_some, if_neg (show ¬ (1 : Int32) = 0 by decide), if_neg (show ¬ (1 : Int32) = 0 by decide), h.kn h7, Option.bind_some, if_pos k17, if_neg x6]
      unfold m_operand_50
      rw [h.good, Option.bind_some, if_neg (show ¬ (1 : Int32) = 0 by decide), e1, Option.bind_some, e2, Option.bind_some, ofn1 x4 (by omega)]
    · rw [if_neg hkw] at K
      exact base (r + 1) x4 hr p S F W C Q hkw h hW hF K
theorem r_and (h7 : t.2 ≤ 700) (hc : ∀ k, t.1 k < 256) (hd6 : d ≤ 6) (hk : Fwd t kE) (hP : ∀ p S F W C Q s x2, RX S0 S t p d F W C → Kon S0 t d F W C s (fun _ f => f = F d) Q (pPart t ms kE p) → O75 t p x2 S Q) (p : Nat) (S : MS) (F : Nat → Int32) (W C : List Nat) (Q : MS → Prop) (h : RX S0 S t p d F W C) (hW : Low 2 W) (hF : F d = 0) (K : Kon S0 t d F W C 2 (fun q f => stN t q f ∧ opA t q = none) Q (pAnd t ms kE p)) : Op t p 1 S Q := by
  refine r_ch (s := 2) (s' := 3) (fl := fun F => upd F d 0) (st := fun _ q f => stN t q f) (G := fun F => F d = 0) (EntS := fun p S Q => Op t p 1 S Q) (Ent := fun p S Q => Op t p 1 S Q) h7 opA_f (pNot_fw hk 6) (fun F i hi => by unfold upd; rw [if_neg (by omega)]) (fun _ _ q => by rw [(opA_s q).2]; decide) (by decide) (fun _ _ => upd_at) (fun F0 F' p q f h1 h2 => h2) ?_ (fun _ _ _ _ _ _ _ k => k) (fun _ _ _ _ => upd_at) ?_ p S F W C Q h hW hF K
  · intro p S F W C V o Q hx hW hv ho k
    obtain ⟨o1, rfl⟩ := opA_s ho
    exact step_A h7 hc hx hd6 hW hv o1 k
  · exact fun p S F W C Q hx hW g k => Op.n h7 hc hx (r_not h7 hc hd6 hk hP 6 0 rfl p S F W C Q hx (hW.mono (by decide)) g k)
theorem r_or (h7 : t.2 ≤ 700) (hc : ∀ k, t.1 k < 256) (hd6 : d ≤ 6) (hk : Fwd t kE) (hP : ∀ p S F W C Q s x2, RX S0 S t p d F W C → Kon S0 t d F W C s (fun _ f => f = F d) Q (pPart t ms kE p) → O75 t p x2 S Q) (p : Nat) (S : MS) (F : Nat → Int32) (W C : List Nat) (Q : MS → Prop) (h : RX S0 S t p d F W C) (hW : Low 1 W) (hF : F d = 0) (K : Kon S0 t d F W C 1 (StO t) Q (pOr t ms kE p)) : Op t p 1 S Q := by
  refine r_ch (s := 1) (s' := 2) (fl := fun F => upd F d 0) (st := fun _ q f => stN t q f ∧ opA t q = none) (G := fun F => F d = 0) (EntS := fun p S Q => Op t p 1 S Q) (Ent := fun p S Q => Op t p 1 S Q) h7 opO_f (pAnd_fw hk) (fun F i hi => by unfold upd; rw [if_neg (by omega)]) (fun _ _ q => by rw [(opO_s q).2]; decide) (by decide) (fun _ _ => upd_at) (fun F0 F' p q f h1 h2 => h2) ?_ (fun _ _ _ _ _ _ _ k => k) (fun _ _ _ _ => upd_at) ?_ p S F W C Q h hW hF ⟨K.1, fun e q r S' F' V C' a b c f g => K.2 e q r S' F' V C' a b c f ⟨g.1.1.1, g.1.1.2.1, g.1.1.2.2, g.1.2, g.2⟩⟩
  · intro p S F W C V o Q hx hW hv ho k
    obtain ⟨o1, rfl⟩ := opO_s ho
    exact step_O h7 hc hx hd6 hW hv o1 k
  · exact fun p S F W C Q hx hW g k => r_and h7 hc hd6 hk hP p S F W C Q hx hW g k
end RE
theorem r_deeper {t : Tpe} {S0 S : MS} {p d : Nat} {F : Nat → Int32} {W C : List Nat} (h : RX S0 S t p d F W C) (hd : d ≤ 5) : ∃ S', m_deeper S = some S' ∧ RX S0 S' t p (d + 1) (upd F (d + 1) 0) W C := by
  obtain ⟨⟨h1, h2, h3, h4, h5, h6, h7, h8, h9⟩, tk, hp, hb⟩ := h
  unfold m_deeper
  rw [h4, if_neg (fun q => by have := (ole (n := 6) (m := d) (by omega) (by omega)).mp q; omega), ofn1 d (by omega), sF_at, wrA_n (ocl (by omega)) (on0 (by omega)) (show d + 1 < 9 by omega), Option.bind_some]
  have k : Kz (fun k => k = 35) (fun j => j = 11) S (sA (sF S 35 (Int32.ofNat (d + 1))) 11 (d + 1) (vp_nar .boolean 0)) := ⟨fun i q => sF_ne q, rfl, fun j q => sA_ne q⟩
  refine ⟨_, rfl, ⟨⟨(k.1 17 (by decide)).trans h1.1, by rw [k.2.2 4 (by decide)]; exact h1.2⟩, (k.1 14 (by decide)).trans h2, (k.1 15 (by decide)).trans h3, show (sF S 35 (Int32.ofNat (d + 1))).1 35 = _ from sF_at, fun i hi => ?_, h6.ks k (by decide) (by decide), h7.ks k (by decide) (by decide), h8, h9.tr k (fun i q => by omega) (fun j q => by omega)⟩, tk.kz k (fun i q => by omega), hp, hb⟩
  rw [sA_at]
  unfold upd
  by_cases q : i = d + 1
  · rw [if_pos q, if_pos q]; decide
  · rw [if_neg q, if_neg q]; exact h5 i (by omega)
theorem pE0_no {t : Tpe} {ms : List Nat} (p : Nat) (e : Ex) (q : Nat) : pE t ms 0 p ≠ .inr (e, q) := by
  unfold pE
  split <;> exact fun h => by cases h
section RE
variable {t : Tpe} (h7 : t.2 ≤ 700) (hc : ∀ k, t.1 k < 256) {S0 : MS} {ms : List Nat} (hm : mayOK S0 ms)
theorem r_E (h7 : t.2 ≤ 700) (hc : ∀ k, t.1 k < 256) (hm : mayOK S0 ms) : ∀ r d, d + r = 6 → ∀ (p : Nat) (S : MS) (F : Nat → Int32) (W C : List Nat) (Q : MS → Prop), RX S0 S t p d F W C → Low 1 W → Kon S0 t (d + 1) (upd F (d + 1) 0) W C 1 (StO t) Q (pE t ms r p) → OE t p S Q := by
  intro r
  induction r with
  | zero =>
    intro d hr p S F W C Q h hW K
    have hd : d = 6 := by omega
    subst hd
    have go : ∀ k, 0 < k → k < 10 → pE t ms 0 p = .inl (k, tB t p) → m_deeper S = m_deeper_61 (Int32.ofNat k) S → OE t p S Q := by
      intro k k0 k1 hp hm
      obtain ⟨S1, e1, r1⟩ := h.rb k0 k1 h7
      obtain ⟨R, hR, eR⟩ := r1.lp (K.1 k (tB t p) hp)
      refine ⟨R, hR, fun m1 m2 q1 q2 => ?_⟩
      rw [hm]
      unfold m_deeper_61
      rw [e1, Option.bind_some, Option.bind_some, e_op4B r1.nb (by omega), Option.bind_some]
      exact eR m2 (by omega)
    have s40 : m_isSign 40 S = some (if sgi t p 40 then 1 else 0) := h.sg hc (c := 40) (by decide)
    have d0 : m_deeper S = if tS t p = 2 then m_deeper_61 2 S else if tS t p = 1 then m_deeper_61 2 S else if sgi t p 40 then m_deeper_61 2 S else m_deeper_61 1 S := by
      unfold m_deeper m_deeper_56
      rw [h.1.2.2.2.1, if_pos (by decide), h.2.1.2.1, s40]
      by_cases s2 : tS t p = 2
      · rw [if_pos s2, if_pos (show Int32.ofNat (tS t p) = 2 by rw [s2]; rfl)]
      · rw [if_neg s2, if_neg (show ¬ Int32.ofNat (tS t p) = 2 from fun q => s2 ((tS_ne (k := 2) (by decide)).mp q))]
        by_cases s1 : tS t p = 1
        · rw [if_pos s1, if_pos (show Int32.ofNat (tS t p) = 1 by rw [s1]; rfl)]
        · rw [if_neg s1, if_neg (show ¬ Int32.ofNat (tS t p) = 1 from fun q => s1 ((tS_ne (k := 1) (by decide)).mp q)), Option.bind_some]
          by_cases c : sgi t p 40
          · rw [if_pos c, if_pos c, if_neg (by decide)]
          · rw [if_neg c, if_neg c, if_pos rfl]
    by_cases c : pstart t p
    · refine go 2 (by decide) (by decide) (if_pos c) ?_
      rw [d0]
      rcases c with c | c | c
      · rw [if_pos c]; rfl
      · rw [if_neg (by omega), if_pos c]; rfl
      · have := c.1
        rw [if_neg (by omega), if_neg (by omega), if_pos c]; rfl
    · refine go 1 (by decide) (by decide) (if_neg c) ?_
      rw [d0, if_neg (fun q => c (Or.inl q)), if_neg (fun q => c (Or.inr (Or.inl q))), if_neg (fun q => c (Or.inr (Or.inr q)))]; rfl
  | succ r ih =>
    intro d hr p S F W C Q h hW K
    obtain ⟨S1, e1, x1⟩ := r_deeper h (by omega)
    have op1 : Op t p 1 S1 Q := by
      unfold pE at K
      have hP : ∀ p S F W C Q s x2, RX S0 S t p (d + 1) F W C → Kon S0 t (d + 1) F W C s (fun _ f => f = F (d + 1)) Q (pPart t ms (pE t ms r) p) → O75 t p x2 S Q := fun p S F W C Q s x2 hx k =>
        r_part h7 hc hm (pE_fw r) (by omega) (by omega) (fun p S F C W Q hx k _ => ih (d + 1) (by omega) p S F (W ++ [14]) C Q hx (Low.op (by decide) (Or.inl rfl)) k)
          (fun d6 p S F C W Q hx k => ih (d + 1) (by omega) p S F (W ++ [14]) C Q hx (Low.op (by decide) (Or.inl rfl)) ⟨k, fun e q r' => by
            have r0 : r = 0 := by omega
            subst r0
            exact absurd r' (pE0_no _ _ _)⟩)
          (fun d6 p e q => by
            have r0 : r = 0 := by omega
            subst r0
            exact pE0_no _ _ _) hx k x2
      by_cases c : pstart t p
      · rw [if_pos c] at K
        exact r_or h7 hc (by omega) (pE_fw r) hP p S1 _ W C Q x1 hW upd_at K
      · rw [if_neg c] at K
        -- no start: the part says so
        have s2 : ¬ tS t p = 2 := fun q => c (Or.inl q)
        have s1 : ¬ tS t p = 1 := fun q => c (Or.inr (Or.inl q))
        have s4 : ¬ sgi t p 40 := fun q => c (Or.inr (Or.inr q))
        refine Op.n h7 hc x1 (On.n h7 hc x1 (fun q => s1 ((kw_iff (by decide)).mp q).1) (by decide) fun x2 => hP p S1 _ W C Q 1 x2 x1 ?_)
        have e : pPart t ms (pE t ms r) p = .inl (1, tB t p) := by
          unfold pPart
          rw [if_neg s2, if_neg s4, if_neg s1]
        rw [e]
        exact ⟨K.1, fun e q r' => by cases r'⟩
    obtain ⟨R, hR, eR⟩ := op1
    refine ⟨R, hR, fun m1 m2 q1 q2 => ?_⟩
    rw [e1, Option.bind_some]
    exact eR m1 m2 q1 q2
end RE
