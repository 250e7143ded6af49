/-! plain law: the reference's steps at an operator -/
set_option maxRecDepth 100000
section RE
variable {t : Tpe} (h7 : t.2 ≤ 700) (hc : ∀ k, t.1 k < 256) {S0 S : MS} {p d s : Nat} {F : Nat → Int32} {W C V : List Nat}
theorem RX.adv (h7 : t.2 ≤ 700) (hc : ∀ k, t.1 k < 256) (h : RX S0 S t p d F (W ++ V.reverse) C) (hs : s < 7) (hW : Low s W) (hv : ∀ v ∈ V, v < 14 ∧ s ≤ stg v) {o : Nat} (ho : o < 15) (h0 : tS t p ≠ 0) : ∃ S1 S2 S3, m_drops (Int32.ofNat s) S = some S1 ∧ TkM S1 t p ∧ m_waitsFor (Int32.ofNat o) S1 = some S2 ∧ m_goes S2 = some S3 ∧ RX S0 S3 t (tE t p) d F (W ++ [o]) (C ++ V) := by
  obtain ⟨hf1, hf2⟩ := tE_fw h.2.2.1 h0
  obtain ⟨b1, b2⟩ := h.2.2.2
  rw [List.length_append, List.length_reverse] at b1 b2
  have hp := h.2.2.1
  obtain ⟨S1, e1, y1, k1⟩ := h.1.dr hs hW (by omega) (by omega) hv
  obtain ⟨S2, e2, y2, k2⟩ := y1.kz34 ho (by omega)
  have t1 := h.2.1.kz k1 (fun i q => by omega)
  have t2 := t1.kz k2 (fun i q => by omega)
  obtain ⟨S3, e3, x3⟩ := y2.go h7 hc (p := tE t p) t2.1 hf2 ⟨by rw [List.length_append, List.length_append]; simp -implicitDefEqProofs only [List.length_singleton]; omega, by rw [List.length_append]; simp -implicitDefEqProofs only [List.length_singleton]; omega⟩
  exact ⟨S1, S2, S3, e1, t1, e2, e3, x3⟩
theorem RX.advF (h7 : t.2 ≤ 700) (hc : ∀ k, t.1 k < 256) (h : RX S0 S t p d F (W ++ V.reverse) C) (hs : s < 7) (hW : Low s W) (hv : ∀ v ∈ V, v < 14 ∧ s ≤ stg v) {o : Nat} (ho : o < 15) (h0 : tS t p ≠ 0) (hd : d ≤ 6) (fl : Int32) : ∃ S1 S2 S2' S3, m_drops (Int32.ofNat s) S = some S1 ∧ TkM S1 t p ∧ m_waitsFor (Int32.ofNat o) S1 = some S2 ∧ wrA S2 11 (S2.1 35) fl = some S2' ∧ m_goes S2' = some S3 ∧ RX S0 S3 t (tE t p) d (upd F d fl) (W ++ [o]) (C ++ V) := by
  obtain ⟨hf1, hf2⟩ := tE_fw h.2.2.1 h0
  obtain ⟨b1, b2⟩ := h.2.2.2
  rw [List.length_append, List.length_reverse] at b1 b2
  have hp := h.2.2.1
  obtain ⟨S1, e1, y1, k1⟩ := h.1.dr hs hW (by omega) (by omega) hv
  obtain ⟨S2, e2, y2, k2⟩ := y1.kz34 ho (by omega)
  obtain ⟨S2', e2', y2', k2'⟩ := y2.fl hd fl
  have t1 := h.2.1.kz k1 (fun i q => by omega)
  have t2 := t1.kz k2 (fun i q => by omega)
  have t2' := t2.kz k2' (fun i q => q.elim)
  obtain ⟨S3, e3, x3⟩ := y2'.go h7 hc (p := tE t p) t2'.1 hf2 ⟨by rw [List.length_append, List.length_append]; simp -implicitDefEqProofs only [List.length_singleton]; omega, by rw [List.length_append]; simp -implicitDefEqProofs only [List.length_singleton]; omega⟩
  exact ⟨S1, S2, S2', S3, e1, t1, e2, e2', e3, x3⟩
theorem sgn_kw {c j : Nat} (h : sgi t p c) (hj : j < 18) : ¬ kw t p = j := fun q => by
  have := ((kw_iff hj).mp q).1
  rw [h.1] at this
  exact absurd this (by decide)
theorem sgn_ne {c c2 : Nat} (h : sgi t p c) (hn : c ≠ c2) : ¬ sgi t p c2 := fun q => hn (h.2.symm.trans q.2)
theorem step_A (h7 : t.2 ≤ 700) (hc : ∀ k, t.1 k < 256) (h : RX S0 S t p d F (W ++ V.reverse) C) (hd : d ≤ 6) (hW : Low 2 W) (hv : ∀ v ∈ V, v < 14 ∧ 2 ≤ stg v) (hk : kw t p = 15) {Q : MS → Prop} (K : ∀ S1, RX S0 S1 t (tE t p) d (upd F d 0) (W ++ [4]) (C ++ V) → Op t (tE t p) 1 S1 Q) : Lp t p S Q := by
  obtain ⟨S1, S2, S2', S3, e1, t1, e2, e2', e3, x3⟩ := h.advF h7 hc (s := 2) (by decide) hW hv (o := 4) (by decide) (kw_0 (by decide) hk) hd 0
  obtain ⟨R, hR, eR⟩ := K S3 x3
  have e1 : m_drops 2 S = some S1 := e1
  have e2 : m_waitsFor 4 S1 = some S2 := e2
  have e2' : wrA S2 11 (S2.1 35) (vp_nar .boolean 0) = some S2' := e2'
  obtain ⟨hf1, hf2⟩ := tE_fw h.2.2.1 (kw_0 (by decide) hk)
  refine ⟨R, hR, fun m hm => ?_⟩
  obtain ⟨m, rfl⟩ : ∃ k, m = k + 1 := ⟨m - 1, by omega⟩
  rw [← eR FU m (by show _ < 6000; omega) (by omega)]
  show m_expression_34_b (m_expression_34 m) 1 S = _
  unfold m_expression_34_b m_expression_62 m_expression_74 m_expression_89 m_expression_327
  have k15 : (if kw t p = 18 then (-1 : Int32) else Int32.ofNat (kw t p)) = 15 := (kwv (j := 15) (by decide)).mpr hk
  rw [if_neg (show ¬ (1 : Int32) = 0 by decide), h.good, Option.bind_some, if_neg (show ¬ (1 : Int32) = 0 by decide), h.kn h7, Option.bind_some, if_pos k15, if_pos k15, e1, Option.bind_some, if_pos k15, e2, Option.bind_some, e2', Option.bind_some, e3, Option.bind_some]
  rfl
theorem step_O (h7 : t.2 ≤ 700) (hc : ∀ k, t.1 k < 256) (h : RX S0 S t p d F (W ++ V.reverse) C) (hd : d ≤ 6) (hW : Low 1 W) (hv : ∀ v ∈ V, v < 14 ∧ 1 ≤ stg v) (hk : kw t p = 16) {Q : MS → Prop} (K : ∀ S1, RX S0 S1 t (tE t p) d (upd F d 0) (W ++ [5]) (C ++ V) → Op t (tE t p) 1 S1 Q) : Lp t p S Q := by
  obtain ⟨S1, S2, S2', S3, e1, t1, e2, e2', e3, x3⟩ := h.advF h7 hc (s := 1) (by decide) hW hv (o := 5) (by decide) (kw_0 (by decide) hk) hd 0
  obtain ⟨R, hR, eR⟩ := K S3 x3
  have e1 : m_drops 1 S = some S1 := e1
  have e2 : m_waitsFor 5 S1 = some S2 := e2
  have e2' : wrA S2 11 (S2.1 35) (vp_nar .boolean 0) = some S2' := e2'
  obtain ⟨hf1, hf2⟩ := tE_fw h.2.2.1 (kw_0 (by decide) hk)
  have k15 : ¬ kw t p = 15 := by omega
  refine ⟨R, hR, fun m hm => ?_⟩
  obtain ⟨m, rfl⟩ : ∃ k, m = k + 1 := ⟨m - 1, by omega⟩
  rw [← eR FU m (by show _ < 6000; omega) (by omega)]
  show m_expression_34_b (m_expression_34 m) 1 S = _
  unfold m_expression_34_b m_expression_62 m_expression_74 m_expression_89 m_expression_327
  have n15 : ¬ (if kw t p = 18 then (-1 : Int32) else Int32.ofNat (kw t p)) = 15 := fun q => k15 ((kwv (j := 15) (by decide)).mp q)
  rw [if_neg (show ¬ (1 : Int32) = 0 by decide), h.good, Option.bind_some, if_neg (show ¬ (1 : Int32) = 0 by decide), h.kn h7, Option.bind_some, if_neg n15, if_pos (show (if kw t p = 18 then (-1 : Int32) else Int32.ofNat (kw t p)) = 16 from (kwv (j := 16) (by decide)).mpr hk), if_neg n15, e1, Option.bind_some, if_neg n15, e2, Option.bind_some, e2', Option.bind_some, e3, Option.bind_some]
  rfl
/-- the signs -/
theorem e_34S (h7 : t.2 ≤ 700) (hc : ∀ k, t.1 k < 256) (h : RX S0 S t p d F W C) (h15 : ¬ kw t p = 15) (h16 : ¬ kw t p = 16) (m : Nat) : m_expression_34 (m + 1) 1 S = if sgi t p 60 ∨ sgi t p 61 then m_expression_132 (m_expression_34 m) 1 S else m_expression_191 (m_expression_34 m) 1 S := by
  show m_expression_34_b (m_expression_34 m) 1 S = _
  unfold m_expression_34_b
  have n15 : ¬ (if kw t p = 18 then (-1 : Int32) else Int32.ofNat (kw t p)) = 15 := fun q => h15 ((kwv (j := 15) (by decide)).mp q)
  have n16 : ¬ (if kw t p = 18 then (-1 : Int32) else Int32.ofNat (kw t p)) = 16 := fun q => h16 ((kwv (j := 16) (by decide)).mp q)
  have s60 : m_isSign 60 S = some (if sgi t p 60 then 1 else 0) := h.sg hc (c := 60) (by decide)
  have s61 : m_isSign 61 S = some (if sgi t p 61 then 1 else 0) := h.sg hc (c := 61) (by decide)
  rw [if_neg (show ¬ (1 : Int32) = 0 by decide), h.good, Option.bind_some, if_neg (show ¬ (1 : Int32) = 0 by decide), h.kn h7, Option.bind_some, if_neg n15, if_neg n16, s60, s61, Option.bind_some, Option.bind_some]
  by_cases c1 : sgi t p 60
  · rw [if_pos c1, if_pos (Or.inl c1), if_neg (show ¬ (1 : Int32) = 0 by decide)]
  · rw [if_neg c1, if_pos rfl]
    by_cases c2 : sgi t p 61
    · rw [if_pos c2, if_pos (Or.inr c2), if_neg (show ¬ (1 : Int32) = 0 by decide)]
    · rw [if_neg c2, if_pos rfl, if_neg (fun q => q.elim c1 c2)]
theorem e_191 (h7 : t.2 ≤ 700) (hc : ∀ k, t.1 k < 256) (h : RX S0 S t p d F W C) (k : Int32 → MS → Option MS) : m_expression_191 k 1 S = if sgi t p 43 ∨ sgi t p 45 then m_expression_209 k 1 S else if sgi t p 42 ∨ sgi t p 47 then m_expression_264 k 1 S else if sgi t p 41 then ((m_isOpened S).bind fun q => if q = 0 then k 0 S else (m_closes S).bind fun q2 => k 1 q2) else k 0 S := by
  unfold m_expression_191 m_expression_325 m_expression_327
  have s43 : m_isSign 43 S = some (if sgi t p 43 then 1 else 0) := h.sg hc (c := 43) (by decide)
  have s45 : m_isSign 45 S = some (if sgi t p 45 then 1 else 0) := h.sg hc (c := 45) (by decide)
  have s42 : m_isSign 42 S = some (if sgi t p 42 then 1 else 0) := h.sg hc (c := 42) (by decide)
  have s47 : m_isSign 47 S = some (if sgi t p 47 then 1 else 0) := h.sg hc (c := 47) (by decide)
  have s41 : m_isSign 41 S = some (if sgi t p 41 then 1 else 0) := h.sg hc (c := 41) (by decide)
  rw [s43, s45, s42, s47, s41]
  have n10 : ¬ (1 : Int32) = 0 := by decide
  simp -implicitDefEqProofs only [Option.bind_some]
  by_cases c1 : sgi t p 43
  · rw [if_pos c1, if_neg n10, if_pos (Or.inl c1)]
  · rw [if_neg c1, if_pos rfl]
    by_cases c2 : sgi t p 45
    · rw [if_pos c2, if_neg n10, if_pos (Or.inr c2)]
    · rw [if_neg c2, if_pos rfl, if_neg (show ¬ (sgi t p 43 ∨ sgi t p 45) from fun q => q.elim c1 c2)]
      by_cases c3 : sgi t p 42
      · rw [if_pos c3, if_neg n10, if_pos (Or.inl c3)]
      · rw [if_neg c3, if_pos rfl]
        by_cases c4 : sgi t p 47
        · rw [if_pos c4, if_neg n10, if_pos (Or.inr c4)]
        · rw [if_neg c4, if_pos rfl, if_neg (show ¬ (sgi t p 42 ∨ sgi t p 47) from fun q => q.elim c3 c4)]
          by_cases c5 : sgi t p 41
          · rw [if_pos c5, if_neg n10, if_pos c5]
          · rw [if_neg c5, if_pos rfl, if_neg c5]
theorem e_132 (h7 : t.2 ≤ 700) (hc : ∀ k, t.1 k < 256) (h : RX S0 S t p d F W C) (hd : d ≤ 6) (k : Int32 → MS → Option MS) : m_expression_132 k 1 S = if F d = 0 then ((m_drops 4 S).bind fun q => (m_isSign 60 q).bind fun v => if v = 0 then m_expression_166 k 1 7 q else m_expression_166 k 1 6 q) else m_expression_191 k 1 S := by
  unfold m_expression_132
  rw [h.1.2.2.2.1, rdA_n (ocl (by omega)) (on0 (by omega)) (show d < 9 by omega), h.1.2.2.2.2.1 d (Nat.le_refl _), Option.bind_some]
theorem opM_i {o : Nat} (h : opM t p = some o) : (sgi t p 42 ∧ o = 10) ∨ (sgi t p 47 ∧ o = 11) := by
  unfold opM at h
  split at h
  · exact Or.inl ⟨by assumption, (Option.some.inj h).symm⟩
  · split at h
    · exact Or.inr ⟨by assumption, (Option.some.inj h).symm⟩
    · cases h
theorem opS_i {o : Nat} (h : opS t p = some o) : (sgi t p 43 ∧ o = 8) ∨ (sgi t p 45 ∧ o = 9) := by
  unfold opS at h
  split at h
  · exact Or.inl ⟨by assumption, (Option.some.inj h).symm⟩
  · split at h
    · exact Or.inr ⟨by assumption, (Option.some.inj h).symm⟩
    · cases h
theorem opC_i {o : Nat} (h : opC t p = some o) : (sgi t p 60 ∧ o = 6) ∨ (sgi t p 61 ∧ o = 7) := by
  unfold opC at h
  split at h
  · exact Or.inl ⟨by assumption, (Option.some.inj h).symm⟩
  · split at h
    · exact Or.inr ⟨by assumption, (Option.some.inj h).symm⟩
    · cases h
theorem opM_n (h : opM t p = none) : ¬ sgi t p 42 ∧ ¬ sgi t p 47 := by
  unfold opM at h
  by_cases c : sgi t p 42
  · rw [if_pos c] at h; cases h
  · rw [if_neg c] at h
    by_cases c2 : sgi t p 47
    · rw [if_pos c2] at h; cases h
    · exact ⟨c, c2⟩
theorem opS_n (h : opS t p = none) : ¬ sgi t p 43 ∧ ¬ sgi t p 45 := by
  unfold opS at h
  by_cases c : sgi t p 43
  · rw [if_pos c] at h; cases h
  · rw [if_neg c] at h
    by_cases c2 : sgi t p 45
    · rw [if_pos c2] at h; cases h
    · exact ⟨c, c2⟩
theorem opC_n (h : opC t p = none) : ¬ sgi t p 60 ∧ ¬ sgi t p 61 := by
  unfold opC at h
  by_cases c : sgi t p 60
  · rw [if_pos c] at h; cases h
  · rw [if_neg c] at h
    by_cases c2 : sgi t p 61
    · rw [if_pos c2] at h; cases h
    · exact ⟨c, c2⟩
theorem step_M (h7 : t.2 ≤ 700) (hc : ∀ k, t.1 k < 256) (h : RX S0 S t p d F (W ++ V.reverse) C) (hW : Low 6 W) (hv : ∀ v ∈ V, v < 14 ∧ 6 ≤ stg v) {o : Nat} (hk : opM t p = some o) {Q : MS → Prop} (K : ∀ S1, RX S0 S1 t (tE t p) d F (W ++ [o]) (C ++ V) → Op t (tE t p) 0 S1 Q) : Lp t p S Q := by
  have ho : o < 15 := by rcases opM_i hk with ⟨_, q⟩ | ⟨_, q⟩ <;> omega
  obtain ⟨S1, S2, S3, e1, t1, e2, e3, x3⟩ := h.adv h7 hc (s := 6) (by decide) hW hv ho (opM_f _ _ hk)
  obtain ⟨R, hR, eR⟩ := K S3 x3
  have e1 : m_drops 6 S = some S1 := e1
  obtain ⟨hf1, hf2⟩ := tE_fw h.2.2.1 (opM_f _ _ hk)
  have s42 : m_isSign 42 S1 = some (if sgi t p 42 then 1 else 0) := r_isSign t1 (hc _) (c := 42) (by decide)
  refine ⟨R, hR, fun m hm => ?_⟩
  obtain ⟨m, rfl⟩ : ∃ k, m = k + 1 := ⟨m - 1, by omega⟩
  rw [← eR FU m (by show _ < 6000; omega) (by omega)]
  have n10 : ¬ (1 : Int32) = 0 := by decide
  rcases opM_i hk with ⟨q, qo⟩ | ⟨q, qo⟩
  · subst qo
    have e2 : m_waitsFor 10 S1 = some S2 := e2
    rw [e_34S h7 hc h (sgn_kw q (by decide)) (sgn_kw q (by decide)), if_neg (fun r => r.elim (sgn_ne q (by decide)) (sgn_ne q (by decide))), e_191 h7 hc h, if_neg (fun r => r.elim (sgn_ne q (by decide)) (sgn_ne q (by decide))), if_pos (Or.inl q)]
    unfold m_expression_264 m_expression_287 m_expression_327
    rw [e1, Option.bind_some, s42, if_pos q, Option.bind_some, if_neg n10, e2, Option.bind_some, e3, Option.bind_some]
    rfl
  · subst qo
    have e2 : m_waitsFor 11 S1 = some S2 := e2
    rw [e_34S h7 hc h (sgn_kw q (by decide)) (sgn_kw q (by decide)), if_neg (fun r => r.elim (sgn_ne q (by decide)) (sgn_ne q (by decide))), e_191 h7 hc h, if_neg (fun r => r.elim (sgn_ne q (by decide)) (sgn_ne q (by decide))), if_pos (Or.inr q)]
    unfold m_expression_264 m_expression_287 m_expression_327
    rw [e1, Option.bind_some, s42, if_neg (sgn_ne q (by decide)), Option.bind_some, if_pos rfl, e2, Option.bind_some, e3, Option.bind_some]
    rfl
theorem step_S (h7 : t.2 ≤ 700) (hc : ∀ k, t.1 k < 256) (h : RX S0 S t p d F (W ++ V.reverse) C) (hW : Low 5 W) (hv : ∀ v ∈ V, v < 14 ∧ 5 ≤ stg v) {o : Nat} (hk : opS t p = some o) {Q : MS → Prop} (K : ∀ S1, RX S0 S1 t (tE t p) d F (W ++ [o]) (C ++ V) → Op t (tE t p) 0 S1 Q) : Lp t p S Q := by
  have ho : o < 15 := by rcases opS_i hk with ⟨_, q⟩ | ⟨_, q⟩ <;> omega
  obtain ⟨S1, S2, S3, e1, t1, e2, e3, x3⟩ := h.adv h7 hc (s := 5) (by decide) hW hv ho (opS_f _ _ hk)
  obtain ⟨R, hR, eR⟩ := K S3 x3
  have e1 : m_drops 5 S = some S1 := e1
  obtain ⟨hf1, hf2⟩ := tE_fw h.2.2.1 (opS_f _ _ hk)
  have s43 : m_isSign 43 S1 = some (if sgi t p 43 then 1 else 0) := r_isSign t1 (hc _) (c := 43) (by decide)
  refine ⟨R, hR, fun m hm => ?_⟩
  obtain ⟨m, rfl⟩ : ∃ k, m = k + 1 := ⟨m - 1, by omega⟩
  rw [← eR FU m (by show _ < 6000; omega) (by omega)]
  have n10 : ¬ (1 : Int32) = 0 := by decide
  rcases opS_i hk with ⟨q, qo⟩ | ⟨q, qo⟩
  · subst qo
    have e2 : m_waitsFor 8 S1 = some S2 := e2
    rw [e_34S h7 hc h (sgn_kw q (by decide)) (sgn_kw q (by decide)), if_neg (fun r => r.elim (sgn_ne q (by decide)) (sgn_ne q (by decide))), e_191 h7 hc h, if_pos (Or.inl q)]
    unfold m_expression_209 m_expression_231 m_expression_327
    rw [e1, Option.bind_some, s43, if_pos q, Option.bind_some, if_neg n10, e2, Option.bind_some, e3, Option.bind_some]
    rfl
  · subst qo
    have e2 : m_waitsFor 9 S1 = some S2 := e2
    rw [e_34S h7 hc h (sgn_kw q (by decide)) (sgn_kw q (by decide)), if_neg (fun r => r.elim (sgn_ne q (by decide)) (sgn_ne q (by decide))), e_191 h7 hc h, if_pos (Or.inr q)]
    unfold m_expression_209 m_expression_231 m_expression_327
    rw [e1, Option.bind_some, s43, if_neg (sgn_ne q (by decide)), Option.bind_some, if_pos rfl, e2, Option.bind_some, e3, Option.bind_some]
    rfl
theorem step_C (h7 : t.2 ≤ 700) (hc : ∀ k, t.1 k < 256) (h : RX S0 S t p d F (W ++ V.reverse) C) (hd : d ≤ 6) (hF : F d = 0) (hW : Low 4 W) (hv : ∀ v ∈ V, v < 14 ∧ 4 ≤ stg v) {o : Nat} (hk : opC t p = some o) {Q : MS → Prop} (K : ∀ S1, RX S0 S1 t (tE t p) d (upd F d 1) (W ++ [o]) (C ++ V) → Op t (tE t p) 0 S1 Q) : Lp t p S Q := by
  have ho : o < 15 := by rcases opC_i hk with ⟨_, q⟩ | ⟨_, q⟩ <;> omega
  obtain ⟨S1, S2, S2', S3, e1, t1, e2, e2', e3, x3⟩ := h.advF h7 hc (s := 4) (by decide) hW hv ho (opC_f _ _ hk) hd 1
  obtain ⟨R, hR, eR⟩ := K S3 x3
  have e1 : m_drops 4 S = some S1 := e1
  have e2' : wrA S2 11 (S2.1 35) (vp_nar .boolean 1) = some S2' := e2'
  obtain ⟨hf1, hf2⟩ := tE_fw h.2.2.1 (opC_f _ _ hk)
  have s60 : m_isSign 60 S1 = some (if sgi t p 60 then 1 else 0) := r_isSign t1 (hc _) (c := 60) (by decide)
  refine ⟨R, hR, fun m hm => ?_⟩
  obtain ⟨m, rfl⟩ : ∃ k, m = k + 1 := ⟨m - 1, by omega⟩
  rw [← eR FU m (by show _ < 6000; omega) (by omega)]
  have n10 : ¬ (1 : Int32) = 0 := by decide
  rcases opC_i hk with ⟨q, qo⟩ | ⟨q, qo⟩
  · subst qo
    have e2 : m_waitsFor 6 S1 = some S2 := e2
    rw [e_34S h7 hc h (sgn_kw q (by decide)) (sgn_kw q (by decide)), if_pos (Or.inl q), e_132 h7 hc h hd, if_pos hF]
    unfold m_expression_166 m_expression_327
    rw [e1, Option.bind_some, s60, if_pos q, Option.bind_some, if_neg n10, e2, Option.bind_some, e2', Option.bind_some, e3, Option.bind_some]
    rfl
  · subst qo
    have e2 : m_waitsFor 7 S1 = some S2 := e2
    rw [e_34S h7 hc h (sgn_kw q (by decide)) (sgn_kw q (by decide)), if_pos (Or.inr q), e_132 h7 hc h hd, if_pos hF]
    unfold m_expression_166 m_expression_327
    rw [e1, Option.bind_some, s60, if_neg (sgn_ne q (by decide)), Option.bind_some, if_pos rfl, e2, Option.bind_some, e2', Option.bind_some, e3, Option.bind_some]
    rfl
/-- no operator stands here -/
def StO (t : Tpe) (p : Nat) (f : Int32) : Prop := opM t p = none ∧ opS t p = none ∧ (f = 1 ∨ (f = 0 ∧ opC t p = none)) ∧ opA t p = none ∧ opO t p = none
theorem opA_n (h : opA t p = none) : ¬ kw t p = 15 := fun q => by
  unfold opA at h
  rw [if_pos q] at h; cases h
theorem opO_n (h : opO t p = none) : ¬ kw t p = 16 := fun q => by
  unfold opO at h
  rw [if_pos q] at h; cases h
theorem lp_stop (h7 : t.2 ≤ 700) (hc : ∀ k, t.1 k < 256) (h : RX S0 S t p d F W C) (hd : d ≤ 6) (st : StO t p (F d)) (m : Nat) : m_expression_34 (m + 1) 1 S = if sgi t p 41 then ((m_isOpened S).bind fun q => if q = 0 then m_expression_34 m 0 S else (m_closes S).bind fun q2 => m_expression_34 m 1 q2) else m_expression_34 m 0 S := by
  obtain ⟨s1, s2, s3, s4, s5⟩ := st
  have a1 := opM_n s1
  have a2 := opS_n s2
  rw [e_34S h7 hc h (opA_n s4) (opO_n s5)]
  have e : m_expression_191 (m_expression_34 m) 1 S = _ := e_191 h7 hc h (m_expression_34 m)
  rw [if_neg (fun r => r.elim a2.1 a2.2), if_neg (fun r => r.elim a1.1 a1.2)] at e
  by_cases c : sgi t p 60 ∨ sgi t p 61
  · rw [if_pos c, e_132 h7 hc h hd]
    rcases s3 with s3 | ⟨s3, s6⟩
    · rw [if_neg (by rw [s3]; decide), e]
    · have := opC_n s6
      exact absurd c fun r => r.elim this.1 this.2
  · rw [if_neg c, e]
end RE
