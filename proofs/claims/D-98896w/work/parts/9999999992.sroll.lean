/-! plain law: the system's roll, read -/
set_option maxRecDepth 100000
section SR
variable {G : xG} {t : Tpe} {tp o : Nat} {Tb : xF} {own : Nat → Nat}
abbrev fxN (N o : Nat) : Fx := (N + 1, N + 4, N + 9, N + 10, N + 11, o)
theorem e_rollread (hb : Cx G Tb t (fxN Tb.2.1 o) tp) (hst : StA G Tb) (hB : Fz own Tb (Bx G)) (hS : Fz own Tb (StA G)) (hown : ∀ x, own x = 11 → x < Tb.2.1) {H : xE → xF → Option ((Int32 ⊕ xE) × xF)} {K : Option Nat → xF → Option ((Int32 ⊕ xE) × xF)} {Q : Int32 ⊕ xE → xF → Prop}
    (hH : ∀ ex T k b, pRead t 702 Y0 0 = .inl (k, b) → Th T ex Tb.2.1 k b → frc (fun _ => False) Tb T → T.2.1 ≤ Tb.2.1 + 132 + 60 * t.2 → T.2.2 ≤ Tb.2.2 + 6573 + 3200 * t.2 → Rn T (H ex T) Q)
    (hK : ∀ T Y q ow, pRead t 702 Y0 0 = .inr Y → YA own G t (fxN Tb.2.1 o) tp Tb.2.1 Tb (Tb.2.1 + 2) (Tb.2.1 + 3) ow T Y q → YW Y → YV Y → T.2.1 ≤ Tb.2.1 + 132 + 60 * t.2 → T.2.2 ≤ Tb.2.2 + 6573 + 3200 * t.2 → Rn T (K (some (Tb.2.1 + 1)) T) Q) :
    Rn Tb (al (nO Tb 4 15 [.int 0, .null, .null, .null, .null, .null, .null, .int 0, .int 0, .int 0, .int 0, .int 0, .int 0, .int 0, .null]) fun T30 => cl (c_X5_init G (some Tb.2.1) (some o) (Int32.ofNat t.2) T30) T30 fun _ T36 => if ¬ isO T36 (some Tb.2.1) 4 = true then none else clH (c_X5_read G (some Tb.2.1) T36) T36 H K) Q := by
  have ho : o < Tb.2.1 := hb.2.1
  have hx : StrA G Tb := hb.2.2.2.1
  have h7 : t.2 ≤ 700 := hb.2.2.2.2.1
  refine Rn.al ⟨Nat.le_succ _, Nat.le_add_right _ _⟩ ?_
  refine Rn.cl (e_rinit (t := t) (o := o) hst hx ho) fun _ T36 _ ⟨g1, g2, g3, g4, g5, ⟨d, w, w', g6, g7, g8⟩, g9, g10, g11, g12⟩ => ?_
  rw [if_neg (not_not_intro g4.is)]
  have cx36 : Cx G T36 t (fxN Tb.2.1 o) tp := hb.old g1
  have od : own d = 11 := by
    obtain ⟨d0, d1, s1, s2, s3, s4, s5, s6⟩ := sta_own hS
    have := Option.some.inj (g6.1.symm.trans s1)
    rw [this]; exact s5
  have z0 : own0 Tb.2.1 Tb.2.1 = 20 := if_pos rfl
  have z1 : own0 Tb.2.1 (Tb.2.1 + 1) = 21 := by unfold own0; rw [if_neg (by omega), if_pos rfl]
  have z2 : own0 Tb.2.1 (Tb.2.1 + 2) = 23 := by unfold own0; rw [if_neg (by omega), if_neg (by omega), if_pos rfl]
  have z3 : own0 Tb.2.1 (Tb.2.1 + 3) = 25 := by unfold own0; rw [if_neg (by omega), if_neg (by omega), if_neg (by omega), if_pos rfl]
  have z4 : ∀ x, bk (Tb.2.1 + 4) x → own0 Tb.2.1 x = 22 := fun x q => by
    simp -implicitDefEqProofs only [bk] at q
    unfold own0
    rw [if_neg (by omega), if_neg (by omega), if_neg (by omega), if_neg (by omega), if_pos (by omega)]
  have z9 : ∀ x, Tb.2.1 + 9 ≤ x → own0 Tb.2.1 x = 27 := fun x q => by
    unfold own0
    rw [if_neg (by omega), if_neg (by omega), if_neg (by omega), if_neg (by omega), if_neg (by omega)]
  -- its first token, then its lines
  have rd : Rn T36 (c_X5_read G (some Tb.2.1) T36) (RS own G t (fxN Tb.2.1 o) tp Tb.2.1 Tb (Tb.2.1 + 2) (Tb.2.1 + 3) T36 0 (pRead t 702 Y0 0)) := by
    unfold c_X5_read
    rw [if_neg (not_not_intro g4.is)]
    refine Rn.cl (e_next cx36 (p := 0) g4 (Nat.zero_le _)) fun _ T1 _ ⟨f1, r1⟩ => ?_
    have l1 : T1.2 = T36.2 := f1.1
    have nm : ∀ {a : Nat} {is : List Nat}, NmA G T36 a is → a ≠ Tb.2.1 → NmA G T1 a is := fun {a is} h q => by
      obtain ⟨w, F, h1, h2⟩ := h
      exact ⟨w, F, (f1.2 a q).trans h1, h2⟩
    have ya : YA own G t (fxN Tb.2.1 o) tp Tb.2.1 Tb (Tb.2.1 + 2) (Tb.2.1 + 3) (own0 Tb.2.1) T1 Y0 0 := by
      refine ⟨⟨by rw [l1]; omega, fun x a b => (f1.2 x (by omega)).trans (g1.2 x a b)⟩, ⟨Tb.2.1 + 10, 0, r1, ce_none, Or.inl rfl⟩, ⟨by rw [l1]; omega, z0, Nat.le_refl _⟩, ⟨⟨nm g10 (show Tb.2.1 + 9 ≠ Tb.2.1 by omega), ?_, z9 _ (Nat.le_refl _), ?_⟩, ⟨nm g11 (show Tb.2.1 + 10 ≠ Tb.2.1 by omega), ?_, z9 _ ?_, ?_⟩, ⟨nm g12 (show Tb.2.1 + 11 ≠ Tb.2.1 by omega), ?_, z9 _ ?_, ?_⟩⟩, ⟨none, none, (f1.2 _ (by show Tb.2.1 + 1 ≠ Tb.2.1; omega)).trans g5, rfl, rfl⟩, ⟨?_, z1, ?_⟩, ⟨g9.lo fun x q => f1.2 x (by simp -implicitDefEqProofs only [bk] at q; omega), ?_, z4, ?_⟩, ⟨d, fun _ => 0, w, 0, g7.fr (f1.2 _ (by omega)) (f1.2 _ (by omega)), z2, by omega, Or.inr ⟨rfl, g6.2, od⟩, by rw [l1]; omega, by rw [l1]; omega, fun k hk => absurd hk (Nat.not_lt_zero k)⟩, ⟨d, fun _ => 0, w', 0, g8.fr (f1.2 _ (by omega)) (f1.2 _ (by omega)), z3, by omega, Or.inr ⟨rfl, g6.2, od⟩, by rw [l1]; omega, by rw [l1]; omega, fun k hk => absurd hk (Nat.not_lt_zero k)⟩⟩
      · show Tb.2.1 + 9 < T1.2.1
        rw [l1]; omega
      · show Tb.2.1 ≤ Tb.2.1 + 9
        omega
      · show Tb.2.1 + 10 < T1.2.1
        rw [l1]; omega
      · show Tb.2.1 + 9 ≤ Tb.2.1 + 10
        omega
      · show Tb.2.1 ≤ Tb.2.1 + 10
        omega
      · show Tb.2.1 + 11 < T1.2.1
        rw [l1]; omega
      · show Tb.2.1 + 9 ≤ Tb.2.1 + 11
        omega
      · show Tb.2.1 ≤ Tb.2.1 + 11
        omega
      · show Tb.2.1 + 1 < T1.2.1
        rw [l1]; omega
      · show Tb.2.1 ≤ Tb.2.1 + 1
        omega
      · show Tb.2.1 + 4 + 5 ≤ T1.2.1
        rw [l1]; omega
      · show Tb.2.1 ≤ Tb.2.1 + 4
        omega
    refine (e_read4 hb hst hB hown 702 FU Y0 0 T1 (own0 Tb.2.1) (by omega) (by decide) ya (Nat.zero_le _) Y0_w Y0_v (Nat.le_refl _)).mono fun v T' _ z => ?_
    cases v with
    | inl v =>
      obtain ⟨Y3, q3, ow3, h1, h2, h3, h4, h5, h6, h8⟩ := z
      rw [l1] at h6 h8
      exact ⟨Y3, q3, ow3, h1, h2, h3, h4, h5, h6, h8⟩
    | inr ex =>
      obtain ⟨k, b, h1, h2, h3, h6, h8⟩ := z
      rw [l1] at h6 h8
      exact ⟨k, b, h1, h2, h3, h6, h8⟩
  refine Rn.clH rd (fun v T2 _ z => ?_) (fun ex T2 _ z => ?_)
  · obtain ⟨Y3, q3, ow3, h1, h2, h3, h4, h5, h6, h8⟩ := z
    subst h2
    exact hK T2 Y3 q3 ow3 h1 h3 h4 h5 (by omega) (by omega)
  · obtain ⟨k, b, h1, h2, h3, h6, h8⟩ := z
    exact hH ex T2 k b h1 h2 h3 (by omega) (by omega)
end SR
