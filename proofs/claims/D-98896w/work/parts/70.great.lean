/-! plain law: which mould beats another, and the greatest one beside; on the system's side -/
set_option maxRecDepth 100000
theorem enc_ne : ∀ b, b < 30 → ¬ enc (some b) = -1 := by decide +kernel
theorem gstF_or {e : En} {g : Gw} {c i : Nat} (x : Option Nat) : gstF e g c i x = x ∨ gstF e g c i x = some i := by
  unfold gstF
  split
  · exact Or.inl rfl
  · split
    · split
      · exact Or.inl rfl
      · cases x with
        | none => exact Or.inr rfl
        | some b =>
          dsimp only
          split
          · exact Or.inl rfl
          · exact Or.inr rfl
    · exact Or.inl rfl
theorem gst_lt {e : En} {g : Gw} {c : Nat} : ∀ i b, itr (gstF e g c) i none = some b → b < i := by
  intro i
  induction i with
  | zero => intro b h; cases h
  | succ i ih =>
    intro b h
    have h2 : gstF e g c i (itr (gstF e g c) i none) = some b := h
    rcases gstF_or (e := e) (g := g) (c := c) (i := i) (itr (gstF e g c) i none) with k | k
    · rw [k] at h2
      have := ih b h2
      omega
    · rw [k] at h2
      cases h2
      omega
section GS
variable {E : Nat → Prop} {G : xG} {T T0 : xF} {o rl va bb a c d : Nat} {e : En} {g : Gw} {f : Nat → Int32}
theorem e_beats (ok : EnOK e) (hE0 : Ev (fun x => x = va) G T0 o rl va bb e) (hA0 : GrAt T0 a o g) (hV0 : VaAt T0 va f) (hva : ¬ bk a va) (hc : c < 30) (hd : d < 30) : Rn T0 (c_X3_beats G (some a) (Int32.ofNat c) (Int32.ofNat d) T0) fun v T' => v = bts e g c d ∧ frm (fun x => x = va) T0 T' ∧ ∃ f', VaAt T' va f' := by
  unfold c_X3_beats bts
  simp -implicitDefEqProofs only [hA0.o0, hA0.o1, hA0.o2, hA0.o3, hA0.o4, hA0.o5, hA0.is, hA0.ldD hc, hA0.ldF hc, hA0.ldK hc, hA0.ldZ hc, hA0.ldD hd, hA0.ldF hd, hA0.ldK hd, hA0.ldZ hd, hE0.val, hE0.rol, hE0.bef, hE0.isr, hE0.w, hE0.h, hE0.a, hE0.s, hE0.iso, hE0.cells ok, hE0.steps ok, Option.bind_some, not_true_eq_false, if_false, if_true]
  by_cases hk : gK g c = -1
  · rw [if_pos hk, if_pos hk]
    exact Rn.ret ⟨rfl, frm.rf, f, hV0⟩
  · rw [if_neg hk, if_neg hk]
    by_cases hk2 : gK g c = gK g d
    · rw [if_pos hk2, if_pos hk2]
      exact Rn.ret ⟨rfl, frm.rf, f, hV0⟩
    · rw [if_neg hk2, if_neg hk2]
      obtain ⟨fo, q1, q2⟩ := hE0.rb
      rw [q1, Option.bind_some]
      cases er : eRb e with
      | none =>
        rw [er] at q2
        rw [if_pos q2]
        dsimp only
        split
        · exact Rn.ret ⟨rfl, frm.rf, f, hV0⟩
        · exact Rn.ret ⟨rfl, frm.rf, f, hV0⟩
      | some r =>
    rw [er] at q2
    rw [if_neg q2.1]
    obtain ⟨T1, e1, f1, hV1⟩ := hV0.st (k := 0) (by decide) (gZ g c)
    have hA1 := hA0.fr f1 (fun x q1 q2 => hva (q2 ▸ q1))
    have hE1 := hE0.mono f1
    refine Rn.st e1 f1.le ?_
    simp -implicitDefEqProofs only [hA1.o0, hA1.o1, hA1.o2, hA1.o3, hA1.o4, hA1.o5, hA1.is, hA1.ldD hc, hA1.ldF hc, hA1.ldK hc, hA1.ldZ hc, hE1.val, hE1.rol, hE1.bef, hE1.isr, hE1.w, hE1.h, hE1.a, hE1.s, hE1.iso, hE1.cells ok, hE1.steps ok, Option.bind_some, not_true_eq_false, if_false, if_true, hA1.ldD hd, hA1.ldZ hd]
    obtain ⟨T2, e2, f2, hV2⟩ := hV1.st (k := 1) (by decide) (gZ g d)
    have hA2 := hA1.fr f2 (fun x q1 q2 => hva (q2 ▸ q1))
    have hE2 := hE1.mono f2
    refine Rn.st e2 f2.le ?_
    simp -implicitDefEqProofs only [hA2.o0, hA2.o1, hA2.o2, hA2.o3, hA2.o4, hA2.o5, hA2.is, hA2.ldD hc, hA2.ldF hc, hA2.ldK hc, hA2.ldZ hc, hE2.val, hE2.rol, hE2.bef, hE2.isr, hE2.w, hE2.h, hE2.a, hE2.s, hE2.iso, hE2.cells ok, hE2.steps ok, Option.bind_some, not_true_eq_false, if_false, if_true, hA2.ldD hd, hA2.ldZ hd, hE2.beside ok hA2 hc]
    obtain ⟨T3, e3, f3, hV3⟩ := hV2.st (k := 2) (by decide) (bes e g c 1)
    have hA3 := hA2.fr f3 (fun x q1 q2 => hva (q2 ▸ q1))
    have hE3 := hE2.mono f3
    refine Rn.st e3 f3.le ?_
    simp -implicitDefEqProofs only [hA3.o0, hA3.o1, hA3.o2, hA3.o3, hA3.o4, hA3.o5, hA3.is, hA3.ldD hc, hA3.ldF hc, hA3.ldK hc, hA3.ldZ hc, hE3.val, hE3.rol, hE3.bef, hE3.isr, hE3.w, hE3.h, hE3.a, hE3.s, hE3.iso, hE3.cells ok, hE3.steps ok, Option.bind_some, not_true_eq_false, if_false, if_true, hE3.beside ok hA3 hc]
    obtain ⟨T4, e4, f4, hV4⟩ := hV3.st (k := 3) (by decide) (bes e g c 0)
    have hA4 := hA3.fr f4 (fun x q1 q2 => hva (q2 ▸ q1))
    have hE4 := hE3.mono f4
    refine Rn.st e4 f4.le ?_
    simp -implicitDefEqProofs only [hA4.o0, hA4.o1, hA4.o2, hA4.o3, hA4.o4, hA4.o5, hA4.is, hA4.ldD hc, hA4.ldF hc, hA4.ldK hc, hA4.ldZ hc, hE4.val, hE4.rol, hE4.bef, hE4.isr, hE4.w, hE4.h, hE4.a, hE4.s, hE4.iso, hE4.cells ok, hE4.steps ok, Option.bind_some, not_true_eq_false, if_false, if_true, hA4.ldD hd, hA4.ldZ hd]
    obtain ⟨T5, e5, f5, hV5⟩ := hV4.st (k := 4) (by decide) (gD g d)
    have hA5 := hA4.fr f5 (fun x q1 q2 => hva (q2 ▸ q1))
    have hE5 := hE4.mono f5
    refine Rn.st e5 f5.le ?_
    obtain ⟨fo7, q17, q27⟩ := hE5.rb
    rw [er] at q27
    have F := (((f1.tr f2).tr f3).tr f4).tr f5
    have hr : r (upd (upd (upd (upd (upd f 0 (gZ g c)) 1 (gZ g d)) 2 (bes e g c 1)) 3 (bes e g c 0)) 4 (gD g d)) = r (bvals e g c d) := by
      refine ok.2.2.2.2.2.1 r er _ _ (fun k hk => ?_)
      have : k = 0 ∨ k = 1 ∨ k = 2 ∨ k = 3 ∨ k = 4 := by omega
      rcases this with rfl | rfl | rfl | rfl | rfl <;> simp [upd, bvals]
    simp -implicitDefEqProofs only [hA5.o0, hA5.o1, hA5.o2, hA5.o3, hA5.o4, hA5.o5, hA5.is, hE5.val, hE5.rol, hE5.bef, hE5.isr, hE5.w, hE5.h, hE5.a, hE5.s, hE5.iso, hE5.cells ok, hE5.steps ok, Option.bind_some, not_true_eq_false, if_false, if_true, q17, q27.2 _ hV5, hr]
    split
    · exact Rn.ret ⟨rfl, F, _, hV5⟩
    · exact Rn.ret ⟨rfl, F, _, hV5⟩
theorem e_greatest (ok : EnOK e) (hE : Ev (fun x => x = va) G T0 o rl va bb e) (hA : GrAt T0 a o g) (hV : VaAt T0 va f) (hva : ¬ bk a va) (hc : c < 30) : Rn T0 (c_X3_greatest G (some a) (Int32.ofNat c) T0) fun v T' => v = enc (gst e g c) ∧ frm (fun x => x = va) T0 T' ∧ ∃ f', VaAt T' va f' := by
  unfold c_X3_greatest
  have hn := ok.n30
  refine loop_rule (σ := Option Nat × xF) (N := eN e) (fun i s => s.1 = itr (gstF e g c) i none ∧ frm (fun x => x = va) T0 s.2 ∧ ∃ f', VaAt s.2 va f') (fun m i s => Rn s.2 (c_X3_greatest_4 G m (some a) (Int32.ofNat c) (enc s.1) (Int32.ofNat i) s.2) _) ?_ ?_ FU (by show eN e < 6000; omega) (none, T0) ⟨rfl, frm.rf, f, hV⟩
  · rintro m i ⟨b, T1⟩ hi ⟨hb, hf, f1, hV1⟩ K
    dsimp only at hb hf hV1 ⊢
    have hi3 : i < 30 := by omega
    have hA1 := hA.fr hf (fun x q1 q2 => hva (q2 ▸ q1))
    have hE1 := hE.mono hf
    have hle : ¬ Int32.ofNat (eN e) ≤ Int32.ofNat i := fun q => by have := (ofn_le (eN e) (by omega) i (by omega)).mp q; omega
    show Rn T1 (c_X3_greatest_4_b G (c_X3_greatest_4 G m) (some a) (Int32.ofNat c) (enc b) (Int32.ofNat i) T1) _
    unfold c_X3_greatest_4_b
    simp -implicitDefEqProofs only [hA1.o0, hA1.o1, hA1.o2, hA1.o3, hA1.o4, hA1.o5, hA1.is, hA1.ldD hi3, hA1.ldF hi3, hA1.ldK hi3, hA1.ldZ hi3, hA1.ldD hc, hA1.ldF hc, hA1.ldK hc, hA1.ldZ hc, hE1.val, hE1.rol, hE1.bef, hE1.isr, hE1.w, hE1.h, hE1.a, hE1.s, hE1.iso, hE1.cells ok, hE1.steps ok, Option.bind_some, not_true_eq_false, if_false, if_true, hle, c_X3_greatest_119, (ofn i (by omega)).2.2]
    have fin : ∀ T2 f2 b2, frm (fun x => x = va) T0 T2 → VaAt T2 va f2 → b2 = gstF e g c i b → Rn T2 (c_X3_greatest_4 G m (some a) (Int32.ofNat c) (enc b2) (Int32.ofNat (i + 1)) T2) fun v T' => v = enc (gst e g c) ∧ frm (fun x => x = va) T0 T' ∧ ∃ f', VaAt T' va f' := fun T2 f2 b2 h1 h2 h3 => K (b2, T2) ⟨by rw [h3, hb]; rfl, h1, f2, h2⟩
    by_cases hk : gK g i = -1
    · rw [if_pos hk]
      exact fin T1 f1 b hf hV1 (by unfold gstF; rw [if_pos hk])
    rw [if_neg hk]
    by_cases hs : stp (eW e) (Int32.ofNat i) (Int32.ofNat c) = 1
    · rw [if_pos hs]
      have hb90 : ∀ T2 f2 y, frm (fun x => x = va) T0 T2 → VaAt T2 va f2 → y = gdoes e g c i → Rn T2 (c_X3_greatest_90 G (c_X3_greatest_4 G m) (some a) (Int32.ofNat c) (enc b) (Int32.ofNat i) y T2) fun v T' => v = enc (gst e g c) ∧ frm (fun x => x = va) T0 T' ∧ ∃ f', VaAt T' va f' := by
        intro T2 f2 y h1 h2 h3
        have hA2 := hA.fr h1 (fun x q1 q2 => hva (q2 ▸ q1))
        unfold c_X3_greatest_90
        simp -implicitDefEqProofs only [c_X3_greatest_117, c_X3_greatest_119, (ofn i (by omega)).2.2]
        by_cases y0 : y = 0
        · rw [if_pos y0]
          exact fin T2 f2 b h1 h2 (by unfold gstF; rw [if_neg hk, if_pos hs, ← h3, if_pos y0])
        · rw [if_neg y0]
          cases b with
          | none =>
            rw [if_pos (show enc none = -1 from rfl)]
            exact fin T2 f2 (some i) h1 h2 (by unfold gstF; rw [if_neg hk, if_pos hs, ← h3, if_neg y0])
          | some b1 =>
            have hb1 : b1 < 30 := by have := gst_lt i b1 hb.symm; omega
            rw [if_neg (enc_ne b1 hb1)]
            have l1 : ldA T2 (some (a + 4)) .int (enc (some b1)) = some (gZ g b1) := hA2.ldZ hb1
            simp -implicitDefEqProofs only [hA2.o0, hA2.o1, hA2.o2, hA2.o3, hA2.o4, hA2.o5, hA2.is, hA2.ldD hi3, hA2.ldF hi3, hA2.ldK hi3, hA2.ldZ hi3, l1, Option.bind_some, not_true_eq_false, if_false, if_true]
            by_cases hz : gZ g i ≤ gZ g b1
            · rw [if_pos hz]
              exact fin T2 f2 (some b1) h1 h2 (by unfold gstF; rw [if_neg hk, if_pos hs, ← h3, if_neg y0]; dsimp only; rw [if_pos hz])
            · rw [if_neg hz]
              exact fin T2 f2 (some i) h1 h2 (by unfold gstF; rw [if_neg hk, if_pos hs, ← h3, if_neg y0]; dsimp only; rw [if_neg hz])
      by_cases hk2 : gK g c = -1
      · rw [if_pos hk2]
        have hgd : gdoes e g c i = if gZ g i < eS e then 0 else 1 := by unfold gdoes; rw [if_pos hk2]
        split
        · rename_i q
          exact hb90 T1 f1 0 hf hV1 (by rw [hgd, if_pos q])
        · rename_i q
          exact hb90 T1 f1 1 hf hV1 (by rw [hgd, if_neg q])
      · rw [if_neg hk2]
        have hgd : gdoes e g c i = bts e g i c := by unfold gdoes; rw [if_neg hk2]
        refine Rn.cl (e_beats ok hE1 hA1 hV1 hva hi3 hc) fun v T2 hl ⟨h1, h2, f2, h3⟩ => ?_
        exact hb90 T2 f2 v (hf.tr h2) h3 (by rw [hgd, h1])
    · rw [if_neg hs]
      exact fin T1 f1 b hf hV1 (by unfold gstF; rw [if_neg hk, if_neg hs])
  · rintro m ⟨b, T1⟩ ⟨hb, hf, f1, hV1⟩
    dsimp only at hb hf hV1 ⊢
    have hA1 := hA.fr hf (fun x q1 q2 => hva (q2 ▸ q1))
    have hE1 := hE.mono hf
    show Rn T1 (c_X3_greatest_4_b G (c_X3_greatest_4 G m) (some a) (Int32.ofNat c) (enc b) (Int32.ofNat (eN e)) T1) _
    unfold c_X3_greatest_4_b
    simp -implicitDefEqProofs only [hA1.o0, hA1.o1, hA1.o2, hA1.o3, hA1.o4, hA1.o5, hA1.is, hE1.val, hE1.rol, hE1.bef, hE1.isr, hE1.w, hE1.h, hE1.a, hE1.s, hE1.iso, hE1.cells ok, hE1.steps ok, Option.bind_some, not_true_eq_false, if_false, if_true, Int32.le_refl]
    exact Rn.ret ⟨by rw [hb]; rfl, hf, f1, hV1⟩
end GS
