/-! plain law: a whole day and more of them, on the system's side -/
set_option maxRecDepth 100000
theorem GK.day {e : En} {g g' : Gw} (h : ∃ d, d < 2000 ∧ gY g = Int32.ofNat d) (q : gY g' = gY g) : ∃ d, d < 2000 ∧ gY g' = Int32.ofNat d := by rw [q]; exact h
section GS
variable {E : Nat → Prop} {G : xG} {T T0 : xF} {o rl va bb a b c d : Nat} {e : En} {g g0 : Gw} {f : Nat → Int32}
theorem e_pass (ok : EnOK e) (hE : Ev (ep a bb va) G T0 o rl va bb e) (hA : GrAt T0 a o g) (hB : GrAt T0 bb o g0) (hV : VaAt T0 va f) (ap : a + 5 ≤ bb ∨ bb + 5 ≤ a) (hva : ¬ bk a va) (hvb : ¬ bk bb va) (hg : GK e g) : Rn T0 (c_X3_pass G (some a) T0) fun v T' => v = some a ∧ frm (ep a bb va) T0 T' ∧ GrAt T' a o (gpass e g) ∧ (∃ g', GrAt T' bb o g') ∧ ∃ f', VaAt T' va f' := by
  have na : ∀ x, bk a x → ¬ bk bb x := fun x q1 q2 => by simp -implicitDefEqProofs only [bk] at q1 q2; omega
  have nb : ∀ x, bk bb x → ¬ bk a x := fun x q1 q2 => by simp -implicitDefEqProofs only [bk] at q1 q2; omega
  have nb2 : ∀ x, bk bb x → ¬ ea a va x := fun x q1 q2 => q2.elim (fun q => nb x q1 q) (fun q => hvb (q ▸ q1))
  have u1 : ∀ x, bk bb x → ep a bb va x := fun x q => Or.inr (Or.inl q)
  have u2 : ∀ x, ea a va x → ep a bb va x := fun x q => q.elim Or.inl (fun q => Or.inr (Or.inr q))
  unfold c_X3_pass
  simp -implicitDefEqProofs only [hA.o5, hE.bef, hB.is, Option.bind_some, not_true_eq_false, if_false, if_true]
  refine Rn.cl (e_be hB hA (by omega)) fun v T1 _ ⟨h1, f1, hB1⟩ => ?_
  subst h1
  have hA1 := hA.fr f1 na
  have hE1 := hE.mono (f1.up u1)
  simp -implicitDefEqProofs only [hA1.is, Option.bind_some, not_true_eq_false, if_false, if_true]
  refine Rn.cl (e_grow ok (hE1.sub u2) hA1 hB1 (hV.fr f1 hvb) ap hva hvb hg) fun v T2 _ ⟨f2, hA2, fv2, hV2⟩ => ?_
  have hB2 := hB1.fr f2 nb2
  have hE2 := hE1.mono (f2.up u2)
  simp -implicitDefEqProofs only [hA2.o5, hE2.bef, hB2.is, Option.bind_some, not_true_eq_false, if_false, if_true]
  refine Rn.cl (e_be hB2 hA2 (by omega)) fun v T3 _ ⟨h1, f3, hB3⟩ => ?_
  subst h1
  have hA3 := hA2.fr f3 na
  have hE3 := hE2.mono (f3.up u1)
  simp -implicitDefEqProofs only [hA3.is, Option.bind_some, not_true_eq_false, if_false, if_true]
  refine Rn.cl (e_fight ok (hE3.sub u2) hA3 hB3 (hV2.fr f3 hvb) ap hva hvb) fun v T4 _ ⟨f4, hA4, fv4, hV4⟩ => ?_
  have hB4 := hB3.fr f4 nb2
  have hE4 := hE3.mono (f4.up u2)
  simp -implicitDefEqProofs only [hA4.o5, hE4.bef, hB4.is, Option.bind_some, not_true_eq_false, if_false, if_true]
  refine Rn.cl (e_be hB4 hA4 (by omega)) fun v T5 _ ⟨h1, f5, hB5⟩ => ?_
  subst h1
  have hA5 := hA4.fr f5 na
  have hE5 := hE4.mono (f5.up u1)
  simp -implicitDefEqProofs only [hA5.is, Option.bind_some, not_true_eq_false, if_false, if_true]
  refine Rn.cl (e_xsow ok (hE5.sub u2) hA5 hB5 (hV4.fr f5 hvb) ap hva hvb) fun v T6 _ ⟨f6, hA6, fv6, hV6⟩ => ?_
  have hB6 := hB5.fr f6 nb2
  simp -implicitDefEqProofs only [hA6.o4, Option.bind_some, not_true_eq_false, if_false, if_true]
  obtain ⟨T7, e7, f7, hA7⟩ := hA6.stY (gY (gsow e (gfight e (ggrow e g))) + 1)
  refine Rn.st e7 f7.le (Rn.ret ⟨rfl, ?_, hA7, ⟨_, hB6.fr f7 ?_⟩, fv6, hV6.fr f7 ?_⟩)
  · exact ((((((f1.up u1).tr (f2.up u2)).tr (f3.up u1)).tr (f4.up u2)).tr (f5.up u1)).tr (f6.up u2)).tr (f7.up fun x q => Or.inl (by simp -implicitDefEqProofs only [bk]; omega))
  · intro x q1 q2; simp -implicitDefEqProofs only [bk] at q1 q2; omega
  · exact fun q => hva (by simp -implicitDefEqProofs only [bk]; omega)
theorem gpass_y : gY (gpass e g) = gY g + 1 := rfl
theorem mixf_P {P : Nat → Int32 → Prop} {n : Nat} {f1 f0 : Nat → Int32} {c : Nat} (h1 : c < n → P c (f1 c)) (h0 : P c (f0 c)) : P c (mixf n f1 f0 c) := by
  unfold mixf
  split
  · rename_i q; exact h1 q
  · exact h0
/-- a kind that can be -/
def kOK (e : En) (x : Int32) : Prop := x = -1 ∨ ∃ k, k < eP e ∧ x = Int32.ofNat k
theorem kOK.pass (ok : EnOK e) (h : ∀ c, c < 30 → kOK e (gK g c)) : ∀ c, c < 30 → kOK e (gK (gpass e g) c) := by
  have h1 : ∀ c, c < 30 → kOK e (gK (ggrow e g) c) := fun c hc => mixf_P (P := fun _ x => kOK e x) (fun _ => by
    unfold nK
    split
    · exact h c hc
    · split
      · exact h c hc
      · exact Or.inl rfl) (h c hc)
  have h2 : ∀ c, c < 30 → kOK e (gK (gfight e (ggrow e g)) c) := fun c hc => mixf_P (P := fun _ x => kOK e x) (fun _ => by
    unfold fK
    split
    · exact h1 c hc
    · split
      · exact h1 c hc
      · rename_i b hb
        exact h1 b (gst_30 ok hb)) (h1 c hc)
  exact fun c hc => mixf_P (P := fun _ x => kOK e x) (fun _ => by
    unfold sK
    split
    · exact h2 c hc
    · rename_i b hb
      have : gst e (gfight e (ggrow e g)) c = some b := by
        revert hb
        unfold sBy
        split
        · split
          · exact fun q => by cases q
          · exact id
        · exact fun q => by cases q
      exact h2 b (gst_30 ok this)) (h2 c hc)
/-- a growth that can be for so many days more -/
def GD (e : En) (g : Gw) (n : Nat) : Prop := (∃ d, d + n ≤ 2000 ∧ gY g = Int32.ofNat d) ∧ ∀ c, c < 30 → kOK e (gK g c)
theorem ofn1 (n : Nat) (h : n < 3000) : Int32.ofNat n + 1 = Int32.ofNat (n + 1) := by
  rw [Int32.ofNat_add]
  rfl
theorem GD.gk {n : Nat} (h : GD e g (n + 1)) : GK e g := by
  obtain ⟨⟨d, h1, h2⟩, h3⟩ := h
  exact ⟨⟨d, by omega, h2⟩, h3⟩
theorem GD.pass {n : Nat} (ok : EnOK e) (h : GD e g (n + 1)) : GD e (gpass e g) n := by
  obtain ⟨⟨d, h1, h2⟩, h3⟩ := h
  exact ⟨⟨d + 1, by omega, by rw [gpass_y, h2, ofn1 d (by omega)]⟩, kOK.pass ok h3⟩
theorem GD.le {n m : Nat} (h : GD e g n) (hm : m ≤ n) : GD e g m := by
  obtain ⟨⟨d, h1, h2⟩, h3⟩ := h
  exact ⟨⟨d, by omega, h2⟩, h3⟩
theorem GD.after {n : Nat} (ok : EnOK e) : ∀ k, GD e g (n + k) → GD e (gafter e k g) n := by
  intro k
  induction k generalizing n with
  | zero => exact id
  | succ k ih =>
    intro h
    have := ih (n := n + 1) (by rw [show n + 1 + k = n + (k + 1) by omega]; exact h)
    exact this.pass ok
theorem e_after (ok : EnOK e) (hE : Ev (ep a bb va) G T0 o rl va bb e) (hA : GrAt T0 a o g) (hB : GrAt T0 bb o g0) (hV : VaAt T0 va f) (ap : a + 5 ≤ bb ∨ bb + 5 ≤ a) (hva : ¬ bk a va) (hvb : ¬ bk bb va) {k n : Nat} (hk : k < 100) (hg : GD e g (n + k + 1)) : Rn T0 (c_X3_after G (some a) (Int32.ofNat k) T0) fun v T' => v = some a ∧ frm (ep a bb va) T0 T' ∧ GrAt T' a o (gafter e k g) ∧ (∃ g', GrAt T' bb o g') ∧ ∃ f', VaAt T' va f' := by
  unfold c_X3_after
  refine loop_rule (σ := xF) (N := k) (fun i s => frm (ep a bb va) T0 s ∧ GrAt s a o (gafter e i g) ∧ (∃ g', GrAt s bb o g') ∧ ∃ f', VaAt s va f') (fun m i s => Rn s (c_X3_after_2 G m (some a) (Int32.ofNat k) (Int32.ofNat i) s) _) ?_ ?_ FU (by show k < 6000; omega) T0 ⟨frm.rf, hA, ⟨_, hB⟩, f, hV⟩
  · rintro m i T1 hi ⟨hf, hA1, ⟨g1, hB1⟩, f1, hV1⟩ K
    have hle : ¬ Int32.ofNat k ≤ Int32.ofNat i := fun q => by have := (ofn_le k (by omega) i (by omega)).mp q; omega
    show Rn T1 (c_X3_after_2_b G (c_X3_after_2 G m) (some a) (Int32.ofNat k) (Int32.ofNat i) T1) _
    unfold c_X3_after_2_b
    simp -implicitDefEqProofs only [hle, hA1.is, Option.bind_some, not_true_eq_false, if_false, if_true, (ofn i (by omega)).2.2]
    have hgi : GD e (gafter e i g) (0 + 1) := GD.after ok i (hg.le (by omega))
    refine Rn.cl (e_pass ok (hE.mono hf) hA1 hB1 hV1 ap hva hvb hgi.gk) fun v T2 _ ⟨_, h2, h3, h4, h5⟩ => ?_
    exact K T2 ⟨hf.tr h2, h3, h4, h5⟩
  · rintro m T1 ⟨hf, hA1, hB1, hV1⟩
    show Rn T1 (c_X3_after_2_b G (c_X3_after_2 G m) (some a) (Int32.ofNat k) (Int32.ofNat k) T1) _
    unfold c_X3_after_2_b
    rw [if_pos (Int32.le_refl _)]
    exact Rn.ret ⟨rfl, hf, hA1, hB1, hV1⟩
end GS
