/-! plain law: what a command keeps of the system's state -/
set_option maxRecDepth 100000
theorem Ap_own {own : Nat → Nat} {a b s t : Nat} (ha : ∀ x, bk a x → own x = s) (hb : ∀ x, bk b x → own x = t) (hst : s ≠ t) : a + 5 ≤ b ∨ b + 5 ≤ a := by
  rcases Nat.lt_or_ge a b with h | h
  · rcases Nat.lt_or_ge b (a + 5) with k | k
    · have h1 := ha b ⟨by omega, by omega⟩
      have h2 := hb b ⟨by omega, by omega⟩
      omega
    · omega
  · rcases Nat.lt_or_ge a (b + 5) with k | k
    · have h1 := ha a ⟨by omega, by omega⟩
      have h2 := hb a ⟨by omega, by omega⟩
      omega
    · omega
section CA
variable {G : xG} {T T' : xF} {o : Nat} {s : St} {A : Ad} {E : Nat → Prop} {v11 v12 v13 : Option Nat} {sd : Int32} {ca cs : Nat}
theorem ObA.fr (h : ObA T o A s v11 v12 v13 sd) (k : T'.1 o = T.1 o) : ObA T' o A s v11 v12 v13 sd := k.trans h
theorem BnA.fr (h : BnA T o A) (k : T.2.1 ≤ T'.2.1) : BnA T' o A := by
  unfold BnA at h ⊢
  omega
theorem HsAt.mv {own own' : Nat → Nat} {hs : Hs} {ha : Nat → Nat} (h : HsAt T own o hs ha) (hl : T.2.1 ≤ T'.2.1) (hk : ∀ x, x < T.2.1 → own x = 11 → T'.1 x = T.1 x ∧ own' x = 11) : HsAt T' own' o hs ha := fun k q => ⟨(h k q).1.mv hl hk, by have := (h k q).2; omega⟩
theorem SsAt.mv {own own' : Nat → Nat} {ss : Ss} {ea : Nat → Nat} (h : SsAt T own ss ea) (hl : T.2.1 ≤ T'.2.1) (hk : ∀ x, x < T.2.1 → own x = 11 → T'.1 x = T.1 x ∧ own' x = 11) : SsAt T' own' ss ea := fun k q => ⟨(h k q).1.mv hl hk, by have := (h k q).2; omega⟩
theorem ImAt.mv {own own' : Nat → Nat} {im : Option (Gw × Hs × Ss)} (h : ImAt T own o im v11 v12 v13) (hl : T.2.1 ≤ T'.2.1) (hk : ∀ x, x < T.2.1 → own x = 11 → T'.1 x = T.1 x ∧ own' x = 11) : ImAt T' own' o im v11 v12 v13 := by
  unfold ImAt at h ⊢
  cases im with
  | none => exact h
  | some q =>
    obtain ⟨g, hh, ss⟩ := q
    obtain ⟨gi, hl_, hb, sl, sb, ha, ea, wa, ws, c1, c2, a1, a2, a3, a4, a5, a6, a7, a8, a9, a10, a11, a12, a13⟩ := h
    exact ⟨gi, hl_, hb, sl, sb, ha, ea, wa, ws, c1, c2, a1, a2, a3, a4.mv hl hk, by omega, a6.mv hl hk, a7.mv hl hk, by omega, by omega, by omega, by omega, a12.mv hl hk, a13.mv hl hk⟩
/-- what tries change -/
theorem CIa.fr (h : CIa G T o s A) (F : frc E T T') (hE : ∀ x, x < T.2.1 → E x → aO A x = 1 ∨ aO A x = 2 ∨ aO A x = 3) (hv : ∃ f, VaAt T' (aVa A) f) (hb : ∃ g, GrAt T' (aBb A) o g) (ht : ∃ g, GrAt T' (aTt A) o g) : CIa G T' o s A := by
  obtain ⟨ha, ea, wa, ws, ca, cs, v11, v12, v13, sd, a1, a2, a3, a4, a5, a6, a7, a8, a9, a10, a11, a12, a13, a14, a15, a16, a17⟩ := h
  obtain ⟨F1, F2⟩ := F
  obtain ⟨t1, t2, t3, t4, t5, t6, t7, t8, t9, t10, t11⟩ := a2
  obtain ⟨b1, b2, b3, b4, b5, b6, b7, b8, b9, b10, b11⟩ := a3
  have kp : ∀ x, x < T.2.1 → aO A x ≠ 1 → aO A x ≠ 2 → aO A x ≠ 3 → T'.1 x = T.1 x := fun x q1 q2 q3 q4 => F2 x q1 fun r => by
    have := hE x q1 r
    omega
  have fz : ∀ x, x < T.2.1 → aO A x = 11 → T'.1 x = T.1 x ∧ aO A x = 11 := fun x q1 q2 => ⟨kp x q1 (by omega) (by omega) (by omega), q2⟩
  refine ⟨ha, ea, wa, ws, ca, cs, v11, v12, v13, sd, a1.fr (kp o b1 (by omega) (by omega) (by omega)), ⟨t1, t2, t3, t4, t5, t6, t7, t8, t9, t10, t11⟩, BnA.fr ⟨b1, b2, b3, b4, b5, b6, b7, b8, b9, b10, b11⟩ F1, hv, hb, ht, a7.lo fun x q => kp x (by simp -implicitDefEqProofs only [bk] at q; omega) (by have := t5 x q; omega) (by have := t5 x q; omega) (by have := t5 x q; omega), ?_, ?_, a10.fr (kp _ b8 (by omega) (by omega) (by omega)) (kp _ b9 (by omega) (by omega) (by omega)), a11.fr (kp _ b10 (by omega) (by omega) (by omega)) (kp _ b11 (by omega) (by omega) (by omega)), a12.mv F1 fz, a13.mv F1 fz, a14.mv F1 fz, a15.mv F1 fz, a16.mv F1 fz, a17.mv F1 fz⟩
  · obtain ⟨f, r1, r2⟩ := a8
    exact ⟨f, (kp _ b6 (by omega) (by omega) (by omega)).trans r1, r2⟩
  · obtain ⟨f, r1, r2⟩ := a9
    exact ⟨f, (kp _ b7 (by omega) (by omega) (by omega)).trans r1, r2⟩
/-- the growth itself has changed -/
theorem CIa.gr (h : CIa G T o s A) {g' : Gw} (F : frc E T T') (hE : ∀ x, x < T.2.1 → E x → aO A x = 1 ∨ aO A x = 2 ∨ aO A x = 4) (hv : ∃ f, VaAt T' (aVa A) f) (hb : ∃ g, GrAt T' (aBb A) o g) (hc : GrAt T' (aCc A) o g') : CIa G T' o (sE s, g', sH s, sS s, sI s, sB s, sT s, sF_ s, sR s) A := by
  obtain ⟨ha, ea, wa, ws, ca, cs, v11, v12, v13, sd, a1, a2, a3, a4, a5, ⟨g6, a6⟩, a7, a8, a9, a10, a11, a12, a13, a14, a15, a16, a17⟩ := h
  obtain ⟨F1, F2⟩ := F
  obtain ⟨t1, t2, t3, t4, t5, t6, t7, t8, t9, t10, t11⟩ := a2
  obtain ⟨b1, b2, b3, b4, b5, b6, b7, b8, b9, b10, b11⟩ := a3
  have kp : ∀ x, x < T.2.1 → aO A x ≠ 1 → aO A x ≠ 2 → aO A x ≠ 4 → T'.1 x = T.1 x := fun x q1 q2 q3 q4 => F2 x q1 fun r => by
    have := hE x q1 r
    omega
  have fz : ∀ x, x < T.2.1 → aO A x = 11 → T'.1 x = T.1 x ∧ aO A x = 11 := fun x q1 q2 => ⟨kp x q1 (by omega) (by omega) (by omega), q2⟩
  refine ⟨ha, ea, wa, ws, ca, cs, v11, v12, v13, sd, ObA.fr (s := s) a1 (kp o b1 (by omega) (by omega) (by omega)), ⟨t1, t2, t3, t4, t5, t6, t7, t8, t9, t10, t11⟩, BnA.fr ⟨b1, b2, b3, b4, b5, b6, b7, b8, b9, b10, b11⟩ F1, hv, hb, ⟨g6, a6.lo fun x q => kp x (by simp -implicitDefEqProofs only [bk] at q; omega) (by have := t4 x q; omega) (by have := t4 x q; omega) (by have := t4 x q; omega)⟩, hc, ?_, ?_, a10.fr (kp _ b8 (by omega) (by omega) (by omega)) (kp _ b9 (by omega) (by omega) (by omega)), a11.fr (kp _ b10 (by omega) (by omega) (by omega)) (kp _ b11 (by omega) (by omega) (by omega)), a12.mv F1 fz, a13.mv F1 fz, a14.mv F1 fz, a15.mv F1 fz, a16.mv F1 fz, a17.mv F1 fz⟩
  · obtain ⟨f, r1, r2⟩ := a8
    exact ⟨f, (kp _ b6 (by omega) (by omega) (by omega)).trans r1, r2⟩
  · obtain ⟨f, r1, r2⟩ := a9
    exact ⟨f, (kp _ b7 (by omega) (by omega) (by omega)).trans r1, r2⟩
/-- what a growth needs around it -/
theorem EvR.ev {own : Nat → Nat} {rl va bb : Nat} {e : En} (h : Fz own T (EvR G rl va e)) (hb : o < T.2.1) {rest : List Value} (h1 : T.1 o = some (true, .inr (0, va_rf (some va) :: va_rf (some rl) :: va_rf (some bb) :: rest))) (hE : ∀ x, E x → x < T.2.1 → own x ≠ 11 ∧ x ≠ o) : Ev E G T o rl va bb e := by
  intro T' q
  have e1 : T'.1 o = _ := (q.2 o hb fun r => (hE o r hb).2 rfl).trans h1
  obtain ⟨c1, c2, c3, c4, c5, c6, c7, c8, c9⟩ := h T' q.1 fun x hx ho => q.2 x hx fun r => (hE x r hx).1 ho
  refine ⟨?_, ?_, ?_, c1, c2, c3, c4, c5, c6, c7, c8, c9, ?_⟩
  · unfold oQ oF; simp [e1, vQ, va_rf]
  · unfold oQ oF; simp [e1, vQ, va_rf]
  · unfold oQ oF; simp [e1, vQ, va_rf]
  · rw [isO.eq_1]; unfold oF; simp [e1]
end CA
