/-! plain law: the system's state after a change of one thing -/
set_option maxRecDepth 100000
section RB
variable {G : xG} {T T' : xF} {o : Nat} {s : St} {A : Ad}
theorem Fz.own {own : Nat → Nat} {T : xF} {P : xF → Prop} (h : Fz own T P) {y : Nat} (k : ∀ T', P T' → T'.1 y ≠ none) : own y = 11 := by
  by_cases q : own y = 11
  · exact q
  · exact absurd rfl (h.ne q k)
theorem TpA.fr (h : TpA T A s) (e : T'.1 (aTp A) = T.1 (aTp A)) : TpA T' A s := by
  obtain ⟨f, r1, r2⟩ := h
  exact ⟨f, e.trans r1, r2⟩
theorem RfA.fr (h : RfA T A s) (e : T'.1 (aRf A) = T.1 (aRf A)) : RfA T' A s := by
  obtain ⟨f, r1, r2⟩ := h
  exact ⟨f, e.trans r1, r2⟩
theorem VaAt.lo {va : Nat} {f : Nat → Int32} (h : VaAt T va f) (e : T'.1 va = T.1 va) : VaAt T' va f := e.trans h
/-- another list of acts -/
theorem CIa.acts (h : CIa G T o s A) (hl : T.2.1 ≤ T'.2.1) (F : ∀ x, x < T.2.1 → x ≠ aAl A → x ≠ aAa A → T'.1 x = T.1 x) {a' cap' : Nat} {w' : Bool} {ha' : Nat → Nat} {h' : Hs} (L : LsAt T' (aAl A) a' h'.1 ha' w' cap') (ha : a' = aAa A ∧ 0 < cap' ∨ T.2.1 ≤ a' ∧ a' < T'.2.1 ∧ T'.1 (aAa A) = T.1 (aAa A)) (H : HsAt T' (fun x => if x < T.2.1 then aO A x else if x = a' then 8 else 11) o h' ha') (h8 : a' = aAa A → aO A (aAa A) = 8) : CIa G T' o (sE s, sG s, h', sS s, sI s, sB s, sT s, sF_ s, sR s) (fun x => if x < T.2.1 then aO A x else if x = a' then 8 else 11, aRl A, aVa A, aBb A, aTt A, aCc A, aTp A, aRf A, aAl A, a', aSl A, aSa A) := by
  obtain ⟨ha0, ea, wa, ws, ca, cs, v11, v12, v13, sd, a1, a2, a3, ⟨f4, a4⟩, ⟨g5, a5⟩, ⟨g6, a6⟩, a7, a8, a9, a10, a11, a12, a13, a14, a15, a16, a17⟩ := h
  obtain ⟨t1, t2, t3, t4, t5, t6, t7, t8, t9, t10, t11⟩ := a2
  obtain ⟨b1, b2, b3, b4, b5, b6, b7, b8, b9, b10, b11⟩ := a3
  have F' : ∀ x, x < T.2.1 → aO A x ≠ 7 → aO A x ≠ 8 → T'.1 x = T.1 x := fun x q1 q2 q3 => by
    by_cases e : x = aAa A
    · subst e
      rcases ha with ⟨r, _⟩ | ⟨_, _, r⟩
      · exact absurd (h8 r) q3
      · exact r
    · exact F x q1 (fun r => q2 (r ▸ t8)) e
  have ow : ∀ x, x < T.2.1 → (if x < T.2.1 then aO A x else if x = a' then 8 else 11) = aO A x := fun x q => if_pos q
  have fz : ∀ x, x < T.2.1 → aO A x = 11 → T'.1 x = T.1 x ∧ (if x < T.2.1 then aO A x else if x = a' then 8 else 11) = 11 := fun x q1 q2 => ⟨F' x q1 (by omega) (by omega), by rw [if_pos q1]; exact q2⟩
  have bkw : ∀ {b k}, b + 5 ≤ T.2.1 → (∀ x, bk b x → aO A x = k) → ∀ x, bk b x → (if x < T.2.1 then aO A x else if x = a' then 8 else 11) = k := fun hb hk x q => by
    rw [ow x (by simp -implicitDefEqProofs only [bk] at q; omega)]; exact hk x q
  refine ⟨ha', ea, w', ws, cap', cs, v11, v12, v13, sd, ?_, ⟨?_, ?_, bkw b3 t3, bkw b4 t4, bkw b5 t5, ?_, ?_, ?_, ?_, ?_, ?_⟩, ?_, ⟨f4, a4.lo (F' _ b2 (by omega) (by omega))⟩, ⟨g5, a5.lo fun x q => F' x (by simp -implicitDefEqProofs only [bk] at q; omega) (by have := t3 x q; omega) (by have := t3 x q; omega)⟩, ⟨g6, a6.lo fun x q => F' x (by simp -implicitDefEqProofs only [bk] at q; omega) (by have := t4 x q; omega) (by have := t4 x q; omega)⟩, a7.lo fun x q => F' x (by simp -implicitDefEqProofs only [bk] at q; omega) (by have := t5 x q; omega) (by have := t5 x q; omega), TpA.fr (A := A) (s := s) a8 (F' _ b6 (by omega) (by omega)), RfA.fr (A := A) (s := s) a9 (F' _ b7 (by omega) (by omega)), L, a11.fr (F' _ b10 (by omega) (by omega)) (F' _ b11 (by omega) (by omega)), a12.mv hl fz, a13.mv hl fz, a14.mv hl fz, H, a16.mv hl fz, a17.mv hl fz⟩
  · exact ObA.fr (A := A) (s := s) a1 (F' o b1 (by omega) (by omega))
  · exact (ow o b1).trans t1
  · exact (ow _ b2).trans t2
  · exact (ow _ b6).trans t6
  · exact (ow _ b7).trans t7
  · exact (ow _ b8).trans t8
  · left
    show (if a' < T.2.1 then aO A a' else if a' = a' then 8 else 11) = 8
    rcases ha with ⟨r, _⟩ | ⟨r, _, _⟩
    · subst r; rw [if_pos b9]; exact h8 rfl
    · rw [if_neg (by omega), if_pos rfl]
  · exact (ow _ b10).trans t10
  · rcases t11 with q | q
    · exact Or.inl ((ow _ b11).trans q)
    · exact Or.inr ⟨(ow _ b11).trans q.1, q.2⟩
  · refine ⟨by omega, by show aVa A < _; omega, by show aBb A + 5 ≤ _; omega, by show aTt A + 5 ≤ _; omega, by show aCc A + 5 ≤ _; omega, by show aTp A < _; omega, by show aRf A < _; omega, by show aAl A < _; omega, ?_, by show aSl A < _; omega, by show aSa A < _; omega⟩
    show a' < _
    rcases ha with ⟨r, _⟩ | ⟨_, r, _⟩ <;> omega
/-- another list of sights -/
theorem CIa.sights (h : CIa G T o s A) (hl : T.2.1 ≤ T'.2.1) (F : ∀ x, x < T.2.1 → x ≠ aSl A → x ≠ aSa A → T'.1 x = T.1 x) {a' cap' : Nat} {w' : Bool} {ea' : Nat → Nat} {s' : Ss} (L : LsAt T' (aSl A) a' s'.1 ea' w' cap') (ha : a' = aSa A ∧ 0 < cap' ∨ T.2.1 ≤ a' ∧ a' < T'.2.1 ∧ T'.1 (aSa A) = T.1 (aSa A)) (H : SsAt T' (fun x => if x < T.2.1 then aO A x else if x = a' then 10 else 11) s' ea') (h8 : a' = aSa A → aO A (aSa A) = 10) : CIa G T' o (sE s, sG s, sH s, s', sI s, sB s, sT s, sF_ s, sR s) (fun x => if x < T.2.1 then aO A x else if x = a' then 10 else 11, aRl A, aVa A, aBb A, aTt A, aCc A, aTp A, aRf A, aAl A, aAa A, aSl A, a') := by
  obtain ⟨ha0, ea, wa, ws, ca, cs, v11, v12, v13, sd, a1, a2, a3, ⟨f4, a4⟩, ⟨g5, a5⟩, ⟨g6, a6⟩, a7, a8, a9, a10, a11, a12, a13, a14, a15, a16, a17⟩ := h
  obtain ⟨t1, t2, t3, t4, t5, t6, t7, t8, t9, t10, t11⟩ := a2
  obtain ⟨b1, b2, b3, b4, b5, b6, b7, b8, b9, b10, b11⟩ := a3
  have F' : ∀ x, x < T.2.1 → aO A x ≠ 9 → aO A x ≠ 10 → T'.1 x = T.1 x := fun x q1 q2 q3 => by
    by_cases e : x = aSa A
    · subst e
      rcases ha with ⟨r, _⟩ | ⟨_, _, r⟩
      · exact absurd (h8 r) q3
      · exact r
    · exact F x q1 (fun r => q2 (r ▸ t10)) e
  have ow : ∀ x, x < T.2.1 → (if x < T.2.1 then aO A x else if x = a' then 10 else 11) = aO A x := fun x q => if_pos q
  have fz : ∀ x, x < T.2.1 → aO A x = 11 → T'.1 x = T.1 x ∧ (if x < T.2.1 then aO A x else if x = a' then 10 else 11) = 11 := fun x q1 q2 => ⟨F' x q1 (by omega) (by omega), by rw [if_pos q1]; exact q2⟩
  have bkw : ∀ {b k}, b + 5 ≤ T.2.1 → (∀ x, bk b x → aO A x = k) → ∀ x, bk b x → (if x < T.2.1 then aO A x else if x = a' then 10 else 11) = k := fun hb hk x q => by
    rw [ow x (by simp -implicitDefEqProofs only [bk] at q; omega)]; exact hk x q
  refine ⟨ha0, ea', wa, w', ca, cap', v11, v12, v13, sd, ?_, ⟨?_, ?_, bkw b3 t3, bkw b4 t4, bkw b5 t5, ?_, ?_, ?_, ?_, ?_, ?_⟩, ?_, ⟨f4, a4.lo (F' _ b2 (by omega) (by omega))⟩, ⟨g5, a5.lo fun x q => F' x (by simp -implicitDefEqProofs only [bk] at q; omega) (by have := t3 x q; omega) (by have := t3 x q; omega)⟩, ⟨g6, a6.lo fun x q => F' x (by simp -implicitDefEqProofs only [bk] at q; omega) (by have := t4 x q; omega) (by have := t4 x q; omega)⟩, a7.lo fun x q => F' x (by simp -implicitDefEqProofs only [bk] at q; omega) (by have := t5 x q; omega) (by have := t5 x q; omega), TpA.fr (A := A) (s := s) a8 (F' _ b6 (by omega) (by omega)), RfA.fr (A := A) (s := s) a9 (F' _ b7 (by omega) (by omega)), a10.fr (F' _ b8 (by omega) (by omega)) (F' _ b9 (by omega) (by omega)), L, a12.mv hl fz, a13.mv hl fz, a14.mv hl fz, a15.mv hl fz, H, a17.mv hl fz⟩
  · exact ObA.fr (A := A) (s := s) a1 (F' o b1 (by omega) (by omega))
  · exact (ow o b1).trans t1
  · exact (ow _ b2).trans t2
  · exact (ow _ b6).trans t6
  · exact (ow _ b7).trans t7
  · exact (ow _ b8).trans t8
  · rcases t9 with q | q
    · exact Or.inl ((ow _ b9).trans q)
    · exact Or.inr ⟨(ow _ b9).trans q.1, q.2⟩
  · exact (ow _ b10).trans t10
  · left
    show (if a' < T.2.1 then aO A a' else if a' = a' then 10 else 11) = 10
    rcases ha with ⟨r, _⟩ | ⟨r, _, _⟩
    · subst r; rw [if_pos b11]; exact h8 rfl
    · rw [if_neg (by omega), if_pos rfl]
  · refine ⟨by omega, by show aVa A < _; omega, by show aBb A + 5 ≤ _; omega, by show aTt A + 5 ≤ _; omega, by show aCc A + 5 ≤ _; omega, by show aTp A < _; omega, by show aRf A < _; omega, by show aAl A < _; omega, by show aAa A < _; omega, by show aSl A < _; omega, ?_⟩
    show a' < _
    rcases ha with ⟨r, _⟩ | ⟨_, r, _⟩ <;> omega
end RB
