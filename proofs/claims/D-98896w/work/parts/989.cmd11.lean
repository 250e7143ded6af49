/-! plain law: the object's own fields change: undo, forget, image, restore -/
set_option maxRecDepth 100000
section RB
variable {G : xG} {T T' : xF} {o : Nat} {s : St} {A : Ad}
theorem CIa.re (h : CIa G T o s A) (hl : T.2.1 ≤ T'.2.1) (F : ∀ x, x < T.2.1 → x ≠ o → T'.1 x = T.1 x) {own' : Nat → Nat} (ho : ∀ x, x < T.2.1 → own' x = aO A x) {cc' al' aa' sl' sa' : Nat} {g' : Gw} {h' : Hs} {s' : Ss} {i' : Option (Gw × Hs × Ss)} {v11 v12 v13 : Option Nat} {sd ca' cs' : _} {ha' ea' : Nat → Nat} {wa' ws' : Bool} (hO : ObA T' o (own', aRl A, aVa A, aBb A, aTt A, cc', aTp A, aRf A, al', aa', sl', sa') (sE s, g', h', s', i', sB s, sT s, sF_ s, sR s) v11 v12 v13 sd) (hC : GrAt T' cc' o g' ∧ (∀ x, bk cc' x → own' x = 4) ∧ cc' + 5 ≤ T'.2.1) (hL : LsAt T' al' aa' h'.1 ha' wa' ca' ∧ own' al' = 7 ∧ (own' aa' = 8 ∨ own' aa' = 11 ∧ ca' = 0) ∧ al' < T'.2.1 ∧ aa' < T'.2.1) (hS : LsAt T' sl' sa' s'.1 ea' ws' cs' ∧ own' sl' = 9 ∧ (own' sa' = 10 ∨ own' sa' = 11 ∧ cs' = 0) ∧ sl' < T'.2.1 ∧ sa' < T'.2.1) (hH : HsAt T' own' o h' ha') (hE : SsAt T' own' s' ea') (hI : ImAt T' own' o i' v11 v12 v13) : CIa G T' o (sE s, g', h', s', i', sB s, sT s, sF_ s, sR s) (own', aRl A, aVa A, aBb A, aTt A, cc', aTp A, aRf A, al', aa', sl', sa') := by
  obtain ⟨ha0, ea, wa, ws, ca, cs, w11, w12, w13, sd0, a1, a2, a3, ⟨f4, a4⟩, ⟨g5, a5⟩, ⟨g6, a6⟩, a7, a8, a9, a10, a11, a12, a13, a14, a15, a16, a17⟩ := h
  obtain ⟨t1, t2, t3, t4, t5, t6, t7, t8, t9, t10, t11⟩ := a2
  obtain ⟨b1, b2, b3, b4, b5, b6, b7, b8, b9, b10, b11⟩ := a3
  have F' : ∀ x, x < T.2.1 → aO A x ≠ 0 → T'.1 x = T.1 x := fun x q1 q2 => F x q1 fun r => q2 (r ▸ t1)
  have fz : ∀ x, x < T.2.1 → aO A x = 11 → T'.1 x = T.1 x ∧ own' x = 11 := fun x q1 q2 => ⟨F' x q1 (by omega), (ho x q1).trans q2⟩
  have bkw : ∀ {b k}, b + 5 ≤ T.2.1 → (∀ x, bk b x → aO A x = k) → ∀ x, bk b x → own' x = k := fun hb hk x q => (ho x (by simp -implicitDefEqProofs only [bk] at q; omega)).trans (hk x q)
  refine ⟨ha', ea', wa', ws', ca', cs', v11, v12, v13, sd, hO, ⟨(ho o b1).trans t1, (ho _ b2).trans t2, bkw b3 t3, bkw b4 t4, hC.2.1, (ho _ b6).trans t6, (ho _ b7).trans t7, hL.2.1, hL.2.2.1, hS.2.1, hS.2.2.1⟩, ⟨by omega, by show aVa A < _; omega, by show aBb A + 5 ≤ _; omega, by show aTt A + 5 ≤ _; omega, hC.2.2, by show aTp A < _; omega, by show aRf A < _; omega, hL.2.2.2.1, hL.2.2.2.2, hS.2.2.2.1, hS.2.2.2.2⟩, ⟨f4, a4.lo (F' _ b2 (by omega))⟩, ⟨g5, a5.lo fun x q => F' x (by simp -implicitDefEqProofs only [bk] at q; omega) (by have := t3 x q; omega)⟩, ⟨g6, a6.lo fun x q => F' x (by simp -implicitDefEqProofs only [bk] at q; omega) (by have := t4 x q; omega)⟩, hC.1, ?_, ?_, hL.1, hS.1, a12.mv hl fz, a13.mv hl fz, a14.mv hl fz, hH, hE, hI⟩
  · obtain ⟨f, r1, r2⟩ := a8
    exact ⟨f, (F' _ b6 (by omega)).trans r1, r2⟩
  · obtain ⟨f, r1, r2⟩ := a9
    exact ⟨f, (F' _ b7 (by omega)).trans r1, r2⟩
theorem HsAt.go {own own' : Nat → Nat} {hs hs' : Hs} {ha ha' : Nat → Nat} (h : HsAt T own o hs ha) (hl : T.2.1 ≤ T'.2.1) (hk : ∀ x, x < T.2.1 → own x = 11 → T'.1 x = T.1 x ∧ own' x = 11) (hn : hs'.1 ≤ hs.1) (he : ∀ k, k < hs'.1 → ha' k = ha k ∧ hs'.2 k = hs.2 k) : HsAt T' own' o hs' ha' := fun k q => by
  obtain ⟨e1, e2⟩ := he k q
  rw [e1, e2]
  exact ⟨(h k (by omega)).1.mv hl hk, by have := (h k (by omega)).2; omega⟩
/-- a field of the object -/
theorem ObA.pv {T : xF} {o : Nat} {A : Ad} {s : St} {v11 v12 v13 : Option Nat} {sd : Int32} (h : ObA T o A s v11 v12 v13 sd) (k : Nat) (v : Value) : ∃ T', pV T (some o) 0 k v = some T' ∧ T'.2 = T.2 ∧ (∀ x, x ≠ o → T'.1 x = T.1 x) ∧ T'.1 o = some (true, .inr (0, [va_rf (some (aVa A)), va_rf (some (aRl A)), va_rf (some (aBb A)), va_rf (some (aTt A)), va_rf (some (aCc A)), va_rf (some (aTp A)), .int (Int32.ofNat (sT s)), .int (sF_ s), va_rf (some (aRf A)), va_rf (some (aAl A)), va_rf (some (aSl A)), va_rf v11, va_rf v12, va_rf v13, .int sd].set k v)) := ⟨_, pV_o h, rfl, fun x q => xset_no q, xset_eq⟩
theorem CIa.newcc (h : CIa G T o s A) {T1 : xF} {g' : Gw} (F : ∀ x, x < T.2.1 → T1.1 x = T.1 x) (hl : T1.2.1 = T.2.1 + 5) (hg : GrAt T1 T.2.1 o g') : ∃ T3, pV T1 (some o) 0 4 (va_rf (some T.2.1)) = some T3 ∧ (∃ A', CIa G T3 o (grown s g') A') ∧ T3.2 = T1.2 := by
  have h' := h
  obtain ⟨ha0, ea, wa, ws, ca, cs, v11, v12, v13, sd, a1, a2, a3, a4, a5, a6, a7, a8, a9, a10, a11, a12, a13, a14, a15, a16, a17⟩ := h
  obtain ⟨t1, t2, t3, t4, t5, t6, t7, t8, t9, t10, t11⟩ := a2
  obtain ⟨b1, b2, b3, b4, b5, b6, b7, b8, b9, b10, b11⟩ := a3
  obtain ⟨T3, e, c3, f3, o3⟩ := (ObA.fr (T' := T1) a1 (F o b1)).pv 4 (va_rf (some T.2.1))
  have ow : ∀ x, x < T.2.1 → (if x < T.2.1 then aO A x else if x < T.2.1 + 5 then 4 else 12) = aO A x := fun x q => if_pos q
  have F3 : ∀ x, x < T.2.1 → x ≠ o → T3.1 x = T.1 x := fun x q1 q2 => (f3 x q2).trans (F x q1)
  have no : ∀ x, aO A x ≠ 0 → x ≠ o := fun x q r => q (r ▸ t1)
  have fz : ∀ x, x < T.2.1 → aO A x = 11 → T3.1 x = T.1 x ∧ (if x < T.2.1 then aO A x else if x < T.2.1 + 5 then 4 else 12) = 11 := fun x q1 q2 => ⟨F3 x q1 (no x (by omega)), (ow x q1).trans q2⟩
  have l3 : T.2.1 ≤ T3.2.1 := by rw [c3]; omega
  refine ⟨T3, e, ⟨_, h'.re (own' := fun x => if x < T.2.1 then aO A x else if x < T.2.1 + 5 then 4 else 12) (cc' := T.2.1) (al' := aAl A) (aa' := aAa A) (sl' := aSl A) (sa' := aSa A) (g' := g') (h' := sH s) (s' := sS s) (i' := sI s) l3 F3 ow o3 ⟨hg.lo fun x q => f3 x (by simp -implicitDefEqProofs only [bk] at q; omega), fun x q => ?_, by rw [c3]; omega⟩ ⟨a10.fr (F3 _ b8 (no _ (by omega))) (F3 _ b9 (no _ (by omega))), (ow _ b8).trans t8, ?_, by omega, by omega⟩ ⟨a11.fr (F3 _ b10 (no _ (by omega))) (F3 _ b11 (no _ (by omega))), (ow _ b10).trans t10, ?_, by omega, by omega⟩ (a15.mv l3 fz) (a16.mv l3 fz) (a17.mv l3 fz)⟩, c3⟩
  · simp -implicitDefEqProofs only [bk] at q
    rw [if_neg (by omega), if_pos (by omega)]
  · rcases t9 with q | q
    · exact Or.inl ((ow _ b9).trans q)
    · exact Or.inr ⟨(ow _ b9).trans q.1, q.2⟩
  · rcases t11 with q | q
    · exact Or.inl ((ow _ b11).trans q)
    · exact Or.inr ⟨(ow _ b11).trans q.1, q.2⟩
theorem CIa.newsl (h : CIa G T o s A) {T1 : xF} {l a cap : Nat} {w : Bool} {ea' : Nat → Nat} {s' : Ss} (hl : T.2.1 ≤ T1.2.1) (F : ∀ x, x < T.2.1 → T1.1 x = T.1 x) (L : LsAt T1 l a s'.1 ea' w cap) (l1 : T.2.1 ≤ l ∧ l < T1.2.1) (a1_ : T.2.1 ≤ a ∧ a < T1.2.1 ∨ a < T.2.1 ∧ aO A a = 11 ∧ cap = 0) (H : SsAt T (aO A) s' ea') : ∃ T3, pV T1 (some o) 0 10 (va_rf (some l)) = some T3 ∧ (∃ A', CIa G T3 o (sE s, sG s, sH s, s', sI s, sB s, sT s, sF_ s, sR s) A') ∧ T3.2 = T1.2 := by
  have h' := h
  have lna := L.ne
  obtain ⟨ha0, ea, wa, ws, ca, cs, v11, v12, v13, sd, a1, a2, a3, a4, a5, a6, a7, a8, a9, a10, a11, a12, a13, a14, a15, a16, a17⟩ := h
  obtain ⟨t1, t2, t3, t4, t5, t6, t7, t8, t9, t10, t11⟩ := a2
  obtain ⟨b1, b2, b3, b4, b5, b6, b7, b8, b9, b10, b11⟩ := a3
  obtain ⟨T3, e, c3, f3, o3⟩ := (ObA.fr (T' := T1) a1 (F o b1)).pv 10 (va_rf (some l))
  have ow : ∀ x, x < T.2.1 → (if x < T.2.1 then aO A x else if x = l then 9 else 10) = aO A x := fun x q => if_pos q
  have F3 : ∀ x, x < T.2.1 → x ≠ o → T3.1 x = T.1 x := fun x q1 q2 => (f3 x q2).trans (F x q1)
  have no : ∀ x, aO A x ≠ 0 → x ≠ o := fun x q r => q (r ▸ t1)
  have fz : ∀ x, x < T.2.1 → aO A x = 11 → T3.1 x = T.1 x ∧ (if x < T.2.1 then aO A x else if x = l then 9 else 10) = 11 := fun x q1 q2 => ⟨F3 x q1 (no x (by omega)), (ow x q1).trans q2⟩
  have l3 : T.2.1 ≤ T3.2.1 := by rw [c3]; omega
  have nao : a ≠ o := by
    rcases a1_ with q | q
    · omega
    · exact no a (by omega)
  refine ⟨T3, e, ⟨_, h'.re (own' := fun x => if x < T.2.1 then aO A x else if x = l then 9 else 10) (cc' := aCc A) (al' := aAl A) (aa' := aAa A) (sl' := l) (sa' := a) (g' := sG s) (h' := sH s) (s' := s') (i' := sI s) l3 F3 ow o3 ⟨a7.lo fun x q => F3 x (by simp -implicitDefEqProofs only [bk] at q; omega) (no x (by have := t5 x q; omega)), fun x q => (ow x (by simp -implicitDefEqProofs only [bk] at q; omega)).trans (t5 x q), by omega⟩ ⟨a10.fr (F3 _ b8 (no _ (by omega))) (F3 _ b9 (no _ (by omega))), (ow _ b8).trans t8, ?_, by omega, by omega⟩ ⟨L.fr (f3 l (by omega)) (f3 a nao), ?_, ?_, by rw [c3]; omega, ?_⟩ (a15.mv l3 fz) (H.mv l3 fz) (a17.mv l3 fz)⟩, c3⟩
  · rcases t9 with q | q
    · exact Or.inl ((ow _ b9).trans q)
    · exact Or.inr ⟨(ow _ b9).trans q.1, q.2⟩
  · rw [if_neg (by omega), if_pos rfl]
  · rcases a1_ with q | ⟨q, q2, q3⟩
    · left; rw [if_neg (by omega), if_neg (Ne.symm lna)]
    · right; exact ⟨(ow a q).trans q2, q3⟩
  · rcases a1_ with q | q
    · rw [c3]; omega
    · omega
theorem CIa.newal (h : CIa G T o s A) {T1 : xF} {l a cap : Nat} {w : Bool} {ha' : Nat → Nat} {h2 : Hs} (hl : T.2.1 ≤ T1.2.1) (F : ∀ x, x < T.2.1 → T1.1 x = T.1 x) (L : LsAt T1 l a h2.1 ha' w cap) (l1 : T.2.1 ≤ l ∧ l < T1.2.1) (a1_ : T.2.1 ≤ a ∧ a < T1.2.1 ∨ a < T.2.1 ∧ aO A a = 11 ∧ cap = 0) (H : HsAt T (aO A) o h2 ha') : ∃ T3, pV T1 (some o) 0 9 (va_rf (some l)) = some T3 ∧ (∃ A', CIa G T3 o (sE s, sG s, h2, sS s, sI s, sB s, sT s, sF_ s, sR s) A') ∧ T3.2 = T1.2 := by
  have h' := h
  have lna := L.ne
  obtain ⟨ha0, ea, wa, ws, ca, cs, v11, v12, v13, sd, a1, a2, a3, a4, a5, a6, a7, a8, a9, a10, a11, a12, a13, a14, a15, a16, a17⟩ := h
  obtain ⟨t1, t2, t3, t4, t5, t6, t7, t8, t9, t10, t11⟩ := a2
  obtain ⟨b1, b2, b3, b4, b5, b6, b7, b8, b9, b10, b11⟩ := a3
  obtain ⟨T3, e, c3, f3, o3⟩ := (ObA.fr (T' := T1) a1 (F o b1)).pv 9 (va_rf (some l))
  have ow : ∀ x, x < T.2.1 → (if x < T.2.1 then aO A x else if x = l then 7 else 8) = aO A x := fun x q => if_pos q
  have F3 : ∀ x, x < T.2.1 → x ≠ o → T3.1 x = T.1 x := fun x q1 q2 => (f3 x q2).trans (F x q1)
  have no : ∀ x, aO A x ≠ 0 → x ≠ o := fun x q r => q (r ▸ t1)
  have fz : ∀ x, x < T.2.1 → aO A x = 11 → T3.1 x = T.1 x ∧ (if x < T.2.1 then aO A x else if x = l then 7 else 8) = 11 := fun x q1 q2 => ⟨F3 x q1 (no x (by omega)), (ow x q1).trans q2⟩
  have l3 : T.2.1 ≤ T3.2.1 := by rw [c3]; omega
  have nao : a ≠ o := by
    rcases a1_ with q | q
    · omega
    · exact no a (by omega)
  refine ⟨T3, e, ⟨_, h'.re (own' := fun x => if x < T.2.1 then aO A x else if x = l then 7 else 8) (cc' := aCc A) (al' := l) (aa' := a) (sl' := aSl A) (sa' := aSa A) (g' := sG s) (h' := h2) (s' := sS s) (i' := sI s) l3 F3 ow o3 ⟨a7.lo fun x q => F3 x (by simp -implicitDefEqProofs only [bk] at q; omega) (no x (by have := t5 x q; omega)), fun x q => (ow x (by simp -implicitDefEqProofs only [bk] at q; omega)).trans (t5 x q), by omega⟩ ⟨L.fr (f3 l (by omega)) (f3 a nao), ?_, ?_, by rw [c3]; omega, ?_⟩ ⟨a11.fr (F3 _ b10 (no _ (by omega))) (F3 _ b11 (no _ (by omega))), (ow _ b10).trans t10, ?_, by omega, by omega⟩ (H.mv l3 fz) (a16.mv l3 fz) (a17.mv l3 fz)⟩, c3⟩
  · rw [if_neg (by omega), if_pos rfl]
  · rcases a1_ with q | ⟨q, q2, q3⟩
    · left; rw [if_neg (by omega), if_neg (Ne.symm lna)]
    · right; exact ⟨(ow a q).trans q2, q3⟩
  · rcases a1_ with q | q
    · rw [c3]; omega
    · omega
  · rcases t11 with q | q
    · exact Or.inl ((ow _ b11).trans q)
    · exact Or.inr ⟨(ow _ b11).trans q.1, q.2⟩
theorem k_undo (ok : StOK s) (h : CIa G T o s A) {S : MS} (m : MI S s) : Jn T (c_X1_undo (some o) T) (m_undo S) fun r T' q => r = q.1 ∧ Nx G o T s T' q.2 := by
  have m0 := m.th 0
  have h46 := m0.2.2.1
  have hn40 : (sH s).1 ≤ 40 := ok.2.2.1.1
  obtain ⟨ha, wa, ca, L, H, ht, he⟩ := h.elems
  unfold c_X1_undo m_undo
  simp -implicitDefEqProofs only [h.q9, L.is, L.emp, Option.bind_some, not_true_eq_false, if_false, if_true]
  by_cases h0 : (sH s).1 = 0
  · have e0 : ((sH s).1 == 0) = true := by rw [h0]; rfl
    rw [e0, if_neg (show ¬ b01 true = 0 by decide), if_pos (show (sF S 0 0).1 46 = 0 by rw [h46, h0]; rfl)]
    exact Jnum ok h m0 (by omega) (by omega) rfl
  have e0 : ((sH s).1 == 0) = false := beq_eq_false_iff_ne.mpr h0
  obtain ⟨n, hn⟩ : ∃ n, (sH s).1 = n + 1 := ⟨(sH s).1 - 1, by omega⟩
  rw [e0, if_pos (show b01 false = 0 from rfl), if_neg (show ¬ (sF S 0 0).1 46 = 0 from fun q => by rw [h46] at q; have := (oeq (n := (sH s).1) (m := 0) (by omega) (by omega)).mp q; omega)]
  simp -implicitDefEqProofs only [h.q9, L.is, L.size, Option.bind_some, not_true_eq_false, if_false, if_true]
  have e1 : Int32.ofNat (sH s).1 - 1 = Int32.ofNat n := by rw [hn]; exact osub (a := n + 1) (b := 1) (by omega) (by omega)
  rw [e1]
  have Ln : LsAt T (aAl A) (aAa A) (n + 1) ha wa ca := by rw [← hn]; exact L
  refine Jn.cl (e_remove Ln (i := n) (by omega) fun k hk => ⟨(he k (by omega)).2.1, (he k (by omega)).2.2.1⟩) fun v T1 _ ⟨k1, k2, k3⟩ => ?_
  subst k1
  have c1 : T1.2 = T.2 := k2.1
  have n2 : ∀ k, k < n + 1 → ha k ≠ aAa A := by
    intro k hk r
    have e5 := (he k (by omega)).2.2.2.1
    obtain ⟨F2, w2, _⟩ := L.2.1
    rw [r, w2] at e5
    cases e5
  have own8 : aO A (aAa A) = 8 := ht.resolve_right fun q => by have := Ln.2.2.1; omega
  obtain ⟨b1, b2, b3, b4, b5, b6, b7, b8, b9, b10, b11⟩ := h.bn
  have h1 : CIa G T1 o (sE s, sG s, (n, (sH s).2), sS s, sI s, sB s, sT s, sF_ s, sR s) _ := h.acts (h' := (n, (sH s).2)) (by rw [c1]; exact Nat.le_refl _) (fun x _ q2 q3 => k2.2 x (by omega)) k3 (Or.inl ⟨rfl, by have := Ln.2.2.1; omega⟩) (H.go (by rw [c1]; exact Nat.le_refl _) (fun x q1 q2 => ⟨k2.2 x (fun r => by
      obtain ⟨_, _, tg⟩ := h.tg
      rcases r with r | r
      · rw [r] at q2; have := tg.2.2.2.2.2.2.2.1; omega
      · rw [r] at q2; omega), by show (if x < T.2.1 then aO A x else _) = 11; rw [if_pos q1]; exact q2⟩) (by show n ≤ _; omega) (fun k hk => ⟨by show (if k < n then ha k else _) = ha k; rw [if_pos hk], rfl⟩)) (fun _ => own8)
  have gq : GrAt T1 (ha n) o ((sH s).2 n) := (he n (by omega)).2.2.2.lo fun x q => k2.2 x fun r => by
    have hf := (H n (by omega)).1
    obtain ⟨_, _, tg⟩ := h.tg
    simp -implicitDefEqProofs only [bk] at q
    have kk : ∀ T', GrAt T' (ha n) o ((sH s).2 n) → T'.1 x ≠ none := by
      intro T' q'
      obtain ⟨d0, ⟨f1, d1, _⟩, ⟨f2, d2, _⟩, ⟨f3, d3, _⟩, ⟨f4, d4, _⟩⟩ := q'
      rcases (by omega : x = ha n ∨ x = ha n + 1 ∨ x = ha n + 2 ∨ x = ha n + 3 ∨ x = ha n + 4) with e | e | e | e | e
      · rw [e, d0]; exact fun q => by cases q
      · rw [e, d1]; exact fun q => by cases q
      · rw [e, d2]; exact fun q => by cases q
      · rw [e, d3]; exact fun q => by cases q
      · rw [e, d4]; exact fun q => by cases q
    have := hf.own kk
    rcases r with r | r
    · rw [r] at this; have := tg.2.2.2.2.2.2.2.1; omega
    · rw [r] at this; omega
  have cq : cst T1 (some (ha n)) [2] = true := by rw [cst.eq_2]; simp -implicitDefEqProofs only [gq.1]; rfl
  simp -implicitDefEqProofs only [cq, gq.is, Option.bind_some, not_true_eq_false, if_false, if_true]
  refine Jn.cl (e_copy gq (by have := (H n (by omega)).2; rw [c1]; exact this)) fun v T2 _ ⟨j1, j2, j3, j4, j5⟩ => ?_
  subst j1
  obtain ⟨T3, e3, ⟨A3, h3⟩, c3⟩ := h1.newcc j2 j3 j5
  refine Jn.st e3 (x2_le c3) ?_
  obtain ⟨ha3, wa3, ca3, L3, -⟩ := h3.elems
  have L3n : c_J2_size T3 (some (aAl A3)) = some (Int32.ofNat n) := L3.size
  simp -implicitDefEqProofs only [h3.q9, L3.is, L3n, Option.bind_some, not_true_eq_false, if_false, if_true]
  -- the reference
  have key : Mn (m_undo_26 FU 0 (sF (sF S 0 0) 46 ((sF S 0 0).1 46 - 1))) fun r => r.1 = Int32.ofNat n ∧ MI r.2 (grown (sE s, sG s, (n, (sH s).2), sS s, sI s, sB s, sT s, sF_ s, sR s) ((sH s).2 n)) := by
    have e46 : (sF (sF S 0 0) 46 ((sF S 0 0).1 46 - 1)).1 46 = Int32.ofNat n := by rw [sF_at, h46, hn]; exact osub (a := n + 1) (b := 1) (by omega) (by omega)
    generalize hS0 : sF (sF S 0 0) 46 ((sF S 0 0).1 46 - 1) = S0 at e46
    have f0 : ∀ k, k ≠ 46 → S0.1 k = (sF S 0 0).1 k := fun k q => by rw [← hS0]; exact sF_ne q
    have r0 : S0.2 = (sF S 0 0).2 := by rw [← hS0]; rfl
    refine loop_rule (σ := MS) (N := 121) (fun i s1 => mfr (rk 0) S0 s1 ∧ ∀ k, k < i → s1.2.2 13 (0 + k) = S0.2.2 14 (121 * n + k)) (fun m i s1 => Mn (m_undo_26 m (Int32.ofNat i) s1) _) ?_ ?_ FU (by decide) S0 ⟨mfr.rf, fun k hk => absurd hk (Nat.not_lt_zero k)⟩
    · rintro m i S1 hi ⟨q1, q2⟩ K
      have hle : ¬ (121 : Int32) ≤ Int32.ofNat i := fun q => by have := (ole (n := 121) (by omega) (by omega)).mp q; omega
      show Mn (m_undo_26_b (m_undo_26 m) (Int32.ofNat i) S1) _
      unfold m_undo_26_b
      have e1 : (121 : Int32) * S1.1 46 + Int32.ofNat i = Int32.ofNat (121 * n + i) := by
        rw [q1.1, e46, show (121 : Int32) = Int32.ofNat 121 from rfl, omul, oadd]
      simp -implicitDefEqProofs only [hle, Option.bind_some, not_true_eq_false, if_false, if_true, e1, rd14 (show 121 * n + i < 4840 by omega), wr13 (show i < 242 by omega), ofn1 i (by omega)]
      refine K _ ⟨q1.tr (sA_fr.up fun j k q => ⟨q.1, by omega, by omega⟩), fun k hk => ?_⟩
      rw [sA_at]
      unfold upd
      by_cases q : k = i
      · subst q; rw [if_pos (by omega), q1.2.2 14 _ (fun r => by cases r.1)]
      · rw [if_neg (by omega)]; exact q2 k (by omega)
    · rintro m S1 ⟨q1, q2⟩
      show Mn (m_undo_26_b (m_undo_26 m) (Int32.ofNat 121) S1) _
      unfold m_undo_26_b
      rw [if_pos (by decide)]
      refine Mn.ret ⟨by show S1.1 46 = _; rw [q1.1]; exact e46, ?_⟩
      have mm : MI S0 (sE s, sG s, (n, (sH s).2), sS s, sI s, sB s, sT s, sF_ s, sR s) := by
        obtain ⟨a1, a2, a3, a4, a5, a6, a7, a8, a9, a10, a11⟩ := m0
        refine ⟨a1.mono (fun k q1 q2 => f0 k (by omega)) (fun j _ => by rw [r0]), by rw [r0]; exact a2, e46, fun k hk => by rw [r0]; exact a4 k (by have hk : k < n := hk; omega), (f0 53 (by decide)).trans a5, fun k hk => by rw [r0]; exact a6 k hk, ?_, (f0 13 (by decide)).trans a8, fun k hk => by rw [r0]; exact a9 k hk, (f0 15 (by decide)).trans a10, fun k hk => by rw [r0]; exact a11 k hk⟩
        show match sI s with
          | none => _
          | some (g, h, x) => _
        cases hi : sI s with
        | none => rw [hi] at a7; exact (f0 58 (by decide)).trans a7
        | some x =>
          rw [hi] at a7
          obtain ⟨b1, b2, b3, b4, b5, b6⟩ := a7
          exact ⟨(f0 58 (by decide)).trans b1, by rw [r0]; exact b2, (f0 59 (by decide)).trans b3, by rw [r0]; exact b4, (f0 60 (by decide)).trans b5, by rw [r0]; exact b6⟩
      refine mm.grown q1 ?_
      have a4 := m0.2.2.2.1 n (by omega)
      exact AtJ.cp a4 fun i hi => by rw [q2 i hi, r0]
  obtain ⟨r, x1, x2, x3⟩ := key
  rw [x1]
  obtain ⟨r1, r2⟩ := r
  dsimp only at x2 x3
  subst x2
  have okn : StOK (grown (sE s, sG s, (n, (sH s).2), sS s, sI s, sB s, sT s, sF_ s, sR s) ((sH s).2 n)) := ⟨ok.1, ok.2.2.1.2 n (by omega), ⟨by show n ≤ 40; omega, fun k hk => ok.2.2.1.2 k (by have hk : k < n := hk; omega)⟩, ok.2.2.2⟩
  exact Jnum okn h3 x3 (by rw [c3, j3, c1]; omega) (by rw [c3, j4, c1]; omega) rfl
end RB
