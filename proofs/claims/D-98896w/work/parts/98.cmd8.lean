/-! plain law: commands that act -/
set_option maxRecDepth 100000
section RB
variable {G : xG} {T T' : xF} {o : Nat} {s : St} {A : Ad}
/-- refusals, the tape, or fields of numbers have changed -/
theorem CIa.rfx (h : CIa G T o s A) (F : frm (fun x => x = aRf A ∨ x = aTp A ∨ x = o) T T') {b : Nat → Int32} {t : Nat} {f : Int32} {r : Nat → Int32} (hR : RfA T' A (sE s, sG s, sH s, sS s, sI s, b, t, f, r)) (hT : TpA T' A (sE s, sG s, sH s, sS s, sI s, b, t, f, r)) (hO : ∀ v11 v12 v13 sd, ObA T o A s v11 v12 v13 sd → ∃ sd', ObA T' o A (sE s, sG s, sH s, sS s, sI s, b, t, f, r) v11 v12 v13 sd') : CIa G T' o (sE s, sG s, sH s, sS s, sI s, b, t, f, r) A := by
  obtain ⟨ha0, ea, wa, ws, ca, cs, v11, v12, v13, sd, a1, a2, a3, ⟨f4, a4⟩, ⟨g5, a5⟩, ⟨g6, a6⟩, a7, a8, a9, a10, a11, a12, a13, a14, a15, a16, a17⟩ := h
  obtain ⟨t1, t2, t3, t4, t5, t6, t7, t8, t9, t10, t11⟩ := a2
  obtain ⟨b1, b2, b3, b4, b5, b6, b7, b8, b9, b10, b11⟩ := a3
  have hl : T.2.1 ≤ T'.2.1 := by rw [F.1]; exact Nat.le_refl _
  have F' : ∀ x, aO A x ≠ 0 → aO A x ≠ 5 → aO A x ≠ 6 → T'.1 x = T.1 x := fun x q1 q2 q3 => F.2 x fun q => by
    rcases q with q | q | q
    · rw [q] at q3; exact q3 t7
    · rw [q] at q2; exact q2 t6
    · rw [q] at q1; exact q1 t1
  have fz : ∀ x, x < T.2.1 → aO A x = 11 → T'.1 x = T.1 x ∧ aO A x = 11 := fun x q1 q2 => ⟨F' x (by omega) (by omega) (by omega), q2⟩
  obtain ⟨sd', a1'⟩ := hO _ _ _ _ a1
  refine ⟨ha0, ea, wa, ws, ca, cs, v11, v12, v13, sd', a1', ⟨t1, t2, t3, t4, t5, t6, t7, t8, t9, t10, t11⟩, BnA.fr ⟨b1, b2, b3, b4, b5, b6, b7, b8, b9, b10, b11⟩ hl, ⟨f4, a4.lo (F' _ (by omega) (by omega) (by omega))⟩, ⟨g5, a5.lo fun x q => F' x (by have := t3 x q; omega) (by have := t3 x q; omega) (by have := t3 x q; omega)⟩, ⟨g6, a6.lo fun x q => F' x (by have := t4 x q; omega) (by have := t4 x q; omega) (by have := t4 x q; omega)⟩, a7.lo fun x q => F' x (by have := t5 x q; omega) (by have := t5 x q; omega) (by have := t5 x q; omega), hT, hR, a10.fr (F' _ (by omega) (by omega) (by omega)) (F' _ (by omega) (by omega) (by omega)), a11.fr (F' _ (by omega) (by omega) (by omega)) (F' _ (by omega) (by omega) (by omega)), a12.mv hl fz, a13.mv hl fz, a14.mv hl fz, a15.mv hl fz, a16.mv hl fz, a17.mv hl fz⟩
theorem RfA.st (h : RfA T A s) {k : Nat} (hk : k < 3) (v : Int32) : ∃ T', stA T (some (aRf A)) .int (Int32.ofNat k) v = some T' ∧ frm (fun x => x = aRf A) T T' ∧ ∃ f : Nat → Int32, T'.1 (aRf A) = some (true, .inl (.int, 3, .inl f)) ∧ ∀ i, i < 3 → f i = upd (sR s) k v i := by
  obtain ⟨f, h1, h2⟩ := h
  refine ⟨(xset T.1 (aRf A) (true, .inl (.int, 3, .inl (upd f k v))), T.2), ?_, ⟨rfl, fun x hx => xset_no hx⟩, ⟨upd f k v, xset_eq, fun i hi => ?_⟩⟩
  · rw [stA.eq_2]
    simp -implicitDefEqProofs only [h1]
    rw [if_pos ⟨trivial, inb_o hk (by omega)⟩, ocl (by omega)]
  · unfold upd
    rw [h2 i hi]
theorem refd_ok (ok : StOK s) {k : Nat} : StOK (refd s k) := ok
theorem e_ref1 (h : CIa G T o s A) {k : Nat} (hk : k < 3) : ldA T (some (aRf A)) .int (Int32.ofNat k) = some (sR s k) ∧ ∃ T', stA T (some (aRf A)) .int (Int32.ofNat k) (sR s k + 1) = some T' ∧ CIa G T' o (refd s k) A ∧ T'.2 = T.2 := by
  obtain ⟨T', e, f, F, g1, g2⟩ := h.rfa.st hk (sR s k + 1)
  obtain ⟨_, _, tg⟩ := h.tg
  have no : o ≠ aRf A := fun q => by have h1 := tg.1; have h2 := tg.2.2.2.2.2.2.1; rw [← q] at h2; omega
  have nt : aTp A ≠ aRf A := fun q => by have h1 := tg.2.2.2.2.2.1; have h2 := tg.2.2.2.2.2.2.1; rw [← q] at h2; omega
  exact ⟨h.rfa.ld hk, T', e, h.rfx (f.up fun x q => Or.inl q) ⟨F, g1, g2⟩ (TpA.fr (A := A) (s := s) h.tpa (f.2 _ nt)) fun v11 v12 v13 sd ob => ⟨sd, ObA.fr (s := s) ob (f.2 _ no)⟩, f.1⟩
theorem e_refuse (h : CIa G T o s A) {k : Nat} (hk : k < 3) : Rn T (c_X1_refuse (some o) (Int32.ofNat k) T) fun v T' => v = -1 ∧ CIa G T' o (refd s k) A ∧ T'.2 = T.2 := by
  obtain ⟨e0, T', e, h', l⟩ := e_ref1 h hk
  unfold c_X1_refuse
  simp -implicitDefEqProofs only [h.q8, e0, Option.bind_some, not_true_eq_false, if_false, if_true]
  exact Rn.st e (x2_le l) (Rn.ret ⟨rfl, h', l⟩)
/-! the growth itself -/
abbrev grown (s : St) (g : Gw) : St := (sE s, g, sH s, sS s, sI s, sB s, sT s, sF_ s, sR s)
theorem grown_ok (ok : StOK s) {g : Gw} (h : GI (sE s) g 1001) : StOK (grown s g) := ⟨ok.1, h, ok.2.2⟩
theorem CIa.grb (h : CIa G T o s A) {g : Gw} (F : frm (bk (aCc A)) T T') (ht : GrAt T' (aCc A) o g) : CIa G T' o (grown s g) A := by
  obtain ⟨f, hv⟩ := h.va
  obtain ⟨gb, hb⟩ := h.bb
  have cb := h.cb
  obtain ⟨_, _, tg⟩ := h.tg
  exact h.gr (F.c) (fun x _ q => Or.inr (Or.inr (tg.2.2.2.2.1 x q))) ⟨f, hv.fr F h.vc⟩ ⟨gb, hb.fr F fun x q r => by simp -implicitDefEqProofs only [bk] at q r; omega⟩ ht
theorem n_feed {c : Nat} (h : CIa G T o s A) (hc : c < 30) (m : Int32) : Rn T (c_X3_feed (some (aCc A)) (Int32.ofNat c) m T) fun _ T' => CIa G T' o (grown s (gfeed (sG s) c m)) A ∧ T'.2 = T.2 := (e_feed h.cc hc m).mono fun _ T' _ ⟨k1, k2⟩ => ⟨h.grb k1 k2, k1.1⟩
theorem n_clear {c : Nat} (h : CIa G T o s A) (hc : c < 30) : Rn T (c_X3_clear (some (aCc A)) (Int32.ofNat c) T) fun _ T' => CIa G T' o (grown s (gclr (sG s) c)) A ∧ T'.2 = T.2 := (e_clear h.cc hc).mono fun _ T' _ ⟨k1, k2⟩ => ⟨h.grb k1 k2, k1.1⟩
theorem n_after {k n : Nat} (ok : StOK s) (h : CIa G T o s A) (hk : k < 100) (hg : GI (sE s) (sG s) (n + k + 1)) : Rn T (c_X3_after G (some (aCc A)) (Int32.ofNat k) T) fun v T' => v = some (aCc A) ∧ CIa G T' o (grown s (gafter (sE s) k (sG s))) A ∧ T'.2 = T.2 := by
  obtain ⟨f, hv⟩ := h.va
  obtain ⟨gb, hb⟩ := h.bb
  obtain ⟨_, _, tg⟩ := h.tg
  exact (e_after ok.1 h.evc h.cc hb hv h.cb h.vc h.vb hk hg.1).mono fun v T' _ ⟨k1, k2, k3, k4, k5⟩ => ⟨k1, h.gr k2.c (fun x _ q => by
    rcases q with q | q | q
    · exact Or.inr (Or.inr (tg.2.2.2.2.1 x q))
    · exact Or.inr (Or.inl (tg.2.2.1 x q))
    · exact Or.inl (by rw [q]; exact tg.2.1)) k5 k4 k3, k2.1⟩
end RB
section RM
variable {S S' : MS} {s : St}
theorem MI.grown (h : MI S s) {g : Gw} (w : mfr (rk 0) S S') (r : RwAt S' 0 g) : MI S' (grown s g) := by
  have hk : ∀ j i, ¬ rk 0 j i → S'.2.2 j i = S.2.2 j i := w.2.2
  obtain ⟨a1, a2, a3, a4, a5, a6, a7, a8, a9, a10, a11⟩ := h
  have ar : ∀ j, j ≠ 13 → S'.2.2 j = S.2.2 j := fun j hj => funext fun i => hk j i fun q => hj q.1
  refine ⟨a1.mono (fun k _ _ => by rw [w.1]) (fun j hj => ar j (by omega)), r, by rw [w.1]; exact a3, fun k hk => by rw [ar 14 (by decide)]; exact a4 k hk, by rw [w.1]; exact a5, fun k hk => by rw [ar 21 (by decide)]; exact a6 k hk, ?_, by rw [w.1]; exact a8, fun k hk => by rw [ar 4 (by decide)]; exact a9 k hk, by rw [w.1]; exact a10, fun k hk => by rw [ar 5 (by decide)]; exact a11 k hk⟩
  show match sI s with
      | none => _
      | some (g, h, x) => _
  cases hi : sI s with
  | none => rw [hi] at a7; rw [w.1]; exact a7
  | some x =>
    rw [hi] at a7
    obtain ⟨b1, b2, b3, b4, b5, b6⟩ := a7
    exact ⟨by rw [w.1]; exact b1, by rw [ar 24 (by decide)]; exact b2, by rw [w.1]; exact b3, by rw [ar 25 (by decide)]; exact b4, by rw [w.1]; exact b5, by rw [ar 26 (by decide)]; exact b6⟩
theorem MI.mem (h : MI S s) (w : mfr em S S') : MI S' s := h.fr w fun j i q => by unfold mfree; rcases q with q | q | q <;> omega
theorem v_pass {n : Nat} (ok : StOK s) (h : MI S s) (hg : GI (sE s) (sG s) (n + 1)) : Mn (m_dayGoes 0 S) fun S' => MI S' (grown s (gpass (sE s) (sG s))) ∧ S'.1 = S.1 := (r_pass (b := 0) ok.1 (h.mv eb_own) h.row (by decide) hg).mono fun S' ⟨w, k⟩ => by
  -- the row, and what lies in told, pile, becomes
  let S1 : MS := (S.1, S.2.1, fun j i => if j = 13 then S'.2.2 13 i else S.2.2 j i)
  have w1 : mfr (rk 0) S S1 := ⟨rfl, rfl, fun j i q => by
    show (if j = 13 then S'.2.2 13 i else S.2.2 j i) = _
    by_cases hj : j = 13
    · subst hj
      rw [if_pos rfl]
      exact w.2.2 13 i fun r => r.elim (fun r => by omega) q
    · rw [if_neg hj]⟩
  have w2 : mfr em S1 S' := ⟨w.1, w.2.1, fun j i q => by
    show _ = (if j = 13 then S'.2.2 13 i else S.2.2 j i)
    by_cases hj : j = 13
    · subst hj; rw [if_pos rfl]
    · rw [if_neg hj]
      exact w.2.2 j i fun r => r.elim q (fun r => hj r.1)⟩
  have r1 : RwAt S1 0 (gpass (sE s) (sG s)) := k
  exact ⟨(h.grown w1 r1).mem w2, w.1⟩
end RM
