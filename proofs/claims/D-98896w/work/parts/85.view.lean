/-! plain law: what a command sees of the system's state, and what is tried -/
set_option maxRecDepth 100000
section OB
variable {T : xF} {o : Nat} {A : Ad} {s : St} {v11 v12 v13 : Option Nat} {sd : Int32}
theorem ObA.q0 (h : ObA T o A s v11 v12 v13 sd) : oQ T (some o) 0 0 = some (some (aVa A)) := by unfold oQ oF; simp [show T.1 o = _ from h, vQ, va_rf]
theorem ObA.q1 (h : ObA T o A s v11 v12 v13 sd) : oQ T (some o) 0 1 = some (some (aRl A)) := by unfold oQ oF; simp [show T.1 o = _ from h, vQ, va_rf]
theorem ObA.q3 (h : ObA T o A s v11 v12 v13 sd) : oQ T (some o) 0 3 = some (some (aTt A)) := by unfold oQ oF; simp [show T.1 o = _ from h, vQ, va_rf]
theorem ObA.q4 (h : ObA T o A s v11 v12 v13 sd) : oQ T (some o) 0 4 = some (some (aCc A)) := by unfold oQ oF; simp [show T.1 o = _ from h, vQ, va_rf]
theorem ObA.q5 (h : ObA T o A s v11 v12 v13 sd) : oQ T (some o) 0 5 = some (some (aTp A)) := by unfold oQ oF; simp [show T.1 o = _ from h, vQ, va_rf]
theorem ObA.i6 (h : ObA T o A s v11 v12 v13 sd) : oI T (some o) 0 6 = some (Int32.ofNat (sT s)) := by unfold oI oF; simp [show T.1 o = _ from h, vI]
theorem ObA.i7 (h : ObA T o A s v11 v12 v13 sd) : oI T (some o) 0 7 = some (sF_ s) := by unfold oI oF; simp [show T.1 o = _ from h, vI]
theorem ObA.q8 (h : ObA T o A s v11 v12 v13 sd) : oQ T (some o) 0 8 = some (some (aRf A)) := by unfold oQ oF; simp [show T.1 o = _ from h, vQ, va_rf]
theorem ObA.q9 (h : ObA T o A s v11 v12 v13 sd) : oQ T (some o) 0 9 = some (some (aAl A)) := by unfold oQ oF; simp [show T.1 o = _ from h, vQ, va_rf]
theorem ObA.q10 (h : ObA T o A s v11 v12 v13 sd) : oQ T (some o) 0 10 = some (some (aSl A)) := by unfold oQ oF; simp [show T.1 o = _ from h, vQ, va_rf]
theorem ObA.iso (h : ObA T o A s v11 v12 v13 sd) : isO T (some o) 0 = true := by rw [isO.eq_1]; unfold oF; simp [show T.1 o = _ from h]
end OB
section CV
variable {G : xG} {T T' : xF} {o : Nat} {s : St} {A : Ad}
theorem CIa.ob (h : CIa G T o s A) : ∃ v11 v12 v13 sd, ObA T o A s v11 v12 v13 sd := by
  obtain ⟨ha, ea, wa, ws, ca, cs, v11, v12, v13, sd, a1, -⟩ := h
  exact ⟨_, _, _, _, a1⟩
theorem CIa.q0 (h : CIa G T o s A) : oQ T (some o) 0 0 = some (some (aVa A)) := let ⟨_, _, _, _, h⟩ := h.ob; h.q0
theorem CIa.q1 (h : CIa G T o s A) : oQ T (some o) 0 1 = some (some (aRl A)) := let ⟨_, _, _, _, h⟩ := h.ob; h.q1
theorem CIa.q3 (h : CIa G T o s A) : oQ T (some o) 0 3 = some (some (aTt A)) := let ⟨_, _, _, _, h⟩ := h.ob; h.q3
theorem CIa.q4 (h : CIa G T o s A) : oQ T (some o) 0 4 = some (some (aCc A)) := let ⟨_, _, _, _, h⟩ := h.ob; h.q4
theorem CIa.q5 (h : CIa G T o s A) : oQ T (some o) 0 5 = some (some (aTp A)) := let ⟨_, _, _, _, h⟩ := h.ob; h.q5
theorem CIa.i6 (h : CIa G T o s A) : oI T (some o) 0 6 = some (Int32.ofNat (sT s)) := let ⟨_, _, _, _, h⟩ := h.ob; h.i6
theorem CIa.i7 (h : CIa G T o s A) : oI T (some o) 0 7 = some (sF_ s) := let ⟨_, _, _, _, h⟩ := h.ob; h.i7
theorem CIa.q8 (h : CIa G T o s A) : oQ T (some o) 0 8 = some (some (aRf A)) := let ⟨_, _, _, _, h⟩ := h.ob; h.q8
theorem CIa.q9 (h : CIa G T o s A) : oQ T (some o) 0 9 = some (some (aAl A)) := let ⟨_, _, _, _, h⟩ := h.ob; h.q9
theorem CIa.q10 (h : CIa G T o s A) : oQ T (some o) 0 10 = some (some (aSl A)) := let ⟨_, _, _, _, h⟩ := h.ob; h.q10
theorem CIa.iso (h : CIa G T o s A) : isO T (some o) 0 = true := let ⟨_, _, _, _, h⟩ := h.ob; h.iso
theorem CIa.cc (h : CIa G T o s A) : GrAt T (aCc A) o (sG s) := by
  obtain ⟨ha, ea, wa, ws, ca, cs, v11, v12, v13, sd, a1, a2, a3, a4, a5, a6, a7, -⟩ := h
  exact a7
theorem CIa.bb (h : CIa G T o s A) : ∃ g, GrAt T (aBb A) o g := by
  obtain ⟨ha, ea, wa, ws, ca, cs, v11, v12, v13, sd, a1, a2, a3, a4, a5, a6, a7, -⟩ := h
  exact a5
theorem CIa.tt (h : CIa G T o s A) : ∃ g, GrAt T (aTt A) o g := by
  obtain ⟨ha, ea, wa, ws, ca, cs, v11, v12, v13, sd, a1, a2, a3, a4, a5, a6, a7, -⟩ := h
  exact a6
theorem CIa.va (h : CIa G T o s A) : ∃ f, VaAt T (aVa A) f := by
  obtain ⟨ha, ea, wa, ws, ca, cs, v11, v12, v13, sd, a1, a2, a3, a4, -⟩ := h
  exact a4
theorem CIa.bn (h : CIa G T o s A) : BnA T o A := by
  obtain ⟨ha, ea, wa, ws, ca, cs, v11, v12, v13, sd, a1, a2, a3, -⟩ := h
  exact a3
theorem CIa.tg (h : CIa G T o s A) : ∃ ca cs, TgA o A ca cs := by
  obtain ⟨ha, ea, wa, ws, ca, cs, v11, v12, v13, sd, a1, a2, -⟩ := h
  exact ⟨_, _, a2⟩
theorem CIa.tb (h : CIa G T o s A) : aTt A + 5 ≤ aBb A ∨ aBb A + 5 ≤ aTt A := by
  obtain ⟨_, _, t1, t2, t3, t4, t5, -⟩ := h.tg
  exact Ap_own t4 t3 (by decide)
theorem CIa.cb (h : CIa G T o s A) : aCc A + 5 ≤ aBb A ∨ aBb A + 5 ≤ aCc A := by
  obtain ⟨_, _, t1, t2, t3, t4, t5, -⟩ := h.tg
  exact Ap_own t5 t3 (by decide)
theorem CIa.tc (h : CIa G T o s A) : aTt A + 5 ≤ aCc A ∨ aCc A + 5 ≤ aTt A := by
  obtain ⟨_, _, t1, t2, t3, t4, t5, -⟩ := h.tg
  exact Ap_own t4 t5 (by decide)
theorem CIa.vt (h : CIa G T o s A) : ¬ bk (aTt A) (aVa A) := by
  obtain ⟨_, _, t1, t2, t3, t4, t5, -⟩ := h.tg
  exact fun q => by have := t4 _ q; omega
theorem CIa.vb (h : CIa G T o s A) : ¬ bk (aBb A) (aVa A) := by
  obtain ⟨_, _, t1, t2, t3, t4, t5, -⟩ := h.tg
  exact fun q => by have := t3 _ q; omega
theorem CIa.vc (h : CIa G T o s A) : ¬ bk (aCc A) (aVa A) := by
  obtain ⟨_, _, t1, t2, t3, t4, t5, -⟩ := h.tg
  exact fun q => by have := t5 _ q; omega
theorem CIa.evx (h : CIa G T o s A) {E : Nat → Prop} (hE : ∀ x, E x → aO A x = 1 ∨ aO A x = 2 ∨ aO A x = 3 ∨ aO A x = 4) : Ev E G T o (aRl A) (aVa A) (aBb A) (sE s) := by
  obtain ⟨ha, ea, wa, ws, ca, cs, v11, v12, v13, sd, a1, a2, a3, a4, a5, a6, a7, a8, a9, a10, a11, a12, -⟩ := h
  exact EvR.ev a12 a3.1 a1 fun x q _ => ⟨by have := hE x q; omega, fun r => by have := hE x q; rw [r, a2.1] at this; omega⟩
theorem CIa.evt (h : CIa G T o s A) : Ev (ep (aTt A) (aBb A) (aVa A)) G T o (aRl A) (aVa A) (aBb A) (sE s) := h.evx fun x q => by
  obtain ⟨_, _, t1, t2, t3, t4, t5, -⟩ := h.tg
  rcases q with q | q | q
  · have := t4 x q; omega
  · have := t3 x q; omega
  · rw [q, t2]; omega
theorem CIa.evc (h : CIa G T o s A) : Ev (ep (aCc A) (aBb A) (aVa A)) G T o (aRl A) (aVa A) (aBb A) (sE s) := h.evx fun x q => by
  obtain ⟨_, _, t1, t2, t3, t4, t5, -⟩ := h.tg
  rcases q with q | q | q
  · have := t5 x q; omega
  · have := t3 x q; omega
  · rw [q, t2]; omega
/-- with what is tried -/
def Tr (G : xG) (T : xF) (o : Nat) (s : St) (A : Ad) (g : Gw) : Prop := CIa G T o s A ∧ GrAt T (aTt A) o g
theorem CIa.trf (h : CIa G T o s A) {g : Gw} (F : frc (ep (aTt A) (aBb A) (aVa A)) T T') (hv : ∃ f, VaAt T' (aVa A) f) (hb : ∃ g, GrAt T' (aBb A) o g) (ht : GrAt T' (aTt A) o g) : Tr G T' o s A g := by
  refine ⟨h.fr F (fun x _ q => ?_) hv hb ⟨_, ht⟩, ht⟩
  obtain ⟨_, _, t1, t2, t3, t4, t5, -⟩ := h.tg
  rcases q with q | q | q
  · have := t4 x q; omega
  · have := t3 x q; omega
  · rw [q, t2]; omega
/-- only the tried growth has changed -/
theorem CIa.trb (h : CIa G T o s A) {g : Gw} (F : frm (bk (aTt A)) T T') (ht : GrAt T' (aTt A) o g) : Tr G T' o s A g := by
  obtain ⟨f, hv⟩ := h.va
  obtain ⟨gb, hb⟩ := h.bb
  have tb := h.tb
  exact h.trf (F.c.up fun x q => Or.inl q) ⟨f, hv.fr F h.vt⟩ ⟨gb, hb.fr F fun x q r => by simp -implicitDefEqProofs only [bk] at q r; omega⟩ ht
theorem t_be (h : CIa G T o s A) : Rn T (c_X3_be (some (aTt A)) (some (aCc A)) T) fun v T' => v = some (aTt A) ∧ Tr G T' o s A (sG s) ∧ T'.2 = T.2 := by
  obtain ⟨g0, h0⟩ := h.tt
  exact (e_be h0 h.cc h.tc).mono fun v T' _ ⟨k1, k2, k3⟩ => ⟨k1, h.trb k2 k3, k2.1⟩
section TR
variable {g : Gw}
theorem t_pass {n : Nat} (ok : StOK s) (h : Tr G T o s A g) (hg : GI (sE s) g (n + 1)) : Rn T (c_X3_pass G (some (aTt A)) T) fun v T' => v = some (aTt A) ∧ Tr G T' o s A (gpass (sE s) g) ∧ T'.2 = T.2 := by
  obtain ⟨f, hv⟩ := h.1.va
  obtain ⟨gb, hb⟩ := h.1.bb
  exact (e_pass ok.1 h.1.evt h.2 hb hv h.1.tb h.1.vt h.1.vb hg.1.gk).mono fun v T' _ ⟨k1, k2, k3, k4, k5⟩ => ⟨k1, h.1.trf k2.c k5 k4 k3, k2.1⟩
theorem t_after {k n : Nat} (ok : StOK s) (h : Tr G T o s A g) (hk : k < 100) (hg : GI (sE s) g (n + k + 1)) : Rn T (c_X3_after G (some (aTt A)) (Int32.ofNat k) T) fun v T' => v = some (aTt A) ∧ Tr G T' o s A (gafter (sE s) k g) ∧ T'.2 = T.2 := by
  obtain ⟨f, hv⟩ := h.1.va
  obtain ⟨gb, hb⟩ := h.1.bb
  exact (e_after ok.1 h.1.evt h.2 hb hv h.1.tb h.1.vt h.1.vb hk hg.1).mono fun v T' _ ⟨k1, k2, k3, k4, k5⟩ => ⟨k1, h.1.trf k2.c k5 k4 k3, k2.1⟩
theorem t_feed {c : Nat} (h : Tr G T o s A g) (hc : c < 30) (m : Int32) : Rn T (c_X3_feed (some (aTt A)) (Int32.ofNat c) m T) fun _ T' => Tr G T' o s A (gfeed g c m) ∧ T'.2 = T.2 := (e_feed h.2 hc m).mono fun _ T' _ ⟨k1, k2⟩ => ⟨h.1.trb k1 k2, k1.1⟩
theorem t_clear {c : Nat} (h : Tr G T o s A g) (hc : c < 30) : Rn T (c_X3_clear (some (aTt A)) (Int32.ofNat c) T) fun _ T' => Tr G T' o s A (gclr g c) ∧ T'.2 = T.2 := (e_clear h.2 hc).mono fun _ T' _ ⟨k1, k2⟩ => ⟨h.1.trb k1 k2, k1.1⟩
theorem t_frost (ok : StOK s) (h : Tr G T o s A g) : Rn T (c_X3_frost (some (aTt A)) T) fun _ T' => Tr G T' o s A (gfrost (sE s) g) ∧ T'.2 = T.2 := (e_frost ok.1 (h.1.evt.sub fun x q => Or.inl q) h.2).mono fun _ T' _ ⟨k1, k2⟩ => ⟨h.1.trb k1 k2, k1.1⟩
theorem t_grows {c n : Nat} (ok : StOK s) (h : Tr G T o s A g) (hc : c < 30) (hg : GI (sE s) g (n + 1)) : Rn T (c_X3_grows G (some (aTt A)) (Int32.ofNat c) T) fun v T' => v = (if gK g c = -1 then 0 else grw (sE s) g c) ∧ Tr G T' o s A g ∧ T'.2 = T.2 := by
  obtain ⟨f, hv⟩ := h.1.va
  obtain ⟨gb, hb⟩ := h.1.bb
  exact (e_grows ok.1 (h.1.evt.sub fun x q => Or.inr (Or.inr q)) h.2 hv h.1.vt hc hg.1.gk).mono fun v T' _ ⟨k1, k2, k3⟩ => ⟨k1, h.1.trf (k2.c.up fun x q => Or.inr (Or.inr q)) k3 ⟨gb, hb.fr k2 fun x q r => h.1.vb (r ▸ q)⟩ (h.2.fr k2 fun x q r => h.1.vt (r ▸ q)), k2.1⟩
theorem t_later {k : Nat} (ok : StOK s) (h : CIa G T o s A) (hk : k < 100) : Rn T (c_X1_later G (some o) (Int32.ofNat k) T) fun v T' => v = some (aTt A) ∧ Tr G T' o s A (gafter (sE s) k (sG s)) ∧ T'.2 = T.2 := by
  obtain ⟨g0, h0⟩ := h.tt
  unfold c_X1_later
  simp -implicitDefEqProofs only [h.q3, h.q4, h0.is, Option.bind_some, not_true_eq_false, if_false, if_true]
  refine Rn.cl (t_be h) fun v T1 _ ⟨k1, k2, k3⟩ => ?_
  subst k1
  simp -implicitDefEqProofs only [k2.2.is, Option.bind_some, not_true_eq_false, if_false, if_true]
  refine Rn.cl (t_after (n := 0) ok k2 hk (ok.2.1.le (by omega))) fun v T2 _ ⟨j1, j2, j3⟩ => ?_
  exact Rn.ret ⟨j1, j2, j3.trans k3⟩
theorem t_votes (ok : StOK s) (h : Tr G T o s A g) {n : Nat} (hg : GI (sE s) g n) (p : Int32) : c_X3_votes T (some (aTt A)) p = some (vts (sE s) g p) := e_votes ok.1 h.1.evt h.2 hg.1.2 p
theorem t_winner (ok : StOK s) (h : Tr G T o s A g) {n : Nat} (hg : GI (sE s) g n) : c_X3_winner T (some (aTt A)) = some (win (sE s) g) := e_winner ok.1 h.1.evt h.2 hg.1.2
theorem t_votesOf (ok : StOK s) (h : Tr G T o s A g) {n : Nat} (hg : GI (sE s) g n) (x : Int32) : c_X3_votesOf T (some (aTt A)) x = some (vof (sE s) g x) := e_votesOf ok.1 h.1.evt h.2 hg.1.2 x
theorem n_votes (ok : StOK s) (h : CIa G T o s A) (p : Int32) : c_X3_votes T (some (aCc A)) p = some (vts (sE s) (sG s) p) := e_votes ok.1 h.evc h.cc ok.2.1.1.2 p
theorem n_winner (ok : StOK s) (h : CIa G T o s A) : c_X3_winner T (some (aCc A)) = some (win (sE s) (sG s)) := e_winner ok.1 h.evc h.cc ok.2.1.1.2
theorem n_votesOf (ok : StOK s) (h : CIa G T o s A) (x : Int32) : c_X3_votesOf T (some (aCc A)) x = some (vof (sE s) (sG s) x) := e_votesOf ok.1 h.evc h.cc ok.2.1.1.2 x
theorem n_isVoter {c : Nat} (h : CIa G T o s A) (hc : c < 30) : c_X3_isVoter T (some (aCc A)) (Int32.ofNat c) = some (b01 (vtr (sE s) (sG s) c)) := e_isVoter h.evc h.cc hc
end TR
end CV
