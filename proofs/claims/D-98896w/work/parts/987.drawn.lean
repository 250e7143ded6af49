/-! plain law: drawn by a seed -/
set_option maxRecDepth 100000
theorem and_mask (a : Int32) : ∃ j, j ≤ 32767 ∧ (a &&& 32767) = Int32.ofNat j := by
  refine ⟨(a.toBitVec &&& (32767 : BitVec 32)).toNat, ?_, ?_⟩
  · rw [BitVec.toNat_and]
    exact Nat.and_le_right
  · rw [← Int32.toBitVec_inj]
    rw [Int32.toBitVec_and]
    show _ = BitVec.ofNat 32 _
    rw [BitVec.ofNat_toNat, BitVec.setWidth_eq]
    rfl
theorem odiv {j n : Nat} (hj : j < 2000000) (hn : 0 < n) (hn2 : n < 2000000) : Int32.ofNat j / Int32.ofNat n = Int32.ofNat (j / n) := by
  have h1 : j / n ≤ j := Nat.div_le_self j n
  rw [← Int32.toInt_inj, Int32.toInt_div, tIo hj, tIo hn2, tIo (by omega), ← Int.ofNat_tdiv]
  generalize j / n = q at *
  rw [Int.bmod_def]
  simp -implicitDefEqProofs only [show (2 ^ 32 : Nat) = 4294967296 by rfl]
  omega
theorem orem {j n : Nat} (hj : j < 2000000) (hn : 0 < n) (hn2 : n < 2000000) : Int32.ofNat j - Int32.ofNat j / Int32.ofNat n * Int32.ofNat n = Int32.ofNat (j % n) := by
  have h1 : j / n * n ≤ j := Nat.div_mul_le_self j n
  rw [odiv hj hn hn2, omul, osub h1 hj]
  congr 1
  have h2 := Nat.div_add_mod j n
  have h3 : n * (j / n) = j / n * n := Nat.mul_comm _ _
  omega
/-- the next number, and what is drawn by it -/
def sdn (x : Int32) : Int32 := x * 1103515245 + 12345
def drw (x : Int32) (n : Int32) : Int32 := (((sdn x >>> ((16 : Int32) &&& 31)) &&& (32767 : Int32)) - ((sdn x >>> ((16 : Int32) &&& 31)) &&& (32767 : Int32)) / n * n)
theorem drw_nat (x : Int32) {n : Nat} (hn : 0 < n) (h2 : n < 2000) : ∃ k, k < n ∧ drw x (Int32.ofNat n) = Int32.ofNat k := by
  obtain ⟨j, h1, e⟩ := and_mask (sdn x >>> ((16 : Int32) &&& 31))
  refine ⟨j % n, Nat.mod_lt _ hn, ?_⟩
  unfold drw
  rw [e, orem (by omega) hn (by omega)]
section CM
variable {G : xG} {T T1 : xF} {o : Nat} {s s' : St} {A A' : Ad} {S S1 : MS} {g : Gw}
theorem CIa.seed (h : CIa G T o s A) (v : Int32) : ∃ T', pV T (some o) 0 14 (.int v) = some T' ∧ CIa G T' o s A ∧ frm (fun x => x = o) T T' ∧ oI T' (some o) 0 14 = some v := by
  obtain ⟨v11, v12, v13, sd, ob⟩ := h.ob
  obtain ⟨_, _, tg⟩ := h.tg
  refine ⟨_, pV_o ob, ?_, ⟨rfl, fun x q => xset_no q⟩, ?_⟩
  · have F : frm (fun x => x = o) T (xset T.1 o (true, .inr (0, [va_rf (some (aVa A)), va_rf (some (aRl A)), va_rf (some (aBb A)), va_rf (some (aTt A)), va_rf (some (aCc A)), va_rf (some (aTp A)), .int (Int32.ofNat (sT s)), .int (sF_ s), va_rf (some (aRf A)), va_rf (some (aAl A)), va_rf (some (aSl A)), va_rf v11, va_rf v12, va_rf v13, .int v])), T.2) := ⟨rfl, fun x q => xset_no q⟩
    have n1 : aRf A ≠ o := fun q => by have h1 := tg.1; have h2 := tg.2.2.2.2.2.2.1; rw [q] at h2; omega
    have n2 : aTp A ≠ o := fun q => by have h1 := tg.1; have h2 := tg.2.2.2.2.2.1; rw [q] at h2; omega
    refine h.rfx (F.up fun x q => Or.inr (Or.inr q)) (RfA.fr (A := A) (s := s) h.rfa (F.2 _ n1)) (TpA.fr (A := A) (s := s) h.tpa (F.2 _ n2)) fun w11 w12 w13 sd' ob' => ⟨v, ?_⟩
    have e : (some (true, .inr (0, _)) : Option (Bool × xC)) = _ := ob.symm.trans ob'
    have e1 := congrArg (fun z : Option (Bool × xC) => match z with
      | some (_, .inr (_, l)) => l
      | _ => []) e
    dsimp only at e1
    have q11 : va_rf v11 = va_rf w11 := congrArg (fun l : List Value => l.getD 11 .null) e1
    have q12 : va_rf v12 = va_rf w12 := congrArg (fun l : List Value => l.getD 12 .null) e1
    have q13 : va_rf v13 = va_rf w13 := congrArg (fun l : List Value => l.getD 13 .null) e1
    show xset T.1 o _ o = some (true, .inr (0, [_, _, _, _, _, _, _, _, _, _, _, va_rf w11, va_rf w12, va_rf w13, _]))
    rw [← q11, ← q12, ← q13]
    exact xset_eq
  · unfold oI oF
    simp [xset_eq, vI]
theorem e_draw (h : CIa G T o s A) {sd : Int32} (hs : oI T (some o) 0 14 = some sd) {n : Nat} (hn : 0 < n) (h2 : n < 2000) : Rn T (c_X1_draw (some o) (Int32.ofNat n) T) fun v T' => v = drw sd (Int32.ofNat n) ∧ CIa G T' o s A ∧ frm (fun x => x = o) T T' ∧ oI T' (some o) 0 14 = some (sdn sd) := by
  obtain ⟨T', e, h', F, k⟩ := h.seed (sdn sd)
  unfold c_X1_draw
  have n0 : ¬ Int32.ofNat n = 0 := fun q => by have := (oeq (n := n) (m := 0) (by omega) (by omega)).mp q; omega
  rw [hs, Option.bind_some]
  refine Rn.st e F.le ?_
  rw [k, Option.bind_some, if_neg n0]
  exact Rn.ret ⟨rfl, h', F, k⟩
theorem MI.its (h : MI S s) (v : Int32) : MI (sF S 57 v) s := h.keep (fun k hk => sF_ne (by unfold mfld at hk; omega)) (fun _ _ _ => rfl)
theorem Mt.its (h : Mt S s g) (v : Int32) : Mt (sF S 57 v) s g := ⟨h.1.its v, h.2⟩
theorem r_draw {n : Nat} (hn : 0 < n) (h2 : n < 2000) : m_draw (Int32.ofNat n) S = some (drw (S.1 57) (Int32.ofNat n), sF S 57 (sdn (S.1 57))) := by
  have n0 : ¬ Int32.ofNat n = 0 := fun q => by have := (oeq (n := n) (m := 0) (by omega) (by omega)).mp q; omega
  unfold m_draw
  rw [if_neg n0]
  simp -implicitDefEqProofs only [sF_at]
  rfl
theorem Tr.seed (h : Tr G T o s A g) {T' : xF} {sd : Int32} (hs : oI T (some o) 0 14 = some sd) (F : frm (ep (aTt A) (aBb A) (aVa A)) T T') : oI T' (some o) 0 14 = some sd := by
  obtain ⟨_, _, tg⟩ := h.1.tg
  have e : T'.1 o = T.1 o := F.2 o fun q => by
    have h1 := tg.1
    rcases q with q | q | q
    · have := tg.2.2.2.1 o q; omega
    · have := tg.2.2.1 o q; omega
    · have h2 := tg.2.1; rw [← q] at h2; omega
  rw [← hs]
  unfold oI oF
  dsimp only
  rw [e]
theorem Tr.ob2 (h : Tr G T o s A g) {T' : xF} (h' : CIa G T' o s A) (F : frm (fun x => x = o) T T') : Tr G T' o s A g := by
  obtain ⟨_, _, tg⟩ := h.1.tg
  exact ⟨h', h.2.fr F fun x q r => by have h1 := tg.1; have h2 := tg.2.2.2.1 x q; have r' : x = o := r; rw [r'] at h2; omega⟩
theorem Mt.wr (h : Mt S s g) {S' : MS} {g' : Gw} (w : mfr (rk 121) S S') (r : RwAt S' 121 g') : Mt S' s g' := h.1.mt w rk_free r
/-- what befalls, on both sides -/
theorem j_befalls (ok : StOK s) (h : Tr G T o s A g) (m : Mt S s g) {n : Nat} (hg : GI (sE s) g n) {sd : Int32} (hs : oI T (some o) 0 14 = some sd) (hm : S.1 57 = sd) : Jn T (c_X1_befalls (some o) (some (aTt A)) T) (m_happens S) fun _ T' S' => ∃ g' sd', Tr G T' o s A g' ∧ Mt S' s g' ∧ GI (sE s) g' n ∧ oI T' (some o) 0 14 = some sd' ∧ S'.1 57 = sd' ∧ T'.2 = T.2 ∧ S'.1 0 = S.1 0 := by
  have hn := ok.1.n30
  have hn0 := ok.1.n0
  have h4 := ok.1.2.1
  unfold c_X1_befalls m_happens
  simp -implicitDefEqProofs only [h.1.q1, h.1.isr, h.1.cells ok, h.1.iso, v_cells ok m.1, Option.bind_some, not_true_eq_false, if_false, if_true]
  refine Jn.cl (e_draw h.1 hs hn0 (by omega)) fun v T1 _ ⟨a1, a2, a3, a4⟩ => ?_
  subst hm
  rw [r_draw hn0 (by omega), Option.bind_some]
  obtain ⟨c, hc, ec⟩ := drw_nat (S.1 57) hn0 (by omega)
  rw [ec] at a1 ⊢
  subst a1
  have t1 := h.ob2 a2 a3
  have m1 := m.its (sdn (S.1 57))
  have c3 : c < 30 := by omega
  simp -implicitDefEqProofs only [a2.iso, Option.bind_some, not_true_eq_false, if_false, if_true]
  refine Jn.cl (e_draw (n := 4) a2 a4 (by decide) (by decide)) fun v T2 _ ⟨b1, b2, b3, b4⟩ => ?_
  have e57 : (sF S 57 (sdn (S.1 57))).1 57 = sdn (S.1 57) := sF_at
  have rd2 : m_draw 4 (sF S 57 (sdn (S.1 57))) = _ := r_draw (S := sF S 57 (sdn (S.1 57))) (n := 4) (by decide) (by decide)
  rw [rd2, Option.bind_some]
  rw [e57]
  obtain ⟨b, hb, eb_⟩ := drw_nat (sdn (S.1 57)) (n := 4) (by decide) (by decide)
  rw [eb_] at b1 ⊢
  subst b1
  have t2 := t1.ob2 b2 b3
  have m2 := m1.its (sdn (sdn (S.1 57)))
  generalize hS2 : sF (sF S 57 (sdn (S.1 57))) 57 (sdn (sdn (S.1 57))) = S2 at m2
  have s57 : S2.1 57 = sdn (sdn (S.1 57)) := by rw [← hS2]; exact sF_at
  have s00 : S2.1 0 = S.1 0 := by rw [← hS2]; exact (sF_ne (by decide)).trans (sF_ne (by decide))
  have cnt2 : T2.2 = T.2 := b3.1.trans a3.1
  have fin : ∀ (T3 : xF) S3 g3 sd3, Tr G T3 o s A g3 → Mt S3 s g3 → GI (sE s) g3 n → oI T3 (some o) 0 14 = some sd3 → S3.1 57 = sd3 → T3.2 = T.2 → S3.1 0 = S.1 0 → Jn T3 (some ((), T3)) (some S3) fun _ T' S' => ∃ g' sd', Tr G T' o s A g' ∧ Mt S' s g' ∧ GI (sE s) g' n ∧ oI T' (some o) 0 14 = some sd' ∧ S'.1 57 = sd' ∧ T'.2 = T.2 ∧ S'.1 0 = S.1 0 := fun T3 S3 g3 sd3 q1 q2 q3 q4 q5 q6 q7 => Jn.ret ⟨g3, sd3, q1, q2, q3, q4, q5, q6, q7⟩
  have bkep : ∀ {T T' : xF}, frm (bk (aTt A)) T T' → frm (ep (aTt A) (aBb A) (aVa A)) T T' := fun f => f.up fun x q => Or.inl q
  rcases (by omega : b = 0 ∨ b = 1 ∨ b = 2 ∨ b = 3) with rfl | rfl | rfl | rfl
  · simp -implicitDefEqProofs (decide := true) only [t2.2.is, Option.bind_some, not_true_eq_false, if_false, if_true]
    refine Jn.cl (e_feed t2.2 c3 9) fun _ T3 _ ⟨f3, g3⟩ => ?_
    have t3 : Tr G T3 o s A (gfeed g c 9) := t2.1.trb f3 g3
    unfold c_X1_befalls_29 c_X1_befalls_92
    simp -implicitDefEqProofs (decide := true) only [m2.2.lF1 c3, e_lesser, Option.bind_some, not_true_eq_false, if_false, if_true]
    obtain ⟨S3, e3, w3, r3⟩ := m2.2.sF1 c3 (imin 99 (gF g c + 9))
    refine Jn.md e3 ?_
    exact fin T3 S3 _ _ t3 (m2.wr w3 r3) (hg.feed (m := 9) c3 (by decide)) (t2.seed b4 (bkep f3)) (by rw [w3.1]; exact s57) (f3.1.trans cnt2) (by rw [w3.1]; exact s00)
  · unfold c_X1_befalls_29
    obtain ⟨lp, q1, q2, q3, q4, q5⟩ := t2.1.evt.pa
    simp -implicitDefEqProofs (decide := true) only [t2.1.q1, q1, q2, q3, q4, (m2.1.mv (E := eb 0) eb_own).p, t2.1.iso, Option.bind_some, not_true_eq_false, if_false, if_true]
    by_cases hP : eP (sE s) = 0
    · have : (eP (sE s) == 0) = true := by rw [hP]; rfl
      rw [this, if_neg (show ¬ b01 true = 0 by decide), hP, if_pos (show Int32.ofNat 0 ≤ 0 by decide)]
      unfold c_X1_befalls_92 m_happens_111
      simp -implicitDefEqProofs (decide := true) only [Option.bind_some, not_true_eq_false, if_false, if_true]
      exact fin T2 S2 _ _ t2 m2 hg b4 s57 cnt2 s00
    · have : (eP (sE s) == 0) = false := beq_eq_false_iff_ne.mpr hP
      rw [this, if_pos (show b01 false = 0 from rfl), if_neg (show ¬ Int32.ofNat (eP (sE s)) ≤ 0 from fun q => by have := (ole (n := eP (sE s)) (m := 0) (by omega) (by omega)).mp q; omega)]
      refine Jn.cl (e_draw (n := eP (sE s)) t2.1 b4 (by omega) (by omega)) fun v T3 _ ⟨d1, d2, d3, d4⟩ => ?_
      rw [r_draw (S := S2) (n := eP (sE s)) (by omega) (by omega), Option.bind_some, s57]
      obtain ⟨k, hk, ek⟩ := drw_nat (sdn (sdn (S.1 57))) (n := eP (sE s)) (by omega) (by omega)
      rw [ek] at d1 ⊢
      subst d1
      have t3 := t2.ob2 d2 d3
      have m3 := m2.its (sdn (sdn (sdn (S.1 57))))
      have s3 : (sF S2 57 (sdn (sdn (sdn (S.1 57))))).1 57 = sdn (sdn (sdn (S.1 57))) := sF_at
      have s30 : (sF S2 57 (sdn (sdn (sdn (S.1 57))))).1 0 = S.1 0 := (sF_ne (by decide)).trans s00
      simp -implicitDefEqProofs only [t3.2.o2, t3.2.ldK c3, m3.2.lK1 c3, Option.bind_some, not_true_eq_false, if_false, if_true]
      by_cases hkc : gK g c = -1
      · rw [if_pos hkc, if_pos hkc]
        obtain ⟨T4, e4, f4, g4⟩ := t3.2.stK c3 (Int32.ofNat k)
        refine Jn.st e4 f4.le ?_
        have f4' := f4.up (F := bk (aTt A)) fun x q => by simp -implicitDefEqProofs only [bk]; omega
        have t4 := t3.1.trb f4' g4
        obtain ⟨S4, x4, w4, r4⟩ := m3.2.sK1 c3 (Int32.ofNat k)
        refine Jn.md x4 ?_
        simp -implicitDefEqProofs only [t4.2.o3, Option.bind_some, not_true_eq_false, if_false, if_true]
        obtain ⟨T5, e5, f5, g5⟩ := t4.2.stZ c3 1
        refine Jn.st e5 f5.le ?_
        have f5' := f5.up (F := bk (aTt A)) fun x q => by simp -implicitDefEqProofs only [bk]; omega
        have t5 := t4.1.trb f5' g5
        obtain ⟨S5, x5, w5, r5⟩ := r4.sZ1 c3 1
        refine Jn.md x5 ?_
        unfold c_X1_befalls_92
        simp -implicitDefEqProofs (decide := true) only [Option.bind_some, not_true_eq_false, if_false, if_true]
        exact fin T5 S5 _ _ t5 (m3.wr (w4.tr w5) r5) (hg.sow hk (by omega)) (t4.seed (t3.seed d4 (bkep f4')) (bkep f5')) (by rw [w5.1, w4.1]; exact s3) (by rw [f5.1, f4.1, d3.1]; exact cnt2) (by rw [w5.1, w4.1]; exact s30)
      · rw [if_neg hkc, if_neg hkc]
        unfold c_X1_befalls_92
        simp -implicitDefEqProofs (decide := true) only [Option.bind_some, not_true_eq_false, if_false, if_true]
        exact fin T3 _ _ _ t3 m3 hg d4 s3 (d3.1.trans cnt2) s30
  · unfold c_X1_befalls_29 c_X1_befalls_92 m_happens_111
    simp -implicitDefEqProofs (decide := true) only [t2.2.is, Option.bind_some, not_true_eq_false, if_false, if_true]
    refine Jn.cl (e_clear t2.2 c3) fun _ T3 _ ⟨f3, g3⟩ => ?_
    have t3 : Tr G T3 o s A (gclr g c) := t2.1.trb f3 g3
    obtain ⟨S3, e3, w3, r3⟩ := r_clear (b := 121) m2.2 (by decide) c3
    refine Jn.md (r := S3) (by exact e3) ?_
    exact fin T3 S3 _ _ t3 (m2.wr w3 r3) hg.clr (t2.seed b4 (bkep f3)) (by rw [w3.1]; exact s57) (f3.1.trans cnt2) (by rw [w3.1]; exact s00)
  · unfold c_X1_befalls_29 c_X1_befalls_92 m_happens_111
    simp -implicitDefEqProofs (decide := true) only [Option.bind_some, not_true_eq_false, if_false, if_true]
    exact fin T2 S2 _ _ t2 m2 hg b4 s57 cnt2 s00
end CM
