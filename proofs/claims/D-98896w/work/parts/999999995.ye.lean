/-! plain law: the system reads rules, kinds, cells, moulds -/
set_option maxRecDepth 100000
section YL
variable {G : xG} {t : Tpe} {fx : Fx} {tp rd l0 l1 : Nat} {Tb : xF} (hb : Cx G Tb t fx tp) (hst : StA G Tb) {own : Nat → Nat} (hB : Fz own Tb (Bx G)) (hown : ∀ x, own x = 11 → x < Tb.2.1) {T T' : xF} {ow ow' : Nat → Nat} {Y Y' : Yx} {p q : Nat}
theorem o_gr (hb : Cx G Tb t fx tp) (hst : StA G Tb) (h : YA own G t fx tp rd Tb l0 l1 ow T (sD Y 4) p) (hp : p ≤ t.2) : Rn T (onB G (some rd) (Int32.ofNat 4) T) (LSt own G t fx tp rd Tb l0 l1 T p (sbd (pE t grMs 6 p) fun e => .inr (sGr Y e.1, e.2))) := by
  obtain ⟨nm, ce, r0, hce, hnm⟩ := h.2.1
  obtain ⟨T1, e1, f1, r1⟩ := r0.nm (nm' := fx.2.2.2.1)
  have y1 : YA own G t fx tp rd Tb l0 l1 ow T1 (sD Y 4) p := h.mv (Y' := sD Y 4) f1.c r1 hce (Or.inl rfl) rfl fun _ _ => rfl
  have hN := y1.2.2.2.1
  have ys : YS G t fx tp rd fx.2.2.2.1 grIs (Int32.ofNat (yD (sD Y 4))) ce T1 p := ⟨hb.old y1.1, hst.old y1.1, hN.2.1.1, hN.2.1.2.1, r1, y1.2.2.1.1, hp⟩
  have hW : NmW grIs grMs := ⟨by decide, by decide, by decide +kernel⟩
  unfold onB
  rw [if_neg (by decide), if_neg (by decide), if_neg (by decide), if_neg (by decide), if_pos (by decide), (h.qs hb hst).2.2.2.1, Option.bind_some]
  unfold c_X5_only_176
  refine Rn.st e1 f1.le ?_
  rw [if_neg (not_not_intro ys.is)]
  have l1' : T1.2 = T.2 := f1.1
  refine Rn.clX (e_expr hW ys) (fun v T2 _ z => ?_) (fun ex T2 _ z => ?_)
  · obtain ⟨z0, e, q, fo, z1, z2, z3, z4, z5, z6⟩ := z
    subst z2
    have fq := pE_fw 6 _ _ _ hp z1
    rw [l1'] at z3 z5 z6
    have y2 : YA own G t fx tp rd Tb l0 l1 (fun y => if y < T1.2.1 then ow y else 27) T2 (sD Y 4) q := y1.mv (Y' := sD Y 4) z0 z4 hce (Or.inl rfl) rfl fun y hy => if_pos hy
    obtain ⟨fg, fb, g1, g2, g3⟩ := y2.ro
    obtain ⟨T3, e3, f3, o3⟩ := g1.st (i := 6) (v := va_rf (some fo)) (w' := yW Y) (h' := yH Y) (a' := yA Y) (s' := yS Y) (fg' := some fo) (fb' := fb) rfl
    have bl := y1.1.1
    have l1n : T1.2.1 = T.2.1 := by rw [l1']
    have nf : FR G Tb.2.1 (fun y => if y < T1.2.1 then ow y else 27) T2 grMs (some fo) (some e) := ⟨fo, T.2.1, T2.2.1, rfl, z3, by omega, fun x a b => if_neg (by omega)⟩
    have y3 : YA own G t fx tp rd Tb l0 l1 (fun y => if y < T1.2.1 then ow y else 27) T3 (sGr Y e) q := y2.ro_ (Y' := sGr Y e) f3 o3 nf g3 ⟨rfl, rfl, rfl, rfl, rfl⟩
    have l3 : T3.2 = T2.2 := f3.1
    rw [z1, sbd_r]
    have fin : Rn T2 ((pV T2 (some fx.1) 1 6 (va_rf (some fo))).bind fun T195 => some (.inl (), T195)) (LSt own G t fx tp rd Tb l0 l1 T p (.inr (sGr Y e, q))) := by
      refine Rn.st e3 f3.le (Rn.ret (LSt.ok rfl y3 (by omega) fq.2 ⟨by rw [l3]; omega, by rw [l3]; omega⟩))
    rw [if_pos (by decide), (y2.qs hb hst).1, Option.bind_some]
    exact fin
  · obtain ⟨z0, k', b, z1, z2, z3, z4⟩ := z
    rw [l1'] at z3 z4
    rw [z1, sbd_l]
    exact LSt.er rfl z2 (y1.nx0 z0) ⟨by omega, by omega⟩
theorem o_be (hb : Cx G Tb t fx tp) (hst : StA G Tb) (h : YA own G t fx tp rd Tb l0 l1 ow T (sD Y 5) p) (hp : p ≤ t.2) : Rn T (onB G (some rd) (Int32.ofNat 5) T) (LSt own G t fx tp rd Tb l0 l1 T p (sbd (pE t beMs 6 p) fun e => .inr (sBe Y e.1, e.2))) := by
  obtain ⟨nm, ce, r0, hce, hnm⟩ := h.2.1
  obtain ⟨T1, e1, f1, r1⟩ := r0.nm (nm' := fx.2.2.2.2.1)
  have y1 : YA own G t fx tp rd Tb l0 l1 ow T1 (sD Y 5) p := h.mv (Y' := sD Y 5) f1.c r1 hce (Or.inr rfl) rfl fun _ _ => rfl
  have hN := y1.2.2.2.1
  have ys : YS G t fx tp rd fx.2.2.2.2.1 beIs (Int32.ofNat (yD (sD Y 5))) ce T1 p := ⟨hb.old y1.1, hst.old y1.1, hN.2.2.1, hN.2.2.2.1, r1, y1.2.2.1.1, hp⟩
  have hW : NmW beIs beMs := ⟨by decide, by decide, by decide +kernel⟩
  unfold onB
  rw [if_neg (by decide), if_neg (by decide), if_neg (by decide), if_neg (by decide), if_neg (by decide), (h.qs hb hst).2.2.2.2, Option.bind_some]
  unfold c_X5_only_176
  refine Rn.st e1 f1.le ?_
  rw [if_neg (not_not_intro ys.is)]
  have l1' : T1.2 = T.2 := f1.1
  refine Rn.clX (e_expr hW ys) (fun v T2 _ z => ?_) (fun ex T2 _ z => ?_)
  · obtain ⟨z0, e, q, fo, z1, z2, z3, z4, z5, z6⟩ := z
    subst z2
    have fq := pE_fw 6 _ _ _ hp z1
    rw [l1'] at z3 z5 z6
    have y2 : YA own G t fx tp rd Tb l0 l1 (fun y => if y < T1.2.1 then ow y else 27) T2 (sD Y 5) q := y1.mv (Y' := sD Y 5) z0 z4 hce (Or.inr rfl) rfl fun y hy => if_pos hy
    obtain ⟨fg, fb, g1, g2, g3⟩ := y2.ro
    obtain ⟨T3, e3, f3, o3⟩ := g1.st (i := 7) (v := va_rf (some fo)) (w' := yW Y) (h' := yH Y) (a' := yA Y) (s' := yS Y) (fg' := fg) (fb' := some fo) rfl
    have bl := y1.1.1
    have l1n : T1.2.1 = T.2.1 := by rw [l1']
    have nf : FR G Tb.2.1 (fun y => if y < T1.2.1 then ow y else 27) T2 beMs (some fo) (some e) := ⟨fo, T.2.1, T2.2.1, rfl, z3, by omega, fun x a b => if_neg (by omega)⟩
    have y3 : YA own G t fx tp rd Tb l0 l1 (fun y => if y < T1.2.1 then ow y else 27) T3 (sBe Y e) q := y2.ro_ (Y' := sBe Y e) f3 o3 g2 nf ⟨rfl, rfl, rfl, rfl, rfl⟩
    have l3 : T3.2 = T2.2 := f3.1
    rw [z1, sbd_r]
    have fin : Rn T2 ((pV T2 (some fx.1) 1 7 (va_rf (some fo))).bind fun T195 => some (.inl (), T195)) (LSt own G t fx tp rd Tb l0 l1 T p (.inr (sBe Y e, q))) := by
      refine Rn.st e3 f3.le (Rn.ret (LSt.ok rfl y3 (by omega) fq.2 ⟨by rw [l3]; omega, by rw [l3]; omega⟩))
    rw [if_neg (by decide), (y2.qs hb hst).1, Option.bind_some]
    exact fin
  · obtain ⟨z0, k', b, z1, z2, z3, z4⟩ := z
    rw [l1'] at z3 z4
    rw [z1, sbd_l]
    exact LSt.er rfl z2 (y1.nx0 z0) ⟨by omega, by omega⟩
/-- a number below some, by the system -/
theorem YA.amoS (hb : Cx G Tb t fx tp) (hst : StA G Tb) (h : YA own G t fx tp rd Tb l0 l1 ow T Y p) (hp : p ≤ t.2) {K : Int32 → xF → Option ((Unit ⊕ xE) × xF)} {Q : Unit ⊕ xE → xF → Prop} (ok : nOK t p 0 9999 → Rn T (K (Int32.ofNat (nmF t p)) T) Q) (no : ∀ k b, (∀ m, pAmo t p m = .inl (k, b)) → ∀ ex T', Th T' ex rd k b → frc (fun _ => False) Tb T' → T'.2.1 ≤ T.2.1 + 1 → T'.2.2 ≤ T.2.2 + 7 → Q (.inr ex) T') : Rn T (clX (c_X5_numberNow G (some rd) 0 9999 T) T K) Q := by
  obtain ⟨nm, iz, ce, y, hce, hnm⟩ := h.ys hb hst hp
  obtain ⟨S, g⟩ := y.pg
  rcases e_numberNow g (lo := 0) (hi := 9999) (by decide) (by decide) with ⟨s2, l4, c1, c2, e⟩ | ⟨nok, T', e, l, f, n1, n2, w⟩
  · refine Rn.clX (P := fun v T' => v = .inl (Int32.ofNat (nmF t p)) ∧ T' = T) ⟨_, T, e, xlr, rfl, rfl⟩ (fun v T2 _ z => ?_) (fun ex T2 _ z => by cases z.1)
    obtain ⟨z1, rfl⟩ := z
    have z1 := Sum.inl.inj z1
    subst z1
    exact ok ⟨s2, l4, c1, c2⟩
  · refine Rn.clX (P := fun v T2 => v = .inr (WR, T.2.1) ∧ T2 = T') ⟨_, T', e, l, rfl, rfl⟩ (fun v T2 _ z => by cases z.1) (fun ex T2 _ z => ?_)
    obtain ⟨z1, rfl⟩ := z
    have z1 := Sum.inr.inj z1
    subst z1
    have hr : T2.1 rd = T.1 rd := f rd (by have := y.lt; omega)
    have i9 := y.i9
    refine no (if tS t p = 2 then 2 else 1) (tB t p) (fun m => by unfold pAmo; rw [pNum_no nok, sbd_l]) _ T2 ⟨T.2.1, rfl, ?_, ?_, by split <;> decide, by split <;> decide⟩ (h.fr.tr ⟨l.1, fun x q _ => f x (by omega)⟩) (by omega) (by omega)
    · rw [w]
      split <;> rfl
    · unfold oI oF at i9 ⊢
      simp -implicitDefEqProofs only [hr]
      exact i9
/-- a cell -/
theorem e_cellNow (hb : Cx G Tb t fx tp) (hst : StA G Tb) (h : YA own G t fx tp rd Tb l0 l1 ow T Y p) (hp : p ≤ t.2) (hw : yW Y * yH Y ≤ 30) {K : Int32 → xF → Option ((Unit ⊕ xE) × xF)} {Q : Unit ⊕ xE → xF → Prop} (ok : ∀ c, pAmo t p (yW Y * yH Y) = .inr c → c < yW Y * yH Y → tS t p ≠ 0 → Rn T (K (Int32.ofNat c) T) Q) (no : ∀ k b, pAmo t p (yW Y * yH Y) = .inl (k, b) → ∀ ex T', Th T' ex rd k b → frc (fun _ => False) Tb T' → T'.2.1 ≤ T.2.1 + 1 → T'.2.2 ≤ T.2.2 + 7 → Q (.inr ex) T') : Rn T (clX (c_X5_cellNow G (some rd) T) T K) Q := by
  obtain ⟨fg, fb, r1, r2, r3⟩ := h.ro
  have hi := h.isr hb hst hp
  have hc : c_X2_cells T (some fx.1) = some (Int32.ofNat (yW Y * yH Y)) := by
    unfold c_X2_cells
    rw [r1.i2, Option.bind_some, r1.i3, Option.bind_some, omul]
  -- what it gives
  have main : Rn T (c_X5_cellNow G (some rd) T) fun v T' => match v with
      | .inl a => ∃ c, pAmo t p (yW Y * yH Y) = .inr c ∧ a = Int32.ofNat c ∧ T' = T ∧ c < yW Y * yH Y ∧ tS t p ≠ 0
      | .inr ex => ∃ k b, pAmo t p (yW Y * yH Y) = .inl (k, b) ∧ Th T' ex rd k b ∧ frc (fun _ => False) Tb T' ∧ T'.2.1 ≤ T.2.1 + 1 ∧ T'.2.2 ≤ T.2.2 + 7 := by
    obtain ⟨nm, iz, ce, y, hce, hnm⟩ := h.ys hb hst hp
    obtain ⟨S, g⟩ := y.pg
    unfold c_X5_cellNow
    rw [if_neg (not_not_intro hi)]
    rcases e_numberNow g (lo := 0) (hi := 9999) (by decide) (by decide) with ⟨s2, l4, c1, c2, e⟩ | ⟨nok, T', e, l, f, n1, n2, w⟩
    · have ok1 : nOK t p 0 9999 := ⟨s2, l4, c1, c2⟩
      refine Rn.clX (P := fun v T' => v = .inl (Int32.ofNat (nmF t p)) ∧ T' = T) ⟨_, T, e, xlr, rfl, rfl⟩ (fun v T2 _ z => ?_) (fun ex T2 _ z => by cases z.1)
      obtain ⟨z1, rfl⟩ := z
      have z1 := Sum.inl.inj z1
      subst z1
      rw [(h.qs hb hst).1, Option.bind_some, if_neg (not_not_intro r1.is), hc, Option.bind_some]
      unfold c_X5_cellNow_26
      have pa : pAmo t p (yW Y * yH Y) = if nmF t p < yW Y * yH Y then .inr (nmF t p) else .inl (3, tB t p) := by
        unfold pAmo
        rw [pNum_ok ok1, sbd_r]
      by_cases c : nmF t p < yW Y * yH Y
      · rw [if_neg (fun q => by have := (ole (by omega) (by omega)).mp q; omega), if_neg (not_not_intro hi)]
        refine Rn.clX rn_wantT (fun v T50 _ q => ?_) (fun ex T53 _ q => by cases q.1)
        obtain ⟨-, rfl⟩ := q
        exact Rn.ret ⟨nmF t p, by rw [pa, if_pos c], rfl, rfl, c, by rw [s2]; decide⟩
      · rw [if_pos ((ole (by omega) (by omega)).mpr (by omega)), if_neg (not_not_intro hi)]
        refine Rn.clX (h.wF hb hst hp (k := 3) (by decide) (by decide)) (fun v T53 _ ⟨ex, q, _⟩ => by cases q) (fun ex T53 _ ⟨ex', z, z1, z2, z3, z4⟩ => ?_)
        have z := Sum.inr.inj z
        subst z
        exact ⟨3, tB t p, by rw [pa, if_neg c], z1, z2, z3, z4⟩
    · refine Rn.clX (P := fun v T2 => v = .inr (WR, T.2.1) ∧ T2 = T') ⟨_, T', e, l, rfl, rfl⟩ (fun v T2 _ z => by cases z.1) (fun ex T2 _ z => ?_)
      obtain ⟨z1, rfl⟩ := z
      have z1 := Sum.inr.inj z1
      subst z1
      have hr : T2.1 rd = T.1 rd := f rd (by have := y.lt; omega)
      have i9 := y.i9
      refine ⟨if tS t p = 2 then 2 else 1, tB t p, by unfold pAmo; rw [pNum_no nok, sbd_l], ⟨T.2.1, rfl, ?_, ?_, by split <;> decide, by split <;> decide⟩, h.fr.tr ⟨l.1, fun x q _ => f x (by omega)⟩, by omega, by omega⟩
      · rw [w]
        split <;> rfl
      · unfold oI oF at i9 ⊢
        simp -implicitDefEqProofs only [hr]
        exact i9
  refine Rn.clX main (fun v T2 _ z => ?_) (fun ex T2 _ z => ?_)
  · obtain ⟨c, z1, z2, z3, z4, z5⟩ := z
    subst z2 z3
    exact ok c z1 z4 z5
  · obtain ⟨k, b, z1, z2, z3, z4, z5⟩ := z
    exact no k b z1 ex T2 z2 z3 z4 z5
/-- a number goes into the growth -/
theorem e_grw (hb : Cx G Tb t fx tp) (hst : StA G Tb) (h : YA own G t fx tp rd Tb l0 l1 ow T Y p) {c j : Nat} (hc : c < 30) {v : Int32} {g : Gw} (k : (j = 1 ∧ g = (upd (gD (yR Y)) c v, gF (yR Y), gK (yR Y), gZ (yR Y), gY (yR Y))) ∨ (j = 2 ∧ g = (gD (yR Y), upd (gF (yR Y)) c v, gK (yR Y), gZ (yR Y), gY (yR Y))) ∨ (j = 3 ∧ g = (gD (yR Y), gF (yR Y), upd (gK (yR Y)) c v, gZ (yR Y), gY (yR Y))) ∨ (j = 4 ∧ g = (gD (yR Y), gF (yR Y), gK (yR Y), upd (gZ (yR Y)) c v, gY (yR Y)))) : ∃ T', stA T (some (fx.2.1 + j)) .int (Int32.ofNat c) v = some T' ∧ xle T T' ∧ YA own G t fx tp rd Tb l0 l1 ow T' (sRw Y g) p ∧ T'.2 = T.2 := by
  have hG := h.2.2.2.2.2.2.1.1
  rcases k with ⟨rfl, rfl⟩ | ⟨rfl, rfl⟩ | ⟨rfl, rfl⟩ | ⟨rfl, rfl⟩
  · obtain ⟨T', e, f, g⟩ := hG.stD hc v
    exact ⟨T', e, f.le, h.gr_ (y := fx.2.1 + 1) ⟨by omega, by omega⟩ f g, f.1⟩
  · obtain ⟨T', e, f, g⟩ := hG.stF hc v
    exact ⟨T', e, f.le, h.gr_ (y := fx.2.1 + 2) ⟨by omega, by omega⟩ f g, f.1⟩
  · obtain ⟨T', e, f, g⟩ := hG.stK hc v
    exact ⟨T', e, f.le, h.gr_ (y := fx.2.1 + 3) ⟨by omega, by omega⟩ f g, f.1⟩
  · obtain ⟨T', e, f, g⟩ := hG.stZ hc v
    exact ⟨T', e, f.le, h.gr_ (y := fx.2.1 + 4) ⟨by omega, by omega⟩ f g, f.1⟩
theorem e_cell (hb : Cx G Tb t fx tp) (hst : StA G Tb) (h : YA own G t fx tp rd Tb l0 l1 ow T Y p) (hp : p ≤ t.2) (h0 : tS t p ≠ 0) (hw : yW Y * yH Y ≤ 30) : Rn T (c_X5_cell G (some rd) T) (LSt own G t fx tp rd Tb l0 l1 T p (sbd (pAmo t (tE t p) (yW Y * yH Y)) fun c => if yC Y c = true then .inl (4, tB t (tE t p)) else sbd (pNum t (tE t (tE t p)) 0 9) fun d => sbd (pNum t d.2 0 99) fun f => .inr (sCll Y c d.1 f.1, f.2))) := by
  have f := tE_fw hp h0
  unfold c_X5_cell
  rw [if_neg (not_not_intro (h.isr hb hst hp))]
  refine Rn.cl (h.nxt hb hst hp) fun _ T1 _ ⟨y1, e1, hp1⟩ => ?_
  rw [if_neg (not_not_intro (y1.isr hb hst hp1))]
  have l1n : T1.2.1 = T.2.1 := by rw [e1]
  have m1n : T1.2.2 = T.2.2 := by rw [e1]
  refine e_cellNow hb hst y1 hp1 hw (fun c pa hcw hs => ?_) (fun k b pa ex T' z1 z2 z3 z4 => ?_)
  · obtain ⟨nm, ce, r0, hce, hnm⟩ := y1.2.1
    obtain ⟨i13, T2, e2, f2, r2⟩ := r0.ce (c' := ce ||| ((1 : Int32) <<< (Int32.ofNat c &&& 31)))
    have hc30 : c < 30 := by omega
    rw [pa, sbd_r, i13, Option.bind_some, e_isOf hce hc30, Option.bind_some]
    unfold c_X5_cell_26
    by_cases cc : yC Y c = true
    · rw [if_pos cc, if_pos cc, if_neg (show ¬ (1 : Int32) = 0 by decide), if_neg (not_not_intro (y1.isr hb hst hp1))]
      refine Rn.clX (y1.wF hb hst hp1 (k := 4) (by decide) (by decide)) (fun v T53 _ ⟨ex, q, _⟩ => by cases q) (fun ex T53 _ ⟨ex', z, z1, z2, z3, z4⟩ => ?_)
      have z := Sum.inr.inj z
      subst z
      exact LSt.er rfl z1 z2 ⟨by omega, by omega⟩
    · rw [if_neg cc, if_neg cc, if_pos rfl, if_neg (not_not_intro (y1.isr hb hst hp1))]
      refine Rn.clX rn_wantT (fun v T50 _ q => ?_) (fun ex T53 _ q => by cases q.1)
      obtain ⟨-, rfl⟩ := q
      rw [i13, Option.bind_some]
      refine Rn.st e2 f2.le ?_
      have y2 : YA own G t fx tp rd Tb l0 l1 ow T2 (sMk Y c) (tE t p) := y1.mv (Y' := sMk Y c) f2.c r2 (ce_set hce hc30) hnm rfl fun _ _ => rfl
      rw [if_neg (not_not_intro (y2.isr hb hst hp1))]
      have f1 := tE_fw hp1 hs
      refine Rn.cl (y2.nxt hb hst hp1) fun _ T3 _ ⟨y3, e3, hp3⟩ => ?_
      have e23 : T3.2 = T50.2 := e3.trans f2.1
      rw [(y3.qs hb hst).2.1, Option.bind_some, y3.2.2.2.2.2.2.1.1.o0, Option.bind_some, if_neg (not_not_intro (y3.isr hb hst hp3))]
      refine Rn.clX (y3.num hb hst hp3 (lo := 0) (hi := 9) (by decide) (by decide)) (fun v T4 _ z => ?_) (fun ex T4 _ z => ?_)
      · obtain ⟨d, r, z1, z2, z3, z4, z5, z6, z7, z8⟩ := z
        subst z2
        rw [z1, sbd_r]
        obtain ⟨T5, e5, le5, y5, f5⟩ := e_grw hb hst z3 hc30 (j := 1) (v := Int32.ofNat d) (Or.inl ⟨rfl, rfl⟩)
        refine Rn.st e5 le5 ?_
        rw [(y5.qs hb hst).2.1, Option.bind_some, y5.2.2.2.2.2.2.1.1.o1, Option.bind_some, if_neg (not_not_intro (y5.isr hb hst z4))]
        refine Rn.clX (y5.num hb hst z4 (lo := 0) (hi := 99) (by decide) (by decide)) (fun v T6 _ z => ?_) (fun ex T6 _ z => ?_)
        · obtain ⟨u, r2, g1, g2, g3, g4, g5, g6, g7, g8⟩ := z
          subst g2
          rw [g1, sbd_r]
          obtain ⟨T7, e7, le7, y7, f7⟩ := e_grw hb hst g3 hc30 (j := 2) (v := Int32.ofNat u) (Or.inr (Or.inl ⟨rfl, rfl⟩))
          have e27 : T7.2 = T.2 := f7.trans (g6.trans (f5.trans (z6.trans (e23.trans e1))))
          exact Rn.st e7 le7 (Rn.ret (LSt.ok rfl y7 (by omega) g4 ⟨by rw [e27]; omega, by rw [e27]; omega⟩))
        · obtain ⟨k', b, g1, g2, g3, g4, g5⟩ := z
          have e25 : T5.2 = T.2 := f5.trans (z6.trans (e23.trans e1))
          rw [e25] at g4 g5
          rw [g1, sbd_l]
          exact LSt.er rfl g2 g3 ⟨by omega, by omega⟩
      · obtain ⟨k', b, g1, g2, g3, g4, g5⟩ := z
        have e25 : T3.2 = T.2 := e23.trans e1
        rw [e25] at g4 g5
        rw [g1, sbd_l]
        exact LSt.er rfl g2 g3 ⟨by omega, by omega⟩
  · rw [pa, sbd_l]
    exact LSt.er rfl z1 z2 ⟨by omega, by omega⟩
theorem e_mould (hb : Cx G Tb t fx tp) (hst : StA G Tb) (h : YA own G t fx tp rd Tb l0 l1 ow T Y p) (hp : p ≤ t.2) (h0 : tS t p ≠ 0) (hw : yW Y * yH Y ≤ 30) (hP : (yP Y).1 ≤ 4) : Rn T (c_X5_mould G (some rd) T) (LSt own G t fx tp rd Tb l0 l1 T p (sbd (pAmo t (tE t p) (yW Y * yH Y)) fun c => if gK (yR Y) c ≠ -1 then .inl (4, tB t (tE t p)) else sbd (pAmo t (tE t (tE t p)) (yP Y).1) fun k => sbd (pNum t (tE t (tE t (tE t p))) 1 99) fun z => .inr (sMou Y c k z.1, z.2))) := by
  have f := tE_fw hp h0
  unfold c_X5_mould
  rw [if_neg (not_not_intro (h.isr hb hst hp))]
  refine Rn.cl (h.nxt hb hst hp) fun _ T1 _ ⟨y1, e1, hp1⟩ => ?_
  rw [if_neg (not_not_intro (y1.isr hb hst hp1))]
  have l1n : T1.2.1 = T.2.1 := by rw [e1]
  have m1n : T1.2.2 = T.2.2 := by rw [e1]
  refine e_cellNow hb hst y1 hp1 hw (fun c pa hcw hs => ?_) (fun k b pa ex T' z1 z2 z3 z4 => ?_)
  · have hc30 : c < 30 := by omega
    rw [pa, sbd_r, (y1.qs hb hst).2.1, Option.bind_some, y1.2.2.2.2.2.2.1.1.o2, Option.bind_some, y1.2.2.2.2.2.2.1.1.ldK hc30, Option.bind_some]
    unfold c_X5_mould_28
    by_cases cc : gK (yR Y) c = -1
    · rw [if_pos cc, if_neg (not_not_intro cc), if_neg (not_not_intro (y1.isr hb hst hp1))]
      refine Rn.clX rn_wantT (fun v T50 _ q => ?_) (fun ex T53 _ q => by cases q.1)
      obtain ⟨-, rfl⟩ := q
      rw [if_neg (not_not_intro (y1.isr hb hst hp1))]
      have f1 := tE_fw hp1 hs
      refine Rn.cl (y1.nxt hb hst hp1) fun _ T3 _ ⟨y3, e3, hp3⟩ => ?_
      have e23 : T3.2 = T.2 := e3.trans e1
      have l3n : T3.2.1 = T.2.1 := by rw [e23]
      have m3n : T3.2.2 = T.2.2 := by rw [e23]
      rw [if_neg (not_not_intro (y3.isr hb hst hp3))]
      refine y3.amoS hb hst hp3 (fun ok => ?_) (fun k b pa ex T' z1 z2 z3 z4 => ?_)
      · obtain ⟨fg, fb, r1, r2, r3⟩ := y3.ro
        have hL := y3.2.2.2.2.2.2.2.1
        have hsz : isO T3 (some l0) 10 = true ∧ c_J2_size T3 (some l0) = some (Int32.ofNat (yP Y).1) := by
          obtain ⟨a, f, w, cap, g1, -⟩ := hL
          exact ⟨g1.is, g1.size⟩
        rw [(y3.qs hb hst).1, Option.bind_some, r1.q0, Option.bind_some, if_neg (not_not_intro hsz.1), hsz.2, Option.bind_some]
        unfold c_X5_mould_67
        have nl := nmF_lt ok.1 ok.2.1
        have pk : pAmo t (tE t (tE t p)) (yP Y).1 = if nmF t (tE t (tE t p)) < (yP Y).1 then .inr (nmF t (tE t (tE t p))) else .inl (3, tB t (tE t (tE t p))) := by
          unfold pAmo
          rw [pNum_ok ok, sbd_r]
        by_cases c2 : nmF t (tE t (tE t p)) < (yP Y).1
        · rw [pk, if_pos c2, sbd_r, if_neg (fun q => by have := (ole (by omega) (by omega)).mp q; omega), if_neg (not_not_intro (y3.isr hb hst hp3))]
          refine Rn.clX rn_wantT (fun v T50 _ q => ?_) (fun ex T53 _ q => by cases q.1)
          obtain ⟨-, rfl⟩ := q
          rw [if_neg (not_not_intro (y3.isr hb hst hp3))]
          have f2 := nOK_fw hp3 ok
          refine Rn.cl (y3.nxt hb hst hp3) fun _ T4 _ ⟨y4, e4, hp4⟩ => ?_
          rw [(y4.qs hb hst).2.1, Option.bind_some, y4.2.2.2.2.2.2.1.1.o2, Option.bind_some]
          obtain ⟨T5, e5, le5, y5, f5⟩ := e_grw hb hst y4 hc30 (j := 3) (v := Int32.ofNat (nmF t (tE t (tE t p)))) (Or.inr (Or.inr (Or.inl ⟨rfl, rfl⟩)))
          refine Rn.st e5 le5 ?_
          rw [(y5.qs hb hst).2.1, Option.bind_some, y5.2.2.2.2.2.2.1.1.o3, Option.bind_some, if_neg (not_not_intro (y5.isr hb hst hp4))]
          have e25 : T5.2 = T.2 := f5.trans (e4.trans e23)
          refine Rn.clX (y5.num hb hst hp4 (lo := 1) (hi := 99) (by decide) (by decide)) (fun v T6 _ z => ?_) (fun ex T6 _ z => ?_)
          · obtain ⟨u, r2, g1, g2, g3, g4, g5, g6, g7, g8⟩ := z
            subst g2
            rw [g1, sbd_r]
            obtain ⟨T7, e7, le7, y7, f7⟩ := e_grw hb hst g3 hc30 (j := 4) (v := Int32.ofNat u) (Or.inr (Or.inr (Or.inr ⟨rfl, rfl⟩)))
            have e27 : T7.2 = T.2 := f7.trans (g6.trans e25)
            exact Rn.st e7 le7 (Rn.ret (LSt.ok rfl y7 (by omega) g4 ⟨by rw [e27]; omega, by rw [e27]; omega⟩))
          · obtain ⟨k', b, g1, g2, g3, g4, g5⟩ := z
            rw [e25] at g4 g5
            rw [g1, sbd_l]
            exact LSt.er rfl g2 g3 ⟨by omega, by omega⟩
        · rw [pk, if_neg c2, sbd_l, if_pos ((ole (by omega) (by omega)).mpr (by omega)), if_neg (not_not_intro (y3.isr hb hst hp3))]
          refine Rn.clX (y3.wF hb hst hp3 (k := 3) (by decide) (by decide)) (fun v T53 _ ⟨ex, q, _⟩ => by cases q) (fun ex T53 _ ⟨ex', z, z1, z2, z3, z4⟩ => ?_)
          have z := Sum.inr.inj z
          subst z
          exact LSt.er rfl z1 z2 ⟨by omega, by omega⟩
      · rw [pa _, sbd_l]
        exact LSt.er rfl z1 z2 ⟨by omega, by omega⟩
    · rw [if_neg cc, if_pos cc, if_neg (not_not_intro (y1.isr hb hst hp1))]
      refine Rn.clX (y1.wF hb hst hp1 (k := 4) (by decide) (by decide)) (fun v T53 _ ⟨ex, q, _⟩ => by cases q) (fun ex T53 _ ⟨ex', z, z1, z2, z3, z4⟩ => ?_)
      have z := Sum.inr.inj z
      subst z
      exact LSt.er rfl z1 z2 ⟨by omega, by omega⟩
  · rw [pa, sbd_l]
    exact LSt.er rfl z1 z2 ⟨by omega, by omega⟩
end YL
