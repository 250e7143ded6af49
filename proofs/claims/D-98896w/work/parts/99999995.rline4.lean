/-! plain law: the reference reads kinds, warmths, rules -/
set_option maxRecDepth 100000
section RL
variable {t : Tpe} (h7 : t.2 ≤ 700) (hc : ∀ k, t.1 k < 256) {S0 S : MS} {p : Nat} {Y : Yx}
theorem l_kin (h7 : t.2 ≤ 700) (hc : ∀ k, t.1 k < 256) (h : YB S0 S t Y p) (hw : YW Y) (hk : kw t p = 6) : Mn (m_line S) (LR S0 t (pLine t Y p)) := by
  have w4 := hw.2.2.1
  have body : pBody t Y p = if 4 ≤ (yP Y).1 then .inl (2, tB t p) else sbd (pNum t (tE t p) 0 3) fun v => .inr (sKin Y v.1, v.2) := by
    unfold pBody
    rw [if_neg (by omega), if_neg (by omega), if_neg (by omega), if_neg (by omega), if_neg (by omega), if_neg (by omega), if_pos hk]
  unfold m_line pLine
  rw [e_kw h h7 hk (by decide), Option.bind_some, if_neg (show ¬ Int32.ofNat 6 = 8 by decide), if_pos (show Int32.ofNat 6 = 6 from rfl)]
  have e27 : S.1 27 = Int32.ofNat (yP Y).1 := h.2.2.2.1.2.2.1
  have go : ∀ d : Int32, (d = 0 ↔ ¬ 4 ≤ (yP Y).1) → Mn (m_line_82 d S) (LQ S0 t (pBody t Y p)) := fun d hd => by
    unfold m_line_82
    have hb := r_begins h7 hc h (x1 := d) (x2 := 0) (x3 := 0) (n := if 4 ≤ (yP Y).1 then 2 else 0) (by
      by_cases q : 4 ≤ (yP Y).1
      · rw [if_pos q, if_neg (fun z => (hd.mp z) q)]
      · rw [if_neg q, if_pos (hd.mpr q), if_pos rfl, if_pos rfl])
    refine Mn.bw hb fun q z => ?_
    rcases z with ⟨z1, z2, z3⟩ | ⟨z1, z2, z3⟩
    · have q4 : ¬ 4 ≤ (yP Y).1 := fun r => by rw [if_pos r] at z1; cases z1
      rw [if_neg (by rw [z2]; decide), body, if_neg q4]
      have e27' : q.2.1 27 = Int32.ofNat (yP Y).1 := z3.2.2.2.1.2.2.1
      rw [e27']
      refine Mn.bw (z3.num h7 hc (lo := 0) (hi := 3) (by decide) (by decide)) fun q1 ⟨a1, a2⟩ => ?_
      rw [wrA_n (ocl (by omega)) (on0 (by omega)) (show (yP Y).1 < 4 by omega), Option.bind_some]
      cases e1 : pNum t (tE t p) 0 3 with
      | inl z =>
        obtain ⟨k, b⟩ := z
        have b1 := (a1 k b e1).a (j := 6) (i := (yP Y).1) (v := q1.1) (by decide)
        rw [r_bad b1.nb, Option.bind_some, if_pos rfl, sbd_l]
        exact r_384 h7 hc (LR.er b1)
      | inr z =>
        obtain ⟨v, r⟩ := z
        obtain ⟨b1, b2, b3, b4, b5⟩ := a2 v r e1
        have g : (sA q1.2 6 (yP Y).1 q1.1).1 14 = 0 := b2.1.2.2.2
        have e2 : (sA q1.2 6 (yP Y).1 q1.1).1 27 = Int32.ofNat (yP Y).1 := b2.2.2.2.1.2.2.1
        rw [r_good g, Option.bind_some, if_neg (show ¬ (1 : Int32) = 0 by decide), e2, ofn1 _ (by omega), sbd_r, b1]
        dsimp only
        refine r_384 h7 hc (LR.ok ⟨(b2.1.a (by decide)).f (by decide), (sF_ne (by decide)).trans b2.2.1, (b2.2.2.1.a (by decide)).f (by decide), ?_, b2.2.2.2.2⟩)
        obtain ⟨f1, f2, f3, f4, f5, f6, f7, f8, f9, f10, f11, f12, f13⟩ := b2.2.2.2.1
        have dn : ∀ j, dup (sKin Y v) j = dup Y j := fun j => rfl
        have sf : ∀ i, i ≠ 27 → (sF (sA q1.2 6 (yP Y).1 (Int32.ofNat v)) 27 (Int32.ofNat ((yP Y).1 + 1))).1 i = q1.2.1 i := fun i q1 => sF_ne q1
        have sa : ∀ j, j ≠ 6 → (sF (sA q1.2 6 (yP Y).1 (Int32.ofNat v)) 27 (Int32.ofNat ((yP Y).1 + 1))).2.2 j = q1.2.2.2 j := fun j q1 => sA_ne q1
        refine ⟨(sf 25 (by decide)).trans f1, (sf 26 (by decide)).trans f2, sF_at, fun k hk2 => ?_, (sf 28 (by decide)).trans f5, by rw [sa 7 (by decide)]; exact f6, (sf 29 (by decide)).trans f7, (sf 30 (by decide)).trans f8, (sf 31 (by decide)).trans f9, (sf 32 (by decide)).trans f10, ⟨(sf 33 (by decide)).trans f11.1, by rw [sa 9 (by decide)]; exact f11.2⟩, by rw [sa 12 (by decide)]; exact f12, by rw [sa 8 (by decide)]; exact f13⟩
        show (sA q1.2 6 (yP Y).1 (Int32.ofNat v)).2.2 6 k = Int32.ofNat (va_up (yP Y).2 (yP Y).1 v k)
        have hk2 : k < (yP Y).1 + 1 := hk2
        rw [sA_at]
        unfold upd va_up
        by_cases c : k = (yP Y).1
        · rw [if_pos c, if_pos c]
        · rw [if_neg c, if_neg c]; exact f4 k (by omega)
    · have q4 : 4 ≤ (yP Y).1 := by
        by_cases r : 4 ≤ (yP Y).1
        · exact r
        · rw [if_neg r] at z1; exact absurd rfl z1
      rw [if_pos z2, body, if_pos q4]
      rw [if_pos q4] at z3
      exact r_384 h7 hc (LR.er z3)
  have e4 : S.1 27 = 4 ↔ 4 ≤ (yP Y).1 := by
    rw [e27]
    refine ⟨fun q => ?_, fun q => by rw [show (yP Y).1 = 4 by omega]; rfl⟩
    have := (oeq (n := (yP Y).1) (m := 4) (by omega) (by omega)).mp q
    omega
  by_cases q : S.1 27 = 4
  · rw [if_pos q]
    exact go 1 ⟨fun z => absurd z (by decide), fun z => absurd (e4.mp q) z⟩
  · rw [if_neg q]
    exact go 0 ⟨fun _ z => q (e4.mpr z), fun _ => rfl⟩
theorem YF.wm (h7 : t.2 ≤ 700) (hc : ∀ k, t.1 k < 256) (hy : YF S Y) {l : Nat × (Nat → Nat)} {Y1 : Yx} (hY : Y1 = sWm Y l) (b1 : S.1 28 = Int32.ofNat l.1) (b2 : ∀ k, k < l.1 → S.2.2 7 k = Int32.ofNat (l.2 k)) : YF S Y1 := by
  subst hY
  obtain ⟨f1, f2, f3, f4, f5, f6, f7, f8, f9, f10, f11, f12, f13⟩ := hy
  have dn : ∀ j, 1 ≠ j → dup (sWm Y l) j = dup Y j := fun j q => dup_n (i := 1) rfl q
  exact ⟨by rw [dn 0 (by decide)]; exact f1, by rw [dn 0 (by decide)]; exact f2, f3, f4, b1, b2, by rw [dn 2 (by decide)]; exact f7, by rw [dn 3 (by decide)]; exact f8, by rw [dn 4 (by decide)]; exact f9, by rw [dn 5 (by decide)]; exact f10, f11, f12, f13⟩
/-- warmths, one after another; the list of Y is put in its place at the end -/
theorem r_wms (h7 : t.2 ≤ 700) (hc : ∀ k, t.1 k < 256) : ∀ d (Y : Yx) p S x m, t.2 < p + d → d < m → YB S0 S t Y p → (yT Y).1 ≤ 8 → (x = 0 ∧ tS t p ≠ 2 ∨ x = 1 ∧ tS t p = 2) → Mn (m_readsWarmth_2 m x S) fun S' => (∀ k b, pWm t d (yT Y) p = .inl (k, b) → BL S0 k b S') ∧ ∀ l q, pWm t d (yT Y) p = .inr (l, q) → YB S0 S' t (sWm Y l) q ∧ l.1 ≤ 8 ∧ (tS t p = 2 → 0 < l.1) := by
  intro d
  induction d with
  | zero =>
    intro Y p S x m hn hm h
    have := h.1.2.2.1
    omega
  | succ d ih =>
    intro Y p S x m hn hm h hl hx
    obtain ⟨m, rfl⟩ : ∃ k, m = k + 1 := ⟨m - 1, by omega⟩
    have hp := h.1.2.2.1
    show Mn (m_readsWarmth_2_b (m_readsWarmth_2 m) x S) _
    unfold m_readsWarmth_2_b pWm
    rcases hx with ⟨rfl, s2⟩ | ⟨rfl, s2⟩
    · rw [if_pos rfl, if_neg s2]
      refine Mn.ret ⟨fun k b q => (by cases q), fun l q r => ?_⟩
      have r := Sum.inr.inj r
      have r1 : yT Y = l := congrArg Prod.fst r
      have r2 : p = q := congrArg Prod.snd r
      subst r1 r2
      exact ⟨⟨h.1, h.2.1, h.2.2.1, h.2.2.2.1.wm (t := t) h7 hc rfl h.2.2.2.1.2.2.2.2.1 h.2.2.2.1.2.2.2.2.2.1, h.2.2.2.2⟩, hl, fun q => absurd q s2⟩
    · have e28 : S.1 28 = Int32.ofNat (yT Y).1 := h.2.2.2.1.2.2.2.2.1
      rw [if_neg (show ¬ (1 : Int32) = 0 by decide), r_good h.1.2.2.2, Option.bind_some, if_neg (show ¬ (1 : Int32) = 0 by decide), e28, h.1.1.2.1, if_pos s2, if_pos (show Int32.ofNat (tS t p) = 2 by rw [s2]; rfl)]
      by_cases c8 : 8 ≤ (yT Y).1
      · rw [if_pos c8, if_pos (show Int32.ofNat (yT Y).1 = 8 by rw [show (yT Y).1 = 8 by omega]; rfl)]
        obtain ⟨S1, e1, b1⟩ := h.wr (k := 2) (by decide) (by decide)
        have e1 : m_wrong 2 S = some S1 := e1
        unfold m_readsWarmth_35
        rw [e1, Option.bind_some, r_numB b1.nb, Option.bind_some, r_bad b1.nb, Option.bind_some, if_pos rfl]
        refine Mn.ret ⟨fun k b q => ?_, fun l q r => (by cases r)⟩
        have q := Sum.inl.inj q
        have q1 : 2 = k := congrArg Prod.fst q
        have q2 : tB t p = b := congrArg Prod.snd q
        subst q1 q2
        exact b1
      · rw [if_neg c8, if_neg (show ¬ Int32.ofNat (yT Y).1 = 8 from fun q => by have := (oeq (n := (yT Y).1) (m := 8) (by omega) (by omega)).mp q; omega)]
        unfold m_readsWarmth_35
        refine Mn.bw (h.num h7 hc (lo := 0) (hi := 9) (by decide) (by decide)) fun q1 ⟨a1, a2⟩ => ?_
        cases e1 : pNum t p 0 9 with
        | inl z =>
          obtain ⟨k, b⟩ := z
          have b1 := a1 k b e1
          rw [r_bad b1.nb, Option.bind_some, if_pos rfl, sbd_l]
          refine Mn.ret ⟨fun k2 b2 q => ?_, fun l q r => (by cases r)⟩
          have q := Sum.inl.inj q
          have q1 : k = k2 := congrArg Prod.fst q
          have q2 : b = b2 := congrArg Prod.snd q
          subst q1 q2
          exact b1
        | inr z =>
          obtain ⟨v, r⟩ := z
          obtain ⟨b1, b2, b3, b4, b5⟩ := a2 v r e1
          obtain ⟨ok, rfl, rfl⟩ := pNum_i e1
          have fq := nOK_fw hp ok
          have e28' : q1.2.1 28 = Int32.ofNat (yT Y).1 := b2.2.2.2.1.2.2.2.2.1
          rw [r_good b2.1.2.2.2, Option.bind_some, if_neg (show ¬ (1 : Int32) = 0 by decide), e28', wrA_n (ocl (by omega)) (on0 (by omega)) (show (yT Y).1 < 8 by omega), Option.bind_some, sbd_r, b1]
          have e3 : (sA q1.2 7 (yT Y).1 (Int32.ofNat (nmF t p))).1 28 = Int32.ofNat (yT Y).1 := e28'
          rw [e3, ofn1 _ (by omega)]
          have y' : YB S0 (sF (sA q1.2 7 (yT Y).1 (Int32.ofNat (nmF t p))) 28 (Int32.ofNat ((yT Y).1 + 1))) t (sWm Y (ysn (yT Y) (nmF t p))) (tE t p) := by
            refine ⟨(b2.1.a (by decide)).f (by decide), (sF_ne (by decide)).trans b2.2.1, (b2.2.2.1.a (by decide)).f (by decide), ?_, b2.2.2.2.2⟩
            obtain ⟨f1, f2, f3, f4, f5, f6, f7, f8, f9, f10, f11, f12, f13⟩ := b2.2.2.2.1
            have dn : ∀ j, 1 ≠ j → dup (sWm Y (ysn (yT Y) (nmF t p))) j = dup Y j := fun j q => dup_n (i := 1) rfl q
            have sf : ∀ i, i ≠ 28 → (sF (sA q1.2 7 (yT Y).1 (Int32.ofNat (nmF t p))) 28 (Int32.ofNat ((yT Y).1 + 1))).1 i = q1.2.1 i := fun i q1 => sF_ne q1
            have sa : ∀ j, j ≠ 7 → (sF (sA q1.2 7 (yT Y).1 (Int32.ofNat (nmF t p))) 28 (Int32.ofNat ((yT Y).1 + 1))).2.2 j = q1.2.2.2 j := fun j q1 => sA_ne q1
            refine ⟨by rw [sf 25 (by decide), dn 0 (by decide)]; exact f1, by rw [sf 26 (by decide), dn 0 (by decide)]; exact f2, (sf 27 (by decide)).trans f3, by rw [sa 6 (by decide)]; exact f4, sF_at, fun k hk2 => ?_, by rw [sf 29 (by decide), dn 2 (by decide)]; exact f7, by rw [sf 30 (by decide), dn 3 (by decide)]; exact f8, by rw [sf 31 (by decide), dn 4 (by decide)]; exact f9, by rw [sf 32 (by decide), dn 5 (by decide)]; exact f10, ⟨(sf 33 (by decide)).trans f11.1, by rw [sa 9 (by decide)]; exact f11.2⟩, by rw [sa 12 (by decide)]; exact f12, by rw [sa 8 (by decide)]; exact f13⟩
            show (sA q1.2 7 (yT Y).1 (Int32.ofNat (nmF t p))).2.2 7 k = Int32.ofNat (va_up (yT Y).2 (yT Y).1 (nmF t p) k)
            have hk2 : k < (yT Y).1 + 1 := hk2
            rw [sA_at]
            unfold upd va_up
            by_cases c : k = (yT Y).1
            · rw [if_pos c, if_pos c]
            · rw [if_neg c, if_neg c]; exact f6 k (by omega)
          obtain ⟨X, eX⟩ : ∃ X, X = sF (sA q1.2 7 (yT Y).1 (Int32.ofNat (nmF t p))) 28 (Int32.ofNat ((yT Y).1 + 1)) := ⟨_, rfl⟩
          rw [← eX] at y' ⊢
          have fin : ∀ x : Int32, (x = 0 ∧ tS t (tE t p) ≠ 2 ∨ x = 1 ∧ tS t (tE t p) = 2) → Mn (m_readsWarmth_2 m x X) fun S' => (∀ k b, pWm t d (ysn (yT Y) (nmF t p)) (tE t p) = .inl (k, b) → BL S0 k b S') ∧ ∀ l q, pWm t d (ysn (yT Y) (nmF t p)) (tE t p) = .inr (l, q) → YB S0 S' t (sWm Y l) q ∧ l.1 ≤ 8 ∧ (tS t p = 2 → 0 < l.1) := fun x hx => by
            refine (ih (sWm Y (ysn (yT Y) (nmF t p))) (tE t p) X x m (by omega) (by omega) y' (show (yT Y).1 + 1 ≤ 8 by omega) hx).mono fun S' ⟨g1, g2⟩ => ⟨g1, fun l q r => ?_⟩
            obtain ⟨g3, g4, g5⟩ := g2 l q r
            have same : sWm (sWm Y (ysn (yT Y) (nmF t p))) l = sWm Y l := by
              unfold sWm
              dsimp only
              rw [Nat.or_assoc, Nat.or_self]
            rw [same] at g3
            refine ⟨g3, g4, fun _ => ?_⟩
            by_cases s2' : tS t (tE t p) = 2
            · exact g5 s2'
            · have r : pWm t d (ysn (yT Y) (nmF t p)) (tE t p) = .inr (l, q) := r
              cases d with
              | zero => cases r
              | succ d =>
                unfold pWm at r
                rw [if_neg s2'] at r
                have r1 : ysn (yT Y) (nmF t p) = l := congrArg Prod.fst (Sum.inr.inj r)
                rw [← r1]
                exact Nat.succ_pos _
          unfold m_readsWarmth_84
          rw [y'.1.1.2.1]
          by_cases s2' : tS t (tE t p) = 2
          · rw [if_pos (show Int32.ofNat (tS t (tE t p)) = 2 by rw [s2']; rfl)]
            exact fin 1 (Or.inr ⟨rfl, s2'⟩)
          · rw [if_neg (show ¬ Int32.ofNat (tS t (tE t p)) = 2 from fun q => s2' ((tS_ne (k := 2) (by decide)).mp q))]
            exact fin 0 (Or.inl ⟨rfl, s2'⟩)
theorem l_wms (h7 : t.2 ≤ 700) (hc : ∀ k, t.1 k < 256) (h : YB S0 S t Y p) (hw : YW Y) (hk : kw t p = 3) : Mn (m_line S) (LR S0 t (pLine t Y p)) := by
  have w8 := hw.2.1
  have body : pBody t Y p = once t Y p 1 (if tS t (tE t p) = 2 then sbd (pWm t 701 (yT Y) (tE t p)) fun l => .inr (sWm Y l.1, l.2) else .inl (1, tB t (tE t p))) := by
    unfold pBody
    rw [if_neg (by omega), if_pos hk]
  unfold m_line pLine
  rw [e_kw h h7 hk (by decide), Option.bind_some, if_neg (show ¬ Int32.ofNat 3 = 8 by decide), if_neg (show ¬ Int32.ofNat 3 = 6 by decide), if_neg (show ¬ Int32.ofNat 3 = 9 by decide), if_neg (show ¬ Int32.ofNat 3 = 10 by decide), if_pos (show Int32.ofNat 3 = 3 from rfl), body]
  have e28 : S.1 28 = Int32.ofNat (yT Y).1 := h.2.2.2.1.2.2.2.2.1
  have go : ∀ d : Int32, (d = 0 ↔ dup Y 1 = false) → Mn (m_line_191 d 0 0 S) (LQ S0 t (once t Y p 1 (if tS t (tE t p) = 2 then sbd (pWm t 701 (yT Y) (tE t p)) fun l => .inr (sWm Y l.1, l.2) else .inl (1, tB t (tE t p))))) := fun d hd => by
    unfold m_line_191
    refine r_once h7 hc h (k := fun S' => (m_readsWarmth S').bind fun q => m_line_384 q) hd fun S1 y1 => ?_
    have hp := y1.1.2.2.1
    unfold m_readsWarmth
    by_cases s2 : tS t (tE t p) = 2
    · rw [if_pos s2]
      refine Mn.bw (r_wms h7 hc 701 Y (tE t p) S1 1 FU (by omega) (by decide) y1 w8.1 (Or.inr ⟨rfl, s2⟩)) fun S2 ⟨a1, a2⟩ => ?_
      cases e1 : pWm t 701 (yT Y) (tE t p) with
      | inl z =>
        obtain ⟨k, b⟩ := z
        rw [sbd_l]
        exact r_384 h7 hc (LR.er (a1 k b e1))
      | inr z =>
        obtain ⟨l, q⟩ := z
        rw [sbd_r]
        exact r_384 h7 hc (LR.ok (a2 l q e1).1)
    · rw [if_neg s2]
      have e : Mn (m_readsWarmth_2 FU 1 S1) fun S' => BL S0 1 (tB t (tE t p)) S' := by
        show Mn (m_readsWarmth_2_b (m_readsWarmth_2 5999) 1 S1) _
        unfold m_readsWarmth_2_b
        rw [if_neg (show ¬ (1 : Int32) = 0 by decide), r_good y1.1.2.2.2, Option.bind_some, if_neg (show ¬ (1 : Int32) = 0 by decide), y1.1.1.2.1, if_neg (show ¬ Int32.ofNat (tS t (tE t p)) = 2 from fun q => s2 ((tS_ne (k := 2) (by decide)).mp q))]
        have e35 : Mn (m_readsWarmth_35 (m_readsWarmth_2 5999) S1) fun S' => BL S0 1 (tB t (tE t p)) S' := by
          unfold m_readsWarmth_35
          refine Mn.bw (y1.num h7 hc (lo := 0) (hi := 9) (by decide) (by decide)) fun q1 ⟨a1, a2⟩ => ?_
          have b1 := a1 1 (tB t (tE t p)) (by rw [pNum_no (fun z => s2 z.1), if_neg s2])
          rw [r_bad b1.nb, Option.bind_some, if_pos rfl]
          exact Mn.ret b1
        split <;> exact e35
      exact Mn.bw e fun S2 b => r_384 h7 hc (LR.er b)
  have e4 : S.1 28 ≤ 0 ↔ dup Y 1 = false := by
    rw [e28]
    refine ⟨fun q => ?_, fun q => ?_⟩
    · have := (ole (n := (yT Y).1) (m := 0) (by omega) (by omega)).mp q
      cases hz : dup Y 1 with
      | false => rfl
      | true => have := w8.2.mp hz; omega
    · have : ¬ 0 < (yT Y).1 := fun z => by rw [w8.2.mpr z] at q; cases q
      exact (ole (n := (yT Y).1) (m := 0) (by omega) (by omega)).mpr (by omega)
  by_cases q : S.1 28 ≤ 0
  · rw [if_pos q]
    exact go 0 ⟨fun _ => e4.mp q, fun _ => rfl⟩
  · rw [if_neg q]
    exact go 1 ⟨fun z => absurd z (by decide), fun z => absurd (e4.mpr z) q⟩
end RL
