/-! plain law: the reference reads cells, moulds, anything else -/
set_option maxRecDepth 100000
theorem AtJ.uD {A : Nat → Int32} {g : Gw} {c : Nat} (h : AtJ A 0 g) (hc : c < 30) (v : Int32) : AtJ (upd A (1 + c) v) 0 (upd (gD g) c v, gF g, gK g, gZ g, gY g) := by
  refine ⟨?_, fun i hi => ?_⟩
  · show upd A (1 + c) v 0 = gY g
    unfold upd
    rw [if_neg (by omega)]; exact h.1
  · obtain ⟨a1, a2, a3, a4⟩ := h.2 i hi
    show upd A (1 + c) v (0 + 1 + i) = upd (gD g) c v i ∧ upd A (1 + c) v (0 + 31 + i) = gF g i ∧ upd A (1 + c) v (0 + 61 + i) = gK g i ∧ upd A (1 + c) v (0 + 91 + i) = gZ g i
    unfold upd
    rw [if_neg (show ¬ 0 + 31 + i = 1 + c by omega), if_neg (show ¬ 0 + 61 + i = 1 + c by omega), if_neg (show ¬ 0 + 91 + i = 1 + c by omega)]
    refine ⟨?_, a2, a3, a4⟩
    by_cases q : i = c
    · rw [if_pos (by omega), if_pos q]
    · rw [if_neg (by omega), if_neg q]; exact a1
theorem AtJ.uF {A : Nat → Int32} {g : Gw} {c : Nat} (h : AtJ A 0 g) (hc : c < 30) (v : Int32) : AtJ (upd A (31 + c) v) 0 (gD g, upd (gF g) c v, gK g, gZ g, gY g) := by
  refine ⟨?_, fun i hi => ?_⟩
  · show upd A (31 + c) v 0 = gY g
    unfold upd
    rw [if_neg (by omega)]; exact h.1
  · obtain ⟨a1, a2, a3, a4⟩ := h.2 i hi
    show upd A (31 + c) v (0 + 1 + i) = gD g i ∧ upd A (31 + c) v (0 + 31 + i) = upd (gF g) c v i ∧ upd A (31 + c) v (0 + 61 + i) = gK g i ∧ upd A (31 + c) v (0 + 91 + i) = gZ g i
    unfold upd
    rw [if_neg (show ¬ 0 + 1 + i = 31 + c by omega), if_neg (show ¬ 0 + 61 + i = 31 + c by omega), if_neg (show ¬ 0 + 91 + i = 31 + c by omega)]
    refine ⟨a1, ?_, a3, a4⟩
    by_cases q : i = c
    · rw [if_pos (by omega), if_pos q]
    · rw [if_neg (by omega), if_neg q]; exact a2
theorem AtJ.uK {A : Nat → Int32} {g : Gw} {c : Nat} (h : AtJ A 0 g) (hc : c < 30) (v : Int32) : AtJ (upd A (61 + c) v) 0 (gD g, gF g, upd (gK g) c v, gZ g, gY g) := by
  refine ⟨?_, fun i hi => ?_⟩
  · show upd A (61 + c) v 0 = gY g
    unfold upd
    rw [if_neg (by omega)]; exact h.1
  · obtain ⟨a1, a2, a3, a4⟩ := h.2 i hi
    show upd A (61 + c) v (0 + 1 + i) = gD g i ∧ upd A (61 + c) v (0 + 31 + i) = gF g i ∧ upd A (61 + c) v (0 + 61 + i) = upd (gK g) c v i ∧ upd A (61 + c) v (0 + 91 + i) = gZ g i
    unfold upd
    rw [if_neg (show ¬ 0 + 1 + i = 61 + c by omega), if_neg (show ¬ 0 + 31 + i = 61 + c by omega), if_neg (show ¬ 0 + 91 + i = 61 + c by omega)]
    refine ⟨a1, a2, ?_, a4⟩
    by_cases q : i = c
    · rw [if_pos (by omega), if_pos q]
    · rw [if_neg (by omega), if_neg q]; exact a3
theorem AtJ.uZ {A : Nat → Int32} {g : Gw} {c : Nat} (h : AtJ A 0 g) (hc : c < 30) (v : Int32) : AtJ (upd A (91 + c) v) 0 (gD g, gF g, gK g, upd (gZ g) c v, gY g) := by
  refine ⟨?_, fun i hi => ?_⟩
  · show upd A (91 + c) v 0 = gY g
    unfold upd
    rw [if_neg (by omega)]; exact h.1
  · obtain ⟨a1, a2, a3, a4⟩ := h.2 i hi
    show upd A (91 + c) v (0 + 1 + i) = gD g i ∧ upd A (91 + c) v (0 + 31 + i) = gF g i ∧ upd A (91 + c) v (0 + 61 + i) = gK g i ∧ upd A (91 + c) v (0 + 91 + i) = upd (gZ g) c v i
    unfold upd
    rw [if_neg (show ¬ 0 + 1 + i = 91 + c by omega), if_neg (show ¬ 0 + 31 + i = 91 + c by omega), if_neg (show ¬ 0 + 61 + i = 91 + c by omega)]
    refine ⟨a1, a2, a3, ?_⟩
    by_cases q : i = c
    · rw [if_pos (by omega), if_pos q]
    · rw [if_neg (by omega), if_neg q]; exact a4
/-- another growth -/
abbrev sRw (Y : Yx) (g : Gw) : Yx := (yD Y, yC Y, yW Y, yH Y, yA Y, yS Y, yT Y, yP Y, yG Y, yB Y, g, Y.2.2.2.2.2.2.2.2.2.2.2)
abbrev sMk (Y : Yx) (c : Nat) : Yx := (yD Y, (fun i => if i = c then true else yC Y i), Y.2.2)
section RL
variable {t : Tpe} (h7 : t.2 ≤ 700) (hc : ∀ k, t.1 k < 256) {S0 S : MS} {p : Nat} {Y : Yx}
theorem YB.rw8 {q : Nat} (h : YB S0 S t Y q) {i : Nat} {v : Int32} {g : Gw} (hg : AtJ (upd (S.2.2 8) i v) 0 g) : YB S0 (sA S 8 i v) t (sRw Y g) q := by
  refine ⟨h.1.a (by decide), h.2.1, h.2.2.1.a (by decide), ?_, h.2.2.2.2⟩
  obtain ⟨f1, f2, f3, f4, f5, f6, f7, f8, f9, f10, f11, f12, f13⟩ := h.2.2.2.1
  have sa : ∀ j, j ≠ 8 → (sA S 8 i v).2.2 j = S.2.2 j := fun j q1 => sA_ne q1
  exact ⟨f1, f2, f3, by rw [sa 6 (by decide)]; exact f4, f5, by rw [sa 7 (by decide)]; exact f6, f7, f8, f9, f10, ⟨f11.1, by rw [sa 9 (by decide)]; exact f11.2⟩, by rw [sa 12 (by decide)]; exact f12, by rw [sA_at]; exact hg⟩
theorem YB.mk12 {q : Nat} (h : YB S0 S t Y q) {c : Nat} (hc30 : c < 30) : YB S0 (sA S 12 c 1) t (sMk Y c) q := by
  refine ⟨h.1.a (by decide), h.2.1, h.2.2.1.a (by decide), ?_, h.2.2.2.2⟩
  obtain ⟨f1, f2, f3, f4, f5, f6, f7, f8, f9, f10, f11, f12, f13⟩ := h.2.2.2.1
  have sa : ∀ j, j ≠ 12 → (sA S 12 c 1).2.2 j = S.2.2 j := fun j q1 => sA_ne q1
  refine ⟨f1, f2, f3, by rw [sa 6 (by decide)]; exact f4, f5, by rw [sa 7 (by decide)]; exact f6, f7, f8, f9, f10, ⟨f11.1, by rw [sa 9 (by decide)]; exact f11.2⟩, fun i hi => ?_, by rw [sa 8 (by decide)]; exact f13⟩
  rw [sA_at]
  show upd (S.2.2 12) c 1 i = if (if i = c then true else yC Y i) = true then 1 else 0
  unfold upd
  by_cases q : i = c
  · rw [if_pos q, if_pos q, if_pos rfl]
  · rw [if_neg q, if_neg q]; exact f12 i hi
theorem r_cellsNow (h : YF S Y) (hw : YW Y) : m_cellsNow S = some (Int32.ofNat (yW Y * yH Y)) := by
  obtain ⟨⟨w1, w2, w3, w4, w5⟩, -⟩ := hw
  unfold m_cellsNow
  rw [h.1, h.2.1]
  cases q : dup Y 0 with
  | false =>
    obtain ⟨a, b⟩ := w5 q
    rw [if_pos ((opt_n (by omega)).mpr rfl), a, b]
    rfl
  | true =>
    rw [opt_t rfl, opt_t rfl, if_neg (ipos_ne (by omega)), omul]
theorem wh30 (hw : YW Y) : yW Y * yH Y ≤ 30 := by
  obtain ⟨⟨w1, w2, w3, w4, w5⟩, -⟩ := hw
  exact (Nat.mul_le_mul w2 w4 : yW Y * yH Y ≤ 6 * 5)
/-- a number below some, of a line -/
theorem YB.amo (h7 : t.2 ≤ 700) (hc : ∀ k, t.1 k < 256) (h : YB S0 S t Y p) {m : Nat} (hm : m < 20000) : Mn (m_amongHere (Int32.ofNat m) S) fun q => (∀ k b, pAmo t p m = .inl (k, b) → q.1 = 0 ∧ BL S0 k b q.2) ∧ ∀ v, pAmo t p m = .inr v → q = (1, S) ∧ v < m ∧ S.1 22 = Int32.ofNat v ∧ tS t p ≠ 0 := by
  refine (r_amo h7 h.1 hm).mono fun q ⟨a, b, c⟩ => ⟨fun k b2 e => ?_, fun v e => ?_⟩
  · obtain ⟨c1, c2, c3⟩ := c k b2 e
    have kk : 0 < k ∧ k < 10 := by
      unfold pAmo at e
      by_cases ok : nOK t p 0 9999
      · rw [pNum_ok ok, sbd_r] at e
        split at e
        · cases e
        · have q1 := congrArg Prod.fst (Sum.inl.inj e)
          dsimp only at q1
          omega
      · rw [pNum_no ok, sbd_l] at e
        have q1 := congrArg Prod.fst (Sum.inl.inj e)
        dsimp only at q1
        rw [← q1]
        split <;> decide
    exact ⟨c1, BL.pk h.2.2.1 kk.1 kk.2 a c2 c3⟩
  · obtain ⟨b1, b2, b3, b4⟩ := b v e
    exact ⟨b1, b2, by rw [b4]; exact h.1.i22 b3, by rw [b3.1]; decide⟩
theorem YB.nx (h7 : t.2 ≤ 700) (hc : ∀ k, t.1 k < 256) (h : YB S0 S t Y p) (h0 : tS t p ≠ 0) : Mn (m_goes S) fun S' => YB S0 S' t Y (tE t p) := by
  have f := tE_fw h.1.2.2.1 h0
  exact (h.1.nx h7 hc).mono fun S' ⟨a, b, c⟩ => h.mv b a c (by omega)
theorem l_cll (h7 : t.2 ≤ 700) (hc : ∀ k, t.1 k < 256) (h : YB S0 S t Y p) (hw : YW Y) (hk : kw t p = 9) : Mn (m_line S) (LR S0 t (pLine t Y p)) := by
  have w30 := wh30 hw
  have body : pBody t Y p = sbd (pAmo t (tE t p) (yW Y * yH Y)) fun c => if yC Y c = true then .inl (4, tB t (tE t p)) else sbd (pNum t (tE t (tE t p)) 0 9) fun d => sbd (pNum t d.2 0 99) fun f => .inr (sCll Y c d.1 f.1, f.2) := by
    unfold pBody
    rw [if_neg (by omega), if_neg (by omega), if_neg (by omega), if_neg (by omega), if_neg (by omega), if_neg (by omega), if_neg (by omega), if_pos hk]
  unfold m_line pLine
  rw [e_kw h h7 hk (by decide), Option.bind_some, if_neg (show ¬ Int32.ofNat 9 = 8 by decide), if_neg (show ¬ Int32.ofNat 9 = 6 by decide), if_pos (show Int32.ofNat 9 = 9 from rfl), body]
  refine r_line0 h7 hc h (k := fun S' => (m_readsCell S').bind fun q => m_line_384 q) (n := 0) rfl (fun q => absurd rfl q) fun _ S1 y1 => ?_
  unfold m_readsCell
  rw [r_cellsNow y1.2.2.2.1 hw, Option.bind_some]
  obtain ⟨q, eq, a1, a2⟩ := y1.amo h7 hc (m := yW Y * yH Y) (by omega)
  rw [eq, Option.bind_some]
  cases e1 : pAmo t (tE t p) (yW Y * yH Y) with
  | inl z =>
    obtain ⟨k, b⟩ := z
    obtain ⟨b1, b2⟩ := a1 k b e1
    rw [if_pos b1, Option.bind_some, sbd_l]
    exact r_384 h7 hc (LR.er b2)
  | inr c =>
    obtain ⟨b1, b2, b3, b4⟩ := a2 c e1
    subst b1
    have hc30 : c < 30 := by omega
    rw [if_neg (show ¬ (1 : Int32) = 0 by decide), b3, rdA_n (ocl (by omega)) (on0 (by omega)) (show c < 30 from hc30), Option.bind_some, y1.2.2.2.1.2.2.2.2.2.2.2.2.2.2.2.1 c hc30, sbd_r]
    by_cases cc : yC Y c = true
    · rw [if_pos cc, if_pos cc, if_neg (show ¬ (1 : Int32) = 0 by decide)]
      obtain ⟨S2, e2, b2⟩ := y1.wr (k := 4) (by decide) (by decide)
      have e2 : m_wrong 4 S1 = some S2 := e2
      unfold m_readsCell_31
      rw [e2, Option.bind_some, r_bad b2.nb, Option.bind_some, if_pos rfl, Option.bind_some]
      exact r_384 h7 hc (LR.er b2)
    · rw [if_neg cc, if_neg cc, if_pos rfl]
      unfold m_readsCell_31
      rw [r_good y1.1.2.2.2, Option.bind_some, if_neg (show ¬ (1 : Int32) = 0 by decide), wrA_n (ocl (by omega)) (on0 (by omega)) (show c < 30 from hc30), Option.bind_some, show vp_nar .boolean 1 = 1 by decide]
      have y2 := y1.mk12 hc30
      obtain ⟨S3, e3, y3⟩ := y2.nx h7 hc b4
      rw [e3, Option.bind_some]
      obtain ⟨q4, e4, c1, c2⟩ := y3.num h7 hc (lo := 0) (hi := 9) (by decide) (by decide)
      have e4 : m_number 0 9 S3 = some q4 := e4
      rw [e4, Option.bind_some, show (1 : Int32) + Int32.ofNat c = Int32.ofNat (1 + c) from oadd 1 c, show (31 : Int32) + Int32.ofNat c = Int32.ofNat (31 + c) from oadd 31 c, wrA_n (ocl (by omega)) (on0 (by omega)) (show 1 + c < 121 by omega), Option.bind_some]
      cases e5 : pNum t (tE t (tE t p)) 0 9 with
      | inl z =>
        obtain ⟨k, b⟩ := z
        have b5 := (c1 k b e5).a (j := 8) (i := 1 + c) (v := q4.1) (by decide)
        rw [r_numB b5.nb, Option.bind_some, wrA_n (ocl (by omega)) (on0 (by omega)) (show 31 + c < 121 by omega), Option.bind_some, Option.bind_some, sbd_l]
        exact r_384 h7 hc (LR.er (b5.a (by decide)))
      | inr z =>
        obtain ⟨v, r⟩ := z
        obtain ⟨d1, d2, d3, d4, d5⟩ := c2 v r e5
        rw [sbd_r, d1]
        dsimp only
        have y5 := d2.rw8 (i := 1 + c) (v := Int32.ofNat v) (d2.2.2.2.1.2.2.2.2.2.2.2.2.2.2.2.2.uD hc30 _)
        obtain ⟨q6, e6, g1, g2⟩ := y5.num h7 hc (lo := 0) (hi := 99) (by decide) (by decide)
        have e6 : m_number 0 99 (sA q4.2 8 (1 + c) (Int32.ofNat v)) = some q6 := e6
        rw [e6, Option.bind_some, wrA_n (ocl (by omega)) (on0 (by omega)) (show 31 + c < 121 by omega), Option.bind_some, Option.bind_some]
        cases e7 : pNum t r 0 99 with
        | inl z =>
          obtain ⟨k, b⟩ := z
          rw [sbd_l]
          exact r_384 h7 hc (LR.er ((g1 k b e7).a (by decide)))
        | inr z =>
          obtain ⟨u, r2⟩ := z
          obtain ⟨d1, d2, d3, d4, d5⟩ := g2 u r2 e7
          rw [sbd_r, d1]
          dsimp only
          exact r_384 h7 hc (LR.ok (d2.rw8 (i := 31 + c) (v := Int32.ofNat u) (d2.2.2.2.1.2.2.2.2.2.2.2.2.2.2.2.2.uF hc30 _)))
theorem l_mou (h7 : t.2 ≤ 700) (hc : ∀ k, t.1 k < 256) (h : YB S0 S t Y p) (hw : YW Y) (hk : kw t p = 10) : Mn (m_line S) (LR S0 t (pLine t Y p)) := by
  have w30 := wh30 hw
  have w4 := hw.2.2.1
  have body : pBody t Y p = sbd (pAmo t (tE t p) (yW Y * yH Y)) fun c => if gK (yR Y) c ≠ -1 then .inl (4, tB t (tE t p)) else sbd (pAmo t (tE t (tE t p)) (yP Y).1) fun k => sbd (pNum t (tE t (tE t (tE t p))) 1 99) fun z => .inr (sMou Y c k z.1, z.2) := by
    unfold pBody
    rw [if_neg (by omega), if_neg (by omega), if_neg (by omega), if_neg (by omega), if_neg (by omega), if_neg (by omega), if_neg (by omega), if_neg (by omega), if_pos hk]
  unfold m_line pLine
  rw [e_kw h h7 hk (by decide), Option.bind_some, if_neg (show ¬ Int32.ofNat 10 = 8 by decide), if_neg (show ¬ Int32.ofNat 10 = 6 by decide), if_neg (show ¬ Int32.ofNat 10 = 9 by decide), if_pos (show Int32.ofNat 10 = 10 from rfl), body]
  refine r_line0 h7 hc h (k := fun S' => (m_readsMould S').bind fun q => m_line_384 q) (n := 0) rfl (fun q => absurd rfl q) fun _ S1 y1 => ?_
  unfold m_readsMould
  rw [r_cellsNow y1.2.2.2.1 hw, Option.bind_some]
  obtain ⟨q, eq, a1, a2⟩ := y1.amo h7 hc (m := yW Y * yH Y) (by omega)
  rw [eq, Option.bind_some]
  cases e1 : pAmo t (tE t p) (yW Y * yH Y) with
  | inl z =>
    obtain ⟨k, b⟩ := z
    obtain ⟨b1, b2⟩ := a1 k b e1
    rw [if_pos b1, Option.bind_some, sbd_l]
    exact r_384 h7 hc (LR.er b2)
  | inr c =>
    obtain ⟨b1, b2, b3, b4⟩ := a2 c e1
    subst b1
    have hc30 : c < 30 := by omega
    have ek := (y1.2.2.2.1.2.2.2.2.2.2.2.2.2.2.2.2.2 c hc30).2.2.1
    rw [show 0 + 61 + c = 61 + c by omega] at ek
    rw [if_neg (show ¬ (1 : Int32) = 0 by decide), b3, show (61 : Int32) + Int32.ofNat c = Int32.ofNat (61 + c) from oadd 61 c, rdA_n (ocl (by omega)) (on0 (by omega)) (show 61 + c < 121 by omega), Option.bind_some, ek, sbd_r]
    by_cases cc : gK (yR Y) c = -1
    · rw [if_pos cc, if_neg (not_not_intro cc)]
      unfold m_readsMould_35
      rw [r_good y1.1.2.2.2, Option.bind_some, if_neg (show ¬ (1 : Int32) = 0 by decide)]
      obtain ⟨S3, e3, y3⟩ := y1.nx h7 hc b4
      have e27 : S3.1 27 = Int32.ofNat (yP Y).1 := y3.2.2.2.1.2.2.1
      rw [e3, Option.bind_some, e27]
      obtain ⟨q4, e4, c1, c2⟩ := y3.amo h7 hc (m := (yP Y).1) (by omega)
      rw [e4, Option.bind_some]
      cases e5 : pAmo t (tE t (tE t p)) (yP Y).1 with
      | inl z =>
        obtain ⟨k, b⟩ := z
        obtain ⟨b1, b2⟩ := c1 k b e5
        rw [if_pos b1, Option.bind_some, sbd_l]
        exact r_384 h7 hc (LR.er b2)
      | inr k =>
        obtain ⟨d1, d2, d3, d4⟩ := c2 k e5
        subst d1
        rw [if_neg (show ¬ (1 : Int32) = 0 by decide), d3, show (61 : Int32) + Int32.ofNat c = Int32.ofNat (61 + c) from oadd 61 c, wrA_n (ocl (by omega)) (on0 (by omega)) (show 61 + c < 121 by omega), Option.bind_some, sbd_r]
        have y5 := y3.rw8 (i := 61 + c) (v := Int32.ofNat k) (y3.2.2.2.1.2.2.2.2.2.2.2.2.2.2.2.2.uK hc30 _)
        obtain ⟨S6, e6, y6⟩ := y5.nx h7 hc d4
        rw [e6, Option.bind_some]
        obtain ⟨q7, e7, g1, g2⟩ := y6.num h7 hc (lo := 1) (hi := 99) (by decide) (by decide)
        have e7 : m_number 1 99 S6 = some q7 := e7
        rw [e7, Option.bind_some, show (91 : Int32) + Int32.ofNat c = Int32.ofNat (91 + c) from oadd 91 c, wrA_n (ocl (by omega)) (on0 (by omega)) (show 91 + c < 121 by omega), Option.bind_some, Option.bind_some]
        cases e8 : pNum t (tE t (tE t (tE t p))) 1 99 with
        | inl z =>
          obtain ⟨k, b⟩ := z
          rw [sbd_l]
          exact r_384 h7 hc (LR.er ((g1 k b e8).a (by decide)))
        | inr z =>
          obtain ⟨u, r2⟩ := z
          obtain ⟨d1, d2, d3, d4, d5⟩ := g2 u r2 e8
          rw [sbd_r, d1]
          dsimp only
          exact r_384 h7 hc (LR.ok (d2.rw8 (i := 91 + c) (v := Int32.ofNat u) (d2.2.2.2.1.2.2.2.2.2.2.2.2.2.2.2.2.uZ hc30 _)))
    · rw [if_neg cc, if_pos cc]
      obtain ⟨S2, e2, b2⟩ := y1.wr (k := 4) (by decide) (by decide)
      have e2 : m_wrong 4 S1 = some S2 := e2
      unfold m_readsMould_35
      rw [e2, Option.bind_some, r_bad b2.nb, Option.bind_some, if_pos rfl, Option.bind_some]
      exact r_384 h7 hc (LR.er b2)
theorem l_any (h7 : t.2 ≤ 700) (hc : ∀ k, t.1 k < 256) (h : YB S0 S t Y p) (hk : ¬ kw t p = 8 ∧ ¬ kw t p = 3 ∧ ¬ kw t p = 11 ∧ ¬ kw t p = 12 ∧ ¬ kw t p = 13 ∧ ¬ kw t p = 14 ∧ ¬ kw t p = 6 ∧ ¬ kw t p = 9 ∧ ¬ kw t p = 10) : Mn (m_line S) (LR S0 t (pLine t Y p)) := by
  obtain ⟨k1, k2, k3, k4, k5, k6, k7, k8, k9⟩ := hk
  have body : pBody t Y p = .inl (1, tB t p) := by
    unfold pBody
    rw [if_neg k1, if_neg k2, if_neg k3, if_neg k4, if_neg k5, if_neg k6, if_neg k7, if_neg k8, if_neg k9]
  have nk : ∀ j, j < 18 → ¬ kw t p = j → ¬ (if kw t p = 18 then (-1 : Int32) else Int32.ofNat (kw t p)) = Int32.ofNat j := fun j hj n q => n ((kwv hj).mp q)
  unfold m_line pLine
  rw [r_knownWord h.1.2.2.1 h7 h.1.1, Option.bind_some, body]
  obtain ⟨S1, e1, b1⟩ := h.wr (k := 1) (by decide) (by decide)
  have e1 : m_wrong 1 S = some S1 := e1
  generalize (if kw t p = 18 then (-1 : Int32) else Int32.ofNat (kw t p)) = w at nk ⊢
  rw [if_neg (show ¬ w = 8 from nk 8 (by decide) k1), if_neg (show ¬ w = 6 from nk 6 (by decide) k7), if_neg (show ¬ w = 9 from nk 9 (by decide) k8), if_neg (show ¬ w = 10 from nk 10 (by decide) k9), if_neg (show ¬ w = 3 from nk 3 (by decide) k2), if_neg (show ¬ w = 11 from nk 11 (by decide) k3), if_neg (show ¬ w = 12 from nk 12 (by decide) k4), if_neg (show ¬ w = 13 from nk 13 (by decide) k5), if_neg (show ¬ w = 14 from nk 14 (by decide) k6), e1, Option.bind_some]
  exact r_384 h7 hc (LR.er b1)
/-- a line, whatever stands there -/
theorem r_line (h7 : t.2 ≤ 700) (hc : ∀ k, t.1 k < 256) (h : YB S0 S t Y p) (hw : YW Y) : Mn (m_line S) (LR S0 t (pLine t Y p)) := by
  by_cases k1 : kw t p = 8
  · exact l_cel h7 hc h hw k1
  by_cases k2 : kw t p = 3
  · exact l_wms h7 hc h hw k2
  by_cases k3 : kw t p = 11
  · exact l_age h7 hc h hw k3
  by_cases k4 : kw t p = 12
  · exact l_spo h7 hc h hw k4
  by_cases k5 : kw t p = 13
  · exact l_gr h7 hc h hw k5
  by_cases k6 : kw t p = 14
  · exact l_be h7 hc h hw k6
  by_cases k7 : kw t p = 6
  · exact l_kin h7 hc h hw k7
  by_cases k8 : kw t p = 9
  · exact l_cll h7 hc h hw k8
  by_cases k9 : kw t p = 10
  · exact l_mou h7 hc h hw k9
  exact l_any h7 hc h ⟨k1, k2, k3, k4, k5, k6, k7, k8, k9⟩
end RL
