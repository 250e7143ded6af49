/-! plain law: the system reads a line, and all lines -/
set_option maxRecDepth 100000
section YL
variable {G : xG} {t : Tpe} {fx : Fx} {tp rd l0 l1 : Nat} {Tb : xF} (hb : Cx G Tb t fx tp) (hst : StA G Tb) {own : Nat → Nat} (hB : Fz own Tb (Bx G)) (hown : ∀ x, own x = 11 → x < Tb.2.1) {T T' : xF} {ow ow' : Nat → Nat} {Y Y' : Yx} {p q : Nat}
theorem e_line (hb : Cx G Tb t fx tp) (hst : StA G Tb) (hB : Fz own Tb (Bx G)) (hown : ∀ x, own x = 11 → x < Tb.2.1) (h : YA own G t fx tp rd Tb l0 l1 ow T Y p) (hp : p ≤ t.2) (hw : YW Y) (hv : YV Y) : Rn T (c_X5_line G (some rd) T) (LSt own G t fx tp rd Tb l0 l1 T p (pLine t Y p)) := by
  have h7 := hb.2.2.2.2.1
  have w30 := wh30 hw
  have hi := h.isr hb hst hp
  have hN := h.2.2.2.1
  obtain ⟨nm, iz, ce, y, hce, hnm⟩ := h.ys hb hst hp
  have ew : ∀ {i : Nat}, fw orMs 0 (kw t p) = i → c_X5_which G T (some rd) (some fx.2.2.1) = some (if i = 6 then -1 else Int32.ofNat i) := fun {i} hi => by
    rw [e_which y.cx y.rs y.pl hN.1.1 (ms := orMs) (by decide) (by decide) (by decide +kernel), hi]
    rfl
  have is_ : ∀ {i j : Nat}, i < 19 → j < 18 → swl.getD i [] = kws.getD j [] → c_X5_is G T (some rd) (some (gT G i)) = some (if kw t p = j then 1 else 0) := fun a b c => e_isk y.cx y.rs y.pl a b c
  unfold c_X5_line pLine
  rw [(h.qs hb hst).2.2.1, Option.bind_some, if_neg (not_not_intro hi)]
  by_cases k1 : kw t p = 8
  · have body : pBody t Y p = if begun Y = true then .inl (4, tB t p) else once t Y p 0 (sbd (pNum t (tE t p) 1 6) fun w => sbd (pNum t w.2 1 5) fun h => .inr (sCel Y w.1 h.1, h.2)) := by
      unfold pBody
      rw [if_pos k1]
    rw [ew (i := 0) (by rw [k1]; try rfl), Option.bind_some, if_neg (by decide), if_neg (not_not_intro hi), body]
    refine e_then hb hst hp ?_
    unfold c_X5_only c_X5_only_12
    rw [if_pos (by decide), if_neg (not_not_intro hi), e_isBegun hb hst h, Option.bind_some]
    by_cases bg : begun Y = true
    · rw [if_pos bg, if_pos bg, if_neg (show ¬ (1 : Int32) = 0 by decide)]
      unfold c_X5_only_17
      rw [if_neg (not_not_intro hi)]
      refine Rn.clX (h.wF hb hst hp (k := 4) (by decide) (by decide)) (fun v T53 _ ⟨ex, q, _⟩ => by cases q) (fun ex T53 _ ⟨ex', z, z1, z2, z3, z4⟩ => ?_)
      have z := Sum.inr.inj z
      subst z
      exact LSt.er rfl z1 z2 ⟨by omega, by omega⟩
    · rw [if_neg bg, if_neg bg, if_pos rfl]
      exact e_only17 hb hst h hp hv.1 (i := 0) (by decide) (kw_0 (by decide) k1) fun _ T55 y55 e55 => o_cel hb hst y55 (tE_le hp)
  by_cases k2 : kw t p = 3
  · have body : pBody t Y p = once t Y p 1 (if tS t (tE t p) = 2 then sbd (pWm t 701 (yT Y) (tE t p)) fun l => .inr (sWm Y l.1, l.2) else .inl (1, tB t (tE t p))) := by
      unfold pBody
      rw [if_neg (by omega), if_pos k2]
    rw [ew (i := 1) (by rw [k2]; try rfl), Option.bind_some, if_neg (by decide), if_neg (not_not_intro hi), body]
    refine e_then hb hst hp ?_
    unfold c_X5_only c_X5_only_12
    rw [if_neg (by decide)]
    exact e_only17 hb hst h hp hv.1 (i := 1) (by decide) (kw_0 (by decide) k2) fun _ T55 y55 e55 => o_wms hb hst hB hown y55 (tE_le hp) h7 hw.2.1.1
  by_cases k3 : kw t p = 11
  · have body : pBody t Y p = once t Y p 2 (sbd (pNum t (tE t p) 1 99) fun v => .inr (sAge Y v.1, v.2)) := by
      unfold pBody
      rw [if_neg (by omega), if_neg (by omega), if_pos k3]
    rw [ew (i := 2) (by rw [k3]; try rfl), Option.bind_some, if_neg (by decide), if_neg (not_not_intro hi), body]
    refine e_then hb hst hp ?_
    unfold c_X5_only c_X5_only_12
    rw [if_neg (by decide)]
    exact e_only17 hb hst h hp hv.1 (i := 2) (by decide) (kw_0 (by decide) k3) fun _ T55 y55 e55 => o_age hb hst y55 (tE_le hp)
  by_cases k4 : kw t p = 12
  · have body : pBody t Y p = once t Y p 3 (sbd (pNum t (tE t p) 1 99) fun v => .inr (sSpo Y v.1, v.2)) := by
      unfold pBody
      rw [if_neg (by omega), if_neg (by omega), if_neg (by omega), if_pos k4]
    rw [ew (i := 3) (by rw [k4]; try rfl), Option.bind_some, if_neg (by decide), if_neg (not_not_intro hi), body]
    refine e_then hb hst hp ?_
    unfold c_X5_only c_X5_only_12
    rw [if_neg (by decide)]
    exact e_only17 hb hst h hp hv.1 (i := 3) (by decide) (kw_0 (by decide) k4) fun _ T55 y55 e55 => o_spo hb hst y55 (tE_le hp)
  by_cases k5 : kw t p = 13
  · have body : pBody t Y p = once t Y p 4 (sbd (pE t grMs 6 (tE t p)) fun e => .inr (sGr Y e.1, e.2)) := by
      unfold pBody
      rw [if_neg (by omega), if_neg (by omega), if_neg (by omega), if_neg (by omega), if_pos k5]
    rw [ew (i := 4) (by rw [k5]; try rfl), Option.bind_some, if_neg (by decide), if_neg (not_not_intro hi), body]
    refine e_then hb hst hp ?_
    unfold c_X5_only c_X5_only_12
    rw [if_neg (by decide)]
    exact e_only17 hb hst h hp hv.1 (i := 4) (by decide) (kw_0 (by decide) k5) fun _ T55 y55 e55 => o_gr hb hst y55 (tE_le hp)
  by_cases k6 : kw t p = 14
  · have body : pBody t Y p = once t Y p 5 (sbd (pE t beMs 6 (tE t p)) fun e => .inr (sBe Y e.1, e.2)) := by
      unfold pBody
      rw [if_neg (by omega), if_neg (by omega), if_neg (by omega), if_neg (by omega), if_neg (by omega), if_pos k6]
    rw [ew (i := 5) (by rw [k6]; try rfl), Option.bind_some, if_neg (by decide), if_neg (not_not_intro hi), body]
    refine e_then hb hst hp ?_
    unfold c_X5_only c_X5_only_12
    rw [if_neg (by decide)]
    exact e_only17 hb hst h hp hv.1 (i := 5) (by decide) (kw_0 (by decide) k6) fun _ T55 y55 e55 => o_be hb hst y55 (tE_le hp)
  have k6' : fw orMs 0 (kw t p) = 6 := by
    rw [fw_no orMs 0 (kw t p) (by
      intro m hm q
      have : ∀ m ∈ orMs, m = 8 ∨ m = 3 ∨ m = 11 ∨ m = 12 ∨ m = 13 ∨ m = 14 := by decide
      have := this m hm
      omega)]
    rfl
  rw [ew k6', Option.bind_some, if_pos rfl, if_pos rfl, if_neg (not_not_intro hi), is_ (i := 11) (j := 6) (by decide) (by decide) rfl, Option.bind_some]
  by_cases k7 : kw t p = 6
  · have body : pBody t Y p = if 4 ≤ (yP Y).1 then .inl (2, tB t p) else sbd (pNum t (tE t p) 0 3) fun v => .inr (sKin Y v.1, v.2) := by
      unfold pBody
      rw [if_neg k1, if_neg k2, if_neg k3, if_neg k4, if_neg k5, if_neg k6, if_pos k7]
    obtain ⟨fg, fb, r1, r2, r3⟩ := h.ro
    have hL := h.2.2.2.2.2.2.2.1
    have hsz : isO T (some l0) 10 = true ∧ c_J2_size T (some l0) = some (Int32.ofNat (yP Y).1) := by
      obtain ⟨a, f, w, cap, g1, -⟩ := hL
      exact ⟨g1.is, g1.size⟩
    have p4 := hw.2.2.1
    rw [if_pos k7, if_neg (show ¬ (1 : Int32) = 0 by decide), (h.qs hb hst).1, Option.bind_some, r1.q0, Option.bind_some, if_neg (not_not_intro hsz.1), hsz.2, Option.bind_some, body]
    unfold c_X5_line_53
    by_cases c4 : 4 ≤ (yP Y).1
    · rw [if_pos c4, if_pos (show (4 : Int32) ≤ Int32.ofNat (yP Y).1 from (ole (n := 4) (by omega) (by omega)).mpr c4), if_neg (not_not_intro hi)]
      refine Rn.clX (h.wF hb hst hp (k := 2) (by decide) (by decide)) (fun v T53 _ ⟨ex, q, _⟩ => by cases q) (fun ex T53 _ ⟨ex', z, z1, z2, z3, z4⟩ => ?_)
      have z := Sum.inr.inj z
      subst z
      exact LSt.er rfl z1 z2 ⟨by omega, by omega⟩
    · rw [if_neg c4, if_neg (show ¬ (4 : Int32) ≤ Int32.ofNat (yP Y).1 from fun q => c4 ((ole (n := 4) (by omega) (by omega)).mp q)), if_neg (not_not_intro hi)]
      refine Rn.clX rn_wantT (fun v T50 _ q => ?_) (fun ex T53 _ q => by cases q.1)
      obtain ⟨-, rfl⟩ := q
      rw [if_neg (not_not_intro hi)]
      have f0 := tE_fw hp (kw_0 (by decide) k7)
      refine Rn.cl (h.nxt hb hst hp) fun _ T1 _ ⟨y1, e1, hp1⟩ => ?_
      have l1n : T1.2.1 = T50.2.1 := by rw [e1]
      have m1n : T1.2.2 = T50.2.2 := by rw [e1]
      obtain ⟨fg, fb, r1, r2, r3⟩ := y1.ro
      rw [(y1.qs hb hst).1, Option.bind_some, r1.q0, Option.bind_some, if_neg (not_not_intro (y1.isr hb hst hp1))]
      refine Rn.clX (y1.num hb hst hp1 (lo := 0) (hi := 3) (by decide) (by decide)) (fun v T2 _ z => ?_) (fun ex T2 _ z => ?_)
      · obtain ⟨v', r, z1, z2, z3, z4, z5, z6, z7, z8⟩ := z
        subst z2
        rw [z1, sbd_r, sbd_r]
        refine e_boxadd hb hst hB hown z3 (x := v') (by omega) (Y' := sKin Y v') (Or.inl ⟨rfl, rfl, rfl, rfl, by omega, rfl⟩) ⟨rfl, rfl, rfl, rfl, rfl, rfl, rfl, rfl, rfl⟩ fun T3 ow3 y3 l3 m3 => ?_
        rw [z6] at l3 m3
        exact (e_119 hb hst y3 z4).mono fun v T' _ z => z.pre rfl (by omega) z4 ⟨by omega, by omega⟩
      · obtain ⟨k', b, z1, z2, z3, z4, z5⟩ := z
        rw [z1, sbd_l, sbd_l]
        exact LSt.er rfl z2 z3 ⟨by omega, by omega⟩
  rw [if_neg k7, if_pos rfl, if_neg (not_not_intro hi), is_ (i := 17) (j := 9) (by decide) (by decide) rfl, Option.bind_some]
  by_cases k8 : kw t p = 9
  · have body : pBody t Y p = sbd (pAmo t (tE t p) (yW Y * yH Y)) fun c => if yC Y c = true then .inl (4, tB t (tE t p)) else sbd (pNum t (tE t (tE t p)) 0 9) fun d => sbd (pNum t d.2 0 99) fun f => .inr (sCll Y c d.1 f.1, f.2) := by
      unfold pBody
      rw [if_neg k1, if_neg k2, if_neg k3, if_neg k4, if_neg k5, if_neg k6, if_neg k7, if_pos k8]
    rw [if_pos k8, if_neg (show ¬ (1 : Int32) = 0 by decide), if_neg (not_not_intro hi), body]
    exact e_then hb hst hp (e_cell hb hst h hp (kw_0 (by decide) k8) w30)
  rw [if_neg k8, if_pos rfl, if_neg (not_not_intro hi), is_ (i := 18) (j := 10) (by decide) (by decide) rfl, Option.bind_some, if_neg (not_not_intro hi)]
  by_cases k9 : kw t p = 10
  · have body : pBody t Y p = sbd (pAmo t (tE t p) (yW Y * yH Y)) fun c => if gK (yR Y) c ≠ -1 then .inl (4, tB t (tE t p)) else sbd (pAmo t (tE t (tE t p)) (yP Y).1) fun k => sbd (pNum t (tE t (tE t (tE t p))) 1 99) fun z => .inr (sMou Y c k z.1, z.2) := by
      unfold pBody
      rw [if_neg k1, if_neg k2, if_neg k3, if_neg k4, if_neg k5, if_neg k6, if_neg k7, if_neg k8, if_pos k9]
    rw [if_pos k9, body]
    refine Rn.clX rn_wantT (fun v T50 _ q => ?_) (fun ex T53 _ q => by cases q.1)
    obtain ⟨-, rfl⟩ := q
    rw [if_neg (not_not_intro hi)]
    exact e_then hb hst hp (e_mould hb hst h hp (kw_0 (by decide) k9) w30 hw.2.2.1)
  have body : pBody t Y p = .inl (1, tB t p) := by
    unfold pBody
    rw [if_neg k1, if_neg k2, if_neg k3, if_neg k4, if_neg k5, if_neg k6, if_neg k7, if_neg k8, if_neg k9]
  rw [if_neg k9, body, sbd_l]
  refine Rn.clX (h.wF hb hst hp (k := 1) (by decide) (by decide)) (fun v T53 _ ⟨ex, q, _⟩ => by cases q) (fun ex T53 _ ⟨ex', z, z1, z2, z3, z4⟩ => ?_)
  have z := Sum.inr.inj z
  subst z
  exact LSt.er rfl z1 z2 ⟨by omega, by omega⟩
/-- all lines -/
def RS (own : Nat → Nat) (G : xG) (t : Tpe) (fx : Fx) (tp rd : Nat) (Tb : xF) (l0 l1 : Nat) (T : xF) (p : Nat) (r : PL Yx) (v : Option Nat ⊕ xE) (T' : xF) : Prop := match v with
  | .inl v => ∃ Y q ow, r = .inr Y ∧ v = some fx.1 ∧ YA own G t fx tp rd Tb l0 l1 ow T' Y q ∧ YW Y ∧ YV Y ∧ CK T T' (t.2 + 2 - p)
  | .inr ex => ∃ k b, r = .inl (k, b) ∧ Th T' ex rd k b ∧ frc (fun _ => False) Tb T' ∧ CK T T' (t.2 + 2 - p)
theorem e_read4 (hb : Cx G Tb t fx tp) (hst : StA G Tb) (hB : Fz own Tb (Bx G)) (hown : ∀ x, own x = 11 → x < Tb.2.1) : ∀ d m (Y : Yx) p T ow, t.2 < p + d → d < m → YA own G t fx tp rd Tb l0 l1 ow T Y p → p ≤ t.2 → YW Y → YV Y → (yL Y).length ≤ 2 * p → Rn T (c_X5_read_4 G m (some rd) T) (RS own G t fx tp rd Tb l0 l1 T p (pRead t d Y p)) := by
  have h7 := hb.2.2.2.2.1
  intro d
  induction d with
  | zero => intro m Y p T ow h1 _ _ h2; omega
  | succ d ih =>
    intro m Y p T ow hn hm h hp hw hv hL
    obtain ⟨m, rfl⟩ : ∃ k, m = k + 1 := ⟨m - 1, by omega⟩
    obtain ⟨nm, iz, ce, y, hce, hnm⟩ := h.ys hb hst hp
    show Rn T (c_X5_read_4_b G (c_X5_read_4 G m) (some rd) T) _
    unfold c_X5_read_4_b pRead
    rw [y.i8, Option.bind_some]
    by_cases s0 : tS t p = 0
    · rw [if_pos (show Int32.ofNat (tS t p) = 0 by rw [s0]; rfl), if_pos s0, (h.qs hb hst).1, Option.bind_some]
      exact Rn.ret ⟨Y, p, ow, rfl, rfl, h, hw, hv, by omega, by omega⟩
    · rw [if_neg (show ¬ Int32.ofNat (tS t p) = 0 from fun q => s0 ((tS_ne (k := 0) (by decide)).mp q)), if_neg s0, if_neg (not_not_intro y.is)]
      refine Rn.clX (e_line hb hst hB hown h hp hw hv) (fun v T2 _ z => ?_) (fun ex T2 _ z => ?_)
      · obtain ⟨Y2, q, ow2, z1, z2, z3, z4, z5, z6⟩ := z
        obtain ⟨a1, a2, a3, a4, a5⟩ := p_ok h7 hp hw hv hL z1
        rw [z1, sbd_r]
        refine (ih m Y2 q T2 ow2 (by omega) (by omega) z2 z4 a1 a2 a5).mono fun v' T' _ z => ?_
        cases v' with
        | inl v' =>
          obtain ⟨Y3, q3, ow3, g1, g2, g3, g4, g5, g6, g7⟩ := z
          exact ⟨Y3, q3, ow3, g1, g2, g3, g4, g5, by omega, by omega⟩
        | inr ex =>
          obtain ⟨k, b, g1, g2, g3, g6, g7⟩ := z
          exact ⟨k, b, g1, g2, g3, by omega, by omega⟩
      · obtain ⟨k, b, z1, z2, z3, z4⟩ := z
        rw [z1, sbd_l]
        exact ⟨k, b, rfl, z2, z3, z4⟩
end YL
/-! the reference -/
section RL
variable {t : Tpe} (h7 : t.2 ≤ 700) (hc : ∀ k, t.1 k < 256) {S0 : MS}
theorem r_read (h7 : t.2 ≤ 700) (hc : ∀ k, t.1 k < 256) : ∀ d m (Y : Yx) p S, t.2 < p + d → d < m → YB S0 S t Y p → YW Y → YV Y → ∃ S', m_roll_143 m S = m_roll_164 S' ∧ (∀ k b, pRead t d Y p = .inl (k, b) → BL S0 k b S') ∧ ∀ Y', pRead t d Y p = .inr Y' → ∃ q, YB S0 S' t Y' q := by
  intro d
  induction d with
  | zero => intro m Y p S h1 _ h; have := h.1.2.2.1; omega
  | succ d ih =>
    intro m Y p S hn hm h hw hv
    have hp := h.1.2.2.1
    obtain ⟨m, rfl⟩ : ∃ k, m = k + 1 := ⟨m - 1, by omega⟩
    show ∃ S', m_roll_143_b (m_roll_143 m) S = m_roll_164 S' ∧ _
    unfold m_roll_143_b pRead
    rw [r_good h.1.2.2.2, Option.bind_some, if_neg (show ¬ (1 : Int32) = 0 by decide), h.1.1.2.1]
    by_cases s0 : tS t p = 0
    · rw [if_pos (show Int32.ofNat (tS t p) = 0 by rw [s0]; rfl), if_pos s0]
      refine ⟨S, rfl, fun k b q => (by cases q), fun Y' q => ?_⟩
      have q := Sum.inr.inj q
      subst q
      exact ⟨p, h⟩
    · rw [if_neg (show ¬ Int32.ofNat (tS t p) = 0 from fun q => s0 ((tS_ne (k := 0) (by decide)).mp q)), if_neg s0]
      obtain ⟨S1, e1, a1, a2⟩ := r_line h7 hc h hw
      rw [e1, Option.bind_some]
      cases e2 : pLine t Y p with
      | inl z =>
        obtain ⟨k, b⟩ := z
        have b1 := a1 k b e2
        obtain ⟨m, rfl⟩ : ∃ k, m = k + 1 := ⟨m - 1, by omega⟩
        rw [sbd_l]
        refine ⟨S1, ?_, fun k2 b2 q => ?_, fun Y' q => (by cases q)⟩
        · show m_roll_143_b (m_roll_143 m) S1 = _
          unfold m_roll_143_b
          rw [r_bad b1.nb, Option.bind_some, if_pos rfl]
        · have q := Sum.inl.inj q
          have q1 : k = k2 := congrArg Prod.fst q
          have q2 : b = b2 := congrArg Prod.snd q
          subst q1 q2
          exact b1
      | inr z =>
        obtain ⟨Y2, q⟩ := z
        obtain ⟨g1, g2, g3, g4, g5⟩ := p_ok h7 hp hw hv h.2.2.2.2 e2
        rw [sbd_r]
        exact ih m Y2 q S1 (by omega) (by omega) (a2 Y2 q e2) g1 g2
end RL
