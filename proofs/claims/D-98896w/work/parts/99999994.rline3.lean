/-! plain law: the reference reads the other kinds of line -/
set_option maxRecDepth 100000
abbrev LQ (S0 : MS) (t : Tpe) (r : PL (Yx × Nat)) : MS → Prop := LR S0 t (sbd r fun z => if sgi t z.2 59 then .inr (z.1, tE t z.2) else .inl (1, tB t z.2))
section RL
variable {t : Tpe} (h7 : t.2 ≤ 700) (hc : ∀ k, t.1 k < 256) {S0 S : MS} {p : Nat} {Y : Yx}
theorem r_once (h7 : t.2 ≤ 700) (hc : ∀ k, t.1 k < 256) (h : YB S0 S t Y p) {i : Nat} {d : Int32} (hd : d = 0 ↔ dup Y i = false) {x : PL (Yx × Nat)} {k : MS → Option MS} (h1 : ∀ S', YB S0 S' t Y (tE t p) → Mn (k S') (LQ S0 t x)) : Mn ((m_begins 0 0 d S).bind fun q => if q.1 = 0 then m_line_384 q.2 else k q.2) (LQ S0 t (once t Y p i x)) := by
  refine r_line0 h7 hc h (n := if dup Y i = true then 5 else 0) ?_ (fun n0 => ?_) fun n0 S1 y1 => ?_
  · rw [if_pos rfl, if_pos rfl]
    by_cases q : dup Y i = true
    · rw [if_pos q, if_neg (fun z => by rw [hd.mp z] at q; cases q)]
    · rw [if_neg q, if_pos (hd.mpr (by cases hz : dup Y i with
        | true => exact absurd hz q
        | false => rfl))]
  · unfold once
    by_cases q : dup Y i = true
    · rw [if_pos q, if_pos q]
    · rw [if_neg q] at n0; exact absurd rfl n0
  · unfold once
    have nd : ¬ dup Y i = true := fun q => by rw [if_pos q] at n0; cases n0
    rw [if_neg nd]
    exact h1 S1 y1
/-- a number that becomes one of the roll's -/
theorem r_one (h7 : t.2 ≤ 700) (hc : ∀ k, t.1 k < 256) (y1 : YB S0 S t Y p) {lo hi : Nat} (hlo : lo < 20000) (hhi : hi < 20000) {i : Nat} (hi2 : 24 ≤ i ∧ i < 37) {u : Nat → Yx} (ok : ∀ v X, lo ≤ v → v ≤ hi → YF X Y → YF (sF X i (Int32.ofNat v)) (u v)) (hL : ∀ v, yL (u v) = yL Y) : Mn ((m_number (Int32.ofNat lo) (Int32.ofNat hi) S).bind fun q => m_line_384 (sF q.2 i q.1)) (LQ S0 t (sbd (pNum t p lo hi) fun v => .inr (u v.1, v.2))) := by
  refine Mn.bw (y1.num h7 hc hlo hhi) fun q1 ⟨a1, a2⟩ => ?_
  cases e1 : pNum t p lo hi with
  | inl z =>
    obtain ⟨k, b⟩ := z
    rw [sbd_l]
    exact r_384 h7 hc (LR.er ((a1 k b e1).f hi2))
  | inr z =>
    obtain ⟨v, r⟩ := z
    obtain ⟨b1, b2, b3, b4, b5⟩ := a2 v r e1
    rw [sbd_r, b1]
    refine r_384 h7 hc (LR.ok ⟨b2.1.f hi2, (sF_ne (by omega)).trans b2.2.1, b2.2.2.1.f hi2, ok v _ b3 b4 b2.2.2.2.1, ?_⟩)
    rw [hL]
    exact b2.2.2.2.2
theorem l_age (h7 : t.2 ≤ 700) (hc : ∀ k, t.1 k < 256) (h : YB S0 S t Y p) (hw : YW Y) (hk : kw t p = 11) : Mn (m_line S) (LR S0 t (pLine t Y p)) := by
  have wl := hw.2.2.2.1
  have body : pBody t Y p = once t Y p 2 (sbd (pNum t (tE t p) 1 99) fun v => .inr (sAge Y v.1, v.2)) := by
    unfold pBody
    rw [if_neg (by omega), if_neg (by omega), if_pos hk]
  unfold m_line pLine
  rw [e_kw h h7 hk (by decide), Option.bind_some, if_neg (show ¬ Int32.ofNat 11 = 8 by decide), if_neg (show ¬ Int32.ofNat 11 = 6 by decide), if_neg (show ¬ Int32.ofNat 11 = 9 by decide), if_neg (show ¬ Int32.ofNat 11 = 10 by decide), if_neg (show ¬ Int32.ofNat 11 = 3 by decide), if_pos (show Int32.ofNat 11 = 11 from rfl), body]
  have go : ∀ d : Int32, (d = 0 ↔ dup Y 2 = false) → Mn (m_line_226 d 0 0 S) (LQ S0 t (once t Y p 2 (sbd (pNum t (tE t p) 1 99) fun v => .inr (sAge Y v.1, v.2)))) := fun d hd => by
    unfold m_line_226
    refine r_once h7 hc h (k := fun S' => (m_number 1 99 S').bind fun q => m_line_384 (sF q.2 29 q.1)) hd fun S1 y1 => ?_
    refine r_one h7 hc y1 (lo := 1) (hi := 99) (by decide) (by decide) (by decide) (u := fun v => sAge Y v) (fun v X _ _ hy => ?_) (fun v => rfl)
    obtain ⟨f1, f2, f3, f4, f5, f6, f7, f8, f9, f10, f11, f12, f13⟩ := hy
    have dy : dup (sAge Y v) 2 = true := dup_y (i := 2) rfl
    have dn : ∀ j, 2 ≠ j → dup (sAge Y v) j = dup Y j := fun j q => dup_n (i := 2) rfl q
    have sf : ∀ i, i ≠ 29 → (sF X 29 (Int32.ofNat v)).1 i = X.1 i := fun i q1 => sF_ne q1
    exact ⟨by rw [sf 25 (by decide), dn 0 (by decide)]; exact f1, by rw [sf 26 (by decide), dn 0 (by decide)]; exact f2, (sf 27 (by decide)).trans f3, f4, (sf 28 (by decide)).trans f5, f6, by rw [sF_at, opt_t dy], by rw [sf 30 (by decide), dn 3 (by decide)]; exact f8, by rw [sf 31 (by decide), dn 4 (by decide)]; exact f9, by rw [sf 32 (by decide), dn 5 (by decide)]; exact f10, ⟨(sf 33 (by decide)).trans f11.1, f11.2⟩, f12, f13⟩
  have e : S.1 29 = opt (dup Y 2) (yA Y) := h.2.2.2.1.2.2.2.2.2.2.1
  by_cases q : S.1 29 = -1
  · rw [if_pos q]
    rw [e] at q
    exact go 0 ⟨fun _ => (opt_n (by omega)).mp q, fun _ => rfl⟩
  · rw [if_neg q]
    exact go 1 ⟨fun z => absurd z (by decide), fun z => absurd (e.trans ((opt_n (by omega)).mpr z)) q⟩
theorem l_spo (h7 : t.2 ≤ 700) (hc : ∀ k, t.1 k < 256) (h : YB S0 S t Y p) (hw : YW Y) (hk : kw t p = 12) : Mn (m_line S) (LR S0 t (pLine t Y p)) := by
  have wl := hw.2.2.2.1
  have body : pBody t Y p = once t Y p 3 (sbd (pNum t (tE t p) 1 99) fun v => .inr (sSpo Y v.1, v.2)) := by
    unfold pBody
    rw [if_neg (by omega), if_neg (by omega), if_neg (by omega), if_pos hk]
  unfold m_line pLine
  rw [e_kw h h7 hk (by decide), Option.bind_some, if_neg (show ¬ Int32.ofNat 12 = 8 by decide), if_neg (show ¬ Int32.ofNat 12 = 6 by decide), if_neg (show ¬ Int32.ofNat 12 = 9 by decide), if_neg (show ¬ Int32.ofNat 12 = 10 by decide), if_neg (show ¬ Int32.ofNat 12 = 3 by decide), if_neg (show ¬ Int32.ofNat 12 = 11 by decide), if_pos (show Int32.ofNat 12 = 12 from rfl), body]
  have go : ∀ d : Int32, (d = 0 ↔ dup Y 3 = false) → Mn (m_line_268 d 0 0 S) (LQ S0 t (once t Y p 3 (sbd (pNum t (tE t p) 1 99) fun v => .inr (sSpo Y v.1, v.2)))) := fun d hd => by
    unfold m_line_268
    refine r_once h7 hc h (k := fun S' => (m_number 1 99 S').bind fun q => m_line_384 (sF q.2 30 q.1)) hd fun S1 y1 => ?_
    refine r_one h7 hc y1 (lo := 1) (hi := 99) (by decide) (by decide) (by decide) (u := fun v => sSpo Y v) (fun v X _ _ hy => ?_) (fun v => rfl)
    obtain ⟨f1, f2, f3, f4, f5, f6, f7, f8, f9, f10, f11, f12, f13⟩ := hy
    have dy : dup (sSpo Y v) 3 = true := dup_y (i := 3) rfl
    have dn : ∀ j, 3 ≠ j → dup (sSpo Y v) j = dup Y j := fun j q => dup_n (i := 3) rfl q
    have sf : ∀ i, i ≠ 30 → (sF X 30 (Int32.ofNat v)).1 i = X.1 i := fun i q1 => sF_ne q1
    exact ⟨by rw [sf 25 (by decide), dn 0 (by decide)]; exact f1, by rw [sf 26 (by decide), dn 0 (by decide)]; exact f2, (sf 27 (by decide)).trans f3, f4, (sf 28 (by decide)).trans f5, f6, by rw [sf 29 (by decide), dn 2 (by decide)]; exact f7, by rw [sF_at, opt_t dy], by rw [sf 31 (by decide), dn 4 (by decide)]; exact f9, by rw [sf 32 (by decide), dn 5 (by decide)]; exact f10, ⟨(sf 33 (by decide)).trans f11.1, f11.2⟩, f12, f13⟩
  have e : S.1 30 = opt (dup Y 3) (yS Y) := h.2.2.2.1.2.2.2.2.2.2.2.1
  by_cases q : S.1 30 = -1
  · rw [if_pos q]
    rw [e] at q
    exact go 0 ⟨fun _ => (opt_n (by omega)).mp q, fun _ => rfl⟩
  · rw [if_neg q]
    exact go 1 ⟨fun z => absurd z (by decide), fun z => absurd (e.trans ((opt_n (by omega)).mpr z)) q⟩
end RL
