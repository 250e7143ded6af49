/-! plain law: the reference reads each kind of line -/
set_option maxRecDepth 100000
theorem dup_n {Y Y' : Yx} {i j : Nat} (h : yD Y' = yD Y ||| 2 ^ i) (n : i ≠ j) : dup Y' j = dup Y j := by
  unfold dup
  rw [h, dup_or, decide_eq_false n, Bool.or_false]
theorem dup_y {Y Y' : Yx} {i : Nat} (h : yD Y' = yD Y ||| 2 ^ i) : dup Y' i = true := by
  unfold dup
  rw [h, dup_or, decide_eq_true rfl, Bool.or_true]
theorem dup_e {Y Y' : Yx} {j : Nat} (h : yD Y' = yD Y) : dup Y' j = dup Y j := by
  unfold dup; rw [h]
theorem opt_t {b : Bool} {v : Nat} (h : b = true) : opt b v = Int32.ofNat v := by unfold opt; rw [if_pos h]
theorem opt_n {b : Bool} {v : Nat} (hv : v < 2000000) : opt b v = -1 ↔ b = false := by
  unfold opt
  cases b with
  | false => rw [if_neg (by decide)]; exact ⟨fun _ => rfl, fun _ => rfl⟩
  | true => rw [if_pos rfl]; exact ⟨fun q => absurd q (ipos_ne hv), fun q => by cases q⟩
section RL
variable {t : Tpe} (h7 : t.2 ≤ 700) (hc : ∀ k, t.1 k < 256) {S0 S : MS} {p : Nat} {Y : Yx}
theorem e_kw (h : YB S0 S t Y p) (h7 : t.2 ≤ 700) {j : Nat} (hk : kw t p = j) (hj : j < 18) : m_knownWord S = some (Int32.ofNat j) := by
  rw [r_knownWord h.1.2.2.1 h7 h.1.1, if_neg (by omega), hk]
/-- anything begun -/
theorem r_hasAny (h : YF S Y) : m_hasAny S = some (if begun Y = true then 1 else 0) := by
  have hk : AtJ (S.2.2 8) 0 (yR Y) := h.2.2.2.2.2.2.2.2.2.2.2.2
  have h12 := h.2.2.2.2.2.2.2.2.2.2.2.1
  unfold m_hasAny
  refine loop_rule (σ := Unit) (N := 30) (fun i _ => ∀ c, c < i → yC Y c = false ∧ gK (yR Y) c = -1) (fun m i _ => m_hasAny_2 m (Int32.ofNat i) S = some (if begun Y = true then 1 else 0)) ?_ ?_ FU (by decide) () (fun c hc => absurd hc (Nat.not_lt_zero c))
  · intro m i _ hi hj K
    show m_hasAny_2_b (m_hasAny_2 m) (Int32.ofNat i) S = _
    unfold m_hasAny_2_b
    rw [if_neg (show ¬ (30 : Int32) ≤ Int32.ofNat i from fun q => by have := (ole (n := 30) (m := i) (by omega) (by omega)).mp q; omega), rdA_n (ocl (by omega)) (on0 (by omega)) (show i < 30 from hi), Option.bind_some, h12 i hi]
    have yes : (yC Y i || decide (gK (yR Y) i ≠ -1)) = true → begun Y = true := fun q => by
      unfold begun
      rw [List.any_eq_true]
      exact ⟨i, List.mem_range.mpr hi, q⟩
    by_cases c : yC Y i = true
    · rw [if_pos c, if_neg (show ¬ (1 : Int32) = 0 by decide), if_pos (yes (by rw [c]; rfl))]
    · rw [if_neg c, if_pos rfl, show (61 : Int32) + Int32.ofNat i = Int32.ofNat (61 + i) from oadd 61 i, rdA_n (ocl (by omega)) (on0 (by omega)) (show 61 + i < 121 by omega), Option.bind_some]
      have e := (hk.2 i hi).2.2.1
      rw [show 0 + 61 + i = 61 + i by omega] at e
      rw [e]
      by_cases k : gK (yR Y) i = -1
      · rw [if_pos k, ofn1 i (by omega)]
        refine K () fun c' hc' => ?_
        by_cases z : c' = i
        · rw [z]
          exact ⟨by cases hq : yC Y i with
            | true => exact absurd hq c
            | false => rfl, k⟩
        · exact hj c' (by omega)
      · rw [if_neg k, if_pos (yes (by rw [decide_eq_true k, Bool.or_true]))]
  · intro m _ hj
    show m_hasAny_2_b (m_hasAny_2 m) (Int32.ofNat 30) S = _
    unfold m_hasAny_2_b
    rw [if_pos (by decide), if_neg]
    intro q
    unfold begun at q
    rw [List.any_eq_true] at q
    obtain ⟨c, c1, c2⟩ := q
    obtain ⟨z1, z2⟩ := hj c (List.mem_range.mp c1)
    rw [z1, z2] at c2
    exact absurd c2 (by decide)
/-- the frame of all lines that begin with begins -/
theorem r_line0 (h7 : t.2 ≤ 700) (hc : ∀ k, t.1 k < 256) (h : YB S0 S t Y p) {x1 x2 x3 : Int32} {n : Nat} (hn : n = if x1 = 0 then (if x2 = 0 then (if x3 = 0 then 0 else 5) else 4) else 2) {r : PL (Yx × Nat)} {k : MS → Option MS} (h0 : n ≠ 0 → r = .inl (n, tB t p)) (h1 : n = 0 → ∀ S', YB S0 S' t Y (tE t p) → Mn (k S') (LR S0 t (sbd r fun z => if sgi t z.2 59 then .inr (z.1, tE t z.2) else .inl (1, tB t z.2)))) : Mn ((m_begins x1 x2 x3 S).bind fun q => if q.1 = 0 then m_line_384 q.2 else k q.2) (LR S0 t (sbd r fun z => if sgi t z.2 59 then .inr (z.1, tE t z.2) else .inl (1, tB t z.2))) := by
  refine Mn.bw (r_begins h7 hc h hn) fun q z => ?_
  rcases z with ⟨z1, z2, z3⟩ | ⟨z1, z2, z3⟩
  · rw [if_neg (by rw [z2]; decide)]
    exact h1 z1 q.2 z3
  · rw [if_pos z2]
    exact r_384 h7 hc (by rw [h0 z1]; exact LR.er z3)
theorem l_cel (h7 : t.2 ≤ 700) (hc : ∀ k, t.1 k < 256) (h : YB S0 S t Y p) (hw : YW Y) (hk : kw t p = 8) : Mn (m_line S) (LR S0 t (pLine t Y p)) := by
  have e25 : S.1 25 = opt (dup Y 0) (yW Y) := h.2.2.2.1.1
  have wl := hw.1
  have body : pBody t Y p = if begun Y = true then .inl (4, tB t p) else once t Y p 0 (sbd (pNum t (tE t p) 1 6) fun w => sbd (pNum t w.2 1 5) fun h => .inr (sCel Y w.1 h.1, h.2)) := by
    unfold pBody
    rw [if_pos hk]
  unfold m_line pLine
  rw [e_kw h h7 hk (by decide), Option.bind_some, if_pos (show Int32.ofNat 8 = 8 from rfl), r_hasAny h.2.2.2.1, Option.bind_some]
  have go : ∀ d : Int32, (d = 0 ↔ dup Y 0 = false) → Mn (m_line_30 d (if begun Y = true then 1 else 0) 0 S) (LR S0 t (sbd (pBody t Y p) fun z => if sgi t z.2 59 then .inr (z.1, tE t z.2) else .inl (1, tB t z.2))) := by
    intro d hd
    unfold m_line_30
    refine r_line0 h7 hc h (k := fun S' => (m_number 1 6 S').bind fun q40 => (m_number 1 5 q40.2).bind fun q48 => m_line_384 (sF (sF q48.2 26 q48.1) 25 q40.1)) (n := if begun Y = true then 4 else if dup Y 0 = true then 5 else 0) ?_ (fun n0 => ?_) fun n0 S1 y1 => ?_
    · rw [if_pos rfl]
      by_cases b : begun Y = true
      · rw [if_pos b, if_pos b, if_neg (by decide)]
      · rw [if_neg b, if_neg b, if_pos rfl]
        by_cases q : dup Y 0 = true
        · rw [if_pos q, if_neg (fun z => by rw [hd.mp z] at q; cases q)]
        · rw [if_neg q, if_pos (hd.mpr (by cases hz : dup Y 0 with
            | true => exact absurd hz q
            | false => rfl))]
    · rw [body]
      unfold once
      by_cases b : begun Y = true
      · rw [if_pos b, if_pos b]
      · rw [if_neg b] at n0 ⊢
        rw [if_neg b]
        by_cases q : dup Y 0 = true
        · rw [if_pos q, if_pos q]
        · rw [if_neg q] at n0; exact absurd rfl n0
    · have nb : ¬ begun Y = true := fun q => by rw [if_pos q] at n0; cases n0
      have nd : ¬ dup Y 0 = true := fun q => by rw [if_neg nb, if_pos q] at n0; cases n0
      rw [body, if_neg nb]
      unfold once
      rw [if_neg nd]
      refine Mn.bw (y1.num h7 hc (lo := 1) (hi := 6) (by decide) (by decide)) fun q1 ⟨a1, a2⟩ => ?_
      cases e1 : pNum t (tE t p) 1 6 with
      | inl z =>
        obtain ⟨k, b⟩ := z
        have b1 := a1 k b e1
        rw [r_numB b1.nb, Option.bind_some, sbd_l]
        exact r_384 h7 hc (LR.er ((b1.f (by decide)).f (by decide)))
      | inr z =>
        obtain ⟨v, r⟩ := z
        obtain ⟨b1, b2, b3, b4, b5⟩ := a2 v r e1
        rw [sbd_r]
        refine Mn.bw (b2.num h7 hc (lo := 1) (hi := 5) (by decide) (by decide)) fun q2 ⟨c1, c2⟩ => ?_
        dsimp only
        cases e2 : pNum t r 1 5 with
        | inl z =>
          obtain ⟨k, b⟩ := z
          have b1 := c1 k b e2
          rw [sbd_l]
          exact r_384 h7 hc (LR.er ((b1.f (by decide)).f (by decide)))
        | inr z =>
          obtain ⟨u, r2⟩ := z
          obtain ⟨d1, d2, d3, d4, d5⟩ := c2 u r2 e2
          rw [sbd_r, b1, d1]
          dsimp only
          refine r_384 h7 hc (LR.ok ⟨(d2.1.f (by decide)).f (by decide), ?_, (d2.2.2.1.f (by decide)).f (by decide), ?_, d2.2.2.2.2⟩)
          · rw [sF_ne (by decide), sF_ne (by decide)]; exact d2.2.1
          · obtain ⟨f1, f2, f3, f4, f5, f6, f7, f8, f9, f10, f11, f12, f13⟩ := d2.2.2.2.1
            have dy : dup (sCel Y v u) 0 = true := dup_y (i := 0) rfl
            have dn : ∀ j, 0 ≠ j → dup (sCel Y v u) j = dup Y j := fun j q => dup_n (i := 0) rfl q
            have sf : ∀ i, i ≠ 25 → i ≠ 26 → (sF (sF q2.2 26 (Int32.ofNat u)) 25 (Int32.ofNat v)).1 i = q2.2.1 i := fun i q1 q2 => by rw [sF_ne q1, sF_ne q2]
            exact ⟨by rw [sF_at, opt_t dy], by rw [sF_ne (by decide), sF_at, opt_t dy], (sf 27 (by decide) (by decide)).trans f3, f4, (sf 28 (by decide) (by decide)).trans f5, f6, by rw [sf 29 (by decide) (by decide), dn 2 (by decide)]; exact f7, by rw [sf 30 (by decide) (by decide), dn 3 (by decide)]; exact f8, by rw [sf 31 (by decide) (by decide), dn 4 (by decide)]; exact f9, by rw [sf 32 (by decide) (by decide), dn 5 (by decide)]; exact f10, ⟨(sf 33 (by decide) (by decide)).trans f11.1, f11.2⟩, f12, f13⟩
  by_cases q : S.1 25 = -1
  · rw [if_pos q]
    rw [e25] at q
    exact go 0 ⟨fun _ => (opt_n (by omega)).mp q, fun _ => rfl⟩
  · rw [if_neg q]
    refine go 1 ⟨fun z => absurd z (by decide), fun z => ?_⟩
    exact absurd (e25.trans ((opt_n (by omega)).mpr z)) q
end RL
