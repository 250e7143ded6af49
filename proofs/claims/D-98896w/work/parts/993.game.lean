/-! plain law: a game -/
set_option maxRecDepth 100000
def gofF (e : En) (g : Gw) (p : Int32) (c : Nat) (best : Option Nat) : Option Nat := if gK g c = -1 then best else if pk e g c = p then (match best with
  | none => some c
  | some b => if gZ g c ≤ gZ g b then some b else some c) else best
/-- the cell of a party's greatest mould -/
def gof (e : En) (g : Gw) (p : Int32) : Option Nat := itr (gofF e g p) (eN e) none
theorem gofF_or {e : En} {g : Gw} {p : Int32} {i : Nat} (x : Option Nat) : gofF e g p i x = x ∨ gofF e g p i x = some i ∧ pk e g i = p := by
  unfold gofF
  split
  · exact Or.inl rfl
  · split
    · rename_i h
      cases x with
      | none => exact Or.inr ⟨rfl, h⟩
      | some b =>
        dsimp only
        split
        · exact Or.inl rfl
        · exact Or.inr ⟨rfl, h⟩
    · exact Or.inl rfl
theorem gof_lt {e : En} {g : Gw} {p : Int32} : ∀ i b, itr (gofF e g p) i none = some b → b < i ∧ pk e g b = p := by
  intro i
  induction i with
  | zero => intro b h; cases h
  | succ i ih =>
    intro b h
    have h2 : gofF e g p i (itr (gofF e g p) i none) = some b := h
    rcases gofF_or (e := e) (g := g) (p := p) (i := i) (itr (gofF e g p) i none) with k | ⟨k, k2⟩
    · rw [k] at h2
      have := ih b h2
      exact ⟨by omega, this.2⟩
    · rw [k] at h2
      cases h2
      exact ⟨by omega, k2⟩
/-- fed, if it gives -/
def fd (g : Gw) (b : Option Nat) (h : Nat) : Gw := if h = 1 then (match b with
  | none => g
  | some c => gfeed g c 10) else g
theorem feed_comm (g : Gw) {c d : Nat} (h : c ≠ d) (a b : Int32) : gfeed (gfeed g c a) d b = gfeed (gfeed g d b) c a := by
  unfold gfeed
  simp -implicitDefEqProofs only [gD_mk, gF_mk, gK_mk, gZ_mk, gY_mk]
  have e : upd (upd (gF g) c (imin 99 (gF g c + a))) d (imin 99 (upd (gF g) c (imin 99 (gF g c + a)) d + b)) = upd (upd (gF g) d (imin 99 (gF g d + b))) c (imin 99 (upd (gF g) d (imin 99 (gF g d + b)) c + a)) := by
    funext x
    unfold upd
    by_cases h1 : x = d
    · subst h1
      rw [if_pos rfl, if_neg (Ne.symm h), if_neg (Ne.symm h), if_pos rfl]
    · rw [if_neg h1]
      by_cases h2 : x = c
      · subst h2
        rw [if_pos rfl, if_pos rfl, if_neg h]
      · rw [if_neg h2, if_neg h2, if_neg h1]
  rw [e]
theorem fd_comm {e : En} {g g0 : Gw} {p q : Int32} (hpq : p ≠ q) (a b : Nat) : fd (fd g0 (gof e g p) a) (gof e g q) b = fd (fd g0 (gof e g q) b) (gof e g p) a := by
  unfold fd
  by_cases ha : a = 1
  · rw [if_pos ha, if_pos ha]
    by_cases hb : b = 1
    · rw [if_pos hb, if_pos hb]
      cases h1 : gof e g p with
      | none => rfl
      | some c =>
        cases h2 : gof e g q with
        | none => rfl
        | some d =>
          have k1 := (gof_lt _ _ h1).2
          have k2 := (gof_lt _ _ h2).2
          exact feed_comm g0 (fun r => hpq (by rw [← k1, ← k2, r])) 10 10
    · rw [if_neg hb, if_neg hb]
  · rw [if_neg ha, if_neg ha]
theorem GI_fd {e : En} {g : Gw} {n : Nat} (h : GI e g n) {b : Option Nat} (hb : ∀ c, b = some c → c < 30) (k : Nat) : GI e (fd g b k) n := by
  unfold fd
  split
  · cases b with
    | none => exact h
    | some c => exact h.feed (m := 10) (hb c rfl) (by decide)
  · exact h
section CM
variable {G : xG} {T T1 : xF} {o : Nat} {s s' : St} {A A' : Ad} {S S1 : MS} {g : Gw}
theorem gof30 (ok : StOK s) {p : Int32} : ∀ c, gof (sE s) (sG s) p = some c → c < 30 := fun c hc => by
  have := (gof_lt _ _ hc).1
  have := ok.1.n30
  omega
theorem kOKk (ok : StOK s) {c : Nat} (hc : c < 30) (hk : ¬ gK (sG s) c = -1) : ∃ k, k < eP (sE s) ∧ gK (sG s) c = Int32.ofNat k := (ok.2.1.1.2 c hc).resolve_left hk
theorem e_gives (ok : StOK s) (h : Tr G T o s A g) {p : Int32} {k : Nat} (hk : k < 2) : Rn T (c_X1_gives (some o) p (Int32.ofNat k) T) fun _ T' => Tr G T' o s A (fd g (gof (sE s) (sG s) p) k) ∧ frm (bk (aTt A)) T T' := by
  have hn := ok.1.n30
  obtain ⟨lp, q1, q2, q3, q4, q5⟩ := h.1.evt.pa
  unfold c_X1_gives
  refine loop_rule (σ := Option Nat) (N := eN (sE s)) (fun i x => x = itr (gofF (sE s) (sG s) p) i none) (fun m i x => Rn T (c_X1_gives_5 m (some o) p (Int32.ofNat k) (enc x) (Int32.ofNat i) T) _) ?_ ?_ FU (by show eN (sE s) < 6000; omega) none rfl
  · rintro m i x hi hx K
    have i3 : i < 30 := by omega
    have K2 := K (gofF (sE s) (sG s) p i x) (by rw [hx]; rfl)
    show Rn T (c_X1_gives_5_b (c_X1_gives_5 m) (some o) p (Int32.ofNat k) (enc x) (Int32.ofNat i) T) _
    unfold c_X1_gives_5_b
    simp -implicitDefEqProofs only [leN hi hn, h.1.q1, h.1.isr, h.1.cells ok, h.1.q4, h.1.cc.o2, h.1.cc.o3, h.1.cc.ldK i3, h.1.cc.ldZ i3, c_X1_gives_96, c_X1_gives_93, ofn1 i (by omega), q1, q2, Option.bind_some, not_true_eq_false, if_false, if_true]
    unfold gofF at K2
    by_cases hkc : gK (sG s) i = -1
    · rw [if_pos hkc] at K2 ⊢
      exact K2
    rw [if_neg hkc] at K2 ⊢
    obtain ⟨kk, k1, k2⟩ := kOKk ok i3 hkc
    obtain ⟨q, r1, r2, r3, r4⟩ := q5 kk k1
    simp -implicitDefEqProofs only [k2, r1, r2, r3, r4, Option.bind_some, not_true_eq_false, if_false, if_true]
    have e : pk (sE s) (sG s) i = ePy (sE s) kk := by unfold pk; rw [k2, ofn4 ok.1 k1]
    rw [e] at K2
    by_cases hp : ePy (sE s) kk = p
    · rw [if_pos hp] at K2 ⊢
      cases x with
      | none =>
        rw [if_pos (show enc none = -1 from rfl)]
        exact K2
      | some b =>
        have hb : b < 30 := by have := (gof_lt i b hx.symm).1; omega
        rw [if_neg (enc_ne b hb)]
        have l1 : ldA T (some (aCc A + 4)) .int (enc (some b)) = some (gZ (sG s) b) := h.1.cc.ldZ hb
        rw [l1, Option.bind_some]
        dsimp only at K2
        by_cases hz : gZ (sG s) i ≤ gZ (sG s) b
        · rw [if_pos hz] at K2 ⊢; exact K2
        · rw [if_neg hz] at K2 ⊢; exact K2
    · rw [if_neg hp] at K2 ⊢
      exact K2
  · rintro m x hx
    show Rn T (c_X1_gives_5_b (c_X1_gives_5 m) (some o) p (Int32.ofNat k) (enc x) (Int32.ofNat (eN (sE s))) T) _
    unfold c_X1_gives_5_b
    simp -implicitDefEqProofs only [h.1.q1, h.1.isr, h.1.cells ok, Int32.le_refl, Option.bind_some, not_true_eq_false, if_false, if_true]
    have hx2 : gof (sE s) (sG s) p = x := hx.symm
    rw [hx2]
    unfold fd
    rcases (by omega : k = 0 ∨ k = 1) with rfl | rfl
    · rw [if_neg (by decide), if_neg (by decide)]
      exact Rn.ret ⟨h, frm.rf⟩
    · rw [if_pos (show Int32.ofNat 1 = 1 from rfl), if_pos rfl]
      cases x with
      | none =>
        rw [if_pos (show enc none = -1 from rfl)]
        exact Rn.ret ⟨h, frm.rf⟩
      | some b =>
        have hb : b < 30 := gof30 ok b hx2
        rw [if_neg (enc_ne b hb)]
        simp -implicitDefEqProofs only [h.1.q3, h.2.is, Option.bind_some, not_true_eq_false, if_false, if_true]
        refine Rn.cl (e_feed h.2 hb 10) fun _ T2 _ ⟨f2, g2⟩ => Rn.ret ⟨h.1.trb f2 g2, f2⟩
theorem r_gof (ok : StOK s) (h : MI S s) {p : Int32} : m_greatestOf p S = some (enc (gof (sE s) (sG s) p)) := by
  have hn := ok.1.n30
  have h4 := ok.1.2.1
  unfold m_greatestOf
  refine loop_rule (σ := Option Nat) (N := eN (sE s)) (fun i x => x = itr (gofF (sE s) (sG s) p) i none) (fun m i x => m_greatestOf_4 m p (enc x) (Int32.ofNat i) S = _) ?_ ?_ FU (by show eN (sE s) < 6000; omega) none rfl
  · rintro m i x hi hx K
    have i3 : i < 30 := by omega
    have K2 := K (gofF (sE s) (sG s) p i x) (by rw [hx]; rfl)
    show m_greatestOf_4_b (m_greatestOf_4 m) p (enc x) (Int32.ofNat i) S = _
    unfold m_greatestOf_4_b
    simp -implicitDefEqProofs only [leN hi hn, v_cells ok h, h.row.lK0 i3, h.row.lZ0 i3, m_greatestOf_74, m_greatestOf_72, ofn1 i (by omega), Option.bind_some, not_true_eq_false, if_false, if_true]
    unfold gofF at K2
    by_cases hkc : gK (sG s) i = -1
    · rw [if_pos hkc] at K2 ⊢
      exact K2
    rw [if_neg hkc] at K2 ⊢
    obtain ⟨kk, k1, k2⟩ := kOKk ok i3 hkc
    simp -implicitDefEqProofs only [k2, rd1 (S := S) (show kk < 4 by omega), (h.mv (E := eb 0) eb_own).py kk k1, Option.bind_some, not_true_eq_false, if_false, if_true]
    have e : pk (sE s) (sG s) i = ePy (sE s) kk := by unfold pk; rw [k2, ofn4 ok.1 k1]
    rw [e] at K2
    by_cases hp : ePy (sE s) kk = p
    · rw [if_pos hp] at K2 ⊢
      cases x with
      | none =>
        rw [if_pos (show enc none = -1 from rfl)]
        exact K2
      | some b =>
        have hb : b < 30 := by have := (gof_lt i b hx.symm).1; omega
        rw [if_neg (enc_ne b hb)]
        have l1 : rdA S 13 ((91 : Int32) + enc (some b)) = some (gZ (sG s) b) := h.row.lZ0 hb
        rw [l1, Option.bind_some]
        dsimp only at K2
        by_cases hz : gZ (sG s) i ≤ gZ (sG s) b
        · rw [if_pos hz] at K2 ⊢; exact K2
        · rw [if_neg hz] at K2 ⊢; exact K2
    · rw [if_neg hp] at K2 ⊢
      exact K2
  · rintro m x hx
    show m_greatestOf_4_b (m_greatestOf_4 m) p (enc x) (Int32.ofNat (eN (sE s))) S = _
    unfold m_greatestOf_4_b
    simp -implicitDefEqProofs only [v_cells ok h, Int32.le_refl, Option.bind_some, not_true_eq_false, if_false, if_true]
    rw [hx]
    rfl
theorem r_gives (ok : StOK s) (h : Mt S s g) {p : Int32} {k : Nat} (hk : k < 2) : Mn (m_gives p (Int32.ofNat k) S) fun S' => Mt S' s (fd g (gof (sE s) (sG s) p) k) ∧ S'.1 = S.1 := by
  unfold m_gives m_gives_13 fd
  rcases (by omega : k = 0 ∨ k = 1) with rfl | rfl
  · rw [if_pos (show Int32.ofNat 0 = 0 from rfl), if_pos rfl, if_neg (by decide)]
    exact Mn.ret ⟨h, rfl⟩
  · rw [if_neg (show ¬ Int32.ofNat 1 = 0 by decide), r_gof ok h.1, Option.bind_some, if_pos rfl]
    cases hx : gof (sE s) (sG s) p with
    | none =>
      rw [if_pos (show enc none = -1 from rfl)]
      exact Mn.ret ⟨h, rfl⟩
    | some b =>
      have hb : b < 30 := gof30 ok b hx
      rw [if_neg (enc_ne b hb)]
      have l1 : rdA S 13 ((152 : Int32) + enc (some b)) = some (gF g b) := h.2.lF1 hb
      simp -implicitDefEqProofs only [l1, e_lesser, Option.bind_some, not_true_eq_false, if_false, if_true]
      obtain ⟨S2, e2, w2, r2⟩ := h.2.sF1 hb (imin 99 (gF g b + 10))
      have e2' : wrA S 13 ((152 : Int32) + enc (some b)) (imin 99 (gF g b + 10)) = some S2 := e2
      rw [e2', Option.bind_some]
      exact Mn.ret ⟨h.wr w2 r2, w2.1⟩
/-- what comes of it for the first -/
def gv (s : St) (p q : Int32) (a b : Nat) : Int32 := vts (sE s) (gafter (sE s) 10 (fd (fd (sG s) (gof (sE s) (sG s) p) a) (gof (sE s) (sG s) q) b)) p - Int32.ofNat a
theorem r_gains (ok : StOK s) (h : MI S s) {p q : Int32} {a b : Nat} (ha : a < 2) (hb : b < 2) : Mn (m_gains p q (Int32.ofNat a) (Int32.ofNat b) S) fun r => r.1 = gv s p q a b ∧ MI r.2 s ∧ r.2.1 = S.1 := by
  unfold m_gains
  refine Mn.bw (u_tries h) fun S1 ⟨k1, k2⟩ => ?_
  refine Mn.bw (r_gives ok k1 ha) fun S2 ⟨k3, k4⟩ => ?_
  refine Mn.bw (r_gives ok k3 hb) fun S3 ⟨k5, k6⟩ => ?_
  have gi : GI (sE s) (fd (fd (sG s) (gof (sE s) (sG s) p) a) (gof (sE s) (sG s) q) b) 1001 := GI_fd (GI_fd ok.2.1 (gof30 ok) a) (gof30 ok) b
  refine Mn.bw (u_after (k := 10) (n := 0) ok k5 (by decide) (gi.le (by omega))) fun S4 ⟨k7, k8⟩ => ?_
  have g4 := GI.after (n := 1) ok.1 10 (gi.le (by omega))
  rw [u_votes ok k7 g4, Option.bind_some]
  exact Mn.ret ⟨rfl, k7.1, by rw [k8, k6, k4, k2]⟩
theorem gv_sym (p q : Int32) (h : p ≠ q) (a b : Nat) : vts (sE s) (gafter (sE s) 10 (fd (fd (sG s) (gof (sE s) (sG s) p) a) (gof (sE s) (sG s) q) b)) q - Int32.ofNat b = gv s q p b a := by
  unfold gv
  rw [fd_comm h]
theorem e_gains (ok : StOK s) (h : CIa G T o s A) {p q : Int32} {a b : Nat} (hpq : p ≠ q) (ha : a < 2) (hb : b < 2) : Rn T (c_X1_gains G (some o) p q (Int32.ofNat a) (Int32.ofNat b) T) fun v T' => v = some T.2.1 ∧ (∃ f, IaAt T' T.2.1 2 f ∧ f 0 = gv s p q a b ∧ f 1 = gv s q p b a) ∧ CIa G T' o s (rtg A T.2.1) ∧ (∀ x, x < T.2.1 → aO A x = 12 → T'.1 x = T.1 x) ∧ T'.2 = (T.2.1 + 1, T.2.2 + 2) := by
  obtain ⟨gt, ht⟩ := h.tt
  obtain ⟨_, _, tg⟩ := h.tg
  unfold c_X1_gains
  simp -implicitDefEqProofs only [h.q3, h.q4, ht.is, Option.bind_some, not_true_eq_false, if_false, if_true]
  refine Rn.cl (t_bef h) fun v T1 _ ⟨k1, k2, k3, k4⟩ => ?_
  simp -implicitDefEqProofs only [k2.1.iso, Option.bind_some, not_true_eq_false, if_false, if_true]
  refine Rn.cl (e_gives ok k2 ha) fun v T2 _ ⟨k5, k6⟩ => ?_
  simp -implicitDefEqProofs only [k5.1.iso, Option.bind_some, not_true_eq_false, if_false, if_true]
  refine Rn.cl (e_gives ok k5 hb) fun v T3 _ ⟨k7, k8⟩ => ?_
  simp -implicitDefEqProofs only [k7.1.q3, k7.2.is, Option.bind_some, not_true_eq_false, if_false, if_true]
  have gi : GI (sE s) (fd (fd (sG s) (gof (sE s) (sG s) p) a) (gof (sE s) (sG s) q) b) 1001 := GI_fd (GI_fd ok.2.1 (gof30 ok) a) (gof30 ok) b
  obtain ⟨fv, hv⟩ := k7.1.va
  obtain ⟨gb, hbb⟩ := k7.1.bb
  refine Rn.cl (e_after (k := 10) (n := 0) ok.1 k7.1.evt k7.2 hbb hv k7.1.tb k7.1.vt k7.1.vb (by decide) (gi.le (by omega)).1) fun v T4 _ ⟨_, m2, m3, m4, m5⟩ => ?_
  have t4 := k7.1.trf m2.c m5 m4 m3
  have c4 : T4.2 = T.2 := by rw [m2.1, k8.1, k6.1, k3]
  have lo4 : ∀ x, aO A x = 12 → T4.1 x = T.1 x := fun x hx => by
    have nb : ¬ bk (aTt A) x := fun r => by have := tg.2.2.2.1 x r; omega
    have ne : ¬ ep (aTt A) (aBb A) (aVa A) x := fun r => by
      rcases r with r | r | r
      · exact nb r
      · have := tg.2.2.1 x r; omega
      · have := tg.2.1; rw [r] at hx; omega
    rw [m2.2 x ne, k8.2 x nb, k6.2 x nb, k4.2 x nb]
  have g4 := GI.after (n := 1) ok.1 10 (gi.le (by omega))
  rw [if_neg (show ¬ ((2 : Int32) < 0 ∨ 100000000 ≤ (2 : Int32).toNatClampNeg) by decide), show (2 : Int32).toNatClampNeg = 2 by decide]
  refine Rn.al ⟨Nat.le_succ _, Nat.le_add_right _ _⟩ ?_
  have n4 : T4.2.1 = T.2.1 := by rw [c4]
  have i0 : IaAt (nA T4 .int 2) T4.2.1 2 (fun _ => 0) := xset_eq
  have lo5 : ∀ x, x < T4.2.1 → (nA T4 .int 2).1 x = T4.1 x := fun x q => xset_no (by omega)
  have h5 : CIa G (nA T4 .int 2) o s (rtg A T.2.1) := by
    have := t4.1.fresh (T' := nA T4 .int 2) (Nat.le_succ _) lo5
    rw [n4] at this
    exact this
  obtain ⟨bb1, bb2, bb3, bb4, bb5, -⟩ := t4.1.bn
  have t5 : Tr G (nA T4 .int 2) o s (rtg A T.2.1) _ := ⟨h5, t4.2.lo fun x r => lo5 x (by simp -implicitDefEqProofs only [bk] at r; omega)⟩
  have own5 : aO (rtg A T.2.1) T4.2.1 = 12 := by rw [n4]; exact if_neg (Nat.lt_irrefl _)
  simp -implicitDefEqProofs only [t5.1.q3, t5.2.is, t_votes ok t5 g4, Option.bind_some, not_true_eq_false, if_false, if_true]
  obtain ⟨T6, e6, f6, i6⟩ := i0.st (k := 0) (by decide) (by decide) (gv s p q a b)
  refine Rn.st e6 f6.le ?_
  have h6 : CIa G T6 o s (rtg A T.2.1) := h5.junk f6.c fun x _ r => by
    have r' : x = T4.2.1 := r
    rw [r']; exact own5
  have t6 : Tr G T6 o s (rtg A T.2.1) _ := ⟨h6, t5.2.fr f6 fun x r1 r2 => by
    have h6 : x = T4.2.1 := r2
    have := bb4
    simp -implicitDefEqProofs only [bk] at r1
    show False
    have e : aTt (rtg A T.2.1) = aTt A := rfl
    omega⟩
  simp -implicitDefEqProofs only [t6.1.q3, t6.2.is, t_votes ok t6 g4, Option.bind_some, not_true_eq_false, if_false, if_true]
  obtain ⟨T7, e7, f7, i7⟩ := i6.st (k := 1) (by decide) (by decide) (vts (sE s) (gafter (sE s) 10 (fd (fd (sG s) (gof (sE s) (sG s) p) a) (gof (sE s) (sG s) q) b)) q - Int32.ofNat b)
  refine Rn.st e7 f7.le (Rn.ret ⟨by rw [n4], ⟨_, by rw [← n4]; exact i7, by simp [upd], ?_⟩, h6.junk f7.c fun x _ r => by
    have r' : x = T4.2.1 := r
    rw [r']; exact own5, fun x q1 q2 => ?_, ?_⟩)
  · rw [← gv_sym p q hpq]; simp [upd]
  · rw [f7.2 x (by omega), f6.2 x (by omega), lo5 x (by omega)]; exact lo4 x q2
  · rw [f7.1, f6.1]
    show (T4.2.1 + 1, T4.2.2 + 2) = _
    rw [c4]
end CM
