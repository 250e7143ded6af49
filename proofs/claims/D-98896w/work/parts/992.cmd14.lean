/-! plain law: see -/
set_option maxRecDepth 100000
theorem rd21 {S : MS} {k : Nat} (hk : k < 24) : rdA S 21 (Int32.ofNat k) = some (S.2.2 21 k) := rdA_n (ocl (by omega)) (on0 (by omega)) hk
theorem wr21 {S : MS} {k : Nat} (hk : k < 24) (v : Int32) : wrA S 21 (Int32.ofNat k) v = some (sA S 21 k v) := wrA_n (ocl (by omega)) (on0 (by omega)) hk
/-- an array of ints -/
def IaAt (T : xF) (a n : Nat) (f : Nat → Int32) : Prop := T.1 a = some (true, .inl (.int, n, .inl f))
theorem IaAt.st {T : xF} {a n : Nat} {f : Nat → Int32} (h : IaAt T a n f) {k : Nat} (hk : k < n) (hn : n < 2000000) (v : Int32) : ∃ T', stA T (some a) .int (Int32.ofNat k) v = some T' ∧ frm (fun x => x = a) T T' ∧ IaAt T' a n (upd f k v) := by
  refine ⟨(xset T.1 a (true, .inl (.int, n, .inl (upd f k v))), T.2), ?_, ⟨rfl, fun x hx => xset_no hx⟩, xset_eq⟩
  unfold IaAt at h
  rw [stA.eq_2]
  simp -implicitDefEqProofs only [h]
  rw [if_pos ⟨trivial, inb_o hk (by omega)⟩, ocl (by omega)]
theorem IaAt.ld {T : xF} {a n : Nat} {f : Nat → Int32} (h : IaAt T a n f) {k : Nat} (hk : k < n) (hn : n < 2000000) : ldA T (some a) .int (Int32.ofNat k) = some (f k) := by
  unfold IaAt at h
  rw [ldA.eq_1, aA.eq_2]
  simp -implicitDefEqProofs only [h, if_true, Option.bind_some]
  rw [if_pos (inb_o (by show k < n; exact hk) (by omega)), ocl (by omega)]
theorem IaAt.fr {T T' : xF} {a n : Nat} {f : Nat → Int32} (h : IaAt T a n f) (e : T'.1 a = T.1 a) : IaAt T' a n f := e.trans h
section RB
variable {G : xG} {T T' : xF} {o : Nat} {s : St} {A : Ad} {S : MS}
abbrev seenS (s : St) (x : Sn) : St := (sE s, sG s, sH s, ((sS s).1 + 1, va_up (sS s).2 (sS s).1 x), sI s, sB s, sT s, sF_ s, sR s)
theorem k_see (ok : StOK s) (h : CIa G T o s A) (m : MI S s) (a b c : Int32) : Jn T (c_X1_see G (some o) a b c T) (m_see a b c S) fun r T' q => AG NS "" r q.1 q.2 ∧ Nx G o T s T' q.2 := by
  have m0 := m.th 0
  have z : (sF S 0 0).1 0 = 0 := sF_0
  have hn := ok.1.n30
  have h53 := m0.2.2.2.2.1
  have hs8 : (sS s).1 ≤ 8 := ok.2.2.2.1.1
  obtain ⟨ea, ws, cs, L, H, ht, he⟩ := h.sels
  unfold c_X1_see m_see
  simp -implicitDefEqProofs only [h.iso, Option.bind_some, not_true_eq_false, if_false, if_true]
  rcases (cell_rng ok a).symm with hv | ⟨x, hx, rfl⟩
  · exact Jn.thX (e_cell_f h ok hv) thr_le (r := (0, sF (sF S 0 0) 0 1)) (by simp -implicitDefEqProofs only [r_cell_f m0 ok z hv, Option.bind_some, not_true_eq_false, if_false, if_true]) ⟨Or.inl ⟨rfl, sF_0⟩, Nx.same ok h.tw (m0.th 1) (by show T.2.1 + 1 ≤ _; omega) (by show T.2.2 + 6 ≤ _; omega)⟩
  refine Jn.okX (e_cell_t h ok hx) ?_
  simp -implicitDefEqProofs only [r_cell_t m0 ok z hx, Option.bind_some, not_true_eq_false, if_false, if_true, i10]
  simp -implicitDefEqProofs only [h.q10, L.is, L.size, h53, e_in, e_within, Option.bind_some, not_true_eq_false, if_false, if_true]
  have bad : Jn T (c_X1_see_39 G (some o) T) (m_see_44 (sF S 0 0)) fun r T' q => AG NS "" r q.1 q.2 ∧ Nx G o T s T' q.2 := by
    unfold c_X1_see_39 m_see_44
    simp -implicitDefEqProofs only [h.iso, Option.bind_some, not_true_eq_false, if_false, if_true]
    refine Jn.cl (e_refuse h (k := 2) (by decide)) fun v T1 _ ⟨k1, k2, k3⟩ => ?_
    refine Jn.mb (v_refuses m0 (k := 2) (by decide)) fun r ⟨j1, j2, j3⟩ => ?_
    rw [k1, j1]
    exact Jnew (refd_ok ok) k2 j2 (by rw [j3]; exact z) (by rw [k3]; omega) (by rw [k3]; omega) rfl
  by_cases h8 : (sS s).1 = 8
  · rw [if_pos (show Int32.ofNat (sS s).1 = 8 by rw [h8]; rfl), if_pos (show Int32.ofNat (sS s).1 = 8 by rw [h8]; rfl)]
    exact bad
  have n8 : ¬ Int32.ofNat (sS s).1 = 8 := fun q => h8 ((oeq (n := (sS s).1) (m := 8) (by omega) (by omega)).mp q)
  rw [if_neg n8, if_neg n8]
  rcases (rng 0 20 (by decide) (by decide) b).symm with hv | ⟨d, -, hd, rfl⟩
  · rw [show iin b 0 20 = false from iin_f hv, if_pos (show b01 false = 0 from rfl), if_pos (show b01 false = 0 from rfl)]
    exact bad
  rw [show iin (Int32.ofNat d) 0 20 = true from iin_t (a := 0) (Nat.zero_le _) hd (by decide), if_neg (show ¬ b01 true = 0 by decide), if_neg (show ¬ b01 true = 0 by decide)]
  cases hc : iin c 0 99 with
  | false =>
    rw [if_pos (show b01 false = 0 from rfl), if_pos (show b01 false = 0 from rfl)]
    exact bad
  | true =>
  rw [if_neg (show ¬ b01 true = 0 by decide), if_neg (show ¬ b01 true = 0 by decide)]
  rw [if_neg (show ¬ ((3 : Int32) < 0 ∨ 100000000 ≤ (3 : Int32).toNatClampNeg) by decide), show (3 : Int32).toNatClampNeg = 3 by decide]
  refine Jn.al ⟨Nat.le_succ _, Nat.le_add_right _ _⟩ ?_
  have i0 : IaAt (nA T .int 3) T.2.1 3 (fun _ => 0) := xset_eq
  have lo0 : ∀ x, x < T.2.1 → (nA T .int 3).1 x = T.1 x := fun x q => xset_no (by omega)
  obtain ⟨T1, e1, f1, i1⟩ := i0.st (k := 0) (by decide) (by decide) (Int32.ofNat x)
  refine Jn.st e1 f1.le ?_
  obtain ⟨T2, e2, f2, i2⟩ := i1.st (k := 1) (by decide) (by decide) (Int32.ofNat d)
  refine Jn.st e2 f2.le ?_
  obtain ⟨T3, e3, f3, i3⟩ := i2.st (k := 2) (by decide) (by decide) c
  refine Jn.st e3 f3.le ?_
  have c3 : T3.2 = (T.2.1 + 1, T.2.2 + 3) := by rw [f3.1, f2.1, f1.1]; rfl
  have lo3 : ∀ x, x < T.2.1 → T3.1 x = T.1 x := fun x q => (f3.2 x (by omega)).trans ((f2.2 x (by omega)).trans ((f1.2 x (by omega)).trans (lo0 x q)))
  obtain ⟨b1, b2, b3, b4, b5, b6, b7, b8, b9, b10, b11⟩ := h.bn
  have L3 : LsAt T3 (aSl A) (aSa A) (sS s).1 ea ws cs := L.fr (lo3 _ b10) (lo3 _ b11)
  simp -implicitDefEqProofs only [L3.is, Option.bind_some, not_true_eq_false, if_false, if_true]
  have n3 : T3.2.1 = T.2.1 + 1 := by rw [c3]
  have s3 : T3.2.2 = T.2.2 + 3 := by rw [c3]
  refine Jn.cl (e_add L3 (q := T.2.1) (by omega) (by omega) (by omega) (fun T' e => asg_i (e.trans i3)) (by omega) (by omega) (by omega) fun k hk => ⟨by have := (he k hk).1; omega, (he k hk).2.1.mono (lo3 _ (he k hk).1), (he k hk).2.2.1⟩) fun v T4 hl4 ⟨_, a', cap', j1, j2, j3, j4, j5, j6⟩ => ?_
  have hl41 := hl4.1
  have lo4 : ∀ x, x < T.2.1 → x ≠ aSl A → x ≠ aSa A → T4.1 x = T.1 x := fun x q1 q2 q3 => (j3 x (by omega) q2 q3).trans (lo3 x q1)
  have h8' : a' = aSa A → aO A (aSa A) = 10 := by
    intro r
    rcases ht with q | ⟨q, q3⟩
    · exact q
    · exfalso
      have := j1.2.2.1
      rcases j2 with r2 | r2 <;> omega
  have hcap : 0 < cap' := by have := j1.2.2.1; omega
  have i4 : IaAt T4 T.2.1 3 (upd (upd (upd (fun _ => 0) 0 (Int32.ofNat x)) 1 (Int32.ofNat d)) 2 c) := i3.fr (j3 _ (by omega) (by omega) (by omega))
  have fin : CIa G T4 o (seenS s (Int32.ofNat x, Int32.ofNat d, c)) (fun x => if x < T.2.1 then aO A x else if x = a' then 10 else 11, aRl A, aVa A, aBb A, aTt A, aCc A, aTp A, aRf A, aAl A, aAa A, aSl A, a') := by
    refine h.sights (s' := ((sS s).1 + 1, va_up (sS s).2 (sS s).1 (Int32.ofNat x, Int32.ofNat d, c))) (by omega) lo4 j1 ?_ ?_ h8'
    · rcases j2 with r | ⟨r, r2⟩
      · exact Or.inl ⟨r.1, hcap⟩
      · exact Or.inr ⟨by omega, by omega, r2.trans (lo3 _ b11)⟩
    · intro k hk
      have hk : k < (sS s).1 + 1 := hk
      show Fz _ T4 (fun T' => SnC T' (va_up ea (sS s).1 T.2.1 k) (va_up (sS s).2 (sS s).1 (Int32.ofNat x, Int32.ofNat d, c) k)) ∧ va_up ea (sS s).1 T.2.1 k < T4.2.1
      by_cases q : k = (sS s).1
      · rw [q, vup_at, vup_at]
        refine ⟨fun T' q1 q2 => ⟨_, (q2 T.2.1 (by omega) ?_).trans i4, by simp [upd], by simp [upd], by simp [upd]⟩, by omega⟩
        show (if T.2.1 < T.2.1 then _ else if T.2.1 = a' then 10 else 11) = 11
        rw [if_neg (Nat.lt_irrefl _), if_neg (by rcases j2 with r | ⟨r, _⟩ <;> omega)]
      · rw [vup_no q, vup_no q]
        obtain ⟨q1, q2⟩ := H k (by omega)
        obtain ⟨_, _, tg⟩ := h.tg
        refine ⟨q1.mv (by omega) fun x hx ho => ⟨?_, (if_pos hx).trans ho⟩, by omega⟩
        have n1 : x ≠ aSl A := fun r => by rw [r] at ho; have := tg.2.2.2.2.2.2.2.2.2.1; omega
        by_cases n2 : x = aSa A
        · subst n2
          rcases j2 with r | ⟨r, r2⟩
          · have := h8' r.1; omega
          · exact r2.trans (lo3 _ hx)
        · exact lo4 x hx n1 n2
  obtain ⟨ea9, ws9, cs9, L9, -⟩ := fin.sels
  have s9 : c_J2_size T4 (some (aSl A)) = some (Int32.ofNat ((sS s).1 + 1)) := L9.size
  have q9 : oQ T4 (some o) 0 10 = some (some (aSl A)) := fin.q10
  have i9 : isO T4 (some (aSl A)) 10 = true := L9.is
  simp -implicitDefEqProofs only [q9, i9, s9, Option.bind_some, not_true_eq_false, if_false, if_true]
  -- the reference
  have w0 : (3 : Int32) * Int32.ofNat (sS s).1 = Int32.ofNat (3 * (sS s).1) := omul 3 _
  have w1 : Int32.ofNat (3 * (sS s).1) + 1 = Int32.ofNat (3 * (sS s).1 + 1) := oadd _ 1
  have w2 : Int32.ofNat (3 * (sS s).1) + 2 = Int32.ofNat (3 * (sS s).1 + 2) := oadd _ 2
  rw [w0, wr21 (by omega), Option.bind_some]
  rw [show (sA (sF S 0 0) 21 (3 * (sS s).1) (Int32.ofNat x)).1 53 = Int32.ofNat (sS s).1 from h53, w0, w1, wr21 (by omega), Option.bind_some]
  rw [show (sA (sA (sF S 0 0) 21 (3 * (sS s).1) (Int32.ofNat x)) 21 (3 * (sS s).1 + 1) (Int32.ofNat d)).1 53 = Int32.ofNat (sS s).1 from h53, w0, w2, wr21 (by omega), Option.bind_some]
  generalize hS4 : sA (sA (sA (sF S 0 0) 21 (3 * (sS s).1) (Int32.ofNat x)) 21 (3 * (sS s).1 + 1) (Int32.ofNat d)) 21 (3 * (sS s).1 + 2) c = S4
  have p53 : S4.1 53 = Int32.ofNat (sS s).1 := by rw [← hS4]; exact h53
  have p1 : S4.1 = (sF S 0 0).1 := by rw [← hS4]; rfl
  have p2 : ∀ j, j ≠ 21 → S4.2.2 j = (sF S 0 0).2.2 j := fun j q => by rw [← hS4, sA_ne q, sA_ne q, sA_ne q]
  have p3 : S4.2.2 21 = upd (upd (upd ((sF S 0 0).2.2 21) (3 * (sS s).1) (Int32.ofNat x)) (3 * (sS s).1 + 1) (Int32.ofNat d)) (3 * (sS s).1 + 2) c := by rw [← hS4, sA_at, sA_at, sA_at]
  have e53 : (sF S4 53 (S4.1 53 + 1)).1 53 = Int32.ofNat ((sS s).1 + 1) := by rw [sF_at, p53]; exact oadd _ 1
  rw [e53]
  refine Jnew (s' := seenS s (Int32.ofNat x, Int32.ofNat d, c)) ?_ fin ?_ ?_ (by omega) (by omega) rfl
  · refine ⟨ok.1, ok.2.1, ok.2.2.1, ⟨by show (sS s).1 + 1 ≤ 8; omega, fun k hk => ?_⟩, ok.2.2.2.2⟩
    have hk : k < (sS s).1 + 1 := hk
    show snOK (sE s) (va_up (sS s).2 (sS s).1 (Int32.ofNat x, Int32.ofNat d, c) k)
    by_cases q : k = (sS s).1
    · rw [q, vup_at]; exact ⟨⟨x, hx, rfl⟩, ⟨d, hd, rfl⟩⟩
    · rw [vup_no q]; exact ok.2.2.2.1.2 k (by omega)
  · obtain ⟨a1, a2, a3, a4, a5, a6, a7, a8, a9, a10, a11⟩ := m0
    have fl : ∀ k, k ≠ 53 → (sF S4 53 (S4.1 53 + 1)).1 k = (sF S 0 0).1 k := fun k q => by rw [sF_ne q, p1]
    have ar : ∀ j, j ≠ 21 → (sF S4 53 (S4.1 53 + 1)).2.2 j = (sF S 0 0).2.2 j := fun j q => p2 j q
    refine ⟨a1.mono (fun k q1 q2 => fl k (by omega)) (fun j hj => ar j (by omega)), by rw [ar 13 (by decide)]; exact a2, (fl 46 (by decide)).trans a3, fun k hk => by rw [ar 14 (by decide)]; exact a4 k hk, e53, fun k hk => ?_, ?_, (fl 13 (by decide)).trans a8, fun k hk => by rw [ar 4 (by decide)]; exact a9 k hk, (fl 15 (by decide)).trans a10, fun k hk => by rw [ar 5 (by decide)]; exact a11 k hk⟩
    · have hk : k < (sS s).1 + 1 := hk
      show SnJ (S4.2.2 21) k (va_up (sS s).2 (sS s).1 (Int32.ofNat x, Int32.ofNat d, c) k)
      rw [p3]
      by_cases q : k = (sS s).1
      · rw [q, vup_at]
        unfold SnJ upd
        refine ⟨?_, ?_, ?_⟩
        · rw [if_neg (by omega), if_neg (by omega), if_pos rfl]
        · rw [if_neg (by omega), if_pos rfl]
        · rw [if_pos rfl]
      · rw [vup_no q]
        obtain ⟨q1, q2, q3⟩ := a6 k (by omega)
        unfold SnJ upd
        refine ⟨?_, ?_, ?_⟩
        · rw [if_neg (by omega), if_neg (by omega), if_neg (by omega)]; exact q1
        · rw [if_neg (by omega), if_neg (by omega), if_neg (by omega)]; exact q2
        · rw [if_neg (by omega), if_neg (by omega), if_neg (by omega)]; exact q3
    · show match sI s with
        | none => _
        | some (g, h, x) => _
      cases hi : sI s with
      | none => rw [hi] at a7; exact (fl 58 (by decide)).trans a7
      | some x =>
        rw [hi] at a7
        obtain ⟨b1, b2, b3, b4, b5, b6⟩ := a7
        exact ⟨(fl 58 (by decide)).trans b1, by rw [ar 24 (by decide)]; exact b2, (fl 59 (by decide)).trans b3, by rw [ar 25 (by decide)]; exact b4, (fl 60 (by decide)).trans b5, by rw [ar 26 (by decide)]; exact b6⟩
  · rw [sF_ne (by decide), p1]; exact z
end RB
