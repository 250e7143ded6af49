/-! plain law: what is done to lists -/
set_option maxRecDepth 100000
theorem vup_at {α : Type} {f : Nat → α} {n : Nat} {q : α} : va_up f n q n = q := by unfold va_up; rw [if_pos rfl]
theorem vup_no {α : Type} {f : Nat → α} {n k : Nat} {q : α} (h : k ≠ n) : va_up f n q k = f k := by unfold va_up; rw [if_neg h]
/-- the shared empty arrays -/
def StA (G : xG) (T : xF) : Prop := ∃ d0 d1 w0 w1 F0 F1, gS G 0 = some d0 ∧ gS G 1 = some d1 ∧ d0 < T.2.1 ∧ d1 < T.2.1 ∧ T.1 d0 = some (w0, .inl (.object "java/lang/Object", 0, .inr (.inr (.inr (.inr F0))))) ∧ T.1 d1 = some (w1, .inl (.object "java/lang/Object", 0, .inr (.inr (.inr (.inr F1)))))
section LS
variable {G : xG} {T : xF} {l a n cap q : Nat} {f : Nat → Nat} {w : Bool}
theorem LsAt.st (h : LsAt T l a n f w cap) {k : Nat} (hk : k < cap) {v : Option Nat} (ho : asg T (.object "java/lang/Object") v = true) : ∃ T', stR T (some a) (Int32.ofNat k) v = some T' ∧ frm (fun x => x = a) T T' ∧ ∃ F : Nat → Option Nat, T'.1 a = some (true, .inl (.object "java/lang/Object", cap, .inr (.inr (.inr (.inr F))))) ∧ F k = v ∧ ∀ j, j < n → j ≠ k → F j = some (f j) := by
  obtain ⟨h1, ⟨F, h2, h3⟩, h4, h5, h6⟩ := h
  have hw := h6 (by omega)
  subst hw
  refine ⟨(xset T.1 a (true, .inl (.object "java/lang/Object", cap, .inr (.inr (.inr (.inr (va_up F k v)))))), T.2), ?_, ⟨rfl, fun x hx => xset_no hx⟩, ⟨_, xset_eq, vup_at, fun j hj hjk => by rw [vup_no hjk]; exact h3 j hj⟩⟩
  rw [stR.eq_2]
  simp -implicitDefEqProofs only [h2]
  rw [if_pos ⟨inb_o hk (by omega), ho⟩, ocl (by omega)]
theorem e_add211 (h : LsAt T l a n f w cap) (hn : n < cap) (hq : AO T q) (hql : q ≠ l) (hqa : q ≠ a) : Rn T (c_J2_add_2_11 G (some l) (some q) (some a) (Int32.ofNat n) T) fun _ T' => frm (fun x => x = l ∨ x = a) T T' ∧ LsAt T' l a (n + 1) (va_up f n q) w cap := by
  have hne := h.ne
  have hn15 := h.n1500
  unfold c_J2_add_2_11
  obtain ⟨T1, e1, f1, F, g1, g2, g3⟩ := h.st hn (v := some q) (hq T rfl)
  refine Rn.st e1 f1.le ?_
  obtain ⟨⟨m, h1⟩, ⟨F0, k2, k3⟩, h4, h5, h6⟩ := h
  have hw := h6 (by omega)
  subst hw
  have L1 : LsAt T1 l a n f true cap := by
    refine ⟨⟨m, by rw [f1.2 l hne]; exact h1⟩, ⟨F, g1, fun k hk => g3 k hk (by omega)⟩, h4, h5, fun _ => rfl⟩
  rw [ofn1 n (by omega)]
  obtain ⟨T2, e2, f2, m2, q2⟩ := L1.pn (n + 1)
  refine Rn.st e2 f2.le (Rn.ret ⟨(f1.up fun x r => Or.inr r).tr (f2.up fun x r => Or.inl r), ⟨m2, q2⟩, ⟨F, by rw [f2.2 a (Ne.symm hne)]; exact g1, fun k hk => ?_⟩, by omega, h5, fun _ => rfl⟩)
  by_cases hkn : k = n
  · subst hkn; rw [vup_at]; exact g2
  · rw [vup_no hkn]; exact g3 k (by omega) hkn
theorem e_grow2 (h : LsAt T l a n f w n) (hn : n < 700) (hl : l < T.2.1) (ha : a < T.2.1) (ho : ∀ k, k < n → f k < T.2.1 ∧ AO T (f k)) : Rn T (c_J2_grow_2 G (some l) (Int32.ofNat n + 1) T) fun v T' => ∃ cap', v = some T.2.1 ∧ LsAt T' l T.2.1 n f true cap' ∧ n < cap' ∧ (∀ x, x ≠ T.2.1 → x ≠ l → T'.1 x = T.1 x) ∧ T'.2.1 = T.2.1 + 1 ∧ T'.2.2 ≤ T.2.2 + min 1100 (2 * n + 11) := by
  have h20 : Rn T (c_J2_grow_2_20 G (some l) (Int32.ofNat (n + 1)) (Int32.ofNat n) T) fun v T' => ∃ cap', v = some T.2.1 ∧ LsAt T' l T.2.1 n f true cap' ∧ n < cap' ∧ (∀ x, x ≠ T.2.1 → x ≠ l → T'.1 x = T.1 x) ∧ T'.2.1 = T.2.1 + 1 ∧ T'.2.2 ≤ T.2.2 + min 1100 (2 * n + 11) := by
    unfold c_J2_grow_2_20
    rw [e_newLen (by omega) rfl, Option.bind_some, h.o1, Option.bind_some]
    obtain ⟨⟨m, h1⟩, ⟨F, h2, h3⟩, h4, h5, h6⟩ := h
    refine Rn.cl (e_copyOf (n := n) h2 ha h5 (by omega) (by omega) (fun k hk => Or.inr ⟨f k, h3 k hk, ho k hk⟩)) fun v T1 _ ⟨v1, v2, v3, v4, F', v5, v6⟩ => ?_
    subst v1
    have hp : pV T1 (some l) 10 1 (va_rf (some T.2.1)) = some (xset T1.1 l (true, .inr (10, [.int m, va_rf (some T.2.1), .int (Int32.ofNat n)])), T1.2) := by
      unfold pV
      have hl1 := v2 l (by omega)
      rw [h1] at hl1
      simp -implicitDefEqProofs only [hl1, if_true]
      rfl
    refine Rn.st hp ⟨Nat.le_refl _, Nat.le_refl _⟩ (Rn.ret ⟨_, rfl, ⟨⟨m, xset_eq⟩, ⟨F', (xset_no (by omega)).trans v5, fun k hk => (v6 k hk).trans (h3 k hk)⟩, by omega, by omega, fun _ => rfl⟩, by omega, fun x q1 q2 => (xset_no q2).trans (v2 x q1), v3, by show T1.2.2 ≤ _; omega⟩)
  unfold c_J2_grow_2
  rw [ofn1 n (by omega)]
  simp -implicitDefEqProofs only [h.o1, h.len, Option.bind_some, not_true_eq_false, if_false, if_true]
  by_cases h0 : (0 : Int32) < Int32.ofNat n
  · rw [if_pos h0]
    exact h20
  · rw [if_neg h0]
    have hn0 : n = 0 := by
      by_cases z : n = 0
      · exact z
      · exact absurd ((olt (n := 0) (m := n) (by omega) (by omega)).mpr (by omega)) h0
    by_cases hs : some a = gS G 0
    · rw [if_pos hs]
      have hm : imax (10 : Int32) (Int32.ofNat (n + 1)) = Int32.ofNat 10 := by subst hn0; decide
      rw [e_max, Option.bind_some, hm, if_neg (by decide)]
      refine Rn.al ⟨Nat.le_succ _, Nat.le_add_right _ _⟩ ?_
      obtain ⟨⟨m, h1⟩, ⟨F, h2, h3⟩, h4, h5, h6⟩ := h
      have hx : ∀ x, x ≠ T.2.1 → (nR T "java/lang/Object" 10).1 x = T.1 x := fun x q => xset_no q
      have hp : pV (nR T "java/lang/Object" 10) (some l) 10 1 (va_rf (some T.2.1)) = some (xset (nR T "java/lang/Object" 10).1 l (true, .inr (10, [.int m, va_rf (some T.2.1), .int (Int32.ofNat n)])), (nR T "java/lang/Object" 10).2) := by
        unfold pV
        have hl1 := hx l (by omega)
        rw [h1] at hl1
        simp -implicitDefEqProofs only [hl1, if_true]
        rfl
      refine Rn.st hp ⟨Nat.le_refl _, Nat.le_refl _⟩ (Rn.ret ⟨10, rfl, ⟨⟨m, xset_eq⟩, ⟨fun _ => none, (xset_no (by omega)).trans xset_eq, fun k hk => by omega⟩, by omega, by omega, fun _ => rfl⟩, by omega, fun x q1 q2 => (xset_no q2).trans (hx x q1), rfl, by show T.2.2 + 10 ≤ _; omega⟩)
    · rw [if_neg hs]
      exact h20
theorem e_add (h : LsAt T l a n f w cap) (hn : n < 700) (hl : l < T.2.1) (ha : a < T.2.1) (hq : AO T q) (hq2 : q < T.2.1) (hql : q ≠ l) (hqa : q ≠ a) (ho : ∀ k, k < n → f k < T.2.1 ∧ AO T (f k) ∧ f k ≠ l) : Rn T (c_J2_add G (some l) (some q) T) fun v T' => v = 1 ∧ ∃ a' cap', LsAt T' l a' (n + 1) (va_up f n q) true cap' ∧ (a' = a ∧ cap' = cap ∨ a' = T.2.1 ∧ T'.1 a = T.1 a) ∧ (∀ x, x < T.2.1 → x ≠ l → x ≠ a → T'.1 x = T.1 x) ∧ a' < T'.2.1 ∧ T'.2.1 ≤ T.2.1 + 1 ∧ T'.2.2 ≤ T.2.2 + min 1100 (2 * n + 11) := by
  have hne := h.ne
  obtain ⟨m, T1, e0, e1, f1, L1⟩ := h.pm
  unfold c_J2_add
  rw [e0, Option.bind_some]
  refine Rn.st e1 f1.le ?_
  simp -implicitDefEqProofs only [L1.o1, L1.o2, L1.is, Option.bind_some, not_true_eq_false, if_false, if_true]
  have c2 : T1.2 = T.2 := f1.1
  have hq1 : AO T1 q := hq.mono (f1.2 q hql)
  have fin : ∀ T2 a' cap', LsAt T2 l a' (n + 1) (va_up f n q) true cap' → (a' = a ∧ cap' = cap ∨ a' = T.2.1 ∧ T2.1 a = T1.1 a) → (∀ x, x < T.2.1 → x ≠ l → x ≠ a → T2.1 x = T1.1 x) → a' < T2.2.1 → T2.2.1 ≤ T.2.1 + 1 → T2.2.2 ≤ T.2.2 + min 1100 (2 * n + 11) → Rn T2 (some ((1 : Int32), T2)) fun v T' => v = 1 ∧ ∃ a' cap', LsAt T' l a' (n + 1) (va_up f n q) true cap' ∧ (a' = a ∧ cap' = cap ∨ a' = T.2.1 ∧ T'.1 a = T.1 a) ∧ (∀ x, x < T.2.1 → x ≠ l → x ≠ a → T'.1 x = T.1 x) ∧ a' < T'.2.1 ∧ T'.2.1 ≤ T.2.1 + 1 ∧ T'.2.2 ≤ T.2.2 + min 1100 (2 * n + 11) := by
    intro T2 a' cap' k1 k2 k3 k4 k5 k6
    exact Rn.ret ⟨rfl, a', cap', k1, k2.elim Or.inl (fun k => Or.inr ⟨k.1, k.2.trans (f1.2 a (Ne.symm hne))⟩), fun x q1 q2 q3 => (k3 x q1 q2 q3).trans (f1.2 x q2), k4, k5, k6⟩
  refine Rn.cl (P := fun _ T2 => ∃ a' cap', LsAt T2 l a' (n + 1) (va_up f n q) true cap' ∧ (a' = a ∧ cap' = cap ∨ a' = T.2.1 ∧ T2.1 a = T1.1 a) ∧ (∀ x, x < T.2.1 → x ≠ l → x ≠ a → T2.1 x = T1.1 x) ∧ a' < T2.2.1 ∧ T2.2.1 ≤ T.2.1 + 1 ∧ T2.2.2 ≤ T.2.2 + min 1100 (2 * n + 11)) ?_ fun v T2 _ ⟨a', cap', k1, k2, k3, k4, k5, k6⟩ => fin T2 a' cap' k1 k2 k3 k4 k5 k6
  unfold c_J2_add_2
  rw [L1.len, Option.bind_some]
  have hn15 := L1.n1500
  have hcap := L1.2.2.2.1
  by_cases hc : n = cap
  · subst hc
    rw [if_pos rfl]
    simp -implicitDefEqProofs only [L1.is, Option.bind_some, not_true_eq_false, if_false, if_true]
    unfold c_J2_grow
    simp -implicitDefEqProofs only [L1.o2, L1.is, Option.bind_some, not_true_eq_false, if_false, if_true]
    refine Rn.cl (P := fun v T' => ∃ cap', v = some T1.2.1 ∧ LsAt T' l T1.2.1 n f true cap' ∧ n < cap' ∧ (∀ x, x ≠ T1.2.1 → x ≠ l → T'.1 x = T1.1 x) ∧ T'.2.1 = T1.2.1 + 1 ∧ T'.2.2 ≤ T1.2.2 + min 1100 (2 * n + 11)) (Rn.cl (e_grow2 L1 hn (by rw [c2]; exact hl) (by rw [c2]; exact ha) (fun k hk => ⟨by rw [c2]; exact (ho k hk).1, (ho k hk).2.1.mono (f1.2 _ (ho k hk).2.2)⟩)) fun v T2 _ q => Rn.ret q) fun v T2 _ ⟨cap', k1, k2, k3, k4, k5, k6⟩ => ?_
    subst k1
    rw [c2] at *
    refine Rn.mono (e_add211 k2 k3 (hq1.mono (k4 q (by omega) hql)) hql (by omega)) fun _ T3 _ ⟨g1, g2⟩ => ⟨T.2.1, cap', g2, Or.inr ⟨rfl, (g1.2 a (by omega)).trans (k4 a (by omega) (Ne.symm hne))⟩, fun x q1 q2 q3 => (g1.2 x (by omega)).trans (k4 x (by omega) q2), by rw [g1.1]; omega, by rw [g1.1]; omega, by rw [g1.1]; omega⟩
  · have hlt : n < cap := by have := L1.2.2.1; omega
    rw [if_neg (fun r => hc ((oeq (by omega) (by omega)).mp r))]
    refine Rn.mono (e_add211 L1 hlt hq1 hql hqa) fun _ T3 _ ⟨g1, g2⟩ => ⟨a, cap, ?_, Or.inl ⟨rfl, rfl⟩, fun x q1 q2 q3 => g1.2 x (by omega), by rw [g1.1, c2]; exact ha, by rw [g1.1, c2]; omega, by rw [g1.1, c2]; omega⟩
    have hw := g2.2.2.2.2 (by omega)
    rw [← hw]
    exact g2
theorem e_fast34 (h : LsAt T l a (n + 1) f w cap) : Rn T (c_J2_fastRemove_34 (some l) (some a) (Int32.ofNat n) T) fun _ T' => frm (fun x => x = l ∨ x = a) T T' ∧ LsAt T' l a n f w cap := by
  have hne := h.ne
  have hn15 := h.n1500
  have h4 := h.2.2.1
  unfold c_J2_fastRemove_34
  obtain ⟨T1, e1, f1, m1, g1⟩ := h.pn n
  refine Rn.st e1 f1.le ?_
  obtain ⟨-, ⟨F, k2, k3⟩, -, h5, h6⟩ := h
  have L1 : LsAt T1 l a n f w cap := ⟨⟨m1, g1⟩, ⟨F, by rw [f1.2 a (Ne.symm hne)]; exact k2, fun k hk => k3 k (by omega)⟩, by omega, h5, h6⟩
  obtain ⟨T2, e2, f2, F2, r1, r2, r3⟩ := L1.st (k := n) (by omega) (v := none) asg_null
  have hw := h6 (by omega)
  exact Rn.st e2 f2.le (Rn.ret ⟨(f1.up fun x r => Or.inl r).tr (f2.up fun x r => Or.inr r), ⟨m1, by rw [f2.2 l hne]; exact g1⟩, ⟨F2, by rw [hw]; exact r1, fun k hk => r3 k hk (by omega)⟩, by omega, h5, h6⟩)
theorem e_remove (h : LsAt T l a (n + 1) f w cap) {i : Nat} (hi : i < n + 1) (ho : ∀ k, k < n + 1 → AO T (f k) ∧ f k ≠ l) : Rn T (c_J2_remove (some l) (Int32.ofNat i) T) fun v T' => v = some (f i) ∧ frm (fun x => x = l ∨ x = a) T T' ∧ LsAt T' l a n (fun k => if k < i then f k else f (k + 1)) w cap := by
  have hne := h.ne
  have hn15 := h.n1500
  have h4 := h.2.2.1
  unfold c_J2_remove c_J19_checkIndex c_J11_checkIndex
  simp -implicitDefEqProofs only [h.o1, h.o2, h.is, h.ldR hi, Option.bind_some, not_true_eq_false, if_false, if_true, on0 (show i < 2000000 by omega), (olt (show i < 2000000 by omega) (show n + 1 < 2000000 by omega)).mpr hi]
  refine Rn.cl (P := fun _ T' => frm (fun x => x = l ∨ x = a) T T' ∧ LsAt T' l a n (fun k => if k < i then f k else f (k + 1)) w cap) ?_ fun v T2 _ q => Rn.ret ⟨rfl, q⟩
  obtain ⟨m, T1, e0, e1, f1, L1⟩ := h.pm
  unfold c_J2_fastRemove
  rw [e0, Option.bind_some]
  refine Rn.st e1 f1.le ?_
  rw [L1.o2, Option.bind_some]
  have h1 : Int32.ofNat (n + 1) - 1 = Int32.ofNat n := osub (a := n + 1) (b := 1) (by omega) (by omega)
  rw [h1]
  by_cases hin : i = n
  · subst hin
    rw [if_pos (Int32.le_refl _)]
    refine Rn.mono (e_fast34 L1) fun _ T3 _ ⟨g1, g2⟩ => ⟨(f1.up fun x r => Or.inl r).tr g1, g2.1, ?_, g2.2.2⟩
    obtain ⟨F, r1, r2⟩ := g2.2.1
    exact ⟨F, r1, fun k hk => by dsimp only; rw [if_pos hk]; exact r2 k hk⟩
  · rw [if_neg (fun r => by have := (ole (n := n) (m := i) (by omega) (by omega)).mp r; omega)]
    obtain ⟨⟨m1, j1⟩, ⟨F, k2, k3⟩, _, h5, h6⟩ := L1
    have hw := h6 (by omega)
    subst hw
    have har : aR T1 (some a) = some (.object "java/lang/Object", cap, F) := by
      rw [aR.eq_2]
      simp -implicitDefEqProofs only [k2]
      rfl
    have hi1 : Int32.ofNat i + 1 = Int32.ofNat (i + 1) := ofn1 i (by omega)
    have hs : Int32.ofNat n - Int32.ofNat i = Int32.ofNat (n - i) := osub (by omega) (by omega)
    have hcp : cpR T1 (some a) (Int32.ofNat i + 1) (some a) (Int32.ofNat i) (Int32.ofNat n - Int32.ofNat i) = some (xset T1.1 a (true, .inl (.object "java/lang/Object", cap, .inr (.inr (.inr (.inr (va_cpy F F (i + 1) i (n - i))))))), T1.2) := by
      unfold cpR
      rw [har, Option.bind_some, hi1, hs]
      simp -implicitDefEqProofs only [k2]
      rw [ocl (show i + 1 < 2000000 by omega), ocl (show i < 2000000 by omega), ocl (show n - i < 2000000 by omega)]
      rw [if_pos]
      refine ⟨⟨on0 (by omega), on0 (by omega), on0 (by omega)⟩, ⟨by show i + 1 + (n - i) ≤ cap; omega, by omega⟩, ?_⟩
      rw [List.all_eq_true]
      intro k hk
      have hk2 := List.mem_range.mp hk
      show asg _ _ (F (i + 1 + k)) = true
      rw [k3 _ (by omega)]
      exact (ho _ (by omega)).1 T1 (f1.2 _ (ho _ (by omega)).2)
    refine Rn.st hcp ⟨Nat.le_refl _, Nat.le_refl _⟩ ?_
    have L2 : LsAt (xset T1.1 a (true, .inl (.object "java/lang/Object", cap, .inr (.inr (.inr (.inr (va_cpy F F (i + 1) i (n - i))))))), T1.2) l a (n + 1) (fun k => if k < i then f k else if k < n then f (k + 1) else f k) true cap := by
      refine ⟨⟨m1, (xset_no hne).trans j1⟩, ⟨_, xset_eq, fun k hk => ?_⟩, by omega, h5, fun _ => rfl⟩
      unfold va_cpy
      dsimp only
      by_cases c1 : k < i
      · rw [if_neg (by omega), if_pos c1]; exact k3 k hk
      · by_cases c2 : k < n
        · rw [if_pos ⟨by omega, by omega⟩, if_neg c1, if_pos c2, show i + 1 + (k - i) = k + 1 by omega]
          exact k3 _ (by omega)
        · rw [if_neg (by omega), if_neg c1, if_neg c2]; exact k3 k hk
    have fx : frm (fun x => x = l ∨ x = a) T1 (xset T1.1 a (true, .inl (.object "java/lang/Object", cap, .inr (.inr (.inr (.inr (va_cpy F F (i + 1) i (n - i))))))), T1.2) := ⟨rfl, fun x hx => xset_no fun r => hx (Or.inr r)⟩
    refine Rn.mono (e_fast34 L2) fun _ T3 _ ⟨g1, g2⟩ => ⟨((f1.up fun x r => Or.inl r).tr fx).tr g1, g2.1, ?_, g2.2.2⟩
    obtain ⟨F2, r1, r2⟩ := g2.2.1
    refine ⟨F2, r1, fun k hk => ?_⟩
    rw [r2 k hk]
    dsimp only
    by_cases c1 : k < i
    · rw [if_pos c1, if_pos c1]
    · rw [if_neg c1, if_neg c1, if_pos hk]
end LS
