/-! plain law: lists of boxed numbers -/
set_option maxRecDepth 100000
def BoxdAt (T : xF) (a : Nat) (v : Int32) : Prop := ∃ w, T.1 a = some (w, .inr (11, [.int v]))
theorem BoxdAt.cst {T : xF} {a : Nat} {v : Int32} (h : BoxdAt T a v) : cst T (some a) [11] = true := by
  obtain ⟨w, h⟩ := h
  rw [cst.eq_2]; simp -implicitDefEqProofs only [h]; rfl
theorem BoxdAt.is {T : xF} {a : Nat} {v : Int32} (h : BoxdAt T a v) : isO T (some a) 11 = true := by
  obtain ⟨w, h⟩ := h
  rw [isO.eq_1]; unfold oF; simp [h]
theorem BoxdAt.iv {T : xF} {a : Nat} {v : Int32} (h : BoxdAt T a v) : c_J14_intValue T (some a) = some v := by
  obtain ⟨w, h⟩ := h
  unfold c_J14_intValue oI oF
  simp [h, vI]
theorem BoxdAt.ao {T : xF} {a : Nat} {v : Int32} (h : BoxdAt T a v) : AO T a := by
  obtain ⟨w, h⟩ := h
  exact fun T' e => asg_o (e.trans h) (by omega)
theorem BoxdAt.fr {T T' : xF} {a : Nat} {v : Int32} (h : BoxdAt T a v) (e : T'.1 a = T.1 a) : BoxdAt T' a v := by
  obtain ⟨w, h⟩ := h
  exact ⟨w, e.trans h⟩
/-- a number is boxed -/
theorem e_box {G : xG} {T : xF} {own : Nat → Nat} (hb : Fz own T (Bx G)) {v : Nat} (hv : v < 2000) : Rn T (c_J14_valueOf G (Int32.ofNat v) T) fun r T' => ∃ q, r = some q ∧ BoxdAt T' q (Int32.ofNat v) ∧ q < T'.2.1 ∧ (∀ x, x < T.2.1 → T'.1 x = T.1 x) ∧ (own q = 11 ∧ q < T.2.1 ∨ q = T.2.1) ∧ T.2.1 ≤ T'.2.1 ∧ T'.2.1 ≤ T.2.1 + 1 ∧ T'.2.2 ≤ T.2.2 + 1 := by
  have hb : Fz own T (Bx0 G) := hb.imp fun _ q => q.1
  unfold c_J14_valueOf
  have n128 : ¬ Int32.ofNat v < (-128 : Int32) := by
    rw [i32lt, tIo (by omega), show (-128 : Int32).toInt = -128 by decide]
    omega
  rw [if_neg n128]
  by_cases h : (127 : Int32) < Int32.ofNat v
  · rw [if_pos h]
    unfold c_J14_valueOf_23
    refine Rn.al ⟨Nat.le_succ _, Nat.le_add_right _ _⟩ ?_
    have lo : ∀ x, x < T.2.1 → (nO T 11 1 [.int 0]).1 x = T.1 x := fun x q => xset_no (by omega)
    unfold c_J14_init c_J13_init
    simp -implicitDefEqProofs only [Option.bind_some, not_true_eq_false, if_false, if_true, Option.isSome_some]
    obtain ⟨T2, e2, c2, f2, o2⟩ := pv_any (T := nO T 11 1 [.int 0]) (o := T.2.1) (ci := 11) (k := 0) (v := .int (Int32.ofNat v)) xset_eq
    refine Rn.cl (P := fun _ T' => T' = T2) ?_ fun _ T3 _ e3 => ?_
    · exact Rn.st e2 (x2_le c2) (Rn.ret rfl)
    · subst e3
      have n : T3.2.1 = T.2.1 + 1 := by rw [c2]; rfl
      have n2 : T3.2.2 = T.2.2 + 1 := by rw [c2]; rfl
      exact Rn.ret ⟨T.2.1, rfl, ⟨true, o2⟩, by omega, fun x q => (f2 x (by omega)).trans (lo x q), Or.inr rfl, by omega, by omega, by omega⟩
  · rw [if_neg h]
    have hv7 : v ≤ 127 := by
      by_cases z : v ≤ 127
      · exact z
      · exact absurd ((olt (n := 127) (m := v) (by omega) (by omega)).mpr (by omega)) h
    obtain ⟨ca, w, F, b1, b2, b3, b4⟩ := hb.now
    obtain ⟨q, w', q1, q2, q3⟩ := b4 (v + 128) (by omega)
    have e : Int32.ofNat v + 128 = Int32.ofNat (v + 128) := oadd v 128
    have l : ldR T (gS G 2) (Int32.ofNat v + 128) = some (some q) := by
      rw [e, b1, ldR.eq_1]
      have : aR T (some ca) = some (.object "java/lang/Integer", 256, F) := by
        rw [aR.eq_2]
        simp -implicitDefEqProofs only [b3]
        rfl
      rw [this, Option.bind_some, if_pos (inb_o (by show v + 128 < 256; omega) (by omega)), ocl (by omega)]
      exact congrArg some q1
    rw [l, Option.bind_some]
    have ev : Int32.ofNat (v + 128) - 128 = Int32.ofNat v := by rw [show Int32.ofNat (v + 128) - 128 = Int32.ofNat (v + 128 - 128) from osub (b := 128) (by omega) (by omega), Nat.add_sub_cancel]
    rw [ev] at q3
    refine Rn.ret ⟨q, rfl, ⟨w', q3⟩, q2, fun _ _ => rfl, Or.inl ⟨?_, q2⟩, Nat.le_refl _, by omega, by omega⟩
    have oca : own ca = 11 := hb.own fun T' h => by
      obtain ⟨ca', w2, F', d1, d2, d3, d4⟩ := h
      rw [b1] at d1
      cases d1
      rw [d3]; exact fun q => by cases q
    by_cases oq : own q = 11
    · exact oq
    exfalso
    have hne : ca ≠ q := fun r => oq (r ▸ oca)
    have h := hb (fun z => if z = q then none else T.1 z, T.2) (Nat.le_refl _) fun z _ hz => if_neg (fun (r : z = q) => oq (r ▸ hz))
    obtain ⟨ca', w2, F', d1, d2, d3, d4⟩ := h
    rw [b1] at d1
    cases d1
    have d3 : (if ca = q then none else T.1 ca) = _ := d3
    rw [if_neg hne, b3] at d3
    cases d3
    obtain ⟨q', w3, g1, g2, g3⟩ := d4 (v + 128) (by omega)
    rw [q1] at g1
    cases g1
    have g3 : (if q = q then none else T.1 q) = _ := g3
    rw [if_pos rfl] at g3
    cases g3
section IL
variable {G : xG} {T T' : xF} {A : Ad} {N0 l n : Nat} {val : Nat → Nat}
def IL (A : Ad) (T : xF) (N0 l n : Nat) (val : Nat → Nat) : Prop := ∃ a f w cap, LsAt T l a n f w cap ∧ N0 ≤ l ∧ l < T.2.1 ∧ a < T.2.1 ∧ (aO A a = 11 ∧ cap = 0 ∨ N0 ≤ a) ∧ ∀ k, k < n → f k < T.2.1 ∧ BoxdAt T (f k) (Int32.ofNat (val k)) ∧ (aO A (f k) = 11 ∨ N0 ≤ f k)
theorem IL.keep (h : IL A T N0 l n val) (hl : T.2.1 ≤ T'.2.1) (k : ∀ x, x < T.2.1 → aO A x = 11 ∨ N0 ≤ x → T'.1 x = T.1 x) : IL A T' N0 l n val := by
  obtain ⟨a, f, w, cap, h1, h2, h3, h4, h5, h6⟩ := h
  refine ⟨a, f, w, cap, h1.fr (k l h3 (Or.inr h2)) (k a h4 (h5.imp (fun q => q.1) id)), h2, by omega, by omega, h5, fun j hj => ?_⟩
  obtain ⟨q1, q2, q3⟩ := h6 j hj
  exact ⟨by omega, q2.fr (k _ q1 q3), q3⟩
theorem IL.is (h : IL A T N0 l n val) : isO T (some l) 10 = true := by
  obtain ⟨a, f, w, cap, h1, -⟩ := h
  exact h1.is
theorem IL.size (h : IL A T N0 l n val) : c_J2_size T (some l) = some (Int32.ofNat n) := by
  obtain ⟨a, f, w, cap, h1, -⟩ := h
  exact h1.size
theorem IL.emp (h : IL A T N0 l n val) : c_J2_isEmpty T (some l) = some (b01 (n == 0)) := by
  obtain ⟨a, f, w, cap, h1, -⟩ := h
  exact h1.emp
theorem IL.get (h : IL A T N0 l n val) {k : Nat} (hk : k < n) : ∃ q, c_J2_get T (some l) (Int32.ofNat k) = some (some q) ∧ BoxdAt T q (Int32.ofNat (val k)) := by
  obtain ⟨a, f, w, cap, h1, h2, h3, h4, h5, h6⟩ := h
  exact ⟨f k, h1.get hk, (h6 k hk).2.1⟩
theorem IL.add (h : IL A T N0 l n val) (hn : n < 700) {q v : Nat} (hq : BoxdAt T q (Int32.ofNat v)) (hq2 : q < T.2.1) (hq3 : aO A q = 11 ∨ N0 ≤ q) : Rn T (c_J2_add G (some l) (some q) T) fun _ T' => IL A T' N0 l (n + 1) (va_up val n v) ∧ (∀ x, x < N0 → x < T.2.1 → T'.1 x = T.1 x) ∧ T'.2.1 ≤ T.2.1 + 1 ∧ T'.2.2 ≤ T.2.2 + min 1100 (2 * n + 11) := by
  obtain ⟨a, f, w, cap, h1, h2, h3, h4, h5, h6⟩ := h
  have hl := h1.1
  have hI : ∀ x : Nat, ∀ v, BoxdAt T x v → x ≠ l ∧ x ≠ a := by
    intro x v hx
    obtain ⟨w1, hx⟩ := hx
    obtain ⟨m, hl⟩ := hl
    obtain ⟨F, ha, -⟩ := h1.2.1
    refine ⟨fun r => ?_, fun r => ?_⟩
    · rw [r, hl] at hx; cases hx
    · rw [r, ha] at hx; cases hx
  obtain ⟨ql, qa⟩ := hI q _ hq
  refine Rn.mono (e_add h1 hn h3 h4 hq.ao hq2 ql qa fun k hk => ⟨(h6 k hk).1, (h6 k hk).2.1.ao, (hI _ _ (h6 k hk).2.1).1⟩) fun v' T' hle ⟨_, a', cap', j1, j2, j3, j4, j5, j6⟩ => ?_
  have hle1 := hle.1
  refine ⟨⟨a', _, true, cap', j1, h2, by omega, j4, ?_, fun k hk => ?_⟩, fun x hx hx2 => ?_, j5, j6⟩
  · rcases j2 with ⟨r, r2⟩ | ⟨r, _⟩
    · rcases h5 with ⟨q1, q2⟩ | q1
      · exfalso
        have := j1.2.2.1
        omega
      · exact Or.inr (by omega)
    · right; omega
  · by_cases e : k = n
    · rw [e, vup_at, vup_at]
      exact ⟨by omega, hq.fr (j3 q hq2 ql qa), hq3⟩
    · rw [vup_no e, vup_no e]
      obtain ⟨q1, q2, q3⟩ := h6 k (by omega)
      obtain ⟨z1, z2⟩ := hI _ _ q2
      exact ⟨by omega, q2.fr (j3 _ q1 z1 z2), q3⟩
  · by_cases e : x = a
    · subst e
      rcases j2 with ⟨r, r2⟩ | ⟨r, r2⟩
      · rcases h5 with ⟨q1, q2⟩ | q1
        · exfalso
          have := j1.2.2.1
          omega
        · omega
      · exact r2
    · exact j3 x hx2 (by omega) e
end IL
