/-! plain law: counting -/
set_option maxRecDepth 100000
/-- those who vote, below x -/
def vcv (s : St) : Nat → Nat × (Nat → Nat)
  | 0 => (0, fun _ => 0)
  | x + 1 => if vtr (sE s) (sG s) x = true then ((vcv s x).1 + 1, va_up (vcv s x).2 (vcv s x).1 x) else vcv s x
theorem vcv_le {s : St} : ∀ x, (vcv s x).1 ≤ x := by
  intro x
  induction x with
  | zero => exact Nat.le_refl _
  | succ x ih =>
    show (if vtr (sE s) (sG s) x = true then _ else _ : Nat × (Nat → Nat)).1 ≤ _
    split
    · exact Nat.succ_le_succ ih
    · omega
theorem vcv_mono {s : St} {x : Nat} : ∀ y, x ≤ y → (vcv s x).1 ≤ (vcv s y).1 := by
  intro y
  induction y with
  | zero => intro h; rw [show x = 0 by omega]; exact Nat.le_refl _
  | succ y ih =>
    intro h
    by_cases q : x = y + 1
    · rw [q]; exact Nat.le_refl _
    · refine Nat.le_trans (ih (by omega)) ?_
      show _ ≤ (if vtr (sE s) (sG s) y = true then _ else _ : Nat × (Nat → Nat)).1
      split
      · exact Nat.le_succ _
      · exact Nat.le_refl _
theorem vcv_lt {s : St} : ∀ x i, i < (vcv s x).1 → (vcv s x).2 i < x := by
  intro x
  induction x with
  | zero => intro i hi; exact absurd hi (Nat.not_lt_zero i)
  | succ x ih =>
    intro i hi
    by_cases h : vtr (sE s) (sG s) x = true
    · have e : vcv s (x + 1) = ((vcv s x).1 + 1, va_up (vcv s x).2 (vcv s x).1 x) := if_pos h
      rw [e] at hi ⊢
      have hi : i < (vcv s x).1 + 1 := hi
      show va_up (vcv s x).2 (vcv s x).1 x i < _
      by_cases q : i = (vcv s x).1
      · rw [q, vup_at]; omega
      · rw [vup_no q]
        have := ih i (by omega)
        omega
    · have e : vcv s (x + 1) = vcv s x := if_neg h
      rw [e] at hi ⊢
      have := ih i hi
      omega
theorem oneg1 {n : Nat} (h : n + 1 < 2000000) : Int32.ofNat (n + 1) + (-1) = Int32.ofNat n := by
  rw [← Int32.sub_eq_add_neg]
  exact osub (a := n + 1) (b := 1) (by omega) h
section CM
variable {G : xG} {T T1 : xF} {o : Nat} {s s' : St} {A A' : Ad} {S S1 : MS} {g : Gw} {Q : Nat → Nat → Int32} {M N0 N1 : Nat}
theorem e_voters (ok : StOK s) (h : CIa G T o s A) : Rn T (c_X1_voters G (some o) T) fun v T' => v = some T.2.1 ∧ CIa G T' o s (rtg A T.2.1) ∧ IL (rtg A T.2.1) T' T.2.1 T.2.1 (vcv s (eN (sE s))).1 (vcv s (eN (sE s))).2 ∧ T'.2.1 ≤ T.2.1 + 61 ∧ T'.2.2 ≤ T.2.2 + 9003 := by
  have hn := ok.1.n30
  unfold c_X1_voters
  refine Rn.al ⟨Nat.le_succ _, Nat.le_add_right _ _⟩ ?_
  have lo : ∀ x, x < T.2.1 → (nO T 10 3 [.int 0, .null, .int 0]).1 x = T.1 x := fun x q => xset_no (by omega)
  have st1 : StA G (nO T 10 3 [.int 0, .null, .int 0]) := h.sta _ (Nat.le_succ _) fun x q _ => lo x q
  obtain ⟨d0, d1, g0, g1, l0, l1, o0, o1⟩ := sta_own h.sta
  refine Rn.cl (e_linit (l := T.2.1) xset_eq st1 (by rw [g0]; exact fun q => by cases q; omega)) fun v T2 _ ⟨e0, w0, q1, q2, q3⟩ => ?_
  rw [g0] at q1
  cases q1
  have h2 : CIa G T2 o s (rtg A T.2.1) := h.fresh (by rw [q3.1]; exact Nat.le_succ _) fun x q => (q3.2 x (by omega)).trans (lo x q)
  have n2 : T2.2.1 = T.2.1 + 1 := by rw [q3.1]; rfl
  have z2 : T2.2.2 = T.2.2 + 3 := by rw [q3.1]; rfl
  have i2 : IL (rtg A T.2.1) T2 T.2.1 T.2.1 0 (fun _ => 0) := ⟨d0, _, _, _, q2, Nat.le_refl _, by omega, by omega, Or.inl ⟨(if_pos l0).trans o0, rfl⟩, fun k hk => absurd hk (Nat.not_lt_zero k)⟩
  refine loop_rule (σ := xF) (N := eN (sE s)) (fun x T' => CIa G T' o s (rtg A T.2.1) ∧ IL (rtg A T.2.1) T' T.2.1 T.2.1 (vcv s x).1 (vcv s x).2 ∧ T'.2.1 ≤ T.2.1 + 1 + 2 * (vcv s x).1 ∧ T'.2.2 ≤ T.2.2 + 3 + 300 * (vcv s x).1) (fun k c T' => Rn T' (c_X1_voters_10 G k (some o) (some T.2.1) (Int32.ofNat c) T') _) ?_ ?_ FU (by show eN (sE s) < 6000; omega) T2 ⟨h2, i2, by show T2.2.1 ≤ T.2.1 + 1 + 2 * 0; omega, by show T2.2.2 ≤ T.2.2 + 3 + 300 * 0; omega⟩
  · rintro f c T4 hc ⟨h4, i4, d3, d4⟩ K
    have c3 : c < 30 := by omega
    have cle := vcv_le (s := s) c
    show Rn T4 (c_X1_voters_10_b G (c_X1_voters_10 G f) (some o) (some T.2.1) (Int32.ofNat c) T4) _
    unfold c_X1_voters_10_b
    simp -implicitDefEqProofs only [h4.q1, h4.isr, h4.cells ok, leN hc hn, h4.q4, h4.cc.is, n_isVoter h4 c3, c_X1_voters_43, ofn1 c (by omega), Option.bind_some, not_true_eq_false, if_false, if_true]
    by_cases hv : vtr (sE s) (sG s) c = true
    · have e : vcv s (c + 1) = ((vcv s c).1 + 1, va_up (vcv s c).2 (vcv s c).1 c) := if_pos hv
      rw [hv, if_neg (show ¬ b01 true = 0 by decide)]
      refine Rn.cl (e_box h4.bxx (v := c) (by omega)) fun v T7 _ ⟨q, w1, w2, w3, w4, w5, w6, w7, w8⟩ => ?_
      subst w1
      have N4 : T.2.1 < T4.2.1 := by obtain ⟨_, _, _, _, _, _, r, _⟩ := i4; exact r
      have h7 : CIa G T7 o s (rtg A T.2.1) := h4.junk (E := fun _ => False) ⟨w6, fun x q1 _ => w4 x q1⟩ fun _ _ q => q.elim
      have i7 : IL (rtg A T.2.1) T7 T.2.1 T.2.1 _ _ := i4.keep w6 fun x q1 _ => w4 x q1
      rw [if_neg (not_not_intro i7.is)]
      refine Rn.cl (i7.add (by omega) w2 w3 (w5.imp (fun r => r.1) fun r => by omega)) fun v T8 hl8 ⟨i8, y1, y2, y3⟩ => ?_
      have h8 : CIa G T8 o s (rtg A T.2.1) := h7.junk (E := fun x => T.2.1 ≤ x) ⟨hl8.1, fun x q1 q2 => y1 x (by omega) q1⟩ fun x _ q => rtg_ge q
      refine K T8 ?_
      rw [e]
      exact ⟨h8, i8, by show T8.2.1 ≤ T.2.1 + 1 + 2 * ((vcv s c).1 + 1); omega, by show T8.2.2 ≤ T.2.2 + 3 + 300 * ((vcv s c).1 + 1); omega⟩
    · have e : vcv s (c + 1) = vcv s c := if_neg hv
      rw [show vtr (sE s) (sG s) c = false by simpa using hv, if_pos (show b01 false = 0 by decide)]
      refine K T4 ?_
      rw [e]
      exact ⟨h4, i4, d3, d4⟩
  · rintro f T3 ⟨h3, i3, b3, b4⟩
    show Rn T3 (c_X1_voters_10_b G (c_X1_voters_10 G f) (some o) (some T.2.1) (Int32.ofNat (eN (sE s))) T3) _
    unfold c_X1_voters_10_b
    have cle := vcv_le (s := s) (eN (sE s))
    simp -implicitDefEqProofs only [h3.q1, h3.isr, h3.cells ok, Int32.le_refl, Option.bind_some, not_true_eq_false, if_false, if_true]
    exact Rn.ret ⟨rfl, h3, i3, by omega, by omega⟩
theorem mx_st {n k r c m : Nat} {val : Nat → Nat} (h : CIa G T o s (rtg A N0)) (i : IL (rtg A N0) T N0 N0 m val) (hN : N0 < N1) (hm : MxAt T N1 n k Q) (hr : r < n) (hc : c < k) (hk : k < 2000000) (v : Int32) : ∃ T', stA T (some (N1 + 1 + r)) .int (Int32.ofNat c) v = some T' ∧ xle T T' ∧ T'.2 = T.2 ∧ CIa G T' o s (rtg A N0) ∧ IL (rtg A N0) T' N0 N0 m val ∧ MxAt T' N1 n k (upd2 Q r c v) := by
  obtain ⟨T1, e1, f1, m1⟩ := hm.st hr hc hk v
  obtain ⟨fz, z1, z2⟩ := hm.2 r hr
  refine ⟨T1, e1, f1.le, f1.1, h.junk f1.c fun x _ q => ?_, i.keepi (by rw [f1.1]; exact Nat.le_refl _) fun x q1 => f1.2 x fun q => ?_, m1⟩
  · have q' : x = N1 + 1 + r := q
    rw [q']; exact rtg_ge (by omega)
  · have q' : x = N1 + 1 + r := q
    exact q1 _ _ (q' ▸ z1)
/-- steps from one who votes to another -/
abbrev vd (s : St) : Nat → Nat → Nat := fun a b => dsi (eW (sE s)) ((vcv s (eN (sE s))).2 a) ((vcv s (eN (sE s))).2 b)
theorem vd_ok (ok : StOK s) {a b : Nat} (ha : a < (vcv s (eN (sE s))).1) (hb : b < (vcv s (eN (sE s))).1) : stp (eW (sE s)) (Int32.ofNat ((vcv s (eN (sE s))).2 a)) (Int32.ofNat ((vcv s (eN (sE s))).2 b)) = Int32.ofNat (vd s a b) ∧ vd s a b < 100 ∧ vd s a b = vd s b a := by
  have hn := ok.1.n30
  obtain ⟨⟨w, h, h1, h2, h3, h4, h5, h6, h7⟩, -⟩ := ok.1
  have va := vcv_lt (s := s) _ a ha
  have vb := vcv_lt (s := s) _ b hb
  unfold vd
  rw [h5]
  exact dsi_ok w h1 h3 _ (by omega) _ (by omega)
/-- the fewest steps over all -/
abbrev vfew (s : St) (t : Nat) : Nat := mnb (fun a => V (vd s) (vcv s (eN (sE s))).1 (2 ^ (vcv s (eN (sE s))).1 - 1 - 2 ^ a) a) t (vcv s (eN (sE s))).1
theorem pw_le {n : Nat} (h : n ≤ 9) : 2 ^ n ≤ 512 := (Nat.pow_le_pow_right (by decide) h : 2 ^ n ≤ 2 ^ 9)
theorem V_sm (ok : StOK s) (h9 : (vcv s (eN (sE s))).1 ≤ 9) {l a : Nat} (hl : l < 2 ^ (vcv s (eN (sE s))).1) (ha : a < (vcv s (eN (sE s))).1) : V (vd s) (vcv s (eN (sE s))).1 l a ≤ 51100 := by
  have := V_le (d := vd s) (n := (vcv s (eN (sE s))).1) (fun a b ha hb => (vd_ok ok ha hb).2.1) l hl a ha
  have := pw_le h9
  omega
theorem Vs_sm (ok : StOK s) (h9 : (vcv s (eN (sE s))).1 ≤ 9) {l a b : Nat} (hl : l < 2 ^ (vcv s (eN (sE s))).1) (ha : a < (vcv s (eN (sE s))).1) (hb : b < (vcv s (eN (sE s))).1) : Vs (vd s) (vcv s (eN (sE s))).1 l a b ≤ 100000 := by
  unfold Vs
  split
  · have := Nat.two_pow_pos b
    have := V_sm ok h9 (l := l - 2 ^ b) (a := b) (by omega) hb
    have := (vd_ok ok ha hb).2.1
    omega
  · exact Nat.le_refl _
theorem e_ct177 (ok : StOK s) (h9 : (vcv s (eN (sE s))).1 ≤ 9) (h2 : 2 ≤ (vcv s (eN (sE s))).1) (hm : MxAt T N1 (2 ^ (vcv s (eN (sE s))).1) (vcv s (eN (sE s))).1 Q) (hQ : ∀ l a, l < 2 ^ (vcv s (eN (sE s))).1 → a < (vcv s (eN (sE s))).1 → Q l a = Int32.ofNat (V (vd s) (vcv s (eN (sE s))).1 l a)) : c_X1_counting_177 G FU (Int32.ofNat (vcv s (eN (sE s))).1) (some N1) (Int32.ofNat 100000) 0 T = some (Int32.ofNat (vfew s 100000), T) := by
  unfold vfew
  generalize hv : (fun a => V (vd s) (vcv s (eN (sE s))).1 (2 ^ (vcv s (eN (sE s))).1 - 1 - 2 ^ a) a) = F
  have vsm := fun l a => V_sm ok h9 (l := l) (a := a)
  generalize (vcv s (eN (sE s))).1 = n at *
  have p5 := pw_le h9
  have p2 := Nat.two_pow_pos n
  refine loop_rule (σ := Unit) (N := n) (fun _ _ => True) (fun m a _ => c_X1_counting_177 G m (Int32.ofNat n) (some N1) (Int32.ofNat (mnb F 100000 a)) (Int32.ofNat a) T = _) ?_ ?_ FU (by show n < 6000; omega) () trivial
  · intro m a _ ha _ K
    have tba : tb (2 ^ n - 1) a := (tb_co (n := n) (l := 0) p2 ha).mpr (by unfold tb; simp)
    have l1 := tb_le tba
    have l2 := Nat.two_pow_pos a
    have ban : (Int32.ofNat (2 ^ n) - 1) &&& (((1 : Int32) <<< (Int32.ofNat a &&& 31)) ^^^ (-1 : Int32)) = Int32.ofNat (2 ^ n - 1 - 2 ^ a) := by
      rw [show Int32.ofNat (2 ^ n) - 1 = Int32.ofNat (2 ^ n - 1) from osub (b := 1) (by omega) (by omega)]
      exact tb_an a (by omega) _ (by omega) tba
    have fa : F a = V (vd s) n (2 ^ n - 1 - 2 ^ a) a := by rw [← hv]
    have f1 := vsm (2 ^ n - 1 - 2 ^ a) a (by omega) ha
    have f2 := (mnb_le (F := F) (t := 100000) a).1
    show c_X1_counting_177_b G (c_X1_counting_177 G m) (Int32.ofNat n) (some N1) (Int32.ofNat (mnb F 100000 a)) (Int32.ofNat a) T = _
    unfold c_X1_counting_177_b
    rw [if_neg (fun q => by have := (ole (n := n) (m := a) (by omega) (by omega)).mp q; omega), if_neg (show ¬ Int32.ofNat n ≤ 1 from fun q => by have := (ole (n := n) (m := 1) (by omega) (by omega)).mp q; omega), hm.len, Option.bind_some, ban, hm.ldR (by omega) (by omega), Option.bind_some, hm.ld (by omega) ha (by omega), Option.bind_some, hQ _ _ (by omega) ha, e_min, Option.bind_some, omin (by omega) (by omega), ofn1 a (by omega), ← fa]
    exact K () trivial
  · intro m _ _
    show c_X1_counting_177_b G (c_X1_counting_177 G m) (Int32.ofNat n) (some N1) (Int32.ofNat (mnb F 100000 n)) (Int32.ofNat n) T = _
    unfold c_X1_counting_177_b
    rw [if_pos (Int32.le_refl _)]
theorem e_ct45 (ok : StOK s) (h : CIa G T o s (rtg A N0)) (hi : IL (rtg A N0) T N0 N0 (vcv s (eN (sE s))).1 (vcv s (eN (sE s))).2) (hN : N0 < N1) (h9 : (vcv s (eN (sE s))).1 ≤ 9) (hm : MxAt T N1 (2 ^ (vcv s (eN (sE s))).1) (vcv s (eN (sE s))).1 (fun _ _ => 0)) (x : Int32) {P : Int32 → xF → Prop} (fin : ∀ T' Q, CIa G T' o s (rtg A N0) → T'.2 = T.2 → MxAt T' N1 (2 ^ (vcv s (eN (sE s))).1) (vcv s (eN (sE s))).1 Q → (∀ l a, l < 2 ^ (vcv s (eN (sE s))).1 → a < (vcv s (eN (sE s))).1 → Q l a = Int32.ofNat (V (vd s) (vcv s (eN (sE s))).1 l a)) → Rn T' (c_X1_counting_177 G FU (Int32.ofNat (vcv s (eN (sE s))).1) (some N1) x 0 T') P) : Rn T (c_X1_counting_45 G FU (some o) (some N0) (Int32.ofNat (vcv s (eN (sE s))).1) (some N1) x 1 T) P := by
  have vsm := fun l a => V_sm ok h9 (l := l) (a := a)
  have vss := fun l a b => Vs_sm ok h9 (l := l) (a := a) (b := b)
  have vdo := fun a b => vd_ok ok (a := a) (b := b)
  have vlt := vcv_lt (s := s) (eN (sE s))
  generalize hdd : vd s = d at *
  have vst : ∀ a b, a < (vcv s (eN (sE s))).1 → b < (vcv s (eN (sE s))).1 → stp (eW (sE s)) (Int32.ofNat ((vcv s (eN (sE s))).2 a)) (Int32.ofNat ((vcv s (eN (sE s))).2 b)) = Int32.ofNat (d a b) ∧ d a b < 100 := fun a b ha hb => ⟨(vdo a b ha hb).1, (vdo a b ha hb).2.1⟩
  clear vdo
  generalize (vcv s (eN (sE s))).2 = val at *
  generalize (vcv s (eN (sE s))).1 = n at *
  have p5 := pw_le h9
  have p2 := Nat.two_pow_pos n
  let Iv : Nat → xF → (Nat → Nat → Int32) → Prop := fun l T' Q => CIa G T' o s (rtg A N0) ∧ IL (rtg A N0) T' N0 N0 n val ∧ T'.2 = T.2 ∧ MxAt T' N1 (2 ^ n) n Q ∧ ∀ l' a, l' < l → a < n → Q l' a = Int32.ofNat (V d n l' a)
  refine loop_rule (σ := xF) (N := 2 ^ n - 1) (fun i T' => ∃ Q, Iv (i + 1) T' Q) (fun f i T' => Rn T' (c_X1_counting_45 G f (some o) (some N0) (Int32.ofNat n) (some N1) x (Int32.ofNat (i + 1)) T') P) ?_ ?_ FU (by show 2 ^ n - 1 < 6000; omega) T ⟨_, h, hi, rfl, hm, fun l a hl ha => by rw [show l = 0 by omega]; rfl⟩
  · rintro f i T1 hi1 ⟨Q1, h1, i1, c1, m1, g1⟩ K
    have nle : ¬ Int32.ofNat (2 ^ n) ≤ Int32.ofNat (i + 1) := fun q => by have := (ole (n := 2 ^ n) (m := i + 1) (by omega) (by omega)).mp q; omega
    show Rn T1 (c_X1_counting_45_b G (c_X1_counting_45 G f) (some o) (some N0) (Int32.ofNat n) (some N1) x (Int32.ofNat (i + 1)) T1) P
    unfold c_X1_counting_45_b
    rw [m1.len, Option.bind_some, if_neg nle]
    refine loop_rule (σ := xF) (N := n) (fun a T' => ∃ Q, Iv (i + 1) T' Q ∧ ∀ a', a' < a → Q (i + 1) a' = Int32.ofNat (V d n (i + 1) a')) (fun f2 a T' => Rn T' (c_X1_counting_55 G (c_X1_counting_45 G f) f2 (some o) (some N0) (Int32.ofNat n) (some N1) x (Int32.ofNat (i + 1)) (Int32.ofNat a) T') P) ?_ ?_ FU (by show n < 6000; omega) T1 ⟨Q1, ⟨h1, i1, c1, m1, g1⟩, fun a ha => absurd ha (Nat.not_lt_zero a)⟩
    · rintro f2 a T2 ha ⟨Q2, ⟨h2, i2, c2, m2, g2⟩, g2'⟩ K2
      show Rn T2 (c_X1_counting_55_b G (c_X1_counting_45 G f) (c_X1_counting_55 G (c_X1_counting_45 G f) f2) (some o) (some N0) (Int32.ofNat n) (some N1) x (Int32.ofNat (i + 1)) (Int32.ofNat a) T2) P
      unfold c_X1_counting_55_b
      rw [if_neg (fun q => by have := (ole (n := n) (m := a) (by omega) (by omega)).mp q; omega), m2.ldR (show i + 1 < 2 ^ n by omega) (by omega), Option.bind_some]
      obtain ⟨T3, e3, l3, c3, h3, i3, m3⟩ := mx_st h2 i2 hN m2 (show i + 1 < 2 ^ n by omega) ha (by omega) (100000 : Int32)
      refine Rn.st e3 l3 ?_
      refine loop_rule (σ := xF) (N := n) (fun b T' => ∃ Q, Iv (i + 1) T' Q ∧ (∀ a', a' < a → Q (i + 1) a' = Int32.ofNat (V d n (i + 1) a')) ∧ Q (i + 1) a = Int32.ofNat (mnb (Vs d n (i + 1) a) 100000 b)) (fun f3 b T' => Rn T' (c_X1_counting_73 G (c_X1_counting_45 G f) (c_X1_counting_55 G (c_X1_counting_45 G f) f2) f3 (some o) (some N0) (Int32.ofNat n) (some N1) x (Int32.ofNat (i + 1)) (Int32.ofNat a) (Int32.ofNat b) T') P) ?_ ?_ FU (by show n < 6000; omega) T3 ⟨_, ⟨h3, i3, c3.trans c2, m3, fun l' a' hl ha' => ?_⟩, fun a' ha' => ?_, ?_⟩
      · rintro f3 b T4 hb ⟨Q4, ⟨h4, i4, c4, m4, g4⟩, g4', g4a⟩ K3
        have fb := (mnb_le (F := Vs d n (i + 1) a) (t := 100000) b).1
        have vb := vss (i + 1) a b (by omega) ha hb
        show Rn T4 (c_X1_counting_73_b G (c_X1_counting_45 G f) (c_X1_counting_55 G (c_X1_counting_45 G f) f2) (c_X1_counting_73 G (c_X1_counting_45 G f) (c_X1_counting_55 G (c_X1_counting_45 G f) f2) f3) (some o) (some N0) (Int32.ofNat n) (some N1) x (Int32.ofNat (i + 1)) (Int32.ofNat a) (Int32.ofNat b) T4) P
        unfold c_X1_counting_73_b c_X1_counting_156
        rw [if_neg (fun q => by have := (ole (n := n) (m := b) (by omega) (by omega)).mp q; omega), tb_of b (by omega) (i + 1) (by omega), Option.bind_some, ofn1 b (by omega)]
        by_cases ht : tb (i + 1) b
        · have tl := tb_le ht
          have tp := Nat.two_pow_pos b
          obtain ⟨qa, pa1, pa2⟩ := i4.get ha
          obtain ⟨qb, pb1, pb2⟩ := i4.get hb
          obtain ⟨st1, st2⟩ := vst a b ha hb
          have v1 := vsm (i + 1 - 2 ^ b) b (by omega) hb
          have e1 : Vs d n (i + 1) a b = d a b + V d n (i + 1 - 2 ^ b) b := if_pos ht
          rw [if_pos ht, if_neg (show ¬ (1 : Int32) = 0 by decide)]
          simp -implicitDefEqProofs only [m4.ldR (show i + 1 < 2 ^ n by omega) (show 2 ^ n < 2000000 by omega), m4.ld (show i + 1 < 2 ^ n by omega) ha (show n < 2000000 by omega), h4.q1, i4.is, pa1, pa2.cst, pa2.is, pa2.iv, pb1, pb2.cst, pb2.is, pb2.iv, h4.isr, h4.evt.steps ok.1, st1, tb_an b (by omega) (i + 1) (by omega) ht, m4.ldR (show i + 1 - 2 ^ b < 2 ^ n by omega) (show 2 ^ n < 2000000 by omega), m4.ld (show i + 1 - 2 ^ b < 2 ^ n by omega) hb (show n < 2000000 by omega), g4 (i + 1 - 2 ^ b) b (by omega) hb, g4a, e_min, oadd, Option.bind_some, not_true_eq_false, if_false, if_true]
          rw [← e1, omin (by omega) (by omega)]
          obtain ⟨T5, e5, l5, c5, h5, i5, m5⟩ := mx_st h4 i4 hN m4 (show i + 1 < 2 ^ n by omega) ha (by omega) (Int32.ofNat (min (mnb (Vs d n (i + 1) a) 100000 b) (Vs d n (i + 1) a b)))
          refine Rn.st e5 l5 (K3 T5 ⟨_, ⟨h5, i5, c5.trans c4, m5, fun l' a' hl ha' => ?_⟩, fun a' ha' => ?_, ?_⟩)
          · unfold upd2; rw [if_neg (by omega)]; exact g4 l' a' hl ha'
          · unfold upd2; rw [if_neg (by omega)]; exact g4' a' ha'
          · unfold upd2; rw [if_pos ⟨rfl, rfl⟩]; rfl
        · rw [if_neg ht, if_pos rfl]
          refine K3 T4 ⟨Q4, ⟨h4, i4, c4, m4, g4⟩, g4', ?_⟩
          have e1 : Vs d n (i + 1) a b = 100000 := if_neg ht
          show _ = Int32.ofNat (min _ (Vs d n (i + 1) a b))
          rw [e1, Nat.min_eq_left fb]; exact g4a
      · rintro f3 T4 ⟨Q4, ⟨h4, i4, c4, m4, g4⟩, g4', g4a⟩
        show Rn T4 (c_X1_counting_73_b G (c_X1_counting_45 G f) (c_X1_counting_55 G (c_X1_counting_45 G f) f2) (c_X1_counting_73 G (c_X1_counting_45 G f) (c_X1_counting_55 G (c_X1_counting_45 G f) f2) f3) (some o) (some N0) (Int32.ofNat n) (some N1) x (Int32.ofNat (i + 1)) (Int32.ofNat a) (Int32.ofNat n) T4) P
        unfold c_X1_counting_73_b
        rw [if_pos (Int32.le_refl _), ofn1 a (by omega)]
        refine K2 T4 ⟨Q4, ⟨h4, i4, c4, m4, g4⟩, fun a' ha' => ?_⟩
        by_cases q : a' = a
        · subst q; rw [g4a, V_s (by omega)]
        · exact g4' a' (by omega)
      · unfold upd2; rw [if_neg (by omega)]; exact g2 l' a' hl ha'
      · unfold upd2; rw [if_neg (by omega)]; exact g2' a' ha'
      · unfold upd2; rw [if_pos ⟨rfl, rfl⟩]; rfl
    · rintro f2 T2 ⟨Q2, ⟨h2, i2, c2, m2, g2⟩, g2'⟩
      show Rn T2 (c_X1_counting_55_b G (c_X1_counting_45 G f) (c_X1_counting_55 G (c_X1_counting_45 G f) f2) (some o) (some N0) (Int32.ofNat n) (some N1) x (Int32.ofNat (i + 1)) (Int32.ofNat n) T2) P
      unfold c_X1_counting_55_b
      rw [if_pos (Int32.le_refl _), ofn1 (i + 1) (by omega)]
      refine K T2 ⟨Q2, h2, i2, c2, m2, fun l' a hl ha => ?_⟩
      by_cases q : l' = i + 1
      · subst q; exact g2' a ha
      · exact g2 l' a (by omega) ha
  · rintro f T1 ⟨Q1, h1, i1, c1, m1, g1⟩
    show Rn T1 (c_X1_counting_45_b G (c_X1_counting_45 G f) (some o) (some N0) (Int32.ofNat n) (some N1) x (Int32.ofNat (2 ^ n - 1 + 1)) T1) P
    unfold c_X1_counting_45_b
    rw [show 2 ^ n - 1 + 1 = 2 ^ n by omega, m1.len, Option.bind_some, if_pos (Int32.le_refl _)]
    exact fin T1 Q1 h1 c1 m1 fun l a hl ha => g1 l a (by omega) ha
end CM
