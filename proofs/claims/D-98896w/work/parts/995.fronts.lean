/-! plain law: fronts -/
set_option maxRecDepth 100000
def sumN (f : Nat → Nat) : Nat → Nat
  | 0 => 0
  | n + 1 => sumN f n + f n
theorem sumN_le {f : Nat → Nat} {b : Nat} (h : ∀ i, f i ≤ b) : ∀ n, sumN f n ≤ n * b := by
  intro n
  induction n with
  | zero => exact Nat.zero_le _
  | succ n ih =>
    have := h n
    show sumN f n + f n ≤ (n + 1) * b
    rw [Nat.succ_mul]
    omega
theorem sumN_cg {f g : Nat → Nat} : ∀ n, (∀ i, i < n → f i = g i) → sumN f n = sumN g n := by
  intro n
  induction n with
  | zero => exact fun _ => rfl
  | succ n ih =>
    intro h
    show sumN f n + f n = sumN g n + g n
    rw [ih fun i hi => h i (by omega), h n (by omega)]
theorem sumN_add {f g : Nat → Nat} : ∀ n, sumN (fun i => f i + g i) n = sumN f n + sumN g n := by
  intro n
  induction n with
  | zero => rfl
  | succ n ih =>
    show sumN (fun i => f i + g i) n + (f n + g n) = sumN f n + f n + (sumN g n + g n)
    rw [ih]
    omega
theorem pairs {d : Nat → Nat → Nat} {N : Nat} (hs : ∀ a, a < N → ∀ b, b < N → d a b = d b a) (hi : ∀ a, a < N → d a a = 0) : ∀ n, n ≤ N → sumN (fun a => sumN (d a) n) n = 2 * sumN (fun a => sumN (d a) a) n := by
  intro n
  induction n with
  | zero => exact fun _ => rfl
  | succ n ih =>
    intro hn
    show sumN (fun a => sumN (d a) n + d a n) n + (sumN (d n) n + d n n) = 2 * (sumN (fun a => sumN (d a) a) n + sumN (d n) n)
    rw [sumN_add, ih (by omega), hi n (by omega)]
    rw [sumN_cg (f := fun a => d a n) (g := d n) n fun i hi2 => hs i (by omega) n (by omega)]
    omega
theorem stp_sym : ∀ w, w < 7 → ∀ a, a < 30 → ∀ b, b < 30 → stp (Int32.ofNat w) (Int32.ofNat a) (Int32.ofNat b) = stp (Int32.ofNat w) (Int32.ofNat b) (Int32.ofNat a) := by decide +kernel
theorem EnOK.sym {e : En} (h : EnOK e) : ∀ a, a < 30 → ∀ b, b < 30 → stp (eW e) (Int32.ofNat a) (Int32.ofNat b) = stp (eW e) (Int32.ofNat b) (Int32.ofNat a) := by
  obtain ⟨⟨a, b, h1, h2, h3, h4, h5, h6, h7⟩, -⟩ := h
  rw [h5]
  exact stp_sym a h1
/-- a front between two cells -/
def frt (e : En) (g : Gw) (a b : Nat) : Nat := if stp (eW e) (Int32.ofNat a) (Int32.ofNat b) = 1 ∧ ¬ gK g a = -1 ∧ ¬ gK g b = -1 ∧ ¬ gK g a = gK g b then 1 else 0
theorem frt_1 {e : En} {g : Gw} {a b : Nat} : frt e g a b ≤ 1 := by unfold frt; split <;> omega
theorem frt_bes {e : En} {g : Gw} (ok : EnOK e) {c : Nat} (hc : c < 30) (hk : ¬ gK g c = -1) : bes e g c 0 = Int32.ofNat (sumN (frt e g c) (eN e)) := by
  have hn := ok.n30
  have key : ∀ i, i ≤ eN e → itr (besF (eW e) g c 0) i 0 = Int32.ofNat (sumN (frt e g c) i) := by
    intro i
    induction i with
    | zero => exact fun _ => rfl
    | succ i ih =>
      intro hi
      show besF (eW e) g c 0 i (itr (besF (eW e) g c 0) i 0) = Int32.ofNat (sumN (frt e g c) i + frt e g c i)
      rw [ih (by omega), ← oadd]
      unfold besF frt
      rw [ok.sym i (by omega) c hc]
      by_cases h1 : gK g i = -1
      · rw [if_pos h1, if_neg (fun q => q.2.2.1 h1)]
        exact (Int32.add_zero _).symm
      rw [if_neg h1]
      by_cases h2 : stp (eW e) (Int32.ofNat c) (Int32.ofNat i) = 1
      · rw [if_pos h2]
        by_cases h3 : gK g i = gK g c
        · rw [if_pos h3, if_neg (show ¬ (1 : Int32) = 0 by decide), if_neg (fun q => q.2.2.2 h3.symm)]
          exact (Int32.add_zero _).symm
        · rw [if_neg h3, if_pos rfl, if_pos ⟨h2, hk, h1, fun q => h3 q.symm⟩]
          rfl
      · rw [if_neg h2, if_neg (fun q => h2 q.1)]
        exact (Int32.add_zero _).symm
  exact key (eN e) (Nat.le_refl _)
section CM
variable {G : xG} {T T1 : xF} {o : Nat} {s s' : St} {A A' : Ad} {S S1 : MS} {g : Gw}
theorem k_fronts (ok : StOK s) (h : CIa G T o s A) (m : MI S s) (b : Int32) : Jn T (c_X1_fronts G (some o) b T) (m_fronts b S) fun r T' q => AG IA "" r q.1 q.2 ∧ Nx G o T s T' q.2 := by
  have m0 := m.th 0
  have z : (sF S 0 0).1 0 = 0 := sF_0
  have hn := ok.1.n30
  unfold c_X1_fronts m_fronts
  rcases (rng 0 40 (by decide) (by decide) b).symm with hv | ⟨d, hda, hd, rfl⟩
  · have e1 : iin b 0 40 = false := iin_f hv
    simp -implicitDefEqProofs only [e_in, e1, Option.bind_some, not_true_eq_false, if_false, if_true]
    exact Jn.thX e_right_f thr_le (r := (0, sF (sF S 0 0) 0 1)) (by simp -implicitDefEqProofs only [r_days_f (w := 1) z (by decide) e1, Option.bind_some, not_true_eq_false, if_false, if_true]) ⟨Or.inl ⟨rfl, sF_0⟩, Nx.same ok h.tw (m0.th 1) (by show T.2.1 + 1 ≤ _; omega) (by show T.2.2 + 6 ≤ _; omega)⟩
  have ed : iin (Int32.ofNat d) 0 40 = true := iin_t hda hd (by decide)
  simp -implicitDefEqProofs only [e_in, ed, Option.bind_some, not_true_eq_false, if_false, if_true]
  refine Jn.okX e_right_t ?_
  simp -implicitDefEqProofs only [r_days_t (w := 1) z ed, Option.bind_some, not_true_eq_false, if_false, if_true, i10]
  simp -implicitDefEqProofs only [h.iso, Option.bind_some, not_true_eq_false, if_false, if_true]
  refine Jn.cl (t_later ok h (show d < 100 by omega)) fun v T1 _ ⟨k1, k2, k3⟩ => ?_
  subst k1
  refine Jn.mb (u_goes ok m0 (show d < 100 by omega)) fun S1 ⟨j1, j2⟩ => ?_
  generalize gafter (sE s) d (sG s) = g at k2 j1
  have cs : Rn T1 (c_X1_fronts_21 G FU (some o) (some (aTt A)) 0 0 T1) fun v T' => v = .inl (Int32.ofNat (sumN (fun a => sumN (frt (sE s) g a) a) (eN (sE s)))) ∧ T' = T1 := by
    refine loop_rule (σ := Int32) (N := eN (sE s)) (fun i x => x = Int32.ofNat (sumN (fun a => sumN (frt (sE s) g a) a) i)) (fun n i x => Rn T1 (c_X1_fronts_21 G n (some o) (some (aTt A)) x (Int32.ofNat i) T1) _) ?_ ?_ FU (by show eN (sE s) < 6000; omega) 0 rfl
    · rintro n i x hi hx K
      have i3 : i < 30 := by omega
      show Rn T1 (c_X1_fronts_21_b G (c_X1_fronts_21 G n) (some o) (some (aTt A)) x (Int32.ofNat i) T1) _
      unfold c_X1_fronts_21_b
      simp -implicitDefEqProofs only [k2.1.q1, k2.1.isr, k2.1.cells ok, leN hi hn, Option.bind_some, not_true_eq_false, if_false, if_true]
      refine loop_rule (σ := Int32) (N := i) (fun j y => y = Int32.ofNat (sumN (fun a => sumN (frt (sE s) g a) a) i + sumN (frt (sE s) g i) j)) (fun m j y => Rn T1 (c_X1_fronts_36 G (c_X1_fronts_21 G n) m (some o) (some (aTt A)) y (Int32.ofNat i) (Int32.ofNat j) T1) _) ?_ ?_ FU (by show i < 6000; omega) x hx
      · rintro m j y hj hy K2
        have j3 : j < 30 := by omega
        have hle : ¬ Int32.ofNat i ≤ Int32.ofNat j := fun q => by have := (ole (n := i) (m := j) (by omega) (by omega)).mp q; omega
        show Rn T1 (c_X1_fronts_36_b G (c_X1_fronts_21 G n) (c_X1_fronts_36 G (c_X1_fronts_21 G n) m) (some o) (some (aTt A)) y (Int32.ofNat i) (Int32.ofNat j) T1) _
        unfold c_X1_fronts_36_b
        simp -implicitDefEqProofs only [hle, k2.1.q1, k2.1.isr, k2.1.evt.steps ok.1, k2.2.o2, k2.2.ldK i3, k2.2.ldK j3, c_X1_fronts_100, ofn1 j (by omega), Option.bind_some, not_true_eq_false, if_false, if_true]
        have e : sumN (frt (sE s) g i) (j + 1) = sumN (frt (sE s) g i) j + frt (sE s) g i j := rfl
        have no : frt (sE s) g i j = 0 → Rn T1 (c_X1_fronts_36 G (c_X1_fronts_21 G n) m (some o) (some (aTt A)) y (Int32.ofNat i) (Int32.ofNat (j + 1)) T1) _ := fun q => K2 y (by rw [hy, e, q]; rfl)
        by_cases c1 : stp (eW (sE s)) (Int32.ofNat i) (Int32.ofNat j) = 1
        · rw [if_pos c1]
          by_cases c2 : gK g i = -1
          · rw [if_pos c2]; exact no (by unfold frt; rw [if_neg fun q => q.2.1 c2])
          rw [if_neg c2]
          by_cases c3 : gK g j = -1
          · rw [if_pos c3]; exact no (by unfold frt; rw [if_neg fun q => q.2.2.1 c3])
          rw [if_neg c3]
          by_cases c4 : gK g i = gK g j
          · rw [if_pos c4]; exact no (by unfold frt; rw [if_neg fun q => q.2.2.2 c4])
          rw [if_neg c4]
          refine K2 (y + 1) ?_
          have f1 : frt (sE s) g i j = 1 := by unfold frt; rw [if_pos ⟨c1, c2, c3, c4⟩]
          rw [hy, e, f1]
          exact oadd _ 1
        · rw [if_neg c1]; exact no (by unfold frt; rw [if_neg fun q => c1 q.1])
      · rintro m y hy
        show Rn T1 (c_X1_fronts_36_b G (c_X1_fronts_21 G n) (c_X1_fronts_36 G (c_X1_fronts_21 G n) m) (some o) (some (aTt A)) y (Int32.ofNat i) (Int32.ofNat i) T1) _
        unfold c_X1_fronts_36_b
        rw [if_pos (Int32.le_refl _), ofn1 i (by omega)]
        exact K y hy
    · rintro n x hx
      show Rn T1 (c_X1_fronts_21_b G (c_X1_fronts_21 G n) (some o) (some (aTt A)) x (Int32.ofNat (eN (sE s))) T1) _
      unfold c_X1_fronts_21_b
      simp -implicitDefEqProofs only [k2.1.q1, k2.1.isr, k2.1.cells ok, Int32.le_refl, Option.bind_some, not_true_eq_false, if_false, if_true]
      exact Rn.ret ⟨by rw [hx], rfl⟩
  have ms : Mn (m_fronts_26 FU 0 0 S1) fun r => r.1 = Int32.ofNat (sumN (fun a => sumN (frt (sE s) g a) a) (eN (sE s))) ∧ r.2 = S1 := by
    refine loop_rule (σ := Int32) (N := eN (sE s)) (fun i x => x = Int32.ofNat (sumN (fun a => sumN (frt (sE s) g a) (eN (sE s))) i)) (fun n i x => Mn (m_fronts_26 n x (Int32.ofNat i) S1) _) ?_ ?_ FU (by show eN (sE s) < 6000; omega) 0 rfl
    · rintro n i x hi hx K
      have i3 : i < 30 := by omega
      show Mn (m_fronts_26_b (m_fronts_26 n) x (Int32.ofNat i) S1) _
      unfold m_fronts_26_b
      have hbes : m_besideOf 121 (Int32.ofNat i) 0 S1 = some (bes (sE s) g i 0) := (j1.1.mv (E := eb 0) eb_own).beside (b := 121) ok.1 j1.2 (by decide) i3 0
      simp -implicitDefEqProofs only [v_cells ok j1.1, leN hi hn, j1.2.lK1 i3, hbes, m_fronts_61, ofn1 i (by omega), Option.bind_some, not_true_eq_false, if_false, if_true]
      by_cases c2 : gK g i = -1
      · rw [if_pos c2]
        refine K _ ?_
        show x + 0 = Int32.ofNat (sumN (fun a => sumN (frt (sE s) g a) (eN (sE s))) i + sumN (frt (sE s) g i) (eN (sE s)))
        have e0 : sumN (frt (sE s) g i) (eN (sE s)) = 0 := by
          have : sumN (frt (sE s) g i) (eN (sE s)) = sumN (fun _ => 0) (eN (sE s)) := sumN_cg _ fun j _ => by unfold frt; rw [if_neg fun q => q.2.1 c2]
          rw [this]
          have z := sumN_le (f := fun _ => 0) (b := 0) (fun _ => Nat.le_refl _) (eN (sE s))
          omega
        rw [e0, Int32.add_zero]
        exact hx
      · rw [if_neg c2]
        refine K _ ?_
        rw [hx, frt_bes ok.1 i3 c2, oadd]
        rfl
    · rintro n x hx
      show Mn (m_fronts_26_b (m_fronts_26 n) x (Int32.ofNat (eN (sE s))) S1) _
      unfold m_fronts_26_b
      simp -implicitDefEqProofs only [v_cells ok j1.1, Int32.le_refl, show ¬ (2 : Int32) = 0 by decide, Option.bind_some, not_true_eq_false, if_false, if_true]
      refine Mn.ret ⟨?_, rfl⟩
      have hp := pairs (d := frt (sE s) g) (N := eN (sE s)) (fun a ha b hb => by
        unfold frt
        rw [ok.1.sym a (by omega) b (by omega)]
        by_cases q : stp (eW (sE s)) (Int32.ofNat b) (Int32.ofNat a) = 1 ∧ ¬ gK g a = -1 ∧ ¬ gK g b = -1 ∧ ¬ gK g a = gK g b
        · rw [if_pos q, if_pos ⟨q.1, q.2.2.1, q.2.1, fun r => q.2.2.2 r.symm⟩]
        · rw [if_neg q, if_neg fun r => q ⟨r.1, r.2.2.1, r.2.1, fun t => r.2.2.2 t.symm⟩]) (fun a _ => by unfold frt; rw [if_neg fun q => q.2.2.2 rfl]) (eN (sE s)) (Nat.le_refl _)
      have hb : sumN (fun a => sumN (frt (sE s) g a) (eN (sE s))) (eN (sE s)) ≤ 30 * 30 := by
        refine Nat.le_trans (sumN_le (b := 30) (fun a => ?_) _) (Nat.mul_le_mul_right 30 hn)
        have := sumN_le (f := frt (sE s) g a) (b := 1) (fun _ => frt_1) (eN (sE s))
        omega
      show x / 2 = _
      rw [hx, show (2 : Int32) = Int32.ofNat 2 from rfl, odiv (by omega) (by decide) (by decide), hp]
      congr 1
      omega
  refine Jn.of cs ms fun v T' r ⟨q1, q2⟩ ⟨q3, q4⟩ => ?_
  subst q1 q2
  obtain ⟨r1, r2⟩ := r
  dsimp only at q3 q4
  subst q3 q4
  exact ⟨⟨by rw [j2]; exact z, rfl⟩, Nx.same ok k2.1 j1.1 (by rw [k3]; omega) (by rw [k3]; omega)⟩
end CM
