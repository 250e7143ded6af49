/-! the law's loop -/
set_option maxRecDepth 100000
theorem ll_c : ∀ n, n < 385 → ∀ k, k < 66 → ((Int32.ofNat n - 6 < Int32.ofNat (6 * k)) ↔ n < 6 * k + 6) := by decide +kernel
theorem ll_i : ∀ n, n < 385 → ∀ k, k < 65 → 6 * k + 6 ≤ n → ∀ j ∈ ([0, 1, 2, 3, 4, 5] : List Int32), ¬ (Int32.ofNat (6 * k) + j < 0 ∨ n ≤ (Int32.ofNat (6 * k) + j).toNatClampNeg) := by decide +kernel
theorem ll_s : ∀ k, k < 65 → Int32.ofNat (6 * k) + 6 = Int32.ofNat (6 * (k + 1)) := by decide +kernel
abbrev xS : Type := xF × MS × (Nat → Int64)
/-- the law's world in a state -/
abbrev LSw (L : xL) (s : xS) : xF := LWo (lc L s.2.1 s.2.2) s.1
/-- one round of the loop, from behind its test to its end -/
def StepOK (G : xG) (L : xL) (r : Option Nat) (i : Int32) (s s1 : xS) : Prop := ∀ Y : xR, Y.1 = mL_law → (300 ≤ Y.2.1.frames ∧ 64 * 300 ≤ Y.2.1.locals) → xle s1.1 Y.2.2.2.2 → Xr G Y 2413 (bL L r i) [] (LSw L s1) → Xr G Y 33 (bL L r i) [] (LSw L s)
theorem law_loop {G : xG} {L : xL} (hL : LOK L) {r : Option Nat} (hlen : L.2.2.2.1 < 385) {Y : xR} (hM : Y.1 = mL_law) (hD : 300 ≤ Y.2.1.frames ∧ 64 * 300 ≤ Y.2.1.locals) (st : Nat → xS) (N : Nat) (hN : N = L.2.2.2.1 / 6) (ho : Y.2.2.2 = (.inl (some (.int 1)), LSw L (st N))) (hnn : ∀ k, k ≤ N → NN L (st k).1) (hmono : ∀ k, k ≤ N → xle (st k).1 (st N).1) (hst : ∀ k, k < N → StepOK G L r (Int32.ofNat (6 * k)) (st k) (st (k + 1))) : ∀ d k, k + d = N → Xr G Y 23 (bL L r (Int32.ofNat (6 * k))) [] (LSw L (st k)) := by
  intro d
  induction d with
  | zero =>
    intro k hk
    have hk' : k = N := by omega
    subst hk'
    obtain ⟨M9, R9, T09, o9, T19⟩ := Y
    dsimp only at hM ho
    subst hM
    cases ho
    have hb : k < 66 := by omega
    refine X.iload dL_law_23 4 rfl ?_
    refine X.aload_n dL_law_25 rfl 0 rfl ?_
    refine X.alen dL_law_26 (lc_s hL (hnn k (Nat.le_refl _))) rfl ?_
    refine X.bipush (v := 6) dL_law_27 (by decide) ?_
    refine X.isub dL_law_29 ?_
    refine X.icmp_gt (tgt := 2419) dL_law_30 (by decide) (fun c => ?_) (fun c => ?_)
    · refine X.iconst (v := 1) dL_law_2419 (by decide) ?_
      exact X.iret dL_law_2420 rfl rfl rfl
    · exact absurd ((ll_c _ hlen k hb).mpr (by omega)) c
  | succ d ih =>
    intro k hk
    have hkN : k < N := by omega
    have hb : k < 65 := by omega
    have K := ih (k + 1) (by omega)
    have hs := hst k hkN Y hM hD (by
      have h1 : Y.2.2.2.2 = LSw L (st N) := by rw [ho]
      rw [h1]
      exact hmono (k + 1) (by omega))
    obtain ⟨M9, R9, T09, o9, T19⟩ := Y
    dsimp only at hM ho
    subst hM
    cases ho
    refine X.iload dL_law_23 4 rfl ?_
    refine X.aload_n dL_law_25 rfl 0 rfl ?_
    refine X.alen dL_law_26 (lc_s hL (hnn k (by omega))) rfl ?_
    refine X.bipush (v := 6) dL_law_27 (by decide) ?_
    refine X.isub dL_law_29 ?_
    refine X.icmp_gt (tgt := 2419) dL_law_30 (by decide) (fun c => ?_) (fun c => ?_)
    · exact absurd ((ll_c _ hlen k (by omega)).mp c) (by omega)
    · refine hs ?_
      refine C.iinc (v := Int32.ofNat (6 * (k + 1))) (L' := [(4, .int (Int32.ofNat (6 * (k + 1)))), (0, .ref (ls_ L)), (1, va_rf r), (2, .ref (lm L)), (3, .ref (lo_ L))]) dL_law_2413 4 rfl (ll_s k hb) (Nat.le_of_ble_eq_true rfl) (xcQ (r := some _) (xcQ (xcQ (r := some _) (xcQ (r := some _) (xcI xcN))))) rfl ?_
      refine X.goto (tgt := 23) dL_law_2416 (by decide) ?_
      refine X.sub [1, 2, 3, 4, 0] (L' := bL L r (Int32.ofNat (6 * (k + 1)))) rfl ?_
      exact K
