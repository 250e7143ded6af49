/-! the law's body, out of its rounds -/
set_option maxRecDepth 100000
theorem st_le {st : Nat → xS} {N : Nat} (h : ∀ k, k < N → xdl (st k).1 (st (k + 1)).1) : ∀ d k, k + d ≤ N → xdl (st k).1 (st (k + d)).1 := by
  intro d
  induction d with
  | zero => intro k _; exact xdl.rf
  | succ d ih => intro k hk; exact (ih k (by omega)).tr (h (k + d) (by omega))
theorem law_body {G : xG} (hg : gR G = fun _ => none) {Y : xR} (hM : Y.1 = mL_law) (hD : 300 ≤ Y.2.1.frames ∧ 64 * 300 ≤ Y.2.1.locals) {sa n : Nat} {f : Nat → Int32} (hlen : n < 385) {T T1 : xF} (hsl : sa < T.2.1) (hsa : T1.1 sa = none) (hc : c_X1_init (gW G (gs sa n f)) (some T.2.1) (nO T 0 15 F1) = some ((), T1)) {S : MS} (hq : m_fill 31 0 mS0 = some S) (st : Nat → xS) (N : Nat) (hN : N = n / 6) (h0 : st 0 = ((T1.1, T1.2.1 + 27 + 1, T1.2.2 + 64 + mZ 26 + 1), S, fun _ => 0)) (hdl : ∀ k, k < N → xdl (st k).1 (st (k + 1)).1)
    (ho : Y.2.2.2 = (.inl (some (.int 1)), LSw (T1.2.1, sa, T1.2.1 + 27, n, f) (st N))) (hst : LOK (T1.2.1, sa, T1.2.1 + 27, n, f) → ∀ k, k < N → NN (T1.2.1, sa, T1.2.1 + 27, n, f) (st k).1 → StepOK G (T1.2.1, sa, T1.2.1 + 27, n, f) (some T.2.1) (Int32.ofNat (6 * k)) (st k) (st (k + 1))) : Xr G Y 0 [(0, .ref sa)] [] (LWo (gs sa n f) T) := by
  have hmono : ∀ k, k ≤ N → xle (st k).1 (st N).1 := fun k hk => by
    have := (st_le hdl (N - k) k (by omega)).2
    rw [show k + (N - k) = N by omega] at this
    exact this
  have hle : xle (T1.1, T1.2.1 + 27 + 1, T1.2.2 + 64 + mZ 26 + 1) Y.2.2.2.2 := by
    have h1 : Y.2.2.2.2 = LSw (T1.2.1, sa, T1.2.1 + 27, n, f) (st N) := by rw [ho]
    have h2 := hmono 0 (Nat.zero_le _)
    rw [h0] at h2
    rw [h1]
    exact h2
  refine law_head hg hM hD hsl hsa hc hq hle fun hL hn => ?_
  have hnn : ∀ k, k ≤ N → NN (T1.2.1, sa, T1.2.1 + 27, n, f) (st k).1 := fun k hk => by
    have h1 := st_le hdl k 0 (by omega)
    rw [Nat.zero_add, h0] at h1
    exact NN.dm hn h1
  have K := law_loop hL (r := some T.2.1) (by exact hlen) hM hD st N hN ho hnn hmono (fun k hk => hst hL k hk (hnn k (by omega))) N 0 (by omega)
  rw [h0] at K
  obtain ⟨M9, R9, T09, o9, T19⟩ := Y
  dsimp only at hM
  subst hM
  refine X.iconst (v := 0) dL_law_20 (by decide) ?_
  refine C.ist (L' := [(4, .int 0), (3, .ref (T1.2.1 + 27)), (2, .ref T1.2.1), (1, va_rf (some T.2.1)), (0, .ref sa)]) dL_law_21 (Nat.le_of_ble_eq_true rfl) (xcQ (r := some _) (xcQ (r := some _) (xcQ (xcQ (r := some _) xcN)))) rfl ?_
  refine X.sub [4, 3, 2, 1, 0] (L' := bL (T1.2.1, sa, T1.2.1 + 27, n, f) (some T.2.1) 0) rfl ?_
  exact K
