/-! plain law: acts are kept in the reference; what is refused -/
set_option maxRecDepth 100000
theorem rd14 {S : MS} {k : Nat} (hk : k < 4840) : rdA S 14 (Int32.ofNat k) = some (S.2.2 14 k) := rdA_n (ocl (by omega)) (on0 (by omega)) hk
theorem wr14 {S : MS} {k : Nat} (hk : k < 4840) (v : Int32) : wrA S 14 (Int32.ofNat k) v = some (sA S 14 k v) := wrA_n (ocl (by omega)) (on0 (by omega)) hk
theorem omul (a b : Nat) : Int32.ofNat a * Int32.ofNat b = Int32.ofNat (a * b) := by rw [Int32.ofNat_mul]
theorem sF_at {S : MS} {k : Nat} {v : Int32} : (sF S k v).1 k = v := by
  show upd S.1 k v k = v
  unfold upd
  rw [if_pos rfl]
theorem sF_ne {S : MS} {k j : Nat} {v : Int32} (h : j ≠ k) : (sF S k v).1 j = S.1 j := by
  show upd S.1 k v j = _
  unfold upd
  rw [if_neg h]
section MK
variable {S S0 : MS} {s : St}
/-- a row behind the others -/
theorem r_keeps52 {a : Nat} (ha : a < 40) (h46 : S0.1 46 = Int32.ofNat a) : Mn (m_keeps_52 FU 0 S0) fun S' => (∀ k, k ≠ 46 → S'.1 k = S0.1 k) ∧ S'.1 46 = Int32.ofNat (a + 1) ∧ (∀ j, j ≠ 14 → S'.2.2 j = S0.2.2 j) ∧ (∀ k, k < 121 → S'.2.2 14 (121 * a + k) = S0.2.2 13 (0 + k)) ∧ ∀ i, ¬ (121 * a ≤ i ∧ i < 121 * a + 121) → S'.2.2 14 i = S0.2.2 14 i := by
  refine loop_rule (σ := MS) (N := 121) (fun i s => s.1 = S0.1 ∧ (∀ j, j ≠ 14 → s.2.2 j = S0.2.2 j) ∧ (∀ k, k < i → s.2.2 14 (121 * a + k) = S0.2.2 13 (0 + k)) ∧ ∀ i, ¬ (121 * a ≤ i ∧ i < 121 * a + 121) → s.2.2 14 i = S0.2.2 14 i) (fun m i s => Mn (m_keeps_52 m (Int32.ofNat i) s) _) ?_ ?_ FU (by decide) S0 ⟨rfl, fun _ _ => rfl, fun k hk => absurd hk (Nat.not_lt_zero k), fun _ _ => rfl⟩
  · rintro m i S1 hi ⟨h1, h2, h3, h4⟩ K
    have hle : ¬ (121 : Int32) ≤ Int32.ofNat i := fun q => by have := (ole (n := 121) (by omega) (by omega)).mp q; omega
    show Mn (m_keeps_52_b (m_keeps_52 m) (Int32.ofNat i) S1) _
    unfold m_keeps_52_b
    have e1 : (121 : Int32) * S1.1 46 + Int32.ofNat i = Int32.ofNat (121 * a + i) := by
      rw [h1, h46, show (121 : Int32) = Int32.ofNat 121 from rfl, omul, oadd]
    simp -implicitDefEqProofs only [hle, Option.bind_some, not_true_eq_false, if_false, if_true, rd13 (show i < 242 by omega), e1, wr14 (show 121 * a + i < 4840 by omega), ofn1 i (by omega)]
    refine K _ ⟨h1, fun j hj => (sA_ne hj).trans (h2 j hj), fun k hk => ?_, fun k hk => ?_⟩
    · rw [sA_at]
      unfold upd
      by_cases q : k = i
      · subst q; rw [if_pos rfl, h2 13 (by decide), Nat.zero_add]
      · rw [if_neg (by omega)]; exact h3 k (by omega)
    · rw [sA_at]
      unfold upd
      rw [if_neg (by omega)]
      exact h4 k hk
  · rintro m S1 ⟨h1, h2, h3, h4⟩
    show Mn (m_keeps_52_b (m_keeps_52 m) (Int32.ofNat 121) S1) _
    unfold m_keeps_52_b
    rw [if_pos (by decide)]
    refine Mn.ret ⟨fun k hk => (sF_ne hk).trans (by rw [h1]), ?_, h2, h3, h4⟩
    rw [sF_at, h1, h46]
    exact ofn1 a (by omega)
theorem r_keeps (h46 : ∃ a, a ≤ 40 ∧ S0.1 46 = Int32.ofNat a) : Mn (m_keeps S0) fun S' => (∀ k, k ≠ 46 → S'.1 k = S0.1 k) ∧ (∀ j, j ≠ 14 → S'.2.2 j = S0.2.2 j) ∧ ∀ a, a ≤ 40 → S0.1 46 = Int32.ofNat a → S'.1 46 = Int32.ofNat (if a = 40 then 40 else a + 1) ∧ (∀ k, k < 121 → S'.2.2 14 (121 * (if a = 40 then 39 else a) + k) = S0.2.2 13 (0 + k)) ∧ ∀ j, j < (if a = 40 then 39 else a) → ∀ k, k < 121 → S'.2.2 14 (121 * j + k) = S0.2.2 14 (121 * (if a = 40 then j + 1 else j) + k) := by
  obtain ⟨a, ha, h46⟩ := h46
  have huniq : ∀ b, b ≤ 40 → S0.1 46 = Int32.ofNat b → b = a := fun b hb e => by
    rw [h46] at e
    exact ((oeq (by omega) (by omega)).mp e).symm
  unfold m_keeps
  by_cases h40 : a = 40
  · subst h40
    rw [if_pos (show S0.1 46 = 40 from h46)]
    have shift : Mn (m_keeps_12 FU 121 S0) fun S' => (∀ k, k ≠ 46 → S'.1 k = S0.1 k) ∧ (∀ j, j ≠ 14 → S'.2.2 j = S0.2.2 j) ∧ S'.1 46 = Int32.ofNat 40 ∧ (∀ k, k < 121 → S'.2.2 14 (121 * 39 + k) = S0.2.2 13 (0 + k)) ∧ ∀ k, k < 121 * 39 → S'.2.2 14 k = S0.2.2 14 (k + 121) := by
      refine loop_rule (σ := MS) (N := 4719) (fun i s => s.1 = S0.1 ∧ (∀ j, j ≠ 14 → s.2.2 j = S0.2.2 j) ∧ (∀ k, k < i → s.2.2 14 k = S0.2.2 14 (k + 121)) ∧ ∀ k, i ≤ k → s.2.2 14 k = S0.2.2 14 k) (fun m i s => Mn (m_keeps_12 m (Int32.ofNat (121 + i)) s) _) ?_ ?_ FU (by decide) S0 ⟨rfl, fun _ _ => rfl, fun k hk => absurd hk (Nat.not_lt_zero k), fun _ _ => rfl⟩
      · rintro m i S1 hi ⟨h1, h2, h3, h4⟩ K
        have hle : ¬ (4840 : Int32) ≤ Int32.ofNat (121 + i) := fun q => by have := (ole (n := 4840) (by omega) (by omega)).mp q; omega
        show Mn (m_keeps_12_b (m_keeps_12 m) (Int32.ofNat (121 + i)) S1) _
        unfold m_keeps_12_b
        have e1 : Int32.ofNat (121 + i) - 121 = Int32.ofNat i := by rw [show Int32.ofNat (121 + i) - 121 = Int32.ofNat (121 + i - 121) from osub (b := 121) (by omega) (by omega), Nat.add_sub_cancel_left]
        have e2 : Int32.ofNat (121 + i) + 1 = Int32.ofNat (121 + (i + 1)) := oadd (121 + i) 1
        simp -implicitDefEqProofs only [hle, Option.bind_some, not_true_eq_false, if_false, if_true, rd14 (show 121 + i < 4840 by omega), e1, wr14 (show i < 4840 by omega), e2]
        refine K _ ⟨h1, fun j hj => (sA_ne hj).trans (h2 j hj), fun k hk => ?_, fun k hk => ?_⟩
        · rw [sA_at]
          unfold upd
          by_cases q : k = i
          · subst q; rw [if_pos rfl, h4 _ (by omega), Nat.add_comm]
          · rw [if_neg q]; exact h3 k (by omega)
        · rw [sA_at]
          unfold upd
          rw [if_neg (by omega)]
          exact h4 k (by omega)
      · rintro m S1 ⟨h1, h2, h3, h4⟩
        show Mn (m_keeps_12_b (m_keeps_12 m) (Int32.ofNat (121 + 4719)) S1) _
        unfold m_keeps_12_b m_keeps_50
        rw [if_pos (by decide)]
        have e3 : (sF S1 46 (S1.1 46 - 1)).1 46 = Int32.ofNat 39 := by
          rw [sF_at, h1, h46]
          exact osub (a := 40) (b := 1) (by omega) (by omega)
        refine (r_keeps52 (a := 39) (by omega) e3).mono fun S' ⟨q1, q2, q3, q4, q5⟩ => ⟨fun k hk => (q1 k hk).trans ((sF_ne hk).trans (by rw [h1])), fun j hj => (q3 j hj).trans (h2 j hj), q2, fun k hk => (q4 k hk).trans (congrFun (h2 13 (by decide)) _), fun k hk => (q5 k (by omega)).trans (h3 k (by omega))⟩
    refine shift.mono fun S' ⟨q1, q2, q3, q4, q5⟩ => ⟨q1, q2, fun b hb hb2 => ?_⟩
    have := huniq b hb hb2
    subst this
    simp -implicitDefEqProofs only [if_true]
    refine ⟨q3, q4, fun j hj k hk => ?_⟩
    rw [q5 _ (by omega), show 121 * j + k + 121 = 121 * (j + 1) + k by omega]
  · rw [if_neg (show ¬ S0.1 46 = (40 : Int32) from fun q => h40 ((oeq (n := a) (m := 40) (by omega) (by omega)).mp (h46.symm.trans q)))]
    unfold m_keeps_50
    refine (r_keeps52 (a := a) (by omega) h46).mono fun S' ⟨q1, q2, q3, q4, q5⟩ => ⟨q1, q3, fun b hb hb2 => ?_⟩
    have := huniq b hb hb2
    subst this
    simp -implicitDefEqProofs only [h40, if_false]
    exact ⟨q2, q4, fun j hj k hk => q5 _ (by omega)⟩
theorem v_keeps (ok : StOK s) (h : MI S s) : Mn (m_keeps S) fun S' => MI S' (kept s) ∧ S'.1 0 = S.1 0 := by
  obtain ⟨a1, a2, a3, a4, a5, a6, a7, a8, a9, a10, a11⟩ := h
  have hn := ok.2.2.1.1
  refine (r_keeps ⟨_, hn, a3⟩).mono fun S' ⟨f, r, q⟩ => ?_
  obtain ⟨q1, q2, q3⟩ := q _ hn a3
  have f' : ∀ k, mfld k → k ≠ 46 → S'.1 k = S.1 k := fun k _ q => f k q
  refine ⟨⟨a1.mono (fun k q1 q2 => f k (by omega)) (fun j hj => r j (by omega)), by rw [r 13 (by decide)]; exact a2, ?_, ?_, (f 53 (by decide)).trans a5, fun k hk => by rw [r 21 (by decide)]; exact a6 k hk, ?_, (f 13 (by decide)).trans a8, fun k hk => by rw [r 4 (by decide)]; exact a9 k hk, (f 15 (by decide)).trans a10, fun k hk => by rw [r 5 (by decide)]; exact a11 k hk⟩, f 0 (by decide)⟩
  · rw [q1]
    show _ = Int32.ofNat (hpush (sH s) (sG s)).1
    unfold hpush
    split <;> rfl
  · intro k hk
    have hk : k < (hpush (sH s) (sG s)).1 := hk
    show AtJ _ _ ((hpush (sH s) (sG s)).2 k)
    unfold hpush at hk ⊢
    by_cases h40 : (sH s).1 = 40
    · simp -implicitDefEqProofs only [h40, if_true] at hk q2 q3 ⊢
      by_cases hk2 : k = 39
      · subst hk2
        show AtJ _ _ (va_up (sH s).2 40 (sG s) 40)
        rw [vup_at]
        exact AtJ.cp a2 q2
      · show AtJ _ _ (va_up (sH s).2 40 (sG s) (k + 1))
        rw [vup_no (by omega)]
        exact AtJ.cp (a4 (k + 1) (by omega)) (q3 k (by omega))
    · simp -implicitDefEqProofs only [h40, if_false] at hk q2 q3 ⊢
      by_cases hk2 : k = (sH s).1
      · subst hk2
        rw [vup_at]
        exact AtJ.cp a2 q2
      · rw [vup_no hk2]
        exact AtJ.cp (a4 k (by omega)) (q3 k (by omega))
  · show match sI s with
      | none => S'.1 58 = 0
      | some (g, h, x) => _
    cases hi : sI s with
    | none =>
      rw [hi] at a7
      exact (f 58 (by decide)).trans a7
    | some x =>
      rw [hi] at a7
      obtain ⟨b1, b2, b3, b4, b5, b6⟩ := a7
      exact ⟨(f 58 (by decide)).trans b1, by rw [r 24 (by decide)]; exact b2, (f 59 (by decide)).trans b3, by rw [r 25 (by decide)]; exact b4, (f 60 (by decide)).trans b5, by rw [r 26 (by decide)]; exact b6⟩
/-- one refusal more -/
abbrev refd (s : St) (k : Nat) : St := (sE s, sG s, sH s, sS s, sI s, sB s, sT s, sF_ s, upd (sR s) k (sR s k + 1))
theorem v_refuses (h : MI S s) {k : Nat} (hk : k < 3) : Mn (m_refuses (Int32.ofNat k) S) fun r => r.1 = -1 ∧ MI r.2 (refd s k) ∧ r.2.1 = S.1 := by
  unfold m_refuses
  rw [rd5 h hk, Option.bind_some, wrA_n (k := k) (ocl (by omega)) (on0 (by omega)) (by show k < 3; omega), Option.bind_some]
  refine Mn.ret ⟨rfl, ?_, rfl⟩
  obtain ⟨a1, a2, a3, a4, a5, a6, a7, a8, a9, a10, a11⟩ := h
  have r : ∀ j, j ≠ 5 → (sA S 5 k (sR s k + 1)).2.2 j = S.2.2 j := fun j hj => sA_ne hj
  refine ⟨a1.mono (fun _ _ _ => rfl) (fun j hj => r j (by omega)), by rw [r 13 (by decide)]; exact a2, a3, fun k hk => by rw [r 14 (by decide)]; exact a4 k hk, a5, fun k hk => by rw [r 21 (by decide)]; exact a6 k hk, ?_, a8, fun k hk => by rw [r 4 (by decide)]; exact a9 k hk, a10, fun i hi => ?_⟩
  · show match sI s with
      | none => _
      | some (g, h, x) => _
    cases hi : sI s with
    | none => rw [hi] at a7; exact a7
    | some x =>
      rw [hi] at a7
      obtain ⟨b1, b2, b3, b4, b5, b6⟩ := a7
      exact ⟨b1, by rw [r 24 (by decide)]; exact b2, b3, by rw [r 25 (by decide)]; exact b4, b5, by rw [r 26 (by decide)]; exact b6⟩
  · rw [sA_at]
    show upd _ k _ i = upd _ k _ i
    unfold upd
    split
    · rfl
    · exact a11 i hi
end MK
