/-! plain law: acts are kept -/
set_option maxRecDepth 100000
def hpush (h : Hs) (g : Gw) : Hs := if h.1 = 40 then (40, fun k => va_up h.2 40 g (k + 1)) else (h.1 + 1, va_up h.2 h.1 g)
abbrev kept (s : St) : St := (sE s, sG s, hpush (sH s) (sG s), sS s, sI s, sB s, sT s, sF_ s, sR s)
theorem GrAt.ao {T : xF} {a o : Nat} {g : Gw} (h : GrAt T a o g) : AO T a := fun T' e => asg_o (w := true) (ci := 2) (e.trans h.1) (Or.inl rfl)
theorem kept_ok {s : St} (ok : StOK s) : StOK (kept s) := by
  obtain ⟨h1, h2, ⟨h3, h3'⟩, h4, h5, h6, h7⟩ := ok
  refine ⟨h1, h2, ?_, h4, h5, h6, h7⟩
  show hOK (sE s) (hpush (sH s) (sG s))
  unfold hpush
  split
  · refine ⟨Nat.le_refl _, fun k hk => ?_⟩
    have hk : k < 40 := hk
    show GI (sE s) (va_up (sH s).2 40 (sG s) (k + 1)) 1001
    by_cases q : k + 1 = 40
    · rw [q, vup_at]; exact h2
    · rw [vup_no q]; exact h3' _ (by omega)
  · refine ⟨by show (sH s).1 + 1 ≤ 40; omega, fun k hk => ?_⟩
    have hk : k < (sH s).1 + 1 := hk
    show GI (sE s) (va_up (sH s).2 (sH s).1 (sG s) k) 1001
    by_cases q : k = (sH s).1
    · rw [q, vup_at]; exact h2
    · rw [vup_no q]; exact h3' _ (by omega)
section KA
variable {G : xG} {T T' : xF} {o : Nat} {s : St} {A : Ad}
theorem CIa.elems (h : CIa G T o s A) : ∃ ha wa ca, LsAt T (aAl A) (aAa A) (sH s).1 ha wa ca ∧ HsAt T (aO A) o (sH s) ha ∧ (aO A (aAa A) = 8 ∨ aO A (aAa A) = 11 ∧ ca = 0) ∧ ∀ k, k < (sH s).1 → ha k < T.2.1 ∧ AO T (ha k) ∧ ha k ≠ aAl A ∧ GrAt T (ha k) o ((sH s).2 k) := by
  obtain ⟨ha, ea, wa, ws, ca, cs, v11, v12, v13, sd, a1, a2, a3, a4, a5, a6, a7, a8, a9, a10, a11, a12, a13, a14, a15, -⟩ := h
  obtain ⟨t1, t2, t3, t4, t5, t6, t7, t8, t9, t10, t11⟩ := a2
  refine ⟨ha, wa, ca, a10, a15, t9, fun k hk => ?_⟩
  obtain ⟨q1, q2⟩ := a15 k hk
  exact ⟨by omega, q1.now.ao, q1.ne (by omega) fun _ q => q.nn, q1.now⟩
theorem e_keepAct (ok : StOK s) (h : CIa G T o s A) : Rn T (c_X1_keepAct G (some o) T) fun _ T' => ∃ A', CIa G T' o (kept s) A' ∧ T'.2.1 ≤ T.2.1 + 6 ∧ T'.2.2 ≤ T.2.2 + 1226 := by
  obtain ⟨ha, wa, ca, L, H, ht, he⟩ := h.elems
  have hn40 : (sH s).1 ≤ 40 := ok.2.2.1.1
  obtain ⟨b1, b2, b3, b4, b5, b6, b7, b8, b9, b10, b11⟩ := h.bn
  have c1 := h.cc
  have hob := h.ob
  unfold c_X1_keepAct
  simp -implicitDefEqProofs only [h.q9, h.q4, h.cc.is, Option.bind_some, not_true_eq_false, if_false, if_true]
  refine Rn.cl (e_copy c1 b5) fun v T1 _ ⟨k1, k2, k3, k4, k5⟩ => ?_
  subst k1
  have L1 : LsAt T1 (aAl A) (aAa A) (sH s).1 ha wa ca := L.fr (k2 _ b8) (k2 _ b9)
  simp -implicitDefEqProofs only [L1.is, Option.bind_some, not_true_eq_false, if_false, if_true]
  refine Rn.cl (e_add L1 (by omega) (by omega) (by omega) k5.ao (by omega) (by omega) (by omega) fun k hk => ⟨by have := (he k hk).1; omega, (he k hk).2.1.mono (k2 _ (he k hk).1), (he k hk).2.2.1⟩) fun v T2 hl2 ⟨_, a', cap', j1, j2, j3, j4, j5, j6⟩ => ?_
  have hl21 := hl2.1
  have lo2 : ∀ x, x < T.2.1 → x ≠ aAl A → x ≠ aAa A → T2.1 x = T.1 x := fun x q1 q2 q3 => (j3 x (by omega) q2 q3).trans (k2 x q1)
  obtain ⟨v11, v12, v13, sd, ob⟩ := hob
  obtain ⟨_, _, tg⟩ := h.tg
  have ob2 : ObA T2 o A s v11 v12 v13 sd := ob.fr (lo2 o b1 (fun q => by have h1 := tg.1; have h2 := tg.2.2.2.2.2.2.2.1; rw [q] at h1; omega) (fun q => by have h1 := tg.1; rw [q] at h1; omega))
  simp -implicitDefEqProofs only [ob2.q9, j1.is, j1.size, Option.bind_some, not_true_eq_false, if_false, if_true]
  have hq : ∀ T3 : xF, T2.2.1 ≤ T3.2.1 → (∀ x, bk T.2.1 x → T3.1 x = T2.1 x) → Fz (fun x => if x < T.2.1 then aO A x else if x = a' then 8 else 11) T3 (fun T' => GrAt T' T.2.1 o (sG s)) := by
    intro T3 l3 e3 T4 q1 q2
    have g3 : GrAt T3 T.2.1 o (sG s) := (k5.lo fun x q => by simp -implicitDefEqProofs only [bk] at q; exact j3 x (by omega) (by omega) (by omega)).lo e3
    refine g3.lo fun x q => q2 x ?_ ?_
    · simp -implicitDefEqProofs only [bk] at q
      have := hl2.1
      omega
    · simp -implicitDefEqProofs only [bk] at q
      dsimp only
      rw [if_neg (by omega), if_neg]
      rcases j2 with r | ⟨r, _⟩ <;> omega
  have hHs : ∀ (T3 : xF), T2.2.1 ≤ T3.2.1 → (∀ x, x < T.2.1 → x ≠ aAl A → x ≠ a' → T3.1 x = T2.1 x) → ∀ k, k < (sH s).1 → Fz (fun x => if x < T.2.1 then aO A x else if x = a' then 8 else 11) T3 (fun T' => GrAt T' (ha k) o ((sH s).2 k)) ∧ ha k + 5 ≤ T3.2.1 := by
    intro T3 l3 e3 k hk
    obtain ⟨q1, q2⟩ := H k hk
    refine ⟨q1.mv (by omega) fun x hx ho => ⟨?_, (if_pos hx).trans ho⟩, by omega⟩
    have n1 : x ≠ aAl A := fun r => by rw [r] at ho; have := tg.2.2.2.2.2.2.2.1; omega
    by_cases n2 : x = aAa A
    · subst n2
      rcases j2 with r | ⟨r, r2⟩
      · exfalso
        rcases ht with q | ⟨q, q3⟩
        · omega
        · have := j1.2.2.1
          omega
      · rw [e3 _ hx n1 (by omega), r2]
        exact k2 _ hx
    · rcases j2 with r | ⟨r, _⟩
      · rw [e3 x hx n1 (by omega)]; exact lo2 x hx n1 n2
      · rw [e3 x hx n1 (by omega)]; exact lo2 x hx n1 n2
  have h8 : a' = aAa A → aO A (aAa A) = 8 := by
    intro r
    rcases ht with q | ⟨q, q3⟩
    · exact q
    · exfalso
      have := j1.2.2.1
      rcases j2 with r2 | r2 <;> omega
  have hcap : 0 < cap' := by have := j1.2.2.1; omega
  have sw : ∀ T3 : xF, T3.1 (aAa A) = T2.1 (aAa A) ∨ a' = aAa A → T3.2.1 = T2.2.1 → (a' = aAa A ∧ 0 < cap' ∨ T.2.1 ≤ a' ∧ a' < T3.2.1 ∧ T3.1 (aAa A) = T.1 (aAa A)) := by
    intro T3 e3 l3
    rcases j2 with r | ⟨r, r2⟩
    · exact Or.inl ⟨r.1, hcap⟩
    · refine Or.inr ⟨by omega, by omega, ?_⟩
      rw [e3.resolve_right (by omega), r2]
      exact k2 _ b9
  have hle : ∀ n : Nat, n < 100 → (Int32.ofNat n ≤ (40 : Int32) ↔ n ≤ 40) := fun n hn => ole (n := n) (m := 40) (by omega) (by omega)
  by_cases hfull : (sH s).1 = 40
  · rw [if_neg (fun q => by have := (hle _ (by omega)).mp q; omega)]
    have hrem : ∀ k, k < (sH s).1 + 1 → AO T2 (va_up ha (sH s).1 T.2.1 k) ∧ va_up ha (sH s).1 T.2.1 k ≠ aAl A := by
      intro k hk
      by_cases q : k = (sH s).1
      · rw [q, vup_at]
        exact ⟨k5.ao.mono (j3 _ (by omega) (by omega) (by omega)), by omega⟩
      · rw [vup_no q]
        obtain ⟨e1, e2, e3, e4⟩ := he k (by omega)
        refine ⟨e2.mono ?_, e3⟩
        have n2 : ha k ≠ aAa A := by
          intro r
          have e5 := e4.1
          obtain ⟨F2, w2, _⟩ := L.2.1
          rw [r, w2] at e5
          cases e5
        exact lo2 _ e1 e3 n2
    refine Rn.cl (e_remove j1 (i := 0) (by omega) hrem) fun v T3 _ ⟨_, r1, r2⟩ => ?_
    have l3 : T3.2 = T2.2 := r1.1
    have e3 : ∀ x, x ≠ aAl A → x ≠ a' → T3.1 x = T2.1 x := fun x q1 q2 => r1.2 x (by omega)
    have na : a' ≠ aAl A := fun q => j1.ne q.symm
    refine Rn.ret ⟨(fun x => if x < T.2.1 then aO A x else if x = a' then 8 else 11, aRl A, aVa A, aBb A, aTt A, aCc A, aTp A, aRf A, aAl A, a', aSl A, aSa A), ?_, by rw [l3]; omega, by rw [l3]; omega⟩
    have L3 : LsAt T3 (aAl A) a' (hpush (sH s) (sG s)).1 (fun k => va_up ha (sH s).1 T.2.1 (k + 1)) true cap' := by
      unfold hpush
      rw [if_pos hfull]
      rw [hfull] at r2 ⊢
      exact r2
    refine h.acts (h' := hpush (sH s) (sG s)) (by rw [l3]; have := hl2.1; omega) (fun x q1 q2 q3 => ?_) L3 (sw T3 ?_ (by rw [l3])) ?_ h8
    · rw [e3 x q2 (by rcases j2 with r | r <;> omega)]; exact lo2 x q1 q2 q3
    · by_cases q : a' = aAa A
      · exact Or.inr q
      · exact Or.inl (e3 _ (fun r => L.ne r.symm) (Ne.symm q))
    · intro k hk
      have hk : k < 40 := by
        unfold hpush at hk
        rw [if_pos hfull] at hk
        exact hk
      have hh : (hpush (sH s) (sG s)).2 k = va_up (sH s).2 40 (sG s) (k + 1) := by unfold hpush; rw [if_pos hfull]
      rw [hh]
      by_cases q : k + 1 = 40
      · dsimp only
        rw [hfull, q, vup_at, vup_at]
        exact ⟨hq T3 (by rw [l3]; exact Nat.le_refl _) (fun x q => e3 x (by simp -implicitDefEqProofs only [bk] at q; omega) (by simp -implicitDefEqProofs only [bk] at q; rcases j2 with r | r <;> omega)), by rw [l3]; have := hl2.1; omega⟩
      · dsimp only
        rw [hfull, vup_no q, vup_no q]
        exact hHs T3 (by rw [l3]; exact Nat.le_refl _) (fun x _ q1 q2 => e3 x q1 q2) (k + 1) (by omega)
  · rw [if_pos ((hle _ (by omega)).mpr (by omega))]
    refine Rn.ret ⟨(fun x => if x < T.2.1 then aO A x else if x = a' then 8 else 11, aRl A, aVa A, aBb A, aTt A, aCc A, aTp A, aRf A, aAl A, a', aSl A, aSa A), ?_, by omega, by omega⟩
    have L3 : LsAt T2 (aAl A) a' (hpush (sH s) (sG s)).1 (va_up ha (sH s).1 T.2.1) true cap' := by
      unfold hpush
      rw [if_neg hfull]
      exact j1
    refine h.acts (h' := hpush (sH s) (sG s)) (by have := hl2.1; omega) lo2 L3 (sw T2 (Or.inl rfl) rfl) ?_ h8
    intro k hk
    have hk : k < (sH s).1 + 1 := by
      unfold hpush at hk
      rw [if_neg hfull] at hk
      exact hk
    have hh : (hpush (sH s) (sG s)).2 k = va_up (sH s).2 (sH s).1 (sG s) k := by unfold hpush; rw [if_neg hfull]
    rw [hh]
    by_cases q : k = (sH s).1
    · rw [q, vup_at, vup_at]
      exact ⟨hq T2 (Nat.le_refl _) (fun _ _ => rfl), by have := hl2.1; omega⟩
    · rw [vup_no q, vup_no q]
      exact hHs T2 (Nat.le_refl _) (fun _ _ _ _ => rfl) k (by omega)
end KA
