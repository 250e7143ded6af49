/-! plain law: patches -/
set_option maxRecDepth 100000
section CM
variable {G : xG} {T T1 : xF} {o : Nat} {s s' : St} {A A' : Ad} {S S1 : MS} {g : Gw}
/-- the patch of a cell -/
abbrev Pt (s : St) (c : Nat) (R : Int32) : Prop := bi R c = true ∧ (∀ d, d < 32 → bi R d = true → ∀ y, nbr s c d y → bi R y = true) ∧ (∀ d, eN (sE s) ≤ d → d < 32 → bi R d = false) ∧ ∀ d, d < 32 → bi R d = true → Di s c (eN (sE s)) d
theorem e_patch (ok : StOK s) (h : CIa G T o s A) {c : Nat} (hc : c < eN (sE s)) : ∃ R, cS T SFU (some o) (Int32.ofNat c) 0 = some R ∧ Pt s c R := by
  have hn := ok.1.n30
  obtain ⟨r, e, p1, p2, p3, p4, p5⟩ := e_spread ok h c SFU c 0 0 hc rfl rfl (by rw [wht_0]; omega) (by rw [b_0]; simp) (by rw [wht_0]; show _ ≤ 40; omega) (fun d _ _ => b_0 d)
  refine ⟨r, e, p2, fun d hd q => p4 d hd q (by rw [b_0]; simp), p5, fun d hd q => ?_⟩
  rcases p3 d hd q with k | k
  · rw [b_0] at k; cases k
  · exact k.2.2
theorem r_patch (ok : StOK s) (h : MI S s) {c : Nat} (hc : c < eN (sE s)) {R : Int32} (P : Pt s c R) : m_patchOf (Int32.ofNat c) S = some R := by
  have hn := ok.1.n30
  obtain ⟨P1, P2, P3, P4⟩ := P
  have c3 : c < 30 := by omega
  unfold m_patchOf
  have one : ∀ d, d < 32 → bi ((1 : Int32) <<< (Int32.ofNat c &&& 31)) d = decide (d = c) := by
    intro d hd
    have := b_set (a := 0) (c := c) (d := d) (by omega) hd
    rw [b_0, Bool.false_or, Int32.zero_or] at this
    exact this
  -- v within the patch, holding all that is come to in k steps
  refine loop_rule (σ := Int32) (N := eN (sE s)) (fun k v => (∀ d, d < 32 → bi v d = true → bi R d = true) ∧ ∀ d, d < 32 → Di s c k d → bi v d = true) (fun f k v => m_patchOf_6 f (Int32.ofNat c) v (Int32.ofNat k) S = some R) ?_ ?_ FU (by show eN (sE s) < 6000; omega) ((1 : Int32) <<< (Int32.ofNat c &&& 31)) ⟨fun d hd q => ?_, fun d hd q => ?_⟩
  · rintro f k v hk ⟨v1, v2⟩ K
    show m_patchOf_6_b (m_patchOf_6 f) (Int32.ofNat c) v (Int32.ofNat k) S = _
    unfold m_patchOf_6_b
    simp -implicitDefEqProofs only [v_cells ok h, leN hk hn, Option.bind_some, not_true_eq_false, if_false, if_true]
    refine loop_rule (σ := Int32) (N := eN (sE s)) (fun d w => (∀ x, x < 32 → bi v x = true → bi w x = true) ∧ (∀ x, x < 32 → bi w x = true → bi R x = true) ∧ ∀ x, x < d → Di s c (k + 1) x → bi w x = true) (fun f2 d w => m_patchOf_17 (m_patchOf_6 f) f2 (Int32.ofNat c) w (Int32.ofNat k) (Int32.ofNat d) S = some R) ?_ ?_ FU (by show eN (sE s) < 6000; omega) v ⟨fun _ _ q => q, v1, fun x hx => absurd hx (Nat.not_lt_zero x)⟩
    · rintro f2 d w hd ⟨w1, w2, w3⟩ K2
      have d3 : d < 30 := by omega
      show m_patchOf_17_b (m_patchOf_6 f) (m_patchOf_17 (m_patchOf_6 f) f2) (Int32.ofNat c) w (Int32.ofNat k) (Int32.ofNat d) S = _
      unfold m_patchOf_17_b
      simp -implicitDefEqProofs only [v_cells ok h, leN hd hn, h.row.lK0 d3, h.row.lK0 c3, m_patchOf_112, ofn1 d (by omega), Option.bind_some, not_true_eq_false, if_false, if_true]
      have dk : ∀ m, Di s c m d → gK (sG s) d = gK (sG s) c := by
        intro m
        induction m with
        | zero => intro q; rw [show d = c from q]
        | succ m ihm =>
          intro q
          rcases q with q | ⟨y, _, q⟩
          · exact ihm q
          · exact q.2.2
      by_cases hkd : gK (sG s) d = gK (sG s) c
      · rw [if_pos hkd]
        by_cases hb : bi w d = true
        · rw [if_pos ((b_test (by omega)).mpr hb)]
          refine K2 w ⟨w1, w2, fun x hx q => ?_⟩
          by_cases e : x = d
          · subst e; exact hb
          · exact w3 x (by omega) q
        · rw [if_neg (fun q => hb ((b_test (by omega)).mp q))]
          refine loop_rule (σ := Int32) (N := eN (sE s)) (fun e u => (∀ x, x < 32 → bi w x = true → bi u x = true) ∧ (∀ x, x < 32 → bi u x = true → bi R x = true) ∧ ∀ y, y < e → bi w y = true → stp (eW (sE s)) (Int32.ofNat y) (Int32.ofNat d) = 1 → bi u d = true) (fun f3 e u => m_patchOf_64 (m_patchOf_6 f) (m_patchOf_17 (m_patchOf_6 f) f2) f3 (Int32.ofNat c) u (Int32.ofNat k) (Int32.ofNat d) (Int32.ofNat e) S = some R) ?_ ?_ FU (by show eN (sE s) < 6000; omega) w ⟨fun _ _ q => q, w2, fun y hy => absurd hy (Nat.not_lt_zero y)⟩
          · rintro f3 e u he ⟨u1, u2, u3⟩ K3
            have e3 : e < 30 := by omega
            show m_patchOf_64_b (m_patchOf_6 f) (m_patchOf_17 (m_patchOf_6 f) f2) (m_patchOf_64 (m_patchOf_6 f) (m_patchOf_17 (m_patchOf_6 f) f2) f3) (Int32.ofNat c) u (Int32.ofNat k) (Int32.ofNat d) (Int32.ofNat e) S = _
            unfold m_patchOf_64_b
            simp -implicitDefEqProofs only [v_cells ok h, leN he hn, v_far ok h d3 e3, m_patchOf_103, m_patchOf_104, ofn1 e (by omega), Option.bind_some, not_true_eq_false, if_false, if_true, Int32.or_zero]
            by_cases hue : bi u e = true
            · rw [if_pos ((b_test (by omega)).mpr hue)]
              by_cases hs : stp (eW (sE s)) (Int32.ofNat e) (Int32.ofNat d) = 1
              · rw [if_pos hs]
                have bs : ∀ x, x < 32 → bi (u ||| ((1 : Int32) <<< (Int32.ofNat d &&& 31))) x = (bi u x || decide (x = d)) := fun x hx => b_set (by omega) hx
                refine K3 _ ⟨fun x hx q => by rw [bs x hx, u1 x hx q]; rfl, fun x hx q => ?_, fun y hy _ _ => by rw [bs d (by omega)]; simp⟩
                rw [bs x hx] at q
                by_cases ex : x = d
                · subst ex
                  exact P2 e (by omega) (u2 e (by omega) hue) x ⟨hd, by rw [ok.1.sym x (by omega) e e3]; exact hs, hkd⟩
                · simp [ex] at q
                  exact u2 x hx q
              · rw [if_neg hs]
                refine K3 u ⟨u1, u2, fun y hy hw hs2 => ?_⟩
                by_cases ey : y = e
                · subst ey; exact absurd hs2 hs
                · exact u3 y (by omega) hw hs2
            · rw [if_neg (fun q => hue ((b_test (by omega)).mp q))]
              refine K3 u ⟨u1, u2, fun y hy hw hs2 => ?_⟩
              by_cases ey : y = e
              · subst ey; exact absurd (u1 y (by omega) hw) hue
              · exact u3 y (by omega) hw hs2
          · rintro f3 u ⟨u1, u2, u3⟩
            show m_patchOf_64_b (m_patchOf_6 f) (m_patchOf_17 (m_patchOf_6 f) f2) (m_patchOf_64 (m_patchOf_6 f) (m_patchOf_17 (m_patchOf_6 f) f2) f3) (Int32.ofNat c) u (Int32.ofNat k) (Int32.ofNat d) (Int32.ofNat (eN (sE s))) S = _
            unfold m_patchOf_64_b
            simp -implicitDefEqProofs only [v_cells ok h, Int32.le_refl, m_patchOf_112, ofn1 d (by omega), Option.bind_some, not_true_eq_false, if_false, if_true]
            refine K2 u ⟨fun x hx q => u1 x hx (w1 x hx q), u2, fun x hx q => ?_⟩
            by_cases ex : x = d
            · subst ex
              rcases q with q | ⟨y, q1, q2⟩
              · exact u1 x (by omega) (w1 x (by omega) (v2 x (by omega) q))
              · have hy : y < 32 := by
                  have : ∀ m y, Di s c m y → y < 32 := by
                    intro m
                    induction m with
                    | zero => intro y q; rw [show y = c from q]; omega
                    | succ m ihm =>
                      intro y q
                      rcases q with q | ⟨z, _, q⟩
                      · exact ihm y q
                      · have := q.1; omega
                  exact this k y q1
                have hvy := v2 y hy q1
                have hRy := v1 y hy hvy
                have y30 : y < eN (sE s) := by
                  by_cases c : y < eN (sE s)
                  · exact c
                  · have := P3 y (by omega) hy
                    rw [this] at hRy; cases hRy
                exact u3 y y30 (w1 y hy hvy) (by rw [ok.1.sym y (by omega) x d3]; exact q2.2.1)
            · exact u1 x (by omega) (w3 x (by omega) q)
      · rw [if_neg hkd]
        refine K2 w ⟨w1, w2, fun x hx q => ?_⟩
        by_cases e : x = d
        · subst e; exact absurd (dk _ q) hkd
        · exact w3 x (by omega) q
    · rintro f2 w ⟨w1, w2, w3⟩
      show m_patchOf_17_b (m_patchOf_6 f) (m_patchOf_17 (m_patchOf_6 f) f2) (Int32.ofNat c) w (Int32.ofNat k) (Int32.ofNat (eN (sE s))) S = _
      unfold m_patchOf_17_b
      simp -implicitDefEqProofs only [v_cells ok h, Int32.le_refl, ofn1 k (by omega), Option.bind_some, not_true_eq_false, if_false, if_true]
      refine K w ⟨w2, fun d hd q => ?_⟩
      by_cases e : d < eN (sE s)
      · exact w3 d e q
      · exfalso
        rcases q with q | ⟨y, _, q⟩
        · have := v1 d hd (v2 d hd q)
          rw [P3 d (by omega) hd] at this; cases this
        · exact e q.1
  · rintro f v ⟨v1, v2⟩
    show m_patchOf_6_b (m_patchOf_6 f) (Int32.ofNat c) v (Int32.ofNat (eN (sE s))) S = _
    unfold m_patchOf_6_b
    simp -implicitDefEqProofs only [v_cells ok h, Int32.le_refl, Option.bind_some, not_true_eq_false, if_false, if_true]
    congr 1
    refine b_ext fun d hd => ?_
    cases hR : bi R d with
    | true => exact v2 d hd (P4 d hd hR)
    | false =>
      cases hv : bi v d with
      | false => rfl
      | true => rw [v1 d hd hv] at hR; cases hR
  · rw [one d hd] at q
    have : d = c := by simpa using q
    subst this; exact P1
  · rw [one d hd]
    have : d = c := q
    simp [this]
theorem k_patch (ok : StOK s) (h : CIa G T o s A) (m : MI S s) (a : Int32) : Jn T (c_X1_patch (some o) a T) (m_patch a S) fun r T' q => AG NS "" r q.1 q.2 ∧ Nx G o T s T' q.2 := by
  have m0 := m.th 0
  have z : (sF S 0 0).1 0 = 0 := sF_0
  have hn := ok.1.n30
  unfold c_X1_patch m_patch
  simp -implicitDefEqProofs only [h.iso, Option.bind_some, not_true_eq_false, if_false, if_true]
  rcases (cell_rng ok a).symm with hv | ⟨x, hx, rfl⟩
  · exact Jn.thX (e_cell_f h ok hv) thr_le (r := (0, sF (sF S 0 0) 0 1)) (by simp -implicitDefEqProofs only [r_cell_f m0 ok z hv, Option.bind_some, not_true_eq_false, if_false, if_true]) ⟨Or.inl ⟨rfl, sF_0⟩, Nx.same ok h.tw (m0.th 1) (by show T.2.1 + 1 ≤ _; omega) (by show T.2.2 + 6 ≤ _; omega)⟩
  refine Jn.okX (e_cell_t h ok hx) ?_
  simp -implicitDefEqProofs only [r_cell_t m0 ok z hx, Option.bind_some, not_true_eq_false, if_false, if_true, i10]
  have x3 : x < 30 := by omega
  simp -implicitDefEqProofs only [h.q4, h.cc.o2, h.cc.ldK x3, m0.row.lK0 x3, h.iso, Option.bind_some, not_true_eq_false, if_false, if_true]
  by_cases hk : gK (sG s) x = -1
  · rw [if_pos hk, if_pos hk]
    exact Jfin ok h m0 z rfl
  · rw [if_neg hk, if_neg hk]
    obtain ⟨R, e, P⟩ := e_patch ok h hx
    rw [e, Option.bind_some, r_patch ok m0 hx P, Option.bind_some]
    exact Jfin ok h m0 z rfl
end CM
