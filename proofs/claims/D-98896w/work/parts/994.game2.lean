/-! plain law: a game, on both sides -/
set_option maxRecDepth 100000
/-- neither would rather have done otherwise -/
def dec (s : St) (p q : Int32) (a b : Nat) : Bool := decide (¬ gv s p q a b < gv s p q (1 - a) b) && decide (gv s q p (1 - b) a ≤ gv s q p b a)
def gsF (s : St) (p q : Int32) (k : Nat) (x : Int32 × Int32) : Int32 × Int32 := if dec s p q (k / 2) (k % 2) = true then (x.1 + 1, if x.1 = 0 then 10 * Int32.ofNat (k / 2) + Int32.ofNat (k % 2) else x.2) else x
def gsp (s : St) (p q : Int32) (k : Nat) : Int32 × Int32 := itr (gsF s p q) k (0, -1)
theorem gsp_inv (s : St) (p q : Int32) : ∀ k, k ≤ 4 → (∃ n, n ≤ k ∧ (gsp s p q k).1 = Int32.ofNat n ∧ (n = 0 ↔ (gsp s p q k).2 = -1)) := by
  intro k
  induction k with
  | zero => exact fun _ => ⟨0, Nat.le_refl _, rfl, Iff.intro (fun _ => rfl) (fun _ => rfl)⟩
  | succ k ih =>
    intro hk
    obtain ⟨n, h1, h2, h3⟩ := ih (by omega)
    have e : gsp s p q (k + 1) = gsF s p q k (gsp s p q k) := rfl
    rw [e]
    unfold gsF
    split
    · refine ⟨n + 1, by omega, by show (gsp s p q k).1 + 1 = _; rw [h2]; exact oadd n 1, ?_⟩
      have z : ∀ k, k < 4 → ¬ (10 : Int32) * Int32.ofNat (k / 2) + Int32.ofNat (k % 2) = -1 := by decide
      refine Iff.intro (fun q => by omega) (fun r => ?_)
      exfalso
      have r : (if (gsp s p q k).1 = 0 then 10 * Int32.ofNat (k / 2) + Int32.ofNat (k % 2) else (gsp s p q k).2) = -1 := r
      rw [h2] at r
      by_cases c : Int32.ofNat n = 0
      · rw [if_pos c] at r
        exact z k (by omega) r
      · rw [if_neg c] at r
        have := h3.mpr r
        exact c (by rw [this]; rfl)
    · exact ⟨n, by omega, h2, h3⟩
section CM
variable {G : xG} {T T1 : xF} {o : Nat} {s s' : St} {A A' : Ad} {S S1 : MS} {g : Gw}
theorem sub1 : ∀ a, a < 2 → (1 : Int32) - Int32.ofNat a = Int32.ofNat (1 - a) := by decide
theorem e_game (ok : StOK s) (h : CIa G T o s A) {p q : Int32} (hpq : p ≠ q) (w : Int32) : Rn T (c_X1_game_35 G FU (some o) p q w 0 (-1) 0 T) fun v T' => v = .inl (if w = 0 then (gsp s p q 4).1 else (gsp s p q 4).2) ∧ (∃ A', CIa G T' o s A') ∧ T'.2.1 ≤ T.2.1 + 12 ∧ T'.2.2 ≤ T.2.2 + 24 := by
  refine loop_rule (σ := (xF × Ad) × Int32 × Int32) (N := 2) (fun i x => x.2 = gsp s p q (2 * i) ∧ CIa G x.1.1 o s x.1.2 ∧ x.1.1.2.1 ≤ T.2.1 + 6 * i ∧ x.1.1.2.2 ≤ T.2.2 + 12 * i) (fun n i x => Rn x.1.1 (c_X1_game_35 G n (some o) p q w x.2.1 x.2.2 (Int32.ofNat i) x.1.1) _) ?_ ?_ FU (by decide) ((T, A), 0, -1) ⟨rfl, h, Nat.le_refl _, Nat.le_refl _⟩
  · rintro n i ⟨⟨T1, A1⟩, mn, fi⟩ hi ⟨h1, h2, h3, h4⟩ K
    dsimp only at h1 h2 h3 h4 ⊢
    have hle : ¬ (2 : Int32) ≤ Int32.ofNat i := fun q => by have := (ole (n := 2) (m := i) (by omega) (by omega)).mp q; omega
    show Rn T1 (c_X1_game_35_b G (c_X1_game_35 G n) (some o) p q w mn fi (Int32.ofNat i) T1) _
    unfold c_X1_game_35_b
    rw [if_neg hle]
    refine loop_rule (σ := (xF × Ad) × Int32 × Int32) (N := 2) (fun j x => x.2 = gsp s p q (2 * i + j) ∧ CIa G x.1.1 o s x.1.2 ∧ x.1.1.2.1 ≤ T.2.1 + 6 * i + 3 * j ∧ x.1.1.2.2 ≤ T.2.2 + 12 * i + 6 * j) (fun m j x => Rn x.1.1 (c_X1_game_44 G (c_X1_game_35 G n) m (some o) p q w x.2.1 x.2.2 (Int32.ofNat i) (Int32.ofNat j) x.1.1) _) ?_ ?_ FU (by decide) ((T1, A1), mn, fi) ⟨h1, h2, h3, h4⟩
    · rintro m j ⟨⟨T2, A2⟩, mn2, fi2⟩ hj ⟨a1, a2, a3, a4⟩ K2
      dsimp only at a1 a2 a3 a4 ⊢
      have hle2 : ¬ (2 : Int32) ≤ Int32.ofNat j := fun q => by have := (ole (n := 2) (m := j) (by omega) (by omega)).mp q; omega
      have hst : gsp s p q (2 * i + (j + 1)) = gsF s p q (2 * i + j) (mn2, fi2) := by rw [a1]; rfl
      have e1 : (2 * i + j) / 2 = i := by omega
      have e2 : (2 * i + j) % 2 = j := by omega
      unfold gsF at hst
      rw [e1, e2] at hst
      show Rn T2 (c_X1_game_44_b G (c_X1_game_35 G n) (c_X1_game_44 G (c_X1_game_35 G n) m) (some o) p q w mn2 fi2 (Int32.ofNat i) (Int32.ofNat j) T2) _
      unfold c_X1_game_44_b
      simp -implicitDefEqProofs only [hle2, a2.iso, sub1 i hi, sub1 j hj, c_X1_game_125, c_X1_game_122, ofn1 j (by omega), Option.bind_some, not_true_eq_false, if_false, if_true]
      have key : ∀ T3 A3 x, CIa G T3 o s A3 → x = gsp s p q (2 * i + (j + 1)) → T3.2.1 ≤ T2.2.1 + 3 → T3.2.2 ≤ T2.2.2 + 6 → Rn T3 (c_X1_game_44 G (c_X1_game_35 G n) m (some o) p q w x.1 x.2 (Int32.ofNat i) (Int32.ofNat (j + 1)) T3) fun v T' => v = .inl (if w = 0 then (gsp s p q 4).1 else (gsp s p q 4).2) ∧ (∃ A', CIa G T' o s A') ∧ T'.2.1 ≤ T.2.1 + 12 ∧ T'.2.2 ≤ T.2.2 + 24 := fun T3 A3 x c1 c2 c3 c4 => K2 ((T3, A3), x) ⟨c2, c1, by show T3.2.1 ≤ _; omega, by show T3.2.2 ≤ _; omega⟩
      refine Rn.cl (e_gains ok a2 hpq hi hj) fun v T3 _ ⟨b1, ⟨f, b2, b3, b4⟩, b5, b6, b7⟩ => ?_
      subst b1
      simp -implicitDefEqProofs only [b5.iso, Option.bind_some, not_true_eq_false, if_false, if_true]
      refine Rn.cl (e_gains ok b5 hpq (a := 1 - i) (by omega) hj) fun v T4 _ ⟨c1, ⟨f', c2, c3, c4⟩, c5, c6, c7⟩ => ?_
      subst c1
      have n3 : T3.2.1 = T2.2.1 + 1 := by rw [b7]
      have own3 : aO (rtg A2 T2.2.1) T2.2.1 = 12 := if_neg (Nat.lt_irrefl _)
      have b24 : IaAt T4 T2.2.1 2 f := b2.fr (c6 _ (by omega) own3)
      have l0 : ldA T4 (some T3.2.1) .int (0 : Int32) = some (f' 0) := c2.ld (k := 0) (by decide) (by decide)
      have l1 : ldA T4 (some T2.2.1) .int (0 : Int32) = some (f 0) := b24.ld (k := 0) (by decide) (by decide)
      simp -implicitDefEqProofs only [l0, l1, b3, c3, Option.bind_some, not_true_eq_false, if_false, if_true]
      by_cases d1 : gv s p q i j < gv s p q (1 - i) j
      · rw [if_pos d1]
        have hd : dec s p q i j = false := by unfold dec; simp [d1]
        rw [hd] at hst
        exact key T4 _ (mn2, fi2) c5 hst.symm (by rw [c7]; show T3.2.1 + 1 ≤ _; omega) (by rw [c7, b7]; show T2.2.2 + 2 + 2 ≤ _; omega)
      rw [if_neg d1]
      simp -implicitDefEqProofs only [c5.iso, Option.bind_some, not_true_eq_false, if_false, if_true]
      refine Rn.cl (e_gains ok c5 hpq hi (b := 1 - j) (by omega)) fun v T5 _ ⟨d2, ⟨f'', d3, d4, d5⟩, d6, d7, d8⟩ => ?_
      subst d2
      have n4 : T4.2.1 = T2.2.1 + 2 := by rw [c7]; show T3.2.1 + 1 = _; omega
      have own4 : aO (rtg (rtg A2 T2.2.1) T3.2.1) T2.2.1 = 12 := by
        show (if T2.2.1 < T3.2.1 then aO (rtg A2 T2.2.1) T2.2.1 else 12) = 12
        rw [if_pos (by omega)]; exact own3
      have b25 : IaAt T5 T2.2.1 2 f := b24.fr (d7 _ (by omega) own4)
      have l2 : ldA T5 (some T4.2.1) .int (1 : Int32) = some (f'' 1) := d3.ld (k := 1) (by decide) (by decide)
      have l3 : ldA T5 (some T2.2.1) .int (1 : Int32) = some (f 1) := b25.ld (k := 1) (by decide) (by decide)
      simp -implicitDefEqProofs only [l2, l3, b4, d5, Option.bind_some, not_true_eq_false, if_false, if_true]
      have cn1 : T5.2.1 ≤ T2.2.1 + 3 := by rw [d8]; show T4.2.1 + 1 ≤ _; omega
      have cn2 : T5.2.2 ≤ T2.2.2 + 6 := by rw [d8, c7, b7]; show T2.2.2 + 2 + 2 + 2 ≤ _; omega
      by_cases d9 : gv s q p (1 - j) i ≤ gv s q p j i
      · rw [if_pos d9]
        have hd : dec s p q i j = true := by unfold dec; simp [d1, d9]
        rw [hd, if_pos rfl] at hst
        dsimp only at hst
        by_cases m0 : mn2 = 0
        · rw [if_pos m0] at hst ⊢
          exact key T5 _ (mn2 + 1, _) d6 hst.symm cn1 cn2
        · rw [if_neg m0] at hst ⊢
          exact key T5 _ (mn2 + 1, _) d6 hst.symm cn1 cn2
      · rw [if_neg d9]
        have hd : dec s p q i j = false := by unfold dec; simp [d9]
        rw [hd] at hst
        exact key T5 _ (mn2, fi2) d6 hst.symm cn1 cn2
    · rintro m ⟨⟨T2, A2⟩, mn2, fi2⟩ ⟨a1, a2, a3, a4⟩
      dsimp only at a1 a2 a3 a4 ⊢
      show Rn T2 (c_X1_game_44_b G (c_X1_game_35 G n) (c_X1_game_44 G (c_X1_game_35 G n) m) (some o) p q w mn2 fi2 (Int32.ofNat i) (Int32.ofNat 2) T2) _
      unfold c_X1_game_44_b
      rw [if_pos (by decide), ofn1 i (by omega)]
      exact K ((T2, A2), mn2, fi2) ⟨by rw [show 2 * (i + 1) = 2 * i + 2 by omega]; exact a1, a2, by show T2.2.1 ≤ _; omega, by show T2.2.2 ≤ _; omega⟩
  · rintro n ⟨⟨T1, A1⟩, mn, fi⟩ ⟨h1, h2, h3, h4⟩
    dsimp only at h1 h2 h3 h4 ⊢
    show Rn T1 (c_X1_game_35_b G (c_X1_game_35 G n) (some o) p q w mn fi (Int32.ofNat 2) T1) _
    unfold c_X1_game_35_b
    rw [if_pos (by decide)]
    have h1 : (mn, fi) = gsp s p q 4 := h1
    rw [← h1]
    by_cases hw : w = 0
    · rw [if_pos hw, if_pos hw]
      exact Rn.ret ⟨rfl, ⟨A1, h2⟩, h3, h4⟩
    · rw [if_neg hw, if_neg hw]
      exact Rn.ret ⟨rfl, ⟨A1, h2⟩, h3, h4⟩
theorem r_game (ok : StOK s) (h : MI S s) {p q : Int32} (w : Int32) : Mn (m_game_59 FU p q w 0 (-1) 0 S) fun r => r.1 = (if w = 0 then (gsp s p q 4).1 else (gsp s p q 4).2) ∧ MI r.2 s ∧ r.2.1 = S.1 := by
  refine loop_rule (σ := MS × Int32 × Int32) (N := 4) (fun i x => x.2 = gsp s p q i ∧ MI x.1 s ∧ x.1.1 = S.1) (fun n i x => Mn (m_game_59 n p q w x.2.1 x.2.2 (Int32.ofNat i) x.1) _) ?_ ?_ FU (by decide) (S, 0, -1) ⟨rfl, h, rfl⟩
  · rintro n k ⟨S1, mn, fi⟩ hk ⟨h1, h2, h3⟩ K
    dsimp only at h1 h2 h3 ⊢
    obtain ⟨nn, i1, i2, i3⟩ := gsp_inv s p q k (by omega)
    rw [← h1] at i2 i3
    dsimp only at i2 i3
    have hst : gsp s p q (k + 1) = gsF s p q k (mn, fi) := by rw [h1]; rfl
    unfold gsF at hst
    have ed : Int32.ofNat k / 2 = Int32.ofNat (k / 2) := odiv (n := 2) (by omega) (by decide) (by decide)
    have er : Int32.ofNat k - Int32.ofNat (k / 2) * 2 = Int32.ofNat (k % 2) := by rw [← ed]; exact orem (n := 2) (by omega) (by decide) (by decide)
    have ha : k / 2 < 2 := by omega
    have hb : k % 2 < 2 := by omega
    show Mn (m_game_59_b (m_game_59 n) p q w mn fi (Int32.ofNat k) S1) _
    unfold m_game_59_b
    simp -implicitDefEqProofs only [le4 hk, show ¬ (2 : Int32) = 0 by decide, ed, er, sub1 _ ha, sub1 _ hb, m_game_149, ofn1 k (by omega), Option.bind_some, not_true_eq_false, if_false, if_true]
    refine Mn.bw (r_gains ok h2 (a := 1 - k / 2) (b := k % 2) (by omega) hb) fun r1 ⟨a1, a2, a3⟩ => ?_
    refine Mn.bw (r_gains ok a2 (a := k / 2) (b := k % 2) ha hb) fun r2 ⟨b1, b2, b3⟩ => ?_
    rw [a1, b1]
    by_cases d1 : gv s p q (k / 2) (k % 2) < gv s p q (1 - k / 2) (k % 2)
    · rw [if_pos d1]
      have hd : dec s p q (k / 2) (k % 2) = false := by unfold dec; simp [d1]
      rw [hd] at hst
      exact K (r2.2, mn, fi) ⟨hst.symm, b2, b3.trans (a3.trans h3)⟩
    rw [if_neg d1]
    refine Mn.bw (r_gains ok b2 (p := q) (q := p) (a := 1 - k % 2) (b := k / 2) (by omega) ha) fun r3 ⟨c1, c2, c3⟩ => ?_
    refine Mn.bw (r_gains ok c2 (p := q) (q := p) (a := k % 2) (b := k / 2) hb ha) fun r4 ⟨d2, d3, d4⟩ => ?_
    rw [c1, d2]
    have cn : r4.2.1 = S.1 := d4.trans (c3.trans (b3.trans (a3.trans h3)))
    by_cases d9 : gv s q p (1 - k % 2) (k / 2) ≤ gv s q p (k % 2) (k / 2)
    · rw [if_pos d9]
      have hd : dec s p q (k / 2) (k % 2) = true := by unfold dec; simp [d1, d9]
      rw [hd, if_pos rfl] at hst
      dsimp only at hst
      by_cases m0 : fi = -1
      · have n0 := i3.mpr m0
        subst n0
        rw [if_pos m0]
        rw [if_pos (show mn = 0 from i2)] at hst
        exact K (r4.2, mn + 1, _) ⟨hst.symm, d3, cn⟩
      · rw [if_neg m0]
        rw [if_neg (show ¬ mn = 0 from fun r => m0 (i3.mp ((oeq (n := nn) (m := 0) (by omega) (by omega)).mp (i2.symm.trans r))))] at hst
        exact K (r4.2, mn + 1, _) ⟨hst.symm, d3, cn⟩
    · rw [if_neg d9]
      have hd : dec s p q (k / 2) (k % 2) = false := by unfold dec; simp [d9]
      rw [hd] at hst
      exact K (r4.2, mn, fi) ⟨hst.symm, d3, cn⟩
  · rintro n ⟨S1, mn, fi⟩ ⟨h1, h2, h3⟩
    dsimp only at h1 h2 h3 ⊢
    show Mn (m_game_59_b (m_game_59 n) p q w mn fi (Int32.ofNat 4) S1) _
    unfold m_game_59_b
    rw [if_pos (by decide), ← h1]
    by_cases hw : w = 0
    · rw [if_pos hw, if_pos hw]
      exact Mn.ret ⟨rfl, h2, h3⟩
    · rw [if_neg hw, if_neg hw]
      exact Mn.ret ⟨rfl, h2, h3⟩
theorem k_game (ok : StOK s) (h : CIa G T o s A) (m : MI S s) (a b c : Int32) : Jn T (c_X1_game G (some o) a b c T) (m_game a b c S) fun r T' q => AG NS IA r q.1 q.2 ∧ Nx G o T s T' q.2 := by
  have m0 := m.th 0
  have z : (sF S 0 0).1 0 = 0 := sF_0
  unfold c_X1_game m_game
  rcases (rng 0 3 (by decide) (by decide) a).symm with hv | ⟨p, -, hp, rfl⟩
  · exact Jn.thX (e_party_f (iin_f hv)) thr_le (r := (0, sF (sF S 0 0) 0 1)) (by simp -implicitDefEqProofs only [r_party_f z (iin_f hv), Option.bind_some, not_true_eq_false, if_false, if_true]) ⟨Or.inl ⟨rfl, sF_0⟩, Nx.same ok h.tw (m0.th 1) (by show T.2.1 + 1 ≤ _; omega) (by show T.2.2 + 6 ≤ _; omega)⟩
  have ep : iin (Int32.ofNat p) 0 3 = true := iin_t (a := 0) (Nat.zero_le _) hp (by decide)
  refine Jn.okX (e_party_t ep) ?_
  simp -implicitDefEqProofs only [r_party_t z ep, Option.bind_some, not_true_eq_false, if_false, if_true, i10]
  rcases (rng 0 3 (by decide) (by decide) b).symm with hv | ⟨q, -, hq, rfl⟩
  · exact Jn.thX (e_party_f (iin_f hv)) thr_le (r := (0, sF (sF S 0 0) 0 1)) (by simp -implicitDefEqProofs only [r_party_f z (iin_f hv), Option.bind_some, not_true_eq_false, if_false, if_true]) ⟨Or.inl ⟨rfl, sF_0⟩, Nx.same ok h.tw (m0.th 1) (by show T.2.1 + 1 ≤ _; omega) (by show T.2.2 + 6 ≤ _; omega)⟩
  have eq : iin (Int32.ofNat q) 0 3 = true := iin_t (a := 0) (Nat.zero_le _) hq (by decide)
  refine Jn.okX (e_party_t eq) ?_
  simp -implicitDefEqProofs only [r_party_t z eq, Option.bind_some, not_true_eq_false, if_false, if_true, i10]
  rcases (rng 0 1 (by decide) (by decide) c).symm with hv | ⟨w, -, hw, rfl⟩
  · exact Jn.thX (e_oneOf_f (b := 1) (iin_f hv)) thr_le (r := (0, sF (sF S 0 0) 0 1)) (by simp -implicitDefEqProofs only [r_what_f (b := 1) z (iin_f hv), Option.bind_some, not_true_eq_false, if_false, if_true]) ⟨Or.inl ⟨rfl, sF_0⟩, Nx.same ok h.tw (m0.th 1) (by show T.2.1 + 1 ≤ _; omega) (by show T.2.2 + 6 ≤ _; omega)⟩
  have ew : iin (Int32.ofNat w) 0 1 = true := iin_t (a := 0) (Nat.zero_le _) hw (by decide)
  refine Jn.okX (e_oneOf_t ew) ?_
  simp -implicitDefEqProofs only [r_what_t z ew, Option.bind_some, not_true_eq_false, if_false, if_true, i10]
  by_cases hpq : Int32.ofNat p = Int32.ofNat q
  · rw [if_pos hpq, if_pos hpq]
    unfold c_X1_game_23 m_game_41
    have hr : m_right 0 2 (sF S 0 0) = some (0, sF (sF S 0 0) 0 2) := r_right_f z (by decide)
    exact Jn.thX e_right_f thr_le (r := (0, sF (sF S 0 0) 0 2)) (by simp -implicitDefEqProofs only [hr, Option.bind_some, not_true_eq_false, if_false, if_true]) ⟨Or.inr ⟨rfl, sF_0⟩, Nx.same ok h.tw (m0.th 2) (by show T.2.1 + 1 ≤ _; omega) (by show T.2.2 + 6 ≤ _; omega)⟩
  · rw [if_neg hpq, if_neg hpq]
    unfold c_X1_game_23 m_game_41
    have hr : m_right 1 2 (sF S 0 0) = some (1, sF S 0 0) := r_right_t z
    refine Jn.okX e_right_t ?_
    simp -implicitDefEqProofs only [hr, Option.bind_some, not_true_eq_false, if_false, if_true, i10]
    refine Jn.of (e_game ok h hpq (Int32.ofNat w)) (r_game ok m0 (Int32.ofNat w)) fun v T' r ⟨k1, ⟨A', k2⟩, k3, k4⟩ ⟨j1, j2, j3⟩ => ?_
    subst k1
    obtain ⟨r1, r2⟩ := r
    dsimp only at j1 j2 j3
    subst j1
    exact ⟨⟨by rw [j3]; exact z, rfl⟩, Nx.same ok k2 j2 (by omega) (by omega)⟩
end CM
