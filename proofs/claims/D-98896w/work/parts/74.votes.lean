/-! plain law: votes, on the system's side -/
set_option maxRecDepth 100000
theorem bt_of : ∀ p, p < 4 → ∀ s : Int32, c_X1_isOf s (Int32.ofNat p) = some (if bt s p = 1 then 1 else 0) := by
  intro p hp s
  unfold c_X1_isOf bt
  have h31 : (Int32.ofNat p) &&& 31 = Int32.ofNat p := by
    have : p = 0 ∨ p = 1 ∨ p = 2 ∨ p = 3 := by omega
    rcases this with rfl | rfl | rfl | rfl <;> decide
  rw [h31]
  split <;> rfl
section GS
variable {E : Nat → Prop} {G : xG} {T T0 : xF} {o rl va bb a b c d : Nat} {e : En} {g g0 : Gw} {f : Nat → Int32}
theorem e_isVoter (hE0 : Ev E G T0 o rl va bb e) (hA0 : GrAt T0 a o g) (hc : c < 30) : c_X3_isVoter T0 (some a) (Int32.ofNat c) = some (b01 (vtr e g c)) := by
  unfold c_X3_isVoter vtr
  simp -implicitDefEqProofs only [hA0.o0, hA0.o1, hA0.o2, hA0.o3, hA0.o4, hA0.o5, hA0.is, hA0.ldD hc, hA0.ldF hc, hA0.ldK hc, hA0.ldZ hc, hE0.rol, hE0.a, Option.bind_some, not_true_eq_false, if_false, if_true]
  by_cases h1 : gK g c = -1
  · rw [if_pos h1]; simp [h1, b01]
  · rw [if_neg h1]
    by_cases h2 : gZ g c < eA e
    · rw [if_pos h2]; simp [h2, b01]
    · rw [if_neg h2]; simp [h1, h2, b01]
theorem vtr_k (h : ∀ c, c < 30 → kOK e (gK g c)) (hc : c < 30) (hv : vtr e g c = true) : ∃ k, k < eP e ∧ gK g c = Int32.ofNat k := by
  rcases h c hc with q | q
  · unfold vtr at hv; simp [q] at hv
  · exact q
theorem ofn4 (ok : EnOK e) {k : Nat} (hk : k < eP e) : (Int32.ofNat k).toNatClampNeg = k := ofn2 k (by have := ok.2.1; omega)
theorem e_votes (ok : EnOK e) (hE0 : Ev E G T0 o rl va bb e) (hA0 : GrAt T0 a o g) (hk : ∀ c, c < 30 → kOK e (gK g c)) (p : Int32) : c_X3_votes T0 (some a) p = some (vts e g p) := by
  have hn := ok.n30
  unfold c_X3_votes
  refine loop_rule (σ := Int32) (N := eN e) (fun i s => s = itr (vtsF e g p) i 0) (fun m i s => c_X3_votes_4 T0 m (some a) p s (Int32.ofNat i) = some (vts e g p)) ?_ ?_ FU (by show eN e < 6000; omega) 0 rfl
  · rintro m i s hi hs K
    have hi3 : i < 30 := by omega
    have hle : ¬ Int32.ofNat (eN e) ≤ Int32.ofNat i := fun q => by have := (ofn_le (eN e) (by omega) i (by omega)).mp q; omega
    have K2 := K (vtsF e g p i s) (by rw [hs]; rfl)
    show c_X3_votes_4_b T0 (c_X3_votes_4 T0 m) (some a) p s (Int32.ofNat i) = _
    unfold c_X3_votes_4_b
    obtain ⟨lp, q1, q2, q3, q4, q5⟩ := hE0.pa
    simp -implicitDefEqProofs only [hle, hA0.o0, hA0.o1, hA0.o2, hA0.o3, hA0.o4, hA0.o5, hA0.is, hA0.ldD hi3, hA0.ldF hi3, hA0.ldK hi3, hA0.ldZ hi3, hE0.val, hE0.rol, hE0.bef, hE0.isr, hE0.w, hE0.h, hE0.a, hE0.s, hE0.iso, hE0.cells ok, hE0.steps ok, Option.bind_some, not_true_eq_false, if_false, if_true, c_X3_votes_60, (ofn i (by omega)).2.2, e_isVoter hE0 hA0 hi3, q1, q2]
    unfold vtsF at K2
    cases hv : vtr e g i with
    | false =>
      rw [if_pos (by rfl)]
      rw [hv] at K2
      exact K2
    | true =>
      rw [if_neg (by unfold b01; decide)]
      obtain ⟨k, k1, k2⟩ := vtr_k hk hi3 hv
      obtain ⟨q, r1, r2, r3, r4⟩ := q5 k k1
      simp -implicitDefEqProofs only [k2, r1, r2, r3, r4, Option.bind_some, not_true_eq_false, if_false, if_true]
      rw [hv, if_pos rfl] at K2
      have : pk e g i = ePy e k := by unfold pk; rw [k2, ofn4 ok k1]
      rw [this] at K2
      split
      · rename_i hp; rw [if_pos hp] at K2; exact K2
      · rename_i hp; rw [if_neg hp] at K2; exact K2
  · rintro m s hs
    show c_X3_votes_4_b T0 (c_X3_votes_4 T0 m) (some a) p s (Int32.ofNat (eN e)) = _
    unfold c_X3_votes_4_b
    simp -implicitDefEqProofs only [hA0.o0, hA0.o1, hA0.o2, hA0.o3, hA0.o4, hA0.o5, hA0.is, hE0.val, hE0.rol, hE0.bef, hE0.isr, hE0.w, hE0.h, hE0.a, hE0.s, hE0.iso, hE0.cells ok, hE0.steps ok, Option.bind_some, not_true_eq_false, if_false, if_true, Int32.le_refl]
    rw [hs]
    rfl
theorem i32_le {a b : Int32} : ¬ a < b ↔ b ≤ a := Int32.not_lt
theorem e_winner (ok : EnOK e) (hE0 : Ev E G T0 o rl va bb e) (hA0 : GrAt T0 a o g) (hk : ∀ c, c < 30 → kOK e (gK g c)) : c_X3_winner T0 (some a) = some (win e g) := by
  unfold c_X3_winner
  refine loop_rule (σ := Int32 × Int32) (N := 4) (fun i s => s = itr (winF e g) i (-1, 0)) (fun m i s => c_X3_winner_6 T0 m (some a) s.1 s.2 (Int32.ofNat i) = some (win e g)) ?_ ?_ FU (by decide) (-1, 0) rfl
  · rintro m i ⟨s1, s2⟩ hi hs K
    have hle : ¬ (4 : Int32) ≤ Int32.ofNat i := fun q => by have := (ofn_le 4 (by omega) i (by omega)).mp q; omega
    have K2 := K (winF e g i (s1, s2)) (by rw [hs]; rfl)
    show c_X3_winner_6_b T0 (c_X3_winner_6 T0 m) (some a) s1 s2 (Int32.ofNat i) = _
    unfold c_X3_winner_6_b
    simp -implicitDefEqProofs only [hle, hA0.o0, hA0.o1, hA0.o2, hA0.o3, hA0.o4, hA0.o5, hA0.is, Option.bind_some, not_true_eq_false, if_false, if_true, c_X3_winner_31, (ofn i (by omega)).2.2, e_votes ok hE0 hA0 hk]
    unfold winF at K2
    dsimp only at K2
    split
    · rename_i q
      rw [if_neg (fun r => i32_le.mpr r q)] at K2
      exact K2
    · rename_i q
      rw [if_pos (i32_le.mp q)] at K2
      exact K2
  · rintro m ⟨s1, s2⟩ hs
    show c_X3_winner_6_b T0 (c_X3_winner_6 T0 m) (some a) s1 s2 (Int32.ofNat 4) = _
    unfold c_X3_winner_6_b
    rw [if_pos (by decide)]
    unfold win
    rw [← hs]
theorem e_votesOf (ok : EnOK e) (hE0 : Ev E G T0 o rl va bb e) (hA0 : GrAt T0 a o g) (hk : ∀ c, c < 30 → kOK e (gK g c)) (x : Int32) : c_X3_votesOf T0 (some a) x = some (vof e g x) := by
  unfold c_X3_votesOf
  refine loop_rule (σ := Int32) (N := 4) (fun i s => s = itr (vofF e g x) i 0) (fun m i s => c_X3_votesOf_4 T0 m (some a) x s (Int32.ofNat i) = some (vof e g x)) ?_ ?_ FU (by decide) 0 rfl
  · rintro m i s hi hs K
    have hle : ¬ (4 : Int32) ≤ Int32.ofNat i := fun q => by have := (ofn_le 4 (by omega) i (by omega)).mp q; omega
    have K2 := K (vofF e g x i s) (by rw [hs]; rfl)
    show c_X3_votesOf_4_b T0 (c_X3_votesOf_4 T0 m) (some a) x s (Int32.ofNat i) = _
    unfold c_X3_votesOf_4_b
    simp -implicitDefEqProofs only [hle, hA0.o0, hA0.o1, hA0.o2, hA0.o3, hA0.o4, hA0.o5, hA0.is, Option.bind_some, not_true_eq_false, if_false, if_true, c_X3_votesOf_25, (ofn i (by omega)).2.2, e_votes ok hE0 hA0 hk, bt_of i hi]
    unfold vofF at K2
    by_cases h : bt x i = 1
    · rw [if_pos h] at K2 ⊢
      rw [if_neg (by decide)]
      exact K2
    · rw [if_neg h] at K2 ⊢
      rw [if_pos rfl]
      exact K2
  · rintro m s hs
    show c_X3_votesOf_4_b T0 (c_X3_votesOf_4 T0 m) (some a) x s (Int32.ofNat 4) = _
    unfold c_X3_votesOf_4_b
    rw [if_pos (by decide)]
    rw [hs]
    rfl
end GS
