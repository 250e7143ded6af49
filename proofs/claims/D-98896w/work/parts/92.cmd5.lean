/-! plain law: sets of parties -/
set_option maxRecDepth 100000
theorem vts_nat (e : En) (g : Gw) (p : Int32) : ∃ k, k ≤ eN e ∧ vts e g p = Int32.ofNat k := by
  have key : ∀ i, i ≤ eN e → ∃ k, k ≤ i ∧ itr (vtsF e g p) i 0 = Int32.ofNat k := by
    intro i
    induction i with
    | zero => exact fun _ => ⟨0, Nat.le_refl _, rfl⟩
    | succ i ih =>
      intro hi
      obtain ⟨k, h1, h2⟩ := ih (by omega)
      show ∃ k, k ≤ i + 1 ∧ vtsF e g p i (itr (vtsF e g p) i 0) = Int32.ofNat k
      rw [h2]
      unfold vtsF
      split
      · split
        · exact ⟨k + 1, by omega, by rw [Int32.ofNat_add]; rfl⟩
        · exact ⟨k, by omega, rfl⟩
      · exact ⟨k, by omega, rfl⟩
  exact key (eN e) (Nat.le_refl _)
theorem bt31 : ∀ p, p < 4 → (Int32.ofNat p) &&& 31 = Int32.ofNat p := by decide
/-- votes of some parties and of the others -/
theorem carry_eq {e : En} {g : Gw} (ok : EnOK e) {m : Nat} (hm : m < 16) : (vof e g (Int32.ofNat m) ≤ vof e g (15 &&& (Int32.ofNat m ^^^ -1))) ↔ (2 * vof e g (Int32.ofNat m) ≤ vall e g) := by
  have hn := ok.n30
  obtain ⟨k0, a0, b0⟩ := vts_nat e g (Int32.ofNat 0)
  obtain ⟨k1, a1, b1⟩ := vts_nat e g (Int32.ofNat 1)
  obtain ⟨k2, a2, b2⟩ := vts_nat e g (Int32.ofNat 2)
  obtain ⟨k3, a3, b3⟩ := vts_nat e g (Int32.ofNat 3)
  have hv : ∀ s : Int32, vof e g s = Int32.ofNat ((if bt s 0 = 1 then k0 else 0) + (if bt s 1 = 1 then k1 else 0) + (if bt s 2 = 1 then k2 else 0) + (if bt s 3 = 1 then k3 else 0)) := by
    intro s
    show vofF e g s 3 (vofF e g s 2 (vofF e g s 1 (vofF e g s 0 0))) = _
    unfold vofF
    rw [b0, b1, b2, b3]
    have z0 : (0 : Int32) = Int32.ofNat 0 := rfl
    rw [z0]
    split <;> split <;> split <;> split <;> simp -implicitDefEqProofs only [oadd, Nat.zero_add, Nat.add_zero]
  have ha : vall e g = Int32.ofNat (k0 + k1 + k2 + k3) := by
    show (((0 + vts e g (Int32.ofNat 0)) + vts e g (Int32.ofNat 1)) + vts e g (Int32.ofNat 2)) + vts e g (Int32.ofNat 3) = _
    rw [b0, b1, b2, b3]
    have z0 : (0 : Int32) = Int32.ofNat 0 := rfl
    rw [z0]
    simp -implicitDefEqProofs only [oadd, Nat.zero_add]
  have hb : ∀ m, m < 16 → ∀ p, p < 4 → (bt (15 &&& (Int32.ofNat m ^^^ -1)) p = 1 ↔ ¬ bt (Int32.ofNat m) p = 1) := by decide +kernel
  rw [hv, hv, ha]
  have two : ∀ k, (2 : Int32) * Int32.ofNat k = Int32.ofNat (2 * k) := fun k => by rw [Int32.ofNat_mul]; rfl
  rw [two]
  simp -implicitDefEqProofs only [hb m hm 0 (by omega), hb m hm 1 (by omega), hb m hm 2 (by omega), hb m hm 3 (by omega)]
  rw [ole (by split <;> split <;> split <;> split <;> omega) (by split <;> split <;> split <;> split <;> omega), ole (by split <;> split <;> split <;> split <;> omega) (by omega)]
  by_cases c0 : bt (Int32.ofNat m) 0 = 1 <;> by_cases c1 : bt (Int32.ofNat m) 1 = 1 <;> by_cases c2 : bt (Int32.ofNat m) 2 = 1 <;> by_cases c3 : bt (Int32.ofNat m) 3 = 1 <;> simp -implicitDefEqProofs only [c0, c1, c2, c3, if_true, if_false, not_true_eq_false, not_false_eq_true] <;> omega
section CM
variable {G : xG} {T T1 : xF} {o : Nat} {s : St} {A : Ad} {S S1 : MS} {g : Gw}
theorem v_votesOfSet (ok : StOK s) (h : MI S s) {m : Nat} (hm : m < 16) : m_votesOfSet (Int32.ofNat m) S = some (vof (sE s) (sG s) (Int32.ofNat m)) := by
  unfold m_votesOfSet
  refine loop_rule (σ := Int32) (N := 4) (fun i x => x = itr (vofF (sE s) (sG s) (Int32.ofNat m)) i 0) (fun n i x => m_votesOfSet_4 n (Int32.ofNat m) x (Int32.ofNat i) S = _) ?_ ?_ FU (by decide) 0 rfl
  · rintro n i x hi hx K
    have K2 := K (vofF (sE s) (sG s) (Int32.ofNat m) i x) (by rw [hx]; rfl)
    show m_votesOfSet_4_b (m_votesOfSet_4 n) (Int32.ofNat m) x (Int32.ofNat i) S = _
    unfold m_votesOfSet_4_b
    simp -implicitDefEqProofs only [le4 hi, bt31 i hi, v_votes ok h, m_votesOfSet_29, ofn1 i (by omega), Option.bind_some, not_true_eq_false, if_false, if_true, Int32.add_zero]
    unfold vofF bt at K2
    split
    · rename_i q; rw [if_pos q] at K2; exact K2
    · rename_i q; rw [if_neg q] at K2; exact K2
  · rintro n x hx
    show m_votesOfSet_4_b (m_votesOfSet_4 n) (Int32.ofNat m) x (Int32.ofNat 4) S = _
    unfold m_votesOfSet_4_b
    rw [if_pos (by decide), hx]
    rfl
def crr (s : St) (m : Nat) : Int32 := if vof (sE s) (sG s) (Int32.ofNat m) ≤ vof (sE s) (sG s) (15 &&& (Int32.ofNat m ^^^ -1)) then 0 else 1
theorem e_carries (ok : StOK s) (h : CIa G T o s A) {m : Nat} : c_X1_carries T (some o) (Int32.ofNat m) = some (crr s m) := by
  unfold c_X1_carries c_X1_allParties crr
  simp -implicitDefEqProofs only [h.q4, h.cc.is, n_votesOf ok h, Option.bind_some, not_true_eq_false, if_false, if_true]
  split <;> rfl
theorem r_carries (ok : StOK s) (h : MI S s) {m : Nat} (hm : m < 16) : m_doesCarry (Int32.ofNat m) S = some (crr s m) := by
  unfold m_doesCarry crr
  simp -implicitDefEqProofs only [v_votesOfSet ok h hm, v_votesAll ok h, Option.bind_some, not_true_eq_false, if_false, if_true, ← carry_eq ok.1 hm]
  split <;> rfl
theorem bits_eq : ∀ m, m < 16 → ∃ v, c_J14_bitCount (Int32.ofNat m) = some v ∧ m_bits (Int32.ofNat m) = some v := by
  have h : ∀ m, m < 16 → m_bits (Int32.ofNat m) = c_J14_bitCount (Int32.ofNat m) ∧ (c_J14_bitCount (Int32.ofNat m)).isSome = true := by decide +kernel
  intro m hm
  obtain ⟨h1, h2⟩ := h m hm
  obtain ⟨v, hv⟩ := Option.isSome_iff_exists.mp h2
  exact ⟨v, hv, h1.trans hv⟩
theorem k_carry (ok : StOK s) (h : CIa G T o s A) (m : MI S s) : ∃ v, c_X1_carry T (some o) = some v ∧ m_carry S = some (v, sF S 0 0) := by
  have m0 := m.th 0
  unfold c_X1_carry m_carry
  refine loop_rule (σ := Int32) (N := 16) (fun i x => x = -1 ∨ ∃ b, b < 16 ∧ x = Int32.ofNat b) (fun n i x => ∃ v, c_X1_carry_4 T n (some o) x (Int32.ofNat i) = some v ∧ m_carry_9 n x (Int32.ofNat i) (sF S 0 0) = some (v, sF S 0 0)) ?_ ?_ FU (by decide) (-1) (Or.inl rfl)
  · rintro n i x hi hx K
    have h1 : ¬ (15 : Int32) < Int32.ofNat i := fun q => by have := (olt (n := 15) (m := i) (by omega) (by omega)).mp q; omega
    have h2 : ¬ (16 : Int32) ≤ Int32.ofNat i := fun q => by have := (ole (n := 16) (m := i) (by omega) (by omega)).mp q; omega
    show ∃ v, c_X1_carry_4_b T (c_X1_carry_4 T n) (some o) x (Int32.ofNat i) = some v ∧ m_carry_9_b (m_carry_9 n) x (Int32.ofNat i) (sF S 0 0) = some (v, sF S 0 0)
    unfold c_X1_carry_4_b m_carry_9_b c_X1_allParties
    simp -implicitDefEqProofs only [h1, h2, h.iso, e_carries ok h, r_carries ok m0 hi, c_X1_carry_37, c_X1_carry_35, m_carry_41, m_carry_39, ofn1 i (by omega), Option.bind_some, not_true_eq_false, if_false, if_true]
    by_cases hc : crr s i = 0
    · rw [if_pos hc, if_pos hc]
      exact K x hx
    rw [if_neg hc, if_neg hc]
    by_cases hx1 : x = -1
    · rw [if_pos hx1, if_pos hx1]
      exact K _ (Or.inr ⟨i, hi, rfl⟩)
    rw [if_neg hx1, if_neg hx1]
    obtain ⟨b, hb, rfl⟩ := hx.resolve_left hx1
    obtain ⟨v1, r1, r2⟩ := bits_eq i hi
    obtain ⟨v2, r3, r4⟩ := bits_eq b hb
    simp -implicitDefEqProofs only [r1, r2, r3, r4, Option.bind_some, not_true_eq_false, if_false, if_true]
    by_cases hv : v2 ≤ v1
    · rw [if_pos hv, if_pos hv]
      exact K _ hx
    · rw [if_neg hv, if_neg hv]
      exact K _ (Or.inr ⟨i, hi, rfl⟩)
  · rintro n x hx
    show ∃ v, c_X1_carry_4_b T (c_X1_carry_4 T n) (some o) x (Int32.ofNat 16) = some v ∧ m_carry_9_b (m_carry_9 n) x (Int32.ofNat 16) (sF S 0 0) = some (v, sF S 0 0)
    unfold c_X1_carry_4_b m_carry_9_b c_X1_allParties
    rw [Option.bind_some, if_pos (by decide), if_pos (by decide)]
    exact ⟨x, rfl, rfl⟩
theorem without : ∀ m, m < 16 → ∀ p, p < 4 → ∃ m', m' < 16 ∧ Int32.ofNat m &&& (((1 : Int32) <<< (Int32.ofNat p &&& 31)) ^^^ -1) = Int32.ofNat m' := by decide +kernel
theorem k_decisive (ok : StOK s) (h : CIa G T o s A) (m : MI S s) (a : Int32) : Jn T (c_X1_decisive (some o) a T) (m_decisive a S) fun r T' q => AG NS "" r q.1 q.2 ∧ Nx G o T s T' q.2 := by
  have m0 := m.th 0
  have z : (sF S 0 0).1 0 = 0 := sF_0
  unfold c_X1_decisive m_decisive
  rcases (rng 0 3 (by decide) (by decide) a).symm with hv | ⟨p, -, hp, rfl⟩
  · exact Jn.thX (e_party_f (iin_f hv)) thr_le (r := (0, sF (sF S 0 0) 0 1)) (by simp -implicitDefEqProofs only [r_party_f z (iin_f hv), Option.bind_some, not_true_eq_false, if_false, if_true]) ⟨Or.inl ⟨rfl, sF_0⟩, Nx.same ok h.tw (m0.th 1) (by show T.2.1 + 1 ≤ _; omega) (by show T.2.2 + 6 ≤ _; omega)⟩
  have ep : iin (Int32.ofNat p) 0 3 = true := iin_t (a := 0) (Nat.zero_le _) hp (by decide)
  refine Jn.okX (e_party_t ep) ?_
  simp -implicitDefEqProofs only [r_party_t z ep, Option.bind_some, not_true_eq_false, if_false, if_true, i10]
  refine loop_rule (σ := Int32) (N := 16) (fun _ _ => True) (fun n i x => Jn T (c_X1_decisive_8 n (some o) (Int32.ofNat p) x (Int32.ofNat i) T) (m_decisive_19 n (Int32.ofNat p) x (Int32.ofNat i) (sF S 0 0)) _) ?_ ?_ FU (by decide) 0 trivial
  · rintro n i x hi - K
    have h1 : ¬ (15 : Int32) < Int32.ofNat i := fun q => by have := (olt (n := 15) (m := i) (by omega) (by omega)).mp q; omega
    have h2 : ¬ (16 : Int32) ≤ Int32.ofNat i := fun q => by have := (ole (n := 16) (m := i) (by omega) (by omega)).mp q; omega
    obtain ⟨j, hj, ej⟩ := without i hi p (by omega)
    show Jn T (c_X1_decisive_8_b (c_X1_decisive_8 n) (some o) (Int32.ofNat p) x (Int32.ofNat i) T) (m_decisive_19_b (m_decisive_19 n) (Int32.ofNat p) x (Int32.ofNat i) (sF S 0 0)) _
    unfold c_X1_decisive_8_b m_decisive_19_b c_X1_allParties c_X1_isOf
    simp -implicitDefEqProofs only [h1, h2, h.iso, e_carries ok h, r_carries ok m0 hi, ej, r_carries ok m0 hj, c_X1_decisive_48, m_decisive_61, m_decisive_62, ofn1 i (by omega), Option.bind_some, not_true_eq_false, if_false, if_true, Int32.add_zero]
    by_cases hb : ((Int32.ofNat i >>> (Int32.ofNat p &&& 31)) &&& (1 : Int32)) = (1 : Int32)
    · simp -implicitDefEqProofs only [hb, Option.bind_some, not_true_eq_false, if_false, if_true, i10]
      by_cases hc : crr s i = 0
      · rw [if_pos hc, if_pos hc]
        exact K _ trivial
      rw [if_neg hc, if_neg hc]
      by_cases hc2 : crr s j = 0
      · rw [if_pos hc2, if_pos hc2]
        exact K _ trivial
      · rw [if_neg hc2, if_neg hc2]
        exact K _ trivial
    · simp -implicitDefEqProofs only [hb, Option.bind_some, not_true_eq_false, if_false, if_true]
      exact K _ trivial
  · rintro n x -
    show Jn T (c_X1_decisive_8_b (c_X1_decisive_8 n) (some o) (Int32.ofNat p) x (Int32.ofNat 16) T) (m_decisive_19_b (m_decisive_19 n) (Int32.ofNat p) x (Int32.ofNat 16) (sF S 0 0)) _
    unfold c_X1_decisive_8_b m_decisive_19_b c_X1_allParties
    rw [Option.bind_some, if_pos (by decide), if_pos (by decide)]
    exact Jfin ok h m0 z rfl
end CM
