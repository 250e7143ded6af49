/-! plain law: what stays true of a growth from day to day; whole days in the reference -/
set_option maxRecDepth 100000
/-- food between none and full -/
def f99 (g : Gw) : Prop := ∀ c, c < 30 → 0 ≤ gF g c ∧ gF g c ≤ 99
theorem f99.ok {g : Gw} (h : f99 g) : fOK g := fun c hc => (h c hc).1
theorem i32le {a b : Int32} : a ≤ b ↔ a.toInt ≤ b.toInt := Int32.le_iff_toInt_le
theorem i32lt {a b : Int32} : a < b ↔ a.toInt < b.toInt := Int32.lt_iff_toInt_lt
theorem tI_sub {a b : Int32} (h1 : -2147483648 ≤ a.toInt - b.toInt) (h2 : a.toInt - b.toInt < 2147483648) : (a - b).toInt = a.toInt - b.toInt := by
  rw [Int32.toInt_sub, Int.bmod_def]
  simp -implicitDefEqProofs only [show (2 ^ 32 : Nat) = 4294967296 by rfl]
  omega
theorem tI_add {a b : Int32} (h1 : -2147483648 ≤ a.toInt + b.toInt) (h2 : a.toInt + b.toInt < 2147483648) : (a + b).toInt = a.toInt + b.toInt := by
  rw [Int32.toInt_add, Int.bmod_def]
  simp -implicitDefEqProofs only [show (2 ^ 32 : Nat) = 4294967296 by rfl]
  omega
theorem imin_tI (a b : Int32) : (imin a b).toInt = min a.toInt b.toInt := by
  unfold imin
  split
  · rename_i h; rw [i32lt] at h; omega
  · rename_i h; rw [i32lt] at h; omega
theorem imax_tI (a b : Int32) : (imax a b).toInt = max a.toInt b.toInt := by
  unfold imax
  split
  · rename_i h; rw [i32lt] at h; omega
  · rename_i h; rw [i32lt] at h; omega
theorem i99 : (99 : Int32).toInt = 99 := by decide
theorem i0 : (0 : Int32).toInt = 0 := by decide
theorem eaten {x f : Int32} (h0 : 0 ≤ f) (h1 : f ≤ 99) : 0 ≤ f - imax 0 (imin x f) ∧ f - imax 0 (imin x f) ≤ 99 := by
  rw [i32le] at h0 h1 ⊢
  rw [i32le, tI_sub (by rw [imax_tI, imin_tI]; rw [i0] at *; rw [i99] at *; omega) (by rw [imax_tI, imin_tI]; rw [i0] at *; rw [i99] at *; omega), imax_tI, imin_tI]
  rw [i0] at *
  rw [i99] at *
  omega
theorem fed {f m : Int32} (h0 : 0 ≤ f) (h1 : f ≤ 99) (m0 : 0 ≤ m) (m1 : m ≤ 99) : 0 ≤ imin 99 (f + m) ∧ imin 99 (f + m) ≤ 99 := by
  rw [i32le] at h0 h1 m0 m1 ⊢
  rw [i32le, imin_tI]
  rw [i0] at *
  rw [i99] at *
  rw [tI_add (by omega) (by omega)]
  omega
section GS
variable {E : Nat → Nat → Prop} {S S0 : MS} {b c d : Nat} {e : En} {g g0 : Gw}
theorem f99.pass (h : f99 g) : f99 (gpass e g) := fun c hc => mixf_P (P := fun _ x => 0 ≤ x ∧ x ≤ 99) (fun _ => by
  unfold nF
  split
  · exact h c hc
  · exact eaten (h c hc).1 (h c hc).2) (h c hc)
theorem zOK.grow (h : zOK g) : zOK (ggrow e g) := by
  intro c hc
  show mixf (eN e) (nK e g) (gK g) c = -1 → mixf (eN e) (nZ e g) (gZ g) c = 0
  unfold mixf
  by_cases hn : c < eN e
  · rw [if_pos hn, if_pos hn]
    unfold nK nZ
    by_cases hk : gK g c = -1
    · rw [if_pos hk, if_pos hk]
      exact h c hc
    · rw [if_neg hk, if_neg hk]
      by_cases hz : 0 < zz e g c
      · rw [if_pos hz, if_pos hz]
        exact fun q => absurd q hk
      · rw [if_neg hz, if_neg hz]
        exact fun _ => rfl
  · rw [if_neg hn, if_neg hn]
    exact h c hc
theorem zOK.fight (h : zOK g) : zOK (gfight e g) := by
  intro c hc
  show mixf (eN e) (fK e g) (gK g) c = -1 → gZ g c = 0
  unfold mixf
  by_cases hn : c < eN e
  · rw [if_pos hn]
    unfold fK
    by_cases hk : gK g c = -1
    · rw [if_pos hk]
      exact h c hc
    · rw [if_neg hk]
      cases hx : gst e g c with
      | none => exact fun q => absurd q hk
      | some k => exact fun q => absurd q (gst_k _ _ hx)
  · rw [if_neg hn]
    exact h c hc
theorem zOK.sow (h : zOK g) : zOK (gsow e g) := by
  intro c hc
  show mixf (eN e) (sK e g) (gK g) c = -1 → mixf (eN e) (sZ e g) (gZ g) c = 0
  unfold mixf
  by_cases hn : c < eN e
  · rw [if_pos hn, if_pos hn]
    unfold sK sZ
    cases hx : sBy e g c with
    | none => exact h c hc
    | some k =>
      have : gst e g c = some k := by
        revert hx
        unfold sBy
        split
        · split
          · exact fun q => by cases q
          · exact id
        · exact fun q => by cases q
      exact fun q => absurd q (gst_k _ _ this)
  · rw [if_neg hn, if_neg hn]
    exact h c hc
theorem zOK.pass (h : zOK g) : zOK (gpass e g) := ((h.grow (e := e)).fight (e := e)).sow (e := e)
/-- all that stays true of a growth, for so many days more -/
def GI (e : En) (g : Gw) (n : Nat) : Prop := GD e g n ∧ zOK g ∧ f99 g
theorem GI.pass {n : Nat} (ok : EnOK e) (h : GI e g (n + 1)) : GI e (gpass e g) n := ⟨h.1.pass ok, h.2.1.pass, h.2.2.pass⟩
theorem GI.le {n m : Nat} (h : GI e g n) (hm : m ≤ n) : GI e g m := ⟨h.1.le hm, h.2⟩
theorem GI.after {n : Nat} (ok : EnOK e) : ∀ k, GI e g (n + k) → GI e (gafter e k g) n := by
  intro k
  induction k generalizing n with
  | zero => exact id
  | succ k ih =>
    intro h
    have := ih (n := n + 1) (by rw [show n + 1 + k = n + (k + 1) by omega]; exact h)
    exact this.pass ok
theorem r_pass {n : Nat} (ok : EnOK e) (hM : Mv (eb b) S0 e) (hR : RwAt S0 b g) (hb : b ∈ ([0, 121] : List Nat)) (hg : GI e g (n + 1)) : Mn (m_dayGoes (Int32.ofNat b) S0) fun S' => mfr (eb b) S0 S' ∧ RwAt S' b (gpass e g) := by
  unfold m_dayGoes
  refine Mn.bw (r_grow ok hM hR hb hg.1.gk) fun S1 ⟨w1, hR1⟩ => ?_
  have hf : f99 (ggrow e g) := fun c hc => (hg.2.2.pass (e := e)) c hc
  exact (r_day7 ok (hM.mono w1) hR1 hb (hg.2.1.grow.fight) hf.ok).mono fun S' ⟨h1, h2⟩ => ⟨w1.tr h1, h2⟩
theorem r_after (ok : EnOK e) (hM : Mv (eb 121) S0 e) (hR : RwAt S0 121 g) {k n : Nat} (hk : k < 100) (hg : GI e g (n + k + 1)) : Mn (m_daysGo (Int32.ofNat k) S0) fun S' => mfr (eb 121) S0 S' ∧ RwAt S' 121 (gafter e k g) := by
  unfold m_daysGo
  refine loop_rule (σ := MS) (N := k) (fun i s => mfr (eb 121) S0 s ∧ RwAt s 121 (gafter e i g)) (fun m i s => Mn (m_daysGo_2 m (Int32.ofNat k) (Int32.ofNat i) s) _) ?_ ?_ FU (by show k < 6000; omega) S0 ⟨mfr.rf, hR⟩
  · rintro m i S1 hi ⟨hf, hR1⟩ K
    have hle : ¬ Int32.ofNat k ≤ Int32.ofNat i := fun q => by have := (ofn_le k (by omega) i (by omega)).mp q; omega
    show Mn (m_daysGo_2_b (m_daysGo_2 m) (Int32.ofNat k) (Int32.ofNat i) S1) _
    unfold m_daysGo_2_b
    rw [if_neg hle, (ofn i (by omega)).2.2]
    have hgi : GI e (gafter e i g) (0 + 1) := GI.after ok i (hg.le (by omega))
    refine Mn.bw (r_pass ok (hM.mono hf) hR1 (b := 121) (by decide) hgi) fun S2 ⟨w2, hR2⟩ => ?_
    exact K S2 ⟨hf.tr w2, hR2⟩
  · rintro m S1 ⟨hf, hR1⟩
    show Mn (m_daysGo_2_b (m_daysGo_2 m) (Int32.ofNat k) (Int32.ofNat k) S1) _
    unfold m_daysGo_2_b
    rw [if_pos (Int32.le_refl _)]
    exact Mn.ret ⟨hf, hR1⟩
theorem r_isVoter (hM0 : Mv E S0 e) (hR0 : RwAt S0 b g) (hb : b ∈ ([0, 121] : List Nat)) (hc : c < 30) : m_doesVote (Int32.ofNat b) (Int32.ofNat c) S0 = some (b01 (vtr e g c)) := by
  unfold m_doesVote vtr
  simp -implicitDefEqProofs only [hR0.ldY hb, hR0.ldD hb hc, hR0.ldF hb hc, hR0.ldK hb hc, hR0.ldZ hb hc, hM0.a, Option.bind_some, not_true_eq_false, if_false, if_true]
  by_cases h1 : gK g c = -1
  · rw [if_pos h1]; simp [h1, b01]
  · rw [if_neg h1]
    by_cases h2 : gZ g c < eA e
    · rw [if_pos h2]; simp [h2, b01]
    · rw [if_neg h2]; simp [h1, h2, b01]
theorem rd1 {k : Nat} (hk : k < 4) : rdA S 1 (Int32.ofNat k) = some (S.2.2 1 k) := rdA_o (by omega) hk
theorem r_votes (ok : EnOK e) (hM0 : Mv E S0 e) (hR0 : RwAt S0 b g) (hb : b ∈ ([0, 121] : List Nat)) (hk : ∀ c, c < 30 → kOK e (gK g c)) (p : Int32) : m_votesOf (Int32.ofNat b) p S0 = some (vts e g p) := by
  have hn := ok.n30
  unfold m_votesOf
  refine loop_rule (σ := Int32) (N := eN e) (fun i s => s = itr (vtsF e g p) i 0) (fun m i s => m_votesOf_5 m (Int32.ofNat b) p s (Int32.ofNat i) S0 = some (vts e g p)) ?_ ?_ FU (by show eN e < 6000; omega) 0 rfl
  · rintro m i s hi hs K
    have hi3 : i < 30 := by omega
    have hle : ¬ Int32.ofNat (eN e) ≤ Int32.ofNat i := fun q => by have := (ofn_le (eN e) (by omega) i (by omega)).mp q; omega
    have K2 := K (vtsF e g p i s) (by rw [hs]; rfl)
    show m_votesOf_5_b (m_votesOf_5 m) (Int32.ofNat b) p s (Int32.ofNat i) S0 = _
    unfold m_votesOf_5_b
    simp -implicitDefEqProofs only [hle, hR0.ldY hb, hR0.ldD hb hi3, hR0.ldF hb hi3, hR0.ldK hb hi3, hR0.ldZ hb hi3, hM0.w, hM0.h, hM0.a, hM0.s, hM0.p, hM0.cells ok, hM0.fa ok, Option.bind_some, not_true_eq_false, if_false, if_true, m_votesOf_50, m_votesOf_51, (ofn i (by omega)).2.2, r_isVoter hM0 hR0 hb hi3, Int32.add_zero]
    unfold vtsF at K2
    cases hv : vtr e g i with
    | false =>
      rw [if_pos (by rfl)]
      rw [hv] at K2
      exact K2
    | true =>
      rw [if_neg (by unfold b01; decide)]
      obtain ⟨k, k1, k2⟩ := vtr_k hk hi3 hv
      have k4 : k < 4 := by have := ok.2.1; omega
      simp -implicitDefEqProofs only [k2, rd1 k4, hM0.py k k1, Option.bind_some, not_true_eq_false, if_false, if_true]
      rw [hv, if_pos rfl] at K2
      have : pk e g i = ePy e k := by unfold pk; rw [k2, ofn4 ok k1]
      rw [this] at K2
      split
      · rename_i hp; rw [if_pos hp] at K2; exact K2
      · rename_i hp; rw [if_neg hp] at K2; exact K2
  · rintro m s hs
    show m_votesOf_5_b (m_votesOf_5 m) (Int32.ofNat b) p s (Int32.ofNat (eN e)) S0 = _
    unfold m_votesOf_5_b
    simp -implicitDefEqProofs only [hM0.w, hM0.h, hM0.a, hM0.s, hM0.p, hM0.cells ok, hM0.fa ok, Option.bind_some, not_true_eq_false, if_false, if_true, Int32.le_refl]
    rw [hs]
    rfl
theorem r_winner (ok : EnOK e) (hM0 : Mv E S0 e) (hR0 : RwAt S0 b g) (hb : b ∈ ([0, 121] : List Nat)) (hk : ∀ c, c < 30 → kOK e (gK g c)) : m_winnerIn (Int32.ofNat b) S0 = some (win e g) := by
  unfold m_winnerIn
  refine loop_rule (σ := Int32 × Int32) (N := 4) (fun i s => s = itr (winF e g) i (-1, 0)) (fun m i s => m_winnerIn_7 m (Int32.ofNat b) s.1 s.2 (Int32.ofNat i) S0 = some (win e g)) ?_ ?_ FU (by decide) (-1, 0) rfl
  · rintro m i ⟨s1, s2⟩ hi hs K
    have hle : ¬ (4 : Int32) ≤ Int32.ofNat i := fun q => by have := (ofn_le 4 (by omega) i (by omega)).mp q; omega
    have K2 := K (winF e g i (s1, s2)) (by rw [hs]; rfl)
    show m_winnerIn_7_b (m_winnerIn_7 m) (Int32.ofNat b) s1 s2 (Int32.ofNat i) S0 = _
    unfold m_winnerIn_7_b
    simp -implicitDefEqProofs only [hle, Option.bind_some, not_true_eq_false, if_false, if_true, m_winnerIn_37, (ofn i (by omega)).2.2, r_votes ok hM0 hR0 hb hk]
    unfold winF at K2
    dsimp only at K2
    split
    · rename_i q
      rw [if_neg (fun r => i32_le.mpr r q)] at K2
      exact K2
    · rename_i q
      rw [if_pos (i32_le.mp q)] at K2
      exact K2
  · rintro m ⟨s1, s2⟩ hs
    show m_winnerIn_7_b (m_winnerIn_7 m) (Int32.ofNat b) s1 s2 (Int32.ofNat 4) S0 = _
    unfold m_winnerIn_7_b
    rw [if_pos (by decide)]
    unfold win
    rw [← hs]
/-- all votes -/
def vall (e : En) (g : Gw) : Int32 := itr (fun p n => n + vts e g (Int32.ofNat p)) 4 0
theorem vof_all : vof e g 15 = vall e g := by
  unfold vof vall
  have h : ∀ p, p < 4 → ∀ n, vofF e g 15 p n = n + vts e g (Int32.ofNat p) := by
    intro p hp n
    unfold vofF
    have : p = 0 ∨ p = 1 ∨ p = 2 ∨ p = 3 := by omega
    rcases this with rfl | rfl | rfl | rfl <;> rw [if_pos (by decide)]
  show vofF e g 15 3 (vofF e g 15 2 (vofF e g 15 1 (vofF e g 15 0 0))) = _
  rw [h 0 (by decide), h 1 (by decide), h 2 (by decide), h 3 (by decide)]
  rfl
theorem r_votesAll (ok : EnOK e) (hM0 : Mv E S0 e) (hR0 : RwAt S0 b g) (hb : b ∈ ([0, 121] : List Nat)) (hk : ∀ c, c < 30 → kOK e (gK g c)) : m_votesAll (Int32.ofNat b) S0 = some (vall e g) := by
  unfold m_votesAll
  refine loop_rule (σ := Int32) (N := 4) (fun i s => s = itr (fun p n => n + vts e g (Int32.ofNat p)) i 0) (fun m i s => m_votesAll_4 m (Int32.ofNat b) s (Int32.ofNat i) S0 = some (vall e g)) ?_ ?_ FU (by decide) 0 rfl
  · rintro m i s hi hs K
    have hle : ¬ (4 : Int32) ≤ Int32.ofNat i := fun q => by have := (ofn_le 4 (by omega) i (by omega)).mp q; omega
    have K2 := K (s + vts e g (Int32.ofNat i)) (by rw [hs]; rfl)
    show m_votesAll_4_b (m_votesAll_4 m) (Int32.ofNat b) s (Int32.ofNat i) S0 = _
    unfold m_votesAll_4_b
    simp -implicitDefEqProofs only [hle, Option.bind_some, not_true_eq_false, if_false, if_true, (ofn i (by omega)).2.2, r_votes ok hM0 hR0 hb hk]
    exact K2
  · rintro m s hs
    show m_votesAll_4_b (m_votesAll_4 m) (Int32.ofNat b) s (Int32.ofNat 4) S0 = _
    unfold m_votesAll_4_b
    rw [if_pos (by decide), hs]
    rfl
end GS
