/-! plain law: the reference's code says what the expression says -/
set_option maxRecDepth 100000
def Seg (S : MS) (b : Nat) (C : List Nat) : Prop := ∀ i, i < C.length → S.2.2 3 (b + i) = Int32.ofNat (C.getD i 0)
theorem gD_rr {A B : List Nat} {i : Nat} : (A ++ B).getD (A.length + i) 0 = B.getD i 0 := by
  rw [List.getD_eq_getElem?_getD, List.getD_eq_getElem?_getD, List.getElem?_append_right (Nat.le_add_right _ _), Nat.add_sub_cancel_left]
theorem Seg.l {S : MS} {b : Nat} {A B : List Nat} (h : Seg S b (A ++ B)) : Seg S b A := fun i hi => by
  rw [h i (by rw [List.length_append]; omega), gD_l hi]
theorem Seg.r {S : MS} {b : Nat} {A B : List Nat} (h : Seg S b (A ++ B)) : Seg S (b + A.length) B := fun i hi => by
  have := h (A.length + i) (by rw [List.length_append]; omega)
  rw [← Nat.add_assoc] at this
  rw [this, gD_rr]
theorem Seg.fr {S S' : MS} {b : Nat} {A : List Nat} (h : Seg S b A) (k : mfr (fun j _ => j = 16) S S') : Seg S' b A := fun i hi => (k.2.2 3 _ (show ¬ (3 = 16) by decide)).trans (h i hi)
def Rk (C : List Nat) (r : Sem) : Prop := ∃ n, 0 < n ∧ n ≤ C.length ∧ ∀ (S : MS) (b x m : Nat), Seg S b C → b + C.length ≤ 1400 → 2 * x + C.length ≤ 1800 → ∃ S', m_reckons_4 (m + n) (Int32.ofNat x) (Int32.ofNat b) S = m_reckons_4 m (Int32.ofNat (x + 1)) (Int32.ofNat (b + C.length)) S' ∧ S'.2.2 16 x = r (S.2.2 15) ∧ (∀ i, i < x → S'.2.2 16 i = S.2.2 16 i) ∧ mfr (fun j _ => j = 16) S S'
theorem rd3 {S : MS} {b : Nat} {C : List Nat} (h : Seg S b C) {i : Nat} (hi : i < C.length) (hb : b + C.length ≤ 1400) : rdA S 3 (Int32.ofNat (b + i)) = some (Int32.ofNat (C.getD i 0)) := by
  rw [rdA_n (ocl (by omega)) (on0 (by omega)) (show b + i < 1400 by omega), h i hi]
theorem sA16 {S : MS} {x : Nat} {v : Int32} : mfr (fun j _ => j = 16) S (sA S 16 x v) := sA_fr.up fun _ _ q => q.1
theorem Rk.num (n : Nat) : Rk (xnum n).1 (xnum n).2 := by
  refine ⟨1, by decide, by show 1 ≤ 2; decide, fun S b x m h hb hx => ?_⟩
  have hl : (xnum n).1.length = 2 := rfl
  rw [hl] at hb hx ⊢
  have r0 : rdA S 3 (Int32.ofNat b) = some 1 := rd3 h (i := 0) (show 0 < 2 by decide) hb
  have r1 : rdA S 3 (Int32.ofNat (b + 1)) = some (Int32.ofNat n) := rd3 h (i := 1) (show 1 < 2 by decide) hb
  refine ⟨sA S 16 x (Int32.ofNat n), ?_, by rw [sA_at]; exact upd_at, fun i hi => by rw [sA_at]; unfold upd; rw [if_neg (by omega)], sA16⟩
  show m_reckons_4_b (m_reckons_4 m) (Int32.ofNat x) (Int32.ofNat b) S = _
  unfold m_reckons_4_b m_reckons_36 m_reckons_67 m_reckons_140
  rw [r0, Option.bind_some, if_neg (show ¬ (1 : Int32) = 0 by decide), Option.bind_some, if_pos rfl, ofn1 b (by omega), if_pos rfl, r1, Option.bind_some, wrA_n (ocl (by omega)) (on0 (by omega)) (show x < 950 by omega), Option.bind_some, ofn1 x (by omega), ofn1 (b + 1) (by omega)]
theorem Rk.wrd {k : Nat} (hk : k < 8) : Rk (xwrd k).1 (xwrd k).2 := by
  refine ⟨1, by decide, by show 1 ≤ 2; decide, fun S b x m h hb hx => ?_⟩
  have hl : (xwrd k).1.length = 2 := rfl
  rw [hl] at hb hx ⊢
  have r0 : rdA S 3 (Int32.ofNat b) = some 2 := rd3 h (i := 0) (show 0 < 2 by decide) hb
  have r1 : rdA S 3 (Int32.ofNat (b + 1)) = some (Int32.ofNat k) := rd3 h (i := 1) (show 1 < 2 by decide) hb
  refine ⟨sA S 16 x (S.2.2 15 k), ?_, by rw [sA_at]; exact upd_at, fun i hi => by rw [sA_at]; unfold upd; rw [if_neg (by omega)], sA16⟩
  show m_reckons_4_b (m_reckons_4 m) (Int32.ofNat x) (Int32.ofNat b) S = _
  unfold m_reckons_4_b m_reckons_36 m_reckons_67 m_reckons_140
  rw [r0, Option.bind_some, if_neg (show ¬ (2 : Int32) = 0 by decide), Option.bind_some, if_neg (show ¬ (2 : Int32) = 1 by decide), if_pos rfl, ofn1 b (by omega), if_neg (show ¬ (2 : Int32) = 1 by decide), r1, Option.bind_some, rdA_n (ocl (by omega)) (on0 (by omega)) (show k < 8 from hk), Option.bind_some, wrA_n (ocl (by omega)) (on0 (by omega)) (show x < 950 by omega), Option.bind_some, ofn1 x (by omega), ofn1 (b + 1) (by omega)]
theorem Rk.not_ {e : Ex} (h : Rk e.1 e.2) : Rk (xnot e).1 (xnot e).2 := by
  obtain ⟨n, n0, n1, h⟩ := h
  have hl : (xnot e).1.length = e.1.length + 1 := by
    show (e.1 ++ [3]).length = _
    rw [List.length_append]; rfl
  refine ⟨n + 1, by omega, by omega, fun S b x m hs hb hx => ?_⟩
  rw [hl] at hb hx ⊢
  have hs : Seg S b (e.1 ++ [3]) := hs
  obtain ⟨S1, e1, v1, o1, f1⟩ := h S b x (m + 1) hs.l (by omega) (by omega)
  have r0 : rdA S1 3 (Int32.ofNat (b + e.1.length)) = some 3 := by
    have := rd3 (hs.r.fr f1) (i := 0) (by decide) (by show b + e.1.length + 1 ≤ 1400; omega)
    exact this
  have rp : rdA S1 16 (Int32.ofNat (x + 1) - 1) = some (e.2 (S.2.2 15)) := by
    rw [show Int32.ofNat (x + 1) - 1 = Int32.ofNat x from osub (b := 1) (by omega) (by omega), rdA_n (ocl (by omega)) (on0 (by omega)) (show x < 950 by omega), v1]
  refine ⟨sA S1 16 x (if e.2 (S.2.2 15) = 0 then 1 else 0), ?_, by rw [sA_at]; exact upd_at, fun i hi => by rw [sA_at]; unfold upd; rw [if_neg (by omega)]; exact o1 i hi, f1.tr sA16⟩
  rw [show m + (n + 1) = m + 1 + n by omega, e1]
  show m_reckons_4_b (m_reckons_4 m) (Int32.ofNat (x + 1)) (Int32.ofNat (b + e.1.length)) S1 = _
  unfold m_reckons_4_b m_reckons_106 m_reckons_140
  rw [r0, Option.bind_some, if_neg (show ¬ (3 : Int32) = 0 by decide), Option.bind_some, if_neg (show ¬ (3 : Int32) = 1 by decide), if_neg (show ¬ (3 : Int32) = 2 by decide), if_pos rfl, rp, Option.bind_some, show Int32.ofNat (x + 1) - 1 = Int32.ofNat x from osub (b := 1) (by omega) (by omega), ofn1 _ (by omega), wrA_n (ocl (by omega)) (on0 (by omega)) (show x < 950 by omega), wrA_n (ocl (by omega)) (on0 (by omega)) (show x < 950 by omega), Option.bind_some, Option.bind_some]
  by_cases z : e.2 (S.2.2 15) = 0
  · rw [if_pos z, if_pos z]; rfl
  · rw [if_neg z, if_neg z]; rfl
theorem Rk.bin {o : Nat} {a b : Ex} (ho : 4 ≤ o ∧ o ≤ 11) (la : 2 ≤ a.1.length) (ha : Rk a.1 a.2) (hb : Rk b.1 b.2) : Rk (xbin o a b).1 (xbin o a b).2 := by
  obtain ⟨na, na0, na1, ha⟩ := ha
  obtain ⟨nb, nb0, nb1, hb⟩ := hb
  have hl : (xbin o a b).1.length = a.1.length + b.1.length + 1 := by
    show (a.1 ++ b.1 ++ [o]).length = _
    rw [List.length_append, List.length_append]; rfl
  refine ⟨na + nb + 1, by omega, by omega, fun S p x m hs hp hx => ?_⟩
  rw [hl] at hp hx ⊢
  have hs : Seg S p (a.1 ++ b.1 ++ [o]) := hs
  obtain ⟨S1, e1, v1, o1, f1⟩ := ha S p x (m + 1 + nb) hs.l.l (by omega) (by omega)
  obtain ⟨S2, e2, v2, o2, f2⟩ := hb S1 (p + a.1.length) (x + 1) (m + 1) (hs.l.r.fr f1) (by omega) (by omega)
  have hs3 := (hs.r.fr f1).fr f2
  have hll : (a.1 ++ b.1).length = a.1.length + b.1.length := List.length_append
  rw [hll] at hs3
  have r0 : rdA S2 3 (Int32.ofNat (p + a.1.length + b.1.length)) = some (Int32.ofNat o) := by
    have := rd3 hs3 (i := 0) (show 0 < 1 by decide) (by show p + (a.1.length + b.1.length) + 1 ≤ 1400; omega)
    rw [Nat.add_zero, ← Nat.add_assoc] at this
    exact this
  have f15 : S1.2.2 15 = S.2.2 15 := funext fun i => f1.2.2 15 i (show ¬ (15 = 16) by decide)
  rw [f15] at v2
  have m1 : Int32.ofNat (x + 1 + 1) + -1 = Int32.ofNat (x + 1) := by
    rw [show ∀ y : Int32, y + -1 = y - 1 from fun y => (Int32.sub_eq_add_neg y 1).symm]
    exact osub (b := 1) (by omega) (by omega)
  have m2 : Int32.ofNat (x + 1) - 1 = Int32.ofNat x := osub (b := 1) (by omega) (by omega)
  have ra : rdA S2 16 (Int32.ofNat x) = some (a.2 (S.2.2 15)) := by
    rw [rdA_n (ocl (by omega)) (on0 (by omega)) (show x < 950 by omega), o2 x (by omega), v1]
  have rb : rdA S2 16 (Int32.ofNat (x + 1)) = some (b.2 (S.2.2 15)) := by
    rw [rdA_n (ocl (by omega)) (on0 (by omega)) (show x + 1 < 950 by omega), v2]
  refine ⟨sA S2 16 x (wk o (a.2 (S.2.2 15)) (b.2 (S.2.2 15))), ?_, by rw [sA_at]; exact upd_at, fun i hi => by rw [sA_at]; unfold upd; rw [if_neg (by omega)]; exact (o2 i (by omega)).trans (o1 i hi), (f1.tr f2).tr sA16⟩
  rw [show m + (na + nb + 1) = m + 1 + nb + na by omega, e1, e2]
  show m_reckons_4_b (m_reckons_4 m) (Int32.ofNat (x + 1 + 1)) (Int32.ofNat (p + a.1.length + b.1.length)) S2 = _
  unfold m_reckons_4_b m_reckons_140
  have n0 : ∀ j, j < 4 → ¬ Int32.ofNat o = Int32.ofNat j := fun j hj q => by have := (oeq (by omega) (by omega)).mp q; omega
  rw [r0, Option.bind_some, if_neg (show ¬ Int32.ofNat o = 0 from n0 0 (by decide)), Option.bind_some, if_neg (show ¬ Int32.ofNat o = 1 from n0 1 (by decide)), if_neg (show ¬ Int32.ofNat o = 2 from n0 2 (by decide)), if_neg (show ¬ Int32.ofNat o = 3 from n0 3 (by decide)), m1, m2, ra, Option.bind_some, rb, Option.bind_some, e_works, Option.bind_some, wrA_n (ocl (by omega)) (on0 (by omega)) (show x < 950 by omega), Option.bind_some, ofn1 _ (by omega), show p + (a.1.length + b.1.length + 1) = p + a.1.length + b.1.length + 1 by omega]
/-! what holds of all that an expression can be -/
section IND
variable {t : Tpe} {ms : List Nat} {I : Ex → Prop} (hn : ∀ n, I (xnum n)) (hw : ∀ k, fw ms 0 k < ms.length → I (xwrd k)) (ht : ∀ e, I e → I (xnot e)) (hb : ∀ o a b, 4 ≤ o → o ≤ 11 → I a → I b → I (xbin o a b))
theorem pCh_i (hb : ∀ o a b, 4 ≤ o → o ≤ 11 → I a → I b → I (xbin o a b)) {op : Nat → Option Nat} {sub : Nat → PR} (ho : ∀ p o, op p = some o → 4 ≤ o ∧ o ≤ 11) (hs : ∀ p e q, sub p = .inr (e, q) → I e) : ∀ p e q, pCh t op sub p = .inr (e, q) → I e := by
  have lp : ∀ d e p e2 q, I e → pLoop t op sub d e p = .inr (e2, q) → I e2 := by
    intro d
    induction d with
    | zero => intro e p e2 q _ h; cases h
    | succ d ih =>
      intro e p e2 q he h
      unfold pLoop at h
      cases h1 : op p with
      | none =>
        rw [h1] at h
        have h2 : e = e2 := congrArg Prod.fst (Sum.inr.inj h)
        exact h2 ▸ he
      | some o =>
        rw [h1] at h
        cases h2 : sub (tE t p) with
        | inl z => simp -implicitDefEqProofs only [h2] at h; cases h
        | inr z =>
          obtain ⟨e3, q3⟩ := z
          simp -implicitDefEqProofs only [h2] at h
          exact ih _ _ _ _ (hb o e e3 (ho p o h1).1 (ho p o h1).2 he (hs _ _ _ h2)) h
  intro p e q h
  unfold pCh at h
  cases h2 : sub p with
  | inl z => simp -implicitDefEqProofs only [h2] at h; cases h
  | inr z =>
    obtain ⟨e3, q3⟩ := z
    simp -implicitDefEqProofs only [h2] at h
    exact lp _ _ _ _ _ (hs _ _ _ h2) h
theorem pE_i (hn : ∀ n, I (xnum n)) (hw : ∀ k, fw ms 0 k < ms.length → I (xwrd k)) (ht : ∀ e, I e → I (xnot e)) (hb : ∀ o a b, 4 ≤ o → o ≤ 11 → I a → I b → I (xbin o a b)) : ∀ r p e q, pE t ms r p = .inr (e, q) → I e := by
  intro r
  induction r with
  | zero => intro p e q h; exact absurd h (pE0_no _ _ _)
  | succ r ih =>
    have hpart : ∀ p e q, pPart t ms (pE t ms r) p = .inr (e, q) → I e := by
      intro p e q h
      unfold pPart at h
      split at h
      · split at h
        · have h2 : xnum (nmF t p) = e := congrArg Prod.fst (Sum.inr.inj h)
          exact h2 ▸ hn _
        · cases h
      · split at h
        · cases hq : pE t ms r (tE t p) with
          | inl z => rw [hq] at h; cases h
          | inr z =>
            obtain ⟨e2, q2⟩ := z
            rw [hq] at h
            have h : (if sgi t q2 41 then (.inr (e2, tE t q2) : PR) else .inl (1, tB t q2)) = .inr (e, q) := h
            split at h
            · have h2 : e2 = e := congrArg Prod.fst (Sum.inr.inj h)
              exact h2 ▸ ih _ _ _ hq
            · cases h
        · split at h
          · split at h
            · have h2 : xwrd (kw t p) = e := congrArg Prod.fst (Sum.inr.inj h)
              exact h2 ▸ hw _ (by assumption)
            · cases h
          · cases h
    have hprod : ∀ p e q, pProd t ms (pE t ms r) p = .inr (e, q) → I e := pCh_i hb (fun p o q => by rcases opM_i q with ⟨_, rfl⟩ | ⟨_, rfl⟩ <;> omega) hpart
    have hsum : ∀ p e q, pSum t ms (pE t ms r) p = .inr (e, q) → I e := pCh_i hb (fun p o q => by rcases opS_i q with ⟨_, rfl⟩ | ⟨_, rfl⟩ <;> omega) hprod
    have hcmp : ∀ p e q, pCmp t ms (pE t ms r) p = .inr (e, q) → I e := by
      intro p e q h
      unfold pCmp at h
      cases h2 : pSum t ms (pE t ms r) p with
      | inl z => simp -implicitDefEqProofs only [h2] at h; cases h
      | inr z =>
        obtain ⟨e3, q3⟩ := z
        simp -implicitDefEqProofs only [h2] at h
        cases h3 : opC t q3 with
        | none =>
          simp -implicitDefEqProofs only [h3] at h
          have h4 : e3 = e := congrArg Prod.fst (Sum.inr.inj h)
          exact h4 ▸ hsum _ _ _ h2
        | some o =>
          simp -implicitDefEqProofs only [h3] at h
          cases h5 : pSum t ms (pE t ms r) (tE t q3) with
          | inl z => simp -implicitDefEqProofs only [h5] at h; cases h
          | inr z =>
            obtain ⟨e4, q4⟩ := z
            simp -implicitDefEqProofs only [h5] at h
            have h4 : xbin o e3 e4 = e := congrArg Prod.fst (Sum.inr.inj h)
            have ho : 4 ≤ o ∧ o ≤ 11 := by rcases opC_i h3 with ⟨_, rfl⟩ | ⟨_, rfl⟩ <;> omega
            exact h4 ▸ hb _ _ _ ho.1 ho.2 (hsum _ _ _ h2) (hsum _ _ _ h5)
    have hnot : ∀ k p e q, pNot t ms (pE t ms r) k p = .inr (e, q) → I e := by
      intro k
      induction k with
      | zero =>
        intro p e q h
        unfold pNot at h
        split at h
        · cases h
        · exact hcmp _ _ _ h
      | succ k ihk =>
        intro p e q h
        unfold pNot at h
        split at h
        · cases h2 : pNot t ms (pE t ms r) k (tE t p) with
          | inl z => simp -implicitDefEqProofs only [h2] at h; cases h
          | inr z =>
            obtain ⟨e3, q3⟩ := z
            simp -implicitDefEqProofs only [h2] at h
            have h4 : xnot e3 = e := congrArg Prod.fst (Sum.inr.inj h)
            exact h4 ▸ ht _ (ihk _ _ _ h2)
        · exact hcmp _ _ _ h
    intro p e q h
    unfold pE at h
    split at h
    · exact pCh_i hb (fun p o q => by rw [(opO_s q).2]; decide) (pCh_i hb (fun p o q => by rw [(opA_s q).2]; decide) (hnot 6)) p e q h
    · cases h
end IND
/-- what an expression is good for -/
def Gd (ms : List Nat) (e : Ex) : Prop := 2 ≤ e.1.length ∧ Rk e.1 e.2 ∧ ∀ f f' : Nat → Int32, (∀ k, fw ms 0 k < ms.length → f k = f' k) → e.2 f = e.2 f'
theorem pE_good {t : Tpe} {ms : List Nat} (h8 : ∀ k, fw ms 0 k < ms.length → k < 8) : ∀ r p e q, pE t ms r p = .inr (e, q) → Gd ms e := by
  refine pE_i (fun n => ⟨Nat.le_refl _, Rk.num n, fun f f' _ => rfl⟩) (fun k hk => ⟨Nat.le_refl _, Rk.wrd (h8 k hk), fun f f' h => h k hk⟩) (fun e h => ⟨?_, h.2.1.not_, fun f f' k => ?_⟩) fun o a b o1 o2 ha hb => ⟨?_, Rk.bin ⟨o1, o2⟩ ha.1 ha.2.1 hb.2.1, fun f f' k => ?_⟩
  · show 2 ≤ (e.1 ++ [3]).length
    rw [List.length_append]
    have := h.1; omega
  · show (if e.2 f = 0 then (1 : Int32) else 0) = if e.2 f' = 0 then 1 else 0
    rw [h.2.2 f f' k]
  · show 2 ≤ (a.1 ++ b.1 ++ [o]).length
    rw [List.length_append, List.length_append]
    have := ha.1; omega
  · show wk o (a.2 f) (b.2 f) = wk o (a.2 f') (b.2 f')
    rw [ha.2.2 f f' k, hb.2.2 f f' k]
/-- a whole code is reckoned -/
theorem r_reckons {S : MS} {b : Nat} {e : Ex} (h : Rk e.1 e.2) (hs : Seg S b (e.1 ++ [0])) (hb : b + e.1.length + 1 ≤ 1400) : ∃ S', m_reckons (Int32.ofNat b) S = some (e.2 (S.2.2 15), S') ∧ mfr (fun j _ => j = 16) S S' := by
  obtain ⟨n, n0, n1, h⟩ := h
  obtain ⟨m, hm⟩ : ∃ m, FU = m + 1 + n := ⟨FU - 1 - n, by have : FU = 6000 := rfl; omega⟩
  obtain ⟨S1, e1, v1, o1, f1⟩ := h S b 0 (m + 1) hs.l (by omega) (by omega)
  refine ⟨S1, ?_, f1⟩
  unfold m_reckons
  rw [hm]
  have e1 : m_reckons_4 (m + 1 + n) 0 (Int32.ofNat b) S = m_reckons_4 (m + 1) (Int32.ofNat (0 + 1)) (Int32.ofNat (b + e.1.length)) S1 := e1
  rw [e1]
  have r0 : rdA S1 3 (Int32.ofNat (b + e.1.length)) = some 0 := by
    have := rd3 (hs.r.fr f1) (i := 0) (by decide) (by show b + e.1.length + 1 ≤ 1400; omega)
    exact this
  have rp : rdA S1 16 0 = some (e.2 (S.2.2 15)) := by
    rw [rdA_n (j := 16) (i := 0) (k := 0) (by decide) (by decide) (show 0 < 950 by decide), v1]
  show m_reckons_4_b (m_reckons_4 m) (Int32.ofNat (0 + 1)) (Int32.ofNat (b + e.1.length)) S1 = _
  unfold m_reckons_4_b
  rw [r0, Option.bind_some, if_pos rfl, rp, Option.bind_some]
