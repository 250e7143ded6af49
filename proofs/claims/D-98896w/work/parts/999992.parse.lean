/-! plain law: what an expression is, told by its tokens -/
set_option maxRecDepth 100000
/-- the code of it, and what it says of eight values -/
abbrev Ex : Type := List Nat × ((Nat → Int32) → Int32)
abbrev PR : Type := (Nat × Nat) ⊕ (Ex × Nat)
def wk (o : Nat) (x y : Int32) : Int32 := (m_works (Int32.ofNat o) x y).getD 0
theorem e_works (o : Nat) (x y : Int32) : m_works (Int32.ofNat o) x y = some (wk o x y) := by
  have h : ∃ v, m_works (Int32.ofNat o) x y = some v := by
    unfold m_works m_works_66
    repeat' split
    all_goals first | exact ⟨_, rfl⟩ | contradiction
  obtain ⟨v, h⟩ := h
  unfold wk
  rw [h]; rfl
def xnum (n : Nat) : Ex := ([1, n], fun _ => Int32.ofNat n)
def xwrd (k : Nat) : Ex := ([2, k], fun f => f k)
def xnot (e : Ex) : Ex := (e.1 ++ [3], fun f => if e.2 f = 0 then 1 else 0)
def xbin (o : Nat) (a b : Ex) : Ex := (a.1 ++ b.1 ++ [o], fun f => wk o (a.2 f) (b.2 f))
abbrev pstart (t : Tpe) (p : Nat) : Prop := tS t p = 2 ∨ tS t p = 1 ∨ sgi t p 40
def pBr (t : Tpe) : PR → PR
  | .inl z => .inl z
  | .inr (e, q) => if sgi t q 41 then .inr (e, tE t q) else .inl (1, tB t q)
def pPart (t : Tpe) (ms : List Nat) (kE : Nat → PR) (p : Nat) : PR :=
  if tS t p = 2 then (if tE t p - tB t p ≤ 4 then .inr (xnum (nmF t p), tE t p) else .inl (2, tB t p))
  else if sgi t p 40 then pBr t (kE (tE t p))
  else if tS t p = 1 then (if fw ms 0 (kw t p) < ms.length then .inr (xwrd (kw t p), tE t p) else .inl (3, tB t p))
  else .inl (1, tB t p)
def pLoop (t : Tpe) (op : Nat → Option Nat) (sub : Nat → PR) : Nat → Ex → Nat → PR
  | 0, _, _ => .inl (0, 0)
  | d + 1, e, p => match op p with
    | none => .inr (e, p)
    | some o => (match sub (tE t p) with
      | .inl z => .inl z
      | .inr (e2, q) => pLoop t op sub d (xbin o e e2) q)
def pCh (t : Tpe) (op : Nat → Option Nat) (sub : Nat → PR) (p : Nat) : PR := match sub p with
  | .inl z => .inl z
  | .inr (e, q) => pLoop t op sub 701 e q
def opM (t : Tpe) (p : Nat) : Option Nat := if sgi t p 42 then some 10 else if sgi t p 47 then some 11 else none
def opS (t : Tpe) (p : Nat) : Option Nat := if sgi t p 43 then some 8 else if sgi t p 45 then some 9 else none
def opC (t : Tpe) (p : Nat) : Option Nat := if sgi t p 60 then some 6 else if sgi t p 61 then some 7 else none
def opA (t : Tpe) (p : Nat) : Option Nat := if kw t p = 15 then some 4 else none
def opO (t : Tpe) (p : Nat) : Option Nat := if kw t p = 16 then some 5 else none
section PD
variable (t : Tpe) (ms : List Nat) (kE : Nat → PR)
def pProd : Nat → PR := pCh t (opM t) (pPart t ms kE)
def pSum : Nat → PR := pCh t (opS t) (pProd t ms kE)
def pCmp (p : Nat) : PR := match pSum t ms kE p with
  | .inl z => .inl z
  | .inr (e, q) => (match opC t q with
    | none => .inr (e, q)
    | some o => (match pSum t ms kE (tE t q) with
      | .inl z => .inl z
      | .inr (e2, q2) => .inr (xbin o e e2, q2)))
def pNot : Nat → Nat → PR
  | 0, p => if kw t p = 17 then .inl (2, tB t p) else pCmp t ms kE p
  | r + 1, p => if kw t p = 17 then (match pNot r (tE t p) with
      | .inl z => .inl z
      | .inr (e, q) => .inr (xnot e, q)) else pCmp t ms kE p
def pAnd : Nat → PR := pCh t (opA t) (pNot t ms kE 6)
def pOr : Nat → PR := pCh t (opO t) (pAnd t ms kE)
end PD
def pE (t : Tpe) (ms : List Nat) : Nat → Nat → PR
  | 0, p => if pstart t p then .inl (2, tB t p) else .inl (1, tB t p)
  | r + 1, p => if pstart t p then pOr t ms (pE t ms r) p else .inl (1, tB t p)
/-! it goes on, and never beyond the end -/
def Fwd (t : Tpe) (f : Nat → PR) : Prop := ∀ p e q, p ≤ t.2 → f p = .inr (e, q) → p < q ∧ q ≤ t.2
theorem tE_fw {t : Tpe} {p : Nat} (hp : p ≤ t.2) (h : tS t p ≠ 0) : p < tE t p ∧ tE t p ≤ t.2 := by
  have h1 := tE_gt hp h
  have h2 := tB_ge (t := t) (p := p)
  omega
theorem sgn_0 {t : Tpe} {p c : Nat} (h : sgi t p c) : tS t p ≠ 0 := by rw [h.1]; decide
theorem kw_0 {t : Tpe} {p j : Nat} (hj : j < 18) (h : kw t p = j) : tS t p ≠ 0 := by rw [((kw_iff hj).mp h).1]; decide
theorem pPart_fw {t : Tpe} {ms : List Nat} {kE : Nat → PR} (hk : Fwd t kE) : Fwd t (pPart t ms kE) := by
  intro p e q hp h
  unfold pPart at h
  by_cases s2 : tS t p = 2
  · rw [if_pos s2] at h
    have := tE_fw hp (by omega)
    split at h
    · have h := Sum.inr.inj h
      have h2 : tE t p = q := congrArg Prod.snd h
      omega
    · cases h
  · rw [if_neg s2] at h
    by_cases c4 : sgi t p 40
    · rw [if_pos c4] at h
      have h1 := tE_fw hp (sgn_0 c4)
      cases hq : kE (tE t p) with
      | inl z => rw [hq] at h; cases h
      | inr z =>
        obtain ⟨e2, q2⟩ := z
        rw [hq] at h
        have h2 := hk _ _ _ h1.2 hq
        have h : (if sgi t q2 41 then (.inr (e2, tE t q2) : PR) else .inl (1, tB t q2)) = .inr (e, q) := h
        by_cases c5 : sgi t q2 41
        · rw [if_pos c5] at h
          have h3 := tE_fw h2.2 (sgn_0 c5)
          have h4 : tE t q2 = q := congrArg Prod.snd (Sum.inr.inj h)
          omega
        · rw [if_neg c5] at h; cases h
    · rw [if_neg c4] at h
      by_cases s1 : tS t p = 1
      · rw [if_pos s1] at h
        have := tE_fw hp (by omega)
        split at h
        · have h2 : tE t p = q := congrArg Prod.snd (Sum.inr.inj h)
          omega
        · cases h
      · rw [if_neg s1] at h; cases h
def OpF (t : Tpe) (op : Nat → Option Nat) : Prop := ∀ p o, op p = some o → tS t p ≠ 0
theorem opM_f {t : Tpe} : OpF t (opM t) := by
  intro p o h
  unfold opM at h
  split at h
  · exact sgn_0 (by assumption)
  · split at h
    · exact sgn_0 (by assumption)
    · cases h
theorem opS_f {t : Tpe} : OpF t (opS t) := by
  intro p o h
  unfold opS at h
  split at h
  · exact sgn_0 (by assumption)
  · split at h
    · exact sgn_0 (by assumption)
    · cases h
theorem opC_f {t : Tpe} : OpF t (opC t) := by
  intro p o h
  unfold opC at h
  split at h
  · exact sgn_0 (by assumption)
  · split at h
    · exact sgn_0 (by assumption)
    · cases h
theorem opA_f {t : Tpe} : OpF t (opA t) := by
  intro p o h
  unfold opA at h
  split at h
  · exact kw_0 (j := 15) (by decide) (by assumption)
  · cases h
theorem opO_f {t : Tpe} : OpF t (opO t) := by
  intro p o h
  unfold opO at h
  split at h
  · exact kw_0 (j := 16) (by decide) (by assumption)
  · cases h
theorem pLoop_fw {t : Tpe} {op : Nat → Option Nat} {sub : Nat → PR} (ho : OpF t op) (hs : Fwd t sub) : ∀ d e p e2 q, p ≤ t.2 → pLoop t op sub d e p = .inr (e2, q) → p ≤ q ∧ q ≤ t.2 := by
  intro d
  induction d with
  | zero => intro e p e2 q _ h; cases h
  | succ d ih =>
    intro e p e2 q hp h
    unfold pLoop at h
    cases h1 : op p with
    | none =>
      rw [h1] at h
      have h2 : p = q := congrArg Prod.snd (Sum.inr.inj h)
      omega
    | some o =>
      rw [h1] at h
      have f1 := tE_fw hp (ho p o h1)
      cases h2 : sub (tE t p) with
      | inl z => simp -implicitDefEqProofs only [h2] at h; cases h
      | inr z =>
        obtain ⟨e3, q3⟩ := z
        simp -implicitDefEqProofs only [h2] at h
        have f2 := hs _ _ _ f1.2 h2
        have f3 := ih _ _ _ _ f2.2 h
        omega
theorem pCh_fw {t : Tpe} {op : Nat → Option Nat} {sub : Nat → PR} (ho : OpF t op) (hs : Fwd t sub) : Fwd t (pCh t op sub) := by
  intro p e q hp h
  unfold pCh at h
  cases h2 : sub p with
  | inl z => simp -implicitDefEqProofs only [h2] at h; cases h
  | inr z =>
    obtain ⟨e3, q3⟩ := z
    simp -implicitDefEqProofs only [h2] at h
    have f2 := hs _ _ _ hp h2
    have f3 := pLoop_fw ho hs _ _ _ _ _ f2.2 h
    omega
section PF
variable {t : Tpe} {ms : List Nat} {kE : Nat → PR} (hk : Fwd t kE)
theorem pProd_fw (hk : Fwd t kE) : Fwd t (pProd t ms kE) := pCh_fw opM_f (pPart_fw hk)
theorem pSum_fw (hk : Fwd t kE) : Fwd t (pSum t ms kE) := pCh_fw opS_f (pProd_fw hk)
theorem pCmp_fw (hk : Fwd t kE) : Fwd t (pCmp t ms kE) := by
  intro p e q hp h
  unfold pCmp at h
  cases h2 : pSum t ms kE p with
  | inl z => simp -implicitDefEqProofs only [h2] at h; cases h
  | inr z =>
    obtain ⟨e3, q3⟩ := z
    simp -implicitDefEqProofs only [h2] at h
    have f2 := pSum_fw hk _ _ _ hp h2
    cases h3 : opC t q3 with
    | none =>
      simp -implicitDefEqProofs only [h3] at h
      have h4 : q3 = q := congrArg Prod.snd (Sum.inr.inj h)
      omega
    | some o =>
      simp -implicitDefEqProofs only [h3] at h
      have f3 := tE_fw f2.2 (opC_f _ _ h3)
      cases h5 : pSum t ms kE (tE t q3) with
      | inl z => simp -implicitDefEqProofs only [h5] at h; cases h
      | inr z =>
        obtain ⟨e4, q4⟩ := z
        simp -implicitDefEqProofs only [h5] at h
        have f4 := pSum_fw hk _ _ _ f3.2 h5
        have h4 : q4 = q := congrArg Prod.snd (Sum.inr.inj h)
        omega
theorem pNot_fw (hk : Fwd t kE) : ∀ r, Fwd t (pNot t ms kE r) := by
  intro r
  induction r with
  | zero =>
    intro p e q hp h
    unfold pNot at h
    split at h
    · cases h
    · exact pCmp_fw hk _ _ _ hp h
  | succ r ih =>
    intro p e q hp h
    unfold pNot at h
    by_cases c : kw t p = 17
    · rw [if_pos c] at h
      have f1 := tE_fw hp (kw_0 (by decide) c)
      cases h2 : pNot t ms kE r (tE t p) with
      | inl z => simp -implicitDefEqProofs only [h2] at h; cases h
      | inr z =>
        obtain ⟨e3, q3⟩ := z
        simp -implicitDefEqProofs only [h2] at h
        have f2 := ih _ _ _ f1.2 h2
        have h4 : q3 = q := congrArg Prod.snd (Sum.inr.inj h)
        omega
    · rw [if_neg c] at h
      exact pCmp_fw hk _ _ _ hp h
theorem pAnd_fw (hk : Fwd t kE) : Fwd t (pAnd t ms kE) := pCh_fw opA_f (pNot_fw hk 6)
theorem pOr_fw (hk : Fwd t kE) : Fwd t (pOr t ms kE) := pCh_fw opO_f (pAnd_fw hk)
end PF
theorem pE_fw {t : Tpe} {ms : List Nat} : ∀ r, Fwd t (pE t ms r) := by
  intro r
  induction r with
  | zero =>
    intro p e q hp h
    unfold pE at h
    split at h <;> cases h
  | succ r ih =>
    intro p e q hp h
    unfold pE at h
    split at h
    · exact pOr_fw ih _ _ _ hp h
    · cases h
