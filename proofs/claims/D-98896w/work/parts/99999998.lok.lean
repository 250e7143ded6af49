/-! plain law: what a line leaves is as it should be -/
set_option maxRecDepth 100000
def CS (L : List Nat) (b : Nat) (e : Ex) : Prop := b + e.1.length + 1 ≤ L.length ∧ ∀ i, i ≤ e.1.length → L.getD (b + i) 0 = (e.1 ++ [0]).getD i 0
def YV (Y : Yx) : Prop := yD Y < 64 ∧ (∀ k, k < (yT Y).1 → (yT Y).2 k ≤ 9) ∧ (∀ k, k < (yP Y).1 → (yP Y).2 k ≤ 3) ∧ 1 ≤ yS Y ∧ (dup Y 2 = false → yA Y = 9) ∧ (dup Y 3 = false → yS Y = 6) ∧ (dup Y 4 = true ↔ yG Y ≠ none) ∧ (dup Y 5 = true ↔ yB Y ≠ none) ∧ (∀ e, yG Y = some e → Gd grMs e ∧ CS (yL Y) (yg Y) e) ∧ (∀ e, yB Y = some e → Gd beMs e ∧ CS (yL Y) (yb Y) e) ∧ gY (yR Y) = 0 ∧ ∀ c, c < 30 → (gK (yR Y) c = -1 ∨ ∃ k, k < (yP Y).1 ∧ gK (yR Y) c = Int32.ofNat k) ∧ (gK (yR Y) c = -1 → gZ (yR Y) c = 0) ∧ 0 ≤ gF (yR Y) c ∧ gF (yR Y) c ≤ 99
theorem sbd_i {α β : Type} {x : PL α} {f : α → PL β} {b : β} (h : sbd x f = .inr b) : ∃ a, x = .inr a ∧ f a = .inr b := by
  cases x with
  | inl z => cases h
  | inr a => exact ⟨a, rfl, h⟩
theorem once_i {α : Type} {t : Tpe} {Y : Yx} {p i : Nat} {x : PL α} {b : α} (h : once t Y p i x = .inr b) : dup Y i = false ∧ x = .inr b := by
  unfold once at h
  cases q : dup Y i with
  | true => rw [q, if_pos rfl] at h; cases h
  | false => rw [q, if_neg (by decide)] at h; exact ⟨rfl, h⟩
theorem or64 : ∀ D, D < 64 → ∀ i, i < 6 → D ||| 2 ^ i < 64 := by decide +kernel
theorem CS.app {L M : List Nat} {b : Nat} {e : Ex} (h : CS L b e) : CS (L ++ M) b e := ⟨by rw [List.length_append]; have := h.1; omega, fun i hi => by rw [gD_l (by have := h.1; omega)]; exact h.2 i hi⟩
theorem CS.new {L : List Nat} {e : Ex} : CS (L ++ e.1 ++ [0]) L.length e := ⟨by rw [List.length_append, List.length_append, List.length_singleton]; omega, fun i hi => by rw [List.append_assoc, gD_rr]⟩
theorem pAmo_i {t : Tpe} {p m v : Nat} (h : pAmo t p m = .inr v) : v < m ∧ nOK t p 0 9999 := by
  unfold pAmo at h
  obtain ⟨⟨a, b⟩, h1, h2⟩ := sbd_i h
  obtain ⟨ok, -, -⟩ := pNum_i h1
  split at h2
  · have := Sum.inr.inj h2
    dsimp only at this
    exact ⟨by omega, ok⟩
  · cases h2
theorem iw99 : ∀ v, v ≤ 99 → (0 : Int32) ≤ Int32.ofNat v ∧ Int32.ofNat v ≤ 99 := by decide +kernel
theorem pWm_v {t : Tpe} : ∀ d l p l' q, pWm t d l p = .inr (l', q) → l.1 ≤ 8 → (∀ k, k < l.1 → l.2 k ≤ 9) → l'.1 ≤ 8 ∧ (∀ k, k < l'.1 → l'.2 k ≤ 9) ∧ l.1 ≤ l'.1 ∧ (tS t p = 2 → 0 < l'.1) := by
  intro d
  induction d with
  | zero => intro l p l' q h; cases h
  | succ d ih =>
    intro l p l' q h h1 h2
    unfold pWm at h
    split at h
    · split at h
      · cases h
      · obtain ⟨⟨v, r⟩, e1, e2⟩ := sbd_i h
        obtain ⟨ok, rfl, rfl⟩ := pNum_i e1
        have := ih (ysn l (nmF t p)) _ _ _ e2 (by show l.1 + 1 ≤ 8; omega) (fun k hk => by
          have hk : k < l.1 + 1 := hk
          show va_up l.2 l.1 (nmF t p) k ≤ 9
          unfold va_up
          by_cases c : k = l.1
          · rw [if_pos c]; exact ok.2.2.2
          · rw [if_neg c]; exact h2 k (by omega))
        have a3 : l.1 + 1 ≤ l'.1 := this.2.2.1
        exact ⟨this.1, this.2.1, by omega, fun _ => by omega⟩
    · rename_i c
      have h3 : l = l' := congrArg Prod.fst (Sum.inr.inj h)
      subst h3
      exact ⟨h1, h2, Nat.le_refl _, fun q => absurd q c⟩
/-! how long a code can be -/
def Ln (f : Nat → PR) (t : Tpe) : Prop := ∀ p e q, p ≤ t.2 → f p = .inr (e, q) → e.1.length + 2 * p ≤ 2 * q
theorem pCh_l {t : Tpe} {op : Nat → Option Nat} {sub : Nat → PR} (hop : OpF t op) (hfw : Fwd t sub) (hs : Ln sub t) : Ln (pCh t op sub) t := by
  have lp : ∀ d e p p0 e2 q, p ≤ t.2 → e.1.length + 2 * p0 ≤ 2 * p → pLoop t op sub d e p = .inr (e2, q) → e2.1.length + 2 * p0 ≤ 2 * q := by
    intro d
    induction d with
    | zero => intro e p p0 e2 q _ _ h; cases h
    | succ d ih =>
      intro e p p0 e2 q hp he h
      unfold pLoop at h
      cases h3 : op p with
      | none =>
        rw [h3] at h
        have h1 : e = e2 := congrArg Prod.fst (Sum.inr.inj h)
        have h2 : p = q := congrArg Prod.snd (Sum.inr.inj h)
        subst h1 h2
        exact he
      | some o =>
        rw [h3] at h
        have f := tE_fw hp (hop p o h3)
        cases h4 : sub (tE t p) with
        | inl z => simp -implicitDefEqProofs only [h4] at h; cases h
        | inr z =>
          obtain ⟨e3, q3⟩ := z
          simp -implicitDefEqProofs only [h4] at h
          have f2 := hfw _ _ _ f.2 h4
          have l2 := hs _ _ _ f.2 h4
          refine ih (xbin o e e3) q3 p0 e2 q f2.2 ?_ h
          show (e.1 ++ e3.1 ++ [o]).length + _ ≤ _
          rw [List.length_append, List.length_append, List.length_singleton]
          omega
  intro p e q hp h
  unfold pCh at h
  cases h2 : sub p with
  | inl z => simp -implicitDefEqProofs only [h2] at h; cases h
  | inr z =>
    obtain ⟨e3, q3⟩ := z
    simp -implicitDefEqProofs only [h2] at h
    have f2 := hfw _ _ _ hp h2
    exact lp _ _ _ _ _ _ f2.2 (hs _ _ _ hp h2) h
theorem pE_len {t : Tpe} (ms : List Nat) : ∀ r p e q, p ≤ t.2 → pE t ms r p = .inr (e, q) → e.1.length + 2 * p ≤ 2 * q := by
  intro r
  induction r with
  | zero => intro p e q _ h; exact absurd h (pE0_no _ _ _)
  | succ r ih =>
    have fw := pE_fw (t := t) (ms := ms) r
    have hpart : Ln (pPart t ms (pE t ms r)) t := by
      intro p e q hp h
      unfold pPart at h
      split at h
      · rename_i s2
        have f := tE_fw hp (show tS t p ≠ 0 by omega)
        split at h
        · have h1 : xnum (nmF t p) = e := congrArg Prod.fst (Sum.inr.inj h)
          have h2 : tE t p = q := congrArg Prod.snd (Sum.inr.inj h)
          subst h1 h2
          show 2 + _ ≤ _
          omega
        · cases h
      · split at h
        · rename_i c4
          have f := tE_fw hp (sgn_0 c4)
          cases hq : pE t ms r (tE t p) with
          | inl z => rw [hq] at h; cases h
          | inr z =>
            obtain ⟨e2, q2⟩ := z
            rw [hq] at h
            have h : (if sgi t q2 41 then (.inr (e2, tE t q2) : PR) else .inl (1, tB t q2)) = .inr (e, q) := h
            have f2 := fw _ _ _ f.2 hq
            have l2 := ih _ _ _ f.2 hq
            split at h
            · rename_i c5
              have f3 := tE_fw f2.2 (sgn_0 c5)
              have h1 : e2 = e := congrArg Prod.fst (Sum.inr.inj h)
              have h2 : tE t q2 = q := congrArg Prod.snd (Sum.inr.inj h)
              subst h1 h2
              omega
            · cases h
        · split at h
          · rename_i s1
            have f := tE_fw hp (show tS t p ≠ 0 by omega)
            split at h
            · have h1 : xwrd (kw t p) = e := congrArg Prod.fst (Sum.inr.inj h)
              have h2 : tE t p = q := congrArg Prod.snd (Sum.inr.inj h)
              subst h1 h2
              show 2 + _ ≤ _
              omega
            · cases h
          · cases h
    have hprod := pCh_l opM_f (pPart_fw fw) hpart
    have hsum := pCh_l (t := t) opS_f (pProd_fw (ms := ms) fw) hprod
    have hcmp : Ln (pCmp t ms (pE t ms r)) t := by
      intro p e q hp h
      unfold pCmp at h
      cases h2 : pSum t ms (pE t ms r) p with
      | inl z => simp -implicitDefEqProofs only [h2] at h; cases h
      | inr z =>
        obtain ⟨e3, q3⟩ := z
        simp -implicitDefEqProofs only [h2] at h
        have f2 := pSum_fw fw _ _ _ hp h2
        have l2 := hsum _ _ _ hp h2
        cases h3 : opC t q3 with
        | none =>
          simp -implicitDefEqProofs only [h3] at h
          have h1 : e3 = e := congrArg Prod.fst (Sum.inr.inj h)
          have h2 : q3 = q := congrArg Prod.snd (Sum.inr.inj h)
          subst h1 h2
          exact l2
        | some o =>
          simp -implicitDefEqProofs only [h3] at h
          have f := tE_fw f2.2 (opC_f _ _ h3)
          cases h5 : pSum t ms (pE t ms r) (tE t q3) with
          | inl z => simp -implicitDefEqProofs only [h5] at h; cases h
          | inr z =>
            obtain ⟨e4, q4⟩ := z
            simp -implicitDefEqProofs only [h5] at h
            have l4 := hsum _ _ _ f.2 h5
            have h1 : xbin o e3 e4 = e := congrArg Prod.fst (Sum.inr.inj h)
            have h2 : q4 = q := congrArg Prod.snd (Sum.inr.inj h)
            subst h1 h2
            show (e3.1 ++ e4.1 ++ [o]).length + _ ≤ _
            rw [List.length_append, List.length_append, List.length_singleton]
            omega
    have hnot : ∀ j, Ln (pNot t ms (pE t ms r) j) t := by
      intro j
      induction j with
      | zero =>
        intro p e q hp h
        unfold pNot at h
        split at h
        · cases h
        · exact hcmp p e q hp h
      | succ j ihj =>
        intro p e q hp h
        unfold pNot at h
        split at h
        · rename_i c
          have f := tE_fw hp (kw_0 (by decide) c)
          cases h2 : pNot t ms (pE t ms r) j (tE t p) with
          | inl z => simp -implicitDefEqProofs only [h2] at h; cases h
          | inr z =>
            obtain ⟨e3, q3⟩ := z
            simp -implicitDefEqProofs only [h2] at h
            have l := ihj _ _ _ f.2 h2
            have h1 : xnot e3 = e := congrArg Prod.fst (Sum.inr.inj h)
            have h2 : q3 = q := congrArg Prod.snd (Sum.inr.inj h)
            subst h1 h2
            show (e3.1 ++ [3]).length + _ ≤ _
            rw [List.length_append, List.length_singleton]
            omega
        · exact hcmp p e q hp h
    intro p e q hp h
    unfold pE at h
    split at h
    · exact pCh_l opO_f (pAnd_fw fw) (pCh_l opA_f (pNot_fw fw 6) (hnot 6)) p e q hp h
    · cases h
section PV
variable {t : Tpe} {Y Y' : Yx} {p q : Nat}
theorem b_ok (h7 : t.2 ≤ 700) (hp : p ≤ t.2) (hw : YW Y) (hv : YV Y) (hL : (yL Y).length ≤ 2 * p) (h : pBody t Y p = .inr (Y', q)) : YW Y' ∧ YV Y' ∧ p < q ∧ q ≤ t.2 ∧ (yL Y').length ≤ 2 * q := by
  obtain ⟨⟨w1, w2, w3, w4, w5⟩, ⟨w6, w7⟩, w8, ⟨w9, w10⟩, ⟨w11, w12⟩, w13⟩ := hw
  obtain ⟨v1, v2, v3, v4, v5, v6, v7, v8, v9, v10, v11, v12⟩ := hv
  unfold pBody at h
  by_cases k1 : kw t p = 8
  · rw [if_pos k1] at h
    have f0 := tE_fw hp (kw_0 (by decide) k1)
    split at h
    · cases h
    · obtain ⟨d0, h⟩ := once_i h
      obtain ⟨⟨a, b⟩, e1, h⟩ := sbd_i h
      obtain ⟨⟨c, d⟩, e2, h⟩ := sbd_i h
      obtain ⟨ok1, rfl, rfl⟩ := pNum_i e1
      obtain ⟨ok2, rfl, rfl⟩ := pNum_i e2
      have f1 := nOK_fw f0.2 ok1
      have f2 := nOK_fw f1.2 ok2
      have hy := Sum.inr.inj h
      have r1 := congrArg Prod.fst hy
      have r2 := congrArg Prod.snd hy
      dsimp only at r1 r2
      subst r1 r2
      have dn : ∀ j, 0 ≠ j → dup (sCel Y (nmF t (tE t p)) (nmF t (tE t (tE t p)))) j = dup Y j := fun j q => dup_n (i := 0) rfl q
      have dy : dup (sCel Y (nmF t (tE t p)) (nmF t (tE t (tE t p)))) 0 = true := dup_y (i := 0) rfl
      refine ⟨⟨⟨ok1.2.2.1, ok1.2.2.2, ok2.2.2.1, ok2.2.2.2, fun q => by rw [dy] at q; cases q⟩, ⟨w6, by rw [dn 1 (by decide)]; exact w7⟩, w8, ⟨w9, w10⟩, ⟨w11, w12⟩, w13⟩, ⟨or64 _ v1 0 (by decide), v2, v3, v4, by rw [dn 2 (by decide)]; exact v5, by rw [dn 3 (by decide)]; exact v6, by rw [dn 4 (by decide)]; exact v7, by rw [dn 5 (by decide)]; exact v8, v9, v10, v11, v12⟩, by omega, f2.2, ?_⟩
      show (yL Y).length ≤ _
      omega
  rw [if_neg k1] at h
  by_cases k2 : kw t p = 3
  · rw [if_pos k2] at h
    have f0 := tE_fw hp (kw_0 (by decide) k2)
    obtain ⟨d0, h⟩ := once_i h
    split at h
    · rename_i s2
      obtain ⟨⟨l, r⟩, e1, h⟩ := sbd_i h
      have f1 := pWm_fw _ _ _ _ _ f0.2 e1
      obtain ⟨g1, g2, g3, g4⟩ := pWm_v _ _ _ _ _ e1 w6 v2
      have hy := Sum.inr.inj h
      have r1 := congrArg Prod.fst hy
      have r2 := congrArg Prod.snd hy
      dsimp only at r1 r2
      subst r1 r2
      have dn : ∀ j, 1 ≠ j → dup (sWm Y l) j = dup Y j := fun j q => dup_n (i := 1) rfl q
      have dy : dup (sWm Y l) 1 = true := dup_y (i := 1) rfl
      refine ⟨⟨⟨w1, w2, w3, w4, by rw [dn 0 (by decide)]; exact w5⟩, ⟨g1, by rw [dy]; exact ⟨fun _ => g4 s2, fun _ => rfl⟩⟩, w8, ⟨w9, w10⟩, ⟨w11, w12⟩, w13⟩, ⟨or64 _ v1 1 (by decide), g2, v3, v4, by rw [dn 2 (by decide)]; exact v5, by rw [dn 3 (by decide)]; exact v6, by rw [dn 4 (by decide)]; exact v7, by rw [dn 5 (by decide)]; exact v8, v9, v10, v11, v12⟩, by omega, f1.2, ?_⟩
      show (yL Y).length ≤ _
      omega
    · cases h
  rw [if_neg k2] at h
  by_cases k3 : kw t p = 11
  · rw [if_pos k3] at h
    have f0 := tE_fw hp (kw_0 (by decide) k3)
    obtain ⟨d0, h⟩ := once_i h
    obtain ⟨⟨a, b⟩, e1, h⟩ := sbd_i h
    obtain ⟨ok1, rfl, rfl⟩ := pNum_i e1
    have f1 := nOK_fw f0.2 ok1
    have hy := Sum.inr.inj h
    have r1 := congrArg Prod.fst hy
    have r2 := congrArg Prod.snd hy
    dsimp only at r1 r2
    subst r1 r2
    have dn : ∀ j, 2 ≠ j → dup (sAge Y (nmF t (tE t p))) j = dup Y j := fun j q => dup_n (i := 2) rfl q
    have dy : dup (sAge Y (nmF t (tE t p))) 2 = true := dup_y (i := 2) rfl
    refine ⟨⟨⟨w1, w2, w3, w4, by rw [dn 0 (by decide)]; exact w5⟩, ⟨w6, by rw [dn 1 (by decide)]; exact w7⟩, w8, ⟨ok1.2.2.2, w10⟩, ⟨w11, w12⟩, w13⟩, ⟨or64 _ v1 2 (by decide), v2, v3, v4, fun q => (by rw [dy] at q; cases q), by rw [dn 3 (by decide)]; exact v6, by rw [dn 4 (by decide)]; exact v7, by rw [dn 5 (by decide)]; exact v8, v9, v10, v11, v12⟩, by omega, f1.2, ?_⟩
    show (yL Y).length ≤ _
    omega
  rw [if_neg k3] at h
  by_cases k4 : kw t p = 12
  · rw [if_pos k4] at h
    have f0 := tE_fw hp (kw_0 (by decide) k4)
    obtain ⟨d0, h⟩ := once_i h
    obtain ⟨⟨a, b⟩, e1, h⟩ := sbd_i h
    obtain ⟨ok1, rfl, rfl⟩ := pNum_i e1
    have f1 := nOK_fw f0.2 ok1
    have hy := Sum.inr.inj h
    have r1 := congrArg Prod.fst hy
    have r2 := congrArg Prod.snd hy
    dsimp only at r1 r2
    subst r1 r2
    have dn : ∀ j, 3 ≠ j → dup (sSpo Y (nmF t (tE t p))) j = dup Y j := fun j q => dup_n (i := 3) rfl q
    have dy : dup (sSpo Y (nmF t (tE t p))) 3 = true := dup_y (i := 3) rfl
    refine ⟨⟨⟨w1, w2, w3, w4, by rw [dn 0 (by decide)]; exact w5⟩, ⟨w6, by rw [dn 1 (by decide)]; exact w7⟩, w8, ⟨w9, ok1.2.2.2⟩, ⟨w11, w12⟩, w13⟩, ⟨or64 _ v1 3 (by decide), v2, v3, ok1.2.2.1, by rw [dn 2 (by decide)]; exact v5, fun q => (by rw [dy] at q; cases q), by rw [dn 4 (by decide)]; exact v7, by rw [dn 5 (by decide)]; exact v8, v9, v10, v11, v12⟩, by omega, f1.2, ?_⟩
    show (yL Y).length ≤ _
    omega
  rw [if_neg k4] at h
  by_cases k5 : kw t p = 13
  · rw [if_pos k5] at h
    have f0 := tE_fw hp (kw_0 (by decide) k5)
    obtain ⟨d0, h⟩ := once_i h
    obtain ⟨⟨e, r⟩, e1, h⟩ := sbd_i h
    have f1 := pE_fw 6 _ _ _ f0.2 e1
    have hy := Sum.inr.inj h
    have r1 := congrArg Prod.fst hy
    have r2 := congrArg Prod.snd hy
    dsimp only at r1 r2
    subst r1 r2
    have dn : ∀ j, 4 ≠ j → dup (sGr Y e) j = dup Y j := fun j q => dup_n (i := 4) rfl q
    have dy : dup (sGr Y e) 4 = true := dup_y (i := 4) rfl
    have gd : Gd grMs e := pE_good (fun k hk => by
      by_cases z : k < 8
      · exact z
      · rw [fw_no _ 0 k (by
          intro m hm
          have : ∀ m ∈ grMs, m < 8 := by decide
          have := this m hm
          omega)] at hk
        omega) 6 _ _ _ e1
    have gl := pE_len grMs 6 (tE t p) e r f0.2 e1
    have sm : CS (yL Y ++ e.1 ++ [0]) (yL Y).length e := CS.new
    have ap : ∀ {b e'}, CS (yL Y) b e' → CS (yL Y ++ e.1 ++ [0]) b e' := fun z => by rw [List.append_assoc]; exact z.app
    refine ⟨⟨⟨w1, w2, w3, w4, by rw [dn 0 (by decide)]; exact w5⟩, ⟨w6, by rw [dn 1 (by decide)]; exact w7⟩, w8, ⟨w9, w10⟩, ⟨by show (yL Y).length ≤ 1400; omega, w12⟩, w13⟩, ⟨or64 _ v1 4 (by decide), v2, v3, v4, by rw [dn 2 (by decide)]; exact v5, by rw [dn 3 (by decide)]; exact v6, by rw [dy]; exact ⟨fun _ q => (by cases q), fun _ => rfl⟩, by rw [dn 5 (by decide)]; exact v8, fun e2 q => (by have q := Option.some.inj q; subst q; exact ⟨gd, sm⟩), fun e2 q => ⟨(v10 e2 q).1, ap (v10 e2 q).2⟩, v11, v12⟩, by omega, f1.2, ?_⟩
    show (yL Y ++ e.1 ++ [0]).length ≤ _
    rw [List.length_append, List.length_append, List.length_singleton]
    omega
  rw [if_neg k5] at h
  by_cases k6 : kw t p = 14
  · rw [if_pos k6] at h
    have f0 := tE_fw hp (kw_0 (by decide) k6)
    obtain ⟨d0, h⟩ := once_i h
    obtain ⟨⟨e, r⟩, e1, h⟩ := sbd_i h
    have f1 := pE_fw 6 _ _ _ f0.2 e1
    have hy := Sum.inr.inj h
    have r1 := congrArg Prod.fst hy
    have r2 := congrArg Prod.snd hy
    dsimp only at r1 r2
    subst r1 r2
    have dn : ∀ j, 5 ≠ j → dup (sBe Y e) j = dup Y j := fun j q => dup_n (i := 5) rfl q
    have dy : dup (sBe Y e) 5 = true := dup_y (i := 5) rfl
    have gd : Gd beMs e := pE_good (fun k hk => by
      by_cases z : k < 8
      · exact z
      · rw [fw_no _ 0 k (by
          intro m hm
          have : ∀ m ∈ beMs, m < 8 := by decide
          have := this m hm
          omega)] at hk
        omega) 6 _ _ _ e1
    have gl := pE_len beMs 6 (tE t p) e r f0.2 e1
    have sm : CS (yL Y ++ e.1 ++ [0]) (yL Y).length e := CS.new
    have ap : ∀ {b e'}, CS (yL Y) b e' → CS (yL Y ++ e.1 ++ [0]) b e' := fun z => by rw [List.append_assoc]; exact z.app
    refine ⟨⟨⟨w1, w2, w3, w4, by rw [dn 0 (by decide)]; exact w5⟩, ⟨w6, by rw [dn 1 (by decide)]; exact w7⟩, w8, ⟨w9, w10⟩, ⟨w11, by show (yL Y).length ≤ 1400; omega⟩, w13⟩, ⟨or64 _ v1 5 (by decide), v2, v3, v4, by rw [dn 2 (by decide)]; exact v5, by rw [dn 3 (by decide)]; exact v6, by rw [dn 4 (by decide)]; exact v7, by rw [dy]; exact ⟨fun _ q => (by cases q), fun _ => rfl⟩, fun e2 q => ⟨(v9 e2 q).1, ap (v9 e2 q).2⟩, fun e2 q => (by have q := Option.some.inj q; subst q; exact ⟨gd, sm⟩), v11, v12⟩, by omega, f1.2, ?_⟩
    show (yL Y ++ e.1 ++ [0]).length ≤ _
    rw [List.length_append, List.length_append, List.length_singleton]
    omega
  rw [if_neg k6] at h
  by_cases k7 : kw t p = 6
  · rw [if_pos k7] at h
    have f0 := tE_fw hp (kw_0 (by decide) k7)
    split at h
    · cases h
    · rename_i c4
      obtain ⟨⟨a, b⟩, e1, h⟩ := sbd_i h
      obtain ⟨ok1, rfl, rfl⟩ := pNum_i e1
      have f1 := nOK_fw f0.2 ok1
      have hy := Sum.inr.inj h
      have r1 := congrArg Prod.fst hy
      have r2 := congrArg Prod.snd hy
      dsimp only at r1 r2
      subst r1 r2
      refine ⟨⟨⟨w1, w2, w3, w4, w5⟩, ⟨w6, w7⟩, by show (yP Y).1 + 1 ≤ 4; omega, ⟨w9, w10⟩, ⟨w11, w12⟩, w13⟩, ⟨v1, v2, fun k hk => ?_, v4, v5, v6, v7, v8, v9, v10, v11, fun c hc => ?_⟩, by omega, f1.2, ?_⟩
      · have hk : k < (yP Y).1 + 1 := hk
        show va_up (yP Y).2 (yP Y).1 (nmF t (tE t p)) k ≤ 3
        unfold va_up
        by_cases c : k = (yP Y).1
        · rw [if_pos c]; exact ok1.2.2.2
        · rw [if_neg c]; exact v3 k (by omega)
      · obtain ⟨z1, z2⟩ := v12 c hc
        refine ⟨z1.imp id fun ⟨k, z3, z4⟩ => ⟨k, ?_, z4⟩, z2⟩
        show k < (yP Y).1 + 1
        omega
      · show (yL Y).length ≤ _
        omega
  rw [if_neg k7] at h
  by_cases k8 : kw t p = 9
  · rw [if_pos k8] at h
    have f0 := tE_fw hp (kw_0 (by decide) k8)
    obtain ⟨c, e1, h⟩ := sbd_i h
    obtain ⟨cm, ok0⟩ := pAmo_i e1
    have f1 := nOK_fw f0.2 ok0
    split at h
    · cases h
    · obtain ⟨⟨a, b⟩, e2, h⟩ := sbd_i h
      obtain ⟨⟨d, r⟩, e3, h⟩ := sbd_i h
      obtain ⟨ok1, rfl, rfl⟩ := pNum_i e2
      have f2 := nOK_fw f1.2 ok1
      obtain ⟨ok2, rfl, rfl⟩ := pNum_i e3
      have f3 := nOK_fw f2.2 ok2
      have hy := Sum.inr.inj h
      have r1 := congrArg Prod.fst hy
      have r2 := congrArg Prod.snd hy
      dsimp only at r1 r2
      subst r1 r2
      refine ⟨⟨⟨w1, w2, w3, w4, w5⟩, ⟨w6, w7⟩, w8, ⟨w9, w10⟩, ⟨w11, w12⟩, w13⟩, ⟨v1, v2, v3, v4, v5, v6, v7, v8, v9, v10, v11, fun i hi => ?_⟩, by omega, f3.2, ?_⟩
      · obtain ⟨z1, z2, z3⟩ := v12 i hi
        refine ⟨z1, z2, ?_⟩
        show 0 ≤ upd (gF (yR Y)) c (Int32.ofNat (nmF t (tE t (tE t (tE t p))))) i ∧ upd (gF (yR Y)) c (Int32.ofNat (nmF t (tE t (tE t (tE t p))))) i ≤ 99
        unfold upd
        by_cases z : i = c
        · rw [if_pos z]; exact iw99 _ ok2.2.2.2
        · rw [if_neg z]; exact z3
      · show (yL Y).length ≤ _
        omega
  rw [if_neg k8] at h
  by_cases k9 : kw t p = 10
  · rw [if_pos k9] at h
    have f0 := tE_fw hp (kw_0 (by decide) k9)
    obtain ⟨c, e1, h⟩ := sbd_i h
    obtain ⟨cm, ok0⟩ := pAmo_i e1
    have f1 := nOK_fw f0.2 ok0
    split at h
    · cases h
    · obtain ⟨k, e2, h⟩ := sbd_i h
      obtain ⟨km, ok1⟩ := pAmo_i e2
      have f2 := nOK_fw f1.2 ok1
      obtain ⟨⟨d, r⟩, e3, h⟩ := sbd_i h
      obtain ⟨ok2, rfl, rfl⟩ := pNum_i e3
      have f3 := nOK_fw f2.2 ok2
      have hy := Sum.inr.inj h
      have r1 := congrArg Prod.fst hy
      have r2 := congrArg Prod.snd hy
      dsimp only at r1 r2
      subst r1 r2
      refine ⟨⟨⟨w1, w2, w3, w4, w5⟩, ⟨w6, w7⟩, w8, ⟨w9, w10⟩, ⟨w11, w12⟩, fun i hi => ?_⟩, ⟨v1, v2, v3, v4, v5, v6, v7, v8, v9, v10, v11, fun i hi => ?_⟩, by omega, f3.2, ?_⟩
      · show upd (gK (yR Y)) c (Int32.ofNat k) i = -1 ∨ ∃ k', k' < 4 ∧ upd (gK (yR Y)) c (Int32.ofNat k) i = Int32.ofNat k'
        unfold upd
        by_cases z : i = c
        · rw [if_pos z]; exact Or.inr ⟨k, by omega, rfl⟩
        · rw [if_neg z]; exact w13 i hi
      · obtain ⟨z1, z2, z3⟩ := v12 i hi
        show (upd (gK (yR Y)) c (Int32.ofNat k) i = -1 ∨ ∃ k', k' < (yP Y).1 ∧ upd (gK (yR Y)) c (Int32.ofNat k) i = Int32.ofNat k') ∧ (upd (gK (yR Y)) c (Int32.ofNat k) i = -1 → upd (gZ (yR Y)) c (Int32.ofNat (nmF t (tE t (tE t (tE t p))))) i = 0) ∧ _
        unfold upd
        by_cases z : i = c
        · rw [if_pos z, if_pos z]
          exact ⟨Or.inr ⟨k, km, rfl⟩, fun q => absurd q (ipos_ne (by omega)), z3⟩
        · rw [if_neg z, if_neg z]; exact ⟨z1, z2, z3⟩
      · show (yL Y).length ≤ _
        omega
  rw [if_neg k9] at h
  cases h
theorem p_ok (h7 : t.2 ≤ 700) (hp : p ≤ t.2) (hw : YW Y) (hv : YV Y) (hL : (yL Y).length ≤ 2 * p) (h : pLine t Y p = .inr (Y', q)) : YW Y' ∧ YV Y' ∧ p < q ∧ q ≤ t.2 ∧ (yL Y').length ≤ 2 * q := by
  unfold pLine at h
  obtain ⟨⟨Z, r⟩, e, h⟩ := sbd_i h
  obtain ⟨a1, a2, a3, a4, a5⟩ := b_ok h7 hp hw hv hL e
  dsimp only at h
  split at h
  · rename_i c
    have f := tE_fw a4 (sgn_0 c)
    have hy := Sum.inr.inj h
    have r1 := congrArg Prod.fst hy
    have r2 := congrArg Prod.snd hy
    dsimp only at r1 r2
    subst r1 r2
    exact ⟨a1, a2, by omega, f.2, by omega⟩
  · cases h
theorem Y0_w : YW Y0 := ⟨⟨by decide, by decide, by decide, by decide, fun _ => ⟨rfl, rfl⟩⟩, ⟨by decide, by decide⟩, by decide, ⟨by decide, by decide⟩, ⟨by decide, by decide⟩, fun c _ => Or.inl rfl⟩
theorem Y0_v : YV Y0 := ⟨by decide, fun k hk => absurd hk (Nat.not_lt_zero k), fun k hk => absurd hk (Nat.not_lt_zero k), by decide, fun _ => rfl, fun _ => rfl, ⟨fun q => absurd q (by decide), fun q => absurd rfl q⟩, ⟨fun q => absurd q (by decide), fun q => absurd rfl q⟩, fun e q => (by cases q), fun e q => (by cases q), rfl, fun c _ => ⟨Or.inl rfl, fun _ => rfl, by show (0 : Int32) ≤ 20; decide, by show (20 : Int32) ≤ 99; decide⟩⟩
end PV
