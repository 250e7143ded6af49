/-! plain law: the reference reads an expression -/
set_option maxRecDepth 100000
def ExR (S : MS) (t : Tpe) (C : List Nat) (r : PR) (R : MS) : Prop :=
  (∀ k, k < 14 ∨ k = 16 ∨ k = 17 ∨ (24 ≤ k ∧ k < 33) ∨ 37 ≤ k → R.1 k = S.1 k) ∧ (∀ j, j ≠ 9 → j ≠ 10 → j ≠ 11 → R.2.2 j = S.2.2 j) ∧
  (∀ k b, r = .inl (k, b) → R.1 14 = Int32.ofNat k ∧ R.1 15 = Int32.ofNat b) ∧
  ∀ e q, r = .inr (e, q) → TkM R t q ∧ R.1 14 = 0 ∧ R.1 15 = S.1 15 ∧ Cd R (C ++ e.1 ++ [0]) ∧ C.length + e.1.length + 2 ≤ 2 * q
theorem r_expr {t : Tpe} (h7 : t.2 ≤ 700) (hc : ∀ k, t.1 k < 256) {S : MS} {ms : List Nat} {x : Int32} (hm : mayOK (sF S 36 x) ms) {p : Nat} (hp : p ≤ t.2) (hp1 : 1 ≤ p) (tk : TkM S t p) (t4 : Tp4 S t) (g : S.1 14 = 0) {C : List Nat} (hC : Cd S C) (hb : C.length + 2 ≤ 2 * p) : Mn (m_expression x S) (ExR S t C (pE t ms 6 p)) := by
  obtain ⟨S1, e1⟩ : ∃ S1, S1 = sF (sF (sF S 36 x) 34 0) 35 0 := ⟨_, rfl⟩
  have k1 : Kz (fun i => 34 ≤ i ∧ i ≤ 36) (fun _ => False) S S1 := by
    rw [e1]
    exact ⟨fun i q => by rw [sF_ne (by omega), sF_ne (by omega), sF_ne (by omega)], rfl, fun _ _ => rfl⟩
  have f34 : S1.1 34 = 0 := by rw [e1, sF_ne (by decide), sF_at]
  have f35 : S1.1 35 = 0 := by rw [e1, sF_at]
  have f36 : S1.1 36 = x := by rw [e1, sF_ne (by decide), sF_ne (by decide), sF_at]
  have hm1 : mayOK S1 ms := by
    unfold mayOK
    rw [f36]
    unfold mayOK at hm
    rw [sF_at] at hm
    exact hm
  have x1 : RX S1 S1 t p 0 (S1.2.2 11) [] C := ⟨⟨⟨(k1.1 17 (by decide)).trans t4.1, by rw [k1.2.2 4 (fun q => q)]; exact t4.2⟩, (k1.1 14 (by decide)).trans g, rfl, f35, fun _ _ => rfl, ⟨f34, fun i hi => absurd hi (Nat.not_lt_zero i)⟩, hC.ks k1 (by decide) (fun q => q), fun w hw => (by cases hw), ⟨fun _ _ => rfl, fun _ _ _ _ => rfl⟩⟩, tk.kz k1 (fun i q => by omega), hp, by show C.length + 0 + 2 ≤ _; omega, by show 0 + 1 ≤ _; omega⟩
  have x14 : S1.1 15 = S.1 15 := k1.1 15 (by decide)
  have fr : ∀ R, Xfr S1 R → (∀ k, k < 14 ∨ k = 16 ∨ k = 17 ∨ (24 ≤ k ∧ k < 33) ∨ 37 ≤ k → R.1 k = S.1 k) ∧ ∀ j, j ≠ 9 → j ≠ 10 → j ≠ 11 → R.2.2 j = S.2.2 j := fun R f => ⟨fun k q => (f.1 k (by omega)).trans (k1.1 k (by omega)), fun j a b c => (f.2 j a b c).trans (k1.2.2 j fun q => q)⟩
  have oe : OE t p S1 (ExR S t C (pE t ms 6 p)) := by
    refine r_E h7 hc hm1 6 0 rfl p S1 _ [] C _ x1 Low.nil ⟨fun k b q S' hB => ⟨(fr S' hB.2.2).1, (fr S' hB.2.2).2, fun k2 b2 q2 => ?_, fun e q2 q3 => (by rw [q] at q3; cases q3)⟩, fun e q r S' F' V C' hx hcv hv hF hst => ?_⟩
    · rw [q] at q2
      have q2 := Sum.inl.inj q2
      have a1 : k = k2 := congrArg Prod.fst q2
      have a2 : b = b2 := congrArg Prod.snd q2
      subst a1 a2
      exact ⟨hB.1, hB.2.1⟩
    · have hb' := hx.2.2.2
      unfold Bd at hb'
      rw [List.length_append, List.length_reverse] at hb'
      have hq := hx.2.2.1
      have l0 : ([] : List Nat).length = 0 := rfl
      obtain ⟨S3, e3, y3, k3⟩ := hx.1.dr (s := 0) (by decide) Low.nil (by omega) (by omega) (fun v q => ⟨(hv v q).1, Nat.zero_le _⟩)
      have cl : C.length + e.1.length = C'.length + V.length := by rw [← List.length_append, ← List.length_append, hcv]
      rw [hcv] at y3
      obtain ⟨S4, e4, y4, k4⟩ := y3.kz33 (x := 0) (by rw [List.length_append]; omega)
      have tk4 := (hx.2.1.kz k3 (fun i q => by omega)).kz k4 (fun i q => by omega)
      have xf := y4.2.2.2.2.2.2.2.2
      have QR : ExR S t C (pE t ms 6 p) S4 := by
        refine ⟨(fr S4 xf).1, (fr S4 xf).2, fun k2 b2 q2 => (by rw [r] at q2; cases q2), fun e2 q2 q3 => ?_⟩
        rw [r] at q3
        have q3 := Sum.inr.inj q3
        have a1 : e = e2 := congrArg Prod.fst q3
        have a2 : q = q2 := congrArg Prod.snd q3
        subst a1 a2
        exact ⟨tk4, y4.2.1, y4.2.2.1.trans x14, y4.2.2.2.2.2.2.1, by omega⟩
      refine ⟨S4, QR, fun m hm => ?_⟩
      obtain ⟨m, rfl⟩ : ∃ k, m = k + 1 + 1 := ⟨m - 2, by omega⟩
      have e3 : m_drops 0 S' = some S3 := e3
      have e4 : m_puts 0 S3 = some S4 := e4
      have fin : m_expression_34 (m + 1) 0 S' = some S4 := by
        show m_expression_34_b (m_expression_34 m) 0 S' = _
        unfold m_expression_34_b
        rw [if_pos rfl]
        unfold m_expression_330 m_expression_350
        rw [hx.good, Option.bind_some, if_neg (show ¬ (1 : Int32) = 0 by decide), hx.1.2.2.2.1, if_pos (by decide), e3, Option.bind_some, e4, Option.bind_some]
      have opn : m_isOpened S' = some 0 := by
        have := r_isOpened V [] hx.1.2.2.2.2.2.1.2 (by omega) (fun v q => (hv v q).1) (Or.inl rfl) FU (by show _ < 6000; omega)
        unfold m_isOpened
        rw [hx.1.2.2.2.2.2.1.1, List.length_append, List.length_reverse, this, if_pos rfl]
      rw [lp_stop h7 hc hx (by omega) hst, opn, Option.bind_some, if_pos rfl, fin]
      split <;> rfl
  obtain ⟨R, hR, eR⟩ := oe
  refine ⟨R, ?_, hR⟩
  have e := eR FU FU (by show _ < 6000; omega) (by show _ < 6000; omega)
  unfold m_expression
  rw [r_good g, Option.bind_some, if_neg (show ¬ (1 : Int32) = 0 by decide), ← e1, ← e]
  cases m_deeper S1 <;> rfl
