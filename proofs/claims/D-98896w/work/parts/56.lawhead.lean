/-! the law's start: both are made, and the long -/
set_option maxRecDepth 100000
/-- the script alone -/
def gs (sa n : Nat) (f : Nat → Int32) : xH := fun a => if a = sa then some (false, .inl (.int, n, .inl f)) else none
theorem ol_set3 {g h : xH} {a : Nat} {c : Bool × xC} : xset (ol g h) a c = ol g (xset h a c) := by
  funext b
  unfold xset ol
  dsimp only
  by_cases e : b = a
  · rw [if_pos e, if_pos e]
  · rw [if_neg e, if_neg e]
theorem X.dom {G : xG} {Y : xR} {pc : Nat} {L : List (Nat × Value)} {st : List Value} {T : xF} (k : (∀ a, T.1 a ≠ none → a < T.2.1) → Xr G Y pc L st T) : Xr G Y pc L st T := fun p l e s m args below meth c H locs ls hc hd hl => k (fun a ha => by
  obtain ⟨hsz, hrep, -⟩ := hd
  cases e : T.1 a with
  | none => exact absurd e ha
  | some c =>
    have := (hrep a c (ol_some e)).lt
    rw [hsz] at this
    exact this) p l e s m args below meth c H locs ls hc hd hl
theorem cL_110 : xCI RX0 110 mX1_init 0 := ⟨⟨lw_meth q158, rfl, q121, q156, q157, rfl⟩, rfl, ⟨by decide +kernel, by decide +kernel, by decide +kernel⟩, Nat.le_of_ble_eq_true rfl⟩
theorem cL_113 : xCI RX0 113 mX4_init 0 := ⟨⟨lw_meth q1557, rfl, q127, q1555, q1556, rfl⟩, rfl, ⟨by decide +kernel, by decide +kernel, by decide +kernel⟩, Nat.le_of_ble_eq_true rfl⟩
theorem dfX4 : ∀ j, j < 64 → defaultValue (tyX4 j) = vp_V mDf j := by decide
theorem pm_zero {m0 : Nat} {h : xH} {fs : List Value} : xset h m0 (true, .inr (3, fs)) = pm m0 h fs 0 := by
  funext a
  unfold xset pm
  by_cases e : a = m0
  · rw [if_pos e, if_pos e]
  · rw [if_neg e, if_neg e, if_neg (by omega)]
def F1 : List Value := [.null, .null, .null, .null, .null, .null, .int 0, .int 0, .null, .null, .null, .null, .null, .null, .int 0]
theorem law_heap {m0 sa n : Nat} {f : Nat → Int32} {h : xH} {S : MS} (hd : ∀ a, ol (gs sa n f) h a ≠ none → a < m0) (hs : sa < m0) : xset (mh m0 (ol (gs sa n f) h) S) (m0 + 27) (true, .inl (.long, (1, .inr (.inl (fun _ => 0))))) = ol (lc (m0, sa, m0 + 27, n, f) S (fun _ => 0)) h := by
  have hn : ∀ a, m0 ≤ a → h a = none := fun a ha => by
    cases e : h a with
    | none => rfl
    | some c =>
      have := hd a (by rw [ol_some e]; exact fun q => by cases q)
      omega
  funext a
  unfold xset
  by_cases e : a = m0 + 27
  · subst e
    rw [if_pos rfl]
    unfold ol lc
    rw [hn _ (by omega)]
    dsimp only
    rw [if_pos rfl]
  · rw [if_neg e]
    unfold mh
    by_cases r : m0 ≤ a ∧ a < m0 + 27
    · rw [if_pos r]
      unfold ol lc
      rw [hn a r.1]
      dsimp only
      rw [if_neg e, if_neg (by show ¬ a = sa; omega)]
      unfold mh
      rw [if_pos r]
    · rw [if_neg r]
      unfold ol lc gs
      cases h a with
      | some c => rfl
      | none =>
        dsimp only
        rw [if_neg e]
        by_cases q : a = sa
        · rw [if_pos q, if_pos q]
        · rw [if_neg q, if_neg q]
          unfold mh
          rw [if_neg r]
theorem law_head {G : xG} (hg : gR G = fun _ => none) {Y : xR} (hM : Y.1 = mL_law) (hD : 300 ≤ Y.2.1.frames ∧ 64 * 300 ≤ Y.2.1.locals) {sa n : Nat} {f : Nat → Int32} {T T1 : xF} (hsl : sa < T.2.1) (hsa : T1.1 sa = none) (hc : c_X1_init (gW G (gs sa n f)) (some T.2.1) (nO T 0 15 F1) = some ((), T1)) {S : MS} (hq : m_fill 31 0 mS0 = some S) (hle : xle (T1.1, T1.2.1 + 27 + 1, T1.2.2 + 64 + mZ 26 + 1) Y.2.2.2.2)
    (kk : LOK (T1.2.1, sa, T1.2.1 + 27, n, f) → NN (T1.2.1, sa, T1.2.1 + 27, n, f) (T1.1, T1.2.1 + 27 + 1, T1.2.2 + 64 + mZ 26 + 1) → Xr G Y 20 [(3, .ref (T1.2.1 + 27)), (2, .ref T1.2.1), (1, va_rf (some T.2.1)), (0, .ref sa)] [] (LWo (lc (T1.2.1, sa, T1.2.1 + 27, n, f) S (fun _ => 0)) (T1.1, T1.2.1 + 27 + 1, T1.2.2 + 64 + mZ 26 + 1))) : Xr G Y 0 [(0, .ref sa)] [] (LWo (gs sa n f) T) := by
  have hd : xdl (nO T 0 15 F1) T1 := c_X1_init_dm _ _ _ hc
  have r0 : T.2.1 + 1 ≤ T1.2.1 := hd.2.1
  have hx1 : xle T1 Y.2.2.2.2 := xle.tr ⟨by show T1.2.1 ≤ T1.2.1 + 27 + 1; omega, by show T1.2.2 ≤ T1.2.2 + 64 + mZ 26 + 1; omega⟩ hle
  obtain ⟨M9, R9, T09, o9, T19⟩ := Y
  dsimp only at hM hD hle hx1
  subst hM
  refine C.newE (T1 := LWo (gs sa n f) (nO T 0 15 F1)) (fs := F1) (by unfold nO LWo; rw [ol_set3]) dL_law_0 clX1 q154 q155 q121 rfl dfX1 (xle.tr hd.2 hx1) ?_
  refine C.dup dL_law_3 ?_
  refine C.Iv (As := []) (rest := [va_rf (some T.2.1)]) dL_law_4 (Ct.frame hg (w_X1_init hc)) cL_110 rfl rfl rfl (xcs (xvQ xvN) (Nat.le_of_ble_eq_true rfl)) ⟨by dsimp only; omega, by dsimp only; omega⟩ hd.2 hx1 ?_
  refine C.ast_n (L' := [(1, va_rf (some T.2.1)), (0, .ref sa)]) dL_law_7 rfl (Nat.le_of_ble_eq_true rfl) (xcQ (r := some _) xcN) rfl ?_
  refine X.dom fun hdom => ?_
  have hnn : ∀ a, T1.2.1 ≤ a → T1.1 a = none := fun a ha => by
    cases e : T1.1 a with
    | none => rfl
    | some c =>
      have h9 : (LWo (gs sa n f) T1).1 a ≠ none := by
        show ol (gs sa n f) T1.1 a ≠ none
        rw [ol_some e]
        exact fun q => by cases q
      have h8 : a < T1.2.1 := hdom a h9
      omega
  refine C.newE (T1 := (pm T1.2.1 (ol (gs sa n f) T1.1) mDf 0, T1.2.1 + 1, T1.2.2 + 64)) (fs := mDf) (by unfold nO LWo; rw [← pm_zero]) dL_law_8 clX4 q1553 q1554 q127 rfl dfX4 (xle.tr ⟨by show T1.2.1 + 1 ≤ T1.2.1 + 27 + 1; omega, by show T1.2.2 + 64 ≤ T1.2.2 + 64 + mZ 26 + 1; omega⟩ hle) ?_
  refine C.dup dL_law_11 ?_
  refine C.Iv (As := []) (rest := [va_rf (some T1.2.1)]) dL_law_12 (w_init hq (ol (gs sa n f) T1.1) (T1.2.2 + 64)) cL_113 rfl rfl rfl (xcs (xvQ xvN) (Nat.le_of_ble_eq_true rfl)) ⟨by dsimp only; omega, by dsimp only; omega⟩ ⟨by show T1.2.1 + 1 ≤ T1.2.1 + 27; omega, by show T1.2.2 + 64 ≤ T1.2.2 + 64 + mZ 26; omega⟩ (xle.tr ⟨by show T1.2.1 + 27 ≤ T1.2.1 + 27 + 1; omega, by show T1.2.2 + 64 + mZ 26 ≤ T1.2.2 + 64 + mZ 26 + 1; omega⟩ hle) ?_
  refine C.ast_n (L' := [(2, va_rf (some T1.2.1)), (1, va_rf (some T.2.1)), (0, .ref sa)]) dL_law_15 rfl (Nat.le_of_ble_eq_true rfl) (xcQ (xcQ (r := some _) xcN)) rfl ?_
  refine X.iconst (v := 1) dL_law_16 (by decide) ?_
  refine X.newa (h := mh T1.2.1 (ol (gs sa n f) T1.1) S) (N := T1.2.1 + 27) (Z := T1.2.2 + 64 + mZ 26) (n' := 1) (A := (1, .inr (.inl (fun _ => 0)))) dL_law_17 rfl (by decide) rfl q2229 (fun cA => rfl) (by decide) rfl (by decide) hle ?_
  refine C.ast_n (x := some (T1.2.1 + 27)) (L' := [(3, va_rf (some (T1.2.1 + 27))), (2, va_rf (some T1.2.1)), (1, va_rf (some T.2.1)), (0, .ref sa)]) dL_law_19 rfl (Nat.le_of_ble_eq_true rfl) (xcQ (xcQ (xcQ (r := some _) xcN))) rfl ?_
  have e9 := law_heap (m0 := T1.2.1) (sa := sa) (n := n) (f := f) (h := T1.1) (S := S) hdom (by omega)
  have K := kk ⟨by show T1.2.1 + 27 ≠ sa; omega, by show ¬ (T1.2.1 ≤ T1.2.1 + 27 ∧ T1.2.1 + 27 < T1.2.1 + 27); omega, by show ¬ (T1.2.1 ≤ sa ∧ sa < T1.2.1 + 27); omega⟩ ⟨⟨hnn _ (by show T1.2.1 ≤ T1.2.1 + 27; omega), hsa, fun a h1 h2 => hnn a h1⟩, by show T1.2.1 + 27 < T1.2.1 + 27 + 1; omega, by show sa < T1.2.1 + 27 + 1; omega, by show T1.2.1 + 27 ≤ T1.2.1 + 27 + 1; omega⟩
  unfold LWo at K
  dsimp only at K
  rw [← e9] at K
  exact K
