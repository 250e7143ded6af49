/-! plain law: the system's way through a comparison, a denial, a whole expression -/
set_option maxRecDepth 100000
def nots : Nat → Ex → Ex
  | 0, e => e
  | j + 1, e => xnot (nots j e)
theorem nots_s (j : Nat) (e : Ex) : nots j (xnot e) = nots (j + 1) e := by
  induction j with
  | zero => rfl
  | succ j ih =>
    show xnot (nots j (xnot e)) = xnot (nots (j + 1) e)
    rw [ih]
def SN (G : xG) (t : Tpe) (fx : Fx) (rd nm : Nat) (ms : List Nat) (dn ce : Int32) (T : xF) (p nd c1 c2 d1 d2 j : Nat) (r : PR) (v : Option Nat ⊕ xE) (T' : xF) : Prop := Fr rd T T' ∧ match v with
  | .inl v => ∃ e q fo, r = .inr (e, q) ∧ v = some fo ∧ FmOK G T' fo T.2.1 T'.2.1 (sv ms (nots j e).2) nd ∧ RdS T' rd t fx nm dn ce q ∧ T'.2.1 + c1 ≤ T.2.1 + 40 * (q - p) + j ∧ T'.2.2 + c2 ≤ T.2.2 + 3000 * (q - p) + j
  | .inr ex => ∃ k b, r = .inl (k, b) ∧ Th T' ex rd k b ∧ T'.2.1 ≤ T.2.1 + 40 * (t.2 + 1 - p) + d1 ∧ T'.2.2 ≤ T.2.2 + 3000 * (t.2 + 1 - p) + d2
section NO
variable {G : xG} {t : Tpe} {fx : Fx} {tp rd nm : Nat} {iz ms : List Nat} {dn ce : Int32} {x1 : Int32} {nd : Nat} {kE : Option Nat → Int32 → xF → Option ((Option Nat ⊕ xE) × xF)} {pk : Nat → PR}
theorem e_94 (j : Nat) (hj : j ≤ 6) : ∀ i T fo s0 e n m, i ≤ j → i < m → FmOK G T fo s0 T.2.1 (sv ms (nots (j - i) e).2) (n + (j - i)) → Rn T (c_X5_not_94 G kE m (Int32.ofNat j) (some fo) (Int32.ofNat (j - i)) T) fun v T' => ∃ fo', v = .inl (some fo') ∧ FmOK G T' fo' s0 T'.2.1 (sv ms (nots j e).2) (n + j) ∧ (∀ x, x < T.2.1 → T'.1 x = T.1 x) ∧ T'.2.1 = T.2.1 + i ∧ T'.2.2 = T.2.2 + i := by
  intro i
  induction i with
  | zero =>
    intro T fo s0 e n m hi hm hf
    obtain ⟨m, rfl⟩ : ∃ k, m = k + 1 := ⟨m - 1, by omega⟩
    show Rn T (c_X5_not_94_b G kE (c_X5_not_94 G kE m) (Int32.ofNat j) (some fo) (Int32.ofNat (j - 0)) T) _
    unfold c_X5_not_94_b
    rw [Nat.sub_zero] at hf ⊢
    rw [if_pos (Int32.le_refl _)]
    exact Rn.ret ⟨fo, rfl, hf, fun _ _ => rfl, rfl, rfl⟩
  | succ i ih =>
    intro T fo s0 e n m hi hm hf
    obtain ⟨m, rfl⟩ : ∃ k, m = k + 1 := ⟨m - 1, by omega⟩
    show Rn T (c_X5_not_94_b G kE (c_X5_not_94 G kE m) (Int32.ofNat j) (some fo) (Int32.ofNat (j - (i + 1))) T) _
    unfold c_X5_not_94_b
    rw [if_neg (fun q => by have := (ole (by omega) (by omega)).mp q; omega)]
    refine Rn.al ⟨Nat.le_succ _, Nat.le_add_right _ _⟩ ?_
    obtain ⟨T8, e8⟩ : ∃ T8, T8 = nO T 9 1 [.null] := ⟨_, rfl⟩
    rw [← e8]
    have l8 : T8.2.1 = T.2.1 + 1 := by rw [e8]; rfl
    have m8 : T8.2.2 = T.2.2 + 1 := by rw [e8]; rfl
    have n8 : ∀ x, x ≠ T.2.1 → T8.1 x = T.1 x := fun x q => by rw [e8]; exact xset_no q
    have o8 : T8.1 T.2.1 = some (true, .inr (9, [.null])) := by rw [e8]; exact xset_eq
    obtain ⟨T20, e20, c20, f20, o20⟩ := pv_any (ci := 9) (k := 0) (v := va_rf (some fo)) o8
    refine Rn.cl (P := fun _ T' => T' = T20) ?_ fun _ T' _ q => ?_
    · unfold c_X10_init
      rw [if_neg (show ¬ ¬ (some T.2.1).isSome = true from fun q => q rfl)]
      exact Rn.st e20 ⟨by rw [c20]; exact Nat.le_refl _, by rw [c20]; exact Nat.le_refl _⟩ (Rn.ret rfl)
    · subst q
      have lT : T'.2.1 = T.2.1 + 1 := by rw [c20]; exact l8
      have mT : T'.2.2 = T.2.2 + 1 := by rw [c20]; exact m8
      have nT : ∀ x, x < T.2.1 → T'.1 x = T.1 x := fun x q => (f20 x (by omega)).trans (n8 x (by omega))
      have hf' : FmOK G T' fo s0 T.2.1 (sv ms (nots (j - (i + 1)) e).2) (n + (j - (i + 1))) := hf.mv (by omega) fun x _ x2 => nT x x2
      have h2 := fm_not (G := G) o20 (by omega) hf' (Nat.le_refl _)
      rw [ofn1 _ (by omega), show j - (i + 1) + 1 = j - i by omega]
      rw [← lT] at h2
      refine (ih T' T.2.1 s0 e n m (by omega) (by omega) ?_).mono fun v T2 _ ⟨fo', z1, z2, z3, z4, z5⟩ => ⟨fo', z1, z2, fun x q => (z3 x (by omega)).trans (nT x q), by omega, by omega⟩
      have e3 : j - i = j - (i + 1) + 1 := by omega
      rw [e3]
      exact h2.up (Nat.le_refl _) (Nat.le_refl _) (Nat.le_refl _) (by omega)
/-- the end of a comparison: the denials before it -/
theorem e_85 {T : xF} {ch s0 b k j : Nat} {rs : Nat → Sem} {os : Nat → Nat} {e : Ex} (hC : ChI G T ch s0 b k rs os nd) (hk : 0 < k) (hk7 : k ≤ 700) (hj : j ≤ 6) (hev : ∀ f, chk rs os (k - 1) f = sv ms e.2 f) : Rn T (c_X5_not_85 G kE (Int32.ofNat j) (some ch) T) fun v T' => ∃ fo', v = .inl (some fo') ∧ FmOK G T' fo' s0 T'.2.1 (sv ms (nots j e).2) (nd + 1 + j) ∧ (∀ x, x < T.2.1 → T'.1 x = T.1 x) ∧ T'.2.1 = T.2.1 + j ∧ T'.2.2 = T.2.2 + j := by
  obtain ⟨fo, e1, f1⟩ := hC.end_ hk7 hk
  unfold c_X5_not_85
  rw [if_neg (not_not_intro hC.is), e1, Option.bind_some]
  have := e_94 (G := G) (kE := kE) (ms := ms) j hj j T fo s0 e (nd + 1) FU (Nat.le_refl _) (by show _ < 6000; omega) (by rw [Nat.sub_self]; exact f1.ext hev)
  rw [Nat.sub_self] at this
  exact this
theorem e_not (hW : NmW iz ms) (hpk : Fwd t pk) (hnd : 1 ≤ nd) (hE : ∀ T p, YS G t fx tp rd nm iz dn ce T p → Rn T (kE (some rd) (x1 + 1) T) (SR G t fx rd nm ms dn ce T p nd 5 750 6 17 (pk p))) : ∀ r j m T p, r + j = 6 → r < m → YS G t fx tp rd nm iz dn ce T p → Rn T (c_X5_not_2 G kE m (some rd) x1 (Int32.ofNat j) T) (SN G t fx rd nm ms dn ce T p (nd + 9) 15 874 4 13 j (pNot t ms pk r p)) := by
  have k14 : ∀ T p, YS G t fx tp rd nm iz dn ce T p → c_X5_is G T (some rd) (some (gT G 14)) = some (if kw t p = 17 then 1 else 0) := fun T p y => e_isk y.cx y.rs y.pl (i := 14) (j := 17) (by decide) (by decide) rfl
  -- no more denials
  have base : ∀ j m T p, j ≤ 6 → ¬ kw t p = 17 → YS G t fx tp rd nm iz dn ce T p → Rn T (c_X5_not_2 G kE (m + 1) (some rd) x1 (Int32.ofNat j) T) (SN G t fx rd nm ms dn ce T p (nd + 9) 15 874 4 13 j (pCmp t ms pk p)) := by
    intro j m T p hj hk h
    have hp := h.pl
    have hrd := h.lt
    have h7 := h.cx.2.2.2.2.1
    show Rn T (c_X5_not_2_b G kE (c_X5_not_2 G kE m) (some rd) x1 (Int32.ofNat j) T) _
    unfold c_X5_not_2_b
    rw [if_neg (not_not_intro h.is), k14 T p h, if_neg hk, Option.bind_some, if_pos rfl]
    refine Rn.al ⟨Nat.le_succ _, Nat.le_add_right _ _⟩ ?_
    obtain ⟨T0, e0⟩ : ∃ T0, T0 = nO T 6 2 [.null, .null] := ⟨_, rfl⟩
    rw [← e0]
    have fr0 : frc (fun _ => False) T T0 := by rw [e0]; exact frA
    have y0 := h.fr fr0
    have l0 : T0.2.1 = T.2.1 + 1 := by rw [e0]; rfl
    have m0 : T0.2.2 = T.2.2 + 2 := by rw [e0]; rfl
    have o0 : T0.1 T.2.1 = some (true, .inr (6, [.null, .null])) := by rw [e0]; exact xset_eq
    rw [if_neg (not_not_intro y0.is)]
    unfold pCmp
    refine Rn.clX (e_sum hW hpk hnd hE y0) (fun v T6 _ q => ?_) (fun ex T6 _ q => ?_)
    · obtain ⟨q0, e, q, fo, q1, q2, q3, q4, q5, q6⟩ := q
      subst q2
      have fq := pSum_fw hpk _ _ _ hp q1
      have y6 := y0.nx q0 q4 fq.2
      have le6 := q0.1
      refine Rn.cl (e_cinit (rs := fun _ => sv ms e.2) (os := fun _ => 4) ((q0.2 _ (by omega) (by omega)).trans o0) (Nat.le_refl _) y6.2.1 q3 (by omega) rfl) fun _ T9 _ ⟨r1, r2, r3, r4, r5⟩ => ?_
      have rd9 : T9.1 rd = T6.1 rd := r2 rd (by omega) (by omega)
      have F9 : Fr rd T T9 := ⟨by omega, fun x a b => (r2 x (by omega) (by omega)).trans ((q0.2 x (by omega) b).trans (fr0.2 x a fun z => z))⟩
      have y9 := h.nx F9 (q4.fr rd9) fq.2
      have s60 : c_X5_isSign T9 (some rd) 60 = some (if sgi t q 60 then 1 else 0) := y9.sg (c := 60) (by decide)
      have s61 : c_X5_isSign T9 (some rd) 61 = some (if sgi t q 61 then 1 else 0) := y9.sg (c := 61) (by decide)
      have cmp : ∀ c o, sgi t q c → c < 128 → c = sgb o → 4 ≤ o ∧ o ≤ 11 → opC t q = some o → Rn T9 (c_X5_not_68 G kE (some rd) x1 (Int32.ofNat j) (some T.2.1) T9) (SN G t fx rd nm ms dn ce T p (nd + 9) 15 874 4 13 j (match opC t q with
          | none => .inr (e, q)
          | some o => (match pSum t ms pk (tE t q) with
            | .inl z => .inl z
            | .inr (e2, q2) => .inr (xbin o e e2, q2)))) := by
        intro c o hs hc hb ho hop
        obtain ⟨g1, g2⟩ := tE_fw y9.pl (sgn_0 hs)
        rw [hop]
        dsimp only
        unfold c_X5_not_68
        rw [if_neg (not_not_intro y9.is)]
        refine Rn.cl (e_sign y9 hs hc) fun v T1 _ ⟨e1, f1, y1⟩ => ?_
        have l1 : T1.2.1 = T9.2.1 := by rw [f1.1]
        have m1 : T1.2.2 = T9.2.2 := by rw [f1.1]
        rw [if_neg (not_not_intro y1.is)]
        have F1 : Fr rd T T1 := Fr.tr F9 f1.c
        have hC1 : ChI G T1 T.2.1 T.2.1 T9.2.1 1 (fun _ => sv ms e.2) (fun _ => 4) (nd + 2) := r1.fr (by omega) fun x x1 x2 => f1.2 x (by omega)
        refine Rn.clX (e_sum hW hpk hnd hE y1) (fun v T2 _ z => ?_) (fun ex T2 _ z => ?_)
        · obtain ⟨z0, e2, q2, fo2, z1, z2, z3, z4, z5, z6⟩ := z
          subst z2
          have fq2 := pSum_fw hpk _ _ _ g2 z1
          have le2 := z0.1
          have hC2 : ChI G T2 T.2.1 T.2.1 T9.2.1 1 (fun _ => sv ms e.2) (fun _ => 4) (nd + 2) := hC1.fr le2 fun x x1 x2 => z0.2 x x2 (by omega)
          have hC2' := hC2.cg (rs' := fun i => if i = 1 then sv ms e2.2 else sv ms e.2) (os' := fun _ => o) (fun i q => if_neg (by omega)) (fun i q => by omega)
          rw [if_neg (not_not_intro hC2.is), e1, hb]
          refine Rn.cl (e_cadd hC2' (by omega) (by omega) z3 (by omega) (if_pos rfl) rfl ho) fun _ T3 _ ⟨w1, w2, w3, w4, w5⟩ => ?_
          have rd3 : T3.1 rd = T2.1 rd := w2 rd hrd (by omega)
          refine (e_85 (e := xbin o e e2) w1 (by decide) (by decide) hj (fun f => rfl)).mono fun v' T' _ ⟨fo', v1, v2, v3, v4, v5⟩ => ?_
          subst v1
          refine ⟨⟨by omega, fun x a b => (v3 x (by omega)).trans ((w2 x a (by omega)).trans ((z0.2 x (by omega) b).trans (F1.2 x a b)))⟩, xbin o e e2, q2, fo', by simp -implicitDefEqProofs only [z1], rfl, v2.up (Nat.le_refl _) (Nat.le_refl _) (Nat.le_refl _) (by omega), z4.fr ((v3 rd (by omega)).trans rd3), by omega, by omega⟩
        · obtain ⟨z0, k', b, z1, z2, z3, z4⟩ := z
          have := y9.pl
          exact ⟨F1.tr z0, k', b, by simp -implicitDefEqProofs only [z1], z2, by omega, by omega⟩
      simp -implicitDefEqProofs only [q1]
      rw [if_neg (not_not_intro y9.is), s60, Option.bind_some]
      by_cases c60 : sgi t q 60
      · rw [if_pos c60, if_neg (show ¬ (1 : Int32) = 0 by decide)]
        exact cmp 60 6 c60 (by decide) rfl (by decide) (by unfold opC; rw [if_pos c60])
      · rw [if_neg c60, if_pos rfl, if_neg (not_not_intro y9.is), s61, Option.bind_some]
        by_cases c61 : sgi t q 61
        · rw [if_pos c61, if_neg (show ¬ (1 : Int32) = 0 by decide)]
          exact cmp 61 7 c61 (by decide) rfl (by decide) (by unfold opC; rw [if_neg c60, if_pos c61])
        · rw [if_neg c61, if_pos rfl]
          have hop : opC t q = none := by unfold opC; rw [if_neg c60, if_neg c61]
          rw [hop]
          refine (e_85 (e := e) r1 (by decide) (by decide) hj (fun f => rfl)).mono fun v' T' _ ⟨fo', v1, v2, v3, v4, v5⟩ => ?_
          subst v1
          exact ⟨⟨by omega, fun x a b => (v3 x (by omega)).trans (F9.2 x a b)⟩, e, q, fo', rfl, rfl, v2.up (Nat.le_refl _) (Nat.le_refl _) (Nat.le_refl _) (by omega), y9.rs.fr (v3 rd (by omega)), by omega, by omega⟩
    · obtain ⟨q0, k', b, q1, q2, q3, q4⟩ := q
      exact ⟨⟨by have := q0.1; omega, fun x a b => (q0.2 x (by omega) b).trans (fr0.2 x a fun z => z)⟩, k', b, by simp -implicitDefEqProofs only [q1], q2, by omega, by omega⟩
  intro r
  induction r with
  | zero =>
    intro j m T p hr hm h
    obtain ⟨m, rfl⟩ : ∃ k, m = k + 1 := ⟨m - 1, by omega⟩
    unfold pNot
    by_cases hk : kw t p = 17
    · rw [if_pos hk]
      have hp := h.pl
      show Rn T (c_X5_not_2_b G kE (c_X5_not_2 G kE m) (some rd) x1 (Int32.ofNat j) T) _
      unfold c_X5_not_2_b c_X5_not_23
      rw [if_neg (not_not_intro h.is), k14 T p h, if_pos hk, Option.bind_some, if_neg (show ¬ (1 : Int32) = 0 by decide), if_pos (show (6 : Int32) ≤ Int32.ofNat j by rw [show j = 6 by omega]; decide), if_neg (not_not_intro h.is)]
      refine Rn.clX (rn_wantF h (k := 2) (by decide) (by decide)) (fun v T53 _ ⟨ex, q, _⟩ => by cases q) (fun ex T53 _ ⟨ex', z, z1, z2, z3, z4⟩ => ?_)
      have z := Sum.inr.inj z
      subst z
      exact ⟨Fr.of z2, 2, tB t p, rfl, z1, by omega, by omega⟩
    · rw [if_neg hk]
      exact base j m T p (by omega) hk h
  | succ r ih =>
    intro j m T p hr hm h
    obtain ⟨m, rfl⟩ : ∃ k, m = k + 1 := ⟨m - 1, by omega⟩
    unfold pNot
    by_cases hk : kw t p = 17
    · rw [if_pos hk]
      have hp := h.pl
      obtain ⟨g1, g2⟩ := tE_fw hp (kw_0 (by decide) hk)
      show Rn T (c_X5_not_2_b G kE (c_X5_not_2 G kE m) (some rd) x1 (Int32.ofNat j) T) _
      unfold c_X5_not_2_b c_X5_not_23
      rw [if_neg (not_not_intro h.is), k14 T p h, if_pos hk, Option.bind_some, if_neg (show ¬ (1 : Int32) = 0 by decide), if_neg (show ¬ (6 : Int32) ≤ Int32.ofNat j from fun q => by have := (ole (n := 6) (by omega) (by omega)).mp q; omega), if_neg (not_not_intro h.is)]
      refine Rn.clX rn_wantT (fun v T53 _ q => ?_) (fun ex T53 _ q => by cases q.1)
      obtain ⟨-, rfl⟩ := q
      rw [if_neg (not_not_intro h.is)]
      refine Rn.cl h.nxt fun _ T1 _ ⟨f1, y1⟩ => ?_
      have l1 : T1.2 = T53.2 := f1.1
      rw [ofn1 j (by omega)]
      refine (ih (j + 1) m T1 (tE t p) (by omega) (by omega) y1).mono fun v' T' _ ⟨z0, z⟩ => ⟨Fr.tr f1.c z0, ?_⟩
      have z0' := z0.1
      rw [l1] at z
      cases v' with
      | inl v' =>
        obtain ⟨e, q, fo, w1, w2, w3, w4, w5, w6⟩ := z
        have fq := pNot_fw hpk r _ _ _ g2 w1
        exact ⟨xnot e, q, fo, by simp -implicitDefEqProofs only [w1], w2, by rw [nots_s]; exact w3, w4, by omega, by omega⟩
      | inr ex =>
        obtain ⟨k', b, w1, w2, w3, w4⟩ := z
        exact ⟨k', b, by simp -implicitDefEqProofs only [w1], w2, by omega, by omega⟩
    · rw [if_neg hk]
      exact base j m T p (by omega) hk h
theorem e_notS (hW : NmW iz ms) (hpk : Fwd t pk) (hnd : 1 ≤ nd) (hE : ∀ T p, YS G t fx tp rd nm iz dn ce T p → Rn T (kE (some rd) (x1 + 1) T) (SR G t fx rd nm ms dn ce T p nd 5 750 6 17 (pk p))) {T : xF} {p : Nat} (h : YS G t fx tp rd nm iz dn ce T p) : Rn T (c_X5_not G kE (some rd) x1 T) (SR G t fx rd nm ms dn ce T p (nd + 9) 15 874 4 13 (pNot t ms pk 6 p)) := (e_not hW hpk hnd hE 6 0 FU T p rfl (by decide) h).mono fun v T' _ q => q
end NO
