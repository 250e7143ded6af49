/-! plain law: the system's way through rows of operators -/
set_option maxRecDepth 100000
theorem ChI.cg {G : xG} {T : xF} {ch s0 b n nd : Nat} {rs rs' : Nat → Sem} {os os' : Nat → Nat} (h : ChI G T ch s0 b n rs os nd) (h1 : ∀ i, i < n → rs' i = rs i) (h2 : ∀ i, i < n - 1 → os' i = os i) : ChI G T ch s0 b n rs' os' nd := by
  obtain ⟨l, a, sb, ba, cap, bn, fa, lo, hi, ⟨c1, c2, c3, ⟨B, c4, c5⟩, c6, c7, c8, c9⟩, g2, g3, g4⟩ := h
  refine ⟨l, a, sb, ba, cap, bn, fa, lo, hi, ⟨c1, c2, c3, ⟨B, c4, fun k hk => by rw [h2 k hk]; exact c5 k hk⟩, c6, c7, c8, fun k hk => by rw [h2 k hk]; exact c9 k hk⟩, g2, g3, fun k hk => ?_⟩
  rw [h1 k hk]
  exact g4 k hk
/-- what a loop over a row gives, from here on -/
def SL (G : xG) (t : Tpe) (fx : Fx) (rd nm : Nat) (ms : List Nat) (dn ce : Int32) (T : xF) (p s0 nd : Nat) (r : PR) (v : Option Nat ⊕ xE) (T' : xF) : Prop := (∀ x, x < s0 → x ≠ rd → T'.1 x = T.1 x) ∧ T.2.1 ≤ T'.2.1 ∧ match v with
  | .inl v => ∃ e q fo, r = .inr (e, q) ∧ v = some fo ∧ FmOK G T' fo s0 T'.2.1 (sv ms e.2) nd ∧ RdS T' rd t fx nm dn ce q ∧ p ≤ q ∧ q ≤ t.2 ∧ T'.2.1 ≤ T.2.1 + 40 * (q - p) ∧ T'.2.2 ≤ T.2.2 + 3000 * (q - p)
  | .inr ex => ∃ k b, r = .inl (k, b) ∧ Th T' ex rd k b ∧ T'.2.1 ≤ T.2.1 + 40 * (t.2 + 1 - p) ∧ T'.2.2 ≤ T.2.2 + 3000 * (t.2 + 1 - p)
abbrev Loop : Type := Nat → Option Nat → Int32 → Option Nat → xF → Option ((Option Nat ⊕ xE) × xF)
section LO
variable {G : xG} {t : Tpe} {fx : Fx} {tp rd nm : Nat} {iz ms : List Nat} {dn ce : Int32} {x1 : Int32} {nd c1 c2 d1 d2 : Nat}
/-- one turn after an operator -/
def turn (G : xG) (sub : Option Nat → Int32 → xF → Option ((Option Nat ⊕ xE) × xF)) (L : Option Nat → Int32 → Option Nat → xF → Option ((Option Nat ⊕ xE) × xF)) (rd : Nat) (x1 : Int32) (ch : Nat) (o : Nat) (T1 : xF) : Option ((Option Nat ⊕ xE) × xF) :=
  clX (sub (some rd) x1 T1) T1 fun v T40 => if ¬ isO T40 (some ch) 6 = true then none else cl (c_X7_add G (some ch) (Int32.ofNat (sgb o)) v T40) T40 fun _ T43 => L (some rd) x1 (some ch) T43
theorem e_loop {op : Nat → Option Nat} {psub : Nat → PR} {sub : Option Nat → Int32 → xF → Option ((Option Nat ⊕ xE) × xF)} {L : Loop}
    (hop : OpF t op) (hfw : Fwd t psub) (ho : ∀ p o, op p = some o → 4 ≤ o ∧ o ≤ 11) (hc1 : 2 ≤ c1) (hc2 : 0 ≤ c2) (hd1 : d1 ≤ 40) (hd2 : d2 ≤ 3000)
    (hstop : ∀ m T p ch, YS G t fx tp rd nm iz dn ce T p → isO T (some ch) 6 = true → op p = none → L (m + 1) (some rd) x1 (some ch) T = (c_X7_plain T (some ch)).bind fun v => some (.inl v, T))
    (hstep : ∀ m T p ch o Q, YS G t fx tp rd nm iz dn ce T p → op p = some o → (∀ T1, frm (fun x => x = rd) T T1 → YS G t fx tp rd nm iz dn ce T1 (tE t p) → Rn T1 (turn G sub (L m) rd x1 ch o T1) Q) → Rn T (L (m + 1) (some rd) x1 (some ch) T) Q)
    (hsub : ∀ T p, YS G t fx tp rd nm iz dn ce T p → Rn T (sub (some rd) x1 T) (SR G t fx rd nm ms dn ce T p nd c1 c2 d1 d2 (psub p)))
    {Tb : xF} {pb : Nat} (hb : YS G t fx tp rd nm iz dn ce Tb pb) :
    ∀ n m (e : Ex) p T ch k rs os, t.2 < p + n → n < m → RdS T rd t fx nm dn ce p → p ≤ t.2 → Fr rd Tb T → ChI G T ch Tb.2.1 T.2.1 k rs os nd → 0 < k → k ≤ p → (∀ f, chk rs os (k - 1) f = sv ms e.2 f) → Rn T (L m (some rd) x1 (some ch) T) (SL G t fx rd nm ms dn ce T p Tb.2.1 (nd + 1) (pLoop t op psub n e p)) := by
  have hrs := hb.lt
  intro n
  induction n with
  | zero =>
    intro m e p T ch k rs os hn hm _ h
    omega
  | succ n ih =>
    intro m e p T ch k rs os hn hm hR hp hF hC hk hkp hev
    have h := hb.nx hF hR hp
    have hs0 := hF.1
    have h7 := h.cx.2.2.2.2.1
    obtain ⟨m, rfl⟩ : ∃ i, m = i + 1 := ⟨m - 1, by omega⟩
    unfold pLoop
    cases h1 : op p with
    | none =>
      dsimp only
      rw [hstop m T p ch h hC.is h1]
      obtain ⟨fo, e1, f1⟩ := hC.end_ (by omega) hk
      rw [e1, Option.bind_some]
      exact Rn.ret ⟨fun _ _ _ => rfl, Nat.le_refl _, e, p, fo, rfl, rfl, f1.ext hev, h.rs, Nat.le_refl _, hp, by omega, by omega⟩
    | some o =>
      dsimp only
      obtain ⟨o1, o2⟩ := ho p o h1
      obtain ⟨f1, f2⟩ := tE_fw hp (hop p o h1)
      refine hstep m T p ch o _ h h1 fun T1 g1 y1 => ?_
      have l1 : T1.2 = T.2 := g1.1
      have hC1 : ChI G T1 ch Tb.2.1 T1.2.1 k rs os nd := by
        rw [l1]
        exact hC.fr (by rw [l1]; exact Nat.le_refl _) fun x x1 x2 => g1.2 x (by omega)
      unfold turn
      refine Rn.clX (hsub T1 (tE t p) y1) (fun v T2 hx2 q => ?_) (fun ex T2 hx2 q => ?_)
      · obtain ⟨q0, e2, q, fo, q1, q2, q3, q4, q5, q6⟩ := q
        subst q2
        have fq := hfw _ _ _ f2 q1
        have y2 := y1.nx q0 q4 fq.2
        have le2 := q0.1
        have l1' : T1.2.1 = T.2.1 := by rw [l1]
        have hC2 : ChI G T2 ch Tb.2.1 T1.2.1 k rs os nd := hC1.fr le2 fun x a b => q0.2 x b (by omega)
        rw [if_neg (not_not_intro hC2.is)]
        have hC2' := hC2.cg (rs' := fun i => if i = k then sv ms e2.2 else rs i) (os' := fun i => if i = k - 1 then o else os i) (fun i q => if_neg (by omega)) (fun i q => if_neg (by omega))
        refine Rn.cl (e_cadd hC2' (by omega) hk q3 (Nat.le_refl _) (if_pos rfl) (if_pos rfl) ⟨o1, o2⟩) fun _ T3 hx3 ⟨r1, r2, r3, r4, r5⟩ => ?_
        have rd3 : T3.1 rd = T2.1 rd := r2 rd hrs (by omega)
        have R3 : RdS T3 rd t fx nm dn ce q := q4.fr rd3
        have F3 : Fr rd Tb T3 := ⟨by omega, fun x a b => (r2 x a (by omega)).trans ((q0.2 x (by rw [l1]; omega) b).trans ((g1.2 x b).trans (hF.2 x a b)))⟩
        rw [l1] at q5 q6
        have := ih m (xbin o e e2) q T3 ch (k + 1) _ _ (by omega) (by omega) R3 fq.2 F3 r1 (by omega) (by omega) (fun f => ?_)
        · refine this.mono fun v' T' _ ⟨z1, z2, z3⟩ => ⟨fun x a b => (z1 x a b).trans ((F3.2 x a b).trans (hF.2 x a b).symm), by omega, ?_⟩
          cases v' with
          | inl v' =>
            obtain ⟨e', q', fo', w1, w2, w3, w4, w5, w6, w7, w8⟩ := z3
            exact ⟨e', q', fo', by simp -implicitDefEqProofs only [q1]; exact w1, w2, w3, w4, by omega, w6, by omega, by omega⟩
          | inr ex =>
            obtain ⟨k', b', w1, w2, w3, w4⟩ := z3
            exact ⟨k', b', by simp -implicitDefEqProofs only [q1]; exact w1, w2, by omega, by omega⟩
        · obtain ⟨k', rfl⟩ : ∃ i, k = i + 1 := ⟨k - 1, by omega⟩
          show wk ((fun i => if i = k' + 1 - 1 then o else os i) k') (chk (fun i => if i = k' + 1 then sv ms e2.2 else rs i) (fun i => if i = k' + 1 - 1 then o else os i) k' f) ((fun i => if i = k' + 1 then sv ms e2.2 else rs i) (k' + 1) f) = wk o (sv ms e.2 f) (sv ms e2.2 f)
          rw [chk_cg (rs' := rs) (os' := os) k' (fun i q => if_neg (by omega)) (fun i q => if_neg (by omega))]
          dsimp only
          rw [if_pos (by omega), if_pos rfl]
          have := hev f
          rw [show k' + 1 - 1 = k' by omega] at this
          rw [this]
      · obtain ⟨q0, k', b, q1, q2, q3, q4⟩ := q
        rw [l1] at q3 q4
        refine ⟨fun x a b => (q0.2 x (by rw [l1]; omega) b).trans (g1.2 x b), by have := q0.1; rw [l1] at this; exact this, k', b, by simp -implicitDefEqProofs only [q1], q2, by omega, by omega⟩
end LO
section LO
variable {G : xG} {t : Tpe} {fx : Fx} {tp rd nm : Nat} {iz ms : List Nat} {dn ce : Int32} {x1 : Int32} {nd c1 c2 d1 d2 : Nat}
/-- a row from its first -/
theorem e_chS {op : Nat → Option Nat} {psub : Nat → PR} {sub : Option Nat → Int32 → xF → Option ((Option Nat ⊕ xE) × xF)} {L : Loop}
    (hop : OpF t op) (hfw : Fwd t psub) (ho : ∀ p o, op p = some o → 4 ≤ o ∧ o ≤ 11) (hc1 : 5 ≤ c1) (hc2 : 42 ≤ c2) (hd1 : d1 ≤ 40) (hd2 : d2 ≤ 3000)
    (hstop : ∀ m T p ch, YS G t fx tp rd nm iz dn ce T p → isO T (some ch) 6 = true → op p = none → L (m + 1) (some rd) x1 (some ch) T = (c_X7_plain T (some ch)).bind fun v => some (.inl v, T))
    (hstep : ∀ m T p ch o Q, YS G t fx tp rd nm iz dn ce T p → op p = some o → (∀ T1, frm (fun x => x = rd) T T1 → YS G t fx tp rd nm iz dn ce T1 (tE t p) → Rn T1 (turn G sub (L m) rd x1 ch o T1) Q) → Rn T (L (m + 1) (some rd) x1 (some ch) T) Q)
    (hsub : ∀ T p, YS G t fx tp rd nm iz dn ce T p → Rn T (sub (some rd) x1 T) (SR G t fx rd nm ms dn ce T p nd c1 c2 d1 d2 (psub p)))
    {T : xF} {p : Nat} (h : YS G t fx tp rd nm iz dn ce T p) : Rn T (al (nO T 6 2 [.null, .null]) fun T0 => if ¬ isO T0 (some rd) 4 = true then none else clX (sub (some rd) x1 T0) T0 fun v6 T6 => cl (c_X7_init G (some T.2.1) v6 T6) T6 fun _ T9 => L FU (some rd) x1 (some T.2.1) T9) (SR G t fx rd nm ms dn ce T p (nd + 1) (c1 - 5) (c2 - 42) (d1 + 1) (d2 + 2) (pCh t op psub p)) := by
  have hp := h.pl
  have hrd := h.lt
  have h7 := h.cx.2.2.2.2.1
  refine Rn.al ⟨Nat.le_succ _, Nat.le_add_right _ _⟩ ?_
  obtain ⟨T0, e0⟩ : ∃ T0, T0 = nO T 6 2 [.null, .null] := ⟨_, rfl⟩
  rw [← e0]
  have fr0 : frc (fun _ => False) T T0 := by rw [e0]; exact frA
  have y0 := h.fr fr0
  have l0 : T0.2.1 = T.2.1 + 1 := by rw [e0]; rfl
  have m0 : T0.2.2 = T.2.2 + 2 := by rw [e0]; rfl
  have o0 : T0.1 T.2.1 = some (true, .inr (6, [.null, .null])) := by rw [e0]; exact xset_eq
  rw [if_neg (not_not_intro y0.is)]
  unfold pCh
  refine Rn.clX (hsub T0 p y0) (fun v T6 _ q => ?_) (fun ex T6 _ q => ?_)
  · obtain ⟨q0, e, q, fo, q1, q2, q3, q4, q5, q6⟩ := q
    subst q2
    have fq := hfw _ _ _ hp q1
    have y6 := y0.nx q0 q4 fq.2
    have le6 := q0.1
    refine Rn.cl (e_cinit (rs := fun _ => sv ms e.2) (os := fun _ => 4) ((q0.2 _ (by omega) (by omega)).trans o0) (Nat.le_refl _) y6.2.1 q3 (by omega) rfl) fun _ T9 _ ⟨r1, r2, r3, r4, r5⟩ => ?_
    have rd9 : T9.1 rd = T6.1 rd := r2 rd (by omega) (by omega)
    have R9 := q4.fr rd9
    have F9 : Fr rd T T9 := ⟨by omega, fun x a b => (r2 x (by omega) (by omega)).trans ((q0.2 x (by omega) b).trans (fr0.2 x a fun z => z))⟩
    refine (e_loop hop hfw ho (by omega) (Nat.zero_le _) hd1 hd2 hstop hstep hsub h 701 FU e q T9 T.2.1 1 _ _ (by omega) (by decide) R9 fq.2 F9 r1 (by decide) (by omega) (fun f => rfl)).mono fun v' T' _ ⟨z1, z2, z3⟩ => ⟨⟨by omega, fun x a b => (z1 x a b).trans (F9.2 x a b)⟩, ?_⟩
    cases v' with
    | inl v' =>
      obtain ⟨e', q', fo', w1, w2, w3, w4, w5, w6, w7, w8⟩ := z3
      exact ⟨e', q', fo', by simp -implicitDefEqProofs only [q1]; exact w1, w2, w3, w4, by omega, by omega⟩
    | inr ex =>
      obtain ⟨k', b', w1, w2, w3, w4⟩ := z3
      exact ⟨k', b', by simp -implicitDefEqProofs only [q1]; exact w1, w2, by omega, by omega⟩
  · obtain ⟨q0, k', b, q1, q2, q3, q4⟩ := q
    exact ⟨⟨by have := q0.1; omega, fun x a b => (q0.2 x (by omega) b).trans (fr0.2 x a fun z => z)⟩, k', b, by simp -implicitDefEqProofs only [q1], q2, by omega, by omega⟩
/-- a sign -/
theorem e_sign {T : xF} {p : Nat} (h : YS G t fx tp rd nm iz dn ce T p) {c : Nat} (hs : sgi t p c) (hc : c < 128) : Rn T (c_X5_sign G (some rd) T) fun v T' => v = Int32.ofNat c ∧ frm (fun x => x = rd) T T' ∧ YS G t fx tp rd nm iz dn ce T' (tE t p) := by
  obtain ⟨nu, r, -⟩ := h.rs
  have h7 := h.cx.2.2.2.2.1
  have hcc := h.cx.2.2.2.2.2
  have bl := tS_lt (t := t) (p := p) (sgn_0 hs)
  obtain ⟨b, b1, b2, b3, b4⟩ := e_tape h7 hcc h.cx.1 bl
  have eb : b = Int32.ofNat c := by rw [b3 (by rw [hs.2]; exact hc), hs.2]
  have nc : ∀ c, c < 128 → (((Int32.ofNat c).toUInt32 % 65536).toInt32) = Int32.ofNat c ∧ vp_nar .char (Int32.ofNat c) = Int32.ofNat c := by decide +kernel
  obtain ⟨n1, n2⟩ := nc c hc
  unfold c_X5_sign
  rw [r.q14, Option.bind_some, h.cx.1.1, Option.bind_some, r.i9, Option.bind_some, b1, Option.bind_some, if_neg (not_not_intro h.is), eb, n1]
  refine Rn.cl h.nxt fun _ T1 _ ⟨f1, y1⟩ => ?_
  rw [if_neg (not_not_intro n2)]
  exact Rn.ret ⟨rfl, f1, y1⟩
theorem e_passes {T : xF} {p : Nat} (h : YS G t fx tp rd nm iz dn ce T p) {i j : Nat} (hi : i < 19) (hj : j < 18) (e : swl.getD i [] = kws.getD j []) : Rn T (c_X5_passes G (some rd) (some (gT G i)) T) fun v T' => (kw t p = j ∧ v = 1 ∧ frm (fun x => x = rd) T T' ∧ YS G t fx tp rd nm iz dn ce T' (tE t p)) ∨ (¬ kw t p = j ∧ v = 0 ∧ T' = T) := by
  unfold c_X5_passes
  rw [if_neg (not_not_intro h.is), e_isk h.cx h.rs h.pl hi hj e, Option.bind_some]
  by_cases q : kw t p = j
  · rw [if_pos q, if_neg (show ¬ (1 : Int32) = 0 by decide), if_neg (not_not_intro h.is)]
    refine Rn.cl h.nxt fun _ T1 _ ⟨f1, y1⟩ => ?_
    rw [if_neg (by rw [zok1]; simp)]
    exact Rn.ret (Or.inl ⟨q, rfl, f1, y1⟩)
  · rw [if_neg q, if_pos rfl, if_neg (by rw [zok0]; simp)]
    exact Rn.ret (Or.inr ⟨q, rfl, rfl⟩)
variable {kE : Option Nat → Int32 → xF → Option ((Option Nat ⊕ xE) × xF)} {pk : Nat → PR}
theorem e_prod (hW : NmW iz ms) (hpk : Fwd t pk) (hnd : 1 ≤ nd) (hE : ∀ T p, YS G t fx tp rd nm iz dn ce T p → Rn T (kE (some rd) (x1 + 1) T) (SR G t fx rd nm ms dn ce T p nd 5 750 6 17 (pk p))) {T : xF} {p : Nat} (h : YS G t fx tp rd nm iz dn ce T p) : Rn T (c_X5_product G kE (some rd) x1 T) (SR G t fx rd nm ms dn ce T p (nd + 1) 25 958 2 9 (pProd t ms pk p)) := by
  refine e_chS (op := opM t) (psub := pPart t ms pk) (sub := c_X5_part G kE) (L := c_X5_product_13 G kE) (c1 := 30) (c2 := 1000) (d1 := 1) (d2 := 7) opM_f (pPart_fw hpk) (fun p o q => by rcases opM_i q with ⟨_, rfl⟩ | ⟨_, rfl⟩ <;> omega) (by decide) (by decide) (by decide) (by decide) ?_ ?_ (fun T p y => e_part hW hpk hnd hE y) h
  · intro m T p ch y hc hn
    obtain ⟨n1, n2⟩ := opM_n hn
    have s42 : c_X5_isSign T (some rd) 42 = some (if sgi t p 42 then 1 else 0) := y.sg (c := 42) (by decide)
    have s47 : c_X5_isSign T (some rd) 47 = some (if sgi t p 47 then 1 else 0) := y.sg (c := 47) (by decide)
    show c_X5_product_13_b G kE (c_X5_product_13 G kE m) (some rd) x1 (some ch) T = _
    unfold c_X5_product_13_b
    rw [if_neg (not_not_intro y.is), s42, if_neg n1, Option.bind_some, if_pos rfl, if_neg (not_not_intro y.is), s47, if_neg n2, Option.bind_some, if_pos rfl, if_neg (not_not_intro hc)]
  · intro m T p ch o Q y ho K
    have s42 : c_X5_isSign T (some rd) 42 = some (if sgi t p 42 then 1 else 0) := y.sg (c := 42) (by decide)
    have s47 : c_X5_isSign T (some rd) 47 = some (if sgi t p 47 then 1 else 0) := y.sg (c := 47) (by decide)
    show Rn T (c_X5_product_13_b G kE (c_X5_product_13 G kE m) (some rd) x1 (some ch) T) Q
    unfold c_X5_product_13_b
    have go : ∀ c, sgi t p c → c < 128 → c = sgb o → Rn T (c_X5_product_31 G kE (c_X5_product_13 G kE m) (some rd) x1 (some ch) T) Q := fun c hs hc hb => by
      unfold c_X5_product_31
      rw [if_neg (not_not_intro y.is)]
      refine Rn.cl (e_sign y hs hc) fun v T1 _ ⟨e1, f1, y1⟩ => ?_
      rw [if_neg (not_not_intro y1.is), e1, hb]
      exact K T1 f1 y1
    rw [if_neg (not_not_intro y.is), s42, Option.bind_some]
    rcases opM_i ho with ⟨q, rfl⟩ | ⟨q, rfl⟩
    · rw [if_pos q, if_neg (show ¬ (1 : Int32) = 0 by decide)]
      exact go 42 q (by decide) rfl
    · rw [if_neg (sgn_ne q (by decide)), if_pos rfl, if_neg (not_not_intro y.is), s47, if_pos q, Option.bind_some, if_neg (show ¬ (1 : Int32) = 0 by decide)]
      exact go 47 q (by decide) rfl
theorem e_sum (hW : NmW iz ms) (hpk : Fwd t pk) (hnd : 1 ≤ nd) (hE : ∀ T p, YS G t fx tp rd nm iz dn ce T p → Rn T (kE (some rd) (x1 + 1) T) (SR G t fx rd nm ms dn ce T p nd 5 750 6 17 (pk p))) {T : xF} {p : Nat} (h : YS G t fx tp rd nm iz dn ce T p) : Rn T (c_X5_sum G kE (some rd) x1 T) (SR G t fx rd nm ms dn ce T p (nd + 2) 20 916 3 11 (pSum t ms pk p)) := by
  refine e_chS (op := opS t) (psub := pProd t ms pk) (sub := c_X5_product G kE) (L := c_X5_sum_13 G kE) (c1 := 25) (c2 := 958) (d1 := 2) (d2 := 9) opS_f (pProd_fw hpk) (fun p o q => by rcases opS_i q with ⟨_, rfl⟩ | ⟨_, rfl⟩ <;> omega) (by decide) (by decide) (by decide) (by decide) ?_ ?_ (fun T p y => e_prod hW hpk hnd hE y) h
  · intro m T p ch y hc hn
    obtain ⟨n1, n2⟩ := opS_n hn
    have s42 : c_X5_isSign T (some rd) 43 = some (if sgi t p 43 then 1 else 0) := y.sg (c := 43) (by decide)
    have s47 : c_X5_isSign T (some rd) 45 = some (if sgi t p 45 then 1 else 0) := y.sg (c := 45) (by decide)
    show c_X5_sum_13_b G kE (c_X5_sum_13 G kE m) (some rd) x1 (some ch) T = _
    unfold c_X5_sum_13_b
    rw [if_neg (not_not_intro y.is), s42, if_neg n1, Option.bind_some, if_pos rfl, if_neg (not_not_intro y.is), s47, if_neg n2, Option.bind_some, if_pos rfl, if_neg (not_not_intro hc)]
  · intro m T p ch o Q y ho K
    have s42 : c_X5_isSign T (some rd) 43 = some (if sgi t p 43 then 1 else 0) := y.sg (c := 43) (by decide)
    have s47 : c_X5_isSign T (some rd) 45 = some (if sgi t p 45 then 1 else 0) := y.sg (c := 45) (by decide)
    show Rn T (c_X5_sum_13_b G kE (c_X5_sum_13 G kE m) (some rd) x1 (some ch) T) Q
    unfold c_X5_sum_13_b
    have go : ∀ c, sgi t p c → c < 128 → c = sgb o → Rn T (c_X5_sum_31 G kE (c_X5_sum_13 G kE m) (some rd) x1 (some ch) T) Q := fun c hs hc hb => by
      unfold c_X5_sum_31
      rw [if_neg (not_not_intro y.is)]
      refine Rn.cl (e_sign y hs hc) fun v T1 _ ⟨e1, f1, y1⟩ => ?_
      rw [if_neg (not_not_intro y1.is), e1, hb]
      exact K T1 f1 y1
    rw [if_neg (not_not_intro y.is), s42, Option.bind_some]
    rcases opS_i ho with ⟨q, rfl⟩ | ⟨q, rfl⟩
    · rw [if_pos q, if_neg (show ¬ (1 : Int32) = 0 by decide)]
      exact go 43 q (by decide) rfl
    · rw [if_neg (sgn_ne q (by decide)), if_pos rfl, if_neg (not_not_intro y.is), s47, if_pos q, Option.bind_some, if_neg (show ¬ (1 : Int32) = 0 by decide)]
      exact go 45 q (by decide) rfl
end LO
