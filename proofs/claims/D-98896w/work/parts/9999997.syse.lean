/-! plain law: the system's way through a whole expression -/
set_option maxRecDepth 100000
section EX
variable {G : xG} {t : Tpe} {fx : Fx} {tp rd nm : Nat} {iz ms : List Nat} {dn ce : Int32} {x1 : Int32} {nd : Nat} {kE : Option Nat → Int32 → xF → Option ((Option Nat ⊕ xE) × xF)} {pk : Nat → PR}
theorem e_and (hW : NmW iz ms) (hpk : Fwd t pk) (hnd : 1 ≤ nd) (hE : ∀ T p, YS G t fx tp rd nm iz dn ce T p → Rn T (kE (some rd) (x1 + 1) T) (SR G t fx rd nm ms dn ce T p nd 5 750 6 17 (pk p))) {T : xF} {p : Nat} (h : YS G t fx tp rd nm iz dn ce T p) : Rn T (c_X5_and G kE (some rd) x1 T) (SR G t fx rd nm ms dn ce T p (nd + 10) 10 832 5 15 (pAnd t ms pk p)) := by
  refine e_chS (op := opA t) (psub := pNot t ms pk 6) (sub := c_X5_not G kE) (L := c_X5_and_13 G kE) (c1 := 15) (c2 := 874) (d1 := 4) (d2 := 13) opA_f (pNot_fw hpk 6) (fun p o q => by rw [(opA_s q).2]; decide) (by decide) (by decide) (by decide) (by decide) ?_ ?_ (fun T p y => e_notS hW hpk hnd hE y) h
  · intro m T p ch y hc hn
    have hk := opA_n hn
    show c_X5_and_13_b G kE (c_X5_and_13 G kE m) (some rd) x1 (some ch) T = _
    have hp : c_X5_passes G (some rd) (some (gT G 15)) T = some (0, T) := by
      unfold c_X5_passes
      rw [if_neg (not_not_intro y.is), e_isk y.cx y.rs y.pl (i := 15) (j := 15) (by decide) (by decide) rfl, Option.bind_some, if_neg hk, if_pos rfl, if_neg (by rw [zok0]; simp)]
    unfold c_X5_and_13_b
    rw [if_neg (not_not_intro y.is), hp]
    show Option.bind (some _) _ = _
    rw [Option.bind_some, if_pos (xlb xlr)]
    show Option.bind (if (0 : Int32) = 0 then _ else _) _ = _
    rw [if_pos rfl, if_neg (not_not_intro hc)]
    cases c_X7_plain T (some ch) with
    | none => rfl
    | some v =>
      show Option.bind (some _) _ = _
      rw [Option.bind_some, if_pos (xlb xlr)]
      rfl
  · intro m T p ch o Q y ho K
    obtain ⟨hk, rfl⟩ := opA_s ho
    show Rn T (c_X5_and_13_b G kE (c_X5_and_13 G kE m) (some rd) x1 (some ch) T) Q
    unfold c_X5_and_13_b
    rw [if_neg (not_not_intro y.is)]
    refine Rn.cl (e_passes y (i := 15) (j := 15) (by decide) (by decide) rfl) fun v T1 _ z => ?_
    rcases z with ⟨z1, z2, z3, z4⟩ | ⟨z1, z2, z3⟩
    · subst z2
      rw [if_neg (show ¬ (1 : Int32) = 0 by decide), if_neg (not_not_intro z4.is)]
      exact K T1 z3 z4
    · exact absurd hk z1
theorem e_or (hW : NmW iz ms) (hpk : Fwd t pk) (hnd : 1 ≤ nd) (hE : ∀ T p, YS G t fx tp rd nm iz dn ce T p → Rn T (kE (some rd) (x1 + 1) T) (SR G t fx rd nm ms dn ce T p nd 5 750 6 17 (pk p))) {T : xF} {p : Nat} (h : YS G t fx tp rd nm iz dn ce T p) : Rn T (al (nO T 6 2 [.null, .null]) fun T0 => if ¬ isO T0 (some rd) 4 = true then none else clX (c_X5_and G kE (some rd) x1 T0) T0 fun v6 T6 => cl (c_X7_init G (some T.2.1) v6 T6) T6 fun _ T9 => c_X5_expression_64 G kE FU (some rd) x1 (some T.2.1) T9) (SR G t fx rd nm ms dn ce T p (nd + 11) 5 790 6 17 (pOr t ms pk p)) := by
  refine e_chS (op := opO t) (psub := pAnd t ms pk) (sub := c_X5_and G kE) (L := c_X5_expression_64 G kE) (c1 := 10) (c2 := 832) (d1 := 5) (d2 := 15) opO_f (pAnd_fw hpk) (fun p o q => by rw [(opO_s q).2]; decide) (by decide) (by decide) (by decide) (by decide) ?_ ?_ (fun T p y => e_and hW hpk hnd hE y) h
  · intro m T p ch y hc hn
    have hk := opO_n hn
    show c_X5_expression_64_b G kE (c_X5_expression_64 G kE m) (some rd) x1 (some ch) T = _
    have hp : c_X5_passes G (some rd) (some (gT G 16)) T = some (0, T) := by
      unfold c_X5_passes
      rw [if_neg (not_not_intro y.is), e_isk y.cx y.rs y.pl (i := 16) (j := 16) (by decide) (by decide) rfl, Option.bind_some, if_neg hk, if_pos rfl, if_neg (by rw [zok0]; simp)]
    unfold c_X5_expression_64_b
    rw [if_neg (not_not_intro y.is), hp]
    show Option.bind (some _) _ = _
    rw [Option.bind_some, if_pos (xlb xlr)]
    show Option.bind (if (0 : Int32) = 0 then _ else _) _ = _
    rw [if_pos rfl, if_neg (not_not_intro hc)]
    cases c_X7_plain T (some ch) with
    | none => rfl
    | some v =>
      show Option.bind (some _) _ = _
      rw [Option.bind_some, if_pos (xlb xlr)]
      rfl
  · intro m T p ch o Q y ho K
    obtain ⟨hk, rfl⟩ := opO_s ho
    show Rn T (c_X5_expression_64_b G kE (c_X5_expression_64 G kE m) (some rd) x1 (some ch) T) Q
    unfold c_X5_expression_64_b
    rw [if_neg (not_not_intro y.is)]
    refine Rn.cl (e_passes y (i := 16) (j := 16) (by decide) (by decide) rfl) fun v T1 _ z => ?_
    rcases z with ⟨z1, z2, z3, z4⟩ | ⟨z1, z2, z3⟩
    · subst z2
      rw [if_neg (show ¬ (1 : Int32) = 0 by decide), if_neg (not_not_intro z4.is)]
      exact K T1 z3 z4
    · exact absurd hk z1
/-- where an expression begins -/
theorem e_start {T : xF} {p : Nat} (h : YS G t fx tp rd nm iz dn ce T p) {Q : Option Nat ⊕ xE → xF → Prop} (a : pstart t p → Rn T (c_X5_expression_31 G kE (some rd) x1 1 (some rd) T) Q) (b : ¬ pstart t p → Rn T (c_X5_expression_31 G kE (some rd) x1 0 (some rd) T) Q) : Rn T (c_X5_expression G kE (some rd) x1 T) Q := by
  have s40 : c_X5_isSign T (some rd) 40 = some (if sgi t p 40 then 1 else 0) := h.sg (c := 40) (by decide)
  unfold c_X5_expression c_X5_expression_26
  rw [h.i8, Option.bind_some, Option.bind_some]
  by_cases s2 : tS t p = 2
  · rw [if_pos (show Int32.ofNat (tS t p) = 2 by rw [s2]; rfl)]
    exact a (Or.inl s2)
  · rw [if_neg (show ¬ Int32.ofNat (tS t p) = 2 from fun q => s2 ((tS_ne (k := 2) (by decide)).mp q))]
    by_cases s1 : tS t p = 1
    · rw [if_pos (show Int32.ofNat (tS t p) = 1 by rw [s1]; rfl)]
      exact a (Or.inr (Or.inl s1))
    · rw [if_neg (show ¬ Int32.ofNat (tS t p) = 1 from fun q => s1 ((tS_ne (k := 1) (by decide)).mp q)), if_neg (not_not_intro h.is), s40, Option.bind_some]
      by_cases c : sgi t p 40
      · rw [if_pos c, if_neg (show ¬ (1 : Int32) = 0 by decide)]
        exact a (Or.inr (Or.inr c))
      · rw [if_neg c, if_pos rfl]
        exact b fun q => q.elim s2 fun q => q.elim s1 c
end EX
section EX
variable {G : xG} {t : Tpe} {fx : Fx} {tp rd nm : Nat} {iz ms : List Nat} {dn ce : Int32}
/-- an expression, x1 brackets deep -/
theorem e_E (hW : NmW iz ms) : ∀ r x n, x + r = 6 → r < n → ∀ T p, YS G t fx tp rd nm iz dn ce T p → Rn T (cE G n (some rd) (Int32.ofNat x) T) (SR G t fx rd nm ms dn ce T p (11 * r + 1) 5 750 6 17 (pE t ms r p)) := by
  intro r
  induction r with
  | zero =>
    intro x n hx hn T p h
    obtain ⟨n, rfl⟩ : ∃ k, n = k + 1 := ⟨n - 1, by omega⟩
    have hp := h.pl
    show Rn T (c_X5_expression G (cE G n) (some rd) (Int32.ofNat x) T) _
    unfold pE
    refine e_start h (fun c => ?_) (fun c => ?_)
    · rw [if_pos c]
      unfold c_X5_expression_31 c_X5_expression_47
      rw [if_neg (not_not_intro h.is)]
      refine Rn.clX rn_wantT (fun v T53 _ q => ?_) (fun ex T53 _ q => by cases q.1)
      obtain ⟨-, rfl⟩ := q
      rw [if_pos (show (6 : Int32) ≤ Int32.ofNat x by rw [show x = 6 by omega]; decide), if_neg (not_not_intro h.is)]
      refine Rn.clX (rn_wantF h (k := 2) (by decide) (by decide)) (fun v T53 _ ⟨ex, q, _⟩ => by cases q) (fun ex T53 _ ⟨ex', z, z1, z2, z3, z4⟩ => ?_)
      have z := Sum.inr.inj z
      subst z
      exact SR.er rfl (Fr.of z2) z1 (by omega) (by omega)
    · rw [if_neg c]
      unfold c_X5_expression_31
      rw [if_neg (not_not_intro h.is)]
      refine Rn.clX (rn_wantF h (k := 1) (by decide) (by decide)) (fun v T53 _ ⟨ex, q, _⟩ => by cases q) (fun ex T53 _ ⟨ex', z, z1, z2, z3, z4⟩ => ?_)
      have z := Sum.inr.inj z
      subst z
      exact SR.er rfl (Fr.of z2) z1 (by omega) (by omega)
  | succ r ih =>
    intro x n hx hn T p h
    obtain ⟨n, rfl⟩ : ∃ k, n = k + 1 := ⟨n - 1, by omega⟩
    have hp := h.pl
    show Rn T (c_X5_expression G (cE G n) (some rd) (Int32.ofNat x) T) _
    unfold pE
    refine e_start h (fun c => ?_) (fun c => ?_)
    · rw [if_pos c]
      unfold c_X5_expression_31 c_X5_expression_47
      rw [if_neg (not_not_intro h.is)]
      refine Rn.clX rn_wantT (fun v T53 _ q => ?_) (fun ex T53 _ q => by cases q.1)
      obtain ⟨-, rfl⟩ := q
      rw [if_neg (show ¬ (6 : Int32) ≤ Int32.ofNat x from fun q => by have := (ole (n := 6) (by omega) (by omega)).mp q; omega), if_neg (not_not_intro h.is)]
      refine Rn.clX rn_wantT (fun v T54 _ q => ?_) (fun ex T54 _ q => by cases q.1)
      obtain ⟨-, rfl⟩ := q
      refine (e_or (kE := cE G n) (pk := pE t ms r) (nd := 11 * r + 1) hW (pE_fw r) (by omega) (fun T p y => ?_) h).mono fun v T' _ q => ?_
      · rw [ofn1 x (by omega)]
        exact ih (x + 1) n (by omega) (by omega) T p y
      · obtain ⟨q0, q⟩ := q
        refine ⟨q0, ?_⟩
        cases v with
        | inl v =>
          obtain ⟨e, q, fo, w1, w2, w3, w4, w5, w6⟩ := q
          exact ⟨e, q, fo, w1, w2, w3.up (Nat.le_refl _) (Nat.le_refl _) (Nat.le_refl _) (by omega), w4, w5, by omega⟩
        | inr ex =>
          exact q
    · rw [if_neg c]
      unfold c_X5_expression_31
      rw [if_neg (not_not_intro h.is)]
      refine Rn.clX (rn_wantF h (k := 1) (by decide) (by decide)) (fun v T53 _ ⟨ex, q, _⟩ => by cases q) (fun ex T53 _ ⟨ex', z, z1, z2, z3, z4⟩ => ?_)
      have z := Sum.inr.inj z
      subst z
      exact SR.er rfl (Fr.of z2) z1 (by omega) (by omega)
/-- the expression of a line -/
theorem e_expr (hW : NmW iz ms) {T : xF} {p : Nat} (h : YS G t fx tp rd nm iz dn ce T p) : Rn T (cE G EFU (some rd) 0 T) (SR G t fx rd nm ms dn ce T p 67 5 750 6 17 (pE t ms 6 p)) := e_E hW 6 0 8 rfl (by decide) T p h
end EX
