/-! plain law: the system begins a line -/
set_option maxRecDepth 100000
abbrev sD (Y : Yx) (i : Nat) : Yx := (yD Y ||| 2 ^ i, yC Y, Y.2.2)
/-- what is done once a thing is known to be named for the first time -/
def onB (G : xG) (x0 : Option Nat) (x1 : Int32) (T55 : xF) : Option ((Unit ⊕ xE) × xF) :=
  if x1 = (0 : Int32) then
    (oQ T55 x0 4 1).bind fun v89 =>
    if ¬ isO T55 x0 4 = true then none else
    clX (c_X5_number G x0 (1 : Int32) (6 : Int32) T55) T55 fun v96 T96 =>
    (pV T96 v89 1 2 (.int v96)).bind fun T99 =>
    (oQ T99 x0 4 1).bind fun v103 =>
    if ¬ isO T99 x0 4 = true then none else
    clX (c_X5_number G x0 (1 : Int32) (5 : Int32) T99) T99 fun v109 T109 =>
    (pV T109 v103 1 3 (.int v109)).bind fun T112 =>
    some (.inl (), T112)
  else
  if x1 = (1 : Int32) then
    if ¬ isO T55 x0 4 = true then none else
    clX (c_X5_warmths G x0 T55) T55 fun v119 T119 =>
    some (.inl (), T119)
  else
  if x1 = (2 : Int32) then
    (oQ T55 x0 4 1).bind fun v126 =>
    if ¬ isO T55 x0 4 = true then none else
    clX (c_X5_number G x0 (1 : Int32) (99 : Int32) T55) T55 fun v133 T133 =>
    (pV T133 v126 1 4 (.int v133)).bind fun T136 =>
    some (.inl (), T136)
  else
  if x1 = (3 : Int32) then
    (oQ T55 x0 4 1).bind fun v143 =>
    if ¬ isO T55 x0 4 = true then none else
    clX (c_X5_number G x0 (1 : Int32) (99 : Int32) T55) T55 fun v150 T150 =>
    (pV T150 v143 1 5 (.int v150)).bind fun T153 =>
    some (.inl (), T153)
  else
    if x1 = (4 : Int32) then
      (oQ T55 x0 4 4).bind fun v166 =>
      c_X5_only_176 G x0 x1 v166 x0 T55
    else
      (oQ T55 x0 4 5).bind fun v173 =>
      c_X5_only_176 G x0 x1 v173 x0 T55
section YL
variable {own : Nat → Nat} {G : xG} {t : Tpe} {fx : Fx} {tp rd l0 l1 : Nat} {Tb : xF} (hb : Cx G Tb t fx tp) (hst : StA G Tb) {T T' : xF} {ow ow' : Nat → Nat} {Y Y' : Yx} {p q : Nat}
theorem YA.ys (hb : Cx G Tb t fx tp) (hst : StA G Tb) (h : YA own G t fx tp rd Tb l0 l1 ow T Y p) (hp : p ≤ t.2) : ∃ nm iz ce, YS G t fx tp rd nm iz (Int32.ofNat (yD Y)) ce T p ∧ CeOK ce (yC Y) ∧ (nm = fx.2.2.2.1 ∨ nm = fx.2.2.2.2.1) := by
  obtain ⟨nm, ce, r, hce, hnm⟩ := h.2.1
  have hN := h.2.2.2.1
  rcases hnm with rfl | rfl
  · exact ⟨_, grIs, ce, ⟨hb.old h.1, hst.old h.1, hN.2.1.1, hN.2.1.2.1, r, h.2.2.1.1, hp⟩, hce, Or.inl rfl⟩
  · exact ⟨_, beIs, ce, ⟨hb.old h.1, hst.old h.1, hN.2.2.1, hN.2.2.2.1, r, h.2.2.1.1, hp⟩, hce, Or.inr rfl⟩
theorem YA.isr (hb : Cx G Tb t fx tp) (hst : StA G Tb) (h : YA own G t fx tp rd Tb l0 l1 ow T Y p) (hp : p ≤ t.2) : isO T (some rd) 4 = true := by
  obtain ⟨nm, iz, ce, y, _⟩ := h.ys hb hst hp
  exact y.is
theorem YA.qs (hb : Cx G Tb t fx tp) (hst : StA G Tb) (h : YA own G t fx tp rd Tb l0 l1 ow T Y p) : oQ T (some rd) 4 1 = some (some fx.1) ∧ oQ T (some rd) 4 2 = some (some fx.2.1) ∧ oQ T (some rd) 4 3 = some (some fx.2.2.1) ∧ oQ T (some rd) 4 4 = some (some fx.2.2.2.1) ∧ oQ T (some rd) 4 5 = some (some fx.2.2.2.2.1) := by
  obtain ⟨nm, ce, r, hce, hnm⟩ := h.2.1
  exact r.qs
theorem YA.go (hb : Cx G Tb t fx tp) (hst : StA G Tb) (h : YA own G t fx tp rd Tb l0 l1 ow T Y p) {nm : Nat} {iz : List Nat} {ce : Int32} (y : YS G t fx tp rd nm iz (Int32.ofNat (yD Y)) ce T' q) (hce : CeOK ce (yC Y)) (hnm : nm = fx.2.2.2.1 ∨ nm = fx.2.2.2.2.1) (F : Fr rd T T') : YA own G t fx tp rd Tb l0 l1 ow T' Y q := h.mv (Y' := Y) F y.rs hce hnm rfl fun _ _ => rfl
theorem YA.nxt (hb : Cx G Tb t fx tp) (hst : StA G Tb) (h : YA own G t fx tp rd Tb l0 l1 ow T Y p) (hp : p ≤ t.2) : Rn T (c_X5_next G (some rd) T) fun _ T' => YA own G t fx tp rd Tb l0 l1 ow T' Y (tE t p) ∧ T'.2 = T.2 ∧ tE t p ≤ t.2 := by
  obtain ⟨nm, iz, ce, y, hce, hnm⟩ := h.ys hb hst hp
  exact y.nxt.mono fun _ T' _ ⟨f, y'⟩ => ⟨h.go hb hst y' hce hnm f.c, f.1, y'.pl⟩
theorem YA.num (hb : Cx G Tb t fx tp) (hst : StA G Tb) (h : YA own G t fx tp rd Tb l0 l1 ow T Y p) (hp : p ≤ t.2) {lo hi : Nat} (hlo : lo < 20000) (hhi : hi < 20000) : Rn T (c_X5_number G (some rd) (Int32.ofNat lo) (Int32.ofNat hi) T) fun v T' => match v with
    | .inl a => ∃ v r, pNum t p lo hi = .inr (v, r) ∧ a = Int32.ofNat v ∧ YA own G t fx tp rd Tb l0 l1 ow T' Y r ∧ r ≤ t.2 ∧ p < r ∧ T'.2 = T.2 ∧ lo ≤ v ∧ v ≤ hi
    | .inr ex => ∃ k b, pNum t p lo hi = .inl (k, b) ∧ Th T' ex rd k b ∧ frc (fun _ => False) Tb T' ∧ T'.2.1 ≤ T.2.1 + 1 ∧ T'.2.2 ≤ T.2.2 + 7 := by
  obtain ⟨nm, iz, ce, y, hce, hnm⟩ := h.ys hb hst hp
  refine (e_numS y hlo hhi).mono fun v T' _ z => ?_
  cases v with
  | inl a =>
    obtain ⟨z1, z2, z3, z4⟩ := z
    have f := nOK_fw hp z2
    exact ⟨_, _, pNum_ok z2, z1, h.go hb hst z4 hce hnm z3.c, f.2, f.1, z3.1, z2.2.2.1, z2.2.2.2⟩
  | inr ex =>
    obtain ⟨z1, z2, z3, z4, z5⟩ := z
    exact ⟨_, _, pNum_no z1, z2, h.fr.tr z3, by omega, by omega⟩
theorem YA.wF (hb : Cx G Tb t fx tp) (hst : StA G Tb) (h : YA own G t fx tp rd Tb l0 l1 ow T Y p) (hp : p ≤ t.2) {r : Option Nat} {k : Nat} (k0 : 0 < k) (k1 : k < 10) : Rn T (c_X5_want G r 0 (Int32.ofNat k) T) fun v T' => ∃ ex, v = .inr ex ∧ Th T' ex rd k (tB t p) ∧ frc (fun _ => False) Tb T' ∧ T'.2.1 ≤ T.2.1 + 1 ∧ T'.2.2 ≤ T.2.2 + 7 := by
  obtain ⟨nm, iz, ce, y, hce, hnm⟩ := h.ys hb hst hp
  exact (rn_wantF y k0 k1).mono fun v T' _ ⟨ex, z1, z2, z3, z4, z5⟩ => ⟨ex, z1, z2, h.fr.tr z3, by omega, by omega⟩
/-- the end of a line -/
theorem e_119 (hb : Cx G Tb t fx tp) (hst : StA G Tb) (h : YA own G t fx tp rd Tb l0 l1 ow T Y p) (hp : p ≤ t.2) : Rn T (c_X5_line_119 G (some rd) T) (LSt own G t fx tp rd Tb l0 l1 T p (if sgi t p 59 then .inr (Y, tE t p) else .inl (1, tB t p))) := by
  obtain ⟨nm, iz, ce, y, hce, hnm⟩ := h.ys hb hst hp
  have s59 : c_X5_isSign T (some rd) 59 = some (if sgi t p 59 then 1 else 0) := y.sg (c := 59) (by decide)
  unfold c_X5_line_119
  rw [if_neg (not_not_intro y.is), s59, Option.bind_some, if_neg (not_not_intro y.is)]
  by_cases c : sgi t p 59
  · rw [if_pos c, if_pos c]
    have f := tE_fw hp (sgn_0 c)
    refine Rn.clX rn_wantT (fun v T53 _ q => ?_) (fun ex T53 _ q => by cases q.1)
    obtain ⟨-, rfl⟩ := q
    rw [if_neg (not_not_intro y.is)]
    refine Rn.cl (h.nxt hb hst hp) fun _ T1 _ ⟨y1, e1, l1'⟩ => Rn.ret (LSt.ok rfl y1 (by omega) l1' ⟨by rw [e1]; omega, by rw [e1]; omega⟩)
  · rw [if_neg c, if_neg c]
    refine Rn.clX (h.wF hb hst hp (k := 1) (by decide) (by decide)) (fun v T53 _ ⟨ex, q, _⟩ => by cases q) (fun ex T53 _ ⟨ex', z, z1, z2, z3, z4⟩ => ?_)
    have z := Sum.inr.inj z
    subst z
    exact LSt.er rfl z1 z2 ⟨by omega, by omega⟩
/-- named once: the test, the note, the word passed -/
theorem e_only17 (hb : Cx G Tb t fx tp) (hst : StA G Tb) (h : YA own G t fx tp rd Tb l0 l1 ow T Y p) (hp : p ≤ t.2) (hD : yD Y < 64) {i : Nat} (hi : i < 6) (h0 : tS t p ≠ 0) {X : PL (Yx × Nat)} (hno : dup Y i = false → ∀ T55, YA own G t fx tp rd Tb l0 l1 ow T55 (sD Y i) (tE t p) → T55.2 = T.2 → Rn T55 (onB G (some rd) (Int32.ofNat i) T55) (LSt own G t fx tp rd Tb l0 l1 T55 (tE t p) X)) : Rn T (c_X5_only_17 G (some rd) (Int32.ofNat i) 1 (some rd) T) (LSt own G t fx tp rd Tb l0 l1 T p (once t Y p i X)) := by
  have f := tE_fw hp h0
  obtain ⟨nm, iz, ce, y, hce, hnm⟩ := h.ys hb hst hp
  unfold c_X5_only_17
  rw [if_neg (not_not_intro y.is)]
  refine Rn.clX rn_wantT (fun v T18 _ q => ?_) (fun ex T53 _ q => by cases q.1)
  obtain ⟨-, rfl⟩ := q
  obtain ⟨i12, T51, e51, f51, r51⟩ := y.rs.dn (d' := Int32.ofNat (yD Y ||| 2 ^ i))
  rw [i12, Option.bind_some, e_isOf6 _ hD i hi, Option.bind_some]
  unfold once
  by_cases d : dup Y i = true
  · have d' : (yD Y).testBit i = true := d
    rw [if_pos d, if_pos d', if_neg (show ¬ (1 : Int32) = 0 by decide)]
    unfold c_X5_only_38
    rw [if_neg (not_not_intro y.is)]
    refine Rn.clX (h.wF hb hst hp (k := 5) (by decide) (by decide)) (fun v T53 _ ⟨ex, q, _⟩ => by cases q) (fun ex T53 _ ⟨ex', z, z1, z2, z3, z4⟩ => ?_)
    have z := Sum.inr.inj z
    subst z
    exact LSt.er rfl z1 z2 ⟨by omega, by omega⟩
  · have d' : ¬ (yD Y).testBit i = true := d
    rw [if_neg d, if_neg d', if_pos rfl]
    have df : dup Y i = false := by
      cases hz : dup Y i with
      | true => exact absurd hz d
      | false => rfl
    unfold c_X5_only_38
    rw [if_neg (not_not_intro y.is)]
    refine Rn.clX rn_wantT (fun v T39 _ q => ?_) (fun ex T53 _ q => by cases q.1)
    obtain ⟨-, rfl⟩ := q
    rw [i12, Option.bind_some, or_6 _ hD i hi]
    refine Rn.st e51 f51.le ?_
    have h51 : YA own G t fx tp rd Tb l0 l1 ow T51 (sD Y i) p := h.mv (Y' := sD Y i) f51.c r51 hce hnm rfl fun _ _ => rfl
    rw [if_neg (not_not_intro (h51.isr hb hst hp))]
    refine Rn.cl (h51.nxt hb hst hp) fun _ T55 _ ⟨y55, e55, _⟩ => ?_
    have e2 : T55.2 = T39.2 := e55.trans f51.1
    refine (hno df T55 y55 e2).mono fun v T' _ z => z.pre rfl (by omega) f.2 ⟨by rw [e2]; omega, by rw [e2]; omega⟩
/-- anything begun -/
theorem e_isBegun (hb : Cx G Tb t fx tp) (hst : StA G Tb) (h : YA own G t fx tp rd Tb l0 l1 ow T Y p) : c_X5_isBegun T (some rd) = some (if begun Y = true then 1 else 0) := by
  obtain ⟨nm, ce, r, hce, hnm⟩ := h.2.1
  obtain ⟨nu, r0, hn⟩ := r
  have hG := h.2.2.2.2.2.2.1.1
  have bg : begun Y = true ↔ (∃ c, c < 30 ∧ yC Y c = true) ∨ ∃ c, c < 30 ∧ gK (yR Y) c ≠ -1 := by
    unfold begun
    rw [List.any_eq_true]
    refine ⟨fun ⟨c, c1, c2⟩ => ?_, fun z => ?_⟩
    · have c1 := List.mem_range.mp c1
      rw [Bool.or_eq_true, decide_eq_true_iff] at c2
      exact c2.imp (fun q => ⟨c, c1, q⟩) fun q => ⟨c, c1, q⟩
    · rcases z with ⟨c, c1, c2⟩ | ⟨c, c1, c2⟩
      · exact ⟨c, List.mem_range.mpr c1, by rw [c2, Bool.true_or]⟩
      · exact ⟨c, List.mem_range.mpr c1, by rw [decide_eq_true c2, Bool.or_true]⟩
  have key : ∀ x : Int32, (x = 0 ∨ x = 1) → ∃ v, c_X5_isBegun_15 T FU (some rd) x 0 = some v ∧ (v = 0 ∨ v = 1) ∧ (v = 1 ↔ x = 1 ∨ ∃ c, c < 30 ∧ gK (yR Y) c ≠ -1) := by
    intro x hx
    have := loop_rule (σ := Int32) (N := 30) (fun i s => (s = 0 ∨ s = 1) ∧ (s = 1 ↔ x = 1 ∨ ∃ c, c < i ∧ gK (yR Y) c ≠ -1)) (fun m i s => ∃ v, c_X5_isBegun_15 T m (some rd) s (Int32.ofNat i) = some v ∧ (v = 0 ∨ v = 1) ∧ (v = 1 ↔ x = 1 ∨ ∃ c, c < 30 ∧ gK (yR Y) c ≠ -1)) ?_ ?_ FU (by decide) x ⟨hx, fun q => Or.inl q, fun q => q.elim id fun ⟨c, c1, _⟩ => absurd c1 (Nat.not_lt_zero c)⟩
    · exact this
    · intro m i s hi ⟨hs, hj⟩ K
      show ∃ v, c_X5_isBegun_15_b T (c_X5_isBegun_15 T m) (some rd) s (Int32.ofNat i) = some v ∧ _
      unfold c_X5_isBegun_15_b c_X5_isBegun_40
      rw [if_neg (show ¬ (30 : Int32) ≤ Int32.ofNat i from fun q => by have := (ole (n := 30) (m := i) (by omega) (by omega)).mp q; omega), r0.q2, Option.bind_some, hG.o2, Option.bind_some, hG.ldK hi, Option.bind_some, ofn1 i (by omega)]
      by_cases k : gK (yR Y) i = -1
      · rw [if_pos k]
        have e : s ||| 0 = s := by rcases hs with rfl | rfl <;> decide
        rw [e]
        refine K s ⟨hs, hj.trans ?_⟩
        refine ⟨fun q => q.imp id fun ⟨c, c1, c2⟩ => ⟨c, by omega, c2⟩, fun q => q.imp id fun ⟨c, c1, c2⟩ => ⟨c, ?_, c2⟩⟩
        by_cases z : c = i
        · rw [z] at c2; exact absurd k c2
        · omega
      · rw [if_neg k]
        have e : s ||| 1 = 1 := by rcases hs with rfl | rfl <;> decide
        rw [e]
        exact K 1 ⟨Or.inr rfl, fun _ => Or.inr ⟨i, by omega, k⟩, fun _ => rfl⟩
    · intro m s ⟨hs, hj⟩
      show ∃ v, c_X5_isBegun_15_b T (c_X5_isBegun_15 T m) (some rd) s (Int32.ofNat 30) = some v ∧ _
      unfold c_X5_isBegun_15_b
      rw [if_pos (by decide), if_neg (by rcases hs with rfl | rfl <;> decide)]
      exact ⟨s, rfl, hs, hj⟩
  have fin : ∀ v : Int32, (v = 0 ∨ v = 1) → (v = 1 ↔ begun Y = true) → some v = some (if begun Y = true then 1 else 0) := fun v h1 h2 => by
    by_cases z : begun Y = true
    · rw [if_pos z, h2.mpr z]
    · rw [if_neg z]
      rcases h1 with q | q
      · rw [q]
      · exact absurd (h2.mp q) z
  unfold c_X5_isBegun c_X5_isBegun_12
  rw [r0.i13, Option.bind_some]
  by_cases c0 : ce = 0
  · obtain ⟨v, e, v1, v2⟩ := key 0 (Or.inl rfl)
    rw [if_pos c0, e]
    have nc := (ce_0 hce).mp c0
    refine fin v v1 (v2.trans (Iff.trans ?_ bg.symm))
    refine ⟨fun q => q.elim (fun q => absurd q (by decide)) Or.inr, fun q => q.elim (fun ⟨c, c1, c2⟩ => by rw [nc c c1] at c2; cases c2) Or.inr⟩
  · obtain ⟨v, e, v1, v2⟩ := key 1 (Or.inr rfl)
    rw [if_neg c0, e]
    refine fin v v1 (v2.trans (Iff.trans ?_ bg.symm))
    refine ⟨fun _ => Or.inl ?_, fun _ => Or.inl rfl⟩
    refine Classical.byContradiction fun q => c0 ((ce_0 hce).mpr fun c hc => ?_)
    cases hz : yC Y c with
    | false => rfl
    | true => exact absurd ⟨c, hc, hz⟩ q
end YL
