/-! what is thrown; calls of methods that throw; a private method of a class above -/
set_option maxRecDepth 100000
def isW (T : xF) (r : Option Nat) (ci : Nat) : Bool := match r with
  | none => false
  | some a => match T.1 a with
    | some (true, .inr (c, _)) => decide (c = ci)
    | _ => false
theorem isW_ok {T : xF} {r : Option Nat} {ci : Nat} (h : isW T r ci = true) : ∃ a fs, r = some a ∧ T.1 a = some (true, .inr (ci, fs)) := by
  unfold isW at h
  cases r with
  | none => cases h
  | some a =>
    dsimp only at h
    split at h
    · next c fs e =>
      have := of_decide_eq_true h
      subst this
      exact ⟨a, fs, rfl, e⟩
    · cases h
/-- a call that may throw: it goes on, or ends -/
def clX {α β : Type} (x : Option ((α ⊕ xE) × xF)) (T : xF) (k : α → xF → Option ((β ⊕ xE) × xF)) : Option ((β ⊕ xE) × xF) := x.bind fun q => if xleb T q.2 = true then (match q.1 with
  | .inl v => (k v q.2).bind (fun q' => if xleb q.2 q'.2 = true then some q' else none)
  | .inr e => some (.inr e, q.2)) else none
/-- .. or goes on elsewhere -/
def clH {α β : Type} (x : Option ((α ⊕ xE) × xF)) (T : xF) (h : xE → xF → Option (β × xF)) (k : α → xF → Option (β × xF)) : Option (β × xF) := x.bind fun q => if xleb T q.2 = true then ((match q.1 with
  | .inl v => k v q.2
  | .inr e => h e q.2).bind (fun q' => if xleb q.2 q'.2 = true then some q' else none)) else none
theorem clX_ok {α β : Type} {x : Option ((α ⊕ xE) × xF)} {T : xF} {k : α → xF → Option ((β ⊕ xE) × xF)} {q' : (β ⊕ xE) × xF} (h : clX x T k = some q') : (∃ v T2, x = some (.inl v, T2) ∧ k v T2 = some q' ∧ xle T T2 ∧ xle T2 q'.2) ∨ (∃ e T2, x = some (.inr e, T2) ∧ q' = (.inr e, T2) ∧ xle T T2) := by
  unfold clX at h
  obtain ⟨⟨r, T2⟩, h1, h2⟩ := ob h
  obtain ⟨h3, h4⟩ := if_y h2
  cases r with
  | inl v =>
    obtain ⟨w, h5, h6⟩ := ob h4
    obtain ⟨h7, h8⟩ := if_y h6
    cases h8
    exact Or.inl ⟨v, T2, h1, h5, xleb_ok h3, xleb_ok h7⟩
  | inr e =>
    cases h4
    exact Or.inr ⟨e, T2, h1, rfl, xleb_ok h3⟩
theorem clH_ok {α β : Type} {x : Option ((α ⊕ xE) × xF)} {T : xF} {h : xE → xF → Option (β × xF)} {k : α → xF → Option (β × xF)} {q' : β × xF} (h0 : clH x T h k = some q') : (∃ v T2, x = some (.inl v, T2) ∧ k v T2 = some q' ∧ xle T T2 ∧ xle T2 q'.2) ∨ (∃ e T2, x = some (.inr e, T2) ∧ h e T2 = some q' ∧ xle T T2 ∧ xle T2 q'.2) := by
  unfold clH at h0
  obtain ⟨⟨r, T2⟩, h1, h2⟩ := ob h0
  obtain ⟨h3, h4⟩ := if_y h2
  obtain ⟨w, h5, h6⟩ := ob h4
  obtain ⟨h7, h8⟩ := if_y h6
  cases h8
  cases r with
  | inl v => exact Or.inl ⟨v, T2, h1, h5, xleb_ok h3, xleb_ok h7⟩
  | inr e => exact Or.inr ⟨e, T2, h1, h5, xleb_ok h3, xleb_ok h7⟩
theorem xnoh {l : List ExceptionTableEntry} {pc : Nat} (h : l.all (fun x => !(covers x pc)) = true) : ∀ x ∈ l, covers x pc = false := fun x hx => by
  have h1 := List.all_eq_true.mp h x hx
  cases h2 : covers x pc with
  | false => rfl
  | true => rw [h2] at h1; cases h1
theorem xDn {D : Nat} {T T' : xF} (h : 6 ≤ D) : 6 ≤ (xrm D T T').frames ∧ 64 * 6 ≤ (xrm D T T').locals := ⟨h, by show _ ≤ 64 * D; omega⟩
/-- words of 'throw new E()' -/
def xTh (own : String) (ik ic : Nat) (cls : String) : Prop := Bundle.fit cls = true ∧ Cond.classLink own ik cls ∈ lw_all ∧ Cond.initialized cls ∈ lw_all ∧ (vx_at0 own ic cls ["java/lang/RuntimeException", "java/lang/Exception"]).all vx_ot = true ∧ (∀ w ∈ vx_at0 own ic cls ["java/lang/RuntimeException", "java/lang/Exception"], goodWord w = true → w ∈ lw_all) ∧ ∀ w ∈ vx_at0 own ic cls ["java/lang/RuntimeException", "java/lang/Exception"], goodWord w = false → w ∈ lw_tbl ∧ xExt w = true ∧ w.onTables = true
section C4
variable {G : xG} {Y : xR} {pc : Nat} {L : List (Nat × Value)} {rest : List Value} {T T1 : xF}
theorem X.outW {p : Program} {l : Launch} {e : Env} {s : State} {m : MethodId} {args : Array Value} {below : List Frame} {meth : Method} {c : Code} {H : Heap} {locs : List Loc} {ls : Array Slot} {q : Nat} {E : String} {ce : Cell} (hc : xCx G Y p l s m args meth c) (hd : xDy G Y T s H locs) (hnh : ∀ x ∈ tableOf Y.1.2.2.2.2, covers x pc = false) (ho : Y.2.2.2 = (.inr (E, q), T)) (hcell : H[q]? = some ce) (hv : ce.vm = .none) (hcl : s.vm.findClass E = some ce.cls) : vx_W p l e Y.2.1 s m args below meth c H locs (T.2.1 - Y.2.2.1.2.1) (T.2.2 - Y.2.2.1.2.2) (xZ G Y below args s) (F0 m pc ls rest) q := by
  intro U hU X
  obtain ⟨-, hx, hb, hrt, hlk, -, -, -, -, hK, hSt, hsz0, hgb, htb⟩ := hc
  obtain ⟨hsz, hrep, hS9, hd1, hd2, hdm, hd3⟩ := hd
  obtain ⟨st1, hrun, hend, hW, hsm⟩ := X.leaveThrown q (g := F0 m pc ls rest) rfl rfl rfl (by rw [htb]; exact hnh) hlk
  obtain ⟨M, R, T0, o⟩ := Y
  dsimp only at ho hd1 ⊢
  subst ho
  have hh : (U.setFrames (.throwing q :: below)).heap = H := by show U.heap = H; exact hU
  refine ⟨_, st1, .threw q, hrun, hend, ce, locs, rfl, ⟨⟨⟨by rw [hh]; exact hsz, fun a cc hcc => by rw [hh]; exact (hrep a cc hcc).moved hW.alike, hK.warm hW, fun i q hq => by rw [hh]; exact (xZs.moved hW.alike (hSt i q hq)).kept hS9.2.1, Nat.le_trans hgb hd1.1⟩, hdm⟩, hS9.F hh⟩, by rw [hh]; exact hcell, hv, hcl, hW, hsm, hS9.2.2⟩
theorem C.athrow {r : Option Nat} {ci : Nat} {rr : vw_C} {E : String} {q : Nat} (d : decode Y.1.2.1 pc = .ok (.athrow, 1)) (h : isW T r ci = true) (hci : xCl[ci]? = some rr) (hE : rr.1 = E) (hq : r.getD 0 = q) (hnh : ∀ x ∈ tableOf Y.1.2.2.2.2, covers x pc = false) (ho : Y.2.2.2 = (.inr (E, q), T)) : Xr G Y pc L (va_rf r :: rest) T := by
  obtain ⟨a, fs, rfl, ha⟩ := isW_ok h
  intro p l e s m args below meth c H locs ls hc hd hl
  subst hq
  subst hE
  obtain ⟨r', cell, h1, h2, h3, h4, h5, h7, h6⟩ := hd.2.1 a _ (ol_some ha)
  obtain ⟨hvm, hga, hlen⟩ := h7 rfl
  refine vx_athrow hc.2.1 hc.2.2.1 d (X.outW hc hd hnh ho h2 hvm ?_)
  rw [h3]
  exact xfind hc.2.2.2.2.2.2.2.2.2.1 (xcl_up hci)
theorem X.throw0 {ik ic : Nat} {cls own : String} (d0 : decode Y.1.2.1 pc = .ok (.new ik, 3)) (d3 : decode Y.1.2.1 (pc + 3) = .ok (.dup, 1)) (d4 : decode Y.1.2.1 (pc + 4) = .ok (.invokespecial ic, 3)) (d7 : decode Y.1.2.1 (pc + 7) = .ok (.athrow, 1)) (hq : xTh own ik ic cls) (hown9 : Y.1.1.cls = own) (hrs : (rest.map fun v => v.category).sum ≤ 8) (hD : 6 ≤ Y.2.1.frames ∧ 64 * 6 ≤ Y.2.1.locals) (ho : Y.2.2.2 = (.inr (cls, T.2.1), (T.1, T.2.1 + 1, T.2.2 + 6))) (hnh : ∀ x ∈ tableOf Y.1.2.2.2.2, covers x (pc + 7) = false) : Xr G Y pc L rest T := by
  subst hown9
  intro p l e s m args below meth c H locs ls hc hd hl
  have hc' := hc
  obtain ⟨hfl, hx, hb, hrt, hlk, hml, hown, -, hts, hK, hSt, hsz0, hgb, htb⟩ := hc
  obtain ⟨hsz, hrep, hS9, hd1, hd2, hdm, hd3⟩ := hd
  obtain ⟨hq1, hq2, hq3, hq4, hq5, hq6⟩ := hq
  obtain ⟨M, R, T0, o⟩ := Y
  dsimp only at ho hd1 hd2 hd3 hrs hD hb hown hq2 htb hnh hrt hml hsz0 hgb ⊢
  subst ho
  dsimp only at hd2 hd3
  have r3 := hd3.1; have r4 := hd3.2; have r5 := hd1.1; have r6 := hd1.2
  have hat : ∀ w ∈ vx_at0 M.1.cls ic cls ["java/lang/RuntimeException", "java/lang/Exception"], w.before args s = true := fun w hw => by
    cases hg : goodWord w with
    | true => exact hts _ (hq5 w hw hg)
    | false =>
      obtain ⟨h1, h2, h3⟩ := hq6 w hw hg
      exact va_Nw.use h3 (hK.2.2.1 _ h1 h2)
  have zq : ∀ (i : Nat) (C n dsc : String), 5 < i → xSts[i]? = some (C, n, dsc) → vx_Zq C n dsc (xAf G) s s.heap := fun i C n dsc h5 hi => by
    obtain ⟨z1, z2⟩ := hSt i _ hi
    refine ⟨?_, z2 h5⟩
    have z3 : xSv G i = va_rf (gS G i) := by
      unfold xSv
      split
      · omega
      · omega
      · rfl
    rw [z3] at z1
    cases hv : gS G i with
    | none => rw [hv] at z1; exact Or.inl z1
    | some a => rw [hv] at z1; exact Or.inr ⟨a, z1⟩
  refine W.mq (vx_throw0 (Qc := fun _ _ _ _ => False) (XC := fun E q st t => E = cls ∧ q = H.size ∧ ∀ q : Nat, q < H.size → t.heap[q]? = H[q]?) (free := xAf G) (A := xAf G) hx hb (by unfold Launch.stackTraces; rw [hfl]; rfl) (own := M.1.cls) (cls := cls) (names := ["java/lang/RuntimeException", "java/lang/Exception"]) (ik := ik) (ic := ic) (mc := T.2.1 + 1 - T0.2.1) (ms := T.2.2 + 6 - T0.2.2)
    hown hq1 (by decide) (hts _ hq2) (hts _ hq3) hat ?_ (zq 6 _ _ _ (by decide) rfl) (zq 7 _ _ _ (by decide) rfl) hS9 (hl.1.trans hml.symm) d0 d3 d4 d7 (by rw [htb]; exact hnh) ?_ ?_ (by omega) (by omega) hlk (fun t hal hz hk => ?_) hS9.2.2 (by omega) (by omega)) (fun t ht => ?_)
  · intro w hw
    rcases List.mem_cons.mp hw with rfl | hw
    · rfl
    rcases List.mem_cons.mp hw with rfl | hw
    · rfl
    · exact List.all_eq_true.mp hq4 w hw
  · show 2 + 3 < _
    omega
  · show _ + (13 * (2 + 1) + 42) ≤ _
    omega
  · exact ⟨rfl, rfl, hk⟩
  · obtain ⟨oc, q1, q2, h9⟩ := ht
    rcases h9 with ⟨f, -⟩ | ⟨q, rfl, E, ce, L9, ⟨rfl, rfl, k1⟩, k2, k3, k4, k5, k6, k7⟩
    · exact f.elim
    have z1 : t.heap.size = T.2.1 + 1 := by
      have z2 := (Array.getElem?_eq_some_iff.mp k2).1
      have z3 : t.heap.size ≤ s.heap.size + (T.2.1 + 1 - T0.2.1) := k6.2.2.1
      omega
    have k8 : ∀ (b : Nat) (cc : Bool × xC), ol (gR G) T.1 b = some cc → xat G t b cc t.heap := fun b cc hcc => ((hrep b cc hcc).kept (k1 b ((hrep b cc hcc).lt))).moved k5.alike
    refine ⟨_, q1, q2, ce, L9, by rw [hsz], ⟨⟨⟨z1, k8, hK.warm k5, fun i q hq => (xZs.moved k5.alike ((hSt i q hq).kept hS9.2.1)).kept (fun a ha _ => k1 a ha), by show gB G ≤ T.2.1 + 1; omega⟩, fun b hb => hdm b hb⟩, ?_⟩, by rw [← hsz]; exact k2, k3, k4, k5, k6, k7⟩
    refine ⟨by rw [z1]; have := hS9.1; omega, fun b hb hA => ?_⟩
    rw [k1 b (by have := hS9.1; omega)]
    exact hS9.2.1 b hb hA
end C4
