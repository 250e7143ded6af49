/-! plain law: what stands around a growth, and what a growth keeps and takes -/
set_option maxRecDepth 100000
/-- cells, wide, high, age, spores, kinds, the party of a kind, the warmth of a day, the two rules -/
abbrev En : Type := Nat × Int32 × Int32 × Int32 × Int32 × Nat × (Nat → Int32) × (Nat → Int32) × Option ((Nat → Int32) → Int32) × Option ((Nat → Int32) → Int32)
abbrev eN (e : En) : Nat := e.1
abbrev eW (e : En) : Int32 := e.2.1
abbrev eH (e : En) : Int32 := e.2.2.1
abbrev eA (e : En) : Int32 := e.2.2.2.1
abbrev eS (e : En) : Int32 := e.2.2.2.2.1
abbrev eP (e : En) : Nat := e.2.2.2.2.2.1
abbrev ePy (e : En) : Nat → Int32 := e.2.2.2.2.2.2.1
abbrev eWm (e : En) : Nat → Int32 := e.2.2.2.2.2.2.2.1
abbrev eRg (e : En) : Option ((Nat → Int32) → Int32) := e.2.2.2.2.2.2.2.2.1
abbrev eRb (e : En) : Option ((Nat → Int32) → Int32) := e.2.2.2.2.2.2.2.2.2
/-- an environment that can be: sizes, kinds and parties within their bounds; rules that look at their own values only -/
def EnOK (e : En) : Prop := (∃ w h, w < 7 ∧ h < 6 ∧ 0 < w ∧ 0 < h ∧ eW e = Int32.ofNat w ∧ eH e = Int32.ofNat h ∧ eN e = w * h) ∧ eP e ≤ 4 ∧ (0 < eS e) ∧ (∀ k, k < eP e → ePy e k = 0 ∨ ePy e k = 1 ∨ ePy e k = 2 ∨ ePy e k = 3) ∧ (∀ r, eRg e = some r → ∀ f f', (∀ k, k < 7 → f k = f' k) → r f = r f') ∧ (∀ r, eRb e = some r → ∀ f f', (∀ k, k < 5 → f k = f' k) → r f = r f') ∧ ∀ d, ∃ k, k < 10 ∧ eWm e d = Int32.ofNat k
theorem wh_n : ∀ w, w < 7 → ∀ h, h < 6 → Int32.ofNat w * Int32.ofNat h = Int32.ofNat (w * h) := by decide +kernel
theorem wh_0 : ∀ w, w < 7 → 0 < w → ¬ Int32.ofNat w = 0 := by decide +kernel
theorem wh_30 : ∀ w, w < 7 → ∀ h, h < 6 → w * h ≤ 30 := by decide +kernel
theorem EnOK.mul {e : En} (h : EnOK e) : eW e * eH e = Int32.ofNat (eN e) := by
  obtain ⟨⟨a, b, h1, h2, h3, h4, h5, h6, h7⟩, -⟩ := h
  rw [h5, h6, h7]
  exact wh_n a h1 b h2
theorem EnOK.w0 {e : En} (h : EnOK e) : ¬ eW e = 0 := by
  obtain ⟨⟨a, b, h1, h2, h3, h4, h5, h6, h7⟩, -⟩ := h
  rw [h5]
  exact wh_0 a h1 h3
theorem EnOK.n30 {e : En} (h : EnOK e) : eN e ≤ 30 := by
  obtain ⟨⟨a, b, h1, h2, h3, h4, h5, h6, h7⟩, -⟩ := h
  rw [h7]
  exact wh_30 a h1 b h2
theorem EnOK.n0 {e : En} (h : EnOK e) : 0 < eN e := by
  obtain ⟨⟨a, b, h1, h2, h3, h4, h5, h6, h7⟩, -⟩ := h
  rw [h7]
  exact Nat.mul_pos h3 h4
theorem EnOK.st {e : En} (h : EnOK e) : ∀ a, a < 30 → ∀ c, c < 30 → stp (eW e) (Int32.ofNat a) (Int32.ofNat c) = far (eW e) (Int32.ofNat c) (Int32.ofNat a) := by
  obtain ⟨⟨a, b, h1, h2, h3, h4, h5, h6, h7⟩, -⟩ := h
  rw [h5]
  exact stp_far a h1
/-- the values that are asked of a mould -/
def VaAt (T : xF) (va : Nat) (f : Nat → Int32) : Prop := T.1 va = some (true, .inl (.int, 7, .inl f))
/-- the environment, as the heap shows it now -/
def EvN (G : xG) (T : xF) (o rl va bb : Nat) (e : En) : Prop :=
  oQ T (some o) 0 0 = some (some va) ∧ oQ T (some o) 0 1 = some (some rl) ∧ oQ T (some o) 0 2 = some (some bb) ∧ isO T (some rl) 1 = true ∧ oI T (some rl) 1 2 = some (eW e) ∧ oI T (some rl) 1 3 = some (eH e) ∧ oI T (some rl) 1 4 = some (eA e) ∧ oI T (some rl) 1 5 = some (eS e) ∧ (∀ d, d < 2000 → c_X2_warmth T (some rl) (Int32.ofNat d) = some (eWm e d)) ∧ (∃ lp, oQ T (some rl) 1 0 = some (some lp) ∧ isO T (some lp) 10 = true ∧ c_J2_size T (some lp) = some (Int32.ofNat (eP e)) ∧ c_J2_isEmpty T (some lp) = some (b01 (eP e == 0)) ∧ ∀ k, k < eP e → ∃ q, c_J2_get T (some lp) (Int32.ofNat k) = some q ∧ cst T q [11] = true ∧ isO T q 11 = true ∧ c_J14_intValue T q = some (ePy e k)) ∧ (∃ fo, oQ T (some rl) 1 6 = some fo ∧ match eRg e with
    | none => fo = none
    | some r => fo ≠ none ∧ ∀ f, VaAt T va f → c_of G OFU T fo (some va) = some (r f)) ∧ (∃ fo, oQ T (some rl) 1 7 = some fo ∧ match eRb e with
    | none => fo = none
    | some r => fo ≠ none ∧ ∀ f, VaAt T va f → c_of G OFU T fo (some va) = some (r f)) ∧ isO T (some o) 0 = true
/-- the environment, whatever happens within E -/
def Ev (E : Nat → Prop) (G : xG) (T : xF) (o rl va bb : Nat) (e : En) : Prop := ∀ T', frc E T T' → EvN G T' o rl va bb e
theorem Ev.monc {E : Nat → Prop} {G : xG} {T T' : xF} {o rl va bb : Nat} {e : En} (h : Ev E G T o rl va bb e) (k : frc E T T') : Ev E G T' o rl va bb e := fun T2 q => h T2 (k.tr q)
theorem Ev.mono {E : Nat → Prop} {G : xG} {T T' : xF} {o rl va bb : Nat} {e : En} (h : Ev E G T o rl va bb e) (k : frm E T T') : Ev E G T' o rl va bb e := h.monc k.c
theorem Ev.sub {E F : Nat → Prop} {G : xG} {T : xF} {o rl va bb : Nat} {e : En} (h : Ev E G T o rl va bb e) (k : ∀ x, F x → E x) : Ev F G T o rl va bb e := fun T2 q => h T2 (q.up k)
section EV
variable {E : Nat → Prop} {G : xG} {T : xF} {o rl va bb : Nat} {e : En}
theorem Ev.now (h : Ev E G T o rl va bb e) : EvN G T o rl va bb e := h T frc.rf
theorem Ev.val (h : Ev E G T o rl va bb e) : oQ T (some o) 0 0 = some (some va) := h.now.1
theorem Ev.rol (h : Ev E G T o rl va bb e) : oQ T (some o) 0 1 = some (some rl) := h.now.2.1
theorem Ev.bef (h : Ev E G T o rl va bb e) : oQ T (some o) 0 2 = some (some bb) := h.now.2.2.1
theorem Ev.isr (h : Ev E G T o rl va bb e) : isO T (some rl) 1 = true := h.now.2.2.2.1
theorem Ev.w (h : Ev E G T o rl va bb e) : oI T (some rl) 1 2 = some (eW e) := h.now.2.2.2.2.1
theorem Ev.h (h : Ev E G T o rl va bb e) : oI T (some rl) 1 3 = some (eH e) := h.now.2.2.2.2.2.1
theorem Ev.a (h : Ev E G T o rl va bb e) : oI T (some rl) 1 4 = some (eA e) := h.now.2.2.2.2.2.2.1
theorem Ev.s (h : Ev E G T o rl va bb e) : oI T (some rl) 1 5 = some (eS e) := h.now.2.2.2.2.2.2.2.1
theorem Ev.wm (h : Ev E G T o rl va bb e) : ∀ d, d < 2000 → c_X2_warmth T (some rl) (Int32.ofNat d) = some (eWm e d) := h.now.2.2.2.2.2.2.2.2.1
theorem Ev.pa (h : Ev E G T o rl va bb e) : ∃ lp, oQ T (some rl) 1 0 = some (some lp) ∧ isO T (some lp) 10 = true ∧ c_J2_size T (some lp) = some (Int32.ofNat (eP e)) ∧ c_J2_isEmpty T (some lp) = some (b01 (eP e == 0)) ∧ ∀ k, k < eP e → ∃ q, c_J2_get T (some lp) (Int32.ofNat k) = some q ∧ cst T q [11] = true ∧ isO T q 11 = true ∧ c_J14_intValue T q = some (ePy e k) := h.now.2.2.2.2.2.2.2.2.2.1
theorem Ev.rg (h : Ev E G T o rl va bb e) : ∃ fo, oQ T (some rl) 1 6 = some fo ∧ match eRg e with
    | none => fo = none
    | some r => fo ≠ none ∧ ∀ f, VaAt T va f → c_of G OFU T fo (some va) = some (r f) := h.now.2.2.2.2.2.2.2.2.2.2.1
theorem Ev.rb (h : Ev E G T o rl va bb e) : ∃ fo, oQ T (some rl) 1 7 = some fo ∧ match eRb e with
    | none => fo = none
    | some r => fo ≠ none ∧ ∀ f, VaAt T va f → c_of G OFU T fo (some va) = some (r f) := h.now.2.2.2.2.2.2.2.2.2.2.2.1
theorem Ev.iso (h : Ev E G T o rl va bb e) : isO T (some o) 0 = true := h.now.2.2.2.2.2.2.2.2.2.2.2.2
theorem Ev.cells (h : Ev E G T o rl va bb e) (ok : EnOK e) : c_X2_cells T (some rl) = some (Int32.ofNat (eN e)) := by
  rw [e_cells h.w h.h, ok.mul]
theorem Ev.steps (h : Ev E G T o rl va bb e) (ok : EnOK e) (a b : Int32) : c_X2_steps T (some rl) a b = some (stp (eW e) a b) := e_steps h.w ok.w0 a b
end EV
theorem xset_eq {h : xH} {a : Nat} {c : Bool × xC} : xset h a c a = some c := by unfold xset; rw [if_pos rfl]
theorem xset_no {h : xH} {a b : Nat} {c : Bool × xC} (n : b ≠ a) : xset h a c b = h b := by unfold xset; rw [if_neg n]
theorem inb_ofn {i n : Nat} (hi : i < n) (h : i < 100) : inb (Int32.ofNat i) n = true := by
  obtain ⟨q1, q2, -⟩ := ofn i h
  unfold inb
  refine decide_eq_true fun q => ?_
  rcases q with q | q
  · exact q2 q
  · omega
theorem VaAt.st {T : xF} {va : Nat} {f : Nat → Int32} (h : VaAt T va f) {k : Nat} (hk : k < 7) (v : Int32) : ∃ T', stA T (some va) .int (Int32.ofNat k) v = some T' ∧ frm (fun x => x = va) T T' ∧ VaAt T' va (upd f k v) := by
  refine ⟨(xset T.1 va (true, .inl (.int, 7, .inl (upd f k v))), T.2), ?_, ⟨rfl, fun x hx => xset_no hx⟩, xset_eq⟩
  unfold stA
  unfold VaAt at h
  simp -implicitDefEqProofs only [h]
  rw [if_pos ⟨trivial, inb_ofn hk (by omega)⟩, (ofn k (by omega)).1]
theorem VaAt.fr {E : Nat → Prop} {T T' : xF} {va : Nat} {f : Nat → Int32} (h : VaAt T va f) (k : frm E T T') (hn : ¬ E va) : VaAt T' va f := by
  unfold VaAt at h ⊢
  rw [k.2 va hn]
  exact h
theorem arr30.fr {E : Nat → Prop} {T T' : xF} {a : Nat} {f : Nat → Int32} (h : arr30 T a f) (k : frm E T T') (hn : ¬ E a) : arr30 T' a f := by
  obtain ⟨f0, h1, h2⟩ := h
  exact ⟨f0, by rw [k.2 a hn]; exact h1, h2⟩
theorem arr30.st {T : xF} {a : Nat} {f : Nat → Int32} (h : arr30 T a f) {i : Nat} (hi : i < 30) (v : Int32) : ∃ T', stA T (some a) .int (Int32.ofNat i) v = some T' ∧ frm (fun x => x = a) T T' ∧ arr30 T' a (upd f i v) := by
  obtain ⟨f0, h1, h2⟩ := h
  refine ⟨(xset T.1 a (true, .inl (.int, 30, .inl (upd f0 i v))), T.2), ?_, ⟨rfl, fun x hx => xset_no hx⟩, ⟨upd f0 i v, xset_eq, fun c hc => ?_⟩⟩
  · unfold stA
    simp -implicitDefEqProofs only [h1]
    rw [if_pos ⟨trivial, inb_ofn hi (by omega)⟩, (ofn i (by omega)).1]
  · unfold upd
    rw [h2 c hc]
theorem arr30.cg {T : xF} {a : Nat} {f f' : Nat → Int32} (h : arr30 T a f) (k : ∀ c, c < 30 → f c = f' c) : arr30 T a f' := by
  obtain ⟨f0, h1, h2⟩ := h
  exact ⟨f0, h1, fun c hc => (h2 c hc).trans (k c hc)⟩
/-- the five cells of a growth -/
def bk (a : Nat) : Nat → Prop := fun x => a ≤ x ∧ x < a + 5
section GR2
variable {T : xF} {a o : Nat} {g : Gw} {i : Nat}
theorem GrAt.fr {E : Nat → Prop} {T' : xF} (h : GrAt T a o g) (k : frm E T T') (hn : ∀ x, bk a x → ¬ E x) : GrAt T' a o g := by
  obtain ⟨h0, h1, h2, h3, h4⟩ := h
  have q : ∀ j, j < 5 → ¬ E (a + j) := fun j hj => hn _ ⟨by omega, by omega⟩
  refine ⟨?_, h1.fr k (q 1 (by omega)), h2.fr k (q 2 (by omega)), h3.fr k (q 3 (by omega)), h4.fr k (q 4 (by omega))⟩
  rw [k.2 a (q 0 (by omega))]
  exact h0
theorem GrAt.cg {g' : Gw} (h : GrAt T a o g) (hd : ∀ c, c < 30 → gD g c = gD g' c) (hf : ∀ c, c < 30 → gF g c = gF g' c) (hk : ∀ c, c < 30 → gK g c = gK g' c) (hz : ∀ c, c < 30 → gZ g c = gZ g' c) (hy : gY g = gY g') : GrAt T a o g' := by
  obtain ⟨h0, h1, h2, h3, h4⟩ := h
  exact ⟨by rw [← hy]; exact h0, h1.cg hd, h2.cg hf, h3.cg hk, h4.cg hz⟩
theorem GrAt.ldD (h : GrAt T a o g) (hi : i < 30) : ldA T (some (a + 1)) .int (Int32.ofNat i) = some (gD g i) := arr30_ld h.2.1 hi (ofn i (by omega)).1 (ofn i (by omega)).2.1
theorem GrAt.ldF (h : GrAt T a o g) (hi : i < 30) : ldA T (some (a + 2)) .int (Int32.ofNat i) = some (gF g i) := arr30_ld h.2.2.1 hi (ofn i (by omega)).1 (ofn i (by omega)).2.1
theorem GrAt.ldK (h : GrAt T a o g) (hi : i < 30) : ldA T (some (a + 3)) .int (Int32.ofNat i) = some (gK g i) := arr30_ld h.2.2.2.1 hi (ofn i (by omega)).1 (ofn i (by omega)).2.1
theorem GrAt.ldZ (h : GrAt T a o g) (hi : i < 30) : ldA T (some (a + 4)) .int (Int32.ofNat i) = some (gZ g i) := arr30_ld h.2.2.2.2 hi (ofn i (by omega)).1 (ofn i (by omega)).2.1
theorem GrAt.stD (h : GrAt T a o g) (hi : i < 30) (v : Int32) : ∃ T', stA T (some (a + 1)) .int (Int32.ofNat i) v = some T' ∧ frm (fun x => x = a + 1) T T' ∧ GrAt T' a o (upd (gD g) i v, gF g, gK g, gZ g, gY g) := by
  obtain ⟨h0, h1, h2, h3, h4⟩ := h
  obtain ⟨T', e, f, k⟩ := h1.st hi v
  exact ⟨T', e, f, by rw [f.2 a (by omega)]; exact h0, k, h2.fr f (by omega), h3.fr f (by omega), h4.fr f (by omega)⟩
theorem GrAt.stF (h : GrAt T a o g) (hi : i < 30) (v : Int32) : ∃ T', stA T (some (a + 2)) .int (Int32.ofNat i) v = some T' ∧ frm (fun x => x = a + 2) T T' ∧ GrAt T' a o (gD g, upd (gF g) i v, gK g, gZ g, gY g) := by
  obtain ⟨h0, h1, h2, h3, h4⟩ := h
  obtain ⟨T', e, f, k⟩ := h2.st hi v
  exact ⟨T', e, f, by rw [f.2 a (by omega)]; exact h0, h1.fr f (by omega), k, h3.fr f (by omega), h4.fr f (by omega)⟩
theorem GrAt.stK (h : GrAt T a o g) (hi : i < 30) (v : Int32) : ∃ T', stA T (some (a + 3)) .int (Int32.ofNat i) v = some T' ∧ frm (fun x => x = a + 3) T T' ∧ GrAt T' a o (gD g, gF g, upd (gK g) i v, gZ g, gY g) := by
  obtain ⟨h0, h1, h2, h3, h4⟩ := h
  obtain ⟨T', e, f, k⟩ := h3.st hi v
  exact ⟨T', e, f, by rw [f.2 a (by omega)]; exact h0, h1.fr f (by omega), h2.fr f (by omega), k, h4.fr f (by omega)⟩
theorem GrAt.stZ (h : GrAt T a o g) (hi : i < 30) (v : Int32) : ∃ T', stA T (some (a + 4)) .int (Int32.ofNat i) v = some T' ∧ frm (fun x => x = a + 4) T T' ∧ GrAt T' a o (gD g, gF g, gK g, upd (gZ g) i v, gY g) := by
  obtain ⟨h0, h1, h2, h3, h4⟩ := h
  obtain ⟨T', e, f, k⟩ := h4.st hi v
  exact ⟨T', e, f, by rw [f.2 a (by omega)]; exact h0, h1.fr f (by omega), h2.fr f (by omega), h3.fr f (by omega), k⟩
theorem GrAt.stY (h : GrAt T a o g) (v : Int32) : ∃ T', pV T (some a) 2 4 (.int v) = some T' ∧ frm (fun x => x = a) T T' ∧ GrAt T' a o (gD g, gF g, gK g, gZ g, v) := by
  obtain ⟨h0, h1, h2, h3, h4⟩ := h
  have f : frm (fun x => x = a) T (xset T.1 a (true, .inr (2, [va_rf (some (a + 1)), va_rf (some (a + 2)), va_rf (some (a + 3)), va_rf (some (a + 4)), .int v, va_rf (some o)])), T.2) := ⟨rfl, fun x hx => xset_no hx⟩
  refine ⟨(xset T.1 a (true, .inr (2, [va_rf (some (a + 1)), va_rf (some (a + 2)), va_rf (some (a + 3)), va_rf (some (a + 4)), .int v, va_rf (some o)])), T.2), ?_, f, xset_eq, h1.fr f (by omega), h2.fr f (by omega), h3.fr f (by omega), h4.fr f (by omega)⟩
  unfold pV
  simp -implicitDefEqProofs only [h0, if_true]
  rfl
end GR2
