/-! plain law: a growth in the heap -/
set_option maxRecDepth 100000
abbrev Gw : Type := (Nat → Int32) × (Nat → Int32) × (Nat → Int32) × (Nat → Int32) × Int32
def gD (g : Gw) : Nat → Int32 := g.1
def gF (g : Gw) : Nat → Int32 := g.2.1
def gK (g : Gw) : Nat → Int32 := g.2.2.1
def gZ (g : Gw) : Nat → Int32 := g.2.2.2.1
def gY (g : Gw) : Int32 := g.2.2.2.2
section MK
variable (d f k z : Nat → Int32) (y : Int32)
theorem gD_mk : gD (d, f, k, z, y) = d := rfl
theorem gF_mk : gF (d, f, k, z, y) = f := rfl
theorem gK_mk : gK (d, f, k, z, y) = k := rfl
theorem gZ_mk : gZ (d, f, k, z, y) = z := rfl
theorem gY_mk : gY (d, f, k, z, y) = y := rfl
end MK
def arr30 (T : xF) (a : Nat) (f : Nat → Int32) : Prop := ∃ f0 : Nat → Int32, T.1 a = some (true, .inl (.int, 30, .inl f0)) ∧ ∀ c, c < 30 → f0 c = f c
theorem arr30_ld {T : xF} {a : Nat} {f : Nat → Int32} (h : arr30 T a f) {i : Int32} {c : Nat} (hc : c < 30) (hi : i.toNatClampNeg = c) (h0 : ¬ i < 0) : ldA T (some a) .int i = some (f c) := by
  obtain ⟨f0, h1, h2⟩ := h
  unfold ldA aA
  simp -implicitDefEqProofs only [h1, if_true, Option.bind_some]
  have hb : inb i 30 = true := decide_eq_true (fun q => q.elim h0 (fun q => by omega))
  rw [if_pos hb, hi, h2 c hc]
/-- the growth g lies at a, the system itself at o -/
def GrAt (T : xF) (a o : Nat) (g : Gw) : Prop := T.1 a = some (true, .inr (2, [va_rf (some (a + 1)), va_rf (some (a + 2)), va_rf (some (a + 3)), va_rf (some (a + 4)), .int (gY g), va_rf (some o)])) ∧ arr30 T (a + 1) (gD g) ∧ arr30 T (a + 2) (gF g) ∧ arr30 T (a + 3) (gK g) ∧ arr30 T (a + 4) (gZ g)
section GR
variable {T : xF} {a o : Nat} {g : Gw}
theorem GrAt.o0 (h : GrAt T a o g) : oQ T (some a) 2 0 = some (some (a + 1)) := by unfold oQ oF; simp [h.1, vQ, va_rf]
theorem GrAt.o1 (h : GrAt T a o g) : oQ T (some a) 2 1 = some (some (a + 2)) := by unfold oQ oF; simp [h.1, vQ, va_rf]
theorem GrAt.o2 (h : GrAt T a o g) : oQ T (some a) 2 2 = some (some (a + 3)) := by unfold oQ oF; simp [h.1, vQ, va_rf]
theorem GrAt.o3 (h : GrAt T a o g) : oQ T (some a) 2 3 = some (some (a + 4)) := by unfold oQ oF; simp [h.1, vQ, va_rf]
theorem GrAt.o4 (h : GrAt T a o g) : oI T (some a) 2 4 = some (gY g) := by unfold oI oF; simp [h.1, vI]
theorem GrAt.o5 (h : GrAt T a o g) : oQ T (some a) 2 5 = some (some o) := by unfold oQ oF; simp [h.1, vQ, va_rf]
theorem GrAt.is (h : GrAt T a o g) : isO T (some a) 2 = true := by rw [isO.eq_1]; unfold oF; simp [h.1]
end GR
