/-! plain law: small functions -/
set_option maxRecDepth 100000
def iabs (x : Int32) : Int32 := if 0 ≤ x then x else -x
def imin (a b : Int32) : Int32 := if b < a then b else a
def imax (a b : Int32) : Int32 := if a < b then b else a
theorem e_abs (x : Int32) : c_J7_abs x = some (iabs x) := by
  unfold c_J7_abs iabs
  split <;> rfl
theorem e_min (a b : Int32) : c_J7_min a b = some (imin a b) := by
  unfold c_J7_min imin
  split <;> rfl
theorem e_max (a b : Int32) : c_J7_max a b = some (imax a b) := by
  unfold c_J7_max imax
  split <;> rfl
def iin (v a b : Int32) : Bool := decide (¬ v < a) && decide (¬ b < v)
def b01 (b : Bool) : Int32 := if b then 1 else 0
theorem e_in (v a b : Int32) : c_X1_in v a b = some (b01 (iin v a b)) := by
  unfold c_X1_in b01 iin
  by_cases h1 : v < a
  · rw [if_pos h1]; simp [h1]
  · rw [if_neg h1]
    by_cases h2 : b < v
    · rw [if_pos h2]; simp [h2]
    · rw [if_neg h2]; simp [h1, h2]
/-- steps between two cells -/
def stp (w a b : Int32) : Int32 := iabs (a / w - b / w) + iabs ((a - a / w * w) - (b - b / w * w))
theorem e_cells {T : xF} {r : Option Nat} {w h : Int32} (hw : oI T r 1 2 = some w) (hh : oI T r 1 3 = some h) : c_X2_cells T r = some (w * h) := by
  unfold c_X2_cells
  rw [hw, Option.bind_some, hh, Option.bind_some]
theorem e_steps {T : xF} {r : Option Nat} {w : Int32} (hw : oI T r 1 2 = some w) (h0 : ¬ w = 0) (a b : Int32) : c_X2_steps T r a b = some (stp w a b) := by
  unfold c_X2_steps
  simp -implicitDefEqProofs only [hw, Option.bind_some, if_neg h0, e_abs]
  rfl
