/-! plain law: the reference's steps between two cells -/
set_option maxRecDepth 100000
def far (w a b : Int32) : Int32 := (if 0 ≤ ((a - a / w * w) - (b - b / w * w)) then ((a - a / w * w) - (b - b / w * w)) else 0 - ((a - a / w * w) - (b - b / w * w))) + (if 0 ≤ (a / w - b / w) then (a / w - b / w) else 0 - (a / w - b / w))
theorem m_far_eq {S : MS} {w : Int32} (hw : S.1 1 = w) (h0 : ¬ w = 0) (a b : Int32) : m_far a b S = some (far w a b) := by
  unfold m_far far m_far_40
  simp -implicitDefEqProofs only [hw, if_neg h0]
  split <;> split <;> rfl
theorem stp_far : ∀ w, w < 7 → ∀ a, a < 30 → ∀ b, b < 30 → stp (Int32.ofNat w) (Int32.ofNat a) (Int32.ofNat b) = far (Int32.ofNat w) (Int32.ofNat b) (Int32.ofNat a) := by decide +kernel
