/-! plain law: thirty cells in one number -/
set_option maxRecDepth 100000
def CeOK (ce : Int32) (C : Nat → Bool) : Prop := ∀ i, i < 32 → ce.toBitVec.getLsbD i = (decide (i < 30) && C i)
theorem sm32 : ∀ c, c < 30 → ((Int32.ofNat c &&& 31).toBitVec.smod 32#32) = BitVec.ofNat 32 c ∧ (BitVec.ofNat 32 c).toNat = c := by decide +kernel
theorem bit_one {x : BitVec 32} : x &&& 1#32 = 1#32 ↔ x.getLsbD 0 = true := by
  refine ⟨fun h => ?_, fun h => ?_⟩
  · have : (x &&& 1#32).getLsbD 0 = (1#32).getLsbD 0 := congrArg (fun (z : BitVec 32) => z.getLsbD 0) h
    rw [BitVec.getLsbD_and] at this
    revert this
    cases x.getLsbD 0 <;> decide
  · apply BitVec.eq_of_getLsbD_eq
    intro i hi
    rw [BitVec.getLsbD_and]
    by_cases q : i = 0
    · subst q
      rw [h]; rfl
    · have : (1#32).getLsbD i = false := by
        rw [BitVec.getLsbD_one]
        simp [q]
      rw [this, Bool.and_false]
theorem ce_bit {ce : Int32} {C : Nat → Bool} (h : CeOK ce C) {c : Nat} (hc : c < 30) : ((ce >>> (Int32.ofNat c &&& 31)) &&& (1 : Int32)) = 1 ↔ C c = true := by
  rw [← Int32.toBitVec_inj, Int32.toBitVec_and, Int32.toBitVec_shiftRight]
  obtain ⟨s1, s2⟩ := sm32 c hc
  have e1 : (1 : Int32).toBitVec = 1#32 := by decide
  have e2 : ((Int32.ofNat c &&& 31).toBitVec.smod 32) = BitVec.ofNat 32 c := s1
  rw [e1, e2, bit_one, BitVec.sshiftRight_eq', s2, BitVec.getLsbD_sshiftRight, Nat.add_zero, h c (by omega)]
  have : c < 32 := by omega
  simp [hc, this]
theorem ce_set {ce : Int32} {C : Nat → Bool} (h : CeOK ce C) {c : Nat} (hc : c < 30) : CeOK (ce ||| ((1 : Int32) <<< (Int32.ofNat c &&& 31))) (fun i => if i = c then true else C i) := by
  intro i hi
  obtain ⟨s1, s2⟩ := sm32 c hc
  have e2 : ((Int32.ofNat c &&& 31).toBitVec.smod 32) = BitVec.ofNat 32 c := s1
  have e1 : (1 : Int32).toBitVec = 1#32 := by decide
  rw [Int32.toBitVec_or, Int32.toBitVec_shiftLeft, e2, e1, BitVec.shiftLeft_eq', s2, BitVec.getLsbD_or, h i hi, BitVec.getLsbD_shiftLeft, BitVec.getLsbD_one]
  by_cases q : i = c
  · subst q
    simp [hc, hi]
  · show _ = (decide (i < 30) && if i = c then true else C i)
    rw [if_neg q]
    by_cases z : i < c
    · simp [z, hi]
    · have : ¬ i - c = 0 := by omega
      simp [this, hi]
theorem ce_0 {ce : Int32} {C : Nat → Bool} (h : CeOK ce C) : ce = 0 ↔ ∀ c, c < 30 → C c = false := by
  refine ⟨fun q c hc => ?_, fun q => ?_⟩
  · have := h c (by omega)
    rw [q] at this
    have z : (0 : Int32).toBitVec.getLsbD c = false := by
      rw [show (0 : Int32).toBitVec = 0#32 by decide]
      exact BitVec.getLsbD_zero
    rw [z] at this
    simp [hc] at this
    exact this
  · rw [← Int32.toBitVec_inj]
    apply BitVec.eq_of_getLsbD_eq
    intro i hi
    rw [h i hi]
    have z : (0 : Int32).toBitVec.getLsbD i = false := by
      rw [show (0 : Int32).toBitVec = 0#32 by decide]
      exact BitVec.getLsbD_zero
    rw [z]
    by_cases r : i < 30
    · rw [q i r, Bool.and_false]
    · simp [r]
theorem ce_none : CeOK 0 (fun _ => false) := by
  intro i hi
  rw [show (0 : Int32).toBitVec = 0#32 by decide, Bool.and_false]
  exact BitVec.getLsbD_zero
theorem e_isOf {ce : Int32} {C : Nat → Bool} (h : CeOK ce C) {c : Nat} (hc : c < 30) : c_X1_isOf ce (Int32.ofNat c) = some (if C c = true then 1 else 0) := by
  unfold c_X1_isOf
  by_cases q : C c = true
  · rw [if_pos ((ce_bit h hc).mpr q), if_pos q]
  · rw [if_neg (fun z => q ((ce_bit h hc).mp z)), if_neg q]
/-- six bits -/
theorem e_isOf6 : ∀ D, D < 64 → ∀ i, i < 6 → c_X1_isOf (Int32.ofNat D) (Int32.ofNat i) = some (if D.testBit i = true then 1 else 0) := by decide +kernel
theorem or_6 : ∀ D, D < 64 → ∀ i, i < 6 → Int32.ofNat D ||| ((1 : Int32) <<< (Int32.ofNat i &&& 31)) = Int32.ofNat (D ||| 2 ^ i) := by decide +kernel
