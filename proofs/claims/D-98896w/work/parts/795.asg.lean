/-! what may lie in an array of objects -/
set_option maxRecDepth 100000
theorem asg_null {T : xF} {E : String} : asg T (.object E) none = true := rfl
theorem asg_o {T : xF} {q : Nat} {w : Bool} {ci : Nat} {fs : List Value} (h : T.1 q = some (w, .inr (ci, fs))) (hc : ci = 2 ∨ ci = 6 ∨ ci = 7 ∨ ci = 8 ∨ ci = 9 ∨ ci = 11) : asg T (.object "java/lang/Object") (some q) = true := by
  unfold asg
  simp only [h]
  rcases hc with rfl | rfl | rfl | rfl | rfl | rfl
  · show (decide (RX3 = "java/lang/Object") || decide (Cond.castable RX3 "java/lang/Object" ∈ lw_tbl)) = true
    rw [Bool.or_eq_true]
    exact Or.inr (decide_eq_true q2241)
  · show (decide (RX7 = "java/lang/Object") || decide (Cond.castable RX7 "java/lang/Object" ∈ lw_tbl)) = true
    rw [Bool.or_eq_true]
    exact Or.inr (decide_eq_true q2247)
  · show (decide (RX8 = "java/lang/Object") || decide (Cond.castable RX8 "java/lang/Object" ∈ lw_tbl)) = true
    rw [Bool.or_eq_true]
    exact Or.inr (decide_eq_true q2248)
  · show (decide (RX9 = "java/lang/Object") || decide (Cond.castable RX9 "java/lang/Object" ∈ lw_tbl)) = true
    rw [Bool.or_eq_true]
    exact Or.inr (decide_eq_true q2249)
  · show (decide (RX10 = "java/lang/Object") || decide (Cond.castable RX10 "java/lang/Object" ∈ lw_tbl)) = true
    rw [Bool.or_eq_true]
    exact Or.inr (decide_eq_true q2251)
  · show (decide (RJ14 = "java/lang/Object") || decide (Cond.castable RJ14 "java/lang/Object" ∈ lw_tbl)) = true
    rw [Bool.or_eq_true]
    exact Or.inr (decide_eq_true q2246)
theorem asg_i {T : xF} {q n : Nat} {f : Nat → Int32} (h : T.1 q = some (true, .inl (.int, n, .inl f))) : asg T (.object "java/lang/Object") (some q) = true := by
  unfold asg
  simp only [h]
  have e : ("[" ++ (FieldType.int).toString) = "[I" := by decide
  rw [Bool.and_eq_true, e]
  exact ⟨decide_eq_true trivial, decide_eq_true q2256⟩
theorem asg_s {T : xF} {q : Nat} {w : Bool} {fs : List Value} (h : T.1 q = some (w, .inr (15, fs))) : asg T (.object "java/lang/String") (some q) = true := by
  unfold asg
  simp only [h]
  show (decide ("java/lang/String" = "java/lang/String") || decide (Cond.castable "java/lang/String" "java/lang/String" ∈ lw_tbl)) = true
  rw [decide_eq_true rfl, Bool.true_or]
