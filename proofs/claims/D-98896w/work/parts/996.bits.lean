/-! plain law: sets of cells as bits -/
set_option maxRecDepth 100000
def bi (a : Int32) (c : Nat) : Bool := a.toBitVec.getLsbD c
theorem b_sh : ∀ c, c < 32 → Int32.ofNat c &&& 31 = Int32.ofNat c := by decide
theorem b_sm : ∀ c, c < 32 → ((Int32.ofNat c).toBitVec.smod 32).toNat = c := by decide
theorem b_test {a : Int32} {c : Nat} (hc : c < 32) : ((a >>> (Int32.ofNat c &&& 31)) &&& 1) = 1 ↔ bi a c = true := by
  rw [b_sh c hc]
  have h1 : ((a >>> Int32.ofNat c) &&& 1).toBitVec = if bi a c = true then 1#32 else 0#32 := by
    rw [Int32.toBitVec_and, Int32.toBitVec_shiftRight]
    apply BitVec.eq_of_getLsbD_eq
    intro i hi
    rw [BitVec.getLsbD_and]
    have h1 : (1 : Int32).toBitVec = 1#32 := rfl
    rw [h1]
    by_cases h0 : i = 0
    · subst h0
      rw [BitVec.sshiftRight_eq', b_sm c hc, BitVec.getLsbD_sshiftRight]
      unfold bi
      cases h : a.toBitVec.getLsbD c <;> simp [h, hc]
    · have e : (1#32).getLsbD i = false := by
        rw [BitVec.getLsbD_one]
        simp [h0]
      rw [e, Bool.and_false]
      split
      · exact e.symm
      · simp
  rw [← Int32.toBitVec_inj, h1]
  cases h : bi a c <;> simp
theorem b_shl : ∀ c, c < 32 → ((1 : Int32) <<< Int32.ofNat c).toBitVec = (1#32 <<< c) := by decide
theorem b_set {a : Int32} {c d : Nat} (hc : c < 32) (hd : d < 32) : bi (a ||| ((1 : Int32) <<< (Int32.ofNat c &&& 31))) d = (bi a d || decide (d = c)) := by
  rw [b_sh c hc]
  unfold bi
  rw [Int32.toBitVec_or, BitVec.getLsbD_or, b_shl c hc]
  congr 1
  have : ∀ c, c < 32 → ∀ d, d < 32 → (1#32 <<< c).getLsbD d = decide (d = c) := by decide +kernel
  exact this c hc d hd
theorem b_ext {a b : Int32} (h : ∀ d, d < 32 → bi a d = bi b d) : a = b := by
  rw [← Int32.toBitVec_inj]
  apply BitVec.eq_of_getLsbD_eq
  exact h
theorem b_0 (d : Nat) : bi 0 d = false := by
  show (0#32).getLsbD d = false
  simp
/-- what isn't in a set -/
def wht (s : Int32) (n : Nat) : Nat := sumN (fun d => if bi s d = true then 0 else 1) n
theorem wht_le {s t : Int32} : ∀ n, (∀ d, d < n → bi s d = true → bi t d = true) → wht t n ≤ wht s n := by
  intro n
  induction n with
  | zero => exact fun _ => Nat.le_refl _
  | succ n ih =>
    intro h
    have h1 := ih fun d hd => h d (by omega)
    show wht t n + (if bi t n = true then 0 else 1) ≤ wht s n + (if bi s n = true then 0 else 1)
    have h2 := h n (by omega)
    by_cases c : bi s n = true
    · rw [if_pos c, if_pos (h2 c)]; omega
    · rw [if_neg c]; split <;> omega
theorem wht_lt {s t : Int32} {c : Nat} : ∀ n, c < n → bi t c = true → ¬ bi s c = true → (∀ d, d < n → bi s d = true → bi t d = true) → wht t n + 1 ≤ wht s n := by
  intro n
  induction n with
  | zero => intro h; omega
  | succ n ih =>
    intro hc h1 h2 h
    show wht t n + (if bi t n = true then 0 else 1) + 1 ≤ wht s n + (if bi s n = true then 0 else 1)
    by_cases e : c = n
    · subst e
      rw [if_pos h1, if_neg h2]
      have := wht_le (s := s) (t := t) c fun d hd => h d (by omega)
      omega
    · have h3 := ih (by omega) h1 h2 fun d hd => h d (by omega)
      have h4 := h n (by omega)
      by_cases k : bi s n = true
      · rw [if_pos k, if_pos (h4 k)]; omega
      · rw [if_neg k]; split <;> omega
theorem wht_0 : ∀ n, wht 0 n = n := by
  intro n
  induction n with
  | zero => rfl
  | succ n ih =>
    show wht 0 n + (if bi 0 n = true then 0 else 1) = n + 1
    rw [ih, b_0]
    rfl
/-- cells of one kind beside each other -/
def nbr (s : St) (c x y : Nat) : Prop := y < eN (sE s) ∧ stp (eW (sE s)) (Int32.ofNat y) (Int32.ofNat x) = 1 ∧ gK (sG s) y = gK (sG s) c
/-- come to in so many steps -/
def Di (s : St) (c : Nat) : Nat → Nat → Prop
  | 0, x => x = c
  | k + 1, x => Di s c k x ∨ ∃ y, Di s c k y ∧ nbr s c y x
theorem Di.up {s : St} {c x : Nat} : ∀ {k m}, k ≤ m → Di s c k x → Di s c m x := by
  intro k m h
  induction m with
  | zero =>
    intro d
    have : k = 0 := by omega
    subst this
    exact d
  | succ m ih =>
    intro d
    by_cases e : k = m + 1
    · subst e; exact d
    · exact Or.inl (ih (by omega) d)
section CM
variable {G : xG} {T T1 : xF} {o : Nat} {s s' : St} {A A' : Ad} {S S1 : MS} {g : Gw}
/-- what comes of spreading from a cell with a set -/
abbrev SpQ (s : St) (c0 : Nat) (set : Int32) (cell : Nat) (r : Int32) : Prop := (∀ d, d < 32 → bi set d = true → bi r d = true) ∧ bi r cell = true ∧ (∀ d, d < 32 → bi r d = true → bi set d = true ∨ d < eN (sE s) ∧ gK (sG s) d = gK (sG s) c0 ∧ Di s c0 (eN (sE s)) d) ∧ (∀ d, d < 32 → bi r d = true → ¬ bi set d = true → ∀ y, nbr s c0 d y → bi r y = true) ∧ ∀ d, eN (sE s) ≤ d → d < 32 → bi r d = false
theorem e_spread (ok : StOK s) (h : CIa G T o s A) (c0 : Nat) : ∀ m, ∀ cell set j, cell < eN (sE s) → gK (sG s) cell = gK (sG s) c0 → Di s c0 j cell → j + wht set (eN (sE s)) ≤ eN (sE s) → ¬ bi set cell = true → wht set (eN (sE s)) ≤ m → (∀ d, eN (sE s) ≤ d → d < 32 → bi set d = false) → ∃ r, cS T m (some o) (Int32.ofNat cell) set = some r ∧ SpQ s c0 set cell r := by
  have hn := ok.1.n30
  intro m
  induction m with
  | zero =>
    intro cell set j h1 h2 h3 h4 h5 h6 h7
    exfalso
    have := wht_lt (s := set) (t := set ||| ((1 : Int32) <<< (Int32.ofNat cell &&& 31))) (c := cell) (eN (sE s)) h1 (by rw [b_set (by omega) (by omega)]; simp) h5 (fun d hd q => by rw [b_set (by omega) (by omega), q]; rfl)
    omega
  | succ m ih =>
    intro cell set j h1 h2 h3 h4 h5 h6 h7
    have bs : ∀ d, d < 32 → bi (set ||| ((1 : Int32) <<< (Int32.ofNat cell &&& 31))) d = (bi set d || decide (d = cell)) := fun d hd => b_set (by omega) hd
    have w1 := wht_lt (s := set) (t := set ||| ((1 : Int32) <<< (Int32.ofNat cell &&& 31))) (c := cell) (eN (sE s)) h1 (by rw [bs _ (by omega)]; simp) h5 (fun d hd q => by rw [bs _ (by omega), q]; rfl)
    show ∃ r, c_X1_spread (cS T m) T (some o) (Int32.ofNat cell) set = some r ∧ SpQ s c0 set cell r
    unfold c_X1_spread
    have c3 : cell < 30 := by omega
    refine loop_rule (σ := Int32) (N := eN (sE s)) (fun i al => (∀ d, d < 32 → bi set d = true ∨ d = cell → bi al d = true) ∧ (∀ d, d < 32 → bi al d = true → bi set d = true ∨ d < eN (sE s) ∧ gK (sG s) d = gK (sG s) c0 ∧ Di s c0 (eN (sE s)) d) ∧ (∀ d, d < 32 → bi al d = true → ¬ bi set d = true → d ≠ cell → ∀ y, nbr s c0 d y → bi al y = true) ∧ (∀ y, y < i → nbr s c0 cell y → bi al y = true) ∧ ∀ d, eN (sE s) ≤ d → d < 32 → bi al d = false) (fun k i al => ∃ r, c_X1_spread_9 (cS T m) T k (some o) (Int32.ofNat cell) al (Int32.ofNat i) = some r ∧ SpQ s c0 set cell r) ?_ ?_ FU (by show eN (sE s) < 6000; omega) (set ||| ((1 : Int32) <<< (Int32.ofNat cell &&& 31))) ⟨fun d hd q => ?_, fun d hd q => ?_, fun d hd q1 q2 q3 => ?_, fun y hy => absurd hy (Nat.not_lt_zero y), fun d hd q => ?_⟩
    · rintro k i al hi ⟨q1, q2, q3, q4, q5⟩ K
      have i3 : i < 30 := by omega
      show ∃ r, c_X1_spread_9_b (cS T m) T (c_X1_spread_9 (cS T m) T k) (some o) (Int32.ofNat cell) al (Int32.ofNat i) = some r ∧ SpQ s c0 set cell r
      unfold c_X1_spread_9_b c_X1_isOf
      simp -implicitDefEqProofs only [leN hi hn, h.q1, h.isr, h.cells ok, h.evt.steps ok.1, h.q4, h.cc.o2, h.cc.ldK i3, h.cc.ldK c3, h.iso, c_X1_spread_74, ofn1 i (by omega), Option.bind_some, not_true_eq_false, if_false, if_true]
      have same : (nbr s c0 cell i → bi al i = true) → ∃ r, c_X1_spread_9 (cS T m) T k (some o) (Int32.ofNat cell) al (Int32.ofNat (i + 1)) = some r ∧ SpQ s c0 set cell r := fun q => K al ⟨q1, q2, q3, fun y hy hb => by
        by_cases e : y = i
        · subst e; exact q hb
        · exact q4 y (by omega) hb, q5⟩
      by_cases hb : bi al i = true
      · rw [if_pos (b_test (by omega) |>.mpr hb), Option.bind_some, if_neg (show ¬ (1 : Int32) = 0 by decide)]
        exact same fun _ => hb
      rw [if_neg (fun q => hb ((b_test (by omega)).mp q)), Option.bind_some, if_pos rfl]
      by_cases hs : stp (eW (sE s)) (Int32.ofNat i) (Int32.ofNat cell) = 1
      · rw [if_pos hs]
        by_cases hk : gK (sG s) i = gK (sG s) cell
        · rw [if_pos hk]
          have nb : nbr s c0 cell i := ⟨hi, hs, hk.trans h2⟩
          have w2 := wht_le (s := set ||| ((1 : Int32) <<< (Int32.ofNat cell &&& 31))) (t := al) (eN (sE s)) (fun d hd q => q1 d (by omega) (by rw [bs d (by omega)] at q; simpa using q))
          obtain ⟨r, e1, p1, p2, p3, p4, p5⟩ := ih i al (j + 1) hi (hk.trans h2) (Or.inr ⟨cell, h3, nb⟩) (by omega) hb (by omega) q5
          rw [e1, Option.bind_some]
          refine K r ⟨fun d hd q => p1 d hd (q1 d hd q), fun d hd q => ?_, fun d hd z1 z2 z3 y hy => ?_, fun y hy hb2 => ?_, p5⟩
          · rcases p3 d hd q with q | q
            · exact q2 d hd q
            · exact Or.inr q
          · by_cases e : bi al d = true
            · have := q3 d hd e z2 z3 y hy
              exact p1 y (by have := hy.1; omega) this
            · exact p4 d hd z1 e y hy
          · by_cases e : y = i
            · subst e; exact p2
            · exact p1 y (by have := hb2.1; omega) (q4 y (by omega) hb2)
        · rw [if_neg hk]
          exact same fun q => absurd (q.2.2.trans h2.symm) hk
      · rw [if_neg hs]
        exact same fun q => absurd q.2.1 hs
    · rintro k al ⟨q1, q2, q3, q4, q5⟩
      show ∃ r, c_X1_spread_9_b (cS T m) T (c_X1_spread_9 (cS T m) T k) (some o) (Int32.ofNat cell) al (Int32.ofNat (eN (sE s))) = some r ∧ SpQ s c0 set cell r
      unfold c_X1_spread_9_b
      simp -implicitDefEqProofs only [h.q1, h.isr, h.cells ok, Int32.le_refl, Option.bind_some, not_true_eq_false, if_false, if_true]
      refine ⟨al, rfl, fun d hd q => q1 d hd (Or.inl q), q1 cell (by omega) (Or.inr rfl), q2, fun d hd z1 z2 y hy => ?_, q5⟩
      by_cases e : d = cell
      · subst e; exact q4 y hy.1 hy
      · exact q3 d hd z1 z2 e y hy
    · rw [bs d hd]; rcases q with q | q <;> simp [q]
    · rw [bs d hd] at q
      by_cases e : bi set d = true
      · exact Or.inl e
      · have : d = cell := by simpa [e] using q
        subst this
        exact Or.inr ⟨h1, h2, h3.up (by omega)⟩
    · rw [bs d hd] at q1
      simp [q2, q3] at q1
    · rw [bs d q, h7 d hd q]
      have : ¬ d = cell := by omega
      simp [this]
end CM
