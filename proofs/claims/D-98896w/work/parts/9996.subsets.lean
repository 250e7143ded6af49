/-! plain law: sets of voters, the fewest steps -/
set_option maxRecDepth 100000
abbrev tb (l b : Nat) : Prop := l.testBit b = true
theorem tb_le {l b : Nat} (h : tb l b) : 2 ^ b ≤ l := by
  by_cases q : l < 2 ^ b
  · rw [tb, Nat.testBit_lt_two_pow q] at h; cases h
  · omega
theorem tb_co {n l b : Nat} (hl : l < 2 ^ n) (hb : b < n) : tb (2 ^ n - 1 - l) b ↔ ¬ tb l b := by
  unfold tb
  rw [show 2 ^ n - 1 - l = 2 ^ n - (l + 1) by omega, Nat.testBit_two_pow_sub_succ hl]
  simp [hb]
theorem tb_ex {n l : Nat} (hl : l < 2 ^ n) (h0 : 0 < l) : ∃ b, b < n ∧ tb l b := by
  obtain ⟨b, hb⟩ := Nat.exists_testBit_of_ne_zero (show l ≠ 0 by omega)
  refine ⟨b, ?_, hb⟩
  by_cases q : b < n
  · exact q
  · exfalso
    have := tb_le hb
    have := Nat.pow_le_pow_right (show 0 < 2 by decide) (show n ≤ b by omega)
    omega
theorem pw_n : ∀ n, n < 10 → (1 : Int32) <<< (Int32.ofNat n &&& 31) = Int32.ofNat (2 ^ n) ∧ 2 ^ n < 513 := by decide +kernel
theorem tb_of : ∀ b, b < 9 → ∀ l, l < 512 → c_X1_isOf (Int32.ofNat l) (Int32.ofNat b) = some (if tb l b then 1 else 0) := by decide +kernel
theorem tb_an : ∀ b, b < 9 → ∀ l, l < 512 → tb l b → Int32.ofNat l &&& (((1 : Int32) <<< (Int32.ofNat b &&& 31)) ^^^ (-1 : Int32)) = Int32.ofNat (l - 2 ^ b) := by decide +kernel
theorem tb_sh : ∀ b, b < 9 → ∀ l, l < 512 → ((Int32.ofNat l >>> (Int32.ofNat b &&& 31)) &&& (1 : Int32)) = if tb l b then 1 else 0 := by decide +kernel
theorem tb_or : ∀ b, b < 9 → ∀ l, l < 512 → ¬ tb l b → Int32.ofNat l ||| ((1 : Int32) <<< (Int32.ofNat b &&& 31)) = Int32.ofNat (l + 2 ^ b) := by decide +kernel
abbrev dsi (w : Int32) (a b : Nat) : Nat := (stp w (Int32.ofNat a) (Int32.ofNat b)).toNatClampNeg
theorem dsi_ok : ∀ w, w < 7 → 0 < w → ∀ a, a < 30 → ∀ b, b < 30 → stp (Int32.ofNat w) (Int32.ofNat a) (Int32.ofNat b) = Int32.ofNat (dsi (Int32.ofNat w) a b) ∧ dsi (Int32.ofNat w) a b < 100 ∧ dsi (Int32.ofNat w) a b = dsi (Int32.ofNat w) b a := by decide +kernel
theorem omin {a b : Nat} (ha : a < 2000000) (hb : b < 2000000) : imin (Int32.ofNat a) (Int32.ofNat b) = Int32.ofNat (min a b) := by
  rw [← Int32.toInt_inj, imin_tI, tIo (by omega), tIo (by omega), tIo (by omega)]
  omega
/-- the least of some -/
def mnb (F : Nat → Nat) (t : Nat) : Nat → Nat
  | 0 => t
  | b + 1 => min (mnb F t b) (F b)
theorem mnb_le {F : Nat → Nat} {t : Nat} : ∀ n, mnb F t n ≤ t ∧ ∀ b, b < n → mnb F t n ≤ F b := by
  intro n
  induction n with
  | zero => exact ⟨Nat.le_refl _, fun b hb => absurd hb (Nat.not_lt_zero b)⟩
  | succ n ih =>
    refine ⟨Nat.le_trans (Nat.min_le_left _ _) ih.1, fun b hb => ?_⟩
    by_cases q : b = n
    · subst q; exact Nat.min_le_right _ _
    · exact Nat.le_trans (Nat.min_le_left _ _) (ih.2 b (by omega))
theorem mnb_min {F : Nat → Nat} {t t' : Nat} (h : t' ≤ t) : ∀ n, mnb F t' n = min t' (mnb F t n) := by
  intro n
  induction n with
  | zero => show t' = min t' t; omega
  | succ n ih =>
    show min (mnb F t' n) (F n) = min t' (min (mnb F t n) (F n))
    rw [ih]; omega
theorem mnb_top {F : Nat → Nat} {t t' n b : Nat} (h : t' ≤ t) (hb : b < n) (hF : F b ≤ t') : mnb F t' n = mnb F t n := by
  rw [mnb_min h n]
  have := (mnb_le (F := F) (t := t) n).2 b hb
  omega
theorem mnb_cg {F F' : Nat → Nat} {t : Nat} : ∀ n, (∀ b, b < n → F b = F' b) → mnb F t n = mnb F' t n := by
  intro n
  induction n with
  | zero => intro _; rfl
  | succ n ih =>
    intro h
    show min (mnb F t n) (F n) = min (mnb F' t n) (F' n)
    rw [ih (fun b hb => h b (by omega)), h n (by omega)]
/-- the fewest steps from a through those who are left -/
def Vf (d : Nat → Nat → Nat) (n : Nat) : Nat → Nat → Nat → Nat
  | 0 => fun _ _ => 0
  | f + 1 => fun l a => if l = 0 then 0 else mnb (fun b => if tb l b then d a b + Vf d n f (l - 2 ^ b) b else 100000) 100000 n
theorem Vf_st {d : Nat → Nat → Nat} {n : Nat} : ∀ f f' l a, l ≤ f → l ≤ f' → Vf d n f l a = Vf d n f' l a := by
  intro f
  induction f with
  | zero =>
    intro f' l a h1 h2
    have h0 : l = 0 := by omega
    subst h0
    cases f' with
    | zero => rfl
    | succ f' => rfl
  | succ f ih =>
    intro f' l a h1 h2
    cases f' with
    | zero =>
      have h0 : l = 0 := by omega
      subst h0; rfl
    | succ f' =>
      show (if l = 0 then 0 else _) = (if l = 0 then 0 else _)
      by_cases h0 : l = 0
      · rw [if_pos h0, if_pos h0]
      · rw [if_neg h0, if_neg h0]
        refine mnb_cg n fun b _ => ?_
        by_cases hb : tb l b
        · have := tb_le hb
          have := Nat.two_pow_pos b
          rw [if_pos hb, if_pos hb, ih f' (l - 2 ^ b) b (by omega) (by omega)]
        · rw [if_neg hb, if_neg hb]
abbrev V (d : Nat → Nat → Nat) (n l a : Nat) : Nat := Vf d n l l a
/-- what one more step makes -/
abbrev Vs (d : Nat → Nat → Nat) (n l a : Nat) : Nat → Nat := fun b => if tb l b then d a b + V d n (l - 2 ^ b) b else 100000
theorem V_0 {d : Nat → Nat → Nat} {n a : Nat} : V d n 0 a = 0 := rfl
theorem V_s {d : Nat → Nat → Nat} {n l a : Nat} (h : 0 < l) : V d n l a = mnb (Vs d n l a) 100000 n := by
  obtain ⟨f, rfl⟩ : ∃ f, l = f + 1 := ⟨l - 1, by omega⟩
  show (if f + 1 = 0 then 0 else _) = _
  rw [if_neg (by omega)]
  refine mnb_cg n fun b _ => ?_
  by_cases hb : tb (f + 1) b
  · have := tb_le hb
    have := Nat.two_pow_pos b
    rw [if_pos hb]
    show _ = if tb (f + 1) b then _ else _
    rw [if_pos hb, Vf_st f (f + 1 - 2 ^ b) (f + 1 - 2 ^ b) b (by omega) (by omega)]
  · rw [if_neg hb]
    show _ = if tb (f + 1) b then _ else _
    rw [if_neg hb]
theorem V_le {d : Nat → Nat → Nat} {n : Nat} (hd : ∀ a b, a < n → b < n → d a b < 100) : ∀ l, l < 2 ^ n → ∀ a, a < n → V d n l a ≤ 100 * l := by
  intro l
  induction l using Nat.strongRecOn with
  | ind l ih =>
    intro hl a ha
    by_cases h0 : l = 0
    · subst h0; exact Nat.zero_le _
    · obtain ⟨b, hb, hbt⟩ := tb_ex hl (by omega)
      have h1 := tb_le hbt
      have h2 := Nat.two_pow_pos b
      rw [V_s (by omega)]
      have h3 := (mnb_le (F := Vs d n l a) (t := 100000) n).2 b hb
      have h4 : Vs d n l a b = d a b + V d n (l - 2 ^ b) b := if_pos hbt
      have h5 := ih (l - 2 ^ b) (by omega) (by omega) b hb
      have h6 := hd a b ha hb
      omega
