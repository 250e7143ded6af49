/-! plain law: moulds beside one -/
set_option maxRecDepth 100000
def itr {α : Type} (f : Nat → α → α) : Nat → α → α
  | 0, a => a
  | n + 1, a => f n (itr f n a)
theorem ofn : ∀ n, n < 100 → (Int32.ofNat n).toNatClampNeg = n ∧ ¬ Int32.ofNat n < 0 ∧ Int32.ofNat n + 1 = Int32.ofNat (n + 1) := by decide +kernel
theorem ofn_le : ∀ n, n < 100 → ∀ m, m < 100 → (Int32.ofNat n ≤ Int32.ofNat m ↔ n ≤ m) := by decide +kernel
def besF (w : Int32) (g : Gw) (c0 : Nat) (fr : Int32) (c : Nat) (acc : Int32) : Int32 := if gK g c = -1 then acc else if stp w (Int32.ofNat c) (Int32.ofNat c0) = 1 then (if (if gK g c = gK g c0 then (1 : Int32) else 0) = fr then acc + 1 else acc) else acc
theorem e_beside {T : xF} {a o rl n c0 : Nat} {g : Gw} {w h fr : Int32} (hG : GrAt T a o g) (hr : oQ T (some o) 0 1 = some (some rl)) (hi : isO T (some rl) 1 = true) (hw : oI T (some rl) 1 2 = some w) (hh : oI T (some rl) 1 3 = some h) (hw0 : ¬ w = 0) (hn : w * h = Int32.ofNat n) (hn30 : n ≤ 30) (hc0 : c0 < 30) : c_X3_beside T (some a) (Int32.ofNat c0) fr = some (itr (besF w g c0 fr) n 0) := by
  have key : ∀ d i, i + d = n → ∀ m, d < m → c_X3_beside_5 T m (some a) (Int32.ofNat c0) fr (itr (besF w g c0 fr) i 0) (Int32.ofNat i) = some (itr (besF w g c0 fr) n 0) := by
    intro d
    induction d with
    | zero =>
      intro i hi' m hm
      obtain ⟨k, rfl⟩ : ∃ k, m = k + 1 := ⟨m - 1, by omega⟩
      have : i = n := by omega
      subst this
      show c_X3_beside_5_b T _ _ _ _ _ _ = _
      unfold c_X3_beside_5_b
      simp -implicitDefEqProofs only [hG.o5, hr, hi, Option.bind_some, e_cells hw hh, hn, not_true_eq_false, if_false, Int32.le_refl, if_true]
    | succ d ih =>
      intro i hi' m hm
      obtain ⟨k, rfl⟩ : ∃ k, m = k + 1 := ⟨m - 1, by omega⟩
      have h1 := ih (i + 1) (by omega) k (by omega)
      have hle : ¬ Int32.ofNat n ≤ Int32.ofNat i := fun q => by have := (ofn_le n (by omega) i (by omega)).mp q; omega
      obtain ⟨q1, q2, q3⟩ := ofn i (by omega)
      obtain ⟨p1, p2, p3⟩ := ofn c0 (by omega)
      have hk := arr30_ld hG.2.2.2.1 (i := Int32.ofNat i) (c := i) (by omega) q1 q2
      have hk0 := arr30_ld hG.2.2.2.1 (i := Int32.ofNat c0) (c := c0) hc0 p1 p2
      rw [← q3] at h1
      show c_X3_beside_5_b T _ _ _ _ _ _ = _
      rw [← h1]
      unfold c_X3_beside_5_b
      simp -implicitDefEqProofs only [hG.o5, hG.o2, hr, hi, Option.bind_some, e_cells hw hh, hn, not_true_eq_false, if_false, hle, hk, hk0, e_steps hw hw0, c_X3_beside_69, c_X3_beside_76]
      show _ = c_X3_beside_5 T k (some a) (Int32.ofNat c0) fr (besF w g c0 fr i (itr (besF w g c0 fr) i 0)) (Int32.ofNat i + 1)
      unfold besF
      split <;> (try rfl)
      split <;> (try rfl)
      by_cases e3 : gK g i = gK g c0
      · rw [if_pos e3, if_pos e3]
        split <;> rfl
      · rw [if_neg e3, if_neg e3]
        split <;> rfl
  unfold c_X3_beside
  exact key n 0 (by omega) FU (by show n < 6000; omega)
