/-! plain law: a growth in the reference's rows -/
set_option maxRecDepth 100000
/-- the growth g lies in the rows from b on -/
def RwAt (S : MS) (b : Nat) (g : Gw) : Prop := S.2.2 13 b = gY g ∧ ∀ c, c < 30 → S.2.2 13 (b + 1 + c) = gD g c ∧ S.2.2 13 (b + 31 + c) = gF g c ∧ S.2.2 13 (b + 61 + c) = gK g c ∧ S.2.2 13 (b + 91 + c) = gZ g c
theorem rwi : ∀ b ∈ ([0, 121] : List Nat), ∀ off ∈ ([1, 31, 61, 91] : List Nat), ∀ i, i < 30 → ((Int32.ofNat b + Int32.ofNat off) + Int32.ofNat i).toNatClampNeg = b + off + i ∧ ¬ ((Int32.ofNat b + Int32.ofNat off) + Int32.ofNat i) < 0 := by decide +kernel
theorem rd_row {S : MS} {b off i : Nat} (hb : b ∈ ([0, 121] : List Nat)) (ho : off ∈ ([1, 31, 61, 91] : List Nat)) (hi : i < 30) : rdA S 13 ((Int32.ofNat b + Int32.ofNat off) + Int32.ofNat i) = some (S.2.2 13 (b + off + i)) := by
  obtain ⟨h1, h2⟩ := rwi b hb off ho i hi
  unfold rdA
  rw [h1]
  have hm : mL 13 = 242 := rfl
  have hb2 : b ≤ 121 := by
    simp -implicitDefEqProofs only [List.mem_cons, List.not_mem_nil, or_false] at hb
    omega
  have ho2 : off ≤ 91 := by
    simp -implicitDefEqProofs only [List.mem_cons, List.not_mem_nil, or_false] at ho
    omega
  rw [if_neg (fun q => q.elim h2 (fun q => by omega))]
theorem e_mbeside {S : MS} {b n c0 : Nat} {g : Gw} {w h fr : Int32} (hG : RwAt S b g) (hb : b ∈ ([0, 121] : List Nat)) (hw : S.1 1 = w) (hh : S.1 2 = h) (hw0 : ¬ w = 0) (hn : w * h = Int32.ofNat n) (hn30 : n ≤ 30) (hc0 : c0 < 30) (hst : ∀ a, a < 30 → ∀ c, c < 30 → stp w (Int32.ofNat a) (Int32.ofNat c) = far w (Int32.ofNat c) (Int32.ofNat a)) : m_besideOf (Int32.ofNat b) (Int32.ofNat c0) fr S = some (itr (besF w g c0 fr) n 0) := by
  have key : ∀ d i, i + d = n → ∀ m, d < m → m_besideOf_6 m (Int32.ofNat b) (Int32.ofNat c0) fr (itr (besF w g c0 fr) i 0) (Int32.ofNat i) S = some (itr (besF w g c0 fr) n 0) := by
    intro d
    induction d with
    | zero =>
      intro i hi' m hm
      obtain ⟨k, rfl⟩ : ∃ k, m = k + 1 := ⟨m - 1, by omega⟩
      have : i = n := by omega
      subst this
      show m_besideOf_6_b _ _ _ _ _ _ S = _
      unfold m_besideOf_6_b m_cells
      simp -implicitDefEqProofs only [hw, hh, Option.bind_some, hn, Int32.le_refl, if_true]
    | succ d ih =>
      intro i hi' m hm
      obtain ⟨k, rfl⟩ : ∃ k, m = k + 1 := ⟨m - 1, by omega⟩
      have h1 := ih (i + 1) (by omega) k (by omega)
      have hle : ¬ Int32.ofNat n ≤ Int32.ofNat i := fun q => by have := (ofn_le n (by omega) i (by omega)).mp q; omega
      obtain ⟨q1, q2, q3⟩ := ofn i (by omega)
      have hk : rdA S 13 ((Int32.ofNat b + (61 : Int32)) + Int32.ofNat i) = some (gK g i) := by
        have := rd_row (S := S) hb (off := 61) (by decide) (i := i) (by omega)
        rw [(hG.2 i (by omega)).2.2.1] at this
        exact this
      have hk0 : rdA S 13 ((Int32.ofNat b + (61 : Int32)) + Int32.ofNat c0) = some (gK g c0) := by
        have := rd_row (S := S) hb (off := 61) (by decide) (i := c0) hc0
        rw [(hG.2 c0 hc0).2.2.1] at this
        exact this
      rw [← q3] at h1
      show m_besideOf_6_b _ _ _ _ _ _ S = _
      rw [← h1]
      unfold m_besideOf_6_b m_cells
      simp -implicitDefEqProofs only [hw, hh, Option.bind_some, hn, if_neg hle, m_far_eq hw hw0, hk, hk0, m_besideOf_78, m_besideOf_87, m_besideOf_90]
      show _ = m_besideOf_6 k (Int32.ofNat b) (Int32.ofNat c0) fr (besF w g c0 fr i (itr (besF w g c0 fr) i 0)) (Int32.ofNat i + 1) S
      rw [← hst i (by omega) c0 hc0]
      unfold besF
      by_cases e1 : stp w (Int32.ofNat i) (Int32.ofNat c0) = 1
      · rw [if_pos e1, if_pos e1]
        by_cases e2 : gK g i = -1
        · rw [if_pos e2, if_pos e2]
        · rw [if_neg e2, if_neg e2]
          by_cases e3 : gK g i = gK g c0
          · rw [if_pos e3, if_pos e3]
            by_cases e4 : (1 : Int32) = fr
            · rw [if_pos e4, if_pos e4]
            · rw [if_neg e4, if_neg e4, Int32.add_zero]
          · rw [if_neg e3, if_neg e3]
            by_cases e4 : (0 : Int32) = fr
            · rw [if_pos e4, if_pos e4]
            · rw [if_neg e4, if_neg e4, Int32.add_zero]
      · rw [if_neg e1, if_neg e1, ite_self]
  unfold m_besideOf
  exact key n 0 (by omega) FU (by show n < 6000; omega)
