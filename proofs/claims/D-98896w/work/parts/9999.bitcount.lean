/-! plain law: how many bits -/
set_option maxRecDepth 100000
abbrev nt (a : Int32) : Nat := a.toBitVec.toNat
theorem nt_lt (a : Int32) : nt a < 4294967296 := a.toBitVec.isLt
theorem and_sp {k a b m n : Nat} (hb : b < 2 ^ k) (hn : n < 2 ^ k) : (2 ^ k * a + b) &&& (2 ^ k * m + n) = 2 ^ k * (a &&& m) + (b &&& n) := by
  apply Nat.eq_of_testBit_eq
  intro i
  have hbn : b &&& n < 2 ^ k := Nat.lt_of_le_of_lt Nat.and_le_left hb
  rw [Nat.testBit_and, Nat.testBit_two_pow_mul_add _ hb, Nat.testBit_two_pow_mul_add _ hn, Nat.testBit_two_pow_mul_add _ hbn]
  by_cases q : i < k
  · simp -implicitDefEqProofs only [q, if_true, Nat.testBit_and]
  · simp -implicitDefEqProofs only [q, if_false, Nat.testBit_and]
/-- what of a byte's neighbour comes in is cut off -/
theorem and_lo {k h b n : Nat} (hb : b < 2 ^ k) (hn : n < 2 ^ k) : (2 ^ k * h + b) &&& n = b &&& n := by
  have := and_sp (k := k) (a := h) (b := b) (m := 0) (n := n) hb hn
  rw [Nat.mul_zero, Nat.zero_add, Nat.and_zero, Nat.mul_zero, Nat.zero_add] at this
  exact this
def bg1 (m1 x : Nat) : Nat := x - ((x / 2) &&& m1)
def bg2 (m2 y : Nat) : Nat := (y &&& m2) + ((y / 4) &&& m2)
theorem bg1_sp {m h l : Nat} (hl : l < 256) : bg1 (256 * m + 85) (256 * h + l) = 256 * bg1 m h + bg1 85 l ∧ bg1 85 l < 256 := by
  unfold bg1
  have e1 : (256 * h + l) / 2 = 2 ^ 8 * (h / 2) + (128 * (h % 2) + l / 2) := by omega
  have e2 : (256 * h + l) / 2 &&& (256 * m + 85) = 256 * (h / 2 &&& m) + (l / 2 &&& 85) := by
    rw [e1, show 256 * m + 85 = 2 ^ 8 * m + 85 by omega, and_sp (by omega) (by omega), show 128 * (h % 2) + l / 2 = 2 ^ 7 * (h % 2) + l / 2 by omega, and_lo (by omega) (by omega)]
  have a1 : h / 2 &&& m ≤ h / 2 := Nat.and_le_left
  have a2 : l / 2 &&& 85 ≤ l / 2 := Nat.and_le_left
  rw [e2]
  omega
theorem bg2_sp {m h l : Nat} (hl : l < 256) : bg2 (256 * m + 51) (256 * h + l) = 256 * bg2 m h + bg2 51 l := by
  unfold bg2
  have e1 : (256 * h + l) / 4 = 2 ^ 8 * (h / 4) + (64 * (h % 4) + l / 4) := by omega
  have e2 : (256 * h + l) / 4 &&& (256 * m + 51) = 256 * (h / 4 &&& m) + (l / 4 &&& 51) := by
    rw [e1, show 256 * m + 51 = 2 ^ 8 * m + 51 by omega, and_sp (by omega) (by omega), show 64 * (h % 4) + l / 4 = 2 ^ 6 * (h % 4) + l / 4 by omega, and_lo (by omega) (by omega)]
  have e3 : (256 * h + l) &&& (256 * m + 51) = 256 * (h &&& m) + (l &&& 51) := by
    have := and_sp (k := 8) (a := h) (b := l) (m := m) (n := 51) (by omega) (by omega)
    exact this
  rw [e2, e3]
  omega
def plo (l : Nat) : Nat := l % 2 + l / 2 % 2 + l / 4 % 2 + l / 8 % 2
def phi (l : Nat) : Nat := l / 16 % 2 + l / 32 % 2 + l / 64 % 2 + l / 128 % 2
theorem bg_8 : ∀ l, l < 256 → bg2 51 (bg1 85 l) = plo l + 16 * phi l := by decide +kernel
theorem plo_le (l : Nat) : plo l ≤ 4 := by unfold plo; omega
theorem phi_le (l : Nat) : phi l ≤ 4 := by unfold phi; omega
theorem bg_32 {a b c d : Nat} (ha : a < 256) (hb : b < 256) (hc : c < 256) (hd : d < 256) : bg2 858993459 (bg1 1431655765 (256 * (256 * (256 * d + c) + b) + a)) = 256 * (256 * (256 * (plo d + 16 * phi d) + (plo c + 16 * phi c)) + (plo b + 16 * phi b)) + (plo a + 16 * phi a) := by
  have s1 := bg1_sp (m := 256 * (256 * 85 + 85) + 85) (h := 256 * (256 * d + c) + b) ha
  have s2 := bg1_sp (m := 256 * 85 + 85) (h := 256 * d + c) hb
  have s3 := bg1_sp (m := 85) (h := d) hc
  have s4 := (bg1_sp (m := 0) (h := 0) hd).2
  rw [show 1431655765 = 256 * (256 * (256 * 85 + 85) + 85) + 85 by decide, s1.1, s2.1, s3.1]
  rw [show 858993459 = 256 * (256 * (256 * 51 + 51) + 51) + 51 by decide, bg2_sp s1.2, bg2_sp s2.2, bg2_sp s3.2, bg_8 a ha, bg_8 b hb, bg_8 c hc, bg_8 d hd]
theorem and15 (x : Nat) : x &&& 15 = x % 16 := Nat.and_two_pow_sub_one_eq_mod x 4
theorem and63 (x : Nat) : x &&& 63 = x % 64 := Nat.and_two_pow_sub_one_eq_mod x 6
theorem bg_w {a b c d : Nat} (ha : a < 256) (hb : b < 256) (hc : c < 256) (hd : d < 256) : (256 * (256 * (256 * d + c) + b) + a) &&& 252645135 = 256 * (256 * (256 * (d % 16) + c % 16) + b % 16) + a % 16 := by
  have h1 := and_sp (k := 8) (a := 256 * (256 * d + c) + b) (b := a) (m := 256 * (256 * 15 + 15) + 15) (n := 15) (by omega) (by omega)
  have h2 := and_sp (k := 8) (a := 256 * d + c) (b := b) (m := 256 * 15 + 15) (n := 15) (by omega) (by omega)
  have h3 := and_sp (k := 8) (a := d) (b := c) (m := 15) (n := 15) (by omega) (by omega)
  rw [show (2 : Nat) ^ 8 = 256 by decide] at h1 h2 h3
  rw [show 252645135 = 256 * (256 * (256 * 15 + 15) + 15) + 15 by decide, h1, h2, h3, and15, and15, and15, and15]
theorem bg_s {A B C D A' B' C' D' : Nat} : 256 * (256 * (256 * (D + 16 * D') + (C + 16 * C')) + (B + 16 * B')) + (A + 16 * A') + (256 * (256 * (256 * (D + 16 * D') + (C + 16 * C')) + (B + 16 * B')) + (A + 16 * A')) / 16 = 256 * (256 * (256 * (D + D' + 16 * D') + (C + C' + 16 * (C' + D))) + (B + B' + 16 * (B' + C))) + (A + A' + 16 * (A' + B)) + A / 16 := by omega
theorem bg_v {P Q R S : Nat} (hp : P ≤ 8) (hq : Q ≤ 8) (hr : R ≤ 8) (hs : S ≤ 8) : 256 * (256 * (256 * S + R) + Q) + P + (256 * (256 * (256 * S + R) + Q) + P) / 256 = 16777216 * S + 65536 * (R + S) + 256 * (Q + R) + (P + Q) := by omega
theorem bg_u {P Q R S : Nat} (hp : P ≤ 8) (hq : Q ≤ 8) (hr : R ≤ 8) (hs : S ≤ 8) : (16777216 * S + 65536 * (R + S) + 256 * (Q + R) + (P + Q)) / 65536 = 256 * S + (R + S) := by omega
theorem bg_m {P Q R S : Nat} (hp : P ≤ 8) (hq : Q ≤ 8) (hr : R ≤ 8) (hs : S ≤ 8) : (16777216 * S + 65536 * (R + S) + 256 * (Q + R) + (P + Q) + (256 * S + (R + S))) % 64 = P + Q + R + S := by omega
/-! the machine's steps -/
abbrev ush (a k : Int32) : Int32 := (a.toUInt32 >>> (k.toUInt32 &&& Int32.toUInt32 31)).toInt32
theorem nt_sh {a : Int32} : nt (ush a 1) = nt a / 2 ∧ nt (ush a 2) = nt a / 4 ∧ nt (ush a 4) = nt a / 16 ∧ nt (ush a 8) = nt a / 256 ∧ nt (ush a 16) = nt a / 65536 := by
  have h : ∀ k : Nat, k < 32 → nt ((a.toUInt32 >>> ((Int32.ofNat k).toUInt32 &&& Int32.toUInt32 31)).toInt32) = nt a / 2 ^ k := by
    intro k hk
    have e : ((Int32.ofNat k).toUInt32 &&& Int32.toUInt32 31).toNat = k := (by decide +kernel : ∀ k, k < 32 → ((Int32.ofNat k).toUInt32 &&& Int32.toUInt32 31).toNat = k) k hk
    show (a.toUInt32 >>> ((Int32.ofNat k).toUInt32 &&& Int32.toUInt32 31)).toNat = _
    rw [UInt32.toNat_shiftRight, e, Nat.mod_eq_of_lt hk, Nat.shiftRight_eq_div_pow]
    rfl
  exact ⟨h 1 (by decide), h 2 (by decide), h 4 (by decide), h 8 (by decide), h 16 (by decide)⟩
theorem nt_and (a b : Int32) : nt (a &&& b) = nt a &&& nt b := by
  unfold nt; rw [Int32.toBitVec_and, BitVec.toNat_and]
theorem nt_add {a b : Int32} (h : nt a + nt b < 4294967296) : nt (a + b) = nt a + nt b := by
  unfold nt at *; rw [Int32.toBitVec_add, BitVec.toNat_add]; exact Nat.mod_eq_of_lt h
theorem nt_sub {a b : Int32} (h : nt b ≤ nt a) : nt (a - b) = nt a - nt b := by
  have := nt_lt a
  unfold nt at *; rw [Int32.toBitVec_sub, BitVec.toNat_sub]
  omega
def cs1 (x : Int32) : Int32 := x - (ush x 1 &&& 1431655765)
def cs2 (y : Int32) : Int32 := (y &&& 858993459) + (ush y 2 &&& 858993459)
def cs3 (z : Int32) : Int32 := (z + ush z 4) &&& 252645135
def cs4 (w : Int32) : Int32 := w + ush w 8
def cs5 (w : Int32) : Int32 := (w + ush w 16) &&& 63
theorem e_bitCount (x : Int32) : c_J14_bitCount x = some (cs5 (cs4 (cs3 (cs2 (cs1 x))))) := rfl
theorem nt_bc (x : Int32) : nt (cs5 (cs4 (cs3 (cs2 (cs1 x))))) = plo (nt x % 256) + phi (nt x % 256) + plo (nt x / 256 % 256) + phi (nt x / 256 % 256) + plo (nt x / 65536 % 256) + phi (nt x / 65536 % 256) + plo (nt x / 16777216) + phi (nt x / 16777216) := by
  have hx := nt_lt x
  obtain ⟨a, ha⟩ : ∃ a, a = nt x % 256 := ⟨_, rfl⟩
  obtain ⟨b, hb⟩ : ∃ b, b = nt x / 256 % 256 := ⟨_, rfl⟩
  obtain ⟨c, hc⟩ : ∃ c, c = nt x / 65536 % 256 := ⟨_, rfl⟩
  obtain ⟨d, hd⟩ : ∃ d, d = nt x / 16777216 := ⟨_, rfl⟩
  rw [← ha, ← hb, ← hc, ← hd]
  have ex : nt x = 256 * (256 * (256 * d + c) + b) + a := by omega
  have m1 : nt (1431655765 : Int32) = 1431655765 := by decide
  have m2 : nt (858993459 : Int32) = 858993459 := by decide
  have m3 : nt (252645135 : Int32) = 252645135 := by decide
  have m4 : nt (63 : Int32) = 63 := by decide
  have y1 : nt (cs1 x) = bg1 1431655765 (nt x) := by
    unfold cs1 bg1
    have l : nt (ush x 1 &&& 1431655765) ≤ nt x := by
      rw [nt_and, nt_sh.1]
      exact Nat.le_trans Nat.and_le_left (Nat.div_le_self _ _)
    rw [nt_sub l, nt_and, nt_sh.1, m1]
  have z1 : nt (cs2 (cs1 x)) = bg2 858993459 (nt (cs1 x)) := by
    unfold cs2 bg2
    have l1 : nt (cs1 x &&& 858993459) ≤ 858993459 := by rw [nt_and, m2]; exact Nat.and_le_right
    have l2 : nt (ush (cs1 x) 2 &&& 858993459) ≤ 858993459 := by rw [nt_and, m2]; exact Nat.and_le_right
    rw [nt_add (by omega), nt_and, nt_and, nt_sh.2.1, m2]
  rw [y1, ex, bg_32 (by omega) (by omega) (by omega) (by omega)] at z1
  have pa := plo_le a; have qa := phi_le a
  have pb := plo_le b; have qb := phi_le b
  have pc := plo_le c; have qc := phi_le c
  have pd := plo_le d; have qd := phi_le d
  generalize plo a = A at *
  generalize phi a = A' at *
  generalize plo b = B at *
  generalize phi b = B' at *
  generalize plo c = C at *
  generalize phi c = C' at *
  generalize plo d = D at *
  generalize phi d = D' at *
  have A0 : A / 16 = 0 := by omega
  have w1 : nt (cs3 (cs2 (cs1 x))) = 256 * (256 * (256 * (D + D') + (C + C')) + (B + B')) + (A + A') := by
    unfold cs3
    have s : nt (cs2 (cs1 x) + ush (cs2 (cs1 x)) 4) = 256 * (256 * (256 * (D + D' + 16 * D') + (C + C' + 16 * (C' + D))) + (B + B' + 16 * (B' + C))) + (A + A' + 16 * (A' + B)) := by
      have q := @bg_s A B C D A' B' C' D'
      rw [A0, Nat.add_zero] at q
      rw [nt_add (by rw [nt_sh.2.2.1, z1, q]; clear z1 y1 q ex; omega), nt_sh.2.2.1, z1, q]
    have r : ∀ p q x : Nat, p ≤ 4 → q ≤ 4 → (p + q + 16 * x) % 16 = p + q := by intro p q x h1 h2; omega
    rw [nt_and, s, m3]
    clear s z1 y1 ex
    rw [bg_w (by omega) (by omega) (by omega) (by omega), r A A' _ pa qa, r B B' _ pb qb, r C C' _ pc qc, r D D' _ pd qd]
  clear z1 y1 ex A0
  generalize hP : A + A' = P at w1
  generalize hQ : B + B' = Q at w1
  generalize hR : C + C' = R at w1
  generalize hS : D + D' = S at w1
  have b1 : P ≤ 8 := by omega
  have b2 : Q ≤ 8 := by omega
  have b3 : R ≤ 8 := by omega
  have b4 : S ≤ 8 := by omega
  have v2 : nt (cs4 (cs3 (cs2 (cs1 x)))) = 16777216 * S + 65536 * (R + S) + 256 * (Q + R) + (P + Q) := by
    unfold cs4
    have q := bg_v b1 b2 b3 b4
    rw [nt_add (by rw [nt_sh.2.2.2.1, w1, q]; clear w1 q; omega), nt_sh.2.2.2.1, w1, q]
  unfold cs5
  have q := bg_u b1 b2 b3 b4
  rw [nt_and, m4, and63, nt_add (by rw [nt_sh.2.2.2.2, v2, q]; clear w1 v2 q; omega), nt_sh.2.2.2.2, v2, q, bg_m b1 b2 b3 b4]
  clear w1 v2 q
  omega
