/-! plain law: the greatest patch -/
set_option maxRecDepth 100000
def pop (R : Int32) (n : Nat) : Nat := sumN (fun d => if bi R d = true then 1 else 0) n
theorem bi_nt (R : Int32) (d : Nat) : (if bi R d = true then 1 else 0) = nt R / 2 ^ d % 2 := by
  have e : bi R d = decide (nt R / 2 ^ d % 2 = 1) := Nat.testBit_eq_decide_div_mod_eq
  have l := Nat.mod_lt (nt R / 2 ^ d) (show 0 < 2 by decide)
  rw [e]
  by_cases q : nt R / 2 ^ d % 2 = 1
  · rw [q]; rfl
  · rw [decide_eq_false q, if_neg (by decide)]; omega
theorem sumN_cgu {f g : Nat → Nat} : ∀ n, (∀ d, d < n → f d = g d) → sumN f n = sumN g n := by
  intro n
  induction n with
  | zero => intro _; rfl
  | succ n ih =>
    intro h
    show sumN f n + f n = sumN g n + g n
    rw [ih fun d hd => h d (by omega), h n (by omega)]
theorem pl8 (x k : Nat) : plo (x / 2 ^ k % 256) + phi (x / 2 ^ k % 256) = sumN (fun d => x / 2 ^ (k + d) % 2) 8 := by
  have h : ∀ j, x / 2 ^ (k + j) = x / 2 ^ k / 2 ^ j := fun j => by rw [Nat.pow_add, Nat.div_div_eq_div_mul]
  show _ = 0 + x / 2 ^ (k + 0) % 2 + x / 2 ^ (k + 1) % 2 + x / 2 ^ (k + 2) % 2 + x / 2 ^ (k + 3) % 2 + x / 2 ^ (k + 4) % 2 + x / 2 ^ (k + 5) % 2 + x / 2 ^ (k + 6) % 2 + x / 2 ^ (k + 7) % 2
  simp -implicitDefEqProofs only [h]
  generalize x / 2 ^ k = y
  unfold plo phi
  have e0 : y / 2 ^ 0 = y := Nat.div_one y
  rw [e0]
  have a0 : y % 256 % 2 = y % 2 := by omega
  have a1 : y % 256 / 2 % 2 = y / 2 ^ 1 % 2 := by omega
  have a2 : y % 256 / 4 % 2 = y / 2 ^ 2 % 2 := by omega
  have a3 : y % 256 / 8 % 2 = y / 2 ^ 3 % 2 := by omega
  have a4 : y % 256 / 16 % 2 = y / 2 ^ 4 % 2 := by omega
  have a5 : y % 256 / 32 % 2 = y / 2 ^ 5 % 2 := by omega
  have a6 : y % 256 / 64 % 2 = y / 2 ^ 6 % 2 := by omega
  have a7 : y % 256 / 128 % 2 = y / 2 ^ 7 % 2 := by omega
  rw [a0, a1, a2, a3, a4, a5, a6, a7]
  omega
theorem sumN_sp {f : Nat → Nat} (a : Nat) : ∀ b, sumN f (a + b) = sumN f a + sumN (fun d => f (a + d)) b := by
  intro b
  induction b with
  | zero => rfl
  | succ b ih =>
    show sumN f (a + b) + f (a + b) = sumN f a + (sumN (fun d => f (a + d)) b + f (a + b))
    rw [ih]; omega
theorem pop_le (R : Int32) (n : Nat) : pop R n ≤ n := by
  have := sumN_le (f := fun d => if bi R d = true then 1 else 0) (b := 1) (fun i => by split <;> omega) n
  unfold pop; omega
theorem e_pop (R : Int32) : c_J14_bitCount R = some (Int32.ofNat (pop R 32)) := by
  rw [e_bitCount]
  have h := nt_bc R
  have hx := nt_lt R
  have p0 := pl8 (nt R) 0
  have p1 := pl8 (nt R) 8
  have p2 := pl8 (nt R) 16
  have p3 := pl8 (nt R) 24
  have e : pop R 32 = nt (cs5 (cs4 (cs3 (cs2 (cs1 R))))) := by
    have q : pop R 32 = sumN (fun d => nt R / 2 ^ d % 2) 32 := sumN_cgu 32 fun d _ => bi_nt R d
    rw [q, show 32 = 24 + 8 by rfl, sumN_sp 24 8, show 24 = 16 + 8 by rfl, sumN_sp 16 8, show 16 = 8 + 8 by rfl, sumN_sp 8 8, show 8 = 0 + 8 by rfl, sumN_sp 0 8, h]
    simp -implicitDefEqProofs only [Nat.zero_add, Nat.pow_zero, Nat.div_one] at p0 p1 p2 p3 ⊢
    show sumN _ 0 + _ + _ + _ + _ = _
    rw [show sumN (fun d => nt R / 2 ^ d % 2) 0 = 0 from rfl]
    rw [show nt R / 2 ^ 8 = nt R / 256 by rfl] at p1
    rw [show nt R / 2 ^ 16 = nt R / 65536 by rfl] at p2
    rw [show nt R / 2 ^ 24 = nt R / 16777216 by rfl, Nat.mod_eq_of_lt (show nt R / 16777216 < 256 by omega)] at p3
    have t2 : sumN (fun d => nt R / 2 ^ (8 + 8 + d) % 2) 8 = sumN (fun d => nt R / 2 ^ (16 + d) % 2) 8 := rfl
    have t3 : sumN (fun d => nt R / 2 ^ (8 + 8 + 8 + d) % 2) 8 = sumN (fun d => nt R / 2 ^ (24 + d) % 2) 8 := rfl
    omega
  congr 1
  rw [← Int32.toBitVec_inj]
  apply BitVec.eq_of_toNat_eq
  show nt _ = nt _
  rw [← e]
  have l := pop_le R 32
  show _ = (Int32.ofNat (pop R 32)).toBitVec.toNat
  rw [Int32.toBitVec_ofNat', BitVec.toNat_ofNat]
  omega
theorem b_val {a : Int32} {c : Nat} (hc : c < 32) : ((a >>> (Int32.ofNat c &&& 31)) &&& 1) = if bi a c = true then 1 else 0 := by
  by_cases q : bi a c = true
  · rw [if_pos q]; exact (b_test hc).mpr q
  · rw [if_neg q]
    have n1 : ¬ ((a >>> (Int32.ofNat c &&& 31)) &&& 1) = 1 := fun r => q ((b_test hc).mp r)
    generalize a >>> (Int32.ofNat c &&& 31) = x at *
    have h := nt_and x 1
    rw [show nt (1 : Int32) = 1 by decide, Nat.and_one_is_mod] at h
    rw [← Int32.toBitVec_inj]
    apply BitVec.eq_of_toNat_eq
    show nt (x &&& 1) = 0
    have : ¬ nt (x &&& 1) = 1 := fun r => n1 (by
      rw [← Int32.toBitVec_inj]
      apply BitVec.eq_of_toNat_eq
      exact r)
    omega
section CM
variable {G : xG} {T T1 : xF} {o : Nat} {s s' : St} {A A' : Ad} {S S1 : MS} {g : Gw}
theorem pop_N {R : Int32} {n : Nat} (hn : n ≤ 32) (h : ∀ d, n ≤ d → d < 32 → bi R d = false) : pop R 32 = pop R n := by
  unfold pop
  rw [show 32 = n + (32 - n) by omega, sumN_sp]
  have z : ∀ m, m ≤ 32 - n → sumN (fun d => if bi R (n + d) = true then 1 else 0) m = 0 := by
    intro m
    induction m with
    | zero => intro _; rfl
    | succ m ih =>
      intro hm
      show sumN _ m + (if bi R (n + m) = true then 1 else 0) = 0
      rw [ih (by omega), h (n + m) (by omega) (by omega)]; rfl
  rw [z _ (Nat.le_refl _)]; rfl
theorem r_gr72 (ok : StOK s) (h : MI S s) {R : Int32} {c b : Nat} (hc : c < 30) (hb : b < 1000) {k32 : Int32 → Int32 → Int32 → Int32 → Int32 → MS → Option (Int32 × MS)} {x1 x2 x3 : Int32} : m_greatest_72 k32 FU x1 x2 x3 (Int32.ofNat b) (Int32.ofNat c) R 0 0 S = if b < pop R (eN (sE s)) then k32 x1 x2 (Int32.ofNat c) (Int32.ofNat (pop R (eN (sE s)))) (Int32.ofNat (c + 1)) S else k32 x1 x2 x3 (Int32.ofNat b) (Int32.ofNat (c + 1)) S := by
  have hn := ok.1.n30
  refine loop_rule (σ := Unit) (N := eN (sE s)) (fun _ _ => True) (fun m d _ => m_greatest_72 k32 m x1 x2 x3 (Int32.ofNat b) (Int32.ofNat c) R (Int32.ofNat (pop R d)) (Int32.ofNat d) S = _) ?_ ?_ FU (by show eN (sE s) < 6000; omega) () trivial
  · intro m d _ hd _ K
    show m_greatest_72_b k32 (m_greatest_72 k32 m) x1 x2 x3 (Int32.ofNat b) (Int32.ofNat c) R (Int32.ofNat (pop R d)) (Int32.ofNat d) S = _
    unfold m_greatest_72_b
    have e : Int32.ofNat (pop R d) + ((R >>> (Int32.ofNat d &&& 31)) &&& 1) = Int32.ofNat (pop R (d + 1)) := by
      rw [b_val (by omega)]
      show _ = Int32.ofNat (pop R d + if bi R d = true then 1 else 0)
      by_cases q : bi R d = true
      · rw [if_pos q, if_pos q]; exact oadd _ 1
      · rw [if_neg q, if_neg q]; exact oadd _ 0
    rw [v_cells ok h, Option.bind_some, if_neg (fun q => by have := (ole (n := eN (sE s)) (m := d) (by omega) (by omega)).mp q; omega), e, ofn1 d (by omega)]
    exact K () trivial
  · intro m _ _
    have l := pop_le R (eN (sE s))
    show m_greatest_72_b k32 (m_greatest_72 k32 m) x1 x2 x3 (Int32.ofNat b) (Int32.ofNat c) R (Int32.ofNat (pop R (eN (sE s)))) (Int32.ofNat (eN (sE s))) S = _
    unfold m_greatest_72_b m_greatest_116
    rw [v_cells ok h, Option.bind_some, if_pos (Int32.le_refl _), ofn1 c (by omega)]
    by_cases q : b < pop R (eN (sE s))
    · rw [if_pos q, if_pos ((olt (by omega) (by omega)).mpr q)]
    · rw [if_neg q, if_neg (fun r => q ((olt (by omega) (by omega)).mp r))]
theorem k_greatest (ok : StOK s) (h : CIa G T o s A) (m : MI S s) (a b : Int32) : Jn T (c_X1_greatest (some o) a b T) (m_greatest a b S) fun r T' q => AG NS "" r q.1 q.2 ∧ Nx G o T s T' q.2 := by
  have m0 := m.th 0
  have z : (sF S 0 0).1 0 = 0 := sF_0
  have hn := ok.1.n30
  obtain ⟨lp, q1, q2, q3, q4, q5⟩ := h.evt.pa
  unfold c_X1_greatest m_greatest
  simp -implicitDefEqProofs only [h.q1, q1, q2, q3, Option.bind_some, not_true_eq_false, if_false, if_true]
  rcases (kind_rng ok a).symm with ⟨hv, hw⟩ | ⟨k, hk, rfl⟩
  · exact Jn.thX (e_oneOf_f (iin_f hv)) thr_le (r := (0, sF (sF S 0 0) 0 1)) (by simp -implicitDefEqProofs only [r_kind_f m0 z hw, Option.bind_some, not_true_eq_false, if_false, if_true]) ⟨Or.inl ⟨rfl, sF_0⟩, Nx.same ok h.tw (m0.th 1) (by show T.2.1 + 1 ≤ _; omega) (by show T.2.2 + 6 ≤ _; omega)⟩
  refine Jn.okX (e_oneOf_t (e_kind_t ok hk)) ?_
  simp -implicitDefEqProofs only [r_kind_t ok m0 z hk, Option.bind_some, not_true_eq_false, if_false, if_true, i10]
  rcases (rng 0 1 (by decide) (by decide) b).symm with hv | ⟨x, -, hx, rfl⟩
  · exact Jn.thX (e_oneOf_f (b := 1) (iin_f hv)) thr_le (r := (0, sF (sF S 0 0) 0 1)) (by simp -implicitDefEqProofs only [r_what_f (b := 1) z (iin_f hv), Option.bind_some, not_true_eq_false, if_false, if_true]) ⟨Or.inl ⟨rfl, sF_0⟩, Nx.same ok h.tw (m0.th 1) (by show T.2.1 + 1 ≤ _; omega) (by show T.2.2 + 6 ≤ _; omega)⟩
  have ex : iin (Int32.ofNat x) 0 1 = true := iin_t (a := 0) (Nat.zero_le _) hx (by decide)
  refine Jn.okX (e_oneOf_t ex) ?_
  simp -implicitDefEqProofs only [r_what_t z ex, Option.bind_some, not_true_eq_false, if_false, if_true, i10]
  refine loop_rule (σ := Int32 × Nat) (N := eN (sE s)) (fun _ t => t.2 < 1000) (fun f c t => Jn T (c_X1_greatest_31 f (some o) (Int32.ofNat k) (Int32.ofNat x) t.1 (Int32.ofNat t.2) (Int32.ofNat c) T) (m_greatest_32 f (Int32.ofNat k) (Int32.ofNat x) t.1 (Int32.ofNat t.2) (Int32.ofNat c) (sF S 0 0)) _) ?_ ?_ FU (by show eN (sE s) < 6000; omega) (-1, 0) (by decide)
  · rintro f c ⟨v, b⟩ hc hb K
    have hb : b < 1000 := hb
    have c3 : c < 30 := by omega
    show Jn T (c_X1_greatest_31_b (c_X1_greatest_31 f) (some o) (Int32.ofNat k) (Int32.ofNat x) v (Int32.ofNat b) (Int32.ofNat c) T) (m_greatest_32_b (m_greatest_32 f) (Int32.ofNat k) (Int32.ofNat x) v (Int32.ofNat b) (Int32.ofNat c) (sF S 0 0)) _
    unfold c_X1_greatest_31_b m_greatest_32_b
    simp -implicitDefEqProofs only [h.q1, h.isr, h.cells ok, v_cells ok m0, leN hc hn, h.q4, h.cc.o2, h.cc.ldK c3, m0.row.lK0 c3, h.iso, Option.bind_some, not_true_eq_false, if_false, if_true]
    by_cases hk2 : gK (sG s) c = Int32.ofNat k
    · rw [if_pos hk2, if_pos hk2]
      obtain ⟨R, e1, P⟩ := e_patch ok h hc
      have l := pop_le R (eN (sE s))
      rw [e1, Option.bind_some, e_pop, Option.bind_some, r_patch ok m0 hc P, Option.bind_some, pop_N (by omega) P.2.2.1, r_gr72 ok m0 c3 hb]
      unfold c_X1_greatest_71 c_X1_greatest_90
      rw [ofn1 c (by omega)]
      by_cases q : b < pop R (eN (sE s))
      · rw [if_pos q, if_pos ((olt (by omega) (by omega)).mpr q)]
        exact K (_, pop R (eN (sE s))) (by show pop R (eN (sE s)) < 1000; omega)
      · rw [if_neg q, if_neg (fun r => q ((olt (by omega) (by omega)).mp r))]
        exact K (v, b) hb
    · rw [if_neg hk2, if_neg hk2]
      unfold c_X1_greatest_71 c_X1_greatest_90 m_greatest_116
      rw [ofn1 c (by omega), if_neg (on0 (by omega))]
      exact K (v, b) hb
  · rintro f ⟨v, b⟩ hb
    show Jn T (c_X1_greatest_31_b (c_X1_greatest_31 f) (some o) (Int32.ofNat k) (Int32.ofNat x) v (Int32.ofNat b) (Int32.ofNat (eN (sE s))) T) (m_greatest_32_b (m_greatest_32 f) (Int32.ofNat k) (Int32.ofNat x) v (Int32.ofNat b) (Int32.ofNat (eN (sE s))) (sF S 0 0)) _
    unfold c_X1_greatest_31_b m_greatest_32_b
    simp -implicitDefEqProofs only [h.q1, h.isr, h.cells ok, v_cells ok m0, Int32.le_refl, Option.bind_some, not_true_eq_false, if_false, if_true]
    by_cases hw : Int32.ofNat x = 0
    · rw [if_pos hw, if_pos hw]
      exact Jnew ok h m0 z (by omega) (by omega) rfl
    · rw [if_neg hw, if_neg hw]
      exact Jnew ok h m0 z (by omega) (by omega) rfl
end CM
