/-! plain law: the tape is fed -/
set_option maxRecDepth 100000
/-- what a byte of the tape keeps of an int -/
def nb (x : Int32) : Int32 := vp_nar .byte (x.toInt8.toInt32)
theorem nb_eq (x : Int32) : nb x = x.toInt8.toInt32.toInt8.toInt32 := rfl
theorem nb_bit (x : Int32) {i : Nat} (hi : i < 8) : (nb x).toBitVec.getLsbD i = x.toBitVec.getLsbD i := by
  rw [nb_eq, Int8.toBitVec_toInt32, Int32.toBitVec_toInt8, Int8.toBitVec_toInt32, Int32.toBitVec_toInt8]
  rw [BitVec.getLsbD_signExtend, BitVec.getLsbD_signExtend, BitVec.getLsbD_signExtend, BitVec.getLsbD_signExtend]
  simp [hi, show i < 32 by omega]
theorem nb_and (x : Int32) : nb x &&& 255 = x &&& 255 := by
  rw [← Int32.toBitVec_inj, Int32.toBitVec_and, Int32.toBitVec_and]
  apply BitVec.eq_of_getLsbD_eq
  intro i hi
  rw [BitVec.getLsbD_and, BitVec.getLsbD_and]
  by_cases h : i < 8
  · rw [nb_bit x h]
  · have : ∀ i, i < 32 → ¬ i < 8 → ((255 : Int32).toBitVec).getLsbD i = false := by decide
    rw [this i hi h, Bool.and_false, Bool.and_false]
theorem nb_rng (x : Int32) : -128 ≤ nb x ∧ nb x ≤ 127 := by
  rw [nb_eq]
  generalize x.toInt8.toInt32.toInt8 = y
  have h1 := Int8.le_toInt y
  have h2 := Int8.toInt_lt y
  rw [i32le, i32le, Int8.toInt_toInt32]
  have e1 : (-128 : Int32).toInt = -128 := by decide
  have e2 : (127 : Int32).toInt = 127 := by decide
  rw [e1, e2]
  omega
def fds (i : Nat) : Int32 := match i with
  | 0 => 24
  | 1 => 16
  | 2 => 8
  | 3 => 0
  | _ => -8
theorem fds_n : ∀ i, i < 4 → ¬ fds i < 0 ∧ fds i + (-8) = fds (i + 1) := by decide
section MM
variable {S S0 : MS} {s : St}
theorem wr4 {k : Nat} (hk : k < 700) (v : Int32) : wrA S 4 (Int32.ofNat k) v = some (sA S 4 k v) := wrA_n (ocl (by omega)) (on0 (by omega)) hk
theorem rd4 {k : Nat} (hk : k < 700) : rdA S 4 (Int32.ofNat k) = some (S.2.2 4 k) := rdA_n (ocl (by omega)) (on0 (by omega)) hk
/-- four bytes are laid -/
theorem r_lays {t : Nat} (v : Int32) (ht : t + 4 ≤ 700) (h : S0.1 13 = Int32.ofNat t) : Mn (m_lays v S0) fun S' => (∀ k, k ≠ 13 → S'.1 k = S0.1 k) ∧ S'.1 13 = Int32.ofNat (t + 4) ∧ (∀ j, j ≠ 4 → S'.2.2 j = S0.2.2 j) ∧ (∀ i, i < 4 → S'.2.2 4 (t + i) = (v >>> (fds i &&& 31)) &&& 255) ∧ ∀ k, k < t → S'.2.2 4 k = S0.2.2 4 k := by
  unfold m_lays
  refine loop_rule (σ := MS) (N := 4) (fun i s => (∀ k, k ≠ 13 → s.1 k = S0.1 k) ∧ s.1 13 = Int32.ofNat (t + i) ∧ (∀ j, j ≠ 4 → s.2.2 j = S0.2.2 j) ∧ (∀ k, k < i → s.2.2 4 (t + k) = (v >>> (fds k &&& 31)) &&& 255) ∧ ∀ k, k < t → s.2.2 4 k = S0.2.2 4 k) (fun m i s => Mn (m_lays_3 m v (fds i) s) _) ?_ ?_ FU (by decide) S0 ⟨fun _ _ => rfl, h, fun _ _ => rfl, fun k hk => absurd hk (Nat.not_lt_zero k), fun _ _ => rfl⟩
  · rintro m i S1 hi ⟨h1, h2, h3, h4, h5⟩ K
    show Mn (m_lays_3_b (m_lays_3 m) v (fds i) S1) _
    unfold m_lays_3_b
    obtain ⟨f1, f2⟩ := fds_n i hi
    rw [if_neg f1, f2, h2, wr4 (by omega), Option.bind_some]
    refine K _ ⟨fun k hk => (sF_ne hk).trans (h1 k hk), ?_, fun j hj => (sA_ne hj).trans (h3 j hj), fun k hk => ?_, fun k hk => ?_⟩
    · rw [sF_at]
      show S1.1 13 + 1 = _
      rw [h2]
      exact oadd _ 1
    · show (sA S1 4 (t + i) _).2.2 4 _ = _
      rw [sA_at]
      unfold upd
      by_cases q : k = i
      · subst q; rw [if_pos rfl]
      · rw [if_neg (by omega)]; exact h4 k (by omega)
    · show (sA S1 4 (t + i) _).2.2 4 _ = _
      rw [sA_at]
      unfold upd
      rw [if_neg (by omega)]; exact h5 k hk
  · rintro m S1 hS
    show Mn (m_lays_3_b (m_lays_3 m) v (fds 4) S1) _
    unfold m_lays_3_b
    rw [if_pos (by decide)]
    exact Mn.ret hS
end MM
/-- the int that a byte is of -/
def wof (a b c d e : Int32) (k : Nat) : Int32 := if k < 4 then a else if k < 8 then b else if k < 12 then c else if k < 16 then d else e
def byof (a b c d e : Int32) (k : Nat) : Int32 := nb (wof a b c d e k >>> (fds (k % 4) &&& 31))
theorem fds_k : ∀ k, k < 20 → (24 : Int32) - (8 : Int32) * (Int32.ofNat k - Int32.ofNat k / 4 * 4) = fds (k % 4) := by decide
section CM
variable {G : xG} {T T1 : xF} {o : Nat} {s s' : St} {A A' : Ad} {S S1 : MS} {g : Gw}
abbrev fedS (s : St) (a b c d e : Int32) : St := (sE s, sG s, sH s, sS s, sI s, (fun k => if k < sT s then sB s k else byof a b c d e (k - sT s)), sT s + 20, sF_ s, sR s)
theorem e_feedT (h : CIa G T o s A) (a b c d e : Int32) (h20 : sT s + 20 ≤ 700) : Rn T (c_X1_feed_18 FU (some o) a b c d e 0 T) fun v T' => v = Int32.ofNat (sT s + 20) ∧ CIa G T' o (fedS s a b c d e) A ∧ T'.2 = T.2 := by
  obtain ⟨f0, p1, p2⟩ := h.tpa
  obtain ⟨_, _, tg⟩ := h.tg
  have no : o ≠ aTp A := fun q => by have h1 := tg.1; have h2 := tg.2.2.2.2.2.1; rw [← q] at h2; omega
  have nr : aRf A ≠ aTp A := fun q => by have h1 := tg.2.2.2.2.2.1; have h2 := tg.2.2.2.2.2.2.1; rw [q] at h2; omega
  have nro : aRf A ≠ o := fun q => by have h1 := tg.1; have h2 := tg.2.2.2.2.2.2.1; rw [q] at h2; omega
  refine loop_rule (σ := xF) (N := 20) (fun i T1 => frm (fun x => x = aTp A) T T1 ∧ ∃ f : Nat → Int32, T1.1 (aTp A) = some (true, .inl (.byte, 700, .inl f)) ∧ (∀ k, k < sT s → f k = sB s k) ∧ ∀ k, k < i → f (sT s + k) = byof a b c d e k) (fun m i T1 => Rn T1 (c_X1_feed_18 m (some o) a b c d e (Int32.ofNat i) T1) _) ?_ ?_ FU (by decide) T ⟨frm.rf, f0, p1, p2, fun k hk => absurd hk (Nat.not_lt_zero k)⟩
  · rintro m i T1 hi ⟨F, f, q1, q2, q3⟩ K
    show Rn T1 (c_X1_feed_18_b (c_X1_feed_18 m) (some o) a b c d e (Int32.ofNat i) T1) _
    have c20 : ¬ (20 : Int32) ≤ Int32.ofNat i := fun q => by have := (ole (n := 20) (m := i) (by omega) (by omega)).mp q; omega
    obtain ⟨v11, v12, v13, sd, ob⟩ := h.ob
    have ob1 := ob.fr (T' := T1) (F.2 o no)
    have key : Rn T1 (c_X1_feed_71 (c_X1_feed_18 m) (some o) a b c d e (Int32.ofNat i) (wof a b c d e i) T1) fun v T' => v = Int32.ofNat (sT s + 20) ∧ CIa G T' o (fedS s a b c d e) A ∧ T'.2 = T.2 := by
      unfold c_X1_feed_71
      simp -implicitDefEqProofs only [ob1.q5, ob1.i6, show ¬ (4 : Int32) = 0 by decide, fds_k i hi, oadd, ofn1 i (by omega), Option.bind_some, not_true_eq_false, if_false, if_true]
      have st : stA T1 (some (aTp A)) .byte (Int32.ofNat (sT s + i)) (byof a b c d e i) = some (xset T1.1 (aTp A) (true, .inl (.byte, 700, .inl (upd f (sT s + i) (byof a b c d e i)))), T1.2) := by
        rw [stA.eq_2]
        simp -implicitDefEqProofs only [q1]
        rw [if_pos ⟨trivial, inb_o (by omega) (by omega)⟩, ocl (by omega)]
      have em : i - i / 4 * 4 = i % 4 := by omega
      refine Rn.st (T2 := (xset T1.1 (aTp A) (true, .inl (.byte, 700, .inl (upd f (sT s + i) (byof a b c d e i)))), T1.2)) ?_ ⟨Nat.le_refl _, Nat.le_refl _⟩ ?_
      · exact st
      · refine K _ ⟨F.tr ⟨rfl, fun x q => xset_no q⟩, _, xset_eq, fun k hk => ?_, fun k hk => ?_⟩
        · unfold upd; rw [if_neg (by omega)]; exact q2 k hk
        · unfold upd
          by_cases q : k = i
          · subst q; rw [if_pos rfl]
          · rw [if_neg (by omega)]; exact q3 k (by omega)
    unfold c_X1_feed_18_b
    rw [if_neg c20]
    have cmp : ∀ n, n < 100 → (Int32.ofNat n ≤ Int32.ofNat i ↔ n ≤ i) := fun n hn => ole (by omega) (by omega)
    have c4 := cmp 4 (by decide)
    have c8 := cmp 8 (by decide)
    have c12 := cmp 12 (by decide)
    have c16 := cmp 16 (by decide)
    unfold wof at key
    by_cases d4 : i < 4
    · rw [if_pos d4] at key
      rw [if_neg (show ¬ (4 : Int32) ≤ Int32.ofNat i from fun q => by have := c4.mp q; omega)]
      exact key
    rw [if_neg d4] at key
    rw [if_pos (show (4 : Int32) ≤ Int32.ofNat i from c4.mpr (by omega))]
    by_cases d8 : i < 8
    · rw [if_pos d8] at key
      rw [if_neg (show ¬ (8 : Int32) ≤ Int32.ofNat i from fun q => by have := c8.mp q; omega)]
      exact key
    rw [if_neg d8] at key
    rw [if_pos (show (8 : Int32) ≤ Int32.ofNat i from c8.mpr (by omega))]
    by_cases d12 : i < 12
    · rw [if_pos d12] at key
      rw [if_neg (show ¬ (12 : Int32) ≤ Int32.ofNat i from fun q => by have := c12.mp q; omega)]
      exact key
    rw [if_neg d12] at key
    rw [if_pos (show (12 : Int32) ≤ Int32.ofNat i from c12.mpr (by omega))]
    by_cases d16 : i < 16
    · rw [if_pos d16] at key
      rw [if_neg (show ¬ (16 : Int32) ≤ Int32.ofNat i from fun q => by have := c16.mp q; omega)]
      exact key
    rw [if_neg d16] at key
    rw [if_pos (show (16 : Int32) ≤ Int32.ofNat i from c16.mpr (by omega))]
    exact key
  · rintro m T1 ⟨F, f, q1, q2, q3⟩
    show Rn T1 (c_X1_feed_18_b (c_X1_feed_18 m) (some o) a b c d e (Int32.ofNat 20) T1) _
    unfold c_X1_feed_18_b
    rw [if_pos (by decide)]
    obtain ⟨v11, v12, v13, sd, ob⟩ := h.ob
    have ob1 := ob.fr (T' := T1) (F.2 o no)
    rw [ob1.i6, Option.bind_some]
    have e20 : Int32.ofNat (sT s) + 20 = Int32.ofNat (sT s + 20) := oadd _ 20
    rw [e20]
    obtain ⟨T2, e2, c2, f2, o2⟩ := pv_any (k := 6) (v := .int (Int32.ofNat (sT s + 20))) (show T1.1 o = _ from ob1)
    refine Rn.st e2 (x2_le c2) ?_
    have i2 : oI T2 (some o) 0 6 = some (Int32.ofNat (sT s + 20)) := by unfold oI oF; simp [o2, vI]
    rw [i2, Option.bind_some]
    have F2 : frm (fun x => x = aRf A ∨ x = aTp A ∨ x = o) T T2 := (F.up fun x q => Or.inr (Or.inl q)).tr ⟨c2, fun x q => f2 x fun r => q (Or.inr (Or.inr r))⟩
    refine Rn.ret ⟨rfl, h.rfx F2 ?_ ?_ ?_, by rw [c2, F.1]⟩
    · exact RfA.fr (A := A) (s := s) h.rfa ((f2 _ nro).trans (F.2 _ nr))
    · refine ⟨f, (f2 _ (Ne.symm no)).trans q1, fun k hk => ?_⟩
      have hk : k < sT s + 20 := hk
      show f k = (if k < sT s then sB s k else byof a b c d e (k - sT s))
      by_cases q : k < sT s
      · rw [if_pos q]; exact q2 k q
      · rw [if_neg q]
        have := q3 (k - sT s) (by omega)
        rw [show sT s + (k - sT s) = k by omega] at this
        exact this
    · intro w11 w12 w13 sd' ob'
      have e := ob.symm.trans ob'
      refine ⟨sd, ?_⟩
      have e1 := congrArg (fun z : Option (Bool × xC) => match z with
        | some (_, .inr (_, l)) => l
        | _ => []) e
      dsimp only at e1
      have q11 : va_rf v11 = va_rf w11 := congrArg (fun l : List Value => l.getD 11 .null) e1
      have q12 : va_rf v12 = va_rf w12 := congrArg (fun l : List Value => l.getD 12 .null) e1
      have q13 : va_rf v13 = va_rf w13 := congrArg (fun l : List Value => l.getD 13 .null) e1
      show T2.1 o = some (true, .inr (0, [_, _, _, _, _, _, _, _, _, _, _, va_rf w11, va_rf w12, va_rf w13, _]))
      rw [← q11, ← q12, ← q13]
      exact o2
theorem k_feed (ok : StOK s) (h : CIa G T o s A) (m : MI S s) (a b c d e : Int32) : Jn T (c_X1_feed (some o) a b c d e T) (m_feed a b c d e S) fun r T' q => r = q.1 ∧ Nx G o T s T' q.2 := by
  have m0 := m.th 0
  have h13 := m0.2.2.2.2.2.2.2.1
  have hT : sT s ≤ 700 := ok.2.2.2.2.2.1
  unfold c_X1_feed m_feed
  rw [h.i6, Option.bind_some, h13]
  have e20 : Int32.ofNat (sT s) + 20 = Int32.ofNat (sT s + 20) := oadd _ 20
  rw [e20]
  by_cases h20 : sT s + 20 ≤ 700
  · have c20 : Int32.ofNat (sT s + 20) ≤ 700 := (ole (n := sT s + 20) (m := 700) (by omega) (by omega)).mpr h20
    rw [if_pos c20, if_pos c20]
    have ms : Mn ((m_lays a (sF S 0 0)).bind fun q22 => (m_lays b q22).bind fun q27 => (m_lays c q27).bind fun q32 => (m_lays d q32).bind fun q38 => (m_lays e q38).bind fun q44 => some (q44.1 13, q44)) fun r => r.1 = Int32.ofNat (sT s + 20) ∧ (∀ k, k ≠ 13 → r.2.1 k = (sF S 0 0).1 k) ∧ r.2.1 13 = Int32.ofNat (sT s + 20) ∧ (∀ j, j ≠ 4 → r.2.2.2 j = (sF S 0 0).2.2 j) ∧ (∀ k, k < sT s → r.2.2.2 4 k = (sF S 0 0).2.2 4 k) ∧ ∀ k, k < 20 → r.2.2.2 4 (sT s + k) = (wof a b c d e k >>> (fds (k % 4) &&& 31)) &&& 255 := by
      refine Mn.bw (r_lays a (by omega) h13) fun S1 ⟨a1, a2, a3, a4, a5⟩ => ?_
      refine Mn.bw (r_lays b (by omega) a2) fun S2 ⟨b1, b2, b3, b4, b5⟩ => ?_
      refine Mn.bw (r_lays c (by omega) b2) fun S3 ⟨c1, c2, c3, c4, c5⟩ => ?_
      refine Mn.bw (r_lays d (by omega) c2) fun S4 ⟨d1, d2, d3, d4, d5⟩ => ?_
      refine Mn.bw (r_lays e (by omega) d2) fun S5 ⟨e1, e2, e3, e4, e5⟩ => ?_
      refine Mn.ret ⟨e2, fun k hk => by rw [e1 k hk, d1 k hk, c1 k hk, b1 k hk, a1 k hk], e2, fun j hj => by rw [e3 j hj, d3 j hj, c3 j hj, b3 j hj, a3 j hj], fun k hk => by rw [e5 k (by omega), d5 k (by omega), c5 k (by omega), b5 k (by omega), a5 k (by omega)], fun k hk => ?_⟩
      show S5.2.2 4 (sT s + k) = _
      unfold wof
      by_cases k4 : k < 4
      · rw [if_pos k4, e5 _ (by omega), d5 _ (by omega), c5 _ (by omega), b5 _ (by omega), a4 k k4, Nat.mod_eq_of_lt k4]
      rw [if_neg k4]
      by_cases k8 : k < 8
      · have := b4 (k - 4) (by omega)
        rw [if_pos k8, e5 _ (by omega), d5 _ (by omega), c5 _ (by omega), show k % 4 = k - 4 by omega, ← this, show sT s + k = sT s + 4 + (k - 4) by omega]
      rw [if_neg k8]
      by_cases k12 : k < 12
      · have := c4 (k - 8) (by omega)
        rw [if_pos k12, e5 _ (by omega), d5 _ (by omega), show k % 4 = k - 8 by omega, ← this, show sT s + k = sT s + 4 + 4 + (k - 8) by omega]
      rw [if_neg k12]
      by_cases k16 : k < 16
      · have := d4 (k - 12) (by omega)
        rw [if_pos k16, e5 _ (by omega), show k % 4 = k - 12 by omega, ← this, show sT s + k = sT s + 4 + 4 + 4 + (k - 12) by omega]
      rw [if_neg k16]
      have := e4 (k - 16) (by omega)
      rw [show k % 4 = k - 16 by omega, ← this, show sT s + k = sT s + 4 + 4 + 4 + 4 + (k - 16) by omega]
    refine Jn.of (e_feedT h a b c d e h20) ms fun v T' r ⟨p1, p2, p3⟩ ⟨q1, q2, q3, q4, q5, q6⟩ => ⟨p1.trans q1.symm, _, ?_, ⟨A, p2⟩, ?_, ?_⟩
    · refine ⟨ok.1, ok.2.1, ok.2.2.1, ok.2.2.2.1, ok.2.2.2.2.1, h20, fun k hk => ?_⟩
      show -128 ≤ (if k < sT s then sB s k else byof a b c d e (k - sT s)) ∧ (if k < sT s then sB s k else byof a b c d e (k - sT s)) ≤ 127
      split
      · rename_i q; exact ok.2.2.2.2.2.2 k q
      · exact nb_rng _
    · obtain ⟨a1, a2, a3, a4, a5, a6, a7, a8, a9, a10, a11⟩ := m0
      refine ⟨a1.mono (fun k z1 z2 => q2 k (by omega)) (fun j hj => q4 j (by omega)), by rw [q4 13 (by decide)]; exact a2, (q2 46 (by decide)).trans a3, fun k hk => by rw [q4 14 (by decide)]; exact a4 k hk, (q2 53 (by decide)).trans a5, fun k hk => by rw [q4 21 (by decide)]; exact a6 k hk, ?_, q3, fun k hk => ?_, (q2 15 (by decide)).trans a10, fun k hk => by rw [q4 5 (by decide)]; exact a11 k hk⟩
      · show match sI s with
          | none => _
          | some (g, h, x) => _
        cases hi : sI s with
        | none => rw [hi] at a7; exact (q2 58 (by decide)).trans a7
        | some x =>
          rw [hi] at a7
          obtain ⟨b1, b2, b3, b4, b5, b6⟩ := a7
          exact ⟨(q2 58 (by decide)).trans b1, by rw [q4 24 (by decide)]; exact b2, (q2 59 (by decide)).trans b3, by rw [q4 25 (by decide)]; exact b4, (q2 60 (by decide)).trans b5, by rw [q4 26 (by decide)]; exact b6⟩
      · have hk : k < sT s + 20 := hk
        show r.2.2.2 4 k = (if k < sT s then sB s k else byof a b c d e (k - sT s)) &&& 255
        by_cases q : k < sT s
        · rw [if_pos q, q5 k q]; exact a9 k q
        · rw [if_neg q]
          have := q6 (k - sT s) (by omega)
          rw [show sT s + (k - sT s) = k by omega] at this
          rw [this]
          unfold byof
          rw [nb_and]
    · unfold Bud
      rw [p3]
      show T.2.1 + 500 * (sT s + 20) ≤ _ ∧ T.2.2 + 4000 * (sT s + 20) ≤ _
      omega
  · have c20 : ¬ Int32.ofNat (sT s + 20) ≤ 700 := fun q => h20 ((ole (n := sT s + 20) (m := 700) (by omega) (by omega)).mp q)
    rw [if_neg c20, if_neg c20]
    exact Jnum ok h m0 (by omega) (by omega) rfl
end CM
