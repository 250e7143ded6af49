/-! plain law: numbers and lists -/
set_option maxRecDepth 100000
theorem tIo {n : Nat} (h : n < 2000000) : (Int32.ofNat n).toInt = n := Int32.toInt_ofNat_of_lt (by omega)
theorem ole {n m : Nat} (h : n < 2000000) (k : m < 2000000) : Int32.ofNat n ≤ Int32.ofNat m ↔ n ≤ m := by
  rw [i32le, tIo h, tIo k]
  omega
theorem olt {n m : Nat} (h : n < 2000000) (k : m < 2000000) : Int32.ofNat n < Int32.ofNat m ↔ n < m := by
  rw [i32lt, tIo h, tIo k]
  omega
theorem oeq {n m : Nat} (h : n < 2000000) (k : m < 2000000) : Int32.ofNat n = Int32.ofNat m ↔ n = m := by
  rw [← Int32.toInt_inj, tIo h, tIo k]
  omega
theorem on0 {n : Nat} (h : n < 2000000) : ¬ Int32.ofNat n < 0 := by
  rw [i32lt, tIo h, i0]
  omega
theorem ocl {n : Nat} (h : n < 2000000) : (Int32.ofNat n).toNatClampNeg = n := by
  show (Int32.ofNat n).toInt.toNat = n
  rw [tIo h]
  rfl
theorem oadd (a b : Nat) : Int32.ofNat a + Int32.ofNat b = Int32.ofNat (a + b) := by rw [Int32.ofNat_add]
theorem osub {a b : Nat} (h : b ≤ a) (k : a < 2000000) : Int32.ofNat a - Int32.ofNat b = Int32.ofNat (a - b) := by
  rw [← Int32.toInt_inj, tI_sub (by rw [tIo k, tIo (by omega)]; omega) (by rw [tIo k, tIo (by omega)]; omega), tIo k, tIo (by omega), tIo (by omega)]
  omega
/-- a number that isn't below none -/
theorem onat {v : Int32} (h : 0 ≤ v) : v = Int32.ofNat v.toNatClampNeg := by
  rw [i32le, i0] at h
  have h1 : v.toNatClampNeg = v.toInt.toNat := rfl
  have h2 : v.toInt < 2147483648 := Int32.toInt_lt v
  rw [← Int32.toInt_inj, Int32.toInt_ofNat_of_lt (by rw [h1]; omega), h1]
  omega
theorem inb_o {i n : Nat} (hi : i < n) (h : i < 2000000) : inb (Int32.ofNat i) n = true := by
  unfold inb
  refine decide_eq_true fun q => ?_
  rcases q with q | q
  · exact on0 h q
  · rw [ocl h] at q; omega
/-- a cell may lie in a list -/
def AO (T : xF) (q : Nat) : Prop := ∀ T' : xF, T'.1 q = T.1 q → asg T' (.object "java/lang/Object") (some q) = true
theorem AO.mono {T T' : xF} {q : Nat} (h : AO T q) (k : T'.1 q = T.1 q) : AO T' q := fun T2 e => h T2 (e.trans k)
/-- a list of n cells at l, its array at a -/
def LsAt (T : xF) (l a n : Nat) (f : Nat → Nat) (w : Bool) (cap : Nat) : Prop := (∃ m, T.1 l = some (true, .inr (10, [.int m, va_rf (some a), .int (Int32.ofNat n)]))) ∧ (∃ F : Nat → Option Nat, T.1 a = some (w, .inl (.object "java/lang/Object", cap, .inr (.inr (.inr (.inr F))))) ∧ ∀ k, k < n → F k = some (f k)) ∧ n ≤ cap ∧ cap ≤ 1500 ∧ (0 < cap → w = true)
section LS
variable {T : xF} {l a n cap : Nat} {f : Nat → Nat} {w : Bool}
theorem LsAt.o1 (h : LsAt T l a n f w cap) : oQ T (some l) 10 1 = some (some a) := by
  obtain ⟨⟨m, h1⟩, -⟩ := h
  unfold oQ oF; simp [h1, vQ, va_rf]
theorem LsAt.o2 (h : LsAt T l a n f w cap) : oI T (some l) 10 2 = some (Int32.ofNat n) := by
  obtain ⟨⟨m, h1⟩, -⟩ := h
  unfold oI oF; simp [h1, vI]
theorem LsAt.is (h : LsAt T l a n f w cap) : isO T (some l) 10 = true := by
  obtain ⟨⟨m, h1⟩, -⟩ := h
  rw [isO.eq_1]; unfold oF; simp [h1]
theorem LsAt.size (h : LsAt T l a n f w cap) : c_J2_size T (some l) = some (Int32.ofNat n) := by
  unfold c_J2_size
  rw [h.o2, Option.bind_some]
theorem LsAt.n1500 (h : LsAt T l a n f w cap) : n ≤ 1500 := by
  obtain ⟨-, -, h1, h2, -⟩ := h
  omega
theorem LsAt.emp (h : LsAt T l a n f w cap) : c_J2_isEmpty T (some l) = some (b01 (n == 0)) := by
  have hn := h.n1500
  unfold c_J2_isEmpty
  rw [h.o2, Option.bind_some]
  by_cases h0 : n = 0
  · subst h0; rfl
  · rw [if_neg (show ¬ Int32.ofNat n = (0 : Int32) from fun q => h0 ((oeq (n := n) (m := 0) (by omega) (by omega)).mp q))]
    have : (n == 0) = false := beq_eq_false_iff_ne.mpr h0
    rw [this]; rfl
theorem LsAt.aR (h : LsAt T l a n f w cap) : ∃ F, aR T (some a) = some (.object "java/lang/Object", cap, F) ∧ ∀ k, k < n → F k = some (f k) := by
  obtain ⟨-, ⟨F, h1, h2⟩, -⟩ := h
  refine ⟨F, ?_, h2⟩
  rw [aR.eq_2]
  simp -implicitDefEqProofs only [h1]
  rfl
theorem LsAt.len (h : LsAt T l a n f w cap) : len T (some a) = some (Int32.ofNat cap) := by
  obtain ⟨-, ⟨F, h1, h2⟩, -⟩ := h
  rw [len.eq_2]
  simp -implicitDefEqProofs only [h1]
theorem LsAt.ldR (h : LsAt T l a n f w cap) {k : Nat} (hk : k < n) : ldR T (some a) (Int32.ofNat k) = some (some (f k)) := by
  have hn := h.n1500
  obtain ⟨F, h1, h2⟩ := h.aR
  have h3 := h.2.2.1
  rw [ldR.eq_1]
  rw [h1, Option.bind_some, if_pos (inb_o (by show k < cap; omega) (by omega)), ocl (by omega)]
  exact congrArg some (h2 k hk)
theorem LsAt.get (h : LsAt T l a n f w cap) {k : Nat} (hk : k < n) : c_J2_get T (some l) (Int32.ofNat k) = some (some (f k)) := by
  have hn := h.n1500
  unfold c_J2_get c_J2_elementData c_J19_checkIndex c_J11_checkIndex
  simp -implicitDefEqProofs only [h.o1, h.o2, h.is, h.ldR hk, Option.bind_some, not_true_eq_false, if_false, if_true, on0 (show k < 2000000 by omega), (olt (show k < 2000000 by omega) (show n < 2000000 by omega)).mpr hk]
theorem LsAt.fr {T' : xF} (h : LsAt T l a n f w cap) (hl : T'.1 l = T.1 l) (ha : T'.1 a = T.1 a) : LsAt T' l a n f w cap := by
  obtain ⟨⟨m, h1⟩, ⟨F, h2, h3⟩, h4⟩ := h
  exact ⟨⟨m, hl.trans h1⟩, ⟨F, ha.trans h2, h3⟩, h4⟩
theorem LsAt.ne (h : LsAt T l a n f w cap) : l ≠ a := by
  obtain ⟨⟨m, h1⟩, ⟨F, h2, h3⟩, h4⟩ := h
  intro q
  subst q
  rw [h1] at h2
  cases h2
/-- fields of a list's object -/
theorem LsAt.pn (h : LsAt T l a n f w cap) (k : Nat) : ∃ T', pV T (some l) 10 2 (.int (Int32.ofNat k)) = some T' ∧ frm (fun x => x = l) T T' ∧ ∃ m, T'.1 l = some (true, .inr (10, [.int m, va_rf (some a), .int (Int32.ofNat k)])) := by
  obtain ⟨⟨m, h1⟩, -⟩ := h
  refine ⟨(xset T.1 l (true, .inr (10, [.int m, va_rf (some a), .int (Int32.ofNat k)])), T.2), ?_, ⟨rfl, fun x hx => xset_no hx⟩, ⟨m, xset_eq⟩⟩
  unfold pV
  simp -implicitDefEqProofs only [h1, if_true]
  rfl
theorem LsAt.pa (h : LsAt T l a n f w cap) (b : Nat) : ∃ T', pV T (some l) 10 1 (va_rf (some b)) = some T' ∧ frm (fun x => x = l) T T' ∧ ∃ m, T'.1 l = some (true, .inr (10, [.int m, va_rf (some b), .int (Int32.ofNat n)])) := by
  obtain ⟨⟨m, h1⟩, -⟩ := h
  refine ⟨(xset T.1 l (true, .inr (10, [.int m, va_rf (some b), .int (Int32.ofNat n)])), T.2), ?_, ⟨rfl, fun x hx => xset_no hx⟩, ⟨m, xset_eq⟩⟩
  unfold pV
  simp -implicitDefEqProofs only [h1, if_true]
  rfl
/-- the count of changes -/
theorem LsAt.pm (h : LsAt T l a n f w cap) : ∃ m T', oI T (some l) 10 0 = some m ∧ pV T (some l) 10 0 (.int (m + 1)) = some T' ∧ frm (fun x => x = l) T T' ∧ LsAt T' l a n f w cap := by
  have hne := h.ne
  obtain ⟨⟨m, h1⟩, h2⟩ := h
  have F : frm (fun x => x = l) T (xset T.1 l (true, .inr (10, [.int (m + 1), va_rf (some a), .int (Int32.ofNat n)])), T.2) := ⟨rfl, fun x hx => xset_no hx⟩
  refine ⟨m, (xset T.1 l (true, .inr (10, [.int (m + 1), va_rf (some a), .int (Int32.ofNat n)])), T.2), ?_, ?_, F, ⟨m + 1, xset_eq⟩, ?_⟩
  · unfold oI oF; simp [h1, vI]
  · unfold pV
    simp -implicitDefEqProofs only [h1, if_true]
    rfl
  · obtain ⟨⟨G, g1, g2⟩, g3⟩ := h2
    exact ⟨⟨G, by rw [F.2 a (Ne.symm hne)]; exact g1, g2⟩, g3⟩
end LS
theorem e_newLen {k n : Nat} (hk : k < 1501) (hn : n = k + 1) : c_J15_newLength (Int32.ofNat k) (Int32.ofNat n - Int32.ofNat k) (Int32.ofNat k >>> ((1 : Int32) &&& 31)) = some (Int32.ofNat (k + max 1 (k / 2))) := by
  subst hn
  have hs : Int32.ofNat k >>> ((1 : Int32) &&& 31) = Int32.ofNat (k / 2) := by
    have : ∀ k, k < 1501 → Int32.ofNat k >>> ((1 : Int32) &&& 31) = Int32.ofNat (k / 2) := by decide +kernel
    exact this k hk
  unfold c_J15_newLength
  rw [hs, osub (by omega) (by omega), e_max, Option.bind_some]
  have hm : imax (Int32.ofNat (k + 1 - k)) (Int32.ofNat (k / 2)) = Int32.ofNat (max 1 (k / 2)) := by
    rw [← Int32.toInt_inj, imax_tI, tIo (by omega), tIo (by omega), tIo (by omega)]
    omega
  rw [hm, oadd]
  have h0 : ¬ Int32.ofNat (k + max 1 (k / 2)) ≤ (0 : Int32) := fun q => by
    have := (ole (n := k + max 1 (k / 2)) (m := 0) (by omega) (by omega)).mp q
    omega
  have h1 : ¬ (2147483639 : Int32) < Int32.ofNat (k + max 1 (k / 2)) := fun q => by
    rw [i32lt, tIo (by omega)] at q
    have : (2147483639 : Int32).toInt = 2147483639 := by decide
    omega
  rw [if_neg h0, if_neg h1]
/-- a copy of an array of references, m of its n cells -/
theorem e_copyOf {G : xG} {T : xF} {a cap n m : Nat} {w : Bool} {F : Nat → Option Nat} (h : T.1 a = some (w, .inl (.object "java/lang/Object", cap, .inr (.inr (.inr (.inr F)))))) (ha : a < T.2.1) (hcap : cap ≤ 1500) (hm : m ≤ 3000) (hn : n = min cap m) (ho : ∀ k, k < n → F k = none ∨ ∃ q, F k = some q ∧ q < T.2.1 ∧ AO T q) : Rn T (c_J16_copyOf G (some a) (Int32.ofNat m) T) fun v T' => v = some T.2.1 ∧ (∀ x, x ≠ T.2.1 → T'.1 x = T.1 x) ∧ T'.2.1 = T.2.1 + 1 ∧ T'.2.2 = T.2.2 + m ∧ ∃ F', T'.1 T.2.1 = some (true, .inl (.object "java/lang/Object", m, .inr (.inr (.inr (.inr F'))))) ∧ ∀ k, k < n → F' k = F k := by
  have hx : ∀ x, x ≠ T.2.1 → (nR T "java/lang/Object" m).1 x = T.1 x := fun x q => xset_no q
  have h2 : (nR T "java/lang/Object" m).1 a = some (w, .inl (.object "java/lang/Object", cap, .inr (.inr (.inr (.inr F))))) := by rw [hx a (by omega)]; exact h
  have hc : ∀ (T3 : xF), T3 = (xset (nR T "java/lang/Object" m).1 T.2.1 (true, .inl (.object "java/lang/Object", m, .inr (.inr (.inr (.inr (va_cpy F (fun _ => none) 0 0 n)))))), (nR T "java/lang/Object" m).2) → cpR (nR T "java/lang/Object" m) (some a) (0 : Int32) (some T.2.1) (0 : Int32) (Int32.ofNat n) = some T3 := by
    intro T3 e3
    have har : aR (nR T "java/lang/Object" m) (some a) = some (.object "java/lang/Object", cap, F) := by
      rw [aR.eq_2]
      simp -implicitDefEqProofs only [h2]
      rfl
    unfold cpR
    rw [har, Option.bind_some]
    have h3 : (nR T "java/lang/Object" m).1 T.2.1 = some (true, .inl (.object "java/lang/Object", m, .inr (.inr (.inr (.inr (fun _ => none)))))) := xset_eq
    simp -implicitDefEqProofs only [h3]
    rw [if_pos, e3]
    · simp -implicitDefEqProofs only [ocl (show n < 2000000 by omega)]
      rfl
    · rw [ocl (by omega)]
      refine ⟨⟨by decide, by decide, on0 (by omega)⟩, ⟨by show 0 + n ≤ cap; omega, by show 0 + n ≤ m; omega⟩, ?_⟩
      rw [List.all_eq_true]
      intro k hk
      have hk2 := List.mem_range.mp hk
      show asg _ _ (F (0 + k)) = true
      rw [Nat.zero_add]
      rcases ho k hk2 with q | ⟨q, q1, q2, q3⟩
      · rw [q]; exact asg_null
      · rw [q1]; exact q3 _ (hx q (by omega))
  unfold c_J16_copyOf
  have hoa : isOA T (some a) = true := by rw [isOA.eq_2]; simp -implicitDefEqProofs only [h]; rfl
  simp -implicitDefEqProofs only [hoa, Option.bind_some, not_true_eq_false, if_false, if_true]
  have h100 : ¬ (Int32.ofNat m < 0 ∨ 100000000 ≤ (Int32.ofNat m).toNatClampNeg) := fun q => by
    rcases q with q | q
    · exact on0 (by omega) q
    · rw [ocl (by omega)] at q; omega
  unfold c_J16_copyOf_2
  rw [if_pos rfl, if_neg h100, ocl (by omega)]
  refine Rn.cl (P := fun v T' => v = some T.2.1 ∧ T' = (xset (nR T "java/lang/Object" m).1 T.2.1 (true, .inl (.object "java/lang/Object", m, .inr (.inr (.inr (.inr (va_cpy F (fun _ => none) 0 0 n)))))), (nR T "java/lang/Object" m).2)) ?_ fun v T2 _ ⟨v1, v2⟩ => ?_
  · refine Rn.al ⟨Nat.le_succ _, Nat.le_add_right _ _⟩ ?_
    have hl : len (nR T "java/lang/Object" m) (some a) = some (Int32.ofNat cap) := by
      rw [len.eq_2]
      simp -implicitDefEqProofs only [h2]
    have hmin : imin (Int32.ofNat cap) (Int32.ofNat m) = Int32.ofNat n := by
      rw [← Int32.toInt_inj, imin_tI, tIo (by omega), tIo (by omega), tIo (by omega), hn]
      omega
    rw [hl, Option.bind_some, e_min, Option.bind_some, hmin, hc _ rfl, Option.bind_some]
    exact Rn.ret ⟨rfl, rfl⟩
  · subst v1 v2
    refine Rn.ret ⟨rfl, fun x q => ?_, rfl, rfl, _, xset_eq, fun k hk => ?_⟩
    · exact (xset_no q).trans (hx x q)
    · unfold va_cpy
      rw [if_pos ⟨Nat.zero_le _, by omega⟩]
      congr 1
      omega
