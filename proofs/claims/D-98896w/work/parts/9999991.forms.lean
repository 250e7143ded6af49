/-! plain law: forms in the heap and what they say -/
set_option maxRecDepth 100000
abbrev Sem : Type := (Nat → Int32) → Int32
/-- a form at fo, all of it between lo and hi -/
def FmOK (G : xG) (T : xF) (fo lo hi : Nat) (r : Sem) (n : Nat) : Prop := lo ≤ fo ∧ fo < hi ∧ hi ≤ T.2.1 ∧ ∀ T' : xF, (∀ x, lo ≤ x → x < hi → T'.1 x = T.1 x) → (∃ w c fs, T'.1 fo = some (w, .inr (c, fs)) ∧ (c = 6 ∨ c = 7 ∨ c = 8 ∨ c = 9)) ∧ ∀ f va, VaAt T' va f → ∀ m, n ≤ m → c_of G m T' (some fo) (some va) = some (r f)
section FM
variable {G : xG} {T T' : xF} {fo lo hi n : Nat} {r : Sem}
theorem FmOK.mv (h : FmOK G T fo lo hi r n) (hl : T.2.1 ≤ T'.2.1) (k : ∀ x, lo ≤ x → x < hi → T'.1 x = T.1 x) : FmOK G T' fo lo hi r n := ⟨h.1, h.2.1, by have := h.2.2.1; omega, fun T2 q => h.2.2.2 T2 fun x a b => (q x a b).trans (k x a b)⟩
theorem FmOK.up (h : FmOK G T fo lo hi r n) {lo' hi' n' : Nat} (h1 : lo' ≤ lo) (h2 : hi ≤ hi') (h3 : hi' ≤ T.2.1) (h4 : n ≤ n') : FmOK G T fo lo' hi' r n' := ⟨by have := h.1; omega, by have := h.2.1; omega, h3, fun T2 q => by
  obtain ⟨a, b⟩ := h.2.2.2 T2 fun x x1 x2 => q x (by omega) (by omega)
  exact ⟨a, fun f va hv m hm => b f va hv m (by omega)⟩⟩
theorem FmOK.now (h : FmOK G T fo lo hi r n) : ∃ w c fs, T.1 fo = some (w, .inr (c, fs)) ∧ (c = 6 ∨ c = 7 ∨ c = 8 ∨ c = 9) := (h.2.2.2 T fun _ _ _ => rfl).1
theorem FmOK.ao (h : FmOK G T fo lo hi r n) : AO T fo := by
  obtain ⟨w, c, fs, e, hc⟩ := h.now
  exact fun T' k => asg_o (k.trans e) (by omega)
theorem fm_cst {w : Bool} {c : Nat} {fs : List Value} (e : T.1 fo = some (w, .inr (c, fs))) (hc : c = 6 ∨ c = 7 ∨ c = 8 ∨ c = 9) : cst T (some fo) [6, 7, 8, 9] = true := by
  rw [cst.eq_2]
  simp -implicitDefEqProofs only [e]
  rcases hc with rfl | rfl | rfl | rfl <;> rfl
theorem FmOK.ext (h : FmOK G T fo lo hi r n) {r' : Sem} (e : ∀ f, r f = r' f) : FmOK G T fo lo hi r' n := ⟨h.1, h.2.1, h.2.2.1, fun T2 q => by
  obtain ⟨a, b⟩ := h.2.2.2 T2 q
  exact ⟨a, fun f va hv m hm => (b f va hv m hm).trans (congrArg some (e f))⟩⟩
end FM
def sgb (o : Nat) : Nat := if o = 4 then 38 else if o = 5 then 124 else if o = 6 then 60 else if o = 7 then 61 else if o = 8 then 43 else if o = 9 then 45 else if o = 10 then 42 else 47
theorem sgb_l (o : Nat) : sgb o < 128 := by
  unfold sgb
  repeat' split
  all_goals omega
theorem e_by {o : Nat} (h1 : 4 ≤ o) (h2 : o ≤ 11) (x y : Int32) : c_X7_by (Int32.ofNat (sgb o)) x y = some (wk o x y) := by
  have ho : o = 4 ∨ o = 5 ∨ o = 6 ∨ o = 7 ∨ o = 8 ∨ o = 9 ∨ o = 10 ∨ o = 11 := by omega
  rw [← e_works]
  rcases ho with rfl | rfl | rfl | rfl | rfl | rfl | rfl | rfl
  · show c_X7_by 38 x y = m_works 4 x y
    unfold c_X7_by m_works
    by_cases hx : x = 0 <;> by_cases hy : y = 0 <;> simp -implicitDefEqProofs (decide := true) only [hx, hy, if_true, if_false]
  · show c_X7_by 124 x y = m_works 5 x y
    unfold c_X7_by m_works
    by_cases hx : x = 0 <;> by_cases hy : y = 0 <;> simp -implicitDefEqProofs (decide := true) only [hx, hy, if_true, if_false, c_X7_by_180, m_works_66]
  · show c_X7_by 60 x y = m_works 6 x y
    unfold c_X7_by m_works
    simp -implicitDefEqProofs (decide := true) only [if_true, if_false]
  · show c_X7_by 61 x y = m_works 7 x y
    unfold c_X7_by m_works
    simp -implicitDefEqProofs (decide := true) only [if_true, if_false]
  · show c_X7_by 43 x y = m_works 8 x y
    unfold c_X7_by m_works
    simp -implicitDefEqProofs (decide := true) only [if_true, if_false]
  · show c_X7_by 45 x y = m_works 9 x y
    unfold c_X7_by m_works
    simp -implicitDefEqProofs (decide := true) only [if_true, if_false]
  · show c_X7_by 42 x y = m_works 10 x y
    unfold c_X7_by m_works
    simp -implicitDefEqProofs (decide := true) only [if_true, if_false]
  · show c_X7_by 47 x y = m_works 11 x y
    unfold c_X7_by m_works
    simp -implicitDefEqProofs (decide := true) only [if_true, if_false]
/-- a number, a word -/
theorem fm_num {G : xG} {T : xF} {a n : Nat} (h : T.1 a = some (true, .inr (7, [.int (Int32.ofNat n)]))) (ha : a < T.2.1) : FmOK G T a a (a + 1) (fun _ => Int32.ofNat n) 1 := by
  refine ⟨Nat.le_refl _, Nat.lt_succ_self _, ha, fun T' q => ?_⟩
  have e := (q a (Nat.le_refl _) (Nat.lt_succ_self _)).trans h
  refine ⟨⟨_, _, _, e, Or.inr (Or.inl rfl)⟩, fun f va hv m hm => ?_⟩
  obtain ⟨m, rfl⟩ : ∃ k, m = k + 1 := ⟨m - 1, by omega⟩
  have o6 : isO T' (some a) 6 = false := by rw [isO.eq_1]; unfold oF; simp [e]
  have o7 : isO T' (some a) 7 = true := by rw [isO.eq_1]; unfold oF; simp [e]
  have i0 : oI T' (some a) 7 0 = some (Int32.ofNat n) := by unfold oI oF; simp [e, vI]
  unfold c_of c_X8_of
  rw [o6, if_neg (by decide), o7, if_pos rfl, i0, Option.bind_some]
theorem fm_wrd {G : xG} {T : xF} {a i : Nat} (h : T.1 a = some (true, .inr (8, [.int (Int32.ofNat i)]))) (ha : a < T.2.1) (hi : i < 7) : FmOK G T a a (a + 1) (fun f => f i) 1 := by
  refine ⟨Nat.le_refl _, Nat.lt_succ_self _, ha, fun T' q => ?_⟩
  have e := (q a (Nat.le_refl _) (Nat.lt_succ_self _)).trans h
  refine ⟨⟨_, _, _, e, Or.inr (Or.inr (Or.inl rfl))⟩, fun f va hv m hm => ?_⟩
  obtain ⟨m, rfl⟩ : ∃ k, m = k + 1 := ⟨m - 1, by omega⟩
  have o6 : isO T' (some a) 6 = false := by rw [isO.eq_1]; unfold oF; simp [e]
  have o7 : isO T' (some a) 7 = false := by rw [isO.eq_1]; unfold oF; simp [e]
  have o8 : isO T' (some a) 8 = true := by rw [isO.eq_1]; unfold oF; simp [e]
  have i0 : oI T' (some a) 8 0 = some (Int32.ofNat i) := by unfold oI oF; simp [e, vI]
  have ld : ldA T' (some va) .int (Int32.ofNat i) = some (f i) := by
    unfold VaAt at hv
    unfold ldA aA
    simp -implicitDefEqProofs only [hv, if_true, Option.bind_some]
    rw [if_pos (inb_o hi (by omega)), ocl (by omega)]
  unfold c_of c_X9_of
  rw [o6, if_neg (by decide), o7, if_neg (by decide), o8, if_pos rfl, i0, Option.bind_some, ld, Option.bind_some]
theorem fm_not {G : xG} {T : xF} {a fo lo hi n : Nat} {r : Sem} (h : T.1 a = some (true, .inr (9, [va_rf (some fo)]))) (ha : a < T.2.1) (k : FmOK G T fo lo hi r n) (h1 : hi ≤ a) : FmOK G T a lo (a + 1) (fun f => if r f = 0 then 1 else 0) (n + 1) := by
  refine ⟨by have := k.1; have := k.2.1; omega, Nat.lt_succ_self _, ha, fun T' q => ?_⟩
  have kl := k.1
  have kh := k.2.1
  have e := (q a (by omega) (Nat.lt_succ_self _)).trans h
  obtain ⟨_, ev⟩ := k.2.2.2 T' fun x a b => q x a (by omega)
  refine ⟨⟨_, _, _, e, Or.inr (Or.inr (Or.inr rfl))⟩, fun f va hv m hm => ?_⟩
  obtain ⟨m, rfl⟩ : ∃ k, m = k + 1 := ⟨m - 1, by omega⟩
  have o6 : isO T' (some a) 6 = false := by rw [isO.eq_1]; unfold oF; simp [e]
  have o7 : isO T' (some a) 7 = false := by rw [isO.eq_1]; unfold oF; simp [e]
  have o8 : isO T' (some a) 8 = false := by rw [isO.eq_1]; unfold oF; simp [e]
  have o9 : isO T' (some a) 9 = true := by rw [isO.eq_1]; unfold oF; simp [e]
  have i0 : oQ T' (some a) 9 0 = some (some fo) := by unfold oQ oF; simp [e, vQ, va_rf]
  unfold c_of c_X10_of
  rw [o6, if_neg (by decide), o7, if_neg (by decide), o8, if_neg (by decide), o9, if_pos rfl, i0, Option.bind_some, ev f va hv m (by omega), Option.bind_some]
  show _ = some (if r f = 0 then 1 else 0)
  by_cases z : r f = 0
  · rw [if_pos z, if_pos z]
  · rw [if_neg z, if_neg z]
/-! rows -/
def chk (rs : Nat → Sem) (os : Nat → Nat) : Nat → Sem
  | 0 => rs 0
  | k + 1 => fun f => wk (os k) (chk rs os k f) (rs (k + 1) f)
theorem chk_cg {rs rs' : Nat → Sem} {os os' : Nat → Nat} : ∀ k, (∀ i, i ≤ k → rs i = rs' i) → (∀ i, i < k → os i = os' i) → chk rs os k = chk rs' os' k := by
  intro k
  induction k with
  | zero => intro h _; exact h 0 (Nat.le_refl _)
  | succ k ih =>
    intro h1 h2
    have e := ih (fun i q => h1 i (by omega)) (fun i q => h2 i (by omega))
    show (fun f => wk (os k) (chk rs os k f) (rs (k + 1) f)) = fun f => wk (os' k) (chk rs' os' k f) (rs' (k + 1) f)
    rw [e, h1 (k + 1) (Nat.le_refl _), h2 k (Nat.lt_succ_self _)]
/-- the cells of a row's own -/
def ChC (T : xF) (ch l a sb ba n cap bn : Nat) (fa os : Nat → Nat) : Prop := T.1 ch = some (true, .inr (6, [va_rf (some l), va_rf (some sb)])) ∧ LsAt T l a n fa true cap ∧ (∃ x2, T.1 sb = some (true, .inr (12, [va_rf (some ba), .int 0, .int x2, .int (Int32.ofNat (n - 1))]))) ∧ (∃ B : Nat → Int32, T.1 ba = some (true, .inl (.byte, bn, .inl B)) ∧ ∀ k, k < n - 1 → B k = Int32.ofNat (sgb (os k))) ∧ n ≤ bn + 1 ∧ bn ≤ 1500 ∧ 16 ≤ bn ∧ ∀ k, k < n - 1 → 4 ≤ os k ∧ os k ≤ 11
section CH
variable {G : xG} {T : xF} {ch l a sb ba n cap bn : Nat} {fa os : Nat → Nat}
theorem ChC.fr {T' : xF} (h : ChC T ch l a sb ba n cap bn fa os) (k : ∀ y, (y = ch ∨ y = l ∨ y = a ∨ y = sb ∨ y = ba) → T'.1 y = T.1 y) : ChC T' ch l a sb ba n cap bn fa os := by
  obtain ⟨h1, h2, ⟨x2, h3⟩, ⟨B, h4, h5⟩, h6⟩ := h
  exact ⟨(k ch (Or.inl rfl)).trans h1, h2.fr (k l (Or.inr (Or.inl rfl))) (k a (Or.inr (Or.inr (Or.inl rfl)))), ⟨x2, (k sb (Or.inr (Or.inr (Or.inr (Or.inl rfl))))).trans h3⟩, ⟨B, (k ba (Or.inr (Or.inr (Or.inr (Or.inr rfl))))).trans h4, h5⟩, h6⟩
theorem ChC.q0 (h : ChC T ch l a sb ba n cap bn fa os) : oQ T (some ch) 6 0 = some (some l) := by unfold oQ oF; simp [h.1, vQ, va_rf]
theorem ChC.q1 (h : ChC T ch l a sb ba n cap bn fa os) : oQ T (some ch) 6 1 = some (some sb) := by unfold oQ oF; simp [h.1, vQ, va_rf]
theorem ChC.is (h : ChC T ch l a sb ba n cap bn fa os) : isO T (some ch) 6 = true := by rw [isO.eq_1]; unfold oF; simp [h.1]
theorem ChC.at (h : ChC T ch l a sb ba n cap bn fa os) (hn : n ≤ 700) {k : Nat} (hk : k < n - 1) : isO T (some sb) 12 = true ∧ c_J18_charAt G T (some sb) (Int32.ofNat k) = some (Int32.ofNat (sgb (os k))) := by
  obtain ⟨h1, h2, ⟨x2, h3⟩, ⟨B, h4, h5⟩, h6, h7, h8, h9⟩ := h
  have hi : isO T (some sb) 12 = true := by rw [isO.eq_1]; unfold oF; simp [h3]
  refine ⟨hi, ?_⟩
  have i1 : oI T (some sb) 12 1 = some 0 := by unfold oI oF; simp [h3, vI]
  have i3 : oI T (some sb) 12 3 = some (Int32.ofNat (n - 1)) := by unfold oI oF; simp [h3, vI]
  have q0 : oQ T (some sb) 12 0 = some (some ba) := by unfold oQ oF; simp [h3, vQ, va_rf]
  have hl : len T (some ba) = some (Int32.ofNat bn) := by rw [len.eq_2]; simp -implicitDefEqProofs only [h4]
  have sh : ∀ n, n < 2000 → Int32.ofNat n >>> ((0 : Int32) &&& 31) = Int32.ofNat n := by decide +kernel
  have hd : ldA T (some ba) .byte (Int32.ofNat k) = some (Int32.ofNat (sgb (os k))) := by
    unfold ldA aA
    simp -implicitDefEqProofs only [h4, if_true, Option.bind_some]
    rw [if_pos (inb_o (by omega) (by omega)), ocl (by omega), h5 k hk]
  obtain ⟨n1, n2⟩ := ch_nar _ (sgb_l (os k))
  have mn : c_J7_min (Int32.ofNat (n - 1)) (Int32.ofNat bn) = some (Int32.ofNat (n - 1)) := by
    unfold c_J7_min
    rw [if_neg (fun q => by have := (olt (by omega) (by omega)).mp q; omega)]
  have ck : c_J17_charAt G T (some sb) (Int32.ofNat k) = some (Int32.ofNat (sgb (os k))) := by
    unfold c_J17_charAt c_J8_checkIndex c_J11_checkIndex
    rw [i1, Option.bind_some, q0, Option.bind_some, i3, Option.bind_some, hl, Option.bind_some, sh bn (by omega), mn, Option.bind_some, if_neg (on0 (by omega)), if_pos ((olt (by omega) (by omega)).mpr hk), Option.bind_some, Option.bind_some, if_pos rfl, hd, Option.bind_some, n1, if_neg (not_not_intro n2)]
  unfold c_J18_charAt
  rw [if_neg (not_not_intro hi), ck, Option.bind_some, if_neg (not_not_intro n2)]
/-- what a row says -/
theorem ChC.of_ (h : ChC T ch l a sb ba n cap bn fa os) (hn : n ≤ 700) (h0 : 0 < n) {rs : Nat → Sem} {va : Nat} {f : Nat → Int32} {m : Nat} (hk : ∀ k, k < n → (∃ w c fs, T.1 (fa k) = some (w, .inr (c, fs)) ∧ (c = 6 ∨ c = 7 ∨ c = 8 ∨ c = 9)) ∧ c_of G m T (some (fa k)) (some va) = some (rs k f)) : c_of G (m + 1) T (some ch) (some va) = some (chk rs os (n - 1) f) := by
  have hc : ∀ k, k < n → cst T (some (fa k)) [6, 7, 8, 9] = true := fun k q => by
    obtain ⟨⟨w, c, fs, e, hc⟩, -⟩ := hk k q
    exact fm_cst e hc
  have key : ∀ j k m2, k + 1 + j = n → j < m2 → c_X7_of_22 G (c_of G m T) T m2 (some ch) (some va) (chk rs os k f) (Int32.ofNat (k + 1)) = some (chk rs os (n - 1) f) := by
    intro j
    induction j with
    | zero =>
      intro k m2 hkn hm
      obtain ⟨m2, rfl⟩ : ∃ i, m2 = i + 1 := ⟨m2 - 1, by omega⟩
      show c_X7_of_22_b G (c_of G m T) T (c_X7_of_22 G (c_of G m T) T m2) (some ch) (some va) (chk rs os k f) (Int32.ofNat (k + 1)) = _
      unfold c_X7_of_22_b
      rw [h.q0, Option.bind_some, if_neg (not_not_intro h.2.1.is), h.2.1.size, Option.bind_some, if_pos ((ole (by omega) (by omega)).mpr (by omega)), show n - 1 = k by omega]
    | succ j ih =>
      intro k m2 hkn hm
      obtain ⟨m2, rfl⟩ : ∃ i, m2 = i + 1 := ⟨m2 - 1, by omega⟩
      show c_X7_of_22_b G (c_of G m T) T (c_X7_of_22 G (c_of G m T) T m2) (some ch) (some va) (chk rs os k f) (Int32.ofNat (k + 1)) = _
      obtain ⟨a1, a2⟩ := h.at (G := G) hn (k := k) (by omega)
      have o := h.2.2.2.2.2.2.2 k (by omega)
      unfold c_X7_of_22_b
      rw [h.q0, Option.bind_some, if_neg (not_not_intro h.2.1.is), h.2.1.size, Option.bind_some, if_neg (fun q => by have := (ole (by omega) (by omega)).mp q; omega), h.q1, Option.bind_some, if_neg (not_not_intro a1), show Int32.ofNat (k + 1) - 1 = Int32.ofNat k from osub (b := 1) (by omega) (by omega), a2, Option.bind_some, Option.bind_some, if_neg (not_not_intro h.2.1.is), h.2.1.get (by omega), Option.bind_some, if_neg (not_not_intro (hc _ (by omega))), (hk _ (by omega)).2, Option.bind_some, e_by o.1 o.2, Option.bind_some, ofn1 (k + 1) (by omega)]
      exact ih (k + 1) m2 (by omega) (by omega)
  have e0 : c_J2_get T (some l) 0 = some (some (fa 0)) := h.2.1.get (k := 0) h0
  unfold c_of c_X7_of
  rw [h.is, if_pos rfl, h.q0, Option.bind_some, if_neg (not_not_intro h.2.1.is), e0, Option.bind_some, if_neg (not_not_intro (hc 0 h0)), (hk 0 h0).2, Option.bind_some]
  exact key (n - 1) 0 FU (by omega) (by show _ < 6000; omega)
end CH
