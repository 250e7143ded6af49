/-! plain law: words, signs, numbers on both sides -/
set_option maxRecDepth 100000
theorem tL_q {t : Tpe} {p k : Nat} (h : k < tE t p - tB t p) : (tL t p)[k]? = some (t.1 (tB t p + k)) := by
  unfold tL
  rw [List.getElem?_map, List.getElem?_range h]; rfl
theorem tL_eq {t : Tpe} {p : Nat} {w : List Nat} : tL t p = w ↔ tE t p - tB t p = w.length ∧ ∀ k, k < w.length → w.getD k 0 = t.1 (tB t p + k) := by
  have hl : (tL t p).length = tE t p - tB t p := by unfold tL; rw [List.length_map, List.length_range]
  constructor
  · intro h
    refine ⟨by rw [← hl, h], fun k hk => ?_⟩
    subst h
    rw [List.getD_eq_getElem?_getD, tL_q (by omega)]
    rfl
  · intro ⟨h1, h2⟩
    apply List.ext_getElem
    · rw [hl, h1]
    · intro i hi hi2
      have := h2 i hi2
      rw [List.getD_eq_getElem?_getD, List.getElem?_eq_getElem hi2] at this
      have e := tL_q (t := t) (p := p) (k := i) (by omega)
      rw [List.getElem?_eq_getElem hi] at e
      have e2 : (tL t p)[i] = t.1 (tB t p + i) := Option.some.inj e
      rw [e2]
      exact this.symm
section SX
variable {G : xG} {T T' : xF} {rd nm tp p : Nat} {t : Tpe} {fx : Fx} {dn ce : Int32} {S : MS}
theorem swl_ok : ∀ i, i < 19 → (swl.getD i []).length < 20 ∧ ∀ c ∈ swl.getD i [], c < 128 := by decide +kernel
theorem e_is (h : Cx G T t fx tp) (hR : RdS T rd t fx nm dn ce p) (hp : p ≤ t.2) {i : Nat} (hi : i < 19) : c_X5_is G T (some rd) (some (gT G i)) = some (if tS t p = 1 ∧ tL t p = swl.getD i [] then 1 else 0) := by
  obtain ⟨nu, r, -⟩ := hR
  have h7 := h.2.2.2.2.1
  have hc := h.2.2.2.2.2
  have hs := h.str hi
  obtain ⟨o1, o2⟩ := swl_ok i hi
  generalize swl.getD i [] = w at *
  have hg := tE_ge hp
  have hl := tE_le hp
  have sl := tS_le t p
  unfold c_X5_is
  rw [r.i8, Option.bind_some]
  by_cases s1 : tS t p = 1
  · rw [if_pos (show Int32.ofNat (tS t p) = 1 by rw [s1]; rfl), if_neg (not_not_intro hs.is), hs.len_ (by omega), Option.bind_some, r.i10, Option.bind_some, r.i9, Option.bind_some, osub hg (by omega)]
    by_cases sl : w.length = tE t p - tB t p
    · rw [if_pos (show Int32.ofNat w.length = Int32.ofNat (tE t p - tB t p) by rw [sl])]
      refine loop_rule (σ := Unit) (N := w.length) (fun k _ => ∀ j, j < k → w.getD j 0 = t.1 (tB t p + j)) (fun m k _ => c_X5_is_28 G T m (some rd) (some (gT G i)) (Int32.ofNat k) = _) ?_ ?_ FU (by show w.length < 6000; omega) () (fun j hj => absurd hj (Nat.not_lt_zero j))
      · intro m k _ hk hj K
        show c_X5_is_28_b G T (c_X5_is_28 G T m) (some rd) (some (gT G i)) (Int32.ofNat k) = _
        obtain ⟨b, b1, b2, -⟩ := e_tape h7 hc h.1 (k := tB t p + k) (by omega)
        have hcb := hc (tB t p + k)
        have hwk : w.getD k 0 < 128 := by
          rw [List.getD_eq_getElem?_getD, List.getElem?_eq_getElem hk]
          exact o2 _ (List.getElem_mem _)
        unfold c_X5_is_28_b
        rw [if_neg (not_not_intro hs.is), hs.len_ (by omega), Option.bind_some, if_neg (fun q => by have := (ole (n := w.length) (m := k) (by omega) (by omega)).mp q; omega), if_neg (not_not_intro hs.is), hs.at (by omega) o2 hk, Option.bind_some, r.q14, Option.bind_some, h.1.1, Option.bind_some, r.i9, Option.bind_some, oadd, b1, Option.bind_some, b2, ofn1 k (by omega)]
        by_cases q : w.getD k 0 = t.1 (tB t p + k)
        · rw [if_pos (show Int32.ofNat (w.getD k 0) = Int32.ofNat (t.1 (tB t p + k)) by rw [q])]
          refine K () fun j hj2 => ?_
          by_cases e : j = k
          · rw [e]; exact q
          · exact hj j (by omega)
        · rw [if_neg (fun z => q ((oeq (by omega) (by omega)).mp z)), if_neg (fun z => q ((tL_eq.mp z.2).2 k hk))]
      · intro m _ hj
        show c_X5_is_28_b G T (c_X5_is_28 G T m) (some rd) (some (gT G i)) (Int32.ofNat w.length) = _
        unfold c_X5_is_28_b
        rw [if_neg (not_not_intro hs.is), hs.len_ (by omega), Option.bind_some, if_pos (Int32.le_refl _), if_pos ⟨s1, tL_eq.mpr ⟨sl.symm, hj⟩⟩]
    · rw [if_neg (fun q => sl ((oeq (by omega) (by omega)).mp q)), if_neg (fun z => sl (tL_eq.mp z.2).1.symm)]
  · rw [if_neg (show ¬ Int32.ofNat (tS t p) = 1 from fun q => s1 ((oeq (n := tS t p) (m := 1) (by omega) (by omega)).mp q)), if_neg (fun z => s1 z.1)]
/-- a text that is one of the known words -/
theorem e_isk (h : Cx G T t fx tp) (hR : RdS T rd t fx nm dn ce p) (hp : p ≤ t.2) {i j : Nat} (hi : i < 19) (hj : j < 18) (e : swl.getD i [] = kws.getD j []) : c_X5_is G T (some rd) (some (gT G i)) = some (if kw t p = j then 1 else 0) := by
  rw [e_is h hR hp hi, e]
  by_cases q : kw t p = j
  · rw [if_pos q, if_pos ((kw_iff hj).mp q)]
  · rw [if_neg q, if_neg (fun z => q ((kw_iff hj).mpr z))]
/-- a list of texts -/
def NmA (G : xG) (T : xF) (nm : Nat) (is : List Nat) : Prop := ∃ w, ∃ F : Nat → Option Nat, T.1 nm = some (w, .inl (.object "java/lang/String", is.length, .inr (.inr (.inr (.inr F))))) ∧ ∀ k, k < is.length → F k = some (gT G (is.getD k 0))
def fw : List Nat → Nat → Nat → Nat
  | [], i, _ => i
  | m :: ms, i, x => if x = m then i else fw ms (i + 1) x
theorem fw_ge : ∀ ms i x, i ≤ fw ms i x ∧ fw ms i x ≤ i + ms.length := by
  intro ms
  induction ms with
  | nil => intro i x; exact ⟨Nat.le_refl _, Nat.le_refl _⟩
  | cons w ws ih =>
    intro i x
    show i ≤ (if x = w then i else fw ws (i + 1) x) ∧ (if x = w then i else fw ws (i + 1) x) ≤ i + (ws.length + 1)
    have := ih (i + 1) x
    split <;> omega
theorem e_which (h : Cx G T t fx tp) (hR : RdS T rd t fx nm dn ce p) (hp : p ≤ t.2) {a : Nat} {is ms : List Nat} (ha : NmA G T a is) (hl : is.length = ms.length) (h20 : ms.length < 20) (hw : ∀ k, k < is.length → is.getD k 0 < 19 ∧ ms.getD k 0 < 18 ∧ swl.getD (is.getD k 0) [] = kws.getD (ms.getD k 0) []) : c_X5_which G T (some rd) (some a) = some (if fw ms 0 (kw t p) = ms.length then -1 else Int32.ofNat (fw ms 0 (kw t p))) := by
  obtain ⟨w, F, f1, f2⟩ := ha
  have hln : len T (some a) = some (Int32.ofNat is.length) := by rw [len.eq_2]; simp -implicitDefEqProofs only [f1]
  have hld : ∀ k, k < is.length → ldR T (some a) (Int32.ofNat k) = some (some (gT G (is.getD k 0))) := fun k hk => by
    rw [ldR.eq_1]
    have : aR T (some a) = some (.object "java/lang/String", is.length, F) := by
      rw [aR.eq_2]; simp -implicitDefEqProofs only [f1]; rfl
    rw [this, Option.bind_some, if_pos (inb_o hk (by omega)), ocl (by omega)]; exact congrArg some (f2 k hk)
  have ird := hR
  unfold c_X5_which
  have key : ∀ j k m, k + j = ms.length → j < m → fw (ms.drop k) k (kw t p) = fw ms 0 (kw t p) → c_X5_which_2 G T m (some rd) (some a) (Int32.ofNat k) = some (if fw ms 0 (kw t p) = ms.length then -1 else Int32.ofNat (fw ms 0 (kw t p))) := by
    intro j
    induction j with
    | zero =>
      intro k m hk hm hd
      obtain ⟨m, rfl⟩ : ∃ i, m = i + 1 := ⟨m - 1, by omega⟩
      have hk : k = ms.length := by omega
      subst hk
      rw [List.drop_length] at hd
      have hd : ms.length = fw ms 0 (kw t p) := hd
      show c_X5_which_2_b G T (c_X5_which_2 G T m) (some rd) (some a) (Int32.ofNat ms.length) = _
      unfold c_X5_which_2_b
      rw [hln, Option.bind_some, hl, if_pos (Int32.le_refl _), if_pos hd.symm]
    | succ j ih =>
      intro k m hk hm hd
      obtain ⟨m, rfl⟩ : ∃ i, m = i + 1 := ⟨m - 1, by omega⟩
      have hkl : k < ms.length := by omega
      obtain ⟨w1, w2, w3⟩ := hw k (by omega)
      have dr : ms.drop k = ms.getD k 0 :: ms.drop (k + 1) := by
        rw [List.drop_eq_getElem_cons hkl]
        congr 1
        rw [List.getD_eq_getElem?_getD, List.getElem?_eq_getElem hkl]; rfl
      show c_X5_which_2_b G T (c_X5_which_2 G T m) (some rd) (some a) (Int32.ofNat k) = _
      unfold c_X5_which_2_b
      obtain ⟨nu, r, -⟩ := ird
      rw [hln, Option.bind_some, if_neg (fun q => by have := (ole (n := is.length) (m := k) (by omega) (by omega)).mp q; omega), hld k (by omega), Option.bind_some, if_neg (not_not_intro r.is), e_isk h hR hp w1 w2 w3, Option.bind_some, ofn1 k (by omega)]
      by_cases c : kw t p = ms.getD k 0
      · rw [if_pos c, if_neg (show ¬ (1 : Int32) = 0 by decide)]
        rw [dr, show fw (ms.getD k 0 :: ms.drop (k + 1)) k (kw t p) = k from if_pos c] at hd
        rw [← hd, if_neg (by omega)]
      · rw [if_neg c, if_pos rfl]
        rw [dr, show fw (ms.getD k 0 :: ms.drop (k + 1)) k (kw t p) = fw (ms.drop (k + 1)) (k + 1) (kw t p) from if_neg c] at hd
        exact ih (k + 1) m (by omega) (by omega) hd
  exact key ms.length 0 FU (by omega) (by show _ < 6000; omega) (by rw [List.drop_zero])
/-! signs -/
abbrev sgi (t : Tpe) (p c : Nat) : Prop := tS t p = 3 ∧ t.1 (tB t p) = c
theorem e_isSign (h : Cx G T t fx tp) (hR : RdS T rd t fx nm dn ce p) (hp : p ≤ t.2) {c : Nat} (hc1 : c < 128) : c_X5_isSign T (some rd) (Int32.ofNat c) = some (if sgi t p c then 1 else 0) := by
  obtain ⟨nu, r, -⟩ := hR
  have h7 := h.2.2.2.2.1
  have hc := h.2.2.2.2.2
  have sl := tS_le t p
  unfold c_X5_isSign
  rw [r.i8, Option.bind_some]
  by_cases s3 : tS t p = 3
  · have bl := tS_lt (t := t) (p := p) (by omega)
    obtain ⟨b, b1, b2, b3, b4⟩ := e_tape h7 hc h.1 bl
    rw [if_pos (show Int32.ofNat (tS t p) = 3 by rw [s3]; rfl), r.q14, Option.bind_some, h.1.1, Option.bind_some, r.i9, Option.bind_some, b1, Option.bind_some]
    by_cases q : t.1 (tB t p) = c
    · have e : b = Int32.ofNat c := by rw [b3 (by omega), q]
      have e2 : sgi t p c := ⟨s3, q⟩
      rw [if_pos e, if_pos e2]
    · have e2 : ¬ sgi t p c := fun z => q z.2
      rw [if_neg (fun z => ?_), if_neg e2]
      by_cases q2 : t.1 (tB t p) < 128
      · rw [b3 q2] at z
        exact q ((oeq (by omega) (by omega)).mp z)
      · have := b4 q2
        rw [z] at this
        exact on0 (by omega) this
  · rw [if_neg (show ¬ Int32.ofNat (tS t p) = 3 from fun q => s3 ((oeq (n := tS t p) (m := 3) (by omega) (by omega)).mp q)), if_neg (fun z : sgi t p c => s3 z.1)]
theorem r_isSign (hS : TkM S t p) (hc : t.1 (tB t p) < 256) {c : Nat} (hc1 : c < 128) : m_isSign (Int32.ofNat c) S = some (if sgi t p c then 1 else 0) := by
  have sl := tS_le t p
  unfold m_isSign
  rw [hS.2.1]
  by_cases s3 : tS t p = 3
  · rw [if_pos (show Int32.ofNat (tS t p) = 3 by rw [s3]; rfl), hS.2.2.2.2.2.1 s3]
    by_cases q : t.1 (tB t p) = c
    · have e2 : sgi t p c := ⟨s3, q⟩
      rw [if_pos (by rw [q]), if_pos e2]
    · rw [if_neg (fun z => q ((oeq (by omega) (by omega)).mp z)), if_neg (fun z : sgi t p c => q z.2)]
  · rw [if_neg (show ¬ Int32.ofNat (tS t p) = 3 from fun q => s3 ((oeq (n := tS t p) (m := 3) (by omega) (by omega)).mp q)), if_neg (fun z : sgi t p c => s3 z.1)]
/-! what is thrown -/
abbrev WR : String := "MouldVotes$Wrong"
theorem e_want_t (r : Option Nat) (k : Int32) : c_X5_want G r 1 k T = some (.inl (), T) := by
  unfold c_X5_want; rw [if_neg (by decide)]
theorem e_want_f (r : Option Nat) (k : Int32) : ∃ T', c_X5_want G r 0 k T = some (.inr (WR, T.2.1), T') ∧ xle T T' ∧ (∀ x, x ≠ T.2.1 → T'.1 x = T.1 x) ∧ T'.2.1 = T.2.1 + 1 ∧ T'.2.2 = T.2.2 + 7 ∧ oI T' (some T.2.1) 5 6 = some k := by
  have hw : Rn T (c_X5_want G r 0 k T) fun v T' => v = .inr (WR, T.2.1) ∧ (∀ x, x ≠ T.2.1 → T'.1 x = T.1 x) ∧ T'.2.1 = T.2.1 + 1 ∧ T'.2.2 = T.2.2 + 7 ∧ oI T' (some T.2.1) 5 6 = some k := by
    unfold c_X5_want
    rw [if_pos rfl]
    refine Rn.al ⟨Nat.le_succ _, Nat.le_add_right _ _⟩ ?_
    have st : ∀ {T1 : xF} {fs : List Value} {j : Nat} {v : Value}, T1.1 T.2.1 = some (true, .inr (5, fs)) → ∃ T2, pV T1 (some T.2.1) 5 j v = some T2 ∧ frm (fun x => x = T.2.1) T1 T2 ∧ T2.1 T.2.1 = some (true, .inr (5, fs.set j v)) := fun {T1 fs j v} h => by
      obtain ⟨T2, e2, c2, f2, o2⟩ := pv_any (ci := 5) (k := j) (v := v) h
      exact ⟨T2, e2, ⟨c2, f2⟩, o2⟩
    have h0 : (nO T 5 7 [.null, .null, .null, .null, .null, .int 0, .int 0]).1 T.2.1 = some (true, .inr (5, [.null, .null, .null, .null, .null, .int 0, .int 0])) := xset_eq
    have n0 : ∀ x, x ≠ T.2.1 → (nO T 5 7 [.null, .null, .null, .null, .null, .int 0, .int 0]).1 x = T.1 x := fun x q => xset_no q
    refine Rn.cl (P := fun _ T9 => frm (fun x => x = T.2.1) (nO T 5 7 [.null, .null, .null, .null, .null, .int 0, .int 0]) T9 ∧ ∃ fs, T9.1 T.2.1 = some (true, .inr (5, fs)) ∧ fs[6]? = some (.int k)) ?_ fun _ T9 _ ⟨f9, fs, g9, i9⟩ => ?_
    · unfold c_X6_init
      rw [if_neg (show ¬ ¬ (some T.2.1).isSome = true from fun q => q rfl)]
      refine Rn.cl (P := fun _ T5 => frm (fun x => x = T.2.1) (nO T 5 7 [.null, .null, .null, .null, .null, .int 0, .int 0]) T5 ∧ ∃ fs, T5.1 T.2.1 = some (true, .inr (5, fs)) ∧ fs.length = 7) ?_ fun _ T5 _ ⟨f5, fs, g5, l5⟩ => ?_
      · unfold c_J4_init_2
        rw [if_neg (show ¬ ¬ (some T.2.1).isSome = true from fun q => q rfl)]
        refine Rn.cl ?_ fun _ T6 _ q => Rn.ret q
        unfold c_J3_init_2
        rw [if_neg (show ¬ ¬ (some T.2.1).isSome = true from fun q => q rfl)]
        obtain ⟨T1, e1, f1, o1⟩ := st (j := 0) (v := va_rf (some T.2.1)) h0
        refine Rn.st e1 f1.le ?_
        obtain ⟨T2, e2, f2, o2⟩ := st (j := 1) (v := va_rf (gS G 6)) o1
        refine Rn.st e2 f2.le ?_
        obtain ⟨T3, e3, f3, o3⟩ := st (j := 2) (v := va_rf (gS G 7)) o2
        refine Rn.st e3 f3.le ?_
        rw [if_pos rfl]
        obtain ⟨T4, e4, f4, o4⟩ := st (j := 1) (v := va_rf none) o3
        refine Rn.st e4 f4.le ?_
        obtain ⟨T5, e5, f5, o5⟩ := st (j := 3) (v := va_rf none) o4
        refine Rn.st e5 f5.le ?_
        obtain ⟨T6, e6, f6, o6⟩ := st (j := 0) (v := va_rf none) o5
        refine Rn.st e6 f6.le ?_
        rw [if_pos rfl]
        obtain ⟨T7, e7, f7, o7⟩ := st (j := 2) (v := va_rf none) o6
        refine Rn.st e7 f7.le (Rn.ret ⟨f1.tr (f2.tr (f3.tr (f4.tr (f5.tr (f6.tr f7))))), _, o7, rfl⟩)
      · obtain ⟨T6, e6, f6, o6⟩ := st (j := 6) (v := .int k) g5
        refine Rn.st e6 f6.le (Rn.ret ⟨f5.tr f6, _, o6, ?_⟩)
        rw [List.getElem?_set_self (by omega)]
    · have hw : isW T9 (some T.2.1) 5 = true := by
        unfold isW; simp -implicitDefEqProofs only [g9]; rfl
      rw [if_neg (not_not_intro hw)]
      have hc9 : T9.2 = (T.2.1 + 1, T.2.2 + 7) := f9.1
      refine Rn.ret ⟨rfl, fun x q => (f9.2 x q).trans (n0 x q), by rw [hc9], by rw [hc9], ?_⟩
      unfold oI oF
      simp [g9, i9, vI]
  obtain ⟨v, T', e, l, q1, q2, q3, q4, q5⟩ := hw
  subst q1
  exact ⟨T', e, l, q2, q3, q4, q5⟩
end SX
