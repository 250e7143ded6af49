/-! plain law: the system's reader, its next token -/
set_option maxRecDepth 100000
/-- roll, growth, three lists of words, the object -/
abbrev Fx : Type := Nat × Nat × Nat × Nat × Nat × Nat
def rdW (t : Tpe) (fx : Fx) (nm : Nat) (at_ tok be en nu dn ce : Int32) : List Value := [.int (Int32.ofNat t.2), va_rf (some fx.1), va_rf (some fx.2.1), va_rf (some fx.2.2.1), va_rf (some fx.2.2.2.1), va_rf (some fx.2.2.2.2.1), va_rf (some nm), .int at_, .int tok, .int be, .int en, .int nu, .int dn, .int ce, va_rf (some fx.2.2.2.2.2)]
def Rd0 (T : xF) (rd : Nat) (t : Tpe) (fx : Fx) (nm : Nat) (at_ tok be en nu dn ce : Int32) : Prop := T.1 rd = some (true, .inr (4, rdW t fx nm at_ tok be en nu dn ce))
section RD
variable {T : xF} {rd nm : Nat} {t : Tpe} {fx : Fx} {at_ tok be en nu dn ce : Int32}
theorem Rd0.is (h : Rd0 T rd t fx nm at_ tok be en nu dn ce) : isO T (some rd) 4 = true := by
  rw [isO.eq_1]; unfold oF; simp [show T.1 rd = _ from h]
theorem Rd0.of_ (h : Rd0 T rd t fx nm at_ tok be en nu dn ce) : oF T (some rd) 4 = some (rdW t fx nm at_ tok be en nu dn ce) := by
  unfold oF; simp [show T.1 rd = _ from h]
theorem Rd0.i0 (h : Rd0 T rd t fx nm at_ tok be en nu dn ce) : oI T (some rd) 4 0 = some (Int32.ofNat t.2) := by unfold oI; rw [h.of_]; rfl
theorem Rd0.q1 (h : Rd0 T rd t fx nm at_ tok be en nu dn ce) : oQ T (some rd) 4 1 = some (some fx.1) := by unfold oQ; rw [h.of_]; rfl
theorem Rd0.q2 (h : Rd0 T rd t fx nm at_ tok be en nu dn ce) : oQ T (some rd) 4 2 = some (some fx.2.1) := by unfold oQ; rw [h.of_]; rfl
theorem Rd0.q3 (h : Rd0 T rd t fx nm at_ tok be en nu dn ce) : oQ T (some rd) 4 3 = some (some fx.2.2.1) := by unfold oQ; rw [h.of_]; rfl
theorem Rd0.q4 (h : Rd0 T rd t fx nm at_ tok be en nu dn ce) : oQ T (some rd) 4 4 = some (some fx.2.2.2.1) := by unfold oQ; rw [h.of_]; rfl
theorem Rd0.q5 (h : Rd0 T rd t fx nm at_ tok be en nu dn ce) : oQ T (some rd) 4 5 = some (some fx.2.2.2.2.1) := by unfold oQ; rw [h.of_]; rfl
theorem Rd0.q6 (h : Rd0 T rd t fx nm at_ tok be en nu dn ce) : oQ T (some rd) 4 6 = some (some nm) := by unfold oQ; rw [h.of_]; rfl
theorem Rd0.i7 (h : Rd0 T rd t fx nm at_ tok be en nu dn ce) : oI T (some rd) 4 7 = some at_ := by unfold oI; rw [h.of_]; rfl
theorem Rd0.i8 (h : Rd0 T rd t fx nm at_ tok be en nu dn ce) : oI T (some rd) 4 8 = some tok := by unfold oI; rw [h.of_]; rfl
theorem Rd0.i9 (h : Rd0 T rd t fx nm at_ tok be en nu dn ce) : oI T (some rd) 4 9 = some be := by unfold oI; rw [h.of_]; rfl
theorem Rd0.i10 (h : Rd0 T rd t fx nm at_ tok be en nu dn ce) : oI T (some rd) 4 10 = some en := by unfold oI; rw [h.of_]; rfl
theorem Rd0.i11 (h : Rd0 T rd t fx nm at_ tok be en nu dn ce) : oI T (some rd) 4 11 = some nu := by unfold oI; rw [h.of_]; rfl
theorem Rd0.i12 (h : Rd0 T rd t fx nm at_ tok be en nu dn ce) : oI T (some rd) 4 12 = some dn := by unfold oI; rw [h.of_]; rfl
theorem Rd0.i13 (h : Rd0 T rd t fx nm at_ tok be en nu dn ce) : oI T (some rd) 4 13 = some ce := by unfold oI; rw [h.of_]; rfl
theorem Rd0.q14 (h : Rd0 T rd t fx nm at_ tok be en nu dn ce) : oQ T (some rd) 4 14 = some (some fx.2.2.2.2.2) := by unfold oQ; rw [h.of_]; rfl
/-- one field is written -/
theorem Rd0.st (h : Rd0 T rd t fx nm at_ tok be en nu dn ce) {k : Nat} {v : Value} {nm' : Nat} {a' t' b' e' n' d' c' : Int32} (e : (rdW t fx nm at_ tok be en nu dn ce).set k v = rdW t fx nm' a' t' b' e' n' d' c') : ∃ T', pV T (some rd) 4 k v = some T' ∧ frm (fun x => x = rd) T T' ∧ Rd0 T' rd t fx nm' a' t' b' e' n' d' c' := by
  obtain ⟨T1, e1, c1, f1, h1⟩ := pv_any (ci := 4) (k := k) (v := v) h
  rw [e] at h1
  exact ⟨T1, e1, ⟨c1, f1⟩, h1⟩
end RD
/-- the tape in the heap -/
def TpC (T : xF) (o tp : Nat) (t : Tpe) : Prop := oQ T (some o) 0 5 = some (some tp) ∧ ∃ w, ∃ B : Nat → Int32, T.1 tp = some (w, .inl (.byte, 700, .inl B)) ∧ ∀ k, k < t.2 → B k &&& 255 = Int32.ofNat (t.1 k) ∧ (t.1 k < 128 → B k = Int32.ofNat (t.1 k)) ∧ (¬ t.1 k < 128 → B k < 0)
theorem TpC.fr {T T' : xF} {o tp : Nat} {t : Tpe} (h : TpC T o tp t) (e1 : T'.1 o = T.1 o) (e2 : T'.1 tp = T.1 tp) : TpC T' o tp t := by
  obtain ⟨h1, w, B, h2, h3⟩ := h
  refine ⟨?_, w, B, e2.trans h2, h3⟩
  rw [← h1]
  unfold oQ oF
  simp -implicitDefEqProofs only [e1]
def hr (t : Tpe) (k : Nat) : Int32 := if k < t.2 then Int32.ofNat (t.1 k) else -1
theorem c_let : ∀ c, c < 256 → c_X1_in (Int32.ofNat c) 97 122 = some (if isL c = true then 1 else 0) := by decide +kernel
theorem c_dig : ∀ c, c < 256 → c_X1_in (Int32.ofNat c) 48 57 = some (if isD c = true then 1 else 0) := by decide +kernel
theorem zok_if (c : Prop) [Decidable c] : zok (if c then 1 else 0) = true := by
  by_cases h : c
  · rw [if_pos h]; decide
  · rw [if_neg h]; decide
section RE
variable {T : xF} {rd nm tp : Nat} {t : Tpe} {fx : Fx} {tok be en nu dn ce : Int32} (h7 : t.2 ≤ 700) (hc : ∀ k, t.1 k < 256)
theorem e_tape (h7 : t.2 ≤ 700) (hc : ∀ k, t.1 k < 256) (hT : TpC T fx.2.2.2.2.2 tp t) {k : Nat} (hk : k < t.2) : ∃ b, ldA T (some tp) .byte (Int32.ofNat k) = some b ∧ b &&& 255 = Int32.ofNat (t.1 k) ∧ (t.1 k < 128 → b = Int32.ofNat (t.1 k)) ∧ (¬ t.1 k < 128 → b < 0) := by
  obtain ⟨h1, w, B, h2, h3⟩ := hT
  refine ⟨B k, ?_, h3 k hk⟩
  unfold ldA aA
  simp -implicitDefEqProofs only [h2, if_true, Option.bind_some]
  rw [if_pos (inb_o (show k < 700 by omega) (by omega)), ocl (by omega)]
theorem e_here (h7 : t.2 ≤ 700) (hc : ∀ k, t.1 k < 256) {k : Nat} (h : Rd0 T rd t fx nm (Int32.ofNat k) tok be en nu dn ce) (hT : TpC T fx.2.2.2.2.2 tp t) (hk : k ≤ t.2) : c_X5_here T (some rd) = some (hr t k) := by
  unfold c_X5_here hr
  simp -implicitDefEqProofs only [h.i7, h.i0, h.q14, hT.1, Option.bind_some, not_true_eq_false, if_false, if_true]
  by_cases q : k < t.2
  · obtain ⟨b, e1, e2, -⟩ := e_tape h7 hc hT q
    rw [if_neg (fun r => by have := (ole (n := t.2) (m := k) (by omega) (by omega)).mp r; omega), if_pos q, e1, Option.bind_some, e2]
  · rw [if_pos ((ole (n := t.2) (m := k) (by omega) (by omega)).mpr (by omega)), if_neg q]
theorem e_isLet (h7 : t.2 ≤ 700) (hc : ∀ k, t.1 k < 256) {k : Nat} (h : Rd0 T rd t fx nm (Int32.ofNat k) tok be en nu dn ce) (hT : TpC T fx.2.2.2.2.2 tp t) (hk : k ≤ t.2) : c_X5_isLetter T (some rd) = some (if k < t.2 ∧ isL (t.1 k) = true then 1 else 0) := by
  have e : c_X1_in (hr t k) 97 122 = some (if k < t.2 ∧ isL (t.1 k) = true then 1 else 0) := by
    unfold hr
    by_cases q : k < t.2
    · rw [if_pos q, c_let _ (hc k)]
      by_cases r : isL (t.1 k) = true
      · rw [if_pos r, if_pos ⟨q, r⟩]
      · rw [if_neg r, if_neg fun z => r z.2]
    · rw [if_neg q, if_neg fun z => q z.1]; decide
  unfold c_X5_isLetter
  rw [if_neg (not_not_intro h.is), e_here h7 hc h hT hk, Option.bind_some, e, Option.bind_some, if_neg (not_not_intro (zok_if _))]
theorem e_isDig (h7 : t.2 ≤ 700) (hc : ∀ k, t.1 k < 256) {k : Nat} (h : Rd0 T rd t fx nm (Int32.ofNat k) tok be en nu dn ce) (hT : TpC T fx.2.2.2.2.2 tp t) (hk : k ≤ t.2) : c_X5_isDigit T (some rd) = some (if k < t.2 ∧ isD (t.1 k) = true then 1 else 0) := by
  have e : c_X1_in (hr t k) 48 57 = some (if k < t.2 ∧ isD (t.1 k) = true then 1 else 0) := by
    unfold hr
    by_cases q : k < t.2
    · rw [if_pos q, c_dig _ (hc k)]
      by_cases r : isD (t.1 k) = true
      · rw [if_pos r, if_pos ⟨q, r⟩]
      · rw [if_neg r, if_neg fun z => r z.2]
    · rw [if_neg q, if_neg fun z => q z.1]; decide
  unfold c_X5_isDigit
  rw [if_neg (not_not_intro h.is), e_here h7 hc h hT hk, Option.bind_some, e, Option.bind_some, if_neg (not_not_intro (zok_if _))]
end RE
/-! texts -/
section TX
variable {T : xF} {G : xG} {a : Nat} {w : List Nat}
theorem Str1.is (h : Str1 T a w) : isO T (some a) 15 = true := by
  obtain ⟨va, w1, w2, rest, f, h0, h1, h2, h3⟩ := h
  rw [isO.eq_1]; unfold oF; simp [h1]
theorem Str1.ex (h : Str1 T a w) : ∃ va w2, ∃ f : Nat → Int32, oQ T (some a) 15 0 = some (some va) ∧ oI T (some a) 15 1 = some 0 ∧ T.1 va = some (w2, .inl (.byte, w.length, .inl f)) ∧ ∀ k, k < w.length → f k = Int32.ofNat (w.getD k 0) := by
  obtain ⟨va, w1, w2, rest, f, h0, h1, h2, h3⟩ := h
  refine ⟨va, w2, f, ?_, ?_, h2, h3⟩
  · unfold oQ oF; simp [h1, vQ, va_rf]
  · unfold oI oF; simp [h1, vI]
theorem shr0 : ∀ n, n < 100 → Int32.ofNat n >>> ((0 : Int32) &&& 31) = Int32.ofNat n := by decide +kernel
theorem nar0 : vp_nar .byte 0 = 0 := by decide
theorem Str1.len_ (h : Str1 T a w) (hw : w.length < 100) : c_J8_length T (some a) = some (Int32.ofNat w.length) := by
  obtain ⟨va, w2, f, h0, h1, h2, h3⟩ := h.ex
  have hl : len T (some va) = some (Int32.ofNat w.length) := by rw [len.eq_2]; simp -implicitDefEqProofs only [h2]
  unfold c_J8_length c_J8_coder
  rw [h0, Option.bind_some, hl, Option.bind_some, if_neg (not_not_intro h.is), if_neg (show ¬ (1 : Int32) = 0 by decide), h1, Option.bind_some, nar0, if_neg (not_not_intro rfl), Option.bind_some, shr0 _ hw]
theorem ch_nar : ∀ c, c < 128 → (((Int32.ofNat c &&& (255 : Int32)).toUInt32 % 65536).toInt32) = Int32.ofNat c ∧ vp_nar .char (Int32.ofNat c) = Int32.ofNat c := by decide +kernel
theorem Str1.lat (h : Str1 T a w) : c_J8_isLatin1 T (some a) = some 1 := by
  obtain ⟨va, w2, f, h0, h1, h2, h3⟩ := h.ex
  unfold c_J8_isLatin1
  rw [if_neg (show ¬ (1 : Int32) = 0 by decide), h1, Option.bind_some, if_pos rfl]
theorem Str1.at (h : Str1 T a w) (hw : w.length < 100) (hb : ∀ c ∈ w, c < 128) {k : Nat} (hk : k < w.length) : c_J8_charAt G T (some a) (Int32.ofNat k) = some (Int32.ofNat (w.getD k 0)) := by
  obtain ⟨va, w2, f, h0, h1, h2, h3⟩ := h.ex
  have hl : len T (some va) = some (Int32.ofNat w.length) := by rw [len.eq_2]; simp -implicitDefEqProofs only [h2]
  have hd : ldA T (some va) .byte (Int32.ofNat k) = some (Int32.ofNat (w.getD k 0)) := by
    unfold ldA aA
    simp -implicitDefEqProofs only [h2, if_true, Option.bind_some]
    rw [if_pos (inb_o hk (by omega)), ocl (by omega), h3 k hk]
  have hwk : w.getD k 0 < 128 := by
    rw [List.getD_eq_getElem?_getD, List.getElem?_eq_getElem hk]
    exact hb _ (List.getElem_mem _)
  obtain ⟨n1, n2⟩ := ch_nar _ hwk
  unfold c_J8_charAt c_J9_charAt c_J8_checkIndex c_J11_checkIndex
  rw [if_neg (not_not_intro h.is), h.lat, Option.bind_some, if_neg (show ¬ (1 : Int32) = 0 by decide), h0, Option.bind_some, hl, Option.bind_some, if_neg (on0 (by omega)), if_pos ((olt (by omega) (by omega)).mpr hk), Option.bind_some, Option.bind_some, hd, Option.bind_some, n1, n2, if_neg (not_not_intro rfl), Option.bind_some, n2, if_neg (not_not_intro rfl)]
end TX
