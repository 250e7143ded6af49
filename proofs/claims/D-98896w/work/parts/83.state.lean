/-! plain law: the state, as the system and as the reference hold it -/
set_option maxRecDepth 100000
/-- a sight: cell, days, size -/
abbrev Sn : Type := Int32 × Int32 × Int32
abbrev Hs : Type := Nat × (Nat → Gw)
abbrev Ss : Type := Nat × (Nat → Sn)
/-- environment, growth, acts, sights, image, tape, how much of it, fault, refusals -/
abbrev St : Type := En × Gw × Hs × Ss × Option (Gw × Hs × Ss) × (Nat → Int32) × Nat × Int32 × (Nat → Int32)
abbrev sE (s : St) : En := s.1
abbrev sG (s : St) : Gw := s.2.1
abbrev sH (s : St) : Hs := s.2.2.1
abbrev sS (s : St) : Ss := s.2.2.2.1
abbrev sI (s : St) : Option (Gw × Hs × Ss) := s.2.2.2.2.1
abbrev sB (s : St) : Nat → Int32 := s.2.2.2.2.2.1
abbrev sT (s : St) : Nat := s.2.2.2.2.2.2.1
abbrev sF_ (s : St) : Int32 := s.2.2.2.2.2.2.2.1
abbrev sR (s : St) : Nat → Int32 := s.2.2.2.2.2.2.2.2
def hOK (e : En) (h : Hs) : Prop := h.1 ≤ 40 ∧ ∀ k, k < h.1 → GI e (h.2 k) 1001
def snOK (e : En) (x : Sn) : Prop := (∃ c, c < eN e ∧ x.1 = Int32.ofNat c) ∧ ∃ d, d ≤ 20 ∧ x.2.1 = Int32.ofNat d
def sOK (e : En) (s : Ss) : Prop := s.1 ≤ 8 ∧ ∀ k, k < s.1 → snOK e (s.2 k)
def StOK (s : St) : Prop := EnOK (sE s) ∧ GI (sE s) (sG s) 1001 ∧ hOK (sE s) (sH s) ∧ sOK (sE s) (sS s) ∧ (∀ g h x, sI s = some (g, h, x) → GI (sE s) g 1001 ∧ hOK (sE s) h ∧ sOK (sE s) x) ∧ sT s ≤ 700 ∧ ∀ k, k < sT s → -128 ≤ sB s k ∧ sB s k ≤ 127
/-! the reference's side -/
/-- the growth g lies in an array from b on -/
def AtJ (A : Nat → Int32) (b : Nat) (g : Gw) : Prop := A b = gY g ∧ ∀ c, c < 30 → A (b + 1 + c) = gD g c ∧ A (b + 31 + c) = gF g c ∧ A (b + 61 + c) = gK g c ∧ A (b + 91 + c) = gZ g c
theorem AtJ.rw {S : MS} {b : Nat} {g : Gw} : RwAt S b g ↔ AtJ (S.2.2 13) b g := Iff.rfl
def SnJ (A : Nat → Int32) (k : Nat) (x : Sn) : Prop := A (3 * k) = x.1 ∧ A (3 * k + 1) = x.2.1 ∧ A (3 * k + 2) = x.2.2
def Mc (S : MS) (e : En) : Prop := ∀ S' : MS, (∀ k, 1 ≤ k → k ≤ 8 → S'.1 k = S.1 k) → (∀ j, j = 1 ∨ j = 2 ∨ j = 3 → S'.2.2 j = S.2.2 j) → MvN S' e
theorem Mc.mv {S : MS} {e : En} {E : Nat → Nat → Prop} (h : Mc S e) (k : ∀ j i, E j i → ¬ (j = 1 ∨ j = 2 ∨ j = 3)) : Mv E S e := fun S' q => h S' (fun _ _ _ => by rw [q.1]) (fun j hj => funext fun i => q.2.2 j i fun r => k j i r hj)
theorem Mc.mono {S S' : MS} {e : En} (h : Mc S e) (h1 : ∀ k, 1 ≤ k → k ≤ 8 → S'.1 k = S.1 k) (h2 : ∀ j, j = 1 ∨ j = 2 ∨ j = 3 → S'.2.2 j = S.2.2 j) : Mc S' e := fun S2 q1 q2 => h S2 (fun k a b => (q1 k a b).trans (h1 k a b)) (fun j hj => (q2 j hj).trans (h2 j hj))
def MI (S : MS) (s : St) : Prop := Mc S (sE s) ∧ AtJ (S.2.2 13) 0 (sG s) ∧ S.1 46 = Int32.ofNat (sH s).1 ∧ (∀ k, k < (sH s).1 → AtJ (S.2.2 14) (121 * k) ((sH s).2 k)) ∧ S.1 53 = Int32.ofNat (sS s).1 ∧ (∀ k, k < (sS s).1 → SnJ (S.2.2 21) k ((sS s).2 k)) ∧ (match sI s with
  | none => S.1 58 = 0
  | some (g, h, x) => S.1 58 = 1 ∧ AtJ (S.2.2 24) 0 g ∧ S.1 59 = Int32.ofNat h.1 ∧ (∀ k, k < h.1 → AtJ (S.2.2 25) (121 * k) (h.2 k)) ∧ S.1 60 = Int32.ofNat x.1 ∧ ∀ k, k < x.1 → SnJ (S.2.2 26) k (x.2 k)) ∧ S.1 13 = Int32.ofNat (sT s) ∧ (∀ k, k < sT s → S.2.2 4 k = sB s k &&& 255) ∧ S.1 15 = sF_ s ∧ ∀ k, k < 3 → S.2.2 5 k = sR s k
/-- what lies beside all that: what a command may change without changing the state -/
def mfree : Nat → Nat → Prop := fun j i => (j = 13 ∧ 121 ≤ i) ∨ (j ≠ 1 ∧ j ≠ 2 ∧ j ≠ 3 ∧ j ≠ 4 ∧ j ≠ 5 ∧ j ≠ 13 ∧ j ≠ 14 ∧ j ≠ 21 ∧ j ≠ 24 ∧ j ≠ 25 ∧ j ≠ 26)
def mfld (k : Nat) : Prop := (1 ≤ k ∧ k ≤ 8) ∨ k = 13 ∨ k = 15 ∨ k = 46 ∨ k = 53 ∨ k = 58 ∨ k = 59 ∨ k = 60
theorem MI.keep {S S' : MS} {s : St} (h : MI S s) (h1 : ∀ k, mfld k → S'.1 k = S.1 k) (h2 : ∀ j i, ¬ mfree j i → S'.2.2 j i = S.2.2 j i) : MI S' s := by
  obtain ⟨a1, a2, a3, a4, a5, a6, a7, a8, a9, a10, a11⟩ := h
  have ar : ∀ j, (j = 1 ∨ j = 2 ∨ j = 3 ∨ j = 4 ∨ j = 5 ∨ j = 14 ∨ j = 21 ∨ j = 24 ∨ j = 25 ∨ j = 26) → S'.2.2 j = S.2.2 j := fun j hj => funext fun i => h2 j i fun q => by
    unfold mfree at q
    omega
  have r13 : ∀ i, i < 121 → S'.2.2 13 i = S.2.2 13 i := fun i hi => h2 13 i fun q => by
    unfold mfree at q
    omega
  have fl : ∀ k, mfld k → S'.1 k = S.1 k := h1
  refine ⟨a1.mono (fun k q1 q2 => fl k (Or.inl ⟨q1, q2⟩)) (fun j hj => ar j (by omega)), ?_, (fl 46 (by unfold mfld; omega)).trans a3, fun k hk => by rw [ar 14 (by omega)]; exact a4 k hk, (fl 53 (by unfold mfld; omega)).trans a5, fun k hk => by rw [ar 21 (by omega)]; exact a6 k hk, ?_, (fl 13 (by unfold mfld; omega)).trans a8, fun k hk => by rw [ar 4 (by omega)]; exact a9 k hk, (fl 15 (by unfold mfld; omega)).trans a10, fun k hk => by rw [ar 5 (by omega)]; exact a11 k hk⟩
  · refine ⟨(r13 0 (by omega)).trans a2.1, fun c hc => ?_⟩
    rw [r13 _ (by omega), r13 _ (by omega), r13 _ (by omega), r13 _ (by omega)]
    exact a2.2 c hc
  · cases hi : sI s with
    | none =>
      rw [hi] at a7
      exact (fl 58 (by unfold mfld; omega)).trans a7
    | some x =>
      rw [hi] at a7
      obtain ⟨b1, b2, b3, b4, b5, b6⟩ := a7
      exact ⟨(fl 58 (by unfold mfld; omega)).trans b1, by rw [ar 24 (by omega)]; exact b2, (fl 59 (by unfold mfld; omega)).trans b3, by rw [ar 25 (by omega)]; exact b4, (fl 60 (by unfold mfld; omega)).trans b5, by rw [ar 26 (by omega)]; exact b6⟩
theorem MI.fr {S S' : MS} {s : St} (h : MI S s) {E : Nat → Nat → Prop} (w : mfr E S S') (k : ∀ j i, E j i → mfree j i) : MI S' s := h.keep (fun k _ => by rw [w.1]) (fun j i q => w.2.2 j i fun r => q (k j i r))
theorem MI.th {S : MS} {s : St} (h : MI S s) (v : Int32) : MI (sF S 0 v) s := h.keep (fun k hk => by
  show upd S.1 0 v k = _
  unfold upd
  rw [if_neg (by unfold mfld at hk; omega)]) (fun _ _ _ => rfl)
theorem sF_0 {S : MS} {v : Int32} : (sF S 0 v).1 0 = v := by
  show upd S.1 0 v 0 = v
  unfold upd
  rw [if_pos rfl]
/-! the system's side -/
def Fz (own : Nat → Nat) (T : xF) (P : xF → Prop) : Prop := ∀ T' : xF, T.2.1 ≤ T'.2.1 → (∀ x, x < T.2.1 → own x = 11 → T'.1 x = T.1 x) → P T'
theorem Fz.now {own : Nat → Nat} {T : xF} {P : xF → Prop} (h : Fz own T P) : P T := h T (Nat.le_refl _) (fun _ _ _ => rfl)
theorem Fz.mv {own own' : Nat → Nat} {T T1 : xF} {P : xF → Prop} (h : Fz own T P) (hl : T.2.1 ≤ T1.2.1) (hk : ∀ x, x < T.2.1 → own x = 11 → T1.1 x = T.1 x ∧ own' x = 11) : Fz own' T1 P := fun T2 q1 q2 => h T2 (Nat.le_trans hl q1) fun x hx ho => (q2 x (by omega) (hk x hx ho).2).trans (hk x hx ho).1
theorem Fz.imp {own : Nat → Nat} {T : xF} {P Q : xF → Prop} (h : Fz own T P) (k : ∀ T', P T' → Q T') : Fz own T Q := fun T' q1 q2 => k T' (h T' q1 q2)
/-- what a frozen thing stands on isn't what changes -/
theorem Fz.ne {own : Nat → Nat} {T : xF} {P : xF → Prop} (h : Fz own T P) {x y : Nat} (hx : own x ≠ 11) (k : ∀ T', P T' → T'.1 y ≠ none) : y ≠ x := by
  intro q
  subst q
  refine k _ (h (fun z => if z = y then none else T.1 z, T.2) (Nat.le_refl _) fun z _ hz => ?_) ?_
  · show (if z = y then none else T.1 z) = _
    rw [if_neg (fun (q : z = y) => hx (q ▸ hz))]
  · show (if y = y then none else T.1 y) = _
    rw [if_pos rfl]
theorem GrAt.nn {T : xF} {a o : Nat} {g : Gw} (h : GrAt T a o g) : T.1 a ≠ none := by rw [h.1]; exact fun q => by cases q
/-- a sight as it lies in the heap -/
def SnC (T : xF) (a : Nat) (x : Sn) : Prop := ∃ f : Nat → Int32, T.1 a = some (true, .inl (.int, 3, .inl f)) ∧ f 0 = x.1 ∧ f 1 = x.2.1 ∧ f 2 = x.2.2
theorem SnC.nn {T : xF} {a : Nat} {x : Sn} (h : SnC T a x) : T.1 a ≠ none := by
  obtain ⟨f, h1, -⟩ := h
  rw [h1]; exact fun q => by cases q
/-- the roll's part of the environment -/
def EvR (G : xG) (rl va : Nat) (e : En) (T : xF) : Prop :=
  isO T (some rl) 1 = true ∧ oI T (some rl) 1 2 = some (eW e) ∧ oI T (some rl) 1 3 = some (eH e) ∧ oI T (some rl) 1 4 = some (eA e) ∧ oI T (some rl) 1 5 = some (eS e) ∧ (∀ d, d < 2000 → c_X2_warmth T (some rl) (Int32.ofNat d) = some (eWm e d)) ∧ (∃ lp, oQ T (some rl) 1 0 = some (some lp) ∧ isO T (some lp) 10 = true ∧ c_J2_size T (some lp) = some (Int32.ofNat (eP e)) ∧ c_J2_isEmpty T (some lp) = some (b01 (eP e == 0)) ∧ ∀ k, k < eP e → ∃ q, c_J2_get T (some lp) (Int32.ofNat k) = some q ∧ cst T q [11] = true ∧ isO T q 11 = true ∧ c_J14_intValue T q = some (ePy e k)) ∧ (∃ fo, oQ T (some rl) 1 6 = some fo ∧ match eRg e with
    | none => fo = none
    | some r => fo ≠ none ∧ ∀ f, VaAt T va f → c_of G OFU T fo (some va) = some (r f)) ∧ (∃ fo, oQ T (some rl) 1 7 = some fo ∧ match eRb e with
    | none => fo = none
    | some r => fo ≠ none ∧ ∀ f, VaAt T va f → c_of G OFU T fo (some va) = some (r f))
/-- the system's texts -/
def swl : List (List Nat) := [[99, 101, 108, 108, 97, 114], [119, 97, 114, 109, 116, 104], [97, 103, 101], [115, 112, 111, 114, 101, 115], [103, 114, 111, 119, 115], [98, 101, 97, 116, 115], [115, 105, 122, 101], [100, 97, 109, 112], [102, 111, 111, 100], [102, 114, 105, 101, 110, 100, 115], [102, 111, 101, 115], [107, 105, 110, 100], [111, 116, 104, 101, 114], [59, 40, 41, 43, 45, 42, 47, 60, 61], [110, 111, 116], [97, 110, 100], [111, 114], [99, 101, 108, 108], [109, 111, 117, 108, 100]]
def Str1 (T : xF) (a : Nat) (w : List Nat) : Prop := ∃ va w1 w2 rest, ∃ f : Nat → Int32, va < T.2.1 ∧ T.1 a = some (w1, .inr (15, va_rf (some va) :: .int 0 :: rest)) ∧ T.1 va = some (w2, .inl (.byte, w.length, .inl f)) ∧ ∀ k, k < w.length → f k = Int32.ofNat (w.getD k 0)
def StrA (G : xG) (T : xF) : Prop := ∀ i, i < 19 → gT G i < T.2.1 ∧ Str1 T (gT G i) (swl.getD i [])
/-- the cache of boxed numbers -/
def Bx0 (G : xG) (T : xF) : Prop := ∃ ca w F, gS G 2 = some ca ∧ ca < T.2.1 ∧ T.1 ca = some (w, .inl (.object "java/lang/Integer", 256, .inr (.inr (.inr (.inr F))))) ∧ ∀ k, k < 256 → ∃ q w', F k = some q ∧ q < T.2.1 ∧ T.1 q = some (w', .inr (11, [.int (Int32.ofNat k - 128)]))
def Bx (G : xG) (T : xF) : Prop := Bx0 G T ∧ StrA G T
/-- addresses: who owns what; roll, values, before, tried, growth, tape, refusals, acts and their array, sights and theirs -/
abbrev Ad : Type := (Nat → Nat) × Nat × Nat × Nat × Nat × Nat × Nat × Nat × Nat × Nat × Nat × Nat
abbrev aO (A : Ad) : Nat → Nat := A.1
abbrev aRl (A : Ad) : Nat := A.2.1
abbrev aVa (A : Ad) : Nat := A.2.2.1
abbrev aBb (A : Ad) : Nat := A.2.2.2.1
abbrev aTt (A : Ad) : Nat := A.2.2.2.2.1
abbrev aCc (A : Ad) : Nat := A.2.2.2.2.2.1
abbrev aTp (A : Ad) : Nat := A.2.2.2.2.2.2.1
abbrev aRf (A : Ad) : Nat := A.2.2.2.2.2.2.2.1
abbrev aAl (A : Ad) : Nat := A.2.2.2.2.2.2.2.2.1
abbrev aAa (A : Ad) : Nat := A.2.2.2.2.2.2.2.2.2.1
abbrev aSl (A : Ad) : Nat := A.2.2.2.2.2.2.2.2.2.2.1
abbrev aSa (A : Ad) : Nat := A.2.2.2.2.2.2.2.2.2.2.2
/-- a list of growths that stay as they are -/
def HsAt (T : xF) (own : Nat → Nat) (o : Nat) (h : Hs) (ha : Nat → Nat) : Prop := ∀ k, k < h.1 → Fz own T (fun T' => GrAt T' (ha k) o (h.2 k)) ∧ ha k + 5 ≤ T.2.1
def SsAt (T : xF) (own : Nat → Nat) (s : Ss) (ea : Nat → Nat) : Prop := ∀ k, k < s.1 → Fz own T (fun T' => SnC T' (ea k) (s.2 k)) ∧ ea k < T.2.1
/-- the image -/
def ImAt (T : xF) (own : Nat → Nat) (o : Nat) (i : Option (Gw × Hs × Ss)) (v11 v12 v13 : Option Nat) : Prop := match i with
  | none => v11 = none
  | some (g, h, s) => ∃ gi hl hb sl sb ha ea wa ws ca cs, v11 = some gi ∧ v12 = some hl ∧ v13 = some sl ∧ Fz own T (fun T' => GrAt T' gi o g) ∧ gi + 5 ≤ T.2.1 ∧ Fz own T (fun T' => LsAt T' hl hb h.1 ha wa ca) ∧ Fz own T (fun T' => LsAt T' sl sb s.1 ea ws cs) ∧ hl < T.2.1 ∧ hb < T.2.1 ∧ sl < T.2.1 ∧ sb < T.2.1 ∧ HsAt T own o h ha ∧ SsAt T own s ea
def ObA (T : xF) (o : Nat) (A : Ad) (s : St) (v11 v12 v13 : Option Nat) (sd : Int32) : Prop := T.1 o = some (true, .inr (0, [va_rf (some (aVa A)), va_rf (some (aRl A)), va_rf (some (aBb A)), va_rf (some (aTt A)), va_rf (some (aCc A)), va_rf (some (aTp A)), .int (Int32.ofNat (sT s)), .int (sF_ s), va_rf (some (aRf A)), va_rf (some (aAl A)), va_rf (some (aSl A)), va_rf v11, va_rf v12, va_rf v13, .int sd]))
def TgA (o : Nat) (A : Ad) (ca cs : Nat) : Prop := aO A o = 0 ∧ aO A (aVa A) = 1 ∧ (∀ x, bk (aBb A) x → aO A x = 2) ∧ (∀ x, bk (aTt A) x → aO A x = 3) ∧ (∀ x, bk (aCc A) x → aO A x = 4) ∧ aO A (aTp A) = 5 ∧ aO A (aRf A) = 6 ∧ aO A (aAl A) = 7 ∧ (aO A (aAa A) = 8 ∨ aO A (aAa A) = 11 ∧ ca = 0) ∧ aO A (aSl A) = 9 ∧ (aO A (aSa A) = 10 ∨ aO A (aSa A) = 11 ∧ cs = 0)
def BnA (T : xF) (o : Nat) (A : Ad) : Prop := o < T.2.1 ∧ aVa A < T.2.1 ∧ aBb A + 5 ≤ T.2.1 ∧ aTt A + 5 ≤ T.2.1 ∧ aCc A + 5 ≤ T.2.1 ∧ aTp A < T.2.1 ∧ aRf A < T.2.1 ∧ aAl A < T.2.1 ∧ aAa A < T.2.1 ∧ aSl A < T.2.1 ∧ aSa A < T.2.1
def TpA (T : xF) (A : Ad) (s : St) : Prop := ∃ f : Nat → Int32, T.1 (aTp A) = some (true, .inl (.byte, 700, .inl f)) ∧ ∀ k, k < sT s → f k = sB s k
def RfA (T : xF) (A : Ad) (s : St) : Prop := ∃ f : Nat → Int32, T.1 (aRf A) = some (true, .inl (.int, 3, .inl f)) ∧ ∀ k, k < 3 → f k = sR s k
def CIa (G : xG) (T : xF) (o : Nat) (s : St) (A : Ad) : Prop := ∃ ha ea wa ws ca cs v11 v12 v13 sd, ObA T o A s v11 v12 v13 sd ∧ TgA o A ca cs ∧ BnA T o A ∧ (∃ f, VaAt T (aVa A) f) ∧ (∃ g, GrAt T (aBb A) o g) ∧ (∃ g, GrAt T (aTt A) o g) ∧ GrAt T (aCc A) o (sG s) ∧ TpA T A s ∧ RfA T A s ∧ LsAt T (aAl A) (aAa A) (sH s).1 ha wa ca ∧ LsAt T (aSl A) (aSa A) (sS s).1 ea ws cs ∧ Fz (aO A) T (EvR G (aRl A) (aVa A) (sE s)) ∧ Fz (aO A) T (StA G) ∧ Fz (aO A) T (Bx G) ∧ HsAt T (aO A) o (sH s) ha ∧ SsAt T (aO A) (sS s) ea ∧ ImAt T (aO A) o (sI s) v11 v12 v13
def CI (G : xG) (T : xF) (o : Nat) (s : St) : Prop := ∃ A, CIa G T o s A
