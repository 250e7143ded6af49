/-! THE REFERENCE's STATE: int fields by their places in its table, the word, arrays 1 .. 26 by the order in which they are made; rows over it -/
set_option maxRecDepth 100000
abbrev MS : Type := (Nat → Int32) × Int64 × (Nat → Nat → Int32)
/-- which array a field holds -/
def mAr : Nat → Option Nat := fun k => match k with
  | 9 => some 1
  | 10 => some 2
  | 11 => some 3
  | 12 => some 4
  | 16 => some 5
  | 37 => some 6
  | 38 => some 7
  | 39 => some 8
  | 40 => some 9
  | 41 => some 10
  | 42 => some 11
  | 43 => some 12
  | 44 => some 13
  | 45 => some 14
  | 47 => some 15
  | 48 => some 16
  | 49 => some 17
  | 50 => some 18
  | 51 => some 19
  | 52 => some 20
  | 54 => some 21
  | 55 => some 22
  | 56 => some 23
  | 61 => some 24
  | 62 => some 25
  | 63 => some 26
  | _ => none
def mL : Nat → Nat := fun j => match j with
  | 1 => 4
  | 2 => 8
  | 3 => 1400
  | 4 => 700
  | 5 => 3
  | 6 => 4
  | 7 => 8
  | 8 => 121
  | 9 => 1400
  | 10 => 950
  | 11 => 9
  | 12 => 30
  | 13 => 242
  | 14 => 4840
  | 15 => 8
  | 16 => 950
  | 17 => 30
  | 18 => 30
  | 19 => 9
  | 20 => 4608
  | 21 => 24
  | 22 => 30
  | 23 => 3600
  | 24 => 121
  | 25 => 4840
  | 26 => 24
  | _ => 0
/-- an array of ints -/
def mI (j : Nat) : Bool := decide (1 ≤ j ∧ j ≤ 26 ∧ j ≠ 11 ∧ j ≠ 12)
def mTy (j : Nat) : FieldType := if j = 11 ∨ j = 12 then .boolean else .int
def mval (m0 : Nat) (S : MS) (k : Nat) : Value := if k = 24 then .long S.2.1 else match mAr k with
  | some j => .ref (m0 + j)
  | none => .int (S.1 k)
def mfl (m0 : Nat) (S : MS) : List Value := (List.range 64).map (mval m0 S)
def mcell (m0 : Nat) (S : MS) (i : Nat) : xC := if i = 0 then .inr (3, mfl m0 S) else .inl (mTy i, mL i, .inl (S.2.2 i))
/-- the reference's 27 cells over another heap -/
def mh (m0 : Nat) (h : xH) (S : MS) : xH := fun a => if m0 ≤ a ∧ a < m0 + 27 then some (true, mcell m0 S (a - m0)) else h a
def sF (S : MS) (k : Nat) (v : Int32) : MS := (upd S.1 k v, S.2)
def sW (S : MS) (w : Int64) : MS := (S.1, w, S.2.2)
def sA (S : MS) (j i : Nat) (x : Int32) : MS := (S.1, S.2.1, fun a => if a = j then upd (S.2.2 a) i x else S.2.2 a)
def rdA (S : MS) (j : Nat) (i : Int32) : Option Int32 := if i < 0 ∨ mL j ≤ i.toNatClampNeg then none else some (S.2.2 j i.toNatClampNeg)
def wrA (S : MS) (j : Nat) (i x : Int32) : Option MS := if i < 0 ∨ mL j ≤ i.toNatClampNeg then none else some (sA S j i.toNatClampNeg x)
def rdV (S : MS) (j : Nat) (i : Int32) : Option Int32 := if mI j = true then rdA S j i else none
def wrV (S : MS) (j : Nat) (i x : Int32) : Option MS := if mI j = true then wrA S j i x else none
theorem ob {α β : Type} {x : Option α} {f : α → Option β} {r : β} (h : x.bind f = some r) : ∃ v, x = some v ∧ f v = some r := Option.bind_eq_some_iff.mp h
theorem rdA_ok {S : MS} {j : Nat} {i v : Int32} (h : rdA S j i = some v) : vp_in i (mL j) ∧ S.2.2 j i.toNatClampNeg = v := by
  unfold rdA at h
  split at h
  · cases h
  · next q => exact ⟨q, Option.some.inj h⟩
theorem wrA_ok {S S' : MS} {j : Nat} {i x : Int32} (h : wrA S j i x = some S') : vp_in i (mL j) ∧ sA S j i.toNatClampNeg x = S' := by
  unfold wrA at h
  split at h
  · cases h
  · next q => exact ⟨q, Option.some.inj h⟩
theorem rdV_ok {S : MS} {j : Nat} {i v : Int32} (h : rdV S j i = some v) : mI j = true ∧ rdA S j i = some v := by
  unfold rdV at h
  split at h
  · next q => exact ⟨q, h⟩
  · cases h
theorem wrV_ok {S S' : MS} {j : Nat} {i x : Int32} (h : wrV S j i x = some S') : mI j = true ∧ wrA S j i x = some S' := by
  unfold wrV at h
  split at h
  · next q => exact ⟨q, h⟩
  · cases h
theorem if_t {c : Prop} {i : Decidable c} {α : Type} {a b : α} {r : α} (h : c) (hf : @ite α c i a b = r) : a = r := by rw [if_pos h] at hf; exact hf
theorem if_f {c : Prop} {i : Decidable c} {α : Type} {a b : α} {r : α} (h : ¬ c) (hf : @ite α c i a b = r) : b = r := by rw [if_neg h] at hf; exact hf
theorem if_n {c : Prop} {i : Decidable c} {α : Type} {b : Option α} {r : α} (hf : @ite (Option α) c i none b = some r) : ¬ c ∧ b = some r := by
  by_cases h : c
  · rw [if_pos h] at hf; cases hf
  · rw [if_neg h] at hf; exact ⟨h, hf⟩
theorem if_y {c : Prop} {i : Decidable c} {α : Type} {b : Option α} {r : α} (hf : @ite (Option α) c i b none = some r) : c ∧ b = some r := by
  by_cases h : c
  · rw [if_pos h] at hf; exact ⟨h, hf⟩
  · rw [if_neg h] at hf; cases hf
theorem mfl_len (m0 : Nat) (S : MS) : (mfl m0 S).length = 64 := by simp [mfl]
theorem mfl_at {m0 : Nat} {S : MS} {k : Nat} (hk : k < 64) : (mfl m0 S)[k]? = some (mval m0 S k) := by
  simp [mfl, hk]
theorem mh_0 {m0 : Nat} {h : xH} {S : MS} : mh m0 h S m0 = some (true, .inr (3, mfl m0 S)) := by
  unfold mh
  rw [if_pos ⟨Nat.le_refl _, by omega⟩, Nat.sub_self]
  rfl
theorem mh_j {m0 j : Nat} {h : xH} {S : MS} (h1 : 1 ≤ j) (h2 : j ≤ 26) : mh m0 h S (m0 + j) = some (true, .inl (mTy j, mL j, .inl (S.2.2 j))) := by
  unfold mh
  rw [if_pos ⟨by omega, by omega⟩, show m0 + j - m0 = j by omega]
  unfold mcell
  rw [if_neg (by omega)]
theorem mI_ok {j : Nat} (h : mI j = true) : 1 ≤ j ∧ j ≤ 26 ∧ mTy j = .int := by
  unfold mI at h
  obtain ⟨h1, h2, h3, h4⟩ := of_decide_eq_true h
  exact ⟨h1, h2, by unfold mTy; rw [if_neg (by omega)]⟩
theorem mh_I {m0 j : Nat} {h : xH} {S : MS} (hj : mI j = true) : mh m0 h S (m0 + j) = some (true, .inl (.int, mL j, .inl (S.2.2 j))) := by
  obtain ⟨h1, h2, h3⟩ := mI_ok hj
  rw [mh_j h1 h2, h3]
theorem mval_F {m0 : Nat} {S : MS} {k : Nat} {v : Int32} (h24 : k ≠ 24) (ha : mAr k = none) : mval m0 (sF S k v) = fun i => if i = k then .int v else mval m0 S i := by
  funext i
  unfold mval sF
  by_cases hi : i = k
  · subst hi
    rw [if_neg h24, ha, if_pos rfl]
    simp [upd]
  · rw [if_neg hi]
    by_cases h : i = 24
    · rw [if_pos h, if_pos h]
    · rw [if_neg h, if_neg h]
      cases mAr i with
      | some j => rfl
      | none => simp [upd, hi]
theorem mfl_set {m0 : Nat} {S S' : MS} {k : Nat} {v : Value} (h : mval m0 S' = fun i => if i = k then v else mval m0 S i) : (mfl m0 S).set k v = mfl m0 S' := by
  apply List.ext_getElem?
  intro i
  unfold mfl
  rw [List.getElem?_set]
  by_cases hi : k = i
  · subst hi
    by_cases hk : k < 64
    · simp [hk, h]
    · simp [hk]
  · rw [if_neg hi]
    by_cases hk : i < 64
    · simp [hk, h, Ne.symm hi]
    · simp [hk]
theorem mh_set0 {m0 : Nat} {h : xH} {S S' : MS} {k : Nat} {v : Value} (hv : mval m0 S' = fun i => if i = k then v else mval m0 S i) (hA : S'.2.2 = S.2.2) : xset (mh m0 h S) m0 (true, .inr (3, (mfl m0 S).set k v)) = mh m0 h S' := by
  rw [mfl_set hv]
  funext a
  unfold xset
  by_cases ha : a = m0
  · subst ha
    rw [if_pos rfl, mh_0]
  · rw [if_neg ha]
    unfold mh
    by_cases hr : m0 ≤ a ∧ a < m0 + 27
    · rw [if_pos hr, if_pos hr]
      unfold mcell
      rw [if_neg (by omega), if_neg (by omega), hA]
    · rw [if_neg hr, if_neg hr]
theorem mh_setF {m0 : Nat} {h : xH} {S : MS} {k : Nat} {v : Int32} (h24 : k ≠ 24) (ha : mAr k = none) : xset (mh m0 h S) m0 (true, .inr (3, (mfl m0 S).set k (.int v))) = mh m0 h (sF S k v) := mh_set0 (mval_F h24 ha) rfl
theorem mh_setW {m0 : Nat} {h : xH} {S : MS} {w : Int64} : xset (mh m0 h S) m0 (true, .inr (3, (mfl m0 S).set 24 (.long w))) = mh m0 h (sW S w) := mh_set0 (by
  funext i
  unfold mval sW
  by_cases hi : i = 24
  · rw [if_pos hi, if_pos hi]
  · rw [if_neg hi, if_neg hi, if_neg hi]) rfl
theorem mh_setA {m0 j i : Nat} {h : xH} {S : MS} {x : Int32} (h1 : 1 ≤ j) (h2 : j ≤ 26) : xset (mh m0 h S) (m0 + j) (true, .inl (mTy j, mL j, .inl (upd (S.2.2 j) i x))) = mh m0 h (sA S j i x) := by
  have hv : ∀ k, mval m0 (sA S j i x) k = mval m0 S k := fun k => rfl
  funext a
  unfold xset
  by_cases ha : a = m0 + j
  · subst ha
    rw [if_pos rfl, mh_j h1 h2]
    simp [sA]
  · rw [if_neg ha]
    unfold mh
    by_cases hr : m0 ≤ a ∧ a < m0 + 27
    · rw [if_pos hr, if_pos hr]
      unfold mcell
      by_cases h0 : a - m0 = 0
      · rw [if_pos h0, if_pos h0]
        rfl
      · rw [if_neg h0, if_neg h0]
        have : (sA S j i x).2.2 (a - m0) = S.2.2 (a - m0) := by
          unfold sA
          dsimp only
          rw [if_neg (by omega)]
        rw [this]
    · rw [if_neg hr, if_neg hr]
section M1
variable {G : xG} {Y : xR} {pc m0 N Z : Nat} {L : List (Nat × Value)} {rest : List Value} {h : xH} {S : MS}
theorem M.get {index k : Nat} {v : Value} {ty : FieldType} {fin : Bool} (d : decode Y.1.2.1 pc = .ok (.getfield index, 3)) (hf : xFld Y.1.1.cls index 3 k ty fin) (hk : k < 64) (hv : mval m0 S k = v) (kk : Xr G Y (pc + 3) L (v :: rest) (mh m0 h S, N, Z)) : Xr G Y pc L (.ref m0 :: rest) (mh m0 h S, N, Z) := X.getf d hf.r mh_0 (by rw [← hv]; exact mfl_at hk) kk
theorem M.putI {index k : Nat} {v : Int32} {ty : FieldType} (d : decode Y.1.2.1 pc = .ok (.putfield index, 3)) (hf : xFld Y.1.1.cls index 3 k ty false) (h24 : k ≠ 24) (ha : mAr k = none) (hn : narrow ty (.int v) = .int v) (hfit : fits ty (.int v) = true) (kk : Xr G Y (pc + 3) L rest (mh m0 h (sF S k v), N, Z)) : Xr G Y pc L (.int v :: .ref m0 :: rest) (mh m0 h S, N, Z) := X.putf d hf (fun q => by cases q) mh_0 hn hfit (by rw [mh_setF h24 ha]; exact kk)
theorem M.putW {index : Nat} {v : Int64} (d : decode Y.1.2.1 pc = .ok (.putfield index, 3)) (hf : xFld Y.1.1.cls index 3 24 .long false) (kk : Xr G Y (pc + 3) L rest (mh m0 h (sW S v), N, Z)) : Xr G Y pc L (.long v :: .ref m0 :: rest) (mh m0 h S, N, Z) := X.putf d hf (fun q => by cases q) mh_0 rfl rfl (by rw [mh_setW]; exact kk)
theorem M.iald {j : Nat} {i v : Int32} (d : decode Y.1.2.1 pc = .ok (.iaload, 1)) (hj : mI j = true) (hr : rdA S j i = some v) (k : Xr G Y (pc + 1) L (.int v :: rest) (mh m0 h S, N, Z)) : Xr G Y pc L (.int i :: .ref (m0 + j) :: rest) (mh m0 h S, N, Z) := by
  obtain ⟨h1, rfl⟩ := rdA_ok hr
  exact X.iald d (mh_I hj) h1 k
theorem M.zald {j : Nat} {i v : Int32} (d : decode Y.1.2.1 pc = .ok (.baload, 1)) (h1 : 1 ≤ j) (h2 : j ≤ 26) (hj : mTy j = .boolean) (hr : rdA S j i = some v) (k : Xr G Y (pc + 1) L (.int v :: rest) (mh m0 h S, N, Z)) : Xr G Y pc L (.int i :: .ref (m0 + j) :: rest) (mh m0 h S, N, Z) := by
  obtain ⟨h3, rfl⟩ := rdA_ok hr
  exact X.zald d (by rw [← hj]; exact mh_j h1 h2) h3 k
theorem M.iast {j : Nat} {i x : Int32} {S' : MS} (d : decode Y.1.2.1 pc = .ok (.iastore, 1)) (hj : mI j = true) (hr : wrA S j i x = some S') (k : Xr G Y (pc + 1) L rest (mh m0 h S', N, Z)) : Xr G Y pc L (.int x :: .int i :: .ref (m0 + j) :: rest) (mh m0 h S, N, Z) := by
  obtain ⟨h3, rfl⟩ := wrA_ok hr
  obtain ⟨h1, h2, ht⟩ := mI_ok hj
  exact X.iast d (mh_I hj) h3 (by rw [← mh_setA h1 h2, ht] at k; exact k)
theorem M.zast {j : Nat} {i x : Int32} {S' : MS} (d : decode Y.1.2.1 pc = .ok (.bastore, 1)) (h1 : 1 ≤ j) (h2 : j ≤ 26) (hj : mTy j = .boolean) (hr : wrA S j i (vp_nar .boolean x) = some S') (k : Xr G Y (pc + 1) L rest (mh m0 h S', N, Z)) : Xr G Y pc L (.int x :: .int i :: .ref (m0 + j) :: rest) (mh m0 h S, N, Z) := by
  obtain ⟨h3, rfl⟩ := wrA_ok hr
  exact X.zast d (by rw [← hj]; exact mh_j h1 h2) h3 (by rw [← mh_setA h1 h2, hj] at k; exact k)
theorem M.alen {j : Nat} {v : Int32} (d : decode Y.1.2.1 pc = .ok (.arraylength, 1)) (hj : mI j = true) (hv : Int32.ofNat (mL j) = v) (k : Xr G Y (pc + 1) L (.int v :: rest) (mh m0 h S, N, Z)) : Xr G Y pc L (.ref (m0 + j) :: rest) (mh m0 h S, N, Z) := X.alen d (mh_I hj) hv k
end M1
/-- a contract of the reference's: from the state S it answers v, in the state S', over any other heap -/
def CtM (G : xG) (m0 : Nat) (M : xM) (D : Nat) (S : MS) (av : List Value) (v : Option Value) (S' : MS) : Prop := ∀ (h : xH) (N Z : Nat), Ct G M D (mh m0 h S, N, Z) av (.inl v) (mh m0 h S', N, Z)
/-- from here on the method ends with v, in the state S' -/
def XM (G : xG) (m0 : Nat) (M : xM) (D : Nat) (S0 : MS) (v : Option Value) (S' : MS) (pc : Nat) (L : List (Nat × Value)) (st : List Value) (S : MS) : Prop := ∀ (h : xH) (N Z : Nat), Xr G (M, xrm D (mh m0 h S0, N, Z) (mh m0 h S', N, Z), (mh m0 h S0, N, Z), .inl v, (mh m0 h S', N, Z)) pc L st (mh m0 h S, N, Z)
/-- a method without a state: in any world -/
def CtP (G : xG) (M : xM) (D : Nat) (av : List Value) (v : Option Value) : Prop := ∀ T : xF, Ct G M D T av (.inl v) T
def XP (G : xG) (M : xM) (D : Nat) (v : Option Value) (pc : Nat) (L : List (Nat × Value)) (st : List Value) : Prop := ∀ T : xF, Xr G (M, xrm D T T, T, .inl v, T) pc L st T
def FU : Nat := 6000
theorem xD {Dc D : Nat} {T T' : xF} (h : Dc + 1 ≤ D) : Dc + 1 ≤ (xrm D T T').frames ∧ 64 * Dc + 64 ≤ (xrm D T T').locals := ⟨h, by show _ ≤ 64 * D; omega⟩
theorem xD1 {D : Nat} {T T' : xF} (h : 1 ≤ D) : 1 ≤ (xrm D T T').frames ∧ 64 ≤ (xrm D T T').locals := ⟨h, by show _ ≤ 64 * D; omega⟩
section M2
variable {G : xG} {Y : xR} {pc : Nat} {L : List (Nat × Value)} {rest : List Value}
theorem X.callSi {index n Dc : Nat} {Yc : xM} {As st : List Value} {v : Int32} {T T2 : xF} (d : decode Y.1.2.1 pc = .ok (.invokestatic index, 3)) (hct : Ct G Yc Dc T As (.inl (some (.int v))) T2) (hq : xCS Y.1.1.cls index Yc n) (hn : As.length = n) (hst : st = As.reverse ++ rest) (hrs : (rest.map fun v => v.category).sum ≤ 8) (hD : Dc + 1 ≤ Y.2.1.frames ∧ 64 * Dc + 64 ≤ Y.2.1.locals) (h2 : xle T T2) (h3 : xle T2 Y.2.2.2.2) (k : Xr G Y (pc + 3) L (.int v :: rest) T2) : Xr G Y pc L st T := X.callS d hct hq hn hst hrs hD h2 h3 k
theorem X.callSl {index n Dc : Nat} {Yc : xM} {As st : List Value} {v : Int64} {T T2 : xF} (d : decode Y.1.2.1 pc = .ok (.invokestatic index, 3)) (hct : Ct G Yc Dc T As (.inl (some (.long v))) T2) (hq : xCS Y.1.1.cls index Yc n) (hn : As.length = n) (hst : st = As.reverse ++ rest) (hrs : (rest.map fun v => v.category).sum ≤ 8) (hD : Dc + 1 ≤ Y.2.1.frames ∧ 64 * Dc + 64 ≤ Y.2.1.locals) (h2 : xle T T2) (h3 : xle T2 Y.2.2.2.2) (k : Xr G Y (pc + 3) L (.long v :: rest) T2) : Xr G Y pc L st T := X.callS d hct hq hn hst hrs hD h2 h3 k
theorem X.callSv {index n Dc : Nat} {Yc : xM} {As st : List Value} {T T2 : xF} (d : decode Y.1.2.1 pc = .ok (.invokestatic index, 3)) (hct : Ct G Yc Dc T As (.inl none) T2) (hq : xCS Y.1.1.cls index Yc n) (hn : As.length = n) (hst : st = As.reverse ++ rest) (hrs : (rest.map fun v => v.category).sum ≤ 8) (hD : Dc + 1 ≤ Y.2.1.frames ∧ 64 * Dc + 64 ≤ Y.2.1.locals) (h2 : xle T T2) (h3 : xle T2 Y.2.2.2.2) (k : Xr G Y (pc + 3) L rest T2) : Xr G Y pc L st T := X.callS d hct hq hn hst hrs hD h2 h3 k
theorem X.callVi {index n b ci Dc : Nat} {Yc : xM} {w : Bool} {fs As st : List Value} {r : vw_C} {v : Int32} {T T2 : xF} (d : decode Y.1.2.1 pc = .ok (.invokevirtual index, 3)) (hct : Ct G Yc Dc T (.ref b :: As) (.inl (some (.int v))) T2) (hq : xCV Y.1.1.cls index Yc n) (hn : As.length = n) (hst : st = As.reverse ++ .ref b :: rest) (hrs : (rest.map fun v => v.category).sum ≤ 8) (hb0 : T.1 b = some (w, .inr (ci, fs))) (hci : xClS[ci]? = some r) (hrc : Yc.1.cls = r.1) (hD : Dc + 1 ≤ Y.2.1.frames ∧ 64 * Dc + 64 ≤ Y.2.1.locals) (h2 : xle T T2) (h3 : xle T2 Y.2.2.2.2) (k : Xr G Y (pc + 3) L (.int v :: rest) T2) : Xr G Y pc L st T := X.callV d hct hq hn hst hrs hb0 hci hrc hD h2 h3 k
theorem X.callVl {index n b ci Dc : Nat} {Yc : xM} {w : Bool} {fs As st : List Value} {r : vw_C} {v : Int64} {T T2 : xF} (d : decode Y.1.2.1 pc = .ok (.invokevirtual index, 3)) (hct : Ct G Yc Dc T (.ref b :: As) (.inl (some (.long v))) T2) (hq : xCV Y.1.1.cls index Yc n) (hn : As.length = n) (hst : st = As.reverse ++ .ref b :: rest) (hrs : (rest.map fun v => v.category).sum ≤ 8) (hb0 : T.1 b = some (w, .inr (ci, fs))) (hci : xClS[ci]? = some r) (hrc : Yc.1.cls = r.1) (hD : Dc + 1 ≤ Y.2.1.frames ∧ 64 * Dc + 64 ≤ Y.2.1.locals) (h2 : xle T T2) (h3 : xle T2 Y.2.2.2.2) (k : Xr G Y (pc + 3) L (.long v :: rest) T2) : Xr G Y pc L st T := X.callV d hct hq hn hst hrs hb0 hci hrc hD h2 h3 k
theorem X.callVv {index n b ci Dc : Nat} {Yc : xM} {w : Bool} {fs As st : List Value} {r : vw_C} {T T2 : xF} (d : decode Y.1.2.1 pc = .ok (.invokevirtual index, 3)) (hct : Ct G Yc Dc T (.ref b :: As) (.inl none) T2) (hq : xCV Y.1.1.cls index Yc n) (hn : As.length = n) (hst : st = As.reverse ++ .ref b :: rest) (hrs : (rest.map fun v => v.category).sum ≤ 8) (hb0 : T.1 b = some (w, .inr (ci, fs))) (hci : xClS[ci]? = some r) (hrc : Yc.1.cls = r.1) (hD : Dc + 1 ≤ Y.2.1.frames ∧ 64 * Dc + 64 ≤ Y.2.1.locals) (h2 : xle T T2) (h3 : xle T2 Y.2.2.2.2) (k : Xr G Y (pc + 3) L rest T2) : Xr G Y pc L st T := X.callV d hct hq hn hst hrs hb0 hci hrc hD h2 h3 k
theorem X.tableC {T : xF} {dflt lo hi : Int} {offs : Array Int} {len : Nat} {x k : Int32} {off : Int} {tgt : Nat} (hx : x = k) (d : decode Y.1.2.1 pc = .ok (.tableswitch dflt lo hi offs, len)) (h1 : ¬ k.toInt < lo) (h2 : ¬ hi < k.toInt) (ho : offs[(k.toInt - lo).toNat]? = some off) (ht : (pc : Int) + off = (tgt : Int)) (kk : Xr G Y tgt L rest T) : Xr G Y pc L (.int x :: rest) T := by
  subst hx
  exact X.tableIn d h1 h2 ho ht kk
end M2
theorem xleN {a b : xH} {N Z : Nat} : xle (a, N, Z) (b, N, Z) := ⟨Nat.le_refl _, Nat.le_refl _⟩
/-- 0 or 1 -/
def zok (v : Int32) : Bool := decide (v = 0 ∨ v = 1)
theorem zok_ok {v : Int32} (h : zok v = true) : narrow .boolean (.int v) = .int v := by
  rcases of_decide_eq_true h with rfl | rfl <;> rfl
theorem clX4 : xCls 3 RX4 TX4 64 tyX4 := ⟨rfl, in_X4, tyX4_ok, nmX4⟩
