/-! THE SYSTEM's HEAP: what the functions of its methods read and write; rows over it -/
set_option maxRecDepth 100000
/-- the fields of an object of kind ci -/
def oF (T : xF) (r : Option Nat) (ci : Nat) : Option (List Value) := match r with
  | none => none
  | some a => match T.1 a with
    | some (_, .inr (c, fs)) => if c = ci then some fs else none
    | _ => none
def isO (T : xF) (r : Option Nat) (ci : Nat) : Bool := (oF T r ci).isSome
def vI (v : Value) : Option Int32 := match v with
  | .int x => some x
  | _ => none
def vQ (v : Value) : Option (Option Nat) := match v with
  | .ref a => some (some a)
  | .null => some none
  | _ => none
def oI (T : xF) (r : Option Nat) (ci k : Nat) : Option Int32 := (oF T r ci).bind fun fs => (fs[k]?).bind vI
def oQ (T : xF) (r : Option Nat) (ci k : Nat) : Option (Option Nat) := (oF T r ci).bind fun fs => (fs[k]?).bind vQ
def pV (T : xF) (r : Option Nat) (ci k : Nat) (v : Value) : Option xF := match r with
  | none => none
  | some a => match T.1 a with
    | some (true, .inr (c, fs)) => if c = ci then some (xset T.1 a (true, .inr (ci, fs.set k v)), T.2) else none
    | _ => none
/-- an array of ints (ints, bytes, booleans) -/
def aA (T : xF) (r : Option Nat) (ty : FieldType) : Option (Nat × (Nat → Int32)) := match r with
  | none => none
  | some a => match T.1 a with
    | some (_, .inl (t, n, .inl f)) => if t = ty then some (n, f) else none
    | _ => none
/-- an array of references -/
def aR (T : xF) (r : Option Nat) : Option (FieldType × Nat × (Nat → Option Nat)) := match r with
  | none => none
  | some a => match T.1 a with
    | some (_, .inl (t, n, .inr (.inr (.inr (.inr f))))) => if t.isReference = true then some (t, n, f) else none
    | _ => none
def inb (i : Int32) (n : Nat) : Bool := decide (¬ (i < 0 ∨ n ≤ i.toNatClampNeg))
def ldA (T : xF) (r : Option Nat) (ty : FieldType) (i : Int32) : Option Int32 := (aA T r ty).bind fun q => if inb i q.1 = true then some (q.2 i.toNatClampNeg) else none
def ldR (T : xF) (r : Option Nat) (i : Int32) : Option (Option Nat) := (aR T r).bind fun q => if inb i q.2.1 = true then some (q.2.2 i.toNatClampNeg) else none
def stA (T : xF) (r : Option Nat) (ty : FieldType) (i x : Int32) : Option xF := match r with
  | none => none
  | some a => match T.1 a with
    | some (true, .inl (t, n, .inl f)) => if t = ty ∧ inb i n = true then some (xset T.1 a (true, .inl (ty, n, .inl (upd f i.toNatClampNeg x))), T.2) else none
    | _ => none
/-- what may be put into an array of references: null; an object, an array that the tables say may -/
def asg (T : xF) (t : FieldType) (v : Option Nat) : Bool := match v with
  | none => match t with
    | .object _ => true
    | _ => false
  | some b => match t with
    | .object E => match T.1 b with
      | some (_, .inr (ci, _)) => match xClS[ci]? with
        | some r => decide (r.1 = E) || decide (Cond.castable r.1 E ∈ lw_tbl)
        | none => false
      | some (true, .inl (ta, _)) => decide (E = "java/lang/Object") && decide (Cond.castable ("[" ++ ta.toString) E ∈ lw_tbl)
      | _ => false
    | _ => false
def len (T : xF) (r : Option Nat) : Option Int32 := match r with
  | none => none
  | some a => match T.1 a with
    | some (_, .inl (_, A)) => some (Int32.ofNat A.1)
    | _ => none
def xleb (T T' : xF) : Bool := decide (T.2.1 ≤ T'.2.1) && decide (T.2.2 ≤ T'.2.2)
theorem xleb_ok {T T' : xF} (h : xleb T T' = true) : xle T T' := by
  unfold xleb at h
  rw [Bool.and_eq_true] at h
  exact ⟨of_decide_eq_true h.1, of_decide_eq_true h.2⟩
theorem xleb_of {T T' : xF} (h : xle T T') : xleb T T' = true := by
  unfold xleb
  rw [Bool.and_eq_true]
  exact ⟨decide_eq_true h.1, decide_eq_true h.2⟩
/-- goes on in a grown world; it never shrinks -/
def al {β : Type} (T' : xF) (k : xF → Option (β × xF)) : Option (β × xF) := (k T').bind fun q => if xleb T' q.2 = true then some q else none
def cl {α β : Type} (x : Option (α × xF)) (T : xF) (k : α → xF → Option (β × xF)) : Option (β × xF) := x.bind fun q => if xleb T q.2 = true then (k q.1 q.2).bind (fun q' => if xleb q.2 q'.2 = true then some q' else none) else none
theorem al_ok {β : Type} {T' : xF} {k : xF → Option (β × xF)} {q : β × xF} (h : al T' k = some q) : ∃ T1, T1 = T' ∧ k T1 = some q ∧ xle T1 q.2 := by
  unfold al at h
  obtain ⟨v, h1, h2⟩ := ob h
  obtain ⟨h3, h4⟩ := if_y h2
  cases h4
  exact ⟨T', rfl, h1, xleb_ok h3⟩
theorem cl_ok {α β : Type} {x : Option (α × xF)} {T : xF} {k : α → xF → Option (β × xF)} {q' : β × xF} (h : cl x T k = some q') : ∃ v T2, x = some (v, T2) ∧ k v T2 = some q' ∧ xle T T2 ∧ xle T2 q'.2 := by
  unfold cl at h
  obtain ⟨⟨v, T2⟩, h1, h2⟩ := ob h
  obtain ⟨h3, h4⟩ := if_y h2
  obtain ⟨w, h5, h6⟩ := ob h4
  obtain ⟨h7, h8⟩ := if_y h6
  cases h8
  exact ⟨v, T2, h1, h5, xleb_ok h3, xleb_ok h7⟩
def nO (T : xF) (ci n : Nat) (fs : List Value) : xF := (xset T.1 T.2.1 (true, .inr (ci, fs)), T.2.1 + 1, T.2.2 + n)
def nA (T : xF) (ty : FieldType) (n : Nat) : xF := (xset T.1 T.2.1 (true, .inl (ty, n, .inl (fun _ => 0))), T.2.1 + 1, T.2.2 + n)
def nR (T : xF) (E : String) (n : Nat) : xF := (xset T.1 T.2.1 (true, .inl (.object E, n, .inr (.inr (.inr (.inr (fun _ => none)))))), T.2.1 + 1, T.2.2 + n)
theorem oF_ok {T : xF} {r : Option Nat} {ci : Nat} {fs : List Value} (h : oF T r ci = some fs) : ∃ a w, r = some a ∧ T.1 a = some (w, .inr (ci, fs)) := by
  unfold oF at h
  cases r with
  | none => cases h
  | some a =>
    dsimp only at h
    split at h
    · next w c fs' e =>
      obtain ⟨h1, h2⟩ := if_y h
      cases h2
      subst h1
      exact ⟨a, w, rfl, e⟩
    · cases h
theorem isO_ok {T : xF} {r : Option Nat} {ci : Nat} (h : isO T r ci = true) : ∃ a w fs, r = some a ∧ T.1 a = some (w, .inr (ci, fs)) := by
  unfold isO at h
  cases e : oF T r ci with
  | none => rw [e] at h; cases h
  | some fs =>
    obtain ⟨a, w, h1, h2⟩ := oF_ok e
    exact ⟨a, w, fs, h1, h2⟩
theorem vI_ok {v : Value} {x : Int32} (h : vI v = some x) : v = .int x := by
  cases v <;> simp [vI] at h
  rw [h]
theorem vQ_ok {v : Value} {x : Option Nat} (h : vQ v = some x) : v = va_rf x := by
  cases v <;> simp [vQ] at h <;> subst h <;> rfl
theorem oI_ok {T : xF} {r : Option Nat} {ci k : Nat} {v : Int32} (h : oI T r ci k = some v) : ∃ a w fs, r = some a ∧ T.1 a = some (w, .inr (ci, fs)) ∧ fs[k]? = some (.int v) := by
  obtain ⟨fs, h1, h2⟩ := ob h
  obtain ⟨a, w, e1, e2⟩ := oF_ok h1
  obtain ⟨x, h3, h4⟩ := ob h2
  exact ⟨a, w, fs, e1, e2, by rw [h3, vI_ok h4]⟩
theorem oQ_ok {T : xF} {r : Option Nat} {ci k : Nat} {v : Option Nat} (h : oQ T r ci k = some v) : ∃ a w fs, r = some a ∧ T.1 a = some (w, .inr (ci, fs)) ∧ fs[k]? = some (va_rf v) := by
  obtain ⟨fs, h1, h2⟩ := ob h
  obtain ⟨a, w, e1, e2⟩ := oF_ok h1
  obtain ⟨x, h3, h4⟩ := ob h2
  exact ⟨a, w, fs, e1, e2, by rw [h3, vQ_ok h4]⟩
theorem pV_ok {T T' : xF} {r : Option Nat} {ci k : Nat} {v : Value} (h : pV T r ci k v = some T') : ∃ a fs, r = some a ∧ T.1 a = some (true, .inr (ci, fs)) ∧ T' = (xset T.1 a (true, .inr (ci, fs.set k v)), T.2) := by
  unfold pV at h
  cases r with
  | none => cases h
  | some a =>
    dsimp only at h
    split at h
    · next c fs e =>
      obtain ⟨h1, h2⟩ := if_y h
      cases h2
      subst h1
      exact ⟨a, fs, rfl, e, rfl⟩
    · cases h
theorem inb_ok {i : Int32} {n : Nat} (h : inb i n = true) : vp_in i n := (of_decide_eq_true h : ¬ (i < 0 ∨ n ≤ i.toNatClampNeg))
theorem aA_ok {T : xF} {r : Option Nat} {ty : FieldType} {q : Nat × (Nat → Int32)} (h : aA T r ty = some q) : ∃ a w, r = some a ∧ T.1 a = some (w, .inl (ty, q.1, .inl q.2)) := by
  unfold aA at h
  cases r with
  | none => cases h
  | some a =>
    dsimp only at h
    split at h
    · next w t n f e =>
      obtain ⟨h1, h2⟩ := if_y h
      cases h2
      subst h1
      exact ⟨a, w, rfl, e⟩
    · cases h
theorem aR_ok {T : xF} {r : Option Nat} {q : FieldType × Nat × (Nat → Option Nat)} (h : aR T r = some q) : ∃ a w, r = some a ∧ T.1 a = some (w, .inl (q.1, q.2.1, .inr (.inr (.inr (.inr q.2.2))))) ∧ q.1.isReference = true := by
  unfold aR at h
  cases r with
  | none => cases h
  | some a =>
    dsimp only at h
    split at h
    · next w t n f e =>
      obtain ⟨h1, h2⟩ := if_y h
      cases h2
      exact ⟨a, w, rfl, e, h1⟩
    · cases h
theorem stA_ok {T T' : xF} {r : Option Nat} {ty : FieldType} {i x : Int32} (h : stA T r ty i x = some T') : ∃ a n f, r = some a ∧ T.1 a = some (true, .inl (ty, n, .inl f)) ∧ vp_in i n ∧ T' = (xset T.1 a (true, .inl (ty, n, .inl (upd f i.toNatClampNeg x))), T.2) := by
  unfold stA at h
  cases r with
  | none => cases h
  | some a =>
    dsimp only at h
    split at h
    · next t n f e =>
      obtain ⟨⟨h1, h3⟩, h2⟩ := if_y h
      cases h2
      subst h1
      exact ⟨a, n, f, rfl, e, inb_ok h3, rfl⟩
    · cases h
theorem len_ok {T : xF} {r : Option Nat} {v : Int32} (h : len T r = some v) : ∃ a w ty A, r = some a ∧ T.1 a = some (w, .inl (ty, A)) ∧ Int32.ofNat A.1 = v := by
  unfold len at h
  cases r with
  | none => cases h
  | some a =>
    dsimp only at h
    split at h
    · next w t A e =>
      cases h
      exact ⟨a, w, t, A, rfl, e, rfl⟩
    · cases h
theorem qn {ty : FieldType} (h : ty.isReference = true) (v : Option Nat) : narrow ty (va_rf v) = va_rf v ∧ fits ty (va_rf v) = true := by
  cases ty <;> (try (exact absurd h (by decide))) <;> (cases v <;> exact ⟨rfl, rfl⟩)
section C1
variable {G : xG} {Y : xR} {pc : Nat} {L : List (Nat × Value)} {rest : List Value} {T T' : xF}
theorem C.aload_n {k : Fin 4} {i : Nat} {x : Option Nat} (d : decode Y.1.2.1 pc = .ok (.aload_n k, 1)) (hi : (k : Nat) = i) (j : Nat) (hj : L[j]? = some (i, va_rf x)) (kk : Xr G Y (pc + 1) L (va_rf x :: rest) T) : Xr G Y pc L rest T := by
  cases x with
  | none => exact X.aload_nN d hi j hj kk
  | some a => exact X.aload_n d hi j hj kk
theorem C.aload {i : Nat} {x : Option Nat} (d : decode Y.1.2.1 pc = .ok (.aload i, 2)) (j : Nat) (hj : L[j]? = some (i, va_rf x)) (kk : Xr G Y (pc + 2) L (va_rf x :: rest) T) : Xr G Y pc L rest T := by
  cases x with
  | none => exact X.aloadN d j hj kk
  | some a => exact X.aload d j hj kk
theorem C.astore_n {k : Fin 4} {i : Nat} {x : Option Nat} {L' : List (Nat × Value)} (d : decode Y.1.2.1 pc = .ok (.astore_n k, 1)) (hi : (k : Nat) = i) (hn : i < Y.1.2.2.1) (hL : (i, va_rf x) :: L.filter (fun q => !(q.1 == i) && !(q.1 + 1 == i && q.2.category == 2)) = L') (kk : Xr G Y (pc + 1) L' rest T) : Xr G Y pc L (va_rf x :: rest) T := by
  cases x with
  | none => exact X.astore_nN d hi hn hL kk
  | some a => exact X.astore_n d hi hn hL kk
theorem C.astore {i : Nat} {x : Option Nat} {L' : List (Nat × Value)} (d : decode Y.1.2.1 pc = .ok (.astore i, 2)) (hn : i < Y.1.2.2.1) (hL : (i, va_rf x) :: L.filter (fun q => !(q.1 == i) && !(q.1 + 1 == i && q.2.category == 2)) = L') (kk : Xr G Y (pc + 2) L' rest T) : Xr G Y pc L (va_rf x :: rest) T := by
  cases x with
  | none => exact X.astoreN d hn hL kk
  | some a => exact X.astore d hn hL kk
theorem C.null (d : decode Y.1.2.1 pc = .ok (.aconst_null, 1)) (kk : Xr G Y (pc + 1) L (va_rf none :: rest) T) : Xr G Y pc L rest T := X.null d kk
theorem C.ifnull {r : Option Nat} {off : Int} {tgt : Nat} (d : decode Y.1.2.1 pc = .ok (.ifnull off, 3)) (ht : (pc : Int) + off = (tgt : Int)) (kt : r = none → Xr G Y tgt L rest T) (kf : ¬ r = none → Xr G Y (pc + 3) L rest T) : Xr G Y pc L (va_rf r :: rest) T := by
  cases r with
  | none => exact X.ifnullN d ht (kt rfl)
  | some a => exact X.ifnull d (kf (fun h => by cases h))
theorem C.ifnonnull {r : Option Nat} {off : Int} {tgt : Nat} (d : decode Y.1.2.1 pc = .ok (.ifnonnull off, 3)) (ht : (pc : Int) + off = (tgt : Int)) (kt : ¬ r = none → Xr G Y tgt L rest T) (kf : r = none → Xr G Y (pc + 3) L rest T) : Xr G Y pc L (va_rf r :: rest) T := by
  cases r with
  | none => exact X.ifnonnullN d (kf rfl)
  | some a => exact X.ifnonnull d ht (kt (fun h => by cases h))
theorem cat1 (r : Option Nat) : (va_rf r).category = 1 := by cases r <;> rfl
theorem C.dup {r : Option Nat} (d : decode Y.1.2.1 pc = .ok (.dup, 1)) (kk : Xr G Y (pc + 1) L (va_rf r :: va_rf r :: rest) T) : Xr G Y pc L (va_rf r :: rest) T := X.dup d (cat1 r) kk
theorem C.pop {r : Option Nat} (d : decode Y.1.2.1 pc = .ok (.pop, 1)) (kk : Xr G Y (pc + 1) L rest T) : Xr G Y pc L (va_rf r :: rest) T := X.pop d (cat1 r) kk
theorem C.getI {index ci k : Nat} {r : Option Nat} {v : Int32} {ty : FieldType} {fin : Bool} (d : decode Y.1.2.1 pc = .ok (.getfield index, 3)) (hf : xFldR Y.1.1.cls index ci k ty fin) (h : oI T r ci k = some v) (kk : Xr G Y (pc + 3) L (.int v :: rest) T) : Xr G Y pc L (va_rf r :: rest) T := by
  obtain ⟨a, w, fs, rfl, h1, h2⟩ := oI_ok h
  exact X.getf d hf h1 h2 kk
theorem C.getQ {index ci k : Nat} {r v : Option Nat} {ty : FieldType} {fin : Bool} (d : decode Y.1.2.1 pc = .ok (.getfield index, 3)) (hf : xFldR Y.1.1.cls index ci k ty fin) (h : oQ T r ci k = some v) (kk : Xr G Y (pc + 3) L (va_rf v :: rest) T) : Xr G Y pc L (va_rf r :: rest) T := by
  obtain ⟨a, w, fs, rfl, h1, h2⟩ := oQ_ok h
  exact X.getf d hf h1 h2 kk
theorem C.putI {index ci k : Nat} {r : Option Nat} {v : Int32} {ty : FieldType} {fin : Bool} (d : decode Y.1.2.1 pc = .ok (.putfield index, 3)) (hf : xFld Y.1.1.cls index ci k ty fin) (hfin : fin = true → Y.1.1.name = "<init>") (hn : narrow ty (.int v) = .int v) (hfit : fits ty (.int v) = true) (h : pV T r ci k (.int v) = some T') (kk : Xr G Y (pc + 3) L rest T') : Xr G Y pc L (.int v :: va_rf r :: rest) T := by
  obtain ⟨a, fs, rfl, h1, rfl⟩ := pV_ok h
  exact X.putf (h := T.1) (N := T.2.1) (Z := T.2.2) d hf hfin h1 hn hfit kk
theorem C.putQ {index ci k : Nat} {r v : Option Nat} {ty : FieldType} {fin : Bool} (d : decode Y.1.2.1 pc = .ok (.putfield index, 3)) (hf : xFld Y.1.1.cls index ci k ty fin) (hfin : fin = true → Y.1.1.name = "<init>") (ht : ty.isReference = true) (h : pV T r ci k (va_rf v) = some T') (kk : Xr G Y (pc + 3) L rest T') : Xr G Y pc L (va_rf v :: va_rf r :: rest) T := by
  obtain ⟨a, fs, rfl, h1, rfl⟩ := pV_ok h
  exact X.putf (h := T.1) (N := T.2.1) (Z := T.2.2) d hf hfin h1 (qn ht v).1 (qn ht v).2 kk
theorem C.iald {r : Option Nat} {i v : Int32} (d : decode Y.1.2.1 pc = .ok (.iaload, 1)) (h : ldA T r .int i = some v) (kk : Xr G Y (pc + 1) L (.int v :: rest) T) : Xr G Y pc L (.int i :: va_rf r :: rest) T := by
  obtain ⟨q, h1, h2⟩ := ob h
  obtain ⟨a, w, rfl, h3⟩ := aA_ok h1
  obtain ⟨h4, h5⟩ := if_y h2
  cases h5
  exact X.iald d h3 (inb_ok h4) kk
theorem C.bald {r : Option Nat} {i v : Int32} (d : decode Y.1.2.1 pc = .ok (.baload, 1)) (h : ldA T r .byte i = some v) (kk : Xr G Y (pc + 1) L (.int v :: rest) T) : Xr G Y pc L (.int i :: va_rf r :: rest) T := by
  obtain ⟨q, h1, h2⟩ := ob h
  obtain ⟨a, w, rfl, h3⟩ := aA_ok h1
  obtain ⟨h4, h5⟩ := if_y h2
  cases h5
  exact X.bald d h3 (inb_ok h4) kk
theorem C.aald {r v : Option Nat} {i : Int32} (d : decode Y.1.2.1 pc = .ok (.aaload, 1)) (h : ldR T r i = some v) (kk : Xr G Y (pc + 1) L (va_rf v :: rest) T) : Xr G Y pc L (.int i :: va_rf r :: rest) T := by
  obtain ⟨q, h1, h2⟩ := ob h
  obtain ⟨a, w, rfl, h3, h6⟩ := aR_ok h1
  obtain ⟨h4, h5⟩ := if_y h2
  cases h5
  exact X.aald h6 d h3 (inb_ok h4) kk
theorem C.iast {r : Option Nat} {i x : Int32} (d : decode Y.1.2.1 pc = .ok (.iastore, 1)) (h : stA T r .int i x = some T') (kk : Xr G Y (pc + 1) L rest T') : Xr G Y pc L (.int x :: .int i :: va_rf r :: rest) T := by
  obtain ⟨a, n, f, rfl, h1, h2, rfl⟩ := stA_ok h
  exact X.iast (h := T.1) (N := T.2.1) (Z := T.2.2) d h1 h2 kk
theorem C.bast {r : Option Nat} {i x : Int32} (d : decode Y.1.2.1 pc = .ok (.bastore, 1)) (h : stA T r .byte i (vp_nar .byte x) = some T') (kk : Xr G Y (pc + 1) L rest T') : Xr G Y pc L (.int x :: .int i :: va_rf r :: rest) T := by
  obtain ⟨a, n, f, rfl, h1, h2, rfl⟩ := stA_ok h
  exact X.bast (h := T.1) (N := T.2.1) (Z := T.2.2) d h1 h2 kk
theorem C.alen {r : Option Nat} {v : Int32} (d : decode Y.1.2.1 pc = .ok (.arraylength, 1)) (h : len T r = some v) (kk : Xr G Y (pc + 1) L (.int v :: rest) T) : Xr G Y pc L (va_rf r :: rest) T := by
  obtain ⟨a, w, ty, A, rfl, h1, h2⟩ := len_ok h
  exact X.alen d h1 h2 kk
theorem C.new {index ci n : Nat} {C : String} {Tb : u_T} {ty : Nat → FieldType} {fs : List Value} (d : decode Y.1.2.1 pc = .ok (.new index, 3)) (hcl : xCls ci C Tb n ty) (hlk : Cond.classLink Y.1.1.cls index C ∈ lw_all) (hins : Cond.instantiable C n ∈ lw_all) (hini : Cond.initialized C ∈ lw_all) (hfs : fs.length = n) (hdf : ∀ j, j < n → defaultValue (ty j) = vp_V fs j) (hle : xle (nO T ci n fs) Y.2.2.2.2) (kk : Xr G Y (pc + 3) L (va_rf (some T.2.1) :: rest) (nO T ci n fs)) : Xr G Y pc L rest T := X.new (h := T.1) (N := T.2.1) (Z := T.2.2) d hcl hlk hins hini hfs hdf hle kk
theorem C.newa {atype : ArrayType} {ty : FieldType} {n : Int32} (d : decode Y.1.2.1 pc = .ok (.newarray atype, 2)) (hty : newarray.typeOf atype = ty) (htm : ty ∈ xTys) (hr : ty.isReference = false) (hw : Cond.arrayClass ty ∈ lw_all) (hd : defaultValue ty = .int 0) (hby : componentBytes ty ≤ 4) (hn : ¬ (n < 0 ∨ 100000000 ≤ n.toNatClampNeg)) (hle : xle (nA T ty n.toNatClampNeg) Y.2.2.2.2) (kk : Xr G Y (pc + 2) L (va_rf (some T.2.1) :: rest) (nA T ty n.toNatClampNeg)) : Xr G Y pc L (.int n :: rest) T := by
  have h1 : ¬ n < 0 := fun q => hn (Or.inl q)
  have h2 : n.toNatClampNeg < 100000000 := Nat.not_le.mp fun q => hn (Or.inr q)
  refine X.newa (h := T.1) (N := T.2.1) (Z := T.2.2) (n' := n.toNatClampNeg) (A := (n.toNatClampNeg, .inl (fun _ => 0))) d hty htm hr hw (fun cA => ?_) h1 rfl ?_ hle kk
  · rw [vp_cell_i, hd]
  · have : n.toNatClampNeg * componentBytes ty ≤ 100000000 * 4 := Nat.mul_le_mul (Nat.le_of_lt h2) hby
    omega
/-! statics -/
theorem X.gets {index i : Nat} {q : String × String × String} {ref : String} (d : decode Y.1.2.1 pc = .ok (.getstatic index, 3)) (hq : xSts[i]? = some q) (hlk : Cond.fieldLink Y.1.1.cls index ref q.2.1 q.2.2 ∈ lw_all) (hr : q.1 = ref) (kk : Xr G Y (pc + 3) L (xSv G i :: rest) T) : Xr G Y pc L rest T := by
  intro p l e s m args below meth c H locs ls hc hd hl
  have K := kk p l e s m args below meth c H locs ls hc hd hl
  obtain ⟨-, hx, hb, -, -, -, hown, -, hts, hK, hSt, -⟩ := hc
  exact va_gets hx hb (hSt i q hq).1 hd.2.2.1 hown (hts _ hlk) (fun x h => by rw [← hr]; exact h) d K
/-! casts -/
theorem castY {index a : Nat} {own C nm : String} {w : Bool} {fs : List Value} {ci : Nat} {r : vw_C} (hci : xClS[ci]? = some r) (hown : own = Y.1.1.cls) (hC : r.1 = C) (d : decode Y.1.2.1 pc = .ok (.checkcast index, 3)) (hlk : Cond.classLink own index nm ∈ lw_all) (hca : C = nm ∨ Cond.castable C nm ∈ lw_tbl) (ha : T.1 a = some (w, .inr (ci, fs))) (kk : Xr G Y (pc + 3) L (.ref a :: rest) T) : Xr G Y pc L (.ref a :: rest) T := by
  subst hown
  subst hC
  intro p l e s m args below meth c H locs ls hc hd hl
  have K := kk p l e s m args below meth c H locs ls hc hd hl
  obtain ⟨-, hx, hb, -, -, -, hown, -, hts, hK, hSt, -⟩ := hc
  have hr := xobj hK hci (hd.2.1 a _ (ol_some ha))
  rcases hca with rfl | hca
  · exact va_castE hx hb hown (hts _ hlk) hr d K
  · exact va_castY hx hb hown (hts _ hlk) (hK.2.2.1 _ hca rfl) hr d K
/-- may a reference be cast: null, or an object of kind ci -/
def cst (T : xF) (r : Option Nat) (cis : List Nat) : Bool := match r with
  | none => true
  | some a => match T.1 a with
    | some (_, .inr (c, _)) => cis.contains c
    | _ => false
theorem C.cast {index : Nat} {r : Option Nat} {nm : String} {cis : List Nat} (d : decode Y.1.2.1 pc = .ok (.checkcast index, 3)) (hlk : Cond.classLink Y.1.1.cls index nm ∈ lw_all) (hca : ∀ ci ∈ cis, ∃ q : vw_C, xClS[ci]? = some q ∧ (q.1 = nm ∨ Cond.castable q.1 nm ∈ lw_tbl)) (h : cst T r cis = true) (kk : Xr G Y (pc + 3) L (va_rf r :: rest) T) : Xr G Y pc L (va_rf r :: rest) T := by
  cases r with
  | none =>
    intro p l e s m args below meth c H locs ls hc hd hl
    exact lv_castN hc.2.1 hc.2.2.1 d (kk p l e s m args below meth c H locs ls hc hd hl)
  | some a =>
    unfold cst at h
    dsimp only at h
    split at h
    · next w c fs e =>
      obtain ⟨q, h1, h2⟩ := hca c (by simpa using h)
      exact castY h1 rfl rfl d hlk h2 e kk
    · cases h
/-- an int array may be cast to int[] -/
def cstI (T : xF) (r : Option Nat) : Bool := match r with
  | none => true
  | some a => match T.1 a with
    | some (true, .inl (.int, _)) => true
    | _ => false
theorem C.castI {index : Nat} {r : Option Nat} (d : decode Y.1.2.1 pc = .ok (.checkcast index, 3)) (hlk : Cond.classLink Y.1.1.cls index "[I" ∈ lw_all) (h : cstI T r = true) (kk : Xr G Y (pc + 3) L (va_rf r :: rest) T) : Xr G Y pc L (va_rf r :: rest) T := by
  cases r with
  | none =>
    intro p l e s m args below meth c H locs ls hc hd hl
    exact lv_castN hc.2.1 hc.2.2.1 d (kk p l e s m args below meth c H locs ls hc hd hl)
  | some a =>
    unfold cstI at h
    dsimp only at h
    split at h
    · next A e =>
      intro p l e' s m args below meth c H locs ls hc hd hl
      have K := kk p l e' s m args below meth c H locs ls hc hd hl
      obtain ⟨-, hx, hb, -, -, -, hown, -, hts, hK, hSt, -⟩ := hc
      obtain ⟨h1, h2, h3⟩ := hd.2.1 a _ (ol_some e)
      exact va_castA (D := (gC G, gI G)) (cl := xCl) (ws := [(a, .inl (gA G .int, A))]) hx hb hown (hts _ hlk) (fun k q hk => by
        cases k with
        | zero => cases hk; exact h1
        | succ k => simp at hk) 0 rfl ((hK.2.1 _ h3).2) d K
    · cases h
/-! more calls -/
def xCU (own : String) (index : Nat) (C : String) (Yc : xM) (n : Nat) : Prop := GoodIn lw_all (va_wsU own index C Yc.1.cls Yc.1 Yc.1 (ws_ Yc.1 Yc.2.1 Yc.2.2.1 Yc.2.2.2.1)) ∧ Yc.2.2.2.2 = [] ∧ (Yc.1.cls ≠ "java/lang/invoke/MethodHandle" ∧ Yc.1.cls ≠ "java/lang/invoke/VarHandle" ∧ (parseMethodDescriptor Yc.1.desc).map (fun d => d.parameters.length) = some n) ∧ Yc.2.2.1 ≤ 45
def xCSU (own : String) (index : Nat) (Yc : xM) (n : Nat) : Prop := GoodIn lw_all (va_wsSU own index Yc.1 (ws_ Yc.1 Yc.2.1 Yc.2.2.1 Yc.2.2.2.1)) ∧ Yc.2.2.2.2 = [] ∧ (Yc.1.name ≠ "<init>" ∧ (parseMethodDescriptor Yc.1.desc).map (fun d => d.parameters.length) = some n) ∧ Yc.2.2.1 ≤ 45
def xCF (own : String) (index : Nat) (C : String) (x : MethodName) (Yc : xM) (n : Nat) : Prop := GoodIn lw_all (va_wsF own index C x Yc.1 (ws_ Yc.1 Yc.2.1 Yc.2.2.1 Yc.2.2.2.1)) ∧ Yc.2.2.2.2 = [] ∧ (x.cls ≠ "java/lang/invoke/MethodHandle" ∧ x.cls ≠ "java/lang/invoke/VarHandle" ∧ (parseMethodDescriptor x.desc).map (fun d => d.parameters.length) = some n) ∧ Yc.2.2.1 ≤ 45 ∧ (C, x, Yc.1) ∈ xFws
def xCSN (own : String) (index : Nat) (Yc : xM) (n : Nat) : Prop := (GoodIn lw_all (ws_ Yc.1 Yc.2.1 Yc.2.2.1 Yc.2.2.2.1) ∧ (∃ host, Cond.methodLinkNest own index Yc.1 host ∈ lw_tbl) ∧ Cond.initialized Yc.1.cls ∈ lw_all ∧ Cond.static Yc.1 ∈ lw_all) ∧ Yc.2.2.2.2 = [] ∧ (Yc.1.cls ≠ "java/lang/invoke/MethodHandle" ∧ Yc.1.cls ≠ "java/lang/invoke/VarHandle" ∧ (parseMethodDescriptor Yc.1.desc).map (fun d => d.parameters.length) = some n) ∧ Yc.2.2.1 ≤ 45
def xCIN (own : String) (index : Nat) (Yc : xM) (n : Nat) : Prop := (GoodIn lw_all (ws_ Yc.1 Yc.2.1 Yc.2.2.1 none) ∧ Yc.2.2.2.1 = none ∧ (∃ host, Cond.methodLinkNest own index Yc.1 host ∈ lw_tbl) ∧ Cond.initialized Yc.1.cls ∈ lw_all ∧ Cond.instanceMethod Yc.1 ∈ lw_all ∧ Yc.1.name = "<init>") ∧ Yc.2.2.2.2 = [] ∧ (Yc.1.cls ≠ "java/lang/invoke/MethodHandle" ∧ Yc.1.cls ≠ "java/lang/invoke/VarHandle" ∧ (parseMethodDescriptor Yc.1.desc).map (fun d => d.parameters.length) = some n) ∧ Yc.2.2.1 ≤ 45
theorem X.callU {index n b ci Dc : Nat} {Yc : xM} {C : String} {w : Bool} {fs : List Value} {r : vw_C} {As st : List Value} {v : Option Value} {T2 : xF} (d : decode Y.1.2.1 pc = .ok (.invokevirtual index, 3)) (hct : Ct G Yc Dc T (.ref b :: As) (.inl v) T2) (hq : xCU Y.1.1.cls index C Yc n) (hn : As.length = n) (hst : st = As.reverse ++ .ref b :: rest) (hrs : (rest.map fun v => v.category).sum ≤ 8) (hb0 : T.1 b = some (w, .inr (ci, fs))) (hci : xCl[ci]? = some r) (hrc : C = r.1)
    (hD : Dc + 1 ≤ Y.2.1.frames ∧ 64 * Dc + 64 ≤ Y.2.1.locals) (h2 : xle T T2) (h3 : xle T2 Y.2.2.2.2) (k : Xr G Y (pc + 3) L (v.toList ++ rest) T2) : Xr G Y pc L st T := by
  intro p l e s m args below meth c H locs ls hc hd hl
  have hc' := hc
  obtain ⟨hfl, hx, hb, -, -, hml, hown, hname, hts, hK, hSt, hsz0, hgb, -⟩ := hc
  obtain ⟨hsz, hrep, hS9, hd1, hd2, hdm, hd3⟩ := hd
  obtain ⟨hq1, hq2, hq3, hq4⟩ := hq
  subst hst
  have hM := hct h2 l hfl
  obtain ⟨y, cc, nL, ret, hh⟩ := Yc
  dsimp only at hq1 hq2 hq3 hq4
  subst hq2
  have r1 := h2.1; have r2 := h2.2; have r3 := h3.1; have r4 := h3.2; have r5 := hd1.1; have r6 := hd1.2; have r7 := hd3.1; have r8 := hd3.2
  refine xgo (va_runU (Qc := fun _ st oc t => oc = .returned v ∧ (xW G T2 t ∧ xdm T T2) ∧ va_F (xAf G) st t) (free := xAf G) (As := As) (rest := rest) (n := n) ⟨hx, hb, hml, hown, hts⟩ hM (va_cwU n hts hq1 rfl rfl rfl rfl hq3 ⟨hD.1, ?_⟩) ⟨xblind, ?_, fun U hU hW => ⟨rfl, ?_⟩⟩ rfl hn hl.1 rfl (lv_room hrs) d ⟨?_, ?_⟩) hS9 fun H1 locs1 z1 hrep1 hS1 hdm1 => ?_
  · show 8 + (nL + 11) + 64 * Dc ≤ _
    omega
  · rw [hrc]
    exact xobj hK (xcl_up hci) (hrep b _ (ol_some hb0))
  · exact ⟨by rw [hU]; exact hsz, fun a cc hcc => by rw [hU]; exact (hrep a cc hcc).moved hW.alike, hK.warm hW, fun i q hq => by rw [hU]; exact (xZs.moved hW.alike (hSt i q hq)).kept hS9.2.1, Nat.le_trans hgb hd1.1⟩
  · rw [xsub r5 r1]; omega
  · rw [xsub r6 r2]; omega
  · have K := k p l e s m args below meth c H1 locs1 ls hc' ⟨z1, hrep1, hS1, xle.tr hd1 h2, h3, xdm.tr r5 hdm hdm1, hd3⟩ hl
    rw [xsub r5 r1, xsub r6 r2]
    exact K
theorem X.callSU {index n b ci Dc : Nat} {Yc : xM} {C : String} {w : Bool} {fs : List Value} {r : vw_C} {As st : List Value} {v : Option Value} {T2 : xF} (d : decode Y.1.2.1 pc = .ok (.invokespecial index, 3)) (hct : Ct G Yc Dc T (.ref b :: As) (.inl v) T2) (hq : xCSU Y.1.1.cls index Yc n) (hn : As.length = n) (hst : st = As.reverse ++ .ref b :: rest) (hrs : (rest.map fun v => v.category).sum ≤ 8) (hb0 : T.1 b = some (w, .inr (ci, fs))) (hci : xCl[ci]? = some r) (hrc : C = r.1)
    (hD : Dc + 1 ≤ Y.2.1.frames ∧ 64 * Dc + 64 ≤ Y.2.1.locals) (h2 : xle T T2) (h3 : xle T2 Y.2.2.2.2) (k : Xr G Y (pc + 3) L (v.toList ++ rest) T2) : Xr G Y pc L st T := by
  intro p l e s m args below meth c H locs ls hc hd hl
  have hc' := hc
  obtain ⟨hfl, hx, hb, -, -, hml, hown, hname, hts, hK, hSt, hsz0, hgb, -⟩ := hc
  obtain ⟨hsz, hrep, hS9, hd1, hd2, hdm, hd3⟩ := hd
  obtain ⟨hq1, hq2, hq3, hq4⟩ := hq
  subst hst
  have hM := hct h2 l hfl
  obtain ⟨y, cc, nL, ret, hh⟩ := Yc
  dsimp only at hq1 hq2 hq3 hq4
  subst hq2
  have hcat := (hK.1 ci r hci).2
  have r1 := h2.1; have r2 := h2.2; have r3 := h3.1; have r4 := h3.2; have r5 := hd1.1; have r6 := hd1.2; have r7 := hd3.1; have r8 := hd3.2
  refine xgo (va_runSU (Qc := fun _ st oc t => oc = .returned v ∧ (xW G T2 t ∧ xdm T T2) ∧ va_F (xAf G) st t) (free := xAf G) (As := As) (rest := rest) (n := n) (C := C) (by rw [hrc]; exact hcat) ⟨hx, hb, hml, hown, hts⟩ hM (va_cwSU n hts hq1 rfl rfl rfl hq3 ⟨hD.1, ?_⟩) ⟨xblind, ?_, fun U hU hW => ⟨rfl, ?_⟩⟩ rfl hn hl.1 rfl (lv_room hrs) d ⟨?_, ?_⟩) hS9 fun H1 locs1 z1 hrep1 hS1 hdm1 => ?_
  · show 8 + (nL + 11) + 64 * Dc ≤ _
    omega
  · rw [hrc]
    exact xobj hK (xcl_up hci) (hrep b _ (ol_some hb0))
  · exact ⟨by rw [hU]; exact hsz, fun a cc hcc => by rw [hU]; exact (hrep a cc hcc).moved hW.alike, hK.warm hW, fun i q hq => by rw [hU]; exact (xZs.moved hW.alike (hSt i q hq)).kept hS9.2.1, Nat.le_trans hgb hd1.1⟩
  · rw [xsub r5 r1]; omega
  · rw [xsub r6 r2]; omega
  · have K := k p l e s m args below meth c H1 locs1 ls hc' ⟨z1, hrep1, hS1, xle.tr hd1 h2, h3, xdm.tr r5 hdm hdm1, hd3⟩ hl
    rw [xsub r5 r1, xsub r6 r2]
    exact K
theorem xgo5 {p : Program} {l : Launch} {e : Env} {R : Room} {s : State} {m : MethodId} {args : Array Value} {below : List Frame} {meth : Method} {c : Code} {H : Heap} {locs : List Loc} {cells slots mc ms : Nat} {Q : State → Prop} {ls : Array Slot} {st0 rest : List Value} {v : Option Value} {T T2 : xF}
    (hr : va_Run5 p l e R s m args below meth c H locs cells slots mc ms (F0 m pc ls st0) rest (fun st oc t => oc = .returned v ∧ (xW G T2 t ∧ xdm T T2) ∧ va_F (xAf G) st t) (xAf G)) (hS : va_S (xAf G) s.heap H locs)
    (kk : ∀ (H1 : Heap) (locs1 : List Loc), H1.size = T2.2.1 → (∀ (a : Nat) (c : Bool × xC), ol (gR G) T2.1 a = some c → xat G s a c H1) → va_S (xAf G) s.heap H1 locs1 → xdm T T2 → W p l e R s m args below meth c H1 locs1 (cells + mc) (slots + ms) Q (F0 m (pc + 5) ls (v.toList ++ rest))) : W p l e R s m args below meth c H locs cells slots Q (F0 m pc ls st0) := by
  intro TT hT X
  obtain ⟨v', st₀, t, T', L, h0, X', hL, e1, e2, ⟨hv, ⟨hxw, hdm⟩, hz, hk⟩, st⟩ := hr TT hT X
  cases hv
  rw [h0] at hz hk
  have hal : t.vm.Alike s.vm := by rw [← e2]; exact X'.warmed.alike.symm
  obtain ⟨t2, a1, b1⟩ := kk T'.heap (locs ++ L) (by rw [e1]; exact hxw.1) (fun a cc hcc => by rw [e1]; exact (hxw.2.1 a cc hcc).moved hal)
    ⟨Nat.le_trans hS.1 (by rw [e1]; exact hz), fun q h1 h2 => by rw [e1, hk q (Nat.lt_of_lt_of_le h1 hS.1) h2]; exact hS.2.1 q h1 h2, fun q hq => by
      rcases List.mem_append.mp hq with h | h
      · exact hS.2.2 q h
      · exact hL q h⟩ hdm T' rfl X'
  exact ⟨t2, st t2 a1, b1⟩
theorem X.callF {index n b ci cnt Dc : Nat} {Yc : xM} {C : String} {w : Bool} {fs : List Value} {r : vw_C} {x : MethodName} {As st : List Value} {v : Option Value} {T2 : xF} (d : decode Y.1.2.1 pc = .ok (.invokeinterface index cnt, 5)) (hct : Ct G Yc Dc T (.ref b :: As) (.inl v) T2) (hq : xCF Y.1.1.cls index C x Yc n) (hn : As.length = n) (hst : st = As.reverse ++ .ref b :: rest) (hrs : (rest.map fun v => v.category).sum ≤ 8) (hb0 : T.1 b = some (w, .inr (ci, fs))) (hci : xCl[ci]? = some r) (hrc : C = r.1)
    (hD : Dc + 1 ≤ Y.2.1.frames ∧ 64 * Dc + 64 ≤ Y.2.1.locals) (h2 : xle T T2) (h3 : xle T2 Y.2.2.2.2) (k : Xr G Y (pc + 5) L (v.toList ++ rest) T2) : Xr G Y pc L st T := by
  intro p l e s m args below meth c H locs ls hc hd hl
  have hc' := hc
  obtain ⟨hfl, hx, hb, -, -, hml, hown, hname, hts, hK, hSt, hsz0, hgb, -⟩ := hc
  obtain ⟨hsz, hrep, hS9, hd1, hd2, hdm, hd3⟩ := hd
  obtain ⟨hq1, hq2, hq3, hq4, hq5⟩ := hq
  subst hst
  have hM := hct h2 l hfl
  obtain ⟨y, cc, nL, ret, hh⟩ := Yc
  dsimp only at hq1 hq2 hq3 hq4 hq5
  subst hq2
  have hcat := (hK.1 ci r hci).2
  have hfw := hK.2.2.2.1 _ hq5
  have r1 := h2.1; have r2 := h2.2; have r3 := h3.1; have r4 := h3.2; have r5 := hd1.1; have r6 := hd1.2; have r7 := hd3.1; have r8 := hd3.2
  refine xgo5 (va_runF (Qc := fun _ st oc t => oc = .returned v ∧ (xW G T2 t ∧ xdm T T2) ∧ va_F (xAf G) st t) (free := xAf G) (As := As) (rest := rest) (n := n) (C := C) (by rw [hrc]; exact hcat) ⟨hx, hb, hml, hown, hts⟩ hM (va_cwF n hts hq1 rfl rfl rfl hfw hq3 ⟨hD.1, ?_⟩) ⟨xblind, ?_, fun U hU hW => ⟨rfl, ?_⟩⟩ rfl hn hl.1 rfl (lv_room hrs) d ⟨?_, ?_⟩) hS9 fun H1 locs1 z1 hrep1 hS1 hdm1 => ?_
  · show 8 + (nL + 11) + 64 * Dc ≤ _
    omega
  · rw [hrc]
    exact xobj hK (xcl_up hci) (hrep b _ (ol_some hb0))
  · exact ⟨by rw [hU]; exact hsz, fun a cc hcc => by rw [hU]; exact (hrep a cc hcc).moved hW.alike, hK.warm hW, fun i q hq => by rw [hU]; exact (xZs.moved hW.alike (hSt i q hq)).kept hS9.2.1, Nat.le_trans hgb hd1.1⟩
  · rw [xsub r5 r1]; omega
  · rw [xsub r6 r2]; omega
  · have K := k p l e s m args below meth c H1 locs1 ls hc' ⟨z1, hrep1, hS1, xle.tr hd1 h2, h3, xdm.tr r5 hdm hdm1, hd3⟩ hl
    rw [xsub r5 r1, xsub r6 r2]
    exact K
theorem X.callSN {index n Dc : Nat} {Yc : xM} {As st : List Value} {v : Option Value} {T2 : xF} (d : decode Y.1.2.1 pc = .ok (.invokestatic index, 3)) (hct : Ct G Yc Dc T As (.inl v) T2) (hq : xCSN Y.1.1.cls index Yc n) (hn : As.length = n) (hst : st = As.reverse ++ rest) (hrs : (rest.map fun v => v.category).sum ≤ 8) 
    (hD : Dc + 1 ≤ Y.2.1.frames ∧ 64 * Dc + 64 ≤ Y.2.1.locals) (h2 : xle T T2) (h3 : xle T2 Y.2.2.2.2) (k : Xr G Y (pc + 3) L (v.toList ++ rest) T2) : Xr G Y pc L st T := by
  intro p l e s m args below meth c H locs ls hc hd hl
  have hc' := hc
  obtain ⟨hfl, hx, hb, -, -, hml, hown, hname, hts, hK, hSt, hsz0, hgb, -⟩ := hc
  obtain ⟨hsz, hrep, hS9, hd1, hd2, hdm, hd3⟩ := hd
  obtain ⟨⟨hq1, ⟨host, hq5⟩, hq6, hq7⟩, hq2, hq3, hq4⟩ := hq
  subst hst
  have hM := hct h2 l hfl
  obtain ⟨y, cc, nL, ret, hh⟩ := Yc
  dsimp only at hq1 hq2 hq3 hq4 hq5 hq6 hq7
  subst hq2
  have r1 := h2.1; have r2 := h2.2; have r3 := h3.1; have r4 := h3.2; have r5 := hd1.1; have r6 := hd1.2; have r7 := hd3.1; have r8 := hd3.2
  refine xgo (va_runSN (Qc := fun _ st oc t => oc = .returned v ∧ (xW G T2 t ∧ xdm T T2) ∧ va_F (xAf G) st t) (free := xAf G) (As := As) (rest := rest) (n := n) ⟨hx, hb, hml, hown, hts⟩ hM ⟨va_cnB n hts hq1 rfl rfl rfl (hK.2.2.1 _ hq5 rfl) (hts _ hq6) hq3 ⟨hD.1, ?_⟩, hts _ hq7, trivial⟩ ⟨xblind, fun U hU hW => ⟨rfl, ?_⟩⟩ rfl hn hl.1 rfl (lv_room hrs) d ⟨?_, ?_⟩) hS9 fun H1 locs1 z1 hrep1 hS1 hdm1 => ?_
  · show 8 + (nL + 11) + 64 * Dc ≤ _
    omega
  · exact ⟨by rw [hU]; exact hsz, fun a cc hcc => by rw [hU]; exact (hrep a cc hcc).moved hW.alike, hK.warm hW, fun i q hq => by rw [hU]; exact (xZs.moved hW.alike (hSt i q hq)).kept hS9.2.1, Nat.le_trans hgb hd1.1⟩
  · rw [xsub r5 r1]; omega
  · rw [xsub r6 r2]; omega
  · have K := k p l e s m args below meth c H1 locs1 ls hc' ⟨z1, hrep1, hS1, xle.tr hd1 h2, h3, xdm.tr r5 hdm hdm1, hd3⟩ hl
    rw [xsub r5 r1, xsub r6 r2]
    exact K
theorem X.callIN {index n b Dc : Nat} {Yc : xM} {As st : List Value} {v : Option Value} {T2 : xF} (d : decode Y.1.2.1 pc = .ok (.invokespecial index, 3)) (hct : Ct G Yc Dc T (.ref b :: As) (.inl v) T2) (hq : xCIN Y.1.1.cls index Yc n) (hn : As.length = n) (hst : st = As.reverse ++ .ref b :: rest) (hrs : (rest.map fun v => v.category).sum ≤ 8) 
    (hD : Dc + 1 ≤ Y.2.1.frames ∧ 64 * Dc + 64 ≤ Y.2.1.locals) (h2 : xle T T2) (h3 : xle T2 Y.2.2.2.2) (k : Xr G Y (pc + 3) L (v.toList ++ rest) T2) : Xr G Y pc L st T := by
  intro p l e s m args below meth c H locs ls hc hd hl
  have hc' := hc
  obtain ⟨hfl, hx, hb, -, -, hml, hown, hname, hts, hK, hSt, hsz0, hgb, -⟩ := hc
  obtain ⟨hsz, hrep, hS9, hd1, hd2, hdm, hd3⟩ := hd
  obtain ⟨⟨hq1, hq8, ⟨host, hq5⟩, hq6, hq7, hq9⟩, hq2, hq3, hq4⟩ := hq
  subst hst
  have hM := hct h2 l hfl
  obtain ⟨y, cc, nL, ret, hh⟩ := Yc
  dsimp only at hq1 hq2 hq3 hq4 hq5 hq6 hq7 hq8 hq9
  subst hq2
  subst hq8
  have r1 := h2.1; have r2 := h2.2; have r3 := h3.1; have r4 := h3.2; have r5 := hd1.1; have r6 := hd1.2; have r7 := hd3.1; have r8 := hd3.2
  refine xgo (va_runIN (Qc := fun _ st oc t => oc = .returned v ∧ (xW G T2 t ∧ xdm T T2) ∧ va_F (xAf G) st t) (free := xAf G) (As := As) (rest := rest) (n := n) ⟨hx, hb, hml, hown, hts⟩ hM ⟨va_cnB n hts hq1 rfl rfl rfl (hK.2.2.1 _ hq5 rfl) (hts _ hq6) hq3 ⟨hD.1, ?_⟩, hq9, hts _ hq7⟩ ⟨xblind, fun U hU hW => ⟨rfl, ?_⟩⟩ rfl hn hl.1 rfl (lv_room hrs) d ⟨?_, ?_⟩) hS9 fun H1 locs1 z1 hrep1 hS1 hdm1 => ?_
  · show 8 + (nL + 11) + 64 * Dc ≤ _
    omega
  · exact ⟨by rw [hU]; exact hsz, fun a cc hcc => by rw [hU]; exact (hrep a cc hcc).moved hW.alike, hK.warm hW, fun i q hq => by rw [hU]; exact (xZs.moved hW.alike (hSt i q hq)).kept hS9.2.1, Nat.le_trans hgb hd1.1⟩
  · rw [xsub r5 r1]; omega
  · rw [xsub r6 r2]; omega
  · have K := k p l e s m args below meth c H1 locs1 ls hc' ⟨z1, hrep1, hS1, xle.tr hd1 h2, h3, xdm.tr r5 hdm hdm1, hd3⟩ hl
    rw [xsub r5 r1, xsub r6 r2]
    exact K
end C1
