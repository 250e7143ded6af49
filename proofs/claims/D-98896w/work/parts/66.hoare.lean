/-! plain law: what a call gives while the world only grows; loops by what holds ahead of each round -/
set_option maxRecDepth 100000
def Rn {α : Type} (T : xF) (x : Option (α × xF)) (Q : α → xF → Prop) : Prop := ∃ v T', x = some (v, T') ∧ xle T T' ∧ Q v T'
theorem xlr {T : xF} : xle T T := ⟨Nat.le_refl _, Nat.le_refl _⟩
theorem xlt {T T1 T2 : xF} (h : xle T T1) (k : xle T1 T2) : xle T T2 := ⟨Nat.le_trans h.1 k.1, Nat.le_trans h.2 k.2⟩
theorem xlb {T T1 : xF} (h : xle T T1) : xleb T T1 = true := by
  unfold xleb
  rw [Bool.and_eq_true]
  exact ⟨decide_eq_true h.1, decide_eq_true h.2⟩
theorem Rn.ret {α : Type} {T : xF} {v : α} {Q : α → xF → Prop} (h : Q v T) : Rn T (some (v, T)) Q := ⟨v, T, rfl, xlr, h⟩
theorem Rn.mono {α : Type} {T : xF} {x : Option (α × xF)} {P Q : α → xF → Prop} (h : Rn T x P) (k : ∀ v T', xle T T' → P v T' → Q v T') : Rn T x Q := by
  obtain ⟨v, T', h1, h2, h3⟩ := h
  exact ⟨v, T', h1, h2, k v T' h2 h3⟩
theorem Rn.cl {α β : Type} {T : xF} {x : Option (α × xF)} {k : α → xF → Option (β × xF)} {P : α → xF → Prop} {Q : β → xF → Prop} (h : Rn T x P) (kk : ∀ v T2, xle T T2 → P v T2 → Rn T2 (k v T2) Q) : Rn T (cl x T k) Q := by
  obtain ⟨v, T2, h1, h2, h3⟩ := h
  obtain ⟨w, T3, e1, e2, e3⟩ := kk v T2 h2 h3
  refine ⟨w, T3, ?_, xlt h2 e2, e3⟩
  subst h1
  show Option.bind _ _ = _
  rw [Option.bind_some, if_pos (xlb h2)]
  show (k v T2).bind _ = _
  rw [e1, Option.bind_some, if_pos (xlb e2)]
theorem Rn.clX {α β : Type} {T : xF} {x : Option ((α ⊕ xE) × xF)} {k : α → xF → Option ((β ⊕ xE) × xF)} {P : α ⊕ xE → xF → Prop} {Q : β ⊕ xE → xF → Prop} (h : Rn T x P) (kk : ∀ v T2, xle T T2 → P (.inl v) T2 → Rn T2 (k v T2) Q) (ke : ∀ e T2, xle T T2 → P (.inr e) T2 → Q (.inr e) T2) : Rn T (clX x T k) Q := by
  obtain ⟨v, T2, h1, h2, h3⟩ := h
  subst h1
  cases v with
  | inl v =>
    obtain ⟨w, T3, e1, e2, e3⟩ := kk v T2 h2 h3
    refine ⟨w, T3, ?_, xlt h2 e2, e3⟩
    show Option.bind _ _ = _
    rw [Option.bind_some, if_pos (xlb h2)]
    show (k v T2).bind _ = _
    rw [e1, Option.bind_some, if_pos (xlb e2)]
  | inr e =>
    refine ⟨.inr e, T2, ?_, h2, ke e T2 h2 h3⟩
    show Option.bind _ _ = _
    rw [Option.bind_some, if_pos (xlb h2)]
theorem Rn.clH {α β : Type} {T : xF} {x : Option ((α ⊕ xE) × xF)} {hd : xE → xF → Option (β × xF)} {k : α → xF → Option (β × xF)} {P : α ⊕ xE → xF → Prop} {Q : β → xF → Prop} (h : Rn T x P) (kk : ∀ v T2, xle T T2 → P (.inl v) T2 → Rn T2 (k v T2) Q) (ke : ∀ e T2, xle T T2 → P (.inr e) T2 → Rn T2 (hd e T2) Q) : Rn T (clH x T hd k) Q := by
  obtain ⟨v, T2, h1, h2, h3⟩ := h
  subst h1
  cases v with
  | inl v =>
    obtain ⟨w, T3, e1, e2, e3⟩ := kk v T2 h2 h3
    refine ⟨w, T3, ?_, xlt h2 e2, e3⟩
    show Option.bind _ _ = _
    rw [Option.bind_some, if_pos (xlb h2)]
    show (k v T2).bind _ = _
    rw [e1, Option.bind_some, if_pos (xlb e2)]
  | inr e =>
    obtain ⟨w, T3, e1, e2, e3⟩ := ke e T2 h2 h3
    refine ⟨w, T3, ?_, xlt h2 e2, e3⟩
    show Option.bind _ _ = _
    rw [Option.bind_some, if_pos (xlb h2)]
    show (hd e T2).bind _ = _
    rw [e1, Option.bind_some, if_pos (xlb e2)]
theorem Rn.al {β : Type} {T T' : xF} {k : xF → Option (β × xF)} {Q : β → xF → Prop} (hl : xle T T') (h : Rn T' (k T') Q) : Rn T (al T' k) Q := by
  obtain ⟨w, T3, e1, e2, e3⟩ := h
  refine ⟨w, T3, ?_, xlt hl e2, e3⟩
  show (k T').bind _ = _
  rw [e1, Option.bind_some, if_pos (xlb e2)]
theorem Rn.st {β : Type} {T T2 : xF} {x : Option xF} {k : xF → Option (β × xF)} {Q : β → xF → Prop} (e : x = some T2) (hl : xle T T2) (h : Rn T2 (k T2) Q) : Rn T (x.bind k) Q := by
  subst e
  obtain ⟨w, T3, e1, e2, e3⟩ := h
  exact ⟨w, T3, e1, xlt hl e2, e3⟩
theorem Rn.bd {α β : Type} {T : xF} {x : Option α} {v : α} {k : α → Option (β × xF)} {Q : β → xF → Prop} (e : x = some v) (h : Rn T (k v) Q) : Rn T (x.bind k) Q := by
  subst e
  exact h
/-- a call without checks between -/
theorem Rn.bw {α β : Type} {T : xF} {x : Option (α × xF)} {k : α × xF → Option (β × xF)} {P : α → xF → Prop} {Q : β → xF → Prop} (h : Rn T x P) (kk : ∀ v T2, xle T T2 → P v T2 → Rn T2 (k (v, T2)) Q) : Rn T (x.bind k) Q := by
  obtain ⟨v, T2, h1, h2, h3⟩ := h
  obtain ⟨w, T3, e1, e2, e3⟩ := kk v T2 h2 h3
  subst h1
  exact ⟨w, T3, e1, xlt h2 e2, e3⟩
/-- a reference's call -/
def Mn {α : Type} (x : Option α) (Q : α → Prop) : Prop := ∃ r, x = some r ∧ Q r
theorem Mn.ret {α : Type} {v : α} {Q : α → Prop} (h : Q v) : Mn (some v) Q := ⟨v, rfl, h⟩
theorem Mn.mono {α : Type} {x : Option α} {P Q : α → Prop} (h : Mn x P) (k : ∀ v, P v → Q v) : Mn x Q := by
  obtain ⟨v, h1, h2⟩ := h
  exact ⟨v, h1, k v h2⟩
theorem Mn.bd {α β : Type} {x : Option α} {v : α} {k : α → Option β} {Q : β → Prop} (e : x = some v) (h : Mn (k v) Q) : Mn (x.bind k) Q := by
  subst e
  exact h
theorem Mn.bw {α β : Type} {x : Option α} {k : α → Option β} {P : α → Prop} {Q : β → Prop} (h : Mn x P) (kk : ∀ v, P v → Mn (k v) Q) : Mn (x.bind k) Q := by
  obtain ⟨v, h1, h2⟩ := h
  subst h1
  exact kk v h2
/-- a counted loop -/
theorem loop_rule {σ : Type} {N : Nat} (Inv : Nat → σ → Prop) (Gl : Nat → Nat → σ → Prop) (step : ∀ m i s, i < N → Inv i s → (∀ s', Inv (i + 1) s' → Gl m (i + 1) s') → Gl (m + 1) i s) (fin : ∀ m s, Inv N s → Gl (m + 1) N s) : ∀ m, N < m → ∀ s, Inv 0 s → Gl m 0 s := by
  have key : ∀ d i, i + d = N → ∀ m, d < m → ∀ s, Inv i s → Gl m i s := by
    intro d
    induction d with
    | zero =>
      intro i hi m hm s hs
      obtain ⟨k, rfl⟩ : ∃ k, m = k + 1 := ⟨m - 1, by omega⟩
      have : i = N := by omega
      subst this
      exact fin k s hs
    | succ d ih =>
      intro i hi m hm s hs
      obtain ⟨k, rfl⟩ : ∃ k, m = k + 1 := ⟨m - 1, by omega⟩
      exact step k i s (by omega) hs (fun s' h' => ih (i + 1) (by omega) k (by omega) s' h')
  exact fun m hm s hs => key N 0 (by omega) m hm s hs
/-- what a world keeps outside of some places -/
def frm (E : Nat → Prop) (T T' : xF) : Prop := T'.2 = T.2 ∧ ∀ x, ¬ E x → T'.1 x = T.1 x
theorem frm.rf {E : Nat → Prop} {T : xF} : frm E T T := ⟨rfl, fun _ _ => rfl⟩
theorem frm.tr {E : Nat → Prop} {T T1 T2 : xF} (h : frm E T T1) (k : frm E T1 T2) : frm E T T2 := ⟨k.1.trans h.1, fun x hx => (k.2 x hx).trans (h.2 x hx)⟩
theorem frm.up {E F : Nat → Prop} {T T1 : xF} (h : frm E T T1) (k : ∀ x, E x → F x) : frm F T T1 := ⟨h.1, fun x hx => h.2 x fun q => hx (k x q)⟩
theorem frm.le {E : Nat → Prop} {T T1 : xF} (h : frm E T T1) : xle T T1 := by
  unfold xle
  rw [h.1]
  exact ⟨Nat.le_refl _, Nat.le_refl _⟩
/-- the same, while the heap may grow -/
def frc (E : Nat → Prop) (T T' : xF) : Prop := T.2.1 ≤ T'.2.1 ∧ ∀ x, x < T.2.1 → ¬ E x → T'.1 x = T.1 x
theorem frc.rf {E : Nat → Prop} {T : xF} : frc E T T := ⟨Nat.le_refl _, fun _ _ _ => rfl⟩
theorem frm.c {E : Nat → Prop} {T T' : xF} (h : frm E T T') : frc E T T' := ⟨by rw [h.1]; exact Nat.le_refl _, fun x _ q => h.2 x q⟩
theorem frc.tr {E : Nat → Prop} {T T1 T2 : xF} (h : frc E T T1) (k : frc E T1 T2) : frc E T T2 := ⟨Nat.le_trans h.1 k.1, fun x hx q => (k.2 x (by have := h.1; omega) q).trans (h.2 x hx q)⟩
theorem frc.up {E F : Nat → Prop} {T T1 : xF} (h : frc E T T1) (k : ∀ x, E x → F x) : frc F T T1 := ⟨h.1, fun x hx q => h.2 x hx fun r => q (k x r)⟩
theorem ofn2 (n : Nat) (h : n < 2000) : (Int32.ofNat n).toNatClampNeg = n := by
  have h1 : (Int32.ofNat n).toInt = n := Int32.toInt_ofNat_of_lt (by omega)
  show (Int32.ofNat n).toInt.toNat = n
  rw [h1]
  rfl
