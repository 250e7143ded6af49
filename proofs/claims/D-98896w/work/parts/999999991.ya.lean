/-! plain law: what the system holds while it reads a roll -/
set_option maxRecDepth 100000
/-- all stays but what has one of these tags; what is old stays -/
def Fo (N0 : Nat) (ow : Nat → Nat) (E : Nat → Prop) (T T' : xF) : Prop := T.2.1 ≤ T'.2.1 ∧ ∀ x, x < T.2.1 → (x < N0 ∨ ¬ E (ow x)) → T'.1 x = T.1 x
/-- a list of boxed numbers, its own cells tagged tl, ta -/
def LB (own : Nat → Nat) (N0 : Nat) (ow : Nat → Nat) (tl ta : Nat) (T : xF) (l : Nat) (v : Nat × (Nat → Nat)) : Prop := ∃ a f w cap, LsAt T l a v.1 f w cap ∧ ow l = tl ∧ N0 ≤ l ∧ (ow a = ta ∧ N0 ≤ a ∨ cap = 0 ∧ a < N0 ∧ own a = 11) ∧ l < T.2.1 ∧ a < T.2.1 ∧ ∀ k, k < v.1 → f k < T.2.1 ∧ BoxdAt T (f k) (Int32.ofNat (v.2 k)) ∧ (ow (f k) = 27 ∧ N0 ≤ f k ∨ f k < N0 ∧ own (f k) = 11)
def RO (T : xF) (rl l0 l1 : Nat) (w h a s : Nat) (fg fb : Option Nat) : Prop := T.1 rl = some (true, .inr (1, [va_rf (some l0), va_rf (some l1), .int (Int32.ofNat w), .int (Int32.ofNat h), .int (Int32.ofNat a), .int (Int32.ofNat s), va_rf fg, va_rf fb]))
/-- a rule in the heap -/
def FR (G : xG) (N0 : Nat) (ow : Nat → Nat) (T : xF) (ms : List Nat) (fo : Option Nat) (e : Option Ex) : Prop := match e with
  | none => fo = none
  | some e => ∃ f lo hi, fo = some f ∧ FmOK G T f lo hi (sv ms e.2) 67 ∧ N0 ≤ lo ∧ ∀ x, lo ≤ x → x < hi → ow x = 27
/-- names -/
def NmT (G : xG) (N0 : Nat) (ow : Nat → Nat) (T : xF) (a : Nat) (is : List Nat) : Prop := NmA G T a is ∧ a < T.2.1 ∧ ow a = 27 ∧ N0 ≤ a
def YA (own : Nat → Nat) (G : xG) (t : Tpe) (fx : Fx) (tp rd : Nat) (Tb : xF) (l0 l1 : Nat) (ow : Nat → Nat) (T : xF) (Y : Yx) (p : Nat) : Prop :=
  frc (fun _ => False) Tb T ∧ (∃ nm ce, RdS T rd t fx nm (Int32.ofNat (yD Y)) ce p ∧ CeOK ce (yC Y) ∧ (nm = fx.2.2.2.1 ∨ nm = fx.2.2.2.2.1)) ∧ (rd < T.2.1 ∧ ow rd = 20 ∧ Tb.2.1 ≤ rd) ∧ (NmT G Tb.2.1 ow T fx.2.2.1 orIs ∧ NmT G Tb.2.1 ow T fx.2.2.2.1 grIs ∧ NmT G Tb.2.1 ow T fx.2.2.2.2.1 beIs) ∧ (∃ fg fb, RO T fx.1 l0 l1 (yW Y) (yH Y) (yA Y) (yS Y) fg fb ∧ FR G Tb.2.1 ow T grMs fg (yG Y) ∧ FR G Tb.2.1 ow T beMs fb (yB Y)) ∧ (fx.1 < T.2.1 ∧ ow fx.1 = 21 ∧ Tb.2.1 ≤ fx.1) ∧ (GrAt T fx.2.1 fx.2.2.2.2.2 (yR Y) ∧ fx.2.1 + 5 ≤ T.2.1 ∧ (∀ x, bk fx.2.1 x → ow x = 22) ∧ Tb.2.1 ≤ fx.2.1) ∧ LB own Tb.2.1 ow 23 24 T l0 (yP Y) ∧ LB own Tb.2.1 ow 25 26 T l1 (yT Y)
section LB
variable {own : Nat → Nat} {G : xG} {N0 : Nat} {ow ow' : Nat → Nat} {E : Nat → Prop} {T T' : xF}
theorem LB.fo {tl ta l : Nat} {v : Nat × (Nat → Nat)} (h : LB own N0 ow tl ta T l v) (F : Fo N0 ow E T T') (h1 : ¬ E tl) (h2 : ¬ E ta) (h3 : ¬ E 27) (ho : ∀ x, x < T.2.1 → ow' x = ow x) : LB own N0 ow' tl ta T' l v := by
  obtain ⟨a, f, w, cap, g1, g2, g3, g4, g5, g6, g7⟩ := h
  have hl := F.1
  refine ⟨a, f, w, cap, g1.fr (F.2 l g5 (Or.inr (by rw [g2]; exact h1))) (F.2 a g6 ?_), (ho l g5).trans g2, g3, by rw [ho a g6]; exact g4, by omega, by omega, fun k hk => ?_⟩
  · rcases g4 with ⟨q, _⟩ | ⟨_, q, _⟩
    · exact Or.inr (by rw [q]; exact h2)
    · exact Or.inl q
  · obtain ⟨q1, q2, q3⟩ := g7 k hk
    refine ⟨by omega, q2.fr (F.2 _ q1 ?_), by rw [ho _ q1]; exact q3⟩
    rcases q3 with ⟨q, _⟩ | ⟨q, _⟩
    · exact Or.inr (by rw [q]; exact h3)
    · exact Or.inl q
theorem FR.fo {ms : List Nat} {fo : Option Nat} {e : Option Ex} (h : FR G N0 ow T ms fo e) (F : Fo N0 ow E T T') (h3 : ¬ E 27) (ho : ∀ x, x < T.2.1 → ow' x = ow x) : FR G N0 ow' T' ms fo e := by
  cases e with
  | none => exact h
  | some e =>
    obtain ⟨f, lo, hi, g1, g2, g3, g4⟩ := h
    have hh := g2.2.2.1
    exact ⟨f, lo, hi, g1, g2.mv F.1 fun x a b => F.2 x (by omega) (Or.inr (by rw [g4 x a b]; exact h3)), g3, fun x a b => (ho x (by omega)).trans (g4 x a b)⟩
theorem NmT.fo {a : Nat} {is : List Nat} (h : NmT G N0 ow T a is) (F : Fo N0 ow E T T') (h3 : ¬ E 27) (ho : ∀ x, x < T.2.1 → ow' x = ow x) : NmT G N0 ow' T' a is := by
  obtain ⟨⟨w, FF, g1, g2⟩, g3, g4, g5⟩ := h
  have hl := F.1
  exact ⟨⟨w, FF, (F.2 a g3 (Or.inr (by rw [g4]; exact h3))).trans g1, g2⟩, by omega, (ho a g3).trans g4, g5⟩
theorem Fo.of {rd : Nat} (F : Fr rd T T') (h : ow rd = 20) (h2 : N0 ≤ rd) : Fo N0 ow (fun j => j = 20) T T' := ⟨F.1, fun x a b => F.2 x a fun q => by
  subst q
  rcases b with b | b
  · omega
  · exact b h⟩
theorem Fo.nw (F : frc (fun _ => False) T T') : Fo N0 ow E T T' := ⟨F.1, fun x a _ => F.2 x a fun q => q⟩
end LB
section YA
variable {own : Nat → Nat} {G : xG} {t : Tpe} {fx : Fx} {tp rd l0 l1 : Nat} {Tb T T' : xF} {ow ow' : Nat → Nat} {Y Y' : Yx} {p q : Nat}
theorem Cx.old (h : Cx G Tb t fx tp) (F : frc (fun _ => False) Tb T) : Cx G T t fx tp := by
  obtain ⟨h1, h2, h3, h4, h5, h6⟩ := h
  have hl := F.1
  have e : ∀ x, x < Tb.2.1 → T.1 x = Tb.1 x := fun x q => F.2 x q fun z => z
  refine ⟨h1.fr (e _ h2) (e _ h3), by omega, by omega, fun i hi => ?_, h5, h6⟩
  obtain ⟨g1, va, w1, w2, rest, f, g2, g3, g4, g5⟩ := h4 i hi
  exact ⟨by omega, va, w1, w2, rest, f, by omega, (e _ g1).trans g3, (e _ g2).trans g4, g5⟩
theorem StA.old (h : StA G Tb) (F : frc (fun _ => False) Tb T) : StA G T := h.mono F.1 fun x q _ => F.2 x q fun z => z
/-- the reader stands somewhere else; nothing else has changed but what is new -/
theorem YA.mv (h : YA own G t fx tp rd Tb l0 l1 ow T Y p) (F : Fr rd T T') {nm : Nat} {ce : Int32} (r : RdS T' rd t fx nm (Int32.ofNat (yD Y')) ce q) (hce : CeOK ce (yC Y')) (hnm : nm = fx.2.2.2.1 ∨ nm = fx.2.2.2.2.1) (hY : Y' = (yD Y', yC Y', Y.2.2)) (ho : ∀ x, x < T.2.1 → ow' x = ow x) : YA own G t fx tp rd Tb l0 l1 ow' T' Y' q := by
  obtain ⟨h1, h2, ⟨h3, h4, h5⟩, ⟨h6, h7, h8⟩, ⟨fg, fb, h9, h10, h11⟩, ⟨h12, h13, h14⟩, ⟨h15, h16, h17, h18⟩, h19, h20⟩ := h
  have hl := F.1
  have bl := h1.1
  have Fo := Fo.of (N0 := Tb.2.1) (ow := ow) F h4 h5
  have bkl : ∀ x, bk fx.2.1 x → x < T.2.1 := fun x q => by simp -implicitDefEqProofs only [bk] at q; omega
  rw [hY]
  refine ⟨⟨by omega, fun x a b => (F.2 x (by omega) (by omega)).trans (h1.2 x a b)⟩, ⟨nm, ce, r, hce, hnm⟩, ⟨by omega, (ho _ h3).trans h4, h5⟩, ⟨h6.fo Fo (by decide) ho, h7.fo Fo (by decide) ho, h8.fo Fo (by decide) ho⟩, ⟨fg, fb, (F.2 _ h12 fun z => by rw [z, h4] at h13; cases h13).trans h9, h10.fo Fo (by decide) ho, h11.fo Fo (by decide) ho⟩, ⟨by omega, (ho _ h12).trans h13, h14⟩, ⟨h15.lo fun x a => F.2 x (bkl x a) fun b => ?_, by omega, fun x a => (ho x (bkl x a)).trans (h17 x a), h18⟩, h19.fo Fo (by decide) (by decide) (by decide) ho, h20.fo Fo (by decide) (by decide) (by decide) ho⟩
  have := h17 x a
  rw [b, h4] at this
  cases this
end YA
