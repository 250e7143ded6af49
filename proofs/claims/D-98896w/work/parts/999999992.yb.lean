/-! plain law: the system's steps while it reads a roll -/
set_option maxRecDepth 100000
def CK (T T' : xF) (a : Nat) : Prop := T'.2.1 ≤ T.2.1 + 60 * a ∧ T'.2.2 ≤ T.2.2 + 3200 * a
/-- what a step of a line gives -/
def LSt (own : Nat → Nat) (G : xG) (t : Tpe) (fx : Fx) (tp rd : Nat) (Tb : xF) (l0 l1 : Nat) (T : xF) (p : Nat) (r : PL (Yx × Nat)) (v : Unit ⊕ xE) (T' : xF) : Prop := match v with
  | .inl _ => ∃ Y q ow, r = .inr (Y, q) ∧ YA own G t fx tp rd Tb l0 l1 ow T' Y q ∧ p ≤ q ∧ q ≤ t.2 ∧ CK T T' (q - p)
  | .inr ex => ∃ k b, r = .inl (k, b) ∧ Th T' ex rd k b ∧ frc (fun _ => False) Tb T' ∧ CK T T' (t.2 + 2 - p)
section YA
variable {own : Nat → Nat} {G : xG} {t : Tpe} {fx : Fx} {tp rd l0 l1 : Nat} {Tb T T' : xF} {ow ow' : Nat → Nat} {Y Y' : Yx} {p q : Nat}
theorem LSt.er {r : PL (Yx × Nat)} {ex : xE} {k b : Nat} (hr : r = .inl (k, b)) (h : Th T' ex rd k b) (F : frc (fun _ => False) Tb T') (c : CK T T' (t.2 + 2 - p)) : LSt own G t fx tp rd Tb l0 l1 T p r (.inr ex) T' := ⟨k, b, hr, h, F, c⟩
theorem LSt.ok {r : PL (Yx × Nat)} (hr : r = .inr (Y, q)) (h : YA own G t fx tp rd Tb l0 l1 ow T' Y q) (h1 : p ≤ q) (h2 : q ≤ t.2) (c : CK T T' (q - p)) : LSt own G t fx tp rd Tb l0 l1 T p r (.inl ()) T' := ⟨Y, q, ow, hr, h, h1, h2, c⟩
/-- begun before -/
theorem LSt.pre {T1 : xF} {p1 : Nat} {r r' : PL (Yx × Nat)} {v : Unit ⊕ xE} (h : LSt own G t fx tp rd Tb l0 l1 T1 p1 r v T') (hr : r = r') (hp : p ≤ p1) (hp1 : p1 ≤ t.2) (c : CK T T1 (p1 - p)) : LSt own G t fx tp rd Tb l0 l1 T p r' v T' := by
  subst hr
  obtain ⟨c1, c2⟩ := c
  cases v with
  | inl u =>
    obtain ⟨Y, q, ow, h1, h2, h3, h4, h5, h6⟩ := h
    exact ⟨Y, q, ow, h1, h2, by omega, h4, by omega, by omega⟩
  | inr ex =>
    obtain ⟨k, b, h1, h2, h3, h5, h6⟩ := h
    exact ⟨k, b, h1, h2, h3, by omega, by omega⟩
theorem RdS.dn {nm : Nat} {dn ce d' : Int32} (h : RdS T rd t fx nm dn ce p) : oI T (some rd) 4 12 = some dn ∧ ∃ T', pV T (some rd) 4 12 (.int d') = some T' ∧ frm (fun x => x = rd) T T' ∧ RdS T' rd t fx nm d' ce p := by
  obtain ⟨nu, r, hn⟩ := h
  obtain ⟨T', e, f, r'⟩ := r.st (k := 12) (v := .int d') (nm' := nm) (a' := Int32.ofNat (tE t p)) (t' := Int32.ofNat (tS t p)) (b' := Int32.ofNat (tB t p)) (e' := Int32.ofNat (tE t p)) (n' := nu) (d' := d') (c' := ce) rfl
  exact ⟨r.i12, T', e, f, nu, r', hn⟩
theorem RdS.ce {nm : Nat} {dn ce c' : Int32} (h : RdS T rd t fx nm dn ce p) : oI T (some rd) 4 13 = some ce ∧ ∃ T', pV T (some rd) 4 13 (.int c') = some T' ∧ frm (fun x => x = rd) T T' ∧ RdS T' rd t fx nm dn c' p := by
  obtain ⟨nu, r, hn⟩ := h
  obtain ⟨T', e, f, r'⟩ := r.st (k := 13) (v := .int c') (nm' := nm) (a' := Int32.ofNat (tE t p)) (t' := Int32.ofNat (tS t p)) (b' := Int32.ofNat (tB t p)) (e' := Int32.ofNat (tE t p)) (n' := nu) (d' := dn) (c' := c') rfl
  exact ⟨r.i13, T', e, f, nu, r', hn⟩
theorem RdS.nm {nm nm' : Nat} {dn ce : Int32} (h : RdS T rd t fx nm dn ce p) : ∃ T', pV T (some rd) 4 6 (va_rf (some nm')) = some T' ∧ frm (fun x => x = rd) T T' ∧ RdS T' rd t fx nm' dn ce p := by
  obtain ⟨nu, r, hn⟩ := h
  obtain ⟨T', e, f, r'⟩ := r.st (k := 6) (v := va_rf (some nm')) (nm' := nm') (a' := Int32.ofNat (tE t p)) (t' := Int32.ofNat (tS t p)) (b' := Int32.ofNat (tB t p)) (e' := Int32.ofNat (tE t p)) (n' := nu) (d' := dn) (c' := ce) rfl
  exact ⟨T', e, f, nu, r', hn⟩
theorem RdS.qs {nm : Nat} {dn ce : Int32} (h : RdS T rd t fx nm dn ce p) : oQ T (some rd) 4 1 = some (some fx.1) ∧ oQ T (some rd) 4 2 = some (some fx.2.1) ∧ oQ T (some rd) 4 3 = some (some fx.2.2.1) ∧ oQ T (some rd) 4 4 = some (some fx.2.2.2.1) ∧ oQ T (some rd) 4 5 = some (some fx.2.2.2.2.1) := by
  obtain ⟨nu, r, hn⟩ := h
  exact ⟨r.q1, r.q2, r.q3, r.q4, r.q5⟩
theorem YA.fr (h : YA own G t fx tp rd Tb l0 l1 ow T Y p) : frc (fun _ => False) Tb T := h.1
theorem YA.nx0 (h : YA own G t fx tp rd Tb l0 l1 ow T Y p) (F : Fr rd T T') : frc (fun _ => False) Tb T' := ⟨by have := h.1.1; have := F.1; omega, fun x a b => by
  have h1 := h.1.1
  have h2 := h.2.2.1.2.2
  exact (F.2 x (by omega) (by omega)).trans (h.1.2 x a b)⟩
/-- also among what is new -/
theorem YA.st (h : YA own G t fx tp rd Tb l0 l1 ow T Y p) (F : frc (fun _ => False) T T') (ho : ∀ x, x < T.2.1 → ow' x = ow x) : YA own G t fx tp rd Tb l0 l1 ow' T' Y p := by
  obtain ⟨nm, ce, r, hce, hnm⟩ := h.2.1
  exact h.mv (Y' := Y) ⟨F.1, fun x a _ => F.2 x a fun z => z⟩ (r.fr (F.2 _ h.2.2.1.1 fun z => z)) hce hnm rfl ho
theorem YA.ro (h : YA own G t fx tp rd Tb l0 l1 ow T Y p) : ∃ fg fb, RO T fx.1 l0 l1 (yW Y) (yH Y) (yA Y) (yS Y) fg fb ∧ FR G Tb.2.1 ow T grMs fg (yG Y) ∧ FR G Tb.2.1 ow T beMs fb (yB Y) := h.2.2.2.2.1
/-- the roll's object changes -/
theorem YA.ro_ (h : YA own G t fx tp rd Tb l0 l1 ow T Y p) (F : frm (fun x => x = fx.1) T T') {fg fb : Option Nat} (r : RO T' fx.1 l0 l1 (yW Y') (yH Y') (yA Y') (yS Y') fg fb) (hg : FR G Tb.2.1 ow T grMs fg (yG Y')) (hb : FR G Tb.2.1 ow T beMs fb (yB Y')) (e : yD Y' = yD Y ∧ yC Y' = yC Y ∧ yT Y' = yT Y ∧ yP Y' = yP Y ∧ yR Y' = yR Y) : YA own G t fx tp rd Tb l0 l1 ow T' Y' p := by
  obtain ⟨h1, ⟨nm, ce, r1, hce, hnm⟩, ⟨h3, h4, h5⟩, ⟨h6, h7, h8⟩, _, ⟨h12, h13, h14⟩, ⟨h15, h16, h17, h18⟩, h19, h20⟩ := h
  obtain ⟨e1, e2, e3, e4, e5⟩ := e
  have hl : T'.2 = T.2 := F.1
  have bl := h1.1
  have Fo : Fo Tb.2.1 ow (fun j => j = 21) T T' := ⟨by rw [hl]; exact Nat.le_refl _, fun x a b => F.2 x fun q => by
    subst q
    rcases b with b | b
    · omega
    · exact b h13⟩
  have ho : ∀ x, x < T.2.1 → ow x = ow x := fun _ _ => rfl
  refine ⟨⟨by rw [hl]; omega, fun x a b => (F.2 x (by omega)).trans (h1.2 x a b)⟩, ⟨nm, ce, by rw [e1]; exact r1.fr (F.2 _ fun z => by rw [z, h13] at h4; cases h4), by rw [e2]; exact hce, hnm⟩, ⟨by rw [hl]; omega, h4, h5⟩, ⟨h6.fo Fo (by decide) ho, h7.fo Fo (by decide) ho, h8.fo Fo (by decide) ho⟩, ⟨fg, fb, r, hg.fo Fo (by decide) ho, hb.fo Fo (by decide) ho⟩, ⟨by rw [hl]; omega, h13, h14⟩, ⟨?_, by rw [hl]; omega, h17, h18⟩, by rw [e4]; exact h19.fo Fo (by decide) (by decide) (by decide) ho, by rw [e3]; exact h20.fo Fo (by decide) (by decide) (by decide) ho⟩
  rw [e5]
  refine h15.lo fun x a => F.2 x fun b => ?_
  have := h17 x a
  rw [b, h13] at this
  cases this
/-- the growth changes -/
theorem YA.gr_ (h : YA own G t fx tp rd Tb l0 l1 ow T Y p) {y : Nat} (hy : bk fx.2.1 y) (F : frm (fun x => x = y) T T') {g : Gw} (hg : GrAt T' fx.2.1 fx.2.2.2.2.2 g) : YA own G t fx tp rd Tb l0 l1 ow T' (sRw Y g) p := by
  obtain ⟨h1, ⟨nm, ce, r1, hce, hnm⟩, ⟨h3, h4, h5⟩, ⟨h6, h7, h8⟩, ⟨fg, fb, h9, h10, h11⟩, ⟨h12, h13, h14⟩, ⟨h15, h16, h17, h18⟩, h19, h20⟩ := h
  have hl : T'.2 = T.2 := F.1
  have bl := h1.1
  have oy := h17 y hy
  have ly : Tb.2.1 ≤ y := by simp -implicitDefEqProofs only [bk] at hy; omega
  have Fo : Fo Tb.2.1 ow (fun j => j = 22) T T' := ⟨by rw [hl]; exact Nat.le_refl _, fun x a b => F.2 x fun q => by
    subst q
    rcases b with b | b
    · omega
    · exact b oy⟩
  have ho : ∀ x, x < T.2.1 → ow x = ow x := fun _ _ => rfl
  exact ⟨⟨by rw [hl]; omega, fun x a b => (F.2 x (by omega)).trans (h1.2 x a b)⟩, ⟨nm, ce, r1.fr (F.2 _ fun z => by rw [z, oy] at h4; cases h4), hce, hnm⟩, ⟨by rw [hl]; omega, h4, h5⟩, ⟨h6.fo Fo (by decide) ho, h7.fo Fo (by decide) ho, h8.fo Fo (by decide) ho⟩, ⟨fg, fb, (F.2 _ fun z => by rw [z, oy] at h13; cases h13).trans h9, h10.fo Fo (by decide) ho, h11.fo Fo (by decide) ho⟩, ⟨by rw [hl]; omega, h13, h14⟩, ⟨hg, by rw [hl]; omega, h17, h18⟩, h19.fo Fo (by decide) (by decide) (by decide) ho, h20.fo Fo (by decide) (by decide) (by decide) ho⟩
/-- one more of a list -/
theorem LB.add {N0 tl ta l : Nat} {v : Nat × (Nat → Nat)} (h : LB own N0 ow tl ta T l v) (hn : v.1 < 20) (hN : N0 ≤ T.2.1) {b x : Nat} (hb : BoxdAt T b (Int32.ofNat x)) (hb2 : b < T.2.1) (hb3 : ow b = 27 ∧ N0 ≤ b ∨ b < N0 ∧ own b = 11) (d1 : tl ≠ ta) (d2 : tl ≠ 27) (d3 : ta ≠ 27) : Rn T (c_J2_add G (some l) (some b) T) fun _ T' => ∃ ow', LB own N0 ow' tl ta T' l (ysn v x) ∧ (∀ x, x < T.2.1 → ow' x = ow x) ∧ Fo N0 ow (fun j => j = tl ∨ j = ta) T T' ∧ T'.2.1 ≤ T.2.1 + 1 ∧ T'.2.2 ≤ T.2.2 + 60 := by
  obtain ⟨a, f, w, cap, g1, g2, g3, g4, g5, g6, g7⟩ := h
  have hI : ∀ y : Nat, ∀ v, BoxdAt T y v → y ≠ l ∧ y ≠ a := by
    intro y v hy
    obtain ⟨w1, hy⟩ := hy
    obtain ⟨m, hl⟩ := g1.1
    obtain ⟨F, ha, -⟩ := g1.2.1
    refine ⟨fun r => ?_, fun r => ?_⟩
    · rw [r, hl] at hy; cases hy
    · rw [r, ha] at hy; cases hy
  obtain ⟨ql, qa⟩ := hI b _ hb
  refine Rn.mono (e_add g1 (by omega) g5 g6 hb.ao hb2 ql qa fun k hk => ⟨(g7 k hk).1, (g7 k hk).2.1.ao, (hI _ _ (g7 k hk).2.1).1⟩) fun v' T' hle ⟨_, a', cap', j1, j2, j3, j4, j5, j6⟩ => ?_
  have hle1 := hle.1
  have ms : min 1100 (2 * v.1 + 11) ≤ 51 := Nat.le_trans (Nat.min_le_right _ _) (by omega)
  -- the old array stays, if it was nobody's
  have olda : cap = 0 → T'.1 a = T.1 a := fun q => by
    rcases j2 with ⟨r, r2⟩ | ⟨_, r⟩
    · have := j1.2.2.1
      omega
    · exact r
  have tag : a' < T.2.1 → ow a' = ta ∧ N0 ≤ a' := fun q => by
    rcases j2 with ⟨r, r2⟩ | ⟨r, _⟩
    · rcases g4 with z | ⟨z, _, _⟩
      · rw [r]; exact z
      · have := j1.2.2.1
        omega
    · omega
  refine ⟨fun y => if y < T.2.1 then ow y else ta, ⟨a', _, true, cap', j1, (if_pos g5).trans g2, g3, ?_, by omega, j4, fun k hk => ?_⟩, fun y hy => if_pos hy, ⟨hle1, fun y y1 y2 => ?_⟩, j5, by omega⟩
  · left
    dsimp only
    by_cases q : a' < T.2.1
    · rw [if_pos q]; exact tag q
    · rw [if_neg q]; exact ⟨rfl, by omega⟩
  · show va_up f v.1 b k < T'.2.1 ∧ BoxdAt T' (va_up f v.1 b k) (Int32.ofNat (va_up v.2 v.1 x k)) ∧ ((if va_up f v.1 b k < T.2.1 then ow (va_up f v.1 b k) else ta) = 27 ∧ N0 ≤ va_up f v.1 b k ∨ va_up f v.1 b k < N0 ∧ own (va_up f v.1 b k) = 11)
    have hk : k < v.1 + 1 := hk
    unfold va_up
    by_cases e : k = v.1
    · rw [if_pos e, if_pos e, if_pos hb2]
      exact ⟨by omega, hb.fr (j3 b hb2 ql qa), hb3⟩
    · rw [if_neg e, if_neg e]
      obtain ⟨q1, q2, q3⟩ := g7 k (by omega)
      obtain ⟨z1, z2⟩ := hI _ _ q2
      rw [if_pos q1]
      exact ⟨by omega, q2.fr (j3 _ q1 z1 z2), q3⟩
  · by_cases e1 : y = l
    · subst e1
      rcases y2 with z | z
      · omega
      · exact absurd (Or.inl g2) z
    · by_cases e2 : y = a
      · subst e2
        rcases g4 with ⟨z1, z2⟩ | ⟨z1, z2, _⟩
        · rcases y2 with z | z
          · omega
          · exact absurd (Or.inr z1) z
        · exact olda z1
      · exact j3 y y1 e1 e2
/-- a list of the roll grows -/
theorem YA.ls_ (h : YA own G t fx tp rd Tb l0 l1 ow T Y p) {tl ta : Nat} (F : Fo Tb.2.1 ow (fun j => j = tl ∨ j = ta) T T') (ho : ∀ x, x < T.2.1 → ow' x = ow x) (c : (tl = 23 ∧ ta = 24 ∧ yT Y' = yT Y ∧ LB own Tb.2.1 ow' 23 24 T' l0 (yP Y')) ∨ (tl = 25 ∧ ta = 26 ∧ yP Y' = yP Y ∧ LB own Tb.2.1 ow' 25 26 T' l1 (yT Y'))) (e : yD Y' = yD Y ∧ yC Y' = yC Y ∧ yR Y' = yR Y ∧ yW Y' = yW Y ∧ yH Y' = yH Y ∧ yA Y' = yA Y ∧ yS Y' = yS Y ∧ yG Y' = yG Y ∧ yB Y' = yB Y) : YA own G t fx tp rd Tb l0 l1 ow' T' Y' p := by
  obtain ⟨h1, ⟨nm, ce, r1, hce, hnm⟩, ⟨h3, h4, h5⟩, ⟨h6, h7, h8⟩, ⟨fg, fb, h9, h10, h11⟩, ⟨h12, h13, h14⟩, ⟨h15, h16, h17, h18⟩, h19, h20⟩ := h
  obtain ⟨e1, e2, e3, e4, e5, e6, e7, e8, e9⟩ := e
  have hl := F.1
  have bl := h1.1
  have tt : 23 ≤ tl ∧ tl ≤ 26 ∧ 23 ≤ ta ∧ ta ≤ 26 := by rcases c with ⟨a, b, _⟩ | ⟨a, b, _⟩ <;> omega
  have ne : ∀ j : Nat, j < 23 ∨ 26 < j → ¬ (j = tl ∨ j = ta) := fun j q => by omega
  have bkl : ∀ x, bk fx.2.1 x → x < T.2.1 := fun x q => by simp -implicitDefEqProofs only [bk] at q; omega
  refine ⟨⟨by omega, fun x a b => (F.2 x (by omega) (Or.inl a)).trans (h1.2 x a b)⟩, ⟨nm, ce, by rw [e1]; exact r1.fr (F.2 _ h3 (Or.inr (by rw [h4]; exact ne 20 (by omega)))), by rw [e2]; exact hce, hnm⟩, ⟨by omega, (ho _ h3).trans h4, h5⟩, ⟨h6.fo F (ne 27 (by omega)) ho, h7.fo F (ne 27 (by omega)) ho, h8.fo F (ne 27 (by omega)) ho⟩, ⟨fg, fb, ?_, ?_, ?_⟩, ⟨by omega, (ho _ h12).trans h13, h14⟩, ⟨?_, by omega, fun x a => (ho x (bkl x a)).trans (h17 x a), h18⟩, ?_, ?_⟩
  · rw [e4, e5, e6, e7]
    exact (F.2 _ h12 (Or.inr (by rw [h13]; exact ne 21 (by omega)))).trans h9
  · rw [e8]; exact h10.fo F (ne 27 (by omega)) ho
  · rw [e9]; exact h11.fo F (ne 27 (by omega)) ho
  · rw [e3]
    exact h15.lo fun x a => F.2 x (bkl x a) (Or.inr (by rw [h17 x a]; exact ne 22 (by omega)))
  · rcases c with ⟨_, _, _, k⟩ | ⟨a, b, k, _⟩
    · exact k
    · rw [k]
      exact h19.fo F (by omega) (by omega) (ne 27 (by omega)) ho
  · rcases c with ⟨a, b, k, _⟩ | ⟨_, _, _, k⟩
    · rw [k]
      exact h20.fo F (by omega) (by omega) (ne 27 (by omega)) ho
    · exact k
end YA
