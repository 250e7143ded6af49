/-! plain law: both sides at once; what is asked of a command's arguments -/
set_option maxRecDepth 100000
def Jn {α β : Type} (T : xF) (x : Option (α × xF)) (y : Option β) (Q : α → xF → β → Prop) : Prop := ∃ v T' r, x = some (v, T') ∧ y = some r ∧ xle T T' ∧ Q v T' r
section J
variable {α β γ δ : Type} {T T2 : xF} {Q : α → xF → β → Prop}
theorem Jn.ret {v : α} {r : β} (h : Q v T r) : Jn T (some (v, T)) (some r) Q := ⟨v, T, r, rfl, rfl, xlr, h⟩
theorem Jn.cl {x : Option (γ × xF)} {k : γ → xF → Option (α × xF)} {y : Option β} {P : γ → xF → Prop} (h : Rn T x P) (kk : ∀ v T2, xle T T2 → P v T2 → Jn T2 (k v T2) y Q) : Jn T (cl x T k) y Q := by
  obtain ⟨v, T2, h1, h2, h3⟩ := h
  obtain ⟨w, T3, r, e1, e2, e3, e4⟩ := kk v T2 h2 h3
  obtain ⟨w', T3', q1, q2, q3⟩ := Rn.cl (k := k) (Q := fun a b => a = w ∧ b = T3) (⟨v, T2, h1, h2, rfl, rfl⟩ : Rn T x fun a b => a = v ∧ b = T2) (fun a b _ q => by obtain ⟨rfl, rfl⟩ := q; exact ⟨w, T3, e1, e3, rfl, rfl⟩)
  obtain ⟨rfl, rfl⟩ := q3
  exact ⟨w', T3', r, q1, e2, q2, e4⟩
theorem Jn.al {T' : xF} {k : xF → Option (α × xF)} {y : Option β} (hl : xle T T') (h : Jn T' (k T') y Q) : Jn T (al T' k) y Q := by
  obtain ⟨w, T3, r, e1, e2, e3, e4⟩ := h
  obtain ⟨w', T3', q1, q2, q3⟩ := Rn.al (k := k) (Q := fun a b => a = w ∧ b = T3) hl ⟨w, T3, e1, e3, rfl, rfl⟩
  obtain ⟨rfl, rfl⟩ := q3
  exact ⟨w', T3', r, q1, e2, q2, e4⟩
theorem Jn.st {x : Option xF} {k : xF → Option (α × xF)} {y : Option β} (e : x = some T2) (hl : xle T T2) (h : Jn T2 (k T2) y Q) : Jn T (x.bind k) y Q := by
  subst e
  obtain ⟨w, T3, r, e1, e2, e3, e4⟩ := h
  exact ⟨w, T3, r, e1, e2, xlt hl e3, e4⟩
theorem Jn.mb {y : Option γ} {k : γ → Option β} {x : Option (α × xF)} {P : γ → Prop} (h : Mn y P) (kk : ∀ r, P r → Jn T x (k r) Q) : Jn T x (y.bind k) Q := by
  obtain ⟨r, h1, h2⟩ := h
  subst h1
  exact kk r h2
theorem Jn.md {y : Option γ} {r : γ} {k : γ → Option β} {x : Option (α × xF)} (e : y = some r) (h : Jn T x (k r) Q) : Jn T x (y.bind k) Q := by
  subst e
  exact h
theorem Jn.of {x : Option (α × xF)} {y : Option β} {P : α → xF → Prop} {R : β → Prop} (h : Rn T x P) (k : Mn y R) (q : ∀ v T' r, P v T' → R r → Q v T' r) : Jn T x y Q := by
  obtain ⟨v, T', h1, h2, h3⟩ := h
  obtain ⟨r, k1, k2⟩ := k
  exact ⟨v, T', r, h1, k1, h2, q v T' r h3 k2⟩
theorem Jn.mono {x : Option (α × xF)} {y : Option β} {P : α → xF → β → Prop} (h : Jn T x y P) (q : ∀ v T' r, xle T T' → P v T' r → Q v T' r) : Jn T x y Q := by
  obtain ⟨v, T', r, h1, h2, h3, h4⟩ := h
  exact ⟨v, T', r, h1, h2, h3, q v T' r h3 h4⟩
end J
theorem Jn.okX {α β γ : Type} {T : xF} {x : Option ((γ ⊕ xE) × xF)} {k : γ → xF → Option ((α ⊕ xE) × xF)} {y : Option β} {Q : α ⊕ xE → xF → β → Prop} {v : γ} (e : x = some (.inl v, T)) (h : Jn T (k v T) y Q) : Jn T (clX x T k) y Q := by
  subst e
  obtain ⟨w, T3, r, e1, e2, e3, e4⟩ := h
  refine ⟨w, T3, r, ?_, e2, e3, e4⟩
  show Option.bind _ _ = _
  rw [Option.bind_some, if_pos (xlb xlr)]
  show (k v T).bind _ = _
  rw [e1, Option.bind_some, if_pos (xlb e3)]
theorem Jn.thX {α β γ : Type} {T T1 : xF} {x : Option ((γ ⊕ xE) × xF)} {k : γ → xF → Option ((α ⊕ xE) × xF)} {y : Option β} {Q : α ⊕ xE → xF → β → Prop} {e : xE} (h : x = some (.inr e, T1)) (hl : xle T T1) {r : β} (hy : y = some r) (q : Q (.inr e) T1 r) : Jn T (clX x T k) y Q := by
  subst h
  refine ⟨.inr e, T1, r, ?_, hy, hl, q⟩
  show Option.bind _ _ = _
  rw [Option.bind_some, if_pos (xlb hl)]
/-! arguments -/
abbrev NS : String := "java/util/NoSuchElementException"
abbrev IA : String := "java/lang/IllegalArgumentException"
abbrev thr (T : xF) : xF := (T.1, T.2.1 + 1, T.2.2 + 6)
theorem thr_le {T : xF} : xle T (thr T) := ⟨Nat.le_succ _, Nat.le_add_right _ _⟩
theorem e_within (v a b : Int32) : m_within v a b = some (b01 (iin v a b)) := by
  unfold m_within b01 iin
  by_cases h1 : v < a
  · rw [if_pos h1]; simp [h1]
  · rw [if_neg h1]
    by_cases h2 : b < v
    · rw [if_pos h2]; simp [h2]
    · rw [if_neg h2]; simp [h1, h2]
theorem rng (a m : Nat) (hm : m < 2000000) (ha : a ≤ m) (v : Int32) : (∃ k, a ≤ k ∧ k ≤ m ∧ v = Int32.ofNat k) ∨ (v < Int32.ofNat a ∨ Int32.ofNat m < v) := by
  by_cases h1 : v < Int32.ofNat a
  · exact Or.inr (Or.inl h1)
  by_cases h2 : Int32.ofNat m < v
  · exact Or.inr (Or.inr h2)
  have h3 := i32_le.mp h1
  have h4 := i32_le.mp h2
  rw [i32le, tIo (by omega)] at h3 h4
  have h5 : (0 : Int32) ≤ v := by rw [i32le, i0]; omega
  have h6 := onat h5
  have h7 : v.toNatClampNeg = v.toInt.toNat := rfl
  exact Or.inl ⟨v.toNatClampNeg, by omega, by omega, h6⟩
theorem iin_t {a k m : Nat} (h1 : a ≤ k) (h2 : k ≤ m) (hm : m < 2000000) : iin (Int32.ofNat k) (Int32.ofNat a) (Int32.ofNat m) = true := by
  unfold iin
  rw [Bool.and_eq_true]
  exact ⟨decide_eq_true (i32_le.mpr ((ole (by omega) (by omega)).mpr h1)), decide_eq_true (i32_le.mpr ((ole (by omega) (by omega)).mpr h2))⟩
theorem iin_f {v a b : Int32} (h : v < a ∨ b < v) : iin v a b = false := by
  unfold iin
  rcases h with h | h
  · rw [decide_eq_false (fun q => q h), Bool.false_and]
  · rw [decide_eq_false (fun (q : ¬ b < v) => q h), Bool.and_false]
theorem e_found_t {T : xF} : c_X1_found (b01 true) T = some (.inl (), T) := by unfold c_X1_found; rw [if_neg (by decide)]
theorem e_found_f {T : xF} : c_X1_found (b01 false) T = some (.inr (NS, T.2.1), thr T) := by unfold c_X1_found; rw [if_pos (by rfl)]
theorem e_right_t {T : xF} : c_X1_right (b01 true) T = some (.inl (), T) := by unfold c_X1_right; rw [if_neg (by decide)]
theorem e_right_f {T : xF} : c_X1_right (b01 false) T = some (.inr (IA, T.2.1), thr T) := by unfold c_X1_right; rw [if_pos (by rfl)]
theorem clX_k {α γ : Type} {T : xF} {x : Option ((γ ⊕ xE) × xF)} {k : γ → xF → Option ((α ⊕ xE) × xF)} {v : γ} {w : α} (e : x = some (.inl v, T)) (h : k v T = some (.inl w, T)) : clX x T k = some (.inl w, T) := by
  subst e
  show Option.bind _ _ = _
  rw [Option.bind_some, if_pos (xlb xlr)]
  show (k v T).bind _ = _
  rw [h, Option.bind_some, if_pos (xlb xlr)]
theorem clX_th {α γ : Type} {T T1 : xF} {x : Option ((γ ⊕ xE) × xF)} {k : γ → xF → Option ((α ⊕ xE) × xF)} {e : xE} (h : x = some (.inr e, T1)) (hl : xle T T1) : clX x T k = some (.inr e, T1) := by
  subst h
  show Option.bind _ _ = _
  rw [Option.bind_some, if_pos (xlb hl)]
theorem e_oneOf_t {T : xF} {v b : Int32} (h : iin v 0 b = true) : c_X1_oneOf v b T = some (.inl (), T) := by
  unfold c_X1_oneOf
  rw [e_in, Option.bind_some, h]
  exact clX_k e_found_t rfl
theorem e_oneOf_f {T : xF} {v b : Int32} (h : iin v 0 b = false) : c_X1_oneOf v b T = some (.inr (NS, T.2.1), thr T) := by
  unfold c_X1_oneOf
  rw [e_in, Option.bind_some, h]
  exact clX_th e_found_f thr_le
theorem e_party_t {T : xF} {v : Int32} (h : iin v 0 3 = true) : c_X1_aParty v T = some (.inl (), T) := by
  unfold c_X1_aParty
  exact clX_k (e_oneOf_t h) rfl
theorem e_party_f {T : xF} {v : Int32} (h : iin v 0 3 = false) : c_X1_aParty v T = some (.inr (NS, T.2.1), thr T) := by
  unfold c_X1_aParty
  exact clX_th (e_oneOf_f h) thr_le
section AR
variable {G : xG} {T : xF} {o : Nat} {s : St} {A : Ad} {S : MS}
theorem CIa.cells (h : CIa G T o s A) (ok : StOK s) : c_X2_cells T (some (aRl A)) = some (Int32.ofNat (eN (sE s))) := h.evt.cells ok.1
theorem CIa.isr (h : CIa G T o s A) : isO T (some (aRl A)) 1 = true := h.evt.isr
theorem e_cell_t (h : CIa G T o s A) (ok : StOK s) {c : Nat} (hc : c < eN (sE s)) : c_X1_aCell (some o) (Int32.ofNat c) T = some (.inl (), T) := by
  have hn := ok.1.n30
  unfold c_X1_aCell
  have e1 : Int32.ofNat (eN (sE s)) - 1 = Int32.ofNat (eN (sE s) - 1) := osub (b := 1) (by omega) (by omega)
  simp -implicitDefEqProofs only [h.q1, h.isr, h.cells ok, e_in, Option.bind_some, not_true_eq_false, if_false, if_true, e1]
  rw [show iin (Int32.ofNat c) 0 (Int32.ofNat (eN (sE s) - 1)) = true from iin_t (a := 0) (by omega) (by omega) (by omega)]
  exact clX_k e_found_t rfl
theorem e_cell_f (h : CIa G T o s A) (ok : StOK s) {v : Int32} (hv : v < Int32.ofNat 0 ∨ Int32.ofNat (eN (sE s) - 1) < v) : c_X1_aCell (some o) v T = some (.inr (NS, T.2.1), thr T) := by
  have hn := ok.1.n30
  have h0 := ok.1.n0
  unfold c_X1_aCell
  have e1 : Int32.ofNat (eN (sE s)) - 1 = Int32.ofNat (eN (sE s) - 1) := osub (b := 1) (by omega) (by omega)
  simp -implicitDefEqProofs only [h.q1, h.isr, h.cells ok, e_in, Option.bind_some, not_true_eq_false, if_false, if_true, e1]
  rw [show iin v 0 (Int32.ofNat (eN (sE s) - 1)) = false from iin_f hv]
  exact clX_th e_found_f thr_le
theorem cell_rng (ok : StOK s) (v : Int32) : (∃ c, c < eN (sE s) ∧ v = Int32.ofNat c) ∨ (v < Int32.ofNat 0 ∨ Int32.ofNat (eN (sE s) - 1) < v) := by
  have hn := ok.1.n30
  have h0 := ok.1.n0
  rcases rng 0 (eN (sE s) - 1) (by omega) (by omega) v with ⟨k, _, k2, k3⟩ | h
  · exact Or.inl ⟨k, by omega, k3⟩
  · exact Or.inr h
theorem r_right_t {S : MS} (h0 : S.1 0 = 0) {w : Int32} : m_right 1 w S = some (1, S) := by
  unfold m_right m_right_16
  rw [if_pos h0, if_neg (by decide), if_pos h0]
theorem r_right_f {S : MS} (h0 : S.1 0 = 0) {w : Int32} (hw : ¬ w = 0) : m_right 0 w S = some (0, sF S 0 w) := by
  unfold m_right m_right_16
  rw [if_pos h0, if_pos rfl, if_neg (by rw [sF_0]; exact hw)]
theorem zok1 : zok 1 = true := by decide
theorem zok0 : zok 0 = true := by decide
theorem r_cell_t (h : MI S s) (ok : StOK s) (h0 : S.1 0 = 0) {c : Nat} (hc : c < eN (sE s)) : m_isTheCell (Int32.ofNat c) S = some (1, S) := by
  have hn := ok.1.n30
  unfold m_isTheCell m_isTheCell_18
  rw [if_neg (on0 (by omega)), v_cells ok h, Option.bind_some, if_neg (fun q => by have := (ole (by omega) (by omega)).mp q; omega), r_right_t h0, Option.bind_some, zok1, if_neg (by simp)]
theorem r_cell_f (h : MI S s) (ok : StOK s) (h0 : S.1 0 = 0) {v : Int32} (hv : v < Int32.ofNat 0 ∨ Int32.ofNat (eN (sE s) - 1) < v) : m_isTheCell v S = some (0, sF S 0 1) := by
  have hn := ok.1.n30
  have hn0 := ok.1.n0
  unfold m_isTheCell m_isTheCell_17 m_isTheCell_18
  have hr : m_right 0 1 S = some (0, sF S 0 1) := r_right_f h0 (by decide)
  by_cases h1 : v < 0
  · rw [if_pos h1, hr, Option.bind_some, zok0, if_neg (by simp)]
  · have h2 := hv.resolve_left h1
    have h3 : Int32.ofNat (eN (sE s)) ≤ v := by
      rw [i32lt, tIo (by omega)] at h2
      rw [i32le, tIo (by omega)]
      omega
    rw [if_neg h1, v_cells ok h, Option.bind_some, if_pos h3, hr, Option.bind_some, zok0, if_neg (by simp)]
theorem r_what_t {v b : Int32} (h0 : S.1 0 = 0) (h : iin v 0 b = true) : m_isWhat v b S = some (1, S) := by
  unfold m_isWhat
  rw [e_within, Option.bind_some, h, show b01 true = 1 from rfl, r_right_t h0, Option.bind_some, zok1, if_neg (by simp)]
theorem r_what_f {v b : Int32} (h0 : S.1 0 = 0) (h : iin v 0 b = false) : m_isWhat v b S = some (0, sF S 0 1) := by
  unfold m_isWhat
  rw [e_within, Option.bind_some, h, show b01 false = 0 from rfl, r_right_f h0 (by decide), Option.bind_some, zok0, if_neg (by simp)]
theorem r_party_t {v : Int32} (h0 : S.1 0 = 0) (h : iin v 0 3 = true) : m_isParty v S = some (1, S) := by
  unfold m_isParty
  rw [e_within, Option.bind_some, h, show b01 true = 1 from rfl, r_right_t h0, Option.bind_some, zok1, if_neg (by simp)]
theorem r_party_f {v : Int32} (h0 : S.1 0 = 0) (h : iin v 0 3 = false) : m_isParty v S = some (0, sF S 0 1) := by
  unfold m_isParty
  rw [e_within, Option.bind_some, h, show b01 false = 0 from rfl, r_right_f h0 (by decide), Option.bind_some, zok0, if_neg (by simp)]
theorem r_days_t {v a w : Int32} (h0 : S.1 0 = 0) (h : iin v a 40 = true) : m_isDays v a w S = some (1, S) := by
  unfold m_isDays
  rw [e_within, Option.bind_some, h, show b01 true = 1 from rfl, r_right_t h0, Option.bind_some, zok1, if_neg (by simp)]
theorem r_days_f {v a w : Int32} (h0 : S.1 0 = 0) (hw : ¬ w = 0) (h : iin v a 40 = false) : m_isDays v a w S = some (0, sF S 0 w) := by
  unfold m_isDays
  rw [e_within, Option.bind_some, h, show b01 false = 0 from rfl, r_right_f h0 hw, Option.bind_some, zok0, if_neg (by simp)]
end AR
/-! the two agree -/
def AG (c1 c2 : String) (r : Int32 ⊕ xE) (v : Int32) (S : MS) : Prop := match r with
  | .inl x => S.1 0 = 0 ∧ v = x
  | .inr (c, _) => c = c1 ∧ S.1 0 = 1 ∨ c = c2 ∧ S.1 0 = 2
/-- what room a command may take -/
def Bud (T T' : xF) (s s' : St) : Prop := T'.2.1 + 500 * sT s' ≤ T.2.1 + 500 * sT s + 12000 ∧ T'.2.2 + 4000 * sT s' ≤ T.2.2 + 4000 * sT s + 90000
/-- both hold one state again -/
def Nx (G : xG) (o : Nat) (T : xF) (s : St) (T' : xF) (S' : MS) : Prop := ∃ s', StOK s' ∧ CI G T' o s' ∧ MI S' s' ∧ Bud T T' s s'
theorem Nx.same {G : xG} {o : Nat} {T T' : xF} {s : St} {A : Ad} {S' : MS} (ok : StOK s) (h : CIa G T' o s A) (m : MI S' s) (b1 : T'.2.1 ≤ T.2.1 + 12000) (b2 : T'.2.2 ≤ T.2.2 + 90000) : Nx G o T s T' S' := ⟨s, ok, ⟨A, h⟩, m, by unfold Bud; omega⟩
theorem CIa.tw {G : xG} {o : Nat} {T : xF} {s : St} {A : Ad} (h : CIa G T o s A) : CIa G (thr T) o s A := by
  obtain ⟨gb, hb⟩ := h.bb
  obtain ⟨gt, ht⟩ := h.tt
  obtain ⟨f, hv⟩ := h.va
  have F : frc (fun _ => False) T (thr T) := ⟨Nat.le_succ _, fun _ _ _ => rfl⟩
  exact h.fr F (fun _ _ q => q.elim) ⟨f, hv⟩ ⟨gb, hb⟩ ⟨gt, ht⟩
