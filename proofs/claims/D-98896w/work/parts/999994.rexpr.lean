/-! plain law: the reference's way through an expression -/
set_option maxRecDepth 100000
/-- what an expression leaves alone -/
def Xfr (S0 S : MS) : Prop := (∀ k, k < 14 ∨ k = 16 ∨ k = 17 ∨ (24 ≤ k ∧ k < 33) ∨ 36 ≤ k → S.1 k = S0.1 k) ∧ ∀ j, j ≠ 9 → j ≠ 10 → j ≠ 11 → S.2.2 j = S0.2.2 j
def RY (S0 S : MS) (t : Tpe) (d : Nat) (F : Nat → Int32) (W C : List Nat) : Prop := Tp4 S t ∧ S.1 14 = 0 ∧ S.1 15 = S0.1 15 ∧ S.1 35 = Int32.ofNat d ∧ (∀ i, i ≤ d → S.2.2 11 i = F i) ∧ Wt S W ∧ Cd S C ∧ (∀ w ∈ W, w < 15) ∧ Xfr S0 S
def Bd (p : Nat) (W C : List Nat) : Prop := C.length + W.length + 2 ≤ 2 * p ∧ W.length + 1 ≤ p
def RX (S0 S : MS) (t : Tpe) (p d : Nat) (F : Nat → Int32) (W C : List Nat) : Prop := RY S0 S t d F W C ∧ TkM S t p ∧ p ≤ t.2 ∧ Bd p W C
def BX (S0 : MS) (k b : Nat) (S : MS) : Prop := S.1 14 = Int32.ofNat k ∧ S.1 15 = Int32.ofNat b ∧ Xfr S0 S
/-- a fault is known; the stack may be emptied -/
def RB (S0 : MS) (k b : Nat) (S : MS) : Prop := BX S0 k b S ∧ 0 < k ∧ k < 10 ∧ ∃ W C, Wt S W ∧ Cd S C ∧ (∀ w ∈ W, w < 15) ∧ C.length + W.length < 1400 ∧ W.length ≤ 950
theorem Xfr.tr {S0 S S' : MS} (h : Xfr S0 S) {P Q : Nat → Prop} (k : Kz P Q S S') (hP : ∀ i, P i → (18 ≤ i ∧ i < 24) ∨ (33 ≤ i ∧ i < 36) ∨ i = 14 ∨ i = 15) (hQ : ∀ j, Q j → j = 9 ∨ j = 10 ∨ j = 11) : Xfr S0 S' := ⟨fun i q => (k.1 i fun r => by have := hP i r; omega).trans (h.1 i q), fun j a b c => (k.2.2 j fun r => by have := hQ j r; omega).trans (h.2 j a b c)⟩
theorem RY.mv {S0 S S' : MS} {t : Tpe} {d : Nat} {F : Nat → Int32} {W C W' C' : List Nat} (h : RY S0 S t d F W C) {P Q : Nat → Prop} (k : Kz P Q S S') (hP : ∀ i, P i → (18 ≤ i ∧ i < 24) ∨ i = 33 ∨ i = 34) (hQ : ∀ j, Q j → j = 9 ∨ j = 10) (w : Wt S' W') (c : Cd S' C') (hw : ∀ w ∈ W', w < 15) : RY S0 S' t d F W' C' := by
  obtain ⟨h1, h2, h3, h4, h5, h6, h7, h8, h9⟩ := h
  refine ⟨⟨(k.1 17 fun r => by have := hP _ r; omega).trans h1.1, by rw [k.2.2 4 fun r => by have := hQ _ r; omega]; exact h1.2⟩, (k.1 14 fun r => by have := hP _ r; omega).trans h2, (k.1 15 fun r => by have := hP _ r; omega).trans h3, (k.1 35 fun r => by have := hP _ r; omega).trans h4, fun i hi => by rw [k.2.2 11 fun r => by have := hQ _ r; omega]; exact h5 i hi, w, c, hw, h9.tr k (fun i q => by have := hP i q; omega) (fun j q => by have := hQ j q; omega)⟩
theorem TkM.kz {S S' : MS} {t : Tpe} {p : Nat} (h : TkM S t p) {P Q : Nat → Prop} (k : Kz P Q S S') (hP : ∀ i, P i → ¬ (18 ≤ i ∧ i < 24)) : TkM S' t p := by
  obtain ⟨a1, a2, a3, a4, a5, a6, a7⟩ := h
  refine ⟨(k.1 18 fun r => hP _ r (by decide)).trans a1, (k.1 19 fun r => hP _ r (by decide)).trans a2, (k.1 20 fun r => hP _ r (by decide)).trans a3, (k.1 21 fun r => hP _ r (by decide)).trans a4, fun q => (k.1 22 fun r => hP _ r (by decide)).trans (a5 q), fun q => (k.1 23 fun r => hP _ r (by decide)).trans (a6 q), fun q => k.2.1.trans (a7 q)⟩
section RE
variable {t : Tpe} (h7 : t.2 ≤ 700) (hc : ∀ k, t.1 k < 256) {S0 S : MS} {p d s : Nat} {F : Nat → Int32} {W C V : List Nat}
theorem RY.kz33 (h : RY S0 S t d F W C) {x : Nat} (hl : C.length < 1400) : ∃ S', m_puts (Int32.ofNat x) S = some S' ∧ RY S0 S' t d F W (C ++ [x]) ∧ Kz (fun k => k = 33) (fun j => j = 9) S S' := by
  obtain ⟨S', e, c, k⟩ := r_puts (x := x) h.2.2.2.2.2.2.1 hl
  exact ⟨S', e, h.mv k (fun i q => Or.inr (Or.inl q)) (fun j q => Or.inl q) (h.2.2.2.2.2.1.ks k (by decide) (by decide)) c h.2.2.2.2.2.2.2.1, k⟩
theorem RY.kz34 (h : RY S0 S t d F W C) {x : Nat} (hx : x < 15) (hl : W.length < 950) : ∃ S', m_waitsFor (Int32.ofNat x) S = some S' ∧ RY S0 S' t d F (W ++ [x]) C ∧ Kz (fun k => k = 34) (fun j => j = 10) S S' := by
  obtain ⟨S', e, c, k⟩ := r_waits (x := x) h.2.2.2.2.2.1 hl
  refine ⟨S', e, h.mv k (fun i q => Or.inr (Or.inr q)) (fun j q => Or.inr q) c (h.2.2.2.2.2.2.1.ks k (by decide) (by decide)) fun w hw => ?_, k⟩
  rw [List.mem_append, List.mem_singleton] at hw
  rcases hw with hw | rfl
  · exact h.2.2.2.2.2.2.2.1 w hw
  · exact hx
theorem RY.dr (h : RY S0 S t d F (W ++ V.reverse) C) (hs : s < 7) (hW : Low s W) (h1 : C.length + V.length ≤ 1400) (h2 : W.length + V.length ≤ 950) (hv : ∀ v ∈ V, v < 14 ∧ s ≤ stg v) : ∃ S', m_drops (Int32.ofNat s) S = some S' ∧ RY S0 S' t d F W (C ++ V) ∧ Kz (fun k => k = 33 ∨ k = 34) (fun j => j = 9) S S' := by
  obtain ⟨S', e, w, c, k⟩ := r_drops hs hW V S C h.2.2.2.2.2.1 h.2.2.2.2.2.2.1 h1 h2 hv FU (by show _ < 6000; omega)
  exact ⟨S', e, h.mv k (fun i q => Or.inr q) (fun j q => Or.inl q) w c (fun x hx => h.2.2.2.2.2.2.2.1 x (List.mem_append_left _ hx)), k⟩
theorem RY.fl (h : RY S0 S t d F W C) (hd : d ≤ 6) (v : Int32) : ∃ S', wrA S 11 (S.1 35) v = some S' ∧ RY S0 S' t d (upd F d v) W C ∧ Kz (fun _ => False) (fun j => j = 11) S S' := by
  obtain ⟨h1, h2, h3, h4, h5, h6, h7, h8, h9⟩ := h
  have k : Kz (fun _ => False) (fun j => j = 11) S (sA S 11 d v) := ⟨fun _ _ => rfl, rfl, fun j hj => sA_ne hj⟩
  refine ⟨sA S 11 d v, by rw [h4]; exact wrA_n (ocl (by omega)) (on0 (by omega)) (show d < 9 by omega), ⟨⟨h1.1, by rw [sA_ne (by decide)]; exact h1.2⟩, h2, h3, h4, fun i hi => ?_, h6.ks k (fun q => q) (by decide), h7.ks k (fun q => q) (by decide), h8, h9.tr k (fun i q => q.elim) (fun j q => Or.inr (Or.inr q))⟩, k⟩
  rw [sA_at]
  unfold upd
  by_cases q : i = d
  · rw [if_pos q, if_pos q]
  · rw [if_neg q, if_neg q]; exact h5 i hi
theorem RY.go (h7 : t.2 ≤ 700) (hc : ∀ k, t.1 k < 256) (h : RY S0 S t d F W C) (h18 : S.1 18 = Int32.ofNat p) (hp : p ≤ t.2) (hb : Bd p W C) : ∃ S', m_goes S = some S' ∧ RX S0 S' t p d F W C := by
  obtain ⟨S', e, k1, k2, k3⟩ := r_goes h7 hc hp h.1 h18
  obtain ⟨h1, h2, h3, h4, h5, h6, h7, h8, h9⟩ := h
  refine ⟨S', e, ⟨⟨(k2 17 (by decide)).trans h1.1, by rw [k3]; exact h1.2⟩, (k2 14 (by decide)).trans h2, (k2 15 (by decide)).trans h3, (k2 35 (by decide)).trans h4, by rw [k3]; exact h5, ⟨(k2 34 (by decide)).trans h6.1, by rw [k3]; exact h6.2⟩, ⟨(k2 33 (by decide)).trans h7.1, by rw [k3]; exact h7.2⟩, h8, fun k q => (k2 k (by omega)).trans (h9.1 k q), fun j a b c => by rw [k3]; exact h9.2 j a b c⟩, k1, hp, hb⟩
theorem RX.good (h : RX S0 S t p d F W C) : m_isGood S = some 1 := r_good h.1.2.1
theorem RX.sg (h : RX S0 S t p d F W C) (hc : ∀ k, t.1 k < 256) {c : Nat} (h1 : c < 128) : m_isSign (Int32.ofNat c) S = some (if sgi t p c then 1 else 0) := r_isSign h.2.1 (hc _) h1
theorem RX.kn (h : RX S0 S t p d F W C) (h7 : t.2 ≤ 700) : m_knownWord S = some (if kw t p = 18 then -1 else Int32.ofNat (kw t p)) := r_knownWord h.2.2.1 h7 h.2.1
theorem kwv {j : Nat} (hj : j < 18) : (if kw t p = 18 then (-1 : Int32) else Int32.ofNat (kw t p)) = Int32.ofNat j ↔ kw t p = j := by
  have := kw_le t p
  by_cases q : kw t p = 18
  · rw [if_pos q, q]
    refine ⟨fun r => ?_, fun r => by omega⟩
    exact absurd r.symm (ipos_ne (by omega))
  · rw [if_neg q]
    exact oeq (by omega) (by omega)
/-- a fault: the loop ends at once -/
theorem Low.dec : ∀ (U : List Nat), (∀ w ∈ U, w < 15) → ∃ W V : List Nat, U.reverse = W ++ V.reverse ∧ Low 0 W ∧ ∀ v ∈ V, v < 14 ∧ 0 ≤ stg v := by
  intro U
  induction U with
  | nil => intro _; exact ⟨[], [], rfl, Or.inl rfl, fun v hv => by cases hv⟩
  | cons u U ih =>
    intro h
    have hu := h u (List.mem_cons_self ..)
    by_cases q : u = 14
    · exact ⟨(u :: U).reverse, [], by rw [List.reverse_nil, List.append_nil], Or.inr ⟨U.reverse, u, by rw [List.reverse_cons], hu, Or.inl q⟩, fun v hv => by cases hv⟩
    · obtain ⟨W, V, e, l, k⟩ := ih fun w hw => h w (List.mem_cons_of_mem _ hw)
      refine ⟨W, u :: V, by rw [List.reverse_cons, List.reverse_cons, e, List.append_assoc], l, fun v hv => ?_⟩
      rcases List.mem_cons.mp hv with rfl | hv
      · exact ⟨by omega, Nat.zero_le _⟩
      · exact k v hv
theorem RB.end_ {k b : Nat} (h : RB S0 k b S) : ∃ R, BX S0 k b R ∧ m_expression_330 S = some R := by
  obtain ⟨⟨g1, g2, g3⟩, k0, k1, W, C, w, c, hw, l1, l2⟩ := h
  obtain ⟨W0, V, e, l, v⟩ := Low.dec W.reverse fun x hx => hw x (List.mem_reverse.mp hx)
  rw [List.reverse_reverse] at e
  subst e
  rw [List.length_append, List.length_reverse] at l1 l2
  obtain ⟨S1, e1, w1, c1, k1'⟩ := r_drops (s := 0) (by decide) l V S C w c (by omega) (by omega) v FU (by show _ < 6000; omega)
  obtain ⟨S2, e2, c2, k2⟩ := r_puts (x := 0) c1 (by rw [List.length_append]; omega)
  have kk : Kz (fun k => k = 33 ∨ k = 34) (fun j => j = 9) S S2 := k1'.tr k2 (fun _ q => q) (fun _ q => Or.inl q) (fun _ q => q) (fun _ q => q)
  refine ⟨S2, ⟨(kk.1 14 (by decide)).trans g1, (kk.1 15 (by decide)).trans g2, g3.tr kk (fun i q => by omega) (fun j q => by omega)⟩, ?_⟩
  have nb : ¬ S.1 14 = 0 := by
    rw [g1]; exact fun q => by have := (oeq (n := k) (m := 0) (by omega) (by omega)).mp q; omega
  have e1 : m_drops 0 S = some S1 := e1
  have e2 : m_puts 0 S1 = some S2 := e2
  unfold m_expression_330 m_expression_350
  rw [r_bad nb, Option.bind_some, if_pos rfl, e1, Option.bind_some, e2, Option.bind_some]
theorem RB.nb {k b : Nat} (h : RB S0 k b S) : ¬ S.1 14 = 0 := by
  obtain ⟨⟨g1, -⟩, k0, k1, -⟩ := h
  rw [g1]; exact fun q => by have := (oeq (n := k) (m := 0) (by omega) (by omega)).mp q; omega
/-! what the reference does from here on -/
def Lp (t : Tpe) (p : Nat) (S : MS) (Q : MS → Prop) : Prop := ∃ R, Q R ∧ ∀ m, t.2 + 1 - p < m → m_expression_34 m 1 S = some R
def O75 (t : Tpe) (p : Nat) (x2 : Int32) (S : MS) (Q : MS → Prop) : Prop := ∃ R, Q R ∧ ∀ m1 m2, t.2 + 2 - p < m1 → t.2 + 1 - p < m2 → (m_operand_75 (m_operand_4 m1) x2 S).bind (m_expression_34 m2 1) = some R
def On (t : Tpe) (p x4 : Nat) (S : MS) (Q : MS → Prop) : Prop := ∃ R, Q R ∧ ∀ m1 m2 m3, t.2 + 2 - p < m1 → t.2 + 1 - p < m2 → 10 - x4 < m3 → (m_operand_18 (m_operand_4 m1) m3 1 (Int32.ofNat x4) S).bind (m_expression_34 m2 1) = some R
def Op (t : Tpe) (p : Nat) (x2 : Int32) (S : MS) (Q : MS → Prop) : Prop := ∃ R, Q R ∧ ∀ m1 m2, t.2 + 3 - p < m1 → t.2 + 1 - p < m2 → (m_operand_4 m1 x2 1 S).bind (m_expression_34 m2 1) = some R
def OE (t : Tpe) (p : Nat) (S : MS) (Q : MS → Prop) : Prop := ∃ R, Q R ∧ ∀ m1 m2, t.2 + 3 - p < m1 → t.2 + 1 - p < m2 → ((m_deeper S).bind fun q => m_operand_4 m1 1 1 q).bind (m_expression_34 m2 1) = some R
theorem RB.lp {k b : Nat} (h : RB S0 k b S) {Q : MS → Prop} (hQ : ∀ S', BX S0 k b S' → Q S') : ∃ R, Q R ∧ ∀ m, 0 < m → m_expression_34 m 1 S = some R := by
  obtain ⟨R, b1, e⟩ := h.end_
  refine ⟨R, hQ R b1, fun m hm => ?_⟩
  obtain ⟨m, rfl⟩ : ∃ k, m = k + 1 := ⟨m - 1, by omega⟩
  show m_expression_34_b (m_expression_34 m) 1 S = _
  unfold m_expression_34_b
  rw [if_neg (by decide), r_bad h.nb, Option.bind_some, if_pos rfl, e]
theorem e_partB (h : ¬ S.1 14 = 0) : m_part S = some S := by
  unfold m_part
  rw [r_bad h, Option.bind_some, if_pos rfl]
theorem e_op4B (h : ¬ S.1 14 = 0) {m : Nat} {x2 x3 : Int32} (hm : 0 < m) : m_operand_4 m x2 x3 S = some S := by
  obtain ⟨m, rfl⟩ : ∃ k, m = k + 1 := ⟨m - 1, by omega⟩
  show m_operand_4_b (m_operand_4 m) x2 x3 S = _
  unfold m_operand_4_b m_operand_120
  by_cases q : x3 = 0
  · rw [if_pos q, e_partB h, Option.bind_some]
  · rw [if_neg q, r_bad h, Option.bind_some, if_pos rfl, e_partB h, Option.bind_some]
theorem e_op75B (h : ¬ S.1 14 = 0) {m : Nat} {x2 : Int32} (hm : 0 < m) : m_operand_75 (m_operand_4 m) x2 S = some S := by
  unfold m_operand_75 m_operand_95 m_operand_96 m_operand_117
  rw [r_bad h, Option.bind_some, if_pos rfl, if_pos rfl, e_op4B h hm]
theorem e_op18B (h : ¬ S.1 14 = 0) {m m3 : Nat} {x2 x4 : Int32} (hm : 0 < m) (hm3 : 0 < m3) : m_operand_18 (m_operand_4 m) m3 x2 x4 S = some S := by
  obtain ⟨m3, rfl⟩ : ∃ k, m3 = k + 1 := ⟨m3 - 1, by omega⟩
  show m_operand_18_b (m_operand_4 m) (m_operand_18 (m_operand_4 m) m3) x2 x4 S = _
  unfold m_operand_18_b
  rw [r_bad h, Option.bind_some, if_pos rfl, e_op75B h hm]
/-- wrong, here -/
theorem RX.wr (h : RX S0 S t p d F W C) {k : Nat} (k0 : 0 < k) (k1 : k < 10) (h7 : t.2 ≤ 700) : ∃ S', m_wrong (Int32.ofNat k) S = some S' ∧ BX S0 k (tB t p) S' ∧ Wt S' W ∧ Cd S' C ∧ (∀ j, j ≠ 14 → j ≠ 15 → S'.1 j = S.1 j) ∧ S'.2.2 = S.2.2 := by
  obtain ⟨S', e, p1, p2, p3, p4⟩ := r_wrong_g (S := S) (k := Int32.ofNat k) h.1.2.1 (fun z => by have := (oeq (n := k) (m := 0) (by omega) (by omega)).mp z; omega)
  obtain ⟨h1, h2, h3, h4, h5, h6, h7, h8, h9⟩ := h.1
  refine ⟨S', e, ⟨p2, p3.trans h.2.1.2.2.1, fun i q => (p4 i (by omega) (by omega)).trans (h9.1 i q), fun j a b c => by rw [p1.2]; exact h9.2 j a b c⟩, ⟨(p4 34 (by decide) (by decide)).trans h6.1, by rw [p1.2]; exact h6.2⟩, ⟨(p4 33 (by decide) (by decide)).trans h7.1, by rw [p1.2]; exact h7.2⟩, p4, p1.2⟩
theorem RX.rb (h : RX S0 S t p d F W C) {k : Nat} (k0 : 0 < k) (k1 : k < 10) (h7 : t.2 ≤ 700) : ∃ S', m_wrong (Int32.ofNat k) S = some S' ∧ RB S0 k (tB t p) S' := by
  obtain ⟨S', e, b, w, c, -⟩ := h.wr k0 k1 h7
  obtain ⟨h1, h2⟩ := h.2.2.2
  have := h.2.2.1
  exact ⟨S', e, b, k0, k1, W, C, w, c, h.1.2.2.2.2.2.2.2.1, by omega, by omega⟩
end RE
