/-! plain law: the reference reads a line -/
set_option maxRecDepth 100000
def LR (S0 : MS) (t : Tpe) (r : PL (Yx × Nat)) (S' : MS) : Prop := (∀ k b, r = .inl (k, b) → BL S0 k b S') ∧ ∀ Y q, r = .inr (Y, q) → YB S0 S' t Y q
theorem LR.ok {S0 S' : MS} {t : Tpe} {Y : Yx} {q : Nat} (h : YB S0 S' t Y q) : LR S0 t (.inr (Y, q)) S' := ⟨fun k b r => (by cases r), fun Y2 q2 r => by
  have r := Sum.inr.inj r
  have r1 : Y = Y2 := congrArg Prod.fst r
  have r2 : q = q2 := congrArg Prod.snd r
  subst r1 r2
  exact h⟩
theorem LR.er {S0 S' : MS} {t : Tpe} {k b : Nat} (h : BL S0 k b S') : LR S0 t (.inl (k, b)) S' := ⟨fun k2 b2 q => by
  have q := Sum.inl.inj q
  have q1 : k = k2 := congrArg Prod.fst q
  have q2 : b = b2 := congrArg Prod.snd q
  subst q1 q2
  exact h, fun Y q r => (by cases r)⟩
theorem dup_or {D i j : Nat} : (D ||| 2 ^ i).testBit j = (D.testBit j || decide (i = j)) := by rw [Nat.testBit_or, Nat.testBit_two_pow]
theorem BL.pk {S0 S S' : MS} {k b : Nat} (hf : LF S0 S) (k0 : 0 < k) (k1 : k < 10) (p : Pkp S S') (a : S'.1 14 = Int32.ofNat k) (c : S'.1 15 = Int32.ofNat b) : BL S0 k b S' := ⟨a, c, k0, k1, hf.pk p⟩
theorem BL.f {S0 S : MS} {k b : Nat} (h : BL S0 k b S) {i : Nat} (hi : 24 ≤ i ∧ i < 37) {v : Int32} : BL S0 k b (sF S i v) := ⟨(sF_ne (by omega)).trans h.1, (sF_ne (by omega)).trans h.2.1, h.2.2.1, h.2.2.2.1, ⟨fun j q => (sF_ne (by omega)).trans (h.2.2.2.2.1 j q), h.2.2.2.2.2⟩⟩
theorem BL.a {S0 S : MS} {k b : Nat} (h : BL S0 k b S) {j i : Nat} (hj : 6 ≤ j ∧ j ≤ 12) {v : Int32} : BL S0 k b (sA S j i v) := ⟨h.1, h.2.1, h.2.2.1, h.2.2.2.1, ⟨h.2.2.2.2.1, fun j2 q => (sA_ne (by omega)).trans (h.2.2.2.2.2 j2 q)⟩⟩
theorem LF.f {S0 S : MS} (h : LF S0 S) {i : Nat} (hi : 24 ≤ i ∧ i < 37) {v : Int32} : LF S0 (sF S i v) := ⟨fun j q => (sF_ne (by omega)).trans (h.1 j q), h.2⟩
theorem LF.a {S0 S : MS} (h : LF S0 S) {j i : Nat} (hj : 6 ≤ j ∧ j ≤ 12) {v : Int32} : LF S0 (sA S j i v) := ⟨h.1, fun j2 q => (sA_ne (by omega)).trans (h.2 j2 q)⟩
theorem RT.f {S : MS} {t : Tpe} {p : Nat} (h : RT S t p) {i : Nat} (hi : 24 ≤ i ∧ i < 37) {v : Int32} : RT (sF S i v) t p := by
  obtain ⟨a, b, c, d⟩ := h
  have k : Kz (fun j => j = i) (fun _ => False) S (sF S i v) := ⟨fun j q => sF_ne q, rfl, fun _ _ => rfl⟩
  exact ⟨a.kz k (fun j q => by omega), ⟨(sF_ne (by omega)).trans b.1, b.2⟩, c, (sF_ne (by omega)).trans d⟩
theorem RT.a {S : MS} {t : Tpe} {p : Nat} (h : RT S t p) {j i : Nat} (hj : 6 ≤ j ∧ j ≤ 12) {v : Int32} : RT (sA S j i v) t p := by
  obtain ⟨a, b, c, d⟩ := h
  exact ⟨a, ⟨b.1, by rw [sA_ne (by omega)]; exact b.2⟩, c, d⟩
section RL
variable {t : Tpe} (h7 : t.2 ≤ 700) (hc : ∀ k, t.1 k < 256) {S0 S : MS} {p : Nat} {Y : Yx}
theorem YB.mv {S' : MS} {q : Nat} (h : YB S0 S t Y p) (k : Pkp S S') (r : RT S' t q) (e : S'.1 15 = S.1 15) (hq : p ≤ q) : YB S0 S' t Y q := ⟨r, e.trans h.2.1, h.2.2.1.pk k, h.2.2.2.1.pk k, by have := h.2.2.2.2; omega⟩
theorem YB.wr (h : YB S0 S t Y p) {k : Nat} (k0 : 0 < k) (k1 : k < 10) : ∃ S', m_wrong (Int32.ofNat k) S = some S' ∧ BL S0 k (tB t p) S' := by
  obtain ⟨S', e, p1, p2, p3, p4⟩ := r_wrong_g (S := S) (k := Int32.ofNat k) h.1.2.2.2 (fun z => by have := (oeq (n := k) (m := 0) (by omega) (by omega)).mp z; omega)
  exact ⟨S', e, BL.pk h.2.2.1 k0 k1 p1 p2 (p3.trans h.1.1.2.2.1)⟩
theorem e_384B {k b : Nat} (h : BL S0 k b S) : m_line_384 S = some S := by
  have e : ∃ v, m_isSign 59 S = some v := by
    unfold m_isSign
    split
    · split <;> exact ⟨_, rfl⟩
    · exact ⟨_, rfl⟩
  obtain ⟨v, e⟩ := e
  unfold m_line_384 m_need
  rw [e, Option.bind_some, r_bad h.nb, Option.bind_some, if_pos rfl, Option.bind_some]
theorem r_384 (h7 : t.2 ≤ 700) (hc : ∀ k, t.1 k < 256) {r : PL (Yx × Nat)} (h : LR S0 t r S) : Mn (m_line_384 S) (LR S0 t (sbd r fun z => if sgi t z.2 59 then .inr (z.1, tE t z.2) else .inl (1, tB t z.2))) := by
  cases r with
  | inl z =>
    obtain ⟨k, b⟩ := z
    have hb := h.1 k b rfl
    rw [e_384B hb]
    exact Mn.ret (LR.er hb)
  | inr z =>
    obtain ⟨Y, q⟩ := z
    have hy := h.2 Y q rfl
    have s59 : m_isSign 59 S = some (if sgi t q 59 then 1 else 0) := r_isSign hy.1.1 (hc _) (c := 59) (by decide)
    unfold m_line_384 m_need
    rw [s59, Option.bind_some, r_good hy.1.2.2.2, Option.bind_some, if_neg (show ¬ (1 : Int32) = 0 by decide), sbd_r]
    dsimp only
    by_cases c : sgi t q 59
    · rw [if_pos c, if_pos c, if_neg (show ¬ (1 : Int32) = 0 by decide)]
      obtain ⟨f1, f2⟩ := tE_fw hy.1.2.2.1 (sgn_0 c)
      obtain ⟨S1, e1, a, b, d⟩ := hy.1.nx h7 hc
      rw [e1, Option.bind_some]
      exact Mn.ret (LR.ok (hy.mv b a d (by omega)))
    · rw [if_neg c, if_neg c, if_pos rfl]
      obtain ⟨S1, e1, b1⟩ := hy.wr (k := 1) (by decide) (by decide)
      have e1 : m_wrong 1 S = some S1 := e1
      rw [e1, Option.bind_some]
      exact Mn.ret (LR.er b1)
/-- a line begins: what may stand against it -/
theorem r_begins (h7 : t.2 ≤ 700) (hc : ∀ k, t.1 k < 256) (h : YB S0 S t Y p) {x1 x2 x3 : Int32} {n : Nat} (hn : n = if x1 = 0 then (if x2 = 0 then (if x3 = 0 then 0 else 5) else 4) else 2) : Mn (m_begins x1 x2 x3 S) fun q => (n = 0 ∧ q.1 = 1 ∧ YB S0 q.2 t Y (tE t p)) ∨ (n ≠ 0 ∧ q.1 = 0 ∧ BL S0 n (tB t p) q.2) := by
  have bad27 : ∀ {X : MS} {k b : Nat}, BL S0 k b X → m_begins_27 X = some (0, X) := fun hb => by
    unfold m_begins_27
    rw [r_bad hb.nb, Option.bind_some, if_pos rfl]
  have bad18 : ∀ {X : MS} {k b : Nat}, BL S0 k b X → m_begins_18 x3 X = some (0, X) := fun hb => by
    unfold m_begins_18
    by_cases c : x3 = 0
    · rw [if_pos c, bad27 hb]
    · rw [if_neg c, r_wrong_b hb.nb, Option.bind_some, bad27 hb]
  have bad9 : ∀ {X : MS} {k b : Nat}, BL S0 k b X → m_begins_9 x2 x3 X = some (0, X) := fun hb => by
    unfold m_begins_9
    by_cases c : x2 = 0
    · rw [if_pos c, bad18 hb]
    · rw [if_neg c, r_wrong_b hb.nb, Option.bind_some, bad18 hb]
  unfold m_begins
  by_cases c1 : x1 = 0
  · rw [if_pos c1] at hn ⊢
    unfold m_begins_9
    by_cases c2 : x2 = 0
    · rw [if_pos c2] at hn ⊢
      unfold m_begins_18
      by_cases c3 : x3 = 0
      · rw [if_pos c3] at hn ⊢
        unfold m_begins_27
        rw [r_good h.1.2.2.2, Option.bind_some, if_neg (show ¬ (1 : Int32) = 0 by decide)]
        obtain ⟨S1, e1, a, b, d⟩ := h.1.nx h7 hc
        rw [e1, Option.bind_some]
        have := tE_ge h.1.2.2.1
        have := tB_ge (t := t) (p := p)
        exact Mn.ret (Or.inl ⟨hn, rfl, h.mv b a d (by omega)⟩)
      · rw [if_neg c3] at hn ⊢
        obtain ⟨S1, e1, b1⟩ := h.wr (k := 5) (by decide) (by decide)
        have e1 : m_wrong 5 S = some S1 := e1
        rw [e1, Option.bind_some, bad27 b1]
        exact Mn.ret (Or.inr ⟨by omega, rfl, by rw [hn]; exact b1⟩)
    · rw [if_neg c2] at hn ⊢
      obtain ⟨S1, e1, b1⟩ := h.wr (k := 4) (by decide) (by decide)
      have e1 : m_wrong 4 S = some S1 := e1
      rw [e1, Option.bind_some, bad18 b1]
      exact Mn.ret (Or.inr ⟨by omega, rfl, by rw [hn]; exact b1⟩)
  · rw [if_neg c1] at hn ⊢
    obtain ⟨S1, e1, b1⟩ := h.wr (k := 2) (by decide) (by decide)
    have e1 : m_wrong 2 S = some S1 := e1
    rw [e1, Option.bind_some, bad9 b1]
    exact Mn.ret (Or.inr ⟨by omega, rfl, by rw [hn]; exact b1⟩)
/-- a number of a line: what it is, or a fault -/
theorem YB.num (h7 : t.2 ≤ 700) (hc : ∀ k, t.1 k < 256) (h : YB S0 S t Y p) {lo hi : Nat} (hlo : lo < 20000) (hhi : hi < 20000) : Mn (m_number (Int32.ofNat lo) (Int32.ofNat hi) S) fun q => (∀ k b, pNum t p lo hi = .inl (k, b) → BL S0 k b q.2) ∧ ∀ v r, pNum t p lo hi = .inr (v, r) → q.1 = Int32.ofNat v ∧ YB S0 q.2 t Y r ∧ lo ≤ v ∧ v ≤ hi ∧ p ≤ r := by
  refine (r_num h7 hc h.1 hlo hhi).mono fun q ⟨a, b, c⟩ => ⟨fun k b2 e => ?_, fun v r e => ?_⟩
  · by_cases ok : nOK t p lo hi
    · rw [pNum_ok ok] at e; cases e
    · rw [pNum_no ok] at e
      have e := Sum.inl.inj e
      have e1 : (if tS t p = 2 then 2 else 1) = k := congrArg Prod.fst e
      have e2 : tB t p = b2 := congrArg Prod.snd e
      obtain ⟨c1, c2⟩ := c ok
      rw [e1] at c1
      rw [e2] at c2
      have : 0 < k ∧ k < 10 := by
        rw [← e1]; split <;> decide
      exact BL.pk h.2.2.1 this.1 this.2 a c1 c2
  · obtain ⟨ok, rfl, rfl⟩ := pNum_i e
    obtain ⟨b1, b2, b3⟩ := b ok
    have f := nOK_fw h.1.2.2.1 ok
    exact ⟨b1, h.mv a b2 b3 (by omega), ok.2.2.1, ok.2.2.2, by omega⟩
end RL
