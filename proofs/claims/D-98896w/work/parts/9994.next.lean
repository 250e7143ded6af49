/-! plain law: next -/
set_option maxRecDepth 100000
/-- rows of numbers in a row -/
def MxAt (T : xF) (N n k : Nat) (Q : Nat → Nat → Int32) : Prop := T.1 N = some (true, .inl (.array .int, n, .inr (.inr (.inr (.inr fun j => some (N + 1 + j)))))) ∧ ∀ i, i < n → ∃ f : Nat → Int32, IaAt T (N + 1 + i) k f ∧ ∀ c, c < k → f c = Q i c
def upd2 (Q : Nat → Nat → Int32) (i c : Nat) (v : Int32) : Nat → Nat → Int32 := fun j d => if j = i ∧ d = c then v else Q j d
section MX
variable {T T' : xF} {N n k : Nat} {Q : Nat → Nat → Int32}
theorem MxAt.new {T : xF} {n k : Nat} : MxAt (nII T n k) T.2.1 n k (fun _ _ => 0) := by
  refine ⟨if_pos rfl, fun i hi => ⟨fun _ => 0, ?_, fun _ _ => rfl⟩⟩
  show (if T.2.1 + 1 + i = T.2.1 then _ else if T.2.1 < T.2.1 + 1 + i ∧ T.2.1 + 1 + i ≤ T.2.1 + n then _ else _) = _
  rw [if_neg (by omega), if_pos (by omega)]
theorem nII_no {T : xF} {n k x : Nat} (h : x < T.2.1) : (nII T n k).1 x = T.1 x := by
  show (if x = T.2.1 then _ else if T.2.1 < x ∧ x ≤ T.2.1 + n then _ else _) = _
  rw [if_neg (by omega), if_neg (by omega)]
theorem MxAt.len (h : MxAt T N n k Q) : len T (some N) = some (Int32.ofNat n) := by
  obtain ⟨h1, h2⟩ := h
  rw [len.eq_2]; simp -implicitDefEqProofs only [h1]
theorem MxAt.ldR (h : MxAt T N n k Q) {i : Nat} (hi : i < n) (hn : n < 2000000) : ldR T (some N) (Int32.ofNat i) = some (some (N + 1 + i)) := by
  obtain ⟨h1, h2⟩ := h
  rw [ldR.eq_1]
  have : aR T (some N) = some (.array .int, n, fun j => some (N + 1 + j)) := by
    rw [aR.eq_2]
    simp -implicitDefEqProofs only [h1]
    rfl
  rw [this, Option.bind_some, if_pos (inb_o hi (by omega)), ocl (by omega)]
theorem MxAt.ld (h : MxAt T N n k Q) {i c : Nat} (hi : i < n) (hc : c < k) (hk : k < 2000000) : ldA T (some (N + 1 + i)) .int (Int32.ofNat c) = some (Q i c) := by
  obtain ⟨f, h1, h2⟩ := h.2 i hi
  rw [h1.ld hc hk, h2 c hc]
theorem MxAt.fr (h : MxAt T N n k Q) (e : ∀ x, N ≤ x → x ≤ N + n → T'.1 x = T.1 x) : MxAt T' N n k Q := by
  obtain ⟨h1, h2⟩ := h
  refine ⟨(e N (by omega) (by omega)).trans h1, fun i hi => ?_⟩
  obtain ⟨f, g1, g2⟩ := h2 i hi
  exact ⟨f, g1.fr (e _ (by omega) (by omega)), g2⟩
theorem MxAt.st (h : MxAt T N n k Q) {i c : Nat} (hi : i < n) (hc : c < k) (hk : k < 2000000) (v : Int32) : ∃ T', stA T (some (N + 1 + i)) .int (Int32.ofNat c) v = some T' ∧ frm (fun x => x = N + 1 + i) T T' ∧ MxAt T' N n k (upd2 Q i c v) := by
  obtain ⟨f, g1, g2⟩ := h.2 i hi
  obtain ⟨T1, e1, f1, i1⟩ := g1.st hc hk v
  refine ⟨T1, e1, f1, (f1.2 N (by omega)).trans h.1, fun j hj => ?_⟩
  by_cases q : j = i
  · subst q
    refine ⟨_, i1, fun d hd => ?_⟩
    unfold upd2 upd
    by_cases r : d = c
    · rw [if_pos r, if_pos ⟨rfl, r⟩]
    · rw [if_neg r, if_neg (fun z => r z.2)]; exact g2 d hd
  · obtain ⟨f', r1, r2⟩ := h.2 j hj
    refine ⟨f', r1.fr (f1.2 _ (by omega)), fun d hd => ?_⟩
    unfold upd2
    rw [if_neg (fun z => q z.1)]; exact r2 d hd
theorem MxAt.imp (h : MxAt T N n k Q) {Q' : Nat → Nat → Int32} (e : ∀ i c, i < n → c < k → Q' i c = Q i c) : MxAt T N n k Q' := by
  refine ⟨h.1, fun i hi => ?_⟩
  obtain ⟨f, g1, g2⟩ := h.2 i hi
  exact ⟨f, g1, fun c hc => (g2 c hc).trans (e i c hi hc).symm⟩
end MX
section SP
variable {Q : Nat → Nat → Int32} {M : Nat}
abbrev nws (Q : Nat → Nat → Int32) (c a b : Nat) : Prop := ∀ b', b' < b → ¬ Q b' c = Q a c
def ndc (Q : Nat → Nat → Int32) (c : Nat) : Nat → Nat
  | 0 => 0
  | a + 1 => ndc Q c a + if nws Q c a a then 1 else 0
def bmc (Q : Nat → Nat → Int32) (M : Nat) : Nat → Int32 × Nat
  | 0 => (-1, 0)
  | c + 1 => if (bmc Q M c).2 < ndc Q c M then (Int32.ofNat c, ndc Q c M) else bmc Q M c
theorem ndc_le {c : Nat} : ∀ a, ndc Q c a ≤ a := by
  intro a
  induction a with
  | zero => exact Nat.le_refl _
  | succ a ih =>
    show ndc Q c a + (if nws Q c a a then 1 else 0) ≤ _
    split <;> omega
theorem bmc_le : ∀ c, (bmc Q M c).2 ≤ M := by
  intro c
  induction c with
  | zero => exact Nat.zero_le _
  | succ c ih =>
    show (if (bmc Q M c).2 < ndc Q c M then (Int32.ofNat c, ndc Q c M) else bmc Q M c).2 ≤ _
    split
    · exact ndc_le M
    · exact ih
theorem nws_succ {c a b : Nat} (v : Int32) (hv : v = if nws Q c a b then 1 else 0) (h1 : v ≠ 0) : (if Q b c = Q a c then (0 : Int32) else 1) = if nws Q c a (b + 1) then 1 else 0 := by
  have hb : nws Q c a b := by
    by_cases q : nws Q c a b
    · exact q
    · exact absurd (hv.trans (if_neg q)) h1
  by_cases q : Q b c = Q a c
  · rw [if_pos q, if_neg (fun r => r b (Nat.lt_succ_self b) q)]
  · rw [if_neg q, if_pos]
    intro b' h'
    by_cases e : b' = b
    · subst e; exact q
    · exact hb b' (by omega)
theorem nws_stop {c a b : Nat} (v : Int32) (hv : v = if nws Q c a b then 1 else 0) (h0 : v = 0) (hb : b ≤ a) : ¬ nws Q c a a := by
  intro q
  rw [hv, if_pos (fun b' h' => q b' (by omega))] at h0
  exact absurd h0 (by decide)
/-! the system's count -/
variable {G : xG} {T : xF} {N1 : Nat}
theorem e_nx159 (h : MxAt T N1 M 30 Q) (hM : M < 1000) {c a n : Nat} (hc : c < 30) (ha : a < M) (hn : n < 1000) {k128 : Option Nat → Int32 → Option Nat → Int32 → Int32 → Int32 → xF → Option ((Int32 ⊕ xE) × xF)} {k146 : Option Nat → Int32 → Option Nat → Int32 → Int32 → Int32 → Int32 → Int32 → xF → Option ((Int32 ⊕ xE) × xF)} {x0 : Option Nat} {x1 x4 x5 : Int32} : c_X1_next_159 G k128 k146 FU x0 x1 (some N1) x4 x5 (Int32.ofNat c) (Int32.ofNat n) (Int32.ofNat a) 1 0 T = k146 x0 x1 (some N1) x4 x5 (Int32.ofNat c) (Int32.ofNat (n + if nws Q c a a then 1 else 0)) (Int32.ofNat (a + 1)) T := by
  have fin : ∀ v : Int32, v = (if nws Q c a a then 1 else 0) → c_X1_next_201 G k128 k146 x0 x1 (some N1) x4 x5 (Int32.ofNat c) (Int32.ofNat n) (Int32.ofNat a) v T = k146 x0 x1 (some N1) x4 x5 (Int32.ofNat c) (Int32.ofNat (n + if nws Q c a a then 1 else 0)) (Int32.ofNat (a + 1)) T := by
    intro v hv
    unfold c_X1_next_201 c_X1_next_209
    rw [ofn1 a (by omega)]
    by_cases q : nws Q c a a
    · rw [if_pos q] at hv ⊢
      rw [hv, if_neg (by decide), ofn1 n (by omega)]
    · rw [if_neg q] at hv ⊢
      rw [hv, if_pos rfl]; rfl
  refine loop_rule (σ := Int32) (N := a) (fun b v => v = if nws Q c a b then 1 else 0) (fun m b v => c_X1_next_159 G k128 k146 m x0 x1 (some N1) x4 x5 (Int32.ofNat c) (Int32.ofNat n) (Int32.ofNat a) v (Int32.ofNat b) T = _) ?_ ?_ FU (by show a < 6000; omega) 1 (if_pos fun b' h' => absurd h' (Nat.not_lt_zero b')).symm
  · intro m b v hb hv K
    show c_X1_next_159_b G k128 k146 (c_X1_next_159 G k128 k146 m) x0 x1 (some N1) x4 x5 (Int32.ofNat c) (Int32.ofNat n) (Int32.ofNat a) v (Int32.ofNat b) T = _
    unfold c_X1_next_159_b
    rw [if_neg (fun q => by have := (ole (n := a) (m := b) (by omega) (by omega)).mp q; omega)]
    by_cases h0 : v = 0
    · rw [if_pos h0]
      refine fin v ?_
      rw [h0, if_neg (nws_stop v hv h0 (by omega))]
    · rw [if_neg h0]
      simp -implicitDefEqProofs only [h.ldR (show b < M by omega) (by omega), h.ldR ha (by omega), h.ld (show b < M by omega) hc (by decide), h.ld ha hc (by decide), c_X1_next_193, ofn1 b (by omega), Option.bind_some, not_true_eq_false, if_false, if_true]
      have k := K _ (nws_succ v hv h0)
      by_cases q : Q b c = Q a c
      · rw [if_pos q] at k ⊢; exact k
      · rw [if_neg q] at k ⊢; exact k
  · intro m v hv
    show c_X1_next_159_b G k128 k146 (c_X1_next_159 G k128 k146 m) x0 x1 (some N1) x4 x5 (Int32.ofNat c) (Int32.ofNat n) (Int32.ofNat a) v (Int32.ofNat a) T = _
    unfold c_X1_next_159_b
    rw [if_pos (Int32.le_refl _)]
    exact fin v hv
theorem e_nx146 (h : MxAt T N1 M 30 Q) (hM : M < 1000) {c b : Nat} (hc : c < 30) (hb : b ≤ M) {k128 : Option Nat → Int32 → Option Nat → Int32 → Int32 → Int32 → xF → Option ((Int32 ⊕ xE) × xF)} {x0 : Option Nat} {x1 x4 : Int32} : c_X1_next_146 G k128 FU x0 x1 (some N1) x4 (Int32.ofNat b) (Int32.ofNat c) 0 0 T = if b < ndc Q c M then k128 x0 x1 (some N1) (Int32.ofNat c) (Int32.ofNat (ndc Q c M)) (Int32.ofNat (c + 1)) T else k128 x0 x1 (some N1) x4 (Int32.ofNat b) (Int32.ofNat (c + 1)) T := by
  refine loop_rule (σ := Unit) (N := M) (fun _ _ => True) (fun m a _ => c_X1_next_146 G k128 m x0 x1 (some N1) x4 (Int32.ofNat b) (Int32.ofNat c) (Int32.ofNat (ndc Q c a)) (Int32.ofNat a) T = _) ?_ ?_ FU (by show M < 6000; omega) () trivial
  · intro m a _ ha _ K
    have l := ndc_le (Q := Q) (c := c) a
    show c_X1_next_146_b G k128 (c_X1_next_146 G k128 m) x0 x1 (some N1) x4 (Int32.ofNat b) (Int32.ofNat c) (Int32.ofNat (ndc Q c a)) (Int32.ofNat a) T = _
    unfold c_X1_next_146_b
    rw [h.len, Option.bind_some, if_neg (fun q => by have := (ole (n := M) (m := a) (by omega) (by omega)).mp q; omega), e_nx159 h hM hc ha (by omega)]
    exact K () trivial
  · intro m _ _
    have l := ndc_le (Q := Q) (c := c) M
    show c_X1_next_146_b G k128 (c_X1_next_146 G k128 m) x0 x1 (some N1) x4 (Int32.ofNat b) (Int32.ofNat c) (Int32.ofNat (ndc Q c M)) (Int32.ofNat M) T = _
    unfold c_X1_next_146_b c_X1_next_233
    rw [h.len, Option.bind_some, if_pos (Int32.le_refl _), ofn1 c (by omega)]
    by_cases q : b < ndc Q c M
    · rw [if_pos q, if_pos ((olt (by omega) (by omega)).mpr q)]
    · rw [if_neg q, if_neg (fun r => q ((olt (by omega) (by omega)).mp r))]
/-! the reference's -/
variable {S : MS}
abbrev M23 (S : MS) (M : Nat) (Q : Nat → Nat → Int32) (n : Nat) : Prop := ∀ a c, a < M → c < n → S.2.2 23 (30 * a + c) = Q a c
theorem rd23 {k : Nat} (hk : k < 3600) : rdA S 23 (Int32.ofNat k) = some (S.2.2 23 k) := rdA_n (ocl (by omega)) (on0 (by omega)) hk
theorem wr23 {k : Nat} (hk : k < 3600) (v : Int32) : wrA S 23 (Int32.ofNat k) v = some (sA S 23 k v) := wrA_n (ocl (by omega)) (on0 (by omega)) hk
theorem i23 (a c : Nat) : (30 : Int32) * Int32.ofNat a + Int32.ofNat c = Int32.ofNat (30 * a + c) := by rw [show (30 : Int32) * Int32.ofNat a = Int32.ofNat (30 * a) from omul 30 a, oadd]
theorem r_nx122 {L : Nat} (hL : L ≤ 30) (h : M23 S M Q L) (hM : M ≤ 120) {c a n : Nat} (hc : c < L) (ha : a < M) (hn : n < 1000) {k95 : Int32 → Int32 → Int32 → Int32 → Int32 → MS → Option (Int32 × MS)} {k110 : Int32 → Int32 → Int32 → Int32 → Int32 → Int32 → Int32 → MS → Option (Int32 × MS)} {x1 x2 x3 x4 : Int32} : m_next_122 k95 k110 FU x1 x2 x3 x4 (Int32.ofNat c) (Int32.ofNat n) (Int32.ofNat a) 1 0 S = k110 x1 x2 x3 x4 (Int32.ofNat c) (Int32.ofNat (n + if nws Q c a a then 1 else 0)) (Int32.ofNat (a + 1)) S := by
  have fin : ∀ v : Int32, v = (if nws Q c a a then 1 else 0) → m_next_176 k95 k110 x1 x2 x3 x4 (Int32.ofNat c) (Int32.ofNat n) (Int32.ofNat a) v S = k110 x1 x2 x3 x4 (Int32.ofNat c) (Int32.ofNat (n + if nws Q c a a then 1 else 0)) (Int32.ofNat (a + 1)) S := by
    intro v hv
    unfold m_next_176 m_next_188
    rw [ofn1 a (by omega)]
    by_cases q : nws Q c a a
    · rw [if_pos q] at hv ⊢
      rw [hv, if_neg (by decide), ofn1 n (by omega)]
    · rw [if_neg q] at hv ⊢
      rw [hv, if_pos rfl, show Int32.ofNat n + 0 = Int32.ofNat (n + 0) from oadd n 0]
  refine loop_rule (σ := Int32) (N := a) (fun b v => v = if nws Q c a b then 1 else 0) (fun m b v => m_next_122 k95 k110 m x1 x2 x3 x4 (Int32.ofNat c) (Int32.ofNat n) (Int32.ofNat a) v (Int32.ofNat b) S = _) ?_ ?_ FU (by show a < 6000; omega) 1 (if_pos fun b' h' => absurd h' (Nat.not_lt_zero b')).symm
  · intro m b v hb hv K
    show m_next_122_b k95 k110 (m_next_122 k95 k110 m) x1 x2 x3 x4 (Int32.ofNat c) (Int32.ofNat n) (Int32.ofNat a) v (Int32.ofNat b) S = _
    unfold m_next_122_b
    rw [if_neg (fun q => by have := (ole (n := a) (m := b) (by omega) (by omega)).mp q; omega)]
    by_cases h0 : v = 0
    · rw [if_pos h0]
      refine fin v ?_
      rw [h0, if_neg (nws_stop v hv h0 (by omega))]
    · rw [if_neg h0]
      simp -implicitDefEqProofs only [i23, rd23 (S := S) (show 30 * a + c < 3600 by omega), rd23 (S := S) (show 30 * b + c < 3600 by omega), h a c ha hc, h b c (show b < M by omega) hc, m_next_168, ofn1 b (by omega), Option.bind_some, not_true_eq_false, if_false, if_true]
      have k := K _ (nws_succ v hv h0)
      by_cases q : Q b c = Q a c
      · rw [if_pos q] at k; rw [if_pos q.symm]; exact k
      · rw [if_neg q] at k; rw [if_neg (fun r => q r.symm)]; exact k
  · intro m v hv
    show m_next_122_b k95 k110 (m_next_122 k95 k110 m) x1 x2 x3 x4 (Int32.ofNat c) (Int32.ofNat n) (Int32.ofNat a) v (Int32.ofNat a) S = _
    unfold m_next_122_b
    rw [if_pos (Int32.le_refl _)]
    exact fin v hv
theorem r_nx110 {L : Nat} (hL : L ≤ 30) (h : M23 S M Q L) (hM : M ≤ 120) {c b : Nat} (hc : c < L) (hb : b ≤ M) {k95 : Int32 → Int32 → Int32 → Int32 → Int32 → MS → Option (Int32 × MS)} {x1 x3 : Int32} : m_next_110 k95 FU x1 (Int32.ofNat M) x3 (Int32.ofNat b) (Int32.ofNat c) 0 0 S = if b < ndc Q c M then k95 x1 (Int32.ofNat M) (Int32.ofNat c) (Int32.ofNat (ndc Q c M)) (Int32.ofNat (c + 1)) S else k95 x1 (Int32.ofNat M) x3 (Int32.ofNat b) (Int32.ofNat (c + 1)) S := by
  refine loop_rule (σ := Unit) (N := M) (fun _ _ => True) (fun m a _ => m_next_110 k95 m x1 (Int32.ofNat M) x3 (Int32.ofNat b) (Int32.ofNat c) (Int32.ofNat (ndc Q c a)) (Int32.ofNat a) S = _) ?_ ?_ FU (by show M < 6000; omega) () trivial
  · intro m a _ ha _ K
    have l := ndc_le (Q := Q) (c := c) a
    show m_next_110_b k95 (m_next_110 k95 m) x1 (Int32.ofNat M) x3 (Int32.ofNat b) (Int32.ofNat c) (Int32.ofNat (ndc Q c a)) (Int32.ofNat a) S = _
    unfold m_next_110_b
    rw [if_neg (fun q => by have := (ole (n := M) (m := a) (by omega) (by omega)).mp q; omega), r_nx122 hL h hM hc ha (by omega)]
    exact K () trivial
  · intro m _ _
    have l := ndc_le (Q := Q) (c := c) M
    show m_next_110_b k95 (m_next_110 k95 m) x1 (Int32.ofNat M) x3 (Int32.ofNat b) (Int32.ofNat c) (Int32.ofNat (ndc Q c M)) (Int32.ofNat M) S = _
    unfold m_next_110_b m_next_214
    rw [if_pos (Int32.le_refl _), ofn1 c (by omega)]
    by_cases q : b < ndc Q c M
    · rw [if_pos q, if_pos ((olt (by omega) (by omega)).mpr q)]
    · rw [if_neg q, if_neg (fun r => q ((olt (by omega) (by omega)).mp r))]
end SP
section CM
variable {G : xG} {T T1 : xF} {o : Nat} {s s' : St} {A A' : Ad} {S S1 : MS} {g : Gw} {Q : Nat → Nat → Int32} {M N1 : Nat}
theorem e_nx128 (ok : StOK s) (h : CIa G T o s A) (hm : MxAt T N1 M 30 Q) (hM : M < 1000) (w : Int32) : c_X1_next_128 G FU (some o) w (some N1) (-1) 0 0 T = some (.inl (if w = 0 then (bmc Q M (eN (sE s))).1 else Int32.ofNat (bmc Q M (eN (sE s))).2), T) := by
  have hn := ok.1.n30
  refine loop_rule (σ := Unit) (N := eN (sE s)) (fun _ _ => True) (fun m c _ => c_X1_next_128 G m (some o) w (some N1) (bmc Q M c).1 (Int32.ofNat (bmc Q M c).2) (Int32.ofNat c) T = _) ?_ ?_ FU (by show eN (sE s) < 6000; omega) () trivial
  · intro m c _ hc _ K
    have c3 : c < 30 := by omega
    have l := bmc_le (Q := Q) (M := M) c
    show c_X1_next_128_b G (c_X1_next_128 G m) (some o) w (some N1) (bmc Q M c).1 (Int32.ofNat (bmc Q M c).2) (Int32.ofNat c) T = _
    unfold c_X1_next_128_b
    simp -implicitDefEqProofs only [h.q1, h.isr, h.cells ok, leN hc hn, e_nx146 hm hM c3 l, Option.bind_some, not_true_eq_false, if_false, if_true]
    have k := K () trivial
    by_cases q : (bmc Q M c).2 < ndc Q c M
    · rw [show bmc Q M (c + 1) = _ from if_pos q] at k
      rw [if_pos q]; exact k
    · rw [show bmc Q M (c + 1) = _ from if_neg q] at k
      rw [if_neg q]; exact k
  · intro m _ _
    show c_X1_next_128_b G (c_X1_next_128 G m) (some o) w (some N1) (bmc Q M (eN (sE s))).1 (Int32.ofNat (bmc Q M (eN (sE s))).2) (Int32.ofNat (eN (sE s))) T = _
    unfold c_X1_next_128_b
    simp -implicitDefEqProofs only [h.q1, h.isr, h.cells ok, Int32.le_refl, Option.bind_some, not_true_eq_false, if_false, if_true]
    by_cases hw : w = 0
    · rw [if_pos hw, if_pos hw]
    · rw [if_neg hw, if_neg hw]
theorem r_nx95 (ok : StOK s) (h : MI S s) (hm : M23 S M Q (eN (sE s))) (hM : M ≤ 120) (w : Int32) : m_next_95 FU w (Int32.ofNat M) (-1) 0 0 S = some (if w = 0 then (bmc Q M (eN (sE s))).1 else Int32.ofNat (bmc Q M (eN (sE s))).2, S) := by
  have hn := ok.1.n30
  refine loop_rule (σ := Unit) (N := eN (sE s)) (fun _ _ => True) (fun m c _ => m_next_95 m w (Int32.ofNat M) (bmc Q M c).1 (Int32.ofNat (bmc Q M c).2) (Int32.ofNat c) S = _) ?_ ?_ FU (by show eN (sE s) < 6000; omega) () trivial
  · intro m c _ hc _ K
    have l := bmc_le (Q := Q) (M := M) c
    show m_next_95_b (m_next_95 m) w (Int32.ofNat M) (bmc Q M c).1 (Int32.ofNat (bmc Q M c).2) (Int32.ofNat c) S = _
    unfold m_next_95_b
    simp -implicitDefEqProofs only [v_cells ok h, leN hc hn, r_nx110 hn hm hM hc l, Option.bind_some, not_true_eq_false, if_false, if_true]
    have k := K () trivial
    by_cases q : (bmc Q M c).2 < ndc Q c M
    · rw [show bmc Q M (c + 1) = _ from if_pos q] at k
      rw [if_pos q]; exact k
    · rw [show bmc Q M (c + 1) = _ from if_neg q] at k
      rw [if_neg q]; exact k
  · intro m _ _
    show m_next_95_b (m_next_95 m) w (Int32.ofNat M) (bmc Q M (eN (sE s))).1 (Int32.ofNat (bmc Q M (eN (sE s))).2) (Int32.ofNat (eN (sE s))) S = _
    unfold m_next_95_b
    simp -implicitDefEqProofs only [v_cells ok h, Int32.le_refl, Option.bind_some, not_true_eq_false, if_false, if_true]
    by_cases hw : w = 0
    · rw [if_pos hw, if_pos hw]
    · rw [if_neg hw, if_neg hw]
end CM
