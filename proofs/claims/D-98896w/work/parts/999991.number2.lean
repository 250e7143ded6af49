/-! plain law: a number, a cell, a kind, read on both sides -/
set_option maxRecDepth 100000
section PJ
variable {G : xG} {T T' : xF} {rd nm tp p : Nat} {t : Tpe} {fx : Fx} {dn ce : Int32} {S S' : MS}
/-- a number that may stand here -/
def nOK (t : Tpe) (p lo hi : Nat) : Prop := tS t p = 2 ∧ tE t p - tB t p ≤ 4 ∧ lo ≤ nmF t p ∧ nmF t p ≤ hi
theorem PG.i21 (h : PG G T S t fx tp rd nm dn ce p) : S.1 21 = Int32.ofNat (tE t p - tB t p) := h.tk.2.2.2.1
theorem PG.i22 (h : PG G T S t fx tp rd nm dn ce p) (s2 : tS t p = 2) (l4 : tE t p - tB t p ≤ 4) : S.1 22 = Int32.ofNat (nmF t p) := by
  rw [h.tk.2.2.2.2.1 s2, show min 4 (tE t p - tB t p) = tE t p - tB t p by omega]
theorem PG.i19 (h : PG G T S t fx tp rd nm dn ce p) : S.1 19 = Int32.ofNat (tS t p) := h.tk.2.1
theorem PG.i20 (h : PG G T S t fx tp rd nm dn ce p) : S.1 20 = Int32.ofNat (tB t p) := h.tk.2.2.1
theorem r_number_g (h : PG G T S t fx tp rd nm dn ce p) {lo hi : Nat} (hlo : lo < 20000) (hhi : hi < 20000) (ok : nOK t p lo hi) : m_number (Int32.ofNat lo) (Int32.ofNat hi) S = (m_goes S).bind fun q67 => some (Int32.ofNat (nmF t p), q67) := by
  obtain ⟨s2, l4, c1, c2⟩ := ok
  have nl := nmF_lt s2 l4
  unfold m_number m_number_54
  rw [r_good h.gd, Option.bind_some, if_neg (show ¬ (1 : Int32) = 0 by decide), h.i19, if_pos (show Int32.ofNat (tS t p) = 2 by rw [s2]; rfl), h.i21, if_neg (show ¬ (4 : Int32) < Int32.ofNat (tE t p - tB t p) from fun q => by have := (olt (n := 4) (m := tE t p - tB t p) (by omega) (by omega)).mp q; omega), h.i22 s2 l4, if_neg (fun q => by have := (olt (by omega) (by omega)).mp q; omega), if_pos ((ole (by omega) (by omega)).mpr c2), Option.bind_some, if_neg (show ¬ (1 : Int32) = 0 by decide)]
theorem r_number_b (h : PG G T S t fx tp rd nm dn ce p) {lo hi : Nat} (hlo : lo < 20000) (hhi : hi < 20000) (ok : ¬ nOK t p lo hi) : Mn (m_number (Int32.ofNat lo) (Int32.ofNat hi) S) fun q => Pkp S q.2 ∧ q.2.1 14 = (if tS t p = 2 then 2 else 1) ∧ q.2.1 15 = S.1 20 := by
  have hl := tE_le h.pl
  have h7 := h.h7
  have w2 : ∀ k : Int32, k ≠ 0 → Mn ((m_wrong k S).bind fun q => m_number_54 q) fun q => Pkp S q.2 ∧ q.2.1 14 = k ∧ q.2.1 15 = S.1 20 := fun k hk => by
    refine Mn.bw (r_wrong_g h.gd hk) fun S1 ⟨a, b, c, _⟩ => ?_
    unfold m_number_54
    rw [r_bad (by rw [b]; exact hk), Option.bind_some, if_pos rfl]
    exact Mn.ret ⟨a, b, c⟩
  unfold m_number
  rw [r_good h.gd, Option.bind_some, if_neg (show ¬ (1 : Int32) = 0 by decide), h.i19]
  by_cases s2 : tS t p = 2
  · rw [if_pos (show Int32.ofNat (tS t p) = 2 by rw [s2]; rfl), h.i21, if_pos s2]
    unfold m_number_49
    by_cases l4 : tE t p - tB t p ≤ 4
    · have nl := nmF_lt s2 l4
      rw [if_neg (show ¬ (4 : Int32) < Int32.ofNat (tE t p - tB t p) from fun q => by have := (olt (n := 4) (m := tE t p - tB t p) (by omega) (by omega)).mp q; omega), h.i22 s2 l4]
      by_cases c1 : lo ≤ nmF t p
      · rw [if_neg (fun q => by have := (olt (by omega) (by omega)).mp q; omega)]
        by_cases c2 : nmF t p ≤ hi
        · exact absurd ⟨s2, l4, c1, c2⟩ ok
        · rw [if_neg (fun q => c2 ((ole (by omega) (by omega)).mp q))]
          exact w2 2 (by decide)
      · rw [if_pos ((olt (by omega) (by omega)).mpr (by omega))]
        exact w2 2 (by decide)
    · rw [if_pos (show (4 : Int32) < Int32.ofNat (tE t p - tB t p) from (olt (n := 4) (m := tE t p - tB t p) (by omega) (by omega)).mpr (by omega))]
      exact w2 2 (by decide)
  · rw [if_neg (show ¬ Int32.ofNat (tS t p) = 2 from fun q => s2 ((tS_ne (k := 2) (by decide)).mp q)), if_neg s2]
    exact w2 1 (by decide)
/-- what both have after a step that may fail -/
abbrev Stq (rd : Nat) (T : xF) (S : MS) (T' : xF) (S' : MS) : Prop := Fr rd T T' ∧ T'.2.1 ≤ T.2.1 + 1 ∧ T'.2.2 ≤ T.2.2 + 7 ∧ Pkp S S'
theorem j_number (h : PG G T S t fx tp rd nm dn ce p) {lo hi : Nat} (hlo : lo < 20000) (hhi : hi < 20000) : Jn T (c_X5_number G (some rd) (Int32.ofNat lo) (Int32.ofNat hi) T) (m_number (Int32.ofNat lo) (Int32.ofNat hi) S) fun v T' q => Stq rd T S T' q.2 ∧ match v with
    | .inl a => a = Int32.ofNat (nmF t p) ∧ q.1 = a ∧ nOK t p lo hi ∧ PG G T' q.2 t fx tp rd nm dn ce (tE t p) ∧ q.2.1 15 = S.1 15
    | .inr e => PB T' q.2 e rd := by
  unfold c_X5_number
  rw [if_neg (not_not_intro h.is)]
  rcases e_numberNow h hlo hhi with ⟨s2, l4, c1, c2, e⟩ | ⟨nok, T', e, l, f, n1, n2, w⟩
  · have ok : nOK t p lo hi := ⟨s2, l4, c1, c2⟩
    refine Jn.okX e ?_
    rw [if_neg (not_not_intro h.is), r_number_g h hlo hhi ok]
    refine Jn.cl (y_next h) fun _ T1 _ ⟨f1, r1⟩ => ?_
    refine Jn.mb (q_next h) fun S1 ⟨k1, p1, g1, g2⟩ => ?_
    exact Jn.ret ⟨⟨f1.c, by rw [f1.1]; omega, by rw [f1.1]; omega, p1⟩, rfl, rfl, ok, h.next f1 r1 k1 p1 g1, g2⟩
  · obtain ⟨q, eq, p1, p2, p3⟩ := r_number_b h hlo hhi nok
    refine Jn.thX e l eq ⟨⟨⟨l.1, fun x hx _ => f x (by omega)⟩, by omega, by omega, p1⟩, ?_⟩
    by_cases s2 : tS t p = 2
    · rw [if_pos s2] at w p2
      exact PB.mk (k := 2) h (by decide) (by decide) f w p2 p3
    · rw [if_neg s2] at w p2
      exact PB.mk (k := 1) h (by decide) (by decide) f w p2 p3
/-- the reference's look at a number below some -/
theorem r_among (h : PG G T S t fx tp rd nm dn ce p) {m : Nat} (hm : m < 20000) : Mn (m_amongHere (Int32.ofNat m) S) fun q => Pkp S q.2 ∧ ((nOK t p 0 9999 ∧ nmF t p < m ∧ q = (1, S)) ∨ (¬ (nOK t p 0 9999 ∧ nmF t p < m) ∧ q.1 = 0 ∧ q.2.1 14 = (if tS t p = 2 then (if tE t p - tB t p ≤ 4 then 3 else 2) else 1) ∧ q.2.1 15 = S.1 20)) := by
  have hl := tE_le h.pl
  have h7 := h.h7
  have w2 : ∀ k : Int32, k ≠ 0 → Mn ((m_wrong k S).bind fun q => m_amongHere_54 q) fun q => Pkp S q.2 ∧ q.1 = 0 ∧ q.2.1 14 = k ∧ q.2.1 15 = S.1 20 := fun k hk => by
    refine Mn.bw (r_wrong_g h.gd hk) fun S1 ⟨a, b, c, _⟩ => ?_
    unfold m_amongHere_54
    rw [r_bad (by rw [b]; exact hk), Option.bind_some, if_neg (by rw [zok0]; simp)]
    exact Mn.ret ⟨a, rfl, b, c⟩
  unfold m_amongHere
  rw [r_good h.gd, Option.bind_some, if_neg (show ¬ (1 : Int32) = 0 by decide), h.i19]
  by_cases s2 : tS t p = 2
  · rw [if_pos (show Int32.ofNat (tS t p) = 2 by rw [s2]; rfl), h.i21, if_pos s2]
    by_cases l4 : tE t p - tB t p ≤ 4
    · have nl := nmF_lt s2 l4
      rw [if_pos (show Int32.ofNat (tE t p - tB t p) ≤ 4 from (ole (n := tE t p - tB t p) (m := 4) (by omega) (by omega)).mpr l4), h.i22 s2 l4, if_pos l4]
      by_cases c : nmF t p < m
      · rw [if_pos ((olt (by omega) (by omega)).mpr c)]
        unfold m_amongHere_54
        rw [r_good h.gd, Option.bind_some, if_neg (by rw [zok1]; simp)]
        exact Mn.ret ⟨Pkp.rf, Or.inl ⟨⟨s2, l4, by omega, by omega⟩, c, rfl⟩⟩
      · rw [if_neg (fun q => c ((olt (by omega) (by omega)).mp q))]
        exact (w2 3 (by decide)).mono fun q ⟨a, b, d, e⟩ => ⟨a, Or.inr ⟨fun z => c z.2, b, d, e⟩⟩
    · rw [if_neg (show ¬ Int32.ofNat (tE t p - tB t p) ≤ 4 from fun q => l4 ((ole (n := tE t p - tB t p) (m := 4) (by omega) (by omega)).mp q)), if_neg l4]
      exact (w2 2 (by decide)).mono fun q ⟨a, b, d, e⟩ => ⟨a, Or.inr ⟨fun z => l4 z.1.2.1, b, d, e⟩⟩
  · rw [if_neg (show ¬ Int32.ofNat (tS t p) = 2 from fun q => s2 ((tS_ne (k := 2) (by decide)).mp q)), if_neg s2]
    exact (w2 1 (by decide)).mono fun q ⟨a, b, d, e⟩ => ⟨a, Or.inr ⟨fun z => s2 z.1.1, b, d, e⟩⟩
/-- both look at a number below some: the system by numberNow, then by a test of its own -/
theorem j_among {α β : Type} (h : PG G T S t fx tp rd nm dn ce p) {m : Nat} (hm : m < 20000) {k1 : Int32 → xF → Option ((α ⊕ xE) × xF)} {k2 : Int32 × MS → Option β} {Q : α ⊕ xE → xF → β → Prop}
    (ok : nOK t p 0 9999 → nmF t p < m → Jn T (k1 (Int32.ofNat (nmF t p)) T) (k2 (1, S)) Q)
    (no : nOK t p 0 9999 → ¬ nmF t p < m → ∀ S', Pkp S S' → S'.1 14 = 3 → S'.1 15 = S.1 20 → Jn T (k1 (Int32.ofNat (nmF t p)) T) (k2 (0, S')) Q)
    (bad : ∀ T' S', frc (fun _ => False) T T' → T'.2.1 = T.2.1 + 1 → T'.2.2 = T.2.2 + 7 → PB T' S' (WR, T.2.1) rd → Pkp S S' → ∃ b, k2 (0, S') = some b ∧ Q (.inr (WR, T.2.1)) T' b) :
    Jn T (clX (c_X5_numberNow G (some rd) 0 9999 T) T k1) ((m_amongHere (Int32.ofNat m) S).bind k2) Q := by
  obtain ⟨q, eq, p1, pq⟩ := r_among h hm
  refine Jn.md eq ?_
  rcases e_numberNow h (lo := 0) (hi := 9999) (by decide) (by decide) with ⟨s2, l4, c1, c2, e⟩ | ⟨nok, T', e, l, f, n1, n2, w⟩
  · refine Jn.okX e ?_
    rcases pq with ⟨q1, q2, q3⟩ | ⟨q1, q2, q3, q4⟩
    · subst q3
      exact ok q1 q2
    · rw [if_pos s2, if_pos l4] at q3
      rw [show q = (q.1, q.2) from rfl, q2]
      exact no ⟨s2, l4, c1, c2⟩ (fun z => q1 ⟨⟨s2, l4, c1, c2⟩, z⟩) q.2 p1 q3 q4
  · rcases pq with ⟨q1, q2, q3⟩ | ⟨q1, q2, q3, q4⟩
    · exact absurd q1 nok
    · have hb : PB T' q.2 (WR, T.2.1) rd := by
        by_cases s2 : tS t p = 2
        · have l4 : ¬ tE t p - tB t p ≤ 4 := fun z => nok ⟨s2, z, Nat.zero_le _, by have := nmF_lt s2 z; omega⟩
          rw [if_pos s2] at w
          rw [if_pos s2, if_neg l4] at q3
          exact PB.mk (k := 2) h (by decide) (by decide) f w q3 q4
        · rw [if_neg s2] at w q3
          exact PB.mk (k := 1) h (by decide) (by decide) f w q3 q4
      obtain ⟨b, eb, hq⟩ := bad T' q.2 ⟨l.1, fun x hx _ => f x (by omega)⟩ n1 n2 hb p1
      exact Jn.thX e l (by rw [show q = (q.1, q.2) from rfl, q2]; exact eb) hq
end PJ
