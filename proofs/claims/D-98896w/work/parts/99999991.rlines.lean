/-! plain law: the reference's way through a line -/
set_option maxRecDepth 100000
def RT (S : MS) (t : Tpe) (p : Nat) : Prop := TkM S t p ∧ Tp4 S t ∧ p ≤ t.2 ∧ S.1 14 = 0
def LF (S0 S : MS) : Prop := (∀ k, k < 14 ∨ k = 16 ∨ k = 17 ∨ 37 ≤ k → S.1 k = S0.1 k) ∧ ∀ j, j < 6 ∨ 12 < j → S.2.2 j = S0.2.2 j
def BL (S0 : MS) (k b : Nat) (S : MS) : Prop := S.1 14 = Int32.ofNat k ∧ S.1 15 = Int32.ofNat b ∧ 0 < k ∧ k < 10 ∧ LF S0 S
def opt (b : Bool) (v : Nat) : Int32 := if b = true then Int32.ofNat v else -1
def YF (S : MS) (Y : Yx) : Prop := S.1 25 = opt (dup Y 0) (yW Y) ∧ S.1 26 = opt (dup Y 0) (yH Y) ∧ S.1 27 = Int32.ofNat (yP Y).1 ∧ (∀ k, k < (yP Y).1 → S.2.2 6 k = Int32.ofNat ((yP Y).2 k)) ∧ S.1 28 = Int32.ofNat (yT Y).1 ∧ (∀ k, k < (yT Y).1 → S.2.2 7 k = Int32.ofNat ((yT Y).2 k)) ∧ S.1 29 = opt (dup Y 2) (yA Y) ∧ S.1 30 = opt (dup Y 3) (yS Y) ∧ S.1 31 = opt (dup Y 4) (yg Y) ∧ S.1 32 = opt (dup Y 5) (yb Y) ∧ Cd S (yL Y) ∧ (∀ c, c < 30 → S.2.2 12 c = if yC Y c = true then 1 else 0) ∧ AtJ (S.2.2 8) 0 (yR Y)
/-- what can be -/
def YW (Y : Yx) : Prop := (1 ≤ yW Y ∧ yW Y ≤ 6 ∧ 1 ≤ yH Y ∧ yH Y ≤ 5 ∧ (dup Y 0 = false → yW Y = 3 ∧ yH Y = 3)) ∧ ((yT Y).1 ≤ 8 ∧ (dup Y 1 = true ↔ 0 < (yT Y).1)) ∧ (yP Y).1 ≤ 4 ∧ (yA Y ≤ 99 ∧ yS Y ≤ 99) ∧ (yg Y ≤ 1400 ∧ yb Y ≤ 1400) ∧ ∀ c, c < 30 → gK (yR Y) c = -1 ∨ ∃ k, k < 4 ∧ gK (yR Y) c = Int32.ofNat k
def YB (S0 S : MS) (t : Tpe) (Y : Yx) (p : Nat) : Prop := RT S t p ∧ S.1 15 = -1 ∧ LF S0 S ∧ YF S Y ∧ (yL Y).length ≤ 2 * p
theorem YF.pk {S S' : MS} {Y : Yx} (h : YF S Y) (k : Pkp S S') : YF S' Y := by
  obtain ⟨a1, a2, a3, a4, a5, a6, a7, a8, a9, a10, a11, a12, a13⟩ := h
  obtain ⟨k1, k2⟩ := k
  refine ⟨(k1 25 (by decide)).trans a1, (k1 26 (by decide)).trans a2, (k1 27 (by decide)).trans a3, by rw [k2]; exact a4, (k1 28 (by decide)).trans a5, by rw [k2]; exact a6, (k1 29 (by decide)).trans a7, (k1 30 (by decide)).trans a8, (k1 31 (by decide)).trans a9, (k1 32 (by decide)).trans a10, ⟨(k1 33 (by decide)).trans a11.1, by rw [k2]; exact a11.2⟩, by rw [k2]; exact a12, by rw [k2]; exact a13⟩
theorem LF.pk {S0 S S' : MS} (h : LF S0 S) (k : Pkp S S') : LF S0 S' := ⟨fun i q => (k.1 i (by omega)).trans (h.1 i q), fun j q => by rw [k.2]; exact h.2 j q⟩
section RL
variable {t : Tpe} (h7 : t.2 ≤ 700) (hc : ∀ k, t.1 k < 256) {S0 S : MS} {p : Nat} {Y : Yx}
theorem BL.nb {k b : Nat} (h : BL S0 k b S) : ¬ S.1 14 = 0 := by
  rw [h.1]; exact fun q => by have := (oeq (n := k) (m := 0) (by have := h.2.2.2.1; omega) (by omega)).mp q; have := h.2.2.1; omega
theorem RT.i22 (h : RT S t p) {lo hi : Nat} (ok : nOK t p lo hi) : S.1 22 = Int32.ofNat (nmF t p) := by
  have l4 := ok.2.1
  rw [h.1.2.2.2.2.1 ok.1, show min 4 (tE t p - tB t p) = tE t p - tB t p by omega]
theorem r_numB {lo hi : Int32} (h : ¬ S.1 14 = 0) : m_number lo hi S = some (0, S) := by
  unfold m_number
  rw [r_bad h, Option.bind_some, if_pos rfl]
theorem r_amoB {m : Int32} (h : ¬ S.1 14 = 0) : m_amongHere m S = some (0, S) := by
  unfold m_amongHere
  rw [r_bad h, Option.bind_some, if_pos rfl]
theorem RT.nx (h7 : t.2 ≤ 700) (hc : ∀ k, t.1 k < 256) (h : RT S t p) : Mn (m_goes S) fun S' => RT S' t (tE t p) ∧ Pkp S S' ∧ S'.1 15 = S.1 15 := by
  have hl := tE_le h.2.2.1
  refine (r_goes h7 hc hl h.2.1 h.1.1).mono fun S' ⟨k1, k2, k3⟩ => ⟨⟨k1, ⟨(k2 17 (by decide)).trans h.2.1.1, by rw [k3]; exact h.2.1.2⟩, hl, (k2 14 (by decide)).trans h.2.2.2⟩, ⟨fun k q => k2 k (by omega), k3⟩, k2 15 (by decide)⟩
theorem r_num (h7 : t.2 ≤ 700) (hc : ∀ k, t.1 k < 256) (h : RT S t p) {lo hi : Nat} (hlo : lo < 20000) (hhi : hi < 20000) : Mn (m_number (Int32.ofNat lo) (Int32.ofNat hi) S) fun q => Pkp S q.2 ∧ (nOK t p lo hi → q.1 = Int32.ofNat (nmF t p) ∧ RT q.2 t (tE t p) ∧ q.2.1 15 = S.1 15) ∧ (¬ nOK t p lo hi → q.2.1 14 = Int32.ofNat (if tS t p = 2 then 2 else 1) ∧ q.2.1 15 = Int32.ofNat (tB t p)) := by
  have hl := tE_le h.2.2.1
  have hg := h.2.2.2
  have tk := h.1
  have w2 : ∀ k : Nat, 0 < k → k < 10 → Mn ((m_wrong (Int32.ofNat k) S).bind fun q => m_number_54 q) fun q => Pkp S q.2 ∧ q.2.1 14 = Int32.ofNat k ∧ q.2.1 15 = Int32.ofNat (tB t p) := fun k hk hk2 => by
    refine Mn.bw (r_wrong_g hg (fun z => by have := (oeq (n := k) (m := 0) (by omega) (by omega)).mp z; omega)) fun S1 ⟨a, b, c, _⟩ => ?_
    unfold m_number_54
    rw [r_bad (by rw [b]; exact fun z => by have := (oeq (n := k) (m := 0) (by omega) (by omega)).mp z; omega), Option.bind_some, if_pos rfl]
    exact Mn.ret ⟨a, b, c.trans tk.2.2.1⟩
  have w3 : ¬ nOK t p lo hi → tS t p = 2 → Mn (m_number_49 S) fun q => Pkp S q.2 ∧ (nOK t p lo hi → q.1 = Int32.ofNat (nmF t p) ∧ RT q.2 t (tE t p) ∧ q.2.1 15 = S.1 15) ∧ (¬ nOK t p lo hi → q.2.1 14 = Int32.ofNat (if tS t p = 2 then 2 else 1) ∧ q.2.1 15 = Int32.ofNat (tB t p)) := fun n s2 => (w2 2 (by decide) (by decide)).mono fun q ⟨a, b, c⟩ => ⟨a, fun z => absurd z n, fun _ => ⟨by rw [if_pos s2]; exact b, c⟩⟩
  unfold m_number
  rw [r_good hg, Option.bind_some, if_neg (show ¬ (1 : Int32) = 0 by decide), tk.2.1]
  by_cases s2 : tS t p = 2
  · rw [if_pos (show Int32.ofNat (tS t p) = 2 by rw [s2]; rfl), tk.2.2.2.1]
    by_cases l4 : tE t p - tB t p ≤ 4
    · have nl := nmF_lt s2 l4
      have e22 : S.1 22 = Int32.ofNat (nmF t p) := by rw [tk.2.2.2.2.1 s2, show min 4 (tE t p - tB t p) = tE t p - tB t p by omega]
      rw [if_neg (show ¬ (4 : Int32) < Int32.ofNat (tE t p - tB t p) from fun q => by have := (olt (n := 4) (m := tE t p - tB t p) (by omega) (by omega)).mp q; omega), e22]
      by_cases c1 : lo ≤ nmF t p
      · rw [if_neg (fun q => by have := (olt (by omega) (by omega)).mp q; omega)]
        by_cases c2 : nmF t p ≤ hi
        · rw [if_pos ((ole (by omega) (by omega)).mpr c2)]
          unfold m_number_54
          rw [r_good hg, Option.bind_some, if_neg (show ¬ (1 : Int32) = 0 by decide)]
          refine Mn.bw (h.nx h7 hc) fun S1 ⟨a, b, c⟩ => Mn.ret ⟨b, fun _ => ⟨e22, a, c⟩, fun n => absurd ⟨s2, l4, c1, c2⟩ n⟩
        · rw [if_neg (fun q => c2 ((ole (by omega) (by omega)).mp q))]
          exact w3 (fun z => c2 z.2.2.2) s2
      · rw [if_pos ((olt (by omega) (by omega)).mpr (by omega))]
        exact w3 (fun z => c1 z.2.2.1) s2
    · rw [if_pos (show (4 : Int32) < Int32.ofNat (tE t p - tB t p) from (olt (n := 4) (m := tE t p - tB t p) (by omega) (by omega)).mpr (by omega))]
      exact w3 (fun z => l4 z.2.1) s2
  · rw [if_neg (show ¬ Int32.ofNat (tS t p) = 2 from fun q => s2 ((tS_ne (k := 2) (by decide)).mp q))]
    exact (w2 1 (by decide) (by decide)).mono fun q ⟨a, b, c⟩ => ⟨a, fun z => absurd z.1 s2, fun _ => ⟨by rw [if_neg s2]; exact b, c⟩⟩
theorem r_amo (h7 : t.2 ≤ 700) (h : RT S t p) {m : Nat} (hm : m < 20000) : Mn (m_amongHere (Int32.ofNat m) S) fun q => Pkp S q.2 ∧ (∀ v, pAmo t p m = .inr v → q = (1, S) ∧ v < m ∧ nOK t p 0 9999 ∧ v = nmF t p) ∧ ∀ k b, pAmo t p m = .inl (k, b) → q.1 = 0 ∧ q.2.1 14 = Int32.ofNat k ∧ q.2.1 15 = Int32.ofNat b := by
  have hl := tE_le h.2.2.1
  have hg := h.2.2.2
  have tk := h.1
  have w2 : ∀ k : Nat, 0 < k → k < 10 → pAmo t p m = .inl (k, tB t p) → Mn ((m_wrong (Int32.ofNat k) S).bind fun q => m_amongHere_54 q) fun q => Pkp S q.2 ∧ (∀ v, pAmo t p m = .inr v → q = (1, S) ∧ v < m ∧ nOK t p 0 9999 ∧ v = nmF t p) ∧ ∀ k b, pAmo t p m = .inl (k, b) → q.1 = 0 ∧ q.2.1 14 = Int32.ofNat k ∧ q.2.1 15 = Int32.ofNat b := fun k hk hk2 hp => by
    refine Mn.bw (r_wrong_g hg (fun z => by have := (oeq (n := k) (m := 0) (by omega) (by omega)).mp z; omega)) fun S1 ⟨a, b, c, _⟩ => ?_
    unfold m_amongHere_54
    rw [r_bad (by rw [b]; exact fun z => by have := (oeq (n := k) (m := 0) (by omega) (by omega)).mp z; omega), Option.bind_some, if_neg (by rw [zok0]; simp)]
    refine Mn.ret ⟨a, fun v q => (by rw [hp] at q; cases q), fun k2 b2 q => ?_⟩
    rw [hp] at q
    have q := Sum.inl.inj q
    have q1 : k = k2 := congrArg Prod.fst q
    have q2 : tB t p = b2 := congrArg Prod.snd q
    subst q1 q2
    exact ⟨rfl, b, c.trans tk.2.2.1⟩
  unfold m_amongHere
  rw [r_good hg, Option.bind_some, if_neg (show ¬ (1 : Int32) = 0 by decide), tk.2.1]
  by_cases s2 : tS t p = 2
  · rw [if_pos (show Int32.ofNat (tS t p) = 2 by rw [s2]; rfl), tk.2.2.2.1]
    by_cases l4 : tE t p - tB t p ≤ 4
    · have nl := nmF_lt s2 l4
      have e22 : S.1 22 = Int32.ofNat (nmF t p) := by rw [tk.2.2.2.2.1 s2, show min 4 (tE t p - tB t p) = tE t p - tB t p by omega]
      have ok : nOK t p 0 9999 := ⟨s2, l4, by omega, by omega⟩
      rw [if_pos (show Int32.ofNat (tE t p - tB t p) ≤ 4 from (ole (n := tE t p - tB t p) (m := 4) (by omega) (by omega)).mpr l4), e22]
      by_cases c : nmF t p < m
      · have hp : pAmo t p m = .inr (nmF t p) := by
          unfold pAmo
          rw [pNum_ok ok, sbd_r, if_pos c]
        rw [if_pos ((olt (by omega) (by omega)).mpr c)]
        unfold m_amongHere_54
        rw [r_good hg, Option.bind_some, if_neg (by rw [zok1]; simp)]
        refine Mn.ret ⟨Pkp.rf, fun v q => ?_, fun k b q => (by rw [hp] at q; cases q)⟩
        rw [hp] at q
        have q := Sum.inr.inj q
        subst q
        exact ⟨rfl, c, ok, rfl⟩
      · rw [if_neg (fun q => c ((olt (by omega) (by omega)).mp q))]
        refine w2 3 (by decide) (by decide) ?_
        unfold pAmo
        rw [pNum_ok ok, sbd_r, if_neg c]
    · rw [if_neg (show ¬ Int32.ofNat (tE t p - tB t p) ≤ 4 from fun q => l4 ((ole (n := tE t p - tB t p) (m := 4) (by omega) (by omega)).mp q))]
      refine w2 2 (by decide) (by decide) ?_
      unfold pAmo
      rw [pNum_no (fun z => l4 z.2.1), sbd_l, if_pos s2]
  · rw [if_neg (show ¬ Int32.ofNat (tS t p) = 2 from fun q => s2 ((tS_ne (k := 2) (by decide)).mp q))]
    refine w2 1 (by decide) (by decide) ?_
    unfold pAmo
    rw [pNum_no (fun z => s2 z.1), sbd_l, if_neg s2]
end RL
