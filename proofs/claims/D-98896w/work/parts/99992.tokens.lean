/-! plain law: what stands on the tape, told as numbers -/
set_option maxRecDepth 100000
/-- bytes, and how many -/
abbrev Tpe : Type := (Nat → Nat) × Nat
def scn (q : Nat → Bool) (n : Nat) : Nat → Nat → Nat
  | 0, p => p
  | d + 1, p => if p < n ∧ q p = true then scn q n d (p + 1) else p
theorem scn_ge {q : Nat → Bool} {n : Nat} : ∀ d p, p ≤ scn q n d p := by
  intro d
  induction d with
  | zero => intro p; exact Nat.le_refl _
  | succ d ih =>
    intro p
    show p ≤ if p < n ∧ q p = true then scn q n d (p + 1) else p
    split
    · have := ih (p + 1); omega
    · exact Nat.le_refl _
theorem scn_le {q : Nat → Bool} {n : Nat} : ∀ d p, p ≤ n → scn q n d p ≤ n := by
  intro d
  induction d with
  | zero => intro p h; exact h
  | succ d ih =>
    intro p h
    show (if p < n ∧ q p = true then scn q n d (p + 1) else p) ≤ n
    split
    · exact ih (p + 1) (by omega)
    · exact h
theorem scn_in {q : Nat → Bool} {n : Nat} : ∀ d p k, p ≤ k → k < scn q n d p → k < n ∧ q k = true := by
  intro d
  induction d with
  | zero => intro p k h1 h2; exact absurd h2 (Nat.not_lt.mpr h1)
  | succ d ih =>
    intro p k h1 h2
    by_cases c : p < n ∧ q p = true
    · rw [show scn q n (d + 1) p = scn q n d (p + 1) from if_pos c] at h2
      by_cases e : k = p
      · rw [e]; exact c
      · exact ih (p + 1) k (by omega) h2
    · rw [show scn q n (d + 1) p = p from if_neg c] at h2
      omega
theorem scn_end {q : Nat → Bool} {n : Nat} : ∀ d p, n ≤ p + d → ¬ (scn q n d p < n ∧ q (scn q n d p) = true) := by
  intro d
  induction d with
  | zero => intro p h c; have : p < n := c.1; omega
  | succ d ih =>
    intro p h
    by_cases c : p < n ∧ q p = true
    · rw [show scn q n (d + 1) p = scn q n d (p + 1) from if_pos c]
      exact ih (p + 1) (by omega)
    · rw [show scn q n (d + 1) p = p from if_neg c]
      exact c
def isP (c : Nat) : Bool := c == 32 || c == 10
def isL (c : Nat) : Bool := decide (97 ≤ c) && decide (c ≤ 122)
def isD (c : Nat) : Bool := decide (48 ≤ c) && decide (c ≤ 57)
def isG (c : Nat) : Bool := c == 59 || c == 40 || c == 41 || c == 43 || c == 45 || c == 42 || c == 47 || c == 60 || c == 61
/-- the token behind a place: where it begins, what it is, where it ends -/
def tB (t : Tpe) (p : Nat) : Nat := scn (fun k => isP (t.1 k)) t.2 (t.2 - p) p
def tS (t : Tpe) (p : Nat) : Nat := if t.2 ≤ tB t p then 0 else if isL (t.1 (tB t p)) = true then 1 else if isD (t.1 (tB t p)) = true then 2 else if isG (t.1 (tB t p)) = true then 3 else 4
def tE (t : Tpe) (p : Nat) : Nat := if tS t p = 0 then tB t p else if tS t p = 1 then scn (fun k => isL (t.1 k)) t.2 (t.2 - tB t p) (tB t p) else if tS t p = 2 then scn (fun k => isD (t.1 k)) t.2 (t.2 - tB t p) (tB t p) else tB t p + 1
/-- a number, a word of some letters -/
def numF (t : Tpe) (b : Nat) : Nat → Nat
  | 0 => 0
  | k + 1 => 10 * numF t b k + (t.1 (b + k) - 48)
def pkF (t : Tpe) (b : Nat) : Nat → Nat
  | 0 => 0
  | k + 1 => 32 * pkF t b k + (t.1 (b + k) - 96)
theorem tB_ge {t : Tpe} {p : Nat} : p ≤ tB t p := scn_ge _ _
theorem tB_le {t : Tpe} {p : Nat} (h : p ≤ t.2) : tB t p ≤ t.2 := scn_le _ _ h
theorem tS_le (t : Tpe) (p : Nat) : tS t p ≤ 4 := by
  unfold tS; repeat' split
  all_goals omega
theorem tS_lt {t : Tpe} {p : Nat} (h : tS t p ≠ 0) : tB t p < t.2 := by
  unfold tS at h
  by_cases c : t.2 ≤ tB t p
  · rw [if_pos c] at h; exact absurd rfl h
  · omega
theorem tS_1 {t : Tpe} {p : Nat} : tS t p = 1 ↔ tB t p < t.2 ∧ isL (t.1 (tB t p)) = true := by
  unfold tS
  by_cases c : t.2 ≤ tB t p
  · rw [if_pos c]; exact ⟨fun q => by omega, fun q => by omega⟩
  · rw [if_neg c]
    by_cases d : isL (t.1 (tB t p)) = true
    · rw [if_pos d]; exact ⟨fun _ => ⟨by omega, d⟩, fun _ => rfl⟩
    · rw [if_neg d]
      refine ⟨fun q => ?_, fun q => absurd q.2 d⟩
      split at q
      · omega
      · split at q <;> omega
theorem tE_gt {t : Tpe} {p : Nat} (hp : p ≤ t.2) (h : tS t p ≠ 0) : tB t p < tE t p ∧ tE t p ≤ t.2 := by
  have hb := tS_lt h
  unfold tE
  rw [if_neg h]
  have key : ∀ q : Nat → Bool, q (tB t p) = true → tB t p < scn q t.2 (t.2 - tB t p) (tB t p) ∧ scn q t.2 (t.2 - tB t p) (tB t p) ≤ t.2 := by
    intro q hq
    refine ⟨?_, scn_le _ _ (by omega)⟩
    obtain ⟨d, hd⟩ : ∃ d, t.2 - tB t p = d + 1 := ⟨t.2 - tB t p - 1, by omega⟩
    rw [hd, show scn q t.2 (d + 1) (tB t p) = scn q t.2 d (tB t p + 1) from if_pos ⟨hb, hq⟩]
    have := scn_ge (q := q) (n := t.2) d (tB t p + 1)
    omega
  by_cases h1 : tS t p = 1
  · rw [if_pos h1]
    exact key _ (tS_1.mp h1).2
  · rw [if_neg h1]
    by_cases h2 : tS t p = 2
    · rw [if_pos h2]
      refine key _ ?_
      unfold tS at h2
      rw [if_neg (by omega)] at h2
      split at h2
      · omega
      · split at h2
        · assumption
        · split at h2 <;> omega
    · rw [if_neg h2]; omega
theorem tE_le {t : Tpe} {p : Nat} (hp : p ≤ t.2) : tE t p ≤ t.2 := by
  by_cases h : tS t p = 0
  · unfold tE; rw [if_pos h]; exact tB_le hp
  · exact (tE_gt hp h).2
theorem tE_ge {t : Tpe} {p : Nat} (hp : p ≤ t.2) : tB t p ≤ tE t p := by
  by_cases h : tS t p = 0
  · unfold tE; rw [if_pos h]; exact Nat.le_refl _
  · have := (tE_gt hp h).1; omega
theorem numF_lt {t : Tpe} {b : Nat} : ∀ k, (∀ i, i < k → t.1 (b + i) ≤ 57) → numF t b k < 10 ^ k := by
  intro k
  induction k with
  | zero => intro _; exact Nat.one_pos
  | succ k ih =>
    intro h
    have h1 := ih fun i hi => h i (by omega)
    have h2 := h k (by omega)
    show 10 * numF t b k + (t.1 (b + k) - 48) < 10 ^ k * 10
    omega
/-! the reference's field by field -/
theorem sF_sF {S : MS} {k : Nat} {a b : Int32} : sF (sF S k a) k b = sF S k b := by
  unfold sF
  rw [upd_upd]
theorem sF_id {S : MS} {k : Nat} {a : Int32} (h : S.1 k = a) : sF S k a = S := by
  unfold sF
  have : upd S.1 k a = S.1 := by
    funext j
    unfold upd
    by_cases q : j = k
    · rw [if_pos q, q, h]
    · rw [if_neg q]
  rw [this]
def br (t : Tpe) (k : Nat) : Int32 := if k < t.2 then Int32.ofNat (t.1 k) else 0
abbrev Tp4 (S : MS) (t : Tpe) : Prop := S.1 17 = Int32.ofNat t.2 ∧ ∀ k, k < t.2 → S.2.2 4 k = Int32.ofNat (t.1 k)
theorem r_byteAt {S : MS} {t : Tpe} (h : Tp4 S t) (h7 : t.2 ≤ 700) {k : Nat} (hk : k ≤ 700) : m_byteAt (Int32.ofNat k) S = some (br t k) := by
  unfold m_byteAt br
  rw [h.1]
  by_cases q : k < t.2
  · rw [if_pos q, if_neg (fun r => by have := (ole (n := t.2) (m := k) (by omega) (by omega)).mp r; omega), rdA_n (ocl (by omega)) (on0 (by omega)) (show k < 700 by omega), Option.bind_some, h.2 k q]
  · rw [if_neg q, if_pos ((ole (n := t.2) (m := k) (by omega) (by omega)).mpr (by omega))]
theorem m_let : ∀ c, c < 256 → m_isLetter (Int32.ofNat c) = some (if isL c = true then 1 else 0) := by decide +kernel
theorem m_dig : ∀ c, c < 256 → m_isDigit (Int32.ofNat c) = some (if isD c = true then 1 else 0) := by decide +kernel
theorem br_let {t : Tpe} (hc : ∀ k, t.1 k < 256) (k : Nat) : m_isLetter (br t k) = some (if k < t.2 ∧ isL (t.1 k) = true then 1 else 0) := by
  unfold br
  by_cases q : k < t.2
  · rw [if_pos q, m_let _ (hc k)]
    by_cases r : isL (t.1 k) = true
    · rw [if_pos r, if_pos ⟨q, r⟩]
    · rw [if_neg r, if_neg fun z => r z.2]
  · rw [if_neg q, if_neg fun z => q z.1]; decide
theorem br_dig {t : Tpe} (hc : ∀ k, t.1 k < 256) (k : Nat) : m_isDigit (br t k) = some (if k < t.2 ∧ isD (t.1 k) = true then 1 else 0) := by
  unfold br
  by_cases q : k < t.2
  · rw [if_pos q, m_dig _ (hc k)]
    by_cases r : isD (t.1 k) = true
    · rw [if_pos r, if_pos ⟨q, r⟩]
    · rw [if_neg r, if_neg fun z => r z.2]
  · rw [if_neg q, if_neg fun z => q z.1]; decide
theorem sF_cm {S : MS} {k j : Nat} {a b : Int32} (h : k ≠ j) : sF (sF S k a) j b = sF (sF S j b) k a := by
  unfold sF
  have : upd (upd S.1 k a) j b = upd (upd S.1 j b) k a := by
    funext i
    unfold upd
    by_cases q : i = j
    · rw [if_pos q, if_neg (by omega), if_pos q]
    · rw [if_neg q]
      by_cases r : i = k
      · rw [if_pos r, if_pos r]
      · rw [if_neg r, if_neg r, if_neg q]
  exact congrArg (fun z => (z, S.2)) this
section GO
variable {t : Tpe} (h7 : t.2 ≤ 700) (hc : ∀ k, t.1 k < 256)
theorem r_goes0 (h7 : t.2 ≤ 700) (hc : ∀ k, t.1 k < 256) : ∀ d p S, t.2 ≤ p + d → p ≤ t.2 → Tp4 S t → S.1 18 = Int32.ofNat p → ∀ m, d < m → m_goes_0 m S = m_goes_50 (sF S 18 (Int32.ofNat (scn (fun k => isP (t.1 k)) t.2 d p))) := by
  intro d
  induction d with
  | zero =>
    intro p S h1 h2 h4 h18 m hm
    obtain ⟨m, rfl⟩ : ∃ k, m = k + 1 := ⟨m - 1, by omega⟩
    have hp : p = t.2 := by omega
    show m_goes_0_b (m_goes_0 m) S = m_goes_50 (sF S 18 (Int32.ofNat p))
    rw [sF_id h18]
    unfold m_goes_0_b
    rw [h18, h4.1, if_pos (by rw [hp]; exact Int32.le_refl _)]
  | succ d ih =>
    intro p S h1 h2 h4 h18 m hm
    obtain ⟨m, rfl⟩ : ∃ k, m = k + 1 := ⟨m - 1, by omega⟩
    show m_goes_0_b (m_goes_0 m) S = _
    unfold m_goes_0_b
    by_cases hp : p < t.2
    · rw [h18, h4.1, if_neg (fun r => by have := (ole (n := t.2) (m := p) (by omega) (by omega)).mp r; omega), r_byteAt h4 h7 (by omega), Option.bind_some, Option.bind_some]
      have e : br t p = Int32.ofNat (t.1 p) := if_pos hp
      have hcp := hc p
      have go : m_goes_37 (m_goes_0 m) S = m_goes_50 (sF S 18 (Int32.ofNat (scn (fun k => isP (t.1 k)) t.2 d (p + 1)))) := by
        unfold m_goes_37
        rw [h18, ofn1 p (by omega), ih (p + 1) (sF S 18 (Int32.ofNat (p + 1))) (by omega) (by omega) ⟨(sF_ne (by decide)).trans h4.1, h4.2⟩ sF_at m (by omega), sF_sF]
      by_cases q : isP (t.1 p) = true
      · rw [show scn (fun k => isP (t.1 k)) t.2 (d + 1) p = scn (fun k => isP (t.1 k)) t.2 d (p + 1) from if_pos ⟨hp, q⟩]
        rw [e]
        unfold isP at q
        rw [Bool.or_eq_true, beq_iff_eq, beq_iff_eq] at q
        by_cases q1 : t.1 p = 32
        · rw [if_pos (show Int32.ofNat (t.1 p) = 32 by rw [q1]; rfl)]; exact go
        · rw [if_neg (show ¬ Int32.ofNat (t.1 p) = 32 from fun r => q1 ((oeq (n := t.1 p) (m := 32) (by omega) (by omega)).mp r)), if_pos (show Int32.ofNat (t.1 p) = 10 by rw [q.resolve_left q1]; rfl)]; exact go
      · rw [show scn (fun k => isP (t.1 k)) t.2 (d + 1) p = p from if_neg fun z => q z.2, sF_id h18, e]
        unfold isP at q
        rw [Bool.or_eq_true, beq_iff_eq, beq_iff_eq] at q
        rw [if_neg (show ¬ Int32.ofNat (t.1 p) = 32 from fun r => q (Or.inl ((oeq (n := t.1 p) (m := 32) (by omega) (by omega)).mp r))), if_neg (show ¬ Int32.ofNat (t.1 p) = 10 from fun r => q (Or.inr ((oeq (n := t.1 p) (m := 10) (by omega) (by omega)).mp r)))]
    · have hp : p = t.2 := by omega
      rw [show scn (fun k => isP (t.1 k)) t.2 (d + 1) p = p from if_neg fun z => by omega, sF_id h18, h18, h4.1, if_pos (by rw [hp]; exact Int32.le_refl _)]
theorem r_goesD (h7 : t.2 ≤ 700) (hc : ∀ k, t.1 k < 256) : ∀ d x S b, t.2 ≤ x + d → b ≤ x → x ≤ t.2 → Tp4 S t → S.1 18 = Int32.ofNat x → S.1 20 = Int32.ofNat b → S.1 22 = Int32.ofNat (numF t b (min 4 (x - b))) → (∀ k, b ≤ k → k < x → isD (t.1 k) = true) → ∀ m, d < m → m_goes_187 m S = m_goes_331 (sF (sF (sF S 18 (Int32.ofNat (scn (fun k => isD (t.1 k)) t.2 d x))) 22 (Int32.ofNat (numF t b (min 4 (scn (fun k => isD (t.1 k)) t.2 d x - b))))) 19 2) := by
  intro d
  induction d with
  | zero =>
    intro x S b h1 hbx h2 h4 h18 h20 h22 hd m hm
    obtain ⟨m, rfl⟩ : ∃ k, m = k + 1 := ⟨m - 1, by omega⟩
    show m_goes_187_b (m_goes_187 m) S = m_goes_331 (sF (sF (sF S 18 (Int32.ofNat x)) 22 (Int32.ofNat (numF t b (min 4 (x - b))))) 19 2)
    rw [sF_id h18, sF_id h22]
    unfold m_goes_187_b
    rw [h18, r_byteAt h4 h7 (by omega), Option.bind_some, br_dig hc, if_neg (fun z => by omega), Option.bind_some, if_pos rfl]
  | succ d ih =>
    intro x S b h1 hbx h2 h4 h18 h20 h22 hd m hm
    obtain ⟨m, rfl⟩ : ∃ k, m = k + 1 := ⟨m - 1, by omega⟩
    show m_goes_187_b (m_goes_187 m) S = _
    unfold m_goes_187_b
    rw [h18, r_byteAt h4 h7 (by omega), Option.bind_some, br_dig hc, Option.bind_some]
    by_cases q : x < t.2 ∧ isD (t.1 x) = true
    · rw [show scn (fun k => isD (t.1 k)) t.2 (d + 1) x = scn (fun k => isD (t.1 k)) t.2 d (x + 1) from if_pos q, if_pos q, if_neg (by decide), h20, osub hbx (by omega)]
      have hd' : ∀ k, b ≤ k → k < x + 1 → isD (t.1 k) = true := fun k k1 k2 => by
        by_cases e : k = x
        · rw [e]; exact q.2
        · exact hd k k1 (by omega)
      have e : br t x = Int32.ofNat (t.1 x) := if_pos q.1
      by_cases c4 : 4 ≤ x - b
      · rw [if_pos (show (4 : Int32) ≤ Int32.ofNat (x - b) from (ole (n := 4) (by omega) (by omega)).mpr c4)]
        unfold m_goes_237
        rw [h18, ofn1 x (by omega), ih (x + 1) (sF S 18 (Int32.ofNat (x + 1))) b (by omega) (by omega) (by omega) ⟨(sF_ne (by decide)).trans h4.1, h4.2⟩ sF_at ((sF_ne (by decide)).trans h20) (by rw [sF_ne (by decide), h22, show min 4 (x - b) = min 4 (x + 1 - b) by omega]) hd' m (by omega), sF_sF]
      · rw [if_neg (show ¬ (4 : Int32) ≤ Int32.ofNat (x - b) from fun r => c4 ((ole (n := 4) (m := x - b) (by omega) (by omega)).mp r)), Option.bind_some, e, h22]
        unfold m_goes_237
        have hx := hc x
        have dx : 48 ≤ t.1 x ∧ t.1 x ≤ 57 := by
          have := q.2
          unfold isD at this
          rw [Bool.and_eq_true, decide_eq_true_iff, decide_eq_true_iff] at this
          exact this
        have nl := numF_lt (t := t) (b := b) (x - b) fun i hi => by
          have := hd (b + i) (by omega) (by omega)
          unfold isD at this
          rw [Bool.and_eq_true, decide_eq_true_iff, decide_eq_true_iff] at this
          exact this.2
        have nl4 : 10 ^ (x - b) ≤ 10 ^ 4 := Nat.pow_le_pow_right (by decide) (by omega)
        have ev : (10 : Int32) * Int32.ofNat (numF t b (min 4 (x - b))) + Int32.ofNat (t.1 x) - 48 = Int32.ofNat (numF t b (min 4 (x + 1 - b))) := by
          rw [show min 4 (x - b) = x - b by omega, show min 4 (x + 1 - b) = x - b + 1 by omega, show (10 : Int32) * Int32.ofNat (numF t b (x - b)) = Int32.ofNat (10 * numF t b (x - b)) from omul 10 _, oadd, show Int32.ofNat (10 * numF t b (x - b) + t.1 x) - 48 = Int32.ofNat (10 * numF t b (x - b) + t.1 x - 48) from osub (b := 48) (by omega) (by omega)]
          show _ = Int32.ofNat (10 * numF t b (x - b) + (t.1 (b + (x - b)) - 48))
          rw [show b + (x - b) = x by omega]
          congr 1
          omega
        rw [ev, sF_ne (by decide), h18, ofn1 x (by omega), ih (x + 1) (sF (sF S 22 _) 18 (Int32.ofNat (x + 1))) b (by omega) (by omega) (by omega) ⟨(sF_ne (by decide)).trans ((sF_ne (by decide)).trans h4.1), h4.2⟩ sF_at ((sF_ne (by decide)).trans ((sF_ne (by decide)).trans h20)) ((sF_ne (by decide)).trans sF_at) hd' m (by omega), sF_sF, sF_cm (S := S) (k := 22) (j := 18) (by decide), sF_sF]
    · rw [show scn (fun k => isD (t.1 k)) t.2 (d + 1) x = x from if_neg q, if_neg q, if_pos rfl, sF_id h18, sF_id h22]
end GO
