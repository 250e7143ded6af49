/-! plain law: words -/
set_option maxRecDepth 100000
/-- the reference's words -/
def kws : List (List Nat) := [[115, 105, 122, 101], [100, 97, 109, 112], [102, 111, 111, 100], [119, 97, 114, 109, 116, 104], [102, 114, 105, 101, 110, 100, 115], [102, 111, 101, 115], [107, 105, 110, 100], [111, 116, 104, 101, 114], [99, 101, 108, 108, 97, 114], [99, 101, 108, 108], [109, 111, 117, 108, 100], [97, 103, 101], [115, 112, 111, 114, 101, 115], [103, 114, 111, 119, 115], [98, 101, 97, 116, 115], [97, 110, 100], [111, 114], [110, 111, 116]]
def tL (t : Tpe) (p : Nat) : List Nat := (List.range (tE t p - tB t p)).map fun k => t.1 (tB t p + k)
def fk : List (List Nat) → Nat → List Nat → Nat
  | [], i, _ => i
  | w :: ws, i, l => if w = l then i else fk ws (i + 1) l
/-- which known word a token is: 18 none -/
def kw (t : Tpe) (p : Nat) : Nat := if tS t p = 1 then fk kws 0 (tL t p) else 18
theorem getD_lt {l : List (List Nat)} {k : Nat} (h : k < l.length) : l.getD k [] = l[k] := by
  rw [List.getD_eq_getElem?_getD, List.getElem?_eq_getElem h]; rfl
def pkr : List Nat → Nat
  | [] => 0
  | c :: cs => 32 * pkr cs + (c - 96)
theorem pkr_inj : ∀ l l' : List Nat, (∀ c ∈ l, 97 ≤ c ∧ c ≤ 122) → (∀ c ∈ l', 97 ≤ c ∧ c ≤ 122) → pkr l = pkr l' → l = l' := by
  intro l
  induction l with
  | nil =>
    intro l' _ h h2
    cases l' with
    | nil => rfl
    | cons c cs =>
      have := h c (List.mem_cons_self ..)
      have h2 : 0 = 32 * pkr cs + (c - 96) := h2
      omega
  | cons a as ih =>
    intro l' h h' h2
    cases l' with
    | nil =>
      have := h a (List.mem_cons_self ..)
      have h2 : 32 * pkr as + (a - 96) = 0 := h2
      omega
    | cons c cs =>
      have h1 := h a (List.mem_cons_self ..)
      have h3 := h' c (List.mem_cons_self ..)
      have h2 : 32 * pkr as + (a - 96) = 32 * pkr cs + (c - 96) := h2
      have e1 : a = c := by omega
      have e2 : pkr as = pkr cs := by omega
      rw [e1, ih cs (fun x hx => h x (List.mem_cons_of_mem _ hx)) (fun x hx => h' x (List.mem_cons_of_mem _ hx)) e2]
theorem pkF_r (t : Tpe) (b : Nat) : ∀ k, pkF t b k = pkr ((List.range k).map fun i => t.1 (b + i)).reverse := by
  intro k
  induction k with
  | zero => rfl
  | succ k ih =>
    rw [List.range_succ, List.map_append, List.reverse_append]
    show 32 * pkF t b k + (t.1 (b + k) - 96) = 32 * pkr _ + (t.1 (b + k) - 96)
    rw [ih]
    rfl
theorem kws_ok : ∀ w ∈ kws, (∀ c ∈ w, 97 ≤ c ∧ c ≤ 122) ∧ w.length ≤ 7 := by decide +kernel
theorem m_lett : ∀ k, k < 18 → m_letters (Int32.ofNat k) = some (Int64.ofNat (pkr (kws.getD k []).reverse)) := by decide +kernel
theorem i64_inj {x y : Nat} (hx : x < 2 ^ 60) (hy : y < 2 ^ 60) (h : Int64.ofNat x = Int64.ofNat y) : x = y := by
  have e := congrArg (fun z => z.toBitVec.toNat) h
  have e : (Int64.ofNat x).toBitVec.toNat = (Int64.ofNat y).toBitVec.toNat := e
  rw [Int64.toBitVec_ofNat', Int64.toBitVec_ofNat', BitVec.toNat_ofNat, BitVec.toNat_ofNat] at e
  omega
theorem lg_0 {x y : Int64} : lg_cmp x y = 0 ↔ x = y := by
  unfold lg_cmp
  by_cases h1 : x > y
  · rw [if_pos h1]
    refine ⟨fun q => absurd q (by decide), fun q => ?_⟩
    subst q
    exact absurd h1 (by rw [gt_iff_lt]; exact Int64.lt_irrefl)
  · rw [if_neg h1]
    by_cases h2 : x = y
    · rw [if_pos h2]; exact ⟨fun _ => h2, fun _ => rfl⟩
    · rw [if_neg h2]; exact ⟨fun q => absurd q (by decide), fun q => absurd q h2⟩
theorem pkr_lt : ∀ l : List Nat, (∀ c ∈ l, c ≤ 122) → pkr l < 32 ^ l.length := by
  intro l
  induction l with
  | nil => intro _; exact Nat.one_pos
  | cons c cs ih =>
    intro h
    have h1 := ih fun x hx => h x (List.mem_cons_of_mem _ hx)
    have h2 := h c (List.mem_cons_self ..)
    show 32 * pkr cs + (c - 96) < 32 ^ cs.length * 32
    omega
theorem tL_let {t : Tpe} {p : Nat} (h : tS t p = 1) : ∀ c ∈ tL t p, 97 ≤ c ∧ c ≤ 122 := by
  intro c hc
  unfold tL at hc
  rw [List.mem_map] at hc
  obtain ⟨k, hk, rfl⟩ := hc
  rw [List.mem_range] at hk
  have en : tE t p = scn (fun k => isL (t.1 k)) t.2 (t.2 - tB t p) (tB t p) := by
    unfold tE; rw [if_neg (by omega), if_pos h]
  have := (scn_in (q := fun k => isL (t.1 k)) (n := t.2) (t.2 - tB t p) (tB t p) (tB t p + k) (by omega) (by omega)).2
  exact isL_r this
theorem fk_ge : ∀ (ws : List (List Nat)) i l, i ≤ fk ws i l ∧ fk ws i l ≤ i + ws.length := by
  intro ws
  induction ws with
  | nil => intro i l; exact ⟨Nat.le_refl _, Nat.le_refl _⟩
  | cons w ws ih =>
    intro i l
    show i ≤ (if w = l then i else fk ws (i + 1) l) ∧ (if w = l then i else fk ws (i + 1) l) ≤ i + (ws.length + 1)
    have := ih (i + 1) l
    split <;> omega
theorem kw_le (t : Tpe) (p : Nat) : kw t p ≤ 18 := by
  unfold kw
  split
  · exact (fk_ge kws 0 _).2
  · exact Nat.le_refl _
/-- a word is known by its place alone -/
theorem fk_at : ∀ (ws : List (List Nat)) i l j, fk ws i l = i + j → j < ws.length → ws.getD j [] = l := by
  intro ws
  induction ws with
  | nil => intro i l j _ h; exact absurd h (Nat.not_lt_zero j)
  | cons w ws ih =>
    intro i l j h hj
    by_cases c : w = l
    · rw [show fk (w :: ws) i l = i from if_pos c] at h
      have : j = 0 := by omega
      subst this; exact c
    · rw [show fk (w :: ws) i l = fk ws (i + 1) l from if_neg c] at h
      have := (fk_ge ws (i + 1) l).1
      obtain ⟨j, rfl⟩ : ∃ k, j = k + 1 := ⟨j - 1, by omega⟩
      exact ih (i + 1) l j (by omega) (by
        have : j + 1 < ws.length + 1 := hj
        omega)
theorem kws_fk : ∀ j, j < 18 → fk kws 0 (kws.getD j []) = j := by decide +kernel
theorem kw_iff {t : Tpe} {p j : Nat} (hj : j < 18) : kw t p = j ↔ tS t p = 1 ∧ tL t p = kws.getD j [] := by
  unfold kw
  by_cases h : tS t p = 1
  · rw [if_pos h]
    refine ⟨fun q => ⟨h, (fk_at kws 0 _ j (by omega) hj).symm⟩, fun q => ?_⟩
    rw [q.2]; exact kws_fk j hj
  · rw [if_neg h]
    exact ⟨fun q => by omega, fun q => absurd q.1 h⟩
theorem r_knownWord {S : MS} {t : Tpe} {p : Nat} (hp : p ≤ t.2) (h7 : t.2 ≤ 700) (h : TkM S t p) : m_knownWord S = some (if kw t p = 18 then -1 else Int32.ofNat (kw t p)) := by
  obtain ⟨a1, a2, a3, a4, a5, a6, a7⟩ := h
  have hl := tE_le hp
  have hs := tS_le t p
  unfold m_knownWord
  rw [a2]
  by_cases h1 : tS t p = 1
  · rw [if_pos (show Int32.ofNat (tS t p) = 1 by rw [h1]; rfl), a4]
    have hkw : kw t p = fk kws 0 (tL t p) := if_pos h1
    have hlen : (tL t p).length = tE t p - tB t p := by unfold tL; rw [List.length_map, List.length_range]
    by_cases h8 : tE t p - tB t p ≤ 7
    · rw [if_pos (show Int32.ofNat (tE t p - tB t p) ≤ 7 from (ole (m := 7) (by omega) (by omega)).mpr h8), hkw]
      have hw := a7 h1
      rw [show min 7 (tE t p - tB t p) = tE t p - tB t p by omega, pkF_r] at hw
      have hw : S.2.1 = Int64.ofNat (pkr (tL t p).reverse) := hw
      have tl := tL_let h1
      have lt1 : pkr (tL t p).reverse < 2 ^ 60 := by
        have l1 := pkr_lt (tL t p).reverse fun c hc => (tl c (List.mem_reverse.mp hc)).2
        rw [List.length_reverse, hlen] at l1
        have : 32 ^ (tE t p - tB t p) ≤ 32 ^ 7 := Nat.pow_le_pow_right (by decide) h8
        omega
      have key : ∀ j k m, k + j = 18 → j < m → fk (kws.drop k) k (tL t p) = fk kws 0 (tL t p) → m_knownWord_21 m (Int32.ofNat k) S = some (if fk kws 0 (tL t p) = 18 then -1 else Int32.ofNat (fk kws 0 (tL t p))) := by
        intro j
        induction j with
        | zero =>
          intro k m hk hm hd
          obtain ⟨m, rfl⟩ : ∃ i, m = i + 1 := ⟨m - 1, by omega⟩
          have hk : k = 18 := by omega
          subst hk
          have hd : 18 = fk kws 0 (tL t p) := hd
          show m_knownWord_21_b (m_knownWord_21 m) (Int32.ofNat 18) S = _
          unfold m_knownWord_21_b
          rw [if_pos (by decide), if_pos hd.symm]
        | succ j ih =>
          intro k m hk hm hd
          obtain ⟨m, rfl⟩ : ∃ i, m = i + 1 := ⟨m - 1, by omega⟩
          show m_knownWord_21_b (m_knownWord_21 m) (Int32.ofNat k) S = _
          unfold m_knownWord_21_b
          have hkl : k < kws.length := by show k < 18; omega
          have dr : kws.drop k = kws.getD k [] :: kws.drop (k + 1) := by
            rw [List.drop_eq_getElem_cons hkl]
            congr 1
            rw [getD_lt hkl]
          rw [if_neg (fun q => by have := (ole (n := 18) (m := k) (by omega) (by omega)).mp q; omega), m_lett k (by omega), Option.bind_some, hw, ofn1 k (by omega)]
          have wm : kws.getD k [] ∈ kws := by rw [getD_lt hkl]; exact List.getElem_mem _
          obtain ⟨o1, o2⟩ := kws_ok _ wm
          have eqv : lg_cmp (Int64.ofNat (pkr (kws.getD k []).reverse)) (Int64.ofNat (pkr (tL t p).reverse)) = 0 ↔ kws.getD k [] = tL t p := by
            rw [lg_0]
            refine ⟨fun q => ?_, fun q => by rw [q]⟩
            have l2 := pkr_lt (kws.getD k []).reverse fun c hc => (o1 c (List.mem_reverse.mp hc)).2
            rw [List.length_reverse] at l2
            have : 32 ^ (kws.getD k []).length ≤ 32 ^ 7 := Nat.pow_le_pow_right (by decide) o2
            have := pkr_inj _ _ (fun c hc => o1 c (List.mem_reverse.mp hc)) (fun c hc => tl c (List.mem_reverse.mp hc)) (i64_inj (by omega) lt1 q)
            exact List.reverse_inj.mp this
          by_cases c : kws.getD k [] = tL t p
          · rw [if_pos (eqv.mpr c)]
            rw [dr, show fk (kws.getD k [] :: kws.drop (k + 1)) k (tL t p) = k from if_pos c] at hd
            rw [← hd, if_neg (by omega)]
          · rw [if_neg (fun q => c (eqv.mp q))]
            rw [dr, show fk (kws.getD k [] :: kws.drop (k + 1)) k (tL t p) = fk (kws.drop (k + 1)) (k + 1) (tL t p) from if_neg c] at hd
            exact ih (k + 1) m (by omega) (by omega) hd
      exact key 18 0 FU (by omega) (by decide) rfl
    · rw [if_neg (show ¬ Int32.ofNat (tE t p - tB t p) ≤ 7 from fun q => h8 ((ole (n := tE t p - tB t p) (m := 7) (by omega) (by omega)).mp q)), hkw]
      have : fk kws 0 (tL t p) = 18 := by
        have hle := (fk_ge kws 0 (tL t p)).2
        by_cases q : fk kws 0 (tL t p) = 18
        · exact q
        · exfalso
          have hlt : fk kws 0 (tL t p) < kws.length := by
            have : kws.length = 18 := rfl
            omega
          have e := fk_at kws 0 (tL t p) _ (Nat.zero_add _).symm hlt
          have wm : kws.getD (fk kws 0 (tL t p)) [] ∈ kws := by rw [getD_lt hlt]; exact List.getElem_mem _
          have := (kws_ok _ wm).2
          rw [e, hlen] at this
          omega
      rw [this, if_pos rfl]
  · rw [if_neg (show ¬ Int32.ofNat (tS t p) = 1 from fun q => h1 ((oeq (n := tS t p) (m := 1) (by omega) (by omega)).mp q))]
    have : kw t p = 18 := if_neg h1
    rw [this, if_pos rfl]
