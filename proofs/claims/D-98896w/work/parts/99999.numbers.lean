/-! plain law: numbers read on both sides -/
set_option maxRecDepth 100000
/-- what the reference keeps while it looks at a token -/
def Pkp (S S' : MS) : Prop := (∀ k, k < 14 ∨ k = 16 ∨ k = 17 ∨ 24 ≤ k → S'.1 k = S.1 k) ∧ S'.2.2 = S.2.2
theorem Pkp.rf {S : MS} : Pkp S S := ⟨fun _ _ => rfl, rfl⟩
theorem Pkp.tr {S S1 S2 : MS} (h : Pkp S S1) (k : Pkp S1 S2) : Pkp S S2 := ⟨fun j q => (k.1 j q).trans (h.1 j q), k.2.trans h.2⟩
/-- both stand at a token, all is well so far -/
def PG (G : xG) (T : xF) (S : MS) (t : Tpe) (fx : Fx) (tp rd nm : Nat) (dn ce : Int32) (p : Nat) : Prop := Cx G T t fx tp ∧ RdS T rd t fx nm dn ce p ∧ rd < T.2.1 ∧ p ≤ t.2 ∧ TkM S t p ∧ Tp4 S t ∧ S.1 14 = 0
/-- both know a fault -/
def PB (T' : xF) (S' : MS) (e : xE) (rd : Nat) : Prop := ∃ w k b, e = (WR, w) ∧ oI T' (some w) 5 6 = some (Int32.ofNat k) ∧ oI T' (some rd) 4 9 = some b ∧ 0 < k ∧ k < 10 ∧ S'.1 14 = Int32.ofNat k ∧ S'.1 15 = b
abbrev Fr (rd : Nat) (T T' : xF) : Prop := frc (fun x => x = rd) T T'
theorem Fr.rf {rd : Nat} {T : xF} : Fr rd T T := ⟨Nat.le_refl _, fun _ _ _ => rfl⟩
theorem Fr.tr {rd : Nat} {T T1 T2 : xF} (h : Fr rd T T1) (k : Fr rd T1 T2) : Fr rd T T2 := ⟨Nat.le_trans h.1 k.1, fun x q r => by
  have := h.1
  exact (k.2 x (by omega) r).trans (h.2 x q r)⟩
section PJ
variable {G : xG} {T T' : xF} {rd nm tp p : Nat} {t : Tpe} {fx : Fx} {dn ce : Int32} {S S' : MS}
theorem PG.cx (h : PG G T S t fx tp rd nm dn ce p) : Cx G T t fx tp := h.1
theorem PG.rs (h : PG G T S t fx tp rd nm dn ce p) : RdS T rd t fx nm dn ce p := h.2.1
theorem PG.lt (h : PG G T S t fx tp rd nm dn ce p) : rd < T.2.1 := h.2.2.1
theorem PG.pl (h : PG G T S t fx tp rd nm dn ce p) : p ≤ t.2 := h.2.2.2.1
theorem PG.tk (h : PG G T S t fx tp rd nm dn ce p) : TkM S t p := h.2.2.2.2.1
theorem PG.t4 (h : PG G T S t fx tp rd nm dn ce p) : Tp4 S t := h.2.2.2.2.2.1
theorem PG.gd (h : PG G T S t fx tp rd nm dn ce p) : S.1 14 = 0 := h.2.2.2.2.2.2
theorem PG.h7 (h : PG G T S t fx tp rd nm dn ce p) : t.2 ≤ 700 := h.1.2.2.2.2.1
theorem PG.hc (h : PG G T S t fx tp rd nm dn ce p) : ∀ k, t.1 k < 256 := h.1.2.2.2.2.2
theorem PG.is (h : PG G T S t fx tp rd nm dn ce p) : isO T (some rd) 4 = true := by
  obtain ⟨nu, r, -⟩ := h.rs
  exact r.is
theorem PG.i9 (h : PG G T S t fx tp rd nm dn ce p) : oI T (some rd) 4 9 = some (Int32.ofNat (tB t p)) := by
  obtain ⟨nu, r, -⟩ := h.rs
  exact r.i9
theorem PG.i8 (h : PG G T S t fx tp rd nm dn ce p) : oI T (some rd) 4 8 = some (Int32.ofNat (tS t p)) := by
  obtain ⟨nu, r, -⟩ := h.rs
  exact r.i8
/-- other cells may change -/
theorem PG.frT (h : PG G T S t fx tp rd nm dn ce p) (F : frc (fun _ => False) T T') : PG G T' S t fx tp rd nm dn ce p := by
  have hl := F.1
  exact ⟨h.1.fr h.rs.ird ⟨F.1, fun x q _ => F.2 x q fun z => z⟩, h.rs.fr (F.2 _ h.lt fun z => z), by have := h.lt; omega, h.pl, h.tk, h.t4, h.gd⟩
theorem PG.next (h : PG G T S t fx tp rd nm dn ce p) (F : frm (fun x => x = rd) T T') (r : RdS T' rd t fx nm dn ce (tE t p)) (k : TkM S' t (tE t p)) (P : Pkp S S') (g : S'.1 14 = 0) : PG G T' S' t fx tp rd nm dn ce (tE t p) := by
  refine ⟨h.1.fr h.rs.ird F.c, r, by rw [F.1]; exact h.lt, tE_le h.pl, k, ?_, g⟩
  exact ⟨(P.1 17 (by decide)).trans h.t4.1, by rw [P.2]; exact h.t4.2⟩
theorem y_next (h : PG G T S t fx tp rd nm dn ce p) : Rn T (c_X5_next G (some rd) T) fun _ T' => frm (fun x => x = rd) T T' ∧ RdS T' rd t fx nm dn ce (tE t p) := e_nxt h.cx h.rs h.pl
theorem q_next (h : PG G T S t fx tp rd nm dn ce p) : Mn (m_goes S) fun S' => TkM S' t (tE t p) ∧ Pkp S S' ∧ S'.1 14 = 0 ∧ S'.1 15 = S.1 15 := (r_goes h.h7 h.hc (tE_le h.pl) h.t4 h.tk.1).mono fun S' ⟨k1, k2, k3⟩ => ⟨k1, ⟨fun k q => k2 k (by omega), k3⟩, (k2 14 (by decide)).trans h.gd, k2 15 (by decide)⟩
/-- the same with only a state of the reference that looks alike -/
theorem q_next2 (h : PG G T S t fx tp rd nm dn ce p) {S1 : MS} (h18 : S1.1 18 = S.1 18) (h4 : Tp4 S1 t) : Mn (m_goes S1) fun S' => TkM S' t (tE t p) ∧ Pkp S1 S' ∧ S'.1 14 = S1.1 14 ∧ S'.1 15 = S1.1 15 := (r_goes h.h7 h.hc (tE_le h.pl) h4 (h18.trans h.tk.1)).mono fun S' ⟨k1, k2, k3⟩ => ⟨k1, ⟨fun k q => k2 k (by omega), k3⟩, k2 14 (by decide), k2 15 (by decide)⟩
theorem r_wrong_g {k : Int32} (h : S.1 14 = 0) (hk : k ≠ 0) : Mn (m_wrong k S) fun S' => Pkp S S' ∧ S'.1 14 = k ∧ S'.1 15 = S.1 20 ∧ ∀ j, j ≠ 14 → j ≠ 15 → S'.1 j = S.1 j := by
  unfold m_wrong
  rw [if_pos h]
  refine Mn.ret ⟨⟨fun j q => ?_, rfl⟩, ?_, ?_, fun j q1 q2 => ?_⟩
  · rw [sF_ne (by omega), sF_ne (by omega)]
  · rw [sF_ne (by decide), sF_at]
  · rw [sF_at, sF_ne (by decide)]
  · rw [sF_ne q2, sF_ne q1]
theorem r_wrong_b {k : Int32} (h : ¬ S.1 14 = 0) : m_wrong k S = some S := by unfold m_wrong; rw [if_neg h]
theorem r_good (h : S.1 14 = 0) : m_isGood S = some 1 := by unfold m_isGood; rw [if_pos h]
theorem r_bad (h : ¬ S.1 14 = 0) : m_isGood S = some 0 := by unfold m_isGood; rw [if_neg h]
/-- one wrong, both sides -/
theorem PB.mk (h : PG G T S t fx tp rd nm dn ce p) {T' : xF} {k : Nat} (hk : 0 < k) (hk2 : k < 10) (f : ∀ x, x ≠ T.2.1 → T'.1 x = T.1 x) (w : oI T' (some T.2.1) 5 6 = some (Int32.ofNat k)) (a : S'.1 14 = Int32.ofNat k) (b : S'.1 15 = S.1 20) : PB T' S' (WR, T.2.1) rd := by
  refine ⟨T.2.1, k, Int32.ofNat (tB t p), rfl, w, ?_, hk, hk2, a, b.trans h.tk.2.2.1⟩
  have e : T'.1 rd = T.1 rd := f rd (by have := h.lt; omega)
  have := h.i9
  unfold oI oF at this ⊢
  simp -implicitDefEqProofs only [e]
  exact this
theorem PB.bad {e : xE} (h : PB T' S' e rd) : ¬ S'.1 14 = 0 := by
  obtain ⟨w, k, b, h1, h2, h3, h4, h5, h6, h7⟩ := h
  rw [h6]
  exact fun q => by have := (oeq (n := k) (m := 0) (by omega) (by omega)).mp q; omega
/-- wanted, in both: the reference says wrong where the system throws -/
theorem j_wrong {α β : Type} (h : PG G T S t fx tp rd nm dn ce p) {k : Nat} (hk : 0 < k) (hk2 : k < 10) {r : Option Nat} {kk : Unit → xF → Option ((α ⊕ xE) × xF)} {y : MS → Option β} {Q : α ⊕ xE → xF → β → Prop} (q : ∀ T' S', frc (fun _ => False) T T' → T'.2.1 = T.2.1 + 1 → T'.2.2 = T.2.2 + 7 → PB T' S' (WR, T.2.1) rd → Pkp S S' → ∃ b, y S' = some b ∧ Q (.inr (WR, T.2.1)) T' b) : Jn T (clX (c_X5_want G r 0 (Int32.ofNat k) T) T kk) ((m_wrong (Int32.ofNat k) S).bind y) Q := by
  obtain ⟨T', e, l, f, n1, n2, w⟩ := e_want_f (T := T) (G := G) r (Int32.ofNat k)
  obtain ⟨S', eS, p1, p2, p3, p4⟩ := r_wrong_g (S := S) (k := Int32.ofNat k) h.gd (fun z => by have := (oeq (n := k) (m := 0) (by omega) (by omega)).mp z; omega)
  obtain ⟨b, eb, hq⟩ := q T' S' ⟨l.1, fun x hx _ => f x (by omega)⟩ n1 n2 (PB.mk h hk hk2 f w p2 p3) p1
  exact Jn.thX e l (by rw [eS]; exact eb) hq
theorem tS_ne {k : Nat} (hk : k < 10) : (Int32.ofNat (tS t p) = Int32.ofNat k ↔ tS t p = k) := by
  have := tS_le t p
  exact oeq (by omega) (by omega)
/-- the number that stands here -/
abbrev nmF (t : Tpe) (p : Nat) : Nat := numF t (tB t p) (tE t p - tB t p)
theorem nmF_lt (h2 : tS t p = 2) (h4 : tE t p - tB t p ≤ 4) : nmF t p < 10000 := by
  have en1 : tE t p = scn (fun k => isD (t.1 k)) t.2 (t.2 - tB t p) (tB t p) := by
    unfold tE; rw [if_neg (by omega), if_neg (by omega), if_pos h2]
  have := numF_lt (t := t) (b := tB t p) (tE t p - tB t p) fun i hi => (isD_r (scn_in (q := fun k => isD (t.1 k)) (n := t.2) (t.2 - tB t p) (tB t p) (tB t p + i) (by omega) (by omega)).2).2
  have : 10 ^ (tE t p - tB t p) ≤ 10 ^ 4 := Nat.pow_le_pow_right (by decide) h4
  show numF t (tB t p) (tE t p - tB t p) < 10000
  omega
/-- numberNow, what it says -/
theorem e_numberNow (h : PG G T S t fx tp rd nm dn ce p) {lo hi : Nat} (hlo : lo < 20000) (hhi : hi < 20000) : (tS t p = 2 ∧ tE t p - tB t p ≤ 4 ∧ lo ≤ nmF t p ∧ nmF t p ≤ hi ∧ c_X5_numberNow G (some rd) (Int32.ofNat lo) (Int32.ofNat hi) T = some (.inl (Int32.ofNat (nmF t p)), T)) ∨ (¬ (tS t p = 2 ∧ tE t p - tB t p ≤ 4 ∧ lo ≤ nmF t p ∧ nmF t p ≤ hi) ∧ ∃ T', c_X5_numberNow G (some rd) (Int32.ofNat lo) (Int32.ofNat hi) T = some (.inr (WR, T.2.1), T') ∧ xle T T' ∧ (∀ x, x ≠ T.2.1 → T'.1 x = T.1 x) ∧ T'.2.1 = T.2.1 + 1 ∧ T'.2.2 = T.2.2 + 7 ∧ oI T' (some T.2.1) 5 6 = some (if tS t p = 2 then 2 else 1)) := by
  obtain ⟨nu, r, rn⟩ := h.rs
  have hg := tE_ge h.pl
  have hl := tE_le h.pl
  have h7 := h.h7
  unfold c_X5_numberNow
  rw [r.i8, Option.bind_some]
  by_cases s2 : tS t p = 2
  · rw [if_pos (show Int32.ofNat (tS t p) = 2 by rw [s2]; rfl)]
    unfold c_X5_numberNow_14
    rw [if_neg (not_not_intro r.is)]
    have bad : ∀ y : Option ((Int32 ⊕ xE) × xF), y = c_X5_numberNow_52 G (some rd) (some rd) T → ∃ T', y = some (.inr (WR, T.2.1), T') ∧ xle T T' ∧ (∀ x, x ≠ T.2.1 → T'.1 x = T.1 x) ∧ T'.2.1 = T.2.1 + 1 ∧ T'.2.2 = T.2.2 + 7 ∧ oI T' (some T.2.1) 5 6 = some 2 := by
      intro y hy
      obtain ⟨T', e, l, f, n1, n2, w⟩ := e_want_f (T := T) (G := G) (some rd) 2
      refine ⟨T', ?_, l, f, n1, n2, w⟩
      rw [hy]
      unfold c_X5_numberNow_52 c_X5_numberNow_53
      rw [if_neg (not_not_intro r.is)]
      exact clX_th e l
    have pre : ∀ (y : Option ((Int32 ⊕ xE) × xF)) (k : xF → Option ((Int32 ⊕ xE) × xF)), k T = y → (∀ v T', y = some (v, T') → xle T T') → ∀ z, y = some z → clX (c_X5_want G (some rd) 1 1 T) T (fun _ T15 => k T15) = y := by
      intro y k hk hy z hz
      rw [e_want_t]
      show Option.bind (some _) _ = _
      rw [Option.bind_some, if_pos (xlb xlr)]
      show (k T).bind _ = y
      rw [hk, hz, Option.bind_some, if_pos (xlb (hy z.1 z.2 hz))]
    rw [if_pos s2]
    by_cases l4 : tE t p - tB t p ≤ 4
    · have en := rn s2 l4
      have nl := nmF_lt s2 l4
      have vL : nu = Int32.ofNat (nmF t p) := en
      by_cases c1 : lo ≤ nmF t p
      · by_cases c2 : nmF t p ≤ hi
        · refine Or.inl ⟨s2, l4, c1, c2, ?_⟩
          refine pre _ (fun T15 => (oI T15 (some rd) 4 10).bind fun v20 => (oI T15 (some rd) 4 9).bind fun v24 => if (4 : Int32) < (v20 - v24) then c_X5_numberNow_52 G (some rd) (some rd) T15 else (oI T15 (some rd) 4 11).bind fun v33 => if v33 < Int32.ofNat lo then c_X5_numberNow_52 G (some rd) (some rd) T15 else (oI T15 (some rd) 4 11).bind fun v41 => if Int32.ofNat hi < v41 then c_X5_numberNow_52 G (some rd) (some rd) T15 else c_X5_numberNow_53 G (some rd) (1 : Int32) (some rd) T15) ?_ (fun v T' q => by cases q; exact xlr) _ rfl
          simp -implicitDefEqProofs only [r.i10, r.i9, r.i11, Option.bind_some, not_true_eq_false, if_false, if_true]
          rw [osub hg (by omega), if_neg (show ¬ (4 : Int32) < Int32.ofNat (tE t p - tB t p) from fun q => by have := (olt (n := 4) (m := tE t p - tB t p) (by omega) (by omega)).mp q; omega), vL, if_neg (fun q => by have := (olt (by omega) (by omega)).mp q; omega), if_neg (fun q => by have := (olt (by omega) (by omega)).mp q; omega)]
          unfold c_X5_numberNow_53
          rw [if_neg (not_not_intro r.is)]
          refine clX_k (e_want_t _ _) ?_
          rw [r.i11, Option.bind_some, vL]
        · refine Or.inr ⟨fun z => c2 z.2.2.2, ?_⟩
          obtain ⟨T', e, l, f⟩ := bad _ rfl
          refine ⟨T', ?_, l, f⟩
          rw [← e]
          refine pre _ (fun T15 => (oI T15 (some rd) 4 10).bind fun v20 => (oI T15 (some rd) 4 9).bind fun v24 => if (4 : Int32) < (v20 - v24) then c_X5_numberNow_52 G (some rd) (some rd) T15 else (oI T15 (some rd) 4 11).bind fun v33 => if v33 < Int32.ofNat lo then c_X5_numberNow_52 G (some rd) (some rd) T15 else (oI T15 (some rd) 4 11).bind fun v41 => if Int32.ofNat hi < v41 then c_X5_numberNow_52 G (some rd) (some rd) T15 else c_X5_numberNow_53 G (some rd) (1 : Int32) (some rd) T15) ?_ (fun v T2 q => by rw [e] at q; cases q; exact l) _ e
          simp -implicitDefEqProofs only [r.i10, r.i9, r.i11, Option.bind_some, not_true_eq_false, if_false, if_true]
          rw [osub hg (by omega), if_neg (show ¬ (4 : Int32) < Int32.ofNat (tE t p - tB t p) from fun q => by have := (olt (n := 4) (m := tE t p - tB t p) (by omega) (by omega)).mp q; omega), vL, if_neg (fun q => by have := (olt (by omega) (by omega)).mp q; omega), if_pos ((olt (by omega) (by omega)).mpr (by omega))]
      · refine Or.inr ⟨fun z => c1 z.2.2.1, ?_⟩
        obtain ⟨T', e, l, f⟩ := bad _ rfl
        refine ⟨T', ?_, l, f⟩
        rw [← e]
        refine pre _ (fun T15 => (oI T15 (some rd) 4 10).bind fun v20 => (oI T15 (some rd) 4 9).bind fun v24 => if (4 : Int32) < (v20 - v24) then c_X5_numberNow_52 G (some rd) (some rd) T15 else (oI T15 (some rd) 4 11).bind fun v33 => if v33 < Int32.ofNat lo then c_X5_numberNow_52 G (some rd) (some rd) T15 else (oI T15 (some rd) 4 11).bind fun v41 => if Int32.ofNat hi < v41 then c_X5_numberNow_52 G (some rd) (some rd) T15 else c_X5_numberNow_53 G (some rd) (1 : Int32) (some rd) T15) ?_ (fun v T2 q => by rw [e] at q; cases q; exact l) _ e
        simp -implicitDefEqProofs only [r.i10, r.i9, r.i11, Option.bind_some, not_true_eq_false, if_false, if_true]
        rw [osub hg (by omega), if_neg (show ¬ (4 : Int32) < Int32.ofNat (tE t p - tB t p) from fun q => by have := (olt (n := 4) (m := tE t p - tB t p) (by omega) (by omega)).mp q; omega), vL, if_pos ((olt (by omega) (by omega)).mpr (by omega))]
    · refine Or.inr ⟨fun z => l4 z.2.1, ?_⟩
      obtain ⟨T', e, l, f⟩ := bad _ rfl
      refine ⟨T', ?_, l, f⟩
      rw [← e]
      refine pre _ (fun T15 => (oI T15 (some rd) 4 10).bind fun v20 => (oI T15 (some rd) 4 9).bind fun v24 => if (4 : Int32) < (v20 - v24) then c_X5_numberNow_52 G (some rd) (some rd) T15 else (oI T15 (some rd) 4 11).bind fun v33 => if v33 < Int32.ofNat lo then c_X5_numberNow_52 G (some rd) (some rd) T15 else (oI T15 (some rd) 4 11).bind fun v41 => if Int32.ofNat hi < v41 then c_X5_numberNow_52 G (some rd) (some rd) T15 else c_X5_numberNow_53 G (some rd) (1 : Int32) (some rd) T15) ?_ (fun v T2 q => by rw [e] at q; cases q; exact l) _ e
      simp -implicitDefEqProofs only [r.i10, r.i9, r.i11, Option.bind_some, not_true_eq_false, if_false, if_true]
      rw [osub hg (by omega), if_pos (show (4 : Int32) < Int32.ofNat (tE t p - tB t p) from (olt (n := 4) (m := tE t p - tB t p) (by omega) (by omega)).mpr (by omega))]
  · rw [if_neg (show ¬ Int32.ofNat (tS t p) = 2 from fun q => s2 ((tS_ne (k := 2) (by decide)).mp q))]
    refine Or.inr ⟨fun z => s2 z.1, ?_⟩
    obtain ⟨T', e, l, f, n1, n2, w⟩ := e_want_f (T := T) (G := G) (some rd) 1
    refine ⟨T', ?_, l, f, n1, n2, by rw [if_neg s2]; exact w⟩
    unfold c_X5_numberNow_14
    rw [if_neg (not_not_intro r.is)]
    exact clX_th e l
end PJ
