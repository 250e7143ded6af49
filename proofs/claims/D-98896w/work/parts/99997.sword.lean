/-! plain law: the system's next token, words, signs, numbers -/
set_option maxRecDepth 100000
/-- what the reader stands on -/
def Cx (G : xG) (T : xF) (t : Tpe) (fx : Fx) (tp : Nat) : Prop := TpC T fx.2.2.2.2.2 tp t ∧ fx.2.2.2.2.2 < T.2.1 ∧ tp < T.2.1 ∧ StrA G T ∧ t.2 ≤ 700 ∧ ∀ k, t.1 k < 256
section CX
variable {G : xG} {T T' : xF} {rd nm tp p : Nat} {t : Tpe} {fx : Fx} {at_ tok be en nu dn ce : Int32}
/-- the reader's cell holds a reader -/
def isRd (T : xF) (rd : Nat) : Prop := ∃ w fs, T.1 rd = some (w, .inr (4, fs))
theorem Rd0.ird (h : Rd0 T rd t fx nm at_ tok be en nu dn ce) : isRd T rd := ⟨_, _, h⟩
theorem RdS.ird (h : RdS T rd t fx nm dn ce p) : isRd T rd := by
  obtain ⟨nu, h1, -⟩ := h
  exact h1.ird
theorem Cx.fr (h : Cx G T t fx tp) (hr : isRd T rd) (F : frc (fun x => x = rd) T T') : Cx G T' t fx tp := by
  obtain ⟨h1, h2, h3, h4, h5, h6⟩ := h
  obtain ⟨w, fs, hr⟩ := hr
  have hl := F.1
  have no : fx.2.2.2.2.2 ≠ rd := fun q => by
    obtain ⟨g1, -⟩ := h1
    unfold oQ oF at g1
    rw [q] at g1
    simp -implicitDefEqProofs only [hr] at g1
    rw [if_neg (by decide)] at g1
    cases g1
  have nt : tp ≠ rd := fun q => by
    obtain ⟨-, w, B, g2, -⟩ := h1
    rw [q, hr] at g2
    cases g2
  refine ⟨h1.fr (F.2 _ h2 no) (F.2 _ h3 nt), by omega, by omega, fun i hi => ?_, h5, h6⟩
  obtain ⟨g1, va, w1, w2, rest, f, g2, g3, g4, g5⟩ := h4 i hi
  refine ⟨by omega, va, w1, w2, rest, f, by omega, (F.2 _ g1 fun q => ?_).trans g3, (F.2 _ g2 fun q => ?_).trans g4, g5⟩
  · rw [q, hr] at g3; cases g3
  · rw [q, hr] at g4; cases g4
theorem Cx.str (h : Cx G T t fx tp) {i : Nat} (hi : i < 19) : Str1 T (gT G i) (swl.getD i []) := (h.2.2.2.1 i hi).2
theorem Cx.no (h : Cx G T t fx tp) (hr : isRd T rd) : fx.2.2.2.2.2 ≠ rd ∧ tp ≠ rd := by
  obtain ⟨h1, -⟩ := h
  obtain ⟨w, fs, hr⟩ := hr
  refine ⟨fun q => ?_, fun q => ?_⟩
  · obtain ⟨g1, -⟩ := h1
    unfold oQ oF at g1
    rw [q] at g1
    simp -implicitDefEqProofs only [hr] at g1
    rw [if_neg (by decide)] at g1
    cases g1
  · obtain ⟨-, w, B, g2, -⟩ := h1
    rw [q, hr] at g2
    cases g2
theorem e_next0 (h : Cx G T t fx tp) (hi : isRd T rd) {p : Nat} (hp : p ≤ t.2) : ∀ d x T1 tok be en nu, t.2 ≤ x + d → x ≤ t.2 → scn (fun k => isP (t.1 k)) t.2 d x = tB t p → frm (fun x => x = rd) T T1 → Rd0 T1 rd t fx nm (Int32.ofNat x) tok be en nu dn ce → ∀ m, d < m → Rn T1 (c_X5_next_0 G m (some rd) T1) fun _ T' => frm (fun x => x = rd) T T' ∧ RdS T' rd t fx nm dn ce p := by
  have h7 := h.2.2.2.2.1
  have hc := h.2.2.2.2.2
  obtain ⟨no, nt⟩ := h.no hi
  have hbn := tB_le hp
  -- the token itself
  have tok0 : ∀ T1 tok be en nu, frm (fun x => x = rd) T T1 → Rd0 T1 rd t fx nm (Int32.ofNat (tB t p)) tok be en nu dn ce → ∀ k0, (¬ tB t p < t.2 ∨ isP (t.1 (tB t p)) ≠ true) → Rn T1 (c_X5_next_0_b G k0 (some rd) T1) fun _ T' => frm (fun x => x = rd) T T' ∧ RdS T' rd t fx nm dn ce p := by
    intro T1 tok be en nu f1 r1 k0 hsp
    have C1 := h.fr hi f1.c
    unfold c_X5_next_0_b
    rw [if_neg (not_not_intro r1.is), e_here h7 hc r1 C1.1 hbn, Option.bind_some]
    have nsp : ¬ hr t (tB t p) = 32 ∧ ¬ hr t (tB t p) = 10 := by
      unfold hr
      by_cases q : tB t p < t.2
      · have z := hsp.resolve_left (fun r => r q)
        have cb := hc (tB t p)
        unfold isP at z
        rw [ne_eq, Bool.or_eq_true, beq_iff_eq, beq_iff_eq] at z
        rw [if_pos q]
        exact ⟨fun r => z (Or.inl ((oeq (n := t.1 (tB t p)) (m := 32) (by omega) (by omega)).mp r)), fun r => z (Or.inr ((oeq (n := t.1 (tB t p)) (m := 10) (by omega) (by omega)).mp r))⟩
      · rw [if_neg q]; decide
    rw [if_neg nsp.1, if_neg (not_not_intro r1.is), Option.bind_some, if_neg nsp.2, r1.i7, Option.bind_some]
    obtain ⟨T2, e2, f2, r2⟩ := r1.st (k := 9) (v := .int (Int32.ofNat (tB t p))) (nm' := nm) (a' := Int32.ofNat (tB t p)) (t' := tok) (b' := Int32.ofNat (tB t p)) (e' := en) (n' := nu) (d' := dn) (c' := ce) rfl
    refine Rn.st e2 f2.le ?_
    have C2 := C1.fr r1.ird f2.c
    have f12 := f1.tr f2
    rw [if_neg (not_not_intro r2.is), e_here h7 hc r2 C2.1 hbn, Option.bind_some]
    by_cases q : tB t p < t.2
    · have eh : hr t (tB t p) = Int32.ofNat (t.1 (tB t p)) := if_pos q
      have cb := hc (tB t p)
      rw [eh, if_neg (ipos_ne (by omega)), if_neg (not_not_intro r2.is), e_isLet h7 hc r2 C2.1 hbn, Option.bind_some]
      by_cases cl : isL (t.1 (tB t p)) = true
      · have cc : tB t p < t.2 ∧ isL (t.1 (tB t p)) = true := ⟨q, cl⟩
        have s1 : tS t p = 1 := tS_1.mpr cc
        have en1 : tE t p = scn (fun k => isL (t.1 k)) t.2 (t.2 - tB t p) (tB t p) := by
          unfold tE; rw [if_neg (by omega), if_pos s1]
        rw [if_pos cc, if_neg (show ¬ (1 : Int32) = 0 by decide)]
        exact e_nextL h7 hc h.1 no nt hp s1 (t.2 - tB t p) (tB t p) T2 tok en nu (by omega) (Nat.le_refl _) hbn en1.symm f12 r2 FU (by show _ < 6000; omega)
      · have nc : ¬ (tB t p < t.2 ∧ isL (t.1 (tB t p)) = true) := fun z => cl z.2
        rw [if_neg nc, if_pos rfl, if_neg (not_not_intro r2.is), e_isDig h7 hc r2 C2.1 hbn, Option.bind_some]
        by_cases cd : isD (t.1 (tB t p)) = true
        · have cc : tB t p < t.2 ∧ isD (t.1 (tB t p)) = true := ⟨q, cd⟩
          have s2 : tS t p = 2 := by
            unfold tS; rw [if_neg (by omega), if_neg cl, if_pos cd]
          have en1 : tE t p = scn (fun k => isD (t.1 k)) t.2 (t.2 - tB t p) (tB t p) := by
            unfold tE; rw [if_neg (by omega), if_neg (by omega), if_pos s2]
          rw [if_pos cc, if_neg (show ¬ (1 : Int32) = 0 by decide)]
          obtain ⟨T3, e3, f3, r3⟩ := r2.st (k := 11) (v := .int 0) (nm' := nm) (a' := Int32.ofNat (tB t p)) (t' := tok) (b' := Int32.ofNat (tB t p)) (e' := en) (n' := 0) (d' := dn) (c' := ce) rfl
          refine Rn.st e3 f3.le ?_
          exact e_nextD h7 hc h.1 no nt hp s2 (t.2 - tB t p) (tB t p) T3 tok en 0 (by omega) (Nat.le_refl _) hbn en1.symm (f12.tr f3) (by omega) (fun _ => by rw [Nat.sub_self]; rfl) (fun k k1 k2 => by omega) r3 FU (by show _ < 6000; omega)
        · have nc2 : ¬ (tB t p < t.2 ∧ isD (t.1 (tB t p)) = true) := fun z => cd z.2
          have S13 : Str1 T2 (gT G 13) sgl := C2.str (i := 13) (by decide)
          obtain ⟨v, ev, hv⟩ := e_sgn S13 cb
          rw [if_neg nc2, if_pos rfl, if_neg (not_not_intro r2.is), Option.bind_some, if_neg (not_not_intro S13.is), ev, Option.bind_some]
          have fin : ∀ k : Nat, tS t p = k → k ≠ 0 → k ≠ 1 → k ≠ 2 → Rn T2 (c_X5_next_172 G (some rd) (Int32.ofNat k) (some rd) T2) fun _ T' => frm (fun x => x = rd) T T' ∧ RdS T' rd t fx nm dn ce p := by
            intro k sk k0 k1 k2
            have en1 : tE t p = tB t p + 1 := by
              unfold tE; rw [if_neg (by omega), if_neg (by omega), if_neg (by omega)]
            unfold c_X5_next_172
            obtain ⟨T3, e3, f3, r3⟩ := r2.st (k := 8) (v := .int (Int32.ofNat k)) (nm' := nm) (a' := Int32.ofNat (tB t p)) (t' := Int32.ofNat k) (b' := Int32.ofNat (tB t p)) (e' := en) (n' := nu) (d' := dn) (c' := ce) rfl
            refine Rn.st e3 f3.le ?_
            rw [r3.i7, Option.bind_some, ofn1 _ (by omega)]
            obtain ⟨T4, e4, f4, r4⟩ := r3.st (k := 7) (v := .int (Int32.ofNat (tB t p + 1))) (nm' := nm) (a' := Int32.ofNat (tB t p + 1)) (t' := Int32.ofNat k) (b' := Int32.ofNat (tB t p)) (e' := en) (n' := nu) (d' := dn) (c' := ce) rfl
            refine Rn.st e4 f4.le ?_
            unfold c_X5_next_185
            rw [r4.i7, Option.bind_some]
            obtain ⟨T5, e5, f5, r5⟩ := r4.st (k := 10) (v := .int (Int32.ofNat (tB t p + 1))) (nm' := nm) (a' := Int32.ofNat (tB t p + 1)) (t' := Int32.ofNat k) (b' := Int32.ofNat (tB t p)) (e' := Int32.ofNat (tB t p + 1)) (n' := nu) (d' := dn) (c' := ce) rfl
            refine Rn.st e5 f5.le (Rn.ret ⟨f12.tr (f3.tr (f4.tr f5)), nu, ?_, fun z => by omega⟩)
            rw [en1, sk]; exact r5
          by_cases cg : isG (t.1 (tB t p)) = true
          · rw [if_neg (fun z => (hv.mp z) cg)]
            exact fin 3 (by unfold tS; rw [if_neg (by omega), if_neg cl, if_neg cd, if_pos cg]) (by omega) (by omega) (by omega)
          · rw [if_pos (hv.mpr cg)]
            exact fin 4 (by unfold tS; rw [if_neg (by omega), if_neg cl, if_neg cd, if_neg cg]) (by omega) (by omega) (by omega)
    · have eh : hr t (tB t p) = -1 := if_neg q
      have s0 : tS t p = 0 := by unfold tS; rw [if_pos (by omega)]
      have en1 : tE t p = tB t p := by unfold tE; rw [if_pos s0]
      rw [eh, if_pos rfl]
      obtain ⟨T3, e3, f3, r3⟩ := r2.st (k := 8) (v := .int 0) (nm' := nm) (a' := Int32.ofNat (tB t p)) (t' := 0) (b' := Int32.ofNat (tB t p)) (e' := en) (n' := nu) (d' := dn) (c' := ce) rfl
      refine Rn.st e3 f3.le ?_
      unfold c_X5_next_185
      rw [r3.i7, Option.bind_some]
      obtain ⟨T4, e4, f4, r4⟩ := r3.st (k := 10) (v := .int (Int32.ofNat (tB t p))) (nm' := nm) (a' := Int32.ofNat (tB t p)) (t' := 0) (b' := Int32.ofNat (tB t p)) (e' := Int32.ofNat (tB t p)) (n' := nu) (d' := dn) (c' := ce) rfl
      refine Rn.st e4 f4.le (Rn.ret ⟨f12.tr (f3.tr f4), nu, ?_, fun z => by omega⟩)
      rw [en1, s0]; exact r4
  intro d
  induction d with
  | zero =>
    intro x T1 tok be en nu a1 a2 a3 a4 a5 m hm
    obtain ⟨m, rfl⟩ : ∃ i, m = i + 1 := ⟨m - 1, by omega⟩
    have a3 : x = tB t p := a3
    subst a3
    exact tok0 T1 tok be en nu a4 a5 (c_X5_next_0 G m) (Or.inl (by omega))
  | succ d ih =>
    intro x T1 tok be en nu a1 a2 a3 a4 a5 m hm
    obtain ⟨m, rfl⟩ : ∃ i, m = i + 1 := ⟨m - 1, by omega⟩
    by_cases q : x < t.2 ∧ isP (t.1 x) = true
    · rw [show scn (fun k => isP (t.1 k)) t.2 (d + 1) x = scn (fun k => isP (t.1 k)) t.2 d (x + 1) from if_pos q] at a3
      have C1 := h.fr hi a4.c
      have eh : hr t x = Int32.ofNat (t.1 x) := if_pos q.1
      have cx := hc x
      have go : Rn T1 (c_X5_next_18 G (c_X5_next_0 G m) (some rd) T1) fun _ T' => frm (fun x => x = rd) T T' ∧ RdS T' rd t fx nm dn ce p := by
        unfold c_X5_next_18
        rw [a5.i7, Option.bind_some, ofn1 x (by omega)]
        obtain ⟨T2, e2, f2, r2⟩ := a5.st (k := 7) (v := .int (Int32.ofNat (x + 1))) (nm' := nm) (a' := Int32.ofNat (x + 1)) (t' := tok) (b' := be) (e' := en) (n' := nu) (d' := dn) (c' := ce) rfl
        exact Rn.st e2 f2.le (ih (x + 1) T2 tok be en nu (by omega) (by omega) a3 (a4.tr f2) r2 m (by omega))
      show Rn T1 (c_X5_next_0_b G (c_X5_next_0 G m) (some rd) T1) _
      unfold c_X5_next_0_b
      rw [if_neg (not_not_intro a5.is), e_here h7 hc a5 C1.1 a2, eh, Option.bind_some]
      have z := q.2
      unfold isP at z
      rw [Bool.or_eq_true, beq_iff_eq, beq_iff_eq] at z
      by_cases z1 : t.1 x = 32
      · rw [if_pos (show Int32.ofNat (t.1 x) = 32 by rw [z1]; rfl)]; exact go
      · rw [if_neg (show ¬ Int32.ofNat (t.1 x) = 32 from fun r => z1 ((oeq (n := t.1 x) (m := 32) (by omega) (by omega)).mp r)), if_neg (not_not_intro a5.is), Option.bind_some, if_pos (show Int32.ofNat (t.1 x) = 10 by rw [z.resolve_left z1]; rfl)]; exact go
    · rw [show scn (fun k => isP (t.1 k)) t.2 (d + 1) x = x from if_neg q] at a3
      subst a3
      refine tok0 T1 tok be en nu a4 a5 (c_X5_next_0 G m) ?_
      by_cases z : tB t p < t.2
      · exact Or.inr fun r => q ⟨z, r⟩
      · exact Or.inl z
/-- the next token -/
theorem e_next (h : Cx G T t fx tp) (hR : Rd0 T rd t fx nm (Int32.ofNat p) tok be en nu dn ce) (hp : p ≤ t.2) : Rn T (c_X5_next G (some rd) T) fun _ T' => frm (fun x => x = rd) T T' ∧ RdS T' rd t fx nm dn ce p := by
  have h7 := h.2.2.2.2.1
  unfold c_X5_next
  exact e_next0 h hR.ird hp (t.2 - p) p T tok be en nu (by omega) hp rfl frm.rf hR FU (by show _ < 6000; omega)
theorem e_nxt (h : Cx G T t fx tp) (hR : RdS T rd t fx nm dn ce p) (hp : p ≤ t.2) : Rn T (c_X5_next G (some rd) T) fun _ T' => frm (fun x => x = rd) T T' ∧ RdS T' rd t fx nm dn ce (tE t p) := by
  obtain ⟨nu, h1, -⟩ := hR
  exact e_next h h1 (tE_le hp)
end CX
