/-! plain law: the system's next token, words, signs -/
set_option maxRecDepth 100000
/-- the system's reader stands at a token -/
def RdS (T : xF) (rd : Nat) (t : Tpe) (fx : Fx) (nm : Nat) (dn ce : Int32) (p : Nat) : Prop := ∃ nu, Rd0 T rd t fx nm (Int32.ofNat (tE t p)) (Int32.ofNat (tS t p)) (Int32.ofNat (tB t p)) (Int32.ofNat (tE t p)) nu dn ce ∧ (tS t p = 2 → tE t p - tB t p ≤ 4 → nu = Int32.ofNat (numF t (tB t p) (tE t p - tB t p)))
def sgl : List Nat := [59, 40, 41, 43, 45, 42, 47, 60, 61]
theorem sgl_e : swl.getD 13 [] = sgl := rfl
theorem sg_eq : ∀ c, c < 256 → ∀ i, i < 9 → (Int32.ofNat (sgl.getD i 0) = (Int32.ofNat c).toInt8.toInt32 ↔ sgl.getD i 0 = c) := by decide +kernel
theorem sg_in : ∀ c, c < 256 → (isG c = true ↔ ∃ i, i < 9 ∧ sgl.getD i 0 = c) := by
  have h : ∀ c : Nat, c < 256 → isG c = !(decide (∀ i : Nat, i < 9 → ¬ sgl.getD i 0 = c)) := by decide +kernel
  intro c hc
  rw [h c hc, Bool.not_eq_true', decide_eq_false_iff_not]
  refine ⟨fun q => Classical.byContradiction fun r => q fun i hi e => r ⟨i, hi, e⟩, fun ⟨i, hi, e⟩ q => q i hi e⟩
section SX
variable {G : xG} {T : xF} {rd nm tp : Nat} {t : Tpe} {fx : Fx} {at_ tok be en nu dn ce : Int32}
theorem e_sgn (h : Str1 T (gT G 13) sgl) {c : Nat} (hc : c < 256) : ∃ v, c_J8_indexOf T (some (gT G 13)) (Int32.ofNat c) = some v ∧ (v < 0 ↔ ¬ isG c = true) := by
  obtain ⟨va, w2, f, h0, h1, h2, h3⟩ := h.ex
  have hl : len T (some va) = some (Int32.ofNat 9) := by rw [len.eq_2]; simp -implicitDefEqProofs only [h2]; rfl
  have hd : ∀ k, k < 9 → ldA T (some va) .byte (Int32.ofNat k) = some (Int32.ofNat (sgl.getD k 0)) := fun k hk => by
    unfold ldA aA
    simp -implicitDefEqProofs only [h2, if_true, Option.bind_some]
    rw [if_pos (inb_o (show k < sgl.length from hk) (by omega)), ocl (by omega), h3 k hk]
  have key : ∃ v, c_J9_indexOfChar_7 T FU (some va) 9 ((Int32.ofNat c).toInt8.toInt32) 0 = some v ∧ (v < 0 ↔ ¬ isG c = true) := by
    refine loop_rule (σ := Unit) (N := 9) (fun i _ => ∀ j, j < i → sgl.getD j 0 ≠ c) (fun m i _ => ∃ v, c_J9_indexOfChar_7 T m (some va) 9 ((Int32.ofNat c).toInt8.toInt32) (Int32.ofNat i) = some v ∧ (v < 0 ↔ ¬ isG c = true)) ?_ ?_ FU (by decide) () (fun j hj => absurd hj (Nat.not_lt_zero j))
    · intro m i _ hi hj K
      have e : c_J9_indexOfChar_7 T (m + 1) (some va) 9 ((Int32.ofNat c).toInt8.toInt32) (Int32.ofNat i) = c_J9_indexOfChar_7_b T (c_J9_indexOfChar_7 T m) (some va) 9 ((Int32.ofNat c).toInt8.toInt32) (Int32.ofNat i) := rfl
      rw [e]
      unfold c_J9_indexOfChar_7_b
      rw [if_neg (fun q => by have := (ole (n := 9) (m := i) (by omega) (by omega)).mp q; omega), hd i hi, Option.bind_some, ofn1 i (by omega)]
      by_cases q : sgl.getD i 0 = c
      · rw [if_pos ((sg_eq c hc i hi).mpr q)]
        exact ⟨_, rfl, fun r => absurd r (on0 (by omega)), fun r => absurd ((sg_in c hc).mpr ⟨i, hi, q⟩) r⟩
      · rw [if_neg (fun r => q ((sg_eq c hc i hi).mp r))]
        refine K () fun j hj2 => ?_
        by_cases e : j = i
        · rw [e]; exact q
        · exact hj j (by omega)
    · intro m _ hj
      have e : c_J9_indexOfChar_7 T (m + 1) (some va) 9 ((Int32.ofNat c).toInt8.toInt32) (Int32.ofNat 9) = c_J9_indexOfChar_7_b T (c_J9_indexOfChar_7 T m) (some va) 9 ((Int32.ofNat c).toInt8.toInt32) (Int32.ofNat 9) := rfl
      rw [e]
      unfold c_J9_indexOfChar_7_b
      rw [if_pos (by decide)]
      refine ⟨_, rfl, fun _ q => ?_, fun _ => by decide⟩
      obtain ⟨i, hi, hq⟩ := (sg_in c hc).mp q
      exact hj i hi hq
  obtain ⟨v, e, hv⟩ := key
  refine ⟨v, ?_, hv⟩
  unfold c_J8_indexOf c_J8_indexOf_2 c_J9_indexOf c_J9_canEncode c_J9_indexOfChar
  have l9 : c_J8_length T (some (gT G 13)) = some 9 := h.len_ (by decide)
  have cn : ¬ (255 : Int32) < Int32.ofNat c := fun q => by have := (olt (n := 255) (m := c) (by omega) (by omega)).mp q; omega
  have hl9 : len T (some va) = some 9 := hl
  simp -implicitDefEqProofs only [h.is, h.lat, h0, l9, on0 (show c < 2000000 by omega), cn, e_max, e_min, hl9, Option.bind_some, not_true_eq_false, if_false, if_true, show ¬ (1 : Int32) = 0 by decide, show imax (0 : Int32) 0 = 0 by decide, show imin (9 : Int32) 9 = 9 by decide, show (0 : Int32) < 9 by decide, e]
/-- frame of the reader: only it changes -/
theorem RdS.fr {T' : xF} {p : Nat} (h : RdS T rd t fx nm dn ce p) (e : T'.1 rd = T.1 rd) : RdS T' rd t fx nm dn ce p := by
  obtain ⟨nu, h1, h2⟩ := h
  exact ⟨nu, e.trans h1, h2⟩
variable (h7 : t.2 ≤ 700) (hc : ∀ k, t.1 k < 256)
theorem e_nextL (h7 : t.2 ≤ 700) (hc : ∀ k, t.1 k < 256) (hT : TpC T fx.2.2.2.2.2 tp t) (ho : fx.2.2.2.2.2 ≠ rd) (ht : tp ≠ rd) {p : Nat} (hp : p ≤ t.2) (h1 : tS t p = 1) : ∀ d x T1 tok en nu, t.2 ≤ x + d → tB t p ≤ x → x ≤ t.2 → scn (fun k => isL (t.1 k)) t.2 d x = tE t p → frm (fun x => x = rd) T T1 → Rd0 T1 rd t fx nm (Int32.ofNat x) tok (Int32.ofNat (tB t p)) en nu dn ce → ∀ m, d < m → Rn T1 (c_X5_next_62 G m (some rd) T1) fun _ T' => frm (fun x => x = rd) T T' ∧ RdS T' rd t fx nm dn ce p := by
  intro d
  induction d with
  | zero =>
    intro x T1 tok en nu a1 a2 a3 a4 a5 a6 m hm
    obtain ⟨m, rfl⟩ : ∃ i, m = i + 1 := ⟨m - 1, by omega⟩
    have a4 : x = tE t p := a4
    have hT1 : TpC T1 fx.2.2.2.2.2 tp t := hT.fr (a5.2 _ ho) (a5.2 _ ht)
    show Rn T1 (c_X5_next_62_b G (c_X5_next_62 G m) (some rd) T1) _
    unfold c_X5_next_62_b
    rw [if_neg (not_not_intro a6.is), e_isLet h7 hc a6 hT1 a3, if_neg (fun z => by omega), Option.bind_some, if_pos rfl]
    obtain ⟨T2, e2, f2, r2⟩ := a6.st (k := 8) (v := .int 1) (nm' := nm) (a' := Int32.ofNat x) (t' := 1) (b' := Int32.ofNat (tB t p)) (e' := en) (n' := nu) (d' := dn) (c' := ce) rfl
    refine Rn.st e2 f2.le ?_
    unfold c_X5_next_185
    rw [r2.i7, Option.bind_some]
    obtain ⟨T3, e3, f3, r3⟩ := r2.st (k := 10) (v := .int (Int32.ofNat x)) (nm' := nm) (a' := Int32.ofNat x) (t' := 1) (b' := Int32.ofNat (tB t p)) (e' := Int32.ofNat x) (n' := nu) (d' := dn) (c' := ce) rfl
    refine Rn.st e3 f3.le (Rn.ret ⟨a5.tr (f2.tr f3), nu, ?_, fun q => by omega⟩)
    rw [← a4, h1]; exact r3
  | succ d ih =>
    intro x T1 tok en nu a1 a2 a3 a4 a5 a6 m hm
    obtain ⟨m, rfl⟩ : ∃ i, m = i + 1 := ⟨m - 1, by omega⟩
    have hT1 : TpC T1 fx.2.2.2.2.2 tp t := hT.fr (a5.2 _ ho) (a5.2 _ ht)
    show Rn T1 (c_X5_next_62_b G (c_X5_next_62 G m) (some rd) T1) _
    unfold c_X5_next_62_b
    rw [if_neg (not_not_intro a6.is), e_isLet h7 hc a6 hT1 a3]
    by_cases q : x < t.2 ∧ isL (t.1 x) = true
    · rw [show scn (fun k => isL (t.1 k)) t.2 (d + 1) x = scn (fun k => isL (t.1 k)) t.2 d (x + 1) from if_pos q] at a4
      rw [if_pos q, Option.bind_some, if_neg (show ¬ (1 : Int32) = 0 by decide), a6.i7, Option.bind_some, ofn1 x (by omega)]
      obtain ⟨T2, e2, f2, r2⟩ := a6.st (k := 7) (v := .int (Int32.ofNat (x + 1))) (nm' := nm) (a' := Int32.ofNat (x + 1)) (t' := tok) (b' := Int32.ofNat (tB t p)) (e' := en) (n' := nu) (d' := dn) (c' := ce) rfl
      refine Rn.st e2 f2.le (ih (x + 1) T2 tok en nu (by omega) (by omega) (by omega) a4 (a5.tr f2) r2 m (by omega))
    · rw [show scn (fun k => isL (t.1 k)) t.2 (d + 1) x = x from if_neg q] at a4
      rw [if_neg q, Option.bind_some, if_pos rfl]
      obtain ⟨T2, e2, f2, r2⟩ := a6.st (k := 8) (v := .int 1) (nm' := nm) (a' := Int32.ofNat x) (t' := 1) (b' := Int32.ofNat (tB t p)) (e' := en) (n' := nu) (d' := dn) (c' := ce) rfl
      refine Rn.st e2 f2.le ?_
      unfold c_X5_next_185
      rw [r2.i7, Option.bind_some]
      obtain ⟨T3, e3, f3, r3⟩ := r2.st (k := 10) (v := .int (Int32.ofNat x)) (nm' := nm) (a' := Int32.ofNat x) (t' := 1) (b' := Int32.ofNat (tB t p)) (e' := Int32.ofNat x) (n' := nu) (d' := dn) (c' := ce) rfl
      refine Rn.st e3 f3.le (Rn.ret ⟨a5.tr (f2.tr f3), nu, ?_, fun q => by omega⟩)
      rw [← a4, h1]; exact r3
theorem e_nextD (h7 : t.2 ≤ 700) (hc : ∀ k, t.1 k < 256) (hT : TpC T fx.2.2.2.2.2 tp t) (ho : fx.2.2.2.2.2 ≠ rd) (ht : tp ≠ rd) {p : Nat} (hp : p ≤ t.2) (h1 : tS t p = 2) : ∀ d x T1 tok en v, t.2 ≤ x + d → tB t p ≤ x → x ≤ t.2 → scn (fun k => isD (t.1 k)) t.2 d x = tE t p → frm (fun x => x = rd) T T1 → v ≤ 100000 → (x - tB t p ≤ 4 → v = numF t (tB t p) (x - tB t p)) → (∀ k, tB t p ≤ k → k < x → isD (t.1 k) = true) → Rd0 T1 rd t fx nm (Int32.ofNat x) tok (Int32.ofNat (tB t p)) en (Int32.ofNat v) dn ce → ∀ m, d < m → Rn T1 (c_X5_next_102 G m (some rd) T1) fun _ T' => frm (fun x => x = rd) T T' ∧ RdS T' rd t fx nm dn ce p := by
  have fin : ∀ x T1 tok en v, frm (fun x => x = rd) T T1 → x = tE t p → (x - tB t p ≤ 4 → v = numF t (tB t p) (x - tB t p)) → Rd0 T1 rd t fx nm (Int32.ofNat x) tok (Int32.ofNat (tB t p)) en (Int32.ofNat v) dn ce → Rn T1 ((pV T1 (some rd) 4 8 (.int (2 : Int32))).bind fun T148 => c_X5_next_185 G (some rd) T148) fun _ T' => frm (fun x => x = rd) T T' ∧ RdS T' rd t fx nm dn ce p := by
    intro x T1 tok en v a5 a4 av a6
    obtain ⟨T2, e2, f2, r2⟩ := a6.st (k := 8) (v := .int 2) (nm' := nm) (a' := Int32.ofNat x) (t' := 2) (b' := Int32.ofNat (tB t p)) (e' := en) (n' := Int32.ofNat v) (d' := dn) (c' := ce) rfl
    refine Rn.st e2 f2.le ?_
    unfold c_X5_next_185
    rw [r2.i7, Option.bind_some]
    obtain ⟨T3, e3, f3, r3⟩ := r2.st (k := 10) (v := .int (Int32.ofNat x)) (nm' := nm) (a' := Int32.ofNat x) (t' := 2) (b' := Int32.ofNat (tB t p)) (e' := Int32.ofNat x) (n' := Int32.ofNat v) (d' := dn) (c' := ce) rfl
    refine Rn.st e3 f3.le (Rn.ret ⟨a5.tr (f2.tr f3), Int32.ofNat v, ?_, fun _ q => by rw [← a4] at q ⊢; rw [← av q]⟩)
    rw [← a4, h1]; exact r3
  intro d
  induction d with
  | zero =>
    intro x T1 tok en v a1 a2 a3 a4 a5 b1 b2 b3 a6 m hm
    obtain ⟨m, rfl⟩ : ∃ i, m = i + 1 := ⟨m - 1, by omega⟩
    have hT1 : TpC T1 fx.2.2.2.2.2 tp t := hT.fr (a5.2 _ ho) (a5.2 _ ht)
    show Rn T1 (c_X5_next_102_b G (c_X5_next_102 G m) (some rd) T1) _
    unfold c_X5_next_102_b
    rw [if_neg (not_not_intro a6.is), e_isDig h7 hc a6 hT1 a3, if_neg (fun z => by omega), Option.bind_some, if_pos rfl]
    exact fin x T1 tok en v a5 a4 b2 a6
  | succ d ih =>
    intro x T1 tok en v a1 a2 a3 a4 a5 b1 b2 b3 a6 m hm
    obtain ⟨m, rfl⟩ : ∃ i, m = i + 1 := ⟨m - 1, by omega⟩
    have hT1 : TpC T1 fx.2.2.2.2.2 tp t := hT.fr (a5.2 _ ho) (a5.2 _ ht)
    show Rn T1 (c_X5_next_102_b G (c_X5_next_102 G m) (some rd) T1) _
    unfold c_X5_next_102_b
    rw [if_neg (not_not_intro a6.is), e_isDig h7 hc a6 hT1 a3]
    by_cases q : x < t.2 ∧ isD (t.1 x) = true
    · rw [show scn (fun k => isD (t.1 k)) t.2 (d + 1) x = scn (fun k => isD (t.1 k)) t.2 d (x + 1) from if_pos q] at a4
      have dx := isD_r q.2
      have eh : hr t x = Int32.ofNat (t.1 x) := if_pos q.1
      have nv : imin (100000 : Int32) ((10 : Int32) * Int32.ofNat v + Int32.ofNat (t.1 x) - 48) = Int32.ofNat (min 100000 (10 * v + (t.1 x - 48))) := by
        rw [show (10 : Int32) * Int32.ofNat v = Int32.ofNat (10 * v) from omul 10 v, oadd, show Int32.ofNat (10 * v + t.1 x) - 48 = Int32.ofNat (10 * v + t.1 x - 48) from osub (b := 48) (by omega) (by omega), show imin (100000 : Int32) (Int32.ofNat (10 * v + t.1 x - 48)) = Int32.ofNat (min 100000 (10 * v + t.1 x - 48)) from omin (a := 100000) (by omega) (by omega)]
        congr 1; omega
      rw [if_pos q, Option.bind_some, if_neg (show ¬ (1 : Int32) = 0 by decide), a6.i11, Option.bind_some, if_neg (not_not_intro a6.is), e_here h7 hc a6 hT1 a3, Option.bind_some, e_min, Option.bind_some, eh, nv]
      obtain ⟨T2, e2, f2, r2⟩ := a6.st (k := 11) (v := .int (Int32.ofNat (min 100000 (10 * v + (t.1 x - 48))))) (nm' := nm) (a' := Int32.ofNat x) (t' := tok) (b' := Int32.ofNat (tB t p)) (e' := en) (n' := Int32.ofNat (min 100000 (10 * v + (t.1 x - 48)))) (d' := dn) (c' := ce) rfl
      refine Rn.st e2 f2.le ?_
      rw [r2.i7, Option.bind_some, ofn1 x (by omega)]
      obtain ⟨T3, e3, f3, r3⟩ := r2.st (k := 7) (v := .int (Int32.ofNat (x + 1))) (nm' := nm) (a' := Int32.ofNat (x + 1)) (t' := tok) (b' := Int32.ofNat (tB t p)) (e' := en) (n' := Int32.ofNat (min 100000 (10 * v + (t.1 x - 48)))) (d' := dn) (c' := ce) rfl
      have b3' : ∀ k, tB t p ≤ k → k < x + 1 → isD (t.1 k) = true := fun k k1 k2 => by
        by_cases e : k = x
        · rw [e]; exact q.2
        · exact b3 k k1 (by omega)
      refine Rn.st e3 f3.le (ih (x + 1) T3 tok en _ (by omega) (by omega) (by omega) a4 (a5.tr (f2.tr f3)) (by omega) (fun l4 => ?_) b3' r3 m (by omega))
      have ev := b2 (by omega)
      have nl := numF_lt (t := t) (b := tB t p) (x - tB t p) fun i hi => (isD_r (b3 (tB t p + i) (by omega) (by omega))).2
      have : 10 ^ (x - tB t p) ≤ 10 ^ 3 := Nat.pow_le_pow_right (by decide) (by omega)
      rw [show x + 1 - tB t p = x - tB t p + 1 by omega]
      show _ = 10 * numF t (tB t p) (x - tB t p) + (t.1 (tB t p + (x - tB t p)) - 48)
      rw [show tB t p + (x - tB t p) = x by omega, ev]
      omega
    · rw [show scn (fun k => isD (t.1 k)) t.2 (d + 1) x = x from if_neg q] at a4
      rw [if_neg q, Option.bind_some, if_pos rfl]
      exact fin x T1 tok en v a5 a4 b2 a6
end SX
