/-! plain law: the reference's next token -/
set_option maxRecDepth 100000
theorem sh64 {x d : Nat} (hx : x < 2 ^ 50) (hd : d < 32) : (Int64.ofNat x <<< (((5 : Int32)).toInt64 &&& 63)) ||| (Int32.ofNat d).toInt64 = Int64.ofNat (32 * x + d) := by
  have h5 : ((5 : Int32)).toInt64 &&& 63 = 5 := by decide
  have hd2 : ∀ d, d < 32 → (Int32.ofNat d).toInt64 = Int64.ofNat d := by decide +kernel
  rw [h5, hd2 d hd, ← Int64.toBitVec_inj, Int64.toBitVec_or, Int64.toBitVec_shiftLeft]
  apply BitVec.eq_of_toNat_eq
  have e5 : ((5 : Int64).toBitVec.smod 64) = 5#64 := by decide
  rw [e5, BitVec.toNat_or, BitVec.shiftLeft_eq', BitVec.toNat_shiftLeft]
  have tx : (Int64.ofNat x).toBitVec.toNat = x := by
    rw [Int64.toBitVec_ofNat', BitVec.toNat_ofNat]; omega
  have td : (Int64.ofNat d).toBitVec.toNat = d := by
    rw [Int64.toBitVec_ofNat', BitVec.toNat_ofNat]; omega
  have ts : (Int64.ofNat (32 * x + d)).toBitVec.toNat = 32 * x + d := by
    rw [Int64.toBitVec_ofNat', BitVec.toNat_ofNat]; omega
  rw [tx, td, ts, show (5#64).toNat = 5 by decide, Nat.shiftLeft_eq, Nat.mod_eq_of_lt (by omega), show x * 2 ^ 5 = 2 ^ 5 * x by omega]
  exact (Nat.two_pow_add_eq_or_of_lt (i := 5) (by omega) x).symm
theorem pkF_lt {t : Tpe} {b : Nat} : ∀ k, (∀ i, i < k → t.1 (b + i) ≤ 122) → pkF t b k < 32 ^ k := by
  intro k
  induction k with
  | zero => intro _; exact Nat.one_pos
  | succ k ih =>
    intro h
    have h1 := ih fun i hi => h i (by omega)
    have h2 := h k (by omega)
    show 32 * pkF t b k + (t.1 (b + k) - 96) < 32 ^ k * 32
    omega
theorem isL_r {c : Nat} (h : isL c = true) : 97 ≤ c ∧ c ≤ 122 := by
  unfold isL at h
  rw [Bool.and_eq_true, decide_eq_true_iff, decide_eq_true_iff] at h
  exact h
theorem isD_r {c : Nat} (h : isD c = true) : 48 ≤ c ∧ c ≤ 57 := by
  unfold isD at h
  rw [Bool.and_eq_true, decide_eq_true_iff, decide_eq_true_iff] at h
  exact h
theorem sW_id {S : MS} {w : Int64} (h : S.2.1 = w) : sW S w = S := by
  subst h; rfl
theorem sW_sF {S : MS} {k : Nat} {v : Int32} {w : Int64} : sW (sF S k v) w = sF (sW S w) k v := rfl
theorem sW_sW {S : MS} {v w : Int64} : sW (sW S v) w = sW S w := rfl
section GO
variable {t : Tpe} (h7 : t.2 ≤ 700) (hc : ∀ k, t.1 k < 256)
theorem r_goesL (h7 : t.2 ≤ 700) (hc : ∀ k, t.1 k < 256) : ∀ d x S b, t.2 ≤ x + d → b ≤ x → x ≤ t.2 → Tp4 S t → S.1 18 = Int32.ofNat x → S.1 20 = Int32.ofNat b → S.2.1 = Int64.ofNat (pkF t b (min 7 (x - b))) → (∀ k, b ≤ k → k < x → isL (t.1 k) = true) → ∀ m, d < m → m_goes_108 m S = m_goes_331 (sF (sF (sW S (Int64.ofNat (pkF t b (min 7 (scn (fun k => isL (t.1 k)) t.2 d x - b))))) 18 (Int32.ofNat (scn (fun k => isL (t.1 k)) t.2 d x))) 19 1) := by
  intro d
  induction d with
  | zero =>
    intro x S b h1 hbx h2 h4 h18 h20 hw hd m hm
    obtain ⟨m, rfl⟩ : ∃ k, m = k + 1 := ⟨m - 1, by omega⟩
    show m_goes_108_b (m_goes_108 m) S = m_goes_331 (sF (sF (sW S (Int64.ofNat (pkF t b (min 7 (x - b))))) 18 (Int32.ofNat x)) 19 1)
    rw [sW_id hw, sF_id h18]
    unfold m_goes_108_b
    rw [h18, r_byteAt h4 h7 (by omega), Option.bind_some, br_let hc, if_neg (fun z => by omega), Option.bind_some, if_pos rfl]
  | succ d ih =>
    intro x S b h1 hbx h2 h4 h18 h20 hw hd m hm
    obtain ⟨m, rfl⟩ : ∃ k, m = k + 1 := ⟨m - 1, by omega⟩
    show m_goes_108_b (m_goes_108 m) S = _
    unfold m_goes_108_b
    rw [h18, r_byteAt h4 h7 (by omega), Option.bind_some, br_let hc, Option.bind_some]
    by_cases q : x < t.2 ∧ isL (t.1 x) = true
    · rw [show scn (fun k => isL (t.1 k)) t.2 (d + 1) x = scn (fun k => isL (t.1 k)) t.2 d (x + 1) from if_pos q, if_pos q, if_neg (by decide), h20, osub hbx (by omega)]
      have hd' : ∀ k, b ≤ k → k < x + 1 → isL (t.1 k) = true := fun k k1 k2 => by
        by_cases e : k = x
        · rw [e]; exact q.2
        · exact hd k k1 (by omega)
      have e : br t x = Int32.ofNat (t.1 x) := if_pos q.1
      by_cases c7 : 7 ≤ x - b
      · rw [if_pos (show (7 : Int32) ≤ Int32.ofNat (x - b) from (ole (n := 7) (by omega) (by omega)).mpr c7)]
        unfold m_goes_159
        rw [h18, ofn1 x (by omega), ih (x + 1) (sF S 18 (Int32.ofNat (x + 1))) b (by omega) (by omega) (by omega) ⟨(sF_ne (by decide)).trans h4.1, h4.2⟩ sF_at ((sF_ne (by decide)).trans h20) (by show S.2.1 = _; rw [hw, show min 7 (x - b) = min 7 (x + 1 - b) by omega]) hd' m (by omega), sW_sF, sF_sF]
      · rw [if_neg (show ¬ (7 : Int32) ≤ Int32.ofNat (x - b) from fun r => c7 ((ole (n := 7) (m := x - b) (by omega) (by omega)).mp r)), Option.bind_some, e, hw]
        unfold m_goes_159
        have dx := isL_r q.2
        have nl := pkF_lt (t := t) (b := b) (x - b) fun i hi => (isL_r (hd (b + i) (by omega) (by omega))).2
        have nl4 : 32 ^ (x - b) ≤ 32 ^ 7 := Nat.pow_le_pow_right (by decide) (by omega)
        have ev : Int64.ofNat (pkF t b (min 7 (x - b))) <<< (((5 : Int32)).toInt64 &&& 63) ||| (Int32.ofNat (t.1 x) - 96).toInt64 = Int64.ofNat (pkF t b (min 7 (x + 1 - b))) := by
          rw [show min 7 (x - b) = x - b by omega, show min 7 (x + 1 - b) = x - b + 1 by omega, show Int32.ofNat (t.1 x) - 96 = Int32.ofNat (t.1 x - 96) from osub (b := 96) (by omega) (by omega), sh64 (by omega) (by omega)]
          show _ = Int64.ofNat (32 * pkF t b (x - b) + (t.1 (b + (x - b)) - 96))
          rw [show b + (x - b) = x by omega]
        rw [ev, show (sW S (Int64.ofNat (pkF t b (min 7 (x + 1 - b))))).1 18 = S.1 18 from rfl, h18, ofn1 x (by omega), ih (x + 1) (sF (sW S (Int64.ofNat (pkF t b (min 7 (x + 1 - b))))) 18 (Int32.ofNat (x + 1))) b (by omega) (by omega) (by omega) ⟨(sF_ne (by decide)).trans h4.1, h4.2⟩ sF_at ((sF_ne (by decide)).trans h20) rfl hd' m (by omega), sW_sF, sW_sW, sF_sF]
    · rw [show scn (fun k => isL (t.1 k)) t.2 (d + 1) x = x from if_neg q, if_neg q, if_pos rfl, sW_id hw, sF_id h18]
/-- the reference stands at a token -/
def TkM (S : MS) (t : Tpe) (p : Nat) : Prop := S.1 18 = Int32.ofNat (tE t p) ∧ S.1 19 = Int32.ofNat (tS t p) ∧ S.1 20 = Int32.ofNat (tB t p) ∧ S.1 21 = Int32.ofNat (tE t p - tB t p) ∧ (tS t p = 2 → S.1 22 = Int32.ofNat (numF t (tB t p) (min 4 (tE t p - tB t p)))) ∧ (tS t p = 3 → S.1 23 = Int32.ofNat (t.1 (tB t p))) ∧ (tS t p = 1 → S.2.1 = Int64.ofNat (pkF t (tB t p) (min 7 (tE t p - tB t p))))
theorem gs_pick : ∀ c, c < 256 → ∀ {α : Type} (x y : α), (if Int32.ofNat c = 59 then x else if Int32.ofNat c = 40 then x else if Int32.ofNat c = 41 then x else if Int32.ofNat c = 43 then x else if Int32.ofNat c = 45 then x else if Int32.ofNat c = 42 then x else if Int32.ofNat c = 47 then x else if Int32.ofNat c = 60 then x else if Int32.ofNat c = 61 then x else y) = if isG c = true then x else y := by
  intro c hc α x y
  have h : isG c = (decide (Int32.ofNat c = 59) || decide (Int32.ofNat c = 40) || decide (Int32.ofNat c = 41) || decide (Int32.ofNat c = 43) || decide (Int32.ofNat c = 45) || decide (Int32.ofNat c = 42) || decide (Int32.ofNat c = 47) || decide (Int32.ofNat c = 60) || decide (Int32.ofNat c = 61)) := (by decide +kernel : ∀ c, c < 256 → isG c = (decide (Int32.ofNat c = 59) || decide (Int32.ofNat c = 40) || decide (Int32.ofNat c = 41) || decide (Int32.ofNat c = 43) || decide (Int32.ofNat c = 45) || decide (Int32.ofNat c = 42) || decide (Int32.ofNat c = 47) || decide (Int32.ofNat c = 60) || decide (Int32.ofNat c = 61))) c hc
  rw [h]
  repeat' split
  all_goals simp_all
theorem TkM.of {S S0 : MS} {p v : Nat} (h : S = sF S0 21 (S0.1 18 - S0.1 20)) (h2 : tE t p < 2000000) (hg : tB t p ≤ tE t p) (a1 : S0.1 18 = Int32.ofNat (tE t p)) (a2 : S0.1 19 = Int32.ofNat (tS t p)) (a3 : S0.1 20 = Int32.ofNat (tB t p)) (a4 : tS t p = 2 → S0.1 22 = Int32.ofNat (numF t (tB t p) (min 4 (tE t p - tB t p)))) (a5 : tS t p = 3 → S0.1 23 = Int32.ofNat (t.1 (tB t p))) (a6 : tS t p = 1 → S0.2.1 = Int64.ofNat (pkF t (tB t p) (min 7 (tE t p - tB t p)))) : TkM S t p := by
  subst h
  refine ⟨(sF_ne (by decide)).trans a1, (sF_ne (by decide)).trans a2, (sF_ne (by decide)).trans a3, ?_, fun q => (sF_ne (by decide)).trans (a4 q), fun q => (sF_ne (by decide)).trans (a5 q), a6⟩
  rw [sF_at, a1, a3, osub hg h2]
theorem r_goes (h7 : t.2 ≤ 700) (hc : ∀ k, t.1 k < 256) {S : MS} {p : Nat} (hp : p ≤ t.2) (h4 : Tp4 S t) (h18 : S.1 18 = Int32.ofNat p) : Mn (m_goes S) fun S' => TkM S' t p ∧ (∀ k, k < 18 ∨ 24 ≤ k → S'.1 k = S.1 k) ∧ S'.2.2 = S.2.2 := by
  have hg := tE_ge hp
  have hl := tE_le hp
  have hb := tB_le hp
  unfold m_goes
  rw [r_goes0 h7 hc (t.2 - p) p S (by omega) hp h4 h18 FU (by show _ < 6000; omega)]
  show Mn (m_goes_50 (sF S 18 (Int32.ofNat (tB t p)))) _
  have hcb := hc (tB t p)
  -- the state where the token begins
  obtain ⟨S1, e1⟩ : ∃ S1, S1 = sF (sW (sF (sF S 18 (Int32.ofNat (tB t p))) 20 (Int32.ofNat (tB t p))) 0) 22 0 := ⟨_, rfl⟩
  have f1 : ∀ k, k ≠ 18 → k ≠ 20 → k ≠ 22 → S1.1 k = S.1 k := fun k q1 q2 q3 => by
    rw [e1, sF_ne q3]
    show (sF (sF S 18 (Int32.ofNat (tB t p))) 20 (Int32.ofNat (tB t p))).1 k = _
    rw [sF_ne q2, sF_ne q1]
  have f18 : S1.1 18 = Int32.ofNat (tB t p) := by
    rw [e1, sF_ne (by decide)]
    show (sF (sF S 18 (Int32.ofNat (tB t p))) 20 (Int32.ofNat (tB t p))).1 18 = _
    rw [sF_ne (by decide), sF_at]
  have f20 : S1.1 20 = Int32.ofNat (tB t p) := by
    rw [e1, sF_ne (by decide)]
    show (sF (sF S 18 (Int32.ofNat (tB t p))) 20 (Int32.ofNat (tB t p))).1 20 = _
    rw [sF_at]
  have f22 : S1.1 22 = 0 := by rw [e1, sF_at]
  have fw : S1.2.1 = 0 := by rw [e1]; rfl
  have fa : S1.2.2 = S.2.2 := by rw [e1]; rfl
  have h41 : Tp4 S1 t := ⟨(f1 17 (by decide) (by decide) (by decide)).trans h4.1, by rw [fa]; exact h4.2⟩
  unfold m_goes_50
  rw [sF_at, ← e1, f18, r_byteAt h41 h7 (by omega), Option.bind_some]
  obtain ⟨S2, e2⟩ : ∃ S2, S2 = sF S1 23 (br t (tB t p)) := ⟨_, rfl⟩
  rw [← e2]
  have g1 : ∀ k, k ≠ 23 → S2.1 k = S1.1 k := fun k q => by rw [e2, sF_ne q]
  have gw : S2.2 = S1.2 := by rw [e2]; rfl
  have h42 : Tp4 S2 t := ⟨(g1 17 (by decide)).trans h41.1, by rw [gw]; exact h41.2⟩
  rw [g1 18 (by decide), f18, g1 17 (by decide), h41.1]
  -- what doesn't matter stays
  have rest : ∀ {S3 S4 : MS}, (∀ k, k < 18 ∨ 24 ≤ k → S3.1 k = S2.1 k) → S3.2.2 = S2.2.2 → S4 = sF S3 21 (S3.1 18 - S3.1 20) → (∀ k, k < 18 ∨ 24 ≤ k → S4.1 k = S.1 k) ∧ S4.2.2 = S.2.2 := fun {S3 S4} a b e => by
    subst e
    refine ⟨fun k q => ?_, b.trans (by rw [gw]; exact fa)⟩
    rw [sF_ne (by omega), a k q, g1 k (by omega), f1 k (by omega) (by omega) (by omega)]
  by_cases c0 : tB t p < t.2
  · rw [if_pos ((olt (by omega) (by omega)).mpr c0), br_let hc, Option.bind_some, br_dig hc]
    have ebr : br t (tB t p) = Int32.ofNat (t.1 (tB t p)) := if_pos c0
    by_cases cl : isL (t.1 (tB t p)) = true
    · have s1 : tS t p = 1 := tS_1.mpr ⟨c0, cl⟩
      have en : tE t p = scn (fun k => isL (t.1 k)) t.2 (t.2 - tB t p) (tB t p) := by
        unfold tE; rw [if_neg (by omega), if_pos s1]
      have cc : tB t p < t.2 ∧ isL (t.1 (tB t p)) = true := ⟨c0, cl⟩
      rw [if_pos cc, if_neg (show ¬ (1 : Int32) = 0 by decide), r_goesL h7 hc (t.2 - tB t p) (tB t p) S2 (tB t p) (by omega) (Nat.le_refl _) hb h42 ((g1 18 (by decide)).trans f18) ((g1 20 (by decide)).trans f20) (by rw [gw, fw, Nat.sub_self]; rfl) (fun k k1 k2 => by omega) FU (by show _ < 6000; omega), ← en]
      refine Mn.ret ⟨TkM.of (v := 0) rfl (by omega) hg (by rw [sF_ne (by decide), sF_at]) (by rw [sF_at, s1]; rfl) ?_ (fun q => by omega) (fun q => by omega) (fun _ => rfl), rest ?_ ?_ rfl⟩
      · rw [sF_ne (by decide), sF_ne (by decide)]
        exact (g1 20 (by decide)).trans f20
      · intro k q; rw [sF_ne (by omega), sF_ne (by omega)]; rfl
      · rfl
    · have nc : ¬ (tB t p < t.2 ∧ isL (t.1 (tB t p)) = true) := fun z => cl z.2
      rw [if_neg nc, if_pos rfl, Option.bind_some]
      by_cases cd : isD (t.1 (tB t p)) = true
      · have s2 : tS t p = 2 := by
          unfold tS; rw [if_neg (by omega), if_neg cl, if_pos cd]
        have en : tE t p = scn (fun k => isD (t.1 k)) t.2 (t.2 - tB t p) (tB t p) := by
          unfold tE; rw [if_neg (by omega), if_neg (by omega), if_pos s2]
        have cc : tB t p < t.2 ∧ isD (t.1 (tB t p)) = true := ⟨c0, cd⟩
        rw [if_pos cc, if_neg (show ¬ (1 : Int32) = 0 by decide), r_goesD h7 hc (t.2 - tB t p) (tB t p) S2 (tB t p) (by omega) (Nat.le_refl _) hb h42 ((g1 18 (by decide)).trans f18) ((g1 20 (by decide)).trans f20) (by rw [g1 22 (by decide), f22, Nat.sub_self]; rfl) (fun k k1 k2 => by omega) FU (by show _ < 6000; omega), ← en]
        refine Mn.ret ⟨TkM.of (v := 0) rfl (by omega) hg (by rw [sF_ne (by decide), sF_ne (by decide), sF_at]) (by rw [sF_at, s2]; rfl) ?_ (fun _ => by rw [sF_ne (by decide), sF_at]) (fun q => by omega) (fun q => by omega), rest ?_ ?_ rfl⟩
        · rw [sF_ne (by decide), sF_ne (by decide), sF_ne (by decide)]
          exact (g1 20 (by decide)).trans f20
        · intro k q; rw [sF_ne (by omega), sF_ne (by omega), sF_ne (by omega)]
        · rfl
      · have nc2 : ¬ (tB t p < t.2 ∧ isD (t.1 (tB t p)) = true) := fun z => cd z.2
        rw [if_neg nc2, if_pos rfl, ebr, gs_pick _ hcb, ofn1 _ (by omega)]
        have fin : ∀ v : Nat, tS t p = v → v ≠ 0 → v ≠ 1 → v ≠ 2 → Mn (m_goes_331 (sF (sF S2 18 (Int32.ofNat (tB t p + 1))) 19 (Int32.ofNat v))) fun S' => TkM S' t p ∧ (∀ k, k < 18 ∨ 24 ≤ k → S'.1 k = S.1 k) ∧ S'.2.2 = S.2.2 := by
          intro v sv v0 v1 v2
          have en : tE t p = tB t p + 1 := by
            unfold tE; rw [if_neg (by omega), if_neg (by omega), if_neg (by omega)]
          refine Mn.ret ⟨TkM.of (v := 0) rfl (by omega) hg (by rw [sF_ne (by decide), sF_at, en]) (by rw [sF_at, sv]) ?_ (fun q => by omega) (fun _ => ?_) (fun q => by omega), rest ?_ ?_ rfl⟩
          · rw [sF_ne (by decide), sF_ne (by decide)]
            exact (g1 20 (by decide)).trans f20
          · rw [sF_ne (by decide), sF_ne (by decide), e2, sF_at, ebr]
          · intro k q; rw [sF_ne (by omega), sF_ne (by omega)]
          · rfl
        by_cases cg : isG (t.1 (tB t p)) = true
        · rw [if_pos cg]
          exact fin 3 (by unfold tS; rw [if_neg (by omega), if_neg cl, if_neg cd, if_pos cg]) (by omega) (by omega) (by omega)
        · rw [if_neg cg]
          exact fin 4 (by unfold tS; rw [if_neg (by omega), if_neg cl, if_neg cd, if_neg cg]) (by omega) (by omega) (by omega)
  · rw [if_neg (fun q => c0 ((olt (by omega) (by omega)).mp q))]
    have s0 : tS t p = 0 := by unfold tS; rw [if_pos (by omega)]
    have en : tE t p = tB t p := by unfold tE; rw [if_pos s0]
    refine Mn.ret ⟨TkM.of (v := 0) rfl (by omega) hg ?_ (by rw [sF_at, s0]; rfl) ?_ (fun q => by omega) (fun q => by omega) (fun q => by omega), rest ?_ ?_ rfl⟩
    · rw [sF_ne (by decide), en]; exact (g1 18 (by decide)).trans f18
    · rw [sF_ne (by decide)]; exact (g1 20 (by decide)).trans f20
    · intro k q; rw [sF_ne (by omega)]
    · rfl
end GO
