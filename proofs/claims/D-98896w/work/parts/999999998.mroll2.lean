/-! plain law: the reference's roll, its end -/
set_option maxRecDepth 100000
theorem Seg.cs {S : MS} {L : List Nat} {b : Nat} {e : Ex} (h : ∀ i, i < L.length → S.2.2 3 i = Int32.ofNat (L.getD i 0)) (k : CS L b e) : Seg S b (e.1 ++ [0]) := by
  intro i hi
  rw [List.length_append, List.length_singleton] at hi
  rw [h (b + i) (by have := k.1; omega), k.2 i (by omega)]
theorem mod_n {d n : Nat} (hd : d < 2000) (hn : n < 2000) (h0 : 0 < n) : Int32.ofNat d - Int32.ofNat d / Int32.ofNat n * Int32.ofNat n = Int32.ofNat (d % n) := by
  have e1 : Int32.ofNat d / Int32.ofNat n = Int32.ofNat (d / n) := by
    rw [← Int32.toInt_inj, Int32.toInt_div_of_ne_left _ _ (by
      intro q
      have := congrArg Int32.toInt q
      rw [tIo (by omega)] at this
      have z : Int32.minValue.toInt = -2147483648 := by decide
      rw [z] at this
      omega), tIo (by omega), tIo (by omega), tIo (by have := Nat.div_le_self d n; omega)]
    exact Int.ofNat_tdiv d n
  rw [e1, omul, osub (Nat.div_mul_le_self d n) (by omega)]
  congr 1
  have := Nat.div_add_mod d n
  rw [Nat.mul_comm] at this
  omega
section RE
variable {t : Tpe} {S S0 S' : MS} {s : St} {n q : Nat} {Y : Yx}
theorem r_endB (ok : StOK s) (m : MI S s) (e0 : S0 = sF (sF (sF S 0 0) 13 0) 17 (Int32.ofNat n)) {k b : Nat} (h : BL S0 k b S') : ∃ S2, m_roll_164 S' = some (Int32.ofNat k, S2) ∧ MI S2 (failS s b) ∧ S2.1 0 = 0 := by
  obtain ⟨h1, h2, h3, h4, ⟨l1, l2⟩⟩ := h
  obtain ⟨a1, a2, a3, a4, a5, a6, a7, a8, a9, a10, a11⟩ := m
  have fl : ∀ k, k < 14 ∨ k = 16 ∨ k = 17 ∨ 37 ≤ k → k ≠ 0 → k ≠ 13 → k ≠ 17 → S'.1 k = S.1 k := fun k q q0 q1 q2 => by
    rw [l1 k q, e0, sF_ne q2, sF_ne q1, sF_ne q0]
  have f0 : S'.1 0 = 0 := by rw [l1 0 (by decide), e0, sF_ne (by decide), sF_ne (by decide), sF_at]
  have f13 : S'.1 13 = 0 := by rw [l1 13 (by decide), e0, sF_ne (by decide), sF_at]
  have ar : ∀ j, j < 6 ∨ 12 < j → S'.2.2 j = S.2.2 j := fun j q => by rw [l2 j q, e0]; rfl
  have nb : ¬ S'.1 14 = 0 := by
    rw [h1]; exact fun z => by have := (oeq (n := k) (m := 0) (by omega) (by omega)).mp z; omega
  have ar2 : ∀ j, j ≠ 5 → j < 6 ∨ 12 < j → (sA S' 5 0 (S'.2.2 5 0 + 1)).2.2 j = S.2.2 j := fun j q1 q2 => (sA_ne q1).trans (ar j q2)
  refine ⟨sA S' 5 0 (S'.2.2 5 0 + 1), ?_, ?_, f0⟩
  · unfold m_roll_164
    rw [r_bad nb, Option.bind_some, if_pos rfl, rdA_n (j := 5) (i := 0) (k := 0) (by decide) (by decide) (show 0 < 3 by decide), Option.bind_some, wrA_n (j := 5) (i := 0) (k := 0) (by decide) (by decide) (show 0 < 3 by decide), Option.bind_some]
    show some (S'.1 14, _) = _
    rw [h1]
  · refine ⟨a1.mono (fun k q1 q2 => fl k (by omega) (by omega) (by omega) (by omega)) (fun j hj => ar2 j (by omega) (by omega)), by rw [ar2 13 (by decide) (by decide)]; exact a2, (fl 46 (by decide) (by decide) (by decide) (by decide)).trans a3, by rw [ar2 14 (by decide) (by decide)]; exact a4, (fl 53 (by decide) (by decide) (by decide) (by decide)).trans a5, by rw [ar2 21 (by decide) (by decide)]; exact a6, ?_, f13, fun k hk => absurd hk (Nat.not_lt_zero k), h2, fun k hk => ?_⟩
    · show (match sI s with
        | none => _
        | some (g, h, x) => _)
      cases hi : sI s with
      | none =>
        rw [hi] at a7
        exact (fl 58 (by decide) (by decide) (by decide) (by decide)).trans a7
      | some x =>
        rw [hi] at a7
        obtain ⟨b1, b2, b3, b4, b5, b6⟩ := a7
        exact ⟨(fl 58 (by decide) (by decide) (by decide) (by decide)).trans b1, by rw [ar2 24 (by decide) (by decide)]; exact b2, (fl 59 (by decide) (by decide) (by decide) (by decide)).trans b3, by rw [ar2 25 (by decide) (by decide)]; exact b4, (fl 60 (by decide) (by decide) (by decide) (by decide)).trans b5, by rw [ar2 26 (by decide) (by decide)]; exact b6⟩
    · show (sA S' 5 0 (S'.2.2 5 0 + 1)).2.2 5 k = upd (sR s) 0 (sR s 0 + 1) k
      rw [sA_at, ar 5 (by decide), a11 0 (by decide)]
      unfold upd
      by_cases z : k = 0
      · rw [if_pos z, if_pos z]
      · rw [if_neg z, if_neg z]; exact a11 k hk
theorem r_endG (h7 : t.2 ≤ 700) (ok : StOK s) (m : MI S s) (e0 : S0 = sF (sF (sF S 0 0) 13 0) 17 (Int32.ofNat n)) (h : YB S0 S' t Y q) (hw : YW Y) (hv : YV Y) : ∃ S2, m_roll_164 S' = some (0, S2) ∧ MI S2 (rollS s Y) ∧ S2.1 0 = 0 := by
  obtain ⟨rt, h15, ⟨l1, l2⟩, yf, hL⟩ := h
  obtain ⟨f1, f2, f3, f4, f5, f6, f7, f8, f9, f10, f11, f12, f13⟩ := yf
  obtain ⟨a1, a2, a3, a4, a5, a6, a7, a8, a9, a10, a11⟩ := m
  obtain ⟨⟨w1, w2, w3, w4, w5⟩, ⟨w6, w7⟩, w8, ⟨w9, w10⟩, ⟨w11, w12⟩, w13⟩ := hw
  have hv' := hv
  obtain ⟨v1, v2, v3, v4, v5, v6, v7, v8, v9, v10, v11, v12⟩ := hv
  have hp := rt.2.2.1
  have g0 : S'.1 0 = 0 := by rw [l1 0 (by decide), e0, sF_ne (by decide), sF_ne (by decide), sF_at]
  have g13 : S'.1 13 = 0 := by rw [l1 13 (by decide), e0, sF_ne (by decide), sF_at]
  have ar : ∀ j, j < 6 ∨ 12 < j → S'.2.2 j = S.2.2 j := fun j q => by rw [l2 j q, e0]; rfl
  -- the fields of the new roll
  obtain ⟨Sa, ea⟩ : ∃ Sa, Sa = sF (sF (sF (sF (sF (sF (sF (sF S' 1 (Int32.ofNat (yW Y))) 2 (Int32.ofNat (yH Y))) 3 (Int32.ofNat (yP Y).1)) 4 (Int32.ofNat (yT Y).1)) 5 (Int32.ofNat (yA Y))) 6 (Int32.ofNat (yS Y))) 7 (opt (dup Y 4) (yg Y))) 8 (opt (dup Y 5) (yb Y)) := ⟨_, rfl⟩
  have start : m_roll_164 S' = (m_copies 6 1 Sa).bind fun q309 => (m_copies 7 2 q309).bind fun q321 => (m_copies 9 3 q321).bind fun q333 => m_roll_338 FU 0 q333 := by
    have st1 : m_roll_164 S' = m_roll_203 (Int32.ofNat (yW Y)) S' := by
      unfold m_roll_164
      rw [r_good rt.2.2.2, Option.bind_some, if_neg (show ¬ (1 : Int32) = 0 by decide), f1]
      cases d : dup Y 0 with
      | false => rw [if_pos ((opt_n (by omega)).mpr rfl), (w5 d).1]; rfl
      | true => rw [opt_t rfl, if_neg (ipos_ne (by omega))]
    obtain ⟨S1, e1⟩ : ∃ S1, S1 = sF S' 1 (Int32.ofNat (yW Y)) := ⟨_, rfl⟩
    have st2 : m_roll_203 (Int32.ofNat (yW Y)) S' = m_roll_223 (Int32.ofNat (yH Y)) S1 := by
      unfold m_roll_203
      rw [← e1]
      have e25 : S1.1 25 = opt (dup Y 0) (yW Y) := by rw [e1, sF_ne (by decide), f1]
      have e26 : S1.1 26 = opt (dup Y 0) (yH Y) := by rw [e1, sF_ne (by decide), f2]
      rw [e25, e26]
      cases d : dup Y 0 with
      | false => rw [if_pos ((opt_n (by omega)).mpr rfl), (w5 d).2]; rfl
      | true => rw [opt_t rfl, opt_t rfl, if_neg (ipos_ne (by omega))]
    obtain ⟨S4, e4⟩ : ∃ S4, S4 = sF (sF (sF S1 2 (Int32.ofNat (yH Y))) 3 (Int32.ofNat (yP Y).1)) 4 (Int32.ofNat (yT Y).1) := ⟨_, rfl⟩
    have st3 : m_roll_223 (Int32.ofNat (yH Y)) S1 = m_roll_260 (Int32.ofNat (yA Y)) S4 := by
      unfold m_roll_223
      have x27 : (sF S1 2 (Int32.ofNat (yH Y))).1 27 = Int32.ofNat (yP Y).1 := by rw [sF_ne (by decide), e1, sF_ne (by decide), f3]
      rw [x27]
      have x28 : (sF (sF S1 2 (Int32.ofNat (yH Y))) 3 (Int32.ofNat (yP Y).1)).1 28 = Int32.ofNat (yT Y).1 := by rw [sF_ne (by decide), sF_ne (by decide), e1, sF_ne (by decide), f5]
      rw [x28, ← e4]
      have x29 : S4.1 29 = opt (dup Y 2) (yA Y) := by rw [e4, sF_ne (by decide), sF_ne (by decide), sF_ne (by decide), e1, sF_ne (by decide), f7]
      rw [x29]
      cases d : dup Y 2 with
      | false => rw [if_pos ((opt_n (by omega)).mpr rfl), v5 d]; rfl
      | true => rw [opt_t rfl, if_neg (ipos_ne (by omega))]
    obtain ⟨S5, e5⟩ : ∃ S5, S5 = sF S4 5 (Int32.ofNat (yA Y)) := ⟨_, rfl⟩
    have st4 : m_roll_260 (Int32.ofNat (yA Y)) S4 = m_roll_281 (Int32.ofNat (yS Y)) S5 := by
      unfold m_roll_260
      rw [← e5]
      have x30 : S5.1 30 = opt (dup Y 3) (yS Y) := by rw [e5, sF_ne (by decide), e4, sF_ne (by decide), sF_ne (by decide), sF_ne (by decide), e1, sF_ne (by decide), f8]
      rw [x30]
      cases d : dup Y 3 with
      | false => rw [if_pos ((opt_n (by omega)).mpr rfl), v6 d]; rfl
      | true => rw [opt_t rfl, if_neg (ipos_ne (by omega))]
    have x31 : (sF S5 6 (Int32.ofNat (yS Y))).1 31 = opt (dup Y 4) (yg Y) := by rw [sF_ne (by decide), e5, sF_ne (by decide), e4, sF_ne (by decide), sF_ne (by decide), sF_ne (by decide), e1, sF_ne (by decide), f9]
    have x32 : (sF (sF S5 6 (Int32.ofNat (yS Y))) 7 (opt (dup Y 4) (yg Y))).1 32 = opt (dup Y 5) (yb Y) := by rw [sF_ne (by decide), sF_ne (by decide), e5, sF_ne (by decide), e4, sF_ne (by decide), sF_ne (by decide), sF_ne (by decide), e1, sF_ne (by decide), f10]
    rw [st1, st2, st3, st4]
    unfold m_roll_281
    rw [x31, x32, ea, e5, e4, e1]
  have sa : ∀ i, ¬ (1 ≤ i ∧ i ≤ 8) → Sa.1 i = S'.1 i := fun i q => by
    rw [ea, sF_ne (by omega), sF_ne (by omega), sF_ne (by omega), sF_ne (by omega), sF_ne (by omega), sF_ne (by omega), sF_ne (by omega), sF_ne (by omega)]
  have sb : Sa.2 = S'.2 := by rw [ea]; rfl
  have c1 : Sa.1 1 = Int32.ofNat (yW Y) := by rw [ea, sF_ne (by decide), sF_ne (by decide), sF_ne (by decide), sF_ne (by decide), sF_ne (by decide), sF_ne (by decide), sF_ne (by decide), sF_at]
  have c2 : Sa.1 2 = Int32.ofNat (yH Y) := by rw [ea, sF_ne (by decide), sF_ne (by decide), sF_ne (by decide), sF_ne (by decide), sF_ne (by decide), sF_ne (by decide), sF_at]
  have c3 : Sa.1 3 = Int32.ofNat (yP Y).1 := by rw [ea, sF_ne (by decide), sF_ne (by decide), sF_ne (by decide), sF_ne (by decide), sF_ne (by decide), sF_at]
  have c4 : Sa.1 4 = Int32.ofNat (yT Y).1 := by rw [ea, sF_ne (by decide), sF_ne (by decide), sF_ne (by decide), sF_ne (by decide), sF_at]
  have c5 : Sa.1 5 = Int32.ofNat (yA Y) := by rw [ea, sF_ne (by decide), sF_ne (by decide), sF_ne (by decide), sF_at]
  have c6 : Sa.1 6 = Int32.ofNat (yS Y) := by rw [ea, sF_ne (by decide), sF_ne (by decide), sF_at]
  have c7 : Sa.1 7 = opt (dup Y 4) (yg Y) := by rw [ea, sF_ne (by decide), sF_at]
  have c8 : Sa.1 8 = opt (dup Y 5) (yb Y) := by rw [ea, sF_at]
  clear ea
  obtain ⟨X1, x1, y1, y2, y3⟩ := r_copies (S := Sa) (a := 6) (b := 1) (L := 4) (by decide) (by decide) rfl rfl (by decide) (by decide)
  obtain ⟨X2, x2, z1, z2, z3⟩ := r_copies (S := X1) (a := 7) (b := 2) (L := 8) (by decide) (by decide) rfl rfl (by decide) (by decide)
  obtain ⟨X3, x3, u1, u2, u3⟩ := r_copies (S := X2) (a := 9) (b := 3) (L := 1400) (by decide) (by decide) rfl rfl (by decide) (by decide)
  have fX : X3.1 = Sa.1 := u1.trans (z1.trans y1)
  have aX : ∀ j, j ≠ 1 → j ≠ 2 → j ≠ 3 → X3.2.2 j = S'.2.2 j := fun j q1 q2 q3 => by rw [u2 j q3, z2 j q2, y2 j q1, sb]
  -- the row becomes the growth
  have key : ∃ S2, m_roll_338 FU 0 X3 = some (0, S2) ∧ (∀ k, k ≠ 46 → k ≠ 53 → k ≠ 58 → S2.1 k = Sa.1 k) ∧ S2.1 46 = 0 ∧ S2.1 53 = 0 ∧ S2.1 58 = 0 ∧ (∀ j, j ≠ 13 → S2.2.2 j = X3.2.2 j) ∧ ∀ i, i < 121 → S2.2.2 13 i = S'.2.2 8 i := by
    have := loop_rule (σ := MS) (N := 121) (fun i X => X.1 = Sa.1 ∧ (∀ j, j ≠ 13 → X.2.2 j = X3.2.2 j) ∧ ∀ c, c < i → X.2.2 13 c = S'.2.2 8 c) (fun m i X => ∃ S2, m_roll_338 m (Int32.ofNat i) X = some (0, S2) ∧ (∀ k, k ≠ 46 → k ≠ 53 → k ≠ 58 → S2.1 k = Sa.1 k) ∧ S2.1 46 = 0 ∧ S2.1 53 = 0 ∧ S2.1 58 = 0 ∧ (∀ j, j ≠ 13 → S2.2.2 j = X3.2.2 j) ∧ ∀ i, i < 121 → S2.2.2 13 i = S'.2.2 8 i) ?_ ?_ FU (by decide) X3 ⟨fX, fun _ _ => rfl, fun c hc => absurd hc (Nat.not_lt_zero c)⟩
    · exact this
    · intro m' i X hi ⟨b1, b2, b3⟩ K
      show ∃ S2, m_roll_338_b (m_roll_338 m') (Int32.ofNat i) X = _ ∧ _
      unfold m_roll_338_b
      rw [if_neg (show ¬ (121 : Int32) ≤ Int32.ofNat i from fun q => by have := (ole (n := 121) (m := i) (by omega) (by omega)).mp q; omega), rdA_n (ocl (by omega)) (on0 (by omega)) (show i < 121 from hi), Option.bind_some, wrA_n (ocl (by omega)) (on0 (by omega)) (show i < 242 by omega), Option.bind_some, ofn1 i (by omega)]
      refine K _ ⟨b1, fun j q => (sA_ne q).trans (b2 j q), fun c hc => ?_⟩
      rw [sA_at]
      unfold upd
      by_cases z : c = i
      · rw [if_pos z, b2 8 (by decide), aX 8 (by decide) (by decide) (by decide), z]
      · rw [if_neg z]; exact b3 c (by omega)
    · intro m' X ⟨b1, b2, b3⟩
      refine ⟨sF (sF (sF X 46 0) 53 0) 58 0, ?_, fun k q1 q2 q3 => by rw [sF_ne q3, sF_ne q2, sF_ne q1, b1], by rw [sF_ne (by decide), sF_ne (by decide), sF_at], by rw [sF_ne (by decide), sF_at], sF_at, b2, b3⟩
      show m_roll_338_b (m_roll_338 m') (Int32.ofNat 121) X = _
      unfold m_roll_338_b
      rw [if_pos (by decide)]
  obtain ⟨S2, k1, k2, k3, k4, k5, k6, k7⟩ := key
  have gl : ∀ j, j ≠ 1 → j ≠ 2 → j ≠ 3 → j ≠ 13 → S2.2.2 j = S'.2.2 j := fun j q1 q2 q3 q4 => (k6 j q4).trans (aX j q1 q2 q3)
  refine ⟨S2, by rw [start, x1, Option.bind_some, x2, Option.bind_some, x3, Option.bind_some, k1], ?_, by rw [k2 0 (by decide) (by decide) (by decide), sa 0 (by decide)]; exact g0⟩
  -- what stands around
  have mc : Mc S2 (enY Y) := by
    intro SX q1 q2
    have b1 : SX.2.2 1 = X1.2.2 1 := by rw [q2 1 (Or.inl rfl), k6 1 (by decide), u2 1 (by decide), z2 1 (by decide)]
    have b2 : SX.2.2 2 = X2.2.2 2 := by rw [q2 2 (Or.inr (Or.inl rfl)), k6 2 (by decide), u2 2 (by decide)]
    have b3 : SX.2.2 3 = X3.2.2 3 := by rw [q2 3 (Or.inr (Or.inr rfl)), k6 3 (by decide)]
    have fld : ∀ k, 1 ≤ k → k ≤ 8 → SX.1 k = Sa.1 k := fun k r1 r2 => (q1 k r1 r2).trans (k2 k (by omega) (by omega) (by omega))
    have code : ∀ i, i < (yL Y).length → SX.2.2 3 i = Int32.ofNat ((yL Y).getD i 0) := fun i hi => by
      rw [b3, u3 i (by omega), z2 9 (by decide), y2 9 (by decide), sb]
      exact f11.2 i hi
    refine ⟨(fld 1 (by decide) (by decide)).trans c1, (fld 2 (by decide) (by decide)).trans c2, (fld 5 (by decide) (by decide)).trans c5, (fld 6 (by decide) (by decide)).trans c6, (fld 3 (by decide) (by decide)).trans c3, fun d hd => ?_, fun k hk => ?_, ?_, ?_⟩
    · unfold m_weatherOf
      rw [fld 4 (by decide) (by decide), c4]
      show _ = some (if (yT Y).1 = 0 then (5 : Int32) else if d < 2000 then Int32.ofNat ((yT Y).2 (d % (yT Y).1)) else 0)
      by_cases z : (yT Y).1 = 0
      · rw [if_pos (show Int32.ofNat (yT Y).1 = 0 by rw [z]; rfl), if_pos z]
      · have nz : ¬ Int32.ofNat (yT Y).1 = 0 := fun r => z ((oeq (n := (yT Y).1) (m := 0) (by omega) (by omega)).mp r)
        have ml := Nat.mod_lt d (show (yT Y).1 > 0 by omega)
        rw [if_neg nz, if_neg nz, mod_n hd (by omega) (by omega), rdA_n (ocl (by omega)) (on0 (by omega)) (show d % (yT Y).1 < 8 by omega), Option.bind_some, if_neg z, if_pos hd, b2, z3 _ (by omega), y2 7 (by decide), sb, f6 _ ml]
    · have hk : k < (yP Y).1 := hk
      rw [b1, y3 k (by omega), sb]
      exact f4 k hk
    · show (match (yG Y).map (fun e => sv grMs e.2) with
        | none => SX.1 7 = -1
        | some r => SX.1 7 ≠ -1 ∧ ∃ S', m_reckons (SX.1 7) SX = some (r (SX.2.2 15), S') ∧ mfr (fun j _ => j = 16) SX S')
      rw [fld 7 (by decide) (by decide), c7]
      cases hg : yG Y with
      | none =>
        have d : dup Y 4 = false := by
          cases hd : dup Y 4 with
          | false => rfl
          | true => exact absurd hg (v7.mp hd)
        exact (opt_n (by omega)).mpr d
      | some e =>
        have d : dup Y 4 = true := v7.mpr (by rw [hg]; exact fun z => by cases z)
        obtain ⟨gd, cs⟩ := v9 e hg
        rw [opt_t d]
        refine ⟨ipos_ne (by omega), ?_⟩
        have := r_reckons gd.2.1 (Seg.cs code cs) (by have := cs.1; omega)
        have ev : sv grMs e.2 (SX.2.2 15) = e.2 (SX.2.2 15) := gd.2.2 _ _ fun k hk => by
          have : ∀ k, k < 7 → fw grMs 0 k = k := by decide
          by_cases z : k < 7
          · rw [this k z]
          · exfalso
            rw [fw_no _ 0 k (by
              intro m hm
              have : ∀ m ∈ grMs, m < 7 := by decide
              have := this m hm
              omega)] at hk
            exact absurd hk (by show ¬ 0 + 7 < 7; omega)
        show ∃ S', m_reckons (Int32.ofNat (yg Y)) SX = some (sv grMs e.2 (SX.2.2 15), S') ∧ _
        rw [ev]
        exact this
    · show (match (yB Y).map (fun e => sv beMs e.2) with
        | none => SX.1 8 = -1
        | some r => SX.1 8 ≠ -1 ∧ ∃ S', m_reckons (SX.1 8) SX = some (r (fun k => SX.2.2 15 (bmap k)), S') ∧ mfr (fun j _ => j = 16) SX S')
      rw [fld 8 (by decide) (by decide), c8]
      cases hg : yB Y with
      | none =>
        have d : dup Y 5 = false := by
          cases hd : dup Y 5 with
          | false => rfl
          | true => exact absurd hg (v8.mp hd)
        exact (opt_n (by omega)).mpr d
      | some e =>
        have d : dup Y 5 = true := v8.mpr (by rw [hg]; exact fun z => by cases z)
        obtain ⟨gd, cs⟩ := v10 e hg
        rw [opt_t d]
        refine ⟨ipos_ne (by omega), ?_⟩
        have := r_reckons gd.2.1 (Seg.cs code cs) (by have := cs.1; omega)
        have ev : sv beMs e.2 (fun k => SX.2.2 15 (bmap k)) = e.2 (SX.2.2 15) := gd.2.2 _ _ fun k hk => by
          have z8 : k < 8 := by
            by_cases z : k < 8
            · exact z
            · exfalso
              rw [fw_no _ 0 k (by
                intro m hm
                have : ∀ m ∈ beMs, m < 8 := by decide
                have := this m hm
                omega)] at hk
              exact absurd hk (by show ¬ 0 + 5 < 5; omega)
          have : ∀ k, k < 8 → fw beMs 0 k < beMs.length → bmap (fw beMs 0 k) = k := by decide
          show SX.2.2 15 (bmap (fw beMs 0 k)) = _
          rw [this k z8 hk]
        show ∃ S', m_reckons (Int32.ofNat (yb Y)) SX = some (sv beMs e.2 (fun k => SX.2.2 15 (bmap k)), S') ∧ _
        rw [ev]
        exact this
  refine ⟨mc, ⟨?_, fun c hc => ?_⟩, k3, fun k hk => absurd hk (Nat.not_lt_zero k), k4, fun k hk => absurd hk (Nat.not_lt_zero k), k5, ?_, fun k hk => absurd hk (Nat.not_lt_zero k), ?_, fun k hk => ?_⟩
  · show S2.2.2 13 0 = gY (yR Y)
    rw [k7 0 (by decide)]; exact f13.1
  · show S2.2.2 13 (0 + 1 + c) = _ ∧ S2.2.2 13 (0 + 31 + c) = _ ∧ S2.2.2 13 (0 + 61 + c) = _ ∧ S2.2.2 13 (0 + 91 + c) = _
    rw [k7 _ (by omega), k7 _ (by omega), k7 _ (by omega), k7 _ (by omega)]
    exact f13.2 c hc
  · rw [k2 13 (by decide) (by decide) (by decide), sa 13 (by decide)]; exact g13
  · rw [k2 15 (by decide) (by decide) (by decide), sa 15 (by decide)]; exact h15
  · show S2.2.2 5 k = sR s k
    rw [gl 5 (by decide) (by decide) (by decide) (by decide), ar 5 (by decide)]
    exact a11 k hk
end RE
