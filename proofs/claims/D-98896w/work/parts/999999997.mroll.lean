/-! plain law: the reference's roll -/
set_option maxRecDepth 100000
def tpS (s : St) (n : Nat) : Tpe := (fun k => (sB s k &&& 255).toNatClampNeg, n)
def enY (Y : Yx) : En := (yW Y * yH Y, Int32.ofNat (yW Y), Int32.ofNat (yH Y), Int32.ofNat (yA Y), Int32.ofNat (yS Y), (yP Y).1, (fun k => Int32.ofNat ((yP Y).2 k)), (fun d => if (yT Y).1 = 0 then 5 else if d < 2000 then Int32.ofNat ((yT Y).2 (d % (yT Y).1)) else 0), (yG Y).map (fun e => sv grMs e.2), (yB Y).map (fun e => sv beMs e.2))
def rollS (s : St) (Y : Yx) : St := (enY Y, yR Y, (0, fun _ => g00), (0, fun _ => (0, 0, 0)), none, sB s, 0, -1, sR s)
def failS (s : St) (b : Nat) : St := (sE s, sG s, sH s, sS s, sI s, sB s, 0, Int32.ofNat b, upd (sR s) 0 (sR s 0 + 1))
theorem byte_m (x : Int32) : (x &&& 255).toNatClampNeg < 256 ∧ x &&& 255 = Int32.ofNat (x &&& 255).toNatClampNeg := by
  have h : (x &&& 255).toBitVec.toNat < 256 := by
    rw [Int32.toBitVec_and, BitVec.toNat_and]
    have : (255 : Int32).toBitVec.toNat = 255 := by decide
    rw [this]
    exact Nat.lt_of_le_of_lt Nat.and_le_right (by decide)
  have e : x &&& 255 = Int32.ofNat (x &&& 255).toBitVec.toNat := by
    rw [← Int32.toBitVec_inj, Int32.toBitVec_ofNat']
    apply BitVec.eq_of_toNat_eq
    rw [BitVec.toNat_ofNat]
    omega
  have c : (x &&& 255).toNatClampNeg = (x &&& 255).toBitVec.toNat := by
    have := ocl (n := (x &&& 255).toBitVec.toNat) (by omega)
    rw [← e] at this
    exact this
  exact ⟨by rw [c]; exact h, by rw [c]; exact e⟩
theorem byte_c : ∀ v : Nat, v < 256 → (Int32.ofNat v - 128 &&& 255).toNatClampNeg < 128 → Int32.ofNat v - 128 = Int32.ofNat (Int32.ofNat v - 128 &&& 255).toNatClampNeg := by decide +kernel
theorem byte_n : ∀ v : Nat, v < 256 → ¬ (Int32.ofNat v - 128 &&& 255).toNatClampNeg < 128 → Int32.ofNat v - 128 < 0 := by decide +kernel
theorem byte_r {x : Int32} (h1 : -128 ≤ x) (h2 : x ≤ 127) : ∃ v, v < 256 ∧ x = Int32.ofNat v - 128 := by
  rw [i32le, show (-128 : Int32).toInt = -128 by decide] at h1
  rw [i32le, show (127 : Int32).toInt = 127 by decide] at h2
  refine ⟨(x.toInt + 128).toNat, by omega, ?_⟩
  rw [← Int32.toInt_inj, tI_sub (by rw [tIo (by omega), show (128 : Int32).toInt = 128 by decide]; omega) (by rw [tIo (by omega), show (128 : Int32).toInt = 128 by decide]; omega), tIo (by omega), show (128 : Int32).toInt = 128 by decide]
  omega
theorem en_ok {Y : Yx} (hw : YW Y) (hv : YV Y) : EnOK (enY Y) := by
  obtain ⟨⟨w1, w2, w3, w4, w5⟩, ⟨w6, w7⟩, w8, ⟨w9, w10⟩, ⟨w11, w12⟩, w13⟩ := hw
  obtain ⟨v1, v2, v3, v4, v5, v6, v7, v8, v9, v10, v11, v12⟩ := hv
  have g7 : ∀ k, fw grMs 0 k < grMs.length → fw grMs 0 k < 7 := fun k q => q
  have b5 : ∀ k, fw beMs 0 k < beMs.length → fw beMs 0 k < 5 := fun k q => q
  refine ⟨⟨yW Y, yH Y, by omega, by omega, by omega, by omega, rfl, rfl, rfl⟩, w8, ?_, fun k hk => ?_, fun r hr f f' e => ?_, fun r hr f f' e => ?_, fun d => ?_⟩
  · show 0 < Int32.ofNat (yS Y)
    exact (olt (n := 0) (by omega) (by omega)).mpr (by omega)
  · have := v3 k hk
    show Int32.ofNat ((yP Y).2 k) = 0 ∨ Int32.ofNat ((yP Y).2 k) = 1 ∨ Int32.ofNat ((yP Y).2 k) = 2 ∨ Int32.ofNat ((yP Y).2 k) = 3
    have z : ∀ v, v ≤ 3 → Int32.ofNat v = 0 ∨ Int32.ofNat v = 1 ∨ Int32.ofNat v = 2 ∨ Int32.ofNat v = 3 := by decide
    exact z _ this
  · have hr : (yG Y).map (fun e => sv grMs e.2) = some r := hr
    cases hg : yG Y with
    | none => rw [hg] at hr; cases hr
    | some x =>
      rw [hg] at hr
      have hr := Option.some.inj hr
      subst hr
      exact (v9 x hg).1.2.2 _ _ fun k q => e _ (g7 k q)
  · have hr : (yB Y).map (fun e => sv beMs e.2) = some r := hr
    cases hg : yB Y with
    | none => rw [hg] at hr; cases hr
    | some x =>
      rw [hg] at hr
      have hr := Option.some.inj hr
      subst hr
      exact (v10 x hg).1.2.2 _ _ fun k q => e _ (b5 k q)
  · show ∃ k, k < 10 ∧ (if (yT Y).1 = 0 then (5 : Int32) else if d < 2000 then Int32.ofNat ((yT Y).2 (d % (yT Y).1)) else 0) = Int32.ofNat k
    by_cases z : (yT Y).1 = 0
    · rw [if_pos z]; exact ⟨5, by decide, rfl⟩
    · rw [if_neg z]
      by_cases q : d < 2000
      · rw [if_pos q]
        have := v2 (d % (yT Y).1) (Nat.mod_lt _ (by omega))
        exact ⟨_, by omega, rfl⟩
      · rw [if_neg q]; exact ⟨0, by decide, rfl⟩
theorem roll_ok {s : St} {Y : Yx} (ok : StOK s) (hw : YW Y) (hv : YV Y) : StOK (rollS s Y) := by
  refine ⟨en_ok hw hv, ⟨⟨⟨0, by decide, hv.2.2.2.2.2.2.2.2.2.2.1⟩, fun c hc => (hv.2.2.2.2.2.2.2.2.2.2.2 c hc).1⟩, fun c hc => (hv.2.2.2.2.2.2.2.2.2.2.2 c hc).2.1, fun c hc => (hv.2.2.2.2.2.2.2.2.2.2.2 c hc).2.2⟩, ⟨Nat.zero_le _, fun k hk => absurd hk (Nat.not_lt_zero k)⟩, ⟨Nat.zero_le _, fun k hk => absurd hk (Nat.not_lt_zero k)⟩, fun g h x q => (by cases q), Nat.zero_le _, fun k hk => absurd hk (Nat.not_lt_zero k)⟩
theorem fail_ok {s : St} {b : Nat} (ok : StOK s) : StOK (failS s b) := ⟨ok.1, ok.2.1, ok.2.2.1, ok.2.2.2.1, ok.2.2.2.2.1, by show 0 ≤ 700; omega, fun k hk => absurd hk (Nat.not_lt_zero k)⟩
/-- the reference, as it begins to read -/
theorem r_begin {S : MS} {s : St} {n : Nat} (ok : StOK s) (m : MI S s) (hn : n ≤ sT s) : ∃ S0 S1, m_roll (Int32.ofNat n) S = (m_goes S1).bind (m_roll_143 FU) ∧ S0 = sF (sF (sF S 0 0) 13 0) 17 (Int32.ofNat n) ∧ S1.1 18 = 0 ∧ Tp4 S1 (tpS s n) ∧ S1.1 14 = 0 ∧ S1.1 15 = -1 ∧ LF S0 S1 ∧ YF S1 Y0 := by
  have ht := ok.2.2.2.2.2.1
  have m13 := m.2.2.2.2.2.2.2.1
  have m4 := m.2.2.2.2.2.2.2.2.1
  -- the fields
  obtain ⟨Sa, ea⟩ : ∃ Sa, Sa = (sF ((sF ((sF ((sF ((sF ((sF ((sF ((sF ((sF ((sF ((sF ((sF ((sF (sF S 0 0) 13 (0 : Int32))) 15 (-1 : Int32))) 14 (0 : Int32))) 17 (Int32.ofNat n))) 18 (0 : Int32))) 25 (-1 : Int32))) 26 (-1 : Int32))) 27 (0 : Int32))) 28 (0 : Int32))) 29 (-1 : Int32))) 30 (-1 : Int32))) 31 (-1 : Int32))) 32 (-1 : Int32)) := ⟨_, rfl⟩
  have start : m_roll (Int32.ofNat n) S = (wrA Sa 8 0 0).bind fun S103 => m_roll_106 FU 0 S103 := by
    have h0 : (sF S 0 0).1 0 = 0 := sF_at
    unfold m_roll m_roll_23
    rw [if_neg (on0 (by omega)), sF_ne (by decide), m13, if_neg (fun q => by have := (olt (by omega) (by omega)).mp q; omega), r_right_t h0, Option.bind_some, if_neg (show ¬ (1 : Int32) = 0 by decide), ea]
  have fa : ∀ k, k ≠ 0 → k ≠ 13 → k ≠ 14 → k ≠ 15 → k ≠ 17 → k ≠ 18 → ¬ (25 ≤ k ∧ k ≤ 32) → Sa.1 k = S.1 k := fun k q0 q1 q2 q3 q4 q5 q6 => by
    rw [ea, sF_ne (by omega), sF_ne (by omega), sF_ne (by omega), sF_ne (by omega), sF_ne (by omega), sF_ne (by omega), sF_ne (by omega), sF_ne (by omega), sF_ne q5, sF_ne q4, sF_ne q2, sF_ne q3, sF_ne q1, sF_ne q0]
  have aa : Sa.2 = S.2 := by rw [ea]; rfl
  have f0 : Sa.1 0 = 0 := by
    rw [ea, sF_ne (by omega), sF_ne (by omega), sF_ne (by omega), sF_ne (by omega), sF_ne (by omega), sF_ne (by omega), sF_ne (by omega), sF_ne (by omega), sF_ne (by omega), sF_ne (by omega), sF_ne (by omega), sF_ne (by omega), sF_ne (by omega), sF_at]
  have f13 : Sa.1 13 = 0 := by
    rw [ea, sF_ne (by omega), sF_ne (by omega), sF_ne (by omega), sF_ne (by omega), sF_ne (by omega), sF_ne (by omega), sF_ne (by omega), sF_ne (by omega), sF_ne (by omega), sF_ne (by omega), sF_ne (by omega), sF_ne (by omega), sF_at]
  have f15 : Sa.1 15 = -1 := by
    rw [ea, sF_ne (by omega), sF_ne (by omega), sF_ne (by omega), sF_ne (by omega), sF_ne (by omega), sF_ne (by omega), sF_ne (by omega), sF_ne (by omega), sF_ne (by omega), sF_ne (by omega), sF_ne (by omega), sF_at]
  have f14 : Sa.1 14 = 0 := by
    rw [ea, sF_ne (by omega), sF_ne (by omega), sF_ne (by omega), sF_ne (by omega), sF_ne (by omega), sF_ne (by omega), sF_ne (by omega), sF_ne (by omega), sF_ne (by omega), sF_ne (by omega), sF_at]
  have f17 : Sa.1 17 = Int32.ofNat n := by
    rw [ea, sF_ne (by omega), sF_ne (by omega), sF_ne (by omega), sF_ne (by omega), sF_ne (by omega), sF_ne (by omega), sF_ne (by omega), sF_ne (by omega), sF_ne (by omega), sF_at]
  have f18 : Sa.1 18 = 0 := by
    rw [ea, sF_ne (by omega), sF_ne (by omega), sF_ne (by omega), sF_ne (by omega), sF_ne (by omega), sF_ne (by omega), sF_ne (by omega), sF_ne (by omega), sF_at]
  have f25 : Sa.1 25 = -1 := by
    rw [ea, sF_ne (by omega), sF_ne (by omega), sF_ne (by omega), sF_ne (by omega), sF_ne (by omega), sF_ne (by omega), sF_ne (by omega), sF_at]
  have f26 : Sa.1 26 = -1 := by
    rw [ea, sF_ne (by omega), sF_ne (by omega), sF_ne (by omega), sF_ne (by omega), sF_ne (by omega), sF_ne (by omega), sF_at]
  have f27 : Sa.1 27 = 0 := by
    rw [ea, sF_ne (by omega), sF_ne (by omega), sF_ne (by omega), sF_ne (by omega), sF_ne (by omega), sF_at]
  have f28 : Sa.1 28 = 0 := by
    rw [ea, sF_ne (by omega), sF_ne (by omega), sF_ne (by omega), sF_ne (by omega), sF_at]
  have f29 : Sa.1 29 = -1 := by
    rw [ea, sF_ne (by omega), sF_ne (by omega), sF_ne (by omega), sF_at]
  have f30 : Sa.1 30 = -1 := by
    rw [ea, sF_ne (by omega), sF_ne (by omega), sF_at]
  have f31 : Sa.1 31 = -1 := by
    rw [ea, sF_ne (by omega), sF_at]
  have f32 : Sa.1 32 = -1 := by
    rw [ea, sF_at]
  clear ea
  -- the empty row
  have key : ∃ Sz, m_roll_106 FU 0 (sA Sa 8 0 0) = (m_goes (sF Sz 33 0)).bind (m_roll_143 FU) ∧ Sz.1 = Sa.1 ∧ (∀ j, j ≠ 8 → j ≠ 12 → Sz.2.2 j = Sa.2.2 j) ∧ Sz.2.2 8 0 = 0 ∧ ∀ c, c < 30 → Sz.2.2 12 c = 0 ∧ Sz.2.2 8 (1 + c) = 3 ∧ Sz.2.2 8 (31 + c) = 20 ∧ Sz.2.2 8 (61 + c) = -1 ∧ Sz.2.2 8 (91 + c) = 0 := by
    have := loop_rule (σ := MS) (N := 30) (fun i X => X.1 = Sa.1 ∧ (∀ j, j ≠ 8 → j ≠ 12 → X.2.2 j = Sa.2.2 j) ∧ X.2.2 8 0 = 0 ∧ ∀ c, c < i → X.2.2 12 c = 0 ∧ X.2.2 8 (1 + c) = 3 ∧ X.2.2 8 (31 + c) = 20 ∧ X.2.2 8 (61 + c) = -1 ∧ X.2.2 8 (91 + c) = 0) (fun m i X => ∃ Sz, m_roll_106 m (Int32.ofNat i) X = (m_goes (sF Sz 33 0)).bind (m_roll_143 FU) ∧ Sz.1 = Sa.1 ∧ (∀ j, j ≠ 8 → j ≠ 12 → Sz.2.2 j = Sa.2.2 j) ∧ Sz.2.2 8 0 = 0 ∧ ∀ c, c < 30 → Sz.2.2 12 c = 0 ∧ Sz.2.2 8 (1 + c) = 3 ∧ Sz.2.2 8 (31 + c) = 20 ∧ Sz.2.2 8 (61 + c) = -1 ∧ Sz.2.2 8 (91 + c) = 0) ?_ ?_ FU (by decide) (sA Sa 8 0 0) ⟨rfl, fun j q _ => sA_ne q, by rw [sA_at]; exact upd_at, fun c hc => absurd hc (Nat.not_lt_zero c)⟩
    · exact this
    · intro m' i X hi ⟨x1, x2, x3, x4⟩ K
      show ∃ Sz, m_roll_106_b (m_roll_106 m') (Int32.ofNat i) X = _ ∧ _
      unfold m_roll_106_b m_empties
      have w : ∀ j, wrV X j = wrA X j ∨ True := fun _ => Or.inr trivial
      have v8 : ∀ (Z : MS) (a x : Int32), wrV Z 8 a x = wrA Z 8 a x := fun Z a x => if_pos (by decide)
      rw [if_neg (show ¬ (30 : Int32) ≤ Int32.ofNat i from fun q => by have := (ole (n := 30) (m := i) (by omega) (by omega)).mp q; omega), wrA_n (ocl (by omega)) (on0 (by omega)) (show i < 30 from hi), Option.bind_some, v8, show (1 : Int32) + Int32.ofNat i = Int32.ofNat (1 + i) from oadd 1 i, show (31 : Int32) + Int32.ofNat i = Int32.ofNat (31 + i) from oadd 31 i, show (61 : Int32) + Int32.ofNat i = Int32.ofNat (61 + i) from oadd 61 i, show (91 : Int32) + Int32.ofNat i = Int32.ofNat (91 + i) from oadd 91 i, wrA_n (ocl (by omega)) (on0 (by omega)) (show 1 + i < 121 by omega), Option.bind_some, v8, wrA_n (ocl (by omega)) (on0 (by omega)) (show 31 + i < 121 by omega), Option.bind_some, v8, wrA_n (ocl (by omega)) (on0 (by omega)) (show 61 + i < 121 by omega), Option.bind_some, v8, wrA_n (ocl (by omega)) (on0 (by omega)) (show 91 + i < 121 by omega), Option.bind_some, Option.bind_some, ofn1 i (by omega)]
      refine K _ ⟨x1, fun j q1 q2 => ?_, ?_, fun c hc => ?_⟩
      · rw [sA_ne q1, sA_ne q1, sA_ne q1, sA_ne q1, sA_ne q2]; exact x2 j q1 q2
      · rw [sA_at, sA_at, sA_at, sA_at, sA_ne (by decide)]
        unfold upd
        rw [if_neg (by omega), if_neg (by omega), if_neg (by omega), if_neg (by omega)]
        exact x3
      · rw [sA_ne (show 12 ≠ 8 by decide), sA_ne (show 12 ≠ 8 by decide), sA_ne (show 12 ≠ 8 by decide), sA_ne (show 12 ≠ 8 by decide), sA_at, sA_at, sA_at, sA_at, sA_at, sA_ne (show 8 ≠ 12 by decide)]
        unfold upd
        by_cases z : c = i
        · subst z
          refine ⟨by rw [if_pos rfl]; decide, ?_, ?_, ?_, ?_⟩
          · rw [if_neg (by omega), if_neg (by omega), if_neg (by omega), if_pos rfl]
          · rw [if_neg (by omega), if_neg (by omega), if_pos rfl]
          · rw [if_neg (by omega), if_pos rfl]
          · rw [if_pos rfl]
        · obtain ⟨z1, z2, z3, z4, z5⟩ := x4 c (by omega)
          refine ⟨by rw [if_neg z]; exact z1, ?_, ?_, ?_, ?_⟩
          · rw [if_neg (by omega), if_neg (by omega), if_neg (by omega), if_neg (by omega)]; exact z2
          · rw [if_neg (by omega), if_neg (by omega), if_neg (by omega), if_neg (by omega)]; exact z3
          · rw [if_neg (by omega), if_neg (by omega), if_neg (by omega), if_neg (by omega)]; exact z4
          · rw [if_neg (by omega), if_neg (by omega), if_neg (by omega), if_neg (by omega)]; exact z5
    · intro m' X ⟨x1, x2, x3, x4⟩
      refine ⟨X, ?_, x1, x2, x3, x4⟩
      show m_roll_106_b (m_roll_106 m') (Int32.ofNat 30) X = _
      unfold m_roll_106_b
      rw [if_pos (by decide)]
  obtain ⟨Sz, z1, z2, z3, z4, z5⟩ := key
  refine ⟨_, sF Sz 33 0, ?_, rfl, ?_, ⟨?_, fun k hk => ?_⟩, ?_, ?_, ⟨fun k q => ?_, fun j q => ?_⟩, ?_⟩
  · rw [start, wrA_n (j := 8) (i := 0) (k := 0) (by decide) (by decide) (show 0 < 121 by decide), Option.bind_some]
    exact z1
  · rw [sF_ne (by decide), z2, f18]
  · rw [sF_ne (by decide), z2, f17]; rfl
  · show Sz.2.2 4 k = Int32.ofNat (sB s k &&& 255).toNatClampNeg
    have hk : k < n := hk
    rw [z3 4 (by decide) (by decide), aa, m4 k (by omega)]
    exact (byte_m _).2
  · rw [sF_ne (by decide), z2, f14]
  · rw [sF_ne (by decide), z2, f15]
  · rw [sF_ne (by omega), z2]
    by_cases k17 : k = 17
    · subst k17; rw [f17, sF_at]
    · rw [sF_ne k17]
      by_cases k13 : k = 13
      · subst k13; rw [f13, sF_at]
      · rw [sF_ne k13]
        by_cases k0 : k = 0
        · subst k0; rw [f0, sF_at]
        · rw [sF_ne k0, fa k k0 k13 (by omega) (by omega) k17 (by omega) (by omega)]
  · show Sz.2.2 j = S.2.2 j
    rw [z3 j (by omega) (by omega), aa]
  · have sf : ∀ i, i ≠ 33 → (sF Sz 33 0).1 i = Sa.1 i := fun i q => by rw [sF_ne q, z2]
    refine ⟨(sf 25 (by decide)).trans f25, (sf 26 (by decide)).trans f26, (sf 27 (by decide)).trans f27, fun k hk => absurd hk (Nat.not_lt_zero k), (sf 28 (by decide)).trans f28, fun k hk => absurd hk (Nat.not_lt_zero k), (sf 29 (by decide)).trans f29, (sf 30 (by decide)).trans f30, (sf 31 (by decide)).trans f31, (sf 32 (by decide)).trans f32, ⟨sF_at, fun i hi => absurd hi (Nat.not_lt_zero i)⟩, fun c hc => (z5 c hc).1, ⟨z4, fun c hc => ?_⟩⟩
    obtain ⟨y1, y2, y3, y4, y5⟩ := z5 c hc
    show Sz.2.2 8 (0 + 1 + c) = 3 ∧ Sz.2.2 8 (0 + 31 + c) = 20 ∧ Sz.2.2 8 (0 + 61 + c) = -1 ∧ Sz.2.2 8 (0 + 91 + c) = 0
    rw [Nat.zero_add, Nat.zero_add, Nat.zero_add, Nat.zero_add]
    exact ⟨y2, y3, y4, y5⟩
