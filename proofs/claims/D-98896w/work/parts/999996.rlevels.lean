/-! plain law: the reference's way through each kind of part -/
set_option maxRecDepth 100000
/-- what is owed after a part has been read: a fault ends it, else it goes on -/
def Kon (S0 : MS) (t : Tpe) (d : Nat) (F : Nat → Int32) (W C : List Nat) (s : Nat) (st : Nat → Int32 → Prop) (Q : MS → Prop) (r : PR) : Prop :=
  (∀ k b, r = .inl (k, b) → ∀ S', BX S0 k b S' → Q S') ∧ ∀ e q, r = .inr (e, q) → ∀ S' F' V C', RX S0 S' t q d F' (W ++ V.reverse) C' → C' ++ V = C ++ e.1 → (∀ v ∈ V, v < 14 ∧ s ≤ stg v) → (∀ i, i < d → F' i = F i) → st q (F' d) → Lp t q S' Q
def mayOK (S0 : MS) (ms : List Nat) : Prop := (∀ k, k < 8 → (((S0.1 36 >>> (Int32.ofNat k &&& 31)) &&& 1 = 0) ↔ ¬ fw ms 0 k < ms.length)) ∧ ∀ k, 8 ≤ k → ¬ fw ms 0 k < ms.length
section RE
variable {t : Tpe} (h7 : t.2 ≤ 700) (hc : ∀ k, t.1 k < 256) {S0 S : MS} {p d s : Nat} {F : Nat → Int32} {W C V : List Nat}
theorem RB.puts {k b x : Nat} (h : RB S0 k b S) {C0 : List Nat} (hc : Cd S C0) {W0 : List Nat} (hw : Wt S W0) (hw15 : ∀ w ∈ W0, w < 15) (hl : C0.length + W0.length + 1 < 1400) (hl2 : W0.length ≤ 950) : ∃ S', m_puts (Int32.ofNat x) S = some S' ∧ RB S0 k b S' ∧ Cd S' (C0 ++ [x]) ∧ Wt S' W0 := by
  obtain ⟨S1, e1, c1, k1⟩ := r_puts (x := x) hc (by omega)
  have w1 := hw.ks k1 (by decide) (by decide)
  refine ⟨S1, e1, ⟨⟨(k1.1 14 (by decide)).trans h.1.1, (k1.1 15 (by decide)).trans h.1.2.1, h.1.2.2.tr k1 (fun i q => by omega) (fun j q => by omega)⟩, h.2.1, h.2.2.1, W0, C0 ++ [x], w1, c1, hw15, by rw [List.length_append, List.length_singleton]; omega, hl2⟩, c1, w1⟩
theorem e_102B (h : ¬ S.1 14 = 0) : m_part_102 S = some S := by
  unfold m_part_102; rw [r_bad h, Option.bind_some, if_pos rfl]
theorem e_102G (h : S.1 14 = 0) : m_part_102 S = m_goes S := by
  unfold m_part_102; rw [r_good h, Option.bind_some, if_neg (by decide)]
  cases m_goes S <;> rfl
/-- what comes of a part that is no bracket -/
def PtR (S0 : MS) (t : Tpe) (d : Nat) (F : Nat → Int32) (W C : List Nat) (r : PR) (S' : MS) : Prop := (∀ k b, r = .inl (k, b) → RB S0 k b S') ∧ ∀ e q, r = .inr (e, q) → RX S0 S' t q d F W (C ++ e.1)
theorem PtR.ok {S' : MS} {e : Ex} {q : Nat} (h : RX S0 S' t q d F W (C ++ e.1)) : PtR S0 t d F W C (.inr (e, q)) S' := ⟨fun k b q => (by cases q), fun e2 q2 r => by
  have r := Sum.inr.inj r
  have r1 : e = e2 := congrArg Prod.fst r
  have r2 : q = q2 := congrArg Prod.snd r
  subst r1 r2
  exact h⟩
theorem PtR.er {S' : MS} {k b : Nat} (h : RB S0 k b S') : PtR S0 t d F W C (.inl (k, b)) S' := ⟨fun k2 b2 q => by
  have q := Sum.inl.inj q
  have q1 : k = k2 := congrArg Prod.fst q
  have q2 : b = b2 := congrArg Prod.snd q
  subst q1 q2
  exact h, fun e q r => by cases r⟩
theorem RX.two (h7 : t.2 ≤ 700) (hc : ∀ k, t.1 k < 256) (h : RX S0 S t p d F W C) (h0 : tS t p ≠ 0) (x y : Nat) : ∃ S1 S2 S3, m_puts (Int32.ofNat x) S = some S1 ∧ m_puts (Int32.ofNat y) S1 = some S2 ∧ S1.1 22 = S.1 22 ∧ S2.1 14 = 0 ∧ m_goes S2 = some S3 ∧ RX S0 S3 t (tE t p) d F W (C ++ [x, y]) := by
  obtain ⟨hf1, hf2⟩ := tE_fw h.2.2.1 h0
  obtain ⟨b1, b2⟩ := h.2.2.2
  have hp := h.2.2.1
  obtain ⟨S1, e1, y1, k1⟩ := h.1.kz33 (x := x) (by omega)
  obtain ⟨S2, e2, y2, k2⟩ := y1.kz33 (x := y) (by rw [List.length_append, List.length_singleton]; omega)
  have t2 := (h.2.1.kz k1 (fun i q => by omega)).kz k2 (fun i q => by omega)
  rw [List.append_assoc] at y2
  obtain ⟨S3, e3, x3⟩ := y2.go h7 hc (p := tE t p) t2.1 hf2 ⟨by rw [List.length_append]; show C.length + 2 + _ + 2 ≤ _; omega, by omega⟩
  exact ⟨S1, S2, S3, e1, e2, k1.1 22 (by decide), y2.2.1, e3, x3⟩
theorem RX.twoB (h7 : t.2 ≤ 700) (h : RX S0 S t p d F W C) (h0 : tS t p ≠ 0) {k : Nat} (k0 : 0 < k) (k1 : k < 10) (x : Nat) (y : MS → Int32) (hy : ∀ S', S'.1 22 = S.1 22 → ∃ y', y S' = Int32.ofNat y') : ∃ S1 S2 S3, m_wrong (Int32.ofNat k) S = some S1 ∧ m_puts (Int32.ofNat x) S1 = some S2 ∧ m_puts (y S2) S2 = some S3 ∧ RB S0 k (tB t p) S3 := by
  obtain ⟨S1, e1, b, w, c, o, ar⟩ := h.wr k0 k1 h7
  have hf1 := tS_lt h0
  have hf2 := tB_ge (t := t) (p := p)
  obtain ⟨b1, b2⟩ := h.2.2.2
  have r1 : RB S0 k (tB t p) S1 := ⟨b, k0, k1, W, C, w, c, h.1.2.2.2.2.2.2.2.1, by omega, by omega⟩
  obtain ⟨S2, e2, r2, c2, w2⟩ := r1.puts (x := x) c w h.1.2.2.2.2.2.2.2.1 (by omega) (by omega)
  have e22 : S2.1 22 = S.1 22 := by
    obtain ⟨S2', e2', c2', k2'⟩ := r_puts (x := x) c (by omega)
    rw [e2] at e2'
    cases e2'
    exact (k2'.1 22 (by decide)).trans (o 22 (by decide) (by decide))
  obtain ⟨y', ey⟩ := hy S2 e22
  obtain ⟨S3, e3, r3, c3, w3⟩ := r2.puts (x := y') c2 w2 h.1.2.2.2.2.2.2.2.1 (by rw [List.length_append, List.length_singleton]; omega) (by omega)
  exact ⟨S1, S2, S3, e1, e2, by rw [ey]; exact e3, r3⟩
theorem r_part0 (h7 : t.2 ≤ 700) (hc : ∀ k, t.1 k < 256) (h : RX S0 S t p d F W C) {ms : List Nat} (hm : mayOK S0 ms) (kE : Nat → PR) (h40 : ¬ sgi t p 40) : ∃ S', m_part S = some S' ∧ PtR S0 t d F W C (pPart t ms kE p) S' := by
  have hs := tS_le t p
  unfold m_part
  rw [h.good, Option.bind_some, if_neg (show ¬ (1 : Int32) = 0 by decide), h.2.1.2.1]
  unfold pPart
  by_cases s2 : tS t p = 2
  · rw [if_pos s2, if_pos (show Int32.ofNat (tS t p) = 2 by rw [s2]; rfl), h.2.1.2.2.2.1]
    have hl := tE_le h.2.2.1
    by_cases l4 : tE t p - tB t p ≤ 4
    · rw [if_pos l4, if_pos (show Int32.ofNat (tE t p - tB t p) ≤ 4 from (ole (n := tE t p - tB t p) (m := 4) (by omega) (by omega)).mpr l4)]
      obtain ⟨S1, S2, S3, e1, e2, g, g2, e3, x3⟩ := h.two h7 hc (by omega) 1 (nmF t p)
      have e1 : m_puts 1 S = some S1 := e1
      have n22 : S1.1 22 = Int32.ofNat (nmF t p) := by
        rw [g, h.2.1.2.2.2.2.1 s2, show min 4 (tE t p - tB t p) = tE t p - tB t p by omega]
      refine ⟨S3, ?_, PtR.ok x3⟩
      · unfold m_part_29
        rw [e1, Option.bind_some, n22, e2, Option.bind_some, e_102G g2, e3]
    · rw [if_neg l4, if_neg (show ¬ Int32.ofNat (tE t p - tB t p) ≤ 4 from fun q => l4 ((ole (n := tE t p - tB t p) (m := 4) (by omega) (by omega)).mp q))]
      obtain ⟨S1, S2, S3, e1, e2, e3, r3⟩ := h.twoB h7 (by omega) (k := 2) (by decide) (by decide) 1 (fun S' => S'.1 22) (fun S' q => ⟨_, q.trans (h.2.1.2.2.2.2.1 s2)⟩)
      have e1 : m_wrong 2 S = some S1 := e1
      have e2 : m_puts 1 S1 = some S2 := e2
      refine ⟨S3, ?_, PtR.er r3⟩
      · unfold m_part_29
        rw [e1, Option.bind_some, e2, Option.bind_some, e3, Option.bind_some, e_102B r3.nb]
  · rw [if_neg s2, if_neg h40, if_neg (show ¬ Int32.ofNat (tS t p) = 2 from fun q => s2 ((tS_ne (k := 2) (by decide)).mp q))]
    by_cases s1 : tS t p = 1
    · rw [if_pos s1, if_pos (show Int32.ofNat (tS t p) = 1 by rw [s1]; rfl), h.kn h7, Option.bind_some]
      have kl := kw_le t p
      by_cases ok : fw ms 0 (kw t p) < ms.length
      · have k8 : kw t p < 8 := by
          by_cases q : kw t p < 8
          · exact q
          · exact absurd ok (hm.2 _ (by omega))
        rw [if_pos ok, if_neg (show ¬ kw t p = 18 by omega), if_neg (on0 (by omega)), if_neg (fun q => by have := (olt (n := 7) (m := kw t p) (by omega) (by omega)).mp q; omega), h.1.2.2.2.2.2.2.2.2.1 36 (by decide), if_neg (fun q => (hm.1 _ k8).mp q ok)]
        obtain ⟨S1, S2, S3, e1, e2, g, g2, e3, x3⟩ := h.two h7 hc (by omega) 2 (kw t p)
        have e1 : m_puts 2 S = some S1 := e1
        refine ⟨S3, ?_, PtR.ok x3⟩
        · unfold m_part_84
          rw [e1, Option.bind_some, e2, Option.bind_some, e_102G g2, e3]
      · rw [if_neg ok]
        have go : ∀ x : Int32, (∃ y, x = Int32.ofNat y) → ∃ S', m_part_79 x S = some S' ∧ PtR S0 t d F W C (.inl (3, tB t p)) S' := by
          intro x ⟨y, hy⟩
          obtain ⟨S1, S2, S3, e1, e2, e3, r3⟩ := h.twoB h7 (by omega) (k := 3) (by decide) (by decide) 2 (fun _ => x) (fun S' q => ⟨y, hy⟩)
          have e1 : m_wrong 3 S = some S1 := e1
          have e2 : m_puts 2 S1 = some S2 := e2
          refine ⟨S3, ?_, PtR.er r3⟩
          · unfold m_part_79 m_part_84
            rw [e1, Option.bind_some, e2, Option.bind_some, e3, Option.bind_some, e_102B r3.nb]
        by_cases k18 : kw t p = 18
        · rw [if_pos k18, if_pos (by decide)]
          exact go _ ⟨4294967295, by decide⟩
        · rw [if_neg k18, if_neg (on0 (by omega))]
          by_cases k8 : kw t p < 8
          · rw [if_neg (fun q => by have := (olt (n := 7) (m := kw t p) (by omega) (by omega)).mp q; omega), h.1.2.2.2.2.2.2.2.2.1 36 (by decide), if_pos ((hm.1 _ k8).mpr ok)]
            exact go _ ⟨_, rfl⟩
          · rw [if_pos (show (7 : Int32) < Int32.ofNat (kw t p) from (olt (n := 7) (m := kw t p) (by omega) (by omega)).mpr (by omega))]
            exact go _ ⟨_, rfl⟩
    · rw [if_neg s1, if_neg (show ¬ Int32.ofNat (tS t p) = 1 from fun q => s1 ((tS_ne (k := 1) (by decide)).mp q))]
      obtain ⟨S1, e1, r1⟩ := h.rb (k := 1) (by decide) (by decide) h7
      have e1 : m_wrong 1 S = some S1 := e1
      refine ⟨S1, ?_, PtR.er r1⟩
      · rw [e1, Option.bind_some, e_102B r1.nb]
/-- no bracket: to the part at once -/
theorem e_75n (h7 : t.2 ≤ 700) (hc : ∀ k, t.1 k < 256) (h : RX S0 S t p d F W C) (h40 : ¬ sgi t p 40) {m : Nat} (hm : 0 < m) (x2 : Int32) : m_operand_75 (m_operand_4 m) x2 S = m_part S := by
  obtain ⟨m, rfl⟩ : ∃ k, m = k + 1 := ⟨m - 1, by omega⟩
  have s40 : m_isSign 40 S = some (if sgi t p 40 then 1 else 0) := h.sg hc (c := 40) (by decide)
  unfold m_operand_75 m_operand_95 m_operand_96 m_operand_117
  rw [h.good, Option.bind_some, if_neg (show ¬ (1 : Int32) = 0 by decide), s40, if_neg h40, Option.bind_some, if_pos rfl, if_pos rfl]
  show m_operand_4_b (m_operand_4 m) x2 0 S = _
  unfold m_operand_4_b m_operand_120
  rw [if_pos rfl]
  cases m_part S <;> rfl
/-- Op with x2 = 0 -/
theorem Op.z (h7 : t.2 ≤ 700) (hc : ∀ k, t.1 k < 256) (h : RX S0 S t p d F W C) {Q : MS → Prop} (k : ∀ x2, O75 t p x2 S Q) : Op t p 0 S Q := by
  obtain ⟨R, hR, eR⟩ := k 0
  have hp := h.2.2.1
  refine ⟨R, hR, fun m1 m2 q1 q2 => ?_⟩
  obtain ⟨m1, rfl⟩ : ∃ k, m1 = k + 1 := ⟨m1 - 1, by omega⟩
  rw [← eR m1 m2 (by omega) q2]
  show (m_operand_4_b (m_operand_4 m1) 0 1 S).bind _ = _
  unfold m_operand_4_b
  rw [if_neg (show ¬ (1 : Int32) = 0 by decide), h.good, Option.bind_some, if_neg (show ¬ (1 : Int32) = 0 by decide)]
  show (m_operand_18_b (m_operand_4 m1) (m_operand_18 (m_operand_4 m1) 5999) 0 0 S).bind _ = _
  unfold m_operand_18_b
  rw [h.good, Option.bind_some, if_neg (show ¬ (1 : Int32) = 0 by decide), if_pos rfl]
theorem Op.n (h7 : t.2 ≤ 700) (hc : ∀ k, t.1 k < 256) (h : RX S0 S t p d F W C) {Q : MS → Prop} (k : On t p 0 S Q) : Op t p 1 S Q := by
  obtain ⟨R, hR, eR⟩ := k
  have hp := h.2.2.1
  refine ⟨R, hR, fun m1 m2 q1 q2 => ?_⟩
  obtain ⟨m1, rfl⟩ : ∃ k, m1 = k + 1 := ⟨m1 - 1, by omega⟩
  rw [← eR m1 m2 FU (by omega) q2 (by show _ < 6000; omega)]
  show (m_operand_4_b (m_operand_4 m1) 1 1 S).bind _ = _
  unfold m_operand_4_b
  rw [if_neg (show ¬ (1 : Int32) = 0 by decide), h.good, Option.bind_some, if_neg (show ¬ (1 : Int32) = 0 by decide)]
  rfl
/-- On, where no 'not' stands -/
theorem On.n (h7 : t.2 ≤ 700) (hc : ∀ k, t.1 k < 256) (h : RX S0 S t p d F W C) (hk : ¬ kw t p = 17) {Q : MS → Prop} {x4 : Nat} (h4 : x4 ≤ 6) (k : ∀ x2, O75 t p x2 S Q) : On t p x4 S Q := by
  obtain ⟨R, hR, eR⟩ := k 1
  refine ⟨R, hR, fun m1 m2 m3 q1 q2 q3 => ?_⟩
  obtain ⟨m3, rfl⟩ : ∃ k, m3 = k + 1 := ⟨m3 - 1, by omega⟩
  rw [← eR m1 m2 q1 q2]
  show (m_operand_18_b (m_operand_4 m1) (m_operand_18 (m_operand_4 m1) m3) 1 (Int32.ofNat x4) S).bind _ = _
  unfold m_operand_18_b
  have n17 : ¬ (if kw t p = 18 then (-1 : Int32) else Int32.ofNat (kw t p)) = 17 := fun q => hk ((kwv (j := 17) (by decide)).mp q)
  rw [h.good, Option.bind_some, if_neg (show ¬ (1 : Int32) = 0 by decide), if_neg (show ¬ (1 : Int32) = 0 by decide), h.kn h7, Option.bind_some, if_neg n17]
end RE
