/-! plain law: the reference's stack and code -/
set_option maxRecDepth 100000
theorem gD_l {W X : List Nat} {i : Nat} (h : i < W.length) : (W ++ X).getD i 0 = W.getD i 0 := by
  rw [List.getD_eq_getElem?_getD, List.getD_eq_getElem?_getD, List.getElem?_append_left h]
theorem gD_r {W : List Nat} {x : Nat} : (W ++ [x]).getD W.length 0 = x := by
  rw [List.getD_eq_getElem?_getD, List.getElem?_append_right (Nat.le_refl _), Nat.sub_self]; rfl
def Wt (S : MS) (W : List Nat) : Prop := S.1 34 = Int32.ofNat W.length ∧ ∀ i, i < W.length → S.2.2 10 i = Int32.ofNat (W.getD i 0)
def Cd (S : MS) (C : List Nat) : Prop := S.1 33 = Int32.ofNat C.length ∧ ∀ i, i < C.length → S.2.2 9 i = Int32.ofNat (C.getD i 0)
/-- only these fields, these arrays -/
def Kz (P Q : Nat → Prop) (S S' : MS) : Prop := (∀ k, ¬ P k → S'.1 k = S.1 k) ∧ S'.2.1 = S.2.1 ∧ ∀ j, ¬ Q j → S'.2.2 j = S.2.2 j
theorem Kz.rf {P Q : Nat → Prop} {S : MS} : Kz P Q S S := ⟨fun _ _ => rfl, rfl, fun _ _ => rfl⟩
theorem Kz.tr {P Q P1 Q1 P2 Q2 : Nat → Prop} {S S1 S2 : MS} (h : Kz P1 Q1 S S1) (k : Kz P2 Q2 S1 S2) (a1 : ∀ i, P1 i → P i) (a2 : ∀ i, P2 i → P i) (b1 : ∀ i, Q1 i → Q i) (b2 : ∀ i, Q2 i → Q i) : Kz P Q S S2 :=
  ⟨fun i q => (k.1 i fun r => q (a2 i r)).trans (h.1 i fun r => q (a1 i r)), k.2.1.trans h.2.1, fun j q => (k.2.2 j fun r => q (b2 j r)).trans (h.2.2 j fun r => q (b1 j r))⟩
theorem Kz.up {P Q P1 Q1 : Nat → Prop} {S S1 : MS} (h : Kz P1 Q1 S S1) (a1 : ∀ i, P1 i → P i) (b1 : ∀ i, Q1 i → Q i) : Kz P Q S S1 := ⟨fun i q => h.1 i fun r => q (a1 i r), h.2.1, fun j q => h.2.2 j fun r => q (b1 j r)⟩
theorem Wt.ks {S S' : MS} {W : List Nat} (h : Wt S W) {P Q : Nat → Prop} (k : Kz P Q S S') (a : ¬ P 34) (b : ¬ Q 10) : Wt S' W := ⟨(k.1 34 a).trans h.1, by rw [k.2.2 10 b]; exact h.2⟩
theorem Cd.ks {S S' : MS} {W : List Nat} (h : Cd S W) {P Q : Nat → Prop} (k : Kz P Q S S') (a : ¬ P 33) (b : ¬ Q 9) : Cd S' W := ⟨(k.1 33 a).trans h.1, by rw [k.2.2 9 b]; exact h.2⟩
theorem r_puts {S : MS} {C : List Nat} {x : Nat} (h : Cd S C) (hl : C.length < 1400) : ∃ S', m_puts (Int32.ofNat x) S = some S' ∧ Cd S' (C ++ [x]) ∧ Kz (fun k => k = 33) (fun j => j = 9) S S' := by
  unfold m_puts
  rw [h.1, wrA_n (ocl (by omega)) (on0 (by omega)) (show C.length < 1400 from hl), Option.bind_some]
  refine ⟨_, rfl, ⟨?_, fun i hi => ?_⟩, fun k hk => sF_ne hk, rfl, fun j hj => sA_ne hj⟩
  · rw [sF_at]
    show (sA S 9 C.length (Int32.ofNat x)).1 33 + 1 = _
    rw [show (sA S 9 C.length (Int32.ofNat x)).1 33 = S.1 33 from rfl, h.1, ofn1 _ (by omega), List.length_append]
    rfl
  · show (sA S 9 C.length (Int32.ofNat x)).2.2 9 i = _
    rw [sA_at]
    unfold upd
    rw [List.length_append, List.length_singleton] at hi
    by_cases q : i = C.length
    · rw [if_pos q, q, gD_r]
    · rw [if_neg q, h.2 i (by omega), gD_l (by omega)]
theorem r_waits {S : MS} {W : List Nat} {x : Nat} (h : Wt S W) (hl : W.length < 950) : ∃ S', m_waitsFor (Int32.ofNat x) S = some S' ∧ Wt S' (W ++ [x]) ∧ Kz (fun k => k = 34) (fun j => j = 10) S S' := by
  unfold m_waitsFor
  rw [h.1, wrA_n (ocl (by omega)) (on0 (by omega)) (show W.length < 950 from hl), Option.bind_some]
  refine ⟨_, rfl, ⟨?_, fun i hi => ?_⟩, fun k hk => sF_ne hk, rfl, fun j hj => sA_ne hj⟩
  · rw [sF_at]
    show (sA S 10 W.length (Int32.ofNat x)).1 34 + 1 = _
    rw [show (sA S 10 W.length (Int32.ofNat x)).1 34 = S.1 34 from rfl, h.1, ofn1 _ (by omega), List.length_append]
    rfl
  · show (sA S 10 W.length (Int32.ofNat x)).2.2 10 i = _
    rw [sA_at]
    unfold upd
    rw [List.length_append, List.length_singleton] at hi
    by_cases q : i = W.length
    · rw [if_pos q, q, gD_r]
    · rw [if_neg q, h.2 i (by omega), gD_l (by omega)]
def stg (w : Nat) : Nat := if w = 5 then 1 else if w = 4 then 2 else if w = 3 then 3 else if w = 6 then 4 else if w = 7 then 4 else if w = 8 then 5 else if w = 9 then 5 else 6
theorem e_stg : ∀ w, w < 15 → m_strength (Int32.ofNat w) = some (Int32.ofNat (stg w)) := by decide +kernel
theorem e_isOpen : ∀ w, w < 15 → m_isOpen (Int32.ofNat w) = some (if w < 14 then 0 else 1) := by decide +kernel
theorem stg_l : ∀ w, stg w ≤ 6 := by
  intro w
  unfold stg
  repeat' split
  all_goals omega
theorem Wt.pop {S : MS} {W : List Nat} {x : Nat} (h : Wt S (W ++ [x])) (hl : W.length < 950) : S.1 34 = Int32.ofNat (W.length + 1) ∧ S.1 34 - 1 = Int32.ofNat W.length ∧ rdA S 10 (Int32.ofNat W.length) = some (Int32.ofNat x) := by
  have h1 := h.1
  rw [List.length_append, List.length_singleton] at h1
  refine ⟨h1, ?_, ?_⟩
  · rw [h1]
    exact osub (b := 1) (by omega) (by omega)
  · rw [rdA_n (ocl (by omega)) (on0 (by omega)) (show W.length < 950 from hl), h.2 _ (by rw [List.length_append, List.length_singleton]; omega), gD_r]
/-- the top may stay -/
def Low (s : Nat) (W : List Nat) : Prop := W = [] ∨ ∃ W0 w, W = W0 ++ [w] ∧ w < 15 ∧ (w = 14 ∨ stg w < s)
theorem r_drops {s : Nat} (hs : s < 7) {W : List Nat} (hW : Low s W) : ∀ (V : List Nat) (S : MS) (C : List Nat), Wt S (W ++ V.reverse) → Cd S C → C.length + V.length ≤ 1400 → W.length + V.length ≤ 950 → (∀ v ∈ V, v < 14 ∧ s ≤ stg v) → ∀ m, V.length < m → ∃ S', m_drops_0 m (Int32.ofNat s) S = some S' ∧ Wt S' W ∧ Cd S' (C ++ V) ∧ Kz (fun k => k = 33 ∨ k = 34) (fun j => j = 9) S S' := by
  intro V
  induction V with
  | nil =>
    intro S C hw hc h1 h2 hv m hm
    obtain ⟨m, rfl⟩ : ∃ k, m = k + 1 := ⟨m - 1, by omega⟩
    rw [List.reverse_nil, List.append_nil] at hw
    show ∃ S', m_drops_0_b (m_drops_0 m) (Int32.ofNat s) S = some S' ∧ _
    rw [List.append_nil]
    have fin : ∀ y, y = some S → ∃ S', y = some S' ∧ Wt S' W ∧ Cd S' C ∧ Kz (fun k => k = 33 ∨ k = 34) (fun j => j = 9) S S' := fun y hy => ⟨S, hy, hw, hc, Kz.rf⟩
    apply fin
    unfold m_drops_0_b
    rcases hW with rfl | ⟨W0, w, rfl, w15, hw2⟩
    · rw [if_pos (by rw [hw.1]; decide)]
    · have hl : W0.length < 950 := by
        rw [List.length_append, List.length_singleton] at h2; omega
      obtain ⟨a1, a2, a3⟩ := hw.pop hl
      rw [if_neg (by rw [a1]; exact fun q => by have := (ole (m := 0) (by omega) (by omega)).mp q; omega), a2, a3, Option.bind_some, e_isOpen w w15, Option.bind_some]
      by_cases q : w < 14
      · have hs2 := hw2.resolve_left (by omega)
        have := stg_l w
        rw [if_pos q, if_pos rfl, Option.bind_some, e_stg w w15, Option.bind_some, if_pos ((olt (by omega) (by omega)).mpr hs2)]
      · rw [if_neg q, if_neg (by decide)]
  | cons v V ih =>
    intro S C hw hc h1 h2 hv m hm
    rw [List.length_cons] at h1 h2 hm
    obtain ⟨m, rfl⟩ : ∃ k, m = k + 1 := ⟨m - 1, by omega⟩
    rw [List.reverse_cons, ← List.append_assoc] at hw
    obtain ⟨v1, v2⟩ := hv v (List.mem_cons_self ..)
    have hl : (W ++ V.reverse).length = W.length + V.length := by rw [List.length_append, List.length_reverse]
    obtain ⟨a1, a2, a3⟩ := hw.pop (by omega)
    have := stg_l v
    show ∃ S', m_drops_0_b (m_drops_0 m) (Int32.ofNat s) S = some S' ∧ _
    unfold m_drops_0_b
    rw [if_neg (by rw [a1]; exact fun q => by have := (ole (m := 0) (by omega) (by omega)).mp q; omega), a2, a3, Option.bind_some, e_isOpen v (by omega), Option.bind_some, if_pos v1, if_pos rfl, Option.bind_some, e_stg v (by omega), Option.bind_some, if_neg (fun q => by have := (olt (by omega) (by omega)).mp q; omega), sF_at]
    have a4 : rdA (sF S 34 (Int32.ofNat (W ++ V.reverse).length)) 10 (Int32.ofNat (W ++ V.reverse).length) = some (Int32.ofNat v) := a3
    rw [a4, Option.bind_some]
    have hw1 : Wt (sF S 34 (Int32.ofNat (W ++ V.reverse).length)) (W ++ V.reverse) := ⟨sF_at, fun i hi => by
      show S.2.2 10 i = _
      rw [hw.2 i (by rw [List.length_append]; omega), gD_l hi]⟩
    have hc1 : Cd (sF S 34 (Int32.ofNat (W ++ V.reverse).length)) C := ⟨(sF_ne (by decide)).trans hc.1, hc.2⟩
    obtain ⟨S2, e2, c2, k2⟩ := r_puts (x := v) hc1 (by omega)
    rw [e2, Option.bind_some]
    obtain ⟨S3, e3, w3, c3, k3⟩ := ih S2 (C ++ [v]) (hw1.ks k2 (by decide) (by decide)) c2 (by rw [List.length_append, List.length_singleton]; omega) (by omega) (fun x hx => hv x (List.mem_cons_of_mem _ hx)) m (by omega)
    refine ⟨S3, e3, w3, by rw [List.append_assoc] at c3; exact c3, ?_⟩
    have k1 : Kz (fun k => k = 33 ∨ k = 34) (fun j => j = 9) S (sF S 34 (Int32.ofNat (W ++ V.reverse).length)) := ⟨fun k hk => sF_ne (fun q => hk (Or.inr q)), rfl, fun _ _ => rfl⟩
    exact (k1.tr k2 (P := fun k => k = 33 ∨ k = 34) (Q := fun j => j = 9) (fun _ q => q) (fun _ q => Or.inl q) (fun _ q => q) (fun _ q => q)).tr k3 (fun _ q => q) (fun _ q => q) (fun _ q => q) (fun _ q => q)
theorem r_isOpened {S : MS} : ∀ (V W : List Nat), (∀ i, i < (W ++ V.reverse).length → S.2.2 10 i = Int32.ofNat ((W ++ V.reverse).getD i 0)) → W.length + V.length ≤ 950 → (∀ v ∈ V, v < 14) → (W = [] ∨ ∃ W0, W = W0 ++ [14]) → ∀ m, V.length < m → m_isOpened_7 m (Int32.ofNat (W.length + V.length) - 1) S = some (if W = [] then 0 else 1) := by
  have pop : ∀ (L : List Nat) (x : Nat), L.length < 950 → (∀ i, i < (L ++ [x]).length → S.2.2 10 i = Int32.ofNat ((L ++ [x]).getD i 0)) → rdA S 10 (Int32.ofNat L.length) = some (Int32.ofNat x) := fun L x hl h => by
    rw [rdA_n (ocl (by omega)) (on0 (by omega)) (show L.length < 950 from hl), h _ (by rw [List.length_append, List.length_singleton]; omega), gD_r]
  intro V
  induction V with
  | nil =>
    intro W hw h2 hv hW m hm
    obtain ⟨m, rfl⟩ : ∃ k, m = k + 1 := ⟨m - 1, by omega⟩
    rw [List.reverse_nil, List.append_nil] at hw
    show m_isOpened_7_b (m_isOpened_7 m) (Int32.ofNat (W.length + 0) - 1) S = _
    unfold m_isOpened_7_b m_isOpened_29
    rcases hW with rfl | ⟨W0, rfl⟩
    · rw [if_pos (by decide), if_pos (by decide), if_pos rfl]
    · have hl : W0.length < 950 := by
        rw [List.length_append, List.length_singleton] at h2; omega
      rw [List.length_append, List.length_singleton, show Int32.ofNat (W0.length + 1 + 0) - 1 = Int32.ofNat W0.length from osub (b := 1) (by omega) (by omega), if_neg (on0 (by omega)), pop W0 14 hl hw, Option.bind_some, e_isOpen 14 (by decide), Option.bind_some, if_neg (by decide), if_neg (on0 (by omega)), if_neg (fun q => by have := congrArg List.length q; rw [List.length_append, List.length_singleton] at this; exact absurd this (by simp))]
  | cons v V ih =>
    intro W hw h2 hv hW m hm
    rw [List.length_cons] at h2 hm
    rw [List.length_cons]
    obtain ⟨m, rfl⟩ : ∃ k, m = k + 1 := ⟨m - 1, by omega⟩
    rw [List.reverse_cons, ← List.append_assoc] at hw
    have hl : (W ++ V.reverse).length = W.length + V.length := by rw [List.length_append, List.length_reverse]
    have a3 := pop _ _ (by omega) hw
    have v1 := hv v (List.mem_cons_self ..)
    show m_isOpened_7_b (m_isOpened_7 m) (Int32.ofNat (W.length + (V.length + 1)) - 1) S = _
    unfold m_isOpened_7_b
    rw [show Int32.ofNat (W.length + (V.length + 1)) - 1 = Int32.ofNat (W.length + V.length) from osub (b := 1) (by omega) (by omega), if_neg (on0 (by omega)), ← hl, a3, Option.bind_some, e_isOpen v (by omega), Option.bind_some, if_pos v1, if_pos rfl, hl]
    rw [show ∀ x : Int32, x + -1 = x - 1 from fun x => (Int32.sub_eq_add_neg x 1).symm]
    exact ih W (fun i hi => by rw [hw i (by rw [List.length_append]; omega), gD_l hi]) (by omega) (fun x hx => hv x (List.mem_cons_of_mem _ hx)) hW m (by omega)
