/-! plain law: what stands around a growth in the reference -/
set_option maxRecDepth 100000
/-- what the reference keeps outside of some cells of its arrays -/
def mfr (E : Nat → Nat → Prop) (S S' : MS) : Prop := S'.1 = S.1 ∧ S'.2.1 = S.2.1 ∧ ∀ j i, ¬ E j i → S'.2.2 j i = S.2.2 j i
theorem mfr.rf {E : Nat → Nat → Prop} {S : MS} : mfr E S S := ⟨rfl, rfl, fun _ _ _ => rfl⟩
theorem mfr.tr {E : Nat → Nat → Prop} {S S1 S2 : MS} (h : mfr E S S1) (k : mfr E S1 S2) : mfr E S S2 := ⟨k.1.trans h.1, k.2.1.trans h.2.1, fun j i q => (k.2.2 j i q).trans (h.2.2 j i q)⟩
theorem mfr.up {E F : Nat → Nat → Prop} {S S1 : MS} (h : mfr E S S1) (k : ∀ j i, E j i → F j i) : mfr F S S1 := ⟨h.1, h.2.1, fun j i q => h.2.2 j i fun r => q (k j i r)⟩
def bmap (k : Nat) : Nat := match k with
  | 0 => 0
  | 1 => 7
  | 2 => 4
  | 3 => 5
  | _ => 1
/-- the environment, as the reference has it now -/
def MvN (S : MS) (e : En) : Prop := S.1 1 = eW e ∧ S.1 2 = eH e ∧ S.1 5 = eA e ∧ S.1 6 = eS e ∧ S.1 3 = Int32.ofNat (eP e) ∧ (∀ d, d < 2000 → m_weatherOf (Int32.ofNat d) S = some (eWm e d)) ∧ (∀ k, k < eP e → S.2.2 1 k = ePy e k) ∧ (match eRg e with
    | none => S.1 7 = -1
    | some r => S.1 7 ≠ -1 ∧ ∃ S', m_reckons (S.1 7) S = some (r (S.2.2 15), S') ∧ mfr (fun j _ => j = 16) S S') ∧ match eRb e with
    | none => S.1 8 = -1
    | some r => S.1 8 ≠ -1 ∧ ∃ S', m_reckons (S.1 8) S = some (r (fun k => S.2.2 15 (bmap k)), S') ∧ mfr (fun j _ => j = 16) S S'
def Mv (E : Nat → Nat → Prop) (S : MS) (e : En) : Prop := ∀ S', mfr E S S' → MvN S' e
theorem Mv.mono {E : Nat → Nat → Prop} {S S' : MS} {e : En} (h : Mv E S e) (k : mfr E S S') : Mv E S' e := fun T2 q => h T2 (k.tr q)
theorem Mv.sub {E F : Nat → Nat → Prop} {S : MS} {e : En} (h : Mv E S e) (k : ∀ j i, F j i → E j i) : Mv F S e := fun T2 q => h T2 (q.up k)
section MV
variable {E : Nat → Nat → Prop} {S : MS} {e : En}
theorem Mv.now (h : Mv E S e) : MvN S e := h S mfr.rf
theorem Mv.w (h : Mv E S e) : S.1 1 = eW e := h.now.1
theorem Mv.h (h : Mv E S e) : S.1 2 = eH e := h.now.2.1
theorem Mv.a (h : Mv E S e) : S.1 5 = eA e := h.now.2.2.1
theorem Mv.s (h : Mv E S e) : S.1 6 = eS e := h.now.2.2.2.1
theorem Mv.p (h : Mv E S e) : S.1 3 = Int32.ofNat (eP e) := h.now.2.2.2.2.1
theorem Mv.wm (h : Mv E S e) : ∀ d, d < 2000 → m_weatherOf (Int32.ofNat d) S = some (eWm e d) := h.now.2.2.2.2.2.1
theorem Mv.py (h : Mv E S e) : ∀ k, k < eP e → S.2.2 1 k = ePy e k := h.now.2.2.2.2.2.2.1
theorem Mv.rg (h : Mv E S e) : match eRg e with
    | none => S.1 7 = -1
    | some r => S.1 7 ≠ -1 ∧ ∃ S', m_reckons (S.1 7) S = some (r (S.2.2 15), S') ∧ mfr (fun j _ => j = 16) S S' := h.now.2.2.2.2.2.2.2.1
theorem Mv.rb (h : Mv E S e) : match eRb e with
    | none => S.1 8 = -1
    | some r => S.1 8 ≠ -1 ∧ ∃ S', m_reckons (S.1 8) S = some (r (fun k => S.2.2 15 (bmap k)), S') ∧ mfr (fun j _ => j = 16) S S' := h.now.2.2.2.2.2.2.2.2
theorem Mv.cells (h : Mv E S e) (ok : EnOK e) : m_cells S = some (Int32.ofNat (eN e)) := by
  unfold m_cells
  rw [h.w, h.h, ok.mul]
theorem Mv.fa (h : Mv E S e) (ok : EnOK e) (a b : Int32) : m_far a b S = some (far (eW e) a b) := m_far_eq h.w ok.w0 a b
end MV
theorem sA_at {S : MS} {j i : Nat} {x : Int32} : (sA S j i x).2.2 j = upd (S.2.2 j) i x := by
  unfold sA
  dsimp only
  rw [if_pos rfl]
theorem sA_ne {S : MS} {j i k : Nat} {x : Int32} (h : k ≠ j) : (sA S j i x).2.2 k = S.2.2 k := by
  unfold sA
  dsimp only
  rw [if_neg h]
theorem sA_fr {S : MS} {j i : Nat} {x : Int32} : mfr (fun a b => a = j ∧ b = i) S (sA S j i x) := ⟨rfl, rfl, fun a b q => by
  by_cases h : a = j
  · subst h
    rw [sA_at]
    unfold upd
    rw [if_neg fun r => q ⟨rfl, r⟩]
  · rw [sA_ne h]⟩
theorem rdA_n {S : MS} {j : Nat} {i : Int32} {k : Nat} (h1 : i.toNatClampNeg = k) (h0 : ¬ i < 0) (hk : k < mL j) : rdA S j i = some (S.2.2 j k) := by
  unfold rdA
  rw [h1, if_neg (fun q => q.elim h0 (fun q => by omega))]
theorem wrA_n {S : MS} {j : Nat} {i x : Int32} {k : Nat} (h1 : i.toNatClampNeg = k) (h0 : ¬ i < 0) (hk : k < mL j) : wrA S j i x = some (sA S j k x) := by
  unfold wrA
  rw [h1, if_neg (fun q => q.elim h0 (fun q => by omega))]
/-- an array, by a place that is told as a number -/
theorem rdA_o {S : MS} {j k : Nat} (h : k < 100) (hk : k < mL j) : rdA S j (Int32.ofNat k) = some (S.2.2 j k) := rdA_n (ofn k h).1 (ofn k h).2.1 hk
theorem wrA_o {S : MS} {j k : Nat} {x : Int32} (h : k < 100) (hk : k < mL j) : wrA S j (Int32.ofNat k) x = some (sA S j k x) := wrA_n (ofn k h).1 (ofn k h).2.1 hk
theorem rwy : ∀ b ∈ ([0, 121] : List Nat), (Int32.ofNat b + 0).toNatClampNeg = b ∧ ¬ (Int32.ofNat b + 0) < 0 := by decide +kernel
/-- the cells of one row -/
def rk (b : Nat) : Nat → Nat → Prop := fun j i => j = 13 ∧ b ≤ i ∧ i < b + 121
section RW
variable {S : MS} {b i : Nat} {g : Gw}
theorem b121 (hb : b ∈ ([0, 121] : List Nat)) : b ≤ 121 := by
  simp -implicitDefEqProofs only [List.mem_cons, List.not_mem_nil, or_false] at hb
  omega
theorem RwAt.fr {E : Nat → Nat → Prop} {S' : MS} (h : RwAt S b g) (k : mfr E S S') (hn : ∀ i, b ≤ i → i < b + 121 → ¬ E 13 i) : RwAt S' b g := by
  refine ⟨by rw [k.2.2 13 b (hn b (by omega) (by omega))]; exact h.1, fun c hc => ?_⟩
  obtain ⟨h1, h2, h3, h4⟩ := h.2 c hc
  exact ⟨by rw [k.2.2 13 _ (hn _ (by omega) (by omega))]; exact h1, by rw [k.2.2 13 _ (hn _ (by omega) (by omega))]; exact h2, by rw [k.2.2 13 _ (hn _ (by omega) (by omega))]; exact h3, by rw [k.2.2 13 _ (hn _ (by omega) (by omega))]; exact h4⟩
theorem RwAt.of {d f k z d' f' k' z' : Nat → Int32} {y y' : Int32} (h : RwAt S b (d, f, k, z, y)) (hd : d = d') (hf : f = f') (hk : k = k') (hz : z = z') (hy : y = y') : RwAt S b (d', f', k', z', y') := by
  subst hd; subst hf; subst hk; subst hz; subst hy
  exact h
theorem RwAt.cg {g' : Gw} (h : RwAt S b g) (hd : ∀ c, c < 30 → gD g c = gD g' c) (hf : ∀ c, c < 30 → gF g c = gF g' c) (hk : ∀ c, c < 30 → gK g c = gK g' c) (hz : ∀ c, c < 30 → gZ g c = gZ g' c) (hy : gY g = gY g') : RwAt S b g' := by
  refine ⟨by rw [← hy]; exact h.1, fun c hc => ?_⟩
  rw [← hd c hc, ← hf c hc, ← hk c hc, ← hz c hc]
  exact h.2 c hc
theorem RwAt.ldY (h : RwAt S b g) (hb : b ∈ ([0, 121] : List Nat)) : rdA S 13 (Int32.ofNat b + 0) = some (gY g) := by
  have := b121 hb
  rw [rdA_n (rwy b hb).1 (rwy b hb).2 (by show b < 242; omega), h.1]
theorem RwAt.ldD (h : RwAt S b g) (hb : b ∈ ([0, 121] : List Nat)) (hi : i < 30) : rdA S 13 ((Int32.ofNat b + (1 : Int32)) + Int32.ofNat i) = some (gD g i) := by
  have := rd_row (S := S) hb (off := 1) (by decide) hi
  rw [(h.2 i hi).1] at this
  exact this
theorem RwAt.ldF (h : RwAt S b g) (hb : b ∈ ([0, 121] : List Nat)) (hi : i < 30) : rdA S 13 ((Int32.ofNat b + (31 : Int32)) + Int32.ofNat i) = some (gF g i) := by
  have := rd_row (S := S) hb (off := 31) (by decide) hi
  rw [(h.2 i hi).2.1] at this
  exact this
theorem RwAt.ldK (h : RwAt S b g) (hb : b ∈ ([0, 121] : List Nat)) (hi : i < 30) : rdA S 13 ((Int32.ofNat b + (61 : Int32)) + Int32.ofNat i) = some (gK g i) := by
  have := rd_row (S := S) hb (off := 61) (by decide) hi
  rw [(h.2 i hi).2.2.1] at this
  exact this
theorem RwAt.ldZ (h : RwAt S b g) (hb : b ∈ ([0, 121] : List Nat)) (hi : i < 30) : rdA S 13 ((Int32.ofNat b + (91 : Int32)) + Int32.ofNat i) = some (gZ g i) := by
  have := rd_row (S := S) hb (off := 91) (by decide) hi
  rw [(h.2 i hi).2.2.2] at this
  exact this
theorem wr_row {v : Int32} {off : Nat} (hb : b ∈ ([0, 121] : List Nat)) (ho : off ∈ ([1, 31, 61, 91] : List Nat)) (hi : i < 30) : wrA S 13 ((Int32.ofNat b + Int32.ofNat off) + Int32.ofNat i) v = some (sA S 13 (b + off + i) v) := by
  obtain ⟨h1, h2⟩ := rwi b hb off ho i hi
  have hb2 := b121 hb
  have ho2 : off ≤ 91 := by
    simp -implicitDefEqProofs only [List.mem_cons, List.not_mem_nil, or_false] at ho
    omega
  exact wrA_n h1 h2 (by show b + off + i < 242; omega)
theorem RwAt.stD (h : RwAt S b g) (hb : b ∈ ([0, 121] : List Nat)) (hi : i < 30) (v : Int32) : ∃ S', wrA S 13 ((Int32.ofNat b + (1 : Int32)) + Int32.ofNat i) v = some S' ∧ mfr (rk b) S S' ∧ RwAt S' b (upd (gD g) i v, gF g, gK g, gZ g, gY g) := by
  refine ⟨_, wr_row hb (off := 1) (by decide) hi, sA_fr.up fun j k q => ⟨q.1, by omega, by omega⟩, ?_, fun c hc => ?_⟩
  · rw [sA_at]; unfold upd; rw [if_neg (by omega)]; exact h.1
  · obtain ⟨h1, h2, h3, h4⟩ := h.2 c hc
    rw [sA_at]
    unfold upd
    refine ⟨?_, by rw [if_neg (by omega)]; exact h2, by rw [if_neg (by omega)]; exact h3, by rw [if_neg (by omega)]; exact h4⟩
    show (if _ then _ else _) = (if _ then _ else _)
    by_cases q : c = i
    · rw [if_pos (by omega), if_pos q]
    · rw [if_neg (by omega), if_neg q]; exact h1
theorem RwAt.stF (h : RwAt S b g) (hb : b ∈ ([0, 121] : List Nat)) (hi : i < 30) (v : Int32) : ∃ S', wrA S 13 ((Int32.ofNat b + (31 : Int32)) + Int32.ofNat i) v = some S' ∧ mfr (rk b) S S' ∧ RwAt S' b (gD g, upd (gF g) i v, gK g, gZ g, gY g) := by
  refine ⟨_, wr_row hb (off := 31) (by decide) hi, sA_fr.up fun j k q => ⟨q.1, by omega, by omega⟩, ?_, fun c hc => ?_⟩
  · rw [sA_at]; unfold upd; rw [if_neg (by omega)]; exact h.1
  · obtain ⟨h1, h2, h3, h4⟩ := h.2 c hc
    rw [sA_at]
    unfold upd
    refine ⟨by rw [if_neg (by omega)]; exact h1, ?_, by rw [if_neg (by omega)]; exact h3, by rw [if_neg (by omega)]; exact h4⟩
    show (if _ then _ else _) = (if _ then _ else _)
    by_cases q : c = i
    · rw [if_pos (by omega), if_pos q]
    · rw [if_neg (by omega), if_neg q]; exact h2
theorem RwAt.stK (h : RwAt S b g) (hb : b ∈ ([0, 121] : List Nat)) (hi : i < 30) (v : Int32) : ∃ S', wrA S 13 ((Int32.ofNat b + (61 : Int32)) + Int32.ofNat i) v = some S' ∧ mfr (rk b) S S' ∧ RwAt S' b (gD g, gF g, upd (gK g) i v, gZ g, gY g) := by
  refine ⟨_, wr_row hb (off := 61) (by decide) hi, sA_fr.up fun j k q => ⟨q.1, by omega, by omega⟩, ?_, fun c hc => ?_⟩
  · rw [sA_at]; unfold upd; rw [if_neg (by omega)]; exact h.1
  · obtain ⟨h1, h2, h3, h4⟩ := h.2 c hc
    rw [sA_at]
    unfold upd
    refine ⟨by rw [if_neg (by omega)]; exact h1, by rw [if_neg (by omega)]; exact h2, ?_, by rw [if_neg (by omega)]; exact h4⟩
    show (if _ then _ else _) = (if _ then _ else _)
    by_cases q : c = i
    · rw [if_pos (by omega), if_pos q]
    · rw [if_neg (by omega), if_neg q]; exact h3
theorem RwAt.stZ (h : RwAt S b g) (hb : b ∈ ([0, 121] : List Nat)) (hi : i < 30) (v : Int32) : ∃ S', wrA S 13 ((Int32.ofNat b + (91 : Int32)) + Int32.ofNat i) v = some S' ∧ mfr (rk b) S S' ∧ RwAt S' b (gD g, gF g, gK g, upd (gZ g) i v, gY g) := by
  refine ⟨_, wr_row hb (off := 91) (by decide) hi, sA_fr.up fun j k q => ⟨q.1, by omega, by omega⟩, ?_, fun c hc => ?_⟩
  · rw [sA_at]; unfold upd; rw [if_neg (by omega)]; exact h.1
  · obtain ⟨h1, h2, h3, h4⟩ := h.2 c hc
    rw [sA_at]
    unfold upd
    refine ⟨by rw [if_neg (by omega)]; exact h1, by rw [if_neg (by omega)]; exact h2, by rw [if_neg (by omega)]; exact h3, ?_⟩
    show (if _ then _ else _) = (if _ then _ else _)
    by_cases q : c = i
    · rw [if_pos (by omega), if_pos q]
    · rw [if_neg (by omega), if_neg q]; exact h4
theorem RwAt.stY (h : RwAt S b g) (hb : b ∈ ([0, 121] : List Nat)) (v : Int32) : ∃ S', wrA S 13 (Int32.ofNat b + 0) v = some S' ∧ mfr (rk b) S S' ∧ RwAt S' b (gD g, gF g, gK g, gZ g, v) := by
  have hb2 := b121 hb
  refine ⟨_, wrA_n (rwy b hb).1 (rwy b hb).2 (by show b < 242; omega), sA_fr.up fun j k q => ⟨q.1, by omega, by omega⟩, ?_, fun c hc => ?_⟩
  · rw [sA_at]; unfold upd; rw [if_pos rfl]; rfl
  · obtain ⟨h1, h2, h3, h4⟩ := h.2 c hc
    rw [sA_at]
    unfold upd
    exact ⟨by rw [if_neg (by omega)]; exact h1, by rw [if_neg (by omega)]; exact h2, by rw [if_neg (by omega)]; exact h3, by rw [if_neg (by omega)]; exact h4⟩
end RW
