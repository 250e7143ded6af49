/-! plain law: commands that only try -/
set_option maxRecDepth 100000
theorem i10 : ((1 : Int32) = 0) = False := by simp
theorem i01 : ((0 : Int32) = 0) = True := by simp
theorem GI.kz {e : En} {g : Gw} {n : Nat} (h : GI e g n) {d f k z : Nat → Int32} (hk : ∀ c, c < 30 → kOK e (k c)) (hz : ∀ c, c < 30 → k c = -1 → z c = 0) (hf : ∀ c, c < 30 → 0 ≤ f c ∧ f c ≤ 99) : GI e (d, f, k, z, gY g) n := ⟨⟨h.1.1, hk⟩, hz, hf⟩
theorem GI.feed {e : En} {g : Gw} {n c m : Nat} (h : GI e g n) (hc : c < 30) (hm : m ≤ 99) : GI e (gfeed g c (Int32.ofNat m)) n := h.kz h.1.2 h.2.1 fun i hi => by
  unfold upd
  split
  · rename_i q
    subst q
    refine fed (h.2.2 _ hi).1 (h.2.2 _ hi).2 (i32_le.mp (on0 (by omega))) ?_
    exact (ole (n := m) (m := 99) (by omega) (by omega)).mpr hm
  · exact h.2.2 i hi
theorem GI.clr {e : En} {g : Gw} {n c : Nat} (h : GI e g n) : GI e (gclr g c) n := h.kz (fun i hi => by
  unfold upd
  split
  · exact Or.inl rfl
  · exact h.1.2 i hi) (fun i hi => by
  unfold upd
  split
  · exact fun _ => rfl
  · exact h.2.1 i hi) h.2.2
theorem GI.frost {e : En} {g : Gw} {n : Nat} (ok : EnOK e) (h : GI e g n) : GI e (gfrost e g) n := h.kz (fun i hi => mixf_P (P := fun _ x => kOK e x) (fun _ => by
  unfold zK
  split
  · exact Or.inl rfl
  · exact h.1.2 i hi) (h.1.2 i hi)) (fun i hi => by
  unfold mixf
  split
  · unfold zK
    split
    · rename_i q; exact fun _ => q
    · intro q
      have := h.2.1 i hi q
      show gZ g i / 2 = 0
      rw [this]
      decide
  · exact h.2.1 i hi) h.2.2
theorem GI.damp {e : En} {g : Gw} {n c : Nat} {v : Int32} (h : GI e g n) : GI e (upd (gD g) c v, gF g, gK g, gZ g, gY g) n := h.kz h.1.2 h.2.1 h.2.2
theorem GI.sow {e : En} {g : Gw} {n c k : Nat} (h : GI e g n) (hk : k < eP e) (hk4 : k < 4) : GI e (gD g, gF g, upd (gK g) c (Int32.ofNat k), upd (gZ g) c 1, gY g) n := h.kz (fun i hi => by
  unfold upd
  split
  · exact Or.inr ⟨k, hk, rfl⟩
  · exact h.1.2 i hi) (fun i hi => by
  unfold upd
  split
  · intro q
    exact absurd q (by have : ∀ k, k < 4 → ¬ Int32.ofNat k = -1 := by decide
                       exact this k hk4)
  · exact h.2.1 i hi) h.2.2
section CM
variable {G : xG} {T T1 : xF} {o : Nat} {s : St} {A : Ad} {S S1 : MS}
theorem Jfin {c1 c2 : String} {v : Int32} (ok : StOK s) (h1 : CIa G T1 o s A) (m1 : MI S1 s) (z1 : S1.1 0 = 0) (b : T1.2 = T.2) : Jn T1 (some ((.inl v : Int32 ⊕ xE), T1)) (some (v, S1)) fun r T' q => AG c1 c2 r q.1 q.2 ∧ Nx G o T s T' q.2 := Jn.ret ⟨⟨z1, rfl⟩, Nx.same ok h1 m1 (by rw [b]; omega) (by rw [b]; omega)⟩
theorem GIa {k : Nat} (ok : StOK s) (hk : k ≤ 60) : GI (sE s) (gafter (sE s) k (sG s)) 900 := GI.after ok.1 k (ok.2.1.le (by omega))
theorem k_then (ok : StOK s) (h : CIa G T o s A) (m : MI S s) (a b c : Int32) : Jn T (c_X1_then G (some o) a b c T) (m_then a b c S) fun r T' q => AG NS IA r q.1 q.2 ∧ Nx G o T s T' q.2 := by
  have m0 := m.th 0
  have z : (sF S 0 0).1 0 = 0 := sF_0
  have hn := ok.1.n30
  unfold c_X1_then m_then
  simp -implicitDefEqProofs only [h.iso, Option.bind_some, not_true_eq_false, if_false, if_true]
  rcases (cell_rng ok a).symm with hv | ⟨x, hx, rfl⟩
  · exact Jn.thX (e_cell_f h ok hv) thr_le (r := (0, sF (sF S 0 0) 0 1)) (by simp -implicitDefEqProofs only [r_cell_f m0 ok z hv, Option.bind_some, not_true_eq_false, if_false, if_true]) ⟨Or.inl ⟨rfl, sF_0⟩, Nx.same ok h.tw (m0.th 1) (by show T.2.1 + 1 ≤ _; omega) (by show T.2.2 + 6 ≤ _; omega)⟩
  refine Jn.okX (e_cell_t h ok hx) ?_
  simp -implicitDefEqProofs only [r_cell_t m0 ok z hx, Option.bind_some, not_true_eq_false, if_false, if_true, i10]
  rcases (rng 0 2 (by decide) (by decide) c).symm with hv | ⟨w, -, hw, rfl⟩
  · exact Jn.thX (e_oneOf_f (b := 2) (iin_f hv)) thr_le (r := (0, sF (sF S 0 0) 0 1)) (by simp -implicitDefEqProofs only [r_what_f (b := 2) z (iin_f hv), Option.bind_some, not_true_eq_false, if_false, if_true]) ⟨Or.inl ⟨rfl, sF_0⟩, Nx.same ok h.tw (m0.th 1) (by show T.2.1 + 1 ≤ _; omega) (by show T.2.2 + 6 ≤ _; omega)⟩
  have ew : iin (Int32.ofNat w) 0 2 = true := iin_t (a := 0) (Nat.zero_le _) hw (by decide)
  refine Jn.okX (e_oneOf_t ew) ?_
  simp -implicitDefEqProofs only [r_what_t z ew, Option.bind_some, not_true_eq_false, if_false, if_true, i10]
  rcases (rng 0 40 (by decide) (by decide) b).symm with hv | ⟨d, hda, hd, rfl⟩
  · have e1 : iin b 0 40 = false := iin_f hv
    simp -implicitDefEqProofs only [e_in, e1, Option.bind_some, not_true_eq_false, if_false, if_true]
    exact Jn.thX e_right_f thr_le (r := (0, sF (sF S 0 0) 0 2)) (by simp -implicitDefEqProofs only [r_days_f (w := 2) z (by decide) e1, Option.bind_some, not_true_eq_false, if_false, if_true]) ⟨Or.inr ⟨rfl, sF_0⟩, Nx.same ok h.tw (m0.th 2) (by show T.2.1 + 1 ≤ _; omega) (by show T.2.2 + 6 ≤ _; omega)⟩
  have ed : iin (Int32.ofNat d) 0 40 = true := iin_t hda hd (by decide)
  simp -implicitDefEqProofs only [e_in, ed, Option.bind_some, not_true_eq_false, if_false, if_true]
  refine Jn.okX e_right_t ?_
  simp -implicitDefEqProofs only [r_days_t (w := 2) z ed, Option.bind_some, not_true_eq_false, if_false, if_true, i10]
  simp -implicitDefEqProofs only [h.iso, Option.bind_some, not_true_eq_false, if_false, if_true]
  refine Jn.cl (t_later ok h (show d < 100 by omega)) fun v T1 _ ⟨k1, k2, k3⟩ => ?_
  subst k1
  refine Jn.mb (u_goes ok m0 (show d < 100 by omega)) fun S1 ⟨j1, j2⟩ => ?_
  have x3 : x < 30 := by omega
  have fin : ∀ v : Int32, Jn T1 (some ((.inl v : Int32 ⊕ xE), T1)) (some (v, S1)) fun r T' q => AG NS IA r q.1 q.2 ∧ Nx G o T s T' q.2 := fun v => Jn.ret ⟨⟨by rw [j2]; exact z, rfl⟩, Nx.same ok k2.1 j1.1 (by rw [k3]; omega) (by rw [k3]; omega)⟩
  unfold m_then_66
  rcases (by omega : w = 0 ∨ w = 1 ∨ w = 2) with rfl | rfl | rfl
  · rw [if_pos (show Int32.ofNat 0 = (0 : Int32) from rfl), if_pos (show Int32.ofNat 0 = (0 : Int32) from rfl)]
    simp -implicitDefEqProofs only [k2.2.o2, k2.2.ldK x3, Option.bind_some, not_true_eq_false, if_false, if_true, show (121 : Int32) + 61 = 182 by decide, j1.2.lK1 x3]
    exact fin _
  · rw [if_neg (show ¬ Int32.ofNat 1 = (0 : Int32) by decide), if_pos (show Int32.ofNat 1 = (1 : Int32) from rfl), if_neg (show ¬ Int32.ofNat 1 = (0 : Int32) by decide), if_pos (show Int32.ofNat 1 = (1 : Int32) from rfl)]
    simp -implicitDefEqProofs only [k2.2.o3, k2.2.ldZ x3, Option.bind_some, not_true_eq_false, if_false, if_true, show (121 : Int32) + 91 = 212 by decide, j1.2.lZ1 x3]
    exact fin _
  · rw [if_neg (show ¬ Int32.ofNat 2 = (0 : Int32) by decide), if_neg (show ¬ Int32.ofNat 2 = (1 : Int32) by decide), if_neg (show ¬ Int32.ofNat 2 = (0 : Int32) by decide), if_neg (show ¬ Int32.ofNat 2 = (1 : Int32) by decide)]
    simp -implicitDefEqProofs only [k2.2.o1, k2.2.ldF x3, Option.bind_some, not_true_eq_false, if_false, if_true, show (121 : Int32) + 31 = 152 by decide, j1.2.lF1 x3]
    exact fin _
theorem k_voting (ok : StOK s) (h : CIa G T o s A) (m : MI S s) (a b : Int32) : Jn T (c_X1_voting G (some o) a b T) (m_voting a b S) fun r T' q => AG NS IA r q.1 q.2 ∧ Nx G o T s T' q.2 := by
  have m0 := m.th 0
  have z : (sF S 0 0).1 0 = 0 := sF_0
  unfold c_X1_voting m_voting
  rcases (rng 0 3 (by decide) (by decide) a).symm with hv | ⟨p, -, hp, rfl⟩
  · exact Jn.thX (e_party_f (iin_f hv)) thr_le (r := (0, sF (sF S 0 0) 0 1)) (by simp -implicitDefEqProofs only [r_party_f z (iin_f hv), Option.bind_some, not_true_eq_false, if_false, if_true]) ⟨Or.inl ⟨rfl, sF_0⟩, Nx.same ok h.tw (m0.th 1) (by show T.2.1 + 1 ≤ _; omega) (by show T.2.2 + 6 ≤ _; omega)⟩
  have ep : iin (Int32.ofNat p) 0 3 = true := iin_t (a := 0) (Nat.zero_le _) hp (by decide)
  refine Jn.okX (e_party_t ep) ?_
  simp -implicitDefEqProofs only [r_party_t z ep, Option.bind_some, not_true_eq_false, if_false, if_true, i10]
  rcases (rng 0 40 (by decide) (by decide) b).symm with hv | ⟨d, hda, hd, rfl⟩
  · have e1 : iin b 0 40 = false := iin_f hv
    simp -implicitDefEqProofs only [e_in, e1, Option.bind_some, not_true_eq_false, if_false, if_true]
    exact Jn.thX e_right_f thr_le (r := (0, sF (sF S 0 0) 0 2)) (by simp -implicitDefEqProofs only [r_days_f (w := 2) z (by decide) e1, Option.bind_some, not_true_eq_false, if_false, if_true]) ⟨Or.inr ⟨rfl, sF_0⟩, Nx.same ok h.tw (m0.th 2) (by show T.2.1 + 1 ≤ _; omega) (by show T.2.2 + 6 ≤ _; omega)⟩
  have ed : iin (Int32.ofNat d) 0 40 = true := iin_t hda hd (by decide)
  simp -implicitDefEqProofs only [e_in, ed, Option.bind_some, not_true_eq_false, if_false, if_true]
  refine Jn.okX e_right_t ?_
  simp -implicitDefEqProofs only [r_days_t (w := 2) z ed, Option.bind_some, not_true_eq_false, if_false, if_true, i10]
  simp -implicitDefEqProofs only [h.iso, Option.bind_some, not_true_eq_false, if_false, if_true]
  refine Jn.cl (t_later ok h (show d < 100 by omega)) fun v T1 _ ⟨k1, k2, k3⟩ => ?_
  subst k1
  refine Jn.mb (u_goes ok m0 (show d < 100 by omega)) fun S1 ⟨j1, j2⟩ => ?_
  have gi := GIa (s := s) (k := d) ok (by omega)
  simp -implicitDefEqProofs only [k2.2.is, t_votes ok k2 gi, u_votes ok j1 gi, Option.bind_some, not_true_eq_false, if_false, if_true]
  exact Jfin ok k2.1 j1.1 (by rw [j2]; exact z) k3
theorem k_winner (ok : StOK s) (h : CIa G T o s A) (m : MI S s) (b : Int32) : Jn T (c_X1_winner G (some o) b T) (m_winner b S) fun r T' q => AG IA "" r q.1 q.2 ∧ Nx G o T s T' q.2 := by
  have m0 := m.th 0
  have z : (sF S 0 0).1 0 = 0 := sF_0
  unfold c_X1_winner m_winner
  rcases (rng 0 40 (by decide) (by decide) b).symm with hv | ⟨d, hda, hd, rfl⟩
  · have e1 : iin b 0 40 = false := iin_f hv
    simp -implicitDefEqProofs only [e_in, e1, Option.bind_some, not_true_eq_false, if_false, if_true]
    exact Jn.thX e_right_f thr_le (r := (0, sF (sF S 0 0) 0 1)) (by simp -implicitDefEqProofs only [r_days_f (w := 1) z (by decide) e1, Option.bind_some, not_true_eq_false, if_false, if_true]) ⟨Or.inl ⟨rfl, sF_0⟩, Nx.same ok h.tw (m0.th 1) (by show T.2.1 + 1 ≤ _; omega) (by show T.2.2 + 6 ≤ _; omega)⟩
  have ed : iin (Int32.ofNat d) 0 40 = true := iin_t hda hd (by decide)
  simp -implicitDefEqProofs only [e_in, ed, Option.bind_some, not_true_eq_false, if_false, if_true]
  refine Jn.okX e_right_t ?_
  simp -implicitDefEqProofs only [r_days_t (w := 1) z ed, Option.bind_some, not_true_eq_false, if_false, if_true, i10]
  simp -implicitDefEqProofs only [h.iso, Option.bind_some, not_true_eq_false, if_false, if_true]
  refine Jn.cl (t_later ok h (show d < 100 by omega)) fun v T1 _ ⟨k1, k2, k3⟩ => ?_
  subst k1
  refine Jn.mb (u_goes ok m0 (show d < 100 by omega)) fun S1 ⟨j1, j2⟩ => ?_
  have gi := GIa (s := s) (k := d) ok (by omega)
  simp -implicitDefEqProofs only [k2.2.is, t_winner ok k2 gi, u_winner ok j1 gi, Option.bind_some, not_true_eq_false, if_false, if_true]
  exact Jfin ok k2.1 j1.1 (by rw [j2]; exact z) k3
end CM
