/-! plain law: counting, the reference, and both -/
set_option maxRecDepth 100000
section CM
variable {G : xG} {T T1 : xF} {o : Nat} {s s' : St} {A A' : Ad} {S S1 : MS} {g : Gw} {Q : Nat → Nat → Int32} {M N0 N1 : Nat}
theorem rd19 {k : Nat} (hk : k < 9) : rdA S 19 (Int32.ofNat k) = some (S.2.2 19 k) := rdA_n (ocl (by omega)) (on0 (by omega)) hk
theorem wr19 {k : Nat} (hk : k < 9) (v : Int32) : wrA S 19 (Int32.ofNat k) v = some (sA S 19 k v) := wrA_n (ocl (by omega)) (on0 (by omega)) hk
theorem rd20 {k : Nat} (hk : k < 4608) : rdA S 20 (Int32.ofNat k) = some (S.2.2 20 k) := rdA_n (ocl (by omega)) (on0 (by omega)) hk
theorem wr20 {k : Nat} (hk : k < 4608) (v : Int32) : wrA S 20 (Int32.ofNat k) v = some (sA S 20 k v) := wrA_n (ocl (by omega)) (on0 (by omega)) hk
theorem i920 (a c : Nat) : (9 : Int32) * Int32.ofNat a + Int32.ofNat c = Int32.ofNat (9 * a + c) := by rw [show (9 : Int32) * Int32.ofNat a = Int32.ofNat (9 * a) from omul 9 a, oadd]
/-- those who vote are laid out -/
abbrev M19 (S : MS) (n : Nat) (val : Nat → Nat) : Prop := ∀ i, i < n → S.2.2 19 i = Int32.ofNat (val i)
theorem r_ct68 (ok : StOK s) (m : MI S s) (h9 : (vcv s (eN (sE s))).1 ≤ 9) (h2 : 2 ≤ (vcv s (eN (sE s))).1) (hv : M19 S (vcv s (eN (sE s))).1 (vcv s (eN (sE s))).2) : Mn (m_counting_68 FU (Int32.ofNat (vcv s (eN (sE s))).1) (Int32.ofNat (2 ^ (vcv s (eN (sE s))).1 - 1)) (Int32.ofNat (2 ^ (vcv s (eN (sE s))).1 - 1)) S) fun r => r.1 = Int32.ofNat (vfew s 99999) ∧ MI r.2 s ∧ r.2.1 = S.1 := by
  have hn := ok.1.n30
  unfold vfew
  generalize hF : (fun a => V (vd s) (vcv s (eN (sE s))).1 (2 ^ (vcv s (eN (sE s))).1 - 1 - 2 ^ a) a) = F
  have vsm := fun l a => V_sm ok h9 (l := l) (a := a)
  have vss := fun l a b => Vs_sm ok h9 (l := l) (a := a) (b := b)
  have vdo := fun a b => vd_ok ok (a := a) (b := b)
  have vlt := vcv_lt (s := s) (eN (sE s))
  generalize hdd : vd s = d at *
  have vst : ∀ a b, a < (vcv s (eN (sE s))).1 → b < (vcv s (eN (sE s))).1 → stp (eW (sE s)) (Int32.ofNat ((vcv s (eN (sE s))).2 b)) (Int32.ofNat ((vcv s (eN (sE s))).2 a)) = Int32.ofNat (d a b) ∧ d a b < 100 := fun a b ha hb => ⟨by rw [(vdo a b ha hb).2.2]; exact (vdo b a hb ha).1, (vdo a b ha hb).2.1⟩
  clear vdo
  generalize (vcv s (eN (sE s))).2 = val at *
  generalize (vcv s (eN (sE s))).1 = n at *
  have p5 := pw_le h9
  have p2 := Nat.two_pow_pos n
  have n9 : n ≤ 9 := h9
  let Iv : Nat → MS → Prop := fun i S' => MI S' s ∧ S'.1 = S.1 ∧ M19 S' n val ∧ ∀ l k, l < i → k < n → S'.2.2 20 (9 * (2 ^ n - 1 - l) + k) = Int32.ofNat (V d n l k)
  refine loop_rule (σ := MS) (N := 2 ^ n - 1) (fun i S' => Iv i S') (fun f i S' => Mn (m_counting_68 f (Int32.ofNat n) (Int32.ofNat (2 ^ n - 1)) (Int32.ofNat (2 ^ n - 1 - i)) S') _) ?_ ?_ FU (by show 2 ^ n - 1 < 6000; omega) S ⟨m, rfl, hv, fun l k hl => absurd hl (Nat.not_lt_zero l)⟩
  · rintro f i S1 hi ⟨h1, c1, v1, g1⟩ K
    have nle : ¬ Int32.ofNat (2 ^ n - 1 - i) ≤ 0 := fun q => by have := (ole (n := 2 ^ n - 1 - i) (m := 0) (by omega) (by omega)).mp q; omega
    show Mn (m_counting_68_b (m_counting_68 f) (Int32.ofNat n) (Int32.ofNat (2 ^ n - 1)) (Int32.ofNat (2 ^ n - 1 - i)) S1) _
    unfold m_counting_68_b
    rw [if_neg nle]
    refine loop_rule (σ := MS) (N := n) (fun k S' => Iv i S' ∧ ∀ k', k' < k → S'.2.2 20 (9 * (2 ^ n - 1 - i) + k') = Int32.ofNat (V d n i k')) (fun f2 k S' => Mn (m_counting_75 (m_counting_68 f) f2 (Int32.ofNat n) (Int32.ofNat (2 ^ n - 1)) (Int32.ofNat (2 ^ n - 1 - i)) (Int32.ofNat k) S') _) ?_ ?_ FU (by show n < 6000; omega) S1 ⟨⟨h1, c1, v1, g1⟩, fun k hk => absurd hk (Nat.not_lt_zero k)⟩
    · rintro f2 k S2 hk ⟨⟨h2', c2, v2, g2⟩, g2'⟩ K2
      have kv := vlt k hk
      -- the least of all, from where it starts
      have run : ∀ t, t ≤ 100000 → mnb (Vs d n i k) t n = V d n i k → Mn (m_counting_93 (m_counting_68 f) (m_counting_75 (m_counting_68 f) f2) (Int32.ofNat n) (Int32.ofNat (2 ^ n - 1)) (Int32.ofNat (2 ^ n - 1 - i)) (Int32.ofNat k) (Int32.ofNat t) S2) fun r => r.1 = Int32.ofNat (mnb F 99999 n) ∧ MI r.2 s ∧ r.2.1 = S.1 := by
        intro t ht1 ht2
        unfold m_counting_93
        refine loop_rule (σ := Unit) (N := n) (fun _ _ => True) (fun f3 j _ => Mn (m_counting_98 (m_counting_68 f) (m_counting_75 (m_counting_68 f) f2) f3 (Int32.ofNat n) (Int32.ofNat (2 ^ n - 1)) (Int32.ofNat (2 ^ n - 1 - i)) (Int32.ofNat k) (Int32.ofNat (mnb (Vs d n i k) t j)) (Int32.ofNat j) S2) _) ?_ ?_ FU (by show n < 6000; omega) () trivial
        · rintro f3 j - hj - K3
          have jv := vlt j hj
          have fb := (mnb_le (F := Vs d n i k) (t := t) j).1
          have vb := vss i k j (by omega) hk hj
          have co := tb_co (n := n) (l := i) (b := j) (by omega) hj
          show Mn (m_counting_98_b (m_counting_68 f) (m_counting_75 (m_counting_68 f) f2) (m_counting_98 (m_counting_68 f) (m_counting_75 (m_counting_68 f) f2) f3) (Int32.ofNat n) (Int32.ofNat (2 ^ n - 1)) (Int32.ofNat (2 ^ n - 1 - i)) (Int32.ofNat k) (Int32.ofNat (mnb (Vs d n i k) t j)) (Int32.ofNat j) S2) _
          unfold m_counting_98_b m_counting_156
          rw [if_neg (fun q => by have := (ole (n := n) (m := j) (by omega) (by omega)).mp q; omega), tb_sh j (by omega) (2 ^ n - 1 - i) (by omega), ofn1 j (by omega)]
          by_cases ht : tb i j
          · have nt : ¬ tb (2 ^ n - 1 - i) j := fun q => (co.mp q) ht
            have tl := tb_le ht
            have tp := Nat.two_pow_pos j
            have e1 : Vs d n i k j = d k j + V d n (i - 2 ^ j) j := if_pos ht
            obtain ⟨st1, st2⟩ := vst k j hk hj
            have gv := g2 (i - 2 ^ j) j (by omega) hj
            rw [show 2 ^ n - 1 - (i - 2 ^ j) = 2 ^ n - 1 - i + 2 ^ j by omega] at gv
            have vm := vsm (i - 2 ^ j) j (by omega) hj
            rw [if_neg nt, if_pos rfl]
            simp -implicitDefEqProofs only [rd19 (S := S2) (show k < 9 by omega), rd19 (S := S2) (show j < 9 by omega), v2 k hk, v2 j hj, v_far ok h2' (show val k < 30 by omega) (show val j < 30 by omega), st1, tb_or j (by omega) (2 ^ n - 1 - i) (by omega) nt, i920, rd20 (S := S2) (show 9 * (2 ^ n - 1 - i + 2 ^ j) + j < 4608 by omega), gv, e_lesser, oadd, Option.bind_some, not_true_eq_false, if_false, if_true]
            rw [← e1, omin (by omega) (by omega)]
            exact K3 () trivial
          · have nt : tb (2 ^ n - 1 - i) j := co.mpr ht
            have e1 : Vs d n i k j = 100000 := if_neg ht
            rw [if_pos nt, if_neg (show ¬ (1 : Int32) = 0 by decide)]
            have k3 := K3 () trivial
            rw [show mnb (Vs d n i k) t (j + 1) = mnb (Vs d n i k) t j by
              show min _ (Vs d n i k j) = _
              rw [e1]; omega] at k3
            exact k3
        · rintro f3 - -
          show Mn (m_counting_98_b (m_counting_68 f) (m_counting_75 (m_counting_68 f) f2) (m_counting_98 (m_counting_68 f) (m_counting_75 (m_counting_68 f) f2) f3) (Int32.ofNat n) (Int32.ofNat (2 ^ n - 1)) (Int32.ofNat (2 ^ n - 1 - i)) (Int32.ofNat k) (Int32.ofNat (mnb (Vs d n i k) t n)) (Int32.ofNat n) S2) _
          unfold m_counting_98_b
          rw [if_pos (Int32.le_refl _), i920, wr20 (by omega), Option.bind_some, ofn1 k (by omega), ht2]
          refine K2 _ ⟨⟨h2'.fr (sA_fr.up fun _ _ q => q.1) (fun j i (q : j = 20) => by unfold mfree; omega), c2, fun j hj => by rw [sA_ne (by decide)]; exact v2 j hj, fun l k' hl hk' => ?_⟩, fun k' hk' => ?_⟩
          · rw [sA_at]; unfold upd; rw [if_neg (by omega)]; exact g2 l k' hl hk'
          · rw [sA_at]; unfold upd
            by_cases q : k' = k
            · rw [q, if_pos rfl]
            · rw [if_neg (by omega)]; exact g2' k' (by omega)
      show Mn (m_counting_75_b (m_counting_68 f) (m_counting_75 (m_counting_68 f) f2) (Int32.ofNat n) (Int32.ofNat (2 ^ n - 1)) (Int32.ofNat (2 ^ n - 1 - i)) (Int32.ofNat k) S2) _
      unfold m_counting_75_b
      rw [if_neg (fun q => by have := (ole (n := n) (m := k) (by omega) (by omega)).mp q; omega)]
      by_cases hi0 : i = 0
      · subst hi0
        rw [if_pos (show Int32.ofNat (2 ^ n - 1 - 0) = Int32.ofNat (2 ^ n - 1) from rfl)]
        refine run 0 (by omega) ?_
        have := (mnb_le (F := Vs d n 0 k) (t := 0) n).1
        show _ = 0
        omega
      · rw [if_neg (fun q => hi0 (by have := (oeq (n := 2 ^ n - 1 - i) (m := 2 ^ n - 1) (by omega) (by omega)).mp q; omega))]
        refine run 99999 (by omega) ?_
        rw [V_s (by omega)]
        obtain ⟨b, hb, hbt⟩ := tb_ex (n := n) (l := i) (by omega) (by omega)
        refine mnb_top (b := b) (by omega) hb ?_
        have l1 := tb_le hbt
        have l2 := Nat.two_pow_pos b
        have v1 := vsm (i - 2 ^ b) b (by omega) hb
        have v3 := (vst k b hk hb).2
        rw [show Vs d n i k b = _ from if_pos hbt]
        omega
    · rintro f2 S2 ⟨⟨h2', c2, v2, g2⟩, g2'⟩
      show Mn (m_counting_75_b (m_counting_68 f) (m_counting_75 (m_counting_68 f) f2) (Int32.ofNat n) (Int32.ofNat (2 ^ n - 1)) (Int32.ofNat (2 ^ n - 1 - i)) (Int32.ofNat n) S2) _
      unfold m_counting_75_b
      rw [if_pos (Int32.le_refl _), show 2 ^ n - 1 - i = 2 ^ n - 1 - (i + 1) + 1 by omega, oneg1 (by omega)]
      refine K S2 ⟨h2', c2, v2, fun l k hl hk => ?_⟩
      by_cases q : l = i
      · subst q; exact g2' k hk
      · exact g2 l k (by omega) hk
  · rintro f S1 ⟨h1, c1, v1, g1⟩
    show Mn (m_counting_68_b (m_counting_68 f) (Int32.ofNat n) (Int32.ofNat (2 ^ n - 1)) (Int32.ofNat (2 ^ n - 1 - (2 ^ n - 1))) S1) _
    unfold m_counting_68_b
    rw [Nat.sub_self, if_pos (show Int32.ofNat 0 ≤ 0 by decide)]
    refine loop_rule (σ := Unit) (N := n) (fun _ _ => True) (fun f3 a _ => Mn (m_counting_195 f3 (Int32.ofNat n) (Int32.ofNat (mnb F 99999 a)) (Int32.ofNat a) S1) _) ?_ ?_ FU (by show n < 6000; omega) () trivial
    · rintro f3 a - ha - K
      have tba : tb (2 ^ n - 1) a := (tb_co (n := n) (l := 0) p2 ha).mpr (by unfold tb; simp)
      have l1 := tb_le tba
      have l2 := Nat.two_pow_pos a
      have fa : F a = V d n (2 ^ n - 1 - 2 ^ a) a := by rw [← hF]
      have f1 := vsm (2 ^ n - 1 - 2 ^ a) a (by omega) ha
      have f2 := (mnb_le (F := F) (t := 99999) a).1
      have gv := g1 (2 ^ n - 1 - 2 ^ a) a (by omega) ha
      rw [show 2 ^ n - 1 - (2 ^ n - 1 - 2 ^ a) = 2 ^ a by omega] at gv
      show Mn (m_counting_195_b (m_counting_195 f3) (Int32.ofNat n) (Int32.ofNat (mnb F 99999 a)) (Int32.ofNat a) S1) _
      unfold m_counting_195_b
      rw [if_neg (fun q => by have := (ole (n := n) (m := a) (by omega) (by omega)).mp q; omega), (pw_n a (by omega)).1, i920, rd20 (by omega), Option.bind_some, gv, e_lesser, Option.bind_some, omin (by omega) (by omega), ofn1 a (by omega), ← fa]
      exact K () trivial
    · rintro f3 - -
      show Mn (m_counting_195_b (m_counting_195 f3) (Int32.ofNat n) (Int32.ofNat (mnb F 99999 n)) (Int32.ofNat n) S1) _
      unfold m_counting_195_b
      rw [if_pos (Int32.le_refl _)]
      exact Mn.ret ⟨rfl, h1, c1⟩
theorem r_counting (ok : StOK s) (m : MI S s) : Mn (m_counting S) fun r => r.1 = (if 9 < (vcv s (eN (sE s))).1 then -1 else if 2 ≤ (vcv s (eN (sE s))).1 then Int32.ofNat (vfew s 99999) else 0) ∧ MI r.2 s ∧ r.2.1 = (sF S 0 0).1 := by
  have hn := ok.1.n30
  unfold m_counting
  refine loop_rule (σ := MS) (N := eN (sE s)) (fun x S' => MI S' s ∧ S'.1 = (sF S 0 0).1 ∧ (vcv s x).1 ≤ 9 ∧ M19 S' (vcv s x).1 (vcv s x).2) (fun f x S' => Mn (m_counting_9 f (Int32.ofNat (vcv s x).1) (Int32.ofNat x) S') _) ?_ ?_ FU (by show eN (sE s) < 6000; omega) (sF S 0 0) ⟨m.th 0, rfl, Nat.zero_le _, fun i hi => absurd hi (Nat.not_lt_zero i)⟩
  · rintro f x S1 hx ⟨h1, c1, v9, v1⟩ K
    have x3 : x < 30 := by omega
    show Mn (m_counting_9_b (m_counting_9 f) (Int32.ofNat (vcv s x).1) (Int32.ofNat x) S1) _
    unfold m_counting_9_b m_counting_47
    rw [v_cells ok h1, Option.bind_some, if_neg (fun q => by have := (ole (n := eN (sE s)) (m := x) (by omega) (by omega)).mp q; omega), v_isVoter h1 x3, Option.bind_some, ofn1 x (by omega)]
    by_cases hv : vtr (sE s) (sG s) x = true
    · have e : vcv s (x + 1) = ((vcv s x).1 + 1, va_up (vcv s x).2 (vcv s x).1 x) := if_pos hv
      rw [hv, if_neg (show ¬ b01 true = 0 by decide)]
      by_cases h10 : (vcv s x).1 = 9
      · rw [if_pos (show Int32.ofNat (vcv s x).1 = 9 by rw [h10]; rfl)]
        have mo := vcv_mono (s := s) (x := x + 1) (eN (sE s)) (by omega)
        rw [e] at mo
        have mo : (vcv s x).1 + 1 ≤ _ := mo
        exact Mn.ret ⟨by rw [if_pos (by omega)], h1, c1⟩
      · rw [if_neg (show ¬ Int32.ofNat (vcv s x).1 = 9 from fun q => h10 ((oeq (n := (vcv s x).1) (m := 9) (by omega) (by omega)).mp q)), wr19 (by omega), Option.bind_some, ofn1 _ (by omega)]
        have k := K (sA S1 19 (vcv s x).1 (Int32.ofNat x)) ⟨h1.fr (sA_fr.up fun _ _ q => q.1) (fun j i (q : j = 19) => by unfold mfree; omega), c1, ?_, ?_⟩
        · rw [e] at k; exact k
        · rw [e]; show (vcv s x).1 + 1 ≤ 9; omega
        · rw [e]
          intro i hi
          have hi : i < (vcv s x).1 + 1 := hi
          show (sA S1 19 (vcv s x).1 (Int32.ofNat x)).2.2 19 i = Int32.ofNat (va_up (vcv s x).2 (vcv s x).1 x i)
          rw [sA_at]; unfold upd
          by_cases q : i = (vcv s x).1
          · rw [q, if_pos rfl, vup_at]
          · rw [if_neg q, vup_no q]; exact v1 i (by omega)
    · have e : vcv s (x + 1) = vcv s x := if_neg hv
      rw [show vtr (sE s) (sG s) x = false by simpa using hv, if_pos (show b01 false = 0 by decide)]
      have k := K S1 (by rw [e]; exact ⟨h1, c1, v9, v1⟩)
      rw [e] at k; exact k
  · rintro f S1 ⟨h1, c1, v9, v1⟩
    show Mn (m_counting_9_b (m_counting_9 f) (Int32.ofNat (vcv s (eN (sE s))).1) (Int32.ofNat (eN (sE s))) S1) _
    unfold m_counting_9_b
    rw [v_cells ok h1, Option.bind_some, if_pos (Int32.le_refl _)]
    by_cases h2 : 2 ≤ (vcv s (eN (sE s))).1
    · have p5 := pw_le v9
      have p2 := Nat.two_pow_pos (vcv s (eN (sE s))).1
      rw [if_pos (show (2 : Int32) ≤ Int32.ofNat (vcv s (eN (sE s))).1 from (ole (n := 2) (by omega) (by omega)).mpr h2), (pw_n _ (by omega)).1, show Int32.ofNat (2 ^ (vcv s (eN (sE s))).1) - 1 = _ from osub (b := 1) (by omega) (by omega)]
      refine (r_ct68 ok h1 v9 h2 v1).mono fun r ⟨q1, q2, q3⟩ => ⟨?_, q2, q3.trans c1⟩
      rw [if_neg (by omega), if_pos h2]; exact q1
    · rw [if_neg (show ¬ (2 : Int32) ≤ Int32.ofNat (vcv s (eN (sE s))).1 from fun q => h2 ((ole (n := 2) (by omega) (by omega)).mp q))]
      exact Mn.ret ⟨by rw [if_neg (by omega), if_neg h2], h1, c1⟩
theorem k_counting (ok : StOK s) (h : CIa G T o s A) (m : MI S s) : Jn T (c_X1_counting G (some o) T) (m_counting S) fun r T' q => (r = q.1 ∧ q.2.1 0 = 0) ∧ Nx G o T s T' q.2 := by
  have hn := ok.1.n30
  have z : (sF S 0 0).1 0 = 0 := sF_0
  unfold c_X1_counting
  rw [if_neg (not_not_intro h.iso)]
  refine Jn.cl (e_voters ok h) fun v T1 _ ⟨k1, k2, k3, k4, k5⟩ => ?_
  subst k1
  have cle := vcv_le (s := s) (eN (sE s))
  have N0 : T.2.1 < T1.2.1 := by obtain ⟨_, _, _, _, _, _, r, _⟩ := k3; exact r
  rw [if_neg (not_not_intro k3.is), k3.size, Option.bind_some]
  by_cases h9 : (vcv s (eN (sE s))).1 ≤ 9
  · have p5 := pw_le h9
    have p2 := Nat.two_pow_pos (vcv s (eN (sE s))).1
    have nn : ¬ ((1 : Int32) <<< (Int32.ofNat (vcv s (eN (sE s))).1 &&& 31) < 0 ∨ 100000000 ≤ ((1 : Int32) <<< (Int32.ofNat (vcv s (eN (sE s))).1 &&& 31)).toNatClampNeg) := by
      rw [(pw_n _ (by omega)).1, ocl (by omega)]
      exact fun q => q.elim (on0 (by omega)) (by omega)
    have nn2 : ¬ (Int32.ofNat (vcv s (eN (sE s))).1 < 0 ∨ 100000000 ≤ (Int32.ofNat (vcv s (eN (sE s))).1).toNatClampNeg) := by
      rw [ocl (by omega)]
      exact fun q => q.elim (on0 (by omega)) (by omega)
    rw [if_pos (show Int32.ofNat (vcv s (eN (sE s))).1 ≤ 9 from (ole (n := (vcv s (eN (sE s))).1) (m := 9) (by omega) (by omega)).mpr h9), if_neg nn, if_neg nn2, (pw_n _ (by omega)).1, ocl (by omega), ocl (by omega)]
    have l18 : xle T1 (nII T1 (2 ^ (vcv s (eN (sE s))).1) (vcv s (eN (sE s))).1) := ⟨by show T1.2.1 ≤ T1.2.1 + 1 + _; omega, by show T1.2.2 ≤ T1.2.2 + _ + _; omega⟩
    have sz : 2 ^ (vcv s (eN (sE s))).1 * (vcv s (eN (sE s))).1 ≤ 512 * 9 := Nat.mul_le_mul p5 h9
    refine Jn.al l18 ?_
    have h18 : CIa G (nII T1 (2 ^ (vcv s (eN (sE s))).1) (vcv s (eN (sE s))).1) o s (rtg A T.2.1) := k2.junk (E := fun _ => False) ⟨l18.1, fun x q1 _ => nII_no q1⟩ fun _ _ q => q.elim
    have i18 : IL (rtg A T.2.1) (nII T1 (2 ^ (vcv s (eN (sE s))).1) (vcv s (eN (sE s))).1) T.2.1 T.2.1 _ _ := k3.keep l18.1 fun x q1 _ => nII_no q1
    unfold c_X1_counting_40
    have done : ∀ T' : xF, T'.2 = (nII T1 (2 ^ (vcv s (eN (sE s))).1) (vcv s (eN (sE s))).1).2 → CIa G T' o s (rtg A T.2.1) → ∀ (v : Int32) (q : Int32 × MS), v = q.1 → MI q.2 s → q.2.1 = (sF S 0 0).1 → (v = q.1 ∧ q.2.1 0 = 0) ∧ Nx G o T s T' q.2 := fun T' e hc v q w1 w2 w3 => by
      refine ⟨⟨w1, by rw [w3]; exact z⟩, Nx.new ok hc w2 ?_ ?_ rfl⟩
      · rw [e]; show T1.2.1 + 1 + _ ≤ _; omega
      · rw [e]; show T1.2.2 + _ + _ ≤ _; omega
    by_cases h2 : 2 ≤ (vcv s (eN (sE s))).1
    · rw [if_pos (show (2 : Int32) ≤ Int32.ofNat (vcv s (eN (sE s))).1 from (ole (n := 2) (by omega) (by omega)).mpr h2)]
      refine Jn.of (P := fun v T' => v = Int32.ofNat (vfew s 100000) ∧ CIa G T' o s (rtg A T.2.1) ∧ T'.2 = (nII T1 (2 ^ (vcv s (eN (sE s))).1) (vcv s (eN (sE s))).1).2) (e_ct45 ok h18 i18 N0 h9 MxAt.new 100000 fun T' Q w1 w2 w3 w4 => ?_) (r_counting ok m) fun v T' r ⟨q1, q2, q3⟩ ⟨j1, j2, j3⟩ => ?_
      · have e := e_ct177 (G := G) ok h9 h2 w3 w4
        have e : c_X1_counting_177 G FU (Int32.ofNat (vcv s (eN (sE s))).1) (some T1.2.1) 100000 0 T' = _ := e
        rw [e]
        exact Rn.ret ⟨rfl, w1, w2⟩
      · refine done T' q3 q2 v r ?_ j2 j3
        rw [q1, j1, if_neg (by omega), if_pos h2]
        refine congrArg Int32.ofNat (mnb_top (b := 0) (by omega) (by omega) ?_).symm
        have tba : tb (2 ^ (vcv s (eN (sE s))).1 - 1) 0 := (tb_co (n := (vcv s (eN (sE s))).1) (l := 0) p2 (by omega)).mpr (by unfold tb; simp)
        have l1 := tb_le tba
        have l2 := Nat.two_pow_pos 0
        have := V_sm ok h9 (l := 2 ^ (vcv s (eN (sE s))).1 - 1 - 2 ^ 0) (a := 0) (by omega) (by omega)
        omega
    · rw [if_neg (show ¬ (2 : Int32) ≤ Int32.ofNat (vcv s (eN (sE s))).1 from fun q => h2 ((ole (n := 2) (by omega) (by omega)).mp q))]
      refine Jn.of (P := fun v T' => v = 0 ∧ CIa G T' o s (rtg A T.2.1) ∧ T'.2 = (nII T1 (2 ^ (vcv s (eN (sE s))).1) (vcv s (eN (sE s))).1).2) (e_ct45 ok h18 i18 N0 h9 MxAt.new 0 fun T' Q w1 w2 w3 w4 => ?_) (r_counting ok m) fun v T' r ⟨q1, q2, q3⟩ ⟨j1, j2, j3⟩ => ?_
      · have e : c_X1_counting_177 G FU (Int32.ofNat (vcv s (eN (sE s))).1) (some T1.2.1) 0 0 T' = some (0, T') := by
          show c_X1_counting_177_b G (c_X1_counting_177 G 5999) (Int32.ofNat (vcv s (eN (sE s))).1) (some T1.2.1) 0 0 T' = _
          unfold c_X1_counting_177_b
          by_cases q : Int32.ofNat (vcv s (eN (sE s))).1 ≤ 0
          · rw [if_pos q]
          · rw [if_neg q, if_pos (show Int32.ofNat (vcv s (eN (sE s))).1 ≤ 1 from (ole (n := (vcv s (eN (sE s))).1) (m := 1) (by omega) (by omega)).mpr (by omega))]
        rw [e]
        exact Rn.ret ⟨rfl, w1, w2⟩
      · refine done T' q3 q2 v r ?_ j2 j3
        rw [q1, j1, if_neg (by omega), if_neg h2]
  · rw [if_neg (show ¬ Int32.ofNat (vcv s (eN (sE s))).1 ≤ 9 from fun q => h9 ((ole (n := (vcv s (eN (sE s))).1) (m := 9) (by omega) (by omega)).mp q))]
    refine Jn.of (Rn.ret (Q := fun v T' => v = (-1 : Int32) ∧ T' = T1) ⟨rfl, rfl⟩) (r_counting ok m) fun v T' r ⟨q1, q2⟩ ⟨j1, j2, j3⟩ => ?_
    subst q2
    refine ⟨⟨by rw [q1, j1, if_pos (by omega)], by rw [j3]; exact z⟩, Nx.new ok k2 j2 (by omega) (by omega) rfl⟩
end CM
