/-! plain law: the system reads sizes, ages, spores, warmths, kinds -/
set_option maxRecDepth 100000
abbrev sTl (Y : Yx) (l : Nat × (Nat → Nat)) : Yx := (yD Y, yC Y, yW Y, yH Y, yA Y, yS Y, l, Y.2.2.2.2.2.2.2)
section RO
variable {T : xF} {rl l0 l1 w h a s : Nat} {fg fb : Option Nat}
theorem RO.is (k : RO T rl l0 l1 w h a s fg fb) : isO T (some rl) 1 = true := by unfold RO at k; rw [isO.eq_1]; unfold oF; simp [k]
theorem RO.q0 (k : RO T rl l0 l1 w h a s fg fb) : oQ T (some rl) 1 0 = some (some l0) := by unfold RO at k; unfold oQ oF; simp [k, vQ, va_rf]
theorem RO.q1 (k : RO T rl l0 l1 w h a s fg fb) : oQ T (some rl) 1 1 = some (some l1) := by unfold RO at k; unfold oQ oF; simp [k, vQ, va_rf]
theorem RO.i2 (k : RO T rl l0 l1 w h a s fg fb) : oI T (some rl) 1 2 = some (Int32.ofNat w) := by unfold RO at k; unfold oI oF; simp [k, vI]
theorem RO.i3 (k : RO T rl l0 l1 w h a s fg fb) : oI T (some rl) 1 3 = some (Int32.ofNat h) := by unfold RO at k; unfold oI oF; simp [k, vI]
theorem RO.st (k : RO T rl l0 l1 w h a s fg fb) {i : Nat} {v : Value} {w' h' a' s' : Nat} {fg' fb' : Option Nat} (e : ([va_rf (some l0), va_rf (some l1), .int (Int32.ofNat w), .int (Int32.ofNat h), .int (Int32.ofNat a), .int (Int32.ofNat s), va_rf fg, va_rf fb] : List Value).set i v = [va_rf (some l0), va_rf (some l1), .int (Int32.ofNat w'), .int (Int32.ofNat h'), .int (Int32.ofNat a'), .int (Int32.ofNat s'), va_rf fg', va_rf fb']) : ∃ T', pV T (some rl) 1 i v = some T' ∧ frm (fun x => x = rl) T T' ∧ RO T' rl l0 l1 w' h' a' s' fg' fb' := by
  obtain ⟨T', e1, c1, f1, o1⟩ := pv_any (ci := 1) (k := i) (v := v) k
  rw [e] at o1
  exact ⟨T', e1, ⟨c1, f1⟩, o1⟩
end RO
section YL
variable {G : xG} {t : Tpe} {fx : Fx} {tp rd l0 l1 : Nat} {Tb : xF} (hb : Cx G Tb t fx tp) (hst : StA G Tb) {own : Nat → Nat} (hB : Fz own Tb (Bx G)) (hown : ∀ x, own x = 11 → x < Tb.2.1) {T T' : xF} {ow ow' : Nat → Nat} {Y Y' : Yx} {p q : Nat}
theorem e_then (hb : Cx G Tb t fx tp) (hst : StA G Tb) {x : Option ((Unit ⊕ xE) × xF)} {r : PL (Yx × Nat)} (hp : p ≤ t.2) (h : Rn T x (LSt own G t fx tp rd Tb l0 l1 T p r)) : Rn T (clX x T fun _ T16 => c_X5_line_119 G (some rd) T16) (LSt own G t fx tp rd Tb l0 l1 T p (sbd r fun z => if sgi t z.2 59 then .inr (z.1, tE t z.2) else .inl (1, tB t z.2))) := by
  refine Rn.clX h (fun v T2 _ z => ?_) (fun ex T2 _ z => ?_)
  · obtain ⟨Y2, q, ow2, h1, h2, h3, h4, h5⟩ := z
    subst h1
    exact (e_119 hb hst h2 h4).mono fun v T' _ z => z.pre rfl h3 h4 h5
  · obtain ⟨k, b, h1, h2, h3, h4⟩ := z
    subst h1
    exact ⟨k, b, rfl, h2, h3, h4⟩
/-- a number that becomes a field of the roll -/
theorem e_fld (hb : Cx G Tb t fx tp) (hst : StA G Tb) (h : YA own G t fx tp rd Tb l0 l1 ow T Y p) (hp : p ≤ t.2) {lo hi : Nat} (hlo : lo < 20000) (hhi : hi < 20000) {i : Nat} {u : Nat → Yx} (hu : ∀ v fg fb, ([va_rf (some l0), va_rf (some l1), .int (Int32.ofNat (yW Y)), .int (Int32.ofNat (yH Y)), .int (Int32.ofNat (yA Y)), .int (Int32.ofNat (yS Y)), va_rf fg, va_rf fb] : List Value).set i (.int (Int32.ofNat v)) = [va_rf (some l0), va_rf (some l1), .int (Int32.ofNat (yW (u v))), .int (Int32.ofNat (yH (u v))), .int (Int32.ofNat (yA (u v))), .int (Int32.ofNat (yS (u v))), va_rf fg, va_rf fb]) (hu2 : ∀ v, (yD (u v) = yD Y ∧ yC (u v) = yC Y ∧ yT (u v) = yT Y ∧ yP (u v) = yP Y ∧ yR (u v) = yR Y) ∧ yG (u v) = yG Y ∧ yB (u v) = yB Y) {K : xF → Option ((Unit ⊕ xE) × xF)} {k : Nat → Nat → PL (Yx × Nat)} (hk : ∀ v r T2, pNum t p lo hi = .inr (v, r) → YA own G t fx tp rd Tb l0 l1 ow T2 (u v) r → r ≤ t.2 → p < r → T2.2 = T.2 → Rn T2 (K T2) (LSt own G t fx tp rd Tb l0 l1 T2 r (k v r))) : Rn T (clX (c_X5_number G (some rd) (Int32.ofNat lo) (Int32.ofNat hi) T) T fun v133 T133 => (pV T133 (some fx.1) 1 i (.int v133)).bind K) (LSt own G t fx tp rd Tb l0 l1 T p (sbd (pNum t p lo hi) fun v => k v.1 v.2)) := by
  refine Rn.clX (h.num hb hst hp hlo hhi) (fun v T2 _ z => ?_) (fun ex T2 _ z => ?_)
  · obtain ⟨v', r, z1, z2, z3, z4, z5, z6, z7, z8⟩ := z
    subst z2
    obtain ⟨fg, fb, r1, r2, r3⟩ := z3.ro
    obtain ⟨T3, e3, f3, o3⟩ := r1.st (i := i) (v := .int (Int32.ofNat v')) (w' := yW (u v')) (h' := yH (u v')) (a' := yA (u v')) (s' := yS (u v')) (fg' := fg) (fb' := fb) (hu v' fg fb)
    obtain ⟨w1, w2, w3⟩ := hu2 v'
    refine Rn.st e3 f3.le ?_
    have h3 := z3.ro_ (Y' := u v') f3 o3 (by rw [w2]; exact r2) (by rw [w3]; exact r3) w1
    have e2 : T3.2 = T.2 := f3.1.trans z6
    rw [z1, sbd_r]
    exact (hk v' r T3 z1 h3 z4 z5 e2).mono fun v T' _ z => z.pre rfl (by omega) z4 ⟨by rw [e2]; omega, by rw [e2]; omega⟩
  · obtain ⟨k', b, z1, z2, z3, z4, z5⟩ := z
    rw [z1, sbd_l]
    exact LSt.er rfl z2 z3 ⟨by omega, by omega⟩
theorem o_cel (hb : Cx G Tb t fx tp) (hst : StA G Tb) (h : YA own G t fx tp rd Tb l0 l1 ow T (sD Y 0) p) (hp : p ≤ t.2) : Rn T (onB G (some rd) (Int32.ofNat 0) T) (LSt own G t fx tp rd Tb l0 l1 T p (sbd (pNum t p 1 6) fun w => sbd (pNum t w.2 1 5) fun h => .inr (sCel Y w.1 h.1, h.2))) := by
  unfold onB
  rw [if_pos (by decide), (h.qs hb hst).1, Option.bind_some, if_neg (not_not_intro (h.isr hb hst hp))]
  refine e_fld hb hst h hp (lo := 1) (hi := 6) (by decide) (by decide) (u := fun v => (yD (sD Y 0), yC Y, v, yH Y, Y.2.2.2.2)) (fun v fg fb => rfl) (fun v => ⟨⟨rfl, rfl, rfl, rfl, rfl⟩, rfl, rfl⟩) (k := fun w r => sbd (pNum t r 1 5) fun h => .inr (sCel Y w h.1, h.2)) fun v r T2 _ y2 hr _ _ => ?_
  rw [(y2.qs hb hst).1, Option.bind_some, if_neg (not_not_intro (y2.isr hb hst hr))]
  exact e_fld hb hst y2 hr (lo := 1) (hi := 5) (by decide) (by decide) (u := fun u => sCel Y v u) (fun v fg fb => rfl) (fun v => ⟨⟨rfl, rfl, rfl, rfl, rfl⟩, rfl, rfl⟩) (k := fun u r2 => .inr (sCel Y v u, r2)) fun u r2 T3 _ y3 hr3 _ _ => Rn.ret (LSt.ok rfl y3 (Nat.le_refl _) hr3 ⟨by omega, by omega⟩)
theorem o_age (hb : Cx G Tb t fx tp) (hst : StA G Tb) (h : YA own G t fx tp rd Tb l0 l1 ow T (sD Y 2) p) (hp : p ≤ t.2) : Rn T (onB G (some rd) (Int32.ofNat 2) T) (LSt own G t fx tp rd Tb l0 l1 T p (sbd (pNum t p 1 99) fun v => .inr (sAge Y v.1, v.2))) := by
  unfold onB
  rw [if_neg (by decide), if_neg (by decide), if_pos (by decide), (h.qs hb hst).1, Option.bind_some, if_neg (not_not_intro (h.isr hb hst hp))]
  exact e_fld hb hst h hp (lo := 1) (hi := 99) (by decide) (by decide) (u := fun v => sAge Y v) (fun v fg fb => rfl) (fun v => ⟨⟨rfl, rfl, rfl, rfl, rfl⟩, rfl, rfl⟩) (k := fun v r => .inr (sAge Y v, r)) fun v r T2 _ y2 hr _ _ => Rn.ret (LSt.ok rfl y2 (Nat.le_refl _) hr ⟨by omega, by omega⟩)
theorem o_spo (hb : Cx G Tb t fx tp) (hst : StA G Tb) (h : YA own G t fx tp rd Tb l0 l1 ow T (sD Y 3) p) (hp : p ≤ t.2) : Rn T (onB G (some rd) (Int32.ofNat 3) T) (LSt own G t fx tp rd Tb l0 l1 T p (sbd (pNum t p 1 99) fun v => .inr (sSpo Y v.1, v.2))) := by
  unfold onB
  rw [if_neg (by decide), if_neg (by decide), if_neg (by decide), if_pos (by decide), (h.qs hb hst).1, Option.bind_some, if_neg (not_not_intro (h.isr hb hst hp))]
  exact e_fld hb hst h hp (lo := 1) (hi := 99) (by decide) (by decide) (u := fun v => sSpo Y v) (fun v fg fb => rfl) (fun v => ⟨⟨rfl, rfl, rfl, rfl, rfl⟩, rfl, rfl⟩) (k := fun v r => .inr (sSpo Y v, r)) fun v r T2 _ y2 hr _ _ => Rn.ret (LSt.ok rfl y2 (Nat.le_refl _) hr ⟨by omega, by omega⟩)
/-- a number is boxed and put behind the others -/
theorem e_boxadd (hb : Cx G Tb t fx tp) (hst : StA G Tb) (hB : Fz own Tb (Bx G)) (hown : ∀ x, own x = 11 → x < Tb.2.1) (h : YA own G t fx tp rd Tb l0 l1 ow T Y p) {x : Nat} (hx : x < 2000) {tl ta l : Nat} (c : (tl = 23 ∧ ta = 24 ∧ l = l0 ∧ yT Y' = yT Y ∧ (yP Y).1 < 20 ∧ yP Y' = ysn (yP Y) x) ∨ (tl = 25 ∧ ta = 26 ∧ l = l1 ∧ yP Y' = yP Y ∧ (yT Y).1 < 20 ∧ yT Y' = ysn (yT Y) x)) (e : yD Y' = yD Y ∧ yC Y' = yC Y ∧ yR Y' = yR Y ∧ yW Y' = yW Y ∧ yH Y' = yH Y ∧ yA Y' = yA Y ∧ yS Y' = yS Y ∧ yG Y' = yG Y ∧ yB Y' = yB Y) {K : xF → Option ((Unit ⊕ xE) × xF)} {Q : Unit ⊕ xE → xF → Prop} (hk : ∀ T2 ow2, YA own G t fx tp rd Tb l0 l1 ow2 T2 Y' p → T2.2.1 ≤ T.2.1 + 2 → T2.2.2 ≤ T.2.2 + 61 → Rn T2 (K T2) Q) : Rn T (cl (c_J14_valueOf G (Int32.ofNat x) T) T fun v T67 => if ¬ isO T67 (some l) 10 = true then none else cl (c_J2_add G (some l) v T67) T67 fun _ T70 => K T70) Q := by
  have hBT : Fz own T (Bx G) := hB.mv h.1.1 fun y y1 y2 => ⟨h.1.2 y y1 fun z => z, y2⟩
  refine Rn.cl (e_box hBT hx) fun v T1 hle ⟨b, e1, b1, b2, b3, b4, b5, b6, b7⟩ => ?_
  subst e1
  have y1 : YA own G t fx tp rd Tb l0 l1 (fun y => if y < T.2.1 then ow y else 27) T1 Y p := h.st ⟨b5, fun y y1 _ => b3 y y1⟩ fun y hy => if_pos hy
  have bl := h.1.1
  have b8 : (if b < T.2.1 then ow b else 27) = 27 ∧ Tb.2.1 ≤ b ∨ b < Tb.2.1 ∧ own b = 11 := by
    rcases b4 with ⟨z, _⟩ | z
    · exact Or.inr ⟨hown b z, z⟩
    · left
      rw [if_neg (by omega)]
      exact ⟨rfl, by omega⟩
  have bl1 := y1.1.1
  rcases c with ⟨rfl, rfl, rfl, c1, c2, c3⟩ | ⟨rfl, rfl, rfl, c1, c2, c3⟩
  · have hL := y1.2.2.2.2.2.2.2.1
    have hi : isO T1 (some l) 10 = true := by
      obtain ⟨a, f, w, cap, g1, -⟩ := hL
      exact g1.is
    rw [if_neg (not_not_intro hi)]
    refine Rn.cl (hL.add c2 bl1 b1 b2 b8 (by decide) (by decide) (by decide)) fun _ T2 _ ⟨ow2, k1, k2, k3, k4, k5⟩ => ?_
    exact hk T2 ow2 (y1.ls_ k3 k2 (Or.inl ⟨rfl, rfl, c1, by rw [c3]; exact k1⟩) e) (by omega) (by omega)
  · have hL := y1.2.2.2.2.2.2.2.2
    have hi : isO T1 (some l) 10 = true := by
      obtain ⟨a, f, w, cap, g1, -⟩ := hL
      exact g1.is
    rw [if_neg (not_not_intro hi)]
    refine Rn.cl (hL.add c2 bl1 b1 b2 b8 (by decide) (by decide) (by decide)) fun _ T2 _ ⟨ow2, k1, k2, k3, k4, k5⟩ => ?_
    exact hk T2 ow2 (y1.ls_ k3 k2 (Or.inr ⟨rfl, rfl, c1, by rw [c3]; exact k1⟩) e) (by omega) (by omega)
theorem e_wms (hb : Cx G Tb t fx tp) (hst : StA G Tb) (hB : Fz own Tb (Bx G)) (hown : ∀ x, own x = 11 → x < Tb.2.1) : ∀ d (Y : Yx) p T ow m, t.2 < p + d → d < m → YA own G t fx tp rd Tb l0 l1 ow T Y p → p ≤ t.2 → (yT Y).1 ≤ 8 → Rn T (c_X5_warmths_18 G m (some rd) T) (LSt own G t fx tp rd Tb l0 l1 T p (sbd (pWm t d (yT Y) p) fun l => .inr (sTl Y l.1, l.2))) := by
  intro d
  induction d with
  | zero =>
    intro Y p T ow m hn hm h hp
    omega
  | succ d ih =>
    intro Y p T ow m hn hm h hp hl
    obtain ⟨m, rfl⟩ : ∃ k, m = k + 1 := ⟨m - 1, by omega⟩
    obtain ⟨nm, iz, ce, y, hce, hnm⟩ := h.ys hb hst hp
    show Rn T (c_X5_warmths_18_b G (c_X5_warmths_18 G m) (some rd) T) _
    unfold c_X5_warmths_18_b pWm
    rw [y.i8, Option.bind_some]
    by_cases s2 : tS t p = 2
    · obtain ⟨fg, fb, r1, r2, r3⟩ := h.ro
      have hL := h.2.2.2.2.2.2.2.2
      have hsz : isO T (some l1) 10 = true ∧ c_J2_size T (some l1) = some (Int32.ofNat (yT Y).1) := by
        obtain ⟨a, f, w, cap, g1, -⟩ := hL
        exact ⟨g1.is, g1.size⟩
      rw [if_pos (show Int32.ofNat (tS t p) = 2 by rw [s2]; rfl), if_pos s2, (h.qs hb hst).1, Option.bind_some, r1.q1, Option.bind_some, if_neg (not_not_intro hsz.1), hsz.2, Option.bind_some]
      unfold c_X5_warmths_49
      by_cases c8 : 8 ≤ (yT Y).1
      · rw [if_pos (show (8 : Int32) ≤ Int32.ofNat (yT Y).1 from (ole (n := 8) (by omega) (by omega)).mpr c8), if_pos c8, if_neg (not_not_intro y.is)]
        refine Rn.clX (h.wF hb hst hp (k := 2) (by decide) (by decide)) (fun v T53 _ ⟨ex, q, _⟩ => by cases q) (fun ex T53 _ ⟨ex', z, z1, z2, z3, z4⟩ => ?_)
        have z := Sum.inr.inj z
        subst z
        exact LSt.er rfl z1 z2 ⟨by omega, by omega⟩
      · rw [if_neg (show ¬ (8 : Int32) ≤ Int32.ofNat (yT Y).1 from fun q => c8 ((ole (n := 8) (by omega) (by omega)).mp q)), if_neg c8, if_neg (not_not_intro y.is)]
        refine Rn.clX rn_wantT (fun v T50 _ q => ?_) (fun ex T53 _ q => by cases q.1)
        obtain ⟨-, rfl⟩ := q
        rw [(h.qs hb hst).1, Option.bind_some, r1.q1, Option.bind_some, if_neg (not_not_intro y.is)]
        refine Rn.clX (h.num hb hst hp (lo := 0) (hi := 9) (by decide) (by decide)) (fun v T2 _ z => ?_) (fun ex T2 _ z => ?_)
        · obtain ⟨v', r, z1, z2, z3, z4, z5, z6, z7, z8⟩ := z
          subst z2
          rw [z1, sbd_r]
          refine e_boxadd hb hst hB hown z3 (x := v') (by omega) (Y' := sTl Y (ysn (yT Y) v')) (Or.inr ⟨rfl, rfl, rfl, rfl, by omega, rfl⟩) ⟨rfl, rfl, rfl, rfl, rfl, rfl, rfl, rfl, rfl⟩ fun T3 ow3 y3 l3 m3 => ?_
          rw [z6] at l3 m3
          exact (ih (sTl Y (ysn (yT Y) v')) r T3 ow3 m (by omega) (by omega) y3 z4 (show (yT Y).1 + 1 ≤ 8 by omega)).mono fun v T' _ z => z.pre rfl (by omega) z4 ⟨by omega, by omega⟩
        · obtain ⟨k', b, z1, z2, z3, z4, z5⟩ := z
          rw [z1, sbd_l]
          exact LSt.er rfl z2 z3 ⟨by omega, by omega⟩
    · rw [if_neg (show ¬ Int32.ofNat (tS t p) = 2 from fun q => s2 ((tS_ne (k := 2) (by decide)).mp q)), if_neg s2, sbd_r]
      exact Rn.ret (LSt.ok rfl h (Nat.le_refl _) hp ⟨by omega, by omega⟩)
theorem o_wms (hb : Cx G Tb t fx tp) (hst : StA G Tb) (hB : Fz own Tb (Bx G)) (hown : ∀ x, own x = 11 → x < Tb.2.1) (h : YA own G t fx tp rd Tb l0 l1 ow T (sD Y 1) p) (hp : p ≤ t.2) (h7 : t.2 ≤ 700) (hl : (yT Y).1 ≤ 8) : Rn T (onB G (some rd) (Int32.ofNat 1) T) (LSt own G t fx tp rd Tb l0 l1 T p (if tS t p = 2 then sbd (pWm t 701 (yT Y) p) fun l => .inr (sWm Y l.1, l.2) else .inl (1, tB t p))) := by
  obtain ⟨nm, iz, ce, y, hce, hnm⟩ := h.ys hb hst hp
  unfold onB
  rw [if_neg (by decide), if_pos (by decide), if_neg (not_not_intro y.is)]
  refine Rn.clX (P := LSt own G t fx tp rd Tb l0 l1 T p (if tS t p = 2 then sbd (pWm t 701 (yT Y) p) fun l => .inr (sWm Y l.1, l.2) else .inl (1, tB t p))) ?_ (fun v T2 _ z => ?_) (fun ex T2 _ z => z)
  · unfold c_X5_warmths c_X5_warmths_14
    rw [y.i8, Option.bind_some]
    by_cases s2 : tS t p = 2
    · rw [if_pos (show Int32.ofNat (tS t p) = 2 by rw [s2]; rfl), if_pos s2, if_neg (not_not_intro y.is)]
      refine Rn.clX rn_wantT (fun v T50 _ q => ?_) (fun ex T53 _ q => by cases q.1)
      obtain ⟨-, rfl⟩ := q
      exact e_wms hb hst hB hown 701 (sD Y 1) p T50 ow FU (by omega) (by decide) h hp hl
    · rw [if_neg (show ¬ Int32.ofNat (tS t p) = 2 from fun q => s2 ((tS_ne (k := 2) (by decide)).mp q)), if_neg s2, if_neg (not_not_intro y.is)]
      refine Rn.clX (h.wF hb hst hp (k := 1) (by decide) (by decide)) (fun v T53 _ ⟨ex, q, _⟩ => by cases q) (fun ex T53 _ ⟨ex', z, z1, z2, z3, z4⟩ => ?_)
      have z := Sum.inr.inj z
      subst z
      exact LSt.er rfl z1 z2 ⟨by omega, by omega⟩
  · obtain ⟨Y2, q2, ow2, z1, z2, z3, z4, z5⟩ := z
    exact Rn.ret ⟨Y2, q2, ow2, z1, z2, Nat.le_trans (Nat.le_refl _) z3, z4, by
      exact z5⟩
end YL
