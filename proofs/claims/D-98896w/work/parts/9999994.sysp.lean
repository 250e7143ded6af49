/-! plain law: the system's way through a part -/
set_option maxRecDepth 100000
def sv (ms : List Nat) (r : Sem) : Sem := fun f => r fun k => f (fw ms 0 k)
/-- the system reads, at a token -/
def YS (G : xG) (t : Tpe) (fx : Fx) (tp rd nm : Nat) (iz : List Nat) (dn ce : Int32) (T : xF) (p : Nat) : Prop := Cx G T t fx tp ∧ StA G T ∧ NmA G T nm iz ∧ nm < T.2.1 ∧ RdS T rd t fx nm dn ce p ∧ rd < T.2.1 ∧ p ≤ t.2
/-- the names that may stand -/
def NmW (iz ms : List Nat) : Prop := iz.length = ms.length ∧ ms.length ≤ 7 ∧ ∀ k, k < iz.length → iz.getD k 0 < 19 ∧ ms.getD k 0 < 18 ∧ swl.getD (iz.getD k 0) [] = kws.getD (ms.getD k 0) []
def Th (T' : xF) (ex : xE) (rd k b : Nat) : Prop := ∃ w, ex = (WR, w) ∧ oI T' (some w) 5 6 = some (Int32.ofNat k) ∧ oI T' (some rd) 4 9 = some (Int32.ofNat b) ∧ 0 < k ∧ k < 10
def SR (G : xG) (t : Tpe) (fx : Fx) (rd nm : Nat) (ms : List Nat) (dn ce : Int32) (T : xF) (p nd c1 c2 d1 d2 : Nat) (r : PR) (v : Option Nat ⊕ xE) (T' : xF) : Prop := Fr rd T T' ∧ match v with
  | .inl v => ∃ e q fo, r = .inr (e, q) ∧ v = some fo ∧ FmOK G T' fo T.2.1 T'.2.1 (sv ms e.2) nd ∧ RdS T' rd t fx nm dn ce q ∧ T'.2.1 + c1 ≤ T.2.1 + 40 * (q - p) ∧ T'.2.2 + c2 ≤ T.2.2 + 3000 * (q - p)
  | .inr ex => ∃ k b, r = .inl (k, b) ∧ Th T' ex rd k b ∧ T'.2.1 ≤ T.2.1 + 40 * (t.2 + 1 - p) + d1 ∧ T'.2.2 ≤ T.2.2 + 3000 * (t.2 + 1 - p) + d2
section YS
variable {G : xG} {t : Tpe} {fx : Fx} {tp rd nm : Nat} {iz ms : List Nat} {dn ce : Int32} {T T' : xF} {p : Nat}
theorem YS.cx (h : YS G t fx tp rd nm iz dn ce T p) : Cx G T t fx tp := h.1
theorem YS.rs (h : YS G t fx tp rd nm iz dn ce T p) : RdS T rd t fx nm dn ce p := h.2.2.2.2.1
theorem YS.lt (h : YS G t fx tp rd nm iz dn ce T p) : rd < T.2.1 := h.2.2.2.2.2.1
theorem YS.pl (h : YS G t fx tp rd nm iz dn ce T p) : p ≤ t.2 := h.2.2.2.2.2.2
theorem YS.is (h : YS G t fx tp rd nm iz dn ce T p) : isO T (some rd) 4 = true := by
  obtain ⟨nu, r, -⟩ := h.rs
  exact r.is
theorem YS.i8 (h : YS G t fx tp rd nm iz dn ce T p) : oI T (some rd) 4 8 = some (Int32.ofNat (tS t p)) := by
  obtain ⟨nu, r, -⟩ := h.rs
  exact r.i8
theorem YS.i9 (h : YS G t fx tp rd nm iz dn ce T p) : oI T (some rd) 4 9 = some (Int32.ofNat (tB t p)) := by
  obtain ⟨nu, r, -⟩ := h.rs
  exact r.i9
theorem YS.q6 (h : YS G t fx tp rd nm iz dn ce T p) : oQ T (some rd) 4 6 = some (some nm) := by
  obtain ⟨nu, r, -⟩ := h.rs
  exact r.q6
theorem YS.sg (h : YS G t fx tp rd nm iz dn ce T p) {c : Nat} (hc : c < 128) : c_X5_isSign T (some rd) (Int32.ofNat c) = some (if sgi t p c then 1 else 0) := e_isSign h.cx h.rs h.pl hc
/-- onward: only the reader has changed, and what is new -/
theorem YS.nx (h : YS G t fx tp rd nm iz dn ce T p) (F : Fr rd T T') {q : Nat} (r : RdS T' rd t fx nm dn ce q) (hq : q ≤ t.2) : YS G t fx tp rd nm iz dn ce T' q := by
  obtain ⟨h1, h2, h3, h4, h5, h6, h7⟩ := h
  have hl := F.1
  obtain ⟨w0, fs0, hr⟩ := h5.ird
  refine ⟨h1.fr h5.ird F, ?_, ?_, by omega, r, by omega, hq⟩
  · obtain ⟨d0, d1, w0, w1, F0, F1, g1, g2, g3, g4, g5, g6⟩ := h2
    exact ⟨d0, d1, w0, w1, F0, F1, g1, g2, by omega, by omega, (F.2 d0 g3 fun q => by rw [q, hr] at g5; cases g5).trans g5, (F.2 d1 g4 fun q => by rw [q, hr] at g6; cases g6).trans g6⟩
  · obtain ⟨w, FF, g1, g2⟩ := h3
    exact ⟨w, FF, (F.2 nm h4 fun q => by rw [q, hr] at g1; cases g1).trans g1, g2⟩
theorem YS.fr (h : YS G t fx tp rd nm iz dn ce T p) (F : frc (fun _ => False) T T') : YS G t fx tp rd nm iz dn ce T' p := h.nx ⟨F.1, fun x q _ => F.2 x q fun z => z⟩ (h.rs.fr (F.2 _ h.lt fun z => z)) h.pl
theorem frA {T : xF} {ci n : Nat} {fs : List Value} : frc (fun _ => False) T (nO T ci n fs) := ⟨Nat.le_succ _, fun x q _ => xset_no (by omega)⟩
theorem YS.nxt (h : YS G t fx tp rd nm iz dn ce T p) : Rn T (c_X5_next G (some rd) T) fun _ T' => frm (fun x => x = rd) T T' ∧ YS G t fx tp rd nm iz dn ce T' (tE t p) := by
  have hl : tE t p ≤ t.2 := tE_le h.pl
  exact (e_nxt h.cx h.rs h.pl).mono fun _ T' _ ⟨f, r⟩ => ⟨f, h.nx f.c r hl⟩
theorem rn_wantF (h : YS G t fx tp rd nm iz dn ce T p) {r : Option Nat} {k : Nat} (k0 : 0 < k) (k1 : k < 10) : Rn T (c_X5_want G r 0 (Int32.ofNat k) T) fun v T' => ∃ ex, v = .inr ex ∧ Th T' ex rd k (tB t p) ∧ frc (fun _ => False) T T' ∧ T'.2.1 = T.2.1 + 1 ∧ T'.2.2 = T.2.2 + 7 := by
  obtain ⟨T', e, l, f, n1, n2, w⟩ := e_want_f (T := T) (G := G) r (Int32.ofNat k)
  have hr : T'.1 rd = T.1 rd := f rd (by have := h.lt; omega)
  refine ⟨_, T', e, l, _, rfl, ⟨T.2.1, rfl, w, ?_, k0, k1⟩, ⟨l.1, fun x q _ => f x (by omega)⟩, n1, n2⟩
  have := h.i9
  unfold oI oF at this ⊢
  simp -implicitDefEqProofs only [hr]
  exact this
theorem rn_wantT {r : Option Nat} {k : Int32} : Rn T (c_X5_want G r 1 k T) fun v T' => v = .inl () ∧ T' = T := ⟨_, T, e_want_t r k, xlr, rfl, rfl⟩
/-- some state of the reference that stands here too -/
theorem YS.pg (h : YS G t fx tp rd nm iz dn ce T p) : ∃ S : MS, PG G T S t fx tp rd nm dn ce p := by
  refine ⟨(fun k => if k = 18 then Int32.ofNat (tE t p) else if k = 19 then Int32.ofNat (tS t p) else if k = 20 then Int32.ofNat (tB t p) else if k = 21 then Int32.ofNat (tE t p - tB t p) else if k = 22 then Int32.ofNat (numF t (tB t p) (min 4 (tE t p - tB t p))) else if k = 23 then Int32.ofNat (t.1 (tB t p)) else if k = 17 then Int32.ofNat t.2 else 0, Int64.ofNat (pkF t (tB t p) (min 7 (tE t p - tB t p))), fun _ k => Int32.ofNat (t.1 k)), h.cx, h.rs, h.lt, h.pl, ⟨rfl, rfl, rfl, rfl, fun _ => rfl, fun _ => rfl, fun _ => rfl⟩, ⟨rfl, fun _ _ => rfl⟩, rfl⟩
/-- a number, by the system -/
theorem e_numS (h : YS G t fx tp rd nm iz dn ce T p) {lo hi : Nat} (hlo : lo < 20000) (hhi : hi < 20000) : Rn T (c_X5_number G (some rd) (Int32.ofNat lo) (Int32.ofNat hi) T) fun v T' => match v with
    | .inl a => a = Int32.ofNat (nmF t p) ∧ nOK t p lo hi ∧ frm (fun x => x = rd) T T' ∧ YS G t fx tp rd nm iz dn ce T' (tE t p)
    | .inr ex => ¬ nOK t p lo hi ∧ Th T' ex rd (if tS t p = 2 then 2 else 1) (tB t p) ∧ frc (fun _ => False) T T' ∧ T'.2.1 = T.2.1 + 1 ∧ T'.2.2 = T.2.2 + 7 := by
  obtain ⟨S, g⟩ := h.pg
  unfold c_X5_number
  rw [if_neg (not_not_intro h.is)]
  rcases e_numberNow g hlo hhi with ⟨s2, l4, c1, c2, e⟩ | ⟨nok, T', e, l, f, n1, n2, w⟩
  · refine Rn.clX (P := fun v T' => v = .inl (Int32.ofNat (nmF t p)) ∧ T' = T) ⟨_, T, e, xlr, rfl, rfl⟩ (fun v T2 _ q => ?_) (fun ex T2 _ q => by cases q.1)
    obtain ⟨q1, q2⟩ := q
    have q1 := Sum.inl.inj q1
    subst q1 q2
    rw [if_neg (not_not_intro h.is)]
    refine Rn.cl h.nxt fun _ T1 _ ⟨f1, y1⟩ => Rn.ret ⟨rfl, ⟨s2, l4, c1, c2⟩, f1, y1⟩
  · refine Rn.clX (P := fun v T2 => v = .inr (WR, T.2.1) ∧ T2 = T') ⟨_, T', e, l, rfl, rfl⟩ (fun v T2 _ q => by cases q.1) (fun ex T2 _ q => ?_)
    obtain ⟨q1, q2⟩ := q
    have q1 := Sum.inr.inj q1
    subst q1 q2
    have hr : T2.1 rd = T.1 rd := f rd (by have := h.lt; omega)
    refine ⟨nok, ⟨T.2.1, rfl, ?_, ?_, by split <;> decide, by split <;> decide⟩, ⟨l.1, fun x q _ => f x (by omega)⟩, n1, n2⟩
    · rw [w]
      split <;> rfl
    · have := h.i9
      unfold oI oF at this ⊢
      simp -implicitDefEqProofs only [hr]
      exact this
theorem Th.inl {k b : Nat} {ex : xE} (h : Th T' ex rd k b) : Th T' ex rd k b := h
theorem SR.er {nd c1 c2 d1 d2 k b : Nat} {r : PR} {ex : xE} (hr : r = .inl (k, b)) (F : Fr rd T T') (h : Th T' ex rd k b) (a1 : T'.2.1 ≤ T.2.1 + 40 * (t.2 + 1 - p) + d1) (a2 : T'.2.2 ≤ T.2.2 + 3000 * (t.2 + 1 - p) + d2) : SR G t fx rd nm ms dn ce T p nd c1 c2 d1 d2 r (.inr ex) T' := ⟨F, k, b, hr, h, a1, a2⟩
theorem SR.ok {nd c1 c2 d1 d2 q fo : Nat} {r : PR} {e : Ex} (hr : r = .inr (e, q)) (F : Fr rd T T') (h : FmOK G T' fo T.2.1 T'.2.1 (sv ms e.2) nd) (hR : RdS T' rd t fx nm dn ce q) (a1 : T'.2.1 + c1 ≤ T.2.1 + 40 * (q - p)) (a2 : T'.2.2 + c2 ≤ T.2.2 + 3000 * (q - p)) : SR G t fx rd nm ms dn ce T p nd c1 c2 d1 d2 r (.inl (some fo)) T' := ⟨F, e, q, fo, hr, rfl, h, hR, a1, a2⟩
theorem Fr.of {T1 : xF} (h : frc (fun _ => False) T T1) : Fr rd T T1 := ⟨h.1, fun x q _ => h.2 x q fun z => z⟩
/-- a part -/
theorem e_part (hW : NmW iz ms) {kE : Option Nat → Int32 → xF → Option ((Option Nat ⊕ xE) × xF)} {pk : Nat → PR} (hpk : Fwd t pk) {x1 : Int32} {nd : Nat} (hnd : 1 ≤ nd) (hE : ∀ T p, YS G t fx tp rd nm iz dn ce T p → Rn T (kE (some rd) (x1 + 1) T) (SR G t fx rd nm ms dn ce T p nd 5 750 6 17 (pk p))) (h : YS G t fx tp rd nm iz dn ce T p) : Rn T (c_X5_part G kE (some rd) x1 T) (SR G t fx rd nm ms dn ce T p nd 30 1000 1 7 (pPart t ms pk p)) := by
  have hp := h.pl
  have hrd := h.lt
  have hl := tE_le hp
  unfold c_X5_part
  rw [h.i8, Option.bind_some]
  by_cases s2 : tS t p = 2
  · obtain ⟨f1, f2⟩ := tE_fw hp (show tS t p ≠ 0 by omega)
    rw [if_pos (show Int32.ofNat (tS t p) = 2 by rw [s2]; rfl)]
    refine Rn.al ⟨Nat.le_succ _, Nat.le_add_right _ _⟩ ?_
    obtain ⟨T8, e8⟩ : ∃ T8, T8 = nO T 7 1 [.int 0] := ⟨_, rfl⟩
    rw [← e8]
    have fr8 : frc (fun _ => False) T T8 := by rw [e8]; exact frA
    have y8 := h.fr fr8
    have l8 : T8.2.1 = T.2.1 + 1 := by rw [e8]; rfl
    have m8 : T8.2.2 = T.2.2 + 1 := by rw [e8]; rfl
    have o8 : T8.1 T.2.1 = some (true, .inr (7, [.int 0])) := by rw [e8]; exact xset_eq
    rw [if_neg (not_not_intro y8.is)]
    refine Rn.clX (e_numS y8 (lo := 0) (hi := 9999) (by decide) (by decide)) (fun v T17 _ q => ?_) (fun ex T17 _ q => ?_)
    · obtain ⟨q1, q2, q3, q4⟩ := q
      subst q1
      have o17 : T17.1 T.2.1 = some (true, .inr (7, [.int 0])) := (q3.2 _ (by omega)).trans o8
      obtain ⟨T20, e20, c20, f20, o20⟩ := pv_any (ci := 7) (k := 0) (v := .int (Int32.ofNat (nmF t p))) o17
      refine Rn.cl (P := fun _ T' => T' = T20) ?_ fun _ T' _ q => Rn.ret ?_
      · unfold c_X8_init
        rw [if_neg (show ¬ ¬ (some T.2.1).isSome = true from fun q => q rfl)]
        exact Rn.st e20 ⟨by rw [c20]; exact Nat.le_refl _, by rw [c20]; exact Nat.le_refl _⟩ (Rn.ret rfl)
      · subst q
        have lT : T'.2.1 = T.2.1 + 1 := by rw [c20, q3.1]; exact l8
        have mT : T'.2.2 = T.2.2 + 1 := by rw [c20, q3.1]; exact m8
        refine SR.ok (e := xnum (nmF t p)) (q := tE t p) (by unfold pPart; rw [if_pos s2, if_pos q2.2.1]) ⟨by omega, fun x x1 x2 => (f20 x (by omega)).trans ((q3.2 x x2).trans (fr8.2 x x1 fun z => z))⟩ ?_ (q4.rs.fr (f20 rd (by omega))) (by omega) (by omega)
        exact (fm_num (G := G) o20 (by omega)).up (Nat.le_refl _) (by omega) (Nat.le_refl _) hnd
    · obtain ⟨q1, q2, q3, q4, q5⟩ := q
      rw [if_pos s2] at q2
      have nl : ¬ tE t p - tB t p ≤ 4 := fun q => q1 ⟨s2, q, Nat.zero_le _, by have := nmF_lt s2 q; omega⟩
      exact SR.er (by unfold pPart; rw [if_pos s2, if_neg nl]) (Fr.of (fr8.tr q3)) q2 (by omega) (by omega)
  · rw [if_neg (show ¬ Int32.ofNat (tS t p) = 2 from fun q => s2 ((tS_ne (k := 2) (by decide)).mp q)), if_neg (not_not_intro h.is)]
    have s40 : c_X5_isSign T (some rd) 40 = some (if sgi t p 40 then 1 else 0) := h.sg (c := 40) (by decide)
    rw [s40, Option.bind_some]
    by_cases c40 : sgi t p 40
    · obtain ⟨f1, f2⟩ := tE_fw hp (sgn_0 c40)
      have pe : pPart t ms pk p = pBr t (pk (tE t p)) := by
        unfold pPart
        rw [if_neg s2, if_pos c40]
      rw [if_pos c40, if_neg (show ¬ (1 : Int32) = 0 by decide), if_neg (not_not_intro h.is)]
      refine Rn.cl h.nxt fun _ T34 _ ⟨g34, y34⟩ => ?_
      have l34 : T34.2 = T.2 := g34.1
      rw [if_neg (not_not_intro y34.is)]
      refine Rn.clX (hE T34 (tE t p) y34) (fun v T41 _ q => ?_) (fun ex T41 _ q => ?_)
      · obtain ⟨q0, e, q, fo, q1, q2, q3, q4, q5, q6⟩ := q
        subst q2
        have fq := hpk _ _ _ f2 q1
        have y41 := y34.nx q0 q4 fq.2
        have F41 : Fr rd T T41 := Fr.tr g34.c q0
        have s41 : c_X5_isSign T41 (some rd) 41 = some (if sgi t q 41 then 1 else 0) := y41.sg (c := 41) (by decide)
        rw [if_neg (not_not_intro y41.is), s41, Option.bind_some, if_neg (not_not_intro y41.is)]
        rw [l34] at q3 q5 q6
        by_cases c41 : sgi t q 41
        · obtain ⟨h1, h2⟩ := tE_fw y41.pl (sgn_0 c41)
          rw [if_pos c41]
          refine Rn.clX rn_wantT (fun v T53 _ q => ?_) (fun ex T53 _ q => by cases q.1)
          obtain ⟨-, rfl⟩ := q
          rw [if_neg (not_not_intro y41.is)]
          refine Rn.cl y41.nxt fun _ T57 _ ⟨g57, y57⟩ => Rn.ret ?_
          have l57 : T57.2 = T53.2 := g57.1
          refine SR.ok (e := e) (q := tE t q) (by rw [pe, q1]; exact if_pos c41) (F41.tr g57.c) ?_ y57.rs (by rw [l57]; omega) (by rw [l57]; omega)
          have := q3.mv (T' := T57) (by rw [l57]; exact Nat.le_refl _) fun x x1 x2 => g57.2 x (by omega)
          rw [l57]
          exact this
        · rw [if_neg c41]
          refine Rn.clX (rn_wantF y41 (k := 1) (by decide) (by decide)) (fun v T53 _ ⟨ex, q, _⟩ => by cases q) (fun ex T53 _ ⟨ex', z, z1, z2, z3, z4⟩ => ?_)
          have z := Sum.inr.inj z
          subst z
          refine SR.er (by rw [pe, q1]; exact if_neg c41) (F41.tr (Fr.of z2)) z1 ?_ ?_
          · have := y41.pl; omega
          · have := y41.pl; omega
      · obtain ⟨q0, k, b, q1, q2, q3, q4⟩ := q
        rw [l34] at q3 q4
        exact SR.er (by rw [pe, q1]; rfl) (Fr.tr g34.c q0) q2 (by omega) (by omega)
    · rw [if_neg c40, if_pos rfl, Option.bind_some]
      unfold c_X5_part_76
      by_cases s1 : tS t p = 1
      · obtain ⟨f1, f2⟩ := tE_fw hp (show tS t p ≠ 0 by omega)
        rw [if_pos (show Int32.ofNat (tS t p) = 1 by rw [s1]; rfl), if_neg (not_not_intro h.is)]
        refine Rn.clX rn_wantT (fun v T77 _ q => ?_) (fun ex T77 _ q => by cases q.1)
        obtain ⟨-, rfl⟩ := q
        rw [h.q6, Option.bind_some, if_neg (not_not_intro h.is), e_which h.cx h.rs h.pl h.2.2.1 hW.1 (by have := hW.2.1; omega) hW.2.2, Option.bind_some]
        have fg := fw_ge ms 0 (kw t p)
        have m7 := hW.2.1
        by_cases c : fw ms 0 (kw t p) = ms.length
        · rw [if_pos c, if_pos rfl]
          unfold c_X5_part_100
          rw [if_neg (not_not_intro h.is)]
          refine Rn.clX (rn_wantF h (k := 3) (by decide) (by decide)) (fun v T53 _ ⟨ex, q, _⟩ => by cases q) (fun ex T53 _ ⟨ex', z, z1, z2, z3, z4⟩ => ?_)
          have z := Sum.inr.inj z
          subst z
          exact SR.er (by unfold pPart; rw [if_neg s2, if_neg c40, if_pos s1, if_neg (by omega)]) (Fr.of z2) z1 (by omega) (by omega)
        · rw [if_neg c, if_neg (ipos_ne (by omega))]
          unfold c_X5_part_100
          rw [if_neg (not_not_intro h.is)]
          refine Rn.clX rn_wantT (fun v T101 _ q => ?_) (fun ex T101 _ q => by cases q.1)
          obtain ⟨-, rfl⟩ := q
          rw [if_neg (not_not_intro h.is)]
          refine Rn.cl h.nxt fun _ T5 _ ⟨g5, y5⟩ => ?_
          have l5 : T5.2 = T101.2 := g5.1
          refine Rn.al ⟨Nat.le_succ _, Nat.le_add_right _ _⟩ ?_
          obtain ⟨T8, e8⟩ : ∃ T8, T8 = nO T5 8 1 [.int 0] := ⟨_, rfl⟩
          rw [← e8]
          have fr8 : frc (fun _ => False) T5 T8 := by rw [e8]; exact frA
          have l8 : T8.2.1 = T5.2.1 + 1 := by rw [e8]; rfl
          have m8 : T8.2.2 = T5.2.2 + 1 := by rw [e8]; rfl
          have o8 : T8.1 T5.2.1 = some (true, .inr (8, [.int 0])) := by rw [e8]; exact xset_eq
          obtain ⟨T20, e20, c20, f20, o20⟩ := pv_any (ci := 8) (k := 0) (v := .int (Int32.ofNat (fw ms 0 (kw t p)))) o8
          refine Rn.cl (P := fun _ T' => T' = T20) ?_ fun _ T' _ q => Rn.ret ?_
          · unfold c_X9_init
            rw [if_neg (show ¬ ¬ (some T5.2.1).isSome = true from fun q => q rfl)]
            exact Rn.st e20 ⟨by rw [c20]; exact Nat.le_refl _, by rw [c20]; exact Nat.le_refl _⟩ (Rn.ret rfl)
          · subst q
            have lT : T'.2.1 = T101.2.1 + 1 := by rw [c20, l8, l5]
            have mT : T'.2.2 = T101.2.2 + 1 := by rw [c20, m8, l5]
            have e5 : T5.2.1 = T101.2.1 := by rw [l5]
            refine SR.ok (e := xwrd (kw t p)) (q := tE t p) (by unfold pPart; rw [if_neg s2, if_neg c40, if_pos s1, if_pos (by omega)]) ⟨by omega, fun x x1 x2 => (f20 x (by omega)).trans ((fr8.2 x (by omega) fun z => z).trans (g5.2 x x2))⟩ ?_ ((y5.rs.fr (fr8.2 rd (by omega) fun z => z)).fr (f20 rd (by omega))) (by omega) (by omega)
            exact (fm_wrd (G := G) o20 (by omega) (by omega)).up (by omega) (by omega) (Nat.le_refl _) hnd
      · rw [if_neg (show ¬ Int32.ofNat (tS t p) = 1 from fun q => s1 ((tS_ne (k := 1) (by decide)).mp q)), if_neg (not_not_intro h.is)]
        refine Rn.clX (rn_wantF h (k := 1) (by decide) (by decide)) (fun v T53 _ ⟨ex, q, _⟩ => by cases q) (fun ex T53 _ ⟨ex', z, z1, z2, z3, z4⟩ => ?_)
        have z := Sum.inr.inj z
        subst z
        exact SR.er (by unfold pPart; rw [if_neg s2, if_neg c40, if_neg s1]) (Fr.of z2) z1 (by omega) (by omega)
end YS
