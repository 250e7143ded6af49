/-! the law's world: the system's cells, and beside them the reference, the script and the long that answers go to -/
set_option maxRecDepth 100000
def gW (G : xG) (g : xH) : xG := (gC G, gI G, gA G, gB G, gS G, gT G, gM G, g)
def LWo (g : xH) (T : xF) : xF := (ol g T.1, T.2)
theorem ol_none {h : xH} {g : xH} (hg : g = fun _ => none) : ol g h = h := by
  funext a
  subst hg
  unfold ol
  cases h a <;> rfl
/-- what stands beside a method's own world stays -/
theorem Ct.frame {G : xG} {M : xM} {D : Nat} {T : xF} {av : List Value} {o : xO} {T1 : xF} {g : xH} (hg : gR G = fun _ => none) (h : Ct (gW G g) M D T av o T1) : Ct G M D (LWo g T) av o (LWo g T1) := by
  intro hle l hfl
  have pre : ∀ U : State, xW G (LWo g T) U → xW (gW G g) T U := fun U hU => by
    obtain ⟨h1, h2, h3, h4, h5⟩ := hU
    refine ⟨h1, fun a c hc => ?_, h3, h4, h5⟩
    have h6 : ol (gR G) (LWo g T).1 a = some c := by rw [ol_none hg]; exact hc
    exact h2 a c h6
  have post : ∀ U : State, xW (gW G g) T1 U → xW G (LWo g T1) U := fun U hU => by
    obtain ⟨h1, h2, h3, h4, h5⟩ := hU
    refine ⟨h1, fun a c hc => ?_, h3, h4, h5⟩
    rw [ol_none hg] at hc
    exact h2 a c hc
  have dm : xdm T T1 → xdm (LWo g T) (LWo g T1) := fun hd a ha => by
    by_cases e : T1.1 a = none
    · refine Or.inl fun q => ha ?_
      have q2 : ol g T.1 a = none := q
      show ol g T1.1 a = none
      unfold ol at q2 ⊢
      rw [e]
      cases e3 : T.1 a with
      | none => rw [e3] at q2; exact q2
      | some c => rw [e3] at q2; cases q2
    · rcases hd a e with q | q
      · refine Or.inl ?_
        show ol g T.1 a ≠ none
        unfold ol
        cases e3 : T.1 a with
        | none => exact absurd e3 q
        | some c => exact fun z => by cases z
      · exact Or.inr q
  have h0 := h hle l hfl
  refine MetFree.mono h0 (fun a U q => ⟨q.1, pre U q.2⟩) (fun _ _ _ _ _ q => q) (fun a st oc t _ hq => ?_)
  cases o with
  | inl v =>
    obtain ⟨⟨h1, ⟨h2, h3⟩, h4⟩, h5⟩ := hq
    exact ⟨⟨h1, ⟨post t h2, dm h3⟩, h4⟩, h5⟩
  | inr x =>
    obtain ⟨ce, L, h1, ⟨⟨h2, h3⟩, h4⟩, h5⟩ := hq
    exact ⟨ce, L, h1, ⟨⟨post t h2, dm h3⟩, h4⟩, h5⟩
/-- where the reference, the script, the long lie; the script's length and ints -/
abbrev xL : Type := Nat × Nat × Nat × Nat × (Nat → Int32)
abbrev lm (L : xL) : Nat := L.1
abbrev ls_ (L : xL) : Nat := L.2.1
abbrev lo_ (L : xL) : Nat := L.2.2.1
/-- the cells beside the system's -/
def lc (L : xL) (S : MS) (v : Nat → Int64) : xH := fun a => if a = lo_ L then some (true, .inl (.long, 1, .inr (.inl v))) else if a = ls_ L then some (false, .inl (.int, L.2.2.2.1, .inl L.2.2.2.2)) else mh (lm L) (fun _ => none) S a
def LOK (L : xL) : Prop := lo_ L ≠ ls_ L ∧ ¬ (lm L ≤ lo_ L ∧ lo_ L < lm L + 27) ∧ ¬ (lm L ≤ ls_ L ∧ ls_ L < lm L + 27)
def NN (L : xL) (T : xF) : Prop := (T.1 (lo_ L) = none ∧ T.1 (ls_ L) = none ∧ ∀ a, lm L ≤ a → a < lm L + 27 → T.1 a = none) ∧ lo_ L < T.2.1 ∧ ls_ L < T.2.1 ∧ lm L + 27 ≤ T.2.1
theorem NN.dm {L : xL} {T T1 : xF} (h : NN L T) (d : xdl T T1) : NN L T1 := by
  obtain ⟨⟨h1, h2, h3⟩, h4, h5, h6⟩ := h
  obtain ⟨d1, d2, d3⟩ := d
  have key : ∀ a, T.1 a = none → a < T.2.1 → T1.1 a = none := fun a ha hl => by
    cases e : T1.1 a with
    | none => rfl
    | some c =>
      rcases d1 a (by rw [e]; exact fun q => by cases q) with q | q
      · exact absurd ha q
      · omega
  exact ⟨⟨key _ h1 h4, key _ h2 h5, fun a q1 q2 => key a (h3 a q1 q2) (by omega)⟩, by omega, by omega, by omega⟩
theorem lc_o {L : xL} {S : MS} {v : Nat → Int64} {T : xF} (h : NN L T) : ol (lc L S v) T.1 (lo_ L) = some (true, .inl (.long, 1, .inr (.inl v))) := by
  unfold ol lc
  rw [h.1.1]
  dsimp only
  rw [if_pos rfl]
theorem lc_s {L : xL} {S : MS} {v : Nat → Int64} {T : xF} (hL : LOK L) (h : NN L T) : ol (lc L S v) T.1 (ls_ L) = some (false, .inl (.int, L.2.2.2.1, .inl L.2.2.2.2)) := by
  unfold ol lc
  rw [h.1.2.1]
  dsimp only
  rw [if_neg (Ne.symm hL.1), if_pos rfl]
theorem lc_m {L : xL} {S S' : MS} {v : Nat → Int64} {T : xF} (hL : LOK L) (h : NN L T) : mh (lm L) (ol (lc L S v) T.1) S' = ol (lc L S' v) T.1 := by
  funext a
  by_cases hr : lm L ≤ a ∧ a < lm L + 27
  · have e1 := h.1.2.2 a hr.1 hr.2
    have n1 : a ≠ lo_ L := fun q => hL.2.1 (by rw [← q]; exact hr)
    have n2 : a ≠ ls_ L := fun q => hL.2.2 (by rw [← q]; exact hr)
    unfold ol lc
    rw [e1]
    dsimp only
    rw [if_neg n1, if_neg n2]
    unfold mh
    rw [if_pos hr, if_pos hr]
  · unfold mh ol lc
    rw [if_neg hr]
    cases T.1 a with
    | some c => rfl
    | none =>
      dsimp only
      by_cases n1 : a = lo_ L
      · rw [if_pos n1, if_pos n1]
      · rw [if_neg n1, if_neg n1]
        by_cases n2 : a = ls_ L
        · rw [if_pos n2, if_pos n2]
        · rw [if_neg n2, if_neg n2]
          unfold mh
          rw [if_neg hr, if_neg hr]
theorem lc_w {L : xL} {S : MS} {v w : Nat → Int64} {T : xF} (h : NN L T) : xset (ol (lc L S v) T.1) (lo_ L) (true, .inl (.long, 1, .inr (.inl w))) = ol (lc L S w) T.1 := by
  funext a
  unfold xset
  by_cases e : a = lo_ L
  · subst e
    rw [if_pos rfl, lc_o h]
  · rw [if_neg e]
    unfold ol lc
    cases T.1 a with
    | some c => rfl
    | none =>
      dsimp only
      rw [if_neg e, if_neg e]
/-- an object of the system's, in the law's world -/
theorem isO_LW {g : xH} {T : xF} {r : Option Nat} {ci : Nat} (h : isO T r ci = true) : isO (LWo g T) r ci = true := by
  obtain ⟨a, w, fs, rfl, h1⟩ := isO_ok h
  unfold isO oF
  show (match (ol g T.1) a with
    | some (_, .inr (c, fs)) => if c = ci then some fs else none
    | _ => none).isSome = true
  rw [ol_some h1]
  simp
/-- a contract of the reference's, in the law's world -/
theorem CtM.law {G : xG} {L : xL} {M : xM} {D : Nat} {S S' : MS} {av : List Value} {o : Option Value} (h : CtM G (lm L) M D S av o S') {v : Nat → Int64} {T : xF} (hL : LOK L) (hn : NN L T) : Ct G M D (LWo (lc L S v) T) av (.inl o) (LWo (lc L S' v) T) := by
  have h1 := h (ol (lc L S v) T.1) T.2.1 T.2.2
  rw [lc_m hL hn, lc_m hL hn] at h1
  exact h1
section L1
variable {G : xG} {Y : xR} {pc : Nat} {Ls : List (Nat × Value)} {rest : List Value} {T T1 : xF} {L : xL} {S : MS} {v : Nat → Int64}
theorem LR.vw {index ci n Dc : Nat} {rr : vw_C} {Yc : xM} {r : Option Nat} {As st : List Value} {x : Int32} (d : decode Y.1.2.1 pc = .ok (.invokevirtual index, 3)) (hct : Ct G Yc Dc T (va_rf r :: As) (.inl (some (.int x))) T1) (hq : xCVW Y.1.1.cls index Yc n) (hr : isO T r ci = true) (hn : As.length = n) (hst : st = As.reverse ++ va_rf r :: rest) (hrs : (rest.map fun v => v.category).sum ≤ 8) (hci : xClS[ci]? = some rr) (hrc : Yc.1.cls = rr.1) (hD : Dc + 1 ≤ Y.2.1.frames ∧ 64 * Dc + 64 ≤ Y.2.1.locals) (h2 : xle T T1) (h3 : xle T1 Y.2.2.2.2) (k : Xr G Y (pc + 3) Ls (.int x :: rest) T1) : Xr G Y pc Ls st T := by
  obtain ⟨a, w, fs, rfl, h1⟩ := isO_ok hr
  exact X.callVW d hct hq hn hst hrs h1 hci hrc hD h2 h3 k
theorem LR.vwt {index ci n Dc : Nat} {rr : vw_C} {Yc : xM} {r : Option Nat} {As st : List Value} {x : xE} (d : decode Y.1.2.1 pc = .ok (.invokevirtual index, 3)) (hct : Ct G Yc Dc T (va_rf r :: As) (.inr x) T1) (hq : xCVW Y.1.1.cls index Yc n) (hr : isO T r ci = true) (hn : As.length = n) (hst : st = As.reverse ++ va_rf r :: rest) (hrs : (rest.map fun v => v.category).sum ≤ 8) (hci : xClS[ci]? = some rr) (hrc : Yc.1.cls = rr.1) (hD : Dc + 1 ≤ Y.2.1.frames ∧ 64 * Dc + 64 ≤ Y.2.1.locals) (h2 : xle T T1) (h3 : xle T1 Y.2.2.2.2) (k : Xt G Y pc Ls rest T1 x) : Xr G Y pc Ls st T := by
  obtain ⟨a, w, fs, rfl, h1⟩ := isO_ok hr
  exact X.callVXt d hct hq hn hst hrs h1 hci hrc hD h2 h3 k
theorem LR.last {x : Int64} (d : decode Y.1.2.1 pc = .ok (.lastore, 1)) (hn : NN L T) (kk : Xr G Y (pc + 1) Ls rest (LWo (lc L S (vp_updL v 0 x)) T)) : Xr G Y pc Ls (.long x :: .int 0 :: .ref (lo_ L) :: rest) (LWo (lc L S v) T) := by
  refine X.last (h := ol (lc L S v) T.1) (N := T.2.1) (Z := T.2.2) d (lc_o hn) (fun q => by rcases q with q | q <;> revert q <;> decide) ?_
  have e : ((0 : Int32).toNatClampNeg) = 0 := rfl
  rw [e, lc_w hn]
  exact kk
end L1
