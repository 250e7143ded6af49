/-! methods with a table of their own, called; several handlers -/
set_option maxRecDepth 100000
def xCVW (own : String) (index : Nat) (Yc : xM) (n : Nat) : Prop := ∃ (a : Nat × Nat × Nat × Nat) (r : List (Nat × Nat × Nat × Nat)), Yc.2.2.2.2 = a :: r ∧ GoodIn lw_all (wsV own index Yc.1.cls Yc.1 (wsW_ Yc.1 Yc.2.1 Yc.2.2.1 Yc.2.2.2.1 (a :: r))) ∧ (Yc.1.cls ≠ "java/lang/invoke/MethodHandle" ∧ Yc.1.cls ≠ "java/lang/invoke/VarHandle" ∧ (parseMethodDescriptor Yc.1.desc).map (fun d => d.parameters.length) = some n) ∧ Yc.2.2.1 ≤ 45
def xCSW (own : String) (index : Nat) (Yc : xM) (n : Nat) : Prop := ∃ (a : Nat × Nat × Nat × Nat) (r : List (Nat × Nat × Nat × Nat)), Yc.2.2.2.2 = a :: r ∧ GoodIn lw_all (va_wsS own index Yc.1 (wsW_ Yc.1 Yc.2.1 Yc.2.2.1 Yc.2.2.2.1 (a :: r))) ∧ (Yc.1.cls ≠ "java/lang/invoke/MethodHandle" ∧ Yc.1.cls ≠ "java/lang/invoke/VarHandle" ∧ (parseMethodDescriptor Yc.1.desc).map (fun d => d.parameters.length) = some n) ∧ Yc.2.2.1 ≤ 45
section C6
variable {G : xG} {Y : xR} {pc : Nat} {L : List (Nat × Value)} {rest : List Value} {T T1 : xF}
/-- the first handlers let it pass, the next takes it -/
theorem Xt.catchL {x : xE} {pre suf : List ExceptionTableEntry} {z : ExceptionTableEntry} {nm : String} {tgt : Nat} (ht : tableOf Y.1.2.2.2.2 = pre ++ z :: suf) (hp : ∀ y ∈ pre, y.catchType ≠ 0 ∧ Cond.classLink Y.1.1.cls y.catchType "java/util/NoSuchElementException" ∈ lw_all ∧ x.1 = "java/lang/IllegalArgumentException") (hx : covers z pc = true) (h0 : z.catchType ≠ 0) (hlk : Cond.classLink Y.1.1.cls z.catchType nm ∈ lw_all) (hca : Cond.castable nm nm ∈ lw_tbl) (hE : x.1 = nm) (htg : z.handlerPc = tgt) (kk : Xr G Y tgt L [va_rf (some x.2)] T) : Xt G Y pc L rest T x := by
  intro p l e s m args below meth c H locs ls ce hc hd hl h1 h2 h3
  have K := kk p l e s m args below meth c H locs ls hc hd hl
  obtain ⟨-, -, -, -, -, -, hown, -, hts, hK, -, -, -, htb⟩ := hc
  subst htg
  have hcast : (Cond.castable x.1 nm).before args s = true := by
    have z9 := hK.2.2.1 _ hca rfl
    rw [hE]
    unfold va_Nw Cond.before Cond.holds at z9
    unfold Cond.before Cond.holds
    simp only [Cond.value] at z9 ⊢
    exact z9
  exact vx_catch hown pre z suf (by rw [htb, ht]) (fun y hy => Or.inr ⟨(hp y hy).1, _, hts _ (hp y hy).2.1, by rw [(hp y hy).2.2]; exact hK.2.2.2.2.2.2.2.2⟩) hx h0 (hts _ hlk) hcast h1 h2 h3 K
theorem X.callVW {index n b ci Dc : Nat} {Yc : xM} {w : Bool} {fs As st : List Value} {r : vw_C} {v : Option Value} (d : decode Y.1.2.1 pc = .ok (.invokevirtual index, 3)) (hct : Ct G Yc Dc T (.ref b :: As) (.inl v) T1) (hq : xCVW Y.1.1.cls index Yc n) (hn : As.length = n) (hst : st = As.reverse ++ .ref b :: rest) (hrs : (rest.map fun v => v.category).sum ≤ 8) (hb0 : T.1 b = some (w, .inr (ci, fs))) (hci : xClS[ci]? = some r) (hrc : Yc.1.cls = r.1) (hD : Dc + 1 ≤ Y.2.1.frames ∧ 64 * Dc + 64 ≤ Y.2.1.locals) (h2 : xle T T1) (h3 : xle T1 Y.2.2.2.2) (k : Xr G Y (pc + 3) L (v.toList ++ rest) T1) : Xr G Y pc L st T := by
  intro p l e s m args below meth c H locs ls hc hd hl
  have hc' := hc
  obtain ⟨hfl, hx, hb, -, -, hml, hown, hname, hts, hK, hSt, hsz0, hgb, -⟩ := hc
  obtain ⟨hsz, hrep, hS9, hd1, hd2, hdm, hd3⟩ := hd
  obtain ⟨a9, r9, hq2, hq1, hq3, hq4⟩ := hq
  subst hst
  have hM := hct h2 l hfl
  obtain ⟨y, cc, nL, ret, hh⟩ := Yc
  dsimp only at hq1 hq2 hq3 hq4 hrc
  subst hq2
  have r1 := h2.1; have r2 := h2.2; have r3 := h3.1; have r4 := h3.2; have r5 := hd1.1; have r6 := hd1.2; have r7 := hd3.1; have r8 := hd3.2
  refine xgo (T := T) (T2 := T1) (v := v) (vx_runVW (Qc := fun _ st oc t => oc = .returned v ∧ (xW G T1 t ∧ xdm T T1) ∧ va_F (xAf G) st t) (free := xAf G) (As := As) (rest := rest) (n := n) ⟨hx, hb, hml, hown, hts⟩ hM (vx_cwVW n hts hq1 rfl rfl rfl ⟨rfl, hq3⟩ ⟨hD.1, ?_⟩) ⟨xblind, ?_, fun U hU hW => ⟨rfl, ?_⟩⟩ rfl hn hl.1 rfl (lv_room hrs) d ⟨?_, ?_⟩) hS9 fun H1 locs1 z1 hrep1 hS1 hdm1 => ?_
  · show 8 + (nL + 11) + 64 * Dc ≤ _
    omega
  · rw [hrc]
    exact xobj hK hci (hrep b _ (ol_some hb0))
  · exact ⟨by rw [hU]; exact hsz, fun a cc hcc => by rw [hU]; exact (hrep a cc hcc).moved hW.alike, hK.warm hW, fun i q hq => by rw [hU]; exact (xZs.moved hW.alike (hSt i q hq)).kept hS9.2.1, Nat.le_trans hgb hd1.1⟩
  · rw [xsub r5 r1]; omega
  · rw [xsub r6 r2]; omega
  · have K := k p l e s m args below meth c H1 locs1 ls hc' ⟨z1, hrep1, hS1, xle.tr hd1 h2, h3, xdm.tr r5 hdm hdm1, hd3⟩ hl
    rw [xsub r5 r1, xsub r6 r2]
    exact K
theorem X.callSW {index n Dc : Nat} {Yc : xM} {As st : List Value} {v : Option Value} (d : decode Y.1.2.1 pc = .ok (.invokestatic index, 3)) (hct : Ct G Yc Dc T As (.inl v) T1) (hq : xCSW Y.1.1.cls index Yc n) (hn : As.length = n) (hst : st = As.reverse ++ rest) (hrs : (rest.map fun v => v.category).sum ≤ 8) (hD : Dc + 1 ≤ Y.2.1.frames ∧ 64 * Dc + 64 ≤ Y.2.1.locals) (h2 : xle T T1) (h3 : xle T1 Y.2.2.2.2) (k : Xr G Y (pc + 3) L (v.toList ++ rest) T1) : Xr G Y pc L st T := by
  intro p l e s m args below meth c H locs ls hc hd hl
  have hc' := hc
  obtain ⟨hfl, hx, hb, -, -, hml, hown, hname, hts, hK, hSt, hsz0, hgb, -⟩ := hc
  obtain ⟨hsz, hrep, hS9, hd1, hd2, hdm, hd3⟩ := hd
  obtain ⟨a9, r9, hq2, hq1, hq3, hq4⟩ := hq
  subst hst
  have hM := hct h2 l hfl
  obtain ⟨y, cc, nL, ret, hh⟩ := Yc
  dsimp only at hq1 hq2 hq3 hq4
  subst hq2
  have r1 := h2.1; have r2 := h2.2; have r3 := h3.1; have r4 := h3.2; have r5 := hd1.1; have r6 := hd1.2; have r7 := hd3.1; have r8 := hd3.2
  refine xgo (T := T) (T2 := T1) (v := v) (vx_runSW (Qc := fun _ st oc t => oc = .returned v ∧ (xW G T1 t ∧ xdm T T1) ∧ va_F (xAf G) st t) (free := xAf G) (As := As) (rest := rest) (n := n) ⟨hx, hb, hml, hown, hts⟩ hM (vx_cwSW n hts hq1 rfl rfl rfl hq3 ⟨hD.1, ?_⟩) ⟨xblind, fun U hU hW => ⟨rfl, ?_⟩⟩ rfl hn hl.1 rfl (lv_room hrs) d ⟨?_, ?_⟩) hS9 fun H1 locs1 z1 hrep1 hS1 hdm1 => ?_
  · show 8 + (nL + 11) + 64 * Dc ≤ _
    omega
  · exact ⟨by rw [hU]; exact hsz, fun a cc hcc => by rw [hU]; exact (hrep a cc hcc).moved hW.alike, hK.warm hW, fun i q hq => by rw [hU]; exact (xZs.moved hW.alike (hSt i q hq)).kept hS9.2.1, Nat.le_trans hgb hd1.1⟩
  · rw [xsub r5 r1]; omega
  · rw [xsub r6 r2]; omega
  · have K := k p l e s m args below meth c H1 locs1 ls hc' ⟨z1, hrep1, hS1, xle.tr hd1 h2, h3, xdm.tr r5 hdm hdm1, hd3⟩ hl
    rw [xsub r5 r1, xsub r6 r2]
    exact K
theorem X.callVXt {index n b ci Dc : Nat} {Yc : xM} {w : Bool} {fs As st : List Value} {r : vw_C} {x : xE} (d : decode Y.1.2.1 pc = .ok (.invokevirtual index, 3)) (hct : Ct G Yc Dc T (.ref b :: As) (.inr x) T1) (hq : xCVW Y.1.1.cls index Yc n) (hn : As.length = n) (hst : st = As.reverse ++ .ref b :: rest) (hrs : (rest.map fun v => v.category).sum ≤ 8) (hb0 : T.1 b = some (w, .inr (ci, fs))) (hci : xClS[ci]? = some r) (hrc : Yc.1.cls = r.1) (hD : Dc + 1 ≤ Y.2.1.frames ∧ 64 * Dc + 64 ≤ Y.2.1.locals) (h2 : xle T T1) (h3 : xle T1 Y.2.2.2.2) (k : Xt G Y pc L rest T1 x) : Xr G Y pc L st T := by
  intro p l e s m args below meth c H locs ls hc hd hl
  have hc' := hc
  obtain ⟨hfl, hx, hb, -, -, hml, hown, hname, hts, hK, hSt, hsz0, hgb, -⟩ := hc
  obtain ⟨hsz, hrep, hS9, hd1, hd2, hdm, hd3⟩ := hd
  obtain ⟨a9, r9, hq2, hq1, hq3, hq4⟩ := hq
  subst hst
  have hM := hct.vx h2 l hfl
  obtain ⟨y, cc, nL, ret, hh⟩ := Yc
  dsimp only at hq1 hq2 hq3 hq4 hrc
  subst hq2
  have r1 := h2.1; have r2 := h2.2; have r3 := h3.1; have r4 := h3.2; have r5 := hd1.1; have r6 := hd1.2; have r7 := hd3.1; have r8 := hd3.2
  refine xgoX (x := x) (T := T) (T2 := T1) (vx_runVX (free := xAf G) (As := As) (rest := rest) (n := n) ⟨hx, hb, hml, hown, hts⟩ hM (vx_cwVW n hts hq1 rfl rfl rfl ⟨rfl, hq3⟩ ⟨hD.1, ?_⟩) ⟨xblind, ?_, fun U hU hW => ⟨rfl, ?_⟩⟩ rfl hn hl.1 rfl (lv_room hrs) d ⟨?_, ?_⟩) hS9 fun H1 locs1 ce k2 k3 k4 z1 hrep1 hS1 hdm1 => ?_
  · show 8 + (nL + 11) + 64 * Dc ≤ _
    omega
  · rw [hrc]
    exact xobj hK hci (hrep b _ (ol_some hb0))
  · exact ⟨by rw [hU]; exact hsz, fun a cc hcc => by rw [hU]; exact (hrep a cc hcc).moved hW.alike, hK.warm hW, fun i q hq => by rw [hU]; exact (xZs.moved hW.alike (hSt i q hq)).kept hS9.2.1, Nat.le_trans hgb hd1.1⟩
  · rw [xsub r5 r1]; omega
  · rw [xsub r6 r2]; omega
  · have K := k p l e s m args below meth c H1 locs1 ls ce hc' ⟨z1, hrep1, hS1, xle.tr hd1 h2, h3, xdm.tr r5 hdm hdm1, hd3⟩ hl k2 k3 k4
    rw [xsub r5 r1, xsub r6 r2]
    exact K
end C6
