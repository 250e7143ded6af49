/-! what is thrown out of a call, here or further out; a private method of a class above -/
set_option maxRecDepth 100000
section C4b
variable {G : xG} {Y : xR} {pc : Nat} {L : List (Nat × Value)} {rest : List Value} {T T1 : xF}
/-- with the thing x thrown over the frame, the method ends as Y says -/
def Xt (G : xG) (Y : xR) (pc : Nat) (L : List (Nat × Value)) (rest : List Value) (T2 : xF) (x : xE) : Prop :=
  ∀ (p : Program) (l : Launch) (e : Env) (s : State) (m : MethodId) (args : Array Value) (below : List Frame) (meth : Method) (c : Code) (H : Heap) (locs : List Loc) (ls : Array Slot) (ce : Cell),
    xCx G Y p l s m args meth c → xDy G Y T2 s H locs → lv_has ls Y.1.2.2.1 L → H[x.2]? = some ce → ce.vm = .none → s.vm.findClass x.1 = some ce.cls →
    vx_W p l e Y.2.1 s m args below meth c H locs (T2.2.1 - Y.2.2.1.2.1) (T2.2.2 - Y.2.2.1.2.2) (xZ G Y below args s) (F0 m pc ls rest) x.2
theorem Xt.out {x : xE} (hnh : ∀ z ∈ tableOf Y.1.2.2.2.2, covers z pc = false) (ho : Y.2.2.2 = (.inr x, T)) : Xt G Y pc L rest T x := fun p l e s m args below meth c H locs ls ce hc hd hl h1 h2 h3 => X.outW hc hd hnh ho h1 h2 h3
theorem Xt.catch {x : xE} {z : ExceptionTableEntry} {nm : String} {tgt : Nat} (ht : tableOf Y.1.2.2.2.2 = [z]) (hx : covers z pc = true) (h0 : z.catchType ≠ 0) (hlk : Cond.classLink Y.1.1.cls z.catchType nm ∈ lw_all) (hca : Cond.castable nm nm ∈ lw_tbl) (hE : x.1 = nm) (htg : z.handlerPc = tgt) (kk : Xr G Y tgt L [va_rf (some x.2)] T) : Xt G Y pc L rest T x := by
  intro p l e s m args below meth c H locs ls ce hc hd hl h1 h2 h3
  have K := kk p l e s m args below meth c H locs ls hc hd hl
  obtain ⟨-, -, -, -, -, -, hown, -, hts, hK, -, -, -, htb⟩ := hc
  subst htg
  have hcast : (Cond.castable x.1 nm).before args s = true := by
    have z9 := hK.2.2.1 _ hca rfl
    rw [hE]
    unfold va_Nw Cond.before Cond.holds at z9
    unfold Cond.before Cond.holds
    simp only [Cond.value] at z9 ⊢
    exact z9
  exact vx_catch hown [] z [] (by rw [htb, ht]; rfl) (fun _ h => by cases h) hx h0 (hts _ hlk) hcast h1 h2 h3 K
theorem Ct.vx {M : xM} {D : Nat} {av : List Value} {x : xE} {T2 : xF} (h : Ct G M D T av (.inr x) T2) (h2 : xle T T2) (l : Launch) (hfl : l.flags = flags0) : vx_Met l M.1 (xws M) (xrm D T T2) (va_Pc av (xW G T)) (fun _ _ _ _ => False) (fun E q st t => E = x.1 ∧ q = x.2 ∧ (xW G T2 t ∧ xdm T T2) ∧ va_F (xAf G) st t) (T2.2.1 - T.2.1) (T2.2.2 - T.2.2) (xAf G) := by
  refine (h h2 l hfl).mono (fun _ _ h => h) (fun _ _ _ _ _ h => h) (fun a st oc t hp hq => ?_)
  obtain ⟨ce, L, rfl, h3, h4, h5, h6, h7, h8, h9⟩ := hq
  exact Or.inr ⟨x.2, rfl, x.1, ce, L, ⟨rfl, rfl, h3.1, h3.2⟩, h4, h5, h6, h7, h8, h9⟩
theorem xgoX {p : Program} {l : Launch} {e : Env} {R : Room} {s : State} {m : MethodId} {args : Array Value} {below : List Frame} {meth : Method} {c : Code} {H : Heap} {locs : List Loc} {cells slots mc ms : Nat} {Q : State → Prop} {ls : Array Slot} {st0 rest : List Value} {x : xE} {T T2 : xF}
    (hr : vx_Run p l e R s m args below meth c H locs cells slots mc ms (F0 m pc ls st0) rest (fun _ _ _ => False) (fun E q st t => E = x.1 ∧ q = x.2 ∧ (xW G T2 t ∧ xdm T T2) ∧ va_F (xAf G) st t) (xAf G)) (hS : va_S (xAf G) s.heap H locs)
    (kk : ∀ (H1 : Heap) (locs1 : List Loc) (ce : Cell), H1[x.2]? = some ce → ce.vm = .none → s.vm.findClass x.1 = some ce.cls → H1.size = T2.2.1 → (∀ (a : Nat) (c : Bool × xC), ol (gR G) T2.1 a = some c → xat G s a c H1) → va_S (xAf G) s.heap H1 locs1 → xdm T T2 → vx_W p l e R s m args below meth c H1 locs1 (cells + mc) (slots + ms) Q (F0 m pc ls rest) x.2) : W p l e R s m args below meth c H locs cells slots Q (F0 m pc ls st0) := by
  intro TT hT X
  rcases hr TT hT X with ⟨v, st₀, t, T', L, -, -, -, -, -, f, -⟩ | ⟨q, st₀, t, T', L, E, ce, h0, X', hL, e1, e2, ⟨rfl, rfl, ⟨hxw, hdm⟩, hz, hk⟩, k2, k3, k4, st⟩
  · exact f.elim
  rw [h0] at hz hk
  have hal : t.vm.Alike s.vm := by rw [← e2]; exact X'.warmed.alike.symm
  obtain ⟨t2, a1, b1⟩ := kk T'.heap (locs ++ L) ce (by rw [e1]; exact k2) k3 k4 (by rw [e1]; exact hxw.1) (fun a cc hcc => by rw [e1]; exact (hxw.2.1 a cc hcc).moved hal)
    ⟨Nat.le_trans hS.1 (by rw [e1]; exact hz), fun q h1 h2 => by rw [e1, hk q (Nat.lt_of_lt_of_le h1 hS.1) h2]; exact hS.2.1 q h1 h2, fun q hq => by
      rcases List.mem_append.mp hq with h | h
      · exact hS.2.2 q h
      · exact hL q h⟩ hdm T' rfl X'
  exact ⟨t2, st.trans a1, b1⟩
theorem X.callVt {index n b ci Dc : Nat} {Yc : xM} {w : Bool} {fs As st : List Value} {r : vw_C} {x : xE} {T2 : xF} (d : decode Y.1.2.1 pc = .ok (.invokevirtual index, 3)) (hct : Ct G Yc Dc T (.ref b :: As) (.inr x) T2) (hq : xCV Y.1.1.cls index Yc n) (hn : As.length = n) (hst : st = As.reverse ++ .ref b :: rest) (hrs : (rest.map fun v => v.category).sum ≤ 8) (hb0 : T.1 b = some (w, .inr (ci, fs))) (hci : xClS[ci]? = some r) (hrc : Yc.1.cls = r.1)
    (hD : Dc + 1 ≤ Y.2.1.frames ∧ 64 * Dc + 64 ≤ Y.2.1.locals) (h2 : xle T T2) (h3 : xle T2 Y.2.2.2.2) (k : Xt G Y pc L rest T2 x) : Xr G Y pc L st T := by
  intro p l e s m args below meth c H locs ls hc hd hl
  have hc' := hc
  obtain ⟨hfl, hx, hb, -, -, hml, hown, hname, hts, hK, hSt, hsz0, hgb, -⟩ := hc
  obtain ⟨hsz, hrep, hS9, hd1, hd2, hdm, hd3⟩ := hd
  obtain ⟨hq1, hq2, hq3, hq4⟩ := hq
  subst hst
  have hM := hct.vx h2 l hfl
  obtain ⟨y, cc, nL, ret, hh⟩ := Yc
  dsimp only at hq1 hq2 hq3 hq4 hrc
  subst hq2
  have r1 := h2.1; have r2 := h2.2; have r3 := h3.1; have r4 := h3.2; have r5 := hd1.1; have r6 := hd1.2; have r7 := hd3.1; have r8 := hd3.2
  refine xgoX (x := x) (T := T) (T2 := T2) (vx_runV (free := xAf G) (As := As) (rest := rest) (n := n) ⟨hx, hb, hml, hown, hts⟩ hM (cwV n hts hq1 rfl rfl rfl ⟨rfl, hq3⟩ ⟨hD.1, ?_⟩) ⟨xblind, ?_, fun U hU hW => ⟨rfl, ?_⟩⟩ rfl hn hl.1 rfl (lv_room hrs) d ⟨?_, ?_⟩) hS9 fun H1 locs1 ce k2 k3 k4 z1 hrep1 hS1 hdm1 => ?_
  · show 8 + (nL + 11) + 64 * Dc ≤ _
    omega
  · rw [hrc]
    exact xobj hK hci (hrep b _ (ol_some hb0))
  · exact ⟨by rw [hU]; exact hsz, fun a cc hcc => by rw [hU]; exact (hrep a cc hcc).moved hW.alike, hK.warm hW, fun i q hq => by rw [hU]; exact (xZs.moved hW.alike (hSt i q hq)).kept hS9.2.1, Nat.le_trans hgb hd1.1⟩
  · rw [xsub r5 r1]; omega
  · rw [xsub r6 r2]; omega
  · have K := k p l e s m args below meth c H1 locs1 ls ce hc' ⟨z1, hrep1, hS1, xle.tr hd1 h2, h3, xdm.tr r5 hdm hdm1, hd3⟩ hl k2 k3 k4
    rw [xsub r5 r1, xsub r6 r2]
    exact K
theorem X.callSt {index n Dc : Nat} {Yc : xM} {As st : List Value} {x : xE} {T2 : xF} (d : decode Y.1.2.1 pc = .ok (.invokestatic index, 3)) (hct : Ct G Yc Dc T As (.inr x) T2) (hq : xCS Y.1.1.cls index Yc n) (hn : As.length = n) (hst : st = As.reverse ++ rest) (hrs : (rest.map fun v => v.category).sum ≤ 8)
    (hD : Dc + 1 ≤ Y.2.1.frames ∧ 64 * Dc + 64 ≤ Y.2.1.locals) (h2 : xle T T2) (h3 : xle T2 Y.2.2.2.2) (k : Xt G Y pc L rest T2 x) : Xr G Y pc L st T := by
  intro p l e s m args below meth c H locs ls hc hd hl
  have hc' := hc
  obtain ⟨hfl, hx, hb, -, -, hml, hown, hname, hts, hK, hSt, hsz0, hgb, -⟩ := hc
  obtain ⟨hsz, hrep, hS9, hd1, hd2, hdm, hd3⟩ := hd
  obtain ⟨hq1, hq2, hq3, hq4⟩ := hq
  subst hst
  have hM := hct.vx h2 l hfl
  obtain ⟨y, cc, nL, ret, hh⟩ := Yc
  dsimp only at hq1 hq2 hq3 hq4
  subst hq2
  have r1 := h2.1; have r2 := h2.2; have r3 := h3.1; have r4 := h3.2; have r5 := hd1.1; have r6 := hd1.2; have r7 := hd3.1; have r8 := hd3.2
  refine xgoX (x := x) (T := T) (T2 := T2) (vx_runS (free := xAf G) (As := As) (rest := rest) (n := n) ⟨hx, hb, hml, hown, hts⟩ hM (va_cwS n hts hq1 rfl rfl rfl hq3 ⟨hD.1, ?_⟩) ⟨xblind, fun U hU hW => ⟨rfl, ?_⟩⟩ rfl hn hl.1 rfl (lv_room hrs) d ⟨?_, ?_⟩) hS9 fun H1 locs1 ce k2 k3 k4 z1 hrep1 hS1 hdm1 => ?_
  · show 8 + (nL + 11) + 64 * Dc ≤ _
    omega
  · exact ⟨by rw [hU]; exact hsz, fun a cc hcc => by rw [hU]; exact (hrep a cc hcc).moved hW.alike, hK.warm hW, fun i q hq => by rw [hU]; exact (xZs.moved hW.alike (hSt i q hq)).kept hS9.2.1, Nat.le_trans hgb hd1.1⟩
  · rw [xsub r5 r1]; omega
  · rw [xsub r6 r2]; omega
  · have K := k p l e s m args below meth c H1 locs1 ls ce hc' ⟨z1, hrep1, hS1, xle.tr hd1 h2, h3, xdm.tr r5 hdm hdm1, hd3⟩ hl k2 k3 k4
    rw [xsub r5 r1, xsub r6 r2]
    exact K
theorem C.Vt {index n Dc : Nat} {ci : Nat} {rr : vw_C} {Yc : xM} {r : Option Nat} {As st : List Value} {x : xE} (d : decode Y.1.2.1 pc = .ok (.invokevirtual index, 3)) (hct : Ct G Yc Dc T (va_rf r :: As) (.inr x) T1) (hq : xCV Y.1.1.cls index Yc n) (hr : isO T r ci = true) (hn : As.length = n) (hst : st = As.reverse ++ va_rf r :: rest) (hrs : (rest.map fun v => v.category).sum ≤ 8) (hci : xClS[ci]? = some rr) (hrc : Yc.1.cls = rr.1) (hD : Dc + 1 ≤ Y.2.1.frames ∧ 64 * Dc + 64 ≤ Y.2.1.locals) (h2 : xle T T1) (h3 : xle T1 Y.2.2.2.2) (k : Xt G Y pc L rest T1 x) : Xr G Y pc L st T := by
  obtain ⟨a, w, fs, rfl, h1⟩ := isO_ok hr
  exact X.callVt d hct hq hn hst hrs h1 hci hrc hD h2 h3 k
theorem C.Vx {index n Dc : Nat} {ci : Nat} {rr : vw_C} {Yc : xM} {r : Option Nat} {As st : List Value} {x : xE} (d : decode Y.1.2.1 pc = .ok (.invokevirtual index, 3)) (hct : Ct G Yc Dc T (va_rf r :: As) (.inr x) T1) (hq : xCV Y.1.1.cls index Yc n) (hr : isO T r ci = true) (hn : As.length = n) (hst : st = As.reverse ++ va_rf r :: rest) (hrs : (rest.map fun v => v.category).sum ≤ 8) (hci : xClS[ci]? = some rr) (hrc : Yc.1.cls = rr.1) (hD : Dc + 1 ≤ Y.2.1.frames ∧ 64 * Dc + 64 ≤ Y.2.1.locals) (h2 : xle T T1) (h3 : xle T1 Y.2.2.2.2) (hnh : ∀ z ∈ tableOf Y.1.2.2.2.2, covers z pc = false) (ho : Y.2.2.2 = (.inr x, T1)) : Xr G Y pc L st T := C.Vt d hct hq hr hn hst hrs hci hrc hD h2 h3 (Xt.out hnh ho)
theorem C.Vh {index n Dc : Nat} {ci : Nat} {rr : vw_C} {Yc : xM} {r : Option Nat} {As st : List Value} {x : xE} {z : ExceptionTableEntry} {nm : String} {tgt : Nat} (d : decode Y.1.2.1 pc = .ok (.invokevirtual index, 3)) (hct : Ct G Yc Dc T (va_rf r :: As) (.inr x) T1) (hq : xCV Y.1.1.cls index Yc n) (hr : isO T r ci = true) (hn : As.length = n) (hst : st = As.reverse ++ va_rf r :: rest) (hrs : (rest.map fun v => v.category).sum ≤ 8) (hci : xClS[ci]? = some rr) (hrc : Yc.1.cls = rr.1) (hD : Dc + 1 ≤ Y.2.1.frames ∧ 64 * Dc + 64 ≤ Y.2.1.locals) (h2 : xle T T1) (h3 : xle T1 Y.2.2.2.2)
    (ht : tableOf Y.1.2.2.2.2 = [z]) (hx : covers z pc = true) (h0 : z.catchType ≠ 0) (hlk : Cond.classLink Y.1.1.cls z.catchType nm ∈ lw_all) (hca : Cond.castable nm nm ∈ lw_tbl) (hE : x.1 = nm) (htg : z.handlerPc = tgt) (kk : Xr G Y tgt L [va_rf (some x.2)] T1) : Xr G Y pc L st T := C.Vt d hct hq hr hn hst hrs hci hrc hD h2 h3 (Xt.catch ht hx h0 hlk hca hE htg kk)
theorem C.Sx {index n Dc : Nat} {Yc : xM} {As st : List Value} {x : xE} (d : decode Y.1.2.1 pc = .ok (.invokestatic index, 3)) (hct : Ct G Yc Dc T As (.inr x) T1) (hq : xCS Y.1.1.cls index Yc n) (hn : As.length = n) (hst : st = As.reverse ++ rest) (hrs : (rest.map fun v => v.category).sum ≤ 8) (hD : Dc + 1 ≤ Y.2.1.frames ∧ 64 * Dc + 64 ≤ Y.2.1.locals) (h2 : xle T T1) (h3 : xle T1 Y.2.2.2.2) (hnh : ∀ z ∈ tableOf Y.1.2.2.2.2, covers z pc = false) (ho : Y.2.2.2 = (.inr x, T1)) : Xr G Y pc L st T := X.callSt d hct hq hn hst hrs hD h2 h3 (Xt.out hnh ho)
end C4b
/-! a private method of a class above: it is chosen whatever the object -/
theorem sel_priv {s : State} {args : Array Value} {C : String} {x0 y : MethodName} (h1 : (Cond.selects C x0 x0).before args s = true) (hx : x0.cls = y.cls) (hp : s.PrivateAt y) (hinst : (Cond.instanceMethod y).before args s = true) (hy : y.cls ≠ "java/lang/invoke/MethodHandle" ∧ y.cls ≠ "java/lang/invoke/VarHandle") : (Cond.selects C y y).before args s = true := by
  obtain ⟨c2, r2, m2, q1, q2, q3, q4, kP, hkP, hkPi⟩ := Cond.selects_spec h1
  obtain ⟨mk, methM, hnamed, hmethM, -, -⟩ := Cond.instanceMethod_spec hinst
  have hfound : s.methodFound? y.cls y.name y.desc = some mk := State.methodFound?_of_named hnamed hy
  have hcls : mk.cls = m2.cls := by
    have e1 := findClass_of_methodNamed hnamed
    have e2 := findClass_of_methodNamed q3
    rw [hx] at e2
    exact Option.some.inj (e1.symm.trans e2)
  have hsel : selectMethod {} s.vm c2 mk = .method mk := selectMethod_private hmethM (hp mk methM hnamed hmethM)
  rw [← hcls] at hkP
  simp only [Cond.before, Cond.holds, Cond.value, q1, hfound, hnamed, hsel, hkP]
  simp; exact hkPi
def va_wsP (own : String) (idx : Nat) (y : MethodName) (ws : List Cond) : List Cond := ([.methodLink own idx y, .sameMethod y.cls y.cls y.name y.desc, .instanceMethod y, .initialized y.cls] : List Cond) ++ ws
theorem va_cwP {R : Room} {s : State} {args : Array Value} {own C : String} {index maxL mc ms : Nat} {y : MethodName} {bytes : ByteArray} {ret : Option FieldType} {Ts ws ws' : List Cond} {rm : Room} (n : Nat) (ht : ∀ w ∈ Ts, w.before args s = true) (hT : GoodIn Ts (va_wsP own index y ws)) (hw : ws = Cond.code y bytes maxL ret :: ws') (hrc : rm.cells = mc) (hrs : rm.slots = ms)
    (hsel : (Cond.selects C y y).before args s = true) (hd : y.cls ≠ "java/lang/invoke/MethodHandle" ∧ y.cls ≠ "java/lang/invoke/VarHandle" ∧ (parseMethodDescriptor y.desc).map (fun d => d.parameters.length) = some n) (hR : rm.frames + 1 ≤ R.frames ∧ 8 + (maxL + 11) + rm.locals ≤ R.locals) : va_CU R s args own C y.cls index y y bytes maxL ret ws rm mc ms n := by
  have ok : ∀ w ∈ va_wsP own index y ws, w.before args s = true := fun w h => ht w (hT w h).1
  have hG : GoodIn Ts ws := fun w h => hT w (by unfold va_wsP; exact List.mem_append_right _ h)
  have hc : Cond.code y bytes maxL ret ∈ ws := by rw [hw]; exact List.mem_cons_self
  refine ⟨⟨hrc, hrs, hR.1, hR.2, pay_in ht hG, hc⟩, ht _ (hG _ hc).1, ok _ (by simp [va_wsP]), ⟨hd.1, hd.2.1⟩, fun sig h => ?_, ok _ (by simp [va_wsP]), ok _ (by simp [va_wsP]), va_Decl.of (ok _ (by simp [va_wsP])) (ht _ (hG _ hc).1), hsel, ok _ (by simp [va_wsP])⟩
  have h2 := hd.2.2
  rw [h] at h2
  exact (Option.some.inj h2).symm
def xCP (own : String) (index : Nat) (C : String) (Yc : xM) (n : Nat) : Prop := GoodIn lw_all (va_wsP own index Yc.1 (ws_ Yc.1 Yc.2.1 Yc.2.2.1 Yc.2.2.2.1)) ∧ Yc.2.2.2.2 = [] ∧ (Yc.1.cls ≠ "java/lang/invoke/MethodHandle" ∧ Yc.1.cls ≠ "java/lang/invoke/VarHandle" ∧ (parseMethodDescriptor Yc.1.desc).map (fun d => d.parameters.length) = some n) ∧ Yc.2.2.1 ≤ 45 ∧ Cond.privateMethod Yc.1 ∈ lw_tbl ∧ ∃ x0 : MethodName, x0.cls = Yc.1.cls ∧ Cond.selects C x0 x0 ∈ lw_all
section C5
variable {G : xG} {Y : xR} {pc : Nat} {L : List (Nat × Value)} {rest : List Value} {T : xF}
theorem X.callP {index n b ci Dc : Nat} {Yc : xM} {C : String} {w : Bool} {fs : List Value} {r : vw_C} {As st : List Value} {v : Option Value} {T2 : xF} (d : decode Y.1.2.1 pc = .ok (.invokevirtual index, 3)) (hct : Ct G Yc Dc T (.ref b :: As) (.inl v) T2) (hq : xCP Y.1.1.cls index C Yc n) (hn : As.length = n) (hst : st = As.reverse ++ .ref b :: rest) (hrs : (rest.map fun v => v.category).sum ≤ 8) (hb0 : T.1 b = some (w, .inr (ci, fs))) (hci : xCl[ci]? = some r) (hrc : C = r.1)
    (hD : Dc + 1 ≤ Y.2.1.frames ∧ 64 * Dc + 64 ≤ Y.2.1.locals) (h2 : xle T T2) (h3 : xle T2 Y.2.2.2.2) (k : Xr G Y (pc + 3) L (v.toList ++ rest) T2) : Xr G Y pc L st T := by
  intro p l e s m args below meth c H locs ls hc hd hl
  have hc' := hc
  obtain ⟨hfl, hx, hb, -, -, hml, hown, hname, hts, hK, hSt, hsz0, hgb, -⟩ := hc
  obtain ⟨hsz, hrep, hS9, hd1, hd2, hdm, hd3⟩ := hd
  obtain ⟨hq1, hq2, hq3, hq4, hq5, x0, hq6, hq7⟩ := hq
  subst hst
  have hM := hct h2 l hfl
  obtain ⟨y, cc, nL, ret, hh⟩ := Yc
  dsimp only at hq1 hq2 hq3 hq4 hq5 hq6
  subst hq2
  have hin9 : (Cond.instanceMethod y).before args s = true := hts _ (hq1 _ (by simp [va_wsP])).1
  have hse9 : (Cond.selects C y y).before args s = true := sel_priv (hts _ hq7) hq6 (Cond.privateMethod_at (va_Nw.use rfl (A := args) (hK.2.2.1 _ hq5 rfl))) hin9 ⟨hq3.1, hq3.2.1⟩
  have r1 := h2.1; have r2 := h2.2; have r3 := h3.1; have r4 := h3.2; have r5 := hd1.1; have r6 := hd1.2; have r7 := hd3.1; have r8 := hd3.2
  refine xgo (va_runU (Qc := fun _ st oc t => oc = .returned v ∧ (xW G T2 t ∧ xdm T T2) ∧ va_F (xAf G) st t) (free := xAf G) (As := As) (rest := rest) (n := n) ⟨hx, hb, hml, hown, hts⟩ hM (va_cwP n hts hq1 rfl rfl rfl hse9 hq3 ⟨hD.1, ?_⟩) ⟨xblind, ?_, fun U hU hW => ⟨rfl, ?_⟩⟩ rfl hn hl.1 rfl (lv_room hrs) d ⟨?_, ?_⟩) hS9 fun H1 locs1 z1 hrep1 hS1 hdm1 => ?_
  · show 8 + (nL + 11) + 64 * Dc ≤ _
    omega
  · rw [hrc]
    exact xobj hK (xcl_up hci) (hrep b _ (ol_some hb0))
  · exact ⟨by rw [hU]; exact hsz, fun a cc hcc => by rw [hU]; exact (hrep a cc hcc).moved hW.alike, hK.warm hW, fun i q hq => by rw [hU]; exact (xZs.moved hW.alike (hSt i q hq)).kept hS9.2.1, Nat.le_trans hgb hd1.1⟩
  · rw [xsub r5 r1]; omega
  · rw [xsub r6 r2]; omega
  · have K := k p l e s m args below meth c H1 locs1 ls hc' ⟨z1, hrep1, hS1, xle.tr hd1 h2, h3, xdm.tr r5 hdm hdm1, hd3⟩ hl
    rw [xsub r5 r1, xsub r6 r2]
    exact K
theorem C.Pi {index n Dc : Nat} {ci : Nat} {rr : vw_C} {C : String} {Yc : xM} {r : Option Nat} {As st : List Value} {T1 : xF} {v : Int32} (d : decode Y.1.2.1 pc = .ok (.invokevirtual index, 3)) (hct : Ct G Yc Dc T (va_rf r :: As) (.inl (some (.int v))) T1) (hq : xCP Y.1.1.cls index C Yc n) (hr : isO T r ci = true) (hn : As.length = n) (hst : st = As.reverse ++ va_rf r :: rest) (hrs : (rest.map fun v => v.category).sum ≤ 8) (hci : xCl[ci]? = some rr) (hrc : C = rr.1) (hD : Dc + 1 ≤ Y.2.1.frames ∧ 64 * Dc + 64 ≤ Y.2.1.locals) (h2 : xle T T1) (h3 : xle T1 Y.2.2.2.2) (k : Xr G Y (pc + 3) L (.int v :: rest) T1) : Xr G Y pc L st T := by
  obtain ⟨a, w, fs, rfl, h1⟩ := isO_ok hr
  exact X.callP d hct hq hn hst hrs h1 hci hrc hD h2 h3 k
theorem C.Pq {index n Dc : Nat} {ci : Nat} {rr : vw_C} {C : String} {Yc : xM} {r : Option Nat} {As st : List Value} {T1 : xF} {v : Option Nat} (d : decode Y.1.2.1 pc = .ok (.invokevirtual index, 3)) (hct : Ct G Yc Dc T (va_rf r :: As) (.inl (some (va_rf v))) T1) (hq : xCP Y.1.1.cls index C Yc n) (hr : isO T r ci = true) (hn : As.length = n) (hst : st = As.reverse ++ va_rf r :: rest) (hrs : (rest.map fun v => v.category).sum ≤ 8) (hci : xCl[ci]? = some rr) (hrc : C = rr.1) (hD : Dc + 1 ≤ Y.2.1.frames ∧ 64 * Dc + 64 ≤ Y.2.1.locals) (h2 : xle T T1) (h3 : xle T1 Y.2.2.2.2) (k : Xr G Y (pc + 3) L (va_rf v :: rest) T1) : Xr G Y pc L st T := by
  obtain ⟨a, w, fs, rfl, h1⟩ := isO_ok hr
  exact X.callP d hct hq hn hst hrs h1 hci hrc hD h2 h3 k
theorem C.Pv {index n Dc : Nat} {ci : Nat} {rr : vw_C} {C : String} {Yc : xM} {r : Option Nat} {As st : List Value} {T1 : xF} (d : decode Y.1.2.1 pc = .ok (.invokevirtual index, 3)) (hct : Ct G Yc Dc T (va_rf r :: As) (.inl none) T1) (hq : xCP Y.1.1.cls index C Yc n) (hr : isO T r ci = true) (hn : As.length = n) (hst : st = As.reverse ++ va_rf r :: rest) (hrs : (rest.map fun v => v.category).sum ≤ 8) (hci : xCl[ci]? = some rr) (hrc : C = rr.1) (hD : Dc + 1 ≤ Y.2.1.frames ∧ 64 * Dc + 64 ≤ Y.2.1.locals) (h2 : xle T T1) (h3 : xle T1 Y.2.2.2.2) (k : Xr G Y (pc + 3) L (rest) T1) : Xr G Y pc L st T := by
  obtain ⟨a, w, fs, rfl, h1⟩ := isO_ok hr
  exact X.callP d hct hq hn hst hrs h1 hci hrc hD h2 h3 k
end C5
theorem lw_U {own : String} {idx : Nat} {C : String} {y : MethodName} {b : ByteArray} {L : Nat} {r : Option FieldType} (h1 : Cond.methodLink own idx y ∈ lw_all) (h2 : Cond.sameMethod y.cls y.cls y.name y.desc ∈ lw_all) (h3 : Cond.selects C y y ∈ lw_all) (h4 : Cond.instanceMethod y ∈ lw_all) (h5 : Cond.initialized y.cls ∈ lw_all) (hc : Cond.code y b L r ∈ lw_all) : GoodIn lw_all (va_wsU own idx C y.cls y y (ws_ y b L r)) := by
  refine lw_app ?_ (lw_meth hc)
  intro w hw
  simp only [List.mem_cons, List.not_mem_nil, or_false] at hw
  rcases hw with e | e | e | e | e
  · rw [e]; exact h1
  · rw [e]; exact h2
  · rw [e]; exact h3
  · rw [e]; exact h4
  · rw [e]; exact h5
theorem lw_SU {own : String} {idx : Nat} {y : MethodName} {b : ByteArray} {L : Nat} {r : Option FieldType} (h1 : Cond.methodLink own idx y ∈ lw_all) (h2 : Cond.sameMethod y.cls y.cls y.name y.desc ∈ lw_all) (h3 : Cond.superclass own y.cls ∈ lw_all) (h4 : Cond.instanceMethod y ∈ lw_all) (h5 : Cond.initialized y.cls ∈ lw_all) (hc : Cond.code y b L r ∈ lw_all) : GoodIn lw_all (va_wsSU own idx y (ws_ y b L r)) := by
  refine lw_app ?_ (lw_meth hc)
  intro w hw
  simp only [List.mem_cons, List.not_mem_nil, or_false] at hw
  rcases hw with e | e | e | e | e
  · rw [e]; exact h1
  · rw [e]; exact h2
  · rw [e]; exact h3
  · rw [e]; exact h4
  · rw [e]; exact h5
theorem lw_F {own : String} {idx : Nat} {C : String} {x : MethodName} {y : MethodName} {b : ByteArray} {L : Nat} {r : Option FieldType} (h1 : Cond.methodLink own idx x ∈ lw_all) (h2 : Cond.selects C x y ∈ lw_all) (h3 : Cond.instanceMethod y ∈ lw_all) (h4 : Cond.initialized y.cls ∈ lw_all) (hc : Cond.code y b L r ∈ lw_all) : GoodIn lw_all (va_wsF own idx C x y (ws_ y b L r)) := by
  refine lw_app ?_ (lw_meth hc)
  intro w hw
  simp only [List.mem_cons, List.not_mem_nil, or_false] at hw
  rcases hw with e | e | e | e
  · rw [e]; exact h1
  · rw [e]; exact h2
  · rw [e]; exact h3
  · rw [e]; exact h4
theorem lw_P {own : String} {idx : Nat} {y : MethodName} {b : ByteArray} {L : Nat} {r : Option FieldType} (h1 : Cond.methodLink own idx y ∈ lw_all) (h2 : Cond.sameMethod y.cls y.cls y.name y.desc ∈ lw_all) (h3 : Cond.instanceMethod y ∈ lw_all) (h4 : Cond.initialized y.cls ∈ lw_all) (hc : Cond.code y b L r ∈ lw_all) : GoodIn lw_all (va_wsP own idx y (ws_ y b L r)) := by
  refine lw_app ?_ (lw_meth hc)
  intro w hw
  simp only [List.mem_cons, List.not_mem_nil, or_false] at hw
  rcases hw with e | e | e | e
  · rw [e]; exact h1
  · rw [e]; exact h2
  · rw [e]; exact h3
  · rw [e]; exact h4
theorem Ct.ofFH {G : xG} {M : xM} {D : Nat} {T : xF} {av : List Value} {o : xO} {T1 : xF} {a : Nat × Nat × Nat × Nat} {r : List (Nat × Nat × Nat × Nat)} (hy : plainFor M.1 = true) (hh : M.2.2.2.2 = a :: r) (hn : (lg_sl av).length ≤ M.2.2.1) (h : Xr G (M, xrm D T T1, T, o, T1) 0 (lv_args 0 av) [] T) : Ct G M D T av o T1 := by
  intro hle l hfl
  obtain ⟨y, cc, nL, ret, hhs⟩ := M
  dsimp only at hy hh hn
  subst hh
  refine MetFree.of_bodySF (code := cc) (maxLocals := nL) (ret := ret) hy ?_ ?_
  · intro args s m hp hnm
    obtain ⟨m9, meth, c, hn9, h1, h2, h3, h4, -, h5, h6, -⟩ := Cond.codeWith_spec (atoms_spec (ws := xws (y, cc, nL, ret, a :: r)) hp _ List.mem_cons_self)
    cases hnm.symm.trans hn9
    exact ⟨meth, c, h1, h2, h3, h4, h5, h6⟩
  · intro p e s m args below meth c s₁ B hml hP _
    obtain ⟨rfl, hw⟩ := hP
    have hh0 : s₁.heap = s.heap := by rw [B.state]; rfl
    have ht : c.exceptionTable.toList = tableOf (a :: r) := by
      obtain ⟨m9, meth9, c9, hn9, h1, h2, -, -, h6, -⟩ := Cond.codeWith_spec (atoms_spec (ws := xws (y, cc, nL, ret, a :: r)) B.pre _ List.mem_cons_self)
      cases Option.some.inj (hn9.symm.trans B.named)
      cases Option.some.inj (h1.symm.trans B.method)
      cases Option.some.inj (h2.symm.trans (Stand.of_body B).code)
      dsimp only at h6
      rw [← h6, table_eq]
    have hts : ∀ w ∈ lw_all, w.before av.toArray s = true := fun w hw' => atoms_spec (ws := xws (y, cc, nL, ret, a :: r)) B.pre w (List.mem_cons_of_mem _ hw')
    have hl := lv_entry av (n := nL) hn
    have K := h p l e s m av.toArray below meth c s.heap [] _ ⟨hfl, B.exec, B.bytes, B.returns, B.notSynchronized, hml, findClass_of_methodNamed B.named, (name_of_methodNamed B.named B.method).1, hts, hw.2.2.1, hw.2.2.2.1, hw.1, hw.2.2.2.2, ht⟩ ⟨hw.1, hw.2.1, va_S.rf, xle.rf, hle, xdm.rf, Nat.le_refl _, Nat.le_refl _⟩ hl
    rw [← lg_entry_eq] at K
    dsimp only at K
    rw [Nat.sub_self, Nat.sub_self] at K
    obtain ⟨t, a1, oc, b1, b2, b3⟩ := K s₁ hh0 (Stand.of_body B)
    exact ⟨t, oc, a1, b1, b2, b3⟩
theorem Ct.ofch {G : xG} {M : xM} {D : Nat} {T : xF} {av : List Value} {o : xO} {T1 : xF} {a : Nat × Nat × Nat × Nat} {r : List (Nat × Nat × Nat × Nat)} (hy : plainFor M.1 = true) (hh : M.2.2.2.2 = a :: r) (hc : xcv av) (hn : av.length ≤ M.2.2.1) (h : Xr G (M, xrm D T T1, T, o, T1) 0 (xix 0 av) [] T) : Ct G M D T av o T1 :=
  Ct.ofFH hy hh (by rw [xsl_ok av hc]; exact hn) (by rw [xix_ok av 0 hc]; exact h)
theorem xTh.of {own cls : String} {ik ic : Nat} (h1 : Bundle.fit cls = true) (h2 : Cond.classLink own ik cls ∈ lw_all) (h3 : Cond.initialized cls ∈ lw_all) (h4 : ∀ w ∈ vx_at0 own ic cls ["java/lang/RuntimeException", "java/lang/Exception"], w ∈ lw_tbl) (h5 : (vx_at0 own ic cls ["java/lang/RuntimeException", "java/lang/Exception"]).all (fun w => goodWord w || (xExt w && w.onTables)) = true) : xTh own ik ic cls := by
  have h6 : ∀ w ∈ vx_at0 own ic cls ["java/lang/RuntimeException", "java/lang/Exception"], goodWord w = false → xExt w = true ∧ w.onTables = true := fun w hw hg => by
    have := List.all_eq_true.mp h5 w hw
    rw [hg, Bool.false_or, Bool.and_eq_true] at this
    exact this
  refine ⟨h1, h2, h3, List.all_eq_true.mpr (fun w hw => ?_), fun w hw hg => lw_g (h4 w hw) hg, fun w hw hg => ⟨h4 w hw, h6 w hw hg⟩⟩
  unfold vx_ot
  cases hg : goodWord w with
  | true => rw [Bool.or_true]
  | false => rw [(h6 w hw hg).2]; rfl
