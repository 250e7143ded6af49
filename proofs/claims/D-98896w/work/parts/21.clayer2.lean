/-! more rows of the system: texts, class objects, arrays of references, copies -/
set_option maxRecDepth 100000
theorem xval_q {n : Nat} {f : Nat → Option Nat} (j : Nat) : xval (n, .inr (.inr (.inr (.inr f)))) j = va_rf (f j) := rfl
theorem xval_i {n : Nat} {f : Nat → Int32} (j : Nat) : xval (n, .inl f) j = .int (f j) := rfl
section C2
variable {G : xG} {Y : xR} {pc : Nat} {L : List (Nat × Value)} {rest : List Value} {T T' : xF}
theorem getStr {index k a : Nat} {w : Bool} {fs : List Value} {v : Value} (d : decode Y.1.2.1 pc = .ok (.getfield index, 3)) (hlk : Cond.fieldLink Y.1.1.cls index "java/lang/String" (TStr k).2.1 (TStr k).2.2.1 ∈ lw_all) (hk : k < 2) (ha : T.1 a = some (w, .inr (15, fs))) (hv : fs[k]? = some v) (kk : Xr G Y (pc + 3) L (v :: rest) T) : Xr G Y pc L (.ref a :: rest) T := by
  intro p l e s m args below meth c H locs ls hc hd hl
  have K := kk p l e s m args below meth c H locs ls hc hd hl
  obtain ⟨-, hx, hb, -, -, -, hown, -, hts, hK, -⟩ := hc
  have hat := hd.2.1 a _ (ol_some ha)
  obtain ⟨r, cell, h1, h2, h3, h4, h5, -, h6⟩ : ∃ (r : vw_C) (cell : Cell), xClS[15]? = some r ∧ H[a]? = some cell ∧ cell.cls = gC G 15 ∧ cell.vm.isStatics = false ∧ cell.vm ≠ .unknown ∧ (w = true → cell.vm = .none ∧ gB G ≤ a ∧ fs.length = r.2.2) ∧ ∀ k : Nat, k < fs.length → k < r.2.2 → cell.slots[gI G 15 k]? = some (vp_V fs k) := by
    cases w <;> exact hat
  have hr : r = ("java/lang/String", TStr, 2) := by cases h1; rfl
  subst hr
  obtain ⟨cf, kf, fi, f, hi, hst, hsl⟩ := hK.2.2.2.2.1.2 k hk
  have hkl : k < fs.length := (List.getElem?_eq_some_iff.mp hv).1
  refine W.getf hx hb hown (hts _ hlk) hi hst h2 h5 (v := v) ?_ rfl rfl d K
  rw [hsl, h6 k hkl hk]
  simp [vp_V, hv]
theorem C.strI {index k : Nat} {r : Option Nat} {v : Int32} (d : decode Y.1.2.1 pc = .ok (.getfield index, 3)) (hlk : Cond.fieldLink Y.1.1.cls index "java/lang/String" (TStr k).2.1 (TStr k).2.2.1 ∈ lw_all) (hk : k < 2) (h : oI T r 15 k = some v) (kk : Xr G Y (pc + 3) L (.int v :: rest) T) : Xr G Y pc L (va_rf r :: rest) T := by
  obtain ⟨a, w, fs, rfl, h1, h2⟩ := oI_ok h
  exact getStr d hlk hk h1 h2 kk
theorem C.strQ {index k : Nat} {r v : Option Nat} (d : decode Y.1.2.1 pc = .ok (.getfield index, 3)) (hlk : Cond.fieldLink Y.1.1.cls index "java/lang/String" (TStr k).2.1 (TStr k).2.2.1 ∈ lw_all) (hk : k < 2) (h : oQ T r 15 k = some v) (kk : Xr G Y (pc + 3) L (va_rf v :: rest) T) : Xr G Y pc L (va_rf r :: rest) T := by
  obtain ⟨a, w, fs, rfl, h1, h2⟩ := oQ_ok h
  exact getStr d hlk hk h1 h2 kk
theorem C.ldcS {index i : Nat} {tx : String} (d : decode Y.1.2.1 pc = .ok (.ldc index, 2)) (hq : xStrs[i]? = some (index, tx)) (hown : Y.1.1.cls = "MouldVotes$Reader") (kk : Xr G Y (pc + 2) L (va_rf (some (gT G i)) :: rest) T) : Xr G Y pc L rest T := by
  intro p l e s m args below meth c H locs ls hc hd hl
  have K := kk p l e s m args below meth c H locs ls hc hd hl
  obtain ⟨-, hx, hb, -, -, -, hown1, -, hts, hK, -⟩ := hc
  rw [hown] at hown1
  exact va_ldcS hx hb hown1 (hK.2.2.2.2.2.1 i _ hq) d K
theorem va_ldcwS {p : Program} {l : Launch} {e : Env} {R : Room} {s : State} {m : MethodId} {args : Array Value} {below : List Frame} {meth : Method} {c : Code} {H : Heap} {locs : List Loc} {cells slots : Nat} {Q : State → Prop} {cc : ByteArray} {ls : Array Slot} (hexec : p.tables.exec = Jvm.exec) (hb : c.code = cc) {own C : String} {index i mi : Nat} (hown : s.vm.findClass own = some m.cls) (hlink : (Cond.classLink own index C).before args s = true) (hM : va_Mi C mi s) (hdg : decode cc pc = .ok (.ldc index, 2))
    (k : W p l e R s m args below meth c H locs cells slots Q (F0 m (pc + 2) ls (.ref mi :: rest))) : W p l e R s m args below meth c H locs cells slots Q (F0 m pc ls rest) := va_ldcM hexec hb hown hlink hM hdg k
theorem C.ldcM {index i : Nat} {C : String} (d : decode Y.1.2.1 pc = .ok (.ldc index, 2)) (hq : xMis[i]? = some C) (hlk : Cond.classLink Y.1.1.cls index C ∈ lw_all) (kk : Xr G Y (pc + 2) L (va_rf (some (gM G i)) :: rest) T) : Xr G Y pc L rest T := by
  intro p l e s m args below meth c H locs ls hc hd hl
  have K := kk p l e s m args below meth c H locs ls hc hd hl
  obtain ⟨-, hx, hb, -, -, -, hown1, -, hts, hK, -⟩ := hc
  exact va_ldcM hx hb hown1 (hts _ hlk) (hK.2.2.2.2.2.2.1 i _ hq) d K
/-- an array of Objects -/
def isOA (T : xF) (r : Option Nat) : Bool := match r with
  | none => false
  | some a => match T.1 a with
    | some (_, .inl (t, _)) => decide (t = .object "java/lang/Object")
    | _ => false
theorem C.getCA {index : Nat} {r : Option Nat} (d : decode Y.1.2.1 pc = .ok (.invokevirtual index, 3)) (hlk : Cond.methodLink Y.1.1.cls index ⟨"java/lang/Object", "getClass", "()Ljava/lang/Class;"⟩ ∈ lw_all) (hs : Cond.selects "[Ljava/lang/Object;" ⟨"java/lang/Object", "getClass", "()Ljava/lang/Class;"⟩ ⟨"java/lang/Object", "getClass", "()Ljava/lang/Class;"⟩ ∈ lw_all) (hi : Cond.instanceMethod ⟨"java/lang/Object", "getClass", "()Ljava/lang/Class;"⟩ ∈ lw_all) (hn : Cond.native ⟨"java/lang/Object", "getClass", "()Ljava/lang/Class;"⟩ ∈ lw_all) (hr : isOA T r = true) (hrs : (rest.map fun v => v.category).sum ≤ 8) (hD : 1 ≤ Y.2.1.frames ∧ 64 ≤ Y.2.1.locals) (kk : Xr G Y (pc + 3) L (va_rf (some (gM G 1)) :: rest) T) : Xr G Y pc L (va_rf r :: rest) T := by
  intro p l e s m args below meth c H locs ls hc hd hl
  have K := kk p l e s m args below meth c H locs ls hc hd hl
  obtain ⟨-, hx, hb, -, -, hml, hown1, -, hts, hK, -⟩ := hc
  unfold isOA at hr
  cases r with
  | none => cases hr
  | some a =>
    dsimp only at hr
    split at hr
    · next w t A e =>
      have ht := of_decide_eq_true hr
      subst ht
      have hcell : ∃ cell : Cell, H[a]? = some cell ∧ cell.vm.isStatics = false ∧ s.vm.findClass "[Ljava/lang/Object;" = some cell.cls := by
        have hfind : s.vm.findClass "[Ljava/lang/Object;" = some (gA G (.object "java/lang/Object")) := va_nmO ((hK.2.1 _ (by decide)).2) rfl
        have h9 := hd.2.1 a _ (ol_some e)
        cases w with
        | false =>
          obtain ⟨cell, h1, h2, h3, h4, h5, h6, h7⟩ := h9
          obtain ⟨q1, -⟩ := h2
          exact ⟨cell, h1, (by cases hv : cell.vm <;> first | rfl | exact absurd hv (q1 _)), by rw [h7 rfl]; exact hfind⟩
        | true =>
          obtain ⟨h1, h2, h3⟩ := h9
          rw [xval_cell] at h1
          exact ⟨_, h1, rfl, hfind⟩
      exact va_getC hx hb (hml.trans hl.1.symm) hown1 (hts _ hlk) (va_Dc.use hK.2.2.2.2.2.2.2.1) (hts _ hs) (hts _ hi) (hts _ hn) (hK.2.2.2.2.2.2.1 1 _ rfl) hcell hD.1 (by omega) d K
    · cases hr
theorem C.getCI {index cnt : Nat} {r : Option Nat} (d : decode Y.1.2.1 pc = .ok (.invokeinterface index cnt, 5)) (hlk : Cond.methodLink Y.1.1.cls index ⟨"java/util/Collection", "getClass", "()Ljava/lang/Class;"⟩ ∈ lw_all) (hs : Cond.selects "java/util/ArrayList" ⟨"java/lang/Object", "getClass", "()Ljava/lang/Class;"⟩ ⟨"java/lang/Object", "getClass", "()Ljava/lang/Class;"⟩ ∈ lw_all) (hi : Cond.instanceMethod ⟨"java/lang/Object", "getClass", "()Ljava/lang/Class;"⟩ ∈ lw_all) (hn : Cond.native ⟨"java/lang/Object", "getClass", "()Ljava/lang/Class;"⟩ ∈ lw_all)
    (hface : Cond.interfaceMethod "java/util/Collection" "java/lang/Object" "getClass" "()Ljava/lang/Class;" ∈ lw_tbl) (hdecl : Cond.declares ⟨"java/lang/Object", "getClass", "()Ljava/lang/Class;"⟩ ∈ lw_tbl) (hpub : Cond.publicMethod ⟨"java/lang/Object", "getClass", "()Ljava/lang/Class;"⟩ ∈ lw_tbl) (hunh : Cond.unhidden "java/util/ArrayList" "getClass" "()Ljava/lang/Class;" ∈ lw_tbl) (hcast : Cond.castable "java/util/ArrayList" "java/util/Collection" ∈ lw_tbl)
    (hr : isO T r 10 = true) (hrs : (rest.map fun v => v.category).sum ≤ 8) (hD : 1 ≤ Y.2.1.frames ∧ 64 ≤ Y.2.1.locals) (kk : Xr G Y (pc + 5) L (va_rf (some (gM G 0)) :: rest) T) : Xr G Y pc L (va_rf r :: rest) T := by
  obtain ⟨a, w, fs, rfl, ha⟩ := isO_ok hr
  intro p l e s m args below meth c H locs ls hc hd hl
  have K := kk p l e s m args below meth c H locs ls hc hd hl
  obtain ⟨-, hx, hb, -, -, hml, hown1, -, hts, hK, -⟩ := hc
  obtain ⟨c0, k0, h1, h2, h3⟩ := hK.2.2.2.2.2.2.1 0 _ rfl
  obtain ⟨cell, g1, g2, g3⟩ := xobj hK (r := (RJ2, TJ2, 3)) rfl (hd.2.1 a _ (ol_some ha))
  have g4 : c0 = cell.cls := Option.some.inj (h1.symm.trans g3)
  have ex : ∀ w ∈ lw_tbl, xExt w = true → w.onTables = true → w.before args s = true := fun w hw he ho => va_Nw.use ho (hK.2.2.1 w hw he)
  have hfc : (Cond.interfaceMethod "java/util/Collection" "java/lang/Object" "getClass" "()Ljava/lang/Class;").before args s = true := ex _ hface rfl rfl
  have hsel : (Cond.selects "java/util/ArrayList" ⟨"java/util/Collection", "getClass", "()Ljava/lang/Class;"⟩ Jvm.Stand.gcN).before args s = true := by
    obtain ⟨c2, r2, m2, q1, q2, q3, q4, kP, hkP, hkPi⟩ := Cond.selects_spec (hts _ hs)
    obtain ⟨cL, kL, r1, hcL, hkL, hiL, hfoundL, hn1⟩ := Cond.interfaceMethod_spec hfc
    have e1 : r2 = m2 := Option.some.inj (q2.symm.trans (State.methodFound?_of_named q3 (by decide)))
    have e2 : r1 = m2 := Option.some.inj (hn1.symm.trans q3)
    subst e1
    subst e2
    have q3' : s.methodNamed? Jvm.Stand.gcN = some r1 := q3
    simp only [Cond.before, Cond.holds, Cond.value, q1, hfoundL, q3', q4, hkP]
    simp; exact hkPi
  intro U hU X
  obtain ⟨vm', X', st⟩ := X.getClassOfI hx (C := "java/util/ArrayList") (xi := ⟨"java/util/Collection", "getClass", "()Ljava/lang/Class;"⟩) hown1 (hts _ hlk) (ex _ hdecl rfl rfl) hfc hsel (hts _ hi) (ex _ hpub rfl rfl) (ex _ hunh rfl rfl) (ex _ hcast rfl rfl) (hts _ hn) (by decide) (by decide) rfl rfl h1 h2 ⟨cell, by rw [hU]; exact g1, g4.symm, g2⟩ h3 (g := F0 m pc ls (.ref a :: rest)) rfl (by rw [hml]; exact hl.1) rfl (by rw [hb]; exact d) hD.1 (by show 2 * 0 + _ + _ ≤ _; have hw : nativeFrameWords "java/lang/Object" "getClass" 1 = 3 := (by decide); omega)
  obtain ⟨t, a1, b1⟩ := K (U.setVm vm') hU X'
  exact ⟨t, st t a1, b1⟩
theorem C.newR {index : Nat} {n : Int32} {E : String} (d : decode Y.1.2.1 pc = .ok (.anewarray index, 3)) (hlk : Cond.classLink Y.1.1.cls index E ∈ lw_all) (hov : Cond.arrayOver (.object E) ∈ lw_tbl) (htm : FieldType.object E ∈ xTys) (hn : ¬ (n < 0 ∨ 100000000 ≤ n.toNatClampNeg)) (hle : xle (nR T E n.toNatClampNeg) Y.2.2.2.2) (kk : Xr G Y (pc + 3) L (va_rf (some T.2.1) :: rest) (nR T E n.toNatClampNeg)) : Xr G Y pc L (.int n :: rest) T := by
  intro p l e s m args below meth c H locs ls hc hd hl
  have hc' := hc
  obtain ⟨-, hx, hb, -, -, -, hown, hname, hts, hK, -, hsz0, hgb, -⟩ := hc
  obtain ⟨hsz, hrep, hS9, hd1, hd2, hdm, hd3⟩ := hd
  obtain ⟨h, N, Z⟩ := T
  have hsz' : H.size = N := hsz
  have h1 : ¬ n < 0 := fun q => hn (Or.inl q)
  have h2 : n.toNatClampNeg < 100000000 := Nat.not_le.mp fun q => hn (Or.inr q)
  have r1 := hle.1; have r2 := hle.2; have r3 := hd3.1; have r4 := hd3.2; have r5 := hd1.1; have r6 := hd1.2
  unfold nR at r1 r2
  dsimp only at r1 r2 r5 r6
  refine W.anew hx hb hown (hts _ hlk) (va_AO.use (hK.2.2.1 _ hov rfl)) rfl d rfl h1 (by omega) (by dsimp only; omega) (by dsimp only; omega) fun cA kA comp f1 f2 f3 f4 => ?_
  generalize hH1 : H.push ({ cls := cA, slots := Array.replicate n.toNatClampNeg .null, vm := .none } : Cell) = H1
  have z1 : H1.size = N + 1 := by rw [← hH1, Array.size_push, hsz']
  have e1 : H1[N]? = some (arrV cA n.toNatClampNeg (fun _ => .null)) := by rw [← hH1, ← hsz', Array.getElem?_push_size, ← arrV_new]
  have o1 : ∀ q : Nat, q < N → H1[q]? = H[q]? := fun q hq => by rw [← hH1, Array.getElem?_push, if_neg (by omega)]
  have hcA : cA = gA G (.object E) := by
    obtain ⟨-, -, -, -, -, h4⟩ := (hK.2.1 _ htm).2
    exact Option.some.inj (f1.symm.trans h4)
  have e9 : (N + 1) - Y.2.2.1.2.1 = (N - Y.2.2.1.2.1) + 1 := by omega
  have e8 : (Z + n.toNatClampNeg) - Y.2.2.1.2.2 = (Z - Y.2.2.1.2.2) + n.toNatClampNeg := by omega
  have K := kk p l e s m args below meth c H1 locs ls hc' ⟨z1, xrep_new hrep o1 hsz' ?_, xS_new hS9 (by rw [hsz']; exact z1) (by rw [hsz']; exact o1), xle.tr hd1 ⟨by show N ≤ N + 1; omega, by show Z ≤ Z + _; omega⟩, hle, xdm_new hdm r5, hd3⟩ hl
  · have K' : W p l e Y.2.1 s m args below meth c H1 locs ((N + 1) - Y.2.2.1.2.1) ((Z + n.toNatClampNeg) - Y.2.2.1.2.2) (xZ G Y below args s) (F0 m (pc + 3) ls (.ref N :: rest)) := K
    rw [e9, e8] at K'
    have e7 : H.size = N := hsz'
    rw [e7]
    exact K'
  · refine ⟨?_, by omega, htm⟩
    rw [← hcA]
    exact e1
/-- a reference put into an array of references -/
def stR (T : xF) (r : Option Nat) (i : Int32) (v : Option Nat) : Option xF := match r with
  | none => none
  | some a => match T.1 a with
    | some (true, .inl (t, n, .inr (.inr (.inr (.inr f))))) => if inb i n = true ∧ asg T t v = true then some (xset T.1 a (true, .inl (t, n, .inr (.inr (.inr (.inr (va_up f i.toNatClampNeg v)))))), T.2) else none
    | _ => none
theorem stR_ok {r v : Option Nat} {i : Int32} (h : stR T r i v = some T') : ∃ a t n f, r = some a ∧ T.1 a = some (true, .inl (t, n, .inr (.inr (.inr (.inr f))))) ∧ vp_in i n ∧ asg T t v = true ∧ T' = (xset T.1 a (true, .inl (t, n, .inr (.inr (.inr (.inr (va_up f i.toNatClampNeg v)))))), T.2) := by
  unfold stR at h
  cases r with
  | none => cases h
  | some a =>
    dsimp only at h
    split at h
    · next t n f e =>
      obtain ⟨⟨h1, h3⟩, h2⟩ := if_y h
      cases h2
      exact ⟨a, t, n, f, rfl, e, inb_ok h1, h3, rfl⟩
    · cases h
/-- what may be put: its cell, its class may be cast -/
theorem asg_some {s : State} {H : Heap} {t : FieldType} {b : Nat} (hK : xK G s) (hrep : ∀ (a : Nat) (c : Bool × xC), ol (gR G) T.1 a = some c → xat G s a c H) (h : asg T t (some b) = true) : ∃ E, t = .object E ∧ ∃ cv : Cell, H[b]? = some cv ∧ cv.vm.isStatics = false ∧ ∀ comp : ClassId, s.vm.findClass E = some comp → s.vm.assignable cv.cls comp = true := by
  unfold asg at h
  dsimp only at h
  split at h
  · next E =>
    refine ⟨E, rfl, ?_⟩
    split at h
    · next w ci fs e =>
      split at h
      · next r hr =>
        obtain ⟨cell, g1, g2, g3⟩ := xobj hK hr (hrep b _ (ol_some e))
        refine ⟨cell, g1, g2, fun comp hc => ?_⟩
        rw [Bool.or_eq_true] at h
        rcases h with h | h
        · have e9 := of_decide_eq_true h
          rw [e9] at g3
          cases hc.symm.trans g3
          exact va_asg _ _
        · exact vb_asgC (hK.2.2.1 _ (of_decide_eq_true h) rfl) comp _ hc g3
      · cases h
    · next ta A e =>
      rw [Bool.and_eq_true] at h
      obtain ⟨h1, h2, h3⟩ := hrep b _ (ol_some e)
      rw [xval_cell] at h1
      refine ⟨_, h1, rfl, fun comp hc => ?_⟩
      have hfc : s.vm.findClass ("[" ++ ta.toString) = some (gA G ta) := by
        have h9 := (hK.2.1 ta h3).2
        cases ta with
        | object C => exact h9.choose_spec.choose_spec.2.2.2
        | _ => exact h9
      exact vb_asgC (hK.2.2.1 _ (of_decide_eq_true h.2) rfl) comp _ hc hfc
    · cases h
  · cases h
theorem C.aast {r v : Option Nat} {i : Int32} (d : decode Y.1.2.1 pc = .ok (.aastore, 1)) (h : stR T r i v = some T') (kk : Xr G Y (pc + 1) L rest T') : Xr G Y pc L (va_rf v :: .int i :: va_rf r :: rest) T := by
  obtain ⟨a, t, n, f, rfl, ha, hin, has, rfl⟩ := stR_ok h
  intro p l e s m args below meth c H locs ls hc hd hl
  have hc' := hc
  obtain ⟨-, hx, hb, -, -, -, -, -, -, hK, -⟩ := hc
  obtain ⟨hsz, hrep, hS9, hd1, hd2, hdm, hd3⟩ := hd
  obtain ⟨h1, hga, hty⟩ := hrep a _ (ol_some ha)
  have hlt : i.toNatClampNeg < n := xin_lt hin
  have h0 : ¬ i < 0 := fun q => hin (Or.inl q)
  have fin : ∀ (H1 : Heap) (x : Value), x = va_rf v → H1[a]? = some ((vp_cell (gA G t) (n, .inr (.inr (.inr (.inr f))))).setSlot i.toNatClampNeg x) → H1.size = H.size → (∀ q, q ≠ a → H1[q]? = H[q]?) → W p l e Y.2.1 s m args below meth c H1 (locs ++ [⟨a, i.toNatClampNeg⟩]) (T.2.1 - Y.2.2.1.2.1) (T.2.2 - Y.2.2.1.2.2) (xZ G Y below args s) (F0 m (pc + 1) ls rest) := by
    intro H1 x hxv e1 z oq
    subst hxv
    refine kk p l _ s m args below meth c H1 _ ls hc' ⟨z.trans hsz, xrep_put hrep oq ?_, hS9.put z oq hga, hd1, hd2, xdm_put hdm ha, hd3⟩ hl
    refine ⟨?_, hga, hty⟩
    rw [e1, vp_cell_q, vp_cell_q, arrV_store]
    congr 2
    funext q
    by_cases hq : q = i.toNatClampNeg
    · subst hq
      simp [updV, va_up]
    · simp [updV, va_up, hq]
  cases v with
  | none =>
    have ht : ∃ C, t = .object C := by
      unfold asg at has
      dsimp only at has
      split at has
      · next C => exact ⟨C, rfl⟩
      · cases has
    obtain ⟨C, rfl⟩ := ht
    exact va_WaastN (C := C) hx hb h1 ((hK.2.1 _ hty).1 n (fun j => va_rf (f j))) (fun q => by cases q) (by show ¬ (i < 0 ∨ (arrV _ _ _).slots.size ≤ _); rw [arrV_size]; exact hin) rfl rfl d fun H1 e1 z oq => fin H1 _ rfl e1 z oq
  | some b =>
    obtain ⟨E, rfl, cv, g1, g2, g3⟩ := asg_some hK hrep has
    obtain ⟨kA, comp, k1, k2, k3, -⟩ := (hK.2.1 _ hty).2
    obtain ⟨kE, hkE, -⟩ := Vm.findClass_spec k3
    have hasg := g3 comp k3
    have hkv : ∃ kv : Class, s.vm.classes[cv.cls]? = some kv := by
      cases hq : s.vm.classes[cv.cls]? with
      | some kv => exact ⟨kv, rfl⟩
      | none =>
        simp [Vm.assignable, Vm.assignableAux, hq] at hasg
        rw [hasg, hkE] at hq
        cases hq
    obtain ⟨kv, hkv⟩ := hkv
    exact W.aast hx hb h1 (fun q h => by cases h) (fun h => by cases h) k1 k2 rfl hkE ⟨h0, by show _ < (arrV _ _ _).slots.size; rw [arrV_size]; exact hlt⟩ g1 (fun q h => by rw [h] at g2; cases g2) hkv hasg rfl rfl d fun H1 e1 z oq => fin H1 _ rfl e1 z oq
/-- System.arraycopy of bytes -/
def cpB (T : xF) (s : Option Nat) (sp : Int32) (r : Option Nat) (dp n : Int32) : Option xF := (aA T s .byte).bind fun q => match r with
  | none => none
  | some a => match T.1 a with
    | some (true, .inl (.byte, n1, .inl g)) => if (¬ sp < 0 ∧ ¬ dp < 0 ∧ ¬ n < 0) ∧ sp.toNatClampNeg + n.toNatClampNeg ≤ q.1 ∧ dp.toNatClampNeg + n.toNatClampNeg ≤ n1 ∧ (List.range n.toNatClampNeg).all (fun i => fits .byte (.int (q.2 (sp.toNatClampNeg + i)))) = true then some (xset T.1 a (true, .inl (.byte, n1, .inl (va_cpy q.2 g sp.toNatClampNeg dp.toNatClampNeg n.toNatClampNeg))), T.2) else none
    | _ => none
/-- System.arraycopy of references into an array of Objects -/
def cpR (T : xF) (s : Option Nat) (sp : Int32) (r : Option Nat) (dp n : Int32) : Option xF := (aR T s).bind fun q => match r with
  | none => none
  | some a => match T.1 a with
    | some (true, .inl (.object E, n1, .inr (.inr (.inr (.inr g))))) => if (¬ sp < 0 ∧ ¬ dp < 0 ∧ ¬ n < 0) ∧ (sp.toNatClampNeg + n.toNatClampNeg ≤ q.2.1 ∧ dp.toNatClampNeg + n.toNatClampNeg ≤ n1) ∧ (List.range n.toNatClampNeg).all (fun i => asg T (.object E) (q.2.2 (sp.toNatClampNeg + i))) = true then some (xset T.1 a (true, .inl (.object E, n1, .inr (.inr (.inr (.inr (va_cpy q.2.2 g sp.toNatClampNeg dp.toNatClampNeg n.toNatClampNeg)))))), T.2) else none
    | _ => none
theorem cpB_ok {s r : Option Nat} {sp dp n : Int32} (h : cpB T s sp r dp n = some T') : ∃ a0 w0 n0 f a n1 g, s = some a0 ∧ T.1 a0 = some (w0, .inl (.byte, n0, .inl f)) ∧ r = some a ∧ T.1 a = some (true, .inl (.byte, n1, .inl g)) ∧ ((¬ sp < 0 ∧ ¬ dp < 0 ∧ ¬ n < 0) ∧ sp.toNatClampNeg + n.toNatClampNeg ≤ n0 ∧ dp.toNatClampNeg + n.toNatClampNeg ≤ n1 ∧ ∀ i, i < n.toNatClampNeg → fits .byte (.int (f (sp.toNatClampNeg + i))) = true) ∧ T' = (xset T.1 a (true, .inl (.byte, n1, .inl (va_cpy f g sp.toNatClampNeg dp.toNatClampNeg n.toNatClampNeg))), T.2) := by
  obtain ⟨q, h1, h2⟩ := ob h
  obtain ⟨a0, w0, rfl, h3⟩ := aA_ok h1
  cases r with
  | none => cases h2
  | some a =>
    dsimp only at h2
    split at h2
    · next n1 g e =>
      obtain ⟨⟨h4, h6, h7, h8⟩, h5⟩ := if_y h2
      cases h5
      exact ⟨a0, w0, q.1, q.2, a, n1, g, rfl, h3, rfl, e, ⟨h4, h6, h7, fun i hi => List.all_eq_true.mp h8 i (List.mem_range.mpr hi)⟩, rfl⟩
    · cases h2
theorem cpR_ok {s r : Option Nat} {sp dp n : Int32} (h : cpR T s sp r dp n = some T') : ∃ a0 w0 t0 n0 f a n1 g E, s = some a0 ∧ (T.1 a0 = some (w0, .inl (t0, n0, .inr (.inr (.inr (.inr f))))) ∧ t0.isReference = true) ∧ r = some a ∧ T.1 a = some (true, .inl (.object E, n1, .inr (.inr (.inr (.inr g))))) ∧ ((¬ sp < 0 ∧ ¬ dp < 0 ∧ ¬ n < 0) ∧ (sp.toNatClampNeg + n.toNatClampNeg ≤ n0 ∧ dp.toNatClampNeg + n.toNatClampNeg ≤ n1) ∧ ∀ i, i < n.toNatClampNeg → asg T (.object E) (f (sp.toNatClampNeg + i)) = true) ∧ T' = (xset T.1 a (true, .inl (.object E, n1, .inr (.inr (.inr (.inr (va_cpy f g sp.toNatClampNeg dp.toNatClampNeg n.toNatClampNeg)))))), T.2) := by
  obtain ⟨q, h1, h2⟩ := ob h
  obtain ⟨a0, w0, rfl, h3, h9⟩ := aR_ok h1
  cases r with
  | none => cases h2
  | some a =>
    dsimp only at h2
    split at h2
    · next E n1 g e =>
      obtain ⟨⟨h4, h6, h7⟩, h5⟩ := if_y h2
      cases h5
      exact ⟨a0, w0, q.1, q.2.1, q.2.2, a, n1, g, E, rfl, ⟨h3, h9⟩, rfl, e, ⟨h4, h6, fun i hi => List.all_eq_true.mp h7 i (List.mem_range.mpr hi)⟩, rfl⟩
    · cases h2
theorem nnz (z : Int32) (hz : ¬ z < 0) : z.toInt = (z.toNatClampNeg : Int) := by
  have hz0 : (0 : Int) ≤ z.toInt := by
    have := Int32.not_lt.mp hz
    simpa using Int32.le_iff_toInt_le.mp this
  show z.toInt = ((z.toInt.toNat : Nat) : Int)
  omega
theorem nsz {cell : Cell} {n : Nat} {m : Int} (h : n ≤ cell.slots.size) (hm : m ≤ n) : ¬ m > cell.slots.size := by omega
theorem cpX {index : Nat} {sp dp n : Int32} {a0 a : Nat} {H' : Cell} {p : Program} {l : Launch} {e : Env} {s : State} {m : MethodId} {args : Array Value} {below : List Frame} {meth : Method} {c : Code} {H : Heap} {locs : List Loc} {ls : Array Slot} {Q : State → Prop} {cells slots n0 n1 : Nat} {R : Room} {own : String} (hx : p.tables.exec = Jvm.exec) (hml : c.maxLocals = ls.size) (hown : s.vm.findClass own = some m.cls) (hlink : (Cond.methodLink own index arraycopyName).before args s = true) (hnat : (Cond.native arraycopyName).before args s = true) (hstat : (Cond.static arraycopyName).before args s = true) (hini : (Cond.initialized "java/lang/System").before args s = true)
    {cs cd : Cell} {sType dType : FieldType} (hcs : H[a0]? = some cs) (hcd : H[a]? = some cd) (has : s.isArrayOf cs sType) (hks9 : cs.vm ≠ .unknown) {kd : Class} {dComp : ClassId} (hkd : s.vm.classes[cd.cls]? = some kd) (hkk : kd.kind = .array dComp dType) (hdv : cd.vm = .none) (hty : ((refKind sType != refKind dType) || (!refKind sType && sType != dType)) = false)
    (h1 : ¬ sp < 0) (h2 : ¬ dp < 0) (h3 : ¬ n < 0) (h4 : sp.toNatClampNeg + n.toNatClampNeg ≤ n0) (h5 : dp.toNatClampNeg + n.toNatClampNeg ≤ n1) (hn0 : n0 ≤ cs.slots.size) (hn1 : n1 ≤ cd.slots.size)
    (hvals : ∀ vm', s.vm.Alike vm' → ∀ T : State, T.heap = H → ∀ i, i < n.toNatClampNeg → fits dType (cs.slots.getD (sp.toNatClampNeg + i) .null) = true ∧ (T.setVm vm').takes dComp (cs.slots.getD (sp.toNatClampNeg + i) .null))
    (hf : 1 ≤ R.frames) (hlo : (rest.map fun v => v.category).sum + (nativeFrameWords "java/lang/System" "arraycopy" 5 + 11) ≤ R.locals) (hd : decode c.code pc = .ok (.invokestatic index, 3)) (hnew : copied cs cd sp dp n = H')
    (kk : ∀ (H1 : Heap) (L1 : List Loc), H1[a]? = some H' → H1.size = H.size → (∀ q, q ≠ a → H1[q]? = H[q]?) → (∀ z ∈ L1, z.base = a) → W p l e R s m args below meth c H1 (locs ++ L1) cells slots Q (F0 m (pc + 3) ls rest)) : W p l e R s m args below meth c H locs cells slots Q (F0 m pc ls (.int n :: .int dp :: .ref a :: .int sp :: .ref a0 :: rest)) := by
  intro T hT X
  obtain ⟨q1, ks, hks, sc, hsk⟩ := has
  obtain ⟨vm', X', step⟩ := X.arraycopy hx hown hlink hnat hstat hini (src := a0) (dst := a) (cs := cs) (cd := cd) (srcPos := sp) (destPos := dp) (n := n) (by rw [hT]; exact hcs) (by rw [hT]; exact hcd) q1 (fun _ h => by rw [hdv] at h; cases h) hks9 (fun h => by rw [hdv] at h; cases h) hks hkd hsk hkk hty h1 h2 h3
    (nsz hn0 (by rw [nnz sp h1, nnz n h3]; omega)) (nsz hn1 (by rw [nnz dp h2, nnz n h3]; omega)) (fun vm₁ hal i hi => hvals vm₁ hal T hT i hi)
    (g := F0 m pc ls (.int n :: .int dp :: .ref a :: .int sp :: .ref a0 :: rest)) rfl (by rw [hml]) (rest := rest) rfl hd hf (by show 2 * 0 + _ + _ ≤ _; omega)
  rw [hnew] at X' step
  have hl : a < H.size := (Array.getElem?_eq_some_iff.mp hcd).1
  have hheap : ((T.setVm vm').setCell a H').heap = H.setIfInBounds a H' := by rw [← hT]; rfl
  obtain ⟨t, a1, b1⟩ := kk (H.setIfInBounds a H') _ (by simp [Array.getElem?_setIfInBounds, hl]) (by simp) (fun q hq => by simp [Array.getElem?_setIfInBounds, Ne.symm hq]) (fun z hz => by
    obtain ⟨z9, -, hz9⟩ := List.mem_map.mp hz
    rw [← hz9]) _ hheap X'
  exact ⟨t, step t a1, b1⟩
theorem xS_many {A : Nat → Prop} {H0 H H1 : Heap} {locs L1 : List Loc} {a : Nat} (h : va_S A H0 H locs) (z : H1.size = H.size) (oq : ∀ q : Nat, q ≠ a → H1[q]? = H[q]?) (ha : A a) (hL : ∀ z ∈ L1, z.base = a) : va_S A H0 H1 (locs ++ L1) := by
  refine ⟨by rw [z]; exact h.1, fun q h1 h2 => ?_, fun q hq => ?_⟩
  · rw [oq q (fun e => h2 (by rw [e]; exact ha))]
    exact h.2.1 q h1 h2
  · rcases List.mem_append.mp hq with h1 | h1
    · exact h.2.2 q h1
    · rw [hL q h1]
      exact ha
theorem cpcell {cs : Cell} {c1 : ClassId} {n0 n1 : Nat} {A B : vp_A} {sp dp n : Int32} (hc : ∀ j, j < n0 → cs.slots[j]? = some (xval A j)) (h4 : sp.toNatClampNeg + n.toNatClampNeg ≤ n0) : copied cs (arrV c1 n1 (xval B)) sp dp n = arrV c1 n1 (fun j => (va_cpy (xval A) (xval B) sp.toNatClampNeg dp.toNatClampNeg n.toNatClampNeg) j) :=
  va_copiedX (fun z => z) cs c1 (xval A) (xval B) hc h4
theorem natw : nativeFrameWords "java/lang/System" "arraycopy" 5 + 11 ≤ 48 := by decide
theorem cplo {a b : Nat} (h : a ≤ 8) (h2 : 64 ≤ b) : a + (nativeFrameWords "java/lang/System" "arraycopy" 5 + 11) ≤ b := by
  have := natw
  omega
theorem C.cpB {index : Nat} {s r : Option Nat} {sp dp n : Int32} (d : decode Y.1.2.1 pc = .ok (.invokestatic index, 3)) (hlk : Cond.methodLink Y.1.1.cls index arraycopyName ∈ lw_all) (hw1 : Cond.native arraycopyName ∈ lw_all) (hw2 : Cond.static arraycopyName ∈ lw_all) (hw3 : Cond.initialized "java/lang/System" ∈ lw_all) (h : cpB T s sp r dp n = some T') (hrs : (rest.map fun v => v.category).sum ≤ 8) (hD : 1 ≤ Y.2.1.frames ∧ 64 ≤ Y.2.1.locals) (kk : Xr G Y (pc + 3) L rest T') : Xr G Y pc L (.int n :: .int dp :: va_rf r :: .int sp :: va_rf s :: rest) T := by
  obtain ⟨a0, w0, n0, f, a, n1, g, rfl, e0, rfl, e1, ⟨⟨g1, g2, g3⟩, g4, g5, g6⟩, rfl⟩ := cpB_ok h
  intro p l e st m args below meth c H locs ls hc hd hl
  have hc' := hc
  obtain ⟨-, hx, hb, -, -, hml, hown, -, hts, hK, -⟩ := hc
  obtain ⟨hsz, hrep, hS9, hd1, hd2, hdm, hd3⟩ := hd
  obtain ⟨cs, c1, c2, c3, c4, c5, c6⟩ := xarr hK (hrep a0 _ (ol_some e0))
  obtain ⟨h1, hga, hty⟩ := hrep a _ (ol_some e1)
  rw [xval_cell] at h1
  obtain ⟨-, kd, hkd, dc, hkk⟩ := (hK.2.1 _ hty).1 n1 (xval (n1, .inl g))
  refine cpX (n0 := n0) (n1 := n1) hx (hml.trans hl.1.symm) hown (hts _ hlk) (hts _ hw1) (hts _ hw2) (hts _ hw3) c1 h1 c2 c3 hkd hkk rfl rfl g1 g2 g3 g4 g5 c4 (by rw [arrV_size]; exact Nat.le_refl _) (fun vm' hal T9 hT9 i hi => ?_) hD.1 (cplo hrs hD.2) (by rw [hb]; exact d) (cpcell (A := (n0, .inl f)) (B := (n1, .inl g)) c6 g4) fun H1 L1 e2 z oq hL => ?_
  · have e9 : cs.slots.getD (sp.toNatClampNeg + i) .null = .int (f (sp.toNatClampNeg + i)) := by
      rw [Array.getD_eq_getD_getElem?, c6 _ (by show _ < n0; omega)]
      rfl
    rw [e9]
    exact ⟨g6 i hi, trivial⟩
  · refine kk p l e st m args below meth c H1 _ ls hc' ⟨z.trans hsz, xrep_put hrep oq ⟨?_, hga, hty⟩, xS_many hS9 z oq hga hL, hd1, hd2, xdm_put hdm e1, hd3⟩ hl
    rw [e2, vp_cell_i]
    congr 2
    funext j
    unfold va_cpy
    split <;> rfl
theorem C.cpR {index : Nat} {s r : Option Nat} {sp dp n : Int32} (d : decode Y.1.2.1 pc = .ok (.invokestatic index, 3)) (hlk : Cond.methodLink Y.1.1.cls index arraycopyName ∈ lw_all) (hw1 : Cond.native arraycopyName ∈ lw_all) (hw2 : Cond.static arraycopyName ∈ lw_all) (hw3 : Cond.initialized "java/lang/System" ∈ lw_all) (h : cpR T s sp r dp n = some T') (hrs : (rest.map fun v => v.category).sum ≤ 8) (hD : 1 ≤ Y.2.1.frames ∧ 64 ≤ Y.2.1.locals) (kk : Xr G Y (pc + 3) L rest T') : Xr G Y pc L (.int n :: .int dp :: va_rf r :: .int sp :: va_rf s :: rest) T := by
  obtain ⟨a0, w0, t0, n0, f, a, n1, g, E, rfl, ⟨e0, ht0⟩, rfl, e1, ⟨⟨g1, g2, g3⟩, ⟨g4, g5⟩, g6⟩, rfl⟩ := cpR_ok h
  intro p l e st m args below meth c H locs ls hc hd hl
  have hc' := hc
  obtain ⟨-, hx, hb, -, -, hml, hown, -, hts, hK, -⟩ := hc
  obtain ⟨hsz, hrep, hS9, hd1, hd2, hdm, hd3⟩ := hd
  obtain ⟨cs, c1, c2, c3, c4, c5, c6⟩ := xarr hK (hrep a0 _ (ol_some e0))
  obtain ⟨h1, hga, hty⟩ := hrep a _ (ol_some e1)
  rw [xval_cell] at h1
  obtain ⟨kA, dc, k1, k2, k3, -⟩ := (hK.2.1 _ hty).2
  refine cpX (n0 := n0) (n1 := n1) hx (hml.trans hl.1.symm) hown (hts _ hlk) (hts _ hw1) (hts _ hw2) (hts _ hw3) c1 h1 c2 c3 k1 k2 rfl ?_ g1 g2 g3 g4 g5 c4 (by rw [arrV_size]; exact Nat.le_refl _) (fun vm' hal T9 hT9 i hi => ?_) hD.1 (cplo hrs hD.2) (by rw [hb]; exact d) (cpcell (A := (n0, .inr (.inr (.inr (.inr f))))) (B := (n1, .inr (.inr (.inr (.inr g))))) c6 g4) fun H1 L1 e2 z oq hL => ?_
  · cases t0 <;> first | rfl | exact absurd ht0 (by decide)
  · have e9 : cs.slots.getD (sp.toNatClampNeg + i) .null = va_rf (f (sp.toNatClampNeg + i)) := by
      rw [Array.getD_eq_getD_getElem?, c6 _ (by show _ < n0; omega)]
      rfl
    rw [e9]
    have hi9 := g6 i hi
    cases hy : f (sp.toNatClampNeg + i) with
    | none => exact ⟨rfl, trivial⟩
    | some y =>
      rw [hy] at hi9
      obtain ⟨E', hE, cellV, q1, q2, q3⟩ := asg_some hK hrep hi9
      cases hE
      have hasg := q3 dc k3
      obtain ⟨kE, hkE, -⟩ := Vm.findClass_spec k3
      obtain ⟨kE', hkE', -⟩ := hal.2.2 _ _ hkE
      have hkv : ∃ kv : Class, st.vm.classes[cellV.cls]? = some kv := by
        cases hq : st.vm.classes[cellV.cls]? with
        | some kv => exact ⟨kv, rfl⟩
        | none =>
          simp [Vm.assignable, Vm.assignableAux, hq] at hasg
          rw [hasg, hkE] at hq
          cases hq
      obtain ⟨kC, hkC⟩ := hkv
      obtain ⟨kC', hkC', -⟩ := hal.2.2 _ _ hkC
      refine ⟨rfl, cellV, (show T9.heap[y]? = some cellV by rw [hT9]; exact q1), (fun q h => by rw [h] at q2; cases q2), ⟨kC', hkC'⟩, ?_, ?_⟩
      · exact ⟨kE', hkE'⟩
      · show vm'.assignable _ _ = true
        rw [hal.assignable]
        exact hasg
  · refine kk p l e st m args below meth c H1 _ ls hc' ⟨z.trans hsz, xrep_put hrep oq ⟨?_, hga, hty⟩, xS_many hS9 z oq hga hL, hd1, hd2, xdm_put hdm e1, hd3⟩ hl
    rw [e2, vp_cell_q]
    congr 2
    funext j
    unfold va_cpy
    split <;> rfl
theorem outer_is (c : ClassId) (N h0 : Nat) : ∀ i : Nat, Jvm.Free.Multi.outerC c N h0 i = { cls := c, slots := (Jvm.Free.Multi.outerC c N h0 i).slots, vm := .none }
  | 0 => rfl
  | i + 1 => by
    have ih := outer_is c N h0 i
    unfold Jvm.Free.Multi.outerC
    rw [ih]
    rfl
/-- new int[n][k] -/
def nII (T : xF) (n k : Nat) : xF := (fun b => if b = T.2.1 then some (true, .inl (.array .int, n, .inr (.inr (.inr (.inr (fun j => some (T.2.1 + 1 + j))))))) else if T.2.1 < b ∧ b ≤ T.2.1 + n then some (true, .inl (.int, k, .inl (fun _ => 0))) else T.1 b, T.2.1 + 1 + n, T.2.2 + n + n * k)
theorem C.newII {index : Nat} {n k : Int32} (d : decode Y.1.2.1 pc = .ok (.multianewarray index 2, 4)) (hlk : Cond.classLink Y.1.1.cls index "[[I" ∈ lw_all) (hov : Cond.arrayOver (.array .int) ∈ lw_tbl) (hac : Cond.arrayClass .int ∈ lw_all) (hn : ¬ (n < 0 ∨ 100000000 ≤ n.toNatClampNeg)) (hk : ¬ (k < 0 ∨ 100000000 ≤ k.toNatClampNeg)) (hle : xle (nII T n.toNatClampNeg k.toNatClampNeg) Y.2.2.2.2) (kk : Xr G Y (pc + 4) L (va_rf (some T.2.1) :: rest) (nII T n.toNatClampNeg k.toNatClampNeg)) : Xr G Y pc L (.int k :: .int n :: rest) T := by
  intro p l e s m args below meth c H locs ls hc hd hl
  have hc' := hc
  obtain ⟨-, hx, hb, -, -, -, hown, hname, hts, hK, -, hsz0, hgb, -⟩ := hc
  obtain ⟨hsz, hrep, hS9, hd1, hd2, hdm, hd3⟩ := hd
  obtain ⟨h, N, Z⟩ := T
  have hsz' : H.size = N := hsz
  have h1 : ¬ n < 0 := fun q => hn (Or.inl q)
  have h2 : n.toNatClampNeg < 100000000 := Nat.not_le.mp fun q => hn (Or.inr q)
  have h3 : ¬ k < 0 := fun q => hk (Or.inl q)
  have h4 : k.toNatClampNeg < 100000000 := Nat.not_le.mp fun q => hk (Or.inr q)
  have r1 := hle.1; have r2 := hle.2; have r3 := hd3.1; have r4 := hd3.2; have r5 := hd1.1; have r6 := hd1.2
  unfold nII at r1 r2
  dsimp only at r1 r2 r5 r6
  intro T hT X
  have hby : k.toNatClampNeg * componentBytes .int ≤ 536870912 := by
    have q4 : componentBytes .int = 4 := rfl
    rw [q4]
    omega
  have hovr : ∀ A : Array Value, (Cond.arrayOver (.array .int)).before A s = true := fun A => by
    have z := hK.2.2.1 _ hov rfl
    unfold va_Nw Cond.before Cond.holds at z
    unfold Cond.before Cond.holds
    simp only [Cond.value] at z ⊢
    exact z
  obtain ⟨vm₁, cA, comp, hW, hfA, hfC, hO, hI, X', step⟩ := X.multianewarray2F hx (own := Y.1.1.cls) (index := index) (ty := .int) hown (hts _ hlk) (hovr args) (hts _ hac) (g := F0 m pc ls (.int k :: .int n :: rest)) rfl (by rw [hb]; exact d) (n := n) (k := k) (rest := rest) rfl h1 h3 (by omega) hby (by omega) rfl rfl (by dsimp only; omega) (by dsimp only; omega)
  generalize hF : Jvm.Free.Multi.fill (T.setVm vm₁) cA comp n.toNatClampNeg k.toNatClampNeg (defaultValue .int) n.toNatClampNeg = F at X' step
  have hTs : (T.setVm vm₁).heap.size = N := by show T.heap.size = N; rw [hT]; exact hsz'
  obtain ⟨f1, f2, f3, -⟩ := Jvm.Free.Multi.fill_facts (T.setVm vm₁) cA comp n.toNatClampNeg k.toNatClampNeg (defaultValue .int) n.toNatClampNeg
  rw [hF] at f1 f2
  rw [hTs] at f1 f2
  have f4 : ∀ j, j < n.toNatClampNeg → F.heap[N + 1 + j]? = some (Jvm.Free.Multi.innerC comp k.toNatClampNeg (defaultValue .int)) := fun j hj => by
    have := Jvm.Free.Multi.fill_inner (T.setVm vm₁) cA comp n.toNatClampNeg k.toNatClampNeg (defaultValue .int) n.toNatClampNeg j hj
    rw [hF, hTs] at this
    exact this
  have f5 : ∀ q, q < N → F.heap[q]? = H[q]? := fun q hq => by
    have := Jvm.Free.Multi.fill_old (T.setVm vm₁) cA comp n.toNatClampNeg k.toNatClampNeg (defaultValue .int) (a := q) (by rw [hTs]; exact hq) n.toNatClampNeg
    rw [hF] at this
    rw [this]
    show T.heap[q]? = H[q]?
    rw [hT]
  have hty1 : FieldType.array FieldType.int ∈ xTys := by decide
  have hty2 : FieldType.int ∈ xTys := by decide
  have hcA : cA = gA G (.array .int) := Option.some.inj (hfA.symm.trans (hK.2.1 _ hty1).2)
  have hcC : comp = gA G .int := Option.some.inj (hfC.symm.trans (hK.2.1 _ hty2).2)
  have e9 : (N + 1 + n.toNatClampNeg) - Y.2.2.1.2.1 = (N - Y.2.2.1.2.1) + 1 + n.toNatClampNeg := by omega
  have e8 : (Z + n.toNatClampNeg + n.toNatClampNeg * k.toNatClampNeg) - Y.2.2.1.2.2 = (Z - Y.2.2.1.2.2) + n.toNatClampNeg + n.toNatClampNeg * k.toNatClampNeg := by omega
  have K := kk p l e s m args below meth c F.heap locs ls hc' ⟨(by rw [f1]; rfl), ?_, ?_, xle.tr hd1 ⟨by show N ≤ N + 1 + _; omega, by show Z ≤ Z + _ + _; omega⟩, hle, ?_, hd3⟩ hl
  · have K' : W p l e Y.2.1 s m args below meth c F.heap locs ((N + 1 + n.toNatClampNeg) - Y.2.2.1.2.1) ((Z + n.toNatClampNeg + n.toNatClampNeg * k.toNatClampNeg) - Y.2.2.1.2.2) (xZ G Y below args s) (F0 m (pc + 4) ls (.ref N :: rest)) := K
    rw [e9, e8] at K'
    obtain ⟨t, a1, b1⟩ := K' F rfl X'
    have hTs2 : T.heap.size = N := by rw [hT]; exact hsz'
    rw [hTs2] at step
    exact ⟨t, step t a1, b1⟩
  · intro a cc ha
    unfold ol nII at ha
    dsimp only at ha
    by_cases q1 : a = N
    · subst q1
      rw [if_pos rfl] at ha
      cases ha
      refine ⟨?_, by omega, hty1⟩
      rw [f2, vp_cell_q, ← hcA]
      congr 1
      obtain ⟨o1, o2, o3⟩ := Jvm.Free.Multi.outerC_facts cA n.toNatClampNeg a n.toNatClampNeg
      have hs : (Jvm.Free.Multi.outerC cA n.toNatClampNeg a n.toNatClampNeg).slots = (arrV cA n.toNatClampNeg (fun j => va_rf (some (a + 1 + j)))).slots := by
        apply Array.ext_getElem?
        intro j
        by_cases hj : j < n.toNatClampNeg
        · rw [Jvm.Free.Multi.outerC_slot cA n.toNatClampNeg a n.toNatClampNeg j hj, arrV_read _ _ hj, if_pos hj]
          rfl
        · have z1 : (Jvm.Free.Multi.outerC cA n.toNatClampNeg a n.toNatClampNeg).slots.size ≤ j := by rw [o3]; omega
          have z2 : (arrV cA n.toNatClampNeg (fun j => va_rf (some (a + 1 + j)))).slots.size ≤ j := by rw [arrV_size]; omega
          rw [Array.getElem?_eq_none z1, Array.getElem?_eq_none z2]
      have hb9 := outer_is cA n.toNatClampNeg a n.toNatClampNeg
      rw [hs] at hb9
      exact hb9
    · rw [if_neg q1] at ha
      by_cases q2 : N < a ∧ a ≤ N + n.toNatClampNeg
      · rw [if_pos q2] at ha
        cases ha
        refine ⟨?_, by omega, hty2⟩
        have := f4 (a - N - 1) (by omega)
        rw [show N + 1 + (a - N - 1) = a by omega] at this
        rw [this, vp_cell_i, ← hcC]
        congr 1
        exact arrV_new _ _ _
      · rw [if_neg q2] at ha
        have ha' : ol (gR G) h a = some cc := ha
        exact (hrep a cc ha').kept (f5 a (by have := (hrep a cc ha').lt; omega))
  · exact ⟨Nat.le_trans hS9.1 (by rw [f1]; omega), fun q g1 g2 => (f5 q (by have := hS9.1; omega)).trans (hS9.2.1 q g1 g2), hS9.2.2⟩
  · intro b hb9
    by_cases q1 : N ≤ b
    · exact Or.inr (Nat.le_trans r5 q1)
    · refine hdm b ?_
      have hb8 : (nII (h, N, Z) n.toNatClampNeg k.toNatClampNeg).1 b ≠ none := hb9
      unfold nII at hb8
      dsimp only at hb8
      rw [if_neg (by omega), if_neg (by omega)] at hb8
      exact hb8
end C2
