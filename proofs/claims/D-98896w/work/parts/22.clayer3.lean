/-! rows of the system's methods: values of one word, stores, calls by the answer's kind -/
set_option maxRecDepth 100000
def xcv (l : List Value) : Prop := ∀ v ∈ l, v.category = 1
theorem xvN : xcv [] := fun _ h => nomatch h
theorem xvI {x : Int32} {l : List Value} (h : xcv l) : xcv (.int x :: l) := fun v hv => (List.mem_cons.mp hv).elim (fun e => by rw [e]; rfl) (h v)
theorem xvQ {r : Option Nat} {l : List Value} (h : xcv l) : xcv (va_rf r :: l) := fun v hv => (List.mem_cons.mp hv).elim (fun e => by rw [e]; exact cat1 r) (h v)
theorem xcs {l : List Value} (h : xcv l) (hn : l.length ≤ 8) : (l.map fun v => v.category).sum ≤ 8 := by
  have : ∀ l : List Value, xcv l → (l.map fun v => v.category).sum = l.length := by
    intro l
    induction l with
    | nil => intro _; rfl
    | cons a l ih =>
      intro h
      rw [List.map_cons, List.sum_cons, ih (fun v hv => h v (List.mem_cons_of_mem _ hv)), h a List.mem_cons_self, List.length_cons]
      omega
  rw [this l h]
  exact hn
def xc1 (L : List (Nat × Value)) : Prop := ∀ q ∈ L, q.2.category = 1
theorem xcN : xc1 [] := fun _ h => nomatch h
theorem xcI {k : Nat} {x : Int32} {L : List (Nat × Value)} (h : xc1 L) : xc1 ((k, .int x) :: L) := fun v hv => (List.mem_cons.mp hv).elim (fun e => by rw [e]; rfl) (h v)
theorem xcQ {k : Nat} {r : Option Nat} {L : List (Nat × Value)} (h : xc1 L) : xc1 ((k, va_rf r) :: L) := fun v hv => (List.mem_cons.mp hv).elim (fun e => by rw [e]; exact cat1 r) (h v)
theorem xcf {L : List (Nat × Value)} (h : xc1 L) (i : Nat) : L.filter (fun q => !(q.1 == i) && !(q.1 + 1 == i && q.2.category == 2)) = L.filter (fun q => !(q.1 == i)) := by
  apply List.filter_congr
  intro q hq
  rw [h q hq]
  simp
def xix : Nat → List Value → List (Nat × Value)
  | _, [] => []
  | i, v :: vs => (i, v) :: xix (i + 1) vs
theorem xix_ok : ∀ (l : List Value) (i : Nat), xcv l → lv_args i l = xix i l
  | [], _, _ => rfl
  | v :: vs, i, h => by
    have e := h v List.mem_cons_self
    show (i, v) :: lv_args (if v.category = 2 then i + 2 else i + 1) vs = (i, v) :: xix (i + 1) vs
    rw [e, if_neg (by decide), xix_ok vs (i + 1) (fun w hw => h w (List.mem_cons_of_mem _ hw))]
theorem xsl_ok : ∀ (l : List Value), xcv l → (lg_sl l).length = l.length
  | [], _ => by simp [lg_sl]
  | v :: vs, h => by
    have e := h v List.mem_cons_self
    have ih := xsl_ok vs (fun w hw => h w (List.mem_cons_of_mem _ hw))
    have e2 : lg_sl (v :: vs) = [.val v] ++ lg_sl vs := by simp [lg_sl, e]
    rw [e2, List.length_append, ih]
    simp
    omega
theorem Ct.ofc {G : xG} {M : xM} {D : Nat} {T : xF} {av : List Value} {o : xO} {T1 : xF} (hy : plainFor M.1 = true) (hh : M.2.2.2.2 = []) (hc : xcv av) (hn : av.length ≤ M.2.2.1) (h : Xr G (M, xrm D T T1, T, o, T1) 0 (xix 0 av) [] T) : Ct G M D T av o T1 :=
  Ct.ofF hy hh (by rw [xsl_ok av hc]; exact hn) (by rw [xix_ok av 0 hc]; exact h)
/-- the answer of a method that may throw -/
abbrev xE : Type := String × Nat
def xoV (r : Unit ⊕ xE) : xO := match r with
  | .inl _ => .inl none
  | .inr e => .inr e
def xoI (r : Int32 ⊕ xE) : xO := match r with
  | .inl v => .inl (some (.int v))
  | .inr e => .inr e
def xoQ (r : Option Nat ⊕ xE) : xO := match r with
  | .inl v => .inl (some (va_rf v))
  | .inr e => .inr e
section C3
variable {G : xG} {Y : xR} {pc : Nat} {L L' : List (Nat × Value)} {rest : List Value} {T T1 : xF}
theorem X.keep {st : List Value} (k : xle T Y.2.2.2.2 → Xr G Y pc L st T) : Xr G Y pc L st T := fun p l e s m args below meth c H locs ls hc hd hl => k hd.2.2.2.2.1 p l e s m args below meth c H locs ls hc hd hl
theorem C.ist_n {k : Fin 4} {i : Nat} {x : Int32} (d : decode Y.1.2.1 pc = .ok (.istore_n k, 1)) (hi : (k : Nat) = i) (hn : i < Y.1.2.2.1) (hc : xc1 L) (hL : (i, Value.int x) :: L.filter (fun q => !(q.1 == i)) = L') (kk : Xr G Y (pc + 1) L' rest T) : Xr G Y pc L (.int x :: rest) T := X.istore_n d hi hn (by rw [xcf hc]; exact hL) kk
theorem C.ist {i : Nat} {x : Int32} (d : decode Y.1.2.1 pc = .ok (.istore i, 2)) (hn : i < Y.1.2.2.1) (hc : xc1 L) (hL : (i, Value.int x) :: L.filter (fun q => !(q.1 == i)) = L') (kk : Xr G Y (pc + 2) L' rest T) : Xr G Y pc L (.int x :: rest) T := X.istore d hn (by rw [xcf hc]; exact hL) kk
theorem C.ast_n {k : Fin 4} {i : Nat} {x : Option Nat} (d : decode Y.1.2.1 pc = .ok (.astore_n k, 1)) (hi : (k : Nat) = i) (hn : i < Y.1.2.2.1) (hc : xc1 L) (hL : (i, va_rf x) :: L.filter (fun q => !(q.1 == i)) = L') (kk : Xr G Y (pc + 1) L' rest T) : Xr G Y pc L (va_rf x :: rest) T := C.astore_n d hi hn (by rw [xcf hc]; exact hL) kk
theorem C.ast {i : Nat} {x : Option Nat} (d : decode Y.1.2.1 pc = .ok (.astore i, 2)) (hn : i < Y.1.2.2.1) (hc : xc1 L) (hL : (i, va_rf x) :: L.filter (fun q => !(q.1 == i)) = L') (kk : Xr G Y (pc + 2) L' rest T) : Xr G Y pc L (va_rf x :: rest) T := C.astore d hn (by rw [xcf hc]; exact hL) kk
theorem C.iinc {i : Nat} {n : Int} {x v : Int32} (d : decode Y.1.2.1 pc = .ok (.iinc i n, 3)) (j : Nat) (hj : L[j]? = some (i, .int x)) (hv : x + Int32.ofInt n = v) (hn : i < Y.1.2.2.1) (hc : xc1 L) (hL : (i, Value.int v) :: L.filter (fun q => !(q.1 == i)) = L') (kk : Xr G Y (pc + 3) L' rest T) : Xr G Y pc L rest T := X.iinc d j hj hv hn (by rw [xcf hc]; exact hL) kk
theorem C.newE {index ci n : Nat} {Cn : String} {Tb : u_T} {ty : Nat → FieldType} {fs : List Value} (hT : T1 = nO T ci n fs) (d : decode Y.1.2.1 pc = .ok (.new index, 3)) (hcl : xCls ci Cn Tb n ty) (hlk : Cond.classLink Y.1.1.cls index Cn ∈ lw_all) (hins : Cond.instantiable Cn n ∈ lw_all) (hini : Cond.initialized Cn ∈ lw_all) (hfs : fs.length = n) (hdf : ∀ j, j < n → defaultValue (ty j) = vp_V fs j) (hle : xle T1 Y.2.2.2.2) (kk : Xr G Y (pc + 3) L (va_rf (some T.2.1) :: rest) T1) : Xr G Y pc L rest T := by
  subst hT
  exact C.new d hcl hlk hins hini hfs hdf hle kk
theorem C.newaE {atype : ArrayType} {ty : FieldType} {n : Int32} (hT : T1 = nA T ty n.toNatClampNeg) (d : decode Y.1.2.1 pc = .ok (.newarray atype, 2)) (hty : newarray.typeOf atype = ty) (htm : ty ∈ xTys) (hr : ty.isReference = false) (hw : Cond.arrayClass ty ∈ lw_all) (hd : defaultValue ty = .int 0) (hby : componentBytes ty ≤ 4) (hn : ¬ (n < 0 ∨ 100000000 ≤ n.toNatClampNeg)) (hle : xle T1 Y.2.2.2.2) (kk : Xr G Y (pc + 2) L (va_rf (some T.2.1) :: rest) T1) : Xr G Y pc L (.int n :: rest) T := by
  subst hT
  exact C.newa d hty htm hr hw hd hby hn hle kk
theorem C.newRE {index : Nat} {n : Int32} {E : String} (hT : T1 = nR T E n.toNatClampNeg) (d : decode Y.1.2.1 pc = .ok (.anewarray index, 3)) (hlk : Cond.classLink Y.1.1.cls index E ∈ lw_all) (hov : Cond.arrayOver (.object E) ∈ lw_tbl) (htm : FieldType.object E ∈ xTys) (hn : ¬ (n < 0 ∨ 100000000 ≤ n.toNatClampNeg)) (hle : xle T1 Y.2.2.2.2) (kk : Xr G Y (pc + 3) L (va_rf (some T.2.1) :: rest) T1) : Xr G Y pc L (.int n :: rest) T := by
  subst hT
  exact C.newR d hlk hov htm hn hle kk
theorem C.newIIE {index : Nat} {n k : Int32} (hT : T1 = nII T n.toNatClampNeg k.toNatClampNeg) (d : decode Y.1.2.1 pc = .ok (.multianewarray index 2, 4)) (hlk : Cond.classLink Y.1.1.cls index "[[I" ∈ lw_all) (hov : Cond.arrayOver (.array .int) ∈ lw_tbl) (hac : Cond.arrayClass .int ∈ lw_all) (hn : ¬ (n < 0 ∨ 100000000 ≤ n.toNatClampNeg)) (hk : ¬ (k < 0 ∨ 100000000 ≤ k.toNatClampNeg)) (hle : xle T1 Y.2.2.2.2) (kk : Xr G Y (pc + 4) L (va_rf (some T.2.1) :: rest) T1) : Xr G Y pc L (.int k :: .int n :: rest) T := by
  subst hT
  exact C.newII d hlk hov hac hn hk hle kk
theorem C.objI {index : Nat} {r : Option Nat} (hr : r.isSome = true) (d : decode Y.1.2.1 pc = .ok (.invokespecial index, 3)) (hlk : Cond.methodLink Y.1.1.cls index Lib.objectInit ∈ lw_all) (hq1 : Cond.instanceMethod Lib.objectInit ∈ lw_all) (hq2 : Cond.code Lib.objectInit ⟨#[0xb1]⟩ 1 none ∈ lw_all) (hrs : (rest.map fun v => v.category).sum ≤ 8) (hD : 1 ≤ Y.2.1.frames ∧ 64 ≤ Y.2.1.locals) (k : Xr G Y (pc + 3) L rest T) : Xr G Y pc L (va_rf r :: rest) T := by
  cases r with
  | none => cases hr
  | some a => exact X.objInit d hlk hq1 hq2 hrs hD k
theorem C.Vi {index n Dc : Nat} {ci : Nat} {rr : vw_C} {Yc : xM} {r : Option Nat} {As st : List Value} {v : Int32} (d : decode Y.1.2.1 pc = .ok (.invokevirtual index, 3)) (hct : Ct G Yc Dc T (va_rf r :: As) (.inl (some (.int v))) T1) (hq : xCV Y.1.1.cls index Yc n) (hr : isO T r ci = true) (hn : As.length = n) (hst : st = As.reverse ++ va_rf r :: rest) (hrs : (rest.map fun v => v.category).sum ≤ 8) (hci : xClS[ci]? = some rr) (hrc : Yc.1.cls = rr.1) (hD : Dc + 1 ≤ Y.2.1.frames ∧ 64 * Dc + 64 ≤ Y.2.1.locals) (h2 : xle T T1) (h3 : xle T1 Y.2.2.2.2) (k : Xr G Y (pc + 3) L (.int v :: rest) T1) : Xr G Y pc L st T := by
  obtain ⟨a, w, fs, rfl, h1⟩ := isO_ok hr
  exact X.callV d hct hq hn hst hrs h1 hci hrc hD h2 h3 k
theorem C.Vq {index n Dc : Nat} {ci : Nat} {rr : vw_C} {Yc : xM} {r : Option Nat} {As st : List Value} {v : Option Nat} (d : decode Y.1.2.1 pc = .ok (.invokevirtual index, 3)) (hct : Ct G Yc Dc T (va_rf r :: As) (.inl (some (va_rf v))) T1) (hq : xCV Y.1.1.cls index Yc n) (hr : isO T r ci = true) (hn : As.length = n) (hst : st = As.reverse ++ va_rf r :: rest) (hrs : (rest.map fun v => v.category).sum ≤ 8) (hci : xClS[ci]? = some rr) (hrc : Yc.1.cls = rr.1) (hD : Dc + 1 ≤ Y.2.1.frames ∧ 64 * Dc + 64 ≤ Y.2.1.locals) (h2 : xle T T1) (h3 : xle T1 Y.2.2.2.2) (k : Xr G Y (pc + 3) L (va_rf v :: rest) T1) : Xr G Y pc L st T := by
  obtain ⟨a, w, fs, rfl, h1⟩ := isO_ok hr
  exact X.callV d hct hq hn hst hrs h1 hci hrc hD h2 h3 k
theorem C.Vv {index n Dc : Nat} {ci : Nat} {rr : vw_C} {Yc : xM} {r : Option Nat} {As st : List Value} (d : decode Y.1.2.1 pc = .ok (.invokevirtual index, 3)) (hct : Ct G Yc Dc T (va_rf r :: As) (.inl none) T1) (hq : xCV Y.1.1.cls index Yc n) (hr : isO T r ci = true) (hn : As.length = n) (hst : st = As.reverse ++ va_rf r :: rest) (hrs : (rest.map fun v => v.category).sum ≤ 8) (hci : xClS[ci]? = some rr) (hrc : Yc.1.cls = rr.1) (hD : Dc + 1 ≤ Y.2.1.frames ∧ 64 * Dc + 64 ≤ Y.2.1.locals) (h2 : xle T T1) (h3 : xle T1 Y.2.2.2.2) (k : Xr G Y (pc + 3) L (rest) T1) : Xr G Y pc L st T := by
  obtain ⟨a, w, fs, rfl, h1⟩ := isO_ok hr
  exact X.callV d hct hq hn hst hrs h1 hci hrc hD h2 h3 k
theorem C.Ui {index n Dc : Nat} {ci : Nat} {rr : vw_C} {C : String} {Yc : xM} {r : Option Nat} {As st : List Value} {v : Int32} (d : decode Y.1.2.1 pc = .ok (.invokevirtual index, 3)) (hct : Ct G Yc Dc T (va_rf r :: As) (.inl (some (.int v))) T1) (hq : xCU Y.1.1.cls index C Yc n) (hr : isO T r ci = true) (hn : As.length = n) (hst : st = As.reverse ++ va_rf r :: rest) (hrs : (rest.map fun v => v.category).sum ≤ 8) (hci : xCl[ci]? = some rr) (hrc : C = rr.1) (hD : Dc + 1 ≤ Y.2.1.frames ∧ 64 * Dc + 64 ≤ Y.2.1.locals) (h2 : xle T T1) (h3 : xle T1 Y.2.2.2.2) (k : Xr G Y (pc + 3) L (.int v :: rest) T1) : Xr G Y pc L st T := by
  obtain ⟨a, w, fs, rfl, h1⟩ := isO_ok hr
  exact X.callU d hct hq hn hst hrs h1 hci hrc hD h2 h3 k
theorem C.Uq {index n Dc : Nat} {ci : Nat} {rr : vw_C} {C : String} {Yc : xM} {r : Option Nat} {As st : List Value} {v : Option Nat} (d : decode Y.1.2.1 pc = .ok (.invokevirtual index, 3)) (hct : Ct G Yc Dc T (va_rf r :: As) (.inl (some (va_rf v))) T1) (hq : xCU Y.1.1.cls index C Yc n) (hr : isO T r ci = true) (hn : As.length = n) (hst : st = As.reverse ++ va_rf r :: rest) (hrs : (rest.map fun v => v.category).sum ≤ 8) (hci : xCl[ci]? = some rr) (hrc : C = rr.1) (hD : Dc + 1 ≤ Y.2.1.frames ∧ 64 * Dc + 64 ≤ Y.2.1.locals) (h2 : xle T T1) (h3 : xle T1 Y.2.2.2.2) (k : Xr G Y (pc + 3) L (va_rf v :: rest) T1) : Xr G Y pc L st T := by
  obtain ⟨a, w, fs, rfl, h1⟩ := isO_ok hr
  exact X.callU d hct hq hn hst hrs h1 hci hrc hD h2 h3 k
theorem C.Uv {index n Dc : Nat} {ci : Nat} {rr : vw_C} {C : String} {Yc : xM} {r : Option Nat} {As st : List Value} (d : decode Y.1.2.1 pc = .ok (.invokevirtual index, 3)) (hct : Ct G Yc Dc T (va_rf r :: As) (.inl none) T1) (hq : xCU Y.1.1.cls index C Yc n) (hr : isO T r ci = true) (hn : As.length = n) (hst : st = As.reverse ++ va_rf r :: rest) (hrs : (rest.map fun v => v.category).sum ≤ 8) (hci : xCl[ci]? = some rr) (hrc : C = rr.1) (hD : Dc + 1 ≤ Y.2.1.frames ∧ 64 * Dc + 64 ≤ Y.2.1.locals) (h2 : xle T T1) (h3 : xle T1 Y.2.2.2.2) (k : Xr G Y (pc + 3) L (rest) T1) : Xr G Y pc L st T := by
  obtain ⟨a, w, fs, rfl, h1⟩ := isO_ok hr
  exact X.callU d hct hq hn hst hrs h1 hci hrc hD h2 h3 k
theorem C.SUi {index n Dc : Nat} {ci : Nat} {rr : vw_C} {C : String} {Yc : xM} {r : Option Nat} {As st : List Value} {v : Int32} (d : decode Y.1.2.1 pc = .ok (.invokespecial index, 3)) (hct : Ct G Yc Dc T (va_rf r :: As) (.inl (some (.int v))) T1) (hq : xCSU Y.1.1.cls index Yc n) (hr : isO T r ci = true) (hn : As.length = n) (hst : st = As.reverse ++ va_rf r :: rest) (hrs : (rest.map fun v => v.category).sum ≤ 8) (hci : xCl[ci]? = some rr) (hrc : C = rr.1) (hD : Dc + 1 ≤ Y.2.1.frames ∧ 64 * Dc + 64 ≤ Y.2.1.locals) (h2 : xle T T1) (h3 : xle T1 Y.2.2.2.2) (k : Xr G Y (pc + 3) L (.int v :: rest) T1) : Xr G Y pc L st T := by
  obtain ⟨a, w, fs, rfl, h1⟩ := isO_ok hr
  exact X.callSU d hct hq hn hst hrs h1 hci hrc hD h2 h3 k
theorem C.SUq {index n Dc : Nat} {ci : Nat} {rr : vw_C} {C : String} {Yc : xM} {r : Option Nat} {As st : List Value} {v : Option Nat} (d : decode Y.1.2.1 pc = .ok (.invokespecial index, 3)) (hct : Ct G Yc Dc T (va_rf r :: As) (.inl (some (va_rf v))) T1) (hq : xCSU Y.1.1.cls index Yc n) (hr : isO T r ci = true) (hn : As.length = n) (hst : st = As.reverse ++ va_rf r :: rest) (hrs : (rest.map fun v => v.category).sum ≤ 8) (hci : xCl[ci]? = some rr) (hrc : C = rr.1) (hD : Dc + 1 ≤ Y.2.1.frames ∧ 64 * Dc + 64 ≤ Y.2.1.locals) (h2 : xle T T1) (h3 : xle T1 Y.2.2.2.2) (k : Xr G Y (pc + 3) L (va_rf v :: rest) T1) : Xr G Y pc L st T := by
  obtain ⟨a, w, fs, rfl, h1⟩ := isO_ok hr
  exact X.callSU d hct hq hn hst hrs h1 hci hrc hD h2 h3 k
theorem C.SUv {index n Dc : Nat} {ci : Nat} {rr : vw_C} {C : String} {Yc : xM} {r : Option Nat} {As st : List Value} (d : decode Y.1.2.1 pc = .ok (.invokespecial index, 3)) (hct : Ct G Yc Dc T (va_rf r :: As) (.inl none) T1) (hq : xCSU Y.1.1.cls index Yc n) (hr : isO T r ci = true) (hn : As.length = n) (hst : st = As.reverse ++ va_rf r :: rest) (hrs : (rest.map fun v => v.category).sum ≤ 8) (hci : xCl[ci]? = some rr) (hrc : C = rr.1) (hD : Dc + 1 ≤ Y.2.1.frames ∧ 64 * Dc + 64 ≤ Y.2.1.locals) (h2 : xle T T1) (h3 : xle T1 Y.2.2.2.2) (k : Xr G Y (pc + 3) L (rest) T1) : Xr G Y pc L st T := by
  obtain ⟨a, w, fs, rfl, h1⟩ := isO_ok hr
  exact X.callSU d hct hq hn hst hrs h1 hci hrc hD h2 h3 k
theorem C.Fi {index n Dc : Nat} {ci cnt : Nat} {rr : vw_C} {C : String} {x : MethodName} {Yc : xM} {r : Option Nat} {As st : List Value} {v : Int32} (d : decode Y.1.2.1 pc = .ok (.invokeinterface index cnt, 5)) (hct : Ct G Yc Dc T (va_rf r :: As) (.inl (some (.int v))) T1) (hq : xCF Y.1.1.cls index C x Yc n) (hr : isO T r ci = true) (hn : As.length = n) (hst : st = As.reverse ++ va_rf r :: rest) (hrs : (rest.map fun v => v.category).sum ≤ 8) (hci : xCl[ci]? = some rr) (hrc : C = rr.1) (hD : Dc + 1 ≤ Y.2.1.frames ∧ 64 * Dc + 64 ≤ Y.2.1.locals) (h2 : xle T T1) (h3 : xle T1 Y.2.2.2.2) (k : Xr G Y (pc + 5) L (.int v :: rest) T1) : Xr G Y pc L st T := by
  obtain ⟨a, w, fs, rfl, h1⟩ := isO_ok hr
  exact X.callF d hct hq hn hst hrs h1 hci hrc hD h2 h3 k
theorem C.Fq {index n Dc : Nat} {ci cnt : Nat} {rr : vw_C} {C : String} {x : MethodName} {Yc : xM} {r : Option Nat} {As st : List Value} {v : Option Nat} (d : decode Y.1.2.1 pc = .ok (.invokeinterface index cnt, 5)) (hct : Ct G Yc Dc T (va_rf r :: As) (.inl (some (va_rf v))) T1) (hq : xCF Y.1.1.cls index C x Yc n) (hr : isO T r ci = true) (hn : As.length = n) (hst : st = As.reverse ++ va_rf r :: rest) (hrs : (rest.map fun v => v.category).sum ≤ 8) (hci : xCl[ci]? = some rr) (hrc : C = rr.1) (hD : Dc + 1 ≤ Y.2.1.frames ∧ 64 * Dc + 64 ≤ Y.2.1.locals) (h2 : xle T T1) (h3 : xle T1 Y.2.2.2.2) (k : Xr G Y (pc + 5) L (va_rf v :: rest) T1) : Xr G Y pc L st T := by
  obtain ⟨a, w, fs, rfl, h1⟩ := isO_ok hr
  exact X.callF d hct hq hn hst hrs h1 hci hrc hD h2 h3 k
theorem C.Fv {index n Dc : Nat} {ci cnt : Nat} {rr : vw_C} {C : String} {x : MethodName} {Yc : xM} {r : Option Nat} {As st : List Value} (d : decode Y.1.2.1 pc = .ok (.invokeinterface index cnt, 5)) (hct : Ct G Yc Dc T (va_rf r :: As) (.inl none) T1) (hq : xCF Y.1.1.cls index C x Yc n) (hr : isO T r ci = true) (hn : As.length = n) (hst : st = As.reverse ++ va_rf r :: rest) (hrs : (rest.map fun v => v.category).sum ≤ 8) (hci : xCl[ci]? = some rr) (hrc : C = rr.1) (hD : Dc + 1 ≤ Y.2.1.frames ∧ 64 * Dc + 64 ≤ Y.2.1.locals) (h2 : xle T T1) (h3 : xle T1 Y.2.2.2.2) (k : Xr G Y (pc + 5) L (rest) T1) : Xr G Y pc L st T := by
  obtain ⟨a, w, fs, rfl, h1⟩ := isO_ok hr
  exact X.callF d hct hq hn hst hrs h1 hci hrc hD h2 h3 k
theorem C.Si {index n Dc : Nat} {Yc : xM} {As st : List Value} {v : Int32} (d : decode Y.1.2.1 pc = .ok (.invokestatic index, 3)) (hct : Ct G Yc Dc T As (.inl (some (.int v))) T1) (hq : xCS Y.1.1.cls index Yc n) (hn : As.length = n) (hst : st = As.reverse ++ rest) (hrs : (rest.map fun v => v.category).sum ≤ 8) (hD : Dc + 1 ≤ Y.2.1.frames ∧ 64 * Dc + 64 ≤ Y.2.1.locals) (h2 : xle T T1) (h3 : xle T1 Y.2.2.2.2) (k : Xr G Y (pc + 3) L (.int v :: rest) T1) : Xr G Y pc L st T := X.callS d hct hq hn hst hrs hD h2 h3 k
theorem C.Sq {index n Dc : Nat} {Yc : xM} {As st : List Value} {v : Option Nat} (d : decode Y.1.2.1 pc = .ok (.invokestatic index, 3)) (hct : Ct G Yc Dc T As (.inl (some (va_rf v))) T1) (hq : xCS Y.1.1.cls index Yc n) (hn : As.length = n) (hst : st = As.reverse ++ rest) (hrs : (rest.map fun v => v.category).sum ≤ 8) (hD : Dc + 1 ≤ Y.2.1.frames ∧ 64 * Dc + 64 ≤ Y.2.1.locals) (h2 : xle T T1) (h3 : xle T1 Y.2.2.2.2) (k : Xr G Y (pc + 3) L (va_rf v :: rest) T1) : Xr G Y pc L st T := X.callS d hct hq hn hst hrs hD h2 h3 k
theorem C.Sv {index n Dc : Nat} {Yc : xM} {As st : List Value} (d : decode Y.1.2.1 pc = .ok (.invokestatic index, 3)) (hct : Ct G Yc Dc T As (.inl none) T1) (hq : xCS Y.1.1.cls index Yc n) (hn : As.length = n) (hst : st = As.reverse ++ rest) (hrs : (rest.map fun v => v.category).sum ≤ 8) (hD : Dc + 1 ≤ Y.2.1.frames ∧ 64 * Dc + 64 ≤ Y.2.1.locals) (h2 : xle T T1) (h3 : xle T1 Y.2.2.2.2) (k : Xr G Y (pc + 3) L (rest) T1) : Xr G Y pc L st T := X.callS d hct hq hn hst hrs hD h2 h3 k
theorem C.SNi {index n Dc : Nat} {Yc : xM} {As st : List Value} {v : Int32} (d : decode Y.1.2.1 pc = .ok (.invokestatic index, 3)) (hct : Ct G Yc Dc T As (.inl (some (.int v))) T1) (hq : xCSN Y.1.1.cls index Yc n) (hn : As.length = n) (hst : st = As.reverse ++ rest) (hrs : (rest.map fun v => v.category).sum ≤ 8) (hD : Dc + 1 ≤ Y.2.1.frames ∧ 64 * Dc + 64 ≤ Y.2.1.locals) (h2 : xle T T1) (h3 : xle T1 Y.2.2.2.2) (k : Xr G Y (pc + 3) L (.int v :: rest) T1) : Xr G Y pc L st T := X.callSN d hct hq hn hst hrs hD h2 h3 k
theorem C.SNq {index n Dc : Nat} {Yc : xM} {As st : List Value} {v : Option Nat} (d : decode Y.1.2.1 pc = .ok (.invokestatic index, 3)) (hct : Ct G Yc Dc T As (.inl (some (va_rf v))) T1) (hq : xCSN Y.1.1.cls index Yc n) (hn : As.length = n) (hst : st = As.reverse ++ rest) (hrs : (rest.map fun v => v.category).sum ≤ 8) (hD : Dc + 1 ≤ Y.2.1.frames ∧ 64 * Dc + 64 ≤ Y.2.1.locals) (h2 : xle T T1) (h3 : xle T1 Y.2.2.2.2) (k : Xr G Y (pc + 3) L (va_rf v :: rest) T1) : Xr G Y pc L st T := X.callSN d hct hq hn hst hrs hD h2 h3 k
theorem C.SNv {index n Dc : Nat} {Yc : xM} {As st : List Value} (d : decode Y.1.2.1 pc = .ok (.invokestatic index, 3)) (hct : Ct G Yc Dc T As (.inl none) T1) (hq : xCSN Y.1.1.cls index Yc n) (hn : As.length = n) (hst : st = As.reverse ++ rest) (hrs : (rest.map fun v => v.category).sum ≤ 8) (hD : Dc + 1 ≤ Y.2.1.frames ∧ 64 * Dc + 64 ≤ Y.2.1.locals) (h2 : xle T T1) (h3 : xle T1 Y.2.2.2.2) (k : Xr G Y (pc + 3) L (rest) T1) : Xr G Y pc L st T := X.callSN d hct hq hn hst hrs hD h2 h3 k
theorem C.Iv {index n Dc : Nat} {Yc : xM} {r : Option Nat} {As st : List Value} (d : decode Y.1.2.1 pc = .ok (.invokespecial index, 3)) (hct : Ct G Yc Dc T (va_rf r :: As) (.inl none) T1) (hq : xCI Y.1.1.cls index Yc n) (hr : r.isSome = true) (hn : As.length = n) (hst : st = As.reverse ++ va_rf r :: rest) (hrs : (rest.map fun v => v.category).sum ≤ 8) (hD : Dc + 1 ≤ Y.2.1.frames ∧ 64 * Dc + 64 ≤ Y.2.1.locals) (h2 : xle T T1) (h3 : xle T1 Y.2.2.2.2) (k : Xr G Y (pc + 3) L (rest) T1) : Xr G Y pc L st T := by
  cases r with
  | none => cases hr
  | some a => exact X.callI d hct hq hn hst hrs hD h2 h3 k
theorem C.INv {index n Dc : Nat} {Yc : xM} {r : Option Nat} {As st : List Value} (d : decode Y.1.2.1 pc = .ok (.invokespecial index, 3)) (hct : Ct G Yc Dc T (va_rf r :: As) (.inl none) T1) (hq : xCIN Y.1.1.cls index Yc n) (hr : r.isSome = true) (hn : As.length = n) (hst : st = As.reverse ++ va_rf r :: rest) (hrs : (rest.map fun v => v.category).sum ≤ 8) (hD : Dc + 1 ≤ Y.2.1.frames ∧ 64 * Dc + 64 ≤ Y.2.1.locals) (h2 : xle T T1) (h3 : xle T1 Y.2.2.2.2) (k : Xr G Y (pc + 3) L (rest) T1) : Xr G Y pc L st T := by
  cases r with
  | none => cases hr
  | some a => exact X.callIN d hct hq hn hst hrs hD h2 h3 k
theorem C.ldcwS {index i : Nat} {tx : String} (d : decode Y.1.2.1 pc = .ok (.ldc_w index, 3)) (hq : xStrs[i]? = some (index, tx)) (hown : Y.1.1.cls = "MouldVotes$Reader") (kk : Xr G Y (pc + 3) L (va_rf (some (gT G i)) :: rest) T) : Xr G Y pc L rest T := by
  intro p l e s m args below meth c H locs ls hc hd hl
  have K := kk p l e s m args below meth c H locs ls hc hd hl
  obtain ⟨-, hx, hb, -, -, -, hown1, -, hts, hK, -⟩ := hc
  rw [hown] at hown1
  have hZ := hK.2.2.2.2.2.1 i _ hq
  intro U hU X
  obtain ⟨t, a1, b1⟩ := K U hU X
  exact ⟨t, X.ldcStringW hx hown1 (text := tx) (a := gT G i) hZ.1 hZ.2 (g := F0 m pc ls rest) rfl (by rw [hb]; exact d) t a1, b1⟩
theorem nar_char {v : Int32} (h : vp_nar .char v = v) : narrow .char (.int v) = .int v := by
  have e : narrow .char (.int v) = .int (vp_nar .char v) := rfl
  rw [e, h]
theorem nar_byte {v : Int32} (h : vp_nar .byte v = v) : narrow .byte (.int v) = .int v := by
  have e : narrow .byte (.int v) = .int (vp_nar .byte v) := rfl
  rw [e, h]
end C3
